set_option maxRecDepth 100000
theorem dX7_thrown_0 : decode cX7_thrown 0 = .ok (.aload_n 0, 1) := by decide +kernel
theorem dX7_thrown_1 : decode cX7_thrown 1 = .ok (.getfield 1, 3) := by decide +kernel
theorem dX7_thrown_4 : decode cX7_thrown 4 = .ok (.ireturn, 1) := by decide +kernel
def dkwX7_feed_1 : List UInt8 := [180, 0, 11, 172]
abbrev dktX7_feed_1 : List UInt8 := dkwX7_feed_1 ++ []
def dkwX7_feed_0 : List UInt8 := [42, 3, 181, 0, 1, 42, 31, 182, 0, 7, 42, 33, 182, 0, 7, 42, 22, 5, 182, 0, 7, 42]
abbrev dktX7_feed_0 : List UInt8 := dkwX7_feed_0 ++ dktX7_feed_1
theorem dksX7_feed_0 : cX7_feed.data.toList.drop 0 = dktX7_feed_0 := by decide +kernel
theorem dksX7_feed_1 : cX7_feed.data.toList.drop 22 = dktX7_feed_1 := dk_seg dksX7_feed_0 22 rfl rfl
theorem dX7_feed_0 : decode cX7_feed 0 = .ok (.aload_n 0, 1) := dk_42 (dk_at dksX7_feed_0 0 rfl rfl)
theorem dX7_feed_1 : decode cX7_feed 1 = .ok (.iconst 0, 1) := dk_3 (dk_at dksX7_feed_0 1 rfl rfl)
theorem dX7_feed_2 : decode cX7_feed 2 = .ok (.putfield 1, 3) := dk_181 0 1 (dk_at dksX7_feed_0 2 rfl rfl)
theorem dX7_feed_5 : decode cX7_feed 5 = .ok (.aload_n 0, 1) := dk_42 (dk_at dksX7_feed_0 5 rfl rfl)
theorem dX7_feed_6 : decode cX7_feed 6 = .ok (.lload_n 1, 1) := dk_31 (dk_at dksX7_feed_0 6 rfl rfl)
theorem dX7_feed_7 : decode cX7_feed 7 = .ok (.invokevirtual 7, 3) := dk_182 0 7 (dk_at dksX7_feed_0 7 rfl rfl)
theorem dX7_feed_10 : decode cX7_feed 10 = .ok (.aload_n 0, 1) := dk_42 (dk_at dksX7_feed_0 10 rfl rfl)
theorem dX7_feed_11 : decode cX7_feed 11 = .ok (.lload_n 3, 1) := dk_33 (dk_at dksX7_feed_0 11 rfl rfl)
theorem dX7_feed_12 : decode cX7_feed 12 = .ok (.invokevirtual 7, 3) := dk_182 0 7 (dk_at dksX7_feed_0 12 rfl rfl)
theorem dX7_feed_15 : decode cX7_feed 15 = .ok (.aload_n 0, 1) := dk_42 (dk_at dksX7_feed_0 15 rfl rfl)
theorem dX7_feed_16 : decode cX7_feed 16 = .ok (.lload 5, 2) := dk_22 5 (dk_at dksX7_feed_0 16 rfl rfl)
theorem dX7_feed_18 : decode cX7_feed 18 = .ok (.invokevirtual 7, 3) := dk_182 0 7 (dk_at dksX7_feed_0 18 rfl rfl)
theorem dX7_feed_21 : decode cX7_feed 21 = .ok (.aload_n 0, 1) := dk_42 (dk_at dksX7_feed_0 21 rfl rfl)
theorem dX7_feed_22 : decode cX7_feed 22 = .ok (.getfield 11, 3) := dk_180 0 11 (dk_at dksX7_feed_1 0 rfl rfl)
theorem dX7_feed_25 : decode cX7_feed 25 = .ok (.ireturn, 1) := dk_172 (dk_at dksX7_feed_1 3 rfl rfl)
def dkwX7_lay_3 : List UInt8 := [167, 255, 187, 177]
abbrev dktX7_lay_3 : List UInt8 := dkwX7_lay_3 ++ []
def dkwX7_lay_2 : List UInt8 := [42, 180, 0, 14, 42, 180, 0, 11, 21, 4, 79, 42, 89, 180, 0, 11, 4, 96, 181, 0, 11, 132, 3, 248]
abbrev dktX7_lay_2 : List UInt8 := dkwX7_lay_2 ++ dktX7_lay_3
def dkwX7_lay_1 : List UInt8 := [21, 4, 16, 32, 161, 0, 41, 21, 4, 16, 126, 163, 0, 34, 42, 180, 0, 11, 17, 3, 232, 162, 0, 24]
abbrev dktX7_lay_1 : List UInt8 := dkwX7_lay_1 ++ dktX7_lay_2
def dkwX7_lay_0 : List UInt8 := [16, 56, 62, 29, 155, 0, 71, 31, 29, 123, 136, 17, 0, 255, 126, 54, 4, 21, 4, 16, 10, 159, 0, 17]
abbrev dktX7_lay_0 : List UInt8 := dkwX7_lay_0 ++ dktX7_lay_1
theorem dksX7_lay_0 : cX7_lay.data.toList.drop 0 = dktX7_lay_0 := by decide +kernel
theorem dksX7_lay_1 : cX7_lay.data.toList.drop 24 = dktX7_lay_1 := dk_seg dksX7_lay_0 24 rfl rfl
theorem dksX7_lay_2 : cX7_lay.data.toList.drop 48 = dktX7_lay_2 := dk_seg dksX7_lay_1 24 rfl rfl
theorem dksX7_lay_3 : cX7_lay.data.toList.drop 72 = dktX7_lay_3 := dk_seg dksX7_lay_2 24 rfl rfl
theorem dX7_lay_0 : decode cX7_lay 0 = .ok (.bipush 56, 2) := dk_16 56 (dk_at dksX7_lay_0 0 rfl rfl)
theorem dX7_lay_2 : decode cX7_lay 2 = .ok (.istore_n 3, 1) := dk_62 (dk_at dksX7_lay_0 2 rfl rfl)
theorem dX7_lay_3 : decode cX7_lay 3 = .ok (.iload_n 3, 1) := dk_29 (dk_at dksX7_lay_0 3 rfl rfl)
theorem dX7_lay_4 : decode cX7_lay 4 = .ok (.ifCond .lt 71, 3) := dk_155 0 71 (dk_at dksX7_lay_0 4 rfl rfl)
theorem dX7_lay_7 : decode cX7_lay 7 = .ok (.lload_n 1, 1) := dk_31 (dk_at dksX7_lay_0 7 rfl rfl)
theorem dX7_lay_8 : decode cX7_lay 8 = .ok (.iload_n 3, 1) := dk_29 (dk_at dksX7_lay_0 8 rfl rfl)
theorem dX7_lay_9 : decode cX7_lay 9 = .ok (.lshr, 1) := dk_123 (dk_at dksX7_lay_0 9 rfl rfl)
theorem dX7_lay_10 : decode cX7_lay 10 = .ok (.l2i, 1) := dk_136 (dk_at dksX7_lay_0 10 rfl rfl)
theorem dX7_lay_11 : decode cX7_lay 11 = .ok (.sipush 255, 3) := dk_17 0 255 (dk_at dksX7_lay_0 11 rfl rfl)
theorem dX7_lay_14 : decode cX7_lay 14 = .ok (.iand, 1) := dk_126 (dk_at dksX7_lay_0 14 rfl rfl)
theorem dX7_lay_15 : decode cX7_lay 15 = .ok (.istore 4, 2) := dk_54 4 (dk_at dksX7_lay_0 15 rfl rfl)
theorem dX7_lay_17 : decode cX7_lay 17 = .ok (.iload 4, 2) := dk_21 4 (dk_at dksX7_lay_0 17 rfl rfl)
theorem dX7_lay_19 : decode cX7_lay 19 = .ok (.bipush 10, 2) := dk_16 10 (dk_at dksX7_lay_0 19 rfl rfl)
theorem dX7_lay_21 : decode cX7_lay 21 = .ok (.if_icmp .eq 17, 3) := dk_159 0 17 (dk_at dksX7_lay_0 21 rfl rfl)
theorem dX7_lay_24 : decode cX7_lay 24 = .ok (.iload 4, 2) := dk_21 4 (dk_at dksX7_lay_1 0 rfl rfl)
theorem dX7_lay_26 : decode cX7_lay 26 = .ok (.bipush 32, 2) := dk_16 32 (dk_at dksX7_lay_1 2 rfl rfl)
theorem dX7_lay_28 : decode cX7_lay 28 = .ok (.if_icmp .lt 41, 3) := dk_161 0 41 (dk_at dksX7_lay_1 4 rfl rfl)
theorem dX7_lay_31 : decode cX7_lay 31 = .ok (.iload 4, 2) := dk_21 4 (dk_at dksX7_lay_1 7 rfl rfl)
theorem dX7_lay_33 : decode cX7_lay 33 = .ok (.bipush 126, 2) := dk_16 126 (dk_at dksX7_lay_1 9 rfl rfl)
theorem dX7_lay_35 : decode cX7_lay 35 = .ok (.if_icmp .gt 34, 3) := dk_163 0 34 (dk_at dksX7_lay_1 11 rfl rfl)
theorem dX7_lay_38 : decode cX7_lay 38 = .ok (.aload_n 0, 1) := dk_42 (dk_at dksX7_lay_1 14 rfl rfl)
theorem dX7_lay_39 : decode cX7_lay 39 = .ok (.getfield 11, 3) := dk_180 0 11 (dk_at dksX7_lay_1 15 rfl rfl)
theorem dX7_lay_42 : decode cX7_lay 42 = .ok (.sipush 1000, 3) := dk_17 3 232 (dk_at dksX7_lay_1 18 rfl rfl)
theorem dX7_lay_45 : decode cX7_lay 45 = .ok (.if_icmp .ge 24, 3) := dk_162 0 24 (dk_at dksX7_lay_1 21 rfl rfl)
theorem dX7_lay_48 : decode cX7_lay 48 = .ok (.aload_n 0, 1) := dk_42 (dk_at dksX7_lay_2 0 rfl rfl)
theorem dX7_lay_49 : decode cX7_lay 49 = .ok (.getfield 14, 3) := dk_180 0 14 (dk_at dksX7_lay_2 1 rfl rfl)
theorem dX7_lay_52 : decode cX7_lay 52 = .ok (.aload_n 0, 1) := dk_42 (dk_at dksX7_lay_2 4 rfl rfl)
theorem dX7_lay_53 : decode cX7_lay 53 = .ok (.getfield 11, 3) := dk_180 0 11 (dk_at dksX7_lay_2 5 rfl rfl)
theorem dX7_lay_56 : decode cX7_lay 56 = .ok (.iload 4, 2) := dk_21 4 (dk_at dksX7_lay_2 8 rfl rfl)
theorem dX7_lay_58 : decode cX7_lay 58 = .ok (.iastore, 1) := dk_79 (dk_at dksX7_lay_2 10 rfl rfl)
theorem dX7_lay_59 : decode cX7_lay 59 = .ok (.aload_n 0, 1) := dk_42 (dk_at dksX7_lay_2 11 rfl rfl)
theorem dX7_lay_60 : decode cX7_lay 60 = .ok (.dup, 1) := dk_89 (dk_at dksX7_lay_2 12 rfl rfl)
theorem dX7_lay_61 : decode cX7_lay 61 = .ok (.getfield 11, 3) := dk_180 0 11 (dk_at dksX7_lay_2 13 rfl rfl)
theorem dX7_lay_64 : decode cX7_lay 64 = .ok (.iconst 1, 1) := dk_4 (dk_at dksX7_lay_2 16 rfl rfl)
theorem dX7_lay_65 : decode cX7_lay 65 = .ok (.iadd, 1) := dk_96 (dk_at dksX7_lay_2 17 rfl rfl)
theorem dX7_lay_66 : decode cX7_lay 66 = .ok (.putfield 11, 3) := dk_181 0 11 (dk_at dksX7_lay_2 18 rfl rfl)
theorem dX7_lay_69 : decode cX7_lay 69 = .ok (.iinc 3 (-8), 3) := dk_132 3 248 (dk_at dksX7_lay_2 21 rfl rfl)
theorem dX7_lay_72 : decode cX7_lay 72 = .ok (.goto (-69), 3) := dk_167 255 187 (dk_at dksX7_lay_3 0 rfl rfl)
theorem dX7_lay_75 : decode cX7_lay 75 = .ok (.return_, 1) := dk_177 (dk_at dksX7_lay_3 3 rfl rfl)
def dkwX7_init_28 : List UInt8 := [132, 1, 1, 167, 255, 219, 177]
abbrev dktX7_init_28 : List UInt8 := dkwX7_init_28 ++ []
def dkwX7_init_27 : List UInt8 := [2, 79, 42, 180, 0, 175, 27, 3, 79, 42, 180, 0, 178, 27, 16, 11, 79, 42, 180, 0, 181, 27, 2, 79]
abbrev dktX7_init_27 : List UInt8 := dkwX7_init_27 ++ dktX7_init_28
def dkwX7_init_26 : List UInt8 := [180, 0, 136, 27, 2, 79, 132, 1, 1, 167, 255, 240, 3, 60, 27, 7, 162, 0, 38, 42, 180, 0, 172, 27]
abbrev dktX7_init_26 : List UInt8 := dkwX7_init_26 ++ dktX7_init_27
def dkwX7_init_25 : List UInt8 := [17, 27, 0, 188, 10, 181, 0, 205, 42, 8, 181, 0, 208, 3, 60, 27, 16, 20, 162, 0, 16, 42]
abbrev dktX7_init_25 : List UInt8 := dkwX7_init_25 ++ dktX7_init_26
def dkwX7_init_24 : List UInt8 := [16, 9, 188, 10, 181, 0, 196, 42, 7, 188, 4, 181, 0, 199, 42, 7, 188, 10, 181, 0, 202, 42]
abbrev dktX7_init_24 : List UInt8 := dkwX7_init_24 ++ dktX7_init_25
def dkwX7_init_23 : List UInt8 := [188, 10, 181, 0, 187, 42, 17, 1, 32, 188, 10, 181, 0, 190, 42, 16, 9, 188, 10, 181, 0, 193, 42]
abbrev dktX7_init_23 : List UInt8 := dkwX7_init_23 ++ dktX7_init_24
def dkwX7_init_22 : List UInt8 := [188, 10, 181, 0, 178, 42, 7, 188, 10, 181, 0, 181, 42, 7, 188, 10, 181, 0, 184, 42, 17, 1, 32]
abbrev dktX7_init_22 : List UInt8 := dkwX7_init_22 ++ dktX7_init_23
def dkwX7_init_21 : List UInt8 := [42, 16, 20, 188, 4, 181, 0, 169, 42, 7, 188, 10, 181, 0, 172, 42, 7, 188, 10, 181, 0, 175, 42, 7]
abbrev dktX7_init_21 : List UInt8 := dkwX7_init_21 ++ dktX7_init_22
def dkwX7_init_20 : List UInt8 := [17, 1, 32, 188, 4, 181, 0, 160, 42, 16, 20, 188, 10, 181, 0, 163, 42, 16, 20, 188, 10, 181, 0, 166]
abbrev dktX7_init_20 : List UInt8 := dkwX7_init_20 ++ dktX7_init_21
def dkwX7_init_19 : List UInt8 := [188, 10, 181, 0, 151, 42, 17, 1, 32, 188, 10, 181, 0, 154, 42, 17, 1, 32, 188, 10, 181, 0, 157, 42]
abbrev dktX7_init_19 : List UInt8 := dkwX7_init_19 ++ dktX7_init_20
def dkwX7_init_18 : List UInt8 := [16, 26, 79, 89, 16, 8, 16, 27, 79, 181, 0, 145, 42, 16, 10, 188, 10, 181, 0, 148, 42, 17, 4, 76]
abbrev dktX7_init_18 : List UInt8 := dkwX7_init_18 ++ dktX7_init_19
def dkwX7_init_17 : List UInt8 := [79, 89, 6, 16, 23, 79, 89, 7, 16, 24, 79, 89, 8, 5, 79, 89, 16, 6, 16, 25, 79, 89, 16, 7]
abbrev dktX7_init_17 : List UInt8 := dkwX7_init_17 ++ dktX7_init_18
def dkwX7_init_16 : List UInt8 := [188, 10, 181, 0, 142, 42, 16, 9, 188, 10, 89, 3, 16, 13, 79, 89, 4, 16, 10, 79, 89, 5, 16, 22]
abbrev dktX7_init_16 : List UInt8 := dkwX7_init_16 ++ dktX7_init_17
def dkwX7_init_15 : List UInt8 := [181, 0, 133, 42, 16, 20, 188, 10, 181, 0, 136, 42, 17, 38, 172, 188, 10, 181, 0, 139, 42, 17, 38, 172]
abbrev dktX7_init_15 : List UInt8 := dkwX7_init_15 ++ dktX7_init_16
def dkwX7_init_14 : List UInt8 := [17, 1, 32, 188, 10, 181, 0, 127, 42, 17, 1, 32, 188, 10, 181, 0, 130, 42, 16, 24, 188, 10]
abbrev dktX7_init_14 : List UInt8 := dkwX7_init_14 ++ dktX7_init_15
def dkwX7_init_13 : List UInt8 := [188, 10, 181, 0, 118, 42, 17, 1, 32, 188, 10, 181, 0, 121, 42, 17, 1, 32, 188, 10, 181, 0, 124, 42]
abbrev dktX7_init_13 : List UInt8 := dkwX7_init_13 ++ dktX7_init_14
def dkwX7_init_12 : List UInt8 := [181, 0, 109, 42, 16, 24, 188, 10, 181, 0, 112, 42, 17, 1, 32, 188, 10, 181, 0, 115, 42, 17, 1, 32]
abbrev dktX7_init_12 : List UInt8 := dkwX7_init_12 ++ dktX7_init_13
def dkwX7_init_11 : List UInt8 := [181, 0, 100, 42, 16, 24, 188, 10, 181, 0, 103, 42, 16, 24, 188, 4, 181, 0, 106, 42, 16, 24, 188, 10]
abbrev dktX7_init_11 : List UInt8 := dkwX7_init_11 ++ dktX7_init_12
def dkwX7_init_10 : List UInt8 := [181, 0, 90, 42, 16, 24, 188, 4, 181, 0, 93, 42, 16, 24, 188, 10, 181, 0, 97, 42, 16, 24, 188, 10]
abbrev dktX7_init_10 : List UInt8 := dkwX7_init_10 ++ dktX7_init_11
def dkwX7_init_9 : List UInt8 := [80, 89, 16, 25, 20, 0, 84, 80, 89, 16, 26, 20, 0, 86, 80, 89, 16, 27, 20, 0, 88, 80]
abbrev dktX7_init_9 : List UInt8 := dkwX7_init_9 ++ dktX7_init_10
def dkwX7_init_8 : List UInt8 := [20, 0, 76, 80, 89, 16, 22, 20, 0, 78, 80, 89, 16, 23, 20, 0, 80, 80, 89, 16, 24, 20, 0, 82]
abbrev dktX7_init_8 : List UInt8 := dkwX7_init_8 ++ dktX7_init_9
def dkwX7_init_7 : List UInt8 := [16, 18, 20, 0, 70, 80, 89, 16, 19, 20, 0, 72, 80, 89, 16, 20, 20, 0, 74, 80, 89, 16, 21]
abbrev dktX7_init_7 : List UInt8 := dkwX7_init_7 ++ dktX7_init_8
def dkwX7_init_6 : List UInt8 := [80, 89, 16, 15, 20, 0, 64, 80, 89, 16, 16, 20, 0, 66, 80, 89, 16, 17, 20, 0, 68, 80, 89]
abbrev dktX7_init_6 : List UInt8 := dkwX7_init_6 ++ dktX7_init_7
def dkwX7_init_5 : List UInt8 := [20, 0, 56, 80, 89, 16, 12, 20, 0, 58, 80, 89, 16, 13, 20, 0, 60, 80, 89, 16, 14, 20, 0, 62]
abbrev dktX7_init_5 : List UInt8 := dkwX7_init_5 ++ dktX7_init_6
def dkwX7_init_4 : List UInt8 := [89, 16, 8, 20, 0, 50, 80, 89, 16, 9, 20, 0, 52, 80, 89, 16, 10, 20, 0, 54, 80, 89, 16, 11]
abbrev dktX7_init_4 : List UInt8 := dkwX7_init_4 ++ dktX7_init_5
def dkwX7_init_3 : List UInt8 := [20, 0, 42, 80, 89, 8, 20, 0, 44, 80, 89, 16, 6, 20, 0, 46, 80, 89, 16, 7, 20, 0, 48, 80]
abbrev dktX7_init_3 : List UInt8 := dkwX7_init_3 ++ dktX7_init_4
def dkwX7_init_2 : List UInt8 := [20, 0, 34, 80, 89, 4, 20, 0, 36, 80, 89, 5, 20, 0, 38, 80, 89, 6, 20, 0, 40, 80, 89, 7]
abbrev dktX7_init_2 : List UInt8 := dkwX7_init_2 ++ dktX7_init_3
def dkwX7_init_1 : List UInt8 := [17, 3, 234, 188, 10, 181, 0, 27, 42, 17, 3, 234, 188, 11, 181, 0, 30, 42, 16, 28, 188, 11, 89, 3]
abbrev dktX7_init_1 : List UInt8 := dkwX7_init_1 ++ dktX7_init_2
def dkwX7_init_0 : List UInt8 := [42, 183, 0, 18, 42, 17, 3, 232, 188, 10, 181, 0, 14, 42, 17, 3, 234, 188, 10, 181, 0, 24, 42]
abbrev dktX7_init_0 : List UInt8 := dkwX7_init_0 ++ dktX7_init_1
theorem dksX7_init_0 : cX7_init.data.toList.drop 0 = dktX7_init_0 := by decide +kernel
theorem dksX7_init_1 : cX7_init.data.toList.drop 23 = dktX7_init_1 := dk_seg dksX7_init_0 23 rfl rfl
theorem dksX7_init_2 : cX7_init.data.toList.drop 47 = dktX7_init_2 := dk_seg dksX7_init_1 24 rfl rfl
theorem dksX7_init_3 : cX7_init.data.toList.drop 71 = dktX7_init_3 := dk_seg dksX7_init_2 24 rfl rfl
theorem dksX7_init_4 : cX7_init.data.toList.drop 95 = dktX7_init_4 := dk_seg dksX7_init_3 24 rfl rfl
theorem dksX7_init_5 : cX7_init.data.toList.drop 119 = dktX7_init_5 := dk_seg dksX7_init_4 24 rfl rfl
theorem dksX7_init_6 : cX7_init.data.toList.drop 143 = dktX7_init_6 := dk_seg dksX7_init_5 24 rfl rfl
theorem dksX7_init_7 : cX7_init.data.toList.drop 166 = dktX7_init_7 := dk_seg dksX7_init_6 23 rfl rfl
theorem dksX7_init_8 : cX7_init.data.toList.drop 189 = dktX7_init_8 := dk_seg dksX7_init_7 23 rfl rfl
theorem dksX7_init_9 : cX7_init.data.toList.drop 213 = dktX7_init_9 := dk_seg dksX7_init_8 24 rfl rfl
theorem dksX7_init_10 : cX7_init.data.toList.drop 235 = dktX7_init_10 := dk_seg dksX7_init_9 22 rfl rfl
theorem dksX7_init_11 : cX7_init.data.toList.drop 259 = dktX7_init_11 := dk_seg dksX7_init_10 24 rfl rfl
theorem dksX7_init_12 : cX7_init.data.toList.drop 283 = dktX7_init_12 := dk_seg dksX7_init_11 24 rfl rfl
theorem dksX7_init_13 : cX7_init.data.toList.drop 307 = dktX7_init_13 := dk_seg dksX7_init_12 24 rfl rfl
theorem dksX7_init_14 : cX7_init.data.toList.drop 331 = dktX7_init_14 := dk_seg dksX7_init_13 24 rfl rfl
theorem dksX7_init_15 : cX7_init.data.toList.drop 353 = dktX7_init_15 := dk_seg dksX7_init_14 22 rfl rfl
theorem dksX7_init_16 : cX7_init.data.toList.drop 377 = dktX7_init_16 := dk_seg dksX7_init_15 24 rfl rfl
theorem dksX7_init_17 : cX7_init.data.toList.drop 401 = dktX7_init_17 := dk_seg dksX7_init_16 24 rfl rfl
theorem dksX7_init_18 : cX7_init.data.toList.drop 425 = dktX7_init_18 := dk_seg dksX7_init_17 24 rfl rfl
theorem dksX7_init_19 : cX7_init.data.toList.drop 449 = dktX7_init_19 := dk_seg dksX7_init_18 24 rfl rfl
theorem dksX7_init_20 : cX7_init.data.toList.drop 473 = dktX7_init_20 := dk_seg dksX7_init_19 24 rfl rfl
theorem dksX7_init_21 : cX7_init.data.toList.drop 497 = dktX7_init_21 := dk_seg dksX7_init_20 24 rfl rfl
theorem dksX7_init_22 : cX7_init.data.toList.drop 521 = dktX7_init_22 := dk_seg dksX7_init_21 24 rfl rfl
theorem dksX7_init_23 : cX7_init.data.toList.drop 544 = dktX7_init_23 := dk_seg dksX7_init_22 23 rfl rfl
theorem dksX7_init_24 : cX7_init.data.toList.drop 567 = dktX7_init_24 := dk_seg dksX7_init_23 23 rfl rfl
theorem dksX7_init_25 : cX7_init.data.toList.drop 589 = dktX7_init_25 := dk_seg dksX7_init_24 22 rfl rfl
theorem dksX7_init_26 : cX7_init.data.toList.drop 611 = dktX7_init_26 := dk_seg dksX7_init_25 22 rfl rfl
theorem dksX7_init_27 : cX7_init.data.toList.drop 635 = dktX7_init_27 := dk_seg dksX7_init_26 24 rfl rfl
theorem dksX7_init_28 : cX7_init.data.toList.drop 659 = dktX7_init_28 := dk_seg dksX7_init_27 24 rfl rfl
theorem dX7_init_0 : decode cX7_init 0 = .ok (.aload_n 0, 1) := dk_42 (dk_at dksX7_init_0 0 rfl rfl)
theorem dX7_init_1 : decode cX7_init 1 = .ok (.invokespecial 18, 3) := dk_183 0 18 (dk_at dksX7_init_0 1 rfl rfl)
theorem dX7_init_4 : decode cX7_init 4 = .ok (.aload_n 0, 1) := dk_42 (dk_at dksX7_init_0 4 rfl rfl)
theorem dX7_init_5 : decode cX7_init 5 = .ok (.sipush 1000, 3) := dk_17 3 232 (dk_at dksX7_init_0 5 rfl rfl)
theorem dX7_init_8 : decode cX7_init 8 = .ok (.newarray .int, 2) := dk_188_10 (dk_at dksX7_init_0 8 rfl rfl)
theorem dX7_init_10 : decode cX7_init 10 = .ok (.putfield 14, 3) := dk_181 0 14 (dk_at dksX7_init_0 10 rfl rfl)
theorem dX7_init_13 : decode cX7_init 13 = .ok (.aload_n 0, 1) := dk_42 (dk_at dksX7_init_0 13 rfl rfl)
theorem dX7_init_14 : decode cX7_init 14 = .ok (.sipush 1002, 3) := dk_17 3 234 (dk_at dksX7_init_0 14 rfl rfl)
theorem dX7_init_17 : decode cX7_init 17 = .ok (.newarray .int, 2) := dk_188_10 (dk_at dksX7_init_0 17 rfl rfl)
theorem dX7_init_19 : decode cX7_init 19 = .ok (.putfield 24, 3) := dk_181 0 24 (dk_at dksX7_init_0 19 rfl rfl)
theorem dX7_init_22 : decode cX7_init 22 = .ok (.aload_n 0, 1) := dk_42 (dk_at dksX7_init_0 22 rfl rfl)
theorem dX7_init_23 : decode cX7_init 23 = .ok (.sipush 1002, 3) := dk_17 3 234 (dk_at dksX7_init_1 0 rfl rfl)
theorem dX7_init_26 : decode cX7_init 26 = .ok (.newarray .int, 2) := dk_188_10 (dk_at dksX7_init_1 3 rfl rfl)
theorem dX7_init_28 : decode cX7_init 28 = .ok (.putfield 27, 3) := dk_181 0 27 (dk_at dksX7_init_1 5 rfl rfl)
theorem dX7_init_31 : decode cX7_init 31 = .ok (.aload_n 0, 1) := dk_42 (dk_at dksX7_init_1 8 rfl rfl)
theorem dX7_init_32 : decode cX7_init 32 = .ok (.sipush 1002, 3) := dk_17 3 234 (dk_at dksX7_init_1 9 rfl rfl)
theorem dX7_init_35 : decode cX7_init 35 = .ok (.newarray .long, 2) := dk_188_11 (dk_at dksX7_init_1 12 rfl rfl)
theorem dX7_init_37 : decode cX7_init 37 = .ok (.putfield 30, 3) := dk_181 0 30 (dk_at dksX7_init_1 14 rfl rfl)
theorem dX7_init_40 : decode cX7_init 40 = .ok (.aload_n 0, 1) := dk_42 (dk_at dksX7_init_1 17 rfl rfl)
theorem dX7_init_41 : decode cX7_init 41 = .ok (.bipush 28, 2) := dk_16 28 (dk_at dksX7_init_1 18 rfl rfl)
theorem dX7_init_43 : decode cX7_init 43 = .ok (.newarray .long, 2) := dk_188_11 (dk_at dksX7_init_1 20 rfl rfl)
theorem dX7_init_45 : decode cX7_init 45 = .ok (.dup, 1) := dk_89 (dk_at dksX7_init_1 22 rfl rfl)
theorem dX7_init_46 : decode cX7_init 46 = .ok (.iconst 0, 1) := dk_3 (dk_at dksX7_init_1 23 rfl rfl)
theorem dX7_init_47 : decode cX7_init 47 = .ok (.ldc2_w 34, 3) := dk_20 0 34 (dk_at dksX7_init_2 0 rfl rfl)
theorem dX7_init_50 : decode cX7_init 50 = .ok (.lastore, 1) := dk_80 (dk_at dksX7_init_2 3 rfl rfl)
theorem dX7_init_51 : decode cX7_init 51 = .ok (.dup, 1) := dk_89 (dk_at dksX7_init_2 4 rfl rfl)
theorem dX7_init_52 : decode cX7_init 52 = .ok (.iconst 1, 1) := dk_4 (dk_at dksX7_init_2 5 rfl rfl)
theorem dX7_init_53 : decode cX7_init 53 = .ok (.ldc2_w 36, 3) := dk_20 0 36 (dk_at dksX7_init_2 6 rfl rfl)
theorem dX7_init_56 : decode cX7_init 56 = .ok (.lastore, 1) := dk_80 (dk_at dksX7_init_2 9 rfl rfl)
theorem dX7_init_57 : decode cX7_init 57 = .ok (.dup, 1) := dk_89 (dk_at dksX7_init_2 10 rfl rfl)
theorem dX7_init_58 : decode cX7_init 58 = .ok (.iconst 2, 1) := dk_5 (dk_at dksX7_init_2 11 rfl rfl)
theorem dX7_init_59 : decode cX7_init 59 = .ok (.ldc2_w 38, 3) := dk_20 0 38 (dk_at dksX7_init_2 12 rfl rfl)
theorem dX7_init_62 : decode cX7_init 62 = .ok (.lastore, 1) := dk_80 (dk_at dksX7_init_2 15 rfl rfl)
theorem dX7_init_63 : decode cX7_init 63 = .ok (.dup, 1) := dk_89 (dk_at dksX7_init_2 16 rfl rfl)
theorem dX7_init_64 : decode cX7_init 64 = .ok (.iconst 3, 1) := dk_6 (dk_at dksX7_init_2 17 rfl rfl)
theorem dX7_init_65 : decode cX7_init 65 = .ok (.ldc2_w 40, 3) := dk_20 0 40 (dk_at dksX7_init_2 18 rfl rfl)
theorem dX7_init_68 : decode cX7_init 68 = .ok (.lastore, 1) := dk_80 (dk_at dksX7_init_2 21 rfl rfl)
theorem dX7_init_69 : decode cX7_init 69 = .ok (.dup, 1) := dk_89 (dk_at dksX7_init_2 22 rfl rfl)
theorem dX7_init_70 : decode cX7_init 70 = .ok (.iconst 4, 1) := dk_7 (dk_at dksX7_init_2 23 rfl rfl)
theorem dX7_init_71 : decode cX7_init 71 = .ok (.ldc2_w 42, 3) := dk_20 0 42 (dk_at dksX7_init_3 0 rfl rfl)
theorem dX7_init_74 : decode cX7_init 74 = .ok (.lastore, 1) := dk_80 (dk_at dksX7_init_3 3 rfl rfl)
theorem dX7_init_75 : decode cX7_init 75 = .ok (.dup, 1) := dk_89 (dk_at dksX7_init_3 4 rfl rfl)
theorem dX7_init_76 : decode cX7_init 76 = .ok (.iconst 5, 1) := dk_8 (dk_at dksX7_init_3 5 rfl rfl)
theorem dX7_init_77 : decode cX7_init 77 = .ok (.ldc2_w 44, 3) := dk_20 0 44 (dk_at dksX7_init_3 6 rfl rfl)
theorem dX7_init_80 : decode cX7_init 80 = .ok (.lastore, 1) := dk_80 (dk_at dksX7_init_3 9 rfl rfl)
theorem dX7_init_81 : decode cX7_init 81 = .ok (.dup, 1) := dk_89 (dk_at dksX7_init_3 10 rfl rfl)
theorem dX7_init_82 : decode cX7_init 82 = .ok (.bipush 6, 2) := dk_16 6 (dk_at dksX7_init_3 11 rfl rfl)
theorem dX7_init_84 : decode cX7_init 84 = .ok (.ldc2_w 46, 3) := dk_20 0 46 (dk_at dksX7_init_3 13 rfl rfl)
theorem dX7_init_87 : decode cX7_init 87 = .ok (.lastore, 1) := dk_80 (dk_at dksX7_init_3 16 rfl rfl)
theorem dX7_init_88 : decode cX7_init 88 = .ok (.dup, 1) := dk_89 (dk_at dksX7_init_3 17 rfl rfl)
theorem dX7_init_89 : decode cX7_init 89 = .ok (.bipush 7, 2) := dk_16 7 (dk_at dksX7_init_3 18 rfl rfl)
theorem dX7_init_91 : decode cX7_init 91 = .ok (.ldc2_w 48, 3) := dk_20 0 48 (dk_at dksX7_init_3 20 rfl rfl)
theorem dX7_init_94 : decode cX7_init 94 = .ok (.lastore, 1) := dk_80 (dk_at dksX7_init_3 23 rfl rfl)
theorem dX7_init_95 : decode cX7_init 95 = .ok (.dup, 1) := dk_89 (dk_at dksX7_init_4 0 rfl rfl)
theorem dX7_init_96 : decode cX7_init 96 = .ok (.bipush 8, 2) := dk_16 8 (dk_at dksX7_init_4 1 rfl rfl)
theorem dX7_init_98 : decode cX7_init 98 = .ok (.ldc2_w 50, 3) := dk_20 0 50 (dk_at dksX7_init_4 3 rfl rfl)
theorem dX7_init_101 : decode cX7_init 101 = .ok (.lastore, 1) := dk_80 (dk_at dksX7_init_4 6 rfl rfl)
theorem dX7_init_102 : decode cX7_init 102 = .ok (.dup, 1) := dk_89 (dk_at dksX7_init_4 7 rfl rfl)
theorem dX7_init_103 : decode cX7_init 103 = .ok (.bipush 9, 2) := dk_16 9 (dk_at dksX7_init_4 8 rfl rfl)
theorem dX7_init_105 : decode cX7_init 105 = .ok (.ldc2_w 52, 3) := dk_20 0 52 (dk_at dksX7_init_4 10 rfl rfl)
theorem dX7_init_108 : decode cX7_init 108 = .ok (.lastore, 1) := dk_80 (dk_at dksX7_init_4 13 rfl rfl)
theorem dX7_init_109 : decode cX7_init 109 = .ok (.dup, 1) := dk_89 (dk_at dksX7_init_4 14 rfl rfl)
theorem dX7_init_110 : decode cX7_init 110 = .ok (.bipush 10, 2) := dk_16 10 (dk_at dksX7_init_4 15 rfl rfl)
theorem dX7_init_112 : decode cX7_init 112 = .ok (.ldc2_w 54, 3) := dk_20 0 54 (dk_at dksX7_init_4 17 rfl rfl)
theorem dX7_init_115 : decode cX7_init 115 = .ok (.lastore, 1) := dk_80 (dk_at dksX7_init_4 20 rfl rfl)
theorem dX7_init_116 : decode cX7_init 116 = .ok (.dup, 1) := dk_89 (dk_at dksX7_init_4 21 rfl rfl)
theorem dX7_init_117 : decode cX7_init 117 = .ok (.bipush 11, 2) := dk_16 11 (dk_at dksX7_init_4 22 rfl rfl)
theorem dX7_init_119 : decode cX7_init 119 = .ok (.ldc2_w 56, 3) := dk_20 0 56 (dk_at dksX7_init_5 0 rfl rfl)
theorem dX7_init_122 : decode cX7_init 122 = .ok (.lastore, 1) := dk_80 (dk_at dksX7_init_5 3 rfl rfl)
theorem dX7_init_123 : decode cX7_init 123 = .ok (.dup, 1) := dk_89 (dk_at dksX7_init_5 4 rfl rfl)
theorem dX7_init_124 : decode cX7_init 124 = .ok (.bipush 12, 2) := dk_16 12 (dk_at dksX7_init_5 5 rfl rfl)
theorem dX7_init_126 : decode cX7_init 126 = .ok (.ldc2_w 58, 3) := dk_20 0 58 (dk_at dksX7_init_5 7 rfl rfl)
theorem dX7_init_129 : decode cX7_init 129 = .ok (.lastore, 1) := dk_80 (dk_at dksX7_init_5 10 rfl rfl)
theorem dX7_init_130 : decode cX7_init 130 = .ok (.dup, 1) := dk_89 (dk_at dksX7_init_5 11 rfl rfl)
theorem dX7_init_131 : decode cX7_init 131 = .ok (.bipush 13, 2) := dk_16 13 (dk_at dksX7_init_5 12 rfl rfl)
theorem dX7_init_133 : decode cX7_init 133 = .ok (.ldc2_w 60, 3) := dk_20 0 60 (dk_at dksX7_init_5 14 rfl rfl)
theorem dX7_init_136 : decode cX7_init 136 = .ok (.lastore, 1) := dk_80 (dk_at dksX7_init_5 17 rfl rfl)
theorem dX7_init_137 : decode cX7_init 137 = .ok (.dup, 1) := dk_89 (dk_at dksX7_init_5 18 rfl rfl)
theorem dX7_init_138 : decode cX7_init 138 = .ok (.bipush 14, 2) := dk_16 14 (dk_at dksX7_init_5 19 rfl rfl)
theorem dX7_init_140 : decode cX7_init 140 = .ok (.ldc2_w 62, 3) := dk_20 0 62 (dk_at dksX7_init_5 21 rfl rfl)
theorem dX7_init_143 : decode cX7_init 143 = .ok (.lastore, 1) := dk_80 (dk_at dksX7_init_6 0 rfl rfl)
theorem dX7_init_144 : decode cX7_init 144 = .ok (.dup, 1) := dk_89 (dk_at dksX7_init_6 1 rfl rfl)
theorem dX7_init_145 : decode cX7_init 145 = .ok (.bipush 15, 2) := dk_16 15 (dk_at dksX7_init_6 2 rfl rfl)
theorem dX7_init_147 : decode cX7_init 147 = .ok (.ldc2_w 64, 3) := dk_20 0 64 (dk_at dksX7_init_6 4 rfl rfl)
theorem dX7_init_150 : decode cX7_init 150 = .ok (.lastore, 1) := dk_80 (dk_at dksX7_init_6 7 rfl rfl)
theorem dX7_init_151 : decode cX7_init 151 = .ok (.dup, 1) := dk_89 (dk_at dksX7_init_6 8 rfl rfl)
theorem dX7_init_152 : decode cX7_init 152 = .ok (.bipush 16, 2) := dk_16 16 (dk_at dksX7_init_6 9 rfl rfl)
theorem dX7_init_154 : decode cX7_init 154 = .ok (.ldc2_w 66, 3) := dk_20 0 66 (dk_at dksX7_init_6 11 rfl rfl)
theorem dX7_init_157 : decode cX7_init 157 = .ok (.lastore, 1) := dk_80 (dk_at dksX7_init_6 14 rfl rfl)
theorem dX7_init_158 : decode cX7_init 158 = .ok (.dup, 1) := dk_89 (dk_at dksX7_init_6 15 rfl rfl)
theorem dX7_init_159 : decode cX7_init 159 = .ok (.bipush 17, 2) := dk_16 17 (dk_at dksX7_init_6 16 rfl rfl)
theorem dX7_init_161 : decode cX7_init 161 = .ok (.ldc2_w 68, 3) := dk_20 0 68 (dk_at dksX7_init_6 18 rfl rfl)
theorem dX7_init_164 : decode cX7_init 164 = .ok (.lastore, 1) := dk_80 (dk_at dksX7_init_6 21 rfl rfl)
theorem dX7_init_165 : decode cX7_init 165 = .ok (.dup, 1) := dk_89 (dk_at dksX7_init_6 22 rfl rfl)
theorem dX7_init_166 : decode cX7_init 166 = .ok (.bipush 18, 2) := dk_16 18 (dk_at dksX7_init_7 0 rfl rfl)
theorem dX7_init_168 : decode cX7_init 168 = .ok (.ldc2_w 70, 3) := dk_20 0 70 (dk_at dksX7_init_7 2 rfl rfl)
theorem dX7_init_171 : decode cX7_init 171 = .ok (.lastore, 1) := dk_80 (dk_at dksX7_init_7 5 rfl rfl)
theorem dX7_init_172 : decode cX7_init 172 = .ok (.dup, 1) := dk_89 (dk_at dksX7_init_7 6 rfl rfl)
theorem dX7_init_173 : decode cX7_init 173 = .ok (.bipush 19, 2) := dk_16 19 (dk_at dksX7_init_7 7 rfl rfl)
theorem dX7_init_175 : decode cX7_init 175 = .ok (.ldc2_w 72, 3) := dk_20 0 72 (dk_at dksX7_init_7 9 rfl rfl)
theorem dX7_init_178 : decode cX7_init 178 = .ok (.lastore, 1) := dk_80 (dk_at dksX7_init_7 12 rfl rfl)
theorem dX7_init_179 : decode cX7_init 179 = .ok (.dup, 1) := dk_89 (dk_at dksX7_init_7 13 rfl rfl)
theorem dX7_init_180 : decode cX7_init 180 = .ok (.bipush 20, 2) := dk_16 20 (dk_at dksX7_init_7 14 rfl rfl)
theorem dX7_init_182 : decode cX7_init 182 = .ok (.ldc2_w 74, 3) := dk_20 0 74 (dk_at dksX7_init_7 16 rfl rfl)
theorem dX7_init_185 : decode cX7_init 185 = .ok (.lastore, 1) := dk_80 (dk_at dksX7_init_7 19 rfl rfl)
theorem dX7_init_186 : decode cX7_init 186 = .ok (.dup, 1) := dk_89 (dk_at dksX7_init_7 20 rfl rfl)
theorem dX7_init_187 : decode cX7_init 187 = .ok (.bipush 21, 2) := dk_16 21 (dk_at dksX7_init_7 21 rfl rfl)
theorem dX7_init_189 : decode cX7_init 189 = .ok (.ldc2_w 76, 3) := dk_20 0 76 (dk_at dksX7_init_8 0 rfl rfl)
theorem dX7_init_192 : decode cX7_init 192 = .ok (.lastore, 1) := dk_80 (dk_at dksX7_init_8 3 rfl rfl)
theorem dX7_init_193 : decode cX7_init 193 = .ok (.dup, 1) := dk_89 (dk_at dksX7_init_8 4 rfl rfl)
theorem dX7_init_194 : decode cX7_init 194 = .ok (.bipush 22, 2) := dk_16 22 (dk_at dksX7_init_8 5 rfl rfl)
theorem dX7_init_196 : decode cX7_init 196 = .ok (.ldc2_w 78, 3) := dk_20 0 78 (dk_at dksX7_init_8 7 rfl rfl)
theorem dX7_init_199 : decode cX7_init 199 = .ok (.lastore, 1) := dk_80 (dk_at dksX7_init_8 10 rfl rfl)
theorem dX7_init_200 : decode cX7_init 200 = .ok (.dup, 1) := dk_89 (dk_at dksX7_init_8 11 rfl rfl)
theorem dX7_init_201 : decode cX7_init 201 = .ok (.bipush 23, 2) := dk_16 23 (dk_at dksX7_init_8 12 rfl rfl)
theorem dX7_init_203 : decode cX7_init 203 = .ok (.ldc2_w 80, 3) := dk_20 0 80 (dk_at dksX7_init_8 14 rfl rfl)
theorem dX7_init_206 : decode cX7_init 206 = .ok (.lastore, 1) := dk_80 (dk_at dksX7_init_8 17 rfl rfl)
theorem dX7_init_207 : decode cX7_init 207 = .ok (.dup, 1) := dk_89 (dk_at dksX7_init_8 18 rfl rfl)
theorem dX7_init_208 : decode cX7_init 208 = .ok (.bipush 24, 2) := dk_16 24 (dk_at dksX7_init_8 19 rfl rfl)
theorem dX7_init_210 : decode cX7_init 210 = .ok (.ldc2_w 82, 3) := dk_20 0 82 (dk_at dksX7_init_8 21 rfl rfl)
theorem dX7_init_213 : decode cX7_init 213 = .ok (.lastore, 1) := dk_80 (dk_at dksX7_init_9 0 rfl rfl)
theorem dX7_init_214 : decode cX7_init 214 = .ok (.dup, 1) := dk_89 (dk_at dksX7_init_9 1 rfl rfl)
theorem dX7_init_215 : decode cX7_init 215 = .ok (.bipush 25, 2) := dk_16 25 (dk_at dksX7_init_9 2 rfl rfl)
theorem dX7_init_217 : decode cX7_init 217 = .ok (.ldc2_w 84, 3) := dk_20 0 84 (dk_at dksX7_init_9 4 rfl rfl)
theorem dX7_init_220 : decode cX7_init 220 = .ok (.lastore, 1) := dk_80 (dk_at dksX7_init_9 7 rfl rfl)
theorem dX7_init_221 : decode cX7_init 221 = .ok (.dup, 1) := dk_89 (dk_at dksX7_init_9 8 rfl rfl)
theorem dX7_init_222 : decode cX7_init 222 = .ok (.bipush 26, 2) := dk_16 26 (dk_at dksX7_init_9 9 rfl rfl)
theorem dX7_init_224 : decode cX7_init 224 = .ok (.ldc2_w 86, 3) := dk_20 0 86 (dk_at dksX7_init_9 11 rfl rfl)
theorem dX7_init_227 : decode cX7_init 227 = .ok (.lastore, 1) := dk_80 (dk_at dksX7_init_9 14 rfl rfl)
theorem dX7_init_228 : decode cX7_init 228 = .ok (.dup, 1) := dk_89 (dk_at dksX7_init_9 15 rfl rfl)
theorem dX7_init_229 : decode cX7_init 229 = .ok (.bipush 27, 2) := dk_16 27 (dk_at dksX7_init_9 16 rfl rfl)
theorem dX7_init_231 : decode cX7_init 231 = .ok (.ldc2_w 88, 3) := dk_20 0 88 (dk_at dksX7_init_9 18 rfl rfl)
theorem dX7_init_234 : decode cX7_init 234 = .ok (.lastore, 1) := dk_80 (dk_at dksX7_init_9 21 rfl rfl)
theorem dX7_init_235 : decode cX7_init 235 = .ok (.putfield 90, 3) := dk_181 0 90 (dk_at dksX7_init_10 0 rfl rfl)
theorem dX7_init_238 : decode cX7_init 238 = .ok (.aload_n 0, 1) := dk_42 (dk_at dksX7_init_10 3 rfl rfl)
theorem dX7_init_239 : decode cX7_init 239 = .ok (.bipush 24, 2) := dk_16 24 (dk_at dksX7_init_10 4 rfl rfl)
theorem dX7_init_241 : decode cX7_init 241 = .ok (.newarray .boolean, 2) := dk_188_4 (dk_at dksX7_init_10 6 rfl rfl)
theorem dX7_init_243 : decode cX7_init 243 = .ok (.putfield 93, 3) := dk_181 0 93 (dk_at dksX7_init_10 8 rfl rfl)
theorem dX7_init_246 : decode cX7_init 246 = .ok (.aload_n 0, 1) := dk_42 (dk_at dksX7_init_10 11 rfl rfl)
theorem dX7_init_247 : decode cX7_init 247 = .ok (.bipush 24, 2) := dk_16 24 (dk_at dksX7_init_10 12 rfl rfl)
theorem dX7_init_249 : decode cX7_init 249 = .ok (.newarray .int, 2) := dk_188_10 (dk_at dksX7_init_10 14 rfl rfl)
theorem dX7_init_251 : decode cX7_init 251 = .ok (.putfield 97, 3) := dk_181 0 97 (dk_at dksX7_init_10 16 rfl rfl)
theorem dX7_init_254 : decode cX7_init 254 = .ok (.aload_n 0, 1) := dk_42 (dk_at dksX7_init_10 19 rfl rfl)
theorem dX7_init_255 : decode cX7_init 255 = .ok (.bipush 24, 2) := dk_16 24 (dk_at dksX7_init_10 20 rfl rfl)
theorem dX7_init_257 : decode cX7_init 257 = .ok (.newarray .int, 2) := dk_188_10 (dk_at dksX7_init_10 22 rfl rfl)
theorem dX7_init_259 : decode cX7_init 259 = .ok (.putfield 100, 3) := dk_181 0 100 (dk_at dksX7_init_11 0 rfl rfl)
theorem dX7_init_262 : decode cX7_init 262 = .ok (.aload_n 0, 1) := dk_42 (dk_at dksX7_init_11 3 rfl rfl)
theorem dX7_init_263 : decode cX7_init 263 = .ok (.bipush 24, 2) := dk_16 24 (dk_at dksX7_init_11 4 rfl rfl)
theorem dX7_init_265 : decode cX7_init 265 = .ok (.newarray .int, 2) := dk_188_10 (dk_at dksX7_init_11 6 rfl rfl)
theorem dX7_init_267 : decode cX7_init 267 = .ok (.putfield 103, 3) := dk_181 0 103 (dk_at dksX7_init_11 8 rfl rfl)
theorem dX7_init_270 : decode cX7_init 270 = .ok (.aload_n 0, 1) := dk_42 (dk_at dksX7_init_11 11 rfl rfl)
theorem dX7_init_271 : decode cX7_init 271 = .ok (.bipush 24, 2) := dk_16 24 (dk_at dksX7_init_11 12 rfl rfl)
theorem dX7_init_273 : decode cX7_init 273 = .ok (.newarray .boolean, 2) := dk_188_4 (dk_at dksX7_init_11 14 rfl rfl)
theorem dX7_init_275 : decode cX7_init 275 = .ok (.putfield 106, 3) := dk_181 0 106 (dk_at dksX7_init_11 16 rfl rfl)
theorem dX7_init_278 : decode cX7_init 278 = .ok (.aload_n 0, 1) := dk_42 (dk_at dksX7_init_11 19 rfl rfl)
theorem dX7_init_279 : decode cX7_init 279 = .ok (.bipush 24, 2) := dk_16 24 (dk_at dksX7_init_11 20 rfl rfl)
theorem dX7_init_281 : decode cX7_init 281 = .ok (.newarray .int, 2) := dk_188_10 (dk_at dksX7_init_11 22 rfl rfl)
theorem dX7_init_283 : decode cX7_init 283 = .ok (.putfield 109, 3) := dk_181 0 109 (dk_at dksX7_init_12 0 rfl rfl)
theorem dX7_init_286 : decode cX7_init 286 = .ok (.aload_n 0, 1) := dk_42 (dk_at dksX7_init_12 3 rfl rfl)
theorem dX7_init_287 : decode cX7_init 287 = .ok (.bipush 24, 2) := dk_16 24 (dk_at dksX7_init_12 4 rfl rfl)
theorem dX7_init_289 : decode cX7_init 289 = .ok (.newarray .int, 2) := dk_188_10 (dk_at dksX7_init_12 6 rfl rfl)
theorem dX7_init_291 : decode cX7_init 291 = .ok (.putfield 112, 3) := dk_181 0 112 (dk_at dksX7_init_12 8 rfl rfl)
theorem dX7_init_294 : decode cX7_init 294 = .ok (.aload_n 0, 1) := dk_42 (dk_at dksX7_init_12 11 rfl rfl)
theorem dX7_init_295 : decode cX7_init 295 = .ok (.sipush 288, 3) := dk_17 1 32 (dk_at dksX7_init_12 12 rfl rfl)
theorem dX7_init_298 : decode cX7_init 298 = .ok (.newarray .int, 2) := dk_188_10 (dk_at dksX7_init_12 15 rfl rfl)
theorem dX7_init_300 : decode cX7_init 300 = .ok (.putfield 115, 3) := dk_181 0 115 (dk_at dksX7_init_12 17 rfl rfl)
theorem dX7_init_303 : decode cX7_init 303 = .ok (.aload_n 0, 1) := dk_42 (dk_at dksX7_init_12 20 rfl rfl)
theorem dX7_init_304 : decode cX7_init 304 = .ok (.sipush 288, 3) := dk_17 1 32 (dk_at dksX7_init_12 21 rfl rfl)
theorem dX7_init_307 : decode cX7_init 307 = .ok (.newarray .int, 2) := dk_188_10 (dk_at dksX7_init_13 0 rfl rfl)
theorem dX7_init_309 : decode cX7_init 309 = .ok (.putfield 118, 3) := dk_181 0 118 (dk_at dksX7_init_13 2 rfl rfl)
theorem dX7_init_312 : decode cX7_init 312 = .ok (.aload_n 0, 1) := dk_42 (dk_at dksX7_init_13 5 rfl rfl)
theorem dX7_init_313 : decode cX7_init 313 = .ok (.sipush 288, 3) := dk_17 1 32 (dk_at dksX7_init_13 6 rfl rfl)
theorem dX7_init_316 : decode cX7_init 316 = .ok (.newarray .int, 2) := dk_188_10 (dk_at dksX7_init_13 9 rfl rfl)
theorem dX7_init_318 : decode cX7_init 318 = .ok (.putfield 121, 3) := dk_181 0 121 (dk_at dksX7_init_13 11 rfl rfl)
theorem dX7_init_321 : decode cX7_init 321 = .ok (.aload_n 0, 1) := dk_42 (dk_at dksX7_init_13 14 rfl rfl)
theorem dX7_init_322 : decode cX7_init 322 = .ok (.sipush 288, 3) := dk_17 1 32 (dk_at dksX7_init_13 15 rfl rfl)
theorem dX7_init_325 : decode cX7_init 325 = .ok (.newarray .int, 2) := dk_188_10 (dk_at dksX7_init_13 18 rfl rfl)
theorem dX7_init_327 : decode cX7_init 327 = .ok (.putfield 124, 3) := dk_181 0 124 (dk_at dksX7_init_13 20 rfl rfl)
theorem dX7_init_330 : decode cX7_init 330 = .ok (.aload_n 0, 1) := dk_42 (dk_at dksX7_init_13 23 rfl rfl)
theorem dX7_init_331 : decode cX7_init 331 = .ok (.sipush 288, 3) := dk_17 1 32 (dk_at dksX7_init_14 0 rfl rfl)
theorem dX7_init_334 : decode cX7_init 334 = .ok (.newarray .int, 2) := dk_188_10 (dk_at dksX7_init_14 3 rfl rfl)
theorem dX7_init_336 : decode cX7_init 336 = .ok (.putfield 127, 3) := dk_181 0 127 (dk_at dksX7_init_14 5 rfl rfl)
theorem dX7_init_339 : decode cX7_init 339 = .ok (.aload_n 0, 1) := dk_42 (dk_at dksX7_init_14 8 rfl rfl)
theorem dX7_init_340 : decode cX7_init 340 = .ok (.sipush 288, 3) := dk_17 1 32 (dk_at dksX7_init_14 9 rfl rfl)
theorem dX7_init_343 : decode cX7_init 343 = .ok (.newarray .int, 2) := dk_188_10 (dk_at dksX7_init_14 12 rfl rfl)
theorem dX7_init_345 : decode cX7_init 345 = .ok (.putfield 130, 3) := dk_181 0 130 (dk_at dksX7_init_14 14 rfl rfl)
theorem dX7_init_348 : decode cX7_init 348 = .ok (.aload_n 0, 1) := dk_42 (dk_at dksX7_init_14 17 rfl rfl)
theorem dX7_init_349 : decode cX7_init 349 = .ok (.bipush 24, 2) := dk_16 24 (dk_at dksX7_init_14 18 rfl rfl)
theorem dX7_init_351 : decode cX7_init 351 = .ok (.newarray .int, 2) := dk_188_10 (dk_at dksX7_init_14 20 rfl rfl)
theorem dX7_init_353 : decode cX7_init 353 = .ok (.putfield 133, 3) := dk_181 0 133 (dk_at dksX7_init_15 0 rfl rfl)
theorem dX7_init_356 : decode cX7_init 356 = .ok (.aload_n 0, 1) := dk_42 (dk_at dksX7_init_15 3 rfl rfl)
theorem dX7_init_357 : decode cX7_init 357 = .ok (.bipush 20, 2) := dk_16 20 (dk_at dksX7_init_15 4 rfl rfl)
theorem dX7_init_359 : decode cX7_init 359 = .ok (.newarray .int, 2) := dk_188_10 (dk_at dksX7_init_15 6 rfl rfl)
theorem dX7_init_361 : decode cX7_init 361 = .ok (.putfield 136, 3) := dk_181 0 136 (dk_at dksX7_init_15 8 rfl rfl)
theorem dX7_init_364 : decode cX7_init 364 = .ok (.aload_n 0, 1) := dk_42 (dk_at dksX7_init_15 11 rfl rfl)
theorem dX7_init_365 : decode cX7_init 365 = .ok (.sipush 9900, 3) := dk_17 38 172 (dk_at dksX7_init_15 12 rfl rfl)
theorem dX7_init_368 : decode cX7_init 368 = .ok (.newarray .int, 2) := dk_188_10 (dk_at dksX7_init_15 15 rfl rfl)
theorem dX7_init_370 : decode cX7_init 370 = .ok (.putfield 139, 3) := dk_181 0 139 (dk_at dksX7_init_15 17 rfl rfl)
theorem dX7_init_373 : decode cX7_init 373 = .ok (.aload_n 0, 1) := dk_42 (dk_at dksX7_init_15 20 rfl rfl)
theorem dX7_init_374 : decode cX7_init 374 = .ok (.sipush 9900, 3) := dk_17 38 172 (dk_at dksX7_init_15 21 rfl rfl)
theorem dX7_init_377 : decode cX7_init 377 = .ok (.newarray .int, 2) := dk_188_10 (dk_at dksX7_init_16 0 rfl rfl)
theorem dX7_init_379 : decode cX7_init 379 = .ok (.putfield 142, 3) := dk_181 0 142 (dk_at dksX7_init_16 2 rfl rfl)
theorem dX7_init_382 : decode cX7_init 382 = .ok (.aload_n 0, 1) := dk_42 (dk_at dksX7_init_16 5 rfl rfl)
theorem dX7_init_383 : decode cX7_init 383 = .ok (.bipush 9, 2) := dk_16 9 (dk_at dksX7_init_16 6 rfl rfl)
theorem dX7_init_385 : decode cX7_init 385 = .ok (.newarray .int, 2) := dk_188_10 (dk_at dksX7_init_16 8 rfl rfl)
theorem dX7_init_387 : decode cX7_init 387 = .ok (.dup, 1) := dk_89 (dk_at dksX7_init_16 10 rfl rfl)
theorem dX7_init_388 : decode cX7_init 388 = .ok (.iconst 0, 1) := dk_3 (dk_at dksX7_init_16 11 rfl rfl)
theorem dX7_init_389 : decode cX7_init 389 = .ok (.bipush 13, 2) := dk_16 13 (dk_at dksX7_init_16 12 rfl rfl)
theorem dX7_init_391 : decode cX7_init 391 = .ok (.iastore, 1) := dk_79 (dk_at dksX7_init_16 14 rfl rfl)
theorem dX7_init_392 : decode cX7_init 392 = .ok (.dup, 1) := dk_89 (dk_at dksX7_init_16 15 rfl rfl)
theorem dX7_init_393 : decode cX7_init 393 = .ok (.iconst 1, 1) := dk_4 (dk_at dksX7_init_16 16 rfl rfl)
theorem dX7_init_394 : decode cX7_init 394 = .ok (.bipush 10, 2) := dk_16 10 (dk_at dksX7_init_16 17 rfl rfl)
theorem dX7_init_396 : decode cX7_init 396 = .ok (.iastore, 1) := dk_79 (dk_at dksX7_init_16 19 rfl rfl)
theorem dX7_init_397 : decode cX7_init 397 = .ok (.dup, 1) := dk_89 (dk_at dksX7_init_16 20 rfl rfl)
theorem dX7_init_398 : decode cX7_init 398 = .ok (.iconst 2, 1) := dk_5 (dk_at dksX7_init_16 21 rfl rfl)
theorem dX7_init_399 : decode cX7_init 399 = .ok (.bipush 22, 2) := dk_16 22 (dk_at dksX7_init_16 22 rfl rfl)
theorem dX7_init_401 : decode cX7_init 401 = .ok (.iastore, 1) := dk_79 (dk_at dksX7_init_17 0 rfl rfl)
theorem dX7_init_402 : decode cX7_init 402 = .ok (.dup, 1) := dk_89 (dk_at dksX7_init_17 1 rfl rfl)
theorem dX7_init_403 : decode cX7_init 403 = .ok (.iconst 3, 1) := dk_6 (dk_at dksX7_init_17 2 rfl rfl)
theorem dX7_init_404 : decode cX7_init 404 = .ok (.bipush 23, 2) := dk_16 23 (dk_at dksX7_init_17 3 rfl rfl)
theorem dX7_init_406 : decode cX7_init 406 = .ok (.iastore, 1) := dk_79 (dk_at dksX7_init_17 5 rfl rfl)
theorem dX7_init_407 : decode cX7_init 407 = .ok (.dup, 1) := dk_89 (dk_at dksX7_init_17 6 rfl rfl)
theorem dX7_init_408 : decode cX7_init 408 = .ok (.iconst 4, 1) := dk_7 (dk_at dksX7_init_17 7 rfl rfl)
theorem dX7_init_409 : decode cX7_init 409 = .ok (.bipush 24, 2) := dk_16 24 (dk_at dksX7_init_17 8 rfl rfl)
theorem dX7_init_411 : decode cX7_init 411 = .ok (.iastore, 1) := dk_79 (dk_at dksX7_init_17 10 rfl rfl)
theorem dX7_init_412 : decode cX7_init 412 = .ok (.dup, 1) := dk_89 (dk_at dksX7_init_17 11 rfl rfl)
theorem dX7_init_413 : decode cX7_init 413 = .ok (.iconst 5, 1) := dk_8 (dk_at dksX7_init_17 12 rfl rfl)
theorem dX7_init_414 : decode cX7_init 414 = .ok (.iconst 2, 1) := dk_5 (dk_at dksX7_init_17 13 rfl rfl)
theorem dX7_init_415 : decode cX7_init 415 = .ok (.iastore, 1) := dk_79 (dk_at dksX7_init_17 14 rfl rfl)
theorem dX7_init_416 : decode cX7_init 416 = .ok (.dup, 1) := dk_89 (dk_at dksX7_init_17 15 rfl rfl)
theorem dX7_init_417 : decode cX7_init 417 = .ok (.bipush 6, 2) := dk_16 6 (dk_at dksX7_init_17 16 rfl rfl)
theorem dX7_init_419 : decode cX7_init 419 = .ok (.bipush 25, 2) := dk_16 25 (dk_at dksX7_init_17 18 rfl rfl)
theorem dX7_init_421 : decode cX7_init 421 = .ok (.iastore, 1) := dk_79 (dk_at dksX7_init_17 20 rfl rfl)
theorem dX7_init_422 : decode cX7_init 422 = .ok (.dup, 1) := dk_89 (dk_at dksX7_init_17 21 rfl rfl)
theorem dX7_init_423 : decode cX7_init 423 = .ok (.bipush 7, 2) := dk_16 7 (dk_at dksX7_init_17 22 rfl rfl)
theorem dX7_init_425 : decode cX7_init 425 = .ok (.bipush 26, 2) := dk_16 26 (dk_at dksX7_init_18 0 rfl rfl)
theorem dX7_init_427 : decode cX7_init 427 = .ok (.iastore, 1) := dk_79 (dk_at dksX7_init_18 2 rfl rfl)
theorem dX7_init_428 : decode cX7_init 428 = .ok (.dup, 1) := dk_89 (dk_at dksX7_init_18 3 rfl rfl)
theorem dX7_init_429 : decode cX7_init 429 = .ok (.bipush 8, 2) := dk_16 8 (dk_at dksX7_init_18 4 rfl rfl)
theorem dX7_init_431 : decode cX7_init 431 = .ok (.bipush 27, 2) := dk_16 27 (dk_at dksX7_init_18 6 rfl rfl)
theorem dX7_init_433 : decode cX7_init 433 = .ok (.iastore, 1) := dk_79 (dk_at dksX7_init_18 8 rfl rfl)
theorem dX7_init_434 : decode cX7_init 434 = .ok (.putfield 145, 3) := dk_181 0 145 (dk_at dksX7_init_18 9 rfl rfl)
theorem dX7_init_437 : decode cX7_init 437 = .ok (.aload_n 0, 1) := dk_42 (dk_at dksX7_init_18 12 rfl rfl)
theorem dX7_init_438 : decode cX7_init 438 = .ok (.bipush 10, 2) := dk_16 10 (dk_at dksX7_init_18 13 rfl rfl)
theorem dX7_init_440 : decode cX7_init 440 = .ok (.newarray .int, 2) := dk_188_10 (dk_at dksX7_init_18 15 rfl rfl)
theorem dX7_init_442 : decode cX7_init 442 = .ok (.putfield 148, 3) := dk_181 0 148 (dk_at dksX7_init_18 17 rfl rfl)
theorem dX7_init_445 : decode cX7_init 445 = .ok (.aload_n 0, 1) := dk_42 (dk_at dksX7_init_18 20 rfl rfl)
theorem dX7_init_446 : decode cX7_init 446 = .ok (.sipush 1100, 3) := dk_17 4 76 (dk_at dksX7_init_18 21 rfl rfl)
theorem dX7_init_449 : decode cX7_init 449 = .ok (.newarray .int, 2) := dk_188_10 (dk_at dksX7_init_19 0 rfl rfl)
theorem dX7_init_451 : decode cX7_init 451 = .ok (.putfield 151, 3) := dk_181 0 151 (dk_at dksX7_init_19 2 rfl rfl)
theorem dX7_init_454 : decode cX7_init 454 = .ok (.aload_n 0, 1) := dk_42 (dk_at dksX7_init_19 5 rfl rfl)
theorem dX7_init_455 : decode cX7_init 455 = .ok (.sipush 288, 3) := dk_17 1 32 (dk_at dksX7_init_19 6 rfl rfl)
theorem dX7_init_458 : decode cX7_init 458 = .ok (.newarray .int, 2) := dk_188_10 (dk_at dksX7_init_19 9 rfl rfl)
theorem dX7_init_460 : decode cX7_init 460 = .ok (.putfield 154, 3) := dk_181 0 154 (dk_at dksX7_init_19 11 rfl rfl)
theorem dX7_init_463 : decode cX7_init 463 = .ok (.aload_n 0, 1) := dk_42 (dk_at dksX7_init_19 14 rfl rfl)
theorem dX7_init_464 : decode cX7_init 464 = .ok (.sipush 288, 3) := dk_17 1 32 (dk_at dksX7_init_19 15 rfl rfl)
theorem dX7_init_467 : decode cX7_init 467 = .ok (.newarray .int, 2) := dk_188_10 (dk_at dksX7_init_19 18 rfl rfl)
theorem dX7_init_469 : decode cX7_init 469 = .ok (.putfield 157, 3) := dk_181 0 157 (dk_at dksX7_init_19 20 rfl rfl)
theorem dX7_init_472 : decode cX7_init 472 = .ok (.aload_n 0, 1) := dk_42 (dk_at dksX7_init_19 23 rfl rfl)
theorem dX7_init_473 : decode cX7_init 473 = .ok (.sipush 288, 3) := dk_17 1 32 (dk_at dksX7_init_20 0 rfl rfl)
theorem dX7_init_476 : decode cX7_init 476 = .ok (.newarray .boolean, 2) := dk_188_4 (dk_at dksX7_init_20 3 rfl rfl)
theorem dX7_init_478 : decode cX7_init 478 = .ok (.putfield 160, 3) := dk_181 0 160 (dk_at dksX7_init_20 5 rfl rfl)
theorem dX7_init_481 : decode cX7_init 481 = .ok (.aload_n 0, 1) := dk_42 (dk_at dksX7_init_20 8 rfl rfl)
theorem dX7_init_482 : decode cX7_init 482 = .ok (.bipush 20, 2) := dk_16 20 (dk_at dksX7_init_20 9 rfl rfl)
theorem dX7_init_484 : decode cX7_init 484 = .ok (.newarray .int, 2) := dk_188_10 (dk_at dksX7_init_20 11 rfl rfl)
theorem dX7_init_486 : decode cX7_init 486 = .ok (.putfield 163, 3) := dk_181 0 163 (dk_at dksX7_init_20 13 rfl rfl)
theorem dX7_init_489 : decode cX7_init 489 = .ok (.aload_n 0, 1) := dk_42 (dk_at dksX7_init_20 16 rfl rfl)
theorem dX7_init_490 : decode cX7_init 490 = .ok (.bipush 20, 2) := dk_16 20 (dk_at dksX7_init_20 17 rfl rfl)
theorem dX7_init_492 : decode cX7_init 492 = .ok (.newarray .int, 2) := dk_188_10 (dk_at dksX7_init_20 19 rfl rfl)
theorem dX7_init_494 : decode cX7_init 494 = .ok (.putfield 166, 3) := dk_181 0 166 (dk_at dksX7_init_20 21 rfl rfl)
theorem dX7_init_497 : decode cX7_init 497 = .ok (.aload_n 0, 1) := dk_42 (dk_at dksX7_init_21 0 rfl rfl)
theorem dX7_init_498 : decode cX7_init 498 = .ok (.bipush 20, 2) := dk_16 20 (dk_at dksX7_init_21 1 rfl rfl)
theorem dX7_init_500 : decode cX7_init 500 = .ok (.newarray .boolean, 2) := dk_188_4 (dk_at dksX7_init_21 3 rfl rfl)
theorem dX7_init_502 : decode cX7_init 502 = .ok (.putfield 169, 3) := dk_181 0 169 (dk_at dksX7_init_21 5 rfl rfl)
theorem dX7_init_505 : decode cX7_init 505 = .ok (.aload_n 0, 1) := dk_42 (dk_at dksX7_init_21 8 rfl rfl)
theorem dX7_init_506 : decode cX7_init 506 = .ok (.iconst 4, 1) := dk_7 (dk_at dksX7_init_21 9 rfl rfl)
theorem dX7_init_507 : decode cX7_init 507 = .ok (.newarray .int, 2) := dk_188_10 (dk_at dksX7_init_21 10 rfl rfl)
theorem dX7_init_509 : decode cX7_init 509 = .ok (.putfield 172, 3) := dk_181 0 172 (dk_at dksX7_init_21 12 rfl rfl)
theorem dX7_init_512 : decode cX7_init 512 = .ok (.aload_n 0, 1) := dk_42 (dk_at dksX7_init_21 15 rfl rfl)
theorem dX7_init_513 : decode cX7_init 513 = .ok (.iconst 4, 1) := dk_7 (dk_at dksX7_init_21 16 rfl rfl)
theorem dX7_init_514 : decode cX7_init 514 = .ok (.newarray .int, 2) := dk_188_10 (dk_at dksX7_init_21 17 rfl rfl)
theorem dX7_init_516 : decode cX7_init 516 = .ok (.putfield 175, 3) := dk_181 0 175 (dk_at dksX7_init_21 19 rfl rfl)
theorem dX7_init_519 : decode cX7_init 519 = .ok (.aload_n 0, 1) := dk_42 (dk_at dksX7_init_21 22 rfl rfl)
theorem dX7_init_520 : decode cX7_init 520 = .ok (.iconst 4, 1) := dk_7 (dk_at dksX7_init_21 23 rfl rfl)
theorem dX7_init_521 : decode cX7_init 521 = .ok (.newarray .int, 2) := dk_188_10 (dk_at dksX7_init_22 0 rfl rfl)
theorem dX7_init_523 : decode cX7_init 523 = .ok (.putfield 178, 3) := dk_181 0 178 (dk_at dksX7_init_22 2 rfl rfl)
theorem dX7_init_526 : decode cX7_init 526 = .ok (.aload_n 0, 1) := dk_42 (dk_at dksX7_init_22 5 rfl rfl)
theorem dX7_init_527 : decode cX7_init 527 = .ok (.iconst 4, 1) := dk_7 (dk_at dksX7_init_22 6 rfl rfl)
theorem dX7_init_528 : decode cX7_init 528 = .ok (.newarray .int, 2) := dk_188_10 (dk_at dksX7_init_22 7 rfl rfl)
theorem dX7_init_530 : decode cX7_init 530 = .ok (.putfield 181, 3) := dk_181 0 181 (dk_at dksX7_init_22 9 rfl rfl)
theorem dX7_init_533 : decode cX7_init 533 = .ok (.aload_n 0, 1) := dk_42 (dk_at dksX7_init_22 12 rfl rfl)
theorem dX7_init_534 : decode cX7_init 534 = .ok (.iconst 4, 1) := dk_7 (dk_at dksX7_init_22 13 rfl rfl)
theorem dX7_init_535 : decode cX7_init 535 = .ok (.newarray .int, 2) := dk_188_10 (dk_at dksX7_init_22 14 rfl rfl)
theorem dX7_init_537 : decode cX7_init 537 = .ok (.putfield 184, 3) := dk_181 0 184 (dk_at dksX7_init_22 16 rfl rfl)
theorem dX7_init_540 : decode cX7_init 540 = .ok (.aload_n 0, 1) := dk_42 (dk_at dksX7_init_22 19 rfl rfl)
theorem dX7_init_541 : decode cX7_init 541 = .ok (.sipush 288, 3) := dk_17 1 32 (dk_at dksX7_init_22 20 rfl rfl)
theorem dX7_init_544 : decode cX7_init 544 = .ok (.newarray .int, 2) := dk_188_10 (dk_at dksX7_init_23 0 rfl rfl)
theorem dX7_init_546 : decode cX7_init 546 = .ok (.putfield 187, 3) := dk_181 0 187 (dk_at dksX7_init_23 2 rfl rfl)
theorem dX7_init_549 : decode cX7_init 549 = .ok (.aload_n 0, 1) := dk_42 (dk_at dksX7_init_23 5 rfl rfl)
theorem dX7_init_550 : decode cX7_init 550 = .ok (.sipush 288, 3) := dk_17 1 32 (dk_at dksX7_init_23 6 rfl rfl)
theorem dX7_init_553 : decode cX7_init 553 = .ok (.newarray .int, 2) := dk_188_10 (dk_at dksX7_init_23 9 rfl rfl)
theorem dX7_init_555 : decode cX7_init 555 = .ok (.putfield 190, 3) := dk_181 0 190 (dk_at dksX7_init_23 11 rfl rfl)
theorem dX7_init_558 : decode cX7_init 558 = .ok (.aload_n 0, 1) := dk_42 (dk_at dksX7_init_23 14 rfl rfl)
theorem dX7_init_559 : decode cX7_init 559 = .ok (.bipush 9, 2) := dk_16 9 (dk_at dksX7_init_23 15 rfl rfl)
theorem dX7_init_561 : decode cX7_init 561 = .ok (.newarray .int, 2) := dk_188_10 (dk_at dksX7_init_23 17 rfl rfl)
theorem dX7_init_563 : decode cX7_init 563 = .ok (.putfield 193, 3) := dk_181 0 193 (dk_at dksX7_init_23 19 rfl rfl)
theorem dX7_init_566 : decode cX7_init 566 = .ok (.aload_n 0, 1) := dk_42 (dk_at dksX7_init_23 22 rfl rfl)
theorem dX7_init_567 : decode cX7_init 567 = .ok (.bipush 9, 2) := dk_16 9 (dk_at dksX7_init_24 0 rfl rfl)
theorem dX7_init_569 : decode cX7_init 569 = .ok (.newarray .int, 2) := dk_188_10 (dk_at dksX7_init_24 2 rfl rfl)
theorem dX7_init_571 : decode cX7_init 571 = .ok (.putfield 196, 3) := dk_181 0 196 (dk_at dksX7_init_24 4 rfl rfl)
theorem dX7_init_574 : decode cX7_init 574 = .ok (.aload_n 0, 1) := dk_42 (dk_at dksX7_init_24 7 rfl rfl)
theorem dX7_init_575 : decode cX7_init 575 = .ok (.iconst 4, 1) := dk_7 (dk_at dksX7_init_24 8 rfl rfl)
theorem dX7_init_576 : decode cX7_init 576 = .ok (.newarray .boolean, 2) := dk_188_4 (dk_at dksX7_init_24 9 rfl rfl)
theorem dX7_init_578 : decode cX7_init 578 = .ok (.putfield 199, 3) := dk_181 0 199 (dk_at dksX7_init_24 11 rfl rfl)
theorem dX7_init_581 : decode cX7_init 581 = .ok (.aload_n 0, 1) := dk_42 (dk_at dksX7_init_24 14 rfl rfl)
theorem dX7_init_582 : decode cX7_init 582 = .ok (.iconst 4, 1) := dk_7 (dk_at dksX7_init_24 15 rfl rfl)
theorem dX7_init_583 : decode cX7_init 583 = .ok (.newarray .int, 2) := dk_188_10 (dk_at dksX7_init_24 16 rfl rfl)
theorem dX7_init_585 : decode cX7_init 585 = .ok (.putfield 202, 3) := dk_181 0 202 (dk_at dksX7_init_24 18 rfl rfl)
theorem dX7_init_588 : decode cX7_init 588 = .ok (.aload_n 0, 1) := dk_42 (dk_at dksX7_init_24 21 rfl rfl)
theorem dX7_init_589 : decode cX7_init 589 = .ok (.sipush 6912, 3) := dk_17 27 0 (dk_at dksX7_init_25 0 rfl rfl)
theorem dX7_init_592 : decode cX7_init 592 = .ok (.newarray .int, 2) := dk_188_10 (dk_at dksX7_init_25 3 rfl rfl)
theorem dX7_init_594 : decode cX7_init 594 = .ok (.putfield 205, 3) := dk_181 0 205 (dk_at dksX7_init_25 5 rfl rfl)
theorem dX7_init_597 : decode cX7_init 597 = .ok (.aload_n 0, 1) := dk_42 (dk_at dksX7_init_25 8 rfl rfl)
theorem dX7_init_598 : decode cX7_init 598 = .ok (.iconst 5, 1) := dk_8 (dk_at dksX7_init_25 9 rfl rfl)
theorem dX7_init_599 : decode cX7_init 599 = .ok (.putfield 208, 3) := dk_181 0 208 (dk_at dksX7_init_25 10 rfl rfl)
theorem dX7_init_602 : decode cX7_init 602 = .ok (.iconst 0, 1) := dk_3 (dk_at dksX7_init_25 13 rfl rfl)
theorem dX7_init_603 : decode cX7_init 603 = .ok (.istore_n 1, 1) := dk_60 (dk_at dksX7_init_25 14 rfl rfl)
theorem dX7_init_604 : decode cX7_init 604 = .ok (.iload_n 1, 1) := dk_27 (dk_at dksX7_init_25 15 rfl rfl)
theorem dX7_init_605 : decode cX7_init 605 = .ok (.bipush 20, 2) := dk_16 20 (dk_at dksX7_init_25 16 rfl rfl)
theorem dX7_init_607 : decode cX7_init 607 = .ok (.if_icmp .ge 16, 3) := dk_162 0 16 (dk_at dksX7_init_25 18 rfl rfl)
theorem dX7_init_610 : decode cX7_init 610 = .ok (.aload_n 0, 1) := dk_42 (dk_at dksX7_init_25 21 rfl rfl)
theorem dX7_init_611 : decode cX7_init 611 = .ok (.getfield 136, 3) := dk_180 0 136 (dk_at dksX7_init_26 0 rfl rfl)
theorem dX7_init_614 : decode cX7_init 614 = .ok (.iload_n 1, 1) := dk_27 (dk_at dksX7_init_26 3 rfl rfl)
theorem dX7_init_615 : decode cX7_init 615 = .ok (.iconst (-1), 1) := dk_2 (dk_at dksX7_init_26 4 rfl rfl)
theorem dX7_init_616 : decode cX7_init 616 = .ok (.iastore, 1) := dk_79 (dk_at dksX7_init_26 5 rfl rfl)
theorem dX7_init_617 : decode cX7_init 617 = .ok (.iinc 1 1, 3) := dk_132 1 1 (dk_at dksX7_init_26 6 rfl rfl)
theorem dX7_init_620 : decode cX7_init 620 = .ok (.goto (-16), 3) := dk_167 255 240 (dk_at dksX7_init_26 9 rfl rfl)
theorem dX7_init_623 : decode cX7_init 623 = .ok (.iconst 0, 1) := dk_3 (dk_at dksX7_init_26 12 rfl rfl)
theorem dX7_init_624 : decode cX7_init 624 = .ok (.istore_n 1, 1) := dk_60 (dk_at dksX7_init_26 13 rfl rfl)
theorem dX7_init_625 : decode cX7_init 625 = .ok (.iload_n 1, 1) := dk_27 (dk_at dksX7_init_26 14 rfl rfl)
theorem dX7_init_626 : decode cX7_init 626 = .ok (.iconst 4, 1) := dk_7 (dk_at dksX7_init_26 15 rfl rfl)
theorem dX7_init_627 : decode cX7_init 627 = .ok (.if_icmp .ge 38, 3) := dk_162 0 38 (dk_at dksX7_init_26 16 rfl rfl)
theorem dX7_init_630 : decode cX7_init 630 = .ok (.aload_n 0, 1) := dk_42 (dk_at dksX7_init_26 19 rfl rfl)
theorem dX7_init_631 : decode cX7_init 631 = .ok (.getfield 172, 3) := dk_180 0 172 (dk_at dksX7_init_26 20 rfl rfl)
theorem dX7_init_634 : decode cX7_init 634 = .ok (.iload_n 1, 1) := dk_27 (dk_at dksX7_init_26 23 rfl rfl)
theorem dX7_init_635 : decode cX7_init 635 = .ok (.iconst (-1), 1) := dk_2 (dk_at dksX7_init_27 0 rfl rfl)
theorem dX7_init_636 : decode cX7_init 636 = .ok (.iastore, 1) := dk_79 (dk_at dksX7_init_27 1 rfl rfl)
theorem dX7_init_637 : decode cX7_init 637 = .ok (.aload_n 0, 1) := dk_42 (dk_at dksX7_init_27 2 rfl rfl)
theorem dX7_init_638 : decode cX7_init 638 = .ok (.getfield 175, 3) := dk_180 0 175 (dk_at dksX7_init_27 3 rfl rfl)
theorem dX7_init_641 : decode cX7_init 641 = .ok (.iload_n 1, 1) := dk_27 (dk_at dksX7_init_27 6 rfl rfl)
theorem dX7_init_642 : decode cX7_init 642 = .ok (.iconst 0, 1) := dk_3 (dk_at dksX7_init_27 7 rfl rfl)
theorem dX7_init_643 : decode cX7_init 643 = .ok (.iastore, 1) := dk_79 (dk_at dksX7_init_27 8 rfl rfl)
theorem dX7_init_644 : decode cX7_init 644 = .ok (.aload_n 0, 1) := dk_42 (dk_at dksX7_init_27 9 rfl rfl)
theorem dX7_init_645 : decode cX7_init 645 = .ok (.getfield 178, 3) := dk_180 0 178 (dk_at dksX7_init_27 10 rfl rfl)
theorem dX7_init_648 : decode cX7_init 648 = .ok (.iload_n 1, 1) := dk_27 (dk_at dksX7_init_27 13 rfl rfl)
theorem dX7_init_649 : decode cX7_init 649 = .ok (.bipush 11, 2) := dk_16 11 (dk_at dksX7_init_27 14 rfl rfl)
theorem dX7_init_651 : decode cX7_init 651 = .ok (.iastore, 1) := dk_79 (dk_at dksX7_init_27 16 rfl rfl)
theorem dX7_init_652 : decode cX7_init 652 = .ok (.aload_n 0, 1) := dk_42 (dk_at dksX7_init_27 17 rfl rfl)
theorem dX7_init_653 : decode cX7_init 653 = .ok (.getfield 181, 3) := dk_180 0 181 (dk_at dksX7_init_27 18 rfl rfl)
theorem dX7_init_656 : decode cX7_init 656 = .ok (.iload_n 1, 1) := dk_27 (dk_at dksX7_init_27 21 rfl rfl)
theorem dX7_init_657 : decode cX7_init 657 = .ok (.iconst (-1), 1) := dk_2 (dk_at dksX7_init_27 22 rfl rfl)
theorem dX7_init_658 : decode cX7_init 658 = .ok (.iastore, 1) := dk_79 (dk_at dksX7_init_27 23 rfl rfl)
theorem dX7_init_659 : decode cX7_init 659 = .ok (.iinc 1 1, 3) := dk_132 1 1 (dk_at dksX7_init_28 0 rfl rfl)
theorem dX7_init_662 : decode cX7_init 662 = .ok (.goto (-37), 3) := dk_167 255 219 (dk_at dksX7_init_28 3 rfl rfl)
theorem dX7_init_665 : decode cX7_init 665 = .ok (.return_, 1) := dk_177 (dk_at dksX7_init_28 6 rfl rfl)
def dkwX7_kitchen_3 : List UInt8 := [180, 0, 103, 27, 21, 4, 79, 42, 180, 0, 106, 27, 21, 5, 84, 4, 172]
abbrev dktX7_kitchen_3 : List UInt8 := dkwX7_kitchen_3 ++ []
def dkwX7_kitchen_2 : List UInt8 := [42, 180, 0, 93, 27, 4, 84, 42, 180, 0, 97, 27, 28, 79, 42, 180, 0, 100, 27, 29, 79, 42]
abbrev dktX7_kitchen_2 : List UInt8 := dkwX7_kitchen_2 ++ dktX7_kitchen_3
def dkwX7_kitchen_1 : List UInt8 := [29, 3, 17, 3, 231, 184, 0, 253, 153, 0, 14, 21, 4, 3, 16, 99, 184, 0, 253, 154, 0, 5, 3, 172]
abbrev dktX7_kitchen_1 : List UInt8 := dkwX7_kitchen_1 ++ dktX7_kitchen_2
def dkwX7_kitchen_0 : List UInt8 := [42, 3, 181, 0, 1, 27, 3, 16, 23, 184, 0, 253, 153, 0, 34, 28, 3, 4, 184, 0, 253, 153, 0, 25]
abbrev dktX7_kitchen_0 : List UInt8 := dkwX7_kitchen_0 ++ dktX7_kitchen_1
theorem dksX7_kitchen_0 : cX7_kitchen.data.toList.drop 0 = dktX7_kitchen_0 := by decide +kernel
theorem dksX7_kitchen_1 : cX7_kitchen.data.toList.drop 24 = dktX7_kitchen_1 := dk_seg dksX7_kitchen_0 24 rfl rfl
theorem dksX7_kitchen_2 : cX7_kitchen.data.toList.drop 48 = dktX7_kitchen_2 := dk_seg dksX7_kitchen_1 24 rfl rfl
theorem dksX7_kitchen_3 : cX7_kitchen.data.toList.drop 70 = dktX7_kitchen_3 := dk_seg dksX7_kitchen_2 22 rfl rfl
theorem dX7_kitchen_0 : decode cX7_kitchen 0 = .ok (.aload_n 0, 1) := dk_42 (dk_at dksX7_kitchen_0 0 rfl rfl)
theorem dX7_kitchen_1 : decode cX7_kitchen 1 = .ok (.iconst 0, 1) := dk_3 (dk_at dksX7_kitchen_0 1 rfl rfl)
theorem dX7_kitchen_2 : decode cX7_kitchen 2 = .ok (.putfield 1, 3) := dk_181 0 1 (dk_at dksX7_kitchen_0 2 rfl rfl)
theorem dX7_kitchen_5 : decode cX7_kitchen 5 = .ok (.iload_n 1, 1) := dk_27 (dk_at dksX7_kitchen_0 5 rfl rfl)
theorem dX7_kitchen_6 : decode cX7_kitchen 6 = .ok (.iconst 0, 1) := dk_3 (dk_at dksX7_kitchen_0 6 rfl rfl)
theorem dX7_kitchen_7 : decode cX7_kitchen 7 = .ok (.bipush 23, 2) := dk_16 23 (dk_at dksX7_kitchen_0 7 rfl rfl)
theorem dX7_kitchen_9 : decode cX7_kitchen 9 = .ok (.invokestatic 253, 3) := dk_184 0 253 (dk_at dksX7_kitchen_0 9 rfl rfl)
theorem dX7_kitchen_12 : decode cX7_kitchen 12 = .ok (.ifCond .eq 34, 3) := dk_153 0 34 (dk_at dksX7_kitchen_0 12 rfl rfl)
theorem dX7_kitchen_15 : decode cX7_kitchen 15 = .ok (.iload_n 2, 1) := dk_28 (dk_at dksX7_kitchen_0 15 rfl rfl)
theorem dX7_kitchen_16 : decode cX7_kitchen 16 = .ok (.iconst 0, 1) := dk_3 (dk_at dksX7_kitchen_0 16 rfl rfl)
theorem dX7_kitchen_17 : decode cX7_kitchen 17 = .ok (.iconst 1, 1) := dk_4 (dk_at dksX7_kitchen_0 17 rfl rfl)
theorem dX7_kitchen_18 : decode cX7_kitchen 18 = .ok (.invokestatic 253, 3) := dk_184 0 253 (dk_at dksX7_kitchen_0 18 rfl rfl)
theorem dX7_kitchen_21 : decode cX7_kitchen 21 = .ok (.ifCond .eq 25, 3) := dk_153 0 25 (dk_at dksX7_kitchen_0 21 rfl rfl)
theorem dX7_kitchen_24 : decode cX7_kitchen 24 = .ok (.iload_n 3, 1) := dk_29 (dk_at dksX7_kitchen_1 0 rfl rfl)
theorem dX7_kitchen_25 : decode cX7_kitchen 25 = .ok (.iconst 0, 1) := dk_3 (dk_at dksX7_kitchen_1 1 rfl rfl)
theorem dX7_kitchen_26 : decode cX7_kitchen 26 = .ok (.sipush 999, 3) := dk_17 3 231 (dk_at dksX7_kitchen_1 2 rfl rfl)
theorem dX7_kitchen_29 : decode cX7_kitchen 29 = .ok (.invokestatic 253, 3) := dk_184 0 253 (dk_at dksX7_kitchen_1 5 rfl rfl)
theorem dX7_kitchen_32 : decode cX7_kitchen 32 = .ok (.ifCond .eq 14, 3) := dk_153 0 14 (dk_at dksX7_kitchen_1 8 rfl rfl)
theorem dX7_kitchen_35 : decode cX7_kitchen 35 = .ok (.iload 4, 2) := dk_21 4 (dk_at dksX7_kitchen_1 11 rfl rfl)
theorem dX7_kitchen_37 : decode cX7_kitchen 37 = .ok (.iconst 0, 1) := dk_3 (dk_at dksX7_kitchen_1 13 rfl rfl)
theorem dX7_kitchen_38 : decode cX7_kitchen 38 = .ok (.bipush 99, 2) := dk_16 99 (dk_at dksX7_kitchen_1 14 rfl rfl)
theorem dX7_kitchen_40 : decode cX7_kitchen 40 = .ok (.invokestatic 253, 3) := dk_184 0 253 (dk_at dksX7_kitchen_1 16 rfl rfl)
theorem dX7_kitchen_43 : decode cX7_kitchen 43 = .ok (.ifCond .ne 5, 3) := dk_154 0 5 (dk_at dksX7_kitchen_1 19 rfl rfl)
theorem dX7_kitchen_46 : decode cX7_kitchen 46 = .ok (.iconst 0, 1) := dk_3 (dk_at dksX7_kitchen_1 22 rfl rfl)
theorem dX7_kitchen_47 : decode cX7_kitchen 47 = .ok (.ireturn, 1) := dk_172 (dk_at dksX7_kitchen_1 23 rfl rfl)
theorem dX7_kitchen_48 : decode cX7_kitchen 48 = .ok (.aload_n 0, 1) := dk_42 (dk_at dksX7_kitchen_2 0 rfl rfl)
theorem dX7_kitchen_49 : decode cX7_kitchen 49 = .ok (.getfield 93, 3) := dk_180 0 93 (dk_at dksX7_kitchen_2 1 rfl rfl)
theorem dX7_kitchen_52 : decode cX7_kitchen 52 = .ok (.iload_n 1, 1) := dk_27 (dk_at dksX7_kitchen_2 4 rfl rfl)
theorem dX7_kitchen_53 : decode cX7_kitchen 53 = .ok (.iconst 1, 1) := dk_4 (dk_at dksX7_kitchen_2 5 rfl rfl)
theorem dX7_kitchen_54 : decode cX7_kitchen 54 = .ok (.bastore, 1) := dk_84 (dk_at dksX7_kitchen_2 6 rfl rfl)
theorem dX7_kitchen_55 : decode cX7_kitchen 55 = .ok (.aload_n 0, 1) := dk_42 (dk_at dksX7_kitchen_2 7 rfl rfl)
theorem dX7_kitchen_56 : decode cX7_kitchen 56 = .ok (.getfield 97, 3) := dk_180 0 97 (dk_at dksX7_kitchen_2 8 rfl rfl)
theorem dX7_kitchen_59 : decode cX7_kitchen 59 = .ok (.iload_n 1, 1) := dk_27 (dk_at dksX7_kitchen_2 11 rfl rfl)
theorem dX7_kitchen_60 : decode cX7_kitchen 60 = .ok (.iload_n 2, 1) := dk_28 (dk_at dksX7_kitchen_2 12 rfl rfl)
theorem dX7_kitchen_61 : decode cX7_kitchen 61 = .ok (.iastore, 1) := dk_79 (dk_at dksX7_kitchen_2 13 rfl rfl)
theorem dX7_kitchen_62 : decode cX7_kitchen 62 = .ok (.aload_n 0, 1) := dk_42 (dk_at dksX7_kitchen_2 14 rfl rfl)
theorem dX7_kitchen_63 : decode cX7_kitchen 63 = .ok (.getfield 100, 3) := dk_180 0 100 (dk_at dksX7_kitchen_2 15 rfl rfl)
theorem dX7_kitchen_66 : decode cX7_kitchen 66 = .ok (.iload_n 1, 1) := dk_27 (dk_at dksX7_kitchen_2 18 rfl rfl)
theorem dX7_kitchen_67 : decode cX7_kitchen 67 = .ok (.iload_n 3, 1) := dk_29 (dk_at dksX7_kitchen_2 19 rfl rfl)
theorem dX7_kitchen_68 : decode cX7_kitchen 68 = .ok (.iastore, 1) := dk_79 (dk_at dksX7_kitchen_2 20 rfl rfl)
theorem dX7_kitchen_69 : decode cX7_kitchen 69 = .ok (.aload_n 0, 1) := dk_42 (dk_at dksX7_kitchen_2 21 rfl rfl)
theorem dX7_kitchen_70 : decode cX7_kitchen 70 = .ok (.getfield 103, 3) := dk_180 0 103 (dk_at dksX7_kitchen_3 0 rfl rfl)
theorem dX7_kitchen_73 : decode cX7_kitchen 73 = .ok (.iload_n 1, 1) := dk_27 (dk_at dksX7_kitchen_3 3 rfl rfl)
theorem dX7_kitchen_74 : decode cX7_kitchen 74 = .ok (.iload 4, 2) := dk_21 4 (dk_at dksX7_kitchen_3 4 rfl rfl)
theorem dX7_kitchen_76 : decode cX7_kitchen 76 = .ok (.iastore, 1) := dk_79 (dk_at dksX7_kitchen_3 6 rfl rfl)
theorem dX7_kitchen_77 : decode cX7_kitchen 77 = .ok (.aload_n 0, 1) := dk_42 (dk_at dksX7_kitchen_3 7 rfl rfl)
theorem dX7_kitchen_78 : decode cX7_kitchen 78 = .ok (.getfield 106, 3) := dk_180 0 106 (dk_at dksX7_kitchen_3 8 rfl rfl)
theorem dX7_kitchen_81 : decode cX7_kitchen 81 = .ok (.iload_n 1, 1) := dk_27 (dk_at dksX7_kitchen_3 11 rfl rfl)
theorem dX7_kitchen_82 : decode cX7_kitchen 82 = .ok (.iload 5, 2) := dk_21 5 (dk_at dksX7_kitchen_3 12 rfl rfl)
theorem dX7_kitchen_84 : decode cX7_kitchen 84 = .ok (.bastore, 1) := dk_84 (dk_at dksX7_kitchen_3 14 rfl rfl)
theorem dX7_kitchen_85 : decode cX7_kitchen 85 = .ok (.iconst 1, 1) := dk_4 (dk_at dksX7_kitchen_3 15 rfl rfl)
theorem dX7_kitchen_86 : decode cX7_kitchen 86 = .ok (.ireturn, 1) := dk_172 (dk_at dksX7_kitchen_3 16 rfl rfl)
def dkwX7_within_0 : List UInt8 := [26, 27, 161, 0, 12, 26, 28, 163, 0, 7, 4, 167, 0, 4, 3, 172]
abbrev dktX7_within_0 : List UInt8 := dkwX7_within_0 ++ []
theorem dksX7_within_0 : cX7_within.data.toList.drop 0 = dktX7_within_0 := by decide +kernel
theorem dX7_within_0 : decode cX7_within 0 = .ok (.iload_n 0, 1) := dk_26 (dk_at dksX7_within_0 0 rfl rfl)
theorem dX7_within_1 : decode cX7_within 1 = .ok (.iload_n 1, 1) := dk_27 (dk_at dksX7_within_0 1 rfl rfl)
theorem dX7_within_2 : decode cX7_within 2 = .ok (.if_icmp .lt 12, 3) := dk_161 0 12 (dk_at dksX7_within_0 2 rfl rfl)
theorem dX7_within_5 : decode cX7_within 5 = .ok (.iload_n 0, 1) := dk_26 (dk_at dksX7_within_0 5 rfl rfl)
theorem dX7_within_6 : decode cX7_within 6 = .ok (.iload_n 2, 1) := dk_28 (dk_at dksX7_within_0 6 rfl rfl)
theorem dX7_within_7 : decode cX7_within 7 = .ok (.if_icmp .gt 7, 3) := dk_163 0 7 (dk_at dksX7_within_0 7 rfl rfl)
theorem dX7_within_10 : decode cX7_within 10 = .ok (.iconst 1, 1) := dk_4 (dk_at dksX7_within_0 10 rfl rfl)
theorem dX7_within_11 : decode cX7_within 11 = .ok (.goto 4, 3) := dk_167 0 4 (dk_at dksX7_within_0 11 rfl rfl)
theorem dX7_within_14 : decode cX7_within 14 = .ok (.iconst 0, 1) := dk_3 (dk_at dksX7_within_0 14 rfl rfl)
theorem dX7_within_15 : decode cX7_within 15 = .ok (.ireturn, 1) := dk_172 (dk_at dksX7_within_0 15 rfl rfl)
def dkwX7_call_7 : List UInt8 := [154, 0, 8, 21, 6, 153, 0, 7, 3, 167, 0, 5, 21, 4, 79, 4, 172]
abbrev dktX7_call_7 : List UInt8 := dkwX7_call_7 ++ []
def dkwX7_call_6 : List UInt8 := [154, 0, 8, 21, 6, 153, 0, 7, 3, 167, 0, 4, 29, 79, 42, 180, 0, 121, 21, 7, 21, 5]
abbrev dktX7_call_6 : List UInt8 := dkwX7_call_6 ++ dktX7_call_7
def dkwX7_call_5 : List UInt8 := [167, 0, 13, 21, 6, 153, 0, 7, 3, 167, 0, 4, 4, 79, 42, 180, 0, 118, 21, 7, 21, 5]
abbrev dktX7_call_5 : List UInt8 := dkwX7_call_5 ++ dktX7_call_6
def dkwX7_call_4 : List UInt8 := [3, 172, 16, 12, 27, 104, 28, 96, 54, 7, 42, 180, 0, 115, 21, 7, 21, 5, 153, 0, 7, 5]
abbrev dktX7_call_4 : List UInt8 := dkwX7_call_4 ++ dktX7_call_5
def dkwX7_call_3 : List UInt8 := [154, 0, 26, 29, 3, 16, 99, 184, 0, 253, 153, 0, 14, 21, 4, 3, 16, 99, 184, 0, 253, 154, 0, 5]
abbrev dktX7_call_3 : List UInt8 := dkwX7_call_3 ++ dktX7_call_4
def dkwX7_call_2 : List UInt8 := [153, 0, 13, 21, 4, 2, 160, 0, 7, 4, 167, 0, 4, 3, 54, 6, 21, 5, 154, 0, 31, 21, 6]
abbrev dktX7_call_2 : List UInt8 := dkwX7_call_2 ++ dktX7_call_3
def dkwX7_call_1 : List UInt8 := [160, 0, 13, 21, 4, 2, 160, 0, 7, 4, 167, 0, 4, 3, 54, 5, 29, 3, 16, 99, 184, 0, 253]
abbrev dktX7_call_1 : List UInt8 := dkwX7_call_1 ++ dktX7_call_2
def dkwX7_call_0 : List UInt8 := [42, 3, 181, 0, 1, 42, 27, 182, 1, 1, 153, 0, 10, 28, 184, 1, 4, 154, 0, 5, 3, 172, 29, 2]
abbrev dktX7_call_0 : List UInt8 := dkwX7_call_0 ++ dktX7_call_1
theorem dksX7_call_0 : cX7_call.data.toList.drop 0 = dktX7_call_0 := by decide +kernel
theorem dksX7_call_1 : cX7_call.data.toList.drop 24 = dktX7_call_1 := dk_seg dksX7_call_0 24 rfl rfl
theorem dksX7_call_2 : cX7_call.data.toList.drop 47 = dktX7_call_2 := dk_seg dksX7_call_1 23 rfl rfl
theorem dksX7_call_3 : cX7_call.data.toList.drop 70 = dktX7_call_3 := dk_seg dksX7_call_2 23 rfl rfl
theorem dksX7_call_4 : cX7_call.data.toList.drop 94 = dktX7_call_4 := dk_seg dksX7_call_3 24 rfl rfl
theorem dksX7_call_5 : cX7_call.data.toList.drop 116 = dktX7_call_5 := dk_seg dksX7_call_4 22 rfl rfl
theorem dksX7_call_6 : cX7_call.data.toList.drop 138 = dktX7_call_6 := dk_seg dksX7_call_5 22 rfl rfl
theorem dksX7_call_7 : cX7_call.data.toList.drop 160 = dktX7_call_7 := dk_seg dksX7_call_6 22 rfl rfl
theorem dX7_call_0 : decode cX7_call 0 = .ok (.aload_n 0, 1) := dk_42 (dk_at dksX7_call_0 0 rfl rfl)
theorem dX7_call_1 : decode cX7_call 1 = .ok (.iconst 0, 1) := dk_3 (dk_at dksX7_call_0 1 rfl rfl)
theorem dX7_call_2 : decode cX7_call 2 = .ok (.putfield 1, 3) := dk_181 0 1 (dk_at dksX7_call_0 2 rfl rfl)
theorem dX7_call_5 : decode cX7_call 5 = .ok (.aload_n 0, 1) := dk_42 (dk_at dksX7_call_0 5 rfl rfl)
theorem dX7_call_6 : decode cX7_call 6 = .ok (.iload_n 1, 1) := dk_27 (dk_at dksX7_call_0 6 rfl rfl)
theorem dX7_call_7 : decode cX7_call 7 = .ok (.invokevirtual 257, 3) := dk_182 1 1 (dk_at dksX7_call_0 7 rfl rfl)
theorem dX7_call_10 : decode cX7_call 10 = .ok (.ifCond .eq 10, 3) := dk_153 0 10 (dk_at dksX7_call_0 10 rfl rfl)
theorem dX7_call_13 : decode cX7_call 13 = .ok (.iload_n 2, 1) := dk_28 (dk_at dksX7_call_0 13 rfl rfl)
theorem dX7_call_14 : decode cX7_call 14 = .ok (.invokestatic 260, 3) := dk_184 1 4 (dk_at dksX7_call_0 14 rfl rfl)
theorem dX7_call_17 : decode cX7_call 17 = .ok (.ifCond .ne 5, 3) := dk_154 0 5 (dk_at dksX7_call_0 17 rfl rfl)
theorem dX7_call_20 : decode cX7_call 20 = .ok (.iconst 0, 1) := dk_3 (dk_at dksX7_call_0 20 rfl rfl)
theorem dX7_call_21 : decode cX7_call 21 = .ok (.ireturn, 1) := dk_172 (dk_at dksX7_call_0 21 rfl rfl)
theorem dX7_call_22 : decode cX7_call 22 = .ok (.iload_n 3, 1) := dk_29 (dk_at dksX7_call_0 22 rfl rfl)
theorem dX7_call_23 : decode cX7_call 23 = .ok (.iconst (-1), 1) := dk_2 (dk_at dksX7_call_0 23 rfl rfl)
theorem dX7_call_24 : decode cX7_call 24 = .ok (.if_icmp .ne 13, 3) := dk_160 0 13 (dk_at dksX7_call_1 0 rfl rfl)
theorem dX7_call_27 : decode cX7_call 27 = .ok (.iload 4, 2) := dk_21 4 (dk_at dksX7_call_1 3 rfl rfl)
theorem dX7_call_29 : decode cX7_call 29 = .ok (.iconst (-1), 1) := dk_2 (dk_at dksX7_call_1 5 rfl rfl)
theorem dX7_call_30 : decode cX7_call 30 = .ok (.if_icmp .ne 7, 3) := dk_160 0 7 (dk_at dksX7_call_1 6 rfl rfl)
theorem dX7_call_33 : decode cX7_call 33 = .ok (.iconst 1, 1) := dk_4 (dk_at dksX7_call_1 9 rfl rfl)
theorem dX7_call_34 : decode cX7_call 34 = .ok (.goto 4, 3) := dk_167 0 4 (dk_at dksX7_call_1 10 rfl rfl)
theorem dX7_call_37 : decode cX7_call 37 = .ok (.iconst 0, 1) := dk_3 (dk_at dksX7_call_1 13 rfl rfl)
theorem dX7_call_38 : decode cX7_call 38 = .ok (.istore 5, 2) := dk_54 5 (dk_at dksX7_call_1 14 rfl rfl)
theorem dX7_call_40 : decode cX7_call 40 = .ok (.iload_n 3, 1) := dk_29 (dk_at dksX7_call_1 16 rfl rfl)
theorem dX7_call_41 : decode cX7_call 41 = .ok (.iconst 0, 1) := dk_3 (dk_at dksX7_call_1 17 rfl rfl)
theorem dX7_call_42 : decode cX7_call 42 = .ok (.bipush 99, 2) := dk_16 99 (dk_at dksX7_call_1 18 rfl rfl)
theorem dX7_call_44 : decode cX7_call 44 = .ok (.invokestatic 253, 3) := dk_184 0 253 (dk_at dksX7_call_1 20 rfl rfl)
theorem dX7_call_47 : decode cX7_call 47 = .ok (.ifCond .eq 13, 3) := dk_153 0 13 (dk_at dksX7_call_2 0 rfl rfl)
theorem dX7_call_50 : decode cX7_call 50 = .ok (.iload 4, 2) := dk_21 4 (dk_at dksX7_call_2 3 rfl rfl)
theorem dX7_call_52 : decode cX7_call 52 = .ok (.iconst (-1), 1) := dk_2 (dk_at dksX7_call_2 5 rfl rfl)
theorem dX7_call_53 : decode cX7_call 53 = .ok (.if_icmp .ne 7, 3) := dk_160 0 7 (dk_at dksX7_call_2 6 rfl rfl)
theorem dX7_call_56 : decode cX7_call 56 = .ok (.iconst 1, 1) := dk_4 (dk_at dksX7_call_2 9 rfl rfl)
theorem dX7_call_57 : decode cX7_call 57 = .ok (.goto 4, 3) := dk_167 0 4 (dk_at dksX7_call_2 10 rfl rfl)
theorem dX7_call_60 : decode cX7_call 60 = .ok (.iconst 0, 1) := dk_3 (dk_at dksX7_call_2 13 rfl rfl)
theorem dX7_call_61 : decode cX7_call 61 = .ok (.istore 6, 2) := dk_54 6 (dk_at dksX7_call_2 14 rfl rfl)
theorem dX7_call_63 : decode cX7_call 63 = .ok (.iload 5, 2) := dk_21 5 (dk_at dksX7_call_2 16 rfl rfl)
theorem dX7_call_65 : decode cX7_call 65 = .ok (.ifCond .ne 31, 3) := dk_154 0 31 (dk_at dksX7_call_2 18 rfl rfl)
theorem dX7_call_68 : decode cX7_call 68 = .ok (.iload 6, 2) := dk_21 6 (dk_at dksX7_call_2 21 rfl rfl)
theorem dX7_call_70 : decode cX7_call 70 = .ok (.ifCond .ne 26, 3) := dk_154 0 26 (dk_at dksX7_call_3 0 rfl rfl)
theorem dX7_call_73 : decode cX7_call 73 = .ok (.iload_n 3, 1) := dk_29 (dk_at dksX7_call_3 3 rfl rfl)
theorem dX7_call_74 : decode cX7_call 74 = .ok (.iconst 0, 1) := dk_3 (dk_at dksX7_call_3 4 rfl rfl)
theorem dX7_call_75 : decode cX7_call 75 = .ok (.bipush 99, 2) := dk_16 99 (dk_at dksX7_call_3 5 rfl rfl)
theorem dX7_call_77 : decode cX7_call 77 = .ok (.invokestatic 253, 3) := dk_184 0 253 (dk_at dksX7_call_3 7 rfl rfl)
theorem dX7_call_80 : decode cX7_call 80 = .ok (.ifCond .eq 14, 3) := dk_153 0 14 (dk_at dksX7_call_3 10 rfl rfl)
theorem dX7_call_83 : decode cX7_call 83 = .ok (.iload 4, 2) := dk_21 4 (dk_at dksX7_call_3 13 rfl rfl)
theorem dX7_call_85 : decode cX7_call 85 = .ok (.iconst 0, 1) := dk_3 (dk_at dksX7_call_3 15 rfl rfl)
theorem dX7_call_86 : decode cX7_call 86 = .ok (.bipush 99, 2) := dk_16 99 (dk_at dksX7_call_3 16 rfl rfl)
theorem dX7_call_88 : decode cX7_call 88 = .ok (.invokestatic 253, 3) := dk_184 0 253 (dk_at dksX7_call_3 18 rfl rfl)
theorem dX7_call_91 : decode cX7_call 91 = .ok (.ifCond .ne 5, 3) := dk_154 0 5 (dk_at dksX7_call_3 21 rfl rfl)
theorem dX7_call_94 : decode cX7_call 94 = .ok (.iconst 0, 1) := dk_3 (dk_at dksX7_call_4 0 rfl rfl)
theorem dX7_call_95 : decode cX7_call 95 = .ok (.ireturn, 1) := dk_172 (dk_at dksX7_call_4 1 rfl rfl)
theorem dX7_call_96 : decode cX7_call 96 = .ok (.bipush 12, 2) := dk_16 12 (dk_at dksX7_call_4 2 rfl rfl)
theorem dX7_call_98 : decode cX7_call 98 = .ok (.iload_n 1, 1) := dk_27 (dk_at dksX7_call_4 4 rfl rfl)
theorem dX7_call_99 : decode cX7_call 99 = .ok (.imul, 1) := dk_104 (dk_at dksX7_call_4 5 rfl rfl)
theorem dX7_call_100 : decode cX7_call 100 = .ok (.iload_n 2, 1) := dk_28 (dk_at dksX7_call_4 6 rfl rfl)
theorem dX7_call_101 : decode cX7_call 101 = .ok (.iadd, 1) := dk_96 (dk_at dksX7_call_4 7 rfl rfl)
theorem dX7_call_102 : decode cX7_call 102 = .ok (.istore 7, 2) := dk_54 7 (dk_at dksX7_call_4 8 rfl rfl)
theorem dX7_call_104 : decode cX7_call 104 = .ok (.aload_n 0, 1) := dk_42 (dk_at dksX7_call_4 10 rfl rfl)
theorem dX7_call_105 : decode cX7_call 105 = .ok (.getfield 115, 3) := dk_180 0 115 (dk_at dksX7_call_4 11 rfl rfl)
theorem dX7_call_108 : decode cX7_call 108 = .ok (.iload 7, 2) := dk_21 7 (dk_at dksX7_call_4 14 rfl rfl)
theorem dX7_call_110 : decode cX7_call 110 = .ok (.iload 5, 2) := dk_21 5 (dk_at dksX7_call_4 16 rfl rfl)
theorem dX7_call_112 : decode cX7_call 112 = .ok (.ifCond .eq 7, 3) := dk_153 0 7 (dk_at dksX7_call_4 18 rfl rfl)
theorem dX7_call_115 : decode cX7_call 115 = .ok (.iconst 2, 1) := dk_5 (dk_at dksX7_call_4 21 rfl rfl)
theorem dX7_call_116 : decode cX7_call 116 = .ok (.goto 13, 3) := dk_167 0 13 (dk_at dksX7_call_5 0 rfl rfl)
theorem dX7_call_119 : decode cX7_call 119 = .ok (.iload 6, 2) := dk_21 6 (dk_at dksX7_call_5 3 rfl rfl)
theorem dX7_call_121 : decode cX7_call 121 = .ok (.ifCond .eq 7, 3) := dk_153 0 7 (dk_at dksX7_call_5 5 rfl rfl)
theorem dX7_call_124 : decode cX7_call 124 = .ok (.iconst 0, 1) := dk_3 (dk_at dksX7_call_5 8 rfl rfl)
theorem dX7_call_125 : decode cX7_call 125 = .ok (.goto 4, 3) := dk_167 0 4 (dk_at dksX7_call_5 9 rfl rfl)
theorem dX7_call_128 : decode cX7_call 128 = .ok (.iconst 1, 1) := dk_4 (dk_at dksX7_call_5 12 rfl rfl)
theorem dX7_call_129 : decode cX7_call 129 = .ok (.iastore, 1) := dk_79 (dk_at dksX7_call_5 13 rfl rfl)
theorem dX7_call_130 : decode cX7_call 130 = .ok (.aload_n 0, 1) := dk_42 (dk_at dksX7_call_5 14 rfl rfl)
theorem dX7_call_131 : decode cX7_call 131 = .ok (.getfield 118, 3) := dk_180 0 118 (dk_at dksX7_call_5 15 rfl rfl)
theorem dX7_call_134 : decode cX7_call 134 = .ok (.iload 7, 2) := dk_21 7 (dk_at dksX7_call_5 18 rfl rfl)
theorem dX7_call_136 : decode cX7_call 136 = .ok (.iload 5, 2) := dk_21 5 (dk_at dksX7_call_5 20 rfl rfl)
theorem dX7_call_138 : decode cX7_call 138 = .ok (.ifCond .ne 8, 3) := dk_154 0 8 (dk_at dksX7_call_6 0 rfl rfl)
theorem dX7_call_141 : decode cX7_call 141 = .ok (.iload 6, 2) := dk_21 6 (dk_at dksX7_call_6 3 rfl rfl)
theorem dX7_call_143 : decode cX7_call 143 = .ok (.ifCond .eq 7, 3) := dk_153 0 7 (dk_at dksX7_call_6 5 rfl rfl)
theorem dX7_call_146 : decode cX7_call 146 = .ok (.iconst 0, 1) := dk_3 (dk_at dksX7_call_6 8 rfl rfl)
theorem dX7_call_147 : decode cX7_call 147 = .ok (.goto 4, 3) := dk_167 0 4 (dk_at dksX7_call_6 9 rfl rfl)
theorem dX7_call_150 : decode cX7_call 150 = .ok (.iload_n 3, 1) := dk_29 (dk_at dksX7_call_6 12 rfl rfl)
theorem dX7_call_151 : decode cX7_call 151 = .ok (.iastore, 1) := dk_79 (dk_at dksX7_call_6 13 rfl rfl)
theorem dX7_call_152 : decode cX7_call 152 = .ok (.aload_n 0, 1) := dk_42 (dk_at dksX7_call_6 14 rfl rfl)
theorem dX7_call_153 : decode cX7_call 153 = .ok (.getfield 121, 3) := dk_180 0 121 (dk_at dksX7_call_6 15 rfl rfl)
theorem dX7_call_156 : decode cX7_call 156 = .ok (.iload 7, 2) := dk_21 7 (dk_at dksX7_call_6 18 rfl rfl)
theorem dX7_call_158 : decode cX7_call 158 = .ok (.iload 5, 2) := dk_21 5 (dk_at dksX7_call_6 20 rfl rfl)
theorem dX7_call_160 : decode cX7_call 160 = .ok (.ifCond .ne 8, 3) := dk_154 0 8 (dk_at dksX7_call_7 0 rfl rfl)
theorem dX7_call_163 : decode cX7_call 163 = .ok (.iload 6, 2) := dk_21 6 (dk_at dksX7_call_7 3 rfl rfl)
theorem dX7_call_165 : decode cX7_call 165 = .ok (.ifCond .eq 7, 3) := dk_153 0 7 (dk_at dksX7_call_7 5 rfl rfl)
theorem dX7_call_168 : decode cX7_call 168 = .ok (.iconst 0, 1) := dk_3 (dk_at dksX7_call_7 8 rfl rfl)
theorem dX7_call_169 : decode cX7_call 169 = .ok (.goto 5, 3) := dk_167 0 5 (dk_at dksX7_call_7 9 rfl rfl)
theorem dX7_call_172 : decode cX7_call 172 = .ok (.iload 4, 2) := dk_21 4 (dk_at dksX7_call_7 12 rfl rfl)
theorem dX7_call_174 : decode cX7_call 174 = .ok (.iastore, 1) := dk_79 (dk_at dksX7_call_7 14 rfl rfl)
theorem dX7_call_175 : decode cX7_call 175 = .ok (.iconst 1, 1) := dk_4 (dk_at dksX7_call_7 15 rfl rfl)
theorem dX7_call_176 : decode cX7_call 176 = .ok (.ireturn, 1) := dk_172 (dk_at dksX7_call_7 16 rfl rfl)
def dkwX7_isKitchen_1 : List UInt8 := [172]
abbrev dktX7_isKitchen_1 : List UInt8 := dkwX7_isKitchen_1 ++ []
def dkwX7_isKitchen_0 : List UInt8 := [27, 3, 16, 23, 184, 0, 253, 153, 0, 16, 42, 180, 0, 93, 27, 51, 153, 0, 7, 4, 167, 0, 4, 3]
abbrev dktX7_isKitchen_0 : List UInt8 := dkwX7_isKitchen_0 ++ dktX7_isKitchen_1
theorem dksX7_isKitchen_0 : cX7_isKitchen.data.toList.drop 0 = dktX7_isKitchen_0 := by decide +kernel
theorem dksX7_isKitchen_1 : cX7_isKitchen.data.toList.drop 24 = dktX7_isKitchen_1 := dk_seg dksX7_isKitchen_0 24 rfl rfl
theorem dX7_isKitchen_0 : decode cX7_isKitchen 0 = .ok (.iload_n 1, 1) := dk_27 (dk_at dksX7_isKitchen_0 0 rfl rfl)
theorem dX7_isKitchen_1 : decode cX7_isKitchen 1 = .ok (.iconst 0, 1) := dk_3 (dk_at dksX7_isKitchen_0 1 rfl rfl)
theorem dX7_isKitchen_2 : decode cX7_isKitchen 2 = .ok (.bipush 23, 2) := dk_16 23 (dk_at dksX7_isKitchen_0 2 rfl rfl)
theorem dX7_isKitchen_4 : decode cX7_isKitchen 4 = .ok (.invokestatic 253, 3) := dk_184 0 253 (dk_at dksX7_isKitchen_0 4 rfl rfl)
theorem dX7_isKitchen_7 : decode cX7_isKitchen 7 = .ok (.ifCond .eq 16, 3) := dk_153 0 16 (dk_at dksX7_isKitchen_0 7 rfl rfl)
theorem dX7_isKitchen_10 : decode cX7_isKitchen 10 = .ok (.aload_n 0, 1) := dk_42 (dk_at dksX7_isKitchen_0 10 rfl rfl)
theorem dX7_isKitchen_11 : decode cX7_isKitchen 11 = .ok (.getfield 93, 3) := dk_180 0 93 (dk_at dksX7_isKitchen_0 11 rfl rfl)
theorem dX7_isKitchen_14 : decode cX7_isKitchen 14 = .ok (.iload_n 1, 1) := dk_27 (dk_at dksX7_isKitchen_0 14 rfl rfl)
theorem dX7_isKitchen_15 : decode cX7_isKitchen 15 = .ok (.baload, 1) := dk_51 (dk_at dksX7_isKitchen_0 15 rfl rfl)
theorem dX7_isKitchen_16 : decode cX7_isKitchen 16 = .ok (.ifCond .eq 7, 3) := dk_153 0 7 (dk_at dksX7_isKitchen_0 16 rfl rfl)
theorem dX7_isKitchen_19 : decode cX7_isKitchen 19 = .ok (.iconst 1, 1) := dk_4 (dk_at dksX7_isKitchen_0 19 rfl rfl)
theorem dX7_isKitchen_20 : decode cX7_isKitchen 20 = .ok (.goto 4, 3) := dk_167 0 4 (dk_at dksX7_isKitchen_0 20 rfl rfl)
theorem dX7_isKitchen_23 : decode cX7_isKitchen 23 = .ok (.iconst 0, 1) := dk_3 (dk_at dksX7_isKitchen_0 23 rfl rfl)
theorem dX7_isKitchen_24 : decode cX7_isKitchen 24 = .ok (.ireturn, 1) := dk_172 (dk_at dksX7_isKitchen_1 0 rfl rfl)
def dkwX7_isMonth_0 : List UInt8 := [26, 3, 16, 11, 184, 0, 253, 172]
abbrev dktX7_isMonth_0 : List UInt8 := dkwX7_isMonth_0 ++ []
theorem dksX7_isMonth_0 : cX7_isMonth.data.toList.drop 0 = dktX7_isMonth_0 := by decide +kernel
theorem dX7_isMonth_0 : decode cX7_isMonth 0 = .ok (.iload_n 0, 1) := dk_26 (dk_at dksX7_isMonth_0 0 rfl rfl)
theorem dX7_isMonth_1 : decode cX7_isMonth 1 = .ok (.iconst 0, 1) := dk_3 (dk_at dksX7_isMonth_0 1 rfl rfl)
theorem dX7_isMonth_2 : decode cX7_isMonth 2 = .ok (.bipush 11, 2) := dk_16 11 (dk_at dksX7_isMonth_0 2 rfl rfl)
theorem dX7_isMonth_4 : decode cX7_isMonth 4 = .ok (.invokestatic 253, 3) := dk_184 0 253 (dk_at dksX7_isMonth_0 4 rfl rfl)
theorem dX7_isMonth_7 : decode cX7_isMonth 7 = .ok (.ireturn, 1) := dk_172 (dk_at dksX7_isMonth_0 7 rfl rfl)
def dkwX7_sheet_3 : List UInt8 := [21, 5, 21, 4, 79, 4, 172]
abbrev dktX7_sheet_3 : List UInt8 := dkwX7_sheet_3 ++ []
def dkwX7_sheet_2 : List UInt8 := [96, 54, 5, 42, 180, 0, 124, 21, 5, 4, 79, 42, 180, 0, 127, 21, 5, 29, 79, 42, 180, 0, 130]
abbrev dktX7_sheet_2 : List UInt8 := dkwX7_sheet_2 ++ dktX7_sheet_3
def dkwX7_sheet_1 : List UInt8 := [184, 0, 253, 153, 0, 14, 21, 4, 3, 16, 99, 184, 0, 253, 154, 0, 5, 3, 172, 16, 12, 27, 104, 28]
abbrev dktX7_sheet_1 : List UInt8 := dkwX7_sheet_1 ++ dktX7_sheet_2
def dkwX7_sheet_0 : List UInt8 := [42, 3, 181, 0, 1, 42, 27, 182, 1, 1, 153, 0, 31, 28, 184, 1, 4, 153, 0, 24, 29, 3, 16, 99]
abbrev dktX7_sheet_0 : List UInt8 := dkwX7_sheet_0 ++ dktX7_sheet_1
theorem dksX7_sheet_0 : cX7_sheet.data.toList.drop 0 = dktX7_sheet_0 := by decide +kernel
theorem dksX7_sheet_1 : cX7_sheet.data.toList.drop 24 = dktX7_sheet_1 := dk_seg dksX7_sheet_0 24 rfl rfl
theorem dksX7_sheet_2 : cX7_sheet.data.toList.drop 48 = dktX7_sheet_2 := dk_seg dksX7_sheet_1 24 rfl rfl
theorem dksX7_sheet_3 : cX7_sheet.data.toList.drop 71 = dktX7_sheet_3 := dk_seg dksX7_sheet_2 23 rfl rfl
theorem dX7_sheet_0 : decode cX7_sheet 0 = .ok (.aload_n 0, 1) := dk_42 (dk_at dksX7_sheet_0 0 rfl rfl)
theorem dX7_sheet_1 : decode cX7_sheet 1 = .ok (.iconst 0, 1) := dk_3 (dk_at dksX7_sheet_0 1 rfl rfl)
theorem dX7_sheet_2 : decode cX7_sheet 2 = .ok (.putfield 1, 3) := dk_181 0 1 (dk_at dksX7_sheet_0 2 rfl rfl)
theorem dX7_sheet_5 : decode cX7_sheet 5 = .ok (.aload_n 0, 1) := dk_42 (dk_at dksX7_sheet_0 5 rfl rfl)
theorem dX7_sheet_6 : decode cX7_sheet 6 = .ok (.iload_n 1, 1) := dk_27 (dk_at dksX7_sheet_0 6 rfl rfl)
theorem dX7_sheet_7 : decode cX7_sheet 7 = .ok (.invokevirtual 257, 3) := dk_182 1 1 (dk_at dksX7_sheet_0 7 rfl rfl)
theorem dX7_sheet_10 : decode cX7_sheet 10 = .ok (.ifCond .eq 31, 3) := dk_153 0 31 (dk_at dksX7_sheet_0 10 rfl rfl)
theorem dX7_sheet_13 : decode cX7_sheet 13 = .ok (.iload_n 2, 1) := dk_28 (dk_at dksX7_sheet_0 13 rfl rfl)
theorem dX7_sheet_14 : decode cX7_sheet 14 = .ok (.invokestatic 260, 3) := dk_184 1 4 (dk_at dksX7_sheet_0 14 rfl rfl)
theorem dX7_sheet_17 : decode cX7_sheet 17 = .ok (.ifCond .eq 24, 3) := dk_153 0 24 (dk_at dksX7_sheet_0 17 rfl rfl)
theorem dX7_sheet_20 : decode cX7_sheet 20 = .ok (.iload_n 3, 1) := dk_29 (dk_at dksX7_sheet_0 20 rfl rfl)
theorem dX7_sheet_21 : decode cX7_sheet 21 = .ok (.iconst 0, 1) := dk_3 (dk_at dksX7_sheet_0 21 rfl rfl)
theorem dX7_sheet_22 : decode cX7_sheet 22 = .ok (.bipush 99, 2) := dk_16 99 (dk_at dksX7_sheet_0 22 rfl rfl)
theorem dX7_sheet_24 : decode cX7_sheet 24 = .ok (.invokestatic 253, 3) := dk_184 0 253 (dk_at dksX7_sheet_1 0 rfl rfl)
theorem dX7_sheet_27 : decode cX7_sheet 27 = .ok (.ifCond .eq 14, 3) := dk_153 0 14 (dk_at dksX7_sheet_1 3 rfl rfl)
theorem dX7_sheet_30 : decode cX7_sheet 30 = .ok (.iload 4, 2) := dk_21 4 (dk_at dksX7_sheet_1 6 rfl rfl)
theorem dX7_sheet_32 : decode cX7_sheet 32 = .ok (.iconst 0, 1) := dk_3 (dk_at dksX7_sheet_1 8 rfl rfl)
theorem dX7_sheet_33 : decode cX7_sheet 33 = .ok (.bipush 99, 2) := dk_16 99 (dk_at dksX7_sheet_1 9 rfl rfl)
theorem dX7_sheet_35 : decode cX7_sheet 35 = .ok (.invokestatic 253, 3) := dk_184 0 253 (dk_at dksX7_sheet_1 11 rfl rfl)
theorem dX7_sheet_38 : decode cX7_sheet 38 = .ok (.ifCond .ne 5, 3) := dk_154 0 5 (dk_at dksX7_sheet_1 14 rfl rfl)
theorem dX7_sheet_41 : decode cX7_sheet 41 = .ok (.iconst 0, 1) := dk_3 (dk_at dksX7_sheet_1 17 rfl rfl)
theorem dX7_sheet_42 : decode cX7_sheet 42 = .ok (.ireturn, 1) := dk_172 (dk_at dksX7_sheet_1 18 rfl rfl)
theorem dX7_sheet_43 : decode cX7_sheet 43 = .ok (.bipush 12, 2) := dk_16 12 (dk_at dksX7_sheet_1 19 rfl rfl)
theorem dX7_sheet_45 : decode cX7_sheet 45 = .ok (.iload_n 1, 1) := dk_27 (dk_at dksX7_sheet_1 21 rfl rfl)
theorem dX7_sheet_46 : decode cX7_sheet 46 = .ok (.imul, 1) := dk_104 (dk_at dksX7_sheet_1 22 rfl rfl)
theorem dX7_sheet_47 : decode cX7_sheet 47 = .ok (.iload_n 2, 1) := dk_28 (dk_at dksX7_sheet_1 23 rfl rfl)
theorem dX7_sheet_48 : decode cX7_sheet 48 = .ok (.iadd, 1) := dk_96 (dk_at dksX7_sheet_2 0 rfl rfl)
theorem dX7_sheet_49 : decode cX7_sheet 49 = .ok (.istore 5, 2) := dk_54 5 (dk_at dksX7_sheet_2 1 rfl rfl)
theorem dX7_sheet_51 : decode cX7_sheet 51 = .ok (.aload_n 0, 1) := dk_42 (dk_at dksX7_sheet_2 3 rfl rfl)
theorem dX7_sheet_52 : decode cX7_sheet 52 = .ok (.getfield 124, 3) := dk_180 0 124 (dk_at dksX7_sheet_2 4 rfl rfl)
theorem dX7_sheet_55 : decode cX7_sheet 55 = .ok (.iload 5, 2) := dk_21 5 (dk_at dksX7_sheet_2 7 rfl rfl)
theorem dX7_sheet_57 : decode cX7_sheet 57 = .ok (.iconst 1, 1) := dk_4 (dk_at dksX7_sheet_2 9 rfl rfl)
theorem dX7_sheet_58 : decode cX7_sheet 58 = .ok (.iastore, 1) := dk_79 (dk_at dksX7_sheet_2 10 rfl rfl)
theorem dX7_sheet_59 : decode cX7_sheet 59 = .ok (.aload_n 0, 1) := dk_42 (dk_at dksX7_sheet_2 11 rfl rfl)
theorem dX7_sheet_60 : decode cX7_sheet 60 = .ok (.getfield 127, 3) := dk_180 0 127 (dk_at dksX7_sheet_2 12 rfl rfl)
theorem dX7_sheet_63 : decode cX7_sheet 63 = .ok (.iload 5, 2) := dk_21 5 (dk_at dksX7_sheet_2 15 rfl rfl)
theorem dX7_sheet_65 : decode cX7_sheet 65 = .ok (.iload_n 3, 1) := dk_29 (dk_at dksX7_sheet_2 17 rfl rfl)
theorem dX7_sheet_66 : decode cX7_sheet 66 = .ok (.iastore, 1) := dk_79 (dk_at dksX7_sheet_2 18 rfl rfl)
theorem dX7_sheet_67 : decode cX7_sheet 67 = .ok (.aload_n 0, 1) := dk_42 (dk_at dksX7_sheet_2 19 rfl rfl)
theorem dX7_sheet_68 : decode cX7_sheet 68 = .ok (.getfield 130, 3) := dk_180 0 130 (dk_at dksX7_sheet_2 20 rfl rfl)
theorem dX7_sheet_71 : decode cX7_sheet 71 = .ok (.iload 5, 2) := dk_21 5 (dk_at dksX7_sheet_3 0 rfl rfl)
theorem dX7_sheet_73 : decode cX7_sheet 73 = .ok (.iload 4, 2) := dk_21 4 (dk_at dksX7_sheet_3 2 rfl rfl)
theorem dX7_sheet_75 : decode cX7_sheet 75 = .ok (.iastore, 1) := dk_79 (dk_at dksX7_sheet_3 4 rfl rfl)
theorem dX7_sheet_76 : decode cX7_sheet 76 = .ok (.iconst 1, 1) := dk_4 (dk_at dksX7_sheet_3 5 rfl rfl)
theorem dX7_sheet_77 : decode cX7_sheet 77 = .ok (.ireturn, 1) := dk_172 (dk_at dksX7_sheet_3 6 rfl rfl)
def dkwX7_tenths_0 : List UInt8 := [42, 3, 181, 0, 1, 27, 3, 16, 10, 184, 0, 253, 154, 0, 5, 3, 172, 42, 27, 181, 0, 208, 4, 172]
abbrev dktX7_tenths_0 : List UInt8 := dkwX7_tenths_0 ++ []
theorem dksX7_tenths_0 : cX7_tenths.data.toList.drop 0 = dktX7_tenths_0 := by decide +kernel
theorem dX7_tenths_0 : decode cX7_tenths 0 = .ok (.aload_n 0, 1) := dk_42 (dk_at dksX7_tenths_0 0 rfl rfl)
theorem dX7_tenths_1 : decode cX7_tenths 1 = .ok (.iconst 0, 1) := dk_3 (dk_at dksX7_tenths_0 1 rfl rfl)
theorem dX7_tenths_2 : decode cX7_tenths 2 = .ok (.putfield 1, 3) := dk_181 0 1 (dk_at dksX7_tenths_0 2 rfl rfl)
theorem dX7_tenths_5 : decode cX7_tenths 5 = .ok (.iload_n 1, 1) := dk_27 (dk_at dksX7_tenths_0 5 rfl rfl)
theorem dX7_tenths_6 : decode cX7_tenths 6 = .ok (.iconst 0, 1) := dk_3 (dk_at dksX7_tenths_0 6 rfl rfl)
theorem dX7_tenths_7 : decode cX7_tenths 7 = .ok (.bipush 10, 2) := dk_16 10 (dk_at dksX7_tenths_0 7 rfl rfl)
theorem dX7_tenths_9 : decode cX7_tenths 9 = .ok (.invokestatic 253, 3) := dk_184 0 253 (dk_at dksX7_tenths_0 9 rfl rfl)
theorem dX7_tenths_12 : decode cX7_tenths 12 = .ok (.ifCond .ne 5, 3) := dk_154 0 5 (dk_at dksX7_tenths_0 12 rfl rfl)
theorem dX7_tenths_15 : decode cX7_tenths 15 = .ok (.iconst 0, 1) := dk_3 (dk_at dksX7_tenths_0 15 rfl rfl)
theorem dX7_tenths_16 : decode cX7_tenths 16 = .ok (.ireturn, 1) := dk_172 (dk_at dksX7_tenths_0 16 rfl rfl)
theorem dX7_tenths_17 : decode cX7_tenths 17 = .ok (.aload_n 0, 1) := dk_42 (dk_at dksX7_tenths_0 17 rfl rfl)
theorem dX7_tenths_18 : decode cX7_tenths 18 = .ok (.iload_n 1, 1) := dk_27 (dk_at dksX7_tenths_0 18 rfl rfl)
theorem dX7_tenths_19 : decode cX7_tenths 19 = .ok (.putfield 208, 3) := dk_181 0 208 (dk_at dksX7_tenths_0 19 rfl rfl)
theorem dX7_tenths_22 : decode cX7_tenths 22 = .ok (.iconst 1, 1) := dk_4 (dk_at dksX7_tenths_0 22 rfl rfl)
theorem dX7_tenths_23 : decode cX7_tenths 23 = .ok (.ireturn, 1) := dk_172 (dk_at dksX7_tenths_0 23 rfl rfl)
def dkwX7_floor_3 : List UInt8 := [180, 0, 112, 16, 12, 27, 104, 21, 5, 96, 21, 4, 79, 132, 5, 1, 167, 255, 219, 4, 172]
abbrev dktX7_floor_3 : List UInt8 := dkwX7_floor_3 ++ []
def dkwX7_floor_2 : List UInt8 := [54, 5, 21, 5, 16, 12, 162, 0, 36, 42, 180, 0, 109, 16, 12, 27, 104, 21, 5, 96, 29, 79, 42]
abbrev dktX7_floor_2 : List UInt8 := dkwX7_floor_2 ++ dktX7_floor_3
def dkwX7_floor_1 : List UInt8 := [17, 3, 231, 184, 0, 253, 153, 0, 15, 21, 4, 16, 157, 16, 99, 184, 0, 253, 154, 0, 5, 3, 172, 28]
abbrev dktX7_floor_1 : List UInt8 := dkwX7_floor_1 ++ dktX7_floor_2
def dkwX7_floor_0 : List UInt8 := [42, 3, 181, 0, 1, 27, 3, 4, 184, 0, 253, 153, 0, 33, 28, 184, 1, 4, 153, 0, 26, 29, 3]
abbrev dktX7_floor_0 : List UInt8 := dkwX7_floor_0 ++ dktX7_floor_1
theorem dksX7_floor_0 : cX7_floor.data.toList.drop 0 = dktX7_floor_0 := by decide +kernel
theorem dksX7_floor_1 : cX7_floor.data.toList.drop 23 = dktX7_floor_1 := dk_seg dksX7_floor_0 23 rfl rfl
theorem dksX7_floor_2 : cX7_floor.data.toList.drop 47 = dktX7_floor_2 := dk_seg dksX7_floor_1 24 rfl rfl
theorem dksX7_floor_3 : cX7_floor.data.toList.drop 70 = dktX7_floor_3 := dk_seg dksX7_floor_2 23 rfl rfl
theorem dX7_floor_0 : decode cX7_floor 0 = .ok (.aload_n 0, 1) := dk_42 (dk_at dksX7_floor_0 0 rfl rfl)
theorem dX7_floor_1 : decode cX7_floor 1 = .ok (.iconst 0, 1) := dk_3 (dk_at dksX7_floor_0 1 rfl rfl)
theorem dX7_floor_2 : decode cX7_floor 2 = .ok (.putfield 1, 3) := dk_181 0 1 (dk_at dksX7_floor_0 2 rfl rfl)
theorem dX7_floor_5 : decode cX7_floor 5 = .ok (.iload_n 1, 1) := dk_27 (dk_at dksX7_floor_0 5 rfl rfl)
theorem dX7_floor_6 : decode cX7_floor 6 = .ok (.iconst 0, 1) := dk_3 (dk_at dksX7_floor_0 6 rfl rfl)
theorem dX7_floor_7 : decode cX7_floor 7 = .ok (.iconst 1, 1) := dk_4 (dk_at dksX7_floor_0 7 rfl rfl)
theorem dX7_floor_8 : decode cX7_floor 8 = .ok (.invokestatic 253, 3) := dk_184 0 253 (dk_at dksX7_floor_0 8 rfl rfl)
theorem dX7_floor_11 : decode cX7_floor 11 = .ok (.ifCond .eq 33, 3) := dk_153 0 33 (dk_at dksX7_floor_0 11 rfl rfl)
theorem dX7_floor_14 : decode cX7_floor 14 = .ok (.iload_n 2, 1) := dk_28 (dk_at dksX7_floor_0 14 rfl rfl)
theorem dX7_floor_15 : decode cX7_floor 15 = .ok (.invokestatic 260, 3) := dk_184 1 4 (dk_at dksX7_floor_0 15 rfl rfl)
theorem dX7_floor_18 : decode cX7_floor 18 = .ok (.ifCond .eq 26, 3) := dk_153 0 26 (dk_at dksX7_floor_0 18 rfl rfl)
theorem dX7_floor_21 : decode cX7_floor 21 = .ok (.iload_n 3, 1) := dk_29 (dk_at dksX7_floor_0 21 rfl rfl)
theorem dX7_floor_22 : decode cX7_floor 22 = .ok (.iconst 0, 1) := dk_3 (dk_at dksX7_floor_0 22 rfl rfl)
theorem dX7_floor_23 : decode cX7_floor 23 = .ok (.sipush 999, 3) := dk_17 3 231 (dk_at dksX7_floor_1 0 rfl rfl)
theorem dX7_floor_26 : decode cX7_floor 26 = .ok (.invokestatic 253, 3) := dk_184 0 253 (dk_at dksX7_floor_1 3 rfl rfl)
theorem dX7_floor_29 : decode cX7_floor 29 = .ok (.ifCond .eq 15, 3) := dk_153 0 15 (dk_at dksX7_floor_1 6 rfl rfl)
theorem dX7_floor_32 : decode cX7_floor 32 = .ok (.iload 4, 2) := dk_21 4 (dk_at dksX7_floor_1 9 rfl rfl)
theorem dX7_floor_34 : decode cX7_floor 34 = .ok (.bipush (-99), 2) := dk_16 157 (dk_at dksX7_floor_1 11 rfl rfl)
theorem dX7_floor_36 : decode cX7_floor 36 = .ok (.bipush 99, 2) := dk_16 99 (dk_at dksX7_floor_1 13 rfl rfl)
theorem dX7_floor_38 : decode cX7_floor 38 = .ok (.invokestatic 253, 3) := dk_184 0 253 (dk_at dksX7_floor_1 15 rfl rfl)
theorem dX7_floor_41 : decode cX7_floor 41 = .ok (.ifCond .ne 5, 3) := dk_154 0 5 (dk_at dksX7_floor_1 18 rfl rfl)
theorem dX7_floor_44 : decode cX7_floor 44 = .ok (.iconst 0, 1) := dk_3 (dk_at dksX7_floor_1 21 rfl rfl)
theorem dX7_floor_45 : decode cX7_floor 45 = .ok (.ireturn, 1) := dk_172 (dk_at dksX7_floor_1 22 rfl rfl)
theorem dX7_floor_46 : decode cX7_floor 46 = .ok (.iload_n 2, 1) := dk_28 (dk_at dksX7_floor_1 23 rfl rfl)
theorem dX7_floor_47 : decode cX7_floor 47 = .ok (.istore 5, 2) := dk_54 5 (dk_at dksX7_floor_2 0 rfl rfl)
theorem dX7_floor_49 : decode cX7_floor 49 = .ok (.iload 5, 2) := dk_21 5 (dk_at dksX7_floor_2 2 rfl rfl)
theorem dX7_floor_51 : decode cX7_floor 51 = .ok (.bipush 12, 2) := dk_16 12 (dk_at dksX7_floor_2 4 rfl rfl)
theorem dX7_floor_53 : decode cX7_floor 53 = .ok (.if_icmp .ge 36, 3) := dk_162 0 36 (dk_at dksX7_floor_2 6 rfl rfl)
theorem dX7_floor_56 : decode cX7_floor 56 = .ok (.aload_n 0, 1) := dk_42 (dk_at dksX7_floor_2 9 rfl rfl)
theorem dX7_floor_57 : decode cX7_floor 57 = .ok (.getfield 109, 3) := dk_180 0 109 (dk_at dksX7_floor_2 10 rfl rfl)
theorem dX7_floor_60 : decode cX7_floor 60 = .ok (.bipush 12, 2) := dk_16 12 (dk_at dksX7_floor_2 13 rfl rfl)
theorem dX7_floor_62 : decode cX7_floor 62 = .ok (.iload_n 1, 1) := dk_27 (dk_at dksX7_floor_2 15 rfl rfl)
theorem dX7_floor_63 : decode cX7_floor 63 = .ok (.imul, 1) := dk_104 (dk_at dksX7_floor_2 16 rfl rfl)
theorem dX7_floor_64 : decode cX7_floor 64 = .ok (.iload 5, 2) := dk_21 5 (dk_at dksX7_floor_2 17 rfl rfl)
theorem dX7_floor_66 : decode cX7_floor 66 = .ok (.iadd, 1) := dk_96 (dk_at dksX7_floor_2 19 rfl rfl)
theorem dX7_floor_67 : decode cX7_floor 67 = .ok (.iload_n 3, 1) := dk_29 (dk_at dksX7_floor_2 20 rfl rfl)
theorem dX7_floor_68 : decode cX7_floor 68 = .ok (.iastore, 1) := dk_79 (dk_at dksX7_floor_2 21 rfl rfl)
theorem dX7_floor_69 : decode cX7_floor 69 = .ok (.aload_n 0, 1) := dk_42 (dk_at dksX7_floor_2 22 rfl rfl)
theorem dX7_floor_70 : decode cX7_floor 70 = .ok (.getfield 112, 3) := dk_180 0 112 (dk_at dksX7_floor_3 0 rfl rfl)
theorem dX7_floor_73 : decode cX7_floor 73 = .ok (.bipush 12, 2) := dk_16 12 (dk_at dksX7_floor_3 3 rfl rfl)
theorem dX7_floor_75 : decode cX7_floor 75 = .ok (.iload_n 1, 1) := dk_27 (dk_at dksX7_floor_3 5 rfl rfl)
theorem dX7_floor_76 : decode cX7_floor 76 = .ok (.imul, 1) := dk_104 (dk_at dksX7_floor_3 6 rfl rfl)
theorem dX7_floor_77 : decode cX7_floor 77 = .ok (.iload 5, 2) := dk_21 5 (dk_at dksX7_floor_3 7 rfl rfl)
theorem dX7_floor_79 : decode cX7_floor 79 = .ok (.iadd, 1) := dk_96 (dk_at dksX7_floor_3 9 rfl rfl)
theorem dX7_floor_80 : decode cX7_floor 80 = .ok (.iload 4, 2) := dk_21 4 (dk_at dksX7_floor_3 10 rfl rfl)
theorem dX7_floor_82 : decode cX7_floor 82 = .ok (.iastore, 1) := dk_79 (dk_at dksX7_floor_3 12 rfl rfl)
theorem dX7_floor_83 : decode cX7_floor 83 = .ok (.iinc 5 1, 3) := dk_132 5 1 (dk_at dksX7_floor_3 13 rfl rfl)
theorem dX7_floor_86 : decode cX7_floor 86 = .ok (.goto (-37), 3) := dk_167 255 219 (dk_at dksX7_floor_3 16 rfl rfl)
theorem dX7_floor_89 : decode cX7_floor 89 = .ok (.iconst 1, 1) := dk_4 (dk_at dksX7_floor_3 19 rfl rfl)
theorem dX7_floor_90 : decode cX7_floor 90 = .ok (.ireturn, 1) := dk_172 (dk_at dksX7_floor_3 20 rfl rfl)
def dkwX7_hands_1 : List UInt8 := [16, 12, 27, 104, 28, 96, 46, 153, 0, 12, 42, 27, 28, 182, 1, 11, 167, 0, 4, 2, 172]
abbrev dktX7_hands_1 : List UInt8 := dkwX7_hands_1 ++ []
def dkwX7_hands_0 : List UInt8 := [42, 3, 181, 0, 1, 42, 27, 182, 1, 1, 153, 0, 33, 28, 184, 1, 4, 153, 0, 26, 42, 180, 0, 115]
abbrev dktX7_hands_0 : List UInt8 := dkwX7_hands_0 ++ dktX7_hands_1
theorem dksX7_hands_0 : cX7_hands.data.toList.drop 0 = dktX7_hands_0 := by decide +kernel
theorem dksX7_hands_1 : cX7_hands.data.toList.drop 24 = dktX7_hands_1 := dk_seg dksX7_hands_0 24 rfl rfl
theorem dX7_hands_0 : decode cX7_hands 0 = .ok (.aload_n 0, 1) := dk_42 (dk_at dksX7_hands_0 0 rfl rfl)
theorem dX7_hands_1 : decode cX7_hands 1 = .ok (.iconst 0, 1) := dk_3 (dk_at dksX7_hands_0 1 rfl rfl)
theorem dX7_hands_2 : decode cX7_hands 2 = .ok (.putfield 1, 3) := dk_181 0 1 (dk_at dksX7_hands_0 2 rfl rfl)
theorem dX7_hands_5 : decode cX7_hands 5 = .ok (.aload_n 0, 1) := dk_42 (dk_at dksX7_hands_0 5 rfl rfl)
theorem dX7_hands_6 : decode cX7_hands 6 = .ok (.iload_n 1, 1) := dk_27 (dk_at dksX7_hands_0 6 rfl rfl)
theorem dX7_hands_7 : decode cX7_hands 7 = .ok (.invokevirtual 257, 3) := dk_182 1 1 (dk_at dksX7_hands_0 7 rfl rfl)
theorem dX7_hands_10 : decode cX7_hands 10 = .ok (.ifCond .eq 33, 3) := dk_153 0 33 (dk_at dksX7_hands_0 10 rfl rfl)
theorem dX7_hands_13 : decode cX7_hands 13 = .ok (.iload_n 2, 1) := dk_28 (dk_at dksX7_hands_0 13 rfl rfl)
theorem dX7_hands_14 : decode cX7_hands 14 = .ok (.invokestatic 260, 3) := dk_184 1 4 (dk_at dksX7_hands_0 14 rfl rfl)
theorem dX7_hands_17 : decode cX7_hands 17 = .ok (.ifCond .eq 26, 3) := dk_153 0 26 (dk_at dksX7_hands_0 17 rfl rfl)
theorem dX7_hands_20 : decode cX7_hands 20 = .ok (.aload_n 0, 1) := dk_42 (dk_at dksX7_hands_0 20 rfl rfl)
theorem dX7_hands_21 : decode cX7_hands 21 = .ok (.getfield 115, 3) := dk_180 0 115 (dk_at dksX7_hands_0 21 rfl rfl)
theorem dX7_hands_24 : decode cX7_hands 24 = .ok (.bipush 12, 2) := dk_16 12 (dk_at dksX7_hands_1 0 rfl rfl)
theorem dX7_hands_26 : decode cX7_hands 26 = .ok (.iload_n 1, 1) := dk_27 (dk_at dksX7_hands_1 2 rfl rfl)
theorem dX7_hands_27 : decode cX7_hands 27 = .ok (.imul, 1) := dk_104 (dk_at dksX7_hands_1 3 rfl rfl)
theorem dX7_hands_28 : decode cX7_hands 28 = .ok (.iload_n 2, 1) := dk_28 (dk_at dksX7_hands_1 4 rfl rfl)
theorem dX7_hands_29 : decode cX7_hands 29 = .ok (.iadd, 1) := dk_96 (dk_at dksX7_hands_1 5 rfl rfl)
theorem dX7_hands_30 : decode cX7_hands 30 = .ok (.iaload, 1) := dk_46 (dk_at dksX7_hands_1 6 rfl rfl)
theorem dX7_hands_31 : decode cX7_hands 31 = .ok (.ifCond .eq 12, 3) := dk_153 0 12 (dk_at dksX7_hands_1 7 rfl rfl)
theorem dX7_hands_34 : decode cX7_hands 34 = .ok (.aload_n 0, 1) := dk_42 (dk_at dksX7_hands_1 10 rfl rfl)
theorem dX7_hands_35 : decode cX7_hands 35 = .ok (.iload_n 1, 1) := dk_27 (dk_at dksX7_hands_1 11 rfl rfl)
theorem dX7_hands_36 : decode cX7_hands 36 = .ok (.iload_n 2, 1) := dk_28 (dk_at dksX7_hands_1 12 rfl rfl)
theorem dX7_hands_37 : decode cX7_hands 37 = .ok (.invokevirtual 267, 3) := dk_182 1 11 (dk_at dksX7_hands_1 13 rfl rfl)
theorem dX7_hands_40 : decode cX7_hands 40 = .ok (.goto 4, 3) := dk_167 0 4 (dk_at dksX7_hands_1 16 rfl rfl)
theorem dX7_hands_43 : decode cX7_hands 43 = .ok (.iconst (-1), 1) := dk_2 (dk_at dksX7_hands_1 19 rfl rfl)
theorem dX7_hands_44 : decode cX7_hands 44 = .ok (.ireturn, 1) := dk_172 (dk_at dksX7_hands_1 20 rfl rfl)
def dkwX7_handsOf_1 : List UInt8 := [182, 1, 7, 172]
abbrev dktX7_handsOf_1 : List UInt8 := dkwX7_handsOf_1 ++ []
def dkwX7_handsOf_0 : List UInt8 := [42, 42, 180, 0, 118, 16, 12, 27, 104, 28, 96, 46, 42, 180, 0, 121, 16, 12, 27, 104, 28, 96, 46]
abbrev dktX7_handsOf_0 : List UInt8 := dkwX7_handsOf_0 ++ dktX7_handsOf_1
theorem dksX7_handsOf_0 : cX7_handsOf.data.toList.drop 0 = dktX7_handsOf_0 := by decide +kernel
theorem dksX7_handsOf_1 : cX7_handsOf.data.toList.drop 23 = dktX7_handsOf_1 := dk_seg dksX7_handsOf_0 23 rfl rfl
theorem dX7_handsOf_0 : decode cX7_handsOf 0 = .ok (.aload_n 0, 1) := dk_42 (dk_at dksX7_handsOf_0 0 rfl rfl)
theorem dX7_handsOf_1 : decode cX7_handsOf 1 = .ok (.aload_n 0, 1) := dk_42 (dk_at dksX7_handsOf_0 1 rfl rfl)
theorem dX7_handsOf_2 : decode cX7_handsOf 2 = .ok (.getfield 118, 3) := dk_180 0 118 (dk_at dksX7_handsOf_0 2 rfl rfl)
theorem dX7_handsOf_5 : decode cX7_handsOf 5 = .ok (.bipush 12, 2) := dk_16 12 (dk_at dksX7_handsOf_0 5 rfl rfl)
theorem dX7_handsOf_7 : decode cX7_handsOf 7 = .ok (.iload_n 1, 1) := dk_27 (dk_at dksX7_handsOf_0 7 rfl rfl)
theorem dX7_handsOf_8 : decode cX7_handsOf 8 = .ok (.imul, 1) := dk_104 (dk_at dksX7_handsOf_0 8 rfl rfl)
theorem dX7_handsOf_9 : decode cX7_handsOf 9 = .ok (.iload_n 2, 1) := dk_28 (dk_at dksX7_handsOf_0 9 rfl rfl)
theorem dX7_handsOf_10 : decode cX7_handsOf 10 = .ok (.iadd, 1) := dk_96 (dk_at dksX7_handsOf_0 10 rfl rfl)
theorem dX7_handsOf_11 : decode cX7_handsOf 11 = .ok (.iaload, 1) := dk_46 (dk_at dksX7_handsOf_0 11 rfl rfl)
theorem dX7_handsOf_12 : decode cX7_handsOf 12 = .ok (.aload_n 0, 1) := dk_42 (dk_at dksX7_handsOf_0 12 rfl rfl)
theorem dX7_handsOf_13 : decode cX7_handsOf 13 = .ok (.getfield 121, 3) := dk_180 0 121 (dk_at dksX7_handsOf_0 13 rfl rfl)
theorem dX7_handsOf_16 : decode cX7_handsOf 16 = .ok (.bipush 12, 2) := dk_16 12 (dk_at dksX7_handsOf_0 16 rfl rfl)
theorem dX7_handsOf_18 : decode cX7_handsOf 18 = .ok (.iload_n 1, 1) := dk_27 (dk_at dksX7_handsOf_0 18 rfl rfl)
theorem dX7_handsOf_19 : decode cX7_handsOf 19 = .ok (.imul, 1) := dk_104 (dk_at dksX7_handsOf_0 19 rfl rfl)
theorem dX7_handsOf_20 : decode cX7_handsOf 20 = .ok (.iload_n 2, 1) := dk_28 (dk_at dksX7_handsOf_0 20 rfl rfl)
theorem dX7_handsOf_21 : decode cX7_handsOf 21 = .ok (.iadd, 1) := dk_96 (dk_at dksX7_handsOf_0 21 rfl rfl)
theorem dX7_handsOf_22 : decode cX7_handsOf 22 = .ok (.iaload, 1) := dk_46 (dk_at dksX7_handsOf_0 22 rfl rfl)
theorem dX7_handsOf_23 : decode cX7_handsOf 23 = .ok (.invokevirtual 263, 3) := dk_182 1 7 (dk_at dksX7_handsOf_1 0 rfl rfl)
theorem dX7_handsOf_26 : decode cX7_handsOf 26 = .ok (.ireturn, 1) := dk_172 (dk_at dksX7_handsOf_1 3 rfl rfl)
def dkwX7_handsBy_0 : List UInt8 := [16, 10, 27, 104, 42, 180, 0, 208, 28, 104, 96, 172]
abbrev dktX7_handsBy_0 : List UInt8 := dkwX7_handsBy_0 ++ []
theorem dksX7_handsBy_0 : cX7_handsBy.data.toList.drop 0 = dktX7_handsBy_0 := by decide +kernel
theorem dX7_handsBy_0 : decode cX7_handsBy 0 = .ok (.bipush 10, 2) := dk_16 10 (dk_at dksX7_handsBy_0 0 rfl rfl)
theorem dX7_handsBy_2 : decode cX7_handsBy 2 = .ok (.iload_n 1, 1) := dk_27 (dk_at dksX7_handsBy_0 2 rfl rfl)
theorem dX7_handsBy_3 : decode cX7_handsBy 3 = .ok (.imul, 1) := dk_104 (dk_at dksX7_handsBy_0 3 rfl rfl)
theorem dX7_handsBy_4 : decode cX7_handsBy 4 = .ok (.aload_n 0, 1) := dk_42 (dk_at dksX7_handsBy_0 4 rfl rfl)
theorem dX7_handsBy_5 : decode cX7_handsBy 5 = .ok (.getfield 208, 3) := dk_180 0 208 (dk_at dksX7_handsBy_0 5 rfl rfl)
theorem dX7_handsBy_8 : decode cX7_handsBy 8 = .ok (.iload_n 2, 1) := dk_28 (dk_at dksX7_handsBy_0 8 rfl rfl)
theorem dX7_handsBy_9 : decode cX7_handsBy 9 = .ok (.imul, 1) := dk_104 (dk_at dksX7_handsBy_0 9 rfl rfl)
theorem dX7_handsBy_10 : decode cX7_handsBy 10 = .ok (.iadd, 1) := dk_96 (dk_at dksX7_handsBy_0 10 rfl rfl)
theorem dX7_handsBy_11 : decode cX7_handsBy 11 = .ok (.ireturn, 1) := dk_172 (dk_at dksX7_handsBy_0 11 rfl rfl)
def dkwX7_bank_12 : List UInt8 := [172]
abbrev dktX7_bank_12 : List UInt8 := dkwX7_bank_12 ++ []
def dkwX7_bank_11 : List UInt8 := [153, 0, 12, 21, 10, 154, 0, 7, 4, 167, 0, 4, 3, 96, 54, 5, 132, 6, 1, 167, 255, 35, 21, 5]
abbrev dktX7_bank_11 : List UInt8 := dkwX7_bank_11 ++ dktX7_bank_12
def dkwX7_bank_10 : List UInt8 := [153, 0, 36, 21, 4, 5, 160, 0, 16, 21, 10, 153, 0, 25, 21, 9, 154, 0, 20, 167, 0, 13, 21, 9]
abbrev dktX7_bank_10 : List UInt8 := dkwX7_bank_10 ++ dktX7_bank_11
def dkwX7_bank_9 : List UInt8 := [167, 0, 4, 3, 160, 0, 7, 4, 167, 0, 4, 3, 96, 54, 5, 167, 0, 47, 21, 5, 21, 8]
abbrev dktX7_bank_9 : List UInt8 := dkwX7_bank_9 ++ dktX7_bank_10
def dkwX7_bank_8 : List UInt8 := [167, 0, 86, 21, 4, 5, 162, 0, 36, 21, 5, 21, 7, 153, 0, 22, 21, 8, 21, 4, 154, 0, 7, 4]
abbrev dktX7_bank_8 : List UInt8 := dkwX7_bank_8 ++ dktX7_bank_9
def dkwX7_bank_7 : List UInt8 := [21, 5, 21, 8, 153, 0, 14, 42, 21, 6, 28, 29, 182, 1, 21, 167, 0, 4, 3, 96, 54, 5]
abbrev dktX7_bank_7 : List UInt8 := dkwX7_bank_7 ++ dktX7_bank_8
def dkwX7_bank_6 : List UInt8 := [21, 6, 104, 29, 96, 46, 5, 160, 0, 7, 4, 167, 0, 4, 3, 54, 10, 21, 4, 7, 160, 0, 28]
abbrev dktX7_bank_6 : List UInt8 := dkwX7_bank_6 ++ dktX7_bank_7
def dkwX7_bank_5 : List UInt8 := [21, 6, 104, 28, 96, 46, 5, 160, 0, 7, 4, 167, 0, 4, 3, 54, 9, 42, 180, 0, 115, 16, 12]
abbrev dktX7_bank_5 : List UInt8 := dkwX7_bank_5 ++ dktX7_bank_6
def dkwX7_bank_4 : List UInt8 := [21, 6, 28, 29, 182, 1, 18, 153, 0, 7, 4, 167, 0, 4, 3, 54, 8, 42, 180, 0, 115, 16, 12]
abbrev dktX7_bank_4 : List UInt8 := dkwX7_bank_4 ++ dktX7_bank_5
def dkwX7_bank_3 : List UInt8 := [180, 0, 97, 21, 6, 46, 27, 160, 0, 7, 4, 167, 0, 4, 3, 54, 7, 21, 7, 153, 0, 18, 42]
abbrev dktX7_bank_3 : List UInt8 := dkwX7_bank_3 ++ dktX7_bank_4
def dkwX7_bank_2 : List UInt8 := [54, 5, 3, 54, 6, 21, 6, 16, 24, 162, 0, 220, 42, 180, 0, 93, 21, 6, 51, 153, 0, 18, 42]
abbrev dktX7_bank_2 : List UInt8 := dkwX7_bank_2 ++ dktX7_bank_3
def dkwX7_bank_1 : List UInt8 := [184, 0, 253, 153, 0, 7, 3, 167, 0, 4, 4, 181, 0, 1, 42, 180, 0, 1, 158, 0, 5, 3, 172, 3]
abbrev dktX7_bank_1 : List UInt8 := dkwX7_bank_1 ++ dktX7_bank_2
def dkwX7_bank_0 : List UInt8 := [42, 27, 3, 4, 184, 0, 253, 153, 0, 25, 28, 29, 184, 1, 14, 153, 0, 17, 21, 4, 3, 7]
abbrev dktX7_bank_0 : List UInt8 := dkwX7_bank_0 ++ dktX7_bank_1
theorem dksX7_bank_0 : cX7_bank.data.toList.drop 0 = dktX7_bank_0 := by decide +kernel
theorem dksX7_bank_1 : cX7_bank.data.toList.drop 22 = dktX7_bank_1 := dk_seg dksX7_bank_0 22 rfl rfl
theorem dksX7_bank_2 : cX7_bank.data.toList.drop 46 = dktX7_bank_2 := dk_seg dksX7_bank_1 24 rfl rfl
theorem dksX7_bank_3 : cX7_bank.data.toList.drop 69 = dktX7_bank_3 := dk_seg dksX7_bank_2 23 rfl rfl
theorem dksX7_bank_4 : cX7_bank.data.toList.drop 92 = dktX7_bank_4 := dk_seg dksX7_bank_3 23 rfl rfl
theorem dksX7_bank_5 : cX7_bank.data.toList.drop 115 = dktX7_bank_5 := dk_seg dksX7_bank_4 23 rfl rfl
theorem dksX7_bank_6 : cX7_bank.data.toList.drop 138 = dktX7_bank_6 := dk_seg dksX7_bank_5 23 rfl rfl
theorem dksX7_bank_7 : cX7_bank.data.toList.drop 161 = dktX7_bank_7 := dk_seg dksX7_bank_6 23 rfl rfl
theorem dksX7_bank_8 : cX7_bank.data.toList.drop 183 = dktX7_bank_8 := dk_seg dksX7_bank_7 22 rfl rfl
theorem dksX7_bank_9 : cX7_bank.data.toList.drop 207 = dktX7_bank_9 := dk_seg dksX7_bank_8 24 rfl rfl
theorem dksX7_bank_10 : cX7_bank.data.toList.drop 229 = dktX7_bank_10 := dk_seg dksX7_bank_9 22 rfl rfl
theorem dksX7_bank_11 : cX7_bank.data.toList.drop 253 = dktX7_bank_11 := dk_seg dksX7_bank_10 24 rfl rfl
theorem dksX7_bank_12 : cX7_bank.data.toList.drop 277 = dktX7_bank_12 := dk_seg dksX7_bank_11 24 rfl rfl
theorem dX7_bank_0 : decode cX7_bank 0 = .ok (.aload_n 0, 1) := dk_42 (dk_at dksX7_bank_0 0 rfl rfl)
theorem dX7_bank_1 : decode cX7_bank 1 = .ok (.iload_n 1, 1) := dk_27 (dk_at dksX7_bank_0 1 rfl rfl)
theorem dX7_bank_2 : decode cX7_bank 2 = .ok (.iconst 0, 1) := dk_3 (dk_at dksX7_bank_0 2 rfl rfl)
theorem dX7_bank_3 : decode cX7_bank 3 = .ok (.iconst 1, 1) := dk_4 (dk_at dksX7_bank_0 3 rfl rfl)
theorem dX7_bank_4 : decode cX7_bank 4 = .ok (.invokestatic 253, 3) := dk_184 0 253 (dk_at dksX7_bank_0 4 rfl rfl)
theorem dX7_bank_7 : decode cX7_bank 7 = .ok (.ifCond .eq 25, 3) := dk_153 0 25 (dk_at dksX7_bank_0 7 rfl rfl)
theorem dX7_bank_10 : decode cX7_bank 10 = .ok (.iload_n 2, 1) := dk_28 (dk_at dksX7_bank_0 10 rfl rfl)
theorem dX7_bank_11 : decode cX7_bank 11 = .ok (.iload_n 3, 1) := dk_29 (dk_at dksX7_bank_0 11 rfl rfl)
theorem dX7_bank_12 : decode cX7_bank 12 = .ok (.invokestatic 270, 3) := dk_184 1 14 (dk_at dksX7_bank_0 12 rfl rfl)
theorem dX7_bank_15 : decode cX7_bank 15 = .ok (.ifCond .eq 17, 3) := dk_153 0 17 (dk_at dksX7_bank_0 15 rfl rfl)
theorem dX7_bank_18 : decode cX7_bank 18 = .ok (.iload 4, 2) := dk_21 4 (dk_at dksX7_bank_0 18 rfl rfl)
theorem dX7_bank_20 : decode cX7_bank 20 = .ok (.iconst 0, 1) := dk_3 (dk_at dksX7_bank_0 20 rfl rfl)
theorem dX7_bank_21 : decode cX7_bank 21 = .ok (.iconst 4, 1) := dk_7 (dk_at dksX7_bank_0 21 rfl rfl)
theorem dX7_bank_22 : decode cX7_bank 22 = .ok (.invokestatic 253, 3) := dk_184 0 253 (dk_at dksX7_bank_1 0 rfl rfl)
theorem dX7_bank_25 : decode cX7_bank 25 = .ok (.ifCond .eq 7, 3) := dk_153 0 7 (dk_at dksX7_bank_1 3 rfl rfl)
theorem dX7_bank_28 : decode cX7_bank 28 = .ok (.iconst 0, 1) := dk_3 (dk_at dksX7_bank_1 6 rfl rfl)
theorem dX7_bank_29 : decode cX7_bank 29 = .ok (.goto 4, 3) := dk_167 0 4 (dk_at dksX7_bank_1 7 rfl rfl)
theorem dX7_bank_32 : decode cX7_bank 32 = .ok (.iconst 1, 1) := dk_4 (dk_at dksX7_bank_1 10 rfl rfl)
theorem dX7_bank_33 : decode cX7_bank 33 = .ok (.putfield 1, 3) := dk_181 0 1 (dk_at dksX7_bank_1 11 rfl rfl)
theorem dX7_bank_36 : decode cX7_bank 36 = .ok (.aload_n 0, 1) := dk_42 (dk_at dksX7_bank_1 14 rfl rfl)
theorem dX7_bank_37 : decode cX7_bank 37 = .ok (.getfield 1, 3) := dk_180 0 1 (dk_at dksX7_bank_1 15 rfl rfl)
theorem dX7_bank_40 : decode cX7_bank 40 = .ok (.ifCond .le 5, 3) := dk_158 0 5 (dk_at dksX7_bank_1 18 rfl rfl)
theorem dX7_bank_43 : decode cX7_bank 43 = .ok (.iconst 0, 1) := dk_3 (dk_at dksX7_bank_1 21 rfl rfl)
theorem dX7_bank_44 : decode cX7_bank 44 = .ok (.ireturn, 1) := dk_172 (dk_at dksX7_bank_1 22 rfl rfl)
theorem dX7_bank_45 : decode cX7_bank 45 = .ok (.iconst 0, 1) := dk_3 (dk_at dksX7_bank_1 23 rfl rfl)
theorem dX7_bank_46 : decode cX7_bank 46 = .ok (.istore 5, 2) := dk_54 5 (dk_at dksX7_bank_2 0 rfl rfl)
theorem dX7_bank_48 : decode cX7_bank 48 = .ok (.iconst 0, 1) := dk_3 (dk_at dksX7_bank_2 2 rfl rfl)
theorem dX7_bank_49 : decode cX7_bank 49 = .ok (.istore 6, 2) := dk_54 6 (dk_at dksX7_bank_2 3 rfl rfl)
theorem dX7_bank_51 : decode cX7_bank 51 = .ok (.iload 6, 2) := dk_21 6 (dk_at dksX7_bank_2 5 rfl rfl)
theorem dX7_bank_53 : decode cX7_bank 53 = .ok (.bipush 24, 2) := dk_16 24 (dk_at dksX7_bank_2 7 rfl rfl)
theorem dX7_bank_55 : decode cX7_bank 55 = .ok (.if_icmp .ge 220, 3) := dk_162 0 220 (dk_at dksX7_bank_2 9 rfl rfl)
theorem dX7_bank_58 : decode cX7_bank 58 = .ok (.aload_n 0, 1) := dk_42 (dk_at dksX7_bank_2 12 rfl rfl)
theorem dX7_bank_59 : decode cX7_bank 59 = .ok (.getfield 93, 3) := dk_180 0 93 (dk_at dksX7_bank_2 13 rfl rfl)
theorem dX7_bank_62 : decode cX7_bank 62 = .ok (.iload 6, 2) := dk_21 6 (dk_at dksX7_bank_2 16 rfl rfl)
theorem dX7_bank_64 : decode cX7_bank 64 = .ok (.baload, 1) := dk_51 (dk_at dksX7_bank_2 18 rfl rfl)
theorem dX7_bank_65 : decode cX7_bank 65 = .ok (.ifCond .eq 18, 3) := dk_153 0 18 (dk_at dksX7_bank_2 19 rfl rfl)
theorem dX7_bank_68 : decode cX7_bank 68 = .ok (.aload_n 0, 1) := dk_42 (dk_at dksX7_bank_2 22 rfl rfl)
theorem dX7_bank_69 : decode cX7_bank 69 = .ok (.getfield 97, 3) := dk_180 0 97 (dk_at dksX7_bank_3 0 rfl rfl)
theorem dX7_bank_72 : decode cX7_bank 72 = .ok (.iload 6, 2) := dk_21 6 (dk_at dksX7_bank_3 3 rfl rfl)
theorem dX7_bank_74 : decode cX7_bank 74 = .ok (.iaload, 1) := dk_46 (dk_at dksX7_bank_3 5 rfl rfl)
theorem dX7_bank_75 : decode cX7_bank 75 = .ok (.iload_n 1, 1) := dk_27 (dk_at dksX7_bank_3 6 rfl rfl)
theorem dX7_bank_76 : decode cX7_bank 76 = .ok (.if_icmp .ne 7, 3) := dk_160 0 7 (dk_at dksX7_bank_3 7 rfl rfl)
theorem dX7_bank_79 : decode cX7_bank 79 = .ok (.iconst 1, 1) := dk_4 (dk_at dksX7_bank_3 10 rfl rfl)
theorem dX7_bank_80 : decode cX7_bank 80 = .ok (.goto 4, 3) := dk_167 0 4 (dk_at dksX7_bank_3 11 rfl rfl)
theorem dX7_bank_83 : decode cX7_bank 83 = .ok (.iconst 0, 1) := dk_3 (dk_at dksX7_bank_3 14 rfl rfl)
theorem dX7_bank_84 : decode cX7_bank 84 = .ok (.istore 7, 2) := dk_54 7 (dk_at dksX7_bank_3 15 rfl rfl)
theorem dX7_bank_86 : decode cX7_bank 86 = .ok (.iload 7, 2) := dk_21 7 (dk_at dksX7_bank_3 17 rfl rfl)
theorem dX7_bank_88 : decode cX7_bank 88 = .ok (.ifCond .eq 18, 3) := dk_153 0 18 (dk_at dksX7_bank_3 19 rfl rfl)
theorem dX7_bank_91 : decode cX7_bank 91 = .ok (.aload_n 0, 1) := dk_42 (dk_at dksX7_bank_3 22 rfl rfl)
theorem dX7_bank_92 : decode cX7_bank 92 = .ok (.iload 6, 2) := dk_21 6 (dk_at dksX7_bank_4 0 rfl rfl)
theorem dX7_bank_94 : decode cX7_bank 94 = .ok (.iload_n 2, 1) := dk_28 (dk_at dksX7_bank_4 2 rfl rfl)
theorem dX7_bank_95 : decode cX7_bank 95 = .ok (.iload_n 3, 1) := dk_29 (dk_at dksX7_bank_4 3 rfl rfl)
theorem dX7_bank_96 : decode cX7_bank 96 = .ok (.invokevirtual 274, 3) := dk_182 1 18 (dk_at dksX7_bank_4 4 rfl rfl)
theorem dX7_bank_99 : decode cX7_bank 99 = .ok (.ifCond .eq 7, 3) := dk_153 0 7 (dk_at dksX7_bank_4 7 rfl rfl)
theorem dX7_bank_102 : decode cX7_bank 102 = .ok (.iconst 1, 1) := dk_4 (dk_at dksX7_bank_4 10 rfl rfl)
theorem dX7_bank_103 : decode cX7_bank 103 = .ok (.goto 4, 3) := dk_167 0 4 (dk_at dksX7_bank_4 11 rfl rfl)
theorem dX7_bank_106 : decode cX7_bank 106 = .ok (.iconst 0, 1) := dk_3 (dk_at dksX7_bank_4 14 rfl rfl)
theorem dX7_bank_107 : decode cX7_bank 107 = .ok (.istore 8, 2) := dk_54 8 (dk_at dksX7_bank_4 15 rfl rfl)
theorem dX7_bank_109 : decode cX7_bank 109 = .ok (.aload_n 0, 1) := dk_42 (dk_at dksX7_bank_4 17 rfl rfl)
theorem dX7_bank_110 : decode cX7_bank 110 = .ok (.getfield 115, 3) := dk_180 0 115 (dk_at dksX7_bank_4 18 rfl rfl)
theorem dX7_bank_113 : decode cX7_bank 113 = .ok (.bipush 12, 2) := dk_16 12 (dk_at dksX7_bank_4 21 rfl rfl)
theorem dX7_bank_115 : decode cX7_bank 115 = .ok (.iload 6, 2) := dk_21 6 (dk_at dksX7_bank_5 0 rfl rfl)
theorem dX7_bank_117 : decode cX7_bank 117 = .ok (.imul, 1) := dk_104 (dk_at dksX7_bank_5 2 rfl rfl)
theorem dX7_bank_118 : decode cX7_bank 118 = .ok (.iload_n 2, 1) := dk_28 (dk_at dksX7_bank_5 3 rfl rfl)
theorem dX7_bank_119 : decode cX7_bank 119 = .ok (.iadd, 1) := dk_96 (dk_at dksX7_bank_5 4 rfl rfl)
theorem dX7_bank_120 : decode cX7_bank 120 = .ok (.iaload, 1) := dk_46 (dk_at dksX7_bank_5 5 rfl rfl)
theorem dX7_bank_121 : decode cX7_bank 121 = .ok (.iconst 2, 1) := dk_5 (dk_at dksX7_bank_5 6 rfl rfl)
theorem dX7_bank_122 : decode cX7_bank 122 = .ok (.if_icmp .ne 7, 3) := dk_160 0 7 (dk_at dksX7_bank_5 7 rfl rfl)
theorem dX7_bank_125 : decode cX7_bank 125 = .ok (.iconst 1, 1) := dk_4 (dk_at dksX7_bank_5 10 rfl rfl)
theorem dX7_bank_126 : decode cX7_bank 126 = .ok (.goto 4, 3) := dk_167 0 4 (dk_at dksX7_bank_5 11 rfl rfl)
theorem dX7_bank_129 : decode cX7_bank 129 = .ok (.iconst 0, 1) := dk_3 (dk_at dksX7_bank_5 14 rfl rfl)
theorem dX7_bank_130 : decode cX7_bank 130 = .ok (.istore 9, 2) := dk_54 9 (dk_at dksX7_bank_5 15 rfl rfl)
theorem dX7_bank_132 : decode cX7_bank 132 = .ok (.aload_n 0, 1) := dk_42 (dk_at dksX7_bank_5 17 rfl rfl)
theorem dX7_bank_133 : decode cX7_bank 133 = .ok (.getfield 115, 3) := dk_180 0 115 (dk_at dksX7_bank_5 18 rfl rfl)
theorem dX7_bank_136 : decode cX7_bank 136 = .ok (.bipush 12, 2) := dk_16 12 (dk_at dksX7_bank_5 21 rfl rfl)
theorem dX7_bank_138 : decode cX7_bank 138 = .ok (.iload 6, 2) := dk_21 6 (dk_at dksX7_bank_6 0 rfl rfl)
theorem dX7_bank_140 : decode cX7_bank 140 = .ok (.imul, 1) := dk_104 (dk_at dksX7_bank_6 2 rfl rfl)
theorem dX7_bank_141 : decode cX7_bank 141 = .ok (.iload_n 3, 1) := dk_29 (dk_at dksX7_bank_6 3 rfl rfl)
theorem dX7_bank_142 : decode cX7_bank 142 = .ok (.iadd, 1) := dk_96 (dk_at dksX7_bank_6 4 rfl rfl)
theorem dX7_bank_143 : decode cX7_bank 143 = .ok (.iaload, 1) := dk_46 (dk_at dksX7_bank_6 5 rfl rfl)
theorem dX7_bank_144 : decode cX7_bank 144 = .ok (.iconst 2, 1) := dk_5 (dk_at dksX7_bank_6 6 rfl rfl)
theorem dX7_bank_145 : decode cX7_bank 145 = .ok (.if_icmp .ne 7, 3) := dk_160 0 7 (dk_at dksX7_bank_6 7 rfl rfl)
theorem dX7_bank_148 : decode cX7_bank 148 = .ok (.iconst 1, 1) := dk_4 (dk_at dksX7_bank_6 10 rfl rfl)
theorem dX7_bank_149 : decode cX7_bank 149 = .ok (.goto 4, 3) := dk_167 0 4 (dk_at dksX7_bank_6 11 rfl rfl)
theorem dX7_bank_152 : decode cX7_bank 152 = .ok (.iconst 0, 1) := dk_3 (dk_at dksX7_bank_6 14 rfl rfl)
theorem dX7_bank_153 : decode cX7_bank 153 = .ok (.istore 10, 2) := dk_54 10 (dk_at dksX7_bank_6 15 rfl rfl)
theorem dX7_bank_155 : decode cX7_bank 155 = .ok (.iload 4, 2) := dk_21 4 (dk_at dksX7_bank_6 17 rfl rfl)
theorem dX7_bank_157 : decode cX7_bank 157 = .ok (.iconst 4, 1) := dk_7 (dk_at dksX7_bank_6 19 rfl rfl)
theorem dX7_bank_158 : decode cX7_bank 158 = .ok (.if_icmp .ne 28, 3) := dk_160 0 28 (dk_at dksX7_bank_6 20 rfl rfl)
theorem dX7_bank_161 : decode cX7_bank 161 = .ok (.iload 5, 2) := dk_21 5 (dk_at dksX7_bank_7 0 rfl rfl)
theorem dX7_bank_163 : decode cX7_bank 163 = .ok (.iload 8, 2) := dk_21 8 (dk_at dksX7_bank_7 2 rfl rfl)
theorem dX7_bank_165 : decode cX7_bank 165 = .ok (.ifCond .eq 14, 3) := dk_153 0 14 (dk_at dksX7_bank_7 4 rfl rfl)
theorem dX7_bank_168 : decode cX7_bank 168 = .ok (.aload_n 0, 1) := dk_42 (dk_at dksX7_bank_7 7 rfl rfl)
theorem dX7_bank_169 : decode cX7_bank 169 = .ok (.iload 6, 2) := dk_21 6 (dk_at dksX7_bank_7 8 rfl rfl)
theorem dX7_bank_171 : decode cX7_bank 171 = .ok (.iload_n 2, 1) := dk_28 (dk_at dksX7_bank_7 10 rfl rfl)
theorem dX7_bank_172 : decode cX7_bank 172 = .ok (.iload_n 3, 1) := dk_29 (dk_at dksX7_bank_7 11 rfl rfl)
theorem dX7_bank_173 : decode cX7_bank 173 = .ok (.invokevirtual 277, 3) := dk_182 1 21 (dk_at dksX7_bank_7 12 rfl rfl)
theorem dX7_bank_176 : decode cX7_bank 176 = .ok (.goto 4, 3) := dk_167 0 4 (dk_at dksX7_bank_7 15 rfl rfl)
theorem dX7_bank_179 : decode cX7_bank 179 = .ok (.iconst 0, 1) := dk_3 (dk_at dksX7_bank_7 18 rfl rfl)
theorem dX7_bank_180 : decode cX7_bank 180 = .ok (.iadd, 1) := dk_96 (dk_at dksX7_bank_7 19 rfl rfl)
theorem dX7_bank_181 : decode cX7_bank 181 = .ok (.istore 5, 2) := dk_54 5 (dk_at dksX7_bank_7 20 rfl rfl)
theorem dX7_bank_183 : decode cX7_bank 183 = .ok (.goto 86, 3) := dk_167 0 86 (dk_at dksX7_bank_8 0 rfl rfl)
theorem dX7_bank_186 : decode cX7_bank 186 = .ok (.iload 4, 2) := dk_21 4 (dk_at dksX7_bank_8 3 rfl rfl)
theorem dX7_bank_188 : decode cX7_bank 188 = .ok (.iconst 2, 1) := dk_5 (dk_at dksX7_bank_8 5 rfl rfl)
theorem dX7_bank_189 : decode cX7_bank 189 = .ok (.if_icmp .ge 36, 3) := dk_162 0 36 (dk_at dksX7_bank_8 6 rfl rfl)
theorem dX7_bank_192 : decode cX7_bank 192 = .ok (.iload 5, 2) := dk_21 5 (dk_at dksX7_bank_8 9 rfl rfl)
theorem dX7_bank_194 : decode cX7_bank 194 = .ok (.iload 7, 2) := dk_21 7 (dk_at dksX7_bank_8 11 rfl rfl)
theorem dX7_bank_196 : decode cX7_bank 196 = .ok (.ifCond .eq 22, 3) := dk_153 0 22 (dk_at dksX7_bank_8 13 rfl rfl)
theorem dX7_bank_199 : decode cX7_bank 199 = .ok (.iload 8, 2) := dk_21 8 (dk_at dksX7_bank_8 16 rfl rfl)
theorem dX7_bank_201 : decode cX7_bank 201 = .ok (.iload 4, 2) := dk_21 4 (dk_at dksX7_bank_8 18 rfl rfl)
theorem dX7_bank_203 : decode cX7_bank 203 = .ok (.ifCond .ne 7, 3) := dk_154 0 7 (dk_at dksX7_bank_8 20 rfl rfl)
theorem dX7_bank_206 : decode cX7_bank 206 = .ok (.iconst 1, 1) := dk_4 (dk_at dksX7_bank_8 23 rfl rfl)
theorem dX7_bank_207 : decode cX7_bank 207 = .ok (.goto 4, 3) := dk_167 0 4 (dk_at dksX7_bank_9 0 rfl rfl)
theorem dX7_bank_210 : decode cX7_bank 210 = .ok (.iconst 0, 1) := dk_3 (dk_at dksX7_bank_9 3 rfl rfl)
theorem dX7_bank_211 : decode cX7_bank 211 = .ok (.if_icmp .ne 7, 3) := dk_160 0 7 (dk_at dksX7_bank_9 4 rfl rfl)
theorem dX7_bank_214 : decode cX7_bank 214 = .ok (.iconst 1, 1) := dk_4 (dk_at dksX7_bank_9 7 rfl rfl)
theorem dX7_bank_215 : decode cX7_bank 215 = .ok (.goto 4, 3) := dk_167 0 4 (dk_at dksX7_bank_9 8 rfl rfl)
theorem dX7_bank_218 : decode cX7_bank 218 = .ok (.iconst 0, 1) := dk_3 (dk_at dksX7_bank_9 11 rfl rfl)
theorem dX7_bank_219 : decode cX7_bank 219 = .ok (.iadd, 1) := dk_96 (dk_at dksX7_bank_9 12 rfl rfl)
theorem dX7_bank_220 : decode cX7_bank 220 = .ok (.istore 5, 2) := dk_54 5 (dk_at dksX7_bank_9 13 rfl rfl)
theorem dX7_bank_222 : decode cX7_bank 222 = .ok (.goto 47, 3) := dk_167 0 47 (dk_at dksX7_bank_9 15 rfl rfl)
theorem dX7_bank_225 : decode cX7_bank 225 = .ok (.iload 5, 2) := dk_21 5 (dk_at dksX7_bank_9 18 rfl rfl)
theorem dX7_bank_227 : decode cX7_bank 227 = .ok (.iload 8, 2) := dk_21 8 (dk_at dksX7_bank_9 20 rfl rfl)
theorem dX7_bank_229 : decode cX7_bank 229 = .ok (.ifCond .eq 36, 3) := dk_153 0 36 (dk_at dksX7_bank_10 0 rfl rfl)
theorem dX7_bank_232 : decode cX7_bank 232 = .ok (.iload 4, 2) := dk_21 4 (dk_at dksX7_bank_10 3 rfl rfl)
theorem dX7_bank_234 : decode cX7_bank 234 = .ok (.iconst 2, 1) := dk_5 (dk_at dksX7_bank_10 5 rfl rfl)
theorem dX7_bank_235 : decode cX7_bank 235 = .ok (.if_icmp .ne 16, 3) := dk_160 0 16 (dk_at dksX7_bank_10 6 rfl rfl)
theorem dX7_bank_238 : decode cX7_bank 238 = .ok (.iload 10, 2) := dk_21 10 (dk_at dksX7_bank_10 9 rfl rfl)
theorem dX7_bank_240 : decode cX7_bank 240 = .ok (.ifCond .eq 25, 3) := dk_153 0 25 (dk_at dksX7_bank_10 11 rfl rfl)
theorem dX7_bank_243 : decode cX7_bank 243 = .ok (.iload 9, 2) := dk_21 9 (dk_at dksX7_bank_10 14 rfl rfl)
theorem dX7_bank_245 : decode cX7_bank 245 = .ok (.ifCond .ne 20, 3) := dk_154 0 20 (dk_at dksX7_bank_10 16 rfl rfl)
theorem dX7_bank_248 : decode cX7_bank 248 = .ok (.goto 13, 3) := dk_167 0 13 (dk_at dksX7_bank_10 19 rfl rfl)
theorem dX7_bank_251 : decode cX7_bank 251 = .ok (.iload 9, 2) := dk_21 9 (dk_at dksX7_bank_10 22 rfl rfl)
theorem dX7_bank_253 : decode cX7_bank 253 = .ok (.ifCond .eq 12, 3) := dk_153 0 12 (dk_at dksX7_bank_11 0 rfl rfl)
theorem dX7_bank_256 : decode cX7_bank 256 = .ok (.iload 10, 2) := dk_21 10 (dk_at dksX7_bank_11 3 rfl rfl)
theorem dX7_bank_258 : decode cX7_bank 258 = .ok (.ifCond .ne 7, 3) := dk_154 0 7 (dk_at dksX7_bank_11 5 rfl rfl)
theorem dX7_bank_261 : decode cX7_bank 261 = .ok (.iconst 1, 1) := dk_4 (dk_at dksX7_bank_11 8 rfl rfl)
theorem dX7_bank_262 : decode cX7_bank 262 = .ok (.goto 4, 3) := dk_167 0 4 (dk_at dksX7_bank_11 9 rfl rfl)
theorem dX7_bank_265 : decode cX7_bank 265 = .ok (.iconst 0, 1) := dk_3 (dk_at dksX7_bank_11 12 rfl rfl)
theorem dX7_bank_266 : decode cX7_bank 266 = .ok (.iadd, 1) := dk_96 (dk_at dksX7_bank_11 13 rfl rfl)
theorem dX7_bank_267 : decode cX7_bank 267 = .ok (.istore 5, 2) := dk_54 5 (dk_at dksX7_bank_11 14 rfl rfl)
theorem dX7_bank_269 : decode cX7_bank 269 = .ok (.iinc 6 1, 3) := dk_132 6 1 (dk_at dksX7_bank_11 16 rfl rfl)
theorem dX7_bank_272 : decode cX7_bank 272 = .ok (.goto (-221), 3) := dk_167 255 35 (dk_at dksX7_bank_11 19 rfl rfl)
theorem dX7_bank_275 : decode cX7_bank 275 = .ok (.iload 5, 2) := dk_21 5 (dk_at dksX7_bank_11 22 rfl rfl)
theorem dX7_bank_277 : decode cX7_bank 277 = .ok (.ireturn, 1) := dk_172 (dk_at dksX7_bank_12 0 rfl rfl)
def dkwX7_areMonths_1 : List UInt8 := [172]
abbrev dktX7_areMonths_1 : List UInt8 := dkwX7_areMonths_1 ++ []
def dkwX7_areMonths_0 : List UInt8 := [26, 184, 1, 4, 153, 0, 19, 27, 184, 1, 4, 153, 0, 12, 26, 27, 159, 0, 7, 4, 167, 0, 4, 3]
abbrev dktX7_areMonths_0 : List UInt8 := dkwX7_areMonths_0 ++ dktX7_areMonths_1
theorem dksX7_areMonths_0 : cX7_areMonths.data.toList.drop 0 = dktX7_areMonths_0 := by decide +kernel
theorem dksX7_areMonths_1 : cX7_areMonths.data.toList.drop 24 = dktX7_areMonths_1 := dk_seg dksX7_areMonths_0 24 rfl rfl
theorem dX7_areMonths_0 : decode cX7_areMonths 0 = .ok (.iload_n 0, 1) := dk_26 (dk_at dksX7_areMonths_0 0 rfl rfl)
theorem dX7_areMonths_1 : decode cX7_areMonths 1 = .ok (.invokestatic 260, 3) := dk_184 1 4 (dk_at dksX7_areMonths_0 1 rfl rfl)
theorem dX7_areMonths_4 : decode cX7_areMonths 4 = .ok (.ifCond .eq 19, 3) := dk_153 0 19 (dk_at dksX7_areMonths_0 4 rfl rfl)
theorem dX7_areMonths_7 : decode cX7_areMonths 7 = .ok (.iload_n 1, 1) := dk_27 (dk_at dksX7_areMonths_0 7 rfl rfl)
theorem dX7_areMonths_8 : decode cX7_areMonths 8 = .ok (.invokestatic 260, 3) := dk_184 1 4 (dk_at dksX7_areMonths_0 8 rfl rfl)
theorem dX7_areMonths_11 : decode cX7_areMonths 11 = .ok (.ifCond .eq 12, 3) := dk_153 0 12 (dk_at dksX7_areMonths_0 11 rfl rfl)
theorem dX7_areMonths_14 : decode cX7_areMonths 14 = .ok (.iload_n 0, 1) := dk_26 (dk_at dksX7_areMonths_0 14 rfl rfl)
theorem dX7_areMonths_15 : decode cX7_areMonths 15 = .ok (.iload_n 1, 1) := dk_27 (dk_at dksX7_areMonths_0 15 rfl rfl)
theorem dX7_areMonths_16 : decode cX7_areMonths 16 = .ok (.if_icmp .eq 7, 3) := dk_159 0 7 (dk_at dksX7_areMonths_0 16 rfl rfl)
theorem dX7_areMonths_19 : decode cX7_areMonths 19 = .ok (.iconst 1, 1) := dk_4 (dk_at dksX7_areMonths_0 19 rfl rfl)
theorem dX7_areMonths_20 : decode cX7_areMonths 20 = .ok (.goto 4, 3) := dk_167 0 4 (dk_at dksX7_areMonths_0 20 rfl rfl)
theorem dX7_areMonths_23 : decode cX7_areMonths 23 = .ok (.iconst 0, 1) := dk_3 (dk_at dksX7_areMonths_0 23 rfl rfl)
theorem dX7_areMonths_24 : decode cX7_areMonths 24 = .ok (.ireturn, 1) := dk_172 (dk_at dksX7_areMonths_1 0 rfl rfl)
def dkwX7_isCounted_1 : List UInt8 := [180, 0, 115, 16, 12, 27, 104, 29, 96, 46, 153, 0, 7, 4, 167, 0, 4, 3, 172]
abbrev dktX7_isCounted_1 : List UInt8 := dkwX7_isCounted_1 ++ []
def dkwX7_isCounted_0 : List UInt8 := [42, 180, 0, 93, 27, 51, 153, 0, 35, 42, 180, 0, 115, 16, 12, 27, 104, 28, 96, 46, 153, 0, 21, 42]
abbrev dktX7_isCounted_0 : List UInt8 := dkwX7_isCounted_0 ++ dktX7_isCounted_1
theorem dksX7_isCounted_0 : cX7_isCounted.data.toList.drop 0 = dktX7_isCounted_0 := by decide +kernel
theorem dksX7_isCounted_1 : cX7_isCounted.data.toList.drop 24 = dktX7_isCounted_1 := dk_seg dksX7_isCounted_0 24 rfl rfl
theorem dX7_isCounted_0 : decode cX7_isCounted 0 = .ok (.aload_n 0, 1) := dk_42 (dk_at dksX7_isCounted_0 0 rfl rfl)
theorem dX7_isCounted_1 : decode cX7_isCounted 1 = .ok (.getfield 93, 3) := dk_180 0 93 (dk_at dksX7_isCounted_0 1 rfl rfl)
theorem dX7_isCounted_4 : decode cX7_isCounted 4 = .ok (.iload_n 1, 1) := dk_27 (dk_at dksX7_isCounted_0 4 rfl rfl)
theorem dX7_isCounted_5 : decode cX7_isCounted 5 = .ok (.baload, 1) := dk_51 (dk_at dksX7_isCounted_0 5 rfl rfl)
theorem dX7_isCounted_6 : decode cX7_isCounted 6 = .ok (.ifCond .eq 35, 3) := dk_153 0 35 (dk_at dksX7_isCounted_0 6 rfl rfl)
theorem dX7_isCounted_9 : decode cX7_isCounted 9 = .ok (.aload_n 0, 1) := dk_42 (dk_at dksX7_isCounted_0 9 rfl rfl)
theorem dX7_isCounted_10 : decode cX7_isCounted 10 = .ok (.getfield 115, 3) := dk_180 0 115 (dk_at dksX7_isCounted_0 10 rfl rfl)
theorem dX7_isCounted_13 : decode cX7_isCounted 13 = .ok (.bipush 12, 2) := dk_16 12 (dk_at dksX7_isCounted_0 13 rfl rfl)
theorem dX7_isCounted_15 : decode cX7_isCounted 15 = .ok (.iload_n 1, 1) := dk_27 (dk_at dksX7_isCounted_0 15 rfl rfl)
theorem dX7_isCounted_16 : decode cX7_isCounted 16 = .ok (.imul, 1) := dk_104 (dk_at dksX7_isCounted_0 16 rfl rfl)
theorem dX7_isCounted_17 : decode cX7_isCounted 17 = .ok (.iload_n 2, 1) := dk_28 (dk_at dksX7_isCounted_0 17 rfl rfl)
theorem dX7_isCounted_18 : decode cX7_isCounted 18 = .ok (.iadd, 1) := dk_96 (dk_at dksX7_isCounted_0 18 rfl rfl)
theorem dX7_isCounted_19 : decode cX7_isCounted 19 = .ok (.iaload, 1) := dk_46 (dk_at dksX7_isCounted_0 19 rfl rfl)
theorem dX7_isCounted_20 : decode cX7_isCounted 20 = .ok (.ifCond .eq 21, 3) := dk_153 0 21 (dk_at dksX7_isCounted_0 20 rfl rfl)
theorem dX7_isCounted_23 : decode cX7_isCounted 23 = .ok (.aload_n 0, 1) := dk_42 (dk_at dksX7_isCounted_0 23 rfl rfl)
theorem dX7_isCounted_24 : decode cX7_isCounted 24 = .ok (.getfield 115, 3) := dk_180 0 115 (dk_at dksX7_isCounted_1 0 rfl rfl)
theorem dX7_isCounted_27 : decode cX7_isCounted 27 = .ok (.bipush 12, 2) := dk_16 12 (dk_at dksX7_isCounted_1 3 rfl rfl)
theorem dX7_isCounted_29 : decode cX7_isCounted 29 = .ok (.iload_n 1, 1) := dk_27 (dk_at dksX7_isCounted_1 5 rfl rfl)
theorem dX7_isCounted_30 : decode cX7_isCounted 30 = .ok (.imul, 1) := dk_104 (dk_at dksX7_isCounted_1 6 rfl rfl)
theorem dX7_isCounted_31 : decode cX7_isCounted 31 = .ok (.iload_n 3, 1) := dk_29 (dk_at dksX7_isCounted_1 7 rfl rfl)
theorem dX7_isCounted_32 : decode cX7_isCounted 32 = .ok (.iadd, 1) := dk_96 (dk_at dksX7_isCounted_1 8 rfl rfl)
theorem dX7_isCounted_33 : decode cX7_isCounted 33 = .ok (.iaload, 1) := dk_46 (dk_at dksX7_isCounted_1 9 rfl rfl)
theorem dX7_isCounted_34 : decode cX7_isCounted 34 = .ok (.ifCond .eq 7, 3) := dk_153 0 7 (dk_at dksX7_isCounted_1 10 rfl rfl)
theorem dX7_isCounted_37 : decode cX7_isCounted 37 = .ok (.iconst 1, 1) := dk_4 (dk_at dksX7_isCounted_1 13 rfl rfl)
theorem dX7_isCounted_38 : decode cX7_isCounted 38 = .ok (.goto 4, 3) := dk_167 0 4 (dk_at dksX7_isCounted_1 14 rfl rfl)
theorem dX7_isCounted_41 : decode cX7_isCounted 41 = .ok (.iconst 0, 1) := dk_3 (dk_at dksX7_isCounted_1 17 rfl rfl)
theorem dX7_isCounted_42 : decode cX7_isCounted 42 = .ok (.ireturn, 1) := dk_172 (dk_at dksX7_isCounted_1 18 rfl rfl)
def dkwX7_changeOf_0 : List UInt8 := [42, 27, 29, 182, 1, 11, 42, 27, 28, 182, 1, 11, 100, 172]
abbrev dktX7_changeOf_0 : List UInt8 := dkwX7_changeOf_0 ++ []
theorem dksX7_changeOf_0 : cX7_changeOf.data.toList.drop 0 = dktX7_changeOf_0 := by decide +kernel
theorem dX7_changeOf_0 : decode cX7_changeOf 0 = .ok (.aload_n 0, 1) := dk_42 (dk_at dksX7_changeOf_0 0 rfl rfl)
theorem dX7_changeOf_1 : decode cX7_changeOf 1 = .ok (.iload_n 1, 1) := dk_27 (dk_at dksX7_changeOf_0 1 rfl rfl)
theorem dX7_changeOf_2 : decode cX7_changeOf 2 = .ok (.iload_n 3, 1) := dk_29 (dk_at dksX7_changeOf_0 2 rfl rfl)
theorem dX7_changeOf_3 : decode cX7_changeOf 3 = .ok (.invokevirtual 267, 3) := dk_182 1 11 (dk_at dksX7_changeOf_0 3 rfl rfl)
theorem dX7_changeOf_6 : decode cX7_changeOf 6 = .ok (.aload_n 0, 1) := dk_42 (dk_at dksX7_changeOf_0 6 rfl rfl)
theorem dX7_changeOf_7 : decode cX7_changeOf 7 = .ok (.iload_n 1, 1) := dk_27 (dk_at dksX7_changeOf_0 7 rfl rfl)
theorem dX7_changeOf_8 : decode cX7_changeOf 8 = .ok (.iload_n 2, 1) := dk_28 (dk_at dksX7_changeOf_0 8 rfl rfl)
theorem dX7_changeOf_9 : decode cX7_changeOf 9 = .ok (.invokevirtual 267, 3) := dk_182 1 11 (dk_at dksX7_changeOf_0 9 rfl rfl)
theorem dX7_changeOf_12 : decode cX7_changeOf 12 = .ok (.isub, 1) := dk_100 (dk_at dksX7_changeOf_0 12 rfl rfl)
theorem dX7_changeOf_13 : decode cX7_changeOf 13 = .ok (.ireturn, 1) := dk_172 (dk_at dksX7_changeOf_0 13 rfl rfl)
def dkwX7_river_2 : List UInt8 := [42, 180, 0, 1, 158, 0, 7, 9, 167, 0, 9, 42, 21, 4, 182, 1, 65, 173]
abbrev dktX7_river_2 : List UInt8 := dkwX7_river_2 ++ []
def dkwX7_river_1 : List UInt8 := [184, 1, 59, 153, 0, 17, 42, 27, 28, 29, 182, 1, 62, 153, 0, 7, 3, 167, 0, 4, 4, 181, 0, 1]
abbrev dktX7_river_1 : List UInt8 := dkwX7_river_1 ++ dktX7_river_2
def dkwX7_river_0 : List UInt8 := [42, 27, 28, 184, 1, 14, 153, 0, 38, 29, 2, 159, 0, 11, 42, 29, 182, 1, 1, 153, 0, 25, 21, 4]
abbrev dktX7_river_0 : List UInt8 := dkwX7_river_0 ++ dktX7_river_1
theorem dksX7_river_0 : cX7_river.data.toList.drop 0 = dktX7_river_0 := by decide +kernel
theorem dksX7_river_1 : cX7_river.data.toList.drop 24 = dktX7_river_1 := dk_seg dksX7_river_0 24 rfl rfl
theorem dksX7_river_2 : cX7_river.data.toList.drop 48 = dktX7_river_2 := dk_seg dksX7_river_1 24 rfl rfl
theorem dX7_river_0 : decode cX7_river 0 = .ok (.aload_n 0, 1) := dk_42 (dk_at dksX7_river_0 0 rfl rfl)
theorem dX7_river_1 : decode cX7_river 1 = .ok (.iload_n 1, 1) := dk_27 (dk_at dksX7_river_0 1 rfl rfl)
theorem dX7_river_2 : decode cX7_river 2 = .ok (.iload_n 2, 1) := dk_28 (dk_at dksX7_river_0 2 rfl rfl)
theorem dX7_river_3 : decode cX7_river 3 = .ok (.invokestatic 270, 3) := dk_184 1 14 (dk_at dksX7_river_0 3 rfl rfl)
theorem dX7_river_6 : decode cX7_river 6 = .ok (.ifCond .eq 38, 3) := dk_153 0 38 (dk_at dksX7_river_0 6 rfl rfl)
theorem dX7_river_9 : decode cX7_river 9 = .ok (.iload_n 3, 1) := dk_29 (dk_at dksX7_river_0 9 rfl rfl)
theorem dX7_river_10 : decode cX7_river 10 = .ok (.iconst (-1), 1) := dk_2 (dk_at dksX7_river_0 10 rfl rfl)
theorem dX7_river_11 : decode cX7_river 11 = .ok (.if_icmp .eq 11, 3) := dk_159 0 11 (dk_at dksX7_river_0 11 rfl rfl)
theorem dX7_river_14 : decode cX7_river 14 = .ok (.aload_n 0, 1) := dk_42 (dk_at dksX7_river_0 14 rfl rfl)
theorem dX7_river_15 : decode cX7_river 15 = .ok (.iload_n 3, 1) := dk_29 (dk_at dksX7_river_0 15 rfl rfl)
theorem dX7_river_16 : decode cX7_river 16 = .ok (.invokevirtual 257, 3) := dk_182 1 1 (dk_at dksX7_river_0 16 rfl rfl)
theorem dX7_river_19 : decode cX7_river 19 = .ok (.ifCond .eq 25, 3) := dk_153 0 25 (dk_at dksX7_river_0 19 rfl rfl)
theorem dX7_river_22 : decode cX7_river 22 = .ok (.iload 4, 2) := dk_21 4 (dk_at dksX7_river_0 22 rfl rfl)
theorem dX7_river_24 : decode cX7_river 24 = .ok (.invokestatic 315, 3) := dk_184 1 59 (dk_at dksX7_river_1 0 rfl rfl)
theorem dX7_river_27 : decode cX7_river 27 = .ok (.ifCond .eq 17, 3) := dk_153 0 17 (dk_at dksX7_river_1 3 rfl rfl)
theorem dX7_river_30 : decode cX7_river 30 = .ok (.aload_n 0, 1) := dk_42 (dk_at dksX7_river_1 6 rfl rfl)
theorem dX7_river_31 : decode cX7_river 31 = .ok (.iload_n 1, 1) := dk_27 (dk_at dksX7_river_1 7 rfl rfl)
theorem dX7_river_32 : decode cX7_river 32 = .ok (.iload_n 2, 1) := dk_28 (dk_at dksX7_river_1 8 rfl rfl)
theorem dX7_river_33 : decode cX7_river 33 = .ok (.iload_n 3, 1) := dk_29 (dk_at dksX7_river_1 9 rfl rfl)
theorem dX7_river_34 : decode cX7_river 34 = .ok (.invokevirtual 318, 3) := dk_182 1 62 (dk_at dksX7_river_1 10 rfl rfl)
theorem dX7_river_37 : decode cX7_river 37 = .ok (.ifCond .eq 7, 3) := dk_153 0 7 (dk_at dksX7_river_1 13 rfl rfl)
theorem dX7_river_40 : decode cX7_river 40 = .ok (.iconst 0, 1) := dk_3 (dk_at dksX7_river_1 16 rfl rfl)
theorem dX7_river_41 : decode cX7_river 41 = .ok (.goto 4, 3) := dk_167 0 4 (dk_at dksX7_river_1 17 rfl rfl)
theorem dX7_river_44 : decode cX7_river 44 = .ok (.iconst 1, 1) := dk_4 (dk_at dksX7_river_1 20 rfl rfl)
theorem dX7_river_45 : decode cX7_river 45 = .ok (.putfield 1, 3) := dk_181 0 1 (dk_at dksX7_river_1 21 rfl rfl)
theorem dX7_river_48 : decode cX7_river 48 = .ok (.aload_n 0, 1) := dk_42 (dk_at dksX7_river_2 0 rfl rfl)
theorem dX7_river_49 : decode cX7_river 49 = .ok (.getfield 1, 3) := dk_180 0 1 (dk_at dksX7_river_2 1 rfl rfl)
theorem dX7_river_52 : decode cX7_river 52 = .ok (.ifCond .le 7, 3) := dk_158 0 7 (dk_at dksX7_river_2 4 rfl rfl)
theorem dX7_river_55 : decode cX7_river 55 = .ok (.lconst 0, 1) := dk_9 (dk_at dksX7_river_2 7 rfl rfl)
theorem dX7_river_56 : decode cX7_river 56 = .ok (.goto 9, 3) := dk_167 0 9 (dk_at dksX7_river_2 8 rfl rfl)
theorem dX7_river_59 : decode cX7_river 59 = .ok (.aload_n 0, 1) := dk_42 (dk_at dksX7_river_2 11 rfl rfl)
theorem dX7_river_60 : decode cX7_river 60 = .ok (.iload 4, 2) := dk_21 4 (dk_at dksX7_river_2 12 rfl rfl)
theorem dX7_river_62 : decode cX7_river 62 = .ok (.invokevirtual 321, 3) := dk_182 1 65 (dk_at dksX7_river_2 14 rfl rfl)
theorem dX7_river_65 : decode cX7_river 65 = .ok (.lreturn, 1) := dk_173 (dk_at dksX7_river_2 17 rfl rfl)
def dkwX7_isWhat_0 : List UInt8 := [26, 3, 4, 184, 0, 253, 172]
abbrev dktX7_isWhat_0 : List UInt8 := dkwX7_isWhat_0 ++ []
theorem dksX7_isWhat_0 : cX7_isWhat.data.toList.drop 0 = dktX7_isWhat_0 := by decide +kernel
theorem dX7_isWhat_0 : decode cX7_isWhat 0 = .ok (.iload_n 0, 1) := dk_26 (dk_at dksX7_isWhat_0 0 rfl rfl)
theorem dX7_isWhat_1 : decode cX7_isWhat 1 = .ok (.iconst 0, 1) := dk_3 (dk_at dksX7_isWhat_0 1 rfl rfl)
theorem dX7_isWhat_2 : decode cX7_isWhat 2 = .ok (.iconst 1, 1) := dk_4 (dk_at dksX7_isWhat_0 2 rfl rfl)
theorem dX7_isWhat_3 : decode cX7_isWhat 3 = .ok (.invokestatic 253, 3) := dk_184 0 253 (dk_at dksX7_isWhat_0 3 rfl rfl)
theorem dX7_isWhat_6 : decode cX7_isWhat 6 = .ok (.ireturn, 1) := dk_172 (dk_at dksX7_isWhat_0 6 rfl rfl)
def dkwX7_findRiver_2 : List UInt8 := [21, 4, 27, 28, 182, 1, 21, 133, 182, 1, 51, 132, 4, 1, 167, 255, 201, 42, 182, 1, 55, 172]
abbrev dktX7_findRiver_2 : List UInt8 := dkwX7_findRiver_2 ++ []
def dkwX7_findRiver_1 : List UInt8 := [28, 182, 1, 18, 153, 0, 31, 42, 42, 180, 0, 97, 21, 4, 46, 154, 0, 7, 4, 167, 0, 4, 3, 42]
abbrev dktX7_findRiver_1 : List UInt8 := dkwX7_findRiver_1 ++ dktX7_findRiver_2
def dkwX7_findRiver_0 : List UInt8 := [42, 182, 1, 48, 3, 54, 4, 21, 4, 16, 24, 162, 0, 54, 21, 4, 29, 159, 0, 42, 42, 21, 4, 27]
abbrev dktX7_findRiver_0 : List UInt8 := dkwX7_findRiver_0 ++ dktX7_findRiver_1
theorem dksX7_findRiver_0 : cX7_findRiver.data.toList.drop 0 = dktX7_findRiver_0 := by decide +kernel
theorem dksX7_findRiver_1 : cX7_findRiver.data.toList.drop 24 = dktX7_findRiver_1 := dk_seg dksX7_findRiver_0 24 rfl rfl
theorem dksX7_findRiver_2 : cX7_findRiver.data.toList.drop 48 = dktX7_findRiver_2 := dk_seg dksX7_findRiver_1 24 rfl rfl
theorem dX7_findRiver_0 : decode cX7_findRiver 0 = .ok (.aload_n 0, 1) := dk_42 (dk_at dksX7_findRiver_0 0 rfl rfl)
theorem dX7_findRiver_1 : decode cX7_findRiver 1 = .ok (.invokevirtual 304, 3) := dk_182 1 48 (dk_at dksX7_findRiver_0 1 rfl rfl)
theorem dX7_findRiver_4 : decode cX7_findRiver 4 = .ok (.iconst 0, 1) := dk_3 (dk_at dksX7_findRiver_0 4 rfl rfl)
theorem dX7_findRiver_5 : decode cX7_findRiver 5 = .ok (.istore 4, 2) := dk_54 4 (dk_at dksX7_findRiver_0 5 rfl rfl)
theorem dX7_findRiver_7 : decode cX7_findRiver 7 = .ok (.iload 4, 2) := dk_21 4 (dk_at dksX7_findRiver_0 7 rfl rfl)
theorem dX7_findRiver_9 : decode cX7_findRiver 9 = .ok (.bipush 24, 2) := dk_16 24 (dk_at dksX7_findRiver_0 9 rfl rfl)
theorem dX7_findRiver_11 : decode cX7_findRiver 11 = .ok (.if_icmp .ge 54, 3) := dk_162 0 54 (dk_at dksX7_findRiver_0 11 rfl rfl)
theorem dX7_findRiver_14 : decode cX7_findRiver 14 = .ok (.iload 4, 2) := dk_21 4 (dk_at dksX7_findRiver_0 14 rfl rfl)
theorem dX7_findRiver_16 : decode cX7_findRiver 16 = .ok (.iload_n 3, 1) := dk_29 (dk_at dksX7_findRiver_0 16 rfl rfl)
theorem dX7_findRiver_17 : decode cX7_findRiver 17 = .ok (.if_icmp .eq 42, 3) := dk_159 0 42 (dk_at dksX7_findRiver_0 17 rfl rfl)
theorem dX7_findRiver_20 : decode cX7_findRiver 20 = .ok (.aload_n 0, 1) := dk_42 (dk_at dksX7_findRiver_0 20 rfl rfl)
theorem dX7_findRiver_21 : decode cX7_findRiver 21 = .ok (.iload 4, 2) := dk_21 4 (dk_at dksX7_findRiver_0 21 rfl rfl)
theorem dX7_findRiver_23 : decode cX7_findRiver 23 = .ok (.iload_n 1, 1) := dk_27 (dk_at dksX7_findRiver_0 23 rfl rfl)
theorem dX7_findRiver_24 : decode cX7_findRiver 24 = .ok (.iload_n 2, 1) := dk_28 (dk_at dksX7_findRiver_1 0 rfl rfl)
theorem dX7_findRiver_25 : decode cX7_findRiver 25 = .ok (.invokevirtual 274, 3) := dk_182 1 18 (dk_at dksX7_findRiver_1 1 rfl rfl)
theorem dX7_findRiver_28 : decode cX7_findRiver 28 = .ok (.ifCond .eq 31, 3) := dk_153 0 31 (dk_at dksX7_findRiver_1 4 rfl rfl)
theorem dX7_findRiver_31 : decode cX7_findRiver 31 = .ok (.aload_n 0, 1) := dk_42 (dk_at dksX7_findRiver_1 7 rfl rfl)
theorem dX7_findRiver_32 : decode cX7_findRiver 32 = .ok (.aload_n 0, 1) := dk_42 (dk_at dksX7_findRiver_1 8 rfl rfl)
theorem dX7_findRiver_33 : decode cX7_findRiver 33 = .ok (.getfield 97, 3) := dk_180 0 97 (dk_at dksX7_findRiver_1 9 rfl rfl)
theorem dX7_findRiver_36 : decode cX7_findRiver 36 = .ok (.iload 4, 2) := dk_21 4 (dk_at dksX7_findRiver_1 12 rfl rfl)
theorem dX7_findRiver_38 : decode cX7_findRiver 38 = .ok (.iaload, 1) := dk_46 (dk_at dksX7_findRiver_1 14 rfl rfl)
theorem dX7_findRiver_39 : decode cX7_findRiver 39 = .ok (.ifCond .ne 7, 3) := dk_154 0 7 (dk_at dksX7_findRiver_1 15 rfl rfl)
theorem dX7_findRiver_42 : decode cX7_findRiver 42 = .ok (.iconst 1, 1) := dk_4 (dk_at dksX7_findRiver_1 18 rfl rfl)
theorem dX7_findRiver_43 : decode cX7_findRiver 43 = .ok (.goto 4, 3) := dk_167 0 4 (dk_at dksX7_findRiver_1 19 rfl rfl)
theorem dX7_findRiver_46 : decode cX7_findRiver 46 = .ok (.iconst 0, 1) := dk_3 (dk_at dksX7_findRiver_1 22 rfl rfl)
theorem dX7_findRiver_47 : decode cX7_findRiver 47 = .ok (.aload_n 0, 1) := dk_42 (dk_at dksX7_findRiver_1 23 rfl rfl)
theorem dX7_findRiver_48 : decode cX7_findRiver 48 = .ok (.iload 4, 2) := dk_21 4 (dk_at dksX7_findRiver_2 0 rfl rfl)
theorem dX7_findRiver_50 : decode cX7_findRiver 50 = .ok (.iload_n 1, 1) := dk_27 (dk_at dksX7_findRiver_2 2 rfl rfl)
theorem dX7_findRiver_51 : decode cX7_findRiver 51 = .ok (.iload_n 2, 1) := dk_28 (dk_at dksX7_findRiver_2 3 rfl rfl)
theorem dX7_findRiver_52 : decode cX7_findRiver 52 = .ok (.invokevirtual 277, 3) := dk_182 1 21 (dk_at dksX7_findRiver_2 4 rfl rfl)
theorem dX7_findRiver_55 : decode cX7_findRiver 55 = .ok (.i2l, 1) := dk_133 (dk_at dksX7_findRiver_2 7 rfl rfl)
theorem dX7_findRiver_56 : decode cX7_findRiver 56 = .ok (.invokevirtual 307, 3) := dk_182 1 51 (dk_at dksX7_findRiver_2 8 rfl rfl)
theorem dX7_findRiver_59 : decode cX7_findRiver 59 = .ok (.iinc 4 1, 3) := dk_132 4 1 (dk_at dksX7_findRiver_2 11 rfl rfl)
theorem dX7_findRiver_62 : decode cX7_findRiver 62 = .ok (.goto (-55), 3) := dk_167 255 201 (dk_at dksX7_findRiver_2 14 rfl rfl)
theorem dX7_findRiver_65 : decode cX7_findRiver 65 = .ok (.aload_n 0, 1) := dk_42 (dk_at dksX7_findRiver_2 17 rfl rfl)
theorem dX7_findRiver_66 : decode cX7_findRiver 66 = .ok (.invokevirtual 311, 3) := dk_182 1 55 (dk_at dksX7_findRiver_2 18 rfl rfl)
theorem dX7_findRiver_69 : decode cX7_findRiver 69 = .ok (.ireturn, 1) := dk_172 (dk_at dksX7_findRiver_2 21 rfl rfl)
def dkwX7_beginsSums_0 : List UInt8 := [42, 9, 181, 1, 36, 42, 9, 181, 1, 39, 42, 9, 181, 1, 42, 42, 9, 181, 1, 45, 177]
abbrev dktX7_beginsSums_0 : List UInt8 := dkwX7_beginsSums_0 ++ []
theorem dksX7_beginsSums_0 : cX7_beginsSums.data.toList.drop 0 = dktX7_beginsSums_0 := by decide +kernel
theorem dX7_beginsSums_0 : decode cX7_beginsSums 0 = .ok (.aload_n 0, 1) := dk_42 (dk_at dksX7_beginsSums_0 0 rfl rfl)
theorem dX7_beginsSums_1 : decode cX7_beginsSums 1 = .ok (.lconst 0, 1) := dk_9 (dk_at dksX7_beginsSums_0 1 rfl rfl)
theorem dX7_beginsSums_2 : decode cX7_beginsSums 2 = .ok (.putfield 292, 3) := dk_181 1 36 (dk_at dksX7_beginsSums_0 2 rfl rfl)
theorem dX7_beginsSums_5 : decode cX7_beginsSums 5 = .ok (.aload_n 0, 1) := dk_42 (dk_at dksX7_beginsSums_0 5 rfl rfl)
theorem dX7_beginsSums_6 : decode cX7_beginsSums 6 = .ok (.lconst 0, 1) := dk_9 (dk_at dksX7_beginsSums_0 6 rfl rfl)
theorem dX7_beginsSums_7 : decode cX7_beginsSums 7 = .ok (.putfield 295, 3) := dk_181 1 39 (dk_at dksX7_beginsSums_0 7 rfl rfl)
theorem dX7_beginsSums_10 : decode cX7_beginsSums 10 = .ok (.aload_n 0, 1) := dk_42 (dk_at dksX7_beginsSums_0 10 rfl rfl)
theorem dX7_beginsSums_11 : decode cX7_beginsSums 11 = .ok (.lconst 0, 1) := dk_9 (dk_at dksX7_beginsSums_0 11 rfl rfl)
theorem dX7_beginsSums_12 : decode cX7_beginsSums 12 = .ok (.putfield 298, 3) := dk_181 1 42 (dk_at dksX7_beginsSums_0 12 rfl rfl)
theorem dX7_beginsSums_15 : decode cX7_beginsSums 15 = .ok (.aload_n 0, 1) := dk_42 (dk_at dksX7_beginsSums_0 15 rfl rfl)
theorem dX7_beginsSums_16 : decode cX7_beginsSums 16 = .ok (.lconst 0, 1) := dk_9 (dk_at dksX7_beginsSums_0 16 rfl rfl)
theorem dX7_beginsSums_17 : decode cX7_beginsSums 17 = .ok (.putfield 301, 3) := dk_181 1 45 (dk_at dksX7_beginsSums_0 17 rfl rfl)
theorem dX7_beginsSums_20 : decode cX7_beginsSums 20 = .ok (.return_, 1) := dk_177 (dk_at dksX7_beginsSums_0 20 rfl rfl)
def dkwX7_adds_3 : List UInt8 := [181, 1, 45, 177]
abbrev dktX7_adds_3 : List UInt8 := dkwX7_adds_3 ++ []
def dkwX7_adds_2 : List UInt8 := [167, 0, 4, 32, 97, 181, 1, 42, 42, 89, 180, 1, 45, 27, 153, 0, 7, 9, 167, 0, 4, 10, 97]
abbrev dktX7_adds_2 : List UInt8 := dkwX7_adds_2 ++ dktX7_adds_3
def dkwX7_adds_1 : List UInt8 := [153, 0, 7, 10, 167, 0, 4, 9, 97, 181, 1, 39, 42, 89, 180, 1, 42, 27, 153, 0, 7, 9]
abbrev dktX7_adds_1 : List UInt8 := dkwX7_adds_1 ++ dktX7_adds_2
def dkwX7_adds_0 : List UInt8 := [42, 89, 180, 1, 36, 27, 153, 0, 7, 32, 167, 0, 4, 9, 97, 181, 1, 36, 42, 89, 180, 1, 39, 27]
abbrev dktX7_adds_0 : List UInt8 := dkwX7_adds_0 ++ dktX7_adds_1
theorem dksX7_adds_0 : cX7_adds.data.toList.drop 0 = dktX7_adds_0 := by decide +kernel
theorem dksX7_adds_1 : cX7_adds.data.toList.drop 24 = dktX7_adds_1 := dk_seg dksX7_adds_0 24 rfl rfl
theorem dksX7_adds_2 : cX7_adds.data.toList.drop 46 = dktX7_adds_2 := dk_seg dksX7_adds_1 22 rfl rfl
theorem dksX7_adds_3 : cX7_adds.data.toList.drop 69 = dktX7_adds_3 := dk_seg dksX7_adds_2 23 rfl rfl
theorem dX7_adds_0 : decode cX7_adds 0 = .ok (.aload_n 0, 1) := dk_42 (dk_at dksX7_adds_0 0 rfl rfl)
theorem dX7_adds_1 : decode cX7_adds 1 = .ok (.dup, 1) := dk_89 (dk_at dksX7_adds_0 1 rfl rfl)
theorem dX7_adds_2 : decode cX7_adds 2 = .ok (.getfield 292, 3) := dk_180 1 36 (dk_at dksX7_adds_0 2 rfl rfl)
theorem dX7_adds_5 : decode cX7_adds 5 = .ok (.iload_n 1, 1) := dk_27 (dk_at dksX7_adds_0 5 rfl rfl)
theorem dX7_adds_6 : decode cX7_adds 6 = .ok (.ifCond .eq 7, 3) := dk_153 0 7 (dk_at dksX7_adds_0 6 rfl rfl)
theorem dX7_adds_9 : decode cX7_adds 9 = .ok (.lload_n 2, 1) := dk_32 (dk_at dksX7_adds_0 9 rfl rfl)
theorem dX7_adds_10 : decode cX7_adds 10 = .ok (.goto 4, 3) := dk_167 0 4 (dk_at dksX7_adds_0 10 rfl rfl)
theorem dX7_adds_13 : decode cX7_adds 13 = .ok (.lconst 0, 1) := dk_9 (dk_at dksX7_adds_0 13 rfl rfl)
theorem dX7_adds_14 : decode cX7_adds 14 = .ok (.ladd, 1) := dk_97 (dk_at dksX7_adds_0 14 rfl rfl)
theorem dX7_adds_15 : decode cX7_adds 15 = .ok (.putfield 292, 3) := dk_181 1 36 (dk_at dksX7_adds_0 15 rfl rfl)
theorem dX7_adds_18 : decode cX7_adds 18 = .ok (.aload_n 0, 1) := dk_42 (dk_at dksX7_adds_0 18 rfl rfl)
theorem dX7_adds_19 : decode cX7_adds 19 = .ok (.dup, 1) := dk_89 (dk_at dksX7_adds_0 19 rfl rfl)
theorem dX7_adds_20 : decode cX7_adds 20 = .ok (.getfield 295, 3) := dk_180 1 39 (dk_at dksX7_adds_0 20 rfl rfl)
theorem dX7_adds_23 : decode cX7_adds 23 = .ok (.iload_n 1, 1) := dk_27 (dk_at dksX7_adds_0 23 rfl rfl)
theorem dX7_adds_24 : decode cX7_adds 24 = .ok (.ifCond .eq 7, 3) := dk_153 0 7 (dk_at dksX7_adds_1 0 rfl rfl)
theorem dX7_adds_27 : decode cX7_adds 27 = .ok (.lconst 1, 1) := dk_10 (dk_at dksX7_adds_1 3 rfl rfl)
theorem dX7_adds_28 : decode cX7_adds 28 = .ok (.goto 4, 3) := dk_167 0 4 (dk_at dksX7_adds_1 4 rfl rfl)
theorem dX7_adds_31 : decode cX7_adds 31 = .ok (.lconst 0, 1) := dk_9 (dk_at dksX7_adds_1 7 rfl rfl)
theorem dX7_adds_32 : decode cX7_adds 32 = .ok (.ladd, 1) := dk_97 (dk_at dksX7_adds_1 8 rfl rfl)
theorem dX7_adds_33 : decode cX7_adds 33 = .ok (.putfield 295, 3) := dk_181 1 39 (dk_at dksX7_adds_1 9 rfl rfl)
theorem dX7_adds_36 : decode cX7_adds 36 = .ok (.aload_n 0, 1) := dk_42 (dk_at dksX7_adds_1 12 rfl rfl)
theorem dX7_adds_37 : decode cX7_adds 37 = .ok (.dup, 1) := dk_89 (dk_at dksX7_adds_1 13 rfl rfl)
theorem dX7_adds_38 : decode cX7_adds 38 = .ok (.getfield 298, 3) := dk_180 1 42 (dk_at dksX7_adds_1 14 rfl rfl)
theorem dX7_adds_41 : decode cX7_adds 41 = .ok (.iload_n 1, 1) := dk_27 (dk_at dksX7_adds_1 17 rfl rfl)
theorem dX7_adds_42 : decode cX7_adds 42 = .ok (.ifCond .eq 7, 3) := dk_153 0 7 (dk_at dksX7_adds_1 18 rfl rfl)
theorem dX7_adds_45 : decode cX7_adds 45 = .ok (.lconst 0, 1) := dk_9 (dk_at dksX7_adds_1 21 rfl rfl)
theorem dX7_adds_46 : decode cX7_adds 46 = .ok (.goto 4, 3) := dk_167 0 4 (dk_at dksX7_adds_2 0 rfl rfl)
theorem dX7_adds_49 : decode cX7_adds 49 = .ok (.lload_n 2, 1) := dk_32 (dk_at dksX7_adds_2 3 rfl rfl)
theorem dX7_adds_50 : decode cX7_adds 50 = .ok (.ladd, 1) := dk_97 (dk_at dksX7_adds_2 4 rfl rfl)
theorem dX7_adds_51 : decode cX7_adds 51 = .ok (.putfield 298, 3) := dk_181 1 42 (dk_at dksX7_adds_2 5 rfl rfl)
theorem dX7_adds_54 : decode cX7_adds 54 = .ok (.aload_n 0, 1) := dk_42 (dk_at dksX7_adds_2 8 rfl rfl)
theorem dX7_adds_55 : decode cX7_adds 55 = .ok (.dup, 1) := dk_89 (dk_at dksX7_adds_2 9 rfl rfl)
theorem dX7_adds_56 : decode cX7_adds 56 = .ok (.getfield 301, 3) := dk_180 1 45 (dk_at dksX7_adds_2 10 rfl rfl)
theorem dX7_adds_59 : decode cX7_adds 59 = .ok (.iload_n 1, 1) := dk_27 (dk_at dksX7_adds_2 13 rfl rfl)
theorem dX7_adds_60 : decode cX7_adds 60 = .ok (.ifCond .eq 7, 3) := dk_153 0 7 (dk_at dksX7_adds_2 14 rfl rfl)
theorem dX7_adds_63 : decode cX7_adds 63 = .ok (.lconst 0, 1) := dk_9 (dk_at dksX7_adds_2 17 rfl rfl)
theorem dX7_adds_64 : decode cX7_adds 64 = .ok (.goto 4, 3) := dk_167 0 4 (dk_at dksX7_adds_2 18 rfl rfl)
theorem dX7_adds_67 : decode cX7_adds 67 = .ok (.lconst 1, 1) := dk_10 (dk_at dksX7_adds_2 21 rfl rfl)
theorem dX7_adds_68 : decode cX7_adds 68 = .ok (.ladd, 1) := dk_97 (dk_at dksX7_adds_2 22 rfl rfl)
theorem dX7_adds_69 : decode cX7_adds 69 = .ok (.putfield 301, 3) := dk_181 1 45 (dk_at dksX7_adds_3 0 rfl rfl)
theorem dX7_adds_72 : decode cX7_adds 72 = .ok (.return_, 1) := dk_177 (dk_at dksX7_adds_3 3 rfl rfl)
def dkwX7_differs_2 : List UInt8 := [167, 0, 4, 3, 172]
abbrev dktX7_differs_2 : List UInt8 := dkwX7_differs_2 ++ []
def dkwX7_differs_1 : List UInt8 := [42, 180, 1, 39, 42, 180, 1, 45, 105, 181, 1, 29, 42, 180, 1, 29, 9, 148, 158, 0, 7, 4]
abbrev dktX7_differs_1 : List UInt8 := dkwX7_differs_1 ++ dktX7_differs_2
def dkwX7_differs_0 : List UInt8 := [42, 42, 180, 1, 36, 42, 180, 1, 45, 105, 42, 180, 1, 42, 42, 180, 1, 39, 105, 101, 181, 1, 25, 42]
abbrev dktX7_differs_0 : List UInt8 := dkwX7_differs_0 ++ dktX7_differs_1
theorem dksX7_differs_0 : cX7_differs.data.toList.drop 0 = dktX7_differs_0 := by decide +kernel
theorem dksX7_differs_1 : cX7_differs.data.toList.drop 24 = dktX7_differs_1 := dk_seg dksX7_differs_0 24 rfl rfl
theorem dksX7_differs_2 : cX7_differs.data.toList.drop 46 = dktX7_differs_2 := dk_seg dksX7_differs_1 22 rfl rfl
theorem dX7_differs_0 : decode cX7_differs 0 = .ok (.aload_n 0, 1) := dk_42 (dk_at dksX7_differs_0 0 rfl rfl)
theorem dX7_differs_1 : decode cX7_differs 1 = .ok (.aload_n 0, 1) := dk_42 (dk_at dksX7_differs_0 1 rfl rfl)
theorem dX7_differs_2 : decode cX7_differs 2 = .ok (.getfield 292, 3) := dk_180 1 36 (dk_at dksX7_differs_0 2 rfl rfl)
theorem dX7_differs_5 : decode cX7_differs 5 = .ok (.aload_n 0, 1) := dk_42 (dk_at dksX7_differs_0 5 rfl rfl)
theorem dX7_differs_6 : decode cX7_differs 6 = .ok (.getfield 301, 3) := dk_180 1 45 (dk_at dksX7_differs_0 6 rfl rfl)
theorem dX7_differs_9 : decode cX7_differs 9 = .ok (.lmul, 1) := dk_105 (dk_at dksX7_differs_0 9 rfl rfl)
theorem dX7_differs_10 : decode cX7_differs 10 = .ok (.aload_n 0, 1) := dk_42 (dk_at dksX7_differs_0 10 rfl rfl)
theorem dX7_differs_11 : decode cX7_differs 11 = .ok (.getfield 298, 3) := dk_180 1 42 (dk_at dksX7_differs_0 11 rfl rfl)
theorem dX7_differs_14 : decode cX7_differs 14 = .ok (.aload_n 0, 1) := dk_42 (dk_at dksX7_differs_0 14 rfl rfl)
theorem dX7_differs_15 : decode cX7_differs 15 = .ok (.getfield 295, 3) := dk_180 1 39 (dk_at dksX7_differs_0 15 rfl rfl)
theorem dX7_differs_18 : decode cX7_differs 18 = .ok (.lmul, 1) := dk_105 (dk_at dksX7_differs_0 18 rfl rfl)
theorem dX7_differs_19 : decode cX7_differs 19 = .ok (.lsub, 1) := dk_101 (dk_at dksX7_differs_0 19 rfl rfl)
theorem dX7_differs_20 : decode cX7_differs 20 = .ok (.putfield 281, 3) := dk_181 1 25 (dk_at dksX7_differs_0 20 rfl rfl)
theorem dX7_differs_23 : decode cX7_differs 23 = .ok (.aload_n 0, 1) := dk_42 (dk_at dksX7_differs_0 23 rfl rfl)
theorem dX7_differs_24 : decode cX7_differs 24 = .ok (.aload_n 0, 1) := dk_42 (dk_at dksX7_differs_1 0 rfl rfl)
theorem dX7_differs_25 : decode cX7_differs 25 = .ok (.getfield 295, 3) := dk_180 1 39 (dk_at dksX7_differs_1 1 rfl rfl)
theorem dX7_differs_28 : decode cX7_differs 28 = .ok (.aload_n 0, 1) := dk_42 (dk_at dksX7_differs_1 4 rfl rfl)
theorem dX7_differs_29 : decode cX7_differs 29 = .ok (.getfield 301, 3) := dk_180 1 45 (dk_at dksX7_differs_1 5 rfl rfl)
theorem dX7_differs_32 : decode cX7_differs 32 = .ok (.lmul, 1) := dk_105 (dk_at dksX7_differs_1 8 rfl rfl)
theorem dX7_differs_33 : decode cX7_differs 33 = .ok (.putfield 285, 3) := dk_181 1 29 (dk_at dksX7_differs_1 9 rfl rfl)
theorem dX7_differs_36 : decode cX7_differs 36 = .ok (.aload_n 0, 1) := dk_42 (dk_at dksX7_differs_1 12 rfl rfl)
theorem dX7_differs_37 : decode cX7_differs 37 = .ok (.getfield 285, 3) := dk_180 1 29 (dk_at dksX7_differs_1 13 rfl rfl)
theorem dX7_differs_40 : decode cX7_differs 40 = .ok (.lconst 0, 1) := dk_9 (dk_at dksX7_differs_1 16 rfl rfl)
theorem dX7_differs_41 : decode cX7_differs 41 = .ok (.lcmp, 1) := dk_148 (dk_at dksX7_differs_1 17 rfl rfl)
theorem dX7_differs_42 : decode cX7_differs 42 = .ok (.ifCond .le 7, 3) := dk_158 0 7 (dk_at dksX7_differs_1 18 rfl rfl)
theorem dX7_differs_45 : decode cX7_differs 45 = .ok (.iconst 1, 1) := dk_4 (dk_at dksX7_differs_1 21 rfl rfl)
theorem dX7_differs_46 : decode cX7_differs 46 = .ok (.goto 4, 3) := dk_167 0 4 (dk_at dksX7_differs_2 0 rfl rfl)
theorem dX7_differs_49 : decode cX7_differs 49 = .ok (.iconst 0, 1) := dk_3 (dk_at dksX7_differs_2 3 rfl rfl)
theorem dX7_differs_50 : decode cX7_differs 50 = .ok (.ireturn, 1) := dk_172 (dk_at dksX7_differs_2 4 rfl rfl)
def dkwX7_lowest_1 : List UInt8 := [167, 0, 9, 42, 180, 1, 29, 32, 109, 173]
abbrev dktX7_lowest_1 : List UInt8 := dkwX7_lowest_1 ++ []
def dkwX7_lowest_0 : List UInt8 := [42, 180, 1, 25, 42, 180, 1, 29, 184, 1, 32, 65, 27, 154, 0, 12, 42, 180, 1, 25, 32, 109]
abbrev dktX7_lowest_0 : List UInt8 := dkwX7_lowest_0 ++ dktX7_lowest_1
theorem dksX7_lowest_0 : cX7_lowest.data.toList.drop 0 = dktX7_lowest_0 := by decide +kernel
theorem dksX7_lowest_1 : cX7_lowest.data.toList.drop 22 = dktX7_lowest_1 := dk_seg dksX7_lowest_0 22 rfl rfl
theorem dX7_lowest_0 : decode cX7_lowest 0 = .ok (.aload_n 0, 1) := dk_42 (dk_at dksX7_lowest_0 0 rfl rfl)
theorem dX7_lowest_1 : decode cX7_lowest 1 = .ok (.getfield 281, 3) := dk_180 1 25 (dk_at dksX7_lowest_0 1 rfl rfl)
theorem dX7_lowest_4 : decode cX7_lowest 4 = .ok (.aload_n 0, 1) := dk_42 (dk_at dksX7_lowest_0 4 rfl rfl)
theorem dX7_lowest_5 : decode cX7_lowest 5 = .ok (.getfield 285, 3) := dk_180 1 29 (dk_at dksX7_lowest_0 5 rfl rfl)
theorem dX7_lowest_8 : decode cX7_lowest 8 = .ok (.invokestatic 288, 3) := dk_184 1 32 (dk_at dksX7_lowest_0 8 rfl rfl)
theorem dX7_lowest_11 : decode cX7_lowest 11 = .ok (.lstore_n 2, 1) := dk_65 (dk_at dksX7_lowest_0 11 rfl rfl)
theorem dX7_lowest_12 : decode cX7_lowest 12 = .ok (.iload_n 1, 1) := dk_27 (dk_at dksX7_lowest_0 12 rfl rfl)
theorem dX7_lowest_13 : decode cX7_lowest 13 = .ok (.ifCond .ne 12, 3) := dk_154 0 12 (dk_at dksX7_lowest_0 13 rfl rfl)
theorem dX7_lowest_16 : decode cX7_lowest 16 = .ok (.aload_n 0, 1) := dk_42 (dk_at dksX7_lowest_0 16 rfl rfl)
theorem dX7_lowest_17 : decode cX7_lowest 17 = .ok (.getfield 281, 3) := dk_180 1 25 (dk_at dksX7_lowest_0 17 rfl rfl)
theorem dX7_lowest_20 : decode cX7_lowest 20 = .ok (.lload_n 2, 1) := dk_32 (dk_at dksX7_lowest_0 20 rfl rfl)
theorem dX7_lowest_21 : decode cX7_lowest 21 = .ok (.ldiv, 1) := dk_109 (dk_at dksX7_lowest_0 21 rfl rfl)
theorem dX7_lowest_22 : decode cX7_lowest 22 = .ok (.goto 9, 3) := dk_167 0 9 (dk_at dksX7_lowest_1 0 rfl rfl)
theorem dX7_lowest_25 : decode cX7_lowest 25 = .ok (.aload_n 0, 1) := dk_42 (dk_at dksX7_lowest_1 3 rfl rfl)
theorem dX7_lowest_26 : decode cX7_lowest 26 = .ok (.getfield 285, 3) := dk_180 1 29 (dk_at dksX7_lowest_1 4 rfl rfl)
theorem dX7_lowest_29 : decode cX7_lowest 29 = .ok (.lload_n 2, 1) := dk_32 (dk_at dksX7_lowest_1 7 rfl rfl)
theorem dX7_lowest_30 : decode cX7_lowest 30 = .ok (.ldiv, 1) := dk_109 (dk_at dksX7_lowest_1 8 rfl rfl)
theorem dX7_lowest_31 : decode cX7_lowest 31 = .ok (.lreturn, 1) := dk_173 (dk_at dksX7_lowest_1 9 rfl rfl)
def dkwX7_common_2 : List UInt8 := [22, 8, 55, 6, 167, 255, 234, 22, 4, 173]
abbrev dktX7_common_2 : List UInt8 := dkwX7_common_2 ++ []
def dkwX7_common_1 : List UInt8 := [167, 0, 4, 32, 55, 6, 22, 6, 9, 148, 153, 0, 21, 22, 4, 22, 6, 113, 55, 8, 22, 6, 55, 4]
abbrev dktX7_common_1 : List UInt8 := dkwX7_common_1 ++ dktX7_common_2
def dkwX7_common_0 : List UInt8 := [30, 9, 148, 156, 0, 8, 30, 117, 167, 0, 4, 30, 55, 4, 32, 9, 148, 156, 0, 8, 32, 117]
abbrev dktX7_common_0 : List UInt8 := dkwX7_common_0 ++ dktX7_common_1
theorem dksX7_common_0 : cX7_common.data.toList.drop 0 = dktX7_common_0 := by decide +kernel
theorem dksX7_common_1 : cX7_common.data.toList.drop 22 = dktX7_common_1 := dk_seg dksX7_common_0 22 rfl rfl
theorem dksX7_common_2 : cX7_common.data.toList.drop 46 = dktX7_common_2 := dk_seg dksX7_common_1 24 rfl rfl
theorem dX7_common_0 : decode cX7_common 0 = .ok (.lload_n 0, 1) := dk_30 (dk_at dksX7_common_0 0 rfl rfl)
theorem dX7_common_1 : decode cX7_common 1 = .ok (.lconst 0, 1) := dk_9 (dk_at dksX7_common_0 1 rfl rfl)
theorem dX7_common_2 : decode cX7_common 2 = .ok (.lcmp, 1) := dk_148 (dk_at dksX7_common_0 2 rfl rfl)
theorem dX7_common_3 : decode cX7_common 3 = .ok (.ifCond .ge 8, 3) := dk_156 0 8 (dk_at dksX7_common_0 3 rfl rfl)
theorem dX7_common_6 : decode cX7_common 6 = .ok (.lload_n 0, 1) := dk_30 (dk_at dksX7_common_0 6 rfl rfl)
theorem dX7_common_7 : decode cX7_common 7 = .ok (.lneg, 1) := dk_117 (dk_at dksX7_common_0 7 rfl rfl)
theorem dX7_common_8 : decode cX7_common 8 = .ok (.goto 4, 3) := dk_167 0 4 (dk_at dksX7_common_0 8 rfl rfl)
theorem dX7_common_11 : decode cX7_common 11 = .ok (.lload_n 0, 1) := dk_30 (dk_at dksX7_common_0 11 rfl rfl)
theorem dX7_common_12 : decode cX7_common 12 = .ok (.lstore 4, 2) := dk_55 4 (dk_at dksX7_common_0 12 rfl rfl)
theorem dX7_common_14 : decode cX7_common 14 = .ok (.lload_n 2, 1) := dk_32 (dk_at dksX7_common_0 14 rfl rfl)
theorem dX7_common_15 : decode cX7_common 15 = .ok (.lconst 0, 1) := dk_9 (dk_at dksX7_common_0 15 rfl rfl)
theorem dX7_common_16 : decode cX7_common 16 = .ok (.lcmp, 1) := dk_148 (dk_at dksX7_common_0 16 rfl rfl)
theorem dX7_common_17 : decode cX7_common 17 = .ok (.ifCond .ge 8, 3) := dk_156 0 8 (dk_at dksX7_common_0 17 rfl rfl)
theorem dX7_common_20 : decode cX7_common 20 = .ok (.lload_n 2, 1) := dk_32 (dk_at dksX7_common_0 20 rfl rfl)
theorem dX7_common_21 : decode cX7_common 21 = .ok (.lneg, 1) := dk_117 (dk_at dksX7_common_0 21 rfl rfl)
theorem dX7_common_22 : decode cX7_common 22 = .ok (.goto 4, 3) := dk_167 0 4 (dk_at dksX7_common_1 0 rfl rfl)
theorem dX7_common_25 : decode cX7_common 25 = .ok (.lload_n 2, 1) := dk_32 (dk_at dksX7_common_1 3 rfl rfl)
theorem dX7_common_26 : decode cX7_common 26 = .ok (.lstore 6, 2) := dk_55 6 (dk_at dksX7_common_1 4 rfl rfl)
theorem dX7_common_28 : decode cX7_common 28 = .ok (.lload 6, 2) := dk_22 6 (dk_at dksX7_common_1 6 rfl rfl)
theorem dX7_common_30 : decode cX7_common 30 = .ok (.lconst 0, 1) := dk_9 (dk_at dksX7_common_1 8 rfl rfl)
theorem dX7_common_31 : decode cX7_common 31 = .ok (.lcmp, 1) := dk_148 (dk_at dksX7_common_1 9 rfl rfl)
theorem dX7_common_32 : decode cX7_common 32 = .ok (.ifCond .eq 21, 3) := dk_153 0 21 (dk_at dksX7_common_1 10 rfl rfl)
theorem dX7_common_35 : decode cX7_common 35 = .ok (.lload 4, 2) := dk_22 4 (dk_at dksX7_common_1 13 rfl rfl)
theorem dX7_common_37 : decode cX7_common 37 = .ok (.lload 6, 2) := dk_22 6 (dk_at dksX7_common_1 15 rfl rfl)
theorem dX7_common_39 : decode cX7_common 39 = .ok (.lrem, 1) := dk_113 (dk_at dksX7_common_1 17 rfl rfl)
theorem dX7_common_40 : decode cX7_common 40 = .ok (.lstore 8, 2) := dk_55 8 (dk_at dksX7_common_1 18 rfl rfl)
theorem dX7_common_42 : decode cX7_common 42 = .ok (.lload 6, 2) := dk_22 6 (dk_at dksX7_common_1 20 rfl rfl)
theorem dX7_common_44 : decode cX7_common 44 = .ok (.lstore 4, 2) := dk_55 4 (dk_at dksX7_common_1 22 rfl rfl)
theorem dX7_common_46 : decode cX7_common 46 = .ok (.lload 8, 2) := dk_22 8 (dk_at dksX7_common_2 0 rfl rfl)
theorem dX7_common_48 : decode cX7_common 48 = .ok (.lstore 6, 2) := dk_55 6 (dk_at dksX7_common_2 2 rfl rfl)
theorem dX7_common_50 : decode cX7_common 50 = .ok (.goto (-22), 3) := dk_167 255 234 (dk_at dksX7_common_2 4 rfl rfl)
theorem dX7_common_53 : decode cX7_common 53 = .ok (.lload 4, 2) := dk_22 4 (dk_at dksX7_common_2 7 rfl rfl)
theorem dX7_common_55 : decode cX7_common 55 = .ok (.lreturn, 1) := dk_173 (dk_at dksX7_common_2 9 rfl rfl)
def dkwX7_part_5 : List UInt8 := [181, 1, 25, 42, 22, 7, 42, 180, 1, 29, 105, 181, 1, 29, 42, 21, 4, 182, 1, 65, 173]
abbrev dktX7_part_5 : List UInt8 := dkwX7_part_5 ++ []
def dkwX7_part_4 : List UInt8 := [180, 0, 1, 158, 0, 5, 9, 173, 42, 22, 5, 42, 180, 1, 29, 105, 42, 180, 1, 25, 22, 7, 105, 101]
abbrev dktX7_part_4 : List UInt8 := dkwX7_part_4 ++ dktX7_part_5
def dkwX7_part_3 : List UInt8 := [157, 0, 13, 42, 27, 28, 29, 182, 1, 62, 154, 0, 7, 4, 167, 0, 4, 3, 181, 0, 1, 42]
abbrev dktX7_part_3 : List UInt8 := dkwX7_part_3 ++ dktX7_part_4
def dkwX7_part_2 : List UInt8 := [167, 0, 4, 4, 181, 0, 1, 42, 180, 1, 25, 55, 5, 42, 180, 1, 29, 55, 7, 42, 42, 180, 0, 1]
abbrev dktX7_part_2 : List UInt8 := dkwX7_part_2 ++ dktX7_part_3
def dkwX7_part_1 : List UInt8 := [153, 0, 25, 21, 4, 184, 1, 59, 153, 0, 17, 42, 27, 28, 2, 182, 1, 62, 153, 0, 7, 3]
abbrev dktX7_part_1 : List UInt8 := dkwX7_part_1 ++ dktX7_part_2
def dkwX7_part_0 : List UInt8 := [42, 27, 28, 184, 1, 14, 153, 0, 43, 42, 29, 182, 1, 1, 153, 0, 35, 42, 29, 27, 28, 182, 1, 18]
abbrev dktX7_part_0 : List UInt8 := dkwX7_part_0 ++ dktX7_part_1
theorem dksX7_part_0 : cX7_part.data.toList.drop 0 = dktX7_part_0 := by decide +kernel
theorem dksX7_part_1 : cX7_part.data.toList.drop 24 = dktX7_part_1 := dk_seg dksX7_part_0 24 rfl rfl
theorem dksX7_part_2 : cX7_part.data.toList.drop 46 = dktX7_part_2 := dk_seg dksX7_part_1 22 rfl rfl
theorem dksX7_part_3 : cX7_part.data.toList.drop 70 = dktX7_part_3 := dk_seg dksX7_part_2 24 rfl rfl
theorem dksX7_part_4 : cX7_part.data.toList.drop 92 = dktX7_part_4 := dk_seg dksX7_part_3 22 rfl rfl
theorem dksX7_part_5 : cX7_part.data.toList.drop 116 = dktX7_part_5 := dk_seg dksX7_part_4 24 rfl rfl
theorem dX7_part_0 : decode cX7_part 0 = .ok (.aload_n 0, 1) := dk_42 (dk_at dksX7_part_0 0 rfl rfl)
theorem dX7_part_1 : decode cX7_part 1 = .ok (.iload_n 1, 1) := dk_27 (dk_at dksX7_part_0 1 rfl rfl)
theorem dX7_part_2 : decode cX7_part 2 = .ok (.iload_n 2, 1) := dk_28 (dk_at dksX7_part_0 2 rfl rfl)
theorem dX7_part_3 : decode cX7_part 3 = .ok (.invokestatic 270, 3) := dk_184 1 14 (dk_at dksX7_part_0 3 rfl rfl)
theorem dX7_part_6 : decode cX7_part 6 = .ok (.ifCond .eq 43, 3) := dk_153 0 43 (dk_at dksX7_part_0 6 rfl rfl)
theorem dX7_part_9 : decode cX7_part 9 = .ok (.aload_n 0, 1) := dk_42 (dk_at dksX7_part_0 9 rfl rfl)
theorem dX7_part_10 : decode cX7_part 10 = .ok (.iload_n 3, 1) := dk_29 (dk_at dksX7_part_0 10 rfl rfl)
theorem dX7_part_11 : decode cX7_part 11 = .ok (.invokevirtual 257, 3) := dk_182 1 1 (dk_at dksX7_part_0 11 rfl rfl)
theorem dX7_part_14 : decode cX7_part 14 = .ok (.ifCond .eq 35, 3) := dk_153 0 35 (dk_at dksX7_part_0 14 rfl rfl)
theorem dX7_part_17 : decode cX7_part 17 = .ok (.aload_n 0, 1) := dk_42 (dk_at dksX7_part_0 17 rfl rfl)
theorem dX7_part_18 : decode cX7_part 18 = .ok (.iload_n 3, 1) := dk_29 (dk_at dksX7_part_0 18 rfl rfl)
theorem dX7_part_19 : decode cX7_part 19 = .ok (.iload_n 1, 1) := dk_27 (dk_at dksX7_part_0 19 rfl rfl)
theorem dX7_part_20 : decode cX7_part 20 = .ok (.iload_n 2, 1) := dk_28 (dk_at dksX7_part_0 20 rfl rfl)
theorem dX7_part_21 : decode cX7_part 21 = .ok (.invokevirtual 274, 3) := dk_182 1 18 (dk_at dksX7_part_0 21 rfl rfl)
theorem dX7_part_24 : decode cX7_part 24 = .ok (.ifCond .eq 25, 3) := dk_153 0 25 (dk_at dksX7_part_1 0 rfl rfl)
theorem dX7_part_27 : decode cX7_part 27 = .ok (.iload 4, 2) := dk_21 4 (dk_at dksX7_part_1 3 rfl rfl)
theorem dX7_part_29 : decode cX7_part 29 = .ok (.invokestatic 315, 3) := dk_184 1 59 (dk_at dksX7_part_1 5 rfl rfl)
theorem dX7_part_32 : decode cX7_part 32 = .ok (.ifCond .eq 17, 3) := dk_153 0 17 (dk_at dksX7_part_1 8 rfl rfl)
theorem dX7_part_35 : decode cX7_part 35 = .ok (.aload_n 0, 1) := dk_42 (dk_at dksX7_part_1 11 rfl rfl)
theorem dX7_part_36 : decode cX7_part 36 = .ok (.iload_n 1, 1) := dk_27 (dk_at dksX7_part_1 12 rfl rfl)
theorem dX7_part_37 : decode cX7_part 37 = .ok (.iload_n 2, 1) := dk_28 (dk_at dksX7_part_1 13 rfl rfl)
theorem dX7_part_38 : decode cX7_part 38 = .ok (.iconst (-1), 1) := dk_2 (dk_at dksX7_part_1 14 rfl rfl)
theorem dX7_part_39 : decode cX7_part 39 = .ok (.invokevirtual 318, 3) := dk_182 1 62 (dk_at dksX7_part_1 15 rfl rfl)
theorem dX7_part_42 : decode cX7_part 42 = .ok (.ifCond .eq 7, 3) := dk_153 0 7 (dk_at dksX7_part_1 18 rfl rfl)
theorem dX7_part_45 : decode cX7_part 45 = .ok (.iconst 0, 1) := dk_3 (dk_at dksX7_part_1 21 rfl rfl)
theorem dX7_part_46 : decode cX7_part 46 = .ok (.goto 4, 3) := dk_167 0 4 (dk_at dksX7_part_2 0 rfl rfl)
theorem dX7_part_49 : decode cX7_part 49 = .ok (.iconst 1, 1) := dk_4 (dk_at dksX7_part_2 3 rfl rfl)
theorem dX7_part_50 : decode cX7_part 50 = .ok (.putfield 1, 3) := dk_181 0 1 (dk_at dksX7_part_2 4 rfl rfl)
theorem dX7_part_53 : decode cX7_part 53 = .ok (.aload_n 0, 1) := dk_42 (dk_at dksX7_part_2 7 rfl rfl)
theorem dX7_part_54 : decode cX7_part 54 = .ok (.getfield 281, 3) := dk_180 1 25 (dk_at dksX7_part_2 8 rfl rfl)
theorem dX7_part_57 : decode cX7_part 57 = .ok (.lstore 5, 2) := dk_55 5 (dk_at dksX7_part_2 11 rfl rfl)
theorem dX7_part_59 : decode cX7_part 59 = .ok (.aload_n 0, 1) := dk_42 (dk_at dksX7_part_2 13 rfl rfl)
theorem dX7_part_60 : decode cX7_part 60 = .ok (.getfield 285, 3) := dk_180 1 29 (dk_at dksX7_part_2 14 rfl rfl)
theorem dX7_part_63 : decode cX7_part 63 = .ok (.lstore 7, 2) := dk_55 7 (dk_at dksX7_part_2 17 rfl rfl)
theorem dX7_part_65 : decode cX7_part 65 = .ok (.aload_n 0, 1) := dk_42 (dk_at dksX7_part_2 19 rfl rfl)
theorem dX7_part_66 : decode cX7_part 66 = .ok (.aload_n 0, 1) := dk_42 (dk_at dksX7_part_2 20 rfl rfl)
theorem dX7_part_67 : decode cX7_part 67 = .ok (.getfield 1, 3) := dk_180 0 1 (dk_at dksX7_part_2 21 rfl rfl)
theorem dX7_part_70 : decode cX7_part 70 = .ok (.ifCond .gt 13, 3) := dk_157 0 13 (dk_at dksX7_part_3 0 rfl rfl)
theorem dX7_part_73 : decode cX7_part 73 = .ok (.aload_n 0, 1) := dk_42 (dk_at dksX7_part_3 3 rfl rfl)
theorem dX7_part_74 : decode cX7_part 74 = .ok (.iload_n 1, 1) := dk_27 (dk_at dksX7_part_3 4 rfl rfl)
theorem dX7_part_75 : decode cX7_part 75 = .ok (.iload_n 2, 1) := dk_28 (dk_at dksX7_part_3 5 rfl rfl)
theorem dX7_part_76 : decode cX7_part 76 = .ok (.iload_n 3, 1) := dk_29 (dk_at dksX7_part_3 6 rfl rfl)
theorem dX7_part_77 : decode cX7_part 77 = .ok (.invokevirtual 318, 3) := dk_182 1 62 (dk_at dksX7_part_3 7 rfl rfl)
theorem dX7_part_80 : decode cX7_part 80 = .ok (.ifCond .ne 7, 3) := dk_154 0 7 (dk_at dksX7_part_3 10 rfl rfl)
theorem dX7_part_83 : decode cX7_part 83 = .ok (.iconst 1, 1) := dk_4 (dk_at dksX7_part_3 13 rfl rfl)
theorem dX7_part_84 : decode cX7_part 84 = .ok (.goto 4, 3) := dk_167 0 4 (dk_at dksX7_part_3 14 rfl rfl)
theorem dX7_part_87 : decode cX7_part 87 = .ok (.iconst 0, 1) := dk_3 (dk_at dksX7_part_3 17 rfl rfl)
theorem dX7_part_88 : decode cX7_part 88 = .ok (.putfield 1, 3) := dk_181 0 1 (dk_at dksX7_part_3 18 rfl rfl)
theorem dX7_part_91 : decode cX7_part 91 = .ok (.aload_n 0, 1) := dk_42 (dk_at dksX7_part_3 21 rfl rfl)
theorem dX7_part_92 : decode cX7_part 92 = .ok (.getfield 1, 3) := dk_180 0 1 (dk_at dksX7_part_4 0 rfl rfl)
theorem dX7_part_95 : decode cX7_part 95 = .ok (.ifCond .le 5, 3) := dk_158 0 5 (dk_at dksX7_part_4 3 rfl rfl)
theorem dX7_part_98 : decode cX7_part 98 = .ok (.lconst 0, 1) := dk_9 (dk_at dksX7_part_4 6 rfl rfl)
theorem dX7_part_99 : decode cX7_part 99 = .ok (.lreturn, 1) := dk_173 (dk_at dksX7_part_4 7 rfl rfl)
theorem dX7_part_100 : decode cX7_part 100 = .ok (.aload_n 0, 1) := dk_42 (dk_at dksX7_part_4 8 rfl rfl)
theorem dX7_part_101 : decode cX7_part 101 = .ok (.lload 5, 2) := dk_22 5 (dk_at dksX7_part_4 9 rfl rfl)
theorem dX7_part_103 : decode cX7_part 103 = .ok (.aload_n 0, 1) := dk_42 (dk_at dksX7_part_4 11 rfl rfl)
theorem dX7_part_104 : decode cX7_part 104 = .ok (.getfield 285, 3) := dk_180 1 29 (dk_at dksX7_part_4 12 rfl rfl)
theorem dX7_part_107 : decode cX7_part 107 = .ok (.lmul, 1) := dk_105 (dk_at dksX7_part_4 15 rfl rfl)
theorem dX7_part_108 : decode cX7_part 108 = .ok (.aload_n 0, 1) := dk_42 (dk_at dksX7_part_4 16 rfl rfl)
theorem dX7_part_109 : decode cX7_part 109 = .ok (.getfield 281, 3) := dk_180 1 25 (dk_at dksX7_part_4 17 rfl rfl)
theorem dX7_part_112 : decode cX7_part 112 = .ok (.lload 7, 2) := dk_22 7 (dk_at dksX7_part_4 20 rfl rfl)
theorem dX7_part_114 : decode cX7_part 114 = .ok (.lmul, 1) := dk_105 (dk_at dksX7_part_4 22 rfl rfl)
theorem dX7_part_115 : decode cX7_part 115 = .ok (.lsub, 1) := dk_101 (dk_at dksX7_part_4 23 rfl rfl)
theorem dX7_part_116 : decode cX7_part 116 = .ok (.putfield 281, 3) := dk_181 1 25 (dk_at dksX7_part_5 0 rfl rfl)
theorem dX7_part_119 : decode cX7_part 119 = .ok (.aload_n 0, 1) := dk_42 (dk_at dksX7_part_5 3 rfl rfl)
theorem dX7_part_120 : decode cX7_part 120 = .ok (.lload 7, 2) := dk_22 7 (dk_at dksX7_part_5 4 rfl rfl)
theorem dX7_part_122 : decode cX7_part 122 = .ok (.aload_n 0, 1) := dk_42 (dk_at dksX7_part_5 6 rfl rfl)
theorem dX7_part_123 : decode cX7_part 123 = .ok (.getfield 285, 3) := dk_180 1 29 (dk_at dksX7_part_5 7 rfl rfl)
theorem dX7_part_126 : decode cX7_part 126 = .ok (.lmul, 1) := dk_105 (dk_at dksX7_part_5 10 rfl rfl)
theorem dX7_part_127 : decode cX7_part 127 = .ok (.putfield 285, 3) := dk_181 1 29 (dk_at dksX7_part_5 11 rfl rfl)
theorem dX7_part_130 : decode cX7_part 130 = .ok (.aload_n 0, 1) := dk_42 (dk_at dksX7_part_5 14 rfl rfl)
theorem dX7_part_131 : decode cX7_part 131 = .ok (.iload 4, 2) := dk_21 4 (dk_at dksX7_part_5 15 rfl rfl)
theorem dX7_part_133 : decode cX7_part 133 = .ok (.invokevirtual 321, 3) := dk_182 1 65 (dk_at dksX7_part_5 17 rfl rfl)
theorem dX7_part_136 : decode cX7_part 136 = .ok (.lreturn, 1) := dk_173 (dk_at dksX7_part_5 20 rfl rfl)
def dkwX7_bounds_2 : List UInt8 := [180, 0, 1, 158, 0, 7, 9, 167, 0, 10, 42, 29, 5, 112, 182, 1, 65, 173]
abbrev dktX7_bounds_2 : List UInt8 := dkwX7_bounds_2 ++ []
def dkwX7_bounds_1 : List UInt8 := [162, 0, 7, 2, 167, 0, 4, 4, 182, 1, 73, 153, 0, 7, 3, 167, 0, 4, 4, 181, 0, 1, 42]
abbrev dktX7_bounds_1 : List UInt8 := dkwX7_bounds_1 ++ dktX7_bounds_2
def dkwX7_bounds_0 : List UInt8 := [42, 27, 28, 184, 1, 14, 153, 0, 35, 29, 3, 6, 184, 0, 253, 153, 0, 26, 42, 27, 28, 29, 5]
abbrev dktX7_bounds_0 : List UInt8 := dkwX7_bounds_0 ++ dktX7_bounds_1
theorem dksX7_bounds_0 : cX7_bounds.data.toList.drop 0 = dktX7_bounds_0 := by decide +kernel
theorem dksX7_bounds_1 : cX7_bounds.data.toList.drop 23 = dktX7_bounds_1 := dk_seg dksX7_bounds_0 23 rfl rfl
theorem dksX7_bounds_2 : cX7_bounds.data.toList.drop 46 = dktX7_bounds_2 := dk_seg dksX7_bounds_1 23 rfl rfl
theorem dX7_bounds_0 : decode cX7_bounds 0 = .ok (.aload_n 0, 1) := dk_42 (dk_at dksX7_bounds_0 0 rfl rfl)
theorem dX7_bounds_1 : decode cX7_bounds 1 = .ok (.iload_n 1, 1) := dk_27 (dk_at dksX7_bounds_0 1 rfl rfl)
theorem dX7_bounds_2 : decode cX7_bounds 2 = .ok (.iload_n 2, 1) := dk_28 (dk_at dksX7_bounds_0 2 rfl rfl)
theorem dX7_bounds_3 : decode cX7_bounds 3 = .ok (.invokestatic 270, 3) := dk_184 1 14 (dk_at dksX7_bounds_0 3 rfl rfl)
theorem dX7_bounds_6 : decode cX7_bounds 6 = .ok (.ifCond .eq 35, 3) := dk_153 0 35 (dk_at dksX7_bounds_0 6 rfl rfl)
theorem dX7_bounds_9 : decode cX7_bounds 9 = .ok (.iload_n 3, 1) := dk_29 (dk_at dksX7_bounds_0 9 rfl rfl)
theorem dX7_bounds_10 : decode cX7_bounds 10 = .ok (.iconst 0, 1) := dk_3 (dk_at dksX7_bounds_0 10 rfl rfl)
theorem dX7_bounds_11 : decode cX7_bounds 11 = .ok (.iconst 3, 1) := dk_6 (dk_at dksX7_bounds_0 11 rfl rfl)
theorem dX7_bounds_12 : decode cX7_bounds 12 = .ok (.invokestatic 253, 3) := dk_184 0 253 (dk_at dksX7_bounds_0 12 rfl rfl)
theorem dX7_bounds_15 : decode cX7_bounds 15 = .ok (.ifCond .eq 26, 3) := dk_153 0 26 (dk_at dksX7_bounds_0 15 rfl rfl)
theorem dX7_bounds_18 : decode cX7_bounds 18 = .ok (.aload_n 0, 1) := dk_42 (dk_at dksX7_bounds_0 18 rfl rfl)
theorem dX7_bounds_19 : decode cX7_bounds 19 = .ok (.iload_n 1, 1) := dk_27 (dk_at dksX7_bounds_0 19 rfl rfl)
theorem dX7_bounds_20 : decode cX7_bounds 20 = .ok (.iload_n 2, 1) := dk_28 (dk_at dksX7_bounds_0 20 rfl rfl)
theorem dX7_bounds_21 : decode cX7_bounds 21 = .ok (.iload_n 3, 1) := dk_29 (dk_at dksX7_bounds_0 21 rfl rfl)
theorem dX7_bounds_22 : decode cX7_bounds 22 = .ok (.iconst 2, 1) := dk_5 (dk_at dksX7_bounds_0 22 rfl rfl)
theorem dX7_bounds_23 : decode cX7_bounds 23 = .ok (.if_icmp .ge 7, 3) := dk_162 0 7 (dk_at dksX7_bounds_1 0 rfl rfl)
theorem dX7_bounds_26 : decode cX7_bounds 26 = .ok (.iconst (-1), 1) := dk_2 (dk_at dksX7_bounds_1 3 rfl rfl)
theorem dX7_bounds_27 : decode cX7_bounds 27 = .ok (.goto 4, 3) := dk_167 0 4 (dk_at dksX7_bounds_1 4 rfl rfl)
theorem dX7_bounds_30 : decode cX7_bounds 30 = .ok (.iconst 1, 1) := dk_4 (dk_at dksX7_bounds_1 7 rfl rfl)
theorem dX7_bounds_31 : decode cX7_bounds 31 = .ok (.invokevirtual 329, 3) := dk_182 1 73 (dk_at dksX7_bounds_1 8 rfl rfl)
theorem dX7_bounds_34 : decode cX7_bounds 34 = .ok (.ifCond .eq 7, 3) := dk_153 0 7 (dk_at dksX7_bounds_1 11 rfl rfl)
theorem dX7_bounds_37 : decode cX7_bounds 37 = .ok (.iconst 0, 1) := dk_3 (dk_at dksX7_bounds_1 14 rfl rfl)
theorem dX7_bounds_38 : decode cX7_bounds 38 = .ok (.goto 4, 3) := dk_167 0 4 (dk_at dksX7_bounds_1 15 rfl rfl)
theorem dX7_bounds_41 : decode cX7_bounds 41 = .ok (.iconst 1, 1) := dk_4 (dk_at dksX7_bounds_1 18 rfl rfl)
theorem dX7_bounds_42 : decode cX7_bounds 42 = .ok (.putfield 1, 3) := dk_181 0 1 (dk_at dksX7_bounds_1 19 rfl rfl)
theorem dX7_bounds_45 : decode cX7_bounds 45 = .ok (.aload_n 0, 1) := dk_42 (dk_at dksX7_bounds_1 22 rfl rfl)
theorem dX7_bounds_46 : decode cX7_bounds 46 = .ok (.getfield 1, 3) := dk_180 0 1 (dk_at dksX7_bounds_2 0 rfl rfl)
theorem dX7_bounds_49 : decode cX7_bounds 49 = .ok (.ifCond .le 7, 3) := dk_158 0 7 (dk_at dksX7_bounds_2 3 rfl rfl)
theorem dX7_bounds_52 : decode cX7_bounds 52 = .ok (.lconst 0, 1) := dk_9 (dk_at dksX7_bounds_2 6 rfl rfl)
theorem dX7_bounds_53 : decode cX7_bounds 53 = .ok (.goto 10, 3) := dk_167 0 10 (dk_at dksX7_bounds_2 7 rfl rfl)
theorem dX7_bounds_56 : decode cX7_bounds 56 = .ok (.aload_n 0, 1) := dk_42 (dk_at dksX7_bounds_2 10 rfl rfl)
theorem dX7_bounds_57 : decode cX7_bounds 57 = .ok (.iload_n 3, 1) := dk_29 (dk_at dksX7_bounds_2 11 rfl rfl)
theorem dX7_bounds_58 : decode cX7_bounds 58 = .ok (.iconst 2, 1) := dk_5 (dk_at dksX7_bounds_2 12 rfl rfl)
theorem dX7_bounds_59 : decode cX7_bounds 59 = .ok (.irem, 1) := dk_112 (dk_at dksX7_bounds_2 13 rfl rfl)
theorem dX7_bounds_60 : decode cX7_bounds 60 = .ok (.invokevirtual 321, 3) := dk_182 1 65 (dk_at dksX7_bounds_2 14 rfl rfl)
theorem dX7_bounds_63 : decode cX7_bounds 63 = .ok (.lreturn, 1) := dk_173 (dk_at dksX7_bounds_2 17 rfl rfl)
def dkwX7_findBound_3 : List UInt8 := [132, 4, 1, 167, 255, 192, 42, 182, 1, 55, 172]
abbrev dktX7_findBound_3 : List UInt8 := dkwX7_findBound_3 ++ []
def dkwX7_findBound_2 : List UInt8 := [180, 0, 97, 21, 4, 46, 154, 0, 7, 29, 167, 0, 5, 29, 116, 182, 1, 69, 133, 182, 1, 51]
abbrev dktX7_findBound_2 : List UInt8 := dkwX7_findBound_2 ++ dktX7_findBound_3
def dkwX7_findBound_1 : List UInt8 := [42, 42, 180, 0, 97, 21, 4, 46, 154, 0, 7, 4, 167, 0, 4, 3, 42, 21, 4, 27, 28, 42]
abbrev dktX7_findBound_1 : List UInt8 := dkwX7_findBound_1 ++ dktX7_findBound_2
def dkwX7_findBound_0 : List UInt8 := [42, 182, 1, 48, 3, 54, 4, 21, 4, 16, 24, 162, 0, 63, 42, 180, 0, 93, 21, 4, 51, 153, 0, 47]
abbrev dktX7_findBound_0 : List UInt8 := dkwX7_findBound_0 ++ dktX7_findBound_1
theorem dksX7_findBound_0 : cX7_findBound.data.toList.drop 0 = dktX7_findBound_0 := by decide +kernel
theorem dksX7_findBound_1 : cX7_findBound.data.toList.drop 24 = dktX7_findBound_1 := dk_seg dksX7_findBound_0 24 rfl rfl
theorem dksX7_findBound_2 : cX7_findBound.data.toList.drop 46 = dktX7_findBound_2 := dk_seg dksX7_findBound_1 22 rfl rfl
theorem dksX7_findBound_3 : cX7_findBound.data.toList.drop 68 = dktX7_findBound_3 := dk_seg dksX7_findBound_2 22 rfl rfl
theorem dX7_findBound_0 : decode cX7_findBound 0 = .ok (.aload_n 0, 1) := dk_42 (dk_at dksX7_findBound_0 0 rfl rfl)
theorem dX7_findBound_1 : decode cX7_findBound 1 = .ok (.invokevirtual 304, 3) := dk_182 1 48 (dk_at dksX7_findBound_0 1 rfl rfl)
theorem dX7_findBound_4 : decode cX7_findBound 4 = .ok (.iconst 0, 1) := dk_3 (dk_at dksX7_findBound_0 4 rfl rfl)
theorem dX7_findBound_5 : decode cX7_findBound 5 = .ok (.istore 4, 2) := dk_54 4 (dk_at dksX7_findBound_0 5 rfl rfl)
theorem dX7_findBound_7 : decode cX7_findBound 7 = .ok (.iload 4, 2) := dk_21 4 (dk_at dksX7_findBound_0 7 rfl rfl)
theorem dX7_findBound_9 : decode cX7_findBound 9 = .ok (.bipush 24, 2) := dk_16 24 (dk_at dksX7_findBound_0 9 rfl rfl)
theorem dX7_findBound_11 : decode cX7_findBound 11 = .ok (.if_icmp .ge 63, 3) := dk_162 0 63 (dk_at dksX7_findBound_0 11 rfl rfl)
theorem dX7_findBound_14 : decode cX7_findBound 14 = .ok (.aload_n 0, 1) := dk_42 (dk_at dksX7_findBound_0 14 rfl rfl)
theorem dX7_findBound_15 : decode cX7_findBound 15 = .ok (.getfield 93, 3) := dk_180 0 93 (dk_at dksX7_findBound_0 15 rfl rfl)
theorem dX7_findBound_18 : decode cX7_findBound 18 = .ok (.iload 4, 2) := dk_21 4 (dk_at dksX7_findBound_0 18 rfl rfl)
theorem dX7_findBound_20 : decode cX7_findBound 20 = .ok (.baload, 1) := dk_51 (dk_at dksX7_findBound_0 20 rfl rfl)
theorem dX7_findBound_21 : decode cX7_findBound 21 = .ok (.ifCond .eq 47, 3) := dk_153 0 47 (dk_at dksX7_findBound_0 21 rfl rfl)
theorem dX7_findBound_24 : decode cX7_findBound 24 = .ok (.aload_n 0, 1) := dk_42 (dk_at dksX7_findBound_1 0 rfl rfl)
theorem dX7_findBound_25 : decode cX7_findBound 25 = .ok (.aload_n 0, 1) := dk_42 (dk_at dksX7_findBound_1 1 rfl rfl)
theorem dX7_findBound_26 : decode cX7_findBound 26 = .ok (.getfield 97, 3) := dk_180 0 97 (dk_at dksX7_findBound_1 2 rfl rfl)
theorem dX7_findBound_29 : decode cX7_findBound 29 = .ok (.iload 4, 2) := dk_21 4 (dk_at dksX7_findBound_1 5 rfl rfl)
theorem dX7_findBound_31 : decode cX7_findBound 31 = .ok (.iaload, 1) := dk_46 (dk_at dksX7_findBound_1 7 rfl rfl)
theorem dX7_findBound_32 : decode cX7_findBound 32 = .ok (.ifCond .ne 7, 3) := dk_154 0 7 (dk_at dksX7_findBound_1 8 rfl rfl)
theorem dX7_findBound_35 : decode cX7_findBound 35 = .ok (.iconst 1, 1) := dk_4 (dk_at dksX7_findBound_1 11 rfl rfl)
theorem dX7_findBound_36 : decode cX7_findBound 36 = .ok (.goto 4, 3) := dk_167 0 4 (dk_at dksX7_findBound_1 12 rfl rfl)
theorem dX7_findBound_39 : decode cX7_findBound 39 = .ok (.iconst 0, 1) := dk_3 (dk_at dksX7_findBound_1 15 rfl rfl)
theorem dX7_findBound_40 : decode cX7_findBound 40 = .ok (.aload_n 0, 1) := dk_42 (dk_at dksX7_findBound_1 16 rfl rfl)
theorem dX7_findBound_41 : decode cX7_findBound 41 = .ok (.iload 4, 2) := dk_21 4 (dk_at dksX7_findBound_1 17 rfl rfl)
theorem dX7_findBound_43 : decode cX7_findBound 43 = .ok (.iload_n 1, 1) := dk_27 (dk_at dksX7_findBound_1 19 rfl rfl)
theorem dX7_findBound_44 : decode cX7_findBound 44 = .ok (.iload_n 2, 1) := dk_28 (dk_at dksX7_findBound_1 20 rfl rfl)
theorem dX7_findBound_45 : decode cX7_findBound 45 = .ok (.aload_n 0, 1) := dk_42 (dk_at dksX7_findBound_1 21 rfl rfl)
theorem dX7_findBound_46 : decode cX7_findBound 46 = .ok (.getfield 97, 3) := dk_180 0 97 (dk_at dksX7_findBound_2 0 rfl rfl)
theorem dX7_findBound_49 : decode cX7_findBound 49 = .ok (.iload 4, 2) := dk_21 4 (dk_at dksX7_findBound_2 3 rfl rfl)
theorem dX7_findBound_51 : decode cX7_findBound 51 = .ok (.iaload, 1) := dk_46 (dk_at dksX7_findBound_2 5 rfl rfl)
theorem dX7_findBound_52 : decode cX7_findBound 52 = .ok (.ifCond .ne 7, 3) := dk_154 0 7 (dk_at dksX7_findBound_2 6 rfl rfl)
theorem dX7_findBound_55 : decode cX7_findBound 55 = .ok (.iload_n 3, 1) := dk_29 (dk_at dksX7_findBound_2 9 rfl rfl)
theorem dX7_findBound_56 : decode cX7_findBound 56 = .ok (.goto 5, 3) := dk_167 0 5 (dk_at dksX7_findBound_2 10 rfl rfl)
theorem dX7_findBound_59 : decode cX7_findBound 59 = .ok (.iload_n 3, 1) := dk_29 (dk_at dksX7_findBound_2 13 rfl rfl)
theorem dX7_findBound_60 : decode cX7_findBound 60 = .ok (.ineg, 1) := dk_116 (dk_at dksX7_findBound_2 14 rfl rfl)
theorem dX7_findBound_61 : decode cX7_findBound 61 = .ok (.invokevirtual 325, 3) := dk_182 1 69 (dk_at dksX7_findBound_2 15 rfl rfl)
theorem dX7_findBound_64 : decode cX7_findBound 64 = .ok (.i2l, 1) := dk_133 (dk_at dksX7_findBound_2 18 rfl rfl)
theorem dX7_findBound_65 : decode cX7_findBound 65 = .ok (.invokevirtual 307, 3) := dk_182 1 51 (dk_at dksX7_findBound_2 19 rfl rfl)
theorem dX7_findBound_68 : decode cX7_findBound 68 = .ok (.iinc 4 1, 3) := dk_132 4 1 (dk_at dksX7_findBound_3 0 rfl rfl)
theorem dX7_findBound_71 : decode cX7_findBound 71 = .ok (.goto (-64), 3) := dk_167 255 192 (dk_at dksX7_findBound_3 3 rfl rfl)
theorem dX7_findBound_74 : decode cX7_findBound 74 = .ok (.aload_n 0, 1) := dk_42 (dk_at dksX7_findBound_3 6 rfl rfl)
theorem dX7_findBound_75 : decode cX7_findBound 75 = .ok (.invokevirtual 311, 3) := dk_182 1 55 (dk_at dksX7_findBound_3 7 rfl rfl)
theorem dX7_findBound_78 : decode cX7_findBound 78 = .ok (.ireturn, 1) := dk_172 (dk_at dksX7_findBound_3 10 rfl rfl)
def dkwX7_mayChange_4 : List UInt8 := [42, 27, 28, 182, 1, 11, 100, 54, 5, 21, 5, 172]
abbrev dktX7_mayChange_4 : List UInt8 := dkwX7_mayChange_4 ++ []
def dkwX7_mayChange_3 : List UInt8 := [158, 0, 7, 3, 167, 0, 12, 16, 10, 42, 180, 0, 103, 27, 46, 104, 100, 54, 5, 167, 0, 14, 21, 5]
abbrev dktX7_mayChange_3 : List UInt8 := dkwX7_mayChange_3 ++ dktX7_mayChange_4
def dkwX7_mayChange_2 : List UInt8 := [182, 1, 11, 96, 54, 5, 42, 180, 0, 115, 16, 12, 27, 104, 28, 96, 46, 154, 0, 29, 21, 5, 21, 4]
abbrev dktX7_mayChange_2 : List UInt8 := dkwX7_mayChange_2 ++ dktX7_mayChange_3
def dkwX7_mayChange_1 : List UInt8 := [16, 10, 42, 180, 0, 103, 27, 46, 104, 167, 0, 4, 3, 96, 54, 5, 167, 0, 14, 21, 5, 42, 27, 29]
abbrev dktX7_mayChange_1 : List UInt8 := dkwX7_mayChange_1 ++ dktX7_mayChange_2
def dkwX7_mayChange_0 : List UInt8 := [3, 54, 5, 42, 180, 0, 115, 16, 12, 27, 104, 29, 96, 46, 154, 0, 29, 21, 5, 21, 4, 158, 0, 15]
abbrev dktX7_mayChange_0 : List UInt8 := dkwX7_mayChange_0 ++ dktX7_mayChange_1
theorem dksX7_mayChange_0 : cX7_mayChange.data.toList.drop 0 = dktX7_mayChange_0 := by decide +kernel
theorem dksX7_mayChange_1 : cX7_mayChange.data.toList.drop 24 = dktX7_mayChange_1 := dk_seg dksX7_mayChange_0 24 rfl rfl
theorem dksX7_mayChange_2 : cX7_mayChange.data.toList.drop 48 = dktX7_mayChange_2 := dk_seg dksX7_mayChange_1 24 rfl rfl
theorem dksX7_mayChange_3 : cX7_mayChange.data.toList.drop 72 = dktX7_mayChange_3 := dk_seg dksX7_mayChange_2 24 rfl rfl
theorem dksX7_mayChange_4 : cX7_mayChange.data.toList.drop 96 = dktX7_mayChange_4 := dk_seg dksX7_mayChange_3 24 rfl rfl
theorem dX7_mayChange_0 : decode cX7_mayChange 0 = .ok (.iconst 0, 1) := dk_3 (dk_at dksX7_mayChange_0 0 rfl rfl)
theorem dX7_mayChange_1 : decode cX7_mayChange 1 = .ok (.istore 5, 2) := dk_54 5 (dk_at dksX7_mayChange_0 1 rfl rfl)
theorem dX7_mayChange_3 : decode cX7_mayChange 3 = .ok (.aload_n 0, 1) := dk_42 (dk_at dksX7_mayChange_0 3 rfl rfl)
theorem dX7_mayChange_4 : decode cX7_mayChange 4 = .ok (.getfield 115, 3) := dk_180 0 115 (dk_at dksX7_mayChange_0 4 rfl rfl)
theorem dX7_mayChange_7 : decode cX7_mayChange 7 = .ok (.bipush 12, 2) := dk_16 12 (dk_at dksX7_mayChange_0 7 rfl rfl)
theorem dX7_mayChange_9 : decode cX7_mayChange 9 = .ok (.iload_n 1, 1) := dk_27 (dk_at dksX7_mayChange_0 9 rfl rfl)
theorem dX7_mayChange_10 : decode cX7_mayChange 10 = .ok (.imul, 1) := dk_104 (dk_at dksX7_mayChange_0 10 rfl rfl)
theorem dX7_mayChange_11 : decode cX7_mayChange 11 = .ok (.iload_n 3, 1) := dk_29 (dk_at dksX7_mayChange_0 11 rfl rfl)
theorem dX7_mayChange_12 : decode cX7_mayChange 12 = .ok (.iadd, 1) := dk_96 (dk_at dksX7_mayChange_0 12 rfl rfl)
theorem dX7_mayChange_13 : decode cX7_mayChange 13 = .ok (.iaload, 1) := dk_46 (dk_at dksX7_mayChange_0 13 rfl rfl)
theorem dX7_mayChange_14 : decode cX7_mayChange 14 = .ok (.ifCond .ne 29, 3) := dk_154 0 29 (dk_at dksX7_mayChange_0 14 rfl rfl)
theorem dX7_mayChange_17 : decode cX7_mayChange 17 = .ok (.iload 5, 2) := dk_21 5 (dk_at dksX7_mayChange_0 17 rfl rfl)
theorem dX7_mayChange_19 : decode cX7_mayChange 19 = .ok (.iload 4, 2) := dk_21 4 (dk_at dksX7_mayChange_0 19 rfl rfl)
theorem dX7_mayChange_21 : decode cX7_mayChange 21 = .ok (.ifCond .le 15, 3) := dk_158 0 15 (dk_at dksX7_mayChange_0 21 rfl rfl)
theorem dX7_mayChange_24 : decode cX7_mayChange 24 = .ok (.bipush 10, 2) := dk_16 10 (dk_at dksX7_mayChange_1 0 rfl rfl)
theorem dX7_mayChange_26 : decode cX7_mayChange 26 = .ok (.aload_n 0, 1) := dk_42 (dk_at dksX7_mayChange_1 2 rfl rfl)
theorem dX7_mayChange_27 : decode cX7_mayChange 27 = .ok (.getfield 103, 3) := dk_180 0 103 (dk_at dksX7_mayChange_1 3 rfl rfl)
theorem dX7_mayChange_30 : decode cX7_mayChange 30 = .ok (.iload_n 1, 1) := dk_27 (dk_at dksX7_mayChange_1 6 rfl rfl)
theorem dX7_mayChange_31 : decode cX7_mayChange 31 = .ok (.iaload, 1) := dk_46 (dk_at dksX7_mayChange_1 7 rfl rfl)
theorem dX7_mayChange_32 : decode cX7_mayChange 32 = .ok (.imul, 1) := dk_104 (dk_at dksX7_mayChange_1 8 rfl rfl)
theorem dX7_mayChange_33 : decode cX7_mayChange 33 = .ok (.goto 4, 3) := dk_167 0 4 (dk_at dksX7_mayChange_1 9 rfl rfl)
theorem dX7_mayChange_36 : decode cX7_mayChange 36 = .ok (.iconst 0, 1) := dk_3 (dk_at dksX7_mayChange_1 12 rfl rfl)
theorem dX7_mayChange_37 : decode cX7_mayChange 37 = .ok (.iadd, 1) := dk_96 (dk_at dksX7_mayChange_1 13 rfl rfl)
theorem dX7_mayChange_38 : decode cX7_mayChange 38 = .ok (.istore 5, 2) := dk_54 5 (dk_at dksX7_mayChange_1 14 rfl rfl)
theorem dX7_mayChange_40 : decode cX7_mayChange 40 = .ok (.goto 14, 3) := dk_167 0 14 (dk_at dksX7_mayChange_1 16 rfl rfl)
theorem dX7_mayChange_43 : decode cX7_mayChange 43 = .ok (.iload 5, 2) := dk_21 5 (dk_at dksX7_mayChange_1 19 rfl rfl)
theorem dX7_mayChange_45 : decode cX7_mayChange 45 = .ok (.aload_n 0, 1) := dk_42 (dk_at dksX7_mayChange_1 21 rfl rfl)
theorem dX7_mayChange_46 : decode cX7_mayChange 46 = .ok (.iload_n 1, 1) := dk_27 (dk_at dksX7_mayChange_1 22 rfl rfl)
theorem dX7_mayChange_47 : decode cX7_mayChange 47 = .ok (.iload_n 3, 1) := dk_29 (dk_at dksX7_mayChange_1 23 rfl rfl)
theorem dX7_mayChange_48 : decode cX7_mayChange 48 = .ok (.invokevirtual 267, 3) := dk_182 1 11 (dk_at dksX7_mayChange_2 0 rfl rfl)
theorem dX7_mayChange_51 : decode cX7_mayChange 51 = .ok (.iadd, 1) := dk_96 (dk_at dksX7_mayChange_2 3 rfl rfl)
theorem dX7_mayChange_52 : decode cX7_mayChange 52 = .ok (.istore 5, 2) := dk_54 5 (dk_at dksX7_mayChange_2 4 rfl rfl)
theorem dX7_mayChange_54 : decode cX7_mayChange 54 = .ok (.aload_n 0, 1) := dk_42 (dk_at dksX7_mayChange_2 6 rfl rfl)
theorem dX7_mayChange_55 : decode cX7_mayChange 55 = .ok (.getfield 115, 3) := dk_180 0 115 (dk_at dksX7_mayChange_2 7 rfl rfl)
theorem dX7_mayChange_58 : decode cX7_mayChange 58 = .ok (.bipush 12, 2) := dk_16 12 (dk_at dksX7_mayChange_2 10 rfl rfl)
theorem dX7_mayChange_60 : decode cX7_mayChange 60 = .ok (.iload_n 1, 1) := dk_27 (dk_at dksX7_mayChange_2 12 rfl rfl)
theorem dX7_mayChange_61 : decode cX7_mayChange 61 = .ok (.imul, 1) := dk_104 (dk_at dksX7_mayChange_2 13 rfl rfl)
theorem dX7_mayChange_62 : decode cX7_mayChange 62 = .ok (.iload_n 2, 1) := dk_28 (dk_at dksX7_mayChange_2 14 rfl rfl)
theorem dX7_mayChange_63 : decode cX7_mayChange 63 = .ok (.iadd, 1) := dk_96 (dk_at dksX7_mayChange_2 15 rfl rfl)
theorem dX7_mayChange_64 : decode cX7_mayChange 64 = .ok (.iaload, 1) := dk_46 (dk_at dksX7_mayChange_2 16 rfl rfl)
theorem dX7_mayChange_65 : decode cX7_mayChange 65 = .ok (.ifCond .ne 29, 3) := dk_154 0 29 (dk_at dksX7_mayChange_2 17 rfl rfl)
theorem dX7_mayChange_68 : decode cX7_mayChange 68 = .ok (.iload 5, 2) := dk_21 5 (dk_at dksX7_mayChange_2 20 rfl rfl)
theorem dX7_mayChange_70 : decode cX7_mayChange 70 = .ok (.iload 4, 2) := dk_21 4 (dk_at dksX7_mayChange_2 22 rfl rfl)
theorem dX7_mayChange_72 : decode cX7_mayChange 72 = .ok (.ifCond .le 7, 3) := dk_158 0 7 (dk_at dksX7_mayChange_3 0 rfl rfl)
theorem dX7_mayChange_75 : decode cX7_mayChange 75 = .ok (.iconst 0, 1) := dk_3 (dk_at dksX7_mayChange_3 3 rfl rfl)
theorem dX7_mayChange_76 : decode cX7_mayChange 76 = .ok (.goto 12, 3) := dk_167 0 12 (dk_at dksX7_mayChange_3 4 rfl rfl)
theorem dX7_mayChange_79 : decode cX7_mayChange 79 = .ok (.bipush 10, 2) := dk_16 10 (dk_at dksX7_mayChange_3 7 rfl rfl)
theorem dX7_mayChange_81 : decode cX7_mayChange 81 = .ok (.aload_n 0, 1) := dk_42 (dk_at dksX7_mayChange_3 9 rfl rfl)
theorem dX7_mayChange_82 : decode cX7_mayChange 82 = .ok (.getfield 103, 3) := dk_180 0 103 (dk_at dksX7_mayChange_3 10 rfl rfl)
theorem dX7_mayChange_85 : decode cX7_mayChange 85 = .ok (.iload_n 1, 1) := dk_27 (dk_at dksX7_mayChange_3 13 rfl rfl)
theorem dX7_mayChange_86 : decode cX7_mayChange 86 = .ok (.iaload, 1) := dk_46 (dk_at dksX7_mayChange_3 14 rfl rfl)
theorem dX7_mayChange_87 : decode cX7_mayChange 87 = .ok (.imul, 1) := dk_104 (dk_at dksX7_mayChange_3 15 rfl rfl)
theorem dX7_mayChange_88 : decode cX7_mayChange 88 = .ok (.isub, 1) := dk_100 (dk_at dksX7_mayChange_3 16 rfl rfl)
theorem dX7_mayChange_89 : decode cX7_mayChange 89 = .ok (.istore 5, 2) := dk_54 5 (dk_at dksX7_mayChange_3 17 rfl rfl)
theorem dX7_mayChange_91 : decode cX7_mayChange 91 = .ok (.goto 14, 3) := dk_167 0 14 (dk_at dksX7_mayChange_3 19 rfl rfl)
theorem dX7_mayChange_94 : decode cX7_mayChange 94 = .ok (.iload 5, 2) := dk_21 5 (dk_at dksX7_mayChange_3 22 rfl rfl)
theorem dX7_mayChange_96 : decode cX7_mayChange 96 = .ok (.aload_n 0, 1) := dk_42 (dk_at dksX7_mayChange_4 0 rfl rfl)
theorem dX7_mayChange_97 : decode cX7_mayChange 97 = .ok (.iload_n 1, 1) := dk_27 (dk_at dksX7_mayChange_4 1 rfl rfl)
theorem dX7_mayChange_98 : decode cX7_mayChange 98 = .ok (.iload_n 2, 1) := dk_28 (dk_at dksX7_mayChange_4 2 rfl rfl)
theorem dX7_mayChange_99 : decode cX7_mayChange 99 = .ok (.invokevirtual 267, 3) := dk_182 1 11 (dk_at dksX7_mayChange_4 3 rfl rfl)
theorem dX7_mayChange_102 : decode cX7_mayChange 102 = .ok (.isub, 1) := dk_100 (dk_at dksX7_mayChange_4 6 rfl rfl)
theorem dX7_mayChange_103 : decode cX7_mayChange 103 = .ok (.istore 5, 2) := dk_54 5 (dk_at dksX7_mayChange_4 7 rfl rfl)
theorem dX7_mayChange_105 : decode cX7_mayChange 105 = .ok (.iload 5, 2) := dk_21 5 (dk_at dksX7_mayChange_4 9 rfl rfl)
theorem dX7_mayChange_107 : decode cX7_mayChange 107 = .ok (.ireturn, 1) := dk_172 (dk_at dksX7_mayChange_4 11 rfl rfl)
def dkwX7_swings_2 : List UInt8 := [29, 153, 0, 16, 42, 180, 1, 25, 9, 148, 155, 0, 7, 4, 167, 0, 4, 3, 172]
abbrev dktX7_swings_2 : List UInt8 := dkwX7_swings_2 ++ []
def dkwX7_swings_1 : List UInt8 := [172, 42, 180, 1, 25, 9, 148, 157, 0, 7, 4, 167, 0, 4, 3, 62, 42, 27, 28, 4, 182, 1, 73, 87]
abbrev dktX7_swings_1 : List UInt8 := dkwX7_swings_1 ++ dktX7_swings_2
def dkwX7_swings_0 : List UInt8 := [42, 3, 181, 0, 1, 27, 28, 184, 1, 14, 153, 0, 13, 42, 27, 28, 2, 182, 1, 73, 154, 0, 5, 2]
abbrev dktX7_swings_0 : List UInt8 := dkwX7_swings_0 ++ dktX7_swings_1
theorem dksX7_swings_0 : cX7_swings.data.toList.drop 0 = dktX7_swings_0 := by decide +kernel
theorem dksX7_swings_1 : cX7_swings.data.toList.drop 24 = dktX7_swings_1 := dk_seg dksX7_swings_0 24 rfl rfl
theorem dksX7_swings_2 : cX7_swings.data.toList.drop 48 = dktX7_swings_2 := dk_seg dksX7_swings_1 24 rfl rfl
theorem dX7_swings_0 : decode cX7_swings 0 = .ok (.aload_n 0, 1) := dk_42 (dk_at dksX7_swings_0 0 rfl rfl)
theorem dX7_swings_1 : decode cX7_swings 1 = .ok (.iconst 0, 1) := dk_3 (dk_at dksX7_swings_0 1 rfl rfl)
theorem dX7_swings_2 : decode cX7_swings 2 = .ok (.putfield 1, 3) := dk_181 0 1 (dk_at dksX7_swings_0 2 rfl rfl)
theorem dX7_swings_5 : decode cX7_swings 5 = .ok (.iload_n 1, 1) := dk_27 (dk_at dksX7_swings_0 5 rfl rfl)
theorem dX7_swings_6 : decode cX7_swings 6 = .ok (.iload_n 2, 1) := dk_28 (dk_at dksX7_swings_0 6 rfl rfl)
theorem dX7_swings_7 : decode cX7_swings 7 = .ok (.invokestatic 270, 3) := dk_184 1 14 (dk_at dksX7_swings_0 7 rfl rfl)
theorem dX7_swings_10 : decode cX7_swings 10 = .ok (.ifCond .eq 13, 3) := dk_153 0 13 (dk_at dksX7_swings_0 10 rfl rfl)
theorem dX7_swings_13 : decode cX7_swings 13 = .ok (.aload_n 0, 1) := dk_42 (dk_at dksX7_swings_0 13 rfl rfl)
theorem dX7_swings_14 : decode cX7_swings 14 = .ok (.iload_n 1, 1) := dk_27 (dk_at dksX7_swings_0 14 rfl rfl)
theorem dX7_swings_15 : decode cX7_swings 15 = .ok (.iload_n 2, 1) := dk_28 (dk_at dksX7_swings_0 15 rfl rfl)
theorem dX7_swings_16 : decode cX7_swings 16 = .ok (.iconst (-1), 1) := dk_2 (dk_at dksX7_swings_0 16 rfl rfl)
theorem dX7_swings_17 : decode cX7_swings 17 = .ok (.invokevirtual 329, 3) := dk_182 1 73 (dk_at dksX7_swings_0 17 rfl rfl)
theorem dX7_swings_20 : decode cX7_swings 20 = .ok (.ifCond .ne 5, 3) := dk_154 0 5 (dk_at dksX7_swings_0 20 rfl rfl)
theorem dX7_swings_23 : decode cX7_swings 23 = .ok (.iconst (-1), 1) := dk_2 (dk_at dksX7_swings_0 23 rfl rfl)
theorem dX7_swings_24 : decode cX7_swings 24 = .ok (.ireturn, 1) := dk_172 (dk_at dksX7_swings_1 0 rfl rfl)
theorem dX7_swings_25 : decode cX7_swings 25 = .ok (.aload_n 0, 1) := dk_42 (dk_at dksX7_swings_1 1 rfl rfl)
theorem dX7_swings_26 : decode cX7_swings 26 = .ok (.getfield 281, 3) := dk_180 1 25 (dk_at dksX7_swings_1 2 rfl rfl)
theorem dX7_swings_29 : decode cX7_swings 29 = .ok (.lconst 0, 1) := dk_9 (dk_at dksX7_swings_1 5 rfl rfl)
theorem dX7_swings_30 : decode cX7_swings 30 = .ok (.lcmp, 1) := dk_148 (dk_at dksX7_swings_1 6 rfl rfl)
theorem dX7_swings_31 : decode cX7_swings 31 = .ok (.ifCond .gt 7, 3) := dk_157 0 7 (dk_at dksX7_swings_1 7 rfl rfl)
theorem dX7_swings_34 : decode cX7_swings 34 = .ok (.iconst 1, 1) := dk_4 (dk_at dksX7_swings_1 10 rfl rfl)
theorem dX7_swings_35 : decode cX7_swings 35 = .ok (.goto 4, 3) := dk_167 0 4 (dk_at dksX7_swings_1 11 rfl rfl)
theorem dX7_swings_38 : decode cX7_swings 38 = .ok (.iconst 0, 1) := dk_3 (dk_at dksX7_swings_1 14 rfl rfl)
theorem dX7_swings_39 : decode cX7_swings 39 = .ok (.istore_n 3, 1) := dk_62 (dk_at dksX7_swings_1 15 rfl rfl)
theorem dX7_swings_40 : decode cX7_swings 40 = .ok (.aload_n 0, 1) := dk_42 (dk_at dksX7_swings_1 16 rfl rfl)
theorem dX7_swings_41 : decode cX7_swings 41 = .ok (.iload_n 1, 1) := dk_27 (dk_at dksX7_swings_1 17 rfl rfl)
theorem dX7_swings_42 : decode cX7_swings 42 = .ok (.iload_n 2, 1) := dk_28 (dk_at dksX7_swings_1 18 rfl rfl)
theorem dX7_swings_43 : decode cX7_swings 43 = .ok (.iconst 1, 1) := dk_4 (dk_at dksX7_swings_1 19 rfl rfl)
theorem dX7_swings_44 : decode cX7_swings 44 = .ok (.invokevirtual 329, 3) := dk_182 1 73 (dk_at dksX7_swings_1 20 rfl rfl)
theorem dX7_swings_47 : decode cX7_swings 47 = .ok (.pop, 1) := dk_87 (dk_at dksX7_swings_1 23 rfl rfl)
theorem dX7_swings_48 : decode cX7_swings 48 = .ok (.iload_n 3, 1) := dk_29 (dk_at dksX7_swings_2 0 rfl rfl)
theorem dX7_swings_49 : decode cX7_swings 49 = .ok (.ifCond .eq 16, 3) := dk_153 0 16 (dk_at dksX7_swings_2 1 rfl rfl)
theorem dX7_swings_52 : decode cX7_swings 52 = .ok (.aload_n 0, 1) := dk_42 (dk_at dksX7_swings_2 4 rfl rfl)
theorem dX7_swings_53 : decode cX7_swings 53 = .ok (.getfield 281, 3) := dk_180 1 25 (dk_at dksX7_swings_2 5 rfl rfl)
theorem dX7_swings_56 : decode cX7_swings 56 = .ok (.lconst 0, 1) := dk_9 (dk_at dksX7_swings_2 8 rfl rfl)
theorem dX7_swings_57 : decode cX7_swings 57 = .ok (.lcmp, 1) := dk_148 (dk_at dksX7_swings_2 9 rfl rfl)
theorem dX7_swings_58 : decode cX7_swings 58 = .ok (.ifCond .lt 7, 3) := dk_155 0 7 (dk_at dksX7_swings_2 10 rfl rfl)
theorem dX7_swings_61 : decode cX7_swings 61 = .ok (.iconst 1, 1) := dk_4 (dk_at dksX7_swings_2 13 rfl rfl)
theorem dX7_swings_62 : decode cX7_swings 62 = .ok (.goto 4, 3) := dk_167 0 4 (dk_at dksX7_swings_2 14 rfl rfl)
theorem dX7_swings_65 : decode cX7_swings 65 = .ok (.iconst 0, 1) := dk_3 (dk_at dksX7_swings_2 17 rfl rfl)
theorem dX7_swings_66 : decode cX7_swings 66 = .ok (.ireturn, 1) := dk_172 (dk_at dksX7_swings_2 18 rfl rfl)
def dkwX7_next_7 : List UInt8 := [22, 10, 55, 4, 22, 12, 55, 6, 132, 8, 1, 167, 255, 116, 29, 172]
abbrev dktX7_next_7 : List UInt8 := dkwX7_next_7 ++ []
def dkwX7_next_6 : List UInt8 := [55, 12, 29, 155, 0, 17, 22, 10, 22, 6, 105, 22, 4, 22, 12, 105, 148, 158, 0, 14, 21, 8, 62]
abbrev dktX7_next_6 : List UInt8 := dkwX7_next_6 ++ dktX7_next_7
def dkwX7_next_5 : List UInt8 := [105, 55, 10, 42, 180, 0, 97, 21, 8, 46, 154, 0, 10, 42, 180, 1, 39, 167, 0, 7, 42, 180, 1, 45]
abbrev dktX7_next_5 : List UInt8 := dkwX7_next_5 ++ dktX7_next_6
def dkwX7_next_4 : List UInt8 := [96, 46, 154, 0, 7, 4, 167, 0, 4, 3, 96, 54, 9, 42, 180, 0, 103, 21, 8, 46, 133, 21, 9, 133]
abbrev dktX7_next_4 : List UInt8 := dkwX7_next_4 ++ dktX7_next_5
def dkwX7_next_3 : List UInt8 := [21, 8, 104, 27, 96, 46, 154, 0, 7, 4, 167, 0, 4, 3, 42, 180, 0, 115, 16, 12, 21, 8, 104, 28]
abbrev dktX7_next_3 : List UInt8 := dkwX7_next_3 ++ dktX7_next_4
def dkwX7_next_2 : List UInt8 := [21, 8, 51, 153, 0, 123, 42, 21, 8, 27, 28, 182, 1, 18, 154, 0, 112, 42, 180, 0, 115, 16, 12]
abbrev dktX7_next_2 : List UInt8 := dkwX7_next_2 ++ dktX7_next_3
def dkwX7_next_1 : List UInt8 := [172, 2, 62, 9, 55, 4, 10, 55, 6, 3, 54, 8, 21, 8, 16, 24, 162, 0, 139, 42, 180, 0, 93]
abbrev dktX7_next_1 : List UInt8 := dkwX7_next_1 ++ dktX7_next_2
def dkwX7_next_0 : List UInt8 := [42, 3, 181, 0, 1, 27, 28, 184, 1, 14, 153, 0, 13, 42, 27, 28, 4, 182, 1, 73, 154, 0, 5, 2]
abbrev dktX7_next_0 : List UInt8 := dkwX7_next_0 ++ dktX7_next_1
theorem dksX7_next_0 : cX7_next.data.toList.drop 0 = dktX7_next_0 := by decide +kernel
theorem dksX7_next_1 : cX7_next.data.toList.drop 24 = dktX7_next_1 := dk_seg dksX7_next_0 24 rfl rfl
theorem dksX7_next_2 : cX7_next.data.toList.drop 47 = dktX7_next_2 := dk_seg dksX7_next_1 23 rfl rfl
theorem dksX7_next_3 : cX7_next.data.toList.drop 70 = dktX7_next_3 := dk_seg dksX7_next_2 23 rfl rfl
theorem dksX7_next_4 : cX7_next.data.toList.drop 94 = dktX7_next_4 := dk_seg dksX7_next_3 24 rfl rfl
theorem dksX7_next_5 : cX7_next.data.toList.drop 118 = dktX7_next_5 := dk_seg dksX7_next_4 24 rfl rfl
theorem dksX7_next_6 : cX7_next.data.toList.drop 142 = dktX7_next_6 := dk_seg dksX7_next_5 24 rfl rfl
theorem dksX7_next_7 : cX7_next.data.toList.drop 165 = dktX7_next_7 := dk_seg dksX7_next_6 23 rfl rfl
theorem dX7_next_0 : decode cX7_next 0 = .ok (.aload_n 0, 1) := dk_42 (dk_at dksX7_next_0 0 rfl rfl)
theorem dX7_next_1 : decode cX7_next 1 = .ok (.iconst 0, 1) := dk_3 (dk_at dksX7_next_0 1 rfl rfl)
theorem dX7_next_2 : decode cX7_next 2 = .ok (.putfield 1, 3) := dk_181 0 1 (dk_at dksX7_next_0 2 rfl rfl)
theorem dX7_next_5 : decode cX7_next 5 = .ok (.iload_n 1, 1) := dk_27 (dk_at dksX7_next_0 5 rfl rfl)
theorem dX7_next_6 : decode cX7_next 6 = .ok (.iload_n 2, 1) := dk_28 (dk_at dksX7_next_0 6 rfl rfl)
theorem dX7_next_7 : decode cX7_next 7 = .ok (.invokestatic 270, 3) := dk_184 1 14 (dk_at dksX7_next_0 7 rfl rfl)
theorem dX7_next_10 : decode cX7_next 10 = .ok (.ifCond .eq 13, 3) := dk_153 0 13 (dk_at dksX7_next_0 10 rfl rfl)
theorem dX7_next_13 : decode cX7_next 13 = .ok (.aload_n 0, 1) := dk_42 (dk_at dksX7_next_0 13 rfl rfl)
theorem dX7_next_14 : decode cX7_next 14 = .ok (.iload_n 1, 1) := dk_27 (dk_at dksX7_next_0 14 rfl rfl)
theorem dX7_next_15 : decode cX7_next 15 = .ok (.iload_n 2, 1) := dk_28 (dk_at dksX7_next_0 15 rfl rfl)
theorem dX7_next_16 : decode cX7_next 16 = .ok (.iconst 1, 1) := dk_4 (dk_at dksX7_next_0 16 rfl rfl)
theorem dX7_next_17 : decode cX7_next 17 = .ok (.invokevirtual 329, 3) := dk_182 1 73 (dk_at dksX7_next_0 17 rfl rfl)
theorem dX7_next_20 : decode cX7_next 20 = .ok (.ifCond .ne 5, 3) := dk_154 0 5 (dk_at dksX7_next_0 20 rfl rfl)
theorem dX7_next_23 : decode cX7_next 23 = .ok (.iconst (-1), 1) := dk_2 (dk_at dksX7_next_0 23 rfl rfl)
theorem dX7_next_24 : decode cX7_next 24 = .ok (.ireturn, 1) := dk_172 (dk_at dksX7_next_1 0 rfl rfl)
theorem dX7_next_25 : decode cX7_next 25 = .ok (.iconst (-1), 1) := dk_2 (dk_at dksX7_next_1 1 rfl rfl)
theorem dX7_next_26 : decode cX7_next 26 = .ok (.istore_n 3, 1) := dk_62 (dk_at dksX7_next_1 2 rfl rfl)
theorem dX7_next_27 : decode cX7_next 27 = .ok (.lconst 0, 1) := dk_9 (dk_at dksX7_next_1 3 rfl rfl)
theorem dX7_next_28 : decode cX7_next 28 = .ok (.lstore 4, 2) := dk_55 4 (dk_at dksX7_next_1 4 rfl rfl)
theorem dX7_next_30 : decode cX7_next 30 = .ok (.lconst 1, 1) := dk_10 (dk_at dksX7_next_1 6 rfl rfl)
theorem dX7_next_31 : decode cX7_next 31 = .ok (.lstore 6, 2) := dk_55 6 (dk_at dksX7_next_1 7 rfl rfl)
theorem dX7_next_33 : decode cX7_next 33 = .ok (.iconst 0, 1) := dk_3 (dk_at dksX7_next_1 9 rfl rfl)
theorem dX7_next_34 : decode cX7_next 34 = .ok (.istore 8, 2) := dk_54 8 (dk_at dksX7_next_1 10 rfl rfl)
theorem dX7_next_36 : decode cX7_next 36 = .ok (.iload 8, 2) := dk_21 8 (dk_at dksX7_next_1 12 rfl rfl)
theorem dX7_next_38 : decode cX7_next 38 = .ok (.bipush 24, 2) := dk_16 24 (dk_at dksX7_next_1 14 rfl rfl)
theorem dX7_next_40 : decode cX7_next 40 = .ok (.if_icmp .ge 139, 3) := dk_162 0 139 (dk_at dksX7_next_1 16 rfl rfl)
theorem dX7_next_43 : decode cX7_next 43 = .ok (.aload_n 0, 1) := dk_42 (dk_at dksX7_next_1 19 rfl rfl)
theorem dX7_next_44 : decode cX7_next 44 = .ok (.getfield 93, 3) := dk_180 0 93 (dk_at dksX7_next_1 20 rfl rfl)
theorem dX7_next_47 : decode cX7_next 47 = .ok (.iload 8, 2) := dk_21 8 (dk_at dksX7_next_2 0 rfl rfl)
theorem dX7_next_49 : decode cX7_next 49 = .ok (.baload, 1) := dk_51 (dk_at dksX7_next_2 2 rfl rfl)
theorem dX7_next_50 : decode cX7_next 50 = .ok (.ifCond .eq 123, 3) := dk_153 0 123 (dk_at dksX7_next_2 3 rfl rfl)
theorem dX7_next_53 : decode cX7_next 53 = .ok (.aload_n 0, 1) := dk_42 (dk_at dksX7_next_2 6 rfl rfl)
theorem dX7_next_54 : decode cX7_next 54 = .ok (.iload 8, 2) := dk_21 8 (dk_at dksX7_next_2 7 rfl rfl)
theorem dX7_next_56 : decode cX7_next 56 = .ok (.iload_n 1, 1) := dk_27 (dk_at dksX7_next_2 9 rfl rfl)
theorem dX7_next_57 : decode cX7_next 57 = .ok (.iload_n 2, 1) := dk_28 (dk_at dksX7_next_2 10 rfl rfl)
theorem dX7_next_58 : decode cX7_next 58 = .ok (.invokevirtual 274, 3) := dk_182 1 18 (dk_at dksX7_next_2 11 rfl rfl)
theorem dX7_next_61 : decode cX7_next 61 = .ok (.ifCond .ne 112, 3) := dk_154 0 112 (dk_at dksX7_next_2 14 rfl rfl)
theorem dX7_next_64 : decode cX7_next 64 = .ok (.aload_n 0, 1) := dk_42 (dk_at dksX7_next_2 17 rfl rfl)
theorem dX7_next_65 : decode cX7_next 65 = .ok (.getfield 115, 3) := dk_180 0 115 (dk_at dksX7_next_2 18 rfl rfl)
theorem dX7_next_68 : decode cX7_next 68 = .ok (.bipush 12, 2) := dk_16 12 (dk_at dksX7_next_2 21 rfl rfl)
theorem dX7_next_70 : decode cX7_next 70 = .ok (.iload 8, 2) := dk_21 8 (dk_at dksX7_next_3 0 rfl rfl)
theorem dX7_next_72 : decode cX7_next 72 = .ok (.imul, 1) := dk_104 (dk_at dksX7_next_3 2 rfl rfl)
theorem dX7_next_73 : decode cX7_next 73 = .ok (.iload_n 1, 1) := dk_27 (dk_at dksX7_next_3 3 rfl rfl)
theorem dX7_next_74 : decode cX7_next 74 = .ok (.iadd, 1) := dk_96 (dk_at dksX7_next_3 4 rfl rfl)
theorem dX7_next_75 : decode cX7_next 75 = .ok (.iaload, 1) := dk_46 (dk_at dksX7_next_3 5 rfl rfl)
theorem dX7_next_76 : decode cX7_next 76 = .ok (.ifCond .ne 7, 3) := dk_154 0 7 (dk_at dksX7_next_3 6 rfl rfl)
theorem dX7_next_79 : decode cX7_next 79 = .ok (.iconst 1, 1) := dk_4 (dk_at dksX7_next_3 9 rfl rfl)
theorem dX7_next_80 : decode cX7_next 80 = .ok (.goto 4, 3) := dk_167 0 4 (dk_at dksX7_next_3 10 rfl rfl)
theorem dX7_next_83 : decode cX7_next 83 = .ok (.iconst 0, 1) := dk_3 (dk_at dksX7_next_3 13 rfl rfl)
theorem dX7_next_84 : decode cX7_next 84 = .ok (.aload_n 0, 1) := dk_42 (dk_at dksX7_next_3 14 rfl rfl)
theorem dX7_next_85 : decode cX7_next 85 = .ok (.getfield 115, 3) := dk_180 0 115 (dk_at dksX7_next_3 15 rfl rfl)
theorem dX7_next_88 : decode cX7_next 88 = .ok (.bipush 12, 2) := dk_16 12 (dk_at dksX7_next_3 18 rfl rfl)
theorem dX7_next_90 : decode cX7_next 90 = .ok (.iload 8, 2) := dk_21 8 (dk_at dksX7_next_3 20 rfl rfl)
theorem dX7_next_92 : decode cX7_next 92 = .ok (.imul, 1) := dk_104 (dk_at dksX7_next_3 22 rfl rfl)
theorem dX7_next_93 : decode cX7_next 93 = .ok (.iload_n 2, 1) := dk_28 (dk_at dksX7_next_3 23 rfl rfl)
theorem dX7_next_94 : decode cX7_next 94 = .ok (.iadd, 1) := dk_96 (dk_at dksX7_next_4 0 rfl rfl)
theorem dX7_next_95 : decode cX7_next 95 = .ok (.iaload, 1) := dk_46 (dk_at dksX7_next_4 1 rfl rfl)
theorem dX7_next_96 : decode cX7_next 96 = .ok (.ifCond .ne 7, 3) := dk_154 0 7 (dk_at dksX7_next_4 2 rfl rfl)
theorem dX7_next_99 : decode cX7_next 99 = .ok (.iconst 1, 1) := dk_4 (dk_at dksX7_next_4 5 rfl rfl)
theorem dX7_next_100 : decode cX7_next 100 = .ok (.goto 4, 3) := dk_167 0 4 (dk_at dksX7_next_4 6 rfl rfl)
theorem dX7_next_103 : decode cX7_next 103 = .ok (.iconst 0, 1) := dk_3 (dk_at dksX7_next_4 9 rfl rfl)
theorem dX7_next_104 : decode cX7_next 104 = .ok (.iadd, 1) := dk_96 (dk_at dksX7_next_4 10 rfl rfl)
theorem dX7_next_105 : decode cX7_next 105 = .ok (.istore 9, 2) := dk_54 9 (dk_at dksX7_next_4 11 rfl rfl)
theorem dX7_next_107 : decode cX7_next 107 = .ok (.aload_n 0, 1) := dk_42 (dk_at dksX7_next_4 13 rfl rfl)
theorem dX7_next_108 : decode cX7_next 108 = .ok (.getfield 103, 3) := dk_180 0 103 (dk_at dksX7_next_4 14 rfl rfl)
theorem dX7_next_111 : decode cX7_next 111 = .ok (.iload 8, 2) := dk_21 8 (dk_at dksX7_next_4 17 rfl rfl)
theorem dX7_next_113 : decode cX7_next 113 = .ok (.iaload, 1) := dk_46 (dk_at dksX7_next_4 19 rfl rfl)
theorem dX7_next_114 : decode cX7_next 114 = .ok (.i2l, 1) := dk_133 (dk_at dksX7_next_4 20 rfl rfl)
theorem dX7_next_115 : decode cX7_next 115 = .ok (.iload 9, 2) := dk_21 9 (dk_at dksX7_next_4 21 rfl rfl)
theorem dX7_next_117 : decode cX7_next 117 = .ok (.i2l, 1) := dk_133 (dk_at dksX7_next_4 23 rfl rfl)
theorem dX7_next_118 : decode cX7_next 118 = .ok (.lmul, 1) := dk_105 (dk_at dksX7_next_5 0 rfl rfl)
theorem dX7_next_119 : decode cX7_next 119 = .ok (.lstore 10, 2) := dk_55 10 (dk_at dksX7_next_5 1 rfl rfl)
theorem dX7_next_121 : decode cX7_next 121 = .ok (.aload_n 0, 1) := dk_42 (dk_at dksX7_next_5 3 rfl rfl)
theorem dX7_next_122 : decode cX7_next 122 = .ok (.getfield 97, 3) := dk_180 0 97 (dk_at dksX7_next_5 4 rfl rfl)
theorem dX7_next_125 : decode cX7_next 125 = .ok (.iload 8, 2) := dk_21 8 (dk_at dksX7_next_5 7 rfl rfl)
theorem dX7_next_127 : decode cX7_next 127 = .ok (.iaload, 1) := dk_46 (dk_at dksX7_next_5 9 rfl rfl)
theorem dX7_next_128 : decode cX7_next 128 = .ok (.ifCond .ne 10, 3) := dk_154 0 10 (dk_at dksX7_next_5 10 rfl rfl)
theorem dX7_next_131 : decode cX7_next 131 = .ok (.aload_n 0, 1) := dk_42 (dk_at dksX7_next_5 13 rfl rfl)
theorem dX7_next_132 : decode cX7_next 132 = .ok (.getfield 295, 3) := dk_180 1 39 (dk_at dksX7_next_5 14 rfl rfl)
theorem dX7_next_135 : decode cX7_next 135 = .ok (.goto 7, 3) := dk_167 0 7 (dk_at dksX7_next_5 17 rfl rfl)
theorem dX7_next_138 : decode cX7_next 138 = .ok (.aload_n 0, 1) := dk_42 (dk_at dksX7_next_5 20 rfl rfl)
theorem dX7_next_139 : decode cX7_next 139 = .ok (.getfield 301, 3) := dk_180 1 45 (dk_at dksX7_next_5 21 rfl rfl)
theorem dX7_next_142 : decode cX7_next 142 = .ok (.lstore 12, 2) := dk_55 12 (dk_at dksX7_next_6 0 rfl rfl)
theorem dX7_next_144 : decode cX7_next 144 = .ok (.iload_n 3, 1) := dk_29 (dk_at dksX7_next_6 2 rfl rfl)
theorem dX7_next_145 : decode cX7_next 145 = .ok (.ifCond .lt 17, 3) := dk_155 0 17 (dk_at dksX7_next_6 3 rfl rfl)
theorem dX7_next_148 : decode cX7_next 148 = .ok (.lload 10, 2) := dk_22 10 (dk_at dksX7_next_6 6 rfl rfl)
theorem dX7_next_150 : decode cX7_next 150 = .ok (.lload 6, 2) := dk_22 6 (dk_at dksX7_next_6 8 rfl rfl)
theorem dX7_next_152 : decode cX7_next 152 = .ok (.lmul, 1) := dk_105 (dk_at dksX7_next_6 10 rfl rfl)
theorem dX7_next_153 : decode cX7_next 153 = .ok (.lload 4, 2) := dk_22 4 (dk_at dksX7_next_6 11 rfl rfl)
theorem dX7_next_155 : decode cX7_next 155 = .ok (.lload 12, 2) := dk_22 12 (dk_at dksX7_next_6 13 rfl rfl)
theorem dX7_next_157 : decode cX7_next 157 = .ok (.lmul, 1) := dk_105 (dk_at dksX7_next_6 15 rfl rfl)
theorem dX7_next_158 : decode cX7_next 158 = .ok (.lcmp, 1) := dk_148 (dk_at dksX7_next_6 16 rfl rfl)
theorem dX7_next_159 : decode cX7_next 159 = .ok (.ifCond .le 14, 3) := dk_158 0 14 (dk_at dksX7_next_6 17 rfl rfl)
theorem dX7_next_162 : decode cX7_next 162 = .ok (.iload 8, 2) := dk_21 8 (dk_at dksX7_next_6 20 rfl rfl)
theorem dX7_next_164 : decode cX7_next 164 = .ok (.istore_n 3, 1) := dk_62 (dk_at dksX7_next_6 22 rfl rfl)
theorem dX7_next_165 : decode cX7_next 165 = .ok (.lload 10, 2) := dk_22 10 (dk_at dksX7_next_7 0 rfl rfl)
theorem dX7_next_167 : decode cX7_next 167 = .ok (.lstore 4, 2) := dk_55 4 (dk_at dksX7_next_7 2 rfl rfl)
theorem dX7_next_169 : decode cX7_next 169 = .ok (.lload 12, 2) := dk_22 12 (dk_at dksX7_next_7 4 rfl rfl)
theorem dX7_next_171 : decode cX7_next 171 = .ok (.lstore 6, 2) := dk_55 6 (dk_at dksX7_next_7 6 rfl rfl)
theorem dX7_next_173 : decode cX7_next 173 = .ok (.iinc 8 1, 3) := dk_132 8 1 (dk_at dksX7_next_7 8 rfl rfl)
theorem dX7_next_176 : decode cX7_next 176 = .ok (.goto (-140), 3) := dk_167 255 116 (dk_at dksX7_next_7 11 rfl rfl)
theorem dX7_next_179 : decode cX7_next 179 = .ok (.iload_n 3, 1) := dk_29 (dk_at dksX7_next_7 14 rfl rfl)
theorem dX7_next_180 : decode cX7_next 180 = .ok (.ireturn, 1) := dk_172 (dk_at dksX7_next_7 15 rfl rfl)
def dkwX7_sheets_9 : List UInt8 := [173]
abbrev dktX7_sheets_9 : List UInt8 := dkwX7_sheets_9 ++ []
def dkwX7_sheets_8 : List UInt8 := [167, 0, 4, 4, 181, 0, 1, 42, 180, 0, 1, 158, 0, 7, 9, 167, 0, 9, 42, 21, 4, 182, 1, 65]
abbrev dktX7_sheets_8 : List UInt8 := dkwX7_sheets_8 ++ dktX7_sheets_9
def dkwX7_sheets_7 : List UInt8 := [182, 1, 7, 100, 133, 182, 1, 51, 132, 5, 1, 167, 255, 125, 42, 42, 182, 1, 55, 153, 0, 7, 3]
abbrev dktX7_sheets_7 : List UInt8 := dkwX7_sheets_7 ++ dktX7_sheets_8
def dkwX7_sheets_6 : List UInt8 := [180, 0, 130, 21, 7, 46, 182, 1, 7, 42, 42, 180, 0, 127, 21, 6, 46, 42, 180, 0, 130, 21, 6, 46]
abbrev dktX7_sheets_6 : List UInt8 := dkwX7_sheets_6 ++ dktX7_sheets_7
def dkwX7_sheets_5 : List UInt8 := [180, 0, 97, 21, 5, 46, 154, 0, 7, 4, 167, 0, 4, 3, 42, 42, 180, 0, 127, 21, 7, 46, 42]
abbrev dktX7_sheets_5 : List UInt8 := dkwX7_sheets_5 ++ dktX7_sheets_6
def dkwX7_sheets_4 : List UInt8 := [180, 0, 124, 21, 6, 46, 4, 160, 0, 71, 42, 180, 0, 124, 21, 7, 46, 4, 160, 0, 60, 42, 42]
abbrev dktX7_sheets_4 : List UInt8 := dkwX7_sheets_4 ++ dktX7_sheets_5
def dkwX7_sheets_3 : List UInt8 := [180, 0, 93, 21, 5, 51, 153, 0, 96, 29, 153, 0, 13, 42, 180, 0, 106, 21, 5, 51, 153, 0, 82, 42]
abbrev dktX7_sheets_3 : List UInt8 := dkwX7_sheets_3 ++ dktX7_sheets_4
def dkwX7_sheets_2 : List UInt8 := [162, 0, 130, 16, 12, 21, 5, 104, 27, 96, 54, 6, 16, 12, 21, 5, 104, 28, 96, 54, 7, 42]
abbrev dktX7_sheets_2 : List UInt8 := dkwX7_sheets_2 ++ dktX7_sheets_3
def dkwX7_sheets_1 : List UInt8 := [181, 0, 1, 42, 180, 0, 1, 158, 0, 5, 9, 173, 42, 182, 1, 48, 3, 54, 5, 21, 5, 16, 24]
abbrev dktX7_sheets_1 : List UInt8 := dkwX7_sheets_1 ++ dktX7_sheets_2
def dkwX7_sheets_0 : List UInt8 := [42, 27, 28, 184, 1, 14, 153, 0, 15, 21, 4, 184, 1, 59, 153, 0, 7, 3, 167, 0, 4, 4]
abbrev dktX7_sheets_0 : List UInt8 := dkwX7_sheets_0 ++ dktX7_sheets_1
theorem dksX7_sheets_0 : cX7_sheets.data.toList.drop 0 = dktX7_sheets_0 := by decide +kernel
theorem dksX7_sheets_1 : cX7_sheets.data.toList.drop 22 = dktX7_sheets_1 := dk_seg dksX7_sheets_0 22 rfl rfl
theorem dksX7_sheets_2 : cX7_sheets.data.toList.drop 45 = dktX7_sheets_2 := dk_seg dksX7_sheets_1 23 rfl rfl
theorem dksX7_sheets_3 : cX7_sheets.data.toList.drop 67 = dktX7_sheets_3 := dk_seg dksX7_sheets_2 22 rfl rfl
theorem dksX7_sheets_4 : cX7_sheets.data.toList.drop 91 = dktX7_sheets_4 := dk_seg dksX7_sheets_3 24 rfl rfl
theorem dksX7_sheets_5 : cX7_sheets.data.toList.drop 114 = dktX7_sheets_5 := dk_seg dksX7_sheets_4 23 rfl rfl
theorem dksX7_sheets_6 : cX7_sheets.data.toList.drop 137 = dktX7_sheets_6 := dk_seg dksX7_sheets_5 23 rfl rfl
theorem dksX7_sheets_7 : cX7_sheets.data.toList.drop 161 = dktX7_sheets_7 := dk_seg dksX7_sheets_6 24 rfl rfl
theorem dksX7_sheets_8 : cX7_sheets.data.toList.drop 184 = dktX7_sheets_8 := dk_seg dksX7_sheets_7 23 rfl rfl
theorem dksX7_sheets_9 : cX7_sheets.data.toList.drop 208 = dktX7_sheets_9 := dk_seg dksX7_sheets_8 24 rfl rfl
theorem dX7_sheets_0 : decode cX7_sheets 0 = .ok (.aload_n 0, 1) := dk_42 (dk_at dksX7_sheets_0 0 rfl rfl)
theorem dX7_sheets_1 : decode cX7_sheets 1 = .ok (.iload_n 1, 1) := dk_27 (dk_at dksX7_sheets_0 1 rfl rfl)
theorem dX7_sheets_2 : decode cX7_sheets 2 = .ok (.iload_n 2, 1) := dk_28 (dk_at dksX7_sheets_0 2 rfl rfl)
theorem dX7_sheets_3 : decode cX7_sheets 3 = .ok (.invokestatic 270, 3) := dk_184 1 14 (dk_at dksX7_sheets_0 3 rfl rfl)
theorem dX7_sheets_6 : decode cX7_sheets 6 = .ok (.ifCond .eq 15, 3) := dk_153 0 15 (dk_at dksX7_sheets_0 6 rfl rfl)
theorem dX7_sheets_9 : decode cX7_sheets 9 = .ok (.iload 4, 2) := dk_21 4 (dk_at dksX7_sheets_0 9 rfl rfl)
theorem dX7_sheets_11 : decode cX7_sheets 11 = .ok (.invokestatic 315, 3) := dk_184 1 59 (dk_at dksX7_sheets_0 11 rfl rfl)
theorem dX7_sheets_14 : decode cX7_sheets 14 = .ok (.ifCond .eq 7, 3) := dk_153 0 7 (dk_at dksX7_sheets_0 14 rfl rfl)
theorem dX7_sheets_17 : decode cX7_sheets 17 = .ok (.iconst 0, 1) := dk_3 (dk_at dksX7_sheets_0 17 rfl rfl)
theorem dX7_sheets_18 : decode cX7_sheets 18 = .ok (.goto 4, 3) := dk_167 0 4 (dk_at dksX7_sheets_0 18 rfl rfl)
theorem dX7_sheets_21 : decode cX7_sheets 21 = .ok (.iconst 1, 1) := dk_4 (dk_at dksX7_sheets_0 21 rfl rfl)
theorem dX7_sheets_22 : decode cX7_sheets 22 = .ok (.putfield 1, 3) := dk_181 0 1 (dk_at dksX7_sheets_1 0 rfl rfl)
theorem dX7_sheets_25 : decode cX7_sheets 25 = .ok (.aload_n 0, 1) := dk_42 (dk_at dksX7_sheets_1 3 rfl rfl)
theorem dX7_sheets_26 : decode cX7_sheets 26 = .ok (.getfield 1, 3) := dk_180 0 1 (dk_at dksX7_sheets_1 4 rfl rfl)
theorem dX7_sheets_29 : decode cX7_sheets 29 = .ok (.ifCond .le 5, 3) := dk_158 0 5 (dk_at dksX7_sheets_1 7 rfl rfl)
theorem dX7_sheets_32 : decode cX7_sheets 32 = .ok (.lconst 0, 1) := dk_9 (dk_at dksX7_sheets_1 10 rfl rfl)
theorem dX7_sheets_33 : decode cX7_sheets 33 = .ok (.lreturn, 1) := dk_173 (dk_at dksX7_sheets_1 11 rfl rfl)
theorem dX7_sheets_34 : decode cX7_sheets 34 = .ok (.aload_n 0, 1) := dk_42 (dk_at dksX7_sheets_1 12 rfl rfl)
theorem dX7_sheets_35 : decode cX7_sheets 35 = .ok (.invokevirtual 304, 3) := dk_182 1 48 (dk_at dksX7_sheets_1 13 rfl rfl)
theorem dX7_sheets_38 : decode cX7_sheets 38 = .ok (.iconst 0, 1) := dk_3 (dk_at dksX7_sheets_1 16 rfl rfl)
theorem dX7_sheets_39 : decode cX7_sheets 39 = .ok (.istore 5, 2) := dk_54 5 (dk_at dksX7_sheets_1 17 rfl rfl)
theorem dX7_sheets_41 : decode cX7_sheets 41 = .ok (.iload 5, 2) := dk_21 5 (dk_at dksX7_sheets_1 19 rfl rfl)
theorem dX7_sheets_43 : decode cX7_sheets 43 = .ok (.bipush 24, 2) := dk_16 24 (dk_at dksX7_sheets_1 21 rfl rfl)
theorem dX7_sheets_45 : decode cX7_sheets 45 = .ok (.if_icmp .ge 130, 3) := dk_162 0 130 (dk_at dksX7_sheets_2 0 rfl rfl)
theorem dX7_sheets_48 : decode cX7_sheets 48 = .ok (.bipush 12, 2) := dk_16 12 (dk_at dksX7_sheets_2 3 rfl rfl)
theorem dX7_sheets_50 : decode cX7_sheets 50 = .ok (.iload 5, 2) := dk_21 5 (dk_at dksX7_sheets_2 5 rfl rfl)
theorem dX7_sheets_52 : decode cX7_sheets 52 = .ok (.imul, 1) := dk_104 (dk_at dksX7_sheets_2 7 rfl rfl)
theorem dX7_sheets_53 : decode cX7_sheets 53 = .ok (.iload_n 1, 1) := dk_27 (dk_at dksX7_sheets_2 8 rfl rfl)
theorem dX7_sheets_54 : decode cX7_sheets 54 = .ok (.iadd, 1) := dk_96 (dk_at dksX7_sheets_2 9 rfl rfl)
theorem dX7_sheets_55 : decode cX7_sheets 55 = .ok (.istore 6, 2) := dk_54 6 (dk_at dksX7_sheets_2 10 rfl rfl)
theorem dX7_sheets_57 : decode cX7_sheets 57 = .ok (.bipush 12, 2) := dk_16 12 (dk_at dksX7_sheets_2 12 rfl rfl)
theorem dX7_sheets_59 : decode cX7_sheets 59 = .ok (.iload 5, 2) := dk_21 5 (dk_at dksX7_sheets_2 14 rfl rfl)
theorem dX7_sheets_61 : decode cX7_sheets 61 = .ok (.imul, 1) := dk_104 (dk_at dksX7_sheets_2 16 rfl rfl)
theorem dX7_sheets_62 : decode cX7_sheets 62 = .ok (.iload_n 2, 1) := dk_28 (dk_at dksX7_sheets_2 17 rfl rfl)
theorem dX7_sheets_63 : decode cX7_sheets 63 = .ok (.iadd, 1) := dk_96 (dk_at dksX7_sheets_2 18 rfl rfl)
theorem dX7_sheets_64 : decode cX7_sheets 64 = .ok (.istore 7, 2) := dk_54 7 (dk_at dksX7_sheets_2 19 rfl rfl)
theorem dX7_sheets_66 : decode cX7_sheets 66 = .ok (.aload_n 0, 1) := dk_42 (dk_at dksX7_sheets_2 21 rfl rfl)
theorem dX7_sheets_67 : decode cX7_sheets 67 = .ok (.getfield 93, 3) := dk_180 0 93 (dk_at dksX7_sheets_3 0 rfl rfl)
theorem dX7_sheets_70 : decode cX7_sheets 70 = .ok (.iload 5, 2) := dk_21 5 (dk_at dksX7_sheets_3 3 rfl rfl)
theorem dX7_sheets_72 : decode cX7_sheets 72 = .ok (.baload, 1) := dk_51 (dk_at dksX7_sheets_3 5 rfl rfl)
theorem dX7_sheets_73 : decode cX7_sheets 73 = .ok (.ifCond .eq 96, 3) := dk_153 0 96 (dk_at dksX7_sheets_3 6 rfl rfl)
theorem dX7_sheets_76 : decode cX7_sheets 76 = .ok (.iload_n 3, 1) := dk_29 (dk_at dksX7_sheets_3 9 rfl rfl)
theorem dX7_sheets_77 : decode cX7_sheets 77 = .ok (.ifCond .eq 13, 3) := dk_153 0 13 (dk_at dksX7_sheets_3 10 rfl rfl)
theorem dX7_sheets_80 : decode cX7_sheets 80 = .ok (.aload_n 0, 1) := dk_42 (dk_at dksX7_sheets_3 13 rfl rfl)
theorem dX7_sheets_81 : decode cX7_sheets 81 = .ok (.getfield 106, 3) := dk_180 0 106 (dk_at dksX7_sheets_3 14 rfl rfl)
theorem dX7_sheets_84 : decode cX7_sheets 84 = .ok (.iload 5, 2) := dk_21 5 (dk_at dksX7_sheets_3 17 rfl rfl)
theorem dX7_sheets_86 : decode cX7_sheets 86 = .ok (.baload, 1) := dk_51 (dk_at dksX7_sheets_3 19 rfl rfl)
theorem dX7_sheets_87 : decode cX7_sheets 87 = .ok (.ifCond .eq 82, 3) := dk_153 0 82 (dk_at dksX7_sheets_3 20 rfl rfl)
theorem dX7_sheets_90 : decode cX7_sheets 90 = .ok (.aload_n 0, 1) := dk_42 (dk_at dksX7_sheets_3 23 rfl rfl)
theorem dX7_sheets_91 : decode cX7_sheets 91 = .ok (.getfield 124, 3) := dk_180 0 124 (dk_at dksX7_sheets_4 0 rfl rfl)
theorem dX7_sheets_94 : decode cX7_sheets 94 = .ok (.iload 6, 2) := dk_21 6 (dk_at dksX7_sheets_4 3 rfl rfl)
theorem dX7_sheets_96 : decode cX7_sheets 96 = .ok (.iaload, 1) := dk_46 (dk_at dksX7_sheets_4 5 rfl rfl)
theorem dX7_sheets_97 : decode cX7_sheets 97 = .ok (.iconst 1, 1) := dk_4 (dk_at dksX7_sheets_4 6 rfl rfl)
theorem dX7_sheets_98 : decode cX7_sheets 98 = .ok (.if_icmp .ne 71, 3) := dk_160 0 71 (dk_at dksX7_sheets_4 7 rfl rfl)
theorem dX7_sheets_101 : decode cX7_sheets 101 = .ok (.aload_n 0, 1) := dk_42 (dk_at dksX7_sheets_4 10 rfl rfl)
theorem dX7_sheets_102 : decode cX7_sheets 102 = .ok (.getfield 124, 3) := dk_180 0 124 (dk_at dksX7_sheets_4 11 rfl rfl)
theorem dX7_sheets_105 : decode cX7_sheets 105 = .ok (.iload 7, 2) := dk_21 7 (dk_at dksX7_sheets_4 14 rfl rfl)
theorem dX7_sheets_107 : decode cX7_sheets 107 = .ok (.iaload, 1) := dk_46 (dk_at dksX7_sheets_4 16 rfl rfl)
theorem dX7_sheets_108 : decode cX7_sheets 108 = .ok (.iconst 1, 1) := dk_4 (dk_at dksX7_sheets_4 17 rfl rfl)
theorem dX7_sheets_109 : decode cX7_sheets 109 = .ok (.if_icmp .ne 60, 3) := dk_160 0 60 (dk_at dksX7_sheets_4 18 rfl rfl)
theorem dX7_sheets_112 : decode cX7_sheets 112 = .ok (.aload_n 0, 1) := dk_42 (dk_at dksX7_sheets_4 21 rfl rfl)
theorem dX7_sheets_113 : decode cX7_sheets 113 = .ok (.aload_n 0, 1) := dk_42 (dk_at dksX7_sheets_4 22 rfl rfl)
theorem dX7_sheets_114 : decode cX7_sheets 114 = .ok (.getfield 97, 3) := dk_180 0 97 (dk_at dksX7_sheets_5 0 rfl rfl)
theorem dX7_sheets_117 : decode cX7_sheets 117 = .ok (.iload 5, 2) := dk_21 5 (dk_at dksX7_sheets_5 3 rfl rfl)
theorem dX7_sheets_119 : decode cX7_sheets 119 = .ok (.iaload, 1) := dk_46 (dk_at dksX7_sheets_5 5 rfl rfl)
theorem dX7_sheets_120 : decode cX7_sheets 120 = .ok (.ifCond .ne 7, 3) := dk_154 0 7 (dk_at dksX7_sheets_5 6 rfl rfl)
theorem dX7_sheets_123 : decode cX7_sheets 123 = .ok (.iconst 1, 1) := dk_4 (dk_at dksX7_sheets_5 9 rfl rfl)
theorem dX7_sheets_124 : decode cX7_sheets 124 = .ok (.goto 4, 3) := dk_167 0 4 (dk_at dksX7_sheets_5 10 rfl rfl)
theorem dX7_sheets_127 : decode cX7_sheets 127 = .ok (.iconst 0, 1) := dk_3 (dk_at dksX7_sheets_5 13 rfl rfl)
theorem dX7_sheets_128 : decode cX7_sheets 128 = .ok (.aload_n 0, 1) := dk_42 (dk_at dksX7_sheets_5 14 rfl rfl)
theorem dX7_sheets_129 : decode cX7_sheets 129 = .ok (.aload_n 0, 1) := dk_42 (dk_at dksX7_sheets_5 15 rfl rfl)
theorem dX7_sheets_130 : decode cX7_sheets 130 = .ok (.getfield 127, 3) := dk_180 0 127 (dk_at dksX7_sheets_5 16 rfl rfl)
theorem dX7_sheets_133 : decode cX7_sheets 133 = .ok (.iload 7, 2) := dk_21 7 (dk_at dksX7_sheets_5 19 rfl rfl)
theorem dX7_sheets_135 : decode cX7_sheets 135 = .ok (.iaload, 1) := dk_46 (dk_at dksX7_sheets_5 21 rfl rfl)
theorem dX7_sheets_136 : decode cX7_sheets 136 = .ok (.aload_n 0, 1) := dk_42 (dk_at dksX7_sheets_5 22 rfl rfl)
theorem dX7_sheets_137 : decode cX7_sheets 137 = .ok (.getfield 130, 3) := dk_180 0 130 (dk_at dksX7_sheets_6 0 rfl rfl)
theorem dX7_sheets_140 : decode cX7_sheets 140 = .ok (.iload 7, 2) := dk_21 7 (dk_at dksX7_sheets_6 3 rfl rfl)
theorem dX7_sheets_142 : decode cX7_sheets 142 = .ok (.iaload, 1) := dk_46 (dk_at dksX7_sheets_6 5 rfl rfl)
theorem dX7_sheets_143 : decode cX7_sheets 143 = .ok (.invokevirtual 263, 3) := dk_182 1 7 (dk_at dksX7_sheets_6 6 rfl rfl)
theorem dX7_sheets_146 : decode cX7_sheets 146 = .ok (.aload_n 0, 1) := dk_42 (dk_at dksX7_sheets_6 9 rfl rfl)
theorem dX7_sheets_147 : decode cX7_sheets 147 = .ok (.aload_n 0, 1) := dk_42 (dk_at dksX7_sheets_6 10 rfl rfl)
theorem dX7_sheets_148 : decode cX7_sheets 148 = .ok (.getfield 127, 3) := dk_180 0 127 (dk_at dksX7_sheets_6 11 rfl rfl)
theorem dX7_sheets_151 : decode cX7_sheets 151 = .ok (.iload 6, 2) := dk_21 6 (dk_at dksX7_sheets_6 14 rfl rfl)
theorem dX7_sheets_153 : decode cX7_sheets 153 = .ok (.iaload, 1) := dk_46 (dk_at dksX7_sheets_6 16 rfl rfl)
theorem dX7_sheets_154 : decode cX7_sheets 154 = .ok (.aload_n 0, 1) := dk_42 (dk_at dksX7_sheets_6 17 rfl rfl)
theorem dX7_sheets_155 : decode cX7_sheets 155 = .ok (.getfield 130, 3) := dk_180 0 130 (dk_at dksX7_sheets_6 18 rfl rfl)
theorem dX7_sheets_158 : decode cX7_sheets 158 = .ok (.iload 6, 2) := dk_21 6 (dk_at dksX7_sheets_6 21 rfl rfl)
theorem dX7_sheets_160 : decode cX7_sheets 160 = .ok (.iaload, 1) := dk_46 (dk_at dksX7_sheets_6 23 rfl rfl)
theorem dX7_sheets_161 : decode cX7_sheets 161 = .ok (.invokevirtual 263, 3) := dk_182 1 7 (dk_at dksX7_sheets_7 0 rfl rfl)
theorem dX7_sheets_164 : decode cX7_sheets 164 = .ok (.isub, 1) := dk_100 (dk_at dksX7_sheets_7 3 rfl rfl)
theorem dX7_sheets_165 : decode cX7_sheets 165 = .ok (.i2l, 1) := dk_133 (dk_at dksX7_sheets_7 4 rfl rfl)
theorem dX7_sheets_166 : decode cX7_sheets 166 = .ok (.invokevirtual 307, 3) := dk_182 1 51 (dk_at dksX7_sheets_7 5 rfl rfl)
theorem dX7_sheets_169 : decode cX7_sheets 169 = .ok (.iinc 5 1, 3) := dk_132 5 1 (dk_at dksX7_sheets_7 8 rfl rfl)
theorem dX7_sheets_172 : decode cX7_sheets 172 = .ok (.goto (-131), 3) := dk_167 255 125 (dk_at dksX7_sheets_7 11 rfl rfl)
theorem dX7_sheets_175 : decode cX7_sheets 175 = .ok (.aload_n 0, 1) := dk_42 (dk_at dksX7_sheets_7 14 rfl rfl)
theorem dX7_sheets_176 : decode cX7_sheets 176 = .ok (.aload_n 0, 1) := dk_42 (dk_at dksX7_sheets_7 15 rfl rfl)
theorem dX7_sheets_177 : decode cX7_sheets 177 = .ok (.invokevirtual 311, 3) := dk_182 1 55 (dk_at dksX7_sheets_7 16 rfl rfl)
theorem dX7_sheets_180 : decode cX7_sheets 180 = .ok (.ifCond .eq 7, 3) := dk_153 0 7 (dk_at dksX7_sheets_7 19 rfl rfl)
theorem dX7_sheets_183 : decode cX7_sheets 183 = .ok (.iconst 0, 1) := dk_3 (dk_at dksX7_sheets_7 22 rfl rfl)
theorem dX7_sheets_184 : decode cX7_sheets 184 = .ok (.goto 4, 3) := dk_167 0 4 (dk_at dksX7_sheets_8 0 rfl rfl)
theorem dX7_sheets_187 : decode cX7_sheets 187 = .ok (.iconst 1, 1) := dk_4 (dk_at dksX7_sheets_8 3 rfl rfl)
theorem dX7_sheets_188 : decode cX7_sheets 188 = .ok (.putfield 1, 3) := dk_181 0 1 (dk_at dksX7_sheets_8 4 rfl rfl)
theorem dX7_sheets_191 : decode cX7_sheets 191 = .ok (.aload_n 0, 1) := dk_42 (dk_at dksX7_sheets_8 7 rfl rfl)
theorem dX7_sheets_192 : decode cX7_sheets 192 = .ok (.getfield 1, 3) := dk_180 0 1 (dk_at dksX7_sheets_8 8 rfl rfl)
theorem dX7_sheets_195 : decode cX7_sheets 195 = .ok (.ifCond .le 7, 3) := dk_158 0 7 (dk_at dksX7_sheets_8 11 rfl rfl)
theorem dX7_sheets_198 : decode cX7_sheets 198 = .ok (.lconst 0, 1) := dk_9 (dk_at dksX7_sheets_8 14 rfl rfl)
theorem dX7_sheets_199 : decode cX7_sheets 199 = .ok (.goto 9, 3) := dk_167 0 9 (dk_at dksX7_sheets_8 15 rfl rfl)
theorem dX7_sheets_202 : decode cX7_sheets 202 = .ok (.aload_n 0, 1) := dk_42 (dk_at dksX7_sheets_8 18 rfl rfl)
theorem dX7_sheets_203 : decode cX7_sheets 203 = .ok (.iload 4, 2) := dk_21 4 (dk_at dksX7_sheets_8 19 rfl rfl)
theorem dX7_sheets_205 : decode cX7_sheets 205 = .ok (.invokevirtual 321, 3) := dk_182 1 65 (dk_at dksX7_sheets_8 21 rfl rfl)
theorem dX7_sheets_208 : decode cX7_sheets 208 = .ok (.lreturn, 1) := dk_173 (dk_at dksX7_sheets_9 0 rfl rfl)
def dkwX7_choosing_6 : List UInt8 := [182, 1, 65, 173]
abbrev dktX7_choosing_6 : List UInt8 := dkwX7_choosing_6 ++ []
def dkwX7_choosing_5 : List UInt8 := [28, 29, 21, 5, 116, 182, 1, 76, 101, 181, 1, 25, 42, 29, 133, 181, 1, 29, 42, 21, 4, 5, 112]
abbrev dktX7_choosing_5 : List UInt8 := dkwX7_choosing_5 ++ dktX7_choosing_6
def dkwX7_choosing_4 : List UInt8 := [162, 0, 7, 4, 167, 0, 4, 2, 54, 5, 42, 42, 3, 27, 28, 29, 21, 5, 182, 1, 76, 42, 4, 27]
abbrev dktX7_choosing_4 : List UInt8 := dkwX7_choosing_4 ++ dktX7_choosing_5
def dkwX7_choosing_3 : List UInt8 := [148, 156, 0, 7, 4, 167, 0, 4, 3, 181, 0, 1, 42, 180, 0, 1, 158, 0, 5, 9, 173, 21, 4, 5]
abbrev dktX7_choosing_3 : List UInt8 := dkwX7_choosing_3 ++ dktX7_choosing_4
def dkwX7_choosing_2 : List UInt8 := [27, 28, 2, 182, 1, 62, 87, 42, 42, 180, 1, 39, 29, 133, 148, 155, 0, 13, 42, 180, 1, 45, 29, 133]
abbrev dktX7_choosing_2 : List UInt8 := dkwX7_choosing_2 ++ dktX7_choosing_3
def dkwX7_choosing_1 : List UInt8 := [184, 0, 253, 153, 0, 7, 3, 167, 0, 4, 4, 181, 0, 1, 42, 180, 0, 1, 158, 0, 5, 9, 173, 42]
abbrev dktX7_choosing_1 : List UInt8 := dkwX7_choosing_1 ++ dktX7_choosing_2
def dkwX7_choosing_0 : List UInt8 := [42, 27, 28, 184, 1, 14, 153, 0, 27, 29, 4, 16, 12, 184, 0, 253, 153, 0, 17, 21, 4, 3, 6]
abbrev dktX7_choosing_0 : List UInt8 := dkwX7_choosing_0 ++ dktX7_choosing_1
theorem dksX7_choosing_0 : cX7_choosing.data.toList.drop 0 = dktX7_choosing_0 := by decide +kernel
theorem dksX7_choosing_1 : cX7_choosing.data.toList.drop 23 = dktX7_choosing_1 := dk_seg dksX7_choosing_0 23 rfl rfl
theorem dksX7_choosing_2 : cX7_choosing.data.toList.drop 47 = dktX7_choosing_2 := dk_seg dksX7_choosing_1 24 rfl rfl
theorem dksX7_choosing_3 : cX7_choosing.data.toList.drop 71 = dktX7_choosing_3 := dk_seg dksX7_choosing_2 24 rfl rfl
theorem dksX7_choosing_4 : cX7_choosing.data.toList.drop 95 = dktX7_choosing_4 := dk_seg dksX7_choosing_3 24 rfl rfl
theorem dksX7_choosing_5 : cX7_choosing.data.toList.drop 119 = dktX7_choosing_5 := dk_seg dksX7_choosing_4 24 rfl rfl
theorem dksX7_choosing_6 : cX7_choosing.data.toList.drop 142 = dktX7_choosing_6 := dk_seg dksX7_choosing_5 23 rfl rfl
theorem dX7_choosing_0 : decode cX7_choosing 0 = .ok (.aload_n 0, 1) := dk_42 (dk_at dksX7_choosing_0 0 rfl rfl)
theorem dX7_choosing_1 : decode cX7_choosing 1 = .ok (.iload_n 1, 1) := dk_27 (dk_at dksX7_choosing_0 1 rfl rfl)
theorem dX7_choosing_2 : decode cX7_choosing 2 = .ok (.iload_n 2, 1) := dk_28 (dk_at dksX7_choosing_0 2 rfl rfl)
theorem dX7_choosing_3 : decode cX7_choosing 3 = .ok (.invokestatic 270, 3) := dk_184 1 14 (dk_at dksX7_choosing_0 3 rfl rfl)
theorem dX7_choosing_6 : decode cX7_choosing 6 = .ok (.ifCond .eq 27, 3) := dk_153 0 27 (dk_at dksX7_choosing_0 6 rfl rfl)
theorem dX7_choosing_9 : decode cX7_choosing 9 = .ok (.iload_n 3, 1) := dk_29 (dk_at dksX7_choosing_0 9 rfl rfl)
theorem dX7_choosing_10 : decode cX7_choosing 10 = .ok (.iconst 1, 1) := dk_4 (dk_at dksX7_choosing_0 10 rfl rfl)
theorem dX7_choosing_11 : decode cX7_choosing 11 = .ok (.bipush 12, 2) := dk_16 12 (dk_at dksX7_choosing_0 11 rfl rfl)
theorem dX7_choosing_13 : decode cX7_choosing 13 = .ok (.invokestatic 253, 3) := dk_184 0 253 (dk_at dksX7_choosing_0 13 rfl rfl)
theorem dX7_choosing_16 : decode cX7_choosing 16 = .ok (.ifCond .eq 17, 3) := dk_153 0 17 (dk_at dksX7_choosing_0 16 rfl rfl)
theorem dX7_choosing_19 : decode cX7_choosing 19 = .ok (.iload 4, 2) := dk_21 4 (dk_at dksX7_choosing_0 19 rfl rfl)
theorem dX7_choosing_21 : decode cX7_choosing 21 = .ok (.iconst 0, 1) := dk_3 (dk_at dksX7_choosing_0 21 rfl rfl)
theorem dX7_choosing_22 : decode cX7_choosing 22 = .ok (.iconst 3, 1) := dk_6 (dk_at dksX7_choosing_0 22 rfl rfl)
theorem dX7_choosing_23 : decode cX7_choosing 23 = .ok (.invokestatic 253, 3) := dk_184 0 253 (dk_at dksX7_choosing_1 0 rfl rfl)
theorem dX7_choosing_26 : decode cX7_choosing 26 = .ok (.ifCond .eq 7, 3) := dk_153 0 7 (dk_at dksX7_choosing_1 3 rfl rfl)
theorem dX7_choosing_29 : decode cX7_choosing 29 = .ok (.iconst 0, 1) := dk_3 (dk_at dksX7_choosing_1 6 rfl rfl)
theorem dX7_choosing_30 : decode cX7_choosing 30 = .ok (.goto 4, 3) := dk_167 0 4 (dk_at dksX7_choosing_1 7 rfl rfl)
theorem dX7_choosing_33 : decode cX7_choosing 33 = .ok (.iconst 1, 1) := dk_4 (dk_at dksX7_choosing_1 10 rfl rfl)
theorem dX7_choosing_34 : decode cX7_choosing 34 = .ok (.putfield 1, 3) := dk_181 0 1 (dk_at dksX7_choosing_1 11 rfl rfl)
theorem dX7_choosing_37 : decode cX7_choosing 37 = .ok (.aload_n 0, 1) := dk_42 (dk_at dksX7_choosing_1 14 rfl rfl)
theorem dX7_choosing_38 : decode cX7_choosing 38 = .ok (.getfield 1, 3) := dk_180 0 1 (dk_at dksX7_choosing_1 15 rfl rfl)
theorem dX7_choosing_41 : decode cX7_choosing 41 = .ok (.ifCond .le 5, 3) := dk_158 0 5 (dk_at dksX7_choosing_1 18 rfl rfl)
theorem dX7_choosing_44 : decode cX7_choosing 44 = .ok (.lconst 0, 1) := dk_9 (dk_at dksX7_choosing_1 21 rfl rfl)
theorem dX7_choosing_45 : decode cX7_choosing 45 = .ok (.lreturn, 1) := dk_173 (dk_at dksX7_choosing_1 22 rfl rfl)
theorem dX7_choosing_46 : decode cX7_choosing 46 = .ok (.aload_n 0, 1) := dk_42 (dk_at dksX7_choosing_1 23 rfl rfl)
theorem dX7_choosing_47 : decode cX7_choosing 47 = .ok (.iload_n 1, 1) := dk_27 (dk_at dksX7_choosing_2 0 rfl rfl)
theorem dX7_choosing_48 : decode cX7_choosing 48 = .ok (.iload_n 2, 1) := dk_28 (dk_at dksX7_choosing_2 1 rfl rfl)
theorem dX7_choosing_49 : decode cX7_choosing 49 = .ok (.iconst (-1), 1) := dk_2 (dk_at dksX7_choosing_2 2 rfl rfl)
theorem dX7_choosing_50 : decode cX7_choosing 50 = .ok (.invokevirtual 318, 3) := dk_182 1 62 (dk_at dksX7_choosing_2 3 rfl rfl)
theorem dX7_choosing_53 : decode cX7_choosing 53 = .ok (.pop, 1) := dk_87 (dk_at dksX7_choosing_2 6 rfl rfl)
theorem dX7_choosing_54 : decode cX7_choosing 54 = .ok (.aload_n 0, 1) := dk_42 (dk_at dksX7_choosing_2 7 rfl rfl)
theorem dX7_choosing_55 : decode cX7_choosing 55 = .ok (.aload_n 0, 1) := dk_42 (dk_at dksX7_choosing_2 8 rfl rfl)
theorem dX7_choosing_56 : decode cX7_choosing 56 = .ok (.getfield 295, 3) := dk_180 1 39 (dk_at dksX7_choosing_2 9 rfl rfl)
theorem dX7_choosing_59 : decode cX7_choosing 59 = .ok (.iload_n 3, 1) := dk_29 (dk_at dksX7_choosing_2 12 rfl rfl)
theorem dX7_choosing_60 : decode cX7_choosing 60 = .ok (.i2l, 1) := dk_133 (dk_at dksX7_choosing_2 13 rfl rfl)
theorem dX7_choosing_61 : decode cX7_choosing 61 = .ok (.lcmp, 1) := dk_148 (dk_at dksX7_choosing_2 14 rfl rfl)
theorem dX7_choosing_62 : decode cX7_choosing 62 = .ok (.ifCond .lt 13, 3) := dk_155 0 13 (dk_at dksX7_choosing_2 15 rfl rfl)
theorem dX7_choosing_65 : decode cX7_choosing 65 = .ok (.aload_n 0, 1) := dk_42 (dk_at dksX7_choosing_2 18 rfl rfl)
theorem dX7_choosing_66 : decode cX7_choosing 66 = .ok (.getfield 301, 3) := dk_180 1 45 (dk_at dksX7_choosing_2 19 rfl rfl)
theorem dX7_choosing_69 : decode cX7_choosing 69 = .ok (.iload_n 3, 1) := dk_29 (dk_at dksX7_choosing_2 22 rfl rfl)
theorem dX7_choosing_70 : decode cX7_choosing 70 = .ok (.i2l, 1) := dk_133 (dk_at dksX7_choosing_2 23 rfl rfl)
theorem dX7_choosing_71 : decode cX7_choosing 71 = .ok (.lcmp, 1) := dk_148 (dk_at dksX7_choosing_3 0 rfl rfl)
theorem dX7_choosing_72 : decode cX7_choosing 72 = .ok (.ifCond .ge 7, 3) := dk_156 0 7 (dk_at dksX7_choosing_3 1 rfl rfl)
theorem dX7_choosing_75 : decode cX7_choosing 75 = .ok (.iconst 1, 1) := dk_4 (dk_at dksX7_choosing_3 4 rfl rfl)
theorem dX7_choosing_76 : decode cX7_choosing 76 = .ok (.goto 4, 3) := dk_167 0 4 (dk_at dksX7_choosing_3 5 rfl rfl)
theorem dX7_choosing_79 : decode cX7_choosing 79 = .ok (.iconst 0, 1) := dk_3 (dk_at dksX7_choosing_3 8 rfl rfl)
theorem dX7_choosing_80 : decode cX7_choosing 80 = .ok (.putfield 1, 3) := dk_181 0 1 (dk_at dksX7_choosing_3 9 rfl rfl)
theorem dX7_choosing_83 : decode cX7_choosing 83 = .ok (.aload_n 0, 1) := dk_42 (dk_at dksX7_choosing_3 12 rfl rfl)
theorem dX7_choosing_84 : decode cX7_choosing 84 = .ok (.getfield 1, 3) := dk_180 0 1 (dk_at dksX7_choosing_3 13 rfl rfl)
theorem dX7_choosing_87 : decode cX7_choosing 87 = .ok (.ifCond .le 5, 3) := dk_158 0 5 (dk_at dksX7_choosing_3 16 rfl rfl)
theorem dX7_choosing_90 : decode cX7_choosing 90 = .ok (.lconst 0, 1) := dk_9 (dk_at dksX7_choosing_3 19 rfl rfl)
theorem dX7_choosing_91 : decode cX7_choosing 91 = .ok (.lreturn, 1) := dk_173 (dk_at dksX7_choosing_3 20 rfl rfl)
theorem dX7_choosing_92 : decode cX7_choosing 92 = .ok (.iload 4, 2) := dk_21 4 (dk_at dksX7_choosing_3 21 rfl rfl)
theorem dX7_choosing_94 : decode cX7_choosing 94 = .ok (.iconst 2, 1) := dk_5 (dk_at dksX7_choosing_3 23 rfl rfl)
theorem dX7_choosing_95 : decode cX7_choosing 95 = .ok (.if_icmp .ge 7, 3) := dk_162 0 7 (dk_at dksX7_choosing_4 0 rfl rfl)
theorem dX7_choosing_98 : decode cX7_choosing 98 = .ok (.iconst 1, 1) := dk_4 (dk_at dksX7_choosing_4 3 rfl rfl)
theorem dX7_choosing_99 : decode cX7_choosing 99 = .ok (.goto 4, 3) := dk_167 0 4 (dk_at dksX7_choosing_4 4 rfl rfl)
theorem dX7_choosing_102 : decode cX7_choosing 102 = .ok (.iconst (-1), 1) := dk_2 (dk_at dksX7_choosing_4 7 rfl rfl)
theorem dX7_choosing_103 : decode cX7_choosing 103 = .ok (.istore 5, 2) := dk_54 5 (dk_at dksX7_choosing_4 8 rfl rfl)
theorem dX7_choosing_105 : decode cX7_choosing 105 = .ok (.aload_n 0, 1) := dk_42 (dk_at dksX7_choosing_4 10 rfl rfl)
theorem dX7_choosing_106 : decode cX7_choosing 106 = .ok (.aload_n 0, 1) := dk_42 (dk_at dksX7_choosing_4 11 rfl rfl)
theorem dX7_choosing_107 : decode cX7_choosing 107 = .ok (.iconst 0, 1) := dk_3 (dk_at dksX7_choosing_4 12 rfl rfl)
theorem dX7_choosing_108 : decode cX7_choosing 108 = .ok (.iload_n 1, 1) := dk_27 (dk_at dksX7_choosing_4 13 rfl rfl)
theorem dX7_choosing_109 : decode cX7_choosing 109 = .ok (.iload_n 2, 1) := dk_28 (dk_at dksX7_choosing_4 14 rfl rfl)
theorem dX7_choosing_110 : decode cX7_choosing 110 = .ok (.iload_n 3, 1) := dk_29 (dk_at dksX7_choosing_4 15 rfl rfl)
theorem dX7_choosing_111 : decode cX7_choosing 111 = .ok (.iload 5, 2) := dk_21 5 (dk_at dksX7_choosing_4 16 rfl rfl)
theorem dX7_choosing_113 : decode cX7_choosing 113 = .ok (.invokevirtual 332, 3) := dk_182 1 76 (dk_at dksX7_choosing_4 18 rfl rfl)
theorem dX7_choosing_116 : decode cX7_choosing 116 = .ok (.aload_n 0, 1) := dk_42 (dk_at dksX7_choosing_4 21 rfl rfl)
theorem dX7_choosing_117 : decode cX7_choosing 117 = .ok (.iconst 1, 1) := dk_4 (dk_at dksX7_choosing_4 22 rfl rfl)
theorem dX7_choosing_118 : decode cX7_choosing 118 = .ok (.iload_n 1, 1) := dk_27 (dk_at dksX7_choosing_4 23 rfl rfl)
theorem dX7_choosing_119 : decode cX7_choosing 119 = .ok (.iload_n 2, 1) := dk_28 (dk_at dksX7_choosing_5 0 rfl rfl)
theorem dX7_choosing_120 : decode cX7_choosing 120 = .ok (.iload_n 3, 1) := dk_29 (dk_at dksX7_choosing_5 1 rfl rfl)
theorem dX7_choosing_121 : decode cX7_choosing 121 = .ok (.iload 5, 2) := dk_21 5 (dk_at dksX7_choosing_5 2 rfl rfl)
theorem dX7_choosing_123 : decode cX7_choosing 123 = .ok (.ineg, 1) := dk_116 (dk_at dksX7_choosing_5 4 rfl rfl)
theorem dX7_choosing_124 : decode cX7_choosing 124 = .ok (.invokevirtual 332, 3) := dk_182 1 76 (dk_at dksX7_choosing_5 5 rfl rfl)
theorem dX7_choosing_127 : decode cX7_choosing 127 = .ok (.lsub, 1) := dk_101 (dk_at dksX7_choosing_5 8 rfl rfl)
theorem dX7_choosing_128 : decode cX7_choosing 128 = .ok (.putfield 281, 3) := dk_181 1 25 (dk_at dksX7_choosing_5 9 rfl rfl)
theorem dX7_choosing_131 : decode cX7_choosing 131 = .ok (.aload_n 0, 1) := dk_42 (dk_at dksX7_choosing_5 12 rfl rfl)
theorem dX7_choosing_132 : decode cX7_choosing 132 = .ok (.iload_n 3, 1) := dk_29 (dk_at dksX7_choosing_5 13 rfl rfl)
theorem dX7_choosing_133 : decode cX7_choosing 133 = .ok (.i2l, 1) := dk_133 (dk_at dksX7_choosing_5 14 rfl rfl)
theorem dX7_choosing_134 : decode cX7_choosing 134 = .ok (.putfield 285, 3) := dk_181 1 29 (dk_at dksX7_choosing_5 15 rfl rfl)
theorem dX7_choosing_137 : decode cX7_choosing 137 = .ok (.aload_n 0, 1) := dk_42 (dk_at dksX7_choosing_5 18 rfl rfl)
theorem dX7_choosing_138 : decode cX7_choosing 138 = .ok (.iload 4, 2) := dk_21 4 (dk_at dksX7_choosing_5 19 rfl rfl)
theorem dX7_choosing_140 : decode cX7_choosing 140 = .ok (.iconst 2, 1) := dk_5 (dk_at dksX7_choosing_5 21 rfl rfl)
theorem dX7_choosing_141 : decode cX7_choosing 141 = .ok (.irem, 1) := dk_112 (dk_at dksX7_choosing_5 22 rfl rfl)
theorem dX7_choosing_142 : decode cX7_choosing 142 = .ok (.invokevirtual 321, 3) := dk_182 1 65 (dk_at dksX7_choosing_6 0 rfl rfl)
theorem dX7_choosing_145 : decode cX7_choosing 145 = .ok (.lreturn, 1) := dk_173 (dk_at dksX7_choosing_6 3 rfl rfl)
def dkwX7_sumOf_6 : List UInt8 := [97, 55, 7, 132, 9, 1, 167, 255, 226, 21, 5, 133, 22, 7, 105, 173]
abbrev dktX7_sumOf_6 : List UInt8 := dkwX7_sumOf_6 ++ []
def dkwX7_sumOf_5 : List UInt8 := [21, 9, 21, 4, 162, 0, 29, 21, 9, 21, 6, 162, 0, 22, 22, 7, 42, 180, 0, 133, 21, 9, 46, 133]
abbrev dktX7_sumOf_5 : List UInt8 := dkwX7_sumOf_5 ++ dktX7_sumOf_6
def dkwX7_sumOf_4 : List UInt8 := [180, 0, 133, 21, 9, 21, 8, 79, 132, 6, 1, 132, 7, 1, 167, 255, 154, 9, 55, 7, 3, 54, 9]
abbrev dktX7_sumOf_4 : List UInt8 := dkwX7_sumOf_4 ++ dktX7_sumOf_5
def dkwX7_sumOf_3 : List UInt8 := [180, 0, 133, 21, 9, 42, 180, 0, 133, 21, 9, 4, 100, 46, 79, 132, 9, 255, 167, 255, 218, 42]
abbrev dktX7_sumOf_3 : List UInt8 := dkwX7_sumOf_3 ++ dktX7_sumOf_4
def dkwX7_sumOf_2 : List UInt8 := [21, 6, 54, 9, 21, 9, 158, 0, 39, 42, 180, 0, 133, 21, 9, 4, 100, 46, 21, 8, 164, 0, 25, 42]
abbrev dktX7_sumOf_2 : List UInt8 := dkwX7_sumOf_2 ++ dktX7_sumOf_3
def dkwX7_sumOf_1 : List UInt8 := [42, 180, 0, 97, 21, 7, 46, 27, 160, 0, 73, 21, 5, 42, 21, 7, 28, 29, 182, 1, 21, 104, 54, 8]
abbrev dktX7_sumOf_1 : List UInt8 := dkwX7_sumOf_1 ++ dktX7_sumOf_2
def dkwX7_sumOf_0 : List UInt8 := [3, 54, 6, 3, 54, 7, 21, 7, 16, 24, 162, 0, 101, 42, 21, 7, 28, 29, 182, 1, 18, 153, 0, 84]
abbrev dktX7_sumOf_0 : List UInt8 := dkwX7_sumOf_0 ++ dktX7_sumOf_1
theorem dksX7_sumOf_0 : cX7_sumOf.data.toList.drop 0 = dktX7_sumOf_0 := by decide +kernel
theorem dksX7_sumOf_1 : cX7_sumOf.data.toList.drop 24 = dktX7_sumOf_1 := dk_seg dksX7_sumOf_0 24 rfl rfl
theorem dksX7_sumOf_2 : cX7_sumOf.data.toList.drop 48 = dktX7_sumOf_2 := dk_seg dksX7_sumOf_1 24 rfl rfl
theorem dksX7_sumOf_3 : cX7_sumOf.data.toList.drop 72 = dktX7_sumOf_3 := dk_seg dksX7_sumOf_2 24 rfl rfl
theorem dksX7_sumOf_4 : cX7_sumOf.data.toList.drop 94 = dktX7_sumOf_4 := dk_seg dksX7_sumOf_3 22 rfl rfl
theorem dksX7_sumOf_5 : cX7_sumOf.data.toList.drop 117 = dktX7_sumOf_5 := dk_seg dksX7_sumOf_4 23 rfl rfl
theorem dksX7_sumOf_6 : cX7_sumOf.data.toList.drop 141 = dktX7_sumOf_6 := dk_seg dksX7_sumOf_5 24 rfl rfl
theorem dX7_sumOf_0 : decode cX7_sumOf 0 = .ok (.iconst 0, 1) := dk_3 (dk_at dksX7_sumOf_0 0 rfl rfl)
theorem dX7_sumOf_1 : decode cX7_sumOf 1 = .ok (.istore 6, 2) := dk_54 6 (dk_at dksX7_sumOf_0 1 rfl rfl)
theorem dX7_sumOf_3 : decode cX7_sumOf 3 = .ok (.iconst 0, 1) := dk_3 (dk_at dksX7_sumOf_0 3 rfl rfl)
theorem dX7_sumOf_4 : decode cX7_sumOf 4 = .ok (.istore 7, 2) := dk_54 7 (dk_at dksX7_sumOf_0 4 rfl rfl)
theorem dX7_sumOf_6 : decode cX7_sumOf 6 = .ok (.iload 7, 2) := dk_21 7 (dk_at dksX7_sumOf_0 6 rfl rfl)
theorem dX7_sumOf_8 : decode cX7_sumOf 8 = .ok (.bipush 24, 2) := dk_16 24 (dk_at dksX7_sumOf_0 8 rfl rfl)
theorem dX7_sumOf_10 : decode cX7_sumOf 10 = .ok (.if_icmp .ge 101, 3) := dk_162 0 101 (dk_at dksX7_sumOf_0 10 rfl rfl)
theorem dX7_sumOf_13 : decode cX7_sumOf 13 = .ok (.aload_n 0, 1) := dk_42 (dk_at dksX7_sumOf_0 13 rfl rfl)
theorem dX7_sumOf_14 : decode cX7_sumOf 14 = .ok (.iload 7, 2) := dk_21 7 (dk_at dksX7_sumOf_0 14 rfl rfl)
theorem dX7_sumOf_16 : decode cX7_sumOf 16 = .ok (.iload_n 2, 1) := dk_28 (dk_at dksX7_sumOf_0 16 rfl rfl)
theorem dX7_sumOf_17 : decode cX7_sumOf 17 = .ok (.iload_n 3, 1) := dk_29 (dk_at dksX7_sumOf_0 17 rfl rfl)
theorem dX7_sumOf_18 : decode cX7_sumOf 18 = .ok (.invokevirtual 274, 3) := dk_182 1 18 (dk_at dksX7_sumOf_0 18 rfl rfl)
theorem dX7_sumOf_21 : decode cX7_sumOf 21 = .ok (.ifCond .eq 84, 3) := dk_153 0 84 (dk_at dksX7_sumOf_0 21 rfl rfl)
theorem dX7_sumOf_24 : decode cX7_sumOf 24 = .ok (.aload_n 0, 1) := dk_42 (dk_at dksX7_sumOf_1 0 rfl rfl)
theorem dX7_sumOf_25 : decode cX7_sumOf 25 = .ok (.getfield 97, 3) := dk_180 0 97 (dk_at dksX7_sumOf_1 1 rfl rfl)
theorem dX7_sumOf_28 : decode cX7_sumOf 28 = .ok (.iload 7, 2) := dk_21 7 (dk_at dksX7_sumOf_1 4 rfl rfl)
theorem dX7_sumOf_30 : decode cX7_sumOf 30 = .ok (.iaload, 1) := dk_46 (dk_at dksX7_sumOf_1 6 rfl rfl)
theorem dX7_sumOf_31 : decode cX7_sumOf 31 = .ok (.iload_n 1, 1) := dk_27 (dk_at dksX7_sumOf_1 7 rfl rfl)
theorem dX7_sumOf_32 : decode cX7_sumOf 32 = .ok (.if_icmp .ne 73, 3) := dk_160 0 73 (dk_at dksX7_sumOf_1 8 rfl rfl)
theorem dX7_sumOf_35 : decode cX7_sumOf 35 = .ok (.iload 5, 2) := dk_21 5 (dk_at dksX7_sumOf_1 11 rfl rfl)
theorem dX7_sumOf_37 : decode cX7_sumOf 37 = .ok (.aload_n 0, 1) := dk_42 (dk_at dksX7_sumOf_1 13 rfl rfl)
theorem dX7_sumOf_38 : decode cX7_sumOf 38 = .ok (.iload 7, 2) := dk_21 7 (dk_at dksX7_sumOf_1 14 rfl rfl)
theorem dX7_sumOf_40 : decode cX7_sumOf 40 = .ok (.iload_n 2, 1) := dk_28 (dk_at dksX7_sumOf_1 16 rfl rfl)
theorem dX7_sumOf_41 : decode cX7_sumOf 41 = .ok (.iload_n 3, 1) := dk_29 (dk_at dksX7_sumOf_1 17 rfl rfl)
theorem dX7_sumOf_42 : decode cX7_sumOf 42 = .ok (.invokevirtual 277, 3) := dk_182 1 21 (dk_at dksX7_sumOf_1 18 rfl rfl)
theorem dX7_sumOf_45 : decode cX7_sumOf 45 = .ok (.imul, 1) := dk_104 (dk_at dksX7_sumOf_1 21 rfl rfl)
theorem dX7_sumOf_46 : decode cX7_sumOf 46 = .ok (.istore 8, 2) := dk_54 8 (dk_at dksX7_sumOf_1 22 rfl rfl)
theorem dX7_sumOf_48 : decode cX7_sumOf 48 = .ok (.iload 6, 2) := dk_21 6 (dk_at dksX7_sumOf_2 0 rfl rfl)
theorem dX7_sumOf_50 : decode cX7_sumOf 50 = .ok (.istore 9, 2) := dk_54 9 (dk_at dksX7_sumOf_2 2 rfl rfl)
theorem dX7_sumOf_52 : decode cX7_sumOf 52 = .ok (.iload 9, 2) := dk_21 9 (dk_at dksX7_sumOf_2 4 rfl rfl)
theorem dX7_sumOf_54 : decode cX7_sumOf 54 = .ok (.ifCond .le 39, 3) := dk_158 0 39 (dk_at dksX7_sumOf_2 6 rfl rfl)
theorem dX7_sumOf_57 : decode cX7_sumOf 57 = .ok (.aload_n 0, 1) := dk_42 (dk_at dksX7_sumOf_2 9 rfl rfl)
theorem dX7_sumOf_58 : decode cX7_sumOf 58 = .ok (.getfield 133, 3) := dk_180 0 133 (dk_at dksX7_sumOf_2 10 rfl rfl)
theorem dX7_sumOf_61 : decode cX7_sumOf 61 = .ok (.iload 9, 2) := dk_21 9 (dk_at dksX7_sumOf_2 13 rfl rfl)
theorem dX7_sumOf_63 : decode cX7_sumOf 63 = .ok (.iconst 1, 1) := dk_4 (dk_at dksX7_sumOf_2 15 rfl rfl)
theorem dX7_sumOf_64 : decode cX7_sumOf 64 = .ok (.isub, 1) := dk_100 (dk_at dksX7_sumOf_2 16 rfl rfl)
theorem dX7_sumOf_65 : decode cX7_sumOf 65 = .ok (.iaload, 1) := dk_46 (dk_at dksX7_sumOf_2 17 rfl rfl)
theorem dX7_sumOf_66 : decode cX7_sumOf 66 = .ok (.iload 8, 2) := dk_21 8 (dk_at dksX7_sumOf_2 18 rfl rfl)
theorem dX7_sumOf_68 : decode cX7_sumOf 68 = .ok (.if_icmp .le 25, 3) := dk_164 0 25 (dk_at dksX7_sumOf_2 20 rfl rfl)
theorem dX7_sumOf_71 : decode cX7_sumOf 71 = .ok (.aload_n 0, 1) := dk_42 (dk_at dksX7_sumOf_2 23 rfl rfl)
theorem dX7_sumOf_72 : decode cX7_sumOf 72 = .ok (.getfield 133, 3) := dk_180 0 133 (dk_at dksX7_sumOf_3 0 rfl rfl)
theorem dX7_sumOf_75 : decode cX7_sumOf 75 = .ok (.iload 9, 2) := dk_21 9 (dk_at dksX7_sumOf_3 3 rfl rfl)
theorem dX7_sumOf_77 : decode cX7_sumOf 77 = .ok (.aload_n 0, 1) := dk_42 (dk_at dksX7_sumOf_3 5 rfl rfl)
theorem dX7_sumOf_78 : decode cX7_sumOf 78 = .ok (.getfield 133, 3) := dk_180 0 133 (dk_at dksX7_sumOf_3 6 rfl rfl)
theorem dX7_sumOf_81 : decode cX7_sumOf 81 = .ok (.iload 9, 2) := dk_21 9 (dk_at dksX7_sumOf_3 9 rfl rfl)
theorem dX7_sumOf_83 : decode cX7_sumOf 83 = .ok (.iconst 1, 1) := dk_4 (dk_at dksX7_sumOf_3 11 rfl rfl)
theorem dX7_sumOf_84 : decode cX7_sumOf 84 = .ok (.isub, 1) := dk_100 (dk_at dksX7_sumOf_3 12 rfl rfl)
theorem dX7_sumOf_85 : decode cX7_sumOf 85 = .ok (.iaload, 1) := dk_46 (dk_at dksX7_sumOf_3 13 rfl rfl)
theorem dX7_sumOf_86 : decode cX7_sumOf 86 = .ok (.iastore, 1) := dk_79 (dk_at dksX7_sumOf_3 14 rfl rfl)
theorem dX7_sumOf_87 : decode cX7_sumOf 87 = .ok (.iinc 9 (-1), 3) := dk_132 9 255 (dk_at dksX7_sumOf_3 15 rfl rfl)
theorem dX7_sumOf_90 : decode cX7_sumOf 90 = .ok (.goto (-38), 3) := dk_167 255 218 (dk_at dksX7_sumOf_3 18 rfl rfl)
theorem dX7_sumOf_93 : decode cX7_sumOf 93 = .ok (.aload_n 0, 1) := dk_42 (dk_at dksX7_sumOf_3 21 rfl rfl)
theorem dX7_sumOf_94 : decode cX7_sumOf 94 = .ok (.getfield 133, 3) := dk_180 0 133 (dk_at dksX7_sumOf_4 0 rfl rfl)
theorem dX7_sumOf_97 : decode cX7_sumOf 97 = .ok (.iload 9, 2) := dk_21 9 (dk_at dksX7_sumOf_4 3 rfl rfl)
theorem dX7_sumOf_99 : decode cX7_sumOf 99 = .ok (.iload 8, 2) := dk_21 8 (dk_at dksX7_sumOf_4 5 rfl rfl)
theorem dX7_sumOf_101 : decode cX7_sumOf 101 = .ok (.iastore, 1) := dk_79 (dk_at dksX7_sumOf_4 7 rfl rfl)
theorem dX7_sumOf_102 : decode cX7_sumOf 102 = .ok (.iinc 6 1, 3) := dk_132 6 1 (dk_at dksX7_sumOf_4 8 rfl rfl)
theorem dX7_sumOf_105 : decode cX7_sumOf 105 = .ok (.iinc 7 1, 3) := dk_132 7 1 (dk_at dksX7_sumOf_4 11 rfl rfl)
theorem dX7_sumOf_108 : decode cX7_sumOf 108 = .ok (.goto (-102), 3) := dk_167 255 154 (dk_at dksX7_sumOf_4 14 rfl rfl)
theorem dX7_sumOf_111 : decode cX7_sumOf 111 = .ok (.lconst 0, 1) := dk_9 (dk_at dksX7_sumOf_4 17 rfl rfl)
theorem dX7_sumOf_112 : decode cX7_sumOf 112 = .ok (.lstore 7, 2) := dk_55 7 (dk_at dksX7_sumOf_4 18 rfl rfl)
theorem dX7_sumOf_114 : decode cX7_sumOf 114 = .ok (.iconst 0, 1) := dk_3 (dk_at dksX7_sumOf_4 20 rfl rfl)
theorem dX7_sumOf_115 : decode cX7_sumOf 115 = .ok (.istore 9, 2) := dk_54 9 (dk_at dksX7_sumOf_4 21 rfl rfl)
theorem dX7_sumOf_117 : decode cX7_sumOf 117 = .ok (.iload 9, 2) := dk_21 9 (dk_at dksX7_sumOf_5 0 rfl rfl)
theorem dX7_sumOf_119 : decode cX7_sumOf 119 = .ok (.iload 4, 2) := dk_21 4 (dk_at dksX7_sumOf_5 2 rfl rfl)
theorem dX7_sumOf_121 : decode cX7_sumOf 121 = .ok (.if_icmp .ge 29, 3) := dk_162 0 29 (dk_at dksX7_sumOf_5 4 rfl rfl)
theorem dX7_sumOf_124 : decode cX7_sumOf 124 = .ok (.iload 9, 2) := dk_21 9 (dk_at dksX7_sumOf_5 7 rfl rfl)
theorem dX7_sumOf_126 : decode cX7_sumOf 126 = .ok (.iload 6, 2) := dk_21 6 (dk_at dksX7_sumOf_5 9 rfl rfl)
theorem dX7_sumOf_128 : decode cX7_sumOf 128 = .ok (.if_icmp .ge 22, 3) := dk_162 0 22 (dk_at dksX7_sumOf_5 11 rfl rfl)
theorem dX7_sumOf_131 : decode cX7_sumOf 131 = .ok (.lload 7, 2) := dk_22 7 (dk_at dksX7_sumOf_5 14 rfl rfl)
theorem dX7_sumOf_133 : decode cX7_sumOf 133 = .ok (.aload_n 0, 1) := dk_42 (dk_at dksX7_sumOf_5 16 rfl rfl)
theorem dX7_sumOf_134 : decode cX7_sumOf 134 = .ok (.getfield 133, 3) := dk_180 0 133 (dk_at dksX7_sumOf_5 17 rfl rfl)
theorem dX7_sumOf_137 : decode cX7_sumOf 137 = .ok (.iload 9, 2) := dk_21 9 (dk_at dksX7_sumOf_5 20 rfl rfl)
theorem dX7_sumOf_139 : decode cX7_sumOf 139 = .ok (.iaload, 1) := dk_46 (dk_at dksX7_sumOf_5 22 rfl rfl)
theorem dX7_sumOf_140 : decode cX7_sumOf 140 = .ok (.i2l, 1) := dk_133 (dk_at dksX7_sumOf_5 23 rfl rfl)
theorem dX7_sumOf_141 : decode cX7_sumOf 141 = .ok (.ladd, 1) := dk_97 (dk_at dksX7_sumOf_6 0 rfl rfl)
theorem dX7_sumOf_142 : decode cX7_sumOf 142 = .ok (.lstore 7, 2) := dk_55 7 (dk_at dksX7_sumOf_6 1 rfl rfl)
theorem dX7_sumOf_144 : decode cX7_sumOf 144 = .ok (.iinc 9 1, 3) := dk_132 9 1 (dk_at dksX7_sumOf_6 3 rfl rfl)
theorem dX7_sumOf_147 : decode cX7_sumOf 147 = .ok (.goto (-30), 3) := dk_167 255 226 (dk_at dksX7_sumOf_6 6 rfl rfl)
theorem dX7_sumOf_150 : decode cX7_sumOf 150 = .ok (.iload 5, 2) := dk_21 5 (dk_at dksX7_sumOf_6 9 rfl rfl)
theorem dX7_sumOf_152 : decode cX7_sumOf 152 = .ok (.i2l, 1) := dk_133 (dk_at dksX7_sumOf_6 11 rfl rfl)
theorem dX7_sumOf_153 : decode cX7_sumOf 153 = .ok (.lload 7, 2) := dk_22 7 (dk_at dksX7_sumOf_6 12 rfl rfl)
theorem dX7_sumOf_155 : decode cX7_sumOf 155 = .ok (.lmul, 1) := dk_105 (dk_at dksX7_sumOf_6 14 rfl rfl)
theorem dX7_sumOf_156 : decode cX7_sumOf 156 = .ok (.lreturn, 1) := dk_173 (dk_at dksX7_sumOf_6 15 rfl rfl)
def dkwX7_odds_13 : List UInt8 := [182, 1, 65, 173]
abbrev dktX7_odds_13 : List UInt8 := dkwX7_odds_13 ++ []
def dkwX7_odds_12 : List UInt8 := [55, 13, 132, 17, 1, 167, 255, 124, 42, 22, 13, 181, 1, 25, 42, 22, 15, 181, 1, 29, 42, 29]
abbrev dktX7_odds_12 : List UInt8 := dkwX7_odds_12 ++ dktX7_odds_13
def dkwX7_odds_11 : List UInt8 := [22, 21, 22, 4, 148, 156, 0, 12, 22, 21, 117, 22, 4, 148, 155, 0, 7, 10, 167, 0, 4, 9, 97]
abbrev dktX7_odds_11 : List UInt8 := dkwX7_odds_11 ++ dktX7_odds_12
def dkwX7_odds_10 : List UInt8 := [22, 19, 22, 8, 105, 22, 10, 22, 19, 101, 22, 6, 105, 101, 55, 21, 22, 15, 10, 97, 55, 15, 22, 13]
abbrev dktX7_odds_10 : List UInt8 := dkwX7_odds_10 ++ dktX7_odds_11
def dkwX7_odds_9 : List UInt8 := [133, 167, 0, 4, 9, 97, 55, 19, 132, 21, 1, 167, 255, 206, 21, 18, 133, 22, 6, 148, 154, 0, 52]
abbrev dktX7_odds_9 : List UInt8 := dkwX7_odds_9 ++ dktX7_odds_10
def dkwX7_odds_8 : List UInt8 := [126, 96, 54, 18, 22, 19, 21, 17, 21, 21, 122, 4, 126, 4, 160, 0, 14, 42, 180, 0, 133, 21, 21, 46]
abbrev dktX7_odds_8 : List UInt8 := dkwX7_odds_8 ++ dktX7_odds_9
def dkwX7_odds_7 : List UInt8 := [3, 54, 18, 9, 55, 19, 3, 54, 21, 21, 21, 21, 12, 162, 0, 49, 21, 18, 21, 17, 21, 21, 122, 4]
abbrev dktX7_odds_7 : List UInt8 := dkwX7_odds_7 ++ dktX7_odds_8
def dkwX7_odds_6 : List UInt8 := [132, 13, 1, 167, 255, 217, 9, 55, 13, 9, 55, 15, 3, 54, 17, 21, 17, 4, 21, 12, 120, 162, 0, 129]
abbrev dktX7_odds_6 : List UInt8 := dkwX7_odds_6 ++ dktX7_odds_7
def dkwX7_odds_5 : List UInt8 := [182, 1, 18, 153, 0, 21, 42, 180, 0, 133, 21, 12, 42, 21, 13, 27, 28, 182, 1, 21, 79, 132, 12, 1]
abbrev dktX7_odds_5 : List UInt8 := dkwX7_odds_5 ++ dktX7_odds_6
def dkwX7_odds_4 : List UInt8 := [180, 1, 42, 97, 55, 10, 3, 54, 12, 3, 54, 13, 21, 13, 16, 24, 162, 0, 38, 42, 21, 13, 27, 28]
abbrev dktX7_odds_4 : List UInt8 := dkwX7_odds_4 ++ dktX7_odds_5
def dkwX7_odds_3 : List UInt8 := [180, 1, 25, 55, 4, 42, 180, 1, 39, 55, 6, 42, 180, 1, 45, 55, 8, 42, 180, 1, 36, 42]
abbrev dktX7_odds_3 : List UInt8 := dkwX7_odds_3 ++ dktX7_odds_4
def dkwX7_odds_2 : List UInt8 := [20, 1, 82, 173, 42, 180, 1, 25, 9, 148, 156, 0, 11, 42, 180, 1, 25, 117, 167, 0, 7, 42]
abbrev dktX7_odds_2 : List UInt8 := dkwX7_odds_2 ++ dktX7_odds_3
def dkwX7_odds_1 : List UInt8 := [182, 1, 62, 153, 0, 19, 42, 180, 1, 39, 42, 180, 1, 45, 97, 20, 1, 80, 148, 158, 0, 7]
abbrev dktX7_odds_1 : List UInt8 := dkwX7_odds_1 ++ dktX7_odds_2
def dkwX7_odds_0 : List UInt8 := [42, 3, 181, 0, 1, 27, 28, 184, 1, 14, 153, 0, 36, 29, 184, 1, 59, 153, 0, 29, 42, 27, 28, 2]
abbrev dktX7_odds_0 : List UInt8 := dkwX7_odds_0 ++ dktX7_odds_1
theorem dksX7_odds_0 : cX7_odds.data.toList.drop 0 = dktX7_odds_0 := by decide +kernel
theorem dksX7_odds_1 : cX7_odds.data.toList.drop 24 = dktX7_odds_1 := dk_seg dksX7_odds_0 24 rfl rfl
theorem dksX7_odds_2 : cX7_odds.data.toList.drop 46 = dktX7_odds_2 := dk_seg dksX7_odds_1 22 rfl rfl
theorem dksX7_odds_3 : cX7_odds.data.toList.drop 68 = dktX7_odds_3 := dk_seg dksX7_odds_2 22 rfl rfl
theorem dksX7_odds_4 : cX7_odds.data.toList.drop 90 = dktX7_odds_4 := dk_seg dksX7_odds_3 22 rfl rfl
theorem dksX7_odds_5 : cX7_odds.data.toList.drop 114 = dktX7_odds_5 := dk_seg dksX7_odds_4 24 rfl rfl
theorem dksX7_odds_6 : cX7_odds.data.toList.drop 138 = dktX7_odds_6 := dk_seg dksX7_odds_5 24 rfl rfl
theorem dksX7_odds_7 : cX7_odds.data.toList.drop 162 = dktX7_odds_7 := dk_seg dksX7_odds_6 24 rfl rfl
theorem dksX7_odds_8 : cX7_odds.data.toList.drop 186 = dktX7_odds_8 := dk_seg dksX7_odds_7 24 rfl rfl
theorem dksX7_odds_9 : cX7_odds.data.toList.drop 210 = dktX7_odds_9 := dk_seg dksX7_odds_8 24 rfl rfl
theorem dksX7_odds_10 : cX7_odds.data.toList.drop 233 = dktX7_odds_10 := dk_seg dksX7_odds_9 23 rfl rfl
theorem dksX7_odds_11 : cX7_odds.data.toList.drop 257 = dktX7_odds_11 := dk_seg dksX7_odds_10 24 rfl rfl
theorem dksX7_odds_12 : cX7_odds.data.toList.drop 280 = dktX7_odds_12 := dk_seg dksX7_odds_11 23 rfl rfl
theorem dksX7_odds_13 : cX7_odds.data.toList.drop 302 = dktX7_odds_13 := dk_seg dksX7_odds_12 22 rfl rfl
theorem dX7_odds_0 : decode cX7_odds 0 = .ok (.aload_n 0, 1) := dk_42 (dk_at dksX7_odds_0 0 rfl rfl)
theorem dX7_odds_1 : decode cX7_odds 1 = .ok (.iconst 0, 1) := dk_3 (dk_at dksX7_odds_0 1 rfl rfl)
theorem dX7_odds_2 : decode cX7_odds 2 = .ok (.putfield 1, 3) := dk_181 0 1 (dk_at dksX7_odds_0 2 rfl rfl)
theorem dX7_odds_5 : decode cX7_odds 5 = .ok (.iload_n 1, 1) := dk_27 (dk_at dksX7_odds_0 5 rfl rfl)
theorem dX7_odds_6 : decode cX7_odds 6 = .ok (.iload_n 2, 1) := dk_28 (dk_at dksX7_odds_0 6 rfl rfl)
theorem dX7_odds_7 : decode cX7_odds 7 = .ok (.invokestatic 270, 3) := dk_184 1 14 (dk_at dksX7_odds_0 7 rfl rfl)
theorem dX7_odds_10 : decode cX7_odds 10 = .ok (.ifCond .eq 36, 3) := dk_153 0 36 (dk_at dksX7_odds_0 10 rfl rfl)
theorem dX7_odds_13 : decode cX7_odds 13 = .ok (.iload_n 3, 1) := dk_29 (dk_at dksX7_odds_0 13 rfl rfl)
theorem dX7_odds_14 : decode cX7_odds 14 = .ok (.invokestatic 315, 3) := dk_184 1 59 (dk_at dksX7_odds_0 14 rfl rfl)
theorem dX7_odds_17 : decode cX7_odds 17 = .ok (.ifCond .eq 29, 3) := dk_153 0 29 (dk_at dksX7_odds_0 17 rfl rfl)
theorem dX7_odds_20 : decode cX7_odds 20 = .ok (.aload_n 0, 1) := dk_42 (dk_at dksX7_odds_0 20 rfl rfl)
theorem dX7_odds_21 : decode cX7_odds 21 = .ok (.iload_n 1, 1) := dk_27 (dk_at dksX7_odds_0 21 rfl rfl)
theorem dX7_odds_22 : decode cX7_odds 22 = .ok (.iload_n 2, 1) := dk_28 (dk_at dksX7_odds_0 22 rfl rfl)
theorem dX7_odds_23 : decode cX7_odds 23 = .ok (.iconst (-1), 1) := dk_2 (dk_at dksX7_odds_0 23 rfl rfl)
theorem dX7_odds_24 : decode cX7_odds 24 = .ok (.invokevirtual 318, 3) := dk_182 1 62 (dk_at dksX7_odds_1 0 rfl rfl)
theorem dX7_odds_27 : decode cX7_odds 27 = .ok (.ifCond .eq 19, 3) := dk_153 0 19 (dk_at dksX7_odds_1 3 rfl rfl)
theorem dX7_odds_30 : decode cX7_odds 30 = .ok (.aload_n 0, 1) := dk_42 (dk_at dksX7_odds_1 6 rfl rfl)
theorem dX7_odds_31 : decode cX7_odds 31 = .ok (.getfield 295, 3) := dk_180 1 39 (dk_at dksX7_odds_1 7 rfl rfl)
theorem dX7_odds_34 : decode cX7_odds 34 = .ok (.aload_n 0, 1) := dk_42 (dk_at dksX7_odds_1 10 rfl rfl)
theorem dX7_odds_35 : decode cX7_odds 35 = .ok (.getfield 301, 3) := dk_180 1 45 (dk_at dksX7_odds_1 11 rfl rfl)
theorem dX7_odds_38 : decode cX7_odds 38 = .ok (.ladd, 1) := dk_97 (dk_at dksX7_odds_1 14 rfl rfl)
theorem dX7_odds_39 : decode cX7_odds 39 = .ok (.ldc2_w 336, 3) := dk_20 1 80 (dk_at dksX7_odds_1 15 rfl rfl)
theorem dX7_odds_42 : decode cX7_odds 42 = .ok (.lcmp, 1) := dk_148 (dk_at dksX7_odds_1 18 rfl rfl)
theorem dX7_odds_43 : decode cX7_odds 43 = .ok (.ifCond .le 7, 3) := dk_158 0 7 (dk_at dksX7_odds_1 19 rfl rfl)
theorem dX7_odds_46 : decode cX7_odds 46 = .ok (.ldc2_w 338, 3) := dk_20 1 82 (dk_at dksX7_odds_2 0 rfl rfl)
theorem dX7_odds_49 : decode cX7_odds 49 = .ok (.lreturn, 1) := dk_173 (dk_at dksX7_odds_2 3 rfl rfl)
theorem dX7_odds_50 : decode cX7_odds 50 = .ok (.aload_n 0, 1) := dk_42 (dk_at dksX7_odds_2 4 rfl rfl)
theorem dX7_odds_51 : decode cX7_odds 51 = .ok (.getfield 281, 3) := dk_180 1 25 (dk_at dksX7_odds_2 5 rfl rfl)
theorem dX7_odds_54 : decode cX7_odds 54 = .ok (.lconst 0, 1) := dk_9 (dk_at dksX7_odds_2 8 rfl rfl)
theorem dX7_odds_55 : decode cX7_odds 55 = .ok (.lcmp, 1) := dk_148 (dk_at dksX7_odds_2 9 rfl rfl)
theorem dX7_odds_56 : decode cX7_odds 56 = .ok (.ifCond .ge 11, 3) := dk_156 0 11 (dk_at dksX7_odds_2 10 rfl rfl)
theorem dX7_odds_59 : decode cX7_odds 59 = .ok (.aload_n 0, 1) := dk_42 (dk_at dksX7_odds_2 13 rfl rfl)
theorem dX7_odds_60 : decode cX7_odds 60 = .ok (.getfield 281, 3) := dk_180 1 25 (dk_at dksX7_odds_2 14 rfl rfl)
theorem dX7_odds_63 : decode cX7_odds 63 = .ok (.lneg, 1) := dk_117 (dk_at dksX7_odds_2 17 rfl rfl)
theorem dX7_odds_64 : decode cX7_odds 64 = .ok (.goto 7, 3) := dk_167 0 7 (dk_at dksX7_odds_2 18 rfl rfl)
theorem dX7_odds_67 : decode cX7_odds 67 = .ok (.aload_n 0, 1) := dk_42 (dk_at dksX7_odds_2 21 rfl rfl)
theorem dX7_odds_68 : decode cX7_odds 68 = .ok (.getfield 281, 3) := dk_180 1 25 (dk_at dksX7_odds_3 0 rfl rfl)
theorem dX7_odds_71 : decode cX7_odds 71 = .ok (.lstore 4, 2) := dk_55 4 (dk_at dksX7_odds_3 3 rfl rfl)
theorem dX7_odds_73 : decode cX7_odds 73 = .ok (.aload_n 0, 1) := dk_42 (dk_at dksX7_odds_3 5 rfl rfl)
theorem dX7_odds_74 : decode cX7_odds 74 = .ok (.getfield 295, 3) := dk_180 1 39 (dk_at dksX7_odds_3 6 rfl rfl)
theorem dX7_odds_77 : decode cX7_odds 77 = .ok (.lstore 6, 2) := dk_55 6 (dk_at dksX7_odds_3 9 rfl rfl)
theorem dX7_odds_79 : decode cX7_odds 79 = .ok (.aload_n 0, 1) := dk_42 (dk_at dksX7_odds_3 11 rfl rfl)
theorem dX7_odds_80 : decode cX7_odds 80 = .ok (.getfield 301, 3) := dk_180 1 45 (dk_at dksX7_odds_3 12 rfl rfl)
theorem dX7_odds_83 : decode cX7_odds 83 = .ok (.lstore 8, 2) := dk_55 8 (dk_at dksX7_odds_3 15 rfl rfl)
theorem dX7_odds_85 : decode cX7_odds 85 = .ok (.aload_n 0, 1) := dk_42 (dk_at dksX7_odds_3 17 rfl rfl)
theorem dX7_odds_86 : decode cX7_odds 86 = .ok (.getfield 292, 3) := dk_180 1 36 (dk_at dksX7_odds_3 18 rfl rfl)
theorem dX7_odds_89 : decode cX7_odds 89 = .ok (.aload_n 0, 1) := dk_42 (dk_at dksX7_odds_3 21 rfl rfl)
theorem dX7_odds_90 : decode cX7_odds 90 = .ok (.getfield 298, 3) := dk_180 1 42 (dk_at dksX7_odds_4 0 rfl rfl)
theorem dX7_odds_93 : decode cX7_odds 93 = .ok (.ladd, 1) := dk_97 (dk_at dksX7_odds_4 3 rfl rfl)
theorem dX7_odds_94 : decode cX7_odds 94 = .ok (.lstore 10, 2) := dk_55 10 (dk_at dksX7_odds_4 4 rfl rfl)
theorem dX7_odds_96 : decode cX7_odds 96 = .ok (.iconst 0, 1) := dk_3 (dk_at dksX7_odds_4 6 rfl rfl)
theorem dX7_odds_97 : decode cX7_odds 97 = .ok (.istore 12, 2) := dk_54 12 (dk_at dksX7_odds_4 7 rfl rfl)
theorem dX7_odds_99 : decode cX7_odds 99 = .ok (.iconst 0, 1) := dk_3 (dk_at dksX7_odds_4 9 rfl rfl)
theorem dX7_odds_100 : decode cX7_odds 100 = .ok (.istore 13, 2) := dk_54 13 (dk_at dksX7_odds_4 10 rfl rfl)
theorem dX7_odds_102 : decode cX7_odds 102 = .ok (.iload 13, 2) := dk_21 13 (dk_at dksX7_odds_4 12 rfl rfl)
theorem dX7_odds_104 : decode cX7_odds 104 = .ok (.bipush 24, 2) := dk_16 24 (dk_at dksX7_odds_4 14 rfl rfl)
theorem dX7_odds_106 : decode cX7_odds 106 = .ok (.if_icmp .ge 38, 3) := dk_162 0 38 (dk_at dksX7_odds_4 16 rfl rfl)
theorem dX7_odds_109 : decode cX7_odds 109 = .ok (.aload_n 0, 1) := dk_42 (dk_at dksX7_odds_4 19 rfl rfl)
theorem dX7_odds_110 : decode cX7_odds 110 = .ok (.iload 13, 2) := dk_21 13 (dk_at dksX7_odds_4 20 rfl rfl)
theorem dX7_odds_112 : decode cX7_odds 112 = .ok (.iload_n 1, 1) := dk_27 (dk_at dksX7_odds_4 22 rfl rfl)
theorem dX7_odds_113 : decode cX7_odds 113 = .ok (.iload_n 2, 1) := dk_28 (dk_at dksX7_odds_4 23 rfl rfl)
theorem dX7_odds_114 : decode cX7_odds 114 = .ok (.invokevirtual 274, 3) := dk_182 1 18 (dk_at dksX7_odds_5 0 rfl rfl)
theorem dX7_odds_117 : decode cX7_odds 117 = .ok (.ifCond .eq 21, 3) := dk_153 0 21 (dk_at dksX7_odds_5 3 rfl rfl)
theorem dX7_odds_120 : decode cX7_odds 120 = .ok (.aload_n 0, 1) := dk_42 (dk_at dksX7_odds_5 6 rfl rfl)
theorem dX7_odds_121 : decode cX7_odds 121 = .ok (.getfield 133, 3) := dk_180 0 133 (dk_at dksX7_odds_5 7 rfl rfl)
theorem dX7_odds_124 : decode cX7_odds 124 = .ok (.iload 12, 2) := dk_21 12 (dk_at dksX7_odds_5 10 rfl rfl)
theorem dX7_odds_126 : decode cX7_odds 126 = .ok (.aload_n 0, 1) := dk_42 (dk_at dksX7_odds_5 12 rfl rfl)
theorem dX7_odds_127 : decode cX7_odds 127 = .ok (.iload 13, 2) := dk_21 13 (dk_at dksX7_odds_5 13 rfl rfl)
theorem dX7_odds_129 : decode cX7_odds 129 = .ok (.iload_n 1, 1) := dk_27 (dk_at dksX7_odds_5 15 rfl rfl)
theorem dX7_odds_130 : decode cX7_odds 130 = .ok (.iload_n 2, 1) := dk_28 (dk_at dksX7_odds_5 16 rfl rfl)
theorem dX7_odds_131 : decode cX7_odds 131 = .ok (.invokevirtual 277, 3) := dk_182 1 21 (dk_at dksX7_odds_5 17 rfl rfl)
theorem dX7_odds_134 : decode cX7_odds 134 = .ok (.iastore, 1) := dk_79 (dk_at dksX7_odds_5 20 rfl rfl)
theorem dX7_odds_135 : decode cX7_odds 135 = .ok (.iinc 12 1, 3) := dk_132 12 1 (dk_at dksX7_odds_5 21 rfl rfl)
theorem dX7_odds_138 : decode cX7_odds 138 = .ok (.iinc 13 1, 3) := dk_132 13 1 (dk_at dksX7_odds_6 0 rfl rfl)
theorem dX7_odds_141 : decode cX7_odds 141 = .ok (.goto (-39), 3) := dk_167 255 217 (dk_at dksX7_odds_6 3 rfl rfl)
theorem dX7_odds_144 : decode cX7_odds 144 = .ok (.lconst 0, 1) := dk_9 (dk_at dksX7_odds_6 6 rfl rfl)
theorem dX7_odds_145 : decode cX7_odds 145 = .ok (.lstore 13, 2) := dk_55 13 (dk_at dksX7_odds_6 7 rfl rfl)
theorem dX7_odds_147 : decode cX7_odds 147 = .ok (.lconst 0, 1) := dk_9 (dk_at dksX7_odds_6 9 rfl rfl)
theorem dX7_odds_148 : decode cX7_odds 148 = .ok (.lstore 15, 2) := dk_55 15 (dk_at dksX7_odds_6 10 rfl rfl)
theorem dX7_odds_150 : decode cX7_odds 150 = .ok (.iconst 0, 1) := dk_3 (dk_at dksX7_odds_6 12 rfl rfl)
theorem dX7_odds_151 : decode cX7_odds 151 = .ok (.istore 17, 2) := dk_54 17 (dk_at dksX7_odds_6 13 rfl rfl)
theorem dX7_odds_153 : decode cX7_odds 153 = .ok (.iload 17, 2) := dk_21 17 (dk_at dksX7_odds_6 15 rfl rfl)
theorem dX7_odds_155 : decode cX7_odds 155 = .ok (.iconst 1, 1) := dk_4 (dk_at dksX7_odds_6 17 rfl rfl)
theorem dX7_odds_156 : decode cX7_odds 156 = .ok (.iload 12, 2) := dk_21 12 (dk_at dksX7_odds_6 18 rfl rfl)
theorem dX7_odds_158 : decode cX7_odds 158 = .ok (.ishl, 1) := dk_120 (dk_at dksX7_odds_6 20 rfl rfl)
theorem dX7_odds_159 : decode cX7_odds 159 = .ok (.if_icmp .ge 129, 3) := dk_162 0 129 (dk_at dksX7_odds_6 21 rfl rfl)
theorem dX7_odds_162 : decode cX7_odds 162 = .ok (.iconst 0, 1) := dk_3 (dk_at dksX7_odds_7 0 rfl rfl)
theorem dX7_odds_163 : decode cX7_odds 163 = .ok (.istore 18, 2) := dk_54 18 (dk_at dksX7_odds_7 1 rfl rfl)
theorem dX7_odds_165 : decode cX7_odds 165 = .ok (.lconst 0, 1) := dk_9 (dk_at dksX7_odds_7 3 rfl rfl)
theorem dX7_odds_166 : decode cX7_odds 166 = .ok (.lstore 19, 2) := dk_55 19 (dk_at dksX7_odds_7 4 rfl rfl)
theorem dX7_odds_168 : decode cX7_odds 168 = .ok (.iconst 0, 1) := dk_3 (dk_at dksX7_odds_7 6 rfl rfl)
theorem dX7_odds_169 : decode cX7_odds 169 = .ok (.istore 21, 2) := dk_54 21 (dk_at dksX7_odds_7 7 rfl rfl)
theorem dX7_odds_171 : decode cX7_odds 171 = .ok (.iload 21, 2) := dk_21 21 (dk_at dksX7_odds_7 9 rfl rfl)
theorem dX7_odds_173 : decode cX7_odds 173 = .ok (.iload 12, 2) := dk_21 12 (dk_at dksX7_odds_7 11 rfl rfl)
theorem dX7_odds_175 : decode cX7_odds 175 = .ok (.if_icmp .ge 49, 3) := dk_162 0 49 (dk_at dksX7_odds_7 13 rfl rfl)
theorem dX7_odds_178 : decode cX7_odds 178 = .ok (.iload 18, 2) := dk_21 18 (dk_at dksX7_odds_7 16 rfl rfl)
theorem dX7_odds_180 : decode cX7_odds 180 = .ok (.iload 17, 2) := dk_21 17 (dk_at dksX7_odds_7 18 rfl rfl)
theorem dX7_odds_182 : decode cX7_odds 182 = .ok (.iload 21, 2) := dk_21 21 (dk_at dksX7_odds_7 20 rfl rfl)
theorem dX7_odds_184 : decode cX7_odds 184 = .ok (.ishr, 1) := dk_122 (dk_at dksX7_odds_7 22 rfl rfl)
theorem dX7_odds_185 : decode cX7_odds 185 = .ok (.iconst 1, 1) := dk_4 (dk_at dksX7_odds_7 23 rfl rfl)
theorem dX7_odds_186 : decode cX7_odds 186 = .ok (.iand, 1) := dk_126 (dk_at dksX7_odds_8 0 rfl rfl)
theorem dX7_odds_187 : decode cX7_odds 187 = .ok (.iadd, 1) := dk_96 (dk_at dksX7_odds_8 1 rfl rfl)
theorem dX7_odds_188 : decode cX7_odds 188 = .ok (.istore 18, 2) := dk_54 18 (dk_at dksX7_odds_8 2 rfl rfl)
theorem dX7_odds_190 : decode cX7_odds 190 = .ok (.lload 19, 2) := dk_22 19 (dk_at dksX7_odds_8 4 rfl rfl)
theorem dX7_odds_192 : decode cX7_odds 192 = .ok (.iload 17, 2) := dk_21 17 (dk_at dksX7_odds_8 6 rfl rfl)
theorem dX7_odds_194 : decode cX7_odds 194 = .ok (.iload 21, 2) := dk_21 21 (dk_at dksX7_odds_8 8 rfl rfl)
theorem dX7_odds_196 : decode cX7_odds 196 = .ok (.ishr, 1) := dk_122 (dk_at dksX7_odds_8 10 rfl rfl)
theorem dX7_odds_197 : decode cX7_odds 197 = .ok (.iconst 1, 1) := dk_4 (dk_at dksX7_odds_8 11 rfl rfl)
theorem dX7_odds_198 : decode cX7_odds 198 = .ok (.iand, 1) := dk_126 (dk_at dksX7_odds_8 12 rfl rfl)
theorem dX7_odds_199 : decode cX7_odds 199 = .ok (.iconst 1, 1) := dk_4 (dk_at dksX7_odds_8 13 rfl rfl)
theorem dX7_odds_200 : decode cX7_odds 200 = .ok (.if_icmp .ne 14, 3) := dk_160 0 14 (dk_at dksX7_odds_8 14 rfl rfl)
theorem dX7_odds_203 : decode cX7_odds 203 = .ok (.aload_n 0, 1) := dk_42 (dk_at dksX7_odds_8 17 rfl rfl)
theorem dX7_odds_204 : decode cX7_odds 204 = .ok (.getfield 133, 3) := dk_180 0 133 (dk_at dksX7_odds_8 18 rfl rfl)
theorem dX7_odds_207 : decode cX7_odds 207 = .ok (.iload 21, 2) := dk_21 21 (dk_at dksX7_odds_8 21 rfl rfl)
theorem dX7_odds_209 : decode cX7_odds 209 = .ok (.iaload, 1) := dk_46 (dk_at dksX7_odds_8 23 rfl rfl)
theorem dX7_odds_210 : decode cX7_odds 210 = .ok (.i2l, 1) := dk_133 (dk_at dksX7_odds_9 0 rfl rfl)
theorem dX7_odds_211 : decode cX7_odds 211 = .ok (.goto 4, 3) := dk_167 0 4 (dk_at dksX7_odds_9 1 rfl rfl)
theorem dX7_odds_214 : decode cX7_odds 214 = .ok (.lconst 0, 1) := dk_9 (dk_at dksX7_odds_9 4 rfl rfl)
theorem dX7_odds_215 : decode cX7_odds 215 = .ok (.ladd, 1) := dk_97 (dk_at dksX7_odds_9 5 rfl rfl)
theorem dX7_odds_216 : decode cX7_odds 216 = .ok (.lstore 19, 2) := dk_55 19 (dk_at dksX7_odds_9 6 rfl rfl)
theorem dX7_odds_218 : decode cX7_odds 218 = .ok (.iinc 21 1, 3) := dk_132 21 1 (dk_at dksX7_odds_9 8 rfl rfl)
theorem dX7_odds_221 : decode cX7_odds 221 = .ok (.goto (-50), 3) := dk_167 255 206 (dk_at dksX7_odds_9 11 rfl rfl)
theorem dX7_odds_224 : decode cX7_odds 224 = .ok (.iload 18, 2) := dk_21 18 (dk_at dksX7_odds_9 14 rfl rfl)
theorem dX7_odds_226 : decode cX7_odds 226 = .ok (.i2l, 1) := dk_133 (dk_at dksX7_odds_9 16 rfl rfl)
theorem dX7_odds_227 : decode cX7_odds 227 = .ok (.lload 6, 2) := dk_22 6 (dk_at dksX7_odds_9 17 rfl rfl)
theorem dX7_odds_229 : decode cX7_odds 229 = .ok (.lcmp, 1) := dk_148 (dk_at dksX7_odds_9 19 rfl rfl)
theorem dX7_odds_230 : decode cX7_odds 230 = .ok (.ifCond .ne 52, 3) := dk_154 0 52 (dk_at dksX7_odds_9 20 rfl rfl)
theorem dX7_odds_233 : decode cX7_odds 233 = .ok (.lload 19, 2) := dk_22 19 (dk_at dksX7_odds_10 0 rfl rfl)
theorem dX7_odds_235 : decode cX7_odds 235 = .ok (.lload 8, 2) := dk_22 8 (dk_at dksX7_odds_10 2 rfl rfl)
theorem dX7_odds_237 : decode cX7_odds 237 = .ok (.lmul, 1) := dk_105 (dk_at dksX7_odds_10 4 rfl rfl)
theorem dX7_odds_238 : decode cX7_odds 238 = .ok (.lload 10, 2) := dk_22 10 (dk_at dksX7_odds_10 5 rfl rfl)
theorem dX7_odds_240 : decode cX7_odds 240 = .ok (.lload 19, 2) := dk_22 19 (dk_at dksX7_odds_10 7 rfl rfl)
theorem dX7_odds_242 : decode cX7_odds 242 = .ok (.lsub, 1) := dk_101 (dk_at dksX7_odds_10 9 rfl rfl)
theorem dX7_odds_243 : decode cX7_odds 243 = .ok (.lload 6, 2) := dk_22 6 (dk_at dksX7_odds_10 10 rfl rfl)
theorem dX7_odds_245 : decode cX7_odds 245 = .ok (.lmul, 1) := dk_105 (dk_at dksX7_odds_10 12 rfl rfl)
theorem dX7_odds_246 : decode cX7_odds 246 = .ok (.lsub, 1) := dk_101 (dk_at dksX7_odds_10 13 rfl rfl)
theorem dX7_odds_247 : decode cX7_odds 247 = .ok (.lstore 21, 2) := dk_55 21 (dk_at dksX7_odds_10 14 rfl rfl)
theorem dX7_odds_249 : decode cX7_odds 249 = .ok (.lload 15, 2) := dk_22 15 (dk_at dksX7_odds_10 16 rfl rfl)
theorem dX7_odds_251 : decode cX7_odds 251 = .ok (.lconst 1, 1) := dk_10 (dk_at dksX7_odds_10 18 rfl rfl)
theorem dX7_odds_252 : decode cX7_odds 252 = .ok (.ladd, 1) := dk_97 (dk_at dksX7_odds_10 19 rfl rfl)
theorem dX7_odds_253 : decode cX7_odds 253 = .ok (.lstore 15, 2) := dk_55 15 (dk_at dksX7_odds_10 20 rfl rfl)
theorem dX7_odds_255 : decode cX7_odds 255 = .ok (.lload 13, 2) := dk_22 13 (dk_at dksX7_odds_10 22 rfl rfl)
theorem dX7_odds_257 : decode cX7_odds 257 = .ok (.lload 21, 2) := dk_22 21 (dk_at dksX7_odds_11 0 rfl rfl)
theorem dX7_odds_259 : decode cX7_odds 259 = .ok (.lload 4, 2) := dk_22 4 (dk_at dksX7_odds_11 2 rfl rfl)
theorem dX7_odds_261 : decode cX7_odds 261 = .ok (.lcmp, 1) := dk_148 (dk_at dksX7_odds_11 4 rfl rfl)
theorem dX7_odds_262 : decode cX7_odds 262 = .ok (.ifCond .ge 12, 3) := dk_156 0 12 (dk_at dksX7_odds_11 5 rfl rfl)
theorem dX7_odds_265 : decode cX7_odds 265 = .ok (.lload 21, 2) := dk_22 21 (dk_at dksX7_odds_11 8 rfl rfl)
theorem dX7_odds_267 : decode cX7_odds 267 = .ok (.lneg, 1) := dk_117 (dk_at dksX7_odds_11 10 rfl rfl)
theorem dX7_odds_268 : decode cX7_odds 268 = .ok (.lload 4, 2) := dk_22 4 (dk_at dksX7_odds_11 11 rfl rfl)
theorem dX7_odds_270 : decode cX7_odds 270 = .ok (.lcmp, 1) := dk_148 (dk_at dksX7_odds_11 13 rfl rfl)
theorem dX7_odds_271 : decode cX7_odds 271 = .ok (.ifCond .lt 7, 3) := dk_155 0 7 (dk_at dksX7_odds_11 14 rfl rfl)
theorem dX7_odds_274 : decode cX7_odds 274 = .ok (.lconst 1, 1) := dk_10 (dk_at dksX7_odds_11 17 rfl rfl)
theorem dX7_odds_275 : decode cX7_odds 275 = .ok (.goto 4, 3) := dk_167 0 4 (dk_at dksX7_odds_11 18 rfl rfl)
theorem dX7_odds_278 : decode cX7_odds 278 = .ok (.lconst 0, 1) := dk_9 (dk_at dksX7_odds_11 21 rfl rfl)
theorem dX7_odds_279 : decode cX7_odds 279 = .ok (.ladd, 1) := dk_97 (dk_at dksX7_odds_11 22 rfl rfl)
theorem dX7_odds_280 : decode cX7_odds 280 = .ok (.lstore 13, 2) := dk_55 13 (dk_at dksX7_odds_12 0 rfl rfl)
theorem dX7_odds_282 : decode cX7_odds 282 = .ok (.iinc 17 1, 3) := dk_132 17 1 (dk_at dksX7_odds_12 2 rfl rfl)
theorem dX7_odds_285 : decode cX7_odds 285 = .ok (.goto (-132), 3) := dk_167 255 124 (dk_at dksX7_odds_12 5 rfl rfl)
theorem dX7_odds_288 : decode cX7_odds 288 = .ok (.aload_n 0, 1) := dk_42 (dk_at dksX7_odds_12 8 rfl rfl)
theorem dX7_odds_289 : decode cX7_odds 289 = .ok (.lload 13, 2) := dk_22 13 (dk_at dksX7_odds_12 9 rfl rfl)
theorem dX7_odds_291 : decode cX7_odds 291 = .ok (.putfield 281, 3) := dk_181 1 25 (dk_at dksX7_odds_12 11 rfl rfl)
theorem dX7_odds_294 : decode cX7_odds 294 = .ok (.aload_n 0, 1) := dk_42 (dk_at dksX7_odds_12 14 rfl rfl)
theorem dX7_odds_295 : decode cX7_odds 295 = .ok (.lload 15, 2) := dk_22 15 (dk_at dksX7_odds_12 15 rfl rfl)
theorem dX7_odds_297 : decode cX7_odds 297 = .ok (.putfield 285, 3) := dk_181 1 29 (dk_at dksX7_odds_12 17 rfl rfl)
theorem dX7_odds_300 : decode cX7_odds 300 = .ok (.aload_n 0, 1) := dk_42 (dk_at dksX7_odds_12 20 rfl rfl)
theorem dX7_odds_301 : decode cX7_odds 301 = .ok (.iload_n 3, 1) := dk_29 (dk_at dksX7_odds_12 21 rfl rfl)
theorem dX7_odds_302 : decode cX7_odds 302 = .ok (.invokevirtual 321, 3) := dk_182 1 65 (dk_at dksX7_odds_13 0 rfl rfl)
theorem dX7_odds_305 : decode cX7_odds 305 = .ok (.lreturn, 1) := dk_173 (dk_at dksX7_odds_13 3 rfl rfl)
def dkwX7_beside_5 : List UInt8 := [167, 0, 4, 4, 181, 0, 1, 42, 180, 0, 1, 158, 0, 7, 9, 167, 0, 8, 42, 29, 182, 1, 65, 173]
abbrev dktX7_beside_5 : List UInt8 := dkwX7_beside_5 ++ []
def dkwX7_beside_4 : List UInt8 := [28, 182, 1, 21, 133, 182, 1, 51, 132, 4, 1, 167, 255, 191, 42, 42, 182, 1, 55, 153, 0, 7, 3]
abbrev dktX7_beside_4 : List UInt8 := dkwX7_beside_4 ++ dktX7_beside_5
def dkwX7_beside_3 : List UInt8 := [180, 0, 100, 21, 4, 46, 42, 180, 0, 109, 28, 46, 162, 0, 7, 4, 167, 0, 4, 3, 42, 21, 4, 27]
abbrev dktX7_beside_3 : List UInt8 := dkwX7_beside_3 ++ dktX7_beside_4
def dkwX7_beside_2 : List UInt8 := [21, 4, 27, 28, 182, 1, 18, 153, 0, 47, 42, 180, 0, 97, 21, 4, 46, 154, 0, 37, 42, 42]
abbrev dktX7_beside_2 : List UInt8 := dkwX7_beside_2 ++ dktX7_beside_3
def dkwX7_beside_1 : List UInt8 := [42, 180, 0, 1, 158, 0, 5, 9, 173, 42, 182, 1, 48, 3, 54, 4, 21, 4, 16, 24, 162, 0, 64, 42]
abbrev dktX7_beside_1 : List UInt8 := dkwX7_beside_1 ++ dktX7_beside_2
def dkwX7_beside_0 : List UInt8 := [42, 27, 28, 184, 1, 14, 153, 0, 14, 29, 184, 1, 59, 153, 0, 7, 3, 167, 0, 4, 4, 181, 0, 1]
abbrev dktX7_beside_0 : List UInt8 := dkwX7_beside_0 ++ dktX7_beside_1
theorem dksX7_beside_0 : cX7_beside.data.toList.drop 0 = dktX7_beside_0 := by decide +kernel
theorem dksX7_beside_1 : cX7_beside.data.toList.drop 24 = dktX7_beside_1 := dk_seg dksX7_beside_0 24 rfl rfl
theorem dksX7_beside_2 : cX7_beside.data.toList.drop 48 = dktX7_beside_2 := dk_seg dksX7_beside_1 24 rfl rfl
theorem dksX7_beside_3 : cX7_beside.data.toList.drop 70 = dktX7_beside_3 := dk_seg dksX7_beside_2 22 rfl rfl
theorem dksX7_beside_4 : cX7_beside.data.toList.drop 94 = dktX7_beside_4 := dk_seg dksX7_beside_3 24 rfl rfl
theorem dksX7_beside_5 : cX7_beside.data.toList.drop 117 = dktX7_beside_5 := dk_seg dksX7_beside_4 23 rfl rfl
theorem dX7_beside_0 : decode cX7_beside 0 = .ok (.aload_n 0, 1) := dk_42 (dk_at dksX7_beside_0 0 rfl rfl)
theorem dX7_beside_1 : decode cX7_beside 1 = .ok (.iload_n 1, 1) := dk_27 (dk_at dksX7_beside_0 1 rfl rfl)
theorem dX7_beside_2 : decode cX7_beside 2 = .ok (.iload_n 2, 1) := dk_28 (dk_at dksX7_beside_0 2 rfl rfl)
theorem dX7_beside_3 : decode cX7_beside 3 = .ok (.invokestatic 270, 3) := dk_184 1 14 (dk_at dksX7_beside_0 3 rfl rfl)
theorem dX7_beside_6 : decode cX7_beside 6 = .ok (.ifCond .eq 14, 3) := dk_153 0 14 (dk_at dksX7_beside_0 6 rfl rfl)
theorem dX7_beside_9 : decode cX7_beside 9 = .ok (.iload_n 3, 1) := dk_29 (dk_at dksX7_beside_0 9 rfl rfl)
theorem dX7_beside_10 : decode cX7_beside 10 = .ok (.invokestatic 315, 3) := dk_184 1 59 (dk_at dksX7_beside_0 10 rfl rfl)
theorem dX7_beside_13 : decode cX7_beside 13 = .ok (.ifCond .eq 7, 3) := dk_153 0 7 (dk_at dksX7_beside_0 13 rfl rfl)
theorem dX7_beside_16 : decode cX7_beside 16 = .ok (.iconst 0, 1) := dk_3 (dk_at dksX7_beside_0 16 rfl rfl)
theorem dX7_beside_17 : decode cX7_beside 17 = .ok (.goto 4, 3) := dk_167 0 4 (dk_at dksX7_beside_0 17 rfl rfl)
theorem dX7_beside_20 : decode cX7_beside 20 = .ok (.iconst 1, 1) := dk_4 (dk_at dksX7_beside_0 20 rfl rfl)
theorem dX7_beside_21 : decode cX7_beside 21 = .ok (.putfield 1, 3) := dk_181 0 1 (dk_at dksX7_beside_0 21 rfl rfl)
theorem dX7_beside_24 : decode cX7_beside 24 = .ok (.aload_n 0, 1) := dk_42 (dk_at dksX7_beside_1 0 rfl rfl)
theorem dX7_beside_25 : decode cX7_beside 25 = .ok (.getfield 1, 3) := dk_180 0 1 (dk_at dksX7_beside_1 1 rfl rfl)
theorem dX7_beside_28 : decode cX7_beside 28 = .ok (.ifCond .le 5, 3) := dk_158 0 5 (dk_at dksX7_beside_1 4 rfl rfl)
theorem dX7_beside_31 : decode cX7_beside 31 = .ok (.lconst 0, 1) := dk_9 (dk_at dksX7_beside_1 7 rfl rfl)
theorem dX7_beside_32 : decode cX7_beside 32 = .ok (.lreturn, 1) := dk_173 (dk_at dksX7_beside_1 8 rfl rfl)
theorem dX7_beside_33 : decode cX7_beside 33 = .ok (.aload_n 0, 1) := dk_42 (dk_at dksX7_beside_1 9 rfl rfl)
theorem dX7_beside_34 : decode cX7_beside 34 = .ok (.invokevirtual 304, 3) := dk_182 1 48 (dk_at dksX7_beside_1 10 rfl rfl)
theorem dX7_beside_37 : decode cX7_beside 37 = .ok (.iconst 0, 1) := dk_3 (dk_at dksX7_beside_1 13 rfl rfl)
theorem dX7_beside_38 : decode cX7_beside 38 = .ok (.istore 4, 2) := dk_54 4 (dk_at dksX7_beside_1 14 rfl rfl)
theorem dX7_beside_40 : decode cX7_beside 40 = .ok (.iload 4, 2) := dk_21 4 (dk_at dksX7_beside_1 16 rfl rfl)
theorem dX7_beside_42 : decode cX7_beside 42 = .ok (.bipush 24, 2) := dk_16 24 (dk_at dksX7_beside_1 18 rfl rfl)
theorem dX7_beside_44 : decode cX7_beside 44 = .ok (.if_icmp .ge 64, 3) := dk_162 0 64 (dk_at dksX7_beside_1 20 rfl rfl)
theorem dX7_beside_47 : decode cX7_beside 47 = .ok (.aload_n 0, 1) := dk_42 (dk_at dksX7_beside_1 23 rfl rfl)
theorem dX7_beside_48 : decode cX7_beside 48 = .ok (.iload 4, 2) := dk_21 4 (dk_at dksX7_beside_2 0 rfl rfl)
theorem dX7_beside_50 : decode cX7_beside 50 = .ok (.iload_n 1, 1) := dk_27 (dk_at dksX7_beside_2 2 rfl rfl)
theorem dX7_beside_51 : decode cX7_beside 51 = .ok (.iload_n 2, 1) := dk_28 (dk_at dksX7_beside_2 3 rfl rfl)
theorem dX7_beside_52 : decode cX7_beside 52 = .ok (.invokevirtual 274, 3) := dk_182 1 18 (dk_at dksX7_beside_2 4 rfl rfl)
theorem dX7_beside_55 : decode cX7_beside 55 = .ok (.ifCond .eq 47, 3) := dk_153 0 47 (dk_at dksX7_beside_2 7 rfl rfl)
theorem dX7_beside_58 : decode cX7_beside 58 = .ok (.aload_n 0, 1) := dk_42 (dk_at dksX7_beside_2 10 rfl rfl)
theorem dX7_beside_59 : decode cX7_beside 59 = .ok (.getfield 97, 3) := dk_180 0 97 (dk_at dksX7_beside_2 11 rfl rfl)
theorem dX7_beside_62 : decode cX7_beside 62 = .ok (.iload 4, 2) := dk_21 4 (dk_at dksX7_beside_2 14 rfl rfl)
theorem dX7_beside_64 : decode cX7_beside 64 = .ok (.iaload, 1) := dk_46 (dk_at dksX7_beside_2 16 rfl rfl)
theorem dX7_beside_65 : decode cX7_beside 65 = .ok (.ifCond .ne 37, 3) := dk_154 0 37 (dk_at dksX7_beside_2 17 rfl rfl)
theorem dX7_beside_68 : decode cX7_beside 68 = .ok (.aload_n 0, 1) := dk_42 (dk_at dksX7_beside_2 20 rfl rfl)
theorem dX7_beside_69 : decode cX7_beside 69 = .ok (.aload_n 0, 1) := dk_42 (dk_at dksX7_beside_2 21 rfl rfl)
theorem dX7_beside_70 : decode cX7_beside 70 = .ok (.getfield 100, 3) := dk_180 0 100 (dk_at dksX7_beside_3 0 rfl rfl)
theorem dX7_beside_73 : decode cX7_beside 73 = .ok (.iload 4, 2) := dk_21 4 (dk_at dksX7_beside_3 3 rfl rfl)
theorem dX7_beside_75 : decode cX7_beside 75 = .ok (.iaload, 1) := dk_46 (dk_at dksX7_beside_3 5 rfl rfl)
theorem dX7_beside_76 : decode cX7_beside 76 = .ok (.aload_n 0, 1) := dk_42 (dk_at dksX7_beside_3 6 rfl rfl)
theorem dX7_beside_77 : decode cX7_beside 77 = .ok (.getfield 109, 3) := dk_180 0 109 (dk_at dksX7_beside_3 7 rfl rfl)
theorem dX7_beside_80 : decode cX7_beside 80 = .ok (.iload_n 2, 1) := dk_28 (dk_at dksX7_beside_3 10 rfl rfl)
theorem dX7_beside_81 : decode cX7_beside 81 = .ok (.iaload, 1) := dk_46 (dk_at dksX7_beside_3 11 rfl rfl)
theorem dX7_beside_82 : decode cX7_beside 82 = .ok (.if_icmp .ge 7, 3) := dk_162 0 7 (dk_at dksX7_beside_3 12 rfl rfl)
theorem dX7_beside_85 : decode cX7_beside 85 = .ok (.iconst 1, 1) := dk_4 (dk_at dksX7_beside_3 15 rfl rfl)
theorem dX7_beside_86 : decode cX7_beside 86 = .ok (.goto 4, 3) := dk_167 0 4 (dk_at dksX7_beside_3 16 rfl rfl)
theorem dX7_beside_89 : decode cX7_beside 89 = .ok (.iconst 0, 1) := dk_3 (dk_at dksX7_beside_3 19 rfl rfl)
theorem dX7_beside_90 : decode cX7_beside 90 = .ok (.aload_n 0, 1) := dk_42 (dk_at dksX7_beside_3 20 rfl rfl)
theorem dX7_beside_91 : decode cX7_beside 91 = .ok (.iload 4, 2) := dk_21 4 (dk_at dksX7_beside_3 21 rfl rfl)
theorem dX7_beside_93 : decode cX7_beside 93 = .ok (.iload_n 1, 1) := dk_27 (dk_at dksX7_beside_3 23 rfl rfl)
theorem dX7_beside_94 : decode cX7_beside 94 = .ok (.iload_n 2, 1) := dk_28 (dk_at dksX7_beside_4 0 rfl rfl)
theorem dX7_beside_95 : decode cX7_beside 95 = .ok (.invokevirtual 277, 3) := dk_182 1 21 (dk_at dksX7_beside_4 1 rfl rfl)
theorem dX7_beside_98 : decode cX7_beside 98 = .ok (.i2l, 1) := dk_133 (dk_at dksX7_beside_4 4 rfl rfl)
theorem dX7_beside_99 : decode cX7_beside 99 = .ok (.invokevirtual 307, 3) := dk_182 1 51 (dk_at dksX7_beside_4 5 rfl rfl)
theorem dX7_beside_102 : decode cX7_beside 102 = .ok (.iinc 4 1, 3) := dk_132 4 1 (dk_at dksX7_beside_4 8 rfl rfl)
theorem dX7_beside_105 : decode cX7_beside 105 = .ok (.goto (-65), 3) := dk_167 255 191 (dk_at dksX7_beside_4 11 rfl rfl)
theorem dX7_beside_108 : decode cX7_beside 108 = .ok (.aload_n 0, 1) := dk_42 (dk_at dksX7_beside_4 14 rfl rfl)
theorem dX7_beside_109 : decode cX7_beside 109 = .ok (.aload_n 0, 1) := dk_42 (dk_at dksX7_beside_4 15 rfl rfl)
theorem dX7_beside_110 : decode cX7_beside 110 = .ok (.invokevirtual 311, 3) := dk_182 1 55 (dk_at dksX7_beside_4 16 rfl rfl)
theorem dX7_beside_113 : decode cX7_beside 113 = .ok (.ifCond .eq 7, 3) := dk_153 0 7 (dk_at dksX7_beside_4 19 rfl rfl)
theorem dX7_beside_116 : decode cX7_beside 116 = .ok (.iconst 0, 1) := dk_3 (dk_at dksX7_beside_4 22 rfl rfl)
theorem dX7_beside_117 : decode cX7_beside 117 = .ok (.goto 4, 3) := dk_167 0 4 (dk_at dksX7_beside_5 0 rfl rfl)
theorem dX7_beside_120 : decode cX7_beside 120 = .ok (.iconst 1, 1) := dk_4 (dk_at dksX7_beside_5 3 rfl rfl)
theorem dX7_beside_121 : decode cX7_beside 121 = .ok (.putfield 1, 3) := dk_181 0 1 (dk_at dksX7_beside_5 4 rfl rfl)
theorem dX7_beside_124 : decode cX7_beside 124 = .ok (.aload_n 0, 1) := dk_42 (dk_at dksX7_beside_5 7 rfl rfl)
theorem dX7_beside_125 : decode cX7_beside 125 = .ok (.getfield 1, 3) := dk_180 0 1 (dk_at dksX7_beside_5 8 rfl rfl)
theorem dX7_beside_128 : decode cX7_beside 128 = .ok (.ifCond .le 7, 3) := dk_158 0 7 (dk_at dksX7_beside_5 11 rfl rfl)
theorem dX7_beside_131 : decode cX7_beside 131 = .ok (.lconst 0, 1) := dk_9 (dk_at dksX7_beside_5 14 rfl rfl)
theorem dX7_beside_132 : decode cX7_beside 132 = .ok (.goto 8, 3) := dk_167 0 8 (dk_at dksX7_beside_5 15 rfl rfl)
theorem dX7_beside_135 : decode cX7_beside 135 = .ok (.aload_n 0, 1) := dk_42 (dk_at dksX7_beside_5 18 rfl rfl)
theorem dX7_beside_136 : decode cX7_beside 136 = .ok (.iload_n 3, 1) := dk_29 (dk_at dksX7_beside_5 19 rfl rfl)
theorem dX7_beside_137 : decode cX7_beside 137 = .ok (.invokevirtual 321, 3) := dk_182 1 65 (dk_at dksX7_beside_5 20 rfl rfl)
theorem dX7_beside_140 : decode cX7_beside 140 = .ok (.lreturn, 1) := dk_173 (dk_at dksX7_beside_5 23 rfl rfl)
def dkwX7_alike_6 : List UInt8 := [20, 1, 82, 167, 0, 10, 42, 28, 4, 100, 182, 1, 65, 173]
abbrev dktX7_alike_6 : List UInt8 := dkwX7_alike_6 ++ []
def dkwX7_alike_5 : List UInt8 := [181, 1, 25, 42, 22, 6, 181, 1, 29, 28, 154, 0, 8, 29, 133, 167, 0, 20, 29, 154, 0, 9]
abbrev dktX7_alike_5 : List UInt8 := dkwX7_alike_5 ++ dktX7_alike_6
def dkwX7_alike_4 : List UInt8 := [105, 148, 158, 0, 13, 22, 9, 55, 4, 42, 180, 1, 29, 55, 6, 132, 8, 1, 167, 255, 181, 42, 22, 4]
abbrev dktX7_alike_4 : List UInt8 := dkwX7_alike_4 ++ dktX7_alike_5
def dkwX7_alike_3 : List UInt8 := [180, 1, 25, 117, 167, 0, 7, 42, 180, 1, 25, 55, 9, 22, 9, 22, 6, 105, 22, 4, 42, 180, 1, 29]
abbrev dktX7_alike_3 : List UInt8 := dkwX7_alike_3 ++ dktX7_alike_4
def dkwX7_alike_2 : List UInt8 := [21, 8, 4, 96, 2, 182, 1, 62, 153, 0, 55, 132, 3, 1, 42, 180, 1, 25, 9, 148, 156, 0, 11, 42]
abbrev dktX7_alike_2 : List UInt8 := dkwX7_alike_2 ++ dktX7_alike_3
def dkwX7_alike_1 : List UInt8 := [20, 1, 82, 173, 3, 62, 9, 55, 4, 10, 55, 6, 3, 54, 8, 21, 8, 27, 162, 0, 75, 42, 21, 8]
abbrev dktX7_alike_1 : List UInt8 := dkwX7_alike_1 ++ dktX7_alike_2
def dkwX7_alike_0 : List UInt8 := [42, 3, 181, 0, 1, 27, 4, 16, 11, 184, 0, 253, 153, 0, 12, 28, 3, 5, 184, 0, 253, 154, 0, 7]
abbrev dktX7_alike_0 : List UInt8 := dkwX7_alike_0 ++ dktX7_alike_1
theorem dksX7_alike_0 : cX7_alike.data.toList.drop 0 = dktX7_alike_0 := by decide +kernel
theorem dksX7_alike_1 : cX7_alike.data.toList.drop 24 = dktX7_alike_1 := dk_seg dksX7_alike_0 24 rfl rfl
theorem dksX7_alike_2 : cX7_alike.data.toList.drop 48 = dktX7_alike_2 := dk_seg dksX7_alike_1 24 rfl rfl
theorem dksX7_alike_3 : cX7_alike.data.toList.drop 72 = dktX7_alike_3 := dk_seg dksX7_alike_2 24 rfl rfl
theorem dksX7_alike_4 : cX7_alike.data.toList.drop 96 = dktX7_alike_4 := dk_seg dksX7_alike_3 24 rfl rfl
theorem dksX7_alike_5 : cX7_alike.data.toList.drop 120 = dktX7_alike_5 := dk_seg dksX7_alike_4 24 rfl rfl
theorem dksX7_alike_6 : cX7_alike.data.toList.drop 142 = dktX7_alike_6 := dk_seg dksX7_alike_5 22 rfl rfl
theorem dX7_alike_0 : decode cX7_alike 0 = .ok (.aload_n 0, 1) := dk_42 (dk_at dksX7_alike_0 0 rfl rfl)
theorem dX7_alike_1 : decode cX7_alike 1 = .ok (.iconst 0, 1) := dk_3 (dk_at dksX7_alike_0 1 rfl rfl)
theorem dX7_alike_2 : decode cX7_alike 2 = .ok (.putfield 1, 3) := dk_181 0 1 (dk_at dksX7_alike_0 2 rfl rfl)
theorem dX7_alike_5 : decode cX7_alike 5 = .ok (.iload_n 1, 1) := dk_27 (dk_at dksX7_alike_0 5 rfl rfl)
theorem dX7_alike_6 : decode cX7_alike 6 = .ok (.iconst 1, 1) := dk_4 (dk_at dksX7_alike_0 6 rfl rfl)
theorem dX7_alike_7 : decode cX7_alike 7 = .ok (.bipush 11, 2) := dk_16 11 (dk_at dksX7_alike_0 7 rfl rfl)
theorem dX7_alike_9 : decode cX7_alike 9 = .ok (.invokestatic 253, 3) := dk_184 0 253 (dk_at dksX7_alike_0 9 rfl rfl)
theorem dX7_alike_12 : decode cX7_alike 12 = .ok (.ifCond .eq 12, 3) := dk_153 0 12 (dk_at dksX7_alike_0 12 rfl rfl)
theorem dX7_alike_15 : decode cX7_alike 15 = .ok (.iload_n 2, 1) := dk_28 (dk_at dksX7_alike_0 15 rfl rfl)
theorem dX7_alike_16 : decode cX7_alike 16 = .ok (.iconst 0, 1) := dk_3 (dk_at dksX7_alike_0 16 rfl rfl)
theorem dX7_alike_17 : decode cX7_alike 17 = .ok (.iconst 2, 1) := dk_5 (dk_at dksX7_alike_0 17 rfl rfl)
theorem dX7_alike_18 : decode cX7_alike 18 = .ok (.invokestatic 253, 3) := dk_184 0 253 (dk_at dksX7_alike_0 18 rfl rfl)
theorem dX7_alike_21 : decode cX7_alike 21 = .ok (.ifCond .ne 7, 3) := dk_154 0 7 (dk_at dksX7_alike_0 21 rfl rfl)
theorem dX7_alike_24 : decode cX7_alike 24 = .ok (.ldc2_w 338, 3) := dk_20 1 82 (dk_at dksX7_alike_1 0 rfl rfl)
theorem dX7_alike_27 : decode cX7_alike 27 = .ok (.lreturn, 1) := dk_173 (dk_at dksX7_alike_1 3 rfl rfl)
theorem dX7_alike_28 : decode cX7_alike 28 = .ok (.iconst 0, 1) := dk_3 (dk_at dksX7_alike_1 4 rfl rfl)
theorem dX7_alike_29 : decode cX7_alike 29 = .ok (.istore_n 3, 1) := dk_62 (dk_at dksX7_alike_1 5 rfl rfl)
theorem dX7_alike_30 : decode cX7_alike 30 = .ok (.lconst 0, 1) := dk_9 (dk_at dksX7_alike_1 6 rfl rfl)
theorem dX7_alike_31 : decode cX7_alike 31 = .ok (.lstore 4, 2) := dk_55 4 (dk_at dksX7_alike_1 7 rfl rfl)
theorem dX7_alike_33 : decode cX7_alike 33 = .ok (.lconst 1, 1) := dk_10 (dk_at dksX7_alike_1 9 rfl rfl)
theorem dX7_alike_34 : decode cX7_alike 34 = .ok (.lstore 6, 2) := dk_55 6 (dk_at dksX7_alike_1 10 rfl rfl)
theorem dX7_alike_36 : decode cX7_alike 36 = .ok (.iconst 0, 1) := dk_3 (dk_at dksX7_alike_1 12 rfl rfl)
theorem dX7_alike_37 : decode cX7_alike 37 = .ok (.istore 8, 2) := dk_54 8 (dk_at dksX7_alike_1 13 rfl rfl)
theorem dX7_alike_39 : decode cX7_alike 39 = .ok (.iload 8, 2) := dk_21 8 (dk_at dksX7_alike_1 15 rfl rfl)
theorem dX7_alike_41 : decode cX7_alike 41 = .ok (.iload_n 1, 1) := dk_27 (dk_at dksX7_alike_1 17 rfl rfl)
theorem dX7_alike_42 : decode cX7_alike 42 = .ok (.if_icmp .ge 75, 3) := dk_162 0 75 (dk_at dksX7_alike_1 18 rfl rfl)
theorem dX7_alike_45 : decode cX7_alike 45 = .ok (.aload_n 0, 1) := dk_42 (dk_at dksX7_alike_1 21 rfl rfl)
theorem dX7_alike_46 : decode cX7_alike 46 = .ok (.iload 8, 2) := dk_21 8 (dk_at dksX7_alike_1 22 rfl rfl)
theorem dX7_alike_48 : decode cX7_alike 48 = .ok (.iload 8, 2) := dk_21 8 (dk_at dksX7_alike_2 0 rfl rfl)
theorem dX7_alike_50 : decode cX7_alike 50 = .ok (.iconst 1, 1) := dk_4 (dk_at dksX7_alike_2 2 rfl rfl)
theorem dX7_alike_51 : decode cX7_alike 51 = .ok (.iadd, 1) := dk_96 (dk_at dksX7_alike_2 3 rfl rfl)
theorem dX7_alike_52 : decode cX7_alike 52 = .ok (.iconst (-1), 1) := dk_2 (dk_at dksX7_alike_2 4 rfl rfl)
theorem dX7_alike_53 : decode cX7_alike 53 = .ok (.invokevirtual 318, 3) := dk_182 1 62 (dk_at dksX7_alike_2 5 rfl rfl)
theorem dX7_alike_56 : decode cX7_alike 56 = .ok (.ifCond .eq 55, 3) := dk_153 0 55 (dk_at dksX7_alike_2 8 rfl rfl)
theorem dX7_alike_59 : decode cX7_alike 59 = .ok (.iinc 3 1, 3) := dk_132 3 1 (dk_at dksX7_alike_2 11 rfl rfl)
theorem dX7_alike_62 : decode cX7_alike 62 = .ok (.aload_n 0, 1) := dk_42 (dk_at dksX7_alike_2 14 rfl rfl)
theorem dX7_alike_63 : decode cX7_alike 63 = .ok (.getfield 281, 3) := dk_180 1 25 (dk_at dksX7_alike_2 15 rfl rfl)
theorem dX7_alike_66 : decode cX7_alike 66 = .ok (.lconst 0, 1) := dk_9 (dk_at dksX7_alike_2 18 rfl rfl)
theorem dX7_alike_67 : decode cX7_alike 67 = .ok (.lcmp, 1) := dk_148 (dk_at dksX7_alike_2 19 rfl rfl)
theorem dX7_alike_68 : decode cX7_alike 68 = .ok (.ifCond .ge 11, 3) := dk_156 0 11 (dk_at dksX7_alike_2 20 rfl rfl)
theorem dX7_alike_71 : decode cX7_alike 71 = .ok (.aload_n 0, 1) := dk_42 (dk_at dksX7_alike_2 23 rfl rfl)
theorem dX7_alike_72 : decode cX7_alike 72 = .ok (.getfield 281, 3) := dk_180 1 25 (dk_at dksX7_alike_3 0 rfl rfl)
theorem dX7_alike_75 : decode cX7_alike 75 = .ok (.lneg, 1) := dk_117 (dk_at dksX7_alike_3 3 rfl rfl)
theorem dX7_alike_76 : decode cX7_alike 76 = .ok (.goto 7, 3) := dk_167 0 7 (dk_at dksX7_alike_3 4 rfl rfl)
theorem dX7_alike_79 : decode cX7_alike 79 = .ok (.aload_n 0, 1) := dk_42 (dk_at dksX7_alike_3 7 rfl rfl)
theorem dX7_alike_80 : decode cX7_alike 80 = .ok (.getfield 281, 3) := dk_180 1 25 (dk_at dksX7_alike_3 8 rfl rfl)
theorem dX7_alike_83 : decode cX7_alike 83 = .ok (.lstore 9, 2) := dk_55 9 (dk_at dksX7_alike_3 11 rfl rfl)
theorem dX7_alike_85 : decode cX7_alike 85 = .ok (.lload 9, 2) := dk_22 9 (dk_at dksX7_alike_3 13 rfl rfl)
theorem dX7_alike_87 : decode cX7_alike 87 = .ok (.lload 6, 2) := dk_22 6 (dk_at dksX7_alike_3 15 rfl rfl)
theorem dX7_alike_89 : decode cX7_alike 89 = .ok (.lmul, 1) := dk_105 (dk_at dksX7_alike_3 17 rfl rfl)
theorem dX7_alike_90 : decode cX7_alike 90 = .ok (.lload 4, 2) := dk_22 4 (dk_at dksX7_alike_3 18 rfl rfl)
theorem dX7_alike_92 : decode cX7_alike 92 = .ok (.aload_n 0, 1) := dk_42 (dk_at dksX7_alike_3 20 rfl rfl)
theorem dX7_alike_93 : decode cX7_alike 93 = .ok (.getfield 285, 3) := dk_180 1 29 (dk_at dksX7_alike_3 21 rfl rfl)
theorem dX7_alike_96 : decode cX7_alike 96 = .ok (.lmul, 1) := dk_105 (dk_at dksX7_alike_4 0 rfl rfl)
theorem dX7_alike_97 : decode cX7_alike 97 = .ok (.lcmp, 1) := dk_148 (dk_at dksX7_alike_4 1 rfl rfl)
theorem dX7_alike_98 : decode cX7_alike 98 = .ok (.ifCond .le 13, 3) := dk_158 0 13 (dk_at dksX7_alike_4 2 rfl rfl)
theorem dX7_alike_101 : decode cX7_alike 101 = .ok (.lload 9, 2) := dk_22 9 (dk_at dksX7_alike_4 5 rfl rfl)
theorem dX7_alike_103 : decode cX7_alike 103 = .ok (.lstore 4, 2) := dk_55 4 (dk_at dksX7_alike_4 7 rfl rfl)
theorem dX7_alike_105 : decode cX7_alike 105 = .ok (.aload_n 0, 1) := dk_42 (dk_at dksX7_alike_4 9 rfl rfl)
theorem dX7_alike_106 : decode cX7_alike 106 = .ok (.getfield 285, 3) := dk_180 1 29 (dk_at dksX7_alike_4 10 rfl rfl)
theorem dX7_alike_109 : decode cX7_alike 109 = .ok (.lstore 6, 2) := dk_55 6 (dk_at dksX7_alike_4 13 rfl rfl)
theorem dX7_alike_111 : decode cX7_alike 111 = .ok (.iinc 8 1, 3) := dk_132 8 1 (dk_at dksX7_alike_4 15 rfl rfl)
theorem dX7_alike_114 : decode cX7_alike 114 = .ok (.goto (-75), 3) := dk_167 255 181 (dk_at dksX7_alike_4 18 rfl rfl)
theorem dX7_alike_117 : decode cX7_alike 117 = .ok (.aload_n 0, 1) := dk_42 (dk_at dksX7_alike_4 21 rfl rfl)
theorem dX7_alike_118 : decode cX7_alike 118 = .ok (.lload 4, 2) := dk_22 4 (dk_at dksX7_alike_4 22 rfl rfl)
theorem dX7_alike_120 : decode cX7_alike 120 = .ok (.putfield 281, 3) := dk_181 1 25 (dk_at dksX7_alike_5 0 rfl rfl)
theorem dX7_alike_123 : decode cX7_alike 123 = .ok (.aload_n 0, 1) := dk_42 (dk_at dksX7_alike_5 3 rfl rfl)
theorem dX7_alike_124 : decode cX7_alike 124 = .ok (.lload 6, 2) := dk_22 6 (dk_at dksX7_alike_5 4 rfl rfl)
theorem dX7_alike_126 : decode cX7_alike 126 = .ok (.putfield 285, 3) := dk_181 1 29 (dk_at dksX7_alike_5 6 rfl rfl)
theorem dX7_alike_129 : decode cX7_alike 129 = .ok (.iload_n 2, 1) := dk_28 (dk_at dksX7_alike_5 9 rfl rfl)
theorem dX7_alike_130 : decode cX7_alike 130 = .ok (.ifCond .ne 8, 3) := dk_154 0 8 (dk_at dksX7_alike_5 10 rfl rfl)
theorem dX7_alike_133 : decode cX7_alike 133 = .ok (.iload_n 3, 1) := dk_29 (dk_at dksX7_alike_5 13 rfl rfl)
theorem dX7_alike_134 : decode cX7_alike 134 = .ok (.i2l, 1) := dk_133 (dk_at dksX7_alike_5 14 rfl rfl)
theorem dX7_alike_135 : decode cX7_alike 135 = .ok (.goto 20, 3) := dk_167 0 20 (dk_at dksX7_alike_5 15 rfl rfl)
theorem dX7_alike_138 : decode cX7_alike 138 = .ok (.iload_n 3, 1) := dk_29 (dk_at dksX7_alike_5 18 rfl rfl)
theorem dX7_alike_139 : decode cX7_alike 139 = .ok (.ifCond .ne 9, 3) := dk_154 0 9 (dk_at dksX7_alike_5 19 rfl rfl)
theorem dX7_alike_142 : decode cX7_alike 142 = .ok (.ldc2_w 338, 3) := dk_20 1 82 (dk_at dksX7_alike_6 0 rfl rfl)
theorem dX7_alike_145 : decode cX7_alike 145 = .ok (.goto 10, 3) := dk_167 0 10 (dk_at dksX7_alike_6 3 rfl rfl)
theorem dX7_alike_148 : decode cX7_alike 148 = .ok (.aload_n 0, 1) := dk_42 (dk_at dksX7_alike_6 6 rfl rfl)
theorem dX7_alike_149 : decode cX7_alike 149 = .ok (.iload_n 2, 1) := dk_28 (dk_at dksX7_alike_6 7 rfl rfl)
theorem dX7_alike_150 : decode cX7_alike 150 = .ok (.iconst 1, 1) := dk_4 (dk_at dksX7_alike_6 8 rfl rfl)
theorem dX7_alike_151 : decode cX7_alike 151 = .ok (.isub, 1) := dk_100 (dk_at dksX7_alike_6 9 rfl rfl)
theorem dX7_alike_152 : decode cX7_alike 152 = .ok (.invokevirtual 321, 3) := dk_182 1 65 (dk_at dksX7_alike_6 10 rfl rfl)
theorem dX7_alike_155 : decode cX7_alike 155 = .ok (.lreturn, 1) := dk_173 (dk_at dksX7_alike_6 13 rfl rfl)
def dkwX7_apart_3 : List UInt8 := [180, 1, 29, 105, 101, 181, 1, 25, 42, 21, 4, 182, 1, 65, 173]
abbrev dktX7_apart_3 : List UInt8 := dkwX7_apart_3 ++ []
def dkwX7_apart_2 : List UInt8 := [42, 180, 0, 1, 158, 0, 5, 9, 173, 42, 89, 180, 1, 25, 29, 133, 28, 27, 100, 133, 105, 42]
abbrev dktX7_apart_2 : List UInt8 := dkwX7_apart_2 ++ dktX7_apart_3
def dkwX7_apart_1 : List UInt8 := [184, 1, 59, 153, 0, 17, 42, 27, 28, 2, 182, 1, 62, 153, 0, 7, 3, 167, 0, 4, 4, 181, 0, 1]
abbrev dktX7_apart_1 : List UInt8 := dkwX7_apart_1 ++ dktX7_apart_2
def dkwX7_apart_0 : List UInt8 := [42, 27, 28, 184, 1, 14, 153, 0, 36, 29, 16, 157, 16, 99, 184, 0, 253, 153, 0, 25, 21, 4]
abbrev dktX7_apart_0 : List UInt8 := dkwX7_apart_0 ++ dktX7_apart_1
theorem dksX7_apart_0 : cX7_apart.data.toList.drop 0 = dktX7_apart_0 := by decide +kernel
theorem dksX7_apart_1 : cX7_apart.data.toList.drop 22 = dktX7_apart_1 := dk_seg dksX7_apart_0 22 rfl rfl
theorem dksX7_apart_2 : cX7_apart.data.toList.drop 46 = dktX7_apart_2 := dk_seg dksX7_apart_1 24 rfl rfl
theorem dksX7_apart_3 : cX7_apart.data.toList.drop 68 = dktX7_apart_3 := dk_seg dksX7_apart_2 22 rfl rfl
theorem dX7_apart_0 : decode cX7_apart 0 = .ok (.aload_n 0, 1) := dk_42 (dk_at dksX7_apart_0 0 rfl rfl)
theorem dX7_apart_1 : decode cX7_apart 1 = .ok (.iload_n 1, 1) := dk_27 (dk_at dksX7_apart_0 1 rfl rfl)
theorem dX7_apart_2 : decode cX7_apart 2 = .ok (.iload_n 2, 1) := dk_28 (dk_at dksX7_apart_0 2 rfl rfl)
theorem dX7_apart_3 : decode cX7_apart 3 = .ok (.invokestatic 270, 3) := dk_184 1 14 (dk_at dksX7_apart_0 3 rfl rfl)
theorem dX7_apart_6 : decode cX7_apart 6 = .ok (.ifCond .eq 36, 3) := dk_153 0 36 (dk_at dksX7_apart_0 6 rfl rfl)
theorem dX7_apart_9 : decode cX7_apart 9 = .ok (.iload_n 3, 1) := dk_29 (dk_at dksX7_apart_0 9 rfl rfl)
theorem dX7_apart_10 : decode cX7_apart 10 = .ok (.bipush (-99), 2) := dk_16 157 (dk_at dksX7_apart_0 10 rfl rfl)
theorem dX7_apart_12 : decode cX7_apart 12 = .ok (.bipush 99, 2) := dk_16 99 (dk_at dksX7_apart_0 12 rfl rfl)
theorem dX7_apart_14 : decode cX7_apart 14 = .ok (.invokestatic 253, 3) := dk_184 0 253 (dk_at dksX7_apart_0 14 rfl rfl)
theorem dX7_apart_17 : decode cX7_apart 17 = .ok (.ifCond .eq 25, 3) := dk_153 0 25 (dk_at dksX7_apart_0 17 rfl rfl)
theorem dX7_apart_20 : decode cX7_apart 20 = .ok (.iload 4, 2) := dk_21 4 (dk_at dksX7_apart_0 20 rfl rfl)
theorem dX7_apart_22 : decode cX7_apart 22 = .ok (.invokestatic 315, 3) := dk_184 1 59 (dk_at dksX7_apart_1 0 rfl rfl)
theorem dX7_apart_25 : decode cX7_apart 25 = .ok (.ifCond .eq 17, 3) := dk_153 0 17 (dk_at dksX7_apart_1 3 rfl rfl)
theorem dX7_apart_28 : decode cX7_apart 28 = .ok (.aload_n 0, 1) := dk_42 (dk_at dksX7_apart_1 6 rfl rfl)
theorem dX7_apart_29 : decode cX7_apart 29 = .ok (.iload_n 1, 1) := dk_27 (dk_at dksX7_apart_1 7 rfl rfl)
theorem dX7_apart_30 : decode cX7_apart 30 = .ok (.iload_n 2, 1) := dk_28 (dk_at dksX7_apart_1 8 rfl rfl)
theorem dX7_apart_31 : decode cX7_apart 31 = .ok (.iconst (-1), 1) := dk_2 (dk_at dksX7_apart_1 9 rfl rfl)
theorem dX7_apart_32 : decode cX7_apart 32 = .ok (.invokevirtual 318, 3) := dk_182 1 62 (dk_at dksX7_apart_1 10 rfl rfl)
theorem dX7_apart_35 : decode cX7_apart 35 = .ok (.ifCond .eq 7, 3) := dk_153 0 7 (dk_at dksX7_apart_1 13 rfl rfl)
theorem dX7_apart_38 : decode cX7_apart 38 = .ok (.iconst 0, 1) := dk_3 (dk_at dksX7_apart_1 16 rfl rfl)
theorem dX7_apart_39 : decode cX7_apart 39 = .ok (.goto 4, 3) := dk_167 0 4 (dk_at dksX7_apart_1 17 rfl rfl)
theorem dX7_apart_42 : decode cX7_apart 42 = .ok (.iconst 1, 1) := dk_4 (dk_at dksX7_apart_1 20 rfl rfl)
theorem dX7_apart_43 : decode cX7_apart 43 = .ok (.putfield 1, 3) := dk_181 0 1 (dk_at dksX7_apart_1 21 rfl rfl)
theorem dX7_apart_46 : decode cX7_apart 46 = .ok (.aload_n 0, 1) := dk_42 (dk_at dksX7_apart_2 0 rfl rfl)
theorem dX7_apart_47 : decode cX7_apart 47 = .ok (.getfield 1, 3) := dk_180 0 1 (dk_at dksX7_apart_2 1 rfl rfl)
theorem dX7_apart_50 : decode cX7_apart 50 = .ok (.ifCond .le 5, 3) := dk_158 0 5 (dk_at dksX7_apart_2 4 rfl rfl)
theorem dX7_apart_53 : decode cX7_apart 53 = .ok (.lconst 0, 1) := dk_9 (dk_at dksX7_apart_2 7 rfl rfl)
theorem dX7_apart_54 : decode cX7_apart 54 = .ok (.lreturn, 1) := dk_173 (dk_at dksX7_apart_2 8 rfl rfl)
theorem dX7_apart_55 : decode cX7_apart 55 = .ok (.aload_n 0, 1) := dk_42 (dk_at dksX7_apart_2 9 rfl rfl)
theorem dX7_apart_56 : decode cX7_apart 56 = .ok (.dup, 1) := dk_89 (dk_at dksX7_apart_2 10 rfl rfl)
theorem dX7_apart_57 : decode cX7_apart 57 = .ok (.getfield 281, 3) := dk_180 1 25 (dk_at dksX7_apart_2 11 rfl rfl)
theorem dX7_apart_60 : decode cX7_apart 60 = .ok (.iload_n 3, 1) := dk_29 (dk_at dksX7_apart_2 14 rfl rfl)
theorem dX7_apart_61 : decode cX7_apart 61 = .ok (.i2l, 1) := dk_133 (dk_at dksX7_apart_2 15 rfl rfl)
theorem dX7_apart_62 : decode cX7_apart 62 = .ok (.iload_n 2, 1) := dk_28 (dk_at dksX7_apart_2 16 rfl rfl)
theorem dX7_apart_63 : decode cX7_apart 63 = .ok (.iload_n 1, 1) := dk_27 (dk_at dksX7_apart_2 17 rfl rfl)
theorem dX7_apart_64 : decode cX7_apart 64 = .ok (.isub, 1) := dk_100 (dk_at dksX7_apart_2 18 rfl rfl)
theorem dX7_apart_65 : decode cX7_apart 65 = .ok (.i2l, 1) := dk_133 (dk_at dksX7_apart_2 19 rfl rfl)
theorem dX7_apart_66 : decode cX7_apart 66 = .ok (.lmul, 1) := dk_105 (dk_at dksX7_apart_2 20 rfl rfl)
theorem dX7_apart_67 : decode cX7_apart 67 = .ok (.aload_n 0, 1) := dk_42 (dk_at dksX7_apart_2 21 rfl rfl)
theorem dX7_apart_68 : decode cX7_apart 68 = .ok (.getfield 285, 3) := dk_180 1 29 (dk_at dksX7_apart_3 0 rfl rfl)
theorem dX7_apart_71 : decode cX7_apart 71 = .ok (.lmul, 1) := dk_105 (dk_at dksX7_apart_3 3 rfl rfl)
theorem dX7_apart_72 : decode cX7_apart 72 = .ok (.lsub, 1) := dk_101 (dk_at dksX7_apart_3 4 rfl rfl)
theorem dX7_apart_73 : decode cX7_apart 73 = .ok (.putfield 281, 3) := dk_181 1 25 (dk_at dksX7_apart_3 5 rfl rfl)
theorem dX7_apart_76 : decode cX7_apart 76 = .ok (.aload_n 0, 1) := dk_42 (dk_at dksX7_apart_3 8 rfl rfl)
theorem dX7_apart_77 : decode cX7_apart 77 = .ok (.iload 4, 2) := dk_21 4 (dk_at dksX7_apart_3 9 rfl rfl)
theorem dX7_apart_79 : decode cX7_apart 79 = .ok (.invokevirtual 321, 3) := dk_182 1 65 (dk_at dksX7_apart_3 11 rfl rfl)
theorem dX7_apart_82 : decode cX7_apart 82 = .ok (.lreturn, 1) := dk_173 (dk_at dksX7_apart_3 14 rfl rfl)
def dkwX7_law_5 : List UInt8 := [16, 16, 28, 96, 46, 79, 132, 2, 1, 167, 255, 229, 42, 27, 182, 1, 97, 3, 172]
abbrev dktX7_law_5 : List UInt8 := dkwX7_law_5 ++ []
def dkwX7_law_4 : List UInt8 := [180, 0, 237, 172, 3, 61, 28, 7, 162, 0, 28, 42, 180, 0, 136, 7, 27, 104, 28, 96, 42, 180, 0, 136]
abbrev dktX7_law_4 : List UInt8 := dkwX7_law_4 ++ dktX7_law_5
def dkwX7_law_3 : List UInt8 := [180, 0, 234, 46, 153, 0, 10, 42, 182, 1, 94, 167, 255, 233, 42, 180, 0, 237, 158, 0, 8, 42]
abbrev dktX7_law_3 : List UInt8 := dkwX7_law_3 ++ dktX7_law_4
def dkwX7_law_2 : List UInt8 := [16, 16, 28, 96, 2, 79, 132, 2, 1, 167, 255, 238, 42, 180, 0, 237, 154, 0, 22, 42, 180, 0, 24, 42]
abbrev dktX7_law_2 : List UInt8 := dkwX7_law_2 ++ dktX7_law_3
def dkwX7_law_1 : List UInt8 := [182, 1, 87, 42, 3, 181, 1, 84, 42, 3, 181, 1, 90, 3, 61, 28, 7, 162, 0, 19, 42, 180, 0, 136]
abbrev dktX7_law_1 : List UInt8 := dkwX7_law_1 ++ dktX7_law_2
def dkwX7_law_0 : List UInt8 := [42, 3, 181, 0, 1, 27, 3, 6, 184, 0, 253, 154, 0, 10, 42, 3, 181, 0, 11, 2, 172, 42]
abbrev dktX7_law_0 : List UInt8 := dkwX7_law_0 ++ dktX7_law_1
theorem dksX7_law_0 : cX7_law.data.toList.drop 0 = dktX7_law_0 := by decide +kernel
theorem dksX7_law_1 : cX7_law.data.toList.drop 22 = dktX7_law_1 := dk_seg dksX7_law_0 22 rfl rfl
theorem dksX7_law_2 : cX7_law.data.toList.drop 46 = dktX7_law_2 := dk_seg dksX7_law_1 24 rfl rfl
theorem dksX7_law_3 : cX7_law.data.toList.drop 70 = dktX7_law_3 := dk_seg dksX7_law_2 24 rfl rfl
theorem dksX7_law_4 : cX7_law.data.toList.drop 92 = dktX7_law_4 := dk_seg dksX7_law_3 22 rfl rfl
theorem dksX7_law_5 : cX7_law.data.toList.drop 116 = dktX7_law_5 := dk_seg dksX7_law_4 24 rfl rfl
theorem dX7_law_0 : decode cX7_law 0 = .ok (.aload_n 0, 1) := dk_42 (dk_at dksX7_law_0 0 rfl rfl)
theorem dX7_law_1 : decode cX7_law 1 = .ok (.iconst 0, 1) := dk_3 (dk_at dksX7_law_0 1 rfl rfl)
theorem dX7_law_2 : decode cX7_law 2 = .ok (.putfield 1, 3) := dk_181 0 1 (dk_at dksX7_law_0 2 rfl rfl)
theorem dX7_law_5 : decode cX7_law 5 = .ok (.iload_n 1, 1) := dk_27 (dk_at dksX7_law_0 5 rfl rfl)
theorem dX7_law_6 : decode cX7_law 6 = .ok (.iconst 0, 1) := dk_3 (dk_at dksX7_law_0 6 rfl rfl)
theorem dX7_law_7 : decode cX7_law 7 = .ok (.iconst 3, 1) := dk_6 (dk_at dksX7_law_0 7 rfl rfl)
theorem dX7_law_8 : decode cX7_law 8 = .ok (.invokestatic 253, 3) := dk_184 0 253 (dk_at dksX7_law_0 8 rfl rfl)
theorem dX7_law_11 : decode cX7_law 11 = .ok (.ifCond .ne 10, 3) := dk_154 0 10 (dk_at dksX7_law_0 11 rfl rfl)
theorem dX7_law_14 : decode cX7_law 14 = .ok (.aload_n 0, 1) := dk_42 (dk_at dksX7_law_0 14 rfl rfl)
theorem dX7_law_15 : decode cX7_law 15 = .ok (.iconst 0, 1) := dk_3 (dk_at dksX7_law_0 15 rfl rfl)
theorem dX7_law_16 : decode cX7_law 16 = .ok (.putfield 11, 3) := dk_181 0 11 (dk_at dksX7_law_0 16 rfl rfl)
theorem dX7_law_19 : decode cX7_law 19 = .ok (.iconst (-1), 1) := dk_2 (dk_at dksX7_law_0 19 rfl rfl)
theorem dX7_law_20 : decode cX7_law 20 = .ok (.ireturn, 1) := dk_172 (dk_at dksX7_law_0 20 rfl rfl)
theorem dX7_law_21 : decode cX7_law 21 = .ok (.aload_n 0, 1) := dk_42 (dk_at dksX7_law_0 21 rfl rfl)
theorem dX7_law_22 : decode cX7_law 22 = .ok (.invokevirtual 343, 3) := dk_182 1 87 (dk_at dksX7_law_1 0 rfl rfl)
theorem dX7_law_25 : decode cX7_law 25 = .ok (.aload_n 0, 1) := dk_42 (dk_at dksX7_law_1 3 rfl rfl)
theorem dX7_law_26 : decode cX7_law 26 = .ok (.iconst 0, 1) := dk_3 (dk_at dksX7_law_1 4 rfl rfl)
theorem dX7_law_27 : decode cX7_law 27 = .ok (.putfield 340, 3) := dk_181 1 84 (dk_at dksX7_law_1 5 rfl rfl)
theorem dX7_law_30 : decode cX7_law 30 = .ok (.aload_n 0, 1) := dk_42 (dk_at dksX7_law_1 8 rfl rfl)
theorem dX7_law_31 : decode cX7_law 31 = .ok (.iconst 0, 1) := dk_3 (dk_at dksX7_law_1 9 rfl rfl)
theorem dX7_law_32 : decode cX7_law 32 = .ok (.putfield 346, 3) := dk_181 1 90 (dk_at dksX7_law_1 10 rfl rfl)
theorem dX7_law_35 : decode cX7_law 35 = .ok (.iconst 0, 1) := dk_3 (dk_at dksX7_law_1 13 rfl rfl)
theorem dX7_law_36 : decode cX7_law 36 = .ok (.istore_n 2, 1) := dk_61 (dk_at dksX7_law_1 14 rfl rfl)
theorem dX7_law_37 : decode cX7_law 37 = .ok (.iload_n 2, 1) := dk_28 (dk_at dksX7_law_1 15 rfl rfl)
theorem dX7_law_38 : decode cX7_law 38 = .ok (.iconst 4, 1) := dk_7 (dk_at dksX7_law_1 16 rfl rfl)
theorem dX7_law_39 : decode cX7_law 39 = .ok (.if_icmp .ge 19, 3) := dk_162 0 19 (dk_at dksX7_law_1 17 rfl rfl)
theorem dX7_law_42 : decode cX7_law 42 = .ok (.aload_n 0, 1) := dk_42 (dk_at dksX7_law_1 20 rfl rfl)
theorem dX7_law_43 : decode cX7_law 43 = .ok (.getfield 136, 3) := dk_180 0 136 (dk_at dksX7_law_1 21 rfl rfl)
theorem dX7_law_46 : decode cX7_law 46 = .ok (.bipush 16, 2) := dk_16 16 (dk_at dksX7_law_2 0 rfl rfl)
theorem dX7_law_48 : decode cX7_law 48 = .ok (.iload_n 2, 1) := dk_28 (dk_at dksX7_law_2 2 rfl rfl)
theorem dX7_law_49 : decode cX7_law 49 = .ok (.iadd, 1) := dk_96 (dk_at dksX7_law_2 3 rfl rfl)
theorem dX7_law_50 : decode cX7_law 50 = .ok (.iconst (-1), 1) := dk_2 (dk_at dksX7_law_2 4 rfl rfl)
theorem dX7_law_51 : decode cX7_law 51 = .ok (.iastore, 1) := dk_79 (dk_at dksX7_law_2 5 rfl rfl)
theorem dX7_law_52 : decode cX7_law 52 = .ok (.iinc 2 1, 3) := dk_132 2 1 (dk_at dksX7_law_2 6 rfl rfl)
theorem dX7_law_55 : decode cX7_law 55 = .ok (.goto (-18), 3) := dk_167 255 238 (dk_at dksX7_law_2 9 rfl rfl)
theorem dX7_law_58 : decode cX7_law 58 = .ok (.aload_n 0, 1) := dk_42 (dk_at dksX7_law_2 12 rfl rfl)
theorem dX7_law_59 : decode cX7_law 59 = .ok (.getfield 237, 3) := dk_180 0 237 (dk_at dksX7_law_2 13 rfl rfl)
theorem dX7_law_62 : decode cX7_law 62 = .ok (.ifCond .ne 22, 3) := dk_154 0 22 (dk_at dksX7_law_2 16 rfl rfl)
theorem dX7_law_65 : decode cX7_law 65 = .ok (.aload_n 0, 1) := dk_42 (dk_at dksX7_law_2 19 rfl rfl)
theorem dX7_law_66 : decode cX7_law 66 = .ok (.getfield 24, 3) := dk_180 0 24 (dk_at dksX7_law_2 20 rfl rfl)
theorem dX7_law_69 : decode cX7_law 69 = .ok (.aload_n 0, 1) := dk_42 (dk_at dksX7_law_2 23 rfl rfl)
theorem dX7_law_70 : decode cX7_law 70 = .ok (.getfield 234, 3) := dk_180 0 234 (dk_at dksX7_law_3 0 rfl rfl)
theorem dX7_law_73 : decode cX7_law 73 = .ok (.iaload, 1) := dk_46 (dk_at dksX7_law_3 3 rfl rfl)
theorem dX7_law_74 : decode cX7_law 74 = .ok (.ifCond .eq 10, 3) := dk_153 0 10 (dk_at dksX7_law_3 4 rfl rfl)
theorem dX7_law_77 : decode cX7_law 77 = .ok (.aload_n 0, 1) := dk_42 (dk_at dksX7_law_3 7 rfl rfl)
theorem dX7_law_78 : decode cX7_law 78 = .ok (.invokevirtual 350, 3) := dk_182 1 94 (dk_at dksX7_law_3 8 rfl rfl)
theorem dX7_law_81 : decode cX7_law 81 = .ok (.goto (-23), 3) := dk_167 255 233 (dk_at dksX7_law_3 11 rfl rfl)
theorem dX7_law_84 : decode cX7_law 84 = .ok (.aload_n 0, 1) := dk_42 (dk_at dksX7_law_3 14 rfl rfl)
theorem dX7_law_85 : decode cX7_law 85 = .ok (.getfield 237, 3) := dk_180 0 237 (dk_at dksX7_law_3 15 rfl rfl)
theorem dX7_law_88 : decode cX7_law 88 = .ok (.ifCond .le 8, 3) := dk_158 0 8 (dk_at dksX7_law_3 18 rfl rfl)
theorem dX7_law_91 : decode cX7_law 91 = .ok (.aload_n 0, 1) := dk_42 (dk_at dksX7_law_3 21 rfl rfl)
theorem dX7_law_92 : decode cX7_law 92 = .ok (.getfield 237, 3) := dk_180 0 237 (dk_at dksX7_law_4 0 rfl rfl)
theorem dX7_law_95 : decode cX7_law 95 = .ok (.ireturn, 1) := dk_172 (dk_at dksX7_law_4 3 rfl rfl)
theorem dX7_law_96 : decode cX7_law 96 = .ok (.iconst 0, 1) := dk_3 (dk_at dksX7_law_4 4 rfl rfl)
theorem dX7_law_97 : decode cX7_law 97 = .ok (.istore_n 2, 1) := dk_61 (dk_at dksX7_law_4 5 rfl rfl)
theorem dX7_law_98 : decode cX7_law 98 = .ok (.iload_n 2, 1) := dk_28 (dk_at dksX7_law_4 6 rfl rfl)
theorem dX7_law_99 : decode cX7_law 99 = .ok (.iconst 4, 1) := dk_7 (dk_at dksX7_law_4 7 rfl rfl)
theorem dX7_law_100 : decode cX7_law 100 = .ok (.if_icmp .ge 28, 3) := dk_162 0 28 (dk_at dksX7_law_4 8 rfl rfl)
theorem dX7_law_103 : decode cX7_law 103 = .ok (.aload_n 0, 1) := dk_42 (dk_at dksX7_law_4 11 rfl rfl)
theorem dX7_law_104 : decode cX7_law 104 = .ok (.getfield 136, 3) := dk_180 0 136 (dk_at dksX7_law_4 12 rfl rfl)
theorem dX7_law_107 : decode cX7_law 107 = .ok (.iconst 4, 1) := dk_7 (dk_at dksX7_law_4 15 rfl rfl)
theorem dX7_law_108 : decode cX7_law 108 = .ok (.iload_n 1, 1) := dk_27 (dk_at dksX7_law_4 16 rfl rfl)
theorem dX7_law_109 : decode cX7_law 109 = .ok (.imul, 1) := dk_104 (dk_at dksX7_law_4 17 rfl rfl)
theorem dX7_law_110 : decode cX7_law 110 = .ok (.iload_n 2, 1) := dk_28 (dk_at dksX7_law_4 18 rfl rfl)
theorem dX7_law_111 : decode cX7_law 111 = .ok (.iadd, 1) := dk_96 (dk_at dksX7_law_4 19 rfl rfl)
theorem dX7_law_112 : decode cX7_law 112 = .ok (.aload_n 0, 1) := dk_42 (dk_at dksX7_law_4 20 rfl rfl)
theorem dX7_law_113 : decode cX7_law 113 = .ok (.getfield 136, 3) := dk_180 0 136 (dk_at dksX7_law_4 21 rfl rfl)
theorem dX7_law_116 : decode cX7_law 116 = .ok (.bipush 16, 2) := dk_16 16 (dk_at dksX7_law_5 0 rfl rfl)
theorem dX7_law_118 : decode cX7_law 118 = .ok (.iload_n 2, 1) := dk_28 (dk_at dksX7_law_5 2 rfl rfl)
theorem dX7_law_119 : decode cX7_law 119 = .ok (.iadd, 1) := dk_96 (dk_at dksX7_law_5 3 rfl rfl)
theorem dX7_law_120 : decode cX7_law 120 = .ok (.iaload, 1) := dk_46 (dk_at dksX7_law_5 4 rfl rfl)
theorem dX7_law_121 : decode cX7_law 121 = .ok (.iastore, 1) := dk_79 (dk_at dksX7_law_5 5 rfl rfl)
theorem dX7_law_122 : decode cX7_law 122 = .ok (.iinc 2 1, 3) := dk_132 2 1 (dk_at dksX7_law_5 6 rfl rfl)
theorem dX7_law_125 : decode cX7_law 125 = .ok (.goto (-27), 3) := dk_167 255 229 (dk_at dksX7_law_5 9 rfl rfl)
theorem dX7_law_128 : decode cX7_law 128 = .ok (.aload_n 0, 1) := dk_42 (dk_at dksX7_law_5 12 rfl rfl)
theorem dX7_law_129 : decode cX7_law 129 = .ok (.iload_n 1, 1) := dk_27 (dk_at dksX7_law_5 13 rfl rfl)
theorem dX7_law_130 : decode cX7_law 130 = .ok (.invokevirtual 353, 3) := dk_182 1 97 (dk_at dksX7_law_5 14 rfl rfl)
theorem dX7_law_133 : decode cX7_law 133 = .ok (.iconst 0, 1) := dk_3 (dk_at dksX7_law_5 17 rfl rfl)
theorem dX7_law_134 : decode cX7_law 134 = .ok (.ireturn, 1) := dk_172 (dk_at dksX7_law_5 18 rfl rfl)
def dkwX7_cutAll_13 : List UInt8 := [181, 0, 237, 177]
abbrev dktX7_cutAll_13 : List UInt8 := dkwX7_cutAll_13 ++ []
def dkwX7_cutAll_12 : List UInt8 := [180, 0, 24, 27, 3, 79, 42, 180, 0, 27, 27, 42, 180, 0, 215, 79, 42, 3, 181, 0, 234, 42, 3]
abbrev dktX7_cutAll_12 : List UInt8 := dkwX7_cutAll_12 ++ dktX7_cutAll_13
def dkwX7_cutAll_11 : List UInt8 := [6, 167, 0, 4, 7, 79, 132, 2, 1, 42, 180, 0, 30, 27, 22, 5, 80, 132, 1, 1, 167, 254, 253, 42]
abbrev dktX7_cutAll_11 : List UInt8 := dkwX7_cutAll_11 ++ dktX7_cutAll_12
def dkwX7_cutAll_10 : List UInt8 := [167, 0, 4, 5, 79, 167, 0, 28, 29, 133, 55, 5, 42, 180, 0, 24, 27, 29, 184, 0, 231, 153, 0, 7]
abbrev dktX7_cutAll_10 : List UInt8 := dkwX7_cutAll_10 ++ dktX7_cutAll_11
def dkwX7_cutAll_9 : List UInt8 := [22, 5, 55, 5, 132, 2, 1, 167, 255, 200, 42, 180, 0, 24, 27, 28, 21, 4, 100, 7, 164, 0, 7, 7]
abbrev dktX7_cutAll_9 : List UInt8 := dkwX7_cutAll_9 ++ dktX7_cutAll_10
def dkwX7_cutAll_8 : List UInt8 := [162, 0, 24, 20, 0, 227, 22, 5, 105, 42, 180, 0, 14, 28, 46, 133, 97, 20, 0, 229, 101, 167, 0, 5]
abbrev dktX7_cutAll_8 : List UInt8 := dkwX7_cutAll_8 ++ dktX7_cutAll_9
def dkwX7_cutAll_7 : List UInt8 := [180, 0, 215, 162, 0, 54, 42, 180, 0, 14, 28, 46, 184, 0, 224, 153, 0, 42, 28, 21, 4, 100, 7]
abbrev dktX7_cutAll_7 : List UInt8 := dkwX7_cutAll_7 ++ dktX7_cutAll_8
def dkwX7_cutAll_6 : List UInt8 := [16, 8, 164, 0, 7, 7, 167, 0, 4, 4, 79, 167, 0, 116, 29, 184, 0, 224, 153, 0, 84, 28, 42]
abbrev dktX7_cutAll_6 : List UInt8 := dkwX7_cutAll_6 ++ dktX7_cutAll_7
def dkwX7_cutAll_5 : List UInt8 := [97, 167, 0, 5, 22, 5, 55, 5, 132, 2, 1, 167, 255, 200, 42, 180, 0, 24, 27, 28, 21, 4, 100]
abbrev dktX7_cutAll_5 : List UInt8 := dkwX7_cutAll_5 ++ dktX7_cutAll_6
def dkwX7_cutAll_4 : List UInt8 := [21, 4, 100, 16, 8, 162, 0, 23, 20, 0, 218, 22, 5, 105, 42, 180, 0, 14, 28, 46, 184, 0, 220, 133]
abbrev dktX7_cutAll_4 : List UInt8 := dkwX7_cutAll_4 ++ dktX7_cutAll_5
def dkwX7_cutAll_3 : List UInt8 := [153, 0, 85, 28, 42, 180, 0, 215, 162, 0, 54, 42, 180, 0, 14, 28, 46, 184, 0, 211, 153, 0, 42, 28]
abbrev dktX7_cutAll_3 : List UInt8 := dkwX7_cutAll_3 ++ dktX7_cutAll_4
def dkwX7_cutAll_2 : List UInt8 := [132, 2, 1, 167, 255, 226, 28, 54, 4, 9, 55, 5, 42, 180, 0, 27, 27, 28, 79, 29, 184, 0, 211]
abbrev dktX7_cutAll_2 : List UInt8 := dkwX7_cutAll_2 ++ dktX7_cutAll_3
def dkwX7_cutAll_1 : List UInt8 := [162, 1, 1, 42, 180, 0, 14, 28, 46, 62, 29, 16, 10, 159, 0, 9, 29, 16, 32, 160, 0, 9]
abbrev dktX7_cutAll_1 : List UInt8 := dkwX7_cutAll_1 ++ dktX7_cutAll_2
def dkwX7_cutAll_0 : List UInt8 := [42, 42, 180, 0, 11, 181, 0, 215, 42, 3, 181, 0, 11, 3, 60, 3, 61, 28, 42, 180, 0, 215]
abbrev dktX7_cutAll_0 : List UInt8 := dkwX7_cutAll_0 ++ dktX7_cutAll_1
theorem dksX7_cutAll_0 : cX7_cutAll.data.toList.drop 0 = dktX7_cutAll_0 := by decide +kernel
theorem dksX7_cutAll_1 : cX7_cutAll.data.toList.drop 22 = dktX7_cutAll_1 := dk_seg dksX7_cutAll_0 22 rfl rfl
theorem dksX7_cutAll_2 : cX7_cutAll.data.toList.drop 44 = dktX7_cutAll_2 := dk_seg dksX7_cutAll_1 22 rfl rfl
theorem dksX7_cutAll_3 : cX7_cutAll.data.toList.drop 67 = dktX7_cutAll_3 := dk_seg dksX7_cutAll_2 23 rfl rfl
theorem dksX7_cutAll_4 : cX7_cutAll.data.toList.drop 91 = dktX7_cutAll_4 := dk_seg dksX7_cutAll_3 24 rfl rfl
theorem dksX7_cutAll_5 : cX7_cutAll.data.toList.drop 115 = dktX7_cutAll_5 := dk_seg dksX7_cutAll_4 24 rfl rfl
theorem dksX7_cutAll_6 : cX7_cutAll.data.toList.drop 138 = dktX7_cutAll_6 := dk_seg dksX7_cutAll_5 23 rfl rfl
theorem dksX7_cutAll_7 : cX7_cutAll.data.toList.drop 161 = dktX7_cutAll_7 := dk_seg dksX7_cutAll_6 23 rfl rfl
theorem dksX7_cutAll_8 : cX7_cutAll.data.toList.drop 184 = dktX7_cutAll_8 := dk_seg dksX7_cutAll_7 23 rfl rfl
theorem dksX7_cutAll_9 : cX7_cutAll.data.toList.drop 208 = dktX7_cutAll_9 := dk_seg dksX7_cutAll_8 24 rfl rfl
theorem dksX7_cutAll_10 : cX7_cutAll.data.toList.drop 232 = dktX7_cutAll_10 := dk_seg dksX7_cutAll_9 24 rfl rfl
theorem dksX7_cutAll_11 : cX7_cutAll.data.toList.drop 256 = dktX7_cutAll_11 := dk_seg dksX7_cutAll_10 24 rfl rfl
theorem dksX7_cutAll_12 : cX7_cutAll.data.toList.drop 280 = dktX7_cutAll_12 := dk_seg dksX7_cutAll_11 24 rfl rfl
theorem dksX7_cutAll_13 : cX7_cutAll.data.toList.drop 303 = dktX7_cutAll_13 := dk_seg dksX7_cutAll_12 23 rfl rfl
theorem dX7_cutAll_0 : decode cX7_cutAll 0 = .ok (.aload_n 0, 1) := dk_42 (dk_at dksX7_cutAll_0 0 rfl rfl)
theorem dX7_cutAll_1 : decode cX7_cutAll 1 = .ok (.aload_n 0, 1) := dk_42 (dk_at dksX7_cutAll_0 1 rfl rfl)
theorem dX7_cutAll_2 : decode cX7_cutAll 2 = .ok (.getfield 11, 3) := dk_180 0 11 (dk_at dksX7_cutAll_0 2 rfl rfl)
theorem dX7_cutAll_5 : decode cX7_cutAll 5 = .ok (.putfield 215, 3) := dk_181 0 215 (dk_at dksX7_cutAll_0 5 rfl rfl)
theorem dX7_cutAll_8 : decode cX7_cutAll 8 = .ok (.aload_n 0, 1) := dk_42 (dk_at dksX7_cutAll_0 8 rfl rfl)
theorem dX7_cutAll_9 : decode cX7_cutAll 9 = .ok (.iconst 0, 1) := dk_3 (dk_at dksX7_cutAll_0 9 rfl rfl)
theorem dX7_cutAll_10 : decode cX7_cutAll 10 = .ok (.putfield 11, 3) := dk_181 0 11 (dk_at dksX7_cutAll_0 10 rfl rfl)
theorem dX7_cutAll_13 : decode cX7_cutAll 13 = .ok (.iconst 0, 1) := dk_3 (dk_at dksX7_cutAll_0 13 rfl rfl)
theorem dX7_cutAll_14 : decode cX7_cutAll 14 = .ok (.istore_n 1, 1) := dk_60 (dk_at dksX7_cutAll_0 14 rfl rfl)
theorem dX7_cutAll_15 : decode cX7_cutAll 15 = .ok (.iconst 0, 1) := dk_3 (dk_at dksX7_cutAll_0 15 rfl rfl)
theorem dX7_cutAll_16 : decode cX7_cutAll 16 = .ok (.istore_n 2, 1) := dk_61 (dk_at dksX7_cutAll_0 16 rfl rfl)
theorem dX7_cutAll_17 : decode cX7_cutAll 17 = .ok (.iload_n 2, 1) := dk_28 (dk_at dksX7_cutAll_0 17 rfl rfl)
theorem dX7_cutAll_18 : decode cX7_cutAll 18 = .ok (.aload_n 0, 1) := dk_42 (dk_at dksX7_cutAll_0 18 rfl rfl)
theorem dX7_cutAll_19 : decode cX7_cutAll 19 = .ok (.getfield 215, 3) := dk_180 0 215 (dk_at dksX7_cutAll_0 19 rfl rfl)
theorem dX7_cutAll_22 : decode cX7_cutAll 22 = .ok (.if_icmp .ge 257, 3) := dk_162 1 1 (dk_at dksX7_cutAll_1 0 rfl rfl)
theorem dX7_cutAll_25 : decode cX7_cutAll 25 = .ok (.aload_n 0, 1) := dk_42 (dk_at dksX7_cutAll_1 3 rfl rfl)
theorem dX7_cutAll_26 : decode cX7_cutAll 26 = .ok (.getfield 14, 3) := dk_180 0 14 (dk_at dksX7_cutAll_1 4 rfl rfl)
theorem dX7_cutAll_29 : decode cX7_cutAll 29 = .ok (.iload_n 2, 1) := dk_28 (dk_at dksX7_cutAll_1 7 rfl rfl)
theorem dX7_cutAll_30 : decode cX7_cutAll 30 = .ok (.iaload, 1) := dk_46 (dk_at dksX7_cutAll_1 8 rfl rfl)
theorem dX7_cutAll_31 : decode cX7_cutAll 31 = .ok (.istore_n 3, 1) := dk_62 (dk_at dksX7_cutAll_1 9 rfl rfl)
theorem dX7_cutAll_32 : decode cX7_cutAll 32 = .ok (.iload_n 3, 1) := dk_29 (dk_at dksX7_cutAll_1 10 rfl rfl)
theorem dX7_cutAll_33 : decode cX7_cutAll 33 = .ok (.bipush 10, 2) := dk_16 10 (dk_at dksX7_cutAll_1 11 rfl rfl)
theorem dX7_cutAll_35 : decode cX7_cutAll 35 = .ok (.if_icmp .eq 9, 3) := dk_159 0 9 (dk_at dksX7_cutAll_1 13 rfl rfl)
theorem dX7_cutAll_38 : decode cX7_cutAll 38 = .ok (.iload_n 3, 1) := dk_29 (dk_at dksX7_cutAll_1 16 rfl rfl)
theorem dX7_cutAll_39 : decode cX7_cutAll 39 = .ok (.bipush 32, 2) := dk_16 32 (dk_at dksX7_cutAll_1 17 rfl rfl)
theorem dX7_cutAll_41 : decode cX7_cutAll 41 = .ok (.if_icmp .ne 9, 3) := dk_160 0 9 (dk_at dksX7_cutAll_1 19 rfl rfl)
theorem dX7_cutAll_44 : decode cX7_cutAll 44 = .ok (.iinc 2 1, 3) := dk_132 2 1 (dk_at dksX7_cutAll_2 0 rfl rfl)
theorem dX7_cutAll_47 : decode cX7_cutAll 47 = .ok (.goto (-30), 3) := dk_167 255 226 (dk_at dksX7_cutAll_2 3 rfl rfl)
theorem dX7_cutAll_50 : decode cX7_cutAll 50 = .ok (.iload_n 2, 1) := dk_28 (dk_at dksX7_cutAll_2 6 rfl rfl)
theorem dX7_cutAll_51 : decode cX7_cutAll 51 = .ok (.istore 4, 2) := dk_54 4 (dk_at dksX7_cutAll_2 7 rfl rfl)
theorem dX7_cutAll_53 : decode cX7_cutAll 53 = .ok (.lconst 0, 1) := dk_9 (dk_at dksX7_cutAll_2 9 rfl rfl)
theorem dX7_cutAll_54 : decode cX7_cutAll 54 = .ok (.lstore 5, 2) := dk_55 5 (dk_at dksX7_cutAll_2 10 rfl rfl)
theorem dX7_cutAll_56 : decode cX7_cutAll 56 = .ok (.aload_n 0, 1) := dk_42 (dk_at dksX7_cutAll_2 12 rfl rfl)
theorem dX7_cutAll_57 : decode cX7_cutAll 57 = .ok (.getfield 27, 3) := dk_180 0 27 (dk_at dksX7_cutAll_2 13 rfl rfl)
theorem dX7_cutAll_60 : decode cX7_cutAll 60 = .ok (.iload_n 1, 1) := dk_27 (dk_at dksX7_cutAll_2 16 rfl rfl)
theorem dX7_cutAll_61 : decode cX7_cutAll 61 = .ok (.iload_n 2, 1) := dk_28 (dk_at dksX7_cutAll_2 17 rfl rfl)
theorem dX7_cutAll_62 : decode cX7_cutAll 62 = .ok (.iastore, 1) := dk_79 (dk_at dksX7_cutAll_2 18 rfl rfl)
theorem dX7_cutAll_63 : decode cX7_cutAll 63 = .ok (.iload_n 3, 1) := dk_29 (dk_at dksX7_cutAll_2 19 rfl rfl)
theorem dX7_cutAll_64 : decode cX7_cutAll 64 = .ok (.invokestatic 211, 3) := dk_184 0 211 (dk_at dksX7_cutAll_2 20 rfl rfl)
theorem dX7_cutAll_67 : decode cX7_cutAll 67 = .ok (.ifCond .eq 85, 3) := dk_153 0 85 (dk_at dksX7_cutAll_3 0 rfl rfl)
theorem dX7_cutAll_70 : decode cX7_cutAll 70 = .ok (.iload_n 2, 1) := dk_28 (dk_at dksX7_cutAll_3 3 rfl rfl)
theorem dX7_cutAll_71 : decode cX7_cutAll 71 = .ok (.aload_n 0, 1) := dk_42 (dk_at dksX7_cutAll_3 4 rfl rfl)
theorem dX7_cutAll_72 : decode cX7_cutAll 72 = .ok (.getfield 215, 3) := dk_180 0 215 (dk_at dksX7_cutAll_3 5 rfl rfl)
theorem dX7_cutAll_75 : decode cX7_cutAll 75 = .ok (.if_icmp .ge 54, 3) := dk_162 0 54 (dk_at dksX7_cutAll_3 8 rfl rfl)
theorem dX7_cutAll_78 : decode cX7_cutAll 78 = .ok (.aload_n 0, 1) := dk_42 (dk_at dksX7_cutAll_3 11 rfl rfl)
theorem dX7_cutAll_79 : decode cX7_cutAll 79 = .ok (.getfield 14, 3) := dk_180 0 14 (dk_at dksX7_cutAll_3 12 rfl rfl)
theorem dX7_cutAll_82 : decode cX7_cutAll 82 = .ok (.iload_n 2, 1) := dk_28 (dk_at dksX7_cutAll_3 15 rfl rfl)
theorem dX7_cutAll_83 : decode cX7_cutAll 83 = .ok (.iaload, 1) := dk_46 (dk_at dksX7_cutAll_3 16 rfl rfl)
theorem dX7_cutAll_84 : decode cX7_cutAll 84 = .ok (.invokestatic 211, 3) := dk_184 0 211 (dk_at dksX7_cutAll_3 17 rfl rfl)
theorem dX7_cutAll_87 : decode cX7_cutAll 87 = .ok (.ifCond .eq 42, 3) := dk_153 0 42 (dk_at dksX7_cutAll_3 20 rfl rfl)
theorem dX7_cutAll_90 : decode cX7_cutAll 90 = .ok (.iload_n 2, 1) := dk_28 (dk_at dksX7_cutAll_3 23 rfl rfl)
theorem dX7_cutAll_91 : decode cX7_cutAll 91 = .ok (.iload 4, 2) := dk_21 4 (dk_at dksX7_cutAll_4 0 rfl rfl)
theorem dX7_cutAll_93 : decode cX7_cutAll 93 = .ok (.isub, 1) := dk_100 (dk_at dksX7_cutAll_4 2 rfl rfl)
theorem dX7_cutAll_94 : decode cX7_cutAll 94 = .ok (.bipush 8, 2) := dk_16 8 (dk_at dksX7_cutAll_4 3 rfl rfl)
theorem dX7_cutAll_96 : decode cX7_cutAll 96 = .ok (.if_icmp .ge 23, 3) := dk_162 0 23 (dk_at dksX7_cutAll_4 5 rfl rfl)
theorem dX7_cutAll_99 : decode cX7_cutAll 99 = .ok (.ldc2_w 218, 3) := dk_20 0 218 (dk_at dksX7_cutAll_4 8 rfl rfl)
theorem dX7_cutAll_102 : decode cX7_cutAll 102 = .ok (.lload 5, 2) := dk_22 5 (dk_at dksX7_cutAll_4 11 rfl rfl)
theorem dX7_cutAll_104 : decode cX7_cutAll 104 = .ok (.lmul, 1) := dk_105 (dk_at dksX7_cutAll_4 13 rfl rfl)
theorem dX7_cutAll_105 : decode cX7_cutAll 105 = .ok (.aload_n 0, 1) := dk_42 (dk_at dksX7_cutAll_4 14 rfl rfl)
theorem dX7_cutAll_106 : decode cX7_cutAll 106 = .ok (.getfield 14, 3) := dk_180 0 14 (dk_at dksX7_cutAll_4 15 rfl rfl)
theorem dX7_cutAll_109 : decode cX7_cutAll 109 = .ok (.iload_n 2, 1) := dk_28 (dk_at dksX7_cutAll_4 18 rfl rfl)
theorem dX7_cutAll_110 : decode cX7_cutAll 110 = .ok (.iaload, 1) := dk_46 (dk_at dksX7_cutAll_4 19 rfl rfl)
theorem dX7_cutAll_111 : decode cX7_cutAll 111 = .ok (.invokestatic 220, 3) := dk_184 0 220 (dk_at dksX7_cutAll_4 20 rfl rfl)
theorem dX7_cutAll_114 : decode cX7_cutAll 114 = .ok (.i2l, 1) := dk_133 (dk_at dksX7_cutAll_4 23 rfl rfl)
theorem dX7_cutAll_115 : decode cX7_cutAll 115 = .ok (.ladd, 1) := dk_97 (dk_at dksX7_cutAll_5 0 rfl rfl)
theorem dX7_cutAll_116 : decode cX7_cutAll 116 = .ok (.goto 5, 3) := dk_167 0 5 (dk_at dksX7_cutAll_5 1 rfl rfl)
theorem dX7_cutAll_119 : decode cX7_cutAll 119 = .ok (.lload 5, 2) := dk_22 5 (dk_at dksX7_cutAll_5 4 rfl rfl)
theorem dX7_cutAll_121 : decode cX7_cutAll 121 = .ok (.lstore 5, 2) := dk_55 5 (dk_at dksX7_cutAll_5 6 rfl rfl)
theorem dX7_cutAll_123 : decode cX7_cutAll 123 = .ok (.iinc 2 1, 3) := dk_132 2 1 (dk_at dksX7_cutAll_5 8 rfl rfl)
theorem dX7_cutAll_126 : decode cX7_cutAll 126 = .ok (.goto (-56), 3) := dk_167 255 200 (dk_at dksX7_cutAll_5 11 rfl rfl)
theorem dX7_cutAll_129 : decode cX7_cutAll 129 = .ok (.aload_n 0, 1) := dk_42 (dk_at dksX7_cutAll_5 14 rfl rfl)
theorem dX7_cutAll_130 : decode cX7_cutAll 130 = .ok (.getfield 24, 3) := dk_180 0 24 (dk_at dksX7_cutAll_5 15 rfl rfl)
theorem dX7_cutAll_133 : decode cX7_cutAll 133 = .ok (.iload_n 1, 1) := dk_27 (dk_at dksX7_cutAll_5 18 rfl rfl)
theorem dX7_cutAll_134 : decode cX7_cutAll 134 = .ok (.iload_n 2, 1) := dk_28 (dk_at dksX7_cutAll_5 19 rfl rfl)
theorem dX7_cutAll_135 : decode cX7_cutAll 135 = .ok (.iload 4, 2) := dk_21 4 (dk_at dksX7_cutAll_5 20 rfl rfl)
theorem dX7_cutAll_137 : decode cX7_cutAll 137 = .ok (.isub, 1) := dk_100 (dk_at dksX7_cutAll_5 22 rfl rfl)
theorem dX7_cutAll_138 : decode cX7_cutAll 138 = .ok (.bipush 8, 2) := dk_16 8 (dk_at dksX7_cutAll_6 0 rfl rfl)
theorem dX7_cutAll_140 : decode cX7_cutAll 140 = .ok (.if_icmp .le 7, 3) := dk_164 0 7 (dk_at dksX7_cutAll_6 2 rfl rfl)
theorem dX7_cutAll_143 : decode cX7_cutAll 143 = .ok (.iconst 4, 1) := dk_7 (dk_at dksX7_cutAll_6 5 rfl rfl)
theorem dX7_cutAll_144 : decode cX7_cutAll 144 = .ok (.goto 4, 3) := dk_167 0 4 (dk_at dksX7_cutAll_6 6 rfl rfl)
theorem dX7_cutAll_147 : decode cX7_cutAll 147 = .ok (.iconst 1, 1) := dk_4 (dk_at dksX7_cutAll_6 9 rfl rfl)
theorem dX7_cutAll_148 : decode cX7_cutAll 148 = .ok (.iastore, 1) := dk_79 (dk_at dksX7_cutAll_6 10 rfl rfl)
theorem dX7_cutAll_149 : decode cX7_cutAll 149 = .ok (.goto 116, 3) := dk_167 0 116 (dk_at dksX7_cutAll_6 11 rfl rfl)
theorem dX7_cutAll_152 : decode cX7_cutAll 152 = .ok (.iload_n 3, 1) := dk_29 (dk_at dksX7_cutAll_6 14 rfl rfl)
theorem dX7_cutAll_153 : decode cX7_cutAll 153 = .ok (.invokestatic 224, 3) := dk_184 0 224 (dk_at dksX7_cutAll_6 15 rfl rfl)
theorem dX7_cutAll_156 : decode cX7_cutAll 156 = .ok (.ifCond .eq 84, 3) := dk_153 0 84 (dk_at dksX7_cutAll_6 18 rfl rfl)
theorem dX7_cutAll_159 : decode cX7_cutAll 159 = .ok (.iload_n 2, 1) := dk_28 (dk_at dksX7_cutAll_6 21 rfl rfl)
theorem dX7_cutAll_160 : decode cX7_cutAll 160 = .ok (.aload_n 0, 1) := dk_42 (dk_at dksX7_cutAll_6 22 rfl rfl)
theorem dX7_cutAll_161 : decode cX7_cutAll 161 = .ok (.getfield 215, 3) := dk_180 0 215 (dk_at dksX7_cutAll_7 0 rfl rfl)
theorem dX7_cutAll_164 : decode cX7_cutAll 164 = .ok (.if_icmp .ge 54, 3) := dk_162 0 54 (dk_at dksX7_cutAll_7 3 rfl rfl)
theorem dX7_cutAll_167 : decode cX7_cutAll 167 = .ok (.aload_n 0, 1) := dk_42 (dk_at dksX7_cutAll_7 6 rfl rfl)
theorem dX7_cutAll_168 : decode cX7_cutAll 168 = .ok (.getfield 14, 3) := dk_180 0 14 (dk_at dksX7_cutAll_7 7 rfl rfl)
theorem dX7_cutAll_171 : decode cX7_cutAll 171 = .ok (.iload_n 2, 1) := dk_28 (dk_at dksX7_cutAll_7 10 rfl rfl)
theorem dX7_cutAll_172 : decode cX7_cutAll 172 = .ok (.iaload, 1) := dk_46 (dk_at dksX7_cutAll_7 11 rfl rfl)
theorem dX7_cutAll_173 : decode cX7_cutAll 173 = .ok (.invokestatic 224, 3) := dk_184 0 224 (dk_at dksX7_cutAll_7 12 rfl rfl)
theorem dX7_cutAll_176 : decode cX7_cutAll 176 = .ok (.ifCond .eq 42, 3) := dk_153 0 42 (dk_at dksX7_cutAll_7 15 rfl rfl)
theorem dX7_cutAll_179 : decode cX7_cutAll 179 = .ok (.iload_n 2, 1) := dk_28 (dk_at dksX7_cutAll_7 18 rfl rfl)
theorem dX7_cutAll_180 : decode cX7_cutAll 180 = .ok (.iload 4, 2) := dk_21 4 (dk_at dksX7_cutAll_7 19 rfl rfl)
theorem dX7_cutAll_182 : decode cX7_cutAll 182 = .ok (.isub, 1) := dk_100 (dk_at dksX7_cutAll_7 21 rfl rfl)
theorem dX7_cutAll_183 : decode cX7_cutAll 183 = .ok (.iconst 4, 1) := dk_7 (dk_at dksX7_cutAll_7 22 rfl rfl)
theorem dX7_cutAll_184 : decode cX7_cutAll 184 = .ok (.if_icmp .ge 24, 3) := dk_162 0 24 (dk_at dksX7_cutAll_8 0 rfl rfl)
theorem dX7_cutAll_187 : decode cX7_cutAll 187 = .ok (.ldc2_w 227, 3) := dk_20 0 227 (dk_at dksX7_cutAll_8 3 rfl rfl)
theorem dX7_cutAll_190 : decode cX7_cutAll 190 = .ok (.lload 5, 2) := dk_22 5 (dk_at dksX7_cutAll_8 6 rfl rfl)
theorem dX7_cutAll_192 : decode cX7_cutAll 192 = .ok (.lmul, 1) := dk_105 (dk_at dksX7_cutAll_8 8 rfl rfl)
theorem dX7_cutAll_193 : decode cX7_cutAll 193 = .ok (.aload_n 0, 1) := dk_42 (dk_at dksX7_cutAll_8 9 rfl rfl)
theorem dX7_cutAll_194 : decode cX7_cutAll 194 = .ok (.getfield 14, 3) := dk_180 0 14 (dk_at dksX7_cutAll_8 10 rfl rfl)
theorem dX7_cutAll_197 : decode cX7_cutAll 197 = .ok (.iload_n 2, 1) := dk_28 (dk_at dksX7_cutAll_8 13 rfl rfl)
theorem dX7_cutAll_198 : decode cX7_cutAll 198 = .ok (.iaload, 1) := dk_46 (dk_at dksX7_cutAll_8 14 rfl rfl)
theorem dX7_cutAll_199 : decode cX7_cutAll 199 = .ok (.i2l, 1) := dk_133 (dk_at dksX7_cutAll_8 15 rfl rfl)
theorem dX7_cutAll_200 : decode cX7_cutAll 200 = .ok (.ladd, 1) := dk_97 (dk_at dksX7_cutAll_8 16 rfl rfl)
theorem dX7_cutAll_201 : decode cX7_cutAll 201 = .ok (.ldc2_w 229, 3) := dk_20 0 229 (dk_at dksX7_cutAll_8 17 rfl rfl)
theorem dX7_cutAll_204 : decode cX7_cutAll 204 = .ok (.lsub, 1) := dk_101 (dk_at dksX7_cutAll_8 20 rfl rfl)
theorem dX7_cutAll_205 : decode cX7_cutAll 205 = .ok (.goto 5, 3) := dk_167 0 5 (dk_at dksX7_cutAll_8 21 rfl rfl)
theorem dX7_cutAll_208 : decode cX7_cutAll 208 = .ok (.lload 5, 2) := dk_22 5 (dk_at dksX7_cutAll_9 0 rfl rfl)
theorem dX7_cutAll_210 : decode cX7_cutAll 210 = .ok (.lstore 5, 2) := dk_55 5 (dk_at dksX7_cutAll_9 2 rfl rfl)
theorem dX7_cutAll_212 : decode cX7_cutAll 212 = .ok (.iinc 2 1, 3) := dk_132 2 1 (dk_at dksX7_cutAll_9 4 rfl rfl)
theorem dX7_cutAll_215 : decode cX7_cutAll 215 = .ok (.goto (-56), 3) := dk_167 255 200 (dk_at dksX7_cutAll_9 7 rfl rfl)
theorem dX7_cutAll_218 : decode cX7_cutAll 218 = .ok (.aload_n 0, 1) := dk_42 (dk_at dksX7_cutAll_9 10 rfl rfl)
theorem dX7_cutAll_219 : decode cX7_cutAll 219 = .ok (.getfield 24, 3) := dk_180 0 24 (dk_at dksX7_cutAll_9 11 rfl rfl)
theorem dX7_cutAll_222 : decode cX7_cutAll 222 = .ok (.iload_n 1, 1) := dk_27 (dk_at dksX7_cutAll_9 14 rfl rfl)
theorem dX7_cutAll_223 : decode cX7_cutAll 223 = .ok (.iload_n 2, 1) := dk_28 (dk_at dksX7_cutAll_9 15 rfl rfl)
theorem dX7_cutAll_224 : decode cX7_cutAll 224 = .ok (.iload 4, 2) := dk_21 4 (dk_at dksX7_cutAll_9 16 rfl rfl)
theorem dX7_cutAll_226 : decode cX7_cutAll 226 = .ok (.isub, 1) := dk_100 (dk_at dksX7_cutAll_9 18 rfl rfl)
theorem dX7_cutAll_227 : decode cX7_cutAll 227 = .ok (.iconst 4, 1) := dk_7 (dk_at dksX7_cutAll_9 19 rfl rfl)
theorem dX7_cutAll_228 : decode cX7_cutAll 228 = .ok (.if_icmp .le 7, 3) := dk_164 0 7 (dk_at dksX7_cutAll_9 20 rfl rfl)
theorem dX7_cutAll_231 : decode cX7_cutAll 231 = .ok (.iconst 4, 1) := dk_7 (dk_at dksX7_cutAll_9 23 rfl rfl)
theorem dX7_cutAll_232 : decode cX7_cutAll 232 = .ok (.goto 4, 3) := dk_167 0 4 (dk_at dksX7_cutAll_10 0 rfl rfl)
theorem dX7_cutAll_235 : decode cX7_cutAll 235 = .ok (.iconst 2, 1) := dk_5 (dk_at dksX7_cutAll_10 3 rfl rfl)
theorem dX7_cutAll_236 : decode cX7_cutAll 236 = .ok (.iastore, 1) := dk_79 (dk_at dksX7_cutAll_10 4 rfl rfl)
theorem dX7_cutAll_237 : decode cX7_cutAll 237 = .ok (.goto 28, 3) := dk_167 0 28 (dk_at dksX7_cutAll_10 5 rfl rfl)
theorem dX7_cutAll_240 : decode cX7_cutAll 240 = .ok (.iload_n 3, 1) := dk_29 (dk_at dksX7_cutAll_10 8 rfl rfl)
theorem dX7_cutAll_241 : decode cX7_cutAll 241 = .ok (.i2l, 1) := dk_133 (dk_at dksX7_cutAll_10 9 rfl rfl)
theorem dX7_cutAll_242 : decode cX7_cutAll 242 = .ok (.lstore 5, 2) := dk_55 5 (dk_at dksX7_cutAll_10 10 rfl rfl)
theorem dX7_cutAll_244 : decode cX7_cutAll 244 = .ok (.aload_n 0, 1) := dk_42 (dk_at dksX7_cutAll_10 12 rfl rfl)
theorem dX7_cutAll_245 : decode cX7_cutAll 245 = .ok (.getfield 24, 3) := dk_180 0 24 (dk_at dksX7_cutAll_10 13 rfl rfl)
theorem dX7_cutAll_248 : decode cX7_cutAll 248 = .ok (.iload_n 1, 1) := dk_27 (dk_at dksX7_cutAll_10 16 rfl rfl)
theorem dX7_cutAll_249 : decode cX7_cutAll 249 = .ok (.iload_n 3, 1) := dk_29 (dk_at dksX7_cutAll_10 17 rfl rfl)
theorem dX7_cutAll_250 : decode cX7_cutAll 250 = .ok (.invokestatic 231, 3) := dk_184 0 231 (dk_at dksX7_cutAll_10 18 rfl rfl)
theorem dX7_cutAll_253 : decode cX7_cutAll 253 = .ok (.ifCond .eq 7, 3) := dk_153 0 7 (dk_at dksX7_cutAll_10 21 rfl rfl)
theorem dX7_cutAll_256 : decode cX7_cutAll 256 = .ok (.iconst 3, 1) := dk_6 (dk_at dksX7_cutAll_11 0 rfl rfl)
theorem dX7_cutAll_257 : decode cX7_cutAll 257 = .ok (.goto 4, 3) := dk_167 0 4 (dk_at dksX7_cutAll_11 1 rfl rfl)
theorem dX7_cutAll_260 : decode cX7_cutAll 260 = .ok (.iconst 4, 1) := dk_7 (dk_at dksX7_cutAll_11 4 rfl rfl)
theorem dX7_cutAll_261 : decode cX7_cutAll 261 = .ok (.iastore, 1) := dk_79 (dk_at dksX7_cutAll_11 5 rfl rfl)
theorem dX7_cutAll_262 : decode cX7_cutAll 262 = .ok (.iinc 2 1, 3) := dk_132 2 1 (dk_at dksX7_cutAll_11 6 rfl rfl)
theorem dX7_cutAll_265 : decode cX7_cutAll 265 = .ok (.aload_n 0, 1) := dk_42 (dk_at dksX7_cutAll_11 9 rfl rfl)
theorem dX7_cutAll_266 : decode cX7_cutAll 266 = .ok (.getfield 30, 3) := dk_180 0 30 (dk_at dksX7_cutAll_11 10 rfl rfl)
theorem dX7_cutAll_269 : decode cX7_cutAll 269 = .ok (.iload_n 1, 1) := dk_27 (dk_at dksX7_cutAll_11 13 rfl rfl)
theorem dX7_cutAll_270 : decode cX7_cutAll 270 = .ok (.lload 5, 2) := dk_22 5 (dk_at dksX7_cutAll_11 14 rfl rfl)
theorem dX7_cutAll_272 : decode cX7_cutAll 272 = .ok (.lastore, 1) := dk_80 (dk_at dksX7_cutAll_11 16 rfl rfl)
theorem dX7_cutAll_273 : decode cX7_cutAll 273 = .ok (.iinc 1 1, 3) := dk_132 1 1 (dk_at dksX7_cutAll_11 17 rfl rfl)
theorem dX7_cutAll_276 : decode cX7_cutAll 276 = .ok (.goto (-259), 3) := dk_167 254 253 (dk_at dksX7_cutAll_11 20 rfl rfl)
theorem dX7_cutAll_279 : decode cX7_cutAll 279 = .ok (.aload_n 0, 1) := dk_42 (dk_at dksX7_cutAll_11 23 rfl rfl)
theorem dX7_cutAll_280 : decode cX7_cutAll 280 = .ok (.getfield 24, 3) := dk_180 0 24 (dk_at dksX7_cutAll_12 0 rfl rfl)
theorem dX7_cutAll_283 : decode cX7_cutAll 283 = .ok (.iload_n 1, 1) := dk_27 (dk_at dksX7_cutAll_12 3 rfl rfl)
theorem dX7_cutAll_284 : decode cX7_cutAll 284 = .ok (.iconst 0, 1) := dk_3 (dk_at dksX7_cutAll_12 4 rfl rfl)
theorem dX7_cutAll_285 : decode cX7_cutAll 285 = .ok (.iastore, 1) := dk_79 (dk_at dksX7_cutAll_12 5 rfl rfl)
theorem dX7_cutAll_286 : decode cX7_cutAll 286 = .ok (.aload_n 0, 1) := dk_42 (dk_at dksX7_cutAll_12 6 rfl rfl)
theorem dX7_cutAll_287 : decode cX7_cutAll 287 = .ok (.getfield 27, 3) := dk_180 0 27 (dk_at dksX7_cutAll_12 7 rfl rfl)
theorem dX7_cutAll_290 : decode cX7_cutAll 290 = .ok (.iload_n 1, 1) := dk_27 (dk_at dksX7_cutAll_12 10 rfl rfl)
theorem dX7_cutAll_291 : decode cX7_cutAll 291 = .ok (.aload_n 0, 1) := dk_42 (dk_at dksX7_cutAll_12 11 rfl rfl)
theorem dX7_cutAll_292 : decode cX7_cutAll 292 = .ok (.getfield 215, 3) := dk_180 0 215 (dk_at dksX7_cutAll_12 12 rfl rfl)
theorem dX7_cutAll_295 : decode cX7_cutAll 295 = .ok (.iastore, 1) := dk_79 (dk_at dksX7_cutAll_12 15 rfl rfl)
theorem dX7_cutAll_296 : decode cX7_cutAll 296 = .ok (.aload_n 0, 1) := dk_42 (dk_at dksX7_cutAll_12 16 rfl rfl)
theorem dX7_cutAll_297 : decode cX7_cutAll 297 = .ok (.iconst 0, 1) := dk_3 (dk_at dksX7_cutAll_12 17 rfl rfl)
theorem dX7_cutAll_298 : decode cX7_cutAll 298 = .ok (.putfield 234, 3) := dk_181 0 234 (dk_at dksX7_cutAll_12 18 rfl rfl)
theorem dX7_cutAll_301 : decode cX7_cutAll 301 = .ok (.aload_n 0, 1) := dk_42 (dk_at dksX7_cutAll_12 21 rfl rfl)
theorem dX7_cutAll_302 : decode cX7_cutAll 302 = .ok (.iconst 0, 1) := dk_3 (dk_at dksX7_cutAll_12 22 rfl rfl)
theorem dX7_cutAll_303 : decode cX7_cutAll 303 = .ok (.putfield 237, 3) := dk_181 0 237 (dk_at dksX7_cutAll_13 0 rfl rfl)
theorem dX7_cutAll_306 : decode cX7_cutAll 306 = .ok (.return_, 1) := dk_177 (dk_at dksX7_cutAll_13 3 rfl rfl)
def dkwX7_isLetter_0 : List UInt8 := [26, 16, 97, 161, 0, 13, 26, 16, 122, 163, 0, 7, 4, 167, 0, 4, 3, 172]
abbrev dktX7_isLetter_0 : List UInt8 := dkwX7_isLetter_0 ++ []
theorem dksX7_isLetter_0 : cX7_isLetter.data.toList.drop 0 = dktX7_isLetter_0 := by decide +kernel
theorem dX7_isLetter_0 : decode cX7_isLetter 0 = .ok (.iload_n 0, 1) := dk_26 (dk_at dksX7_isLetter_0 0 rfl rfl)
theorem dX7_isLetter_1 : decode cX7_isLetter 1 = .ok (.bipush 97, 2) := dk_16 97 (dk_at dksX7_isLetter_0 1 rfl rfl)
theorem dX7_isLetter_3 : decode cX7_isLetter 3 = .ok (.if_icmp .lt 13, 3) := dk_161 0 13 (dk_at dksX7_isLetter_0 3 rfl rfl)
theorem dX7_isLetter_6 : decode cX7_isLetter 6 = .ok (.iload_n 0, 1) := dk_26 (dk_at dksX7_isLetter_0 6 rfl rfl)
theorem dX7_isLetter_7 : decode cX7_isLetter 7 = .ok (.bipush 122, 2) := dk_16 122 (dk_at dksX7_isLetter_0 7 rfl rfl)
theorem dX7_isLetter_9 : decode cX7_isLetter 9 = .ok (.if_icmp .gt 7, 3) := dk_163 0 7 (dk_at dksX7_isLetter_0 9 rfl rfl)
theorem dX7_isLetter_12 : decode cX7_isLetter 12 = .ok (.iconst 1, 1) := dk_4 (dk_at dksX7_isLetter_0 12 rfl rfl)
theorem dX7_isLetter_13 : decode cX7_isLetter 13 = .ok (.goto 4, 3) := dk_167 0 4 (dk_at dksX7_isLetter_0 13 rfl rfl)
theorem dX7_isLetter_16 : decode cX7_isLetter 16 = .ok (.iconst 0, 1) := dk_3 (dk_at dksX7_isLetter_0 16 rfl rfl)
theorem dX7_isLetter_17 : decode cX7_isLetter 17 = .ok (.ireturn, 1) := dk_172 (dk_at dksX7_isLetter_0 17 rfl rfl)
def dkwX7_rank_0 : List UInt8 := [26, 184, 0, 211, 153, 0, 10, 26, 16, 96, 100, 167, 0, 7, 26, 16, 21, 100, 172]
abbrev dktX7_rank_0 : List UInt8 := dkwX7_rank_0 ++ []
theorem dksX7_rank_0 : cX7_rank.data.toList.drop 0 = dktX7_rank_0 := by decide +kernel
theorem dX7_rank_0 : decode cX7_rank 0 = .ok (.iload_n 0, 1) := dk_26 (dk_at dksX7_rank_0 0 rfl rfl)
theorem dX7_rank_1 : decode cX7_rank 1 = .ok (.invokestatic 211, 3) := dk_184 0 211 (dk_at dksX7_rank_0 1 rfl rfl)
theorem dX7_rank_4 : decode cX7_rank 4 = .ok (.ifCond .eq 10, 3) := dk_153 0 10 (dk_at dksX7_rank_0 4 rfl rfl)
theorem dX7_rank_7 : decode cX7_rank 7 = .ok (.iload_n 0, 1) := dk_26 (dk_at dksX7_rank_0 7 rfl rfl)
theorem dX7_rank_8 : decode cX7_rank 8 = .ok (.bipush 96, 2) := dk_16 96 (dk_at dksX7_rank_0 8 rfl rfl)
theorem dX7_rank_10 : decode cX7_rank 10 = .ok (.isub, 1) := dk_100 (dk_at dksX7_rank_0 10 rfl rfl)
theorem dX7_rank_11 : decode cX7_rank 11 = .ok (.goto 7, 3) := dk_167 0 7 (dk_at dksX7_rank_0 11 rfl rfl)
theorem dX7_rank_14 : decode cX7_rank 14 = .ok (.iload_n 0, 1) := dk_26 (dk_at dksX7_rank_0 14 rfl rfl)
theorem dX7_rank_15 : decode cX7_rank 15 = .ok (.bipush 21, 2) := dk_16 21 (dk_at dksX7_rank_0 15 rfl rfl)
theorem dX7_rank_17 : decode cX7_rank 17 = .ok (.isub, 1) := dk_100 (dk_at dksX7_rank_0 17 rfl rfl)
theorem dX7_rank_18 : decode cX7_rank 18 = .ok (.ireturn, 1) := dk_172 (dk_at dksX7_rank_0 18 rfl rfl)
def dkwX7_isDigit_0 : List UInt8 := [26, 16, 48, 161, 0, 13, 26, 16, 57, 163, 0, 7, 4, 167, 0, 4, 3, 172]
abbrev dktX7_isDigit_0 : List UInt8 := dkwX7_isDigit_0 ++ []
theorem dksX7_isDigit_0 : cX7_isDigit.data.toList.drop 0 = dktX7_isDigit_0 := by decide +kernel
theorem dX7_isDigit_0 : decode cX7_isDigit 0 = .ok (.iload_n 0, 1) := dk_26 (dk_at dksX7_isDigit_0 0 rfl rfl)
theorem dX7_isDigit_1 : decode cX7_isDigit 1 = .ok (.bipush 48, 2) := dk_16 48 (dk_at dksX7_isDigit_0 1 rfl rfl)
theorem dX7_isDigit_3 : decode cX7_isDigit 3 = .ok (.if_icmp .lt 13, 3) := dk_161 0 13 (dk_at dksX7_isDigit_0 3 rfl rfl)
theorem dX7_isDigit_6 : decode cX7_isDigit 6 = .ok (.iload_n 0, 1) := dk_26 (dk_at dksX7_isDigit_0 6 rfl rfl)
theorem dX7_isDigit_7 : decode cX7_isDigit 7 = .ok (.bipush 57, 2) := dk_16 57 (dk_at dksX7_isDigit_0 7 rfl rfl)
theorem dX7_isDigit_9 : decode cX7_isDigit 9 = .ok (.if_icmp .gt 7, 3) := dk_163 0 7 (dk_at dksX7_isDigit_0 9 rfl rfl)
theorem dX7_isDigit_12 : decode cX7_isDigit 12 = .ok (.iconst 1, 1) := dk_4 (dk_at dksX7_isDigit_0 12 rfl rfl)
theorem dX7_isDigit_13 : decode cX7_isDigit 13 = .ok (.goto 4, 3) := dk_167 0 4 (dk_at dksX7_isDigit_0 13 rfl rfl)
theorem dX7_isDigit_16 : decode cX7_isDigit 16 = .ok (.iconst 0, 1) := dk_3 (dk_at dksX7_isDigit_0 16 rfl rfl)
theorem dX7_isDigit_17 : decode cX7_isDigit 17 = .ok (.ireturn, 1) := dk_172 (dk_at dksX7_isDigit_0 17 rfl rfl)
def dkwX7_isSignOf_2 : List UInt8 := [4, 167, 0, 4, 3, 172]
abbrev dktX7_isSignOf_2 : List UInt8 := dkwX7_isSignOf_2 ++ []
def dkwX7_isSignOf_1 : List UInt8 := [26, 16, 60, 159, 0, 21, 26, 16, 43, 159, 0, 15, 26, 16, 45, 159, 0, 9, 26, 16, 42, 160, 0, 7]
abbrev dktX7_isSignOf_1 : List UInt8 := dkwX7_isSignOf_1 ++ dktX7_isSignOf_2
def dkwX7_isSignOf_0 : List UInt8 := [26, 16, 40, 159, 0, 45, 26, 16, 41, 159, 0, 39, 26, 16, 59, 159, 0, 33, 26, 16, 61, 159, 0, 27]
abbrev dktX7_isSignOf_0 : List UInt8 := dkwX7_isSignOf_0 ++ dktX7_isSignOf_1
theorem dksX7_isSignOf_0 : cX7_isSignOf.data.toList.drop 0 = dktX7_isSignOf_0 := by decide +kernel
theorem dksX7_isSignOf_1 : cX7_isSignOf.data.toList.drop 24 = dktX7_isSignOf_1 := dk_seg dksX7_isSignOf_0 24 rfl rfl
theorem dksX7_isSignOf_2 : cX7_isSignOf.data.toList.drop 48 = dktX7_isSignOf_2 := dk_seg dksX7_isSignOf_1 24 rfl rfl
theorem dX7_isSignOf_0 : decode cX7_isSignOf 0 = .ok (.iload_n 0, 1) := dk_26 (dk_at dksX7_isSignOf_0 0 rfl rfl)
theorem dX7_isSignOf_1 : decode cX7_isSignOf 1 = .ok (.bipush 40, 2) := dk_16 40 (dk_at dksX7_isSignOf_0 1 rfl rfl)
theorem dX7_isSignOf_3 : decode cX7_isSignOf 3 = .ok (.if_icmp .eq 45, 3) := dk_159 0 45 (dk_at dksX7_isSignOf_0 3 rfl rfl)
theorem dX7_isSignOf_6 : decode cX7_isSignOf 6 = .ok (.iload_n 0, 1) := dk_26 (dk_at dksX7_isSignOf_0 6 rfl rfl)
theorem dX7_isSignOf_7 : decode cX7_isSignOf 7 = .ok (.bipush 41, 2) := dk_16 41 (dk_at dksX7_isSignOf_0 7 rfl rfl)
theorem dX7_isSignOf_9 : decode cX7_isSignOf 9 = .ok (.if_icmp .eq 39, 3) := dk_159 0 39 (dk_at dksX7_isSignOf_0 9 rfl rfl)
theorem dX7_isSignOf_12 : decode cX7_isSignOf 12 = .ok (.iload_n 0, 1) := dk_26 (dk_at dksX7_isSignOf_0 12 rfl rfl)
theorem dX7_isSignOf_13 : decode cX7_isSignOf 13 = .ok (.bipush 59, 2) := dk_16 59 (dk_at dksX7_isSignOf_0 13 rfl rfl)
theorem dX7_isSignOf_15 : decode cX7_isSignOf 15 = .ok (.if_icmp .eq 33, 3) := dk_159 0 33 (dk_at dksX7_isSignOf_0 15 rfl rfl)
theorem dX7_isSignOf_18 : decode cX7_isSignOf 18 = .ok (.iload_n 0, 1) := dk_26 (dk_at dksX7_isSignOf_0 18 rfl rfl)
theorem dX7_isSignOf_19 : decode cX7_isSignOf 19 = .ok (.bipush 61, 2) := dk_16 61 (dk_at dksX7_isSignOf_0 19 rfl rfl)
theorem dX7_isSignOf_21 : decode cX7_isSignOf 21 = .ok (.if_icmp .eq 27, 3) := dk_159 0 27 (dk_at dksX7_isSignOf_0 21 rfl rfl)
theorem dX7_isSignOf_24 : decode cX7_isSignOf 24 = .ok (.iload_n 0, 1) := dk_26 (dk_at dksX7_isSignOf_1 0 rfl rfl)
theorem dX7_isSignOf_25 : decode cX7_isSignOf 25 = .ok (.bipush 60, 2) := dk_16 60 (dk_at dksX7_isSignOf_1 1 rfl rfl)
theorem dX7_isSignOf_27 : decode cX7_isSignOf 27 = .ok (.if_icmp .eq 21, 3) := dk_159 0 21 (dk_at dksX7_isSignOf_1 3 rfl rfl)
theorem dX7_isSignOf_30 : decode cX7_isSignOf 30 = .ok (.iload_n 0, 1) := dk_26 (dk_at dksX7_isSignOf_1 6 rfl rfl)
theorem dX7_isSignOf_31 : decode cX7_isSignOf 31 = .ok (.bipush 43, 2) := dk_16 43 (dk_at dksX7_isSignOf_1 7 rfl rfl)
theorem dX7_isSignOf_33 : decode cX7_isSignOf 33 = .ok (.if_icmp .eq 15, 3) := dk_159 0 15 (dk_at dksX7_isSignOf_1 9 rfl rfl)
theorem dX7_isSignOf_36 : decode cX7_isSignOf 36 = .ok (.iload_n 0, 1) := dk_26 (dk_at dksX7_isSignOf_1 12 rfl rfl)
theorem dX7_isSignOf_37 : decode cX7_isSignOf 37 = .ok (.bipush 45, 2) := dk_16 45 (dk_at dksX7_isSignOf_1 13 rfl rfl)
theorem dX7_isSignOf_39 : decode cX7_isSignOf 39 = .ok (.if_icmp .eq 9, 3) := dk_159 0 9 (dk_at dksX7_isSignOf_1 15 rfl rfl)
theorem dX7_isSignOf_42 : decode cX7_isSignOf 42 = .ok (.iload_n 0, 1) := dk_26 (dk_at dksX7_isSignOf_1 18 rfl rfl)
theorem dX7_isSignOf_43 : decode cX7_isSignOf 43 = .ok (.bipush 42, 2) := dk_16 42 (dk_at dksX7_isSignOf_1 19 rfl rfl)
theorem dX7_isSignOf_45 : decode cX7_isSignOf 45 = .ok (.if_icmp .ne 7, 3) := dk_160 0 7 (dk_at dksX7_isSignOf_1 21 rfl rfl)
theorem dX7_isSignOf_48 : decode cX7_isSignOf 48 = .ok (.iconst 1, 1) := dk_4 (dk_at dksX7_isSignOf_2 0 rfl rfl)
theorem dX7_isSignOf_49 : decode cX7_isSignOf 49 = .ok (.goto 4, 3) := dk_167 0 4 (dk_at dksX7_isSignOf_2 1 rfl rfl)
theorem dX7_isSignOf_52 : decode cX7_isSignOf 52 = .ok (.iconst 0, 1) := dk_3 (dk_at dksX7_isSignOf_2 4 rfl rfl)
theorem dX7_isSignOf_53 : decode cX7_isSignOf 53 = .ok (.ireturn, 1) := dk_172 (dk_at dksX7_isSignOf_2 5 rfl rfl)
def dkwX7_readLine_4 : List UInt8 := [180, 1, 84, 79, 42, 3, 182, 1, 103, 42, 3, 3, 182, 1, 106, 42, 16, 59, 182, 1, 110, 177]
abbrev dktX7_readLine_4 : List UInt8 := dkwX7_readLine_4 ++ []
def dkwX7_readLine_3 : List UInt8 := [4, 96, 181, 0, 234, 27, 4, 164, 0, 8, 42, 7, 182, 1, 100, 42, 180, 0, 136, 16, 16, 27, 96, 42]
abbrev dktX7_readLine_3 : List UInt8 := dkwX7_readLine_3 ++ dktX7_readLine_4
def dkwX7_readLine_2 : List UInt8 := [27, 96, 46, 155, 0, 8, 42, 6, 182, 0, 243, 42, 180, 0, 237, 158, 0, 4, 177, 42, 89, 180, 0, 234]
abbrev dktX7_readLine_2 : List UInt8 := dkwX7_readLine_2 ++ dktX7_readLine_3
def dkwX7_readLine_1 : List UInt8 := [132, 2, 1, 167, 255, 234, 27, 156, 0, 11, 42, 4, 182, 0, 243, 167, 0, 20, 42, 180, 0, 136, 16, 16]
abbrev dktX7_readLine_1 : List UInt8 := dkwX7_readLine_1 ++ dktX7_readLine_2
def dkwX7_readLine_0 : List UInt8 := [2, 60, 3, 61, 28, 6, 163, 0, 23, 42, 28, 182, 0, 247, 153, 0, 7, 28, 167, 0, 4, 27, 60]
abbrev dktX7_readLine_0 : List UInt8 := dkwX7_readLine_0 ++ dktX7_readLine_1
theorem dksX7_readLine_0 : cX7_readLine.data.toList.drop 0 = dktX7_readLine_0 := by decide +kernel
theorem dksX7_readLine_1 : cX7_readLine.data.toList.drop 23 = dktX7_readLine_1 := dk_seg dksX7_readLine_0 23 rfl rfl
theorem dksX7_readLine_2 : cX7_readLine.data.toList.drop 47 = dktX7_readLine_2 := dk_seg dksX7_readLine_1 24 rfl rfl
theorem dksX7_readLine_3 : cX7_readLine.data.toList.drop 71 = dktX7_readLine_3 := dk_seg dksX7_readLine_2 24 rfl rfl
theorem dksX7_readLine_4 : cX7_readLine.data.toList.drop 95 = dktX7_readLine_4 := dk_seg dksX7_readLine_3 24 rfl rfl
theorem dX7_readLine_0 : decode cX7_readLine 0 = .ok (.iconst (-1), 1) := dk_2 (dk_at dksX7_readLine_0 0 rfl rfl)
theorem dX7_readLine_1 : decode cX7_readLine 1 = .ok (.istore_n 1, 1) := dk_60 (dk_at dksX7_readLine_0 1 rfl rfl)
theorem dX7_readLine_2 : decode cX7_readLine 2 = .ok (.iconst 0, 1) := dk_3 (dk_at dksX7_readLine_0 2 rfl rfl)
theorem dX7_readLine_3 : decode cX7_readLine 3 = .ok (.istore_n 2, 1) := dk_61 (dk_at dksX7_readLine_0 3 rfl rfl)
theorem dX7_readLine_4 : decode cX7_readLine 4 = .ok (.iload_n 2, 1) := dk_28 (dk_at dksX7_readLine_0 4 rfl rfl)
theorem dX7_readLine_5 : decode cX7_readLine 5 = .ok (.iconst 3, 1) := dk_6 (dk_at dksX7_readLine_0 5 rfl rfl)
theorem dX7_readLine_6 : decode cX7_readLine 6 = .ok (.if_icmp .gt 23, 3) := dk_163 0 23 (dk_at dksX7_readLine_0 6 rfl rfl)
theorem dX7_readLine_9 : decode cX7_readLine 9 = .ok (.aload_n 0, 1) := dk_42 (dk_at dksX7_readLine_0 9 rfl rfl)
theorem dX7_readLine_10 : decode cX7_readLine 10 = .ok (.iload_n 2, 1) := dk_28 (dk_at dksX7_readLine_0 10 rfl rfl)
theorem dX7_readLine_11 : decode cX7_readLine 11 = .ok (.invokevirtual 247, 3) := dk_182 0 247 (dk_at dksX7_readLine_0 11 rfl rfl)
theorem dX7_readLine_14 : decode cX7_readLine 14 = .ok (.ifCond .eq 7, 3) := dk_153 0 7 (dk_at dksX7_readLine_0 14 rfl rfl)
theorem dX7_readLine_17 : decode cX7_readLine 17 = .ok (.iload_n 2, 1) := dk_28 (dk_at dksX7_readLine_0 17 rfl rfl)
theorem dX7_readLine_18 : decode cX7_readLine 18 = .ok (.goto 4, 3) := dk_167 0 4 (dk_at dksX7_readLine_0 18 rfl rfl)
theorem dX7_readLine_21 : decode cX7_readLine 21 = .ok (.iload_n 1, 1) := dk_27 (dk_at dksX7_readLine_0 21 rfl rfl)
theorem dX7_readLine_22 : decode cX7_readLine 22 = .ok (.istore_n 1, 1) := dk_60 (dk_at dksX7_readLine_0 22 rfl rfl)
theorem dX7_readLine_23 : decode cX7_readLine 23 = .ok (.iinc 2 1, 3) := dk_132 2 1 (dk_at dksX7_readLine_1 0 rfl rfl)
theorem dX7_readLine_26 : decode cX7_readLine 26 = .ok (.goto (-22), 3) := dk_167 255 234 (dk_at dksX7_readLine_1 3 rfl rfl)
theorem dX7_readLine_29 : decode cX7_readLine 29 = .ok (.iload_n 1, 1) := dk_27 (dk_at dksX7_readLine_1 6 rfl rfl)
theorem dX7_readLine_30 : decode cX7_readLine 30 = .ok (.ifCond .ge 11, 3) := dk_156 0 11 (dk_at dksX7_readLine_1 7 rfl rfl)
theorem dX7_readLine_33 : decode cX7_readLine 33 = .ok (.aload_n 0, 1) := dk_42 (dk_at dksX7_readLine_1 10 rfl rfl)
theorem dX7_readLine_34 : decode cX7_readLine 34 = .ok (.iconst 1, 1) := dk_4 (dk_at dksX7_readLine_1 11 rfl rfl)
theorem dX7_readLine_35 : decode cX7_readLine 35 = .ok (.invokevirtual 243, 3) := dk_182 0 243 (dk_at dksX7_readLine_1 12 rfl rfl)
theorem dX7_readLine_38 : decode cX7_readLine 38 = .ok (.goto 20, 3) := dk_167 0 20 (dk_at dksX7_readLine_1 15 rfl rfl)
theorem dX7_readLine_41 : decode cX7_readLine 41 = .ok (.aload_n 0, 1) := dk_42 (dk_at dksX7_readLine_1 18 rfl rfl)
theorem dX7_readLine_42 : decode cX7_readLine 42 = .ok (.getfield 136, 3) := dk_180 0 136 (dk_at dksX7_readLine_1 19 rfl rfl)
theorem dX7_readLine_45 : decode cX7_readLine 45 = .ok (.bipush 16, 2) := dk_16 16 (dk_at dksX7_readLine_1 22 rfl rfl)
theorem dX7_readLine_47 : decode cX7_readLine 47 = .ok (.iload_n 1, 1) := dk_27 (dk_at dksX7_readLine_2 0 rfl rfl)
theorem dX7_readLine_48 : decode cX7_readLine 48 = .ok (.iadd, 1) := dk_96 (dk_at dksX7_readLine_2 1 rfl rfl)
theorem dX7_readLine_49 : decode cX7_readLine 49 = .ok (.iaload, 1) := dk_46 (dk_at dksX7_readLine_2 2 rfl rfl)
theorem dX7_readLine_50 : decode cX7_readLine 50 = .ok (.ifCond .lt 8, 3) := dk_155 0 8 (dk_at dksX7_readLine_2 3 rfl rfl)
theorem dX7_readLine_53 : decode cX7_readLine 53 = .ok (.aload_n 0, 1) := dk_42 (dk_at dksX7_readLine_2 6 rfl rfl)
theorem dX7_readLine_54 : decode cX7_readLine 54 = .ok (.iconst 3, 1) := dk_6 (dk_at dksX7_readLine_2 7 rfl rfl)
theorem dX7_readLine_55 : decode cX7_readLine 55 = .ok (.invokevirtual 243, 3) := dk_182 0 243 (dk_at dksX7_readLine_2 8 rfl rfl)
theorem dX7_readLine_58 : decode cX7_readLine 58 = .ok (.aload_n 0, 1) := dk_42 (dk_at dksX7_readLine_2 11 rfl rfl)
theorem dX7_readLine_59 : decode cX7_readLine 59 = .ok (.getfield 237, 3) := dk_180 0 237 (dk_at dksX7_readLine_2 12 rfl rfl)
theorem dX7_readLine_62 : decode cX7_readLine 62 = .ok (.ifCond .le 4, 3) := dk_158 0 4 (dk_at dksX7_readLine_2 15 rfl rfl)
theorem dX7_readLine_65 : decode cX7_readLine 65 = .ok (.return_, 1) := dk_177 (dk_at dksX7_readLine_2 18 rfl rfl)
theorem dX7_readLine_66 : decode cX7_readLine 66 = .ok (.aload_n 0, 1) := dk_42 (dk_at dksX7_readLine_2 19 rfl rfl)
theorem dX7_readLine_67 : decode cX7_readLine 67 = .ok (.dup, 1) := dk_89 (dk_at dksX7_readLine_2 20 rfl rfl)
theorem dX7_readLine_68 : decode cX7_readLine 68 = .ok (.getfield 234, 3) := dk_180 0 234 (dk_at dksX7_readLine_2 21 rfl rfl)
theorem dX7_readLine_71 : decode cX7_readLine 71 = .ok (.iconst 1, 1) := dk_4 (dk_at dksX7_readLine_3 0 rfl rfl)
theorem dX7_readLine_72 : decode cX7_readLine 72 = .ok (.iadd, 1) := dk_96 (dk_at dksX7_readLine_3 1 rfl rfl)
theorem dX7_readLine_73 : decode cX7_readLine 73 = .ok (.putfield 234, 3) := dk_181 0 234 (dk_at dksX7_readLine_3 2 rfl rfl)
theorem dX7_readLine_76 : decode cX7_readLine 76 = .ok (.iload_n 1, 1) := dk_27 (dk_at dksX7_readLine_3 5 rfl rfl)
theorem dX7_readLine_77 : decode cX7_readLine 77 = .ok (.iconst 1, 1) := dk_4 (dk_at dksX7_readLine_3 6 rfl rfl)
theorem dX7_readLine_78 : decode cX7_readLine 78 = .ok (.if_icmp .le 8, 3) := dk_164 0 8 (dk_at dksX7_readLine_3 7 rfl rfl)
theorem dX7_readLine_81 : decode cX7_readLine 81 = .ok (.aload_n 0, 1) := dk_42 (dk_at dksX7_readLine_3 10 rfl rfl)
theorem dX7_readLine_82 : decode cX7_readLine 82 = .ok (.iconst 4, 1) := dk_7 (dk_at dksX7_readLine_3 11 rfl rfl)
theorem dX7_readLine_83 : decode cX7_readLine 83 = .ok (.invokevirtual 356, 3) := dk_182 1 100 (dk_at dksX7_readLine_3 12 rfl rfl)
theorem dX7_readLine_86 : decode cX7_readLine 86 = .ok (.aload_n 0, 1) := dk_42 (dk_at dksX7_readLine_3 15 rfl rfl)
theorem dX7_readLine_87 : decode cX7_readLine 87 = .ok (.getfield 136, 3) := dk_180 0 136 (dk_at dksX7_readLine_3 16 rfl rfl)
theorem dX7_readLine_90 : decode cX7_readLine 90 = .ok (.bipush 16, 2) := dk_16 16 (dk_at dksX7_readLine_3 19 rfl rfl)
theorem dX7_readLine_92 : decode cX7_readLine 92 = .ok (.iload_n 1, 1) := dk_27 (dk_at dksX7_readLine_3 21 rfl rfl)
theorem dX7_readLine_93 : decode cX7_readLine 93 = .ok (.iadd, 1) := dk_96 (dk_at dksX7_readLine_3 22 rfl rfl)
theorem dX7_readLine_94 : decode cX7_readLine 94 = .ok (.aload_n 0, 1) := dk_42 (dk_at dksX7_readLine_3 23 rfl rfl)
theorem dX7_readLine_95 : decode cX7_readLine 95 = .ok (.getfield 340, 3) := dk_180 1 84 (dk_at dksX7_readLine_4 0 rfl rfl)
theorem dX7_readLine_98 : decode cX7_readLine 98 = .ok (.iastore, 1) := dk_79 (dk_at dksX7_readLine_4 3 rfl rfl)
theorem dX7_readLine_99 : decode cX7_readLine 99 = .ok (.aload_n 0, 1) := dk_42 (dk_at dksX7_readLine_4 4 rfl rfl)
theorem dX7_readLine_100 : decode cX7_readLine 100 = .ok (.iconst 0, 1) := dk_3 (dk_at dksX7_readLine_4 5 rfl rfl)
theorem dX7_readLine_101 : decode cX7_readLine 101 = .ok (.invokevirtual 359, 3) := dk_182 1 103 (dk_at dksX7_readLine_4 6 rfl rfl)
theorem dX7_readLine_104 : decode cX7_readLine 104 = .ok (.aload_n 0, 1) := dk_42 (dk_at dksX7_readLine_4 9 rfl rfl)
theorem dX7_readLine_105 : decode cX7_readLine 105 = .ok (.iconst 0, 1) := dk_3 (dk_at dksX7_readLine_4 10 rfl rfl)
theorem dX7_readLine_106 : decode cX7_readLine 106 = .ok (.iconst 0, 1) := dk_3 (dk_at dksX7_readLine_4 11 rfl rfl)
theorem dX7_readLine_107 : decode cX7_readLine 107 = .ok (.invokevirtual 362, 3) := dk_182 1 106 (dk_at dksX7_readLine_4 12 rfl rfl)
theorem dX7_readLine_110 : decode cX7_readLine 110 = .ok (.aload_n 0, 1) := dk_42 (dk_at dksX7_readLine_4 15 rfl rfl)
theorem dX7_readLine_111 : decode cX7_readLine 111 = .ok (.bipush 59, 2) := dk_16 59 (dk_at dksX7_readLine_4 16 rfl rfl)
theorem dX7_readLine_113 : decode cX7_readLine 113 = .ok (.invokevirtual 366, 3) := dk_182 1 110 (dk_at dksX7_readLine_4 18 rfl rfl)
theorem dX7_readLine_116 : decode cX7_readLine 116 = .ok (.return_, 1) := dk_177 (dk_at dksX7_readLine_4 21 rfl rfl)
def dkwX7_isWord_1 : List UInt8 := [42, 180, 0, 234, 47, 42, 180, 0, 90, 27, 47, 148, 154, 0, 7, 4, 167, 0, 4, 3, 172]
abbrev dktX7_isWord_1 : List UInt8 := dkwX7_isWord_1 ++ []
def dkwX7_isWord_0 : List UInt8 := [42, 180, 0, 237, 154, 0, 39, 42, 180, 0, 24, 42, 180, 0, 234, 46, 4, 160, 0, 26, 42, 180, 0, 30]
abbrev dktX7_isWord_0 : List UInt8 := dkwX7_isWord_0 ++ dktX7_isWord_1
theorem dksX7_isWord_0 : cX7_isWord.data.toList.drop 0 = dktX7_isWord_0 := by decide +kernel
theorem dksX7_isWord_1 : cX7_isWord.data.toList.drop 24 = dktX7_isWord_1 := dk_seg dksX7_isWord_0 24 rfl rfl
theorem dX7_isWord_0 : decode cX7_isWord 0 = .ok (.aload_n 0, 1) := dk_42 (dk_at dksX7_isWord_0 0 rfl rfl)
theorem dX7_isWord_1 : decode cX7_isWord 1 = .ok (.getfield 237, 3) := dk_180 0 237 (dk_at dksX7_isWord_0 1 rfl rfl)
theorem dX7_isWord_4 : decode cX7_isWord 4 = .ok (.ifCond .ne 39, 3) := dk_154 0 39 (dk_at dksX7_isWord_0 4 rfl rfl)
theorem dX7_isWord_7 : decode cX7_isWord 7 = .ok (.aload_n 0, 1) := dk_42 (dk_at dksX7_isWord_0 7 rfl rfl)
theorem dX7_isWord_8 : decode cX7_isWord 8 = .ok (.getfield 24, 3) := dk_180 0 24 (dk_at dksX7_isWord_0 8 rfl rfl)
theorem dX7_isWord_11 : decode cX7_isWord 11 = .ok (.aload_n 0, 1) := dk_42 (dk_at dksX7_isWord_0 11 rfl rfl)
theorem dX7_isWord_12 : decode cX7_isWord 12 = .ok (.getfield 234, 3) := dk_180 0 234 (dk_at dksX7_isWord_0 12 rfl rfl)
theorem dX7_isWord_15 : decode cX7_isWord 15 = .ok (.iaload, 1) := dk_46 (dk_at dksX7_isWord_0 15 rfl rfl)
theorem dX7_isWord_16 : decode cX7_isWord 16 = .ok (.iconst 1, 1) := dk_4 (dk_at dksX7_isWord_0 16 rfl rfl)
theorem dX7_isWord_17 : decode cX7_isWord 17 = .ok (.if_icmp .ne 26, 3) := dk_160 0 26 (dk_at dksX7_isWord_0 17 rfl rfl)
theorem dX7_isWord_20 : decode cX7_isWord 20 = .ok (.aload_n 0, 1) := dk_42 (dk_at dksX7_isWord_0 20 rfl rfl)
theorem dX7_isWord_21 : decode cX7_isWord 21 = .ok (.getfield 30, 3) := dk_180 0 30 (dk_at dksX7_isWord_0 21 rfl rfl)
theorem dX7_isWord_24 : decode cX7_isWord 24 = .ok (.aload_n 0, 1) := dk_42 (dk_at dksX7_isWord_1 0 rfl rfl)
theorem dX7_isWord_25 : decode cX7_isWord 25 = .ok (.getfield 234, 3) := dk_180 0 234 (dk_at dksX7_isWord_1 1 rfl rfl)
theorem dX7_isWord_28 : decode cX7_isWord 28 = .ok (.laload, 1) := dk_47 (dk_at dksX7_isWord_1 4 rfl rfl)
theorem dX7_isWord_29 : decode cX7_isWord 29 = .ok (.aload_n 0, 1) := dk_42 (dk_at dksX7_isWord_1 5 rfl rfl)
theorem dX7_isWord_30 : decode cX7_isWord 30 = .ok (.getfield 90, 3) := dk_180 0 90 (dk_at dksX7_isWord_1 6 rfl rfl)
theorem dX7_isWord_33 : decode cX7_isWord 33 = .ok (.iload_n 1, 1) := dk_27 (dk_at dksX7_isWord_1 9 rfl rfl)
theorem dX7_isWord_34 : decode cX7_isWord 34 = .ok (.laload, 1) := dk_47 (dk_at dksX7_isWord_1 10 rfl rfl)
theorem dX7_isWord_35 : decode cX7_isWord 35 = .ok (.lcmp, 1) := dk_148 (dk_at dksX7_isWord_1 11 rfl rfl)
theorem dX7_isWord_36 : decode cX7_isWord 36 = .ok (.ifCond .ne 7, 3) := dk_154 0 7 (dk_at dksX7_isWord_1 12 rfl rfl)
theorem dX7_isWord_39 : decode cX7_isWord 39 = .ok (.iconst 1, 1) := dk_4 (dk_at dksX7_isWord_1 15 rfl rfl)
theorem dX7_isWord_40 : decode cX7_isWord 40 = .ok (.goto 4, 3) := dk_167 0 4 (dk_at dksX7_isWord_1 16 rfl rfl)
theorem dX7_isWord_43 : decode cX7_isWord 43 = .ok (.iconst 0, 1) := dk_3 (dk_at dksX7_isWord_1 19 rfl rfl)
theorem dX7_isWord_44 : decode cX7_isWord 44 = .ok (.ireturn, 1) := dk_172 (dk_at dksX7_isWord_1 20 rfl rfl)
def dkwX7_wrong_1 : List UInt8 := [181, 0, 237, 177]
abbrev dktX7_wrong_1 : List UInt8 := dkwX7_wrong_1 ++ []
def dkwX7_wrong_0 : List UInt8 := [42, 180, 0, 237, 154, 0, 21, 42, 27, 16, 16, 42, 180, 0, 27, 42, 180, 0, 234, 46, 104, 96]
abbrev dktX7_wrong_0 : List UInt8 := dkwX7_wrong_0 ++ dktX7_wrong_1
theorem dksX7_wrong_0 : cX7_wrong.data.toList.drop 0 = dktX7_wrong_0 := by decide +kernel
theorem dksX7_wrong_1 : cX7_wrong.data.toList.drop 22 = dktX7_wrong_1 := dk_seg dksX7_wrong_0 22 rfl rfl
theorem dX7_wrong_0 : decode cX7_wrong 0 = .ok (.aload_n 0, 1) := dk_42 (dk_at dksX7_wrong_0 0 rfl rfl)
theorem dX7_wrong_1 : decode cX7_wrong 1 = .ok (.getfield 237, 3) := dk_180 0 237 (dk_at dksX7_wrong_0 1 rfl rfl)
theorem dX7_wrong_4 : decode cX7_wrong 4 = .ok (.ifCond .ne 21, 3) := dk_154 0 21 (dk_at dksX7_wrong_0 4 rfl rfl)
theorem dX7_wrong_7 : decode cX7_wrong 7 = .ok (.aload_n 0, 1) := dk_42 (dk_at dksX7_wrong_0 7 rfl rfl)
theorem dX7_wrong_8 : decode cX7_wrong 8 = .ok (.iload_n 1, 1) := dk_27 (dk_at dksX7_wrong_0 8 rfl rfl)
theorem dX7_wrong_9 : decode cX7_wrong 9 = .ok (.bipush 16, 2) := dk_16 16 (dk_at dksX7_wrong_0 9 rfl rfl)
theorem dX7_wrong_11 : decode cX7_wrong 11 = .ok (.aload_n 0, 1) := dk_42 (dk_at dksX7_wrong_0 11 rfl rfl)
theorem dX7_wrong_12 : decode cX7_wrong 12 = .ok (.getfield 27, 3) := dk_180 0 27 (dk_at dksX7_wrong_0 12 rfl rfl)
theorem dX7_wrong_15 : decode cX7_wrong 15 = .ok (.aload_n 0, 1) := dk_42 (dk_at dksX7_wrong_0 15 rfl rfl)
theorem dX7_wrong_16 : decode cX7_wrong 16 = .ok (.getfield 234, 3) := dk_180 0 234 (dk_at dksX7_wrong_0 16 rfl rfl)
theorem dX7_wrong_19 : decode cX7_wrong 19 = .ok (.iaload, 1) := dk_46 (dk_at dksX7_wrong_0 19 rfl rfl)
theorem dX7_wrong_20 : decode cX7_wrong 20 = .ok (.imul, 1) := dk_104 (dk_at dksX7_wrong_0 20 rfl rfl)
theorem dX7_wrong_21 : decode cX7_wrong 21 = .ok (.iadd, 1) := dk_96 (dk_at dksX7_wrong_0 21 rfl rfl)
theorem dX7_wrong_22 : decode cX7_wrong 22 = .ok (.putfield 237, 3) := dk_181 0 237 (dk_at dksX7_wrong_1 0 rfl rfl)
theorem dX7_wrong_25 : decode cX7_wrong 25 = .ok (.return_, 1) := dk_177 (dk_at dksX7_wrong_1 3 rfl rfl)
def dkwX7_takeWord_0 : List UInt8 := [42, 27, 182, 0, 250, 154, 0, 8, 42, 4, 182, 0, 243, 177]
abbrev dktX7_takeWord_0 : List UInt8 := dkwX7_takeWord_0 ++ []
theorem dksX7_takeWord_0 : cX7_takeWord.data.toList.drop 0 = dktX7_takeWord_0 := by decide +kernel
theorem dX7_takeWord_0 : decode cX7_takeWord 0 = .ok (.aload_n 0, 1) := dk_42 (dk_at dksX7_takeWord_0 0 rfl rfl)
theorem dX7_takeWord_1 : decode cX7_takeWord 1 = .ok (.iload_n 1, 1) := dk_27 (dk_at dksX7_takeWord_0 1 rfl rfl)
theorem dX7_takeWord_2 : decode cX7_takeWord 2 = .ok (.invokevirtual 250, 3) := dk_182 0 250 (dk_at dksX7_takeWord_0 2 rfl rfl)
theorem dX7_takeWord_5 : decode cX7_takeWord 5 = .ok (.ifCond .ne 8, 3) := dk_154 0 8 (dk_at dksX7_takeWord_0 5 rfl rfl)
theorem dX7_takeWord_8 : decode cX7_takeWord 8 = .ok (.aload_n 0, 1) := dk_42 (dk_at dksX7_takeWord_0 8 rfl rfl)
theorem dX7_takeWord_9 : decode cX7_takeWord 9 = .ok (.iconst 1, 1) := dk_4 (dk_at dksX7_takeWord_0 9 rfl rfl)
theorem dX7_takeWord_10 : decode cX7_takeWord 10 = .ok (.invokevirtual 243, 3) := dk_182 0 243 (dk_at dksX7_takeWord_0 10 rfl rfl)
theorem dX7_takeWord_13 : decode cX7_takeWord 13 = .ok (.return_, 1) := dk_177 (dk_at dksX7_takeWord_0 13 rfl rfl)
def dkwX7_hasWord_1 : List UInt8 := [28, 172]
abbrev dktX7_hasWord_1 : List UInt8 := dkwX7_hasWord_1 ++ []
def dkwX7_hasWord_0 : List UInt8 := [42, 27, 182, 0, 247, 61, 42, 89, 180, 0, 234, 28, 153, 0, 7, 4, 167, 0, 4, 3, 96, 181, 0, 234]
abbrev dktX7_hasWord_0 : List UInt8 := dkwX7_hasWord_0 ++ dktX7_hasWord_1
theorem dksX7_hasWord_0 : cX7_hasWord.data.toList.drop 0 = dktX7_hasWord_0 := by decide +kernel
theorem dksX7_hasWord_1 : cX7_hasWord.data.toList.drop 24 = dktX7_hasWord_1 := dk_seg dksX7_hasWord_0 24 rfl rfl
theorem dX7_hasWord_0 : decode cX7_hasWord 0 = .ok (.aload_n 0, 1) := dk_42 (dk_at dksX7_hasWord_0 0 rfl rfl)
theorem dX7_hasWord_1 : decode cX7_hasWord 1 = .ok (.iload_n 1, 1) := dk_27 (dk_at dksX7_hasWord_0 1 rfl rfl)
theorem dX7_hasWord_2 : decode cX7_hasWord 2 = .ok (.invokevirtual 247, 3) := dk_182 0 247 (dk_at dksX7_hasWord_0 2 rfl rfl)
theorem dX7_hasWord_5 : decode cX7_hasWord 5 = .ok (.istore_n 2, 1) := dk_61 (dk_at dksX7_hasWord_0 5 rfl rfl)
theorem dX7_hasWord_6 : decode cX7_hasWord 6 = .ok (.aload_n 0, 1) := dk_42 (dk_at dksX7_hasWord_0 6 rfl rfl)
theorem dX7_hasWord_7 : decode cX7_hasWord 7 = .ok (.dup, 1) := dk_89 (dk_at dksX7_hasWord_0 7 rfl rfl)
theorem dX7_hasWord_8 : decode cX7_hasWord 8 = .ok (.getfield 234, 3) := dk_180 0 234 (dk_at dksX7_hasWord_0 8 rfl rfl)
theorem dX7_hasWord_11 : decode cX7_hasWord 11 = .ok (.iload_n 2, 1) := dk_28 (dk_at dksX7_hasWord_0 11 rfl rfl)
theorem dX7_hasWord_12 : decode cX7_hasWord 12 = .ok (.ifCond .eq 7, 3) := dk_153 0 7 (dk_at dksX7_hasWord_0 12 rfl rfl)
theorem dX7_hasWord_15 : decode cX7_hasWord 15 = .ok (.iconst 1, 1) := dk_4 (dk_at dksX7_hasWord_0 15 rfl rfl)
theorem dX7_hasWord_16 : decode cX7_hasWord 16 = .ok (.goto 4, 3) := dk_167 0 4 (dk_at dksX7_hasWord_0 16 rfl rfl)
theorem dX7_hasWord_19 : decode cX7_hasWord 19 = .ok (.iconst 0, 1) := dk_3 (dk_at dksX7_hasWord_0 19 rfl rfl)
theorem dX7_hasWord_20 : decode cX7_hasWord 20 = .ok (.iadd, 1) := dk_96 (dk_at dksX7_hasWord_0 20 rfl rfl)
theorem dX7_hasWord_21 : decode cX7_hasWord 21 = .ok (.putfield 234, 3) := dk_181 0 234 (dk_at dksX7_hasWord_0 21 rfl rfl)
theorem dX7_hasWord_24 : decode cX7_hasWord 24 = .ok (.iload_n 2, 1) := dk_28 (dk_at dksX7_hasWord_1 0 rfl rfl)
theorem dX7_hasWord_25 : decode cX7_hasWord 25 = .ok (.ireturn, 1) := dk_172 (dk_at dksX7_hasWord_1 1 rfl rfl)
def dkwX7_all_2 : List UInt8 := [16, 9, 167, 0, 5, 16, 10, 3, 182, 1, 106, 167, 255, 202, 177]
abbrev dktX7_all_2 : List UInt8 := dkwX7_all_2 ++ []
def dkwX7_all_1 : List UInt8 := [182, 0, 247, 61, 42, 89, 180, 0, 234, 4, 96, 181, 0, 234, 42, 27, 182, 1, 113, 42, 28, 153, 0, 8]
abbrev dktX7_all_1 : List UInt8 := dkwX7_all_1 ++ dktX7_all_2
def dkwX7_all_0 : List UInt8 := [42, 27, 182, 1, 113, 42, 8, 182, 0, 247, 154, 0, 12, 42, 16, 6, 182, 0, 247, 153, 0, 43, 42, 8]
abbrev dktX7_all_0 : List UInt8 := dkwX7_all_0 ++ dktX7_all_1
theorem dksX7_all_0 : cX7_all.data.toList.drop 0 = dktX7_all_0 := by decide +kernel
theorem dksX7_all_1 : cX7_all.data.toList.drop 24 = dktX7_all_1 := dk_seg dksX7_all_0 24 rfl rfl
theorem dksX7_all_2 : cX7_all.data.toList.drop 48 = dktX7_all_2 := dk_seg dksX7_all_1 24 rfl rfl
theorem dX7_all_0 : decode cX7_all 0 = .ok (.aload_n 0, 1) := dk_42 (dk_at dksX7_all_0 0 rfl rfl)
theorem dX7_all_1 : decode cX7_all 1 = .ok (.iload_n 1, 1) := dk_27 (dk_at dksX7_all_0 1 rfl rfl)
theorem dX7_all_2 : decode cX7_all 2 = .ok (.invokevirtual 369, 3) := dk_182 1 113 (dk_at dksX7_all_0 2 rfl rfl)
theorem dX7_all_5 : decode cX7_all 5 = .ok (.aload_n 0, 1) := dk_42 (dk_at dksX7_all_0 5 rfl rfl)
theorem dX7_all_6 : decode cX7_all 6 = .ok (.iconst 5, 1) := dk_8 (dk_at dksX7_all_0 6 rfl rfl)
theorem dX7_all_7 : decode cX7_all 7 = .ok (.invokevirtual 247, 3) := dk_182 0 247 (dk_at dksX7_all_0 7 rfl rfl)
theorem dX7_all_10 : decode cX7_all 10 = .ok (.ifCond .ne 12, 3) := dk_154 0 12 (dk_at dksX7_all_0 10 rfl rfl)
theorem dX7_all_13 : decode cX7_all 13 = .ok (.aload_n 0, 1) := dk_42 (dk_at dksX7_all_0 13 rfl rfl)
theorem dX7_all_14 : decode cX7_all 14 = .ok (.bipush 6, 2) := dk_16 6 (dk_at dksX7_all_0 14 rfl rfl)
theorem dX7_all_16 : decode cX7_all 16 = .ok (.invokevirtual 247, 3) := dk_182 0 247 (dk_at dksX7_all_0 16 rfl rfl)
theorem dX7_all_19 : decode cX7_all 19 = .ok (.ifCond .eq 43, 3) := dk_153 0 43 (dk_at dksX7_all_0 19 rfl rfl)
theorem dX7_all_22 : decode cX7_all 22 = .ok (.aload_n 0, 1) := dk_42 (dk_at dksX7_all_0 22 rfl rfl)
theorem dX7_all_23 : decode cX7_all 23 = .ok (.iconst 5, 1) := dk_8 (dk_at dksX7_all_0 23 rfl rfl)
theorem dX7_all_24 : decode cX7_all 24 = .ok (.invokevirtual 247, 3) := dk_182 0 247 (dk_at dksX7_all_1 0 rfl rfl)
theorem dX7_all_27 : decode cX7_all 27 = .ok (.istore_n 2, 1) := dk_61 (dk_at dksX7_all_1 3 rfl rfl)
theorem dX7_all_28 : decode cX7_all 28 = .ok (.aload_n 0, 1) := dk_42 (dk_at dksX7_all_1 4 rfl rfl)
theorem dX7_all_29 : decode cX7_all 29 = .ok (.dup, 1) := dk_89 (dk_at dksX7_all_1 5 rfl rfl)
theorem dX7_all_30 : decode cX7_all 30 = .ok (.getfield 234, 3) := dk_180 0 234 (dk_at dksX7_all_1 6 rfl rfl)
theorem dX7_all_33 : decode cX7_all 33 = .ok (.iconst 1, 1) := dk_4 (dk_at dksX7_all_1 9 rfl rfl)
theorem dX7_all_34 : decode cX7_all 34 = .ok (.iadd, 1) := dk_96 (dk_at dksX7_all_1 10 rfl rfl)
theorem dX7_all_35 : decode cX7_all 35 = .ok (.putfield 234, 3) := dk_181 0 234 (dk_at dksX7_all_1 11 rfl rfl)
theorem dX7_all_38 : decode cX7_all 38 = .ok (.aload_n 0, 1) := dk_42 (dk_at dksX7_all_1 14 rfl rfl)
theorem dX7_all_39 : decode cX7_all 39 = .ok (.iload_n 1, 1) := dk_27 (dk_at dksX7_all_1 15 rfl rfl)
theorem dX7_all_40 : decode cX7_all 40 = .ok (.invokevirtual 369, 3) := dk_182 1 113 (dk_at dksX7_all_1 16 rfl rfl)
theorem dX7_all_43 : decode cX7_all 43 = .ok (.aload_n 0, 1) := dk_42 (dk_at dksX7_all_1 19 rfl rfl)
theorem dX7_all_44 : decode cX7_all 44 = .ok (.iload_n 2, 1) := dk_28 (dk_at dksX7_all_1 20 rfl rfl)
theorem dX7_all_45 : decode cX7_all 45 = .ok (.ifCond .eq 8, 3) := dk_153 0 8 (dk_at dksX7_all_1 21 rfl rfl)
theorem dX7_all_48 : decode cX7_all 48 = .ok (.bipush 9, 2) := dk_16 9 (dk_at dksX7_all_2 0 rfl rfl)
theorem dX7_all_50 : decode cX7_all 50 = .ok (.goto 5, 3) := dk_167 0 5 (dk_at dksX7_all_2 2 rfl rfl)
theorem dX7_all_53 : decode cX7_all 53 = .ok (.bipush 10, 2) := dk_16 10 (dk_at dksX7_all_2 5 rfl rfl)
theorem dX7_all_55 : decode cX7_all 55 = .ok (.iconst 0, 1) := dk_3 (dk_at dksX7_all_2 7 rfl rfl)
theorem dX7_all_56 : decode cX7_all 56 = .ok (.invokevirtual 362, 3) := dk_182 1 106 (dk_at dksX7_all_2 8 rfl rfl)
theorem dX7_all_59 : decode cX7_all 59 = .ok (.goto (-54), 3) := dk_167 255 202 (dk_at dksX7_all_2 11 rfl rfl)
theorem dX7_all_62 : decode cX7_all 62 = .ok (.return_, 1) := dk_177 (dk_at dksX7_all_2 14 rfl rfl)
def dkwX7_test_2 : List UInt8 := [182, 1, 106, 177]
abbrev dktX7_test_2 : List UInt8 := dkwX7_test_2 ++ []
def dkwX7_test_1 : List UInt8 := [182, 1, 119, 153, 0, 24, 42, 27, 182, 1, 116, 42, 28, 153, 0, 8, 16, 7, 167, 0, 5, 16, 8, 3]
abbrev dktX7_test_1 : List UInt8 := dkwX7_test_1 ++ dktX7_test_2
def dkwX7_test_0 : List UInt8 := [42, 27, 182, 1, 116, 42, 16, 60, 182, 0, 240, 61, 42, 16, 60, 182, 1, 119, 154, 0, 12, 42, 16, 61]
abbrev dktX7_test_0 : List UInt8 := dkwX7_test_0 ++ dktX7_test_1
theorem dksX7_test_0 : cX7_test.data.toList.drop 0 = dktX7_test_0 := by decide +kernel
theorem dksX7_test_1 : cX7_test.data.toList.drop 24 = dktX7_test_1 := dk_seg dksX7_test_0 24 rfl rfl
theorem dksX7_test_2 : cX7_test.data.toList.drop 48 = dktX7_test_2 := dk_seg dksX7_test_1 24 rfl rfl
theorem dX7_test_0 : decode cX7_test 0 = .ok (.aload_n 0, 1) := dk_42 (dk_at dksX7_test_0 0 rfl rfl)
theorem dX7_test_1 : decode cX7_test 1 = .ok (.iload_n 1, 1) := dk_27 (dk_at dksX7_test_0 1 rfl rfl)
theorem dX7_test_2 : decode cX7_test 2 = .ok (.invokevirtual 372, 3) := dk_182 1 116 (dk_at dksX7_test_0 2 rfl rfl)
theorem dX7_test_5 : decode cX7_test 5 = .ok (.aload_n 0, 1) := dk_42 (dk_at dksX7_test_0 5 rfl rfl)
theorem dX7_test_6 : decode cX7_test 6 = .ok (.bipush 60, 2) := dk_16 60 (dk_at dksX7_test_0 6 rfl rfl)
theorem dX7_test_8 : decode cX7_test 8 = .ok (.invokevirtual 240, 3) := dk_182 0 240 (dk_at dksX7_test_0 8 rfl rfl)
theorem dX7_test_11 : decode cX7_test 11 = .ok (.istore_n 2, 1) := dk_61 (dk_at dksX7_test_0 11 rfl rfl)
theorem dX7_test_12 : decode cX7_test 12 = .ok (.aload_n 0, 1) := dk_42 (dk_at dksX7_test_0 12 rfl rfl)
theorem dX7_test_13 : decode cX7_test 13 = .ok (.bipush 60, 2) := dk_16 60 (dk_at dksX7_test_0 13 rfl rfl)
theorem dX7_test_15 : decode cX7_test 15 = .ok (.invokevirtual 375, 3) := dk_182 1 119 (dk_at dksX7_test_0 15 rfl rfl)
theorem dX7_test_18 : decode cX7_test 18 = .ok (.ifCond .ne 12, 3) := dk_154 0 12 (dk_at dksX7_test_0 18 rfl rfl)
theorem dX7_test_21 : decode cX7_test 21 = .ok (.aload_n 0, 1) := dk_42 (dk_at dksX7_test_0 21 rfl rfl)
theorem dX7_test_22 : decode cX7_test 22 = .ok (.bipush 61, 2) := dk_16 61 (dk_at dksX7_test_0 22 rfl rfl)
theorem dX7_test_24 : decode cX7_test 24 = .ok (.invokevirtual 375, 3) := dk_182 1 119 (dk_at dksX7_test_1 0 rfl rfl)
theorem dX7_test_27 : decode cX7_test 27 = .ok (.ifCond .eq 24, 3) := dk_153 0 24 (dk_at dksX7_test_1 3 rfl rfl)
theorem dX7_test_30 : decode cX7_test 30 = .ok (.aload_n 0, 1) := dk_42 (dk_at dksX7_test_1 6 rfl rfl)
theorem dX7_test_31 : decode cX7_test 31 = .ok (.iload_n 1, 1) := dk_27 (dk_at dksX7_test_1 7 rfl rfl)
theorem dX7_test_32 : decode cX7_test 32 = .ok (.invokevirtual 372, 3) := dk_182 1 116 (dk_at dksX7_test_1 8 rfl rfl)
theorem dX7_test_35 : decode cX7_test 35 = .ok (.aload_n 0, 1) := dk_42 (dk_at dksX7_test_1 11 rfl rfl)
theorem dX7_test_36 : decode cX7_test 36 = .ok (.iload_n 2, 1) := dk_28 (dk_at dksX7_test_1 12 rfl rfl)
theorem dX7_test_37 : decode cX7_test 37 = .ok (.ifCond .eq 8, 3) := dk_153 0 8 (dk_at dksX7_test_1 13 rfl rfl)
theorem dX7_test_40 : decode cX7_test 40 = .ok (.bipush 7, 2) := dk_16 7 (dk_at dksX7_test_1 16 rfl rfl)
theorem dX7_test_42 : decode cX7_test 42 = .ok (.goto 5, 3) := dk_167 0 5 (dk_at dksX7_test_1 18 rfl rfl)
theorem dX7_test_45 : decode cX7_test 45 = .ok (.bipush 8, 2) := dk_16 8 (dk_at dksX7_test_1 21 rfl rfl)
theorem dX7_test_47 : decode cX7_test 47 = .ok (.iconst 0, 1) := dk_3 (dk_at dksX7_test_1 23 rfl rfl)
theorem dX7_test_48 : decode cX7_test 48 = .ok (.invokevirtual 362, 3) := dk_182 1 106 (dk_at dksX7_test_2 0 rfl rfl)
theorem dX7_test_51 : decode cX7_test 51 = .ok (.return_, 1) := dk_177 (dk_at dksX7_test_2 3 rfl rfl)
def dkwX7_sums_2 : List UInt8 := [153, 0, 7, 7, 167, 0, 4, 8, 3, 182, 1, 106, 167, 255, 202, 177]
abbrev dktX7_sums_2 : List UInt8 := dkwX7_sums_2 ++ []
def dkwX7_sums_1 : List UInt8 := [16, 43, 182, 0, 240, 61, 42, 89, 180, 0, 234, 4, 96, 181, 0, 234, 42, 27, 182, 1, 122, 42, 28]
abbrev dktX7_sums_1 : List UInt8 := dkwX7_sums_1 ++ dktX7_sums_2
def dkwX7_sums_0 : List UInt8 := [42, 27, 182, 1, 122, 42, 16, 43, 182, 0, 240, 154, 0, 12, 42, 16, 45, 182, 0, 240, 153, 0, 42, 42]
abbrev dktX7_sums_0 : List UInt8 := dkwX7_sums_0 ++ dktX7_sums_1
theorem dksX7_sums_0 : cX7_sums.data.toList.drop 0 = dktX7_sums_0 := by decide +kernel
theorem dksX7_sums_1 : cX7_sums.data.toList.drop 24 = dktX7_sums_1 := dk_seg dksX7_sums_0 24 rfl rfl
theorem dksX7_sums_2 : cX7_sums.data.toList.drop 47 = dktX7_sums_2 := dk_seg dksX7_sums_1 23 rfl rfl
theorem dX7_sums_0 : decode cX7_sums 0 = .ok (.aload_n 0, 1) := dk_42 (dk_at dksX7_sums_0 0 rfl rfl)
theorem dX7_sums_1 : decode cX7_sums 1 = .ok (.iload_n 1, 1) := dk_27 (dk_at dksX7_sums_0 1 rfl rfl)
theorem dX7_sums_2 : decode cX7_sums 2 = .ok (.invokevirtual 378, 3) := dk_182 1 122 (dk_at dksX7_sums_0 2 rfl rfl)
theorem dX7_sums_5 : decode cX7_sums 5 = .ok (.aload_n 0, 1) := dk_42 (dk_at dksX7_sums_0 5 rfl rfl)
theorem dX7_sums_6 : decode cX7_sums 6 = .ok (.bipush 43, 2) := dk_16 43 (dk_at dksX7_sums_0 6 rfl rfl)
theorem dX7_sums_8 : decode cX7_sums 8 = .ok (.invokevirtual 240, 3) := dk_182 0 240 (dk_at dksX7_sums_0 8 rfl rfl)
theorem dX7_sums_11 : decode cX7_sums 11 = .ok (.ifCond .ne 12, 3) := dk_154 0 12 (dk_at dksX7_sums_0 11 rfl rfl)
theorem dX7_sums_14 : decode cX7_sums 14 = .ok (.aload_n 0, 1) := dk_42 (dk_at dksX7_sums_0 14 rfl rfl)
theorem dX7_sums_15 : decode cX7_sums 15 = .ok (.bipush 45, 2) := dk_16 45 (dk_at dksX7_sums_0 15 rfl rfl)
theorem dX7_sums_17 : decode cX7_sums 17 = .ok (.invokevirtual 240, 3) := dk_182 0 240 (dk_at dksX7_sums_0 17 rfl rfl)
theorem dX7_sums_20 : decode cX7_sums 20 = .ok (.ifCond .eq 42, 3) := dk_153 0 42 (dk_at dksX7_sums_0 20 rfl rfl)
theorem dX7_sums_23 : decode cX7_sums 23 = .ok (.aload_n 0, 1) := dk_42 (dk_at dksX7_sums_0 23 rfl rfl)
theorem dX7_sums_24 : decode cX7_sums 24 = .ok (.bipush 43, 2) := dk_16 43 (dk_at dksX7_sums_1 0 rfl rfl)
theorem dX7_sums_26 : decode cX7_sums 26 = .ok (.invokevirtual 240, 3) := dk_182 0 240 (dk_at dksX7_sums_1 2 rfl rfl)
theorem dX7_sums_29 : decode cX7_sums 29 = .ok (.istore_n 2, 1) := dk_61 (dk_at dksX7_sums_1 5 rfl rfl)
theorem dX7_sums_30 : decode cX7_sums 30 = .ok (.aload_n 0, 1) := dk_42 (dk_at dksX7_sums_1 6 rfl rfl)
theorem dX7_sums_31 : decode cX7_sums 31 = .ok (.dup, 1) := dk_89 (dk_at dksX7_sums_1 7 rfl rfl)
theorem dX7_sums_32 : decode cX7_sums 32 = .ok (.getfield 234, 3) := dk_180 0 234 (dk_at dksX7_sums_1 8 rfl rfl)
theorem dX7_sums_35 : decode cX7_sums 35 = .ok (.iconst 1, 1) := dk_4 (dk_at dksX7_sums_1 11 rfl rfl)
theorem dX7_sums_36 : decode cX7_sums 36 = .ok (.iadd, 1) := dk_96 (dk_at dksX7_sums_1 12 rfl rfl)
theorem dX7_sums_37 : decode cX7_sums 37 = .ok (.putfield 234, 3) := dk_181 0 234 (dk_at dksX7_sums_1 13 rfl rfl)
theorem dX7_sums_40 : decode cX7_sums 40 = .ok (.aload_n 0, 1) := dk_42 (dk_at dksX7_sums_1 16 rfl rfl)
theorem dX7_sums_41 : decode cX7_sums 41 = .ok (.iload_n 1, 1) := dk_27 (dk_at dksX7_sums_1 17 rfl rfl)
theorem dX7_sums_42 : decode cX7_sums 42 = .ok (.invokevirtual 378, 3) := dk_182 1 122 (dk_at dksX7_sums_1 18 rfl rfl)
theorem dX7_sums_45 : decode cX7_sums 45 = .ok (.aload_n 0, 1) := dk_42 (dk_at dksX7_sums_1 21 rfl rfl)
theorem dX7_sums_46 : decode cX7_sums 46 = .ok (.iload_n 2, 1) := dk_28 (dk_at dksX7_sums_1 22 rfl rfl)
theorem dX7_sums_47 : decode cX7_sums 47 = .ok (.ifCond .eq 7, 3) := dk_153 0 7 (dk_at dksX7_sums_2 0 rfl rfl)
theorem dX7_sums_50 : decode cX7_sums 50 = .ok (.iconst 4, 1) := dk_7 (dk_at dksX7_sums_2 3 rfl rfl)
theorem dX7_sums_51 : decode cX7_sums 51 = .ok (.goto 4, 3) := dk_167 0 4 (dk_at dksX7_sums_2 4 rfl rfl)
theorem dX7_sums_54 : decode cX7_sums 54 = .ok (.iconst 5, 1) := dk_8 (dk_at dksX7_sums_2 7 rfl rfl)
theorem dX7_sums_55 : decode cX7_sums 55 = .ok (.iconst 0, 1) := dk_3 (dk_at dksX7_sums_2 8 rfl rfl)
theorem dX7_sums_56 : decode cX7_sums 56 = .ok (.invokevirtual 362, 3) := dk_182 1 106 (dk_at dksX7_sums_2 9 rfl rfl)
theorem dX7_sums_59 : decode cX7_sums 59 = .ok (.goto (-54), 3) := dk_167 255 202 (dk_at dksX7_sums_2 12 rfl rfl)
theorem dX7_sums_62 : decode cX7_sums 62 = .ok (.return_, 1) := dk_177 (dk_at dksX7_sums_2 15 rfl rfl)
def dkwX7_products_1 : List UInt8 := [182, 1, 106, 167, 255, 235, 177]
abbrev dktX7_products_1 : List UInt8 := dkwX7_products_1 ++ []
def dkwX7_products_0 : List UInt8 := [42, 27, 182, 1, 125, 42, 16, 42, 182, 1, 119, 153, 0, 18, 42, 27, 182, 1, 125, 42, 16, 6, 3]
abbrev dktX7_products_0 : List UInt8 := dkwX7_products_0 ++ dktX7_products_1
theorem dksX7_products_0 : cX7_products.data.toList.drop 0 = dktX7_products_0 := by decide +kernel
theorem dksX7_products_1 : cX7_products.data.toList.drop 23 = dktX7_products_1 := dk_seg dksX7_products_0 23 rfl rfl
theorem dX7_products_0 : decode cX7_products 0 = .ok (.aload_n 0, 1) := dk_42 (dk_at dksX7_products_0 0 rfl rfl)
theorem dX7_products_1 : decode cX7_products 1 = .ok (.iload_n 1, 1) := dk_27 (dk_at dksX7_products_0 1 rfl rfl)
theorem dX7_products_2 : decode cX7_products 2 = .ok (.invokevirtual 381, 3) := dk_182 1 125 (dk_at dksX7_products_0 2 rfl rfl)
theorem dX7_products_5 : decode cX7_products 5 = .ok (.aload_n 0, 1) := dk_42 (dk_at dksX7_products_0 5 rfl rfl)
theorem dX7_products_6 : decode cX7_products 6 = .ok (.bipush 42, 2) := dk_16 42 (dk_at dksX7_products_0 6 rfl rfl)
theorem dX7_products_8 : decode cX7_products 8 = .ok (.invokevirtual 375, 3) := dk_182 1 119 (dk_at dksX7_products_0 8 rfl rfl)
theorem dX7_products_11 : decode cX7_products 11 = .ok (.ifCond .eq 18, 3) := dk_153 0 18 (dk_at dksX7_products_0 11 rfl rfl)
theorem dX7_products_14 : decode cX7_products 14 = .ok (.aload_n 0, 1) := dk_42 (dk_at dksX7_products_0 14 rfl rfl)
theorem dX7_products_15 : decode cX7_products 15 = .ok (.iload_n 1, 1) := dk_27 (dk_at dksX7_products_0 15 rfl rfl)
theorem dX7_products_16 : decode cX7_products 16 = .ok (.invokevirtual 381, 3) := dk_182 1 125 (dk_at dksX7_products_0 16 rfl rfl)
theorem dX7_products_19 : decode cX7_products 19 = .ok (.aload_n 0, 1) := dk_42 (dk_at dksX7_products_0 19 rfl rfl)
theorem dX7_products_20 : decode cX7_products 20 = .ok (.bipush 6, 2) := dk_16 6 (dk_at dksX7_products_0 20 rfl rfl)
theorem dX7_products_22 : decode cX7_products 22 = .ok (.iconst 0, 1) := dk_3 (dk_at dksX7_products_0 22 rfl rfl)
theorem dX7_products_23 : decode cX7_products 23 = .ok (.invokevirtual 362, 3) := dk_182 1 106 (dk_at dksX7_products_1 0 rfl rfl)
theorem dX7_products_26 : decode cX7_products 26 = .ok (.goto (-21), 3) := dk_167 255 235 (dk_at dksX7_products_1 3 rfl rfl)
theorem dX7_products_29 : decode cX7_products 29 = .ok (.return_, 1) := dk_177 (dk_at dksX7_products_1 6 rfl rfl)
def dkwX7_takePart_7 : List UInt8 := [167, 0, 4, 28, 182, 1, 106, 42, 89, 180, 0, 234, 4, 96, 181, 0, 234, 177]
abbrev dktX7_takePart_7 : List UInt8 := dkwX7_takePart_7 ++ []
def dkwX7_takePart_6 : List UInt8 := [153, 0, 7, 4, 167, 0, 4, 5, 29, 153, 0, 16, 42, 180, 0, 30, 42, 180, 0, 234, 47, 136]
abbrev dktX7_takePart_6 : List UInt8 := dkwX7_takePart_6 ++ dktX7_takePart_7
def dkwX7_takePart_5 : List UInt8 := [182, 1, 119, 153, 0, 19, 42, 27, 4, 96, 182, 1, 103, 42, 16, 41, 182, 1, 110, 167, 0, 44, 42, 29]
abbrev dktX7_takePart_5 : List UInt8 := dkwX7_takePart_5 ++ dktX7_takePart_6
def dkwX7_takePart_4 : List UInt8 := [153, 0, 19, 42, 27, 4, 96, 182, 1, 125, 42, 6, 3, 182, 1, 106, 167, 0, 69, 42, 16, 40]
abbrev dktX7_takePart_4 : List UInt8 := dkwX7_takePart_4 ++ dktX7_takePart_5
def dkwX7_takePart_3 : List UInt8 := [160, 0, 8, 42, 8, 182, 0, 243, 42, 180, 0, 237, 158, 0, 4, 177, 42, 16, 7, 182, 0, 250]
abbrev dktX7_takePart_3 : List UInt8 := dkwX7_takePart_3 ++ dktX7_takePart_4
def dkwX7_takePart_2 : List UInt8 := [154, 0, 20, 42, 16, 7, 182, 0, 247, 154, 0, 11, 42, 4, 182, 0, 243, 167, 0, 13, 27, 8]
abbrev dktX7_takePart_2 : List UInt8 := dkwX7_takePart_2 ++ dktX7_takePart_3
def dkwX7_takePart_1 : List UInt8 := [160, 0, 7, 4, 167, 0, 4, 3, 62, 28, 156, 0, 33, 29, 154, 0, 29, 42, 16, 40, 182, 0, 240]
abbrev dktX7_takePart_1 : List UInt8 := dkwX7_takePart_1 ++ dktX7_takePart_2
def dkwX7_takePart_0 : List UInt8 := [42, 180, 0, 237, 158, 0, 4, 177, 42, 182, 1, 128, 61, 42, 180, 0, 24, 42, 180, 0, 234, 46, 5]
abbrev dktX7_takePart_0 : List UInt8 := dkwX7_takePart_0 ++ dktX7_takePart_1
theorem dksX7_takePart_0 : cX7_takePart.data.toList.drop 0 = dktX7_takePart_0 := by decide +kernel
theorem dksX7_takePart_1 : cX7_takePart.data.toList.drop 23 = dktX7_takePart_1 := dk_seg dksX7_takePart_0 23 rfl rfl
theorem dksX7_takePart_2 : cX7_takePart.data.toList.drop 46 = dktX7_takePart_2 := dk_seg dksX7_takePart_1 23 rfl rfl
theorem dksX7_takePart_3 : cX7_takePart.data.toList.drop 68 = dktX7_takePart_3 := dk_seg dksX7_takePart_2 22 rfl rfl
theorem dksX7_takePart_4 : cX7_takePart.data.toList.drop 90 = dktX7_takePart_4 := dk_seg dksX7_takePart_3 22 rfl rfl
theorem dksX7_takePart_5 : cX7_takePart.data.toList.drop 112 = dktX7_takePart_5 := dk_seg dksX7_takePart_4 22 rfl rfl
theorem dksX7_takePart_6 : cX7_takePart.data.toList.drop 136 = dktX7_takePart_6 := dk_seg dksX7_takePart_5 24 rfl rfl
theorem dksX7_takePart_7 : cX7_takePart.data.toList.drop 158 = dktX7_takePart_7 := dk_seg dksX7_takePart_6 22 rfl rfl
theorem dX7_takePart_0 : decode cX7_takePart 0 = .ok (.aload_n 0, 1) := dk_42 (dk_at dksX7_takePart_0 0 rfl rfl)
theorem dX7_takePart_1 : decode cX7_takePart 1 = .ok (.getfield 237, 3) := dk_180 0 237 (dk_at dksX7_takePart_0 1 rfl rfl)
theorem dX7_takePart_4 : decode cX7_takePart 4 = .ok (.ifCond .le 4, 3) := dk_158 0 4 (dk_at dksX7_takePart_0 4 rfl rfl)
theorem dX7_takePart_7 : decode cX7_takePart 7 = .ok (.return_, 1) := dk_177 (dk_at dksX7_takePart_0 7 rfl rfl)
theorem dX7_takePart_8 : decode cX7_takePart 8 = .ok (.aload_n 0, 1) := dk_42 (dk_at dksX7_takePart_0 8 rfl rfl)
theorem dX7_takePart_9 : decode cX7_takePart 9 = .ok (.invokevirtual 384, 3) := dk_182 1 128 (dk_at dksX7_takePart_0 9 rfl rfl)
theorem dX7_takePart_12 : decode cX7_takePart 12 = .ok (.istore_n 2, 1) := dk_61 (dk_at dksX7_takePart_0 12 rfl rfl)
theorem dX7_takePart_13 : decode cX7_takePart 13 = .ok (.aload_n 0, 1) := dk_42 (dk_at dksX7_takePart_0 13 rfl rfl)
theorem dX7_takePart_14 : decode cX7_takePart 14 = .ok (.getfield 24, 3) := dk_180 0 24 (dk_at dksX7_takePart_0 14 rfl rfl)
theorem dX7_takePart_17 : decode cX7_takePart 17 = .ok (.aload_n 0, 1) := dk_42 (dk_at dksX7_takePart_0 17 rfl rfl)
theorem dX7_takePart_18 : decode cX7_takePart 18 = .ok (.getfield 234, 3) := dk_180 0 234 (dk_at dksX7_takePart_0 18 rfl rfl)
theorem dX7_takePart_21 : decode cX7_takePart 21 = .ok (.iaload, 1) := dk_46 (dk_at dksX7_takePart_0 21 rfl rfl)
theorem dX7_takePart_22 : decode cX7_takePart 22 = .ok (.iconst 2, 1) := dk_5 (dk_at dksX7_takePart_0 22 rfl rfl)
theorem dX7_takePart_23 : decode cX7_takePart 23 = .ok (.if_icmp .ne 7, 3) := dk_160 0 7 (dk_at dksX7_takePart_1 0 rfl rfl)
theorem dX7_takePart_26 : decode cX7_takePart 26 = .ok (.iconst 1, 1) := dk_4 (dk_at dksX7_takePart_1 3 rfl rfl)
theorem dX7_takePart_27 : decode cX7_takePart 27 = .ok (.goto 4, 3) := dk_167 0 4 (dk_at dksX7_takePart_1 4 rfl rfl)
theorem dX7_takePart_30 : decode cX7_takePart 30 = .ok (.iconst 0, 1) := dk_3 (dk_at dksX7_takePart_1 7 rfl rfl)
theorem dX7_takePart_31 : decode cX7_takePart 31 = .ok (.istore_n 3, 1) := dk_62 (dk_at dksX7_takePart_1 8 rfl rfl)
theorem dX7_takePart_32 : decode cX7_takePart 32 = .ok (.iload_n 2, 1) := dk_28 (dk_at dksX7_takePart_1 9 rfl rfl)
theorem dX7_takePart_33 : decode cX7_takePart 33 = .ok (.ifCond .ge 33, 3) := dk_156 0 33 (dk_at dksX7_takePart_1 10 rfl rfl)
theorem dX7_takePart_36 : decode cX7_takePart 36 = .ok (.iload_n 3, 1) := dk_29 (dk_at dksX7_takePart_1 13 rfl rfl)
theorem dX7_takePart_37 : decode cX7_takePart 37 = .ok (.ifCond .ne 29, 3) := dk_154 0 29 (dk_at dksX7_takePart_1 14 rfl rfl)
theorem dX7_takePart_40 : decode cX7_takePart 40 = .ok (.aload_n 0, 1) := dk_42 (dk_at dksX7_takePart_1 17 rfl rfl)
theorem dX7_takePart_41 : decode cX7_takePart 41 = .ok (.bipush 40, 2) := dk_16 40 (dk_at dksX7_takePart_1 18 rfl rfl)
theorem dX7_takePart_43 : decode cX7_takePart 43 = .ok (.invokevirtual 240, 3) := dk_182 0 240 (dk_at dksX7_takePart_1 20 rfl rfl)
theorem dX7_takePart_46 : decode cX7_takePart 46 = .ok (.ifCond .ne 20, 3) := dk_154 0 20 (dk_at dksX7_takePart_2 0 rfl rfl)
theorem dX7_takePart_49 : decode cX7_takePart 49 = .ok (.aload_n 0, 1) := dk_42 (dk_at dksX7_takePart_2 3 rfl rfl)
theorem dX7_takePart_50 : decode cX7_takePart 50 = .ok (.bipush 7, 2) := dk_16 7 (dk_at dksX7_takePart_2 4 rfl rfl)
theorem dX7_takePart_52 : decode cX7_takePart 52 = .ok (.invokevirtual 247, 3) := dk_182 0 247 (dk_at dksX7_takePart_2 6 rfl rfl)
theorem dX7_takePart_55 : decode cX7_takePart 55 = .ok (.ifCond .ne 11, 3) := dk_154 0 11 (dk_at dksX7_takePart_2 9 rfl rfl)
theorem dX7_takePart_58 : decode cX7_takePart 58 = .ok (.aload_n 0, 1) := dk_42 (dk_at dksX7_takePart_2 12 rfl rfl)
theorem dX7_takePart_59 : decode cX7_takePart 59 = .ok (.iconst 1, 1) := dk_4 (dk_at dksX7_takePart_2 13 rfl rfl)
theorem dX7_takePart_60 : decode cX7_takePart 60 = .ok (.invokevirtual 243, 3) := dk_182 0 243 (dk_at dksX7_takePart_2 14 rfl rfl)
theorem dX7_takePart_63 : decode cX7_takePart 63 = .ok (.goto 13, 3) := dk_167 0 13 (dk_at dksX7_takePart_2 17 rfl rfl)
theorem dX7_takePart_66 : decode cX7_takePart 66 = .ok (.iload_n 1, 1) := dk_27 (dk_at dksX7_takePart_2 20 rfl rfl)
theorem dX7_takePart_67 : decode cX7_takePart 67 = .ok (.iconst 5, 1) := dk_8 (dk_at dksX7_takePart_2 21 rfl rfl)
theorem dX7_takePart_68 : decode cX7_takePart 68 = .ok (.if_icmp .ne 8, 3) := dk_160 0 8 (dk_at dksX7_takePart_3 0 rfl rfl)
theorem dX7_takePart_71 : decode cX7_takePart 71 = .ok (.aload_n 0, 1) := dk_42 (dk_at dksX7_takePart_3 3 rfl rfl)
theorem dX7_takePart_72 : decode cX7_takePart 72 = .ok (.iconst 5, 1) := dk_8 (dk_at dksX7_takePart_3 4 rfl rfl)
theorem dX7_takePart_73 : decode cX7_takePart 73 = .ok (.invokevirtual 243, 3) := dk_182 0 243 (dk_at dksX7_takePart_3 5 rfl rfl)
theorem dX7_takePart_76 : decode cX7_takePart 76 = .ok (.aload_n 0, 1) := dk_42 (dk_at dksX7_takePart_3 8 rfl rfl)
theorem dX7_takePart_77 : decode cX7_takePart 77 = .ok (.getfield 237, 3) := dk_180 0 237 (dk_at dksX7_takePart_3 9 rfl rfl)
theorem dX7_takePart_80 : decode cX7_takePart 80 = .ok (.ifCond .le 4, 3) := dk_158 0 4 (dk_at dksX7_takePart_3 12 rfl rfl)
theorem dX7_takePart_83 : decode cX7_takePart 83 = .ok (.return_, 1) := dk_177 (dk_at dksX7_takePart_3 15 rfl rfl)
theorem dX7_takePart_84 : decode cX7_takePart 84 = .ok (.aload_n 0, 1) := dk_42 (dk_at dksX7_takePart_3 16 rfl rfl)
theorem dX7_takePart_85 : decode cX7_takePart 85 = .ok (.bipush 7, 2) := dk_16 7 (dk_at dksX7_takePart_3 17 rfl rfl)
theorem dX7_takePart_87 : decode cX7_takePart 87 = .ok (.invokevirtual 250, 3) := dk_182 0 250 (dk_at dksX7_takePart_3 19 rfl rfl)
theorem dX7_takePart_90 : decode cX7_takePart 90 = .ok (.ifCond .eq 19, 3) := dk_153 0 19 (dk_at dksX7_takePart_4 0 rfl rfl)
theorem dX7_takePart_93 : decode cX7_takePart 93 = .ok (.aload_n 0, 1) := dk_42 (dk_at dksX7_takePart_4 3 rfl rfl)
theorem dX7_takePart_94 : decode cX7_takePart 94 = .ok (.iload_n 1, 1) := dk_27 (dk_at dksX7_takePart_4 4 rfl rfl)
theorem dX7_takePart_95 : decode cX7_takePart 95 = .ok (.iconst 1, 1) := dk_4 (dk_at dksX7_takePart_4 5 rfl rfl)
theorem dX7_takePart_96 : decode cX7_takePart 96 = .ok (.iadd, 1) := dk_96 (dk_at dksX7_takePart_4 6 rfl rfl)
theorem dX7_takePart_97 : decode cX7_takePart 97 = .ok (.invokevirtual 381, 3) := dk_182 1 125 (dk_at dksX7_takePart_4 7 rfl rfl)
theorem dX7_takePart_100 : decode cX7_takePart 100 = .ok (.aload_n 0, 1) := dk_42 (dk_at dksX7_takePart_4 10 rfl rfl)
theorem dX7_takePart_101 : decode cX7_takePart 101 = .ok (.iconst 3, 1) := dk_6 (dk_at dksX7_takePart_4 11 rfl rfl)
theorem dX7_takePart_102 : decode cX7_takePart 102 = .ok (.iconst 0, 1) := dk_3 (dk_at dksX7_takePart_4 12 rfl rfl)
theorem dX7_takePart_103 : decode cX7_takePart 103 = .ok (.invokevirtual 362, 3) := dk_182 1 106 (dk_at dksX7_takePart_4 13 rfl rfl)
theorem dX7_takePart_106 : decode cX7_takePart 106 = .ok (.goto 69, 3) := dk_167 0 69 (dk_at dksX7_takePart_4 16 rfl rfl)
theorem dX7_takePart_109 : decode cX7_takePart 109 = .ok (.aload_n 0, 1) := dk_42 (dk_at dksX7_takePart_4 19 rfl rfl)
theorem dX7_takePart_110 : decode cX7_takePart 110 = .ok (.bipush 40, 2) := dk_16 40 (dk_at dksX7_takePart_4 20 rfl rfl)
theorem dX7_takePart_112 : decode cX7_takePart 112 = .ok (.invokevirtual 375, 3) := dk_182 1 119 (dk_at dksX7_takePart_5 0 rfl rfl)
theorem dX7_takePart_115 : decode cX7_takePart 115 = .ok (.ifCond .eq 19, 3) := dk_153 0 19 (dk_at dksX7_takePart_5 3 rfl rfl)
theorem dX7_takePart_118 : decode cX7_takePart 118 = .ok (.aload_n 0, 1) := dk_42 (dk_at dksX7_takePart_5 6 rfl rfl)
theorem dX7_takePart_119 : decode cX7_takePart 119 = .ok (.iload_n 1, 1) := dk_27 (dk_at dksX7_takePart_5 7 rfl rfl)
theorem dX7_takePart_120 : decode cX7_takePart 120 = .ok (.iconst 1, 1) := dk_4 (dk_at dksX7_takePart_5 8 rfl rfl)
theorem dX7_takePart_121 : decode cX7_takePart 121 = .ok (.iadd, 1) := dk_96 (dk_at dksX7_takePart_5 9 rfl rfl)
theorem dX7_takePart_122 : decode cX7_takePart 122 = .ok (.invokevirtual 359, 3) := dk_182 1 103 (dk_at dksX7_takePart_5 10 rfl rfl)
theorem dX7_takePart_125 : decode cX7_takePart 125 = .ok (.aload_n 0, 1) := dk_42 (dk_at dksX7_takePart_5 13 rfl rfl)
theorem dX7_takePart_126 : decode cX7_takePart 126 = .ok (.bipush 41, 2) := dk_16 41 (dk_at dksX7_takePart_5 14 rfl rfl)
theorem dX7_takePart_128 : decode cX7_takePart 128 = .ok (.invokevirtual 366, 3) := dk_182 1 110 (dk_at dksX7_takePart_5 16 rfl rfl)
theorem dX7_takePart_131 : decode cX7_takePart 131 = .ok (.goto 44, 3) := dk_167 0 44 (dk_at dksX7_takePart_5 19 rfl rfl)
theorem dX7_takePart_134 : decode cX7_takePart 134 = .ok (.aload_n 0, 1) := dk_42 (dk_at dksX7_takePart_5 22 rfl rfl)
theorem dX7_takePart_135 : decode cX7_takePart 135 = .ok (.iload_n 3, 1) := dk_29 (dk_at dksX7_takePart_5 23 rfl rfl)
theorem dX7_takePart_136 : decode cX7_takePart 136 = .ok (.ifCond .eq 7, 3) := dk_153 0 7 (dk_at dksX7_takePart_6 0 rfl rfl)
theorem dX7_takePart_139 : decode cX7_takePart 139 = .ok (.iconst 1, 1) := dk_4 (dk_at dksX7_takePart_6 3 rfl rfl)
theorem dX7_takePart_140 : decode cX7_takePart 140 = .ok (.goto 4, 3) := dk_167 0 4 (dk_at dksX7_takePart_6 4 rfl rfl)
theorem dX7_takePart_143 : decode cX7_takePart 143 = .ok (.iconst 2, 1) := dk_5 (dk_at dksX7_takePart_6 7 rfl rfl)
theorem dX7_takePart_144 : decode cX7_takePart 144 = .ok (.iload_n 3, 1) := dk_29 (dk_at dksX7_takePart_6 8 rfl rfl)
theorem dX7_takePart_145 : decode cX7_takePart 145 = .ok (.ifCond .eq 16, 3) := dk_153 0 16 (dk_at dksX7_takePart_6 9 rfl rfl)
theorem dX7_takePart_148 : decode cX7_takePart 148 = .ok (.aload_n 0, 1) := dk_42 (dk_at dksX7_takePart_6 12 rfl rfl)
theorem dX7_takePart_149 : decode cX7_takePart 149 = .ok (.getfield 30, 3) := dk_180 0 30 (dk_at dksX7_takePart_6 13 rfl rfl)
theorem dX7_takePart_152 : decode cX7_takePart 152 = .ok (.aload_n 0, 1) := dk_42 (dk_at dksX7_takePart_6 16 rfl rfl)
theorem dX7_takePart_153 : decode cX7_takePart 153 = .ok (.getfield 234, 3) := dk_180 0 234 (dk_at dksX7_takePart_6 17 rfl rfl)
theorem dX7_takePart_156 : decode cX7_takePart 156 = .ok (.laload, 1) := dk_47 (dk_at dksX7_takePart_6 20 rfl rfl)
theorem dX7_takePart_157 : decode cX7_takePart 157 = .ok (.l2i, 1) := dk_136 (dk_at dksX7_takePart_6 21 rfl rfl)
theorem dX7_takePart_158 : decode cX7_takePart 158 = .ok (.goto 4, 3) := dk_167 0 4 (dk_at dksX7_takePart_7 0 rfl rfl)
theorem dX7_takePart_161 : decode cX7_takePart 161 = .ok (.iload_n 2, 1) := dk_28 (dk_at dksX7_takePart_7 3 rfl rfl)
theorem dX7_takePart_162 : decode cX7_takePart 162 = .ok (.invokevirtual 362, 3) := dk_182 1 106 (dk_at dksX7_takePart_7 4 rfl rfl)
theorem dX7_takePart_165 : decode cX7_takePart 165 = .ok (.aload_n 0, 1) := dk_42 (dk_at dksX7_takePart_7 7 rfl rfl)
theorem dX7_takePart_166 : decode cX7_takePart 166 = .ok (.dup, 1) := dk_89 (dk_at dksX7_takePart_7 8 rfl rfl)
theorem dX7_takePart_167 : decode cX7_takePart 167 = .ok (.getfield 234, 3) := dk_180 0 234 (dk_at dksX7_takePart_7 9 rfl rfl)
theorem dX7_takePart_170 : decode cX7_takePart 170 = .ok (.iconst 1, 1) := dk_4 (dk_at dksX7_takePart_7 12 rfl rfl)
theorem dX7_takePart_171 : decode cX7_takePart 171 = .ok (.iadd, 1) := dk_96 (dk_at dksX7_takePart_7 13 rfl rfl)
theorem dX7_takePart_172 : decode cX7_takePart 172 = .ok (.putfield 234, 3) := dk_181 0 234 (dk_at dksX7_takePart_7 14 rfl rfl)
theorem dX7_takePart_175 : decode cX7_takePart 175 = .ok (.return_, 1) := dk_177 (dk_at dksX7_takePart_7 17 rfl rfl)
def dkwX7_factHere_3 : List UInt8 := [167, 0, 4, 27, 60, 132, 2, 1, 167, 255, 221, 27, 172]
abbrev dktX7_factHere_3 : List UInt8 := dkwX7_factHere_3 ++ []
def dkwX7_factHere_2 : List UInt8 := [162, 0, 35, 42, 180, 1, 90, 153, 0, 28, 42, 42, 180, 0, 145, 28, 46, 182, 0, 247, 153, 0, 7, 28]
abbrev dktX7_factHere_2 : List UInt8 := dkwX7_factHere_2 ++ dktX7_factHere_3
def dkwX7_factHere_1 : List UInt8 := [153, 0, 10, 28, 16, 8, 100, 167, 0, 4, 27, 60, 132, 2, 1, 167, 255, 223, 3, 61, 28, 16, 9]
abbrev dktX7_factHere_1 : List UInt8 := dkwX7_factHere_1 ++ dktX7_factHere_2
def dkwX7_factHere_0 : List UInt8 := [2, 60, 16, 8, 61, 28, 16, 18, 162, 0, 33, 42, 180, 1, 90, 154, 0, 26, 42, 28, 182, 0, 247]
abbrev dktX7_factHere_0 : List UInt8 := dkwX7_factHere_0 ++ dktX7_factHere_1
theorem dksX7_factHere_0 : cX7_factHere.data.toList.drop 0 = dktX7_factHere_0 := by decide +kernel
theorem dksX7_factHere_1 : cX7_factHere.data.toList.drop 23 = dktX7_factHere_1 := dk_seg dksX7_factHere_0 23 rfl rfl
theorem dksX7_factHere_2 : cX7_factHere.data.toList.drop 46 = dktX7_factHere_2 := dk_seg dksX7_factHere_1 23 rfl rfl
theorem dksX7_factHere_3 : cX7_factHere.data.toList.drop 70 = dktX7_factHere_3 := dk_seg dksX7_factHere_2 24 rfl rfl
theorem dX7_factHere_0 : decode cX7_factHere 0 = .ok (.iconst (-1), 1) := dk_2 (dk_at dksX7_factHere_0 0 rfl rfl)
theorem dX7_factHere_1 : decode cX7_factHere 1 = .ok (.istore_n 1, 1) := dk_60 (dk_at dksX7_factHere_0 1 rfl rfl)
theorem dX7_factHere_2 : decode cX7_factHere 2 = .ok (.bipush 8, 2) := dk_16 8 (dk_at dksX7_factHere_0 2 rfl rfl)
theorem dX7_factHere_4 : decode cX7_factHere 4 = .ok (.istore_n 2, 1) := dk_61 (dk_at dksX7_factHere_0 4 rfl rfl)
theorem dX7_factHere_5 : decode cX7_factHere 5 = .ok (.iload_n 2, 1) := dk_28 (dk_at dksX7_factHere_0 5 rfl rfl)
theorem dX7_factHere_6 : decode cX7_factHere 6 = .ok (.bipush 18, 2) := dk_16 18 (dk_at dksX7_factHere_0 6 rfl rfl)
theorem dX7_factHere_8 : decode cX7_factHere 8 = .ok (.if_icmp .ge 33, 3) := dk_162 0 33 (dk_at dksX7_factHere_0 8 rfl rfl)
theorem dX7_factHere_11 : decode cX7_factHere 11 = .ok (.aload_n 0, 1) := dk_42 (dk_at dksX7_factHere_0 11 rfl rfl)
theorem dX7_factHere_12 : decode cX7_factHere 12 = .ok (.getfield 346, 3) := dk_180 1 90 (dk_at dksX7_factHere_0 12 rfl rfl)
theorem dX7_factHere_15 : decode cX7_factHere 15 = .ok (.ifCond .ne 26, 3) := dk_154 0 26 (dk_at dksX7_factHere_0 15 rfl rfl)
theorem dX7_factHere_18 : decode cX7_factHere 18 = .ok (.aload_n 0, 1) := dk_42 (dk_at dksX7_factHere_0 18 rfl rfl)
theorem dX7_factHere_19 : decode cX7_factHere 19 = .ok (.iload_n 2, 1) := dk_28 (dk_at dksX7_factHere_0 19 rfl rfl)
theorem dX7_factHere_20 : decode cX7_factHere 20 = .ok (.invokevirtual 247, 3) := dk_182 0 247 (dk_at dksX7_factHere_0 20 rfl rfl)
theorem dX7_factHere_23 : decode cX7_factHere 23 = .ok (.ifCond .eq 10, 3) := dk_153 0 10 (dk_at dksX7_factHere_1 0 rfl rfl)
theorem dX7_factHere_26 : decode cX7_factHere 26 = .ok (.iload_n 2, 1) := dk_28 (dk_at dksX7_factHere_1 3 rfl rfl)
theorem dX7_factHere_27 : decode cX7_factHere 27 = .ok (.bipush 8, 2) := dk_16 8 (dk_at dksX7_factHere_1 4 rfl rfl)
theorem dX7_factHere_29 : decode cX7_factHere 29 = .ok (.isub, 1) := dk_100 (dk_at dksX7_factHere_1 6 rfl rfl)
theorem dX7_factHere_30 : decode cX7_factHere 30 = .ok (.goto 4, 3) := dk_167 0 4 (dk_at dksX7_factHere_1 7 rfl rfl)
theorem dX7_factHere_33 : decode cX7_factHere 33 = .ok (.iload_n 1, 1) := dk_27 (dk_at dksX7_factHere_1 10 rfl rfl)
theorem dX7_factHere_34 : decode cX7_factHere 34 = .ok (.istore_n 1, 1) := dk_60 (dk_at dksX7_factHere_1 11 rfl rfl)
theorem dX7_factHere_35 : decode cX7_factHere 35 = .ok (.iinc 2 1, 3) := dk_132 2 1 (dk_at dksX7_factHere_1 12 rfl rfl)
theorem dX7_factHere_38 : decode cX7_factHere 38 = .ok (.goto (-33), 3) := dk_167 255 223 (dk_at dksX7_factHere_1 15 rfl rfl)
theorem dX7_factHere_41 : decode cX7_factHere 41 = .ok (.iconst 0, 1) := dk_3 (dk_at dksX7_factHere_1 18 rfl rfl)
theorem dX7_factHere_42 : decode cX7_factHere 42 = .ok (.istore_n 2, 1) := dk_61 (dk_at dksX7_factHere_1 19 rfl rfl)
theorem dX7_factHere_43 : decode cX7_factHere 43 = .ok (.iload_n 2, 1) := dk_28 (dk_at dksX7_factHere_1 20 rfl rfl)
theorem dX7_factHere_44 : decode cX7_factHere 44 = .ok (.bipush 9, 2) := dk_16 9 (dk_at dksX7_factHere_1 21 rfl rfl)
theorem dX7_factHere_46 : decode cX7_factHere 46 = .ok (.if_icmp .ge 35, 3) := dk_162 0 35 (dk_at dksX7_factHere_2 0 rfl rfl)
theorem dX7_factHere_49 : decode cX7_factHere 49 = .ok (.aload_n 0, 1) := dk_42 (dk_at dksX7_factHere_2 3 rfl rfl)
theorem dX7_factHere_50 : decode cX7_factHere 50 = .ok (.getfield 346, 3) := dk_180 1 90 (dk_at dksX7_factHere_2 4 rfl rfl)
theorem dX7_factHere_53 : decode cX7_factHere 53 = .ok (.ifCond .eq 28, 3) := dk_153 0 28 (dk_at dksX7_factHere_2 7 rfl rfl)
theorem dX7_factHere_56 : decode cX7_factHere 56 = .ok (.aload_n 0, 1) := dk_42 (dk_at dksX7_factHere_2 10 rfl rfl)
theorem dX7_factHere_57 : decode cX7_factHere 57 = .ok (.aload_n 0, 1) := dk_42 (dk_at dksX7_factHere_2 11 rfl rfl)
theorem dX7_factHere_58 : decode cX7_factHere 58 = .ok (.getfield 145, 3) := dk_180 0 145 (dk_at dksX7_factHere_2 12 rfl rfl)
theorem dX7_factHere_61 : decode cX7_factHere 61 = .ok (.iload_n 2, 1) := dk_28 (dk_at dksX7_factHere_2 15 rfl rfl)
theorem dX7_factHere_62 : decode cX7_factHere 62 = .ok (.iaload, 1) := dk_46 (dk_at dksX7_factHere_2 16 rfl rfl)
theorem dX7_factHere_63 : decode cX7_factHere 63 = .ok (.invokevirtual 247, 3) := dk_182 0 247 (dk_at dksX7_factHere_2 17 rfl rfl)
theorem dX7_factHere_66 : decode cX7_factHere 66 = .ok (.ifCond .eq 7, 3) := dk_153 0 7 (dk_at dksX7_factHere_2 20 rfl rfl)
theorem dX7_factHere_69 : decode cX7_factHere 69 = .ok (.iload_n 2, 1) := dk_28 (dk_at dksX7_factHere_2 23 rfl rfl)
theorem dX7_factHere_70 : decode cX7_factHere 70 = .ok (.goto 4, 3) := dk_167 0 4 (dk_at dksX7_factHere_3 0 rfl rfl)
theorem dX7_factHere_73 : decode cX7_factHere 73 = .ok (.iload_n 1, 1) := dk_27 (dk_at dksX7_factHere_3 3 rfl rfl)
theorem dX7_factHere_74 : decode cX7_factHere 74 = .ok (.istore_n 1, 1) := dk_60 (dk_at dksX7_factHere_3 4 rfl rfl)
theorem dX7_factHere_75 : decode cX7_factHere 75 = .ok (.iinc 2 1, 3) := dk_132 2 1 (dk_at dksX7_factHere_3 5 rfl rfl)
theorem dX7_factHere_78 : decode cX7_factHere 78 = .ok (.goto (-35), 3) := dk_167 255 221 (dk_at dksX7_factHere_3 8 rfl rfl)
theorem dX7_factHere_81 : decode cX7_factHere 81 = .ok (.iload_n 1, 1) := dk_27 (dk_at dksX7_factHere_3 11 rfl rfl)
theorem dX7_factHere_82 : decode cX7_factHere 82 = .ok (.ireturn, 1) := dk_172 (dk_at dksX7_factHere_3 12 rfl rfl)
def dkwX7_isSign_1 : List UInt8 := [42, 180, 0, 234, 47, 27, 133, 148, 154, 0, 7, 4, 167, 0, 4, 3, 172]
abbrev dktX7_isSign_1 : List UInt8 := dkwX7_isSign_1 ++ []
def dkwX7_isSign_0 : List UInt8 := [42, 180, 0, 237, 154, 0, 35, 42, 180, 0, 24, 42, 180, 0, 234, 46, 6, 160, 0, 22, 42, 180, 0, 30]
abbrev dktX7_isSign_0 : List UInt8 := dkwX7_isSign_0 ++ dktX7_isSign_1
theorem dksX7_isSign_0 : cX7_isSign.data.toList.drop 0 = dktX7_isSign_0 := by decide +kernel
theorem dksX7_isSign_1 : cX7_isSign.data.toList.drop 24 = dktX7_isSign_1 := dk_seg dksX7_isSign_0 24 rfl rfl
theorem dX7_isSign_0 : decode cX7_isSign 0 = .ok (.aload_n 0, 1) := dk_42 (dk_at dksX7_isSign_0 0 rfl rfl)
theorem dX7_isSign_1 : decode cX7_isSign 1 = .ok (.getfield 237, 3) := dk_180 0 237 (dk_at dksX7_isSign_0 1 rfl rfl)
theorem dX7_isSign_4 : decode cX7_isSign 4 = .ok (.ifCond .ne 35, 3) := dk_154 0 35 (dk_at dksX7_isSign_0 4 rfl rfl)
theorem dX7_isSign_7 : decode cX7_isSign 7 = .ok (.aload_n 0, 1) := dk_42 (dk_at dksX7_isSign_0 7 rfl rfl)
theorem dX7_isSign_8 : decode cX7_isSign 8 = .ok (.getfield 24, 3) := dk_180 0 24 (dk_at dksX7_isSign_0 8 rfl rfl)
theorem dX7_isSign_11 : decode cX7_isSign 11 = .ok (.aload_n 0, 1) := dk_42 (dk_at dksX7_isSign_0 11 rfl rfl)
theorem dX7_isSign_12 : decode cX7_isSign 12 = .ok (.getfield 234, 3) := dk_180 0 234 (dk_at dksX7_isSign_0 12 rfl rfl)
theorem dX7_isSign_15 : decode cX7_isSign 15 = .ok (.iaload, 1) := dk_46 (dk_at dksX7_isSign_0 15 rfl rfl)
theorem dX7_isSign_16 : decode cX7_isSign 16 = .ok (.iconst 3, 1) := dk_6 (dk_at dksX7_isSign_0 16 rfl rfl)
theorem dX7_isSign_17 : decode cX7_isSign 17 = .ok (.if_icmp .ne 22, 3) := dk_160 0 22 (dk_at dksX7_isSign_0 17 rfl rfl)
theorem dX7_isSign_20 : decode cX7_isSign 20 = .ok (.aload_n 0, 1) := dk_42 (dk_at dksX7_isSign_0 20 rfl rfl)
theorem dX7_isSign_21 : decode cX7_isSign 21 = .ok (.getfield 30, 3) := dk_180 0 30 (dk_at dksX7_isSign_0 21 rfl rfl)
theorem dX7_isSign_24 : decode cX7_isSign 24 = .ok (.aload_n 0, 1) := dk_42 (dk_at dksX7_isSign_1 0 rfl rfl)
theorem dX7_isSign_25 : decode cX7_isSign 25 = .ok (.getfield 234, 3) := dk_180 0 234 (dk_at dksX7_isSign_1 1 rfl rfl)
theorem dX7_isSign_28 : decode cX7_isSign 28 = .ok (.laload, 1) := dk_47 (dk_at dksX7_isSign_1 4 rfl rfl)
theorem dX7_isSign_29 : decode cX7_isSign 29 = .ok (.iload_n 1, 1) := dk_27 (dk_at dksX7_isSign_1 5 rfl rfl)
theorem dX7_isSign_30 : decode cX7_isSign 30 = .ok (.i2l, 1) := dk_133 (dk_at dksX7_isSign_1 6 rfl rfl)
theorem dX7_isSign_31 : decode cX7_isSign 31 = .ok (.lcmp, 1) := dk_148 (dk_at dksX7_isSign_1 7 rfl rfl)
theorem dX7_isSign_32 : decode cX7_isSign 32 = .ok (.ifCond .ne 7, 3) := dk_154 0 7 (dk_at dksX7_isSign_1 8 rfl rfl)
theorem dX7_isSign_35 : decode cX7_isSign 35 = .ok (.iconst 1, 1) := dk_4 (dk_at dksX7_isSign_1 11 rfl rfl)
theorem dX7_isSign_36 : decode cX7_isSign 36 = .ok (.goto 4, 3) := dk_167 0 4 (dk_at dksX7_isSign_1 12 rfl rfl)
theorem dX7_isSign_39 : decode cX7_isSign 39 = .ok (.iconst 0, 1) := dk_3 (dk_at dksX7_isSign_1 15 rfl rfl)
theorem dX7_isSign_40 : decode cX7_isSign 40 = .ok (.ireturn, 1) := dk_172 (dk_at dksX7_isSign_1 16 rfl rfl)
def dkwX7_emit_1 : List UInt8 := [180, 1, 84, 96, 28, 79, 42, 89, 180, 1, 84, 4, 96, 181, 1, 84, 177]
abbrev dktX7_emit_1 : List UInt8 := dkwX7_emit_1 ++ []
def dkwX7_emit_0 : List UInt8 := [42, 180, 0, 139, 17, 17, 48, 42, 180, 1, 84, 96, 27, 79, 42, 180, 0, 142, 17, 17, 48, 42]
abbrev dktX7_emit_0 : List UInt8 := dkwX7_emit_0 ++ dktX7_emit_1
theorem dksX7_emit_0 : cX7_emit.data.toList.drop 0 = dktX7_emit_0 := by decide +kernel
theorem dksX7_emit_1 : cX7_emit.data.toList.drop 22 = dktX7_emit_1 := dk_seg dksX7_emit_0 22 rfl rfl
theorem dX7_emit_0 : decode cX7_emit 0 = .ok (.aload_n 0, 1) := dk_42 (dk_at dksX7_emit_0 0 rfl rfl)
theorem dX7_emit_1 : decode cX7_emit 1 = .ok (.getfield 139, 3) := dk_180 0 139 (dk_at dksX7_emit_0 1 rfl rfl)
theorem dX7_emit_4 : decode cX7_emit 4 = .ok (.sipush 4400, 3) := dk_17 17 48 (dk_at dksX7_emit_0 4 rfl rfl)
theorem dX7_emit_7 : decode cX7_emit 7 = .ok (.aload_n 0, 1) := dk_42 (dk_at dksX7_emit_0 7 rfl rfl)
theorem dX7_emit_8 : decode cX7_emit 8 = .ok (.getfield 340, 3) := dk_180 1 84 (dk_at dksX7_emit_0 8 rfl rfl)
theorem dX7_emit_11 : decode cX7_emit 11 = .ok (.iadd, 1) := dk_96 (dk_at dksX7_emit_0 11 rfl rfl)
theorem dX7_emit_12 : decode cX7_emit 12 = .ok (.iload_n 1, 1) := dk_27 (dk_at dksX7_emit_0 12 rfl rfl)
theorem dX7_emit_13 : decode cX7_emit 13 = .ok (.iastore, 1) := dk_79 (dk_at dksX7_emit_0 13 rfl rfl)
theorem dX7_emit_14 : decode cX7_emit 14 = .ok (.aload_n 0, 1) := dk_42 (dk_at dksX7_emit_0 14 rfl rfl)
theorem dX7_emit_15 : decode cX7_emit 15 = .ok (.getfield 142, 3) := dk_180 0 142 (dk_at dksX7_emit_0 15 rfl rfl)
theorem dX7_emit_18 : decode cX7_emit 18 = .ok (.sipush 4400, 3) := dk_17 17 48 (dk_at dksX7_emit_0 18 rfl rfl)
theorem dX7_emit_21 : decode cX7_emit 21 = .ok (.aload_n 0, 1) := dk_42 (dk_at dksX7_emit_0 21 rfl rfl)
theorem dX7_emit_22 : decode cX7_emit 22 = .ok (.getfield 340, 3) := dk_180 1 84 (dk_at dksX7_emit_1 0 rfl rfl)
theorem dX7_emit_25 : decode cX7_emit 25 = .ok (.iadd, 1) := dk_96 (dk_at dksX7_emit_1 3 rfl rfl)
theorem dX7_emit_26 : decode cX7_emit 26 = .ok (.iload_n 2, 1) := dk_28 (dk_at dksX7_emit_1 4 rfl rfl)
theorem dX7_emit_27 : decode cX7_emit 27 = .ok (.iastore, 1) := dk_79 (dk_at dksX7_emit_1 5 rfl rfl)
theorem dX7_emit_28 : decode cX7_emit 28 = .ok (.aload_n 0, 1) := dk_42 (dk_at dksX7_emit_1 6 rfl rfl)
theorem dX7_emit_29 : decode cX7_emit 29 = .ok (.dup, 1) := dk_89 (dk_at dksX7_emit_1 7 rfl rfl)
theorem dX7_emit_30 : decode cX7_emit 30 = .ok (.getfield 340, 3) := dk_180 1 84 (dk_at dksX7_emit_1 8 rfl rfl)
theorem dX7_emit_33 : decode cX7_emit 33 = .ok (.iconst 1, 1) := dk_4 (dk_at dksX7_emit_1 11 rfl rfl)
theorem dX7_emit_34 : decode cX7_emit 34 = .ok (.iadd, 1) := dk_96 (dk_at dksX7_emit_1 12 rfl rfl)
theorem dX7_emit_35 : decode cX7_emit 35 = .ok (.putfield 340, 3) := dk_181 1 84 (dk_at dksX7_emit_1 13 rfl rfl)
theorem dX7_emit_38 : decode cX7_emit 38 = .ok (.return_, 1) := dk_177 (dk_at dksX7_emit_1 16 rfl rfl)
def dkwX7_hasSign_1 : List UInt8 := [28, 172]
abbrev dktX7_hasSign_1 : List UInt8 := dkwX7_hasSign_1 ++ []
def dkwX7_hasSign_0 : List UInt8 := [42, 27, 182, 0, 240, 61, 42, 89, 180, 0, 234, 28, 153, 0, 7, 4, 167, 0, 4, 3, 96, 181, 0, 234]
abbrev dktX7_hasSign_0 : List UInt8 := dkwX7_hasSign_0 ++ dktX7_hasSign_1
theorem dksX7_hasSign_0 : cX7_hasSign.data.toList.drop 0 = dktX7_hasSign_0 := by decide +kernel
theorem dksX7_hasSign_1 : cX7_hasSign.data.toList.drop 24 = dktX7_hasSign_1 := dk_seg dksX7_hasSign_0 24 rfl rfl
theorem dX7_hasSign_0 : decode cX7_hasSign 0 = .ok (.aload_n 0, 1) := dk_42 (dk_at dksX7_hasSign_0 0 rfl rfl)
theorem dX7_hasSign_1 : decode cX7_hasSign 1 = .ok (.iload_n 1, 1) := dk_27 (dk_at dksX7_hasSign_0 1 rfl rfl)
theorem dX7_hasSign_2 : decode cX7_hasSign 2 = .ok (.invokevirtual 240, 3) := dk_182 0 240 (dk_at dksX7_hasSign_0 2 rfl rfl)
theorem dX7_hasSign_5 : decode cX7_hasSign 5 = .ok (.istore_n 2, 1) := dk_61 (dk_at dksX7_hasSign_0 5 rfl rfl)
theorem dX7_hasSign_6 : decode cX7_hasSign 6 = .ok (.aload_n 0, 1) := dk_42 (dk_at dksX7_hasSign_0 6 rfl rfl)
theorem dX7_hasSign_7 : decode cX7_hasSign 7 = .ok (.dup, 1) := dk_89 (dk_at dksX7_hasSign_0 7 rfl rfl)
theorem dX7_hasSign_8 : decode cX7_hasSign 8 = .ok (.getfield 234, 3) := dk_180 0 234 (dk_at dksX7_hasSign_0 8 rfl rfl)
theorem dX7_hasSign_11 : decode cX7_hasSign 11 = .ok (.iload_n 2, 1) := dk_28 (dk_at dksX7_hasSign_0 11 rfl rfl)
theorem dX7_hasSign_12 : decode cX7_hasSign 12 = .ok (.ifCond .eq 7, 3) := dk_153 0 7 (dk_at dksX7_hasSign_0 12 rfl rfl)
theorem dX7_hasSign_15 : decode cX7_hasSign 15 = .ok (.iconst 1, 1) := dk_4 (dk_at dksX7_hasSign_0 15 rfl rfl)
theorem dX7_hasSign_16 : decode cX7_hasSign 16 = .ok (.goto 4, 3) := dk_167 0 4 (dk_at dksX7_hasSign_0 16 rfl rfl)
theorem dX7_hasSign_19 : decode cX7_hasSign 19 = .ok (.iconst 0, 1) := dk_3 (dk_at dksX7_hasSign_0 19 rfl rfl)
theorem dX7_hasSign_20 : decode cX7_hasSign 20 = .ok (.iadd, 1) := dk_96 (dk_at dksX7_hasSign_0 20 rfl rfl)
theorem dX7_hasSign_21 : decode cX7_hasSign 21 = .ok (.putfield 234, 3) := dk_181 0 234 (dk_at dksX7_hasSign_0 21 rfl rfl)
theorem dX7_hasSign_24 : decode cX7_hasSign 24 = .ok (.iload_n 2, 1) := dk_28 (dk_at dksX7_hasSign_1 0 rfl rfl)
theorem dX7_hasSign_25 : decode cX7_hasSign 25 = .ok (.ireturn, 1) := dk_172 (dk_at dksX7_hasSign_1 1 rfl rfl)
def dkwX7_takeSign_1 : List UInt8 := [182, 0, 243, 177]
abbrev dktX7_takeSign_1 : List UInt8 := dkwX7_takeSign_1 ++ []
def dkwX7_takeSign_0 : List UInt8 := [42, 27, 182, 0, 240, 153, 0, 16, 42, 89, 180, 0, 234, 4, 96, 181, 0, 234, 167, 0, 8, 42, 4]
abbrev dktX7_takeSign_0 : List UInt8 := dkwX7_takeSign_0 ++ dktX7_takeSign_1
theorem dksX7_takeSign_0 : cX7_takeSign.data.toList.drop 0 = dktX7_takeSign_0 := by decide +kernel
theorem dksX7_takeSign_1 : cX7_takeSign.data.toList.drop 23 = dktX7_takeSign_1 := dk_seg dksX7_takeSign_0 23 rfl rfl
theorem dX7_takeSign_0 : decode cX7_takeSign 0 = .ok (.aload_n 0, 1) := dk_42 (dk_at dksX7_takeSign_0 0 rfl rfl)
theorem dX7_takeSign_1 : decode cX7_takeSign 1 = .ok (.iload_n 1, 1) := dk_27 (dk_at dksX7_takeSign_0 1 rfl rfl)
theorem dX7_takeSign_2 : decode cX7_takeSign 2 = .ok (.invokevirtual 240, 3) := dk_182 0 240 (dk_at dksX7_takeSign_0 2 rfl rfl)
theorem dX7_takeSign_5 : decode cX7_takeSign 5 = .ok (.ifCond .eq 16, 3) := dk_153 0 16 (dk_at dksX7_takeSign_0 5 rfl rfl)
theorem dX7_takeSign_8 : decode cX7_takeSign 8 = .ok (.aload_n 0, 1) := dk_42 (dk_at dksX7_takeSign_0 8 rfl rfl)
theorem dX7_takeSign_9 : decode cX7_takeSign 9 = .ok (.dup, 1) := dk_89 (dk_at dksX7_takeSign_0 9 rfl rfl)
theorem dX7_takeSign_10 : decode cX7_takeSign 10 = .ok (.getfield 234, 3) := dk_180 0 234 (dk_at dksX7_takeSign_0 10 rfl rfl)
theorem dX7_takeSign_13 : decode cX7_takeSign 13 = .ok (.iconst 1, 1) := dk_4 (dk_at dksX7_takeSign_0 13 rfl rfl)
theorem dX7_takeSign_14 : decode cX7_takeSign 14 = .ok (.iadd, 1) := dk_96 (dk_at dksX7_takeSign_0 14 rfl rfl)
theorem dX7_takeSign_15 : decode cX7_takeSign 15 = .ok (.putfield 234, 3) := dk_181 0 234 (dk_at dksX7_takeSign_0 15 rfl rfl)
theorem dX7_takeSign_18 : decode cX7_takeSign 18 = .ok (.goto 8, 3) := dk_167 0 8 (dk_at dksX7_takeSign_0 18 rfl rfl)
theorem dX7_takeSign_21 : decode cX7_takeSign 21 = .ok (.aload_n 0, 1) := dk_42 (dk_at dksX7_takeSign_0 21 rfl rfl)
theorem dX7_takeSign_22 : decode cX7_takeSign 22 = .ok (.iconst 1, 1) := dk_4 (dk_at dksX7_takeSign_0 22 rfl rfl)
theorem dX7_takeSign_23 : decode cX7_takeSign 23 = .ok (.invokevirtual 243, 3) := dk_182 0 243 (dk_at dksX7_takeSign_1 0 rfl rfl)
theorem dX7_takeSign_26 : decode cX7_takeSign 26 = .ok (.return_, 1) := dk_177 (dk_at dksX7_takeSign_1 3 rfl rfl)
def dkwX7_keepsCodes_2 : List UInt8 := [180, 0, 142, 17, 17, 48, 28, 96, 46, 79, 132, 2, 1, 167, 255, 201, 177]
abbrev dktX7_keepsCodes_2 : List UInt8 := dkwX7_keepsCodes_2 ++ []
def dkwX7_keepsCodes_1 : List UInt8 := [180, 0, 139, 17, 17, 48, 28, 96, 46, 79, 42, 180, 0, 142, 17, 4, 76, 27, 104, 28, 96, 42]
abbrev dktX7_keepsCodes_1 : List UInt8 := dkwX7_keepsCodes_1 ++ dktX7_keepsCodes_2
def dkwX7_keepsCodes_0 : List UInt8 := [3, 61, 28, 42, 180, 1, 84, 162, 0, 53, 42, 180, 0, 139, 17, 4, 76, 27, 104, 28, 96, 42]
abbrev dktX7_keepsCodes_0 : List UInt8 := dkwX7_keepsCodes_0 ++ dktX7_keepsCodes_1
theorem dksX7_keepsCodes_0 : cX7_keepsCodes.data.toList.drop 0 = dktX7_keepsCodes_0 := by decide +kernel
theorem dksX7_keepsCodes_1 : cX7_keepsCodes.data.toList.drop 22 = dktX7_keepsCodes_1 := dk_seg dksX7_keepsCodes_0 22 rfl rfl
theorem dksX7_keepsCodes_2 : cX7_keepsCodes.data.toList.drop 44 = dktX7_keepsCodes_2 := dk_seg dksX7_keepsCodes_1 22 rfl rfl
theorem dX7_keepsCodes_0 : decode cX7_keepsCodes 0 = .ok (.iconst 0, 1) := dk_3 (dk_at dksX7_keepsCodes_0 0 rfl rfl)
theorem dX7_keepsCodes_1 : decode cX7_keepsCodes 1 = .ok (.istore_n 2, 1) := dk_61 (dk_at dksX7_keepsCodes_0 1 rfl rfl)
theorem dX7_keepsCodes_2 : decode cX7_keepsCodes 2 = .ok (.iload_n 2, 1) := dk_28 (dk_at dksX7_keepsCodes_0 2 rfl rfl)
theorem dX7_keepsCodes_3 : decode cX7_keepsCodes 3 = .ok (.aload_n 0, 1) := dk_42 (dk_at dksX7_keepsCodes_0 3 rfl rfl)
theorem dX7_keepsCodes_4 : decode cX7_keepsCodes 4 = .ok (.getfield 340, 3) := dk_180 1 84 (dk_at dksX7_keepsCodes_0 4 rfl rfl)
theorem dX7_keepsCodes_7 : decode cX7_keepsCodes 7 = .ok (.if_icmp .ge 53, 3) := dk_162 0 53 (dk_at dksX7_keepsCodes_0 7 rfl rfl)
theorem dX7_keepsCodes_10 : decode cX7_keepsCodes 10 = .ok (.aload_n 0, 1) := dk_42 (dk_at dksX7_keepsCodes_0 10 rfl rfl)
theorem dX7_keepsCodes_11 : decode cX7_keepsCodes 11 = .ok (.getfield 139, 3) := dk_180 0 139 (dk_at dksX7_keepsCodes_0 11 rfl rfl)
theorem dX7_keepsCodes_14 : decode cX7_keepsCodes 14 = .ok (.sipush 1100, 3) := dk_17 4 76 (dk_at dksX7_keepsCodes_0 14 rfl rfl)
theorem dX7_keepsCodes_17 : decode cX7_keepsCodes 17 = .ok (.iload_n 1, 1) := dk_27 (dk_at dksX7_keepsCodes_0 17 rfl rfl)
theorem dX7_keepsCodes_18 : decode cX7_keepsCodes 18 = .ok (.imul, 1) := dk_104 (dk_at dksX7_keepsCodes_0 18 rfl rfl)
theorem dX7_keepsCodes_19 : decode cX7_keepsCodes 19 = .ok (.iload_n 2, 1) := dk_28 (dk_at dksX7_keepsCodes_0 19 rfl rfl)
theorem dX7_keepsCodes_20 : decode cX7_keepsCodes 20 = .ok (.iadd, 1) := dk_96 (dk_at dksX7_keepsCodes_0 20 rfl rfl)
theorem dX7_keepsCodes_21 : decode cX7_keepsCodes 21 = .ok (.aload_n 0, 1) := dk_42 (dk_at dksX7_keepsCodes_0 21 rfl rfl)
theorem dX7_keepsCodes_22 : decode cX7_keepsCodes 22 = .ok (.getfield 139, 3) := dk_180 0 139 (dk_at dksX7_keepsCodes_1 0 rfl rfl)
theorem dX7_keepsCodes_25 : decode cX7_keepsCodes 25 = .ok (.sipush 4400, 3) := dk_17 17 48 (dk_at dksX7_keepsCodes_1 3 rfl rfl)
theorem dX7_keepsCodes_28 : decode cX7_keepsCodes 28 = .ok (.iload_n 2, 1) := dk_28 (dk_at dksX7_keepsCodes_1 6 rfl rfl)
theorem dX7_keepsCodes_29 : decode cX7_keepsCodes 29 = .ok (.iadd, 1) := dk_96 (dk_at dksX7_keepsCodes_1 7 rfl rfl)
theorem dX7_keepsCodes_30 : decode cX7_keepsCodes 30 = .ok (.iaload, 1) := dk_46 (dk_at dksX7_keepsCodes_1 8 rfl rfl)
theorem dX7_keepsCodes_31 : decode cX7_keepsCodes 31 = .ok (.iastore, 1) := dk_79 (dk_at dksX7_keepsCodes_1 9 rfl rfl)
theorem dX7_keepsCodes_32 : decode cX7_keepsCodes 32 = .ok (.aload_n 0, 1) := dk_42 (dk_at dksX7_keepsCodes_1 10 rfl rfl)
theorem dX7_keepsCodes_33 : decode cX7_keepsCodes 33 = .ok (.getfield 142, 3) := dk_180 0 142 (dk_at dksX7_keepsCodes_1 11 rfl rfl)
theorem dX7_keepsCodes_36 : decode cX7_keepsCodes 36 = .ok (.sipush 1100, 3) := dk_17 4 76 (dk_at dksX7_keepsCodes_1 14 rfl rfl)
theorem dX7_keepsCodes_39 : decode cX7_keepsCodes 39 = .ok (.iload_n 1, 1) := dk_27 (dk_at dksX7_keepsCodes_1 17 rfl rfl)
theorem dX7_keepsCodes_40 : decode cX7_keepsCodes 40 = .ok (.imul, 1) := dk_104 (dk_at dksX7_keepsCodes_1 18 rfl rfl)
theorem dX7_keepsCodes_41 : decode cX7_keepsCodes 41 = .ok (.iload_n 2, 1) := dk_28 (dk_at dksX7_keepsCodes_1 19 rfl rfl)
theorem dX7_keepsCodes_42 : decode cX7_keepsCodes 42 = .ok (.iadd, 1) := dk_96 (dk_at dksX7_keepsCodes_1 20 rfl rfl)
theorem dX7_keepsCodes_43 : decode cX7_keepsCodes 43 = .ok (.aload_n 0, 1) := dk_42 (dk_at dksX7_keepsCodes_1 21 rfl rfl)
theorem dX7_keepsCodes_44 : decode cX7_keepsCodes 44 = .ok (.getfield 142, 3) := dk_180 0 142 (dk_at dksX7_keepsCodes_2 0 rfl rfl)
theorem dX7_keepsCodes_47 : decode cX7_keepsCodes 47 = .ok (.sipush 4400, 3) := dk_17 17 48 (dk_at dksX7_keepsCodes_2 3 rfl rfl)
theorem dX7_keepsCodes_50 : decode cX7_keepsCodes 50 = .ok (.iload_n 2, 1) := dk_28 (dk_at dksX7_keepsCodes_2 6 rfl rfl)
theorem dX7_keepsCodes_51 : decode cX7_keepsCodes 51 = .ok (.iadd, 1) := dk_96 (dk_at dksX7_keepsCodes_2 7 rfl rfl)
theorem dX7_keepsCodes_52 : decode cX7_keepsCodes 52 = .ok (.iaload, 1) := dk_46 (dk_at dksX7_keepsCodes_2 8 rfl rfl)
theorem dX7_keepsCodes_53 : decode cX7_keepsCodes 53 = .ok (.iastore, 1) := dk_79 (dk_at dksX7_keepsCodes_2 9 rfl rfl)
theorem dX7_keepsCodes_54 : decode cX7_keepsCodes 54 = .ok (.iinc 2 1, 3) := dk_132 2 1 (dk_at dksX7_keepsCodes_2 10 rfl rfl)
theorem dX7_keepsCodes_57 : decode cX7_keepsCodes 57 = .ok (.goto (-55), 3) := dk_167 255 201 (dk_at dksX7_keepsCodes_2 13 rfl rfl)
theorem dX7_keepsCodes_60 : decode cX7_keepsCodes 60 = .ok (.return_, 1) := dk_177 (dk_at dksX7_keepsCodes_2 16 rfl rfl)
def dkwX7_world_2 : List UInt8 := [182, 1, 159, 42, 29, 21, 4, 182, 1, 162, 172]
abbrev dktX7_world_2 : List UInt8 := dkwX7_world_2 ++ []
def dkwX7_world_1 : List UInt8 := [153, 0, 19, 42, 29, 182, 1, 1, 153, 0, 11, 21, 4, 184, 1, 4, 154, 0, 5, 2, 172, 42, 27, 28]
abbrev dktX7_world_1 : List UInt8 := dkwX7_world_1 ++ dktX7_world_2
def dkwX7_world_0 : List UInt8 := [42, 3, 181, 0, 1, 27, 3, 6, 184, 0, 253, 153, 0, 30, 28, 3, 17, 39, 15, 184, 0, 253]
abbrev dktX7_world_0 : List UInt8 := dkwX7_world_0 ++ dktX7_world_1
theorem dksX7_world_0 : cX7_world.data.toList.drop 0 = dktX7_world_0 := by decide +kernel
theorem dksX7_world_1 : cX7_world.data.toList.drop 22 = dktX7_world_1 := dk_seg dksX7_world_0 22 rfl rfl
theorem dksX7_world_2 : cX7_world.data.toList.drop 46 = dktX7_world_2 := dk_seg dksX7_world_1 24 rfl rfl
theorem dX7_world_0 : decode cX7_world 0 = .ok (.aload_n 0, 1) := dk_42 (dk_at dksX7_world_0 0 rfl rfl)
theorem dX7_world_1 : decode cX7_world 1 = .ok (.iconst 0, 1) := dk_3 (dk_at dksX7_world_0 1 rfl rfl)
theorem dX7_world_2 : decode cX7_world 2 = .ok (.putfield 1, 3) := dk_181 0 1 (dk_at dksX7_world_0 2 rfl rfl)
theorem dX7_world_5 : decode cX7_world 5 = .ok (.iload_n 1, 1) := dk_27 (dk_at dksX7_world_0 5 rfl rfl)
theorem dX7_world_6 : decode cX7_world 6 = .ok (.iconst 0, 1) := dk_3 (dk_at dksX7_world_0 6 rfl rfl)
theorem dX7_world_7 : decode cX7_world 7 = .ok (.iconst 3, 1) := dk_6 (dk_at dksX7_world_0 7 rfl rfl)
theorem dX7_world_8 : decode cX7_world 8 = .ok (.invokestatic 253, 3) := dk_184 0 253 (dk_at dksX7_world_0 8 rfl rfl)
theorem dX7_world_11 : decode cX7_world 11 = .ok (.ifCond .eq 30, 3) := dk_153 0 30 (dk_at dksX7_world_0 11 rfl rfl)
theorem dX7_world_14 : decode cX7_world 14 = .ok (.iload_n 2, 1) := dk_28 (dk_at dksX7_world_0 14 rfl rfl)
theorem dX7_world_15 : decode cX7_world 15 = .ok (.iconst 0, 1) := dk_3 (dk_at dksX7_world_0 15 rfl rfl)
theorem dX7_world_16 : decode cX7_world 16 = .ok (.sipush 9999, 3) := dk_17 39 15 (dk_at dksX7_world_0 16 rfl rfl)
theorem dX7_world_19 : decode cX7_world 19 = .ok (.invokestatic 253, 3) := dk_184 0 253 (dk_at dksX7_world_0 19 rfl rfl)
theorem dX7_world_22 : decode cX7_world 22 = .ok (.ifCond .eq 19, 3) := dk_153 0 19 (dk_at dksX7_world_1 0 rfl rfl)
theorem dX7_world_25 : decode cX7_world 25 = .ok (.aload_n 0, 1) := dk_42 (dk_at dksX7_world_1 3 rfl rfl)
theorem dX7_world_26 : decode cX7_world 26 = .ok (.iload_n 3, 1) := dk_29 (dk_at dksX7_world_1 4 rfl rfl)
theorem dX7_world_27 : decode cX7_world 27 = .ok (.invokevirtual 257, 3) := dk_182 1 1 (dk_at dksX7_world_1 5 rfl rfl)
theorem dX7_world_30 : decode cX7_world 30 = .ok (.ifCond .eq 11, 3) := dk_153 0 11 (dk_at dksX7_world_1 8 rfl rfl)
theorem dX7_world_33 : decode cX7_world 33 = .ok (.iload 4, 2) := dk_21 4 (dk_at dksX7_world_1 11 rfl rfl)
theorem dX7_world_35 : decode cX7_world 35 = .ok (.invokestatic 260, 3) := dk_184 1 4 (dk_at dksX7_world_1 13 rfl rfl)
theorem dX7_world_38 : decode cX7_world 38 = .ok (.ifCond .ne 5, 3) := dk_154 0 5 (dk_at dksX7_world_1 16 rfl rfl)
theorem dX7_world_41 : decode cX7_world 41 = .ok (.iconst (-1), 1) := dk_2 (dk_at dksX7_world_1 19 rfl rfl)
theorem dX7_world_42 : decode cX7_world 42 = .ok (.ireturn, 1) := dk_172 (dk_at dksX7_world_1 20 rfl rfl)
theorem dX7_world_43 : decode cX7_world 43 = .ok (.aload_n 0, 1) := dk_42 (dk_at dksX7_world_1 21 rfl rfl)
theorem dX7_world_44 : decode cX7_world 44 = .ok (.iload_n 1, 1) := dk_27 (dk_at dksX7_world_1 22 rfl rfl)
theorem dX7_world_45 : decode cX7_world 45 = .ok (.iload_n 2, 1) := dk_28 (dk_at dksX7_world_1 23 rfl rfl)
theorem dX7_world_46 : decode cX7_world 46 = .ok (.invokevirtual 415, 3) := dk_182 1 159 (dk_at dksX7_world_2 0 rfl rfl)
theorem dX7_world_49 : decode cX7_world 49 = .ok (.aload_n 0, 1) := dk_42 (dk_at dksX7_world_2 3 rfl rfl)
theorem dX7_world_50 : decode cX7_world 50 = .ok (.iload_n 3, 1) := dk_29 (dk_at dksX7_world_2 4 rfl rfl)
theorem dX7_world_51 : decode cX7_world 51 = .ok (.iload 4, 2) := dk_21 4 (dk_at dksX7_world_2 5 rfl rfl)
theorem dX7_world_53 : decode cX7_world 53 = .ok (.invokevirtual 418, 3) := dk_182 1 162 (dk_at dksX7_world_2 7 rfl rfl)
theorem dX7_world_56 : decode cX7_world 56 = .ok (.ireturn, 1) := dk_172 (dk_at dksX7_world_2 10 rfl rfl)
def dkwX7_runs_7 : List UInt8 := [177]
abbrev dktX7_runs_7 : List UInt8 := dkwX7_runs_7 ++ []
def dkwX7_runs_6 : List UInt8 := [20, 1, 147, 109, 20, 0, 227, 113, 136, 182, 1, 149, 132, 6, 1, 167, 255, 203, 132, 5, 1, 167, 255, 187]
abbrev dktX7_runs_6 : List UInt8 := dkwX7_runs_6 ++ dktX7_runs_7
def dkwX7_runs_5 : List UInt8 := [153, 0, 36, 33, 20, 1, 141, 105, 20, 1, 143, 97, 20, 1, 145, 113, 66, 42, 27, 21, 6, 21, 5, 33]
abbrev dktX7_runs_5 : List UInt8 := dkwX7_runs_5 ++ dktX7_runs_6
def dkwX7_runs_4 : List UInt8 := [16, 12, 162, 0, 68, 3, 54, 6, 21, 6, 16, 24, 162, 0, 52, 42, 180, 0, 93, 21, 6, 51]
abbrev dktX7_runs_4 : List UInt8 := dkwX7_runs_4 ++ dktX7_runs_5
def dkwX7_runs_3 : List UInt8 := [104, 46, 5, 160, 0, 7, 4, 167, 0, 4, 3, 84, 132, 5, 1, 167, 255, 177, 4, 54, 5, 21, 5]
abbrev dktX7_runs_3 : List UInt8 := dkwX7_runs_3 ++ dktX7_runs_4
def dkwX7_runs_2 : List UInt8 := [16, 12, 21, 5, 104, 46, 79, 42, 180, 0, 160, 16, 12, 21, 5, 104, 42, 180, 0, 115, 16, 12, 21, 5]
abbrev dktX7_runs_2 : List UInt8 := dkwX7_runs_2 ++ dktX7_runs_3
def dkwX7_runs_1 : List UInt8 := [180, 0, 118, 16, 12, 21, 5, 104, 46, 79, 42, 180, 0, 157, 16, 12, 21, 5, 104, 42, 180, 0, 121]
abbrev dktX7_runs_1 : List UInt8 := dkwX7_runs_1 ++ dktX7_runs_2
def dkwX7_runs_0 : List UInt8 := [28, 133, 66, 3, 54, 5, 21, 5, 16, 24, 162, 0, 78, 42, 180, 0, 154, 16, 12, 21, 5, 104, 42]
abbrev dktX7_runs_0 : List UInt8 := dkwX7_runs_0 ++ dktX7_runs_1
theorem dksX7_runs_0 : cX7_runs.data.toList.drop 0 = dktX7_runs_0 := by decide +kernel
theorem dksX7_runs_1 : cX7_runs.data.toList.drop 23 = dktX7_runs_1 := dk_seg dksX7_runs_0 23 rfl rfl
theorem dksX7_runs_2 : cX7_runs.data.toList.drop 46 = dktX7_runs_2 := dk_seg dksX7_runs_1 23 rfl rfl
theorem dksX7_runs_3 : cX7_runs.data.toList.drop 70 = dktX7_runs_3 := dk_seg dksX7_runs_2 24 rfl rfl
theorem dksX7_runs_4 : cX7_runs.data.toList.drop 93 = dktX7_runs_4 := dk_seg dksX7_runs_3 23 rfl rfl
theorem dksX7_runs_5 : cX7_runs.data.toList.drop 115 = dktX7_runs_5 := dk_seg dksX7_runs_4 22 rfl rfl
theorem dksX7_runs_6 : cX7_runs.data.toList.drop 139 = dktX7_runs_6 := dk_seg dksX7_runs_5 24 rfl rfl
theorem dksX7_runs_7 : cX7_runs.data.toList.drop 163 = dktX7_runs_7 := dk_seg dksX7_runs_6 24 rfl rfl
theorem dX7_runs_0 : decode cX7_runs 0 = .ok (.iload_n 2, 1) := dk_28 (dk_at dksX7_runs_0 0 rfl rfl)
theorem dX7_runs_1 : decode cX7_runs 1 = .ok (.i2l, 1) := dk_133 (dk_at dksX7_runs_0 1 rfl rfl)
theorem dX7_runs_2 : decode cX7_runs 2 = .ok (.lstore_n 3, 1) := dk_66 (dk_at dksX7_runs_0 2 rfl rfl)
theorem dX7_runs_3 : decode cX7_runs 3 = .ok (.iconst 0, 1) := dk_3 (dk_at dksX7_runs_0 3 rfl rfl)
theorem dX7_runs_4 : decode cX7_runs 4 = .ok (.istore 5, 2) := dk_54 5 (dk_at dksX7_runs_0 4 rfl rfl)
theorem dX7_runs_6 : decode cX7_runs 6 = .ok (.iload 5, 2) := dk_21 5 (dk_at dksX7_runs_0 6 rfl rfl)
theorem dX7_runs_8 : decode cX7_runs 8 = .ok (.bipush 24, 2) := dk_16 24 (dk_at dksX7_runs_0 8 rfl rfl)
theorem dX7_runs_10 : decode cX7_runs 10 = .ok (.if_icmp .ge 78, 3) := dk_162 0 78 (dk_at dksX7_runs_0 10 rfl rfl)
theorem dX7_runs_13 : decode cX7_runs 13 = .ok (.aload_n 0, 1) := dk_42 (dk_at dksX7_runs_0 13 rfl rfl)
theorem dX7_runs_14 : decode cX7_runs 14 = .ok (.getfield 154, 3) := dk_180 0 154 (dk_at dksX7_runs_0 14 rfl rfl)
theorem dX7_runs_17 : decode cX7_runs 17 = .ok (.bipush 12, 2) := dk_16 12 (dk_at dksX7_runs_0 17 rfl rfl)
theorem dX7_runs_19 : decode cX7_runs 19 = .ok (.iload 5, 2) := dk_21 5 (dk_at dksX7_runs_0 19 rfl rfl)
theorem dX7_runs_21 : decode cX7_runs 21 = .ok (.imul, 1) := dk_104 (dk_at dksX7_runs_0 21 rfl rfl)
theorem dX7_runs_22 : decode cX7_runs 22 = .ok (.aload_n 0, 1) := dk_42 (dk_at dksX7_runs_0 22 rfl rfl)
theorem dX7_runs_23 : decode cX7_runs 23 = .ok (.getfield 118, 3) := dk_180 0 118 (dk_at dksX7_runs_1 0 rfl rfl)
theorem dX7_runs_26 : decode cX7_runs 26 = .ok (.bipush 12, 2) := dk_16 12 (dk_at dksX7_runs_1 3 rfl rfl)
theorem dX7_runs_28 : decode cX7_runs 28 = .ok (.iload 5, 2) := dk_21 5 (dk_at dksX7_runs_1 5 rfl rfl)
theorem dX7_runs_30 : decode cX7_runs 30 = .ok (.imul, 1) := dk_104 (dk_at dksX7_runs_1 7 rfl rfl)
theorem dX7_runs_31 : decode cX7_runs 31 = .ok (.iaload, 1) := dk_46 (dk_at dksX7_runs_1 8 rfl rfl)
theorem dX7_runs_32 : decode cX7_runs 32 = .ok (.iastore, 1) := dk_79 (dk_at dksX7_runs_1 9 rfl rfl)
theorem dX7_runs_33 : decode cX7_runs 33 = .ok (.aload_n 0, 1) := dk_42 (dk_at dksX7_runs_1 10 rfl rfl)
theorem dX7_runs_34 : decode cX7_runs 34 = .ok (.getfield 157, 3) := dk_180 0 157 (dk_at dksX7_runs_1 11 rfl rfl)
theorem dX7_runs_37 : decode cX7_runs 37 = .ok (.bipush 12, 2) := dk_16 12 (dk_at dksX7_runs_1 14 rfl rfl)
theorem dX7_runs_39 : decode cX7_runs 39 = .ok (.iload 5, 2) := dk_21 5 (dk_at dksX7_runs_1 16 rfl rfl)
theorem dX7_runs_41 : decode cX7_runs 41 = .ok (.imul, 1) := dk_104 (dk_at dksX7_runs_1 18 rfl rfl)
theorem dX7_runs_42 : decode cX7_runs 42 = .ok (.aload_n 0, 1) := dk_42 (dk_at dksX7_runs_1 19 rfl rfl)
theorem dX7_runs_43 : decode cX7_runs 43 = .ok (.getfield 121, 3) := dk_180 0 121 (dk_at dksX7_runs_1 20 rfl rfl)
theorem dX7_runs_46 : decode cX7_runs 46 = .ok (.bipush 12, 2) := dk_16 12 (dk_at dksX7_runs_2 0 rfl rfl)
theorem dX7_runs_48 : decode cX7_runs 48 = .ok (.iload 5, 2) := dk_21 5 (dk_at dksX7_runs_2 2 rfl rfl)
theorem dX7_runs_50 : decode cX7_runs 50 = .ok (.imul, 1) := dk_104 (dk_at dksX7_runs_2 4 rfl rfl)
theorem dX7_runs_51 : decode cX7_runs 51 = .ok (.iaload, 1) := dk_46 (dk_at dksX7_runs_2 5 rfl rfl)
theorem dX7_runs_52 : decode cX7_runs 52 = .ok (.iastore, 1) := dk_79 (dk_at dksX7_runs_2 6 rfl rfl)
theorem dX7_runs_53 : decode cX7_runs 53 = .ok (.aload_n 0, 1) := dk_42 (dk_at dksX7_runs_2 7 rfl rfl)
theorem dX7_runs_54 : decode cX7_runs 54 = .ok (.getfield 160, 3) := dk_180 0 160 (dk_at dksX7_runs_2 8 rfl rfl)
theorem dX7_runs_57 : decode cX7_runs 57 = .ok (.bipush 12, 2) := dk_16 12 (dk_at dksX7_runs_2 11 rfl rfl)
theorem dX7_runs_59 : decode cX7_runs 59 = .ok (.iload 5, 2) := dk_21 5 (dk_at dksX7_runs_2 13 rfl rfl)
theorem dX7_runs_61 : decode cX7_runs 61 = .ok (.imul, 1) := dk_104 (dk_at dksX7_runs_2 15 rfl rfl)
theorem dX7_runs_62 : decode cX7_runs 62 = .ok (.aload_n 0, 1) := dk_42 (dk_at dksX7_runs_2 16 rfl rfl)
theorem dX7_runs_63 : decode cX7_runs 63 = .ok (.getfield 115, 3) := dk_180 0 115 (dk_at dksX7_runs_2 17 rfl rfl)
theorem dX7_runs_66 : decode cX7_runs 66 = .ok (.bipush 12, 2) := dk_16 12 (dk_at dksX7_runs_2 20 rfl rfl)
theorem dX7_runs_68 : decode cX7_runs 68 = .ok (.iload 5, 2) := dk_21 5 (dk_at dksX7_runs_2 22 rfl rfl)
theorem dX7_runs_70 : decode cX7_runs 70 = .ok (.imul, 1) := dk_104 (dk_at dksX7_runs_3 0 rfl rfl)
theorem dX7_runs_71 : decode cX7_runs 71 = .ok (.iaload, 1) := dk_46 (dk_at dksX7_runs_3 1 rfl rfl)
theorem dX7_runs_72 : decode cX7_runs 72 = .ok (.iconst 2, 1) := dk_5 (dk_at dksX7_runs_3 2 rfl rfl)
theorem dX7_runs_73 : decode cX7_runs 73 = .ok (.if_icmp .ne 7, 3) := dk_160 0 7 (dk_at dksX7_runs_3 3 rfl rfl)
theorem dX7_runs_76 : decode cX7_runs 76 = .ok (.iconst 1, 1) := dk_4 (dk_at dksX7_runs_3 6 rfl rfl)
theorem dX7_runs_77 : decode cX7_runs 77 = .ok (.goto 4, 3) := dk_167 0 4 (dk_at dksX7_runs_3 7 rfl rfl)
theorem dX7_runs_80 : decode cX7_runs 80 = .ok (.iconst 0, 1) := dk_3 (dk_at dksX7_runs_3 10 rfl rfl)
theorem dX7_runs_81 : decode cX7_runs 81 = .ok (.bastore, 1) := dk_84 (dk_at dksX7_runs_3 11 rfl rfl)
theorem dX7_runs_82 : decode cX7_runs 82 = .ok (.iinc 5 1, 3) := dk_132 5 1 (dk_at dksX7_runs_3 12 rfl rfl)
theorem dX7_runs_85 : decode cX7_runs 85 = .ok (.goto (-79), 3) := dk_167 255 177 (dk_at dksX7_runs_3 15 rfl rfl)
theorem dX7_runs_88 : decode cX7_runs 88 = .ok (.iconst 1, 1) := dk_4 (dk_at dksX7_runs_3 18 rfl rfl)
theorem dX7_runs_89 : decode cX7_runs 89 = .ok (.istore 5, 2) := dk_54 5 (dk_at dksX7_runs_3 19 rfl rfl)
theorem dX7_runs_91 : decode cX7_runs 91 = .ok (.iload 5, 2) := dk_21 5 (dk_at dksX7_runs_3 21 rfl rfl)
theorem dX7_runs_93 : decode cX7_runs 93 = .ok (.bipush 12, 2) := dk_16 12 (dk_at dksX7_runs_4 0 rfl rfl)
theorem dX7_runs_95 : decode cX7_runs 95 = .ok (.if_icmp .ge 68, 3) := dk_162 0 68 (dk_at dksX7_runs_4 2 rfl rfl)
theorem dX7_runs_98 : decode cX7_runs 98 = .ok (.iconst 0, 1) := dk_3 (dk_at dksX7_runs_4 5 rfl rfl)
theorem dX7_runs_99 : decode cX7_runs 99 = .ok (.istore 6, 2) := dk_54 6 (dk_at dksX7_runs_4 6 rfl rfl)
theorem dX7_runs_101 : decode cX7_runs 101 = .ok (.iload 6, 2) := dk_21 6 (dk_at dksX7_runs_4 8 rfl rfl)
theorem dX7_runs_103 : decode cX7_runs 103 = .ok (.bipush 24, 2) := dk_16 24 (dk_at dksX7_runs_4 10 rfl rfl)
theorem dX7_runs_105 : decode cX7_runs 105 = .ok (.if_icmp .ge 52, 3) := dk_162 0 52 (dk_at dksX7_runs_4 12 rfl rfl)
theorem dX7_runs_108 : decode cX7_runs 108 = .ok (.aload_n 0, 1) := dk_42 (dk_at dksX7_runs_4 15 rfl rfl)
theorem dX7_runs_109 : decode cX7_runs 109 = .ok (.getfield 93, 3) := dk_180 0 93 (dk_at dksX7_runs_4 16 rfl rfl)
theorem dX7_runs_112 : decode cX7_runs 112 = .ok (.iload 6, 2) := dk_21 6 (dk_at dksX7_runs_4 19 rfl rfl)
theorem dX7_runs_114 : decode cX7_runs 114 = .ok (.baload, 1) := dk_51 (dk_at dksX7_runs_4 21 rfl rfl)
theorem dX7_runs_115 : decode cX7_runs 115 = .ok (.ifCond .eq 36, 3) := dk_153 0 36 (dk_at dksX7_runs_5 0 rfl rfl)
theorem dX7_runs_118 : decode cX7_runs 118 = .ok (.lload_n 3, 1) := dk_33 (dk_at dksX7_runs_5 3 rfl rfl)
theorem dX7_runs_119 : decode cX7_runs 119 = .ok (.ldc2_w 397, 3) := dk_20 1 141 (dk_at dksX7_runs_5 4 rfl rfl)
theorem dX7_runs_122 : decode cX7_runs 122 = .ok (.lmul, 1) := dk_105 (dk_at dksX7_runs_5 7 rfl rfl)
theorem dX7_runs_123 : decode cX7_runs 123 = .ok (.ldc2_w 399, 3) := dk_20 1 143 (dk_at dksX7_runs_5 8 rfl rfl)
theorem dX7_runs_126 : decode cX7_runs 126 = .ok (.ladd, 1) := dk_97 (dk_at dksX7_runs_5 11 rfl rfl)
theorem dX7_runs_127 : decode cX7_runs 127 = .ok (.ldc2_w 401, 3) := dk_20 1 145 (dk_at dksX7_runs_5 12 rfl rfl)
theorem dX7_runs_130 : decode cX7_runs 130 = .ok (.lrem, 1) := dk_113 (dk_at dksX7_runs_5 15 rfl rfl)
theorem dX7_runs_131 : decode cX7_runs 131 = .ok (.lstore_n 3, 1) := dk_66 (dk_at dksX7_runs_5 16 rfl rfl)
theorem dX7_runs_132 : decode cX7_runs 132 = .ok (.aload_n 0, 1) := dk_42 (dk_at dksX7_runs_5 17 rfl rfl)
theorem dX7_runs_133 : decode cX7_runs 133 = .ok (.iload_n 1, 1) := dk_27 (dk_at dksX7_runs_5 18 rfl rfl)
theorem dX7_runs_134 : decode cX7_runs 134 = .ok (.iload 6, 2) := dk_21 6 (dk_at dksX7_runs_5 19 rfl rfl)
theorem dX7_runs_136 : decode cX7_runs 136 = .ok (.iload 5, 2) := dk_21 5 (dk_at dksX7_runs_5 21 rfl rfl)
theorem dX7_runs_138 : decode cX7_runs 138 = .ok (.lload_n 3, 1) := dk_33 (dk_at dksX7_runs_5 23 rfl rfl)
theorem dX7_runs_139 : decode cX7_runs 139 = .ok (.ldc2_w 403, 3) := dk_20 1 147 (dk_at dksX7_runs_6 0 rfl rfl)
theorem dX7_runs_142 : decode cX7_runs 142 = .ok (.ldiv, 1) := dk_109 (dk_at dksX7_runs_6 3 rfl rfl)
theorem dX7_runs_143 : decode cX7_runs 143 = .ok (.ldc2_w 227, 3) := dk_20 0 227 (dk_at dksX7_runs_6 4 rfl rfl)
theorem dX7_runs_146 : decode cX7_runs 146 = .ok (.lrem, 1) := dk_113 (dk_at dksX7_runs_6 7 rfl rfl)
theorem dX7_runs_147 : decode cX7_runs 147 = .ok (.l2i, 1) := dk_136 (dk_at dksX7_runs_6 8 rfl rfl)
theorem dX7_runs_148 : decode cX7_runs 148 = .ok (.invokevirtual 405, 3) := dk_182 1 149 (dk_at dksX7_runs_6 9 rfl rfl)
theorem dX7_runs_151 : decode cX7_runs 151 = .ok (.iinc 6 1, 3) := dk_132 6 1 (dk_at dksX7_runs_6 12 rfl rfl)
theorem dX7_runs_154 : decode cX7_runs 154 = .ok (.goto (-53), 3) := dk_167 255 203 (dk_at dksX7_runs_6 15 rfl rfl)
theorem dX7_runs_157 : decode cX7_runs 157 = .ok (.iinc 5 1, 3) := dk_132 5 1 (dk_at dksX7_runs_6 18 rfl rfl)
theorem dX7_runs_160 : decode cX7_runs 160 = .ok (.goto (-69), 3) := dk_167 255 187 (dk_at dksX7_runs_6 21 rfl rfl)
theorem dX7_runs_163 : decode cX7_runs 163 = .ok (.return_, 1) := dk_177 (dk_at dksX7_runs_7 0 rfl rfl)
def dkwX7_goesOn_12 : List UInt8 := [177]
abbrev dktX7_goesOn_12 : List UInt8 := dkwX7_goesOn_12 ++ []
def dkwX7_goesOn_11 : List UInt8 := [21, 5, 21, 8, 153, 0, 7, 3, 167, 0, 15, 42, 27, 4, 42, 180, 0, 148, 4, 46, 182, 1, 156, 79]
abbrev dktX7_goesOn_11 : List UInt8 := dkwX7_goesOn_11 ++ dktX7_goesOn_12
def dkwX7_goesOn_10 : List UInt8 := [153, 0, 7, 3, 167, 0, 15, 42, 27, 3, 42, 180, 0, 148, 3, 46, 182, 1, 156, 79, 42, 180, 0, 157]
abbrev dktX7_goesOn_10 : List UInt8 := dkwX7_goesOn_10 ++ dktX7_goesOn_11
def dkwX7_goesOn_9 : List UInt8 := [182, 1, 153, 54, 8, 42, 180, 0, 160, 21, 5, 21, 8, 84, 42, 180, 0, 154, 21, 5, 21, 8]
abbrev dktX7_goesOn_9 : List UInt8 := dkwX7_goesOn_9 ++ dktX7_goesOn_10
def dkwX7_goesOn_8 : List UInt8 := [153, 0, 20, 42, 27, 6, 182, 1, 153, 154, 0, 7, 4, 167, 0, 13, 3, 167, 0, 9, 42, 27, 5]
abbrev dktX7_goesOn_8 : List UInt8 := dkwX7_goesOn_8 ++ dktX7_goesOn_9
def dkwX7_goesOn_7 : List UInt8 := [16, 8, 21, 4, 79, 42, 180, 0, 148, 16, 9, 21, 7, 153, 0, 7, 4, 167, 0, 4, 3, 79, 21, 7]
abbrev dktX7_goesOn_7 : List UInt8 := dkwX7_goesOn_7 ++ dktX7_goesOn_8
def dkwX7_goesOn_6 : List UInt8 := [16, 7, 42, 180, 0, 112, 16, 12, 42, 180, 0, 97, 28, 46, 104, 29, 96, 46, 79, 42, 180, 0, 148]
abbrev dktX7_goesOn_6 : List UInt8 := dkwX7_goesOn_6 ++ dktX7_goesOn_7
def dkwX7_goesOn_5 : List UInt8 := [180, 0, 148, 8, 42, 180, 0, 97, 28, 46, 79, 42, 180, 0, 148, 16, 6, 29, 79, 42, 180, 0, 148]
abbrev dktX7_goesOn_5 : List UInt8 := dkwX7_goesOn_5 ++ dktX7_goesOn_6
def dkwX7_goesOn_4 : List UInt8 := [180, 0, 100, 28, 46, 164, 0, 15, 21, 6, 42, 180, 0, 100, 28, 46, 100, 167, 0, 4, 3, 79, 42]
abbrev dktX7_goesOn_4 : List UInt8 := dkwX7_goesOn_4 ++ dktX7_goesOn_5
def dkwX7_goesOn_3 : List UInt8 := [42, 180, 0, 100, 28, 46, 79, 42, 180, 0, 148, 6, 21, 6, 79, 42, 180, 0, 148, 7, 21, 6, 42]
abbrev dktX7_goesOn_3 : List UInt8 := dkwX7_goesOn_3 ++ dktX7_goesOn_4
def dkwX7_goesOn_2 : List UInt8 := [4, 100, 46, 79, 42, 180, 0, 148, 4, 42, 180, 0, 157, 21, 5, 4, 100, 46, 79, 42, 180, 0, 148, 5]
abbrev dktX7_goesOn_2 : List UInt8 := dkwX7_goesOn_2 ++ dktX7_goesOn_3
def dkwX7_goesOn_1 : List UInt8 := [54, 6, 42, 180, 0, 160, 21, 5, 4, 100, 51, 54, 7, 42, 180, 0, 148, 3, 42, 180, 0, 154, 21, 5]
abbrev dktX7_goesOn_1 : List UInt8 := dkwX7_goesOn_1 ++ dktX7_goesOn_2
def dkwX7_goesOn_0 : List UInt8 := [16, 12, 28, 104, 29, 96, 54, 5, 42, 180, 0, 109, 16, 12, 42, 180, 0, 97, 28, 46, 104, 29, 96, 46]
abbrev dktX7_goesOn_0 : List UInt8 := dkwX7_goesOn_0 ++ dktX7_goesOn_1
theorem dksX7_goesOn_0 : cX7_goesOn.data.toList.drop 0 = dktX7_goesOn_0 := by decide +kernel
theorem dksX7_goesOn_1 : cX7_goesOn.data.toList.drop 24 = dktX7_goesOn_1 := dk_seg dksX7_goesOn_0 24 rfl rfl
theorem dksX7_goesOn_2 : cX7_goesOn.data.toList.drop 48 = dktX7_goesOn_2 := dk_seg dksX7_goesOn_1 24 rfl rfl
theorem dksX7_goesOn_3 : cX7_goesOn.data.toList.drop 72 = dktX7_goesOn_3 := dk_seg dksX7_goesOn_2 24 rfl rfl
theorem dksX7_goesOn_4 : cX7_goesOn.data.toList.drop 95 = dktX7_goesOn_4 := dk_seg dksX7_goesOn_3 23 rfl rfl
theorem dksX7_goesOn_5 : cX7_goesOn.data.toList.drop 118 = dktX7_goesOn_5 := dk_seg dksX7_goesOn_4 23 rfl rfl
theorem dksX7_goesOn_6 : cX7_goesOn.data.toList.drop 141 = dktX7_goesOn_6 := dk_seg dksX7_goesOn_5 23 rfl rfl
theorem dksX7_goesOn_7 : cX7_goesOn.data.toList.drop 164 = dktX7_goesOn_7 := dk_seg dksX7_goesOn_6 23 rfl rfl
theorem dksX7_goesOn_8 : cX7_goesOn.data.toList.drop 188 = dktX7_goesOn_8 := dk_seg dksX7_goesOn_7 24 rfl rfl
theorem dksX7_goesOn_9 : cX7_goesOn.data.toList.drop 211 = dktX7_goesOn_9 := dk_seg dksX7_goesOn_8 23 rfl rfl
theorem dksX7_goesOn_10 : cX7_goesOn.data.toList.drop 233 = dktX7_goesOn_10 := dk_seg dksX7_goesOn_9 22 rfl rfl
theorem dksX7_goesOn_11 : cX7_goesOn.data.toList.drop 257 = dktX7_goesOn_11 := dk_seg dksX7_goesOn_10 24 rfl rfl
theorem dksX7_goesOn_12 : cX7_goesOn.data.toList.drop 281 = dktX7_goesOn_12 := dk_seg dksX7_goesOn_11 24 rfl rfl
theorem dX7_goesOn_0 : decode cX7_goesOn 0 = .ok (.bipush 12, 2) := dk_16 12 (dk_at dksX7_goesOn_0 0 rfl rfl)
theorem dX7_goesOn_2 : decode cX7_goesOn 2 = .ok (.iload_n 2, 1) := dk_28 (dk_at dksX7_goesOn_0 2 rfl rfl)
theorem dX7_goesOn_3 : decode cX7_goesOn 3 = .ok (.imul, 1) := dk_104 (dk_at dksX7_goesOn_0 3 rfl rfl)
theorem dX7_goesOn_4 : decode cX7_goesOn 4 = .ok (.iload_n 3, 1) := dk_29 (dk_at dksX7_goesOn_0 4 rfl rfl)
theorem dX7_goesOn_5 : decode cX7_goesOn 5 = .ok (.iadd, 1) := dk_96 (dk_at dksX7_goesOn_0 5 rfl rfl)
theorem dX7_goesOn_6 : decode cX7_goesOn 6 = .ok (.istore 5, 2) := dk_54 5 (dk_at dksX7_goesOn_0 6 rfl rfl)
theorem dX7_goesOn_8 : decode cX7_goesOn 8 = .ok (.aload_n 0, 1) := dk_42 (dk_at dksX7_goesOn_0 8 rfl rfl)
theorem dX7_goesOn_9 : decode cX7_goesOn 9 = .ok (.getfield 109, 3) := dk_180 0 109 (dk_at dksX7_goesOn_0 9 rfl rfl)
theorem dX7_goesOn_12 : decode cX7_goesOn 12 = .ok (.bipush 12, 2) := dk_16 12 (dk_at dksX7_goesOn_0 12 rfl rfl)
theorem dX7_goesOn_14 : decode cX7_goesOn 14 = .ok (.aload_n 0, 1) := dk_42 (dk_at dksX7_goesOn_0 14 rfl rfl)
theorem dX7_goesOn_15 : decode cX7_goesOn 15 = .ok (.getfield 97, 3) := dk_180 0 97 (dk_at dksX7_goesOn_0 15 rfl rfl)
theorem dX7_goesOn_18 : decode cX7_goesOn 18 = .ok (.iload_n 2, 1) := dk_28 (dk_at dksX7_goesOn_0 18 rfl rfl)
theorem dX7_goesOn_19 : decode cX7_goesOn 19 = .ok (.iaload, 1) := dk_46 (dk_at dksX7_goesOn_0 19 rfl rfl)
theorem dX7_goesOn_20 : decode cX7_goesOn 20 = .ok (.imul, 1) := dk_104 (dk_at dksX7_goesOn_0 20 rfl rfl)
theorem dX7_goesOn_21 : decode cX7_goesOn 21 = .ok (.iload_n 3, 1) := dk_29 (dk_at dksX7_goesOn_0 21 rfl rfl)
theorem dX7_goesOn_22 : decode cX7_goesOn 22 = .ok (.iadd, 1) := dk_96 (dk_at dksX7_goesOn_0 22 rfl rfl)
theorem dX7_goesOn_23 : decode cX7_goesOn 23 = .ok (.iaload, 1) := dk_46 (dk_at dksX7_goesOn_0 23 rfl rfl)
theorem dX7_goesOn_24 : decode cX7_goesOn 24 = .ok (.istore 6, 2) := dk_54 6 (dk_at dksX7_goesOn_1 0 rfl rfl)
theorem dX7_goesOn_26 : decode cX7_goesOn 26 = .ok (.aload_n 0, 1) := dk_42 (dk_at dksX7_goesOn_1 2 rfl rfl)
theorem dX7_goesOn_27 : decode cX7_goesOn 27 = .ok (.getfield 160, 3) := dk_180 0 160 (dk_at dksX7_goesOn_1 3 rfl rfl)
theorem dX7_goesOn_30 : decode cX7_goesOn 30 = .ok (.iload 5, 2) := dk_21 5 (dk_at dksX7_goesOn_1 6 rfl rfl)
theorem dX7_goesOn_32 : decode cX7_goesOn 32 = .ok (.iconst 1, 1) := dk_4 (dk_at dksX7_goesOn_1 8 rfl rfl)
theorem dX7_goesOn_33 : decode cX7_goesOn 33 = .ok (.isub, 1) := dk_100 (dk_at dksX7_goesOn_1 9 rfl rfl)
theorem dX7_goesOn_34 : decode cX7_goesOn 34 = .ok (.baload, 1) := dk_51 (dk_at dksX7_goesOn_1 10 rfl rfl)
theorem dX7_goesOn_35 : decode cX7_goesOn 35 = .ok (.istore 7, 2) := dk_54 7 (dk_at dksX7_goesOn_1 11 rfl rfl)
theorem dX7_goesOn_37 : decode cX7_goesOn 37 = .ok (.aload_n 0, 1) := dk_42 (dk_at dksX7_goesOn_1 13 rfl rfl)
theorem dX7_goesOn_38 : decode cX7_goesOn 38 = .ok (.getfield 148, 3) := dk_180 0 148 (dk_at dksX7_goesOn_1 14 rfl rfl)
theorem dX7_goesOn_41 : decode cX7_goesOn 41 = .ok (.iconst 0, 1) := dk_3 (dk_at dksX7_goesOn_1 17 rfl rfl)
theorem dX7_goesOn_42 : decode cX7_goesOn 42 = .ok (.aload_n 0, 1) := dk_42 (dk_at dksX7_goesOn_1 18 rfl rfl)
theorem dX7_goesOn_43 : decode cX7_goesOn 43 = .ok (.getfield 154, 3) := dk_180 0 154 (dk_at dksX7_goesOn_1 19 rfl rfl)
theorem dX7_goesOn_46 : decode cX7_goesOn 46 = .ok (.iload 5, 2) := dk_21 5 (dk_at dksX7_goesOn_1 22 rfl rfl)
theorem dX7_goesOn_48 : decode cX7_goesOn 48 = .ok (.iconst 1, 1) := dk_4 (dk_at dksX7_goesOn_2 0 rfl rfl)
theorem dX7_goesOn_49 : decode cX7_goesOn 49 = .ok (.isub, 1) := dk_100 (dk_at dksX7_goesOn_2 1 rfl rfl)
theorem dX7_goesOn_50 : decode cX7_goesOn 50 = .ok (.iaload, 1) := dk_46 (dk_at dksX7_goesOn_2 2 rfl rfl)
theorem dX7_goesOn_51 : decode cX7_goesOn 51 = .ok (.iastore, 1) := dk_79 (dk_at dksX7_goesOn_2 3 rfl rfl)
theorem dX7_goesOn_52 : decode cX7_goesOn 52 = .ok (.aload_n 0, 1) := dk_42 (dk_at dksX7_goesOn_2 4 rfl rfl)
theorem dX7_goesOn_53 : decode cX7_goesOn 53 = .ok (.getfield 148, 3) := dk_180 0 148 (dk_at dksX7_goesOn_2 5 rfl rfl)
theorem dX7_goesOn_56 : decode cX7_goesOn 56 = .ok (.iconst 1, 1) := dk_4 (dk_at dksX7_goesOn_2 8 rfl rfl)
theorem dX7_goesOn_57 : decode cX7_goesOn 57 = .ok (.aload_n 0, 1) := dk_42 (dk_at dksX7_goesOn_2 9 rfl rfl)
theorem dX7_goesOn_58 : decode cX7_goesOn 58 = .ok (.getfield 157, 3) := dk_180 0 157 (dk_at dksX7_goesOn_2 10 rfl rfl)
theorem dX7_goesOn_61 : decode cX7_goesOn 61 = .ok (.iload 5, 2) := dk_21 5 (dk_at dksX7_goesOn_2 13 rfl rfl)
theorem dX7_goesOn_63 : decode cX7_goesOn 63 = .ok (.iconst 1, 1) := dk_4 (dk_at dksX7_goesOn_2 15 rfl rfl)
theorem dX7_goesOn_64 : decode cX7_goesOn 64 = .ok (.isub, 1) := dk_100 (dk_at dksX7_goesOn_2 16 rfl rfl)
theorem dX7_goesOn_65 : decode cX7_goesOn 65 = .ok (.iaload, 1) := dk_46 (dk_at dksX7_goesOn_2 17 rfl rfl)
theorem dX7_goesOn_66 : decode cX7_goesOn 66 = .ok (.iastore, 1) := dk_79 (dk_at dksX7_goesOn_2 18 rfl rfl)
theorem dX7_goesOn_67 : decode cX7_goesOn 67 = .ok (.aload_n 0, 1) := dk_42 (dk_at dksX7_goesOn_2 19 rfl rfl)
theorem dX7_goesOn_68 : decode cX7_goesOn 68 = .ok (.getfield 148, 3) := dk_180 0 148 (dk_at dksX7_goesOn_2 20 rfl rfl)
theorem dX7_goesOn_71 : decode cX7_goesOn 71 = .ok (.iconst 2, 1) := dk_5 (dk_at dksX7_goesOn_2 23 rfl rfl)
theorem dX7_goesOn_72 : decode cX7_goesOn 72 = .ok (.aload_n 0, 1) := dk_42 (dk_at dksX7_goesOn_3 0 rfl rfl)
theorem dX7_goesOn_73 : decode cX7_goesOn 73 = .ok (.getfield 100, 3) := dk_180 0 100 (dk_at dksX7_goesOn_3 1 rfl rfl)
theorem dX7_goesOn_76 : decode cX7_goesOn 76 = .ok (.iload_n 2, 1) := dk_28 (dk_at dksX7_goesOn_3 4 rfl rfl)
theorem dX7_goesOn_77 : decode cX7_goesOn 77 = .ok (.iaload, 1) := dk_46 (dk_at dksX7_goesOn_3 5 rfl rfl)
theorem dX7_goesOn_78 : decode cX7_goesOn 78 = .ok (.iastore, 1) := dk_79 (dk_at dksX7_goesOn_3 6 rfl rfl)
theorem dX7_goesOn_79 : decode cX7_goesOn 79 = .ok (.aload_n 0, 1) := dk_42 (dk_at dksX7_goesOn_3 7 rfl rfl)
theorem dX7_goesOn_80 : decode cX7_goesOn 80 = .ok (.getfield 148, 3) := dk_180 0 148 (dk_at dksX7_goesOn_3 8 rfl rfl)
theorem dX7_goesOn_83 : decode cX7_goesOn 83 = .ok (.iconst 3, 1) := dk_6 (dk_at dksX7_goesOn_3 11 rfl rfl)
theorem dX7_goesOn_84 : decode cX7_goesOn 84 = .ok (.iload 6, 2) := dk_21 6 (dk_at dksX7_goesOn_3 12 rfl rfl)
theorem dX7_goesOn_86 : decode cX7_goesOn 86 = .ok (.iastore, 1) := dk_79 (dk_at dksX7_goesOn_3 14 rfl rfl)
theorem dX7_goesOn_87 : decode cX7_goesOn 87 = .ok (.aload_n 0, 1) := dk_42 (dk_at dksX7_goesOn_3 15 rfl rfl)
theorem dX7_goesOn_88 : decode cX7_goesOn 88 = .ok (.getfield 148, 3) := dk_180 0 148 (dk_at dksX7_goesOn_3 16 rfl rfl)
theorem dX7_goesOn_91 : decode cX7_goesOn 91 = .ok (.iconst 4, 1) := dk_7 (dk_at dksX7_goesOn_3 19 rfl rfl)
theorem dX7_goesOn_92 : decode cX7_goesOn 92 = .ok (.iload 6, 2) := dk_21 6 (dk_at dksX7_goesOn_3 20 rfl rfl)
theorem dX7_goesOn_94 : decode cX7_goesOn 94 = .ok (.aload_n 0, 1) := dk_42 (dk_at dksX7_goesOn_3 22 rfl rfl)
theorem dX7_goesOn_95 : decode cX7_goesOn 95 = .ok (.getfield 100, 3) := dk_180 0 100 (dk_at dksX7_goesOn_4 0 rfl rfl)
theorem dX7_goesOn_98 : decode cX7_goesOn 98 = .ok (.iload_n 2, 1) := dk_28 (dk_at dksX7_goesOn_4 3 rfl rfl)
theorem dX7_goesOn_99 : decode cX7_goesOn 99 = .ok (.iaload, 1) := dk_46 (dk_at dksX7_goesOn_4 4 rfl rfl)
theorem dX7_goesOn_100 : decode cX7_goesOn 100 = .ok (.if_icmp .le 15, 3) := dk_164 0 15 (dk_at dksX7_goesOn_4 5 rfl rfl)
theorem dX7_goesOn_103 : decode cX7_goesOn 103 = .ok (.iload 6, 2) := dk_21 6 (dk_at dksX7_goesOn_4 8 rfl rfl)
theorem dX7_goesOn_105 : decode cX7_goesOn 105 = .ok (.aload_n 0, 1) := dk_42 (dk_at dksX7_goesOn_4 10 rfl rfl)
theorem dX7_goesOn_106 : decode cX7_goesOn 106 = .ok (.getfield 100, 3) := dk_180 0 100 (dk_at dksX7_goesOn_4 11 rfl rfl)
theorem dX7_goesOn_109 : decode cX7_goesOn 109 = .ok (.iload_n 2, 1) := dk_28 (dk_at dksX7_goesOn_4 14 rfl rfl)
theorem dX7_goesOn_110 : decode cX7_goesOn 110 = .ok (.iaload, 1) := dk_46 (dk_at dksX7_goesOn_4 15 rfl rfl)
theorem dX7_goesOn_111 : decode cX7_goesOn 111 = .ok (.isub, 1) := dk_100 (dk_at dksX7_goesOn_4 16 rfl rfl)
theorem dX7_goesOn_112 : decode cX7_goesOn 112 = .ok (.goto 4, 3) := dk_167 0 4 (dk_at dksX7_goesOn_4 17 rfl rfl)
theorem dX7_goesOn_115 : decode cX7_goesOn 115 = .ok (.iconst 0, 1) := dk_3 (dk_at dksX7_goesOn_4 20 rfl rfl)
theorem dX7_goesOn_116 : decode cX7_goesOn 116 = .ok (.iastore, 1) := dk_79 (dk_at dksX7_goesOn_4 21 rfl rfl)
theorem dX7_goesOn_117 : decode cX7_goesOn 117 = .ok (.aload_n 0, 1) := dk_42 (dk_at dksX7_goesOn_4 22 rfl rfl)
theorem dX7_goesOn_118 : decode cX7_goesOn 118 = .ok (.getfield 148, 3) := dk_180 0 148 (dk_at dksX7_goesOn_5 0 rfl rfl)
theorem dX7_goesOn_121 : decode cX7_goesOn 121 = .ok (.iconst 5, 1) := dk_8 (dk_at dksX7_goesOn_5 3 rfl rfl)
theorem dX7_goesOn_122 : decode cX7_goesOn 122 = .ok (.aload_n 0, 1) := dk_42 (dk_at dksX7_goesOn_5 4 rfl rfl)
theorem dX7_goesOn_123 : decode cX7_goesOn 123 = .ok (.getfield 97, 3) := dk_180 0 97 (dk_at dksX7_goesOn_5 5 rfl rfl)
theorem dX7_goesOn_126 : decode cX7_goesOn 126 = .ok (.iload_n 2, 1) := dk_28 (dk_at dksX7_goesOn_5 8 rfl rfl)
theorem dX7_goesOn_127 : decode cX7_goesOn 127 = .ok (.iaload, 1) := dk_46 (dk_at dksX7_goesOn_5 9 rfl rfl)
theorem dX7_goesOn_128 : decode cX7_goesOn 128 = .ok (.iastore, 1) := dk_79 (dk_at dksX7_goesOn_5 10 rfl rfl)
theorem dX7_goesOn_129 : decode cX7_goesOn 129 = .ok (.aload_n 0, 1) := dk_42 (dk_at dksX7_goesOn_5 11 rfl rfl)
theorem dX7_goesOn_130 : decode cX7_goesOn 130 = .ok (.getfield 148, 3) := dk_180 0 148 (dk_at dksX7_goesOn_5 12 rfl rfl)
theorem dX7_goesOn_133 : decode cX7_goesOn 133 = .ok (.bipush 6, 2) := dk_16 6 (dk_at dksX7_goesOn_5 15 rfl rfl)
theorem dX7_goesOn_135 : decode cX7_goesOn 135 = .ok (.iload_n 3, 1) := dk_29 (dk_at dksX7_goesOn_5 17 rfl rfl)
theorem dX7_goesOn_136 : decode cX7_goesOn 136 = .ok (.iastore, 1) := dk_79 (dk_at dksX7_goesOn_5 18 rfl rfl)
theorem dX7_goesOn_137 : decode cX7_goesOn 137 = .ok (.aload_n 0, 1) := dk_42 (dk_at dksX7_goesOn_5 19 rfl rfl)
theorem dX7_goesOn_138 : decode cX7_goesOn 138 = .ok (.getfield 148, 3) := dk_180 0 148 (dk_at dksX7_goesOn_5 20 rfl rfl)
theorem dX7_goesOn_141 : decode cX7_goesOn 141 = .ok (.bipush 7, 2) := dk_16 7 (dk_at dksX7_goesOn_6 0 rfl rfl)
theorem dX7_goesOn_143 : decode cX7_goesOn 143 = .ok (.aload_n 0, 1) := dk_42 (dk_at dksX7_goesOn_6 2 rfl rfl)
theorem dX7_goesOn_144 : decode cX7_goesOn 144 = .ok (.getfield 112, 3) := dk_180 0 112 (dk_at dksX7_goesOn_6 3 rfl rfl)
theorem dX7_goesOn_147 : decode cX7_goesOn 147 = .ok (.bipush 12, 2) := dk_16 12 (dk_at dksX7_goesOn_6 6 rfl rfl)
theorem dX7_goesOn_149 : decode cX7_goesOn 149 = .ok (.aload_n 0, 1) := dk_42 (dk_at dksX7_goesOn_6 8 rfl rfl)
theorem dX7_goesOn_150 : decode cX7_goesOn 150 = .ok (.getfield 97, 3) := dk_180 0 97 (dk_at dksX7_goesOn_6 9 rfl rfl)
theorem dX7_goesOn_153 : decode cX7_goesOn 153 = .ok (.iload_n 2, 1) := dk_28 (dk_at dksX7_goesOn_6 12 rfl rfl)
theorem dX7_goesOn_154 : decode cX7_goesOn 154 = .ok (.iaload, 1) := dk_46 (dk_at dksX7_goesOn_6 13 rfl rfl)
theorem dX7_goesOn_155 : decode cX7_goesOn 155 = .ok (.imul, 1) := dk_104 (dk_at dksX7_goesOn_6 14 rfl rfl)
theorem dX7_goesOn_156 : decode cX7_goesOn 156 = .ok (.iload_n 3, 1) := dk_29 (dk_at dksX7_goesOn_6 15 rfl rfl)
theorem dX7_goesOn_157 : decode cX7_goesOn 157 = .ok (.iadd, 1) := dk_96 (dk_at dksX7_goesOn_6 16 rfl rfl)
theorem dX7_goesOn_158 : decode cX7_goesOn 158 = .ok (.iaload, 1) := dk_46 (dk_at dksX7_goesOn_6 17 rfl rfl)
theorem dX7_goesOn_159 : decode cX7_goesOn 159 = .ok (.iastore, 1) := dk_79 (dk_at dksX7_goesOn_6 18 rfl rfl)
theorem dX7_goesOn_160 : decode cX7_goesOn 160 = .ok (.aload_n 0, 1) := dk_42 (dk_at dksX7_goesOn_6 19 rfl rfl)
theorem dX7_goesOn_161 : decode cX7_goesOn 161 = .ok (.getfield 148, 3) := dk_180 0 148 (dk_at dksX7_goesOn_6 20 rfl rfl)
theorem dX7_goesOn_164 : decode cX7_goesOn 164 = .ok (.bipush 8, 2) := dk_16 8 (dk_at dksX7_goesOn_7 0 rfl rfl)
theorem dX7_goesOn_166 : decode cX7_goesOn 166 = .ok (.iload 4, 2) := dk_21 4 (dk_at dksX7_goesOn_7 2 rfl rfl)
theorem dX7_goesOn_168 : decode cX7_goesOn 168 = .ok (.iastore, 1) := dk_79 (dk_at dksX7_goesOn_7 4 rfl rfl)
theorem dX7_goesOn_169 : decode cX7_goesOn 169 = .ok (.aload_n 0, 1) := dk_42 (dk_at dksX7_goesOn_7 5 rfl rfl)
theorem dX7_goesOn_170 : decode cX7_goesOn 170 = .ok (.getfield 148, 3) := dk_180 0 148 (dk_at dksX7_goesOn_7 6 rfl rfl)
theorem dX7_goesOn_173 : decode cX7_goesOn 173 = .ok (.bipush 9, 2) := dk_16 9 (dk_at dksX7_goesOn_7 9 rfl rfl)
theorem dX7_goesOn_175 : decode cX7_goesOn 175 = .ok (.iload 7, 2) := dk_21 7 (dk_at dksX7_goesOn_7 11 rfl rfl)
theorem dX7_goesOn_177 : decode cX7_goesOn 177 = .ok (.ifCond .eq 7, 3) := dk_153 0 7 (dk_at dksX7_goesOn_7 13 rfl rfl)
theorem dX7_goesOn_180 : decode cX7_goesOn 180 = .ok (.iconst 1, 1) := dk_4 (dk_at dksX7_goesOn_7 16 rfl rfl)
theorem dX7_goesOn_181 : decode cX7_goesOn 181 = .ok (.goto 4, 3) := dk_167 0 4 (dk_at dksX7_goesOn_7 17 rfl rfl)
theorem dX7_goesOn_184 : decode cX7_goesOn 184 = .ok (.iconst 0, 1) := dk_3 (dk_at dksX7_goesOn_7 20 rfl rfl)
theorem dX7_goesOn_185 : decode cX7_goesOn 185 = .ok (.iastore, 1) := dk_79 (dk_at dksX7_goesOn_7 21 rfl rfl)
theorem dX7_goesOn_186 : decode cX7_goesOn 186 = .ok (.iload 7, 2) := dk_21 7 (dk_at dksX7_goesOn_7 22 rfl rfl)
theorem dX7_goesOn_188 : decode cX7_goesOn 188 = .ok (.ifCond .eq 20, 3) := dk_153 0 20 (dk_at dksX7_goesOn_8 0 rfl rfl)
theorem dX7_goesOn_191 : decode cX7_goesOn 191 = .ok (.aload_n 0, 1) := dk_42 (dk_at dksX7_goesOn_8 3 rfl rfl)
theorem dX7_goesOn_192 : decode cX7_goesOn 192 = .ok (.iload_n 1, 1) := dk_27 (dk_at dksX7_goesOn_8 4 rfl rfl)
theorem dX7_goesOn_193 : decode cX7_goesOn 193 = .ok (.iconst 3, 1) := dk_6 (dk_at dksX7_goesOn_8 5 rfl rfl)
theorem dX7_goesOn_194 : decode cX7_goesOn 194 = .ok (.invokevirtual 409, 3) := dk_182 1 153 (dk_at dksX7_goesOn_8 6 rfl rfl)
theorem dX7_goesOn_197 : decode cX7_goesOn 197 = .ok (.ifCond .ne 7, 3) := dk_154 0 7 (dk_at dksX7_goesOn_8 9 rfl rfl)
theorem dX7_goesOn_200 : decode cX7_goesOn 200 = .ok (.iconst 1, 1) := dk_4 (dk_at dksX7_goesOn_8 12 rfl rfl)
theorem dX7_goesOn_201 : decode cX7_goesOn 201 = .ok (.goto 13, 3) := dk_167 0 13 (dk_at dksX7_goesOn_8 13 rfl rfl)
theorem dX7_goesOn_204 : decode cX7_goesOn 204 = .ok (.iconst 0, 1) := dk_3 (dk_at dksX7_goesOn_8 16 rfl rfl)
theorem dX7_goesOn_205 : decode cX7_goesOn 205 = .ok (.goto 9, 3) := dk_167 0 9 (dk_at dksX7_goesOn_8 17 rfl rfl)
theorem dX7_goesOn_208 : decode cX7_goesOn 208 = .ok (.aload_n 0, 1) := dk_42 (dk_at dksX7_goesOn_8 20 rfl rfl)
theorem dX7_goesOn_209 : decode cX7_goesOn 209 = .ok (.iload_n 1, 1) := dk_27 (dk_at dksX7_goesOn_8 21 rfl rfl)
theorem dX7_goesOn_210 : decode cX7_goesOn 210 = .ok (.iconst 2, 1) := dk_5 (dk_at dksX7_goesOn_8 22 rfl rfl)
theorem dX7_goesOn_211 : decode cX7_goesOn 211 = .ok (.invokevirtual 409, 3) := dk_182 1 153 (dk_at dksX7_goesOn_9 0 rfl rfl)
theorem dX7_goesOn_214 : decode cX7_goesOn 214 = .ok (.istore 8, 2) := dk_54 8 (dk_at dksX7_goesOn_9 3 rfl rfl)
theorem dX7_goesOn_216 : decode cX7_goesOn 216 = .ok (.aload_n 0, 1) := dk_42 (dk_at dksX7_goesOn_9 5 rfl rfl)
theorem dX7_goesOn_217 : decode cX7_goesOn 217 = .ok (.getfield 160, 3) := dk_180 0 160 (dk_at dksX7_goesOn_9 6 rfl rfl)
theorem dX7_goesOn_220 : decode cX7_goesOn 220 = .ok (.iload 5, 2) := dk_21 5 (dk_at dksX7_goesOn_9 9 rfl rfl)
theorem dX7_goesOn_222 : decode cX7_goesOn 222 = .ok (.iload 8, 2) := dk_21 8 (dk_at dksX7_goesOn_9 11 rfl rfl)
theorem dX7_goesOn_224 : decode cX7_goesOn 224 = .ok (.bastore, 1) := dk_84 (dk_at dksX7_goesOn_9 13 rfl rfl)
theorem dX7_goesOn_225 : decode cX7_goesOn 225 = .ok (.aload_n 0, 1) := dk_42 (dk_at dksX7_goesOn_9 14 rfl rfl)
theorem dX7_goesOn_226 : decode cX7_goesOn 226 = .ok (.getfield 154, 3) := dk_180 0 154 (dk_at dksX7_goesOn_9 15 rfl rfl)
theorem dX7_goesOn_229 : decode cX7_goesOn 229 = .ok (.iload 5, 2) := dk_21 5 (dk_at dksX7_goesOn_9 18 rfl rfl)
theorem dX7_goesOn_231 : decode cX7_goesOn 231 = .ok (.iload 8, 2) := dk_21 8 (dk_at dksX7_goesOn_9 20 rfl rfl)
theorem dX7_goesOn_233 : decode cX7_goesOn 233 = .ok (.ifCond .eq 7, 3) := dk_153 0 7 (dk_at dksX7_goesOn_10 0 rfl rfl)
theorem dX7_goesOn_236 : decode cX7_goesOn 236 = .ok (.iconst 0, 1) := dk_3 (dk_at dksX7_goesOn_10 3 rfl rfl)
theorem dX7_goesOn_237 : decode cX7_goesOn 237 = .ok (.goto 15, 3) := dk_167 0 15 (dk_at dksX7_goesOn_10 4 rfl rfl)
theorem dX7_goesOn_240 : decode cX7_goesOn 240 = .ok (.aload_n 0, 1) := dk_42 (dk_at dksX7_goesOn_10 7 rfl rfl)
theorem dX7_goesOn_241 : decode cX7_goesOn 241 = .ok (.iload_n 1, 1) := dk_27 (dk_at dksX7_goesOn_10 8 rfl rfl)
theorem dX7_goesOn_242 : decode cX7_goesOn 242 = .ok (.iconst 0, 1) := dk_3 (dk_at dksX7_goesOn_10 9 rfl rfl)
theorem dX7_goesOn_243 : decode cX7_goesOn 243 = .ok (.aload_n 0, 1) := dk_42 (dk_at dksX7_goesOn_10 10 rfl rfl)
theorem dX7_goesOn_244 : decode cX7_goesOn 244 = .ok (.getfield 148, 3) := dk_180 0 148 (dk_at dksX7_goesOn_10 11 rfl rfl)
theorem dX7_goesOn_247 : decode cX7_goesOn 247 = .ok (.iconst 0, 1) := dk_3 (dk_at dksX7_goesOn_10 14 rfl rfl)
theorem dX7_goesOn_248 : decode cX7_goesOn 248 = .ok (.iaload, 1) := dk_46 (dk_at dksX7_goesOn_10 15 rfl rfl)
theorem dX7_goesOn_249 : decode cX7_goesOn 249 = .ok (.invokevirtual 412, 3) := dk_182 1 156 (dk_at dksX7_goesOn_10 16 rfl rfl)
theorem dX7_goesOn_252 : decode cX7_goesOn 252 = .ok (.iastore, 1) := dk_79 (dk_at dksX7_goesOn_10 19 rfl rfl)
theorem dX7_goesOn_253 : decode cX7_goesOn 253 = .ok (.aload_n 0, 1) := dk_42 (dk_at dksX7_goesOn_10 20 rfl rfl)
theorem dX7_goesOn_254 : decode cX7_goesOn 254 = .ok (.getfield 157, 3) := dk_180 0 157 (dk_at dksX7_goesOn_10 21 rfl rfl)
theorem dX7_goesOn_257 : decode cX7_goesOn 257 = .ok (.iload 5, 2) := dk_21 5 (dk_at dksX7_goesOn_11 0 rfl rfl)
theorem dX7_goesOn_259 : decode cX7_goesOn 259 = .ok (.iload 8, 2) := dk_21 8 (dk_at dksX7_goesOn_11 2 rfl rfl)
theorem dX7_goesOn_261 : decode cX7_goesOn 261 = .ok (.ifCond .eq 7, 3) := dk_153 0 7 (dk_at dksX7_goesOn_11 4 rfl rfl)
theorem dX7_goesOn_264 : decode cX7_goesOn 264 = .ok (.iconst 0, 1) := dk_3 (dk_at dksX7_goesOn_11 7 rfl rfl)
theorem dX7_goesOn_265 : decode cX7_goesOn 265 = .ok (.goto 15, 3) := dk_167 0 15 (dk_at dksX7_goesOn_11 8 rfl rfl)
theorem dX7_goesOn_268 : decode cX7_goesOn 268 = .ok (.aload_n 0, 1) := dk_42 (dk_at dksX7_goesOn_11 11 rfl rfl)
theorem dX7_goesOn_269 : decode cX7_goesOn 269 = .ok (.iload_n 1, 1) := dk_27 (dk_at dksX7_goesOn_11 12 rfl rfl)
theorem dX7_goesOn_270 : decode cX7_goesOn 270 = .ok (.iconst 1, 1) := dk_4 (dk_at dksX7_goesOn_11 13 rfl rfl)
theorem dX7_goesOn_271 : decode cX7_goesOn 271 = .ok (.aload_n 0, 1) := dk_42 (dk_at dksX7_goesOn_11 14 rfl rfl)
theorem dX7_goesOn_272 : decode cX7_goesOn 272 = .ok (.getfield 148, 3) := dk_180 0 148 (dk_at dksX7_goesOn_11 15 rfl rfl)
theorem dX7_goesOn_275 : decode cX7_goesOn 275 = .ok (.iconst 1, 1) := dk_4 (dk_at dksX7_goesOn_11 18 rfl rfl)
theorem dX7_goesOn_276 : decode cX7_goesOn 276 = .ok (.iaload, 1) := dk_46 (dk_at dksX7_goesOn_11 19 rfl rfl)
theorem dX7_goesOn_277 : decode cX7_goesOn 277 = .ok (.invokevirtual 412, 3) := dk_182 1 156 (dk_at dksX7_goesOn_11 20 rfl rfl)
theorem dX7_goesOn_280 : decode cX7_goesOn 280 = .ok (.iastore, 1) := dk_79 (dk_at dksX7_goesOn_11 23 rfl rfl)
theorem dX7_goesOn_281 : decode cX7_goesOn 281 = .ok (.return_, 1) := dk_177 (dk_at dksX7_goesOn_12 0 rfl rfl)
def dkwX7_isSo_1 : List UInt8 := [167, 0, 4, 3, 172]
abbrev dktX7_isSo_1 : List UInt8 := dkwX7_isSo_1 ++ []
def dkwX7_isSo_0 : List UInt8 := [42, 180, 0, 136, 7, 27, 104, 28, 96, 46, 155, 0, 16, 42, 27, 28, 182, 1, 138, 153, 0, 7, 4]
abbrev dktX7_isSo_0 : List UInt8 := dkwX7_isSo_0 ++ dktX7_isSo_1
theorem dksX7_isSo_0 : cX7_isSo.data.toList.drop 0 = dktX7_isSo_0 := by decide +kernel
theorem dksX7_isSo_1 : cX7_isSo.data.toList.drop 23 = dktX7_isSo_1 := dk_seg dksX7_isSo_0 23 rfl rfl
theorem dX7_isSo_0 : decode cX7_isSo 0 = .ok (.aload_n 0, 1) := dk_42 (dk_at dksX7_isSo_0 0 rfl rfl)
theorem dX7_isSo_1 : decode cX7_isSo 1 = .ok (.getfield 136, 3) := dk_180 0 136 (dk_at dksX7_isSo_0 1 rfl rfl)
theorem dX7_isSo_4 : decode cX7_isSo 4 = .ok (.iconst 4, 1) := dk_7 (dk_at dksX7_isSo_0 4 rfl rfl)
theorem dX7_isSo_5 : decode cX7_isSo 5 = .ok (.iload_n 1, 1) := dk_27 (dk_at dksX7_isSo_0 5 rfl rfl)
theorem dX7_isSo_6 : decode cX7_isSo 6 = .ok (.imul, 1) := dk_104 (dk_at dksX7_isSo_0 6 rfl rfl)
theorem dX7_isSo_7 : decode cX7_isSo 7 = .ok (.iload_n 2, 1) := dk_28 (dk_at dksX7_isSo_0 7 rfl rfl)
theorem dX7_isSo_8 : decode cX7_isSo 8 = .ok (.iadd, 1) := dk_96 (dk_at dksX7_isSo_0 8 rfl rfl)
theorem dX7_isSo_9 : decode cX7_isSo 9 = .ok (.iaload, 1) := dk_46 (dk_at dksX7_isSo_0 9 rfl rfl)
theorem dX7_isSo_10 : decode cX7_isSo 10 = .ok (.ifCond .lt 16, 3) := dk_155 0 16 (dk_at dksX7_isSo_0 10 rfl rfl)
theorem dX7_isSo_13 : decode cX7_isSo 13 = .ok (.aload_n 0, 1) := dk_42 (dk_at dksX7_isSo_0 13 rfl rfl)
theorem dX7_isSo_14 : decode cX7_isSo 14 = .ok (.iload_n 1, 1) := dk_27 (dk_at dksX7_isSo_0 14 rfl rfl)
theorem dX7_isSo_15 : decode cX7_isSo 15 = .ok (.iload_n 2, 1) := dk_28 (dk_at dksX7_isSo_0 15 rfl rfl)
theorem dX7_isSo_16 : decode cX7_isSo 16 = .ok (.invokevirtual 394, 3) := dk_182 1 138 (dk_at dksX7_isSo_0 16 rfl rfl)
theorem dX7_isSo_19 : decode cX7_isSo 19 = .ok (.ifCond .eq 7, 3) := dk_153 0 7 (dk_at dksX7_isSo_0 19 rfl rfl)
theorem dX7_isSo_22 : decode cX7_isSo 22 = .ok (.iconst 1, 1) := dk_4 (dk_at dksX7_isSo_0 22 rfl rfl)
theorem dX7_isSo_23 : decode cX7_isSo 23 = .ok (.goto 4, 3) := dk_167 0 4 (dk_at dksX7_isSo_1 0 rfl rfl)
theorem dX7_isSo_26 : decode cX7_isSo 26 = .ok (.iconst 0, 1) := dk_3 (dk_at dksX7_isSo_1 3 rfl rfl)
theorem dX7_isSo_27 : decode cX7_isSo 27 = .ok (.ireturn, 1) := dk_172 (dk_at dksX7_isSo_1 4 rfl rfl)
def dkwX7_worthOf_0 : List UInt8 := [42, 17, 4, 76, 27, 104, 42, 180, 0, 136, 7, 27, 104, 28, 96, 46, 96, 182, 1, 132, 172]
abbrev dktX7_worthOf_0 : List UInt8 := dkwX7_worthOf_0 ++ []
theorem dksX7_worthOf_0 : cX7_worthOf.data.toList.drop 0 = dktX7_worthOf_0 := by decide +kernel
theorem dX7_worthOf_0 : decode cX7_worthOf 0 = .ok (.aload_n 0, 1) := dk_42 (dk_at dksX7_worthOf_0 0 rfl rfl)
theorem dX7_worthOf_1 : decode cX7_worthOf 1 = .ok (.sipush 1100, 3) := dk_17 4 76 (dk_at dksX7_worthOf_0 1 rfl rfl)
theorem dX7_worthOf_4 : decode cX7_worthOf 4 = .ok (.iload_n 1, 1) := dk_27 (dk_at dksX7_worthOf_0 4 rfl rfl)
theorem dX7_worthOf_5 : decode cX7_worthOf 5 = .ok (.imul, 1) := dk_104 (dk_at dksX7_worthOf_0 5 rfl rfl)
theorem dX7_worthOf_6 : decode cX7_worthOf 6 = .ok (.aload_n 0, 1) := dk_42 (dk_at dksX7_worthOf_0 6 rfl rfl)
theorem dX7_worthOf_7 : decode cX7_worthOf 7 = .ok (.getfield 136, 3) := dk_180 0 136 (dk_at dksX7_worthOf_0 7 rfl rfl)
theorem dX7_worthOf_10 : decode cX7_worthOf 10 = .ok (.iconst 4, 1) := dk_7 (dk_at dksX7_worthOf_0 10 rfl rfl)
theorem dX7_worthOf_11 : decode cX7_worthOf 11 = .ok (.iload_n 1, 1) := dk_27 (dk_at dksX7_worthOf_0 11 rfl rfl)
theorem dX7_worthOf_12 : decode cX7_worthOf 12 = .ok (.imul, 1) := dk_104 (dk_at dksX7_worthOf_0 12 rfl rfl)
theorem dX7_worthOf_13 : decode cX7_worthOf 13 = .ok (.iload_n 2, 1) := dk_28 (dk_at dksX7_worthOf_0 13 rfl rfl)
theorem dX7_worthOf_14 : decode cX7_worthOf 14 = .ok (.iadd, 1) := dk_96 (dk_at dksX7_worthOf_0 14 rfl rfl)
theorem dX7_worthOf_15 : decode cX7_worthOf 15 = .ok (.iaload, 1) := dk_46 (dk_at dksX7_worthOf_0 15 rfl rfl)
theorem dX7_worthOf_16 : decode cX7_worthOf 16 = .ok (.iadd, 1) := dk_96 (dk_at dksX7_worthOf_0 16 rfl rfl)
theorem dX7_worthOf_17 : decode cX7_worthOf 17 = .ok (.invokevirtual 388, 3) := dk_182 1 132 (dk_at dksX7_worthOf_0 17 rfl rfl)
theorem dX7_worthOf_20 : decode cX7_worthOf 20 = .ok (.ireturn, 1) := dk_172 (dk_at dksX7_worthOf_0 20 rfl rfl)
def dkwX7_worthAt_6 : List UInt8 := [180, 0, 151, 3, 46, 172]
abbrev dktX7_worthAt_6 : List UInt8 := dkwX7_worthAt_6 ++ []
def dkwX7_worthAt_5 : List UInt8 := [180, 0, 151, 28, 4, 100, 46, 42, 180, 0, 151, 28, 46, 184, 1, 135, 79, 132, 3, 1, 167, 255, 123, 42]
abbrev dktX7_worthAt_5 : List UInt8 := dkwX7_worthAt_5 ++ dktX7_worthAt_6
def dkwX7_worthAt_4 : List UInt8 := [4, 167, 0, 4, 3, 79, 167, 0, 33, 132, 2, 255, 42, 180, 0, 151, 28, 4, 100, 21, 4, 42]
abbrev dktX7_worthAt_4 : List UInt8 := dkwX7_worthAt_4 ++ dktX7_worthAt_5
def dkwX7_worthAt_3 : List UInt8 := [21, 4, 6, 160, 0, 30, 42, 180, 0, 151, 28, 4, 100, 42, 180, 0, 151, 28, 4, 100, 46, 154, 0, 7]
abbrev dktX7_worthAt_3 : List UInt8 := dkwX7_worthAt_3 ++ dktX7_worthAt_4
def dkwX7_worthAt_2 : List UInt8 := [29, 46, 167, 0, 14, 42, 180, 0, 148, 42, 180, 0, 142, 29, 46, 46, 79, 132, 2, 1, 167, 0, 66]
abbrev dktX7_worthAt_2 : List UInt8 := dkwX7_worthAt_2 ++ dktX7_worthAt_3
def dkwX7_worthAt_1 : List UInt8 := [159, 0, 9, 21, 4, 5, 160, 0, 41, 42, 180, 0, 151, 28, 21, 4, 4, 160, 0, 12, 42, 180, 0, 142]
abbrev dktX7_worthAt_1 : List UInt8 := dkwX7_worthAt_1 ++ dktX7_worthAt_2
def dkwX7_worthAt_0 : List UInt8 := [3, 61, 27, 62, 42, 180, 0, 139, 29, 46, 153, 0, 130, 42, 180, 0, 139, 29, 46, 54, 4, 21, 4, 4]
abbrev dktX7_worthAt_0 : List UInt8 := dkwX7_worthAt_0 ++ dktX7_worthAt_1
theorem dksX7_worthAt_0 : cX7_worthAt.data.toList.drop 0 = dktX7_worthAt_0 := by decide +kernel
theorem dksX7_worthAt_1 : cX7_worthAt.data.toList.drop 24 = dktX7_worthAt_1 := dk_seg dksX7_worthAt_0 24 rfl rfl
theorem dksX7_worthAt_2 : cX7_worthAt.data.toList.drop 48 = dktX7_worthAt_2 := dk_seg dksX7_worthAt_1 24 rfl rfl
theorem dksX7_worthAt_3 : cX7_worthAt.data.toList.drop 71 = dktX7_worthAt_3 := dk_seg dksX7_worthAt_2 23 rfl rfl
theorem dksX7_worthAt_4 : cX7_worthAt.data.toList.drop 95 = dktX7_worthAt_4 := dk_seg dksX7_worthAt_3 24 rfl rfl
theorem dksX7_worthAt_5 : cX7_worthAt.data.toList.drop 117 = dktX7_worthAt_5 := dk_seg dksX7_worthAt_4 22 rfl rfl
theorem dksX7_worthAt_6 : cX7_worthAt.data.toList.drop 141 = dktX7_worthAt_6 := dk_seg dksX7_worthAt_5 24 rfl rfl
theorem dX7_worthAt_0 : decode cX7_worthAt 0 = .ok (.iconst 0, 1) := dk_3 (dk_at dksX7_worthAt_0 0 rfl rfl)
theorem dX7_worthAt_1 : decode cX7_worthAt 1 = .ok (.istore_n 2, 1) := dk_61 (dk_at dksX7_worthAt_0 1 rfl rfl)
theorem dX7_worthAt_2 : decode cX7_worthAt 2 = .ok (.iload_n 1, 1) := dk_27 (dk_at dksX7_worthAt_0 2 rfl rfl)
theorem dX7_worthAt_3 : decode cX7_worthAt 3 = .ok (.istore_n 3, 1) := dk_62 (dk_at dksX7_worthAt_0 3 rfl rfl)
theorem dX7_worthAt_4 : decode cX7_worthAt 4 = .ok (.aload_n 0, 1) := dk_42 (dk_at dksX7_worthAt_0 4 rfl rfl)
theorem dX7_worthAt_5 : decode cX7_worthAt 5 = .ok (.getfield 139, 3) := dk_180 0 139 (dk_at dksX7_worthAt_0 5 rfl rfl)
theorem dX7_worthAt_8 : decode cX7_worthAt 8 = .ok (.iload_n 3, 1) := dk_29 (dk_at dksX7_worthAt_0 8 rfl rfl)
theorem dX7_worthAt_9 : decode cX7_worthAt 9 = .ok (.iaload, 1) := dk_46 (dk_at dksX7_worthAt_0 9 rfl rfl)
theorem dX7_worthAt_10 : decode cX7_worthAt 10 = .ok (.ifCond .eq 130, 3) := dk_153 0 130 (dk_at dksX7_worthAt_0 10 rfl rfl)
theorem dX7_worthAt_13 : decode cX7_worthAt 13 = .ok (.aload_n 0, 1) := dk_42 (dk_at dksX7_worthAt_0 13 rfl rfl)
theorem dX7_worthAt_14 : decode cX7_worthAt 14 = .ok (.getfield 139, 3) := dk_180 0 139 (dk_at dksX7_worthAt_0 14 rfl rfl)
theorem dX7_worthAt_17 : decode cX7_worthAt 17 = .ok (.iload_n 3, 1) := dk_29 (dk_at dksX7_worthAt_0 17 rfl rfl)
theorem dX7_worthAt_18 : decode cX7_worthAt 18 = .ok (.iaload, 1) := dk_46 (dk_at dksX7_worthAt_0 18 rfl rfl)
theorem dX7_worthAt_19 : decode cX7_worthAt 19 = .ok (.istore 4, 2) := dk_54 4 (dk_at dksX7_worthAt_0 19 rfl rfl)
theorem dX7_worthAt_21 : decode cX7_worthAt 21 = .ok (.iload 4, 2) := dk_21 4 (dk_at dksX7_worthAt_0 21 rfl rfl)
theorem dX7_worthAt_23 : decode cX7_worthAt 23 = .ok (.iconst 1, 1) := dk_4 (dk_at dksX7_worthAt_0 23 rfl rfl)
theorem dX7_worthAt_24 : decode cX7_worthAt 24 = .ok (.if_icmp .eq 9, 3) := dk_159 0 9 (dk_at dksX7_worthAt_1 0 rfl rfl)
theorem dX7_worthAt_27 : decode cX7_worthAt 27 = .ok (.iload 4, 2) := dk_21 4 (dk_at dksX7_worthAt_1 3 rfl rfl)
theorem dX7_worthAt_29 : decode cX7_worthAt 29 = .ok (.iconst 2, 1) := dk_5 (dk_at dksX7_worthAt_1 5 rfl rfl)
theorem dX7_worthAt_30 : decode cX7_worthAt 30 = .ok (.if_icmp .ne 41, 3) := dk_160 0 41 (dk_at dksX7_worthAt_1 6 rfl rfl)
theorem dX7_worthAt_33 : decode cX7_worthAt 33 = .ok (.aload_n 0, 1) := dk_42 (dk_at dksX7_worthAt_1 9 rfl rfl)
theorem dX7_worthAt_34 : decode cX7_worthAt 34 = .ok (.getfield 151, 3) := dk_180 0 151 (dk_at dksX7_worthAt_1 10 rfl rfl)
theorem dX7_worthAt_37 : decode cX7_worthAt 37 = .ok (.iload_n 2, 1) := dk_28 (dk_at dksX7_worthAt_1 13 rfl rfl)
theorem dX7_worthAt_38 : decode cX7_worthAt 38 = .ok (.iload 4, 2) := dk_21 4 (dk_at dksX7_worthAt_1 14 rfl rfl)
theorem dX7_worthAt_40 : decode cX7_worthAt 40 = .ok (.iconst 1, 1) := dk_4 (dk_at dksX7_worthAt_1 16 rfl rfl)
theorem dX7_worthAt_41 : decode cX7_worthAt 41 = .ok (.if_icmp .ne 12, 3) := dk_160 0 12 (dk_at dksX7_worthAt_1 17 rfl rfl)
theorem dX7_worthAt_44 : decode cX7_worthAt 44 = .ok (.aload_n 0, 1) := dk_42 (dk_at dksX7_worthAt_1 20 rfl rfl)
theorem dX7_worthAt_45 : decode cX7_worthAt 45 = .ok (.getfield 142, 3) := dk_180 0 142 (dk_at dksX7_worthAt_1 21 rfl rfl)
theorem dX7_worthAt_48 : decode cX7_worthAt 48 = .ok (.iload_n 3, 1) := dk_29 (dk_at dksX7_worthAt_2 0 rfl rfl)
theorem dX7_worthAt_49 : decode cX7_worthAt 49 = .ok (.iaload, 1) := dk_46 (dk_at dksX7_worthAt_2 1 rfl rfl)
theorem dX7_worthAt_50 : decode cX7_worthAt 50 = .ok (.goto 14, 3) := dk_167 0 14 (dk_at dksX7_worthAt_2 2 rfl rfl)
theorem dX7_worthAt_53 : decode cX7_worthAt 53 = .ok (.aload_n 0, 1) := dk_42 (dk_at dksX7_worthAt_2 5 rfl rfl)
theorem dX7_worthAt_54 : decode cX7_worthAt 54 = .ok (.getfield 148, 3) := dk_180 0 148 (dk_at dksX7_worthAt_2 6 rfl rfl)
theorem dX7_worthAt_57 : decode cX7_worthAt 57 = .ok (.aload_n 0, 1) := dk_42 (dk_at dksX7_worthAt_2 9 rfl rfl)
theorem dX7_worthAt_58 : decode cX7_worthAt 58 = .ok (.getfield 142, 3) := dk_180 0 142 (dk_at dksX7_worthAt_2 10 rfl rfl)
theorem dX7_worthAt_61 : decode cX7_worthAt 61 = .ok (.iload_n 3, 1) := dk_29 (dk_at dksX7_worthAt_2 13 rfl rfl)
theorem dX7_worthAt_62 : decode cX7_worthAt 62 = .ok (.iaload, 1) := dk_46 (dk_at dksX7_worthAt_2 14 rfl rfl)
theorem dX7_worthAt_63 : decode cX7_worthAt 63 = .ok (.iaload, 1) := dk_46 (dk_at dksX7_worthAt_2 15 rfl rfl)
theorem dX7_worthAt_64 : decode cX7_worthAt 64 = .ok (.iastore, 1) := dk_79 (dk_at dksX7_worthAt_2 16 rfl rfl)
theorem dX7_worthAt_65 : decode cX7_worthAt 65 = .ok (.iinc 2 1, 3) := dk_132 2 1 (dk_at dksX7_worthAt_2 17 rfl rfl)
theorem dX7_worthAt_68 : decode cX7_worthAt 68 = .ok (.goto 66, 3) := dk_167 0 66 (dk_at dksX7_worthAt_2 20 rfl rfl)
theorem dX7_worthAt_71 : decode cX7_worthAt 71 = .ok (.iload 4, 2) := dk_21 4 (dk_at dksX7_worthAt_3 0 rfl rfl)
theorem dX7_worthAt_73 : decode cX7_worthAt 73 = .ok (.iconst 3, 1) := dk_6 (dk_at dksX7_worthAt_3 2 rfl rfl)
theorem dX7_worthAt_74 : decode cX7_worthAt 74 = .ok (.if_icmp .ne 30, 3) := dk_160 0 30 (dk_at dksX7_worthAt_3 3 rfl rfl)
theorem dX7_worthAt_77 : decode cX7_worthAt 77 = .ok (.aload_n 0, 1) := dk_42 (dk_at dksX7_worthAt_3 6 rfl rfl)
theorem dX7_worthAt_78 : decode cX7_worthAt 78 = .ok (.getfield 151, 3) := dk_180 0 151 (dk_at dksX7_worthAt_3 7 rfl rfl)
theorem dX7_worthAt_81 : decode cX7_worthAt 81 = .ok (.iload_n 2, 1) := dk_28 (dk_at dksX7_worthAt_3 10 rfl rfl)
theorem dX7_worthAt_82 : decode cX7_worthAt 82 = .ok (.iconst 1, 1) := dk_4 (dk_at dksX7_worthAt_3 11 rfl rfl)
theorem dX7_worthAt_83 : decode cX7_worthAt 83 = .ok (.isub, 1) := dk_100 (dk_at dksX7_worthAt_3 12 rfl rfl)
theorem dX7_worthAt_84 : decode cX7_worthAt 84 = .ok (.aload_n 0, 1) := dk_42 (dk_at dksX7_worthAt_3 13 rfl rfl)
theorem dX7_worthAt_85 : decode cX7_worthAt 85 = .ok (.getfield 151, 3) := dk_180 0 151 (dk_at dksX7_worthAt_3 14 rfl rfl)
theorem dX7_worthAt_88 : decode cX7_worthAt 88 = .ok (.iload_n 2, 1) := dk_28 (dk_at dksX7_worthAt_3 17 rfl rfl)
theorem dX7_worthAt_89 : decode cX7_worthAt 89 = .ok (.iconst 1, 1) := dk_4 (dk_at dksX7_worthAt_3 18 rfl rfl)
theorem dX7_worthAt_90 : decode cX7_worthAt 90 = .ok (.isub, 1) := dk_100 (dk_at dksX7_worthAt_3 19 rfl rfl)
theorem dX7_worthAt_91 : decode cX7_worthAt 91 = .ok (.iaload, 1) := dk_46 (dk_at dksX7_worthAt_3 20 rfl rfl)
theorem dX7_worthAt_92 : decode cX7_worthAt 92 = .ok (.ifCond .ne 7, 3) := dk_154 0 7 (dk_at dksX7_worthAt_3 21 rfl rfl)
theorem dX7_worthAt_95 : decode cX7_worthAt 95 = .ok (.iconst 1, 1) := dk_4 (dk_at dksX7_worthAt_4 0 rfl rfl)
theorem dX7_worthAt_96 : decode cX7_worthAt 96 = .ok (.goto 4, 3) := dk_167 0 4 (dk_at dksX7_worthAt_4 1 rfl rfl)
theorem dX7_worthAt_99 : decode cX7_worthAt 99 = .ok (.iconst 0, 1) := dk_3 (dk_at dksX7_worthAt_4 4 rfl rfl)
theorem dX7_worthAt_100 : decode cX7_worthAt 100 = .ok (.iastore, 1) := dk_79 (dk_at dksX7_worthAt_4 5 rfl rfl)
theorem dX7_worthAt_101 : decode cX7_worthAt 101 = .ok (.goto 33, 3) := dk_167 0 33 (dk_at dksX7_worthAt_4 6 rfl rfl)
theorem dX7_worthAt_104 : decode cX7_worthAt 104 = .ok (.iinc 2 (-1), 3) := dk_132 2 255 (dk_at dksX7_worthAt_4 9 rfl rfl)
theorem dX7_worthAt_107 : decode cX7_worthAt 107 = .ok (.aload_n 0, 1) := dk_42 (dk_at dksX7_worthAt_4 12 rfl rfl)
theorem dX7_worthAt_108 : decode cX7_worthAt 108 = .ok (.getfield 151, 3) := dk_180 0 151 (dk_at dksX7_worthAt_4 13 rfl rfl)
theorem dX7_worthAt_111 : decode cX7_worthAt 111 = .ok (.iload_n 2, 1) := dk_28 (dk_at dksX7_worthAt_4 16 rfl rfl)
theorem dX7_worthAt_112 : decode cX7_worthAt 112 = .ok (.iconst 1, 1) := dk_4 (dk_at dksX7_worthAt_4 17 rfl rfl)
theorem dX7_worthAt_113 : decode cX7_worthAt 113 = .ok (.isub, 1) := dk_100 (dk_at dksX7_worthAt_4 18 rfl rfl)
theorem dX7_worthAt_114 : decode cX7_worthAt 114 = .ok (.iload 4, 2) := dk_21 4 (dk_at dksX7_worthAt_4 19 rfl rfl)
theorem dX7_worthAt_116 : decode cX7_worthAt 116 = .ok (.aload_n 0, 1) := dk_42 (dk_at dksX7_worthAt_4 21 rfl rfl)
theorem dX7_worthAt_117 : decode cX7_worthAt 117 = .ok (.getfield 151, 3) := dk_180 0 151 (dk_at dksX7_worthAt_5 0 rfl rfl)
theorem dX7_worthAt_120 : decode cX7_worthAt 120 = .ok (.iload_n 2, 1) := dk_28 (dk_at dksX7_worthAt_5 3 rfl rfl)
theorem dX7_worthAt_121 : decode cX7_worthAt 121 = .ok (.iconst 1, 1) := dk_4 (dk_at dksX7_worthAt_5 4 rfl rfl)
theorem dX7_worthAt_122 : decode cX7_worthAt 122 = .ok (.isub, 1) := dk_100 (dk_at dksX7_worthAt_5 5 rfl rfl)
theorem dX7_worthAt_123 : decode cX7_worthAt 123 = .ok (.iaload, 1) := dk_46 (dk_at dksX7_worthAt_5 6 rfl rfl)
theorem dX7_worthAt_124 : decode cX7_worthAt 124 = .ok (.aload_n 0, 1) := dk_42 (dk_at dksX7_worthAt_5 7 rfl rfl)
theorem dX7_worthAt_125 : decode cX7_worthAt 125 = .ok (.getfield 151, 3) := dk_180 0 151 (dk_at dksX7_worthAt_5 8 rfl rfl)
theorem dX7_worthAt_128 : decode cX7_worthAt 128 = .ok (.iload_n 2, 1) := dk_28 (dk_at dksX7_worthAt_5 11 rfl rfl)
theorem dX7_worthAt_129 : decode cX7_worthAt 129 = .ok (.iaload, 1) := dk_46 (dk_at dksX7_worthAt_5 12 rfl rfl)
theorem dX7_worthAt_130 : decode cX7_worthAt 130 = .ok (.invokestatic 391, 3) := dk_184 1 135 (dk_at dksX7_worthAt_5 13 rfl rfl)
theorem dX7_worthAt_133 : decode cX7_worthAt 133 = .ok (.iastore, 1) := dk_79 (dk_at dksX7_worthAt_5 16 rfl rfl)
theorem dX7_worthAt_134 : decode cX7_worthAt 134 = .ok (.iinc 3 1, 3) := dk_132 3 1 (dk_at dksX7_worthAt_5 17 rfl rfl)
theorem dX7_worthAt_137 : decode cX7_worthAt 137 = .ok (.goto (-133), 3) := dk_167 255 123 (dk_at dksX7_worthAt_5 20 rfl rfl)
theorem dX7_worthAt_140 : decode cX7_worthAt 140 = .ok (.aload_n 0, 1) := dk_42 (dk_at dksX7_worthAt_5 23 rfl rfl)
theorem dX7_worthAt_141 : decode cX7_worthAt 141 = .ok (.getfield 151, 3) := dk_180 0 151 (dk_at dksX7_worthAt_6 0 rfl rfl)
theorem dX7_worthAt_144 : decode cX7_worthAt 144 = .ok (.iconst 0, 1) := dk_3 (dk_at dksX7_worthAt_6 3 rfl rfl)
theorem dX7_worthAt_145 : decode cX7_worthAt 145 = .ok (.iaload, 1) := dk_46 (dk_at dksX7_worthAt_6 4 rfl rfl)
theorem dX7_worthAt_146 : decode cX7_worthAt 146 = .ok (.ireturn, 1) := dk_172 (dk_at dksX7_worthAt_6 5 rfl rfl)
def dkwX7_both_4 : List UInt8 := [27, 154, 0, 7, 28, 153, 0, 7, 4, 167, 0, 4, 3, 172]
abbrev dktX7_both_4 : List UInt8 := dkwX7_both_4 ++ []
def dkwX7_both_3 : List UInt8 := [28, 160, 0, 7, 4, 167, 0, 4, 3, 172, 27, 153, 0, 11, 28, 153, 0, 7, 4, 167, 0, 4, 3, 172]
abbrev dktX7_both_3 : List UInt8 := dkwX7_both_3 ++ dktX7_both_4
def dkwX7_both_2 : List UInt8 := [27, 28, 96, 172, 27, 28, 100, 172, 27, 28, 104, 172, 27, 28, 162, 0, 7, 4, 167, 0, 4, 3, 172, 27]
abbrev dktX7_both_2 : List UInt8 := dkwX7_both_2 ++ dktX7_both_3
def dkwX7_both_1 : List UInt8 := [170, 0, 0, 0, 0, 0, 87, 0, 0, 0, 4, 0, 0, 0, 9, 0, 0, 0, 39, 0, 0, 0, 43, 0, 0, 0, 47, 0, 0, 0, 51, 0, 0, 0, 62, 0, 0, 0, 73]
abbrev dktX7_both_1 : List UInt8 := dkwX7_both_1 ++ dktX7_both_2
def dkwX7_both_0 : List UInt8 := [26]
abbrev dktX7_both_0 : List UInt8 := dkwX7_both_0 ++ dktX7_both_1
theorem dksX7_both_0 : cX7_both.data.toList.drop 0 = dktX7_both_0 := by decide +kernel
theorem dksX7_both_1 : cX7_both.data.toList.drop 1 = dktX7_both_1 := dk_seg dksX7_both_0 1 rfl rfl
theorem dksX7_both_2 : cX7_both.data.toList.drop 40 = dktX7_both_2 := dk_seg dksX7_both_1 39 rfl rfl
theorem dksX7_both_3 : cX7_both.data.toList.drop 64 = dktX7_both_3 := dk_seg dksX7_both_2 24 rfl rfl
theorem dksX7_both_4 : cX7_both.data.toList.drop 88 = dktX7_both_4 := dk_seg dksX7_both_3 24 rfl rfl
theorem dX7_both_0 : decode cX7_both 0 = .ok (.iload_n 0, 1) := dk_26 (dk_at dksX7_both_0 0 rfl rfl)
theorem dX7_both_1 : decode cX7_both 1 = .ok (.tableswitch 87 4 9 #[39, 43, 47, 51, 62, 73], 39) := by decide +kernel
theorem dX7_both_40 : decode cX7_both 40 = .ok (.iload_n 1, 1) := dk_27 (dk_at dksX7_both_2 0 rfl rfl)
theorem dX7_both_41 : decode cX7_both 41 = .ok (.iload_n 2, 1) := dk_28 (dk_at dksX7_both_2 1 rfl rfl)
theorem dX7_both_42 : decode cX7_both 42 = .ok (.iadd, 1) := dk_96 (dk_at dksX7_both_2 2 rfl rfl)
theorem dX7_both_43 : decode cX7_both 43 = .ok (.ireturn, 1) := dk_172 (dk_at dksX7_both_2 3 rfl rfl)
theorem dX7_both_44 : decode cX7_both 44 = .ok (.iload_n 1, 1) := dk_27 (dk_at dksX7_both_2 4 rfl rfl)
theorem dX7_both_45 : decode cX7_both 45 = .ok (.iload_n 2, 1) := dk_28 (dk_at dksX7_both_2 5 rfl rfl)
theorem dX7_both_46 : decode cX7_both 46 = .ok (.isub, 1) := dk_100 (dk_at dksX7_both_2 6 rfl rfl)
theorem dX7_both_47 : decode cX7_both 47 = .ok (.ireturn, 1) := dk_172 (dk_at dksX7_both_2 7 rfl rfl)
theorem dX7_both_48 : decode cX7_both 48 = .ok (.iload_n 1, 1) := dk_27 (dk_at dksX7_both_2 8 rfl rfl)
theorem dX7_both_49 : decode cX7_both 49 = .ok (.iload_n 2, 1) := dk_28 (dk_at dksX7_both_2 9 rfl rfl)
theorem dX7_both_50 : decode cX7_both 50 = .ok (.imul, 1) := dk_104 (dk_at dksX7_both_2 10 rfl rfl)
theorem dX7_both_51 : decode cX7_both 51 = .ok (.ireturn, 1) := dk_172 (dk_at dksX7_both_2 11 rfl rfl)
theorem dX7_both_52 : decode cX7_both 52 = .ok (.iload_n 1, 1) := dk_27 (dk_at dksX7_both_2 12 rfl rfl)
theorem dX7_both_53 : decode cX7_both 53 = .ok (.iload_n 2, 1) := dk_28 (dk_at dksX7_both_2 13 rfl rfl)
theorem dX7_both_54 : decode cX7_both 54 = .ok (.if_icmp .ge 7, 3) := dk_162 0 7 (dk_at dksX7_both_2 14 rfl rfl)
theorem dX7_both_57 : decode cX7_both 57 = .ok (.iconst 1, 1) := dk_4 (dk_at dksX7_both_2 17 rfl rfl)
theorem dX7_both_58 : decode cX7_both 58 = .ok (.goto 4, 3) := dk_167 0 4 (dk_at dksX7_both_2 18 rfl rfl)
theorem dX7_both_61 : decode cX7_both 61 = .ok (.iconst 0, 1) := dk_3 (dk_at dksX7_both_2 21 rfl rfl)
theorem dX7_both_62 : decode cX7_both 62 = .ok (.ireturn, 1) := dk_172 (dk_at dksX7_both_2 22 rfl rfl)
theorem dX7_both_63 : decode cX7_both 63 = .ok (.iload_n 1, 1) := dk_27 (dk_at dksX7_both_2 23 rfl rfl)
theorem dX7_both_64 : decode cX7_both 64 = .ok (.iload_n 2, 1) := dk_28 (dk_at dksX7_both_3 0 rfl rfl)
theorem dX7_both_65 : decode cX7_both 65 = .ok (.if_icmp .ne 7, 3) := dk_160 0 7 (dk_at dksX7_both_3 1 rfl rfl)
theorem dX7_both_68 : decode cX7_both 68 = .ok (.iconst 1, 1) := dk_4 (dk_at dksX7_both_3 4 rfl rfl)
theorem dX7_both_69 : decode cX7_both 69 = .ok (.goto 4, 3) := dk_167 0 4 (dk_at dksX7_both_3 5 rfl rfl)
theorem dX7_both_72 : decode cX7_both 72 = .ok (.iconst 0, 1) := dk_3 (dk_at dksX7_both_3 8 rfl rfl)
theorem dX7_both_73 : decode cX7_both 73 = .ok (.ireturn, 1) := dk_172 (dk_at dksX7_both_3 9 rfl rfl)
theorem dX7_both_74 : decode cX7_both 74 = .ok (.iload_n 1, 1) := dk_27 (dk_at dksX7_both_3 10 rfl rfl)
theorem dX7_both_75 : decode cX7_both 75 = .ok (.ifCond .eq 11, 3) := dk_153 0 11 (dk_at dksX7_both_3 11 rfl rfl)
theorem dX7_both_78 : decode cX7_both 78 = .ok (.iload_n 2, 1) := dk_28 (dk_at dksX7_both_3 14 rfl rfl)
theorem dX7_both_79 : decode cX7_both 79 = .ok (.ifCond .eq 7, 3) := dk_153 0 7 (dk_at dksX7_both_3 15 rfl rfl)
theorem dX7_both_82 : decode cX7_both 82 = .ok (.iconst 1, 1) := dk_4 (dk_at dksX7_both_3 18 rfl rfl)
theorem dX7_both_83 : decode cX7_both 83 = .ok (.goto 4, 3) := dk_167 0 4 (dk_at dksX7_both_3 19 rfl rfl)
theorem dX7_both_86 : decode cX7_both 86 = .ok (.iconst 0, 1) := dk_3 (dk_at dksX7_both_3 22 rfl rfl)
theorem dX7_both_87 : decode cX7_both 87 = .ok (.ireturn, 1) := dk_172 (dk_at dksX7_both_3 23 rfl rfl)
theorem dX7_both_88 : decode cX7_both 88 = .ok (.iload_n 1, 1) := dk_27 (dk_at dksX7_both_4 0 rfl rfl)
theorem dX7_both_89 : decode cX7_both 89 = .ok (.ifCond .ne 7, 3) := dk_154 0 7 (dk_at dksX7_both_4 1 rfl rfl)
theorem dX7_both_92 : decode cX7_both 92 = .ok (.iload_n 2, 1) := dk_28 (dk_at dksX7_both_4 4 rfl rfl)
theorem dX7_both_93 : decode cX7_both 93 = .ok (.ifCond .eq 7, 3) := dk_153 0 7 (dk_at dksX7_both_4 5 rfl rfl)
theorem dX7_both_96 : decode cX7_both 96 = .ok (.iconst 1, 1) := dk_4 (dk_at dksX7_both_4 8 rfl rfl)
theorem dX7_both_97 : decode cX7_both 97 = .ok (.goto 4, 3) := dk_167 0 4 (dk_at dksX7_both_4 9 rfl rfl)
theorem dX7_both_100 : decode cX7_both 100 = .ok (.iconst 0, 1) := dk_3 (dk_at dksX7_both_4 12 rfl rfl)
theorem dX7_both_101 : decode cX7_both 101 = .ok (.ireturn, 1) := dk_172 (dk_at dksX7_both_4 13 rfl rfl)
def dkwX7_handsByLine_1 : List UInt8 := [21, 4, 156, 0, 7, 3, 167, 0, 17, 21, 4, 16, 99, 164, 0, 8, 16, 99, 167, 0, 5, 21, 4, 172]
abbrev dktX7_handsByLine_1 : List UInt8 := dkwX7_handsByLine_1 ++ []
def dkwX7_handsByLine_0 : List UInt8 := [42, 180, 0, 136, 7, 27, 104, 28, 96, 46, 156, 0, 5, 29, 172, 42, 27, 28, 182, 1, 138, 54, 4]
abbrev dktX7_handsByLine_0 : List UInt8 := dkwX7_handsByLine_0 ++ dktX7_handsByLine_1
theorem dksX7_handsByLine_0 : cX7_handsByLine.data.toList.drop 0 = dktX7_handsByLine_0 := by decide +kernel
theorem dksX7_handsByLine_1 : cX7_handsByLine.data.toList.drop 23 = dktX7_handsByLine_1 := dk_seg dksX7_handsByLine_0 23 rfl rfl
theorem dX7_handsByLine_0 : decode cX7_handsByLine 0 = .ok (.aload_n 0, 1) := dk_42 (dk_at dksX7_handsByLine_0 0 rfl rfl)
theorem dX7_handsByLine_1 : decode cX7_handsByLine 1 = .ok (.getfield 136, 3) := dk_180 0 136 (dk_at dksX7_handsByLine_0 1 rfl rfl)
theorem dX7_handsByLine_4 : decode cX7_handsByLine 4 = .ok (.iconst 4, 1) := dk_7 (dk_at dksX7_handsByLine_0 4 rfl rfl)
theorem dX7_handsByLine_5 : decode cX7_handsByLine 5 = .ok (.iload_n 1, 1) := dk_27 (dk_at dksX7_handsByLine_0 5 rfl rfl)
theorem dX7_handsByLine_6 : decode cX7_handsByLine 6 = .ok (.imul, 1) := dk_104 (dk_at dksX7_handsByLine_0 6 rfl rfl)
theorem dX7_handsByLine_7 : decode cX7_handsByLine 7 = .ok (.iload_n 2, 1) := dk_28 (dk_at dksX7_handsByLine_0 7 rfl rfl)
theorem dX7_handsByLine_8 : decode cX7_handsByLine 8 = .ok (.iadd, 1) := dk_96 (dk_at dksX7_handsByLine_0 8 rfl rfl)
theorem dX7_handsByLine_9 : decode cX7_handsByLine 9 = .ok (.iaload, 1) := dk_46 (dk_at dksX7_handsByLine_0 9 rfl rfl)
theorem dX7_handsByLine_10 : decode cX7_handsByLine 10 = .ok (.ifCond .ge 5, 3) := dk_156 0 5 (dk_at dksX7_handsByLine_0 10 rfl rfl)
theorem dX7_handsByLine_13 : decode cX7_handsByLine 13 = .ok (.iload_n 3, 1) := dk_29 (dk_at dksX7_handsByLine_0 13 rfl rfl)
theorem dX7_handsByLine_14 : decode cX7_handsByLine 14 = .ok (.ireturn, 1) := dk_172 (dk_at dksX7_handsByLine_0 14 rfl rfl)
theorem dX7_handsByLine_15 : decode cX7_handsByLine 15 = .ok (.aload_n 0, 1) := dk_42 (dk_at dksX7_handsByLine_0 15 rfl rfl)
theorem dX7_handsByLine_16 : decode cX7_handsByLine 16 = .ok (.iload_n 1, 1) := dk_27 (dk_at dksX7_handsByLine_0 16 rfl rfl)
theorem dX7_handsByLine_17 : decode cX7_handsByLine 17 = .ok (.iload_n 2, 1) := dk_28 (dk_at dksX7_handsByLine_0 17 rfl rfl)
theorem dX7_handsByLine_18 : decode cX7_handsByLine 18 = .ok (.invokevirtual 394, 3) := dk_182 1 138 (dk_at dksX7_handsByLine_0 18 rfl rfl)
theorem dX7_handsByLine_21 : decode cX7_handsByLine 21 = .ok (.istore 4, 2) := dk_54 4 (dk_at dksX7_handsByLine_0 21 rfl rfl)
theorem dX7_handsByLine_23 : decode cX7_handsByLine 23 = .ok (.iload 4, 2) := dk_21 4 (dk_at dksX7_handsByLine_1 0 rfl rfl)
theorem dX7_handsByLine_25 : decode cX7_handsByLine 25 = .ok (.ifCond .ge 7, 3) := dk_156 0 7 (dk_at dksX7_handsByLine_1 2 rfl rfl)
theorem dX7_handsByLine_28 : decode cX7_handsByLine 28 = .ok (.iconst 0, 1) := dk_3 (dk_at dksX7_handsByLine_1 5 rfl rfl)
theorem dX7_handsByLine_29 : decode cX7_handsByLine 29 = .ok (.goto 17, 3) := dk_167 0 17 (dk_at dksX7_handsByLine_1 6 rfl rfl)
theorem dX7_handsByLine_32 : decode cX7_handsByLine 32 = .ok (.iload 4, 2) := dk_21 4 (dk_at dksX7_handsByLine_1 9 rfl rfl)
theorem dX7_handsByLine_34 : decode cX7_handsByLine 34 = .ok (.bipush 99, 2) := dk_16 99 (dk_at dksX7_handsByLine_1 11 rfl rfl)
theorem dX7_handsByLine_36 : decode cX7_handsByLine 36 = .ok (.if_icmp .le 8, 3) := dk_164 0 8 (dk_at dksX7_handsByLine_1 13 rfl rfl)
theorem dX7_handsByLine_39 : decode cX7_handsByLine 39 = .ok (.bipush 99, 2) := dk_16 99 (dk_at dksX7_handsByLine_1 16 rfl rfl)
theorem dX7_handsByLine_41 : decode cX7_handsByLine 41 = .ok (.goto 5, 3) := dk_167 0 5 (dk_at dksX7_handsByLine_1 18 rfl rfl)
theorem dX7_handsByLine_44 : decode cX7_handsByLine 44 = .ok (.iload 4, 2) := dk_21 4 (dk_at dksX7_handsByLine_1 21 rfl rfl)
theorem dX7_handsByLine_46 : decode cX7_handsByLine 46 = .ok (.ireturn, 1) := dk_172 (dk_at dksX7_handsByLine_1 23 rfl rfl)
def dkwX7_worldHands_1 : List UInt8 := [182, 1, 7, 172]
abbrev dktX7_worldHands_1 : List UInt8 := dkwX7_worldHands_1 ++ []
def dkwX7_worldHands_0 : List UInt8 := [42, 42, 180, 0, 154, 16, 12, 27, 104, 28, 96, 46, 42, 180, 0, 157, 16, 12, 27, 104, 28, 96, 46]
abbrev dktX7_worldHands_0 : List UInt8 := dkwX7_worldHands_0 ++ dktX7_worldHands_1
theorem dksX7_worldHands_0 : cX7_worldHands.data.toList.drop 0 = dktX7_worldHands_0 := by decide +kernel
theorem dksX7_worldHands_1 : cX7_worldHands.data.toList.drop 23 = dktX7_worldHands_1 := dk_seg dksX7_worldHands_0 23 rfl rfl
theorem dX7_worldHands_0 : decode cX7_worldHands 0 = .ok (.aload_n 0, 1) := dk_42 (dk_at dksX7_worldHands_0 0 rfl rfl)
theorem dX7_worldHands_1 : decode cX7_worldHands 1 = .ok (.aload_n 0, 1) := dk_42 (dk_at dksX7_worldHands_0 1 rfl rfl)
theorem dX7_worldHands_2 : decode cX7_worldHands 2 = .ok (.getfield 154, 3) := dk_180 0 154 (dk_at dksX7_worldHands_0 2 rfl rfl)
theorem dX7_worldHands_5 : decode cX7_worldHands 5 = .ok (.bipush 12, 2) := dk_16 12 (dk_at dksX7_worldHands_0 5 rfl rfl)
theorem dX7_worldHands_7 : decode cX7_worldHands 7 = .ok (.iload_n 1, 1) := dk_27 (dk_at dksX7_worldHands_0 7 rfl rfl)
theorem dX7_worldHands_8 : decode cX7_worldHands 8 = .ok (.imul, 1) := dk_104 (dk_at dksX7_worldHands_0 8 rfl rfl)
theorem dX7_worldHands_9 : decode cX7_worldHands 9 = .ok (.iload_n 2, 1) := dk_28 (dk_at dksX7_worldHands_0 9 rfl rfl)
theorem dX7_worldHands_10 : decode cX7_worldHands 10 = .ok (.iadd, 1) := dk_96 (dk_at dksX7_worldHands_0 10 rfl rfl)
theorem dX7_worldHands_11 : decode cX7_worldHands 11 = .ok (.iaload, 1) := dk_46 (dk_at dksX7_worldHands_0 11 rfl rfl)
theorem dX7_worldHands_12 : decode cX7_worldHands 12 = .ok (.aload_n 0, 1) := dk_42 (dk_at dksX7_worldHands_0 12 rfl rfl)
theorem dX7_worldHands_13 : decode cX7_worldHands 13 = .ok (.getfield 157, 3) := dk_180 0 157 (dk_at dksX7_worldHands_0 13 rfl rfl)
theorem dX7_worldHands_16 : decode cX7_worldHands 16 = .ok (.bipush 12, 2) := dk_16 12 (dk_at dksX7_worldHands_0 16 rfl rfl)
theorem dX7_worldHands_18 : decode cX7_worldHands 18 = .ok (.iload_n 1, 1) := dk_27 (dk_at dksX7_worldHands_0 18 rfl rfl)
theorem dX7_worldHands_19 : decode cX7_worldHands 19 = .ok (.imul, 1) := dk_104 (dk_at dksX7_worldHands_0 19 rfl rfl)
theorem dX7_worldHands_20 : decode cX7_worldHands 20 = .ok (.iload_n 2, 1) := dk_28 (dk_at dksX7_worldHands_0 20 rfl rfl)
theorem dX7_worldHands_21 : decode cX7_worldHands 21 = .ok (.iadd, 1) := dk_96 (dk_at dksX7_worldHands_0 21 rfl rfl)
theorem dX7_worldHands_22 : decode cX7_worldHands 22 = .ok (.iaload, 1) := dk_46 (dk_at dksX7_worldHands_0 22 rfl rfl)
theorem dX7_worldHands_23 : decode cX7_worldHands 23 = .ok (.invokevirtual 263, 3) := dk_182 1 7 (dk_at dksX7_worldHands_1 0 rfl rfl)
theorem dX7_worldHands_26 : decode cX7_worldHands 26 = .ok (.ireturn, 1) := dk_172 (dk_at dksX7_worldHands_1 3 rfl rfl)
def dkwX7_fits_1 : List UInt8 := [182, 1, 168, 167, 0, 6, 20, 1, 82, 173]
abbrev dktX7_fits_1 : List UInt8 := dkwX7_fits_1 ++ []
def dkwX7_fits_0 : List UInt8 := [42, 3, 181, 0, 1, 27, 3, 6, 184, 0, 253, 153, 0, 19, 28, 184, 1, 165, 153, 0, 12, 42, 27, 28]
abbrev dktX7_fits_0 : List UInt8 := dkwX7_fits_0 ++ dktX7_fits_1
theorem dksX7_fits_0 : cX7_fits.data.toList.drop 0 = dktX7_fits_0 := by decide +kernel
theorem dksX7_fits_1 : cX7_fits.data.toList.drop 24 = dktX7_fits_1 := dk_seg dksX7_fits_0 24 rfl rfl
theorem dX7_fits_0 : decode cX7_fits 0 = .ok (.aload_n 0, 1) := dk_42 (dk_at dksX7_fits_0 0 rfl rfl)
theorem dX7_fits_1 : decode cX7_fits 1 = .ok (.iconst 0, 1) := dk_3 (dk_at dksX7_fits_0 1 rfl rfl)
theorem dX7_fits_2 : decode cX7_fits 2 = .ok (.putfield 1, 3) := dk_181 0 1 (dk_at dksX7_fits_0 2 rfl rfl)
theorem dX7_fits_5 : decode cX7_fits 5 = .ok (.iload_n 1, 1) := dk_27 (dk_at dksX7_fits_0 5 rfl rfl)
theorem dX7_fits_6 : decode cX7_fits 6 = .ok (.iconst 0, 1) := dk_3 (dk_at dksX7_fits_0 6 rfl rfl)
theorem dX7_fits_7 : decode cX7_fits 7 = .ok (.iconst 3, 1) := dk_6 (dk_at dksX7_fits_0 7 rfl rfl)
theorem dX7_fits_8 : decode cX7_fits 8 = .ok (.invokestatic 253, 3) := dk_184 0 253 (dk_at dksX7_fits_0 8 rfl rfl)
theorem dX7_fits_11 : decode cX7_fits 11 = .ok (.ifCond .eq 19, 3) := dk_153 0 19 (dk_at dksX7_fits_0 11 rfl rfl)
theorem dX7_fits_14 : decode cX7_fits 14 = .ok (.iload_n 2, 1) := dk_28 (dk_at dksX7_fits_0 14 rfl rfl)
theorem dX7_fits_15 : decode cX7_fits 15 = .ok (.invokestatic 421, 3) := dk_184 1 165 (dk_at dksX7_fits_0 15 rfl rfl)
theorem dX7_fits_18 : decode cX7_fits 18 = .ok (.ifCond .eq 12, 3) := dk_153 0 12 (dk_at dksX7_fits_0 18 rfl rfl)
theorem dX7_fits_21 : decode cX7_fits 21 = .ok (.aload_n 0, 1) := dk_42 (dk_at dksX7_fits_0 21 rfl rfl)
theorem dX7_fits_22 : decode cX7_fits 22 = .ok (.iload_n 1, 1) := dk_27 (dk_at dksX7_fits_0 22 rfl rfl)
theorem dX7_fits_23 : decode cX7_fits 23 = .ok (.iload_n 2, 1) := dk_28 (dk_at dksX7_fits_0 23 rfl rfl)
theorem dX7_fits_24 : decode cX7_fits 24 = .ok (.invokevirtual 424, 3) := dk_182 1 168 (dk_at dksX7_fits_1 0 rfl rfl)
theorem dX7_fits_27 : decode cX7_fits 27 = .ok (.goto 6, 3) := dk_167 0 6 (dk_at dksX7_fits_1 3 rfl rfl)
theorem dX7_fits_30 : decode cX7_fits 30 = .ok (.ldc2_w 338, 3) := dk_20 1 82 (dk_at dksX7_fits_1 6 rfl rfl)
theorem dX7_fits_33 : decode cX7_fits 33 = .ok (.lreturn, 1) := dk_173 (dk_at dksX7_fits_1 9 rfl rfl)
def dkwX7_areSeeds_0 : List UInt8 := [26, 4, 16, 20, 184, 0, 253, 172]
abbrev dktX7_areSeeds_0 : List UInt8 := dkwX7_areSeeds_0 ++ []
theorem dksX7_areSeeds_0 : cX7_areSeeds.data.toList.drop 0 = dktX7_areSeeds_0 := by decide +kernel
theorem dX7_areSeeds_0 : decode cX7_areSeeds 0 = .ok (.iload_n 0, 1) := dk_26 (dk_at dksX7_areSeeds_0 0 rfl rfl)
theorem dX7_areSeeds_1 : decode cX7_areSeeds 1 = .ok (.iconst 1, 1) := dk_4 (dk_at dksX7_areSeeds_0 1 rfl rfl)
theorem dX7_areSeeds_2 : decode cX7_areSeeds 2 = .ok (.bipush 20, 2) := dk_16 20 (dk_at dksX7_areSeeds_0 2 rfl rfl)
theorem dX7_areSeeds_4 : decode cX7_areSeeds 4 = .ok (.invokestatic 253, 3) := dk_184 0 253 (dk_at dksX7_areSeeds_0 4 rfl rfl)
theorem dX7_areSeeds_7 : decode cX7_areSeeds 7 = .ok (.ireturn, 1) := dk_172 (dk_at dksX7_areSeeds_0 7 rfl rfl)
def dkwX7_fitOf_5 : List UInt8 := [167, 255, 143, 33, 173]
abbrev dktX7_fitOf_5 : List UInt8 := dkwX7_fitOf_5 ++ []
def dkwX7_fitOf_4 : List UInt8 := [156, 0, 10, 21, 7, 116, 133, 167, 0, 6, 21, 7, 133, 97, 66, 132, 6, 1, 167, 255, 165, 132, 5, 1]
abbrev dktX7_fitOf_4 : List UInt8 := dkwX7_fitOf_4 ++ dktX7_fitOf_5
def dkwX7_fitOf_3 : List UInt8 := [182, 1, 162, 42, 21, 6, 16, 12, 108, 21, 6, 16, 12, 112, 182, 1, 11, 100, 54, 7, 33, 21, 7]
abbrev dktX7_fitOf_3 : List UInt8 := dkwX7_fitOf_3 ++ dktX7_fitOf_4
def dkwX7_fitOf_2 : List UInt8 := [158, 0, 62, 42, 180, 0, 115, 21, 6, 46, 153, 0, 52, 42, 21, 6, 16, 12, 108, 21, 6, 16, 12, 112]
abbrev dktX7_fitOf_2 : List UInt8 := dkwX7_fitOf_2 ++ dktX7_fitOf_3
def dkwX7_fitOf_1 : List UInt8 := [17, 1, 32, 162, 0, 89, 42, 180, 0, 93, 21, 6, 16, 12, 108, 51, 153, 0, 70, 21, 6, 16, 12, 112]
abbrev dktX7_fitOf_1 : List UInt8 := dkwX7_fitOf_1 ++ dktX7_fitOf_2
def dkwX7_fitOf_0 : List UInt8 := [9, 66, 3, 54, 5, 21, 5, 28, 162, 0, 113, 42, 27, 21, 5, 182, 1, 159, 3, 54, 6, 21, 6]
abbrev dktX7_fitOf_0 : List UInt8 := dkwX7_fitOf_0 ++ dktX7_fitOf_1
theorem dksX7_fitOf_0 : cX7_fitOf.data.toList.drop 0 = dktX7_fitOf_0 := by decide +kernel
theorem dksX7_fitOf_1 : cX7_fitOf.data.toList.drop 23 = dktX7_fitOf_1 := dk_seg dksX7_fitOf_0 23 rfl rfl
theorem dksX7_fitOf_2 : cX7_fitOf.data.toList.drop 47 = dktX7_fitOf_2 := dk_seg dksX7_fitOf_1 24 rfl rfl
theorem dksX7_fitOf_3 : cX7_fitOf.data.toList.drop 71 = dktX7_fitOf_3 := dk_seg dksX7_fitOf_2 24 rfl rfl
theorem dksX7_fitOf_4 : cX7_fitOf.data.toList.drop 94 = dktX7_fitOf_4 := dk_seg dksX7_fitOf_3 23 rfl rfl
theorem dksX7_fitOf_5 : cX7_fitOf.data.toList.drop 118 = dktX7_fitOf_5 := dk_seg dksX7_fitOf_4 24 rfl rfl
theorem dX7_fitOf_0 : decode cX7_fitOf 0 = .ok (.lconst 0, 1) := dk_9 (dk_at dksX7_fitOf_0 0 rfl rfl)
theorem dX7_fitOf_1 : decode cX7_fitOf 1 = .ok (.lstore_n 3, 1) := dk_66 (dk_at dksX7_fitOf_0 1 rfl rfl)
theorem dX7_fitOf_2 : decode cX7_fitOf 2 = .ok (.iconst 0, 1) := dk_3 (dk_at dksX7_fitOf_0 2 rfl rfl)
theorem dX7_fitOf_3 : decode cX7_fitOf 3 = .ok (.istore 5, 2) := dk_54 5 (dk_at dksX7_fitOf_0 3 rfl rfl)
theorem dX7_fitOf_5 : decode cX7_fitOf 5 = .ok (.iload 5, 2) := dk_21 5 (dk_at dksX7_fitOf_0 5 rfl rfl)
theorem dX7_fitOf_7 : decode cX7_fitOf 7 = .ok (.iload_n 2, 1) := dk_28 (dk_at dksX7_fitOf_0 7 rfl rfl)
theorem dX7_fitOf_8 : decode cX7_fitOf 8 = .ok (.if_icmp .ge 113, 3) := dk_162 0 113 (dk_at dksX7_fitOf_0 8 rfl rfl)
theorem dX7_fitOf_11 : decode cX7_fitOf 11 = .ok (.aload_n 0, 1) := dk_42 (dk_at dksX7_fitOf_0 11 rfl rfl)
theorem dX7_fitOf_12 : decode cX7_fitOf 12 = .ok (.iload_n 1, 1) := dk_27 (dk_at dksX7_fitOf_0 12 rfl rfl)
theorem dX7_fitOf_13 : decode cX7_fitOf 13 = .ok (.iload 5, 2) := dk_21 5 (dk_at dksX7_fitOf_0 13 rfl rfl)
theorem dX7_fitOf_15 : decode cX7_fitOf 15 = .ok (.invokevirtual 415, 3) := dk_182 1 159 (dk_at dksX7_fitOf_0 15 rfl rfl)
theorem dX7_fitOf_18 : decode cX7_fitOf 18 = .ok (.iconst 0, 1) := dk_3 (dk_at dksX7_fitOf_0 18 rfl rfl)
theorem dX7_fitOf_19 : decode cX7_fitOf 19 = .ok (.istore 6, 2) := dk_54 6 (dk_at dksX7_fitOf_0 19 rfl rfl)
theorem dX7_fitOf_21 : decode cX7_fitOf 21 = .ok (.iload 6, 2) := dk_21 6 (dk_at dksX7_fitOf_0 21 rfl rfl)
theorem dX7_fitOf_23 : decode cX7_fitOf 23 = .ok (.sipush 288, 3) := dk_17 1 32 (dk_at dksX7_fitOf_1 0 rfl rfl)
theorem dX7_fitOf_26 : decode cX7_fitOf 26 = .ok (.if_icmp .ge 89, 3) := dk_162 0 89 (dk_at dksX7_fitOf_1 3 rfl rfl)
theorem dX7_fitOf_29 : decode cX7_fitOf 29 = .ok (.aload_n 0, 1) := dk_42 (dk_at dksX7_fitOf_1 6 rfl rfl)
theorem dX7_fitOf_30 : decode cX7_fitOf 30 = .ok (.getfield 93, 3) := dk_180 0 93 (dk_at dksX7_fitOf_1 7 rfl rfl)
theorem dX7_fitOf_33 : decode cX7_fitOf 33 = .ok (.iload 6, 2) := dk_21 6 (dk_at dksX7_fitOf_1 10 rfl rfl)
theorem dX7_fitOf_35 : decode cX7_fitOf 35 = .ok (.bipush 12, 2) := dk_16 12 (dk_at dksX7_fitOf_1 12 rfl rfl)
theorem dX7_fitOf_37 : decode cX7_fitOf 37 = .ok (.idiv, 1) := dk_108 (dk_at dksX7_fitOf_1 14 rfl rfl)
theorem dX7_fitOf_38 : decode cX7_fitOf 38 = .ok (.baload, 1) := dk_51 (dk_at dksX7_fitOf_1 15 rfl rfl)
theorem dX7_fitOf_39 : decode cX7_fitOf 39 = .ok (.ifCond .eq 70, 3) := dk_153 0 70 (dk_at dksX7_fitOf_1 16 rfl rfl)
theorem dX7_fitOf_42 : decode cX7_fitOf 42 = .ok (.iload 6, 2) := dk_21 6 (dk_at dksX7_fitOf_1 19 rfl rfl)
theorem dX7_fitOf_44 : decode cX7_fitOf 44 = .ok (.bipush 12, 2) := dk_16 12 (dk_at dksX7_fitOf_1 21 rfl rfl)
theorem dX7_fitOf_46 : decode cX7_fitOf 46 = .ok (.irem, 1) := dk_112 (dk_at dksX7_fitOf_1 23 rfl rfl)
theorem dX7_fitOf_47 : decode cX7_fitOf 47 = .ok (.ifCond .le 62, 3) := dk_158 0 62 (dk_at dksX7_fitOf_2 0 rfl rfl)
theorem dX7_fitOf_50 : decode cX7_fitOf 50 = .ok (.aload_n 0, 1) := dk_42 (dk_at dksX7_fitOf_2 3 rfl rfl)
theorem dX7_fitOf_51 : decode cX7_fitOf 51 = .ok (.getfield 115, 3) := dk_180 0 115 (dk_at dksX7_fitOf_2 4 rfl rfl)
theorem dX7_fitOf_54 : decode cX7_fitOf 54 = .ok (.iload 6, 2) := dk_21 6 (dk_at dksX7_fitOf_2 7 rfl rfl)
theorem dX7_fitOf_56 : decode cX7_fitOf 56 = .ok (.iaload, 1) := dk_46 (dk_at dksX7_fitOf_2 9 rfl rfl)
theorem dX7_fitOf_57 : decode cX7_fitOf 57 = .ok (.ifCond .eq 52, 3) := dk_153 0 52 (dk_at dksX7_fitOf_2 10 rfl rfl)
theorem dX7_fitOf_60 : decode cX7_fitOf 60 = .ok (.aload_n 0, 1) := dk_42 (dk_at dksX7_fitOf_2 13 rfl rfl)
theorem dX7_fitOf_61 : decode cX7_fitOf 61 = .ok (.iload 6, 2) := dk_21 6 (dk_at dksX7_fitOf_2 14 rfl rfl)
theorem dX7_fitOf_63 : decode cX7_fitOf 63 = .ok (.bipush 12, 2) := dk_16 12 (dk_at dksX7_fitOf_2 16 rfl rfl)
theorem dX7_fitOf_65 : decode cX7_fitOf 65 = .ok (.idiv, 1) := dk_108 (dk_at dksX7_fitOf_2 18 rfl rfl)
theorem dX7_fitOf_66 : decode cX7_fitOf 66 = .ok (.iload 6, 2) := dk_21 6 (dk_at dksX7_fitOf_2 19 rfl rfl)
theorem dX7_fitOf_68 : decode cX7_fitOf 68 = .ok (.bipush 12, 2) := dk_16 12 (dk_at dksX7_fitOf_2 21 rfl rfl)
theorem dX7_fitOf_70 : decode cX7_fitOf 70 = .ok (.irem, 1) := dk_112 (dk_at dksX7_fitOf_2 23 rfl rfl)
theorem dX7_fitOf_71 : decode cX7_fitOf 71 = .ok (.invokevirtual 418, 3) := dk_182 1 162 (dk_at dksX7_fitOf_3 0 rfl rfl)
theorem dX7_fitOf_74 : decode cX7_fitOf 74 = .ok (.aload_n 0, 1) := dk_42 (dk_at dksX7_fitOf_3 3 rfl rfl)
theorem dX7_fitOf_75 : decode cX7_fitOf 75 = .ok (.iload 6, 2) := dk_21 6 (dk_at dksX7_fitOf_3 4 rfl rfl)
theorem dX7_fitOf_77 : decode cX7_fitOf 77 = .ok (.bipush 12, 2) := dk_16 12 (dk_at dksX7_fitOf_3 6 rfl rfl)
theorem dX7_fitOf_79 : decode cX7_fitOf 79 = .ok (.idiv, 1) := dk_108 (dk_at dksX7_fitOf_3 8 rfl rfl)
theorem dX7_fitOf_80 : decode cX7_fitOf 80 = .ok (.iload 6, 2) := dk_21 6 (dk_at dksX7_fitOf_3 9 rfl rfl)
theorem dX7_fitOf_82 : decode cX7_fitOf 82 = .ok (.bipush 12, 2) := dk_16 12 (dk_at dksX7_fitOf_3 11 rfl rfl)
theorem dX7_fitOf_84 : decode cX7_fitOf 84 = .ok (.irem, 1) := dk_112 (dk_at dksX7_fitOf_3 13 rfl rfl)
theorem dX7_fitOf_85 : decode cX7_fitOf 85 = .ok (.invokevirtual 267, 3) := dk_182 1 11 (dk_at dksX7_fitOf_3 14 rfl rfl)
theorem dX7_fitOf_88 : decode cX7_fitOf 88 = .ok (.isub, 1) := dk_100 (dk_at dksX7_fitOf_3 17 rfl rfl)
theorem dX7_fitOf_89 : decode cX7_fitOf 89 = .ok (.istore 7, 2) := dk_54 7 (dk_at dksX7_fitOf_3 18 rfl rfl)
theorem dX7_fitOf_91 : decode cX7_fitOf 91 = .ok (.lload_n 3, 1) := dk_33 (dk_at dksX7_fitOf_3 20 rfl rfl)
theorem dX7_fitOf_92 : decode cX7_fitOf 92 = .ok (.iload 7, 2) := dk_21 7 (dk_at dksX7_fitOf_3 21 rfl rfl)
theorem dX7_fitOf_94 : decode cX7_fitOf 94 = .ok (.ifCond .ge 10, 3) := dk_156 0 10 (dk_at dksX7_fitOf_4 0 rfl rfl)
theorem dX7_fitOf_97 : decode cX7_fitOf 97 = .ok (.iload 7, 2) := dk_21 7 (dk_at dksX7_fitOf_4 3 rfl rfl)
theorem dX7_fitOf_99 : decode cX7_fitOf 99 = .ok (.ineg, 1) := dk_116 (dk_at dksX7_fitOf_4 5 rfl rfl)
theorem dX7_fitOf_100 : decode cX7_fitOf 100 = .ok (.i2l, 1) := dk_133 (dk_at dksX7_fitOf_4 6 rfl rfl)
theorem dX7_fitOf_101 : decode cX7_fitOf 101 = .ok (.goto 6, 3) := dk_167 0 6 (dk_at dksX7_fitOf_4 7 rfl rfl)
theorem dX7_fitOf_104 : decode cX7_fitOf 104 = .ok (.iload 7, 2) := dk_21 7 (dk_at dksX7_fitOf_4 10 rfl rfl)
theorem dX7_fitOf_106 : decode cX7_fitOf 106 = .ok (.i2l, 1) := dk_133 (dk_at dksX7_fitOf_4 12 rfl rfl)
theorem dX7_fitOf_107 : decode cX7_fitOf 107 = .ok (.ladd, 1) := dk_97 (dk_at dksX7_fitOf_4 13 rfl rfl)
theorem dX7_fitOf_108 : decode cX7_fitOf 108 = .ok (.lstore_n 3, 1) := dk_66 (dk_at dksX7_fitOf_4 14 rfl rfl)
theorem dX7_fitOf_109 : decode cX7_fitOf 109 = .ok (.iinc 6 1, 3) := dk_132 6 1 (dk_at dksX7_fitOf_4 15 rfl rfl)
theorem dX7_fitOf_112 : decode cX7_fitOf 112 = .ok (.goto (-91), 3) := dk_167 255 165 (dk_at dksX7_fitOf_4 18 rfl rfl)
theorem dX7_fitOf_115 : decode cX7_fitOf 115 = .ok (.iinc 5 1, 3) := dk_132 5 1 (dk_at dksX7_fitOf_4 21 rfl rfl)
theorem dX7_fitOf_118 : decode cX7_fitOf 118 = .ok (.goto (-113), 3) := dk_167 255 143 (dk_at dksX7_fitOf_5 0 rfl rfl)
theorem dX7_fitOf_121 : decode cX7_fitOf 121 = .ok (.lload_n 3, 1) := dk_33 (dk_at dksX7_fitOf_5 3 rfl rfl)
theorem dX7_fitOf_122 : decode cX7_fitOf 122 = .ok (.lreturn, 1) := dk_173 (dk_at dksX7_fitOf_5 4 rfl rfl)
def dkwX7_best_2 : List UInt8 := [22, 6, 66, 21, 5, 61, 132, 5, 1, 167, 255, 225, 28, 172]
abbrev dktX7_best_2 : List UInt8 := dkwX7_best_2 ++ []
def dkwX7_best_1 : List UInt8 := [54, 5, 21, 5, 7, 162, 0, 31, 42, 21, 5, 27, 182, 1, 168, 55, 6, 22, 6, 33, 148, 156, 0, 9]
abbrev dktX7_best_1 : List UInt8 := dkwX7_best_1 ++ dktX7_best_2
def dkwX7_best_0 : List UInt8 := [42, 3, 181, 0, 1, 27, 184, 1, 165, 154, 0, 5, 2, 172, 3, 61, 42, 3, 27, 182, 1, 168, 66, 4]
abbrev dktX7_best_0 : List UInt8 := dkwX7_best_0 ++ dktX7_best_1
theorem dksX7_best_0 : cX7_best.data.toList.drop 0 = dktX7_best_0 := by decide +kernel
theorem dksX7_best_1 : cX7_best.data.toList.drop 24 = dktX7_best_1 := dk_seg dksX7_best_0 24 rfl rfl
theorem dksX7_best_2 : cX7_best.data.toList.drop 48 = dktX7_best_2 := dk_seg dksX7_best_1 24 rfl rfl
theorem dX7_best_0 : decode cX7_best 0 = .ok (.aload_n 0, 1) := dk_42 (dk_at dksX7_best_0 0 rfl rfl)
theorem dX7_best_1 : decode cX7_best 1 = .ok (.iconst 0, 1) := dk_3 (dk_at dksX7_best_0 1 rfl rfl)
theorem dX7_best_2 : decode cX7_best 2 = .ok (.putfield 1, 3) := dk_181 0 1 (dk_at dksX7_best_0 2 rfl rfl)
theorem dX7_best_5 : decode cX7_best 5 = .ok (.iload_n 1, 1) := dk_27 (dk_at dksX7_best_0 5 rfl rfl)
theorem dX7_best_6 : decode cX7_best 6 = .ok (.invokestatic 421, 3) := dk_184 1 165 (dk_at dksX7_best_0 6 rfl rfl)
theorem dX7_best_9 : decode cX7_best 9 = .ok (.ifCond .ne 5, 3) := dk_154 0 5 (dk_at dksX7_best_0 9 rfl rfl)
theorem dX7_best_12 : decode cX7_best 12 = .ok (.iconst (-1), 1) := dk_2 (dk_at dksX7_best_0 12 rfl rfl)
theorem dX7_best_13 : decode cX7_best 13 = .ok (.ireturn, 1) := dk_172 (dk_at dksX7_best_0 13 rfl rfl)
theorem dX7_best_14 : decode cX7_best 14 = .ok (.iconst 0, 1) := dk_3 (dk_at dksX7_best_0 14 rfl rfl)
theorem dX7_best_15 : decode cX7_best 15 = .ok (.istore_n 2, 1) := dk_61 (dk_at dksX7_best_0 15 rfl rfl)
theorem dX7_best_16 : decode cX7_best 16 = .ok (.aload_n 0, 1) := dk_42 (dk_at dksX7_best_0 16 rfl rfl)
theorem dX7_best_17 : decode cX7_best 17 = .ok (.iconst 0, 1) := dk_3 (dk_at dksX7_best_0 17 rfl rfl)
theorem dX7_best_18 : decode cX7_best 18 = .ok (.iload_n 1, 1) := dk_27 (dk_at dksX7_best_0 18 rfl rfl)
theorem dX7_best_19 : decode cX7_best 19 = .ok (.invokevirtual 424, 3) := dk_182 1 168 (dk_at dksX7_best_0 19 rfl rfl)
theorem dX7_best_22 : decode cX7_best 22 = .ok (.lstore_n 3, 1) := dk_66 (dk_at dksX7_best_0 22 rfl rfl)
theorem dX7_best_23 : decode cX7_best 23 = .ok (.iconst 1, 1) := dk_4 (dk_at dksX7_best_0 23 rfl rfl)
theorem dX7_best_24 : decode cX7_best 24 = .ok (.istore 5, 2) := dk_54 5 (dk_at dksX7_best_1 0 rfl rfl)
theorem dX7_best_26 : decode cX7_best 26 = .ok (.iload 5, 2) := dk_21 5 (dk_at dksX7_best_1 2 rfl rfl)
theorem dX7_best_28 : decode cX7_best 28 = .ok (.iconst 4, 1) := dk_7 (dk_at dksX7_best_1 4 rfl rfl)
theorem dX7_best_29 : decode cX7_best 29 = .ok (.if_icmp .ge 31, 3) := dk_162 0 31 (dk_at dksX7_best_1 5 rfl rfl)
theorem dX7_best_32 : decode cX7_best 32 = .ok (.aload_n 0, 1) := dk_42 (dk_at dksX7_best_1 8 rfl rfl)
theorem dX7_best_33 : decode cX7_best 33 = .ok (.iload 5, 2) := dk_21 5 (dk_at dksX7_best_1 9 rfl rfl)
theorem dX7_best_35 : decode cX7_best 35 = .ok (.iload_n 1, 1) := dk_27 (dk_at dksX7_best_1 11 rfl rfl)
theorem dX7_best_36 : decode cX7_best 36 = .ok (.invokevirtual 424, 3) := dk_182 1 168 (dk_at dksX7_best_1 12 rfl rfl)
theorem dX7_best_39 : decode cX7_best 39 = .ok (.lstore 6, 2) := dk_55 6 (dk_at dksX7_best_1 15 rfl rfl)
theorem dX7_best_41 : decode cX7_best 41 = .ok (.lload 6, 2) := dk_22 6 (dk_at dksX7_best_1 17 rfl rfl)
theorem dX7_best_43 : decode cX7_best 43 = .ok (.lload_n 3, 1) := dk_33 (dk_at dksX7_best_1 19 rfl rfl)
theorem dX7_best_44 : decode cX7_best 44 = .ok (.lcmp, 1) := dk_148 (dk_at dksX7_best_1 20 rfl rfl)
theorem dX7_best_45 : decode cX7_best 45 = .ok (.ifCond .ge 9, 3) := dk_156 0 9 (dk_at dksX7_best_1 21 rfl rfl)
theorem dX7_best_48 : decode cX7_best 48 = .ok (.lload 6, 2) := dk_22 6 (dk_at dksX7_best_2 0 rfl rfl)
theorem dX7_best_50 : decode cX7_best 50 = .ok (.lstore_n 3, 1) := dk_66 (dk_at dksX7_best_2 2 rfl rfl)
theorem dX7_best_51 : decode cX7_best 51 = .ok (.iload 5, 2) := dk_21 5 (dk_at dksX7_best_2 3 rfl rfl)
theorem dX7_best_53 : decode cX7_best 53 = .ok (.istore_n 2, 1) := dk_61 (dk_at dksX7_best_2 5 rfl rfl)
theorem dX7_best_54 : decode cX7_best 54 = .ok (.iinc 5 1, 3) := dk_132 5 1 (dk_at dksX7_best_2 6 rfl rfl)
theorem dX7_best_57 : decode cX7_best 57 = .ok (.goto (-31), 3) := dk_167 255 225 (dk_at dksX7_best_2 9 rfl rfl)
theorem dX7_best_60 : decode cX7_best 60 = .ok (.iload_n 2, 1) := dk_28 (dk_at dksX7_best_2 12 rfl rfl)
theorem dX7_best_61 : decode cX7_best 61 = .ok (.ireturn, 1) := dk_172 (dk_at dksX7_best_2 13 rfl rfl)
def dkwX7_rivers_8 : List UInt8 := [96, 54, 6, 132, 7, 1, 167, 255, 121, 21, 6, 172]
abbrev dktX7_rivers_8 : List UInt8 := dkwX7_rivers_8 ++ []
def dkwX7_rivers_7 : List UInt8 := [154, 0, 7, 4, 167, 0, 4, 5, 54, 8, 21, 6, 21, 8, 21, 5, 160, 0, 7, 4, 167, 0, 4, 3]
abbrev dktX7_rivers_7 : List UInt8 := dkwX7_rivers_7 ++ dktX7_rivers_8
def dkwX7_rivers_6 : List UInt8 := [182, 1, 55, 87, 42, 180, 1, 25, 9, 148, 156, 0, 7, 3, 167, 0, 17, 42, 180, 1, 25, 9, 148]
abbrev dktX7_rivers_6 : List UInt8 := dkwX7_rivers_6 ++ dktX7_rivers_7
def dkwX7_rivers_5 : List UInt8 := [182, 1, 162, 42, 21, 8, 29, 182, 1, 162, 100, 133, 182, 1, 51, 132, 8, 1, 167, 255, 198, 42]
abbrev dktX7_rivers_5 : List UInt8 := dkwX7_rivers_5 ++ dktX7_rivers_6
def dkwX7_rivers_4 : List UInt8 := [153, 0, 39, 42, 42, 180, 0, 97, 21, 8, 46, 154, 0, 7, 4, 167, 0, 4, 3, 42, 21, 8, 21, 4]
abbrev dktX7_rivers_4 : List UInt8 := dkwX7_rivers_4 ++ dktX7_rivers_5
def dkwX7_rivers_3 : List UInt8 := [42, 182, 1, 48, 3, 54, 8, 21, 8, 16, 24, 162, 0, 57, 42, 21, 8, 29, 21, 4, 182, 1, 18]
abbrev dktX7_rivers_3 : List UInt8 := dkwX7_rivers_3 ++ dktX7_rivers_4
def dkwX7_rivers_2 : List UInt8 := [154, 0, 5, 2, 172, 3, 54, 6, 3, 54, 7, 21, 7, 28, 162, 0, 135, 42, 27, 21, 7, 182, 1, 159]
abbrev dktX7_rivers_2 : List UInt8 := dkwX7_rivers_2 ++ dktX7_rivers_3
def dkwX7_rivers_1 : List UInt8 := [184, 1, 14, 153, 0, 24, 21, 5, 3, 5, 184, 0, 253, 153, 0, 14, 42, 29, 21, 4, 2, 182, 1, 62]
abbrev dktX7_rivers_1 : List UInt8 := dkwX7_rivers_1 ++ dktX7_rivers_2
def dkwX7_rivers_0 : List UInt8 := [42, 3, 181, 0, 1, 27, 3, 6, 184, 0, 253, 153, 0, 40, 28, 184, 1, 165, 153, 0, 33, 29, 21, 4]
abbrev dktX7_rivers_0 : List UInt8 := dkwX7_rivers_0 ++ dktX7_rivers_1
theorem dksX7_rivers_0 : cX7_rivers.data.toList.drop 0 = dktX7_rivers_0 := by decide +kernel
theorem dksX7_rivers_1 : cX7_rivers.data.toList.drop 24 = dktX7_rivers_1 := dk_seg dksX7_rivers_0 24 rfl rfl
theorem dksX7_rivers_2 : cX7_rivers.data.toList.drop 48 = dktX7_rivers_2 := dk_seg dksX7_rivers_1 24 rfl rfl
theorem dksX7_rivers_3 : cX7_rivers.data.toList.drop 72 = dktX7_rivers_3 := dk_seg dksX7_rivers_2 24 rfl rfl
theorem dksX7_rivers_4 : cX7_rivers.data.toList.drop 95 = dktX7_rivers_4 := dk_seg dksX7_rivers_3 23 rfl rfl
theorem dksX7_rivers_5 : cX7_rivers.data.toList.drop 119 = dktX7_rivers_5 := dk_seg dksX7_rivers_4 24 rfl rfl
theorem dksX7_rivers_6 : cX7_rivers.data.toList.drop 141 = dktX7_rivers_6 := dk_seg dksX7_rivers_5 22 rfl rfl
theorem dksX7_rivers_7 : cX7_rivers.data.toList.drop 164 = dktX7_rivers_7 := dk_seg dksX7_rivers_6 23 rfl rfl
theorem dksX7_rivers_8 : cX7_rivers.data.toList.drop 188 = dktX7_rivers_8 := dk_seg dksX7_rivers_7 24 rfl rfl
theorem dX7_rivers_0 : decode cX7_rivers 0 = .ok (.aload_n 0, 1) := dk_42 (dk_at dksX7_rivers_0 0 rfl rfl)
theorem dX7_rivers_1 : decode cX7_rivers 1 = .ok (.iconst 0, 1) := dk_3 (dk_at dksX7_rivers_0 1 rfl rfl)
theorem dX7_rivers_2 : decode cX7_rivers 2 = .ok (.putfield 1, 3) := dk_181 0 1 (dk_at dksX7_rivers_0 2 rfl rfl)
theorem dX7_rivers_5 : decode cX7_rivers 5 = .ok (.iload_n 1, 1) := dk_27 (dk_at dksX7_rivers_0 5 rfl rfl)
theorem dX7_rivers_6 : decode cX7_rivers 6 = .ok (.iconst 0, 1) := dk_3 (dk_at dksX7_rivers_0 6 rfl rfl)
theorem dX7_rivers_7 : decode cX7_rivers 7 = .ok (.iconst 3, 1) := dk_6 (dk_at dksX7_rivers_0 7 rfl rfl)
theorem dX7_rivers_8 : decode cX7_rivers 8 = .ok (.invokestatic 253, 3) := dk_184 0 253 (dk_at dksX7_rivers_0 8 rfl rfl)
theorem dX7_rivers_11 : decode cX7_rivers 11 = .ok (.ifCond .eq 40, 3) := dk_153 0 40 (dk_at dksX7_rivers_0 11 rfl rfl)
theorem dX7_rivers_14 : decode cX7_rivers 14 = .ok (.iload_n 2, 1) := dk_28 (dk_at dksX7_rivers_0 14 rfl rfl)
theorem dX7_rivers_15 : decode cX7_rivers 15 = .ok (.invokestatic 421, 3) := dk_184 1 165 (dk_at dksX7_rivers_0 15 rfl rfl)
theorem dX7_rivers_18 : decode cX7_rivers 18 = .ok (.ifCond .eq 33, 3) := dk_153 0 33 (dk_at dksX7_rivers_0 18 rfl rfl)
theorem dX7_rivers_21 : decode cX7_rivers 21 = .ok (.iload_n 3, 1) := dk_29 (dk_at dksX7_rivers_0 21 rfl rfl)
theorem dX7_rivers_22 : decode cX7_rivers 22 = .ok (.iload 4, 2) := dk_21 4 (dk_at dksX7_rivers_0 22 rfl rfl)
theorem dX7_rivers_24 : decode cX7_rivers 24 = .ok (.invokestatic 270, 3) := dk_184 1 14 (dk_at dksX7_rivers_1 0 rfl rfl)
theorem dX7_rivers_27 : decode cX7_rivers 27 = .ok (.ifCond .eq 24, 3) := dk_153 0 24 (dk_at dksX7_rivers_1 3 rfl rfl)
theorem dX7_rivers_30 : decode cX7_rivers 30 = .ok (.iload 5, 2) := dk_21 5 (dk_at dksX7_rivers_1 6 rfl rfl)
theorem dX7_rivers_32 : decode cX7_rivers 32 = .ok (.iconst 0, 1) := dk_3 (dk_at dksX7_rivers_1 8 rfl rfl)
theorem dX7_rivers_33 : decode cX7_rivers 33 = .ok (.iconst 2, 1) := dk_5 (dk_at dksX7_rivers_1 9 rfl rfl)
theorem dX7_rivers_34 : decode cX7_rivers 34 = .ok (.invokestatic 253, 3) := dk_184 0 253 (dk_at dksX7_rivers_1 10 rfl rfl)
theorem dX7_rivers_37 : decode cX7_rivers 37 = .ok (.ifCond .eq 14, 3) := dk_153 0 14 (dk_at dksX7_rivers_1 13 rfl rfl)
theorem dX7_rivers_40 : decode cX7_rivers 40 = .ok (.aload_n 0, 1) := dk_42 (dk_at dksX7_rivers_1 16 rfl rfl)
theorem dX7_rivers_41 : decode cX7_rivers 41 = .ok (.iload_n 3, 1) := dk_29 (dk_at dksX7_rivers_1 17 rfl rfl)
theorem dX7_rivers_42 : decode cX7_rivers 42 = .ok (.iload 4, 2) := dk_21 4 (dk_at dksX7_rivers_1 18 rfl rfl)
theorem dX7_rivers_44 : decode cX7_rivers 44 = .ok (.iconst (-1), 1) := dk_2 (dk_at dksX7_rivers_1 20 rfl rfl)
theorem dX7_rivers_45 : decode cX7_rivers 45 = .ok (.invokevirtual 318, 3) := dk_182 1 62 (dk_at dksX7_rivers_1 21 rfl rfl)
theorem dX7_rivers_48 : decode cX7_rivers 48 = .ok (.ifCond .ne 5, 3) := dk_154 0 5 (dk_at dksX7_rivers_2 0 rfl rfl)
theorem dX7_rivers_51 : decode cX7_rivers 51 = .ok (.iconst (-1), 1) := dk_2 (dk_at dksX7_rivers_2 3 rfl rfl)
theorem dX7_rivers_52 : decode cX7_rivers 52 = .ok (.ireturn, 1) := dk_172 (dk_at dksX7_rivers_2 4 rfl rfl)
theorem dX7_rivers_53 : decode cX7_rivers 53 = .ok (.iconst 0, 1) := dk_3 (dk_at dksX7_rivers_2 5 rfl rfl)
theorem dX7_rivers_54 : decode cX7_rivers 54 = .ok (.istore 6, 2) := dk_54 6 (dk_at dksX7_rivers_2 6 rfl rfl)
theorem dX7_rivers_56 : decode cX7_rivers 56 = .ok (.iconst 0, 1) := dk_3 (dk_at dksX7_rivers_2 8 rfl rfl)
theorem dX7_rivers_57 : decode cX7_rivers 57 = .ok (.istore 7, 2) := dk_54 7 (dk_at dksX7_rivers_2 9 rfl rfl)
theorem dX7_rivers_59 : decode cX7_rivers 59 = .ok (.iload 7, 2) := dk_21 7 (dk_at dksX7_rivers_2 11 rfl rfl)
theorem dX7_rivers_61 : decode cX7_rivers 61 = .ok (.iload_n 2, 1) := dk_28 (dk_at dksX7_rivers_2 13 rfl rfl)
theorem dX7_rivers_62 : decode cX7_rivers 62 = .ok (.if_icmp .ge 135, 3) := dk_162 0 135 (dk_at dksX7_rivers_2 14 rfl rfl)
theorem dX7_rivers_65 : decode cX7_rivers 65 = .ok (.aload_n 0, 1) := dk_42 (dk_at dksX7_rivers_2 17 rfl rfl)
theorem dX7_rivers_66 : decode cX7_rivers 66 = .ok (.iload_n 1, 1) := dk_27 (dk_at dksX7_rivers_2 18 rfl rfl)
theorem dX7_rivers_67 : decode cX7_rivers 67 = .ok (.iload 7, 2) := dk_21 7 (dk_at dksX7_rivers_2 19 rfl rfl)
theorem dX7_rivers_69 : decode cX7_rivers 69 = .ok (.invokevirtual 415, 3) := dk_182 1 159 (dk_at dksX7_rivers_2 21 rfl rfl)
theorem dX7_rivers_72 : decode cX7_rivers 72 = .ok (.aload_n 0, 1) := dk_42 (dk_at dksX7_rivers_3 0 rfl rfl)
theorem dX7_rivers_73 : decode cX7_rivers 73 = .ok (.invokevirtual 304, 3) := dk_182 1 48 (dk_at dksX7_rivers_3 1 rfl rfl)
theorem dX7_rivers_76 : decode cX7_rivers 76 = .ok (.iconst 0, 1) := dk_3 (dk_at dksX7_rivers_3 4 rfl rfl)
theorem dX7_rivers_77 : decode cX7_rivers 77 = .ok (.istore 8, 2) := dk_54 8 (dk_at dksX7_rivers_3 5 rfl rfl)
theorem dX7_rivers_79 : decode cX7_rivers 79 = .ok (.iload 8, 2) := dk_21 8 (dk_at dksX7_rivers_3 7 rfl rfl)
theorem dX7_rivers_81 : decode cX7_rivers 81 = .ok (.bipush 24, 2) := dk_16 24 (dk_at dksX7_rivers_3 9 rfl rfl)
theorem dX7_rivers_83 : decode cX7_rivers 83 = .ok (.if_icmp .ge 57, 3) := dk_162 0 57 (dk_at dksX7_rivers_3 11 rfl rfl)
theorem dX7_rivers_86 : decode cX7_rivers 86 = .ok (.aload_n 0, 1) := dk_42 (dk_at dksX7_rivers_3 14 rfl rfl)
theorem dX7_rivers_87 : decode cX7_rivers 87 = .ok (.iload 8, 2) := dk_21 8 (dk_at dksX7_rivers_3 15 rfl rfl)
theorem dX7_rivers_89 : decode cX7_rivers 89 = .ok (.iload_n 3, 1) := dk_29 (dk_at dksX7_rivers_3 17 rfl rfl)
theorem dX7_rivers_90 : decode cX7_rivers 90 = .ok (.iload 4, 2) := dk_21 4 (dk_at dksX7_rivers_3 18 rfl rfl)
theorem dX7_rivers_92 : decode cX7_rivers 92 = .ok (.invokevirtual 274, 3) := dk_182 1 18 (dk_at dksX7_rivers_3 20 rfl rfl)
theorem dX7_rivers_95 : decode cX7_rivers 95 = .ok (.ifCond .eq 39, 3) := dk_153 0 39 (dk_at dksX7_rivers_4 0 rfl rfl)
theorem dX7_rivers_98 : decode cX7_rivers 98 = .ok (.aload_n 0, 1) := dk_42 (dk_at dksX7_rivers_4 3 rfl rfl)
theorem dX7_rivers_99 : decode cX7_rivers 99 = .ok (.aload_n 0, 1) := dk_42 (dk_at dksX7_rivers_4 4 rfl rfl)
theorem dX7_rivers_100 : decode cX7_rivers 100 = .ok (.getfield 97, 3) := dk_180 0 97 (dk_at dksX7_rivers_4 5 rfl rfl)
theorem dX7_rivers_103 : decode cX7_rivers 103 = .ok (.iload 8, 2) := dk_21 8 (dk_at dksX7_rivers_4 8 rfl rfl)
theorem dX7_rivers_105 : decode cX7_rivers 105 = .ok (.iaload, 1) := dk_46 (dk_at dksX7_rivers_4 10 rfl rfl)
theorem dX7_rivers_106 : decode cX7_rivers 106 = .ok (.ifCond .ne 7, 3) := dk_154 0 7 (dk_at dksX7_rivers_4 11 rfl rfl)
theorem dX7_rivers_109 : decode cX7_rivers 109 = .ok (.iconst 1, 1) := dk_4 (dk_at dksX7_rivers_4 14 rfl rfl)
theorem dX7_rivers_110 : decode cX7_rivers 110 = .ok (.goto 4, 3) := dk_167 0 4 (dk_at dksX7_rivers_4 15 rfl rfl)
theorem dX7_rivers_113 : decode cX7_rivers 113 = .ok (.iconst 0, 1) := dk_3 (dk_at dksX7_rivers_4 18 rfl rfl)
theorem dX7_rivers_114 : decode cX7_rivers 114 = .ok (.aload_n 0, 1) := dk_42 (dk_at dksX7_rivers_4 19 rfl rfl)
theorem dX7_rivers_115 : decode cX7_rivers 115 = .ok (.iload 8, 2) := dk_21 8 (dk_at dksX7_rivers_4 20 rfl rfl)
theorem dX7_rivers_117 : decode cX7_rivers 117 = .ok (.iload 4, 2) := dk_21 4 (dk_at dksX7_rivers_4 22 rfl rfl)
theorem dX7_rivers_119 : decode cX7_rivers 119 = .ok (.invokevirtual 418, 3) := dk_182 1 162 (dk_at dksX7_rivers_5 0 rfl rfl)
theorem dX7_rivers_122 : decode cX7_rivers 122 = .ok (.aload_n 0, 1) := dk_42 (dk_at dksX7_rivers_5 3 rfl rfl)
theorem dX7_rivers_123 : decode cX7_rivers 123 = .ok (.iload 8, 2) := dk_21 8 (dk_at dksX7_rivers_5 4 rfl rfl)
theorem dX7_rivers_125 : decode cX7_rivers 125 = .ok (.iload_n 3, 1) := dk_29 (dk_at dksX7_rivers_5 6 rfl rfl)
theorem dX7_rivers_126 : decode cX7_rivers 126 = .ok (.invokevirtual 418, 3) := dk_182 1 162 (dk_at dksX7_rivers_5 7 rfl rfl)
theorem dX7_rivers_129 : decode cX7_rivers 129 = .ok (.isub, 1) := dk_100 (dk_at dksX7_rivers_5 10 rfl rfl)
theorem dX7_rivers_130 : decode cX7_rivers 130 = .ok (.i2l, 1) := dk_133 (dk_at dksX7_rivers_5 11 rfl rfl)
theorem dX7_rivers_131 : decode cX7_rivers 131 = .ok (.invokevirtual 307, 3) := dk_182 1 51 (dk_at dksX7_rivers_5 12 rfl rfl)
theorem dX7_rivers_134 : decode cX7_rivers 134 = .ok (.iinc 8 1, 3) := dk_132 8 1 (dk_at dksX7_rivers_5 15 rfl rfl)
theorem dX7_rivers_137 : decode cX7_rivers 137 = .ok (.goto (-58), 3) := dk_167 255 198 (dk_at dksX7_rivers_5 18 rfl rfl)
theorem dX7_rivers_140 : decode cX7_rivers 140 = .ok (.aload_n 0, 1) := dk_42 (dk_at dksX7_rivers_5 21 rfl rfl)
theorem dX7_rivers_141 : decode cX7_rivers 141 = .ok (.invokevirtual 311, 3) := dk_182 1 55 (dk_at dksX7_rivers_6 0 rfl rfl)
theorem dX7_rivers_144 : decode cX7_rivers 144 = .ok (.pop, 1) := dk_87 (dk_at dksX7_rivers_6 3 rfl rfl)
theorem dX7_rivers_145 : decode cX7_rivers 145 = .ok (.aload_n 0, 1) := dk_42 (dk_at dksX7_rivers_6 4 rfl rfl)
theorem dX7_rivers_146 : decode cX7_rivers 146 = .ok (.getfield 281, 3) := dk_180 1 25 (dk_at dksX7_rivers_6 5 rfl rfl)
theorem dX7_rivers_149 : decode cX7_rivers 149 = .ok (.lconst 0, 1) := dk_9 (dk_at dksX7_rivers_6 8 rfl rfl)
theorem dX7_rivers_150 : decode cX7_rivers 150 = .ok (.lcmp, 1) := dk_148 (dk_at dksX7_rivers_6 9 rfl rfl)
theorem dX7_rivers_151 : decode cX7_rivers 151 = .ok (.ifCond .ge 7, 3) := dk_156 0 7 (dk_at dksX7_rivers_6 10 rfl rfl)
theorem dX7_rivers_154 : decode cX7_rivers 154 = .ok (.iconst 0, 1) := dk_3 (dk_at dksX7_rivers_6 13 rfl rfl)
theorem dX7_rivers_155 : decode cX7_rivers 155 = .ok (.goto 17, 3) := dk_167 0 17 (dk_at dksX7_rivers_6 14 rfl rfl)
theorem dX7_rivers_158 : decode cX7_rivers 158 = .ok (.aload_n 0, 1) := dk_42 (dk_at dksX7_rivers_6 17 rfl rfl)
theorem dX7_rivers_159 : decode cX7_rivers 159 = .ok (.getfield 281, 3) := dk_180 1 25 (dk_at dksX7_rivers_6 18 rfl rfl)
theorem dX7_rivers_162 : decode cX7_rivers 162 = .ok (.lconst 0, 1) := dk_9 (dk_at dksX7_rivers_6 21 rfl rfl)
theorem dX7_rivers_163 : decode cX7_rivers 163 = .ok (.lcmp, 1) := dk_148 (dk_at dksX7_rivers_6 22 rfl rfl)
theorem dX7_rivers_164 : decode cX7_rivers 164 = .ok (.ifCond .ne 7, 3) := dk_154 0 7 (dk_at dksX7_rivers_7 0 rfl rfl)
theorem dX7_rivers_167 : decode cX7_rivers 167 = .ok (.iconst 1, 1) := dk_4 (dk_at dksX7_rivers_7 3 rfl rfl)
theorem dX7_rivers_168 : decode cX7_rivers 168 = .ok (.goto 4, 3) := dk_167 0 4 (dk_at dksX7_rivers_7 4 rfl rfl)
theorem dX7_rivers_171 : decode cX7_rivers 171 = .ok (.iconst 2, 1) := dk_5 (dk_at dksX7_rivers_7 7 rfl rfl)
theorem dX7_rivers_172 : decode cX7_rivers 172 = .ok (.istore 8, 2) := dk_54 8 (dk_at dksX7_rivers_7 8 rfl rfl)
theorem dX7_rivers_174 : decode cX7_rivers 174 = .ok (.iload 6, 2) := dk_21 6 (dk_at dksX7_rivers_7 10 rfl rfl)
theorem dX7_rivers_176 : decode cX7_rivers 176 = .ok (.iload 8, 2) := dk_21 8 (dk_at dksX7_rivers_7 12 rfl rfl)
theorem dX7_rivers_178 : decode cX7_rivers 178 = .ok (.iload 5, 2) := dk_21 5 (dk_at dksX7_rivers_7 14 rfl rfl)
theorem dX7_rivers_180 : decode cX7_rivers 180 = .ok (.if_icmp .ne 7, 3) := dk_160 0 7 (dk_at dksX7_rivers_7 16 rfl rfl)
theorem dX7_rivers_183 : decode cX7_rivers 183 = .ok (.iconst 1, 1) := dk_4 (dk_at dksX7_rivers_7 19 rfl rfl)
theorem dX7_rivers_184 : decode cX7_rivers 184 = .ok (.goto 4, 3) := dk_167 0 4 (dk_at dksX7_rivers_7 20 rfl rfl)
theorem dX7_rivers_187 : decode cX7_rivers 187 = .ok (.iconst 0, 1) := dk_3 (dk_at dksX7_rivers_7 23 rfl rfl)
theorem dX7_rivers_188 : decode cX7_rivers 188 = .ok (.iadd, 1) := dk_96 (dk_at dksX7_rivers_8 0 rfl rfl)
theorem dX7_rivers_189 : decode cX7_rivers 189 = .ok (.istore 6, 2) := dk_54 6 (dk_at dksX7_rivers_8 1 rfl rfl)
theorem dX7_rivers_191 : decode cX7_rivers 191 = .ok (.iinc 7 1, 3) := dk_132 7 1 (dk_at dksX7_rivers_8 3 rfl rfl)
theorem dX7_rivers_194 : decode cX7_rivers 194 = .ok (.goto (-135), 3) := dk_167 255 121 (dk_at dksX7_rivers_8 6 rfl rfl)
theorem dX7_rivers_197 : decode cX7_rivers 197 = .ok (.iload 6, 2) := dk_21 6 (dk_at dksX7_rivers_8 9 rfl rfl)
theorem dX7_rivers_199 : decode cX7_rivers 199 = .ok (.ireturn, 1) := dk_172 (dk_at dksX7_rivers_8 11 rfl rfl)
def dkwX7_other_3 : List UInt8 := [84, 42, 89, 180, 1, 172, 4, 96, 181, 1, 172, 42, 180, 1, 172, 4, 100, 172]
abbrev dktX7_other_3 : List UInt8 := dkwX7_other_3 ++ []
def dkwX7_other_2 : List UInt8 := [180, 1, 172, 27, 79, 42, 180, 0, 166, 42, 180, 1, 172, 28, 79, 42, 180, 0, 169, 42, 180, 1, 172, 29]
abbrev dktX7_other_2 : List UInt8 := dkwX7_other_2 ++ dktX7_other_3
def dkwX7_other_1 : List UInt8 := [184, 0, 253, 153, 0, 12, 42, 180, 1, 172, 16, 20, 160, 0, 5, 2, 172, 42, 180, 0, 163, 42]
abbrev dktX7_other_1 : List UInt8 := dkwX7_other_1 ++ dktX7_other_2
def dkwX7_other_0 : List UInt8 := [42, 3, 181, 0, 1, 27, 17, 216, 241, 17, 39, 15, 184, 0, 253, 153, 0, 23, 28, 4, 17, 3, 231]
abbrev dktX7_other_0 : List UInt8 := dkwX7_other_0 ++ dktX7_other_1
theorem dksX7_other_0 : cX7_other.data.toList.drop 0 = dktX7_other_0 := by decide +kernel
theorem dksX7_other_1 : cX7_other.data.toList.drop 23 = dktX7_other_1 := dk_seg dksX7_other_0 23 rfl rfl
theorem dksX7_other_2 : cX7_other.data.toList.drop 45 = dktX7_other_2 := dk_seg dksX7_other_1 22 rfl rfl
theorem dksX7_other_3 : cX7_other.data.toList.drop 69 = dktX7_other_3 := dk_seg dksX7_other_2 24 rfl rfl
theorem dX7_other_0 : decode cX7_other 0 = .ok (.aload_n 0, 1) := dk_42 (dk_at dksX7_other_0 0 rfl rfl)
theorem dX7_other_1 : decode cX7_other 1 = .ok (.iconst 0, 1) := dk_3 (dk_at dksX7_other_0 1 rfl rfl)
theorem dX7_other_2 : decode cX7_other 2 = .ok (.putfield 1, 3) := dk_181 0 1 (dk_at dksX7_other_0 2 rfl rfl)
theorem dX7_other_5 : decode cX7_other 5 = .ok (.iload_n 1, 1) := dk_27 (dk_at dksX7_other_0 5 rfl rfl)
theorem dX7_other_6 : decode cX7_other 6 = .ok (.sipush (-9999), 3) := dk_17 216 241 (dk_at dksX7_other_0 6 rfl rfl)
theorem dX7_other_9 : decode cX7_other 9 = .ok (.sipush 9999, 3) := dk_17 39 15 (dk_at dksX7_other_0 9 rfl rfl)
theorem dX7_other_12 : decode cX7_other 12 = .ok (.invokestatic 253, 3) := dk_184 0 253 (dk_at dksX7_other_0 12 rfl rfl)
theorem dX7_other_15 : decode cX7_other 15 = .ok (.ifCond .eq 23, 3) := dk_153 0 23 (dk_at dksX7_other_0 15 rfl rfl)
theorem dX7_other_18 : decode cX7_other 18 = .ok (.iload_n 2, 1) := dk_28 (dk_at dksX7_other_0 18 rfl rfl)
theorem dX7_other_19 : decode cX7_other 19 = .ok (.iconst 1, 1) := dk_4 (dk_at dksX7_other_0 19 rfl rfl)
theorem dX7_other_20 : decode cX7_other 20 = .ok (.sipush 999, 3) := dk_17 3 231 (dk_at dksX7_other_0 20 rfl rfl)
theorem dX7_other_23 : decode cX7_other 23 = .ok (.invokestatic 253, 3) := dk_184 0 253 (dk_at dksX7_other_1 0 rfl rfl)
theorem dX7_other_26 : decode cX7_other 26 = .ok (.ifCond .eq 12, 3) := dk_153 0 12 (dk_at dksX7_other_1 3 rfl rfl)
theorem dX7_other_29 : decode cX7_other 29 = .ok (.aload_n 0, 1) := dk_42 (dk_at dksX7_other_1 6 rfl rfl)
theorem dX7_other_30 : decode cX7_other 30 = .ok (.getfield 428, 3) := dk_180 1 172 (dk_at dksX7_other_1 7 rfl rfl)
theorem dX7_other_33 : decode cX7_other 33 = .ok (.bipush 20, 2) := dk_16 20 (dk_at dksX7_other_1 10 rfl rfl)
theorem dX7_other_35 : decode cX7_other 35 = .ok (.if_icmp .ne 5, 3) := dk_160 0 5 (dk_at dksX7_other_1 12 rfl rfl)
theorem dX7_other_38 : decode cX7_other 38 = .ok (.iconst (-1), 1) := dk_2 (dk_at dksX7_other_1 15 rfl rfl)
theorem dX7_other_39 : decode cX7_other 39 = .ok (.ireturn, 1) := dk_172 (dk_at dksX7_other_1 16 rfl rfl)
theorem dX7_other_40 : decode cX7_other 40 = .ok (.aload_n 0, 1) := dk_42 (dk_at dksX7_other_1 17 rfl rfl)
theorem dX7_other_41 : decode cX7_other 41 = .ok (.getfield 163, 3) := dk_180 0 163 (dk_at dksX7_other_1 18 rfl rfl)
theorem dX7_other_44 : decode cX7_other 44 = .ok (.aload_n 0, 1) := dk_42 (dk_at dksX7_other_1 21 rfl rfl)
theorem dX7_other_45 : decode cX7_other 45 = .ok (.getfield 428, 3) := dk_180 1 172 (dk_at dksX7_other_2 0 rfl rfl)
theorem dX7_other_48 : decode cX7_other 48 = .ok (.iload_n 1, 1) := dk_27 (dk_at dksX7_other_2 3 rfl rfl)
theorem dX7_other_49 : decode cX7_other 49 = .ok (.iastore, 1) := dk_79 (dk_at dksX7_other_2 4 rfl rfl)
theorem dX7_other_50 : decode cX7_other 50 = .ok (.aload_n 0, 1) := dk_42 (dk_at dksX7_other_2 5 rfl rfl)
theorem dX7_other_51 : decode cX7_other 51 = .ok (.getfield 166, 3) := dk_180 0 166 (dk_at dksX7_other_2 6 rfl rfl)
theorem dX7_other_54 : decode cX7_other 54 = .ok (.aload_n 0, 1) := dk_42 (dk_at dksX7_other_2 9 rfl rfl)
theorem dX7_other_55 : decode cX7_other 55 = .ok (.getfield 428, 3) := dk_180 1 172 (dk_at dksX7_other_2 10 rfl rfl)
theorem dX7_other_58 : decode cX7_other 58 = .ok (.iload_n 2, 1) := dk_28 (dk_at dksX7_other_2 13 rfl rfl)
theorem dX7_other_59 : decode cX7_other 59 = .ok (.iastore, 1) := dk_79 (dk_at dksX7_other_2 14 rfl rfl)
theorem dX7_other_60 : decode cX7_other 60 = .ok (.aload_n 0, 1) := dk_42 (dk_at dksX7_other_2 15 rfl rfl)
theorem dX7_other_61 : decode cX7_other 61 = .ok (.getfield 169, 3) := dk_180 0 169 (dk_at dksX7_other_2 16 rfl rfl)
theorem dX7_other_64 : decode cX7_other 64 = .ok (.aload_n 0, 1) := dk_42 (dk_at dksX7_other_2 19 rfl rfl)
theorem dX7_other_65 : decode cX7_other 65 = .ok (.getfield 428, 3) := dk_180 1 172 (dk_at dksX7_other_2 20 rfl rfl)
theorem dX7_other_68 : decode cX7_other 68 = .ok (.iload_n 3, 1) := dk_29 (dk_at dksX7_other_2 23 rfl rfl)
theorem dX7_other_69 : decode cX7_other 69 = .ok (.bastore, 1) := dk_84 (dk_at dksX7_other_3 0 rfl rfl)
theorem dX7_other_70 : decode cX7_other 70 = .ok (.aload_n 0, 1) := dk_42 (dk_at dksX7_other_3 1 rfl rfl)
theorem dX7_other_71 : decode cX7_other 71 = .ok (.dup, 1) := dk_89 (dk_at dksX7_other_3 2 rfl rfl)
theorem dX7_other_72 : decode cX7_other 72 = .ok (.getfield 428, 3) := dk_180 1 172 (dk_at dksX7_other_3 3 rfl rfl)
theorem dX7_other_75 : decode cX7_other 75 = .ok (.iconst 1, 1) := dk_4 (dk_at dksX7_other_3 6 rfl rfl)
theorem dX7_other_76 : decode cX7_other 76 = .ok (.iadd, 1) := dk_96 (dk_at dksX7_other_3 7 rfl rfl)
theorem dX7_other_77 : decode cX7_other 77 = .ok (.putfield 428, 3) := dk_181 1 172 (dk_at dksX7_other_3 8 rfl rfl)
theorem dX7_other_80 : decode cX7_other 80 = .ok (.aload_n 0, 1) := dk_42 (dk_at dksX7_other_3 11 rfl rfl)
theorem dX7_other_81 : decode cX7_other 81 = .ok (.getfield 428, 3) := dk_180 1 172 (dk_at dksX7_other_3 12 rfl rfl)
theorem dX7_other_84 : decode cX7_other 84 = .ok (.iconst 1, 1) := dk_4 (dk_at dksX7_other_3 15 rfl rfl)
theorem dX7_other_85 : decode cX7_other 85 = .ok (.isub, 1) := dk_100 (dk_at dksX7_other_3 16 rfl rfl)
theorem dX7_other_86 : decode cX7_other 86 = .ok (.ireturn, 1) := dk_172 (dk_at dksX7_other_3 17 rfl rfl)
def dkwX7_others_1 : List UInt8 := [42, 180, 0, 1, 158, 0, 7, 9, 167, 0, 8, 42, 28, 182, 1, 65, 173]
abbrev dktX7_others_1 : List UInt8 := dkwX7_others_1 ++ []
def dkwX7_others_0 : List UInt8 := [42, 28, 184, 1, 59, 153, 0, 15, 42, 27, 182, 1, 175, 153, 0, 7, 3, 167, 0, 4, 4, 181, 0, 1]
abbrev dktX7_others_0 : List UInt8 := dkwX7_others_0 ++ dktX7_others_1
theorem dksX7_others_0 : cX7_others.data.toList.drop 0 = dktX7_others_0 := by decide +kernel
theorem dksX7_others_1 : cX7_others.data.toList.drop 24 = dktX7_others_1 := dk_seg dksX7_others_0 24 rfl rfl
theorem dX7_others_0 : decode cX7_others 0 = .ok (.aload_n 0, 1) := dk_42 (dk_at dksX7_others_0 0 rfl rfl)
theorem dX7_others_1 : decode cX7_others 1 = .ok (.iload_n 2, 1) := dk_28 (dk_at dksX7_others_0 1 rfl rfl)
theorem dX7_others_2 : decode cX7_others 2 = .ok (.invokestatic 315, 3) := dk_184 1 59 (dk_at dksX7_others_0 2 rfl rfl)
theorem dX7_others_5 : decode cX7_others 5 = .ok (.ifCond .eq 15, 3) := dk_153 0 15 (dk_at dksX7_others_0 5 rfl rfl)
theorem dX7_others_8 : decode cX7_others 8 = .ok (.aload_n 0, 1) := dk_42 (dk_at dksX7_others_0 8 rfl rfl)
theorem dX7_others_9 : decode cX7_others 9 = .ok (.iload_n 1, 1) := dk_27 (dk_at dksX7_others_0 9 rfl rfl)
theorem dX7_others_10 : decode cX7_others 10 = .ok (.invokevirtual 431, 3) := dk_182 1 175 (dk_at dksX7_others_0 10 rfl rfl)
theorem dX7_others_13 : decode cX7_others 13 = .ok (.ifCond .eq 7, 3) := dk_153 0 7 (dk_at dksX7_others_0 13 rfl rfl)
theorem dX7_others_16 : decode cX7_others 16 = .ok (.iconst 0, 1) := dk_3 (dk_at dksX7_others_0 16 rfl rfl)
theorem dX7_others_17 : decode cX7_others 17 = .ok (.goto 4, 3) := dk_167 0 4 (dk_at dksX7_others_0 17 rfl rfl)
theorem dX7_others_20 : decode cX7_others 20 = .ok (.iconst 1, 1) := dk_4 (dk_at dksX7_others_0 20 rfl rfl)
theorem dX7_others_21 : decode cX7_others 21 = .ok (.putfield 1, 3) := dk_181 0 1 (dk_at dksX7_others_0 21 rfl rfl)
theorem dX7_others_24 : decode cX7_others 24 = .ok (.aload_n 0, 1) := dk_42 (dk_at dksX7_others_1 0 rfl rfl)
theorem dX7_others_25 : decode cX7_others 25 = .ok (.getfield 1, 3) := dk_180 0 1 (dk_at dksX7_others_1 1 rfl rfl)
theorem dX7_others_28 : decode cX7_others 28 = .ok (.ifCond .le 7, 3) := dk_158 0 7 (dk_at dksX7_others_1 4 rfl rfl)
theorem dX7_others_31 : decode cX7_others 31 = .ok (.lconst 0, 1) := dk_9 (dk_at dksX7_others_1 7 rfl rfl)
theorem dX7_others_32 : decode cX7_others 32 = .ok (.goto 8, 3) := dk_167 0 8 (dk_at dksX7_others_1 8 rfl rfl)
theorem dX7_others_35 : decode cX7_others 35 = .ok (.aload_n 0, 1) := dk_42 (dk_at dksX7_others_1 11 rfl rfl)
theorem dX7_others_36 : decode cX7_others 36 = .ok (.iload_n 2, 1) := dk_28 (dk_at dksX7_others_1 12 rfl rfl)
theorem dX7_others_37 : decode cX7_others 37 = .ok (.invokevirtual 321, 3) := dk_182 1 65 (dk_at dksX7_others_1 13 rfl rfl)
theorem dX7_others_40 : decode cX7_others 40 = .ok (.lreturn, 1) := dk_173 (dk_at dksX7_others_1 16 rfl rfl)
def dkwX7_findOthers_3 : List UInt8 := [167, 255, 200, 42, 180, 1, 29, 9, 148, 158, 0, 7, 4, 167, 0, 4, 3, 172]
abbrev dktX7_findOthers_3 : List UInt8 := dkwX7_findOthers_3 ++ []
def dkwX7_findOthers_2 : List UInt8 := [181, 1, 25, 42, 89, 180, 1, 29, 42, 180, 0, 166, 28, 46, 133, 97, 181, 1, 29, 132, 2, 1]
abbrev dktX7_findOthers_2 : List UInt8 := dkwX7_findOthers_2 ++ dktX7_findOthers_3
def dkwX7_findOthers_1 : List UInt8 := [42, 180, 0, 169, 28, 51, 153, 0, 35, 42, 89, 180, 1, 25, 42, 180, 0, 163, 28, 46, 133, 97]
abbrev dktX7_findOthers_1 : List UInt8 := dkwX7_findOthers_1 ++ dktX7_findOthers_2
def dkwX7_findOthers_0 : List UInt8 := [42, 9, 181, 1, 25, 42, 9, 181, 1, 29, 3, 61, 28, 42, 180, 1, 172, 162, 0, 54, 27, 153, 0, 12]
abbrev dktX7_findOthers_0 : List UInt8 := dkwX7_findOthers_0 ++ dktX7_findOthers_1
theorem dksX7_findOthers_0 : cX7_findOthers.data.toList.drop 0 = dktX7_findOthers_0 := by decide +kernel
theorem dksX7_findOthers_1 : cX7_findOthers.data.toList.drop 24 = dktX7_findOthers_1 := dk_seg dksX7_findOthers_0 24 rfl rfl
theorem dksX7_findOthers_2 : cX7_findOthers.data.toList.drop 46 = dktX7_findOthers_2 := dk_seg dksX7_findOthers_1 22 rfl rfl
theorem dksX7_findOthers_3 : cX7_findOthers.data.toList.drop 68 = dktX7_findOthers_3 := dk_seg dksX7_findOthers_2 22 rfl rfl
theorem dX7_findOthers_0 : decode cX7_findOthers 0 = .ok (.aload_n 0, 1) := dk_42 (dk_at dksX7_findOthers_0 0 rfl rfl)
theorem dX7_findOthers_1 : decode cX7_findOthers 1 = .ok (.lconst 0, 1) := dk_9 (dk_at dksX7_findOthers_0 1 rfl rfl)
theorem dX7_findOthers_2 : decode cX7_findOthers 2 = .ok (.putfield 281, 3) := dk_181 1 25 (dk_at dksX7_findOthers_0 2 rfl rfl)
theorem dX7_findOthers_5 : decode cX7_findOthers 5 = .ok (.aload_n 0, 1) := dk_42 (dk_at dksX7_findOthers_0 5 rfl rfl)
theorem dX7_findOthers_6 : decode cX7_findOthers 6 = .ok (.lconst 0, 1) := dk_9 (dk_at dksX7_findOthers_0 6 rfl rfl)
theorem dX7_findOthers_7 : decode cX7_findOthers 7 = .ok (.putfield 285, 3) := dk_181 1 29 (dk_at dksX7_findOthers_0 7 rfl rfl)
theorem dX7_findOthers_10 : decode cX7_findOthers 10 = .ok (.iconst 0, 1) := dk_3 (dk_at dksX7_findOthers_0 10 rfl rfl)
theorem dX7_findOthers_11 : decode cX7_findOthers 11 = .ok (.istore_n 2, 1) := dk_61 (dk_at dksX7_findOthers_0 11 rfl rfl)
theorem dX7_findOthers_12 : decode cX7_findOthers 12 = .ok (.iload_n 2, 1) := dk_28 (dk_at dksX7_findOthers_0 12 rfl rfl)
theorem dX7_findOthers_13 : decode cX7_findOthers 13 = .ok (.aload_n 0, 1) := dk_42 (dk_at dksX7_findOthers_0 13 rfl rfl)
theorem dX7_findOthers_14 : decode cX7_findOthers 14 = .ok (.getfield 428, 3) := dk_180 1 172 (dk_at dksX7_findOthers_0 14 rfl rfl)
theorem dX7_findOthers_17 : decode cX7_findOthers 17 = .ok (.if_icmp .ge 54, 3) := dk_162 0 54 (dk_at dksX7_findOthers_0 17 rfl rfl)
theorem dX7_findOthers_20 : decode cX7_findOthers 20 = .ok (.iload_n 1, 1) := dk_27 (dk_at dksX7_findOthers_0 20 rfl rfl)
theorem dX7_findOthers_21 : decode cX7_findOthers 21 = .ok (.ifCond .eq 12, 3) := dk_153 0 12 (dk_at dksX7_findOthers_0 21 rfl rfl)
theorem dX7_findOthers_24 : decode cX7_findOthers 24 = .ok (.aload_n 0, 1) := dk_42 (dk_at dksX7_findOthers_1 0 rfl rfl)
theorem dX7_findOthers_25 : decode cX7_findOthers 25 = .ok (.getfield 169, 3) := dk_180 0 169 (dk_at dksX7_findOthers_1 1 rfl rfl)
theorem dX7_findOthers_28 : decode cX7_findOthers 28 = .ok (.iload_n 2, 1) := dk_28 (dk_at dksX7_findOthers_1 4 rfl rfl)
theorem dX7_findOthers_29 : decode cX7_findOthers 29 = .ok (.baload, 1) := dk_51 (dk_at dksX7_findOthers_1 5 rfl rfl)
theorem dX7_findOthers_30 : decode cX7_findOthers 30 = .ok (.ifCond .eq 35, 3) := dk_153 0 35 (dk_at dksX7_findOthers_1 6 rfl rfl)
theorem dX7_findOthers_33 : decode cX7_findOthers 33 = .ok (.aload_n 0, 1) := dk_42 (dk_at dksX7_findOthers_1 9 rfl rfl)
theorem dX7_findOthers_34 : decode cX7_findOthers 34 = .ok (.dup, 1) := dk_89 (dk_at dksX7_findOthers_1 10 rfl rfl)
theorem dX7_findOthers_35 : decode cX7_findOthers 35 = .ok (.getfield 281, 3) := dk_180 1 25 (dk_at dksX7_findOthers_1 11 rfl rfl)
theorem dX7_findOthers_38 : decode cX7_findOthers 38 = .ok (.aload_n 0, 1) := dk_42 (dk_at dksX7_findOthers_1 14 rfl rfl)
theorem dX7_findOthers_39 : decode cX7_findOthers 39 = .ok (.getfield 163, 3) := dk_180 0 163 (dk_at dksX7_findOthers_1 15 rfl rfl)
theorem dX7_findOthers_42 : decode cX7_findOthers 42 = .ok (.iload_n 2, 1) := dk_28 (dk_at dksX7_findOthers_1 18 rfl rfl)
theorem dX7_findOthers_43 : decode cX7_findOthers 43 = .ok (.iaload, 1) := dk_46 (dk_at dksX7_findOthers_1 19 rfl rfl)
theorem dX7_findOthers_44 : decode cX7_findOthers 44 = .ok (.i2l, 1) := dk_133 (dk_at dksX7_findOthers_1 20 rfl rfl)
theorem dX7_findOthers_45 : decode cX7_findOthers 45 = .ok (.ladd, 1) := dk_97 (dk_at dksX7_findOthers_1 21 rfl rfl)
theorem dX7_findOthers_46 : decode cX7_findOthers 46 = .ok (.putfield 281, 3) := dk_181 1 25 (dk_at dksX7_findOthers_2 0 rfl rfl)
theorem dX7_findOthers_49 : decode cX7_findOthers 49 = .ok (.aload_n 0, 1) := dk_42 (dk_at dksX7_findOthers_2 3 rfl rfl)
theorem dX7_findOthers_50 : decode cX7_findOthers 50 = .ok (.dup, 1) := dk_89 (dk_at dksX7_findOthers_2 4 rfl rfl)
theorem dX7_findOthers_51 : decode cX7_findOthers 51 = .ok (.getfield 285, 3) := dk_180 1 29 (dk_at dksX7_findOthers_2 5 rfl rfl)
theorem dX7_findOthers_54 : decode cX7_findOthers 54 = .ok (.aload_n 0, 1) := dk_42 (dk_at dksX7_findOthers_2 8 rfl rfl)
theorem dX7_findOthers_55 : decode cX7_findOthers 55 = .ok (.getfield 166, 3) := dk_180 0 166 (dk_at dksX7_findOthers_2 9 rfl rfl)
theorem dX7_findOthers_58 : decode cX7_findOthers 58 = .ok (.iload_n 2, 1) := dk_28 (dk_at dksX7_findOthers_2 12 rfl rfl)
theorem dX7_findOthers_59 : decode cX7_findOthers 59 = .ok (.iaload, 1) := dk_46 (dk_at dksX7_findOthers_2 13 rfl rfl)
theorem dX7_findOthers_60 : decode cX7_findOthers 60 = .ok (.i2l, 1) := dk_133 (dk_at dksX7_findOthers_2 14 rfl rfl)
theorem dX7_findOthers_61 : decode cX7_findOthers 61 = .ok (.ladd, 1) := dk_97 (dk_at dksX7_findOthers_2 15 rfl rfl)
theorem dX7_findOthers_62 : decode cX7_findOthers 62 = .ok (.putfield 285, 3) := dk_181 1 29 (dk_at dksX7_findOthers_2 16 rfl rfl)
theorem dX7_findOthers_65 : decode cX7_findOthers 65 = .ok (.iinc 2 1, 3) := dk_132 2 1 (dk_at dksX7_findOthers_2 19 rfl rfl)
theorem dX7_findOthers_68 : decode cX7_findOthers 68 = .ok (.goto (-56), 3) := dk_167 255 200 (dk_at dksX7_findOthers_3 0 rfl rfl)
theorem dX7_findOthers_71 : decode cX7_findOthers 71 = .ok (.aload_n 0, 1) := dk_42 (dk_at dksX7_findOthers_3 3 rfl rfl)
theorem dX7_findOthers_72 : decode cX7_findOthers 72 = .ok (.getfield 285, 3) := dk_180 1 29 (dk_at dksX7_findOthers_3 4 rfl rfl)
theorem dX7_findOthers_75 : decode cX7_findOthers 75 = .ok (.lconst 0, 1) := dk_9 (dk_at dksX7_findOthers_3 7 rfl rfl)
theorem dX7_findOthers_76 : decode cX7_findOthers 76 = .ok (.lcmp, 1) := dk_148 (dk_at dksX7_findOthers_3 8 rfl rfl)
theorem dX7_findOthers_77 : decode cX7_findOthers 77 = .ok (.ifCond .le 7, 3) := dk_158 0 7 (dk_at dksX7_findOthers_3 9 rfl rfl)
theorem dX7_findOthers_80 : decode cX7_findOthers 80 = .ok (.iconst 1, 1) := dk_4 (dk_at dksX7_findOthers_3 12 rfl rfl)
theorem dX7_findOthers_81 : decode cX7_findOthers 81 = .ok (.goto 4, 3) := dk_167 0 4 (dk_at dksX7_findOthers_3 13 rfl rfl)
theorem dX7_findOthers_84 : decode cX7_findOthers 84 = .ok (.iconst 0, 1) := dk_3 (dk_at dksX7_findOthers_3 16 rfl rfl)
theorem dX7_findOthers_85 : decode cX7_findOthers 85 = .ok (.ireturn, 1) := dk_172 (dk_at dksX7_findOthers_3 17 rfl rfl)
def dkwX7_drawer_2 : List UInt8 := [32, 27, 133, 97, 10, 101, 27, 133, 109, 136, 172]
abbrev dktX7_drawer_2 : List UInt8 := dkwX7_drawer_2 ++ []
def dkwX7_drawer_1 : List UInt8 := [2, 172, 42, 180, 1, 25, 9, 148, 156, 0, 11, 42, 180, 1, 25, 117, 167, 0, 7, 42, 180, 1, 25, 65]
abbrev dktX7_drawer_1 : List UInt8 := dkwX7_drawer_1 ++ dktX7_drawer_2
def dkwX7_drawer_0 : List UInt8 := [42, 3, 181, 0, 1, 27, 4, 17, 3, 231, 184, 0, 253, 153, 0, 11, 42, 4, 182, 1, 175, 154, 0, 5]
abbrev dktX7_drawer_0 : List UInt8 := dkwX7_drawer_0 ++ dktX7_drawer_1
theorem dksX7_drawer_0 : cX7_drawer.data.toList.drop 0 = dktX7_drawer_0 := by decide +kernel
theorem dksX7_drawer_1 : cX7_drawer.data.toList.drop 24 = dktX7_drawer_1 := dk_seg dksX7_drawer_0 24 rfl rfl
theorem dksX7_drawer_2 : cX7_drawer.data.toList.drop 48 = dktX7_drawer_2 := dk_seg dksX7_drawer_1 24 rfl rfl
theorem dX7_drawer_0 : decode cX7_drawer 0 = .ok (.aload_n 0, 1) := dk_42 (dk_at dksX7_drawer_0 0 rfl rfl)
theorem dX7_drawer_1 : decode cX7_drawer 1 = .ok (.iconst 0, 1) := dk_3 (dk_at dksX7_drawer_0 1 rfl rfl)
theorem dX7_drawer_2 : decode cX7_drawer 2 = .ok (.putfield 1, 3) := dk_181 0 1 (dk_at dksX7_drawer_0 2 rfl rfl)
theorem dX7_drawer_5 : decode cX7_drawer 5 = .ok (.iload_n 1, 1) := dk_27 (dk_at dksX7_drawer_0 5 rfl rfl)
theorem dX7_drawer_6 : decode cX7_drawer 6 = .ok (.iconst 1, 1) := dk_4 (dk_at dksX7_drawer_0 6 rfl rfl)
theorem dX7_drawer_7 : decode cX7_drawer 7 = .ok (.sipush 999, 3) := dk_17 3 231 (dk_at dksX7_drawer_0 7 rfl rfl)
theorem dX7_drawer_10 : decode cX7_drawer 10 = .ok (.invokestatic 253, 3) := dk_184 0 253 (dk_at dksX7_drawer_0 10 rfl rfl)
theorem dX7_drawer_13 : decode cX7_drawer 13 = .ok (.ifCond .eq 11, 3) := dk_153 0 11 (dk_at dksX7_drawer_0 13 rfl rfl)
theorem dX7_drawer_16 : decode cX7_drawer 16 = .ok (.aload_n 0, 1) := dk_42 (dk_at dksX7_drawer_0 16 rfl rfl)
theorem dX7_drawer_17 : decode cX7_drawer 17 = .ok (.iconst 1, 1) := dk_4 (dk_at dksX7_drawer_0 17 rfl rfl)
theorem dX7_drawer_18 : decode cX7_drawer 18 = .ok (.invokevirtual 431, 3) := dk_182 1 175 (dk_at dksX7_drawer_0 18 rfl rfl)
theorem dX7_drawer_21 : decode cX7_drawer 21 = .ok (.ifCond .ne 5, 3) := dk_154 0 5 (dk_at dksX7_drawer_0 21 rfl rfl)
theorem dX7_drawer_24 : decode cX7_drawer 24 = .ok (.iconst (-1), 1) := dk_2 (dk_at dksX7_drawer_1 0 rfl rfl)
theorem dX7_drawer_25 : decode cX7_drawer 25 = .ok (.ireturn, 1) := dk_172 (dk_at dksX7_drawer_1 1 rfl rfl)
theorem dX7_drawer_26 : decode cX7_drawer 26 = .ok (.aload_n 0, 1) := dk_42 (dk_at dksX7_drawer_1 2 rfl rfl)
theorem dX7_drawer_27 : decode cX7_drawer 27 = .ok (.getfield 281, 3) := dk_180 1 25 (dk_at dksX7_drawer_1 3 rfl rfl)
theorem dX7_drawer_30 : decode cX7_drawer 30 = .ok (.lconst 0, 1) := dk_9 (dk_at dksX7_drawer_1 6 rfl rfl)
theorem dX7_drawer_31 : decode cX7_drawer 31 = .ok (.lcmp, 1) := dk_148 (dk_at dksX7_drawer_1 7 rfl rfl)
theorem dX7_drawer_32 : decode cX7_drawer 32 = .ok (.ifCond .ge 11, 3) := dk_156 0 11 (dk_at dksX7_drawer_1 8 rfl rfl)
theorem dX7_drawer_35 : decode cX7_drawer 35 = .ok (.aload_n 0, 1) := dk_42 (dk_at dksX7_drawer_1 11 rfl rfl)
theorem dX7_drawer_36 : decode cX7_drawer 36 = .ok (.getfield 281, 3) := dk_180 1 25 (dk_at dksX7_drawer_1 12 rfl rfl)
theorem dX7_drawer_39 : decode cX7_drawer 39 = .ok (.lneg, 1) := dk_117 (dk_at dksX7_drawer_1 15 rfl rfl)
theorem dX7_drawer_40 : decode cX7_drawer 40 = .ok (.goto 7, 3) := dk_167 0 7 (dk_at dksX7_drawer_1 16 rfl rfl)
theorem dX7_drawer_43 : decode cX7_drawer 43 = .ok (.aload_n 0, 1) := dk_42 (dk_at dksX7_drawer_1 19 rfl rfl)
theorem dX7_drawer_44 : decode cX7_drawer 44 = .ok (.getfield 281, 3) := dk_180 1 25 (dk_at dksX7_drawer_1 20 rfl rfl)
theorem dX7_drawer_47 : decode cX7_drawer 47 = .ok (.lstore_n 2, 1) := dk_65 (dk_at dksX7_drawer_1 23 rfl rfl)
theorem dX7_drawer_48 : decode cX7_drawer 48 = .ok (.lload_n 2, 1) := dk_32 (dk_at dksX7_drawer_2 0 rfl rfl)
theorem dX7_drawer_49 : decode cX7_drawer 49 = .ok (.iload_n 1, 1) := dk_27 (dk_at dksX7_drawer_2 1 rfl rfl)
theorem dX7_drawer_50 : decode cX7_drawer 50 = .ok (.i2l, 1) := dk_133 (dk_at dksX7_drawer_2 2 rfl rfl)
theorem dX7_drawer_51 : decode cX7_drawer 51 = .ok (.ladd, 1) := dk_97 (dk_at dksX7_drawer_2 3 rfl rfl)
theorem dX7_drawer_52 : decode cX7_drawer 52 = .ok (.lconst 1, 1) := dk_10 (dk_at dksX7_drawer_2 4 rfl rfl)
theorem dX7_drawer_53 : decode cX7_drawer 53 = .ok (.lsub, 1) := dk_101 (dk_at dksX7_drawer_2 5 rfl rfl)
theorem dX7_drawer_54 : decode cX7_drawer 54 = .ok (.iload_n 1, 1) := dk_27 (dk_at dksX7_drawer_2 6 rfl rfl)
theorem dX7_drawer_55 : decode cX7_drawer 55 = .ok (.i2l, 1) := dk_133 (dk_at dksX7_drawer_2 7 rfl rfl)
theorem dX7_drawer_56 : decode cX7_drawer 56 = .ok (.ldiv, 1) := dk_109 (dk_at dksX7_drawer_2 8 rfl rfl)
theorem dX7_drawer_57 : decode cX7_drawer 57 = .ok (.l2i, 1) := dk_136 (dk_at dksX7_drawer_2 9 rfl rfl)
theorem dX7_drawer_58 : decode cX7_drawer 58 = .ok (.ireturn, 1) := dk_172 (dk_at dksX7_drawer_2 10 rfl rfl)
def dkwX7_writer_7 : List UInt8 := [180, 0, 181, 27, 42, 180, 0, 184, 6, 46, 79, 3, 172]
abbrev dktX7_writer_7 : List UInt8 := dkwX7_writer_7 ++ []
def dkwX7_writer_6 : List UInt8 := [42, 180, 0, 184, 5, 46, 156, 0, 8, 16, 11, 167, 0, 9, 42, 180, 0, 184, 5, 46, 79, 42]
abbrev dktX7_writer_6 : List UInt8 := dkwX7_writer_6 ++ dktX7_writer_7
def dkwX7_writer_5 : List UInt8 := [180, 0, 184, 4, 46, 156, 0, 7, 3, 167, 0, 9, 42, 180, 0, 184, 4, 46, 79, 42, 180, 0, 178, 27]
abbrev dktX7_writer_5 : List UInt8 := dkwX7_writer_5 ++ dktX7_writer_6
def dkwX7_writer_4 : List UInt8 := [27, 96, 182, 1, 97, 42, 180, 0, 172, 27, 42, 180, 0, 184, 3, 46, 79, 42, 180, 0, 175, 27, 42]
abbrev dktX7_writer_4 : List UInt8 := dkwX7_writer_4 ++ dktX7_writer_5
def dkwX7_writer_3 : List UInt8 := [153, 0, 10, 42, 182, 1, 182, 167, 255, 233, 42, 180, 0, 237, 158, 0, 8, 42, 180, 0, 237, 172, 42, 8]
abbrev dktX7_writer_3 : List UInt8 := dkwX7_writer_3 ++ dktX7_writer_4
def dkwX7_writer_2 : List UInt8 := [132, 2, 1, 167, 255, 241, 42, 180, 0, 237, 154, 0, 22, 42, 180, 0, 24, 42, 180, 0, 234, 46]
abbrev dktX7_writer_2 : List UInt8 := dkwX7_writer_2 ++ dktX7_writer_3
def dkwX7_writer_1 : List UInt8 := [3, 181, 1, 84, 42, 4, 181, 1, 90, 3, 61, 28, 7, 162, 0, 16, 42, 180, 0, 184, 28, 2, 79]
abbrev dktX7_writer_1 : List UInt8 := dkwX7_writer_1 ++ dktX7_writer_2
def dkwX7_writer_0 : List UInt8 := [42, 3, 181, 0, 1, 27, 184, 1, 179, 154, 0, 10, 42, 3, 181, 0, 11, 2, 172, 42, 182, 1, 87, 42]
abbrev dktX7_writer_0 : List UInt8 := dkwX7_writer_0 ++ dktX7_writer_1
theorem dksX7_writer_0 : cX7_writer.data.toList.drop 0 = dktX7_writer_0 := by decide +kernel
theorem dksX7_writer_1 : cX7_writer.data.toList.drop 24 = dktX7_writer_1 := dk_seg dksX7_writer_0 24 rfl rfl
theorem dksX7_writer_2 : cX7_writer.data.toList.drop 47 = dktX7_writer_2 := dk_seg dksX7_writer_1 23 rfl rfl
theorem dksX7_writer_3 : cX7_writer.data.toList.drop 69 = dktX7_writer_3 := dk_seg dksX7_writer_2 22 rfl rfl
theorem dksX7_writer_4 : cX7_writer.data.toList.drop 93 = dktX7_writer_4 := dk_seg dksX7_writer_3 24 rfl rfl
theorem dksX7_writer_5 : cX7_writer.data.toList.drop 116 = dktX7_writer_5 := dk_seg dksX7_writer_4 23 rfl rfl
theorem dksX7_writer_6 : cX7_writer.data.toList.drop 140 = dktX7_writer_6 := dk_seg dksX7_writer_5 24 rfl rfl
theorem dksX7_writer_7 : cX7_writer.data.toList.drop 162 = dktX7_writer_7 := dk_seg dksX7_writer_6 22 rfl rfl
theorem dX7_writer_0 : decode cX7_writer 0 = .ok (.aload_n 0, 1) := dk_42 (dk_at dksX7_writer_0 0 rfl rfl)
theorem dX7_writer_1 : decode cX7_writer 1 = .ok (.iconst 0, 1) := dk_3 (dk_at dksX7_writer_0 1 rfl rfl)
theorem dX7_writer_2 : decode cX7_writer 2 = .ok (.putfield 1, 3) := dk_181 0 1 (dk_at dksX7_writer_0 2 rfl rfl)
theorem dX7_writer_5 : decode cX7_writer 5 = .ok (.iload_n 1, 1) := dk_27 (dk_at dksX7_writer_0 5 rfl rfl)
theorem dX7_writer_6 : decode cX7_writer 6 = .ok (.invokestatic 435, 3) := dk_184 1 179 (dk_at dksX7_writer_0 6 rfl rfl)
theorem dX7_writer_9 : decode cX7_writer 9 = .ok (.ifCond .ne 10, 3) := dk_154 0 10 (dk_at dksX7_writer_0 9 rfl rfl)
theorem dX7_writer_12 : decode cX7_writer 12 = .ok (.aload_n 0, 1) := dk_42 (dk_at dksX7_writer_0 12 rfl rfl)
theorem dX7_writer_13 : decode cX7_writer 13 = .ok (.iconst 0, 1) := dk_3 (dk_at dksX7_writer_0 13 rfl rfl)
theorem dX7_writer_14 : decode cX7_writer 14 = .ok (.putfield 11, 3) := dk_181 0 11 (dk_at dksX7_writer_0 14 rfl rfl)
theorem dX7_writer_17 : decode cX7_writer 17 = .ok (.iconst (-1), 1) := dk_2 (dk_at dksX7_writer_0 17 rfl rfl)
theorem dX7_writer_18 : decode cX7_writer 18 = .ok (.ireturn, 1) := dk_172 (dk_at dksX7_writer_0 18 rfl rfl)
theorem dX7_writer_19 : decode cX7_writer 19 = .ok (.aload_n 0, 1) := dk_42 (dk_at dksX7_writer_0 19 rfl rfl)
theorem dX7_writer_20 : decode cX7_writer 20 = .ok (.invokevirtual 343, 3) := dk_182 1 87 (dk_at dksX7_writer_0 20 rfl rfl)
theorem dX7_writer_23 : decode cX7_writer 23 = .ok (.aload_n 0, 1) := dk_42 (dk_at dksX7_writer_0 23 rfl rfl)
theorem dX7_writer_24 : decode cX7_writer 24 = .ok (.iconst 0, 1) := dk_3 (dk_at dksX7_writer_1 0 rfl rfl)
theorem dX7_writer_25 : decode cX7_writer 25 = .ok (.putfield 340, 3) := dk_181 1 84 (dk_at dksX7_writer_1 1 rfl rfl)
theorem dX7_writer_28 : decode cX7_writer 28 = .ok (.aload_n 0, 1) := dk_42 (dk_at dksX7_writer_1 4 rfl rfl)
theorem dX7_writer_29 : decode cX7_writer 29 = .ok (.iconst 1, 1) := dk_4 (dk_at dksX7_writer_1 5 rfl rfl)
theorem dX7_writer_30 : decode cX7_writer 30 = .ok (.putfield 346, 3) := dk_181 1 90 (dk_at dksX7_writer_1 6 rfl rfl)
theorem dX7_writer_33 : decode cX7_writer 33 = .ok (.iconst 0, 1) := dk_3 (dk_at dksX7_writer_1 9 rfl rfl)
theorem dX7_writer_34 : decode cX7_writer 34 = .ok (.istore_n 2, 1) := dk_61 (dk_at dksX7_writer_1 10 rfl rfl)
theorem dX7_writer_35 : decode cX7_writer 35 = .ok (.iload_n 2, 1) := dk_28 (dk_at dksX7_writer_1 11 rfl rfl)
theorem dX7_writer_36 : decode cX7_writer 36 = .ok (.iconst 4, 1) := dk_7 (dk_at dksX7_writer_1 12 rfl rfl)
theorem dX7_writer_37 : decode cX7_writer 37 = .ok (.if_icmp .ge 16, 3) := dk_162 0 16 (dk_at dksX7_writer_1 13 rfl rfl)
theorem dX7_writer_40 : decode cX7_writer 40 = .ok (.aload_n 0, 1) := dk_42 (dk_at dksX7_writer_1 16 rfl rfl)
theorem dX7_writer_41 : decode cX7_writer 41 = .ok (.getfield 184, 3) := dk_180 0 184 (dk_at dksX7_writer_1 17 rfl rfl)
theorem dX7_writer_44 : decode cX7_writer 44 = .ok (.iload_n 2, 1) := dk_28 (dk_at dksX7_writer_1 20 rfl rfl)
theorem dX7_writer_45 : decode cX7_writer 45 = .ok (.iconst (-1), 1) := dk_2 (dk_at dksX7_writer_1 21 rfl rfl)
theorem dX7_writer_46 : decode cX7_writer 46 = .ok (.iastore, 1) := dk_79 (dk_at dksX7_writer_1 22 rfl rfl)
theorem dX7_writer_47 : decode cX7_writer 47 = .ok (.iinc 2 1, 3) := dk_132 2 1 (dk_at dksX7_writer_2 0 rfl rfl)
theorem dX7_writer_50 : decode cX7_writer 50 = .ok (.goto (-15), 3) := dk_167 255 241 (dk_at dksX7_writer_2 3 rfl rfl)
theorem dX7_writer_53 : decode cX7_writer 53 = .ok (.aload_n 0, 1) := dk_42 (dk_at dksX7_writer_2 6 rfl rfl)
theorem dX7_writer_54 : decode cX7_writer 54 = .ok (.getfield 237, 3) := dk_180 0 237 (dk_at dksX7_writer_2 7 rfl rfl)
theorem dX7_writer_57 : decode cX7_writer 57 = .ok (.ifCond .ne 22, 3) := dk_154 0 22 (dk_at dksX7_writer_2 10 rfl rfl)
theorem dX7_writer_60 : decode cX7_writer 60 = .ok (.aload_n 0, 1) := dk_42 (dk_at dksX7_writer_2 13 rfl rfl)
theorem dX7_writer_61 : decode cX7_writer 61 = .ok (.getfield 24, 3) := dk_180 0 24 (dk_at dksX7_writer_2 14 rfl rfl)
theorem dX7_writer_64 : decode cX7_writer 64 = .ok (.aload_n 0, 1) := dk_42 (dk_at dksX7_writer_2 17 rfl rfl)
theorem dX7_writer_65 : decode cX7_writer 65 = .ok (.getfield 234, 3) := dk_180 0 234 (dk_at dksX7_writer_2 18 rfl rfl)
theorem dX7_writer_68 : decode cX7_writer 68 = .ok (.iaload, 1) := dk_46 (dk_at dksX7_writer_2 21 rfl rfl)
theorem dX7_writer_69 : decode cX7_writer 69 = .ok (.ifCond .eq 10, 3) := dk_153 0 10 (dk_at dksX7_writer_3 0 rfl rfl)
theorem dX7_writer_72 : decode cX7_writer 72 = .ok (.aload_n 0, 1) := dk_42 (dk_at dksX7_writer_3 3 rfl rfl)
theorem dX7_writer_73 : decode cX7_writer 73 = .ok (.invokevirtual 438, 3) := dk_182 1 182 (dk_at dksX7_writer_3 4 rfl rfl)
theorem dX7_writer_76 : decode cX7_writer 76 = .ok (.goto (-23), 3) := dk_167 255 233 (dk_at dksX7_writer_3 7 rfl rfl)
theorem dX7_writer_79 : decode cX7_writer 79 = .ok (.aload_n 0, 1) := dk_42 (dk_at dksX7_writer_3 10 rfl rfl)
theorem dX7_writer_80 : decode cX7_writer 80 = .ok (.getfield 237, 3) := dk_180 0 237 (dk_at dksX7_writer_3 11 rfl rfl)
theorem dX7_writer_83 : decode cX7_writer 83 = .ok (.ifCond .le 8, 3) := dk_158 0 8 (dk_at dksX7_writer_3 14 rfl rfl)
theorem dX7_writer_86 : decode cX7_writer 86 = .ok (.aload_n 0, 1) := dk_42 (dk_at dksX7_writer_3 17 rfl rfl)
theorem dX7_writer_87 : decode cX7_writer 87 = .ok (.getfield 237, 3) := dk_180 0 237 (dk_at dksX7_writer_3 18 rfl rfl)
theorem dX7_writer_90 : decode cX7_writer 90 = .ok (.ireturn, 1) := dk_172 (dk_at dksX7_writer_3 21 rfl rfl)
theorem dX7_writer_91 : decode cX7_writer 91 = .ok (.aload_n 0, 1) := dk_42 (dk_at dksX7_writer_3 22 rfl rfl)
theorem dX7_writer_92 : decode cX7_writer 92 = .ok (.iconst 5, 1) := dk_8 (dk_at dksX7_writer_3 23 rfl rfl)
theorem dX7_writer_93 : decode cX7_writer 93 = .ok (.iload_n 1, 1) := dk_27 (dk_at dksX7_writer_4 0 rfl rfl)
theorem dX7_writer_94 : decode cX7_writer 94 = .ok (.iadd, 1) := dk_96 (dk_at dksX7_writer_4 1 rfl rfl)
theorem dX7_writer_95 : decode cX7_writer 95 = .ok (.invokevirtual 353, 3) := dk_182 1 97 (dk_at dksX7_writer_4 2 rfl rfl)
theorem dX7_writer_98 : decode cX7_writer 98 = .ok (.aload_n 0, 1) := dk_42 (dk_at dksX7_writer_4 5 rfl rfl)
theorem dX7_writer_99 : decode cX7_writer 99 = .ok (.getfield 172, 3) := dk_180 0 172 (dk_at dksX7_writer_4 6 rfl rfl)
theorem dX7_writer_102 : decode cX7_writer 102 = .ok (.iload_n 1, 1) := dk_27 (dk_at dksX7_writer_4 9 rfl rfl)
theorem dX7_writer_103 : decode cX7_writer 103 = .ok (.aload_n 0, 1) := dk_42 (dk_at dksX7_writer_4 10 rfl rfl)
theorem dX7_writer_104 : decode cX7_writer 104 = .ok (.getfield 184, 3) := dk_180 0 184 (dk_at dksX7_writer_4 11 rfl rfl)
theorem dX7_writer_107 : decode cX7_writer 107 = .ok (.iconst 0, 1) := dk_3 (dk_at dksX7_writer_4 14 rfl rfl)
theorem dX7_writer_108 : decode cX7_writer 108 = .ok (.iaload, 1) := dk_46 (dk_at dksX7_writer_4 15 rfl rfl)
theorem dX7_writer_109 : decode cX7_writer 109 = .ok (.iastore, 1) := dk_79 (dk_at dksX7_writer_4 16 rfl rfl)
theorem dX7_writer_110 : decode cX7_writer 110 = .ok (.aload_n 0, 1) := dk_42 (dk_at dksX7_writer_4 17 rfl rfl)
theorem dX7_writer_111 : decode cX7_writer 111 = .ok (.getfield 175, 3) := dk_180 0 175 (dk_at dksX7_writer_4 18 rfl rfl)
theorem dX7_writer_114 : decode cX7_writer 114 = .ok (.iload_n 1, 1) := dk_27 (dk_at dksX7_writer_4 21 rfl rfl)
theorem dX7_writer_115 : decode cX7_writer 115 = .ok (.aload_n 0, 1) := dk_42 (dk_at dksX7_writer_4 22 rfl rfl)
theorem dX7_writer_116 : decode cX7_writer 116 = .ok (.getfield 184, 3) := dk_180 0 184 (dk_at dksX7_writer_5 0 rfl rfl)
theorem dX7_writer_119 : decode cX7_writer 119 = .ok (.iconst 1, 1) := dk_4 (dk_at dksX7_writer_5 3 rfl rfl)
theorem dX7_writer_120 : decode cX7_writer 120 = .ok (.iaload, 1) := dk_46 (dk_at dksX7_writer_5 4 rfl rfl)
theorem dX7_writer_121 : decode cX7_writer 121 = .ok (.ifCond .ge 7, 3) := dk_156 0 7 (dk_at dksX7_writer_5 5 rfl rfl)
theorem dX7_writer_124 : decode cX7_writer 124 = .ok (.iconst 0, 1) := dk_3 (dk_at dksX7_writer_5 8 rfl rfl)
theorem dX7_writer_125 : decode cX7_writer 125 = .ok (.goto 9, 3) := dk_167 0 9 (dk_at dksX7_writer_5 9 rfl rfl)
theorem dX7_writer_128 : decode cX7_writer 128 = .ok (.aload_n 0, 1) := dk_42 (dk_at dksX7_writer_5 12 rfl rfl)
theorem dX7_writer_129 : decode cX7_writer 129 = .ok (.getfield 184, 3) := dk_180 0 184 (dk_at dksX7_writer_5 13 rfl rfl)
theorem dX7_writer_132 : decode cX7_writer 132 = .ok (.iconst 1, 1) := dk_4 (dk_at dksX7_writer_5 16 rfl rfl)
theorem dX7_writer_133 : decode cX7_writer 133 = .ok (.iaload, 1) := dk_46 (dk_at dksX7_writer_5 17 rfl rfl)
theorem dX7_writer_134 : decode cX7_writer 134 = .ok (.iastore, 1) := dk_79 (dk_at dksX7_writer_5 18 rfl rfl)
theorem dX7_writer_135 : decode cX7_writer 135 = .ok (.aload_n 0, 1) := dk_42 (dk_at dksX7_writer_5 19 rfl rfl)
theorem dX7_writer_136 : decode cX7_writer 136 = .ok (.getfield 178, 3) := dk_180 0 178 (dk_at dksX7_writer_5 20 rfl rfl)
theorem dX7_writer_139 : decode cX7_writer 139 = .ok (.iload_n 1, 1) := dk_27 (dk_at dksX7_writer_5 23 rfl rfl)
theorem dX7_writer_140 : decode cX7_writer 140 = .ok (.aload_n 0, 1) := dk_42 (dk_at dksX7_writer_6 0 rfl rfl)
theorem dX7_writer_141 : decode cX7_writer 141 = .ok (.getfield 184, 3) := dk_180 0 184 (dk_at dksX7_writer_6 1 rfl rfl)
theorem dX7_writer_144 : decode cX7_writer 144 = .ok (.iconst 2, 1) := dk_5 (dk_at dksX7_writer_6 4 rfl rfl)
theorem dX7_writer_145 : decode cX7_writer 145 = .ok (.iaload, 1) := dk_46 (dk_at dksX7_writer_6 5 rfl rfl)
theorem dX7_writer_146 : decode cX7_writer 146 = .ok (.ifCond .ge 8, 3) := dk_156 0 8 (dk_at dksX7_writer_6 6 rfl rfl)
theorem dX7_writer_149 : decode cX7_writer 149 = .ok (.bipush 11, 2) := dk_16 11 (dk_at dksX7_writer_6 9 rfl rfl)
theorem dX7_writer_151 : decode cX7_writer 151 = .ok (.goto 9, 3) := dk_167 0 9 (dk_at dksX7_writer_6 11 rfl rfl)
theorem dX7_writer_154 : decode cX7_writer 154 = .ok (.aload_n 0, 1) := dk_42 (dk_at dksX7_writer_6 14 rfl rfl)
theorem dX7_writer_155 : decode cX7_writer 155 = .ok (.getfield 184, 3) := dk_180 0 184 (dk_at dksX7_writer_6 15 rfl rfl)
theorem dX7_writer_158 : decode cX7_writer 158 = .ok (.iconst 2, 1) := dk_5 (dk_at dksX7_writer_6 18 rfl rfl)
theorem dX7_writer_159 : decode cX7_writer 159 = .ok (.iaload, 1) := dk_46 (dk_at dksX7_writer_6 19 rfl rfl)
theorem dX7_writer_160 : decode cX7_writer 160 = .ok (.iastore, 1) := dk_79 (dk_at dksX7_writer_6 20 rfl rfl)
theorem dX7_writer_161 : decode cX7_writer 161 = .ok (.aload_n 0, 1) := dk_42 (dk_at dksX7_writer_6 21 rfl rfl)
theorem dX7_writer_162 : decode cX7_writer 162 = .ok (.getfield 181, 3) := dk_180 0 181 (dk_at dksX7_writer_7 0 rfl rfl)
theorem dX7_writer_165 : decode cX7_writer 165 = .ok (.iload_n 1, 1) := dk_27 (dk_at dksX7_writer_7 3 rfl rfl)
theorem dX7_writer_166 : decode cX7_writer 166 = .ok (.aload_n 0, 1) := dk_42 (dk_at dksX7_writer_7 4 rfl rfl)
theorem dX7_writer_167 : decode cX7_writer 167 = .ok (.getfield 184, 3) := dk_180 0 184 (dk_at dksX7_writer_7 5 rfl rfl)
theorem dX7_writer_170 : decode cX7_writer 170 = .ok (.iconst 3, 1) := dk_6 (dk_at dksX7_writer_7 8 rfl rfl)
theorem dX7_writer_171 : decode cX7_writer 171 = .ok (.iaload, 1) := dk_46 (dk_at dksX7_writer_7 9 rfl rfl)
theorem dX7_writer_172 : decode cX7_writer 172 = .ok (.iastore, 1) := dk_79 (dk_at dksX7_writer_7 10 rfl rfl)
theorem dX7_writer_173 : decode cX7_writer 173 = .ok (.iconst 0, 1) := dk_3 (dk_at dksX7_writer_7 11 rfl rfl)
theorem dX7_writer_174 : decode cX7_writer 174 = .ok (.ireturn, 1) := dk_172 (dk_at dksX7_writer_7 12 rfl rfl)
def dkwX7_isWriterNumber_0 : List UInt8 := [26, 3, 6, 184, 0, 253, 172]
abbrev dktX7_isWriterNumber_0 : List UInt8 := dkwX7_isWriterNumber_0 ++ []
theorem dksX7_isWriterNumber_0 : cX7_isWriterNumber.data.toList.drop 0 = dktX7_isWriterNumber_0 := by decide +kernel
theorem dX7_isWriterNumber_0 : decode cX7_isWriterNumber 0 = .ok (.iload_n 0, 1) := dk_26 (dk_at dksX7_isWriterNumber_0 0 rfl rfl)
theorem dX7_isWriterNumber_1 : decode cX7_isWriterNumber 1 = .ok (.iconst 0, 1) := dk_3 (dk_at dksX7_isWriterNumber_0 1 rfl rfl)
theorem dX7_isWriterNumber_2 : decode cX7_isWriterNumber 2 = .ok (.iconst 3, 1) := dk_6 (dk_at dksX7_isWriterNumber_0 2 rfl rfl)
theorem dX7_isWriterNumber_3 : decode cX7_isWriterNumber 3 = .ok (.invokestatic 253, 3) := dk_184 0 253 (dk_at dksX7_isWriterNumber_0 3 rfl rfl)
theorem dX7_isWriterNumber_6 : decode cX7_isWriterNumber 6 = .ok (.ireturn, 1) := dk_172 (dk_at dksX7_isWriterNumber_0 6 rfl rfl)
def dkwX7_readWriterLine_8 : List UInt8 := [181, 0, 234, 42, 16, 59, 182, 1, 110, 177]
abbrev dktX7_readWriterLine_8 : List UInt8 := dkwX7_readWriterLine_8 ++ []
def dkwX7_readWriterLine_7 : List UInt8 := [42, 180, 0, 184, 27, 42, 180, 0, 30, 42, 180, 0, 234, 47, 136, 79, 42, 89, 180, 0, 234, 4, 96]
abbrev dktX7_readWriterLine_7 : List UInt8 := dkwX7_readWriterLine_7 ++ dktX7_readWriterLine_8
def dkwX7_readWriterLine_6 : List UInt8 := [160, 0, 9, 20, 0, 227, 167, 0, 6, 20, 1, 185, 148, 158, 0, 11, 42, 7, 182, 0, 243, 167, 0, 29]
abbrev dktX7_readWriterLine_6 : List UInt8 := dkwX7_readWriterLine_6 ++ dktX7_readWriterLine_7
def dkwX7_readWriterLine_5 : List UInt8 := [159, 0, 11, 42, 4, 182, 0, 243, 167, 0, 64, 42, 180, 0, 30, 42, 180, 0, 234, 47, 27, 6]
abbrev dktX7_readWriterLine_5 : List UInt8 := dkwX7_readWriterLine_5 ++ dktX7_readWriterLine_6
def dkwX7_readWriterLine_4 : List UInt8 := [3, 182, 1, 103, 42, 3, 3, 182, 1, 106, 167, 0, 85, 42, 180, 0, 24, 42, 180, 0, 234, 46, 5]
abbrev dktX7_readWriterLine_4 : List UInt8 := dkwX7_readWriterLine_4 ++ dktX7_readWriterLine_5
def dkwX7_readWriterLine_3 : List UInt8 := [96, 181, 0, 234, 27, 154, 0, 32, 42, 7, 182, 1, 100, 42, 180, 0, 184, 3, 42, 180, 1, 84, 79, 42]
abbrev dktX7_readWriterLine_3 : List UInt8 := dkwX7_readWriterLine_3 ++ dktX7_readWriterLine_4
def dkwX7_readWriterLine_2 : List UInt8 := [27, 46, 155, 0, 8, 42, 6, 182, 0, 243, 42, 180, 0, 237, 158, 0, 4, 177, 42, 89, 180, 0, 234, 4]
abbrev dktX7_readWriterLine_2 : List UInt8 := dkwX7_readWriterLine_2 ++ dktX7_readWriterLine_3
def dkwX7_readWriterLine_1 : List UInt8 := [27, 60, 132, 2, 1, 167, 255, 231, 27, 156, 0, 11, 42, 4, 182, 0, 243, 167, 0, 17, 42, 180, 0, 184]
abbrev dktX7_readWriterLine_1 : List UInt8 := dkwX7_readWriterLine_1 ++ dktX7_readWriterLine_2
def dkwX7_readWriterLine_0 : List UInt8 := [2, 60, 3, 61, 28, 7, 162, 0, 26, 42, 16, 18, 28, 96, 182, 0, 247, 153, 0, 7, 28, 167, 0, 4]
abbrev dktX7_readWriterLine_0 : List UInt8 := dkwX7_readWriterLine_0 ++ dktX7_readWriterLine_1
theorem dksX7_readWriterLine_0 : cX7_readWriterLine.data.toList.drop 0 = dktX7_readWriterLine_0 := by decide +kernel
theorem dksX7_readWriterLine_1 : cX7_readWriterLine.data.toList.drop 24 = dktX7_readWriterLine_1 := dk_seg dksX7_readWriterLine_0 24 rfl rfl
theorem dksX7_readWriterLine_2 : cX7_readWriterLine.data.toList.drop 48 = dktX7_readWriterLine_2 := dk_seg dksX7_readWriterLine_1 24 rfl rfl
theorem dksX7_readWriterLine_3 : cX7_readWriterLine.data.toList.drop 72 = dktX7_readWriterLine_3 := dk_seg dksX7_readWriterLine_2 24 rfl rfl
theorem dksX7_readWriterLine_4 : cX7_readWriterLine.data.toList.drop 96 = dktX7_readWriterLine_4 := dk_seg dksX7_readWriterLine_3 24 rfl rfl
theorem dksX7_readWriterLine_5 : cX7_readWriterLine.data.toList.drop 119 = dktX7_readWriterLine_5 := dk_seg dksX7_readWriterLine_4 23 rfl rfl
theorem dksX7_readWriterLine_6 : cX7_readWriterLine.data.toList.drop 141 = dktX7_readWriterLine_6 := dk_seg dksX7_readWriterLine_5 22 rfl rfl
theorem dksX7_readWriterLine_7 : cX7_readWriterLine.data.toList.drop 165 = dktX7_readWriterLine_7 := dk_seg dksX7_readWriterLine_6 24 rfl rfl
theorem dksX7_readWriterLine_8 : cX7_readWriterLine.data.toList.drop 188 = dktX7_readWriterLine_8 := dk_seg dksX7_readWriterLine_7 23 rfl rfl
theorem dX7_readWriterLine_0 : decode cX7_readWriterLine 0 = .ok (.iconst (-1), 1) := dk_2 (dk_at dksX7_readWriterLine_0 0 rfl rfl)
theorem dX7_readWriterLine_1 : decode cX7_readWriterLine 1 = .ok (.istore_n 1, 1) := dk_60 (dk_at dksX7_readWriterLine_0 1 rfl rfl)
theorem dX7_readWriterLine_2 : decode cX7_readWriterLine 2 = .ok (.iconst 0, 1) := dk_3 (dk_at dksX7_readWriterLine_0 2 rfl rfl)
theorem dX7_readWriterLine_3 : decode cX7_readWriterLine 3 = .ok (.istore_n 2, 1) := dk_61 (dk_at dksX7_readWriterLine_0 3 rfl rfl)
theorem dX7_readWriterLine_4 : decode cX7_readWriterLine 4 = .ok (.iload_n 2, 1) := dk_28 (dk_at dksX7_readWriterLine_0 4 rfl rfl)
theorem dX7_readWriterLine_5 : decode cX7_readWriterLine 5 = .ok (.iconst 4, 1) := dk_7 (dk_at dksX7_readWriterLine_0 5 rfl rfl)
theorem dX7_readWriterLine_6 : decode cX7_readWriterLine 6 = .ok (.if_icmp .ge 26, 3) := dk_162 0 26 (dk_at dksX7_readWriterLine_0 6 rfl rfl)
theorem dX7_readWriterLine_9 : decode cX7_readWriterLine 9 = .ok (.aload_n 0, 1) := dk_42 (dk_at dksX7_readWriterLine_0 9 rfl rfl)
theorem dX7_readWriterLine_10 : decode cX7_readWriterLine 10 = .ok (.bipush 18, 2) := dk_16 18 (dk_at dksX7_readWriterLine_0 10 rfl rfl)
theorem dX7_readWriterLine_12 : decode cX7_readWriterLine 12 = .ok (.iload_n 2, 1) := dk_28 (dk_at dksX7_readWriterLine_0 12 rfl rfl)
theorem dX7_readWriterLine_13 : decode cX7_readWriterLine 13 = .ok (.iadd, 1) := dk_96 (dk_at dksX7_readWriterLine_0 13 rfl rfl)
theorem dX7_readWriterLine_14 : decode cX7_readWriterLine 14 = .ok (.invokevirtual 247, 3) := dk_182 0 247 (dk_at dksX7_readWriterLine_0 14 rfl rfl)
theorem dX7_readWriterLine_17 : decode cX7_readWriterLine 17 = .ok (.ifCond .eq 7, 3) := dk_153 0 7 (dk_at dksX7_readWriterLine_0 17 rfl rfl)
theorem dX7_readWriterLine_20 : decode cX7_readWriterLine 20 = .ok (.iload_n 2, 1) := dk_28 (dk_at dksX7_readWriterLine_0 20 rfl rfl)
theorem dX7_readWriterLine_21 : decode cX7_readWriterLine 21 = .ok (.goto 4, 3) := dk_167 0 4 (dk_at dksX7_readWriterLine_0 21 rfl rfl)
theorem dX7_readWriterLine_24 : decode cX7_readWriterLine 24 = .ok (.iload_n 1, 1) := dk_27 (dk_at dksX7_readWriterLine_1 0 rfl rfl)
theorem dX7_readWriterLine_25 : decode cX7_readWriterLine 25 = .ok (.istore_n 1, 1) := dk_60 (dk_at dksX7_readWriterLine_1 1 rfl rfl)
theorem dX7_readWriterLine_26 : decode cX7_readWriterLine 26 = .ok (.iinc 2 1, 3) := dk_132 2 1 (dk_at dksX7_readWriterLine_1 2 rfl rfl)
theorem dX7_readWriterLine_29 : decode cX7_readWriterLine 29 = .ok (.goto (-25), 3) := dk_167 255 231 (dk_at dksX7_readWriterLine_1 5 rfl rfl)
theorem dX7_readWriterLine_32 : decode cX7_readWriterLine 32 = .ok (.iload_n 1, 1) := dk_27 (dk_at dksX7_readWriterLine_1 8 rfl rfl)
theorem dX7_readWriterLine_33 : decode cX7_readWriterLine 33 = .ok (.ifCond .ge 11, 3) := dk_156 0 11 (dk_at dksX7_readWriterLine_1 9 rfl rfl)
theorem dX7_readWriterLine_36 : decode cX7_readWriterLine 36 = .ok (.aload_n 0, 1) := dk_42 (dk_at dksX7_readWriterLine_1 12 rfl rfl)
theorem dX7_readWriterLine_37 : decode cX7_readWriterLine 37 = .ok (.iconst 1, 1) := dk_4 (dk_at dksX7_readWriterLine_1 13 rfl rfl)
theorem dX7_readWriterLine_38 : decode cX7_readWriterLine 38 = .ok (.invokevirtual 243, 3) := dk_182 0 243 (dk_at dksX7_readWriterLine_1 14 rfl rfl)
theorem dX7_readWriterLine_41 : decode cX7_readWriterLine 41 = .ok (.goto 17, 3) := dk_167 0 17 (dk_at dksX7_readWriterLine_1 17 rfl rfl)
theorem dX7_readWriterLine_44 : decode cX7_readWriterLine 44 = .ok (.aload_n 0, 1) := dk_42 (dk_at dksX7_readWriterLine_1 20 rfl rfl)
theorem dX7_readWriterLine_45 : decode cX7_readWriterLine 45 = .ok (.getfield 184, 3) := dk_180 0 184 (dk_at dksX7_readWriterLine_1 21 rfl rfl)
theorem dX7_readWriterLine_48 : decode cX7_readWriterLine 48 = .ok (.iload_n 1, 1) := dk_27 (dk_at dksX7_readWriterLine_2 0 rfl rfl)
theorem dX7_readWriterLine_49 : decode cX7_readWriterLine 49 = .ok (.iaload, 1) := dk_46 (dk_at dksX7_readWriterLine_2 1 rfl rfl)
theorem dX7_readWriterLine_50 : decode cX7_readWriterLine 50 = .ok (.ifCond .lt 8, 3) := dk_155 0 8 (dk_at dksX7_readWriterLine_2 2 rfl rfl)
theorem dX7_readWriterLine_53 : decode cX7_readWriterLine 53 = .ok (.aload_n 0, 1) := dk_42 (dk_at dksX7_readWriterLine_2 5 rfl rfl)
theorem dX7_readWriterLine_54 : decode cX7_readWriterLine 54 = .ok (.iconst 3, 1) := dk_6 (dk_at dksX7_readWriterLine_2 6 rfl rfl)
theorem dX7_readWriterLine_55 : decode cX7_readWriterLine 55 = .ok (.invokevirtual 243, 3) := dk_182 0 243 (dk_at dksX7_readWriterLine_2 7 rfl rfl)
theorem dX7_readWriterLine_58 : decode cX7_readWriterLine 58 = .ok (.aload_n 0, 1) := dk_42 (dk_at dksX7_readWriterLine_2 10 rfl rfl)
theorem dX7_readWriterLine_59 : decode cX7_readWriterLine 59 = .ok (.getfield 237, 3) := dk_180 0 237 (dk_at dksX7_readWriterLine_2 11 rfl rfl)
theorem dX7_readWriterLine_62 : decode cX7_readWriterLine 62 = .ok (.ifCond .le 4, 3) := dk_158 0 4 (dk_at dksX7_readWriterLine_2 14 rfl rfl)
theorem dX7_readWriterLine_65 : decode cX7_readWriterLine 65 = .ok (.return_, 1) := dk_177 (dk_at dksX7_readWriterLine_2 17 rfl rfl)
theorem dX7_readWriterLine_66 : decode cX7_readWriterLine 66 = .ok (.aload_n 0, 1) := dk_42 (dk_at dksX7_readWriterLine_2 18 rfl rfl)
theorem dX7_readWriterLine_67 : decode cX7_readWriterLine 67 = .ok (.dup, 1) := dk_89 (dk_at dksX7_readWriterLine_2 19 rfl rfl)
theorem dX7_readWriterLine_68 : decode cX7_readWriterLine 68 = .ok (.getfield 234, 3) := dk_180 0 234 (dk_at dksX7_readWriterLine_2 20 rfl rfl)
theorem dX7_readWriterLine_71 : decode cX7_readWriterLine 71 = .ok (.iconst 1, 1) := dk_4 (dk_at dksX7_readWriterLine_2 23 rfl rfl)
theorem dX7_readWriterLine_72 : decode cX7_readWriterLine 72 = .ok (.iadd, 1) := dk_96 (dk_at dksX7_readWriterLine_3 0 rfl rfl)
theorem dX7_readWriterLine_73 : decode cX7_readWriterLine 73 = .ok (.putfield 234, 3) := dk_181 0 234 (dk_at dksX7_readWriterLine_3 1 rfl rfl)
theorem dX7_readWriterLine_76 : decode cX7_readWriterLine 76 = .ok (.iload_n 1, 1) := dk_27 (dk_at dksX7_readWriterLine_3 4 rfl rfl)
theorem dX7_readWriterLine_77 : decode cX7_readWriterLine 77 = .ok (.ifCond .ne 32, 3) := dk_154 0 32 (dk_at dksX7_readWriterLine_3 5 rfl rfl)
theorem dX7_readWriterLine_80 : decode cX7_readWriterLine 80 = .ok (.aload_n 0, 1) := dk_42 (dk_at dksX7_readWriterLine_3 8 rfl rfl)
theorem dX7_readWriterLine_81 : decode cX7_readWriterLine 81 = .ok (.iconst 4, 1) := dk_7 (dk_at dksX7_readWriterLine_3 9 rfl rfl)
theorem dX7_readWriterLine_82 : decode cX7_readWriterLine 82 = .ok (.invokevirtual 356, 3) := dk_182 1 100 (dk_at dksX7_readWriterLine_3 10 rfl rfl)
theorem dX7_readWriterLine_85 : decode cX7_readWriterLine 85 = .ok (.aload_n 0, 1) := dk_42 (dk_at dksX7_readWriterLine_3 13 rfl rfl)
theorem dX7_readWriterLine_86 : decode cX7_readWriterLine 86 = .ok (.getfield 184, 3) := dk_180 0 184 (dk_at dksX7_readWriterLine_3 14 rfl rfl)
theorem dX7_readWriterLine_89 : decode cX7_readWriterLine 89 = .ok (.iconst 0, 1) := dk_3 (dk_at dksX7_readWriterLine_3 17 rfl rfl)
theorem dX7_readWriterLine_90 : decode cX7_readWriterLine 90 = .ok (.aload_n 0, 1) := dk_42 (dk_at dksX7_readWriterLine_3 18 rfl rfl)
theorem dX7_readWriterLine_91 : decode cX7_readWriterLine 91 = .ok (.getfield 340, 3) := dk_180 1 84 (dk_at dksX7_readWriterLine_3 19 rfl rfl)
theorem dX7_readWriterLine_94 : decode cX7_readWriterLine 94 = .ok (.iastore, 1) := dk_79 (dk_at dksX7_readWriterLine_3 22 rfl rfl)
theorem dX7_readWriterLine_95 : decode cX7_readWriterLine 95 = .ok (.aload_n 0, 1) := dk_42 (dk_at dksX7_readWriterLine_3 23 rfl rfl)
theorem dX7_readWriterLine_96 : decode cX7_readWriterLine 96 = .ok (.iconst 0, 1) := dk_3 (dk_at dksX7_readWriterLine_4 0 rfl rfl)
theorem dX7_readWriterLine_97 : decode cX7_readWriterLine 97 = .ok (.invokevirtual 359, 3) := dk_182 1 103 (dk_at dksX7_readWriterLine_4 1 rfl rfl)
theorem dX7_readWriterLine_100 : decode cX7_readWriterLine 100 = .ok (.aload_n 0, 1) := dk_42 (dk_at dksX7_readWriterLine_4 4 rfl rfl)
theorem dX7_readWriterLine_101 : decode cX7_readWriterLine 101 = .ok (.iconst 0, 1) := dk_3 (dk_at dksX7_readWriterLine_4 5 rfl rfl)
theorem dX7_readWriterLine_102 : decode cX7_readWriterLine 102 = .ok (.iconst 0, 1) := dk_3 (dk_at dksX7_readWriterLine_4 6 rfl rfl)
theorem dX7_readWriterLine_103 : decode cX7_readWriterLine 103 = .ok (.invokevirtual 362, 3) := dk_182 1 106 (dk_at dksX7_readWriterLine_4 7 rfl rfl)
theorem dX7_readWriterLine_106 : decode cX7_readWriterLine 106 = .ok (.goto 85, 3) := dk_167 0 85 (dk_at dksX7_readWriterLine_4 10 rfl rfl)
theorem dX7_readWriterLine_109 : decode cX7_readWriterLine 109 = .ok (.aload_n 0, 1) := dk_42 (dk_at dksX7_readWriterLine_4 13 rfl rfl)
theorem dX7_readWriterLine_110 : decode cX7_readWriterLine 110 = .ok (.getfield 24, 3) := dk_180 0 24 (dk_at dksX7_readWriterLine_4 14 rfl rfl)
theorem dX7_readWriterLine_113 : decode cX7_readWriterLine 113 = .ok (.aload_n 0, 1) := dk_42 (dk_at dksX7_readWriterLine_4 17 rfl rfl)
theorem dX7_readWriterLine_114 : decode cX7_readWriterLine 114 = .ok (.getfield 234, 3) := dk_180 0 234 (dk_at dksX7_readWriterLine_4 18 rfl rfl)
theorem dX7_readWriterLine_117 : decode cX7_readWriterLine 117 = .ok (.iaload, 1) := dk_46 (dk_at dksX7_readWriterLine_4 21 rfl rfl)
theorem dX7_readWriterLine_118 : decode cX7_readWriterLine 118 = .ok (.iconst 2, 1) := dk_5 (dk_at dksX7_readWriterLine_4 22 rfl rfl)
theorem dX7_readWriterLine_119 : decode cX7_readWriterLine 119 = .ok (.if_icmp .eq 11, 3) := dk_159 0 11 (dk_at dksX7_readWriterLine_5 0 rfl rfl)
theorem dX7_readWriterLine_122 : decode cX7_readWriterLine 122 = .ok (.aload_n 0, 1) := dk_42 (dk_at dksX7_readWriterLine_5 3 rfl rfl)
theorem dX7_readWriterLine_123 : decode cX7_readWriterLine 123 = .ok (.iconst 1, 1) := dk_4 (dk_at dksX7_readWriterLine_5 4 rfl rfl)
theorem dX7_readWriterLine_124 : decode cX7_readWriterLine 124 = .ok (.invokevirtual 243, 3) := dk_182 0 243 (dk_at dksX7_readWriterLine_5 5 rfl rfl)
theorem dX7_readWriterLine_127 : decode cX7_readWriterLine 127 = .ok (.goto 64, 3) := dk_167 0 64 (dk_at dksX7_readWriterLine_5 8 rfl rfl)
theorem dX7_readWriterLine_130 : decode cX7_readWriterLine 130 = .ok (.aload_n 0, 1) := dk_42 (dk_at dksX7_readWriterLine_5 11 rfl rfl)
theorem dX7_readWriterLine_131 : decode cX7_readWriterLine 131 = .ok (.getfield 30, 3) := dk_180 0 30 (dk_at dksX7_readWriterLine_5 12 rfl rfl)
theorem dX7_readWriterLine_134 : decode cX7_readWriterLine 134 = .ok (.aload_n 0, 1) := dk_42 (dk_at dksX7_readWriterLine_5 15 rfl rfl)
theorem dX7_readWriterLine_135 : decode cX7_readWriterLine 135 = .ok (.getfield 234, 3) := dk_180 0 234 (dk_at dksX7_readWriterLine_5 16 rfl rfl)
theorem dX7_readWriterLine_138 : decode cX7_readWriterLine 138 = .ok (.laload, 1) := dk_47 (dk_at dksX7_readWriterLine_5 19 rfl rfl)
theorem dX7_readWriterLine_139 : decode cX7_readWriterLine 139 = .ok (.iload_n 1, 1) := dk_27 (dk_at dksX7_readWriterLine_5 20 rfl rfl)
theorem dX7_readWriterLine_140 : decode cX7_readWriterLine 140 = .ok (.iconst 3, 1) := dk_6 (dk_at dksX7_readWriterLine_5 21 rfl rfl)
theorem dX7_readWriterLine_141 : decode cX7_readWriterLine 141 = .ok (.if_icmp .ne 9, 3) := dk_160 0 9 (dk_at dksX7_readWriterLine_6 0 rfl rfl)
theorem dX7_readWriterLine_144 : decode cX7_readWriterLine 144 = .ok (.ldc2_w 227, 3) := dk_20 0 227 (dk_at dksX7_readWriterLine_6 3 rfl rfl)
theorem dX7_readWriterLine_147 : decode cX7_readWriterLine 147 = .ok (.goto 6, 3) := dk_167 0 6 (dk_at dksX7_readWriterLine_6 6 rfl rfl)
theorem dX7_readWriterLine_150 : decode cX7_readWriterLine 150 = .ok (.ldc2_w 441, 3) := dk_20 1 185 (dk_at dksX7_readWriterLine_6 9 rfl rfl)
theorem dX7_readWriterLine_153 : decode cX7_readWriterLine 153 = .ok (.lcmp, 1) := dk_148 (dk_at dksX7_readWriterLine_6 12 rfl rfl)
theorem dX7_readWriterLine_154 : decode cX7_readWriterLine 154 = .ok (.ifCond .le 11, 3) := dk_158 0 11 (dk_at dksX7_readWriterLine_6 13 rfl rfl)
theorem dX7_readWriterLine_157 : decode cX7_readWriterLine 157 = .ok (.aload_n 0, 1) := dk_42 (dk_at dksX7_readWriterLine_6 16 rfl rfl)
theorem dX7_readWriterLine_158 : decode cX7_readWriterLine 158 = .ok (.iconst 4, 1) := dk_7 (dk_at dksX7_readWriterLine_6 17 rfl rfl)
theorem dX7_readWriterLine_159 : decode cX7_readWriterLine 159 = .ok (.invokevirtual 243, 3) := dk_182 0 243 (dk_at dksX7_readWriterLine_6 18 rfl rfl)
theorem dX7_readWriterLine_162 : decode cX7_readWriterLine 162 = .ok (.goto 29, 3) := dk_167 0 29 (dk_at dksX7_readWriterLine_6 21 rfl rfl)
theorem dX7_readWriterLine_165 : decode cX7_readWriterLine 165 = .ok (.aload_n 0, 1) := dk_42 (dk_at dksX7_readWriterLine_7 0 rfl rfl)
theorem dX7_readWriterLine_166 : decode cX7_readWriterLine 166 = .ok (.getfield 184, 3) := dk_180 0 184 (dk_at dksX7_readWriterLine_7 1 rfl rfl)
theorem dX7_readWriterLine_169 : decode cX7_readWriterLine 169 = .ok (.iload_n 1, 1) := dk_27 (dk_at dksX7_readWriterLine_7 4 rfl rfl)
theorem dX7_readWriterLine_170 : decode cX7_readWriterLine 170 = .ok (.aload_n 0, 1) := dk_42 (dk_at dksX7_readWriterLine_7 5 rfl rfl)
theorem dX7_readWriterLine_171 : decode cX7_readWriterLine 171 = .ok (.getfield 30, 3) := dk_180 0 30 (dk_at dksX7_readWriterLine_7 6 rfl rfl)
theorem dX7_readWriterLine_174 : decode cX7_readWriterLine 174 = .ok (.aload_n 0, 1) := dk_42 (dk_at dksX7_readWriterLine_7 9 rfl rfl)
theorem dX7_readWriterLine_175 : decode cX7_readWriterLine 175 = .ok (.getfield 234, 3) := dk_180 0 234 (dk_at dksX7_readWriterLine_7 10 rfl rfl)
theorem dX7_readWriterLine_178 : decode cX7_readWriterLine 178 = .ok (.laload, 1) := dk_47 (dk_at dksX7_readWriterLine_7 13 rfl rfl)
theorem dX7_readWriterLine_179 : decode cX7_readWriterLine 179 = .ok (.l2i, 1) := dk_136 (dk_at dksX7_readWriterLine_7 14 rfl rfl)
theorem dX7_readWriterLine_180 : decode cX7_readWriterLine 180 = .ok (.iastore, 1) := dk_79 (dk_at dksX7_readWriterLine_7 15 rfl rfl)
theorem dX7_readWriterLine_181 : decode cX7_readWriterLine 181 = .ok (.aload_n 0, 1) := dk_42 (dk_at dksX7_readWriterLine_7 16 rfl rfl)
theorem dX7_readWriterLine_182 : decode cX7_readWriterLine 182 = .ok (.dup, 1) := dk_89 (dk_at dksX7_readWriterLine_7 17 rfl rfl)
theorem dX7_readWriterLine_183 : decode cX7_readWriterLine 183 = .ok (.getfield 234, 3) := dk_180 0 234 (dk_at dksX7_readWriterLine_7 18 rfl rfl)
theorem dX7_readWriterLine_186 : decode cX7_readWriterLine 186 = .ok (.iconst 1, 1) := dk_4 (dk_at dksX7_readWriterLine_7 21 rfl rfl)
theorem dX7_readWriterLine_187 : decode cX7_readWriterLine 187 = .ok (.iadd, 1) := dk_96 (dk_at dksX7_readWriterLine_7 22 rfl rfl)
theorem dX7_readWriterLine_188 : decode cX7_readWriterLine 188 = .ok (.putfield 234, 3) := dk_181 0 234 (dk_at dksX7_readWriterLine_8 0 rfl rfl)
theorem dX7_readWriterLine_191 : decode cX7_readWriterLine 191 = .ok (.aload_n 0, 1) := dk_42 (dk_at dksX7_readWriterLine_8 3 rfl rfl)
theorem dX7_readWriterLine_192 : decode cX7_readWriterLine 192 = .ok (.bipush 59, 2) := dk_16 59 (dk_at dksX7_readWriterLine_8 4 rfl rfl)
theorem dX7_readWriterLine_194 : decode cX7_readWriterLine 194 = .ok (.invokevirtual 366, 3) := dk_182 1 110 (dk_at dksX7_readWriterLine_8 6 rfl rfl)
theorem dX7_readWriterLine_197 : decode cX7_readWriterLine 197 = .ok (.return_, 1) := dk_177 (dk_at dksX7_readWriterLine_8 9 rfl rfl)
def dkwX7_takes_1 : List UInt8 := [27, 182, 1, 190, 182, 1, 193, 153, 0, 7, 4, 167, 0, 8, 3, 167, 0, 4, 2, 172]
abbrev dktX7_takes_1 : List UInt8 := dkwX7_takes_1 ++ []
def dkwX7_takes_0 : List UInt8 := [42, 3, 181, 0, 1, 27, 184, 1, 179, 153, 0, 33, 42, 28, 182, 1, 1, 153, 0, 25, 42, 27, 28, 42]
abbrev dktX7_takes_0 : List UInt8 := dkwX7_takes_0 ++ dktX7_takes_1
theorem dksX7_takes_0 : cX7_takes.data.toList.drop 0 = dktX7_takes_0 := by decide +kernel
theorem dksX7_takes_1 : cX7_takes.data.toList.drop 24 = dktX7_takes_1 := dk_seg dksX7_takes_0 24 rfl rfl
theorem dX7_takes_0 : decode cX7_takes 0 = .ok (.aload_n 0, 1) := dk_42 (dk_at dksX7_takes_0 0 rfl rfl)
theorem dX7_takes_1 : decode cX7_takes 1 = .ok (.iconst 0, 1) := dk_3 (dk_at dksX7_takes_0 1 rfl rfl)
theorem dX7_takes_2 : decode cX7_takes 2 = .ok (.putfield 1, 3) := dk_181 0 1 (dk_at dksX7_takes_0 2 rfl rfl)
theorem dX7_takes_5 : decode cX7_takes 5 = .ok (.iload_n 1, 1) := dk_27 (dk_at dksX7_takes_0 5 rfl rfl)
theorem dX7_takes_6 : decode cX7_takes 6 = .ok (.invokestatic 435, 3) := dk_184 1 179 (dk_at dksX7_takes_0 6 rfl rfl)
theorem dX7_takes_9 : decode cX7_takes 9 = .ok (.ifCond .eq 33, 3) := dk_153 0 33 (dk_at dksX7_takes_0 9 rfl rfl)
theorem dX7_takes_12 : decode cX7_takes 12 = .ok (.aload_n 0, 1) := dk_42 (dk_at dksX7_takes_0 12 rfl rfl)
theorem dX7_takes_13 : decode cX7_takes 13 = .ok (.iload_n 2, 1) := dk_28 (dk_at dksX7_takes_0 13 rfl rfl)
theorem dX7_takes_14 : decode cX7_takes 14 = .ok (.invokevirtual 257, 3) := dk_182 1 1 (dk_at dksX7_takes_0 14 rfl rfl)
theorem dX7_takes_17 : decode cX7_takes 17 = .ok (.ifCond .eq 25, 3) := dk_153 0 25 (dk_at dksX7_takes_0 17 rfl rfl)
theorem dX7_takes_20 : decode cX7_takes 20 = .ok (.aload_n 0, 1) := dk_42 (dk_at dksX7_takes_0 20 rfl rfl)
theorem dX7_takes_21 : decode cX7_takes 21 = .ok (.iload_n 1, 1) := dk_27 (dk_at dksX7_takes_0 21 rfl rfl)
theorem dX7_takes_22 : decode cX7_takes 22 = .ok (.iload_n 2, 1) := dk_28 (dk_at dksX7_takes_0 22 rfl rfl)
theorem dX7_takes_23 : decode cX7_takes 23 = .ok (.aload_n 0, 1) := dk_42 (dk_at dksX7_takes_0 23 rfl rfl)
theorem dX7_takes_24 : decode cX7_takes 24 = .ok (.iload_n 1, 1) := dk_27 (dk_at dksX7_takes_1 0 rfl rfl)
theorem dX7_takes_25 : decode cX7_takes 25 = .ok (.invokevirtual 446, 3) := dk_182 1 190 (dk_at dksX7_takes_1 1 rfl rfl)
theorem dX7_takes_28 : decode cX7_takes 28 = .ok (.invokevirtual 449, 3) := dk_182 1 193 (dk_at dksX7_takes_1 4 rfl rfl)
theorem dX7_takes_31 : decode cX7_takes 31 = .ok (.ifCond .eq 7, 3) := dk_153 0 7 (dk_at dksX7_takes_1 7 rfl rfl)
theorem dX7_takes_34 : decode cX7_takes 34 = .ok (.iconst 1, 1) := dk_4 (dk_at dksX7_takes_1 10 rfl rfl)
theorem dX7_takes_35 : decode cX7_takes 35 = .ok (.goto 8, 3) := dk_167 0 8 (dk_at dksX7_takes_1 11 rfl rfl)
theorem dX7_takes_38 : decode cX7_takes 38 = .ok (.iconst 0, 1) := dk_3 (dk_at dksX7_takes_1 14 rfl rfl)
theorem dX7_takes_39 : decode cX7_takes 39 = .ok (.goto 4, 3) := dk_167 0 4 (dk_at dksX7_takes_1 15 rfl rfl)
theorem dX7_takes_42 : decode cX7_takes 42 = .ok (.iconst (-1), 1) := dk_2 (dk_at dksX7_takes_1 18 rfl rfl)
theorem dX7_takes_43 : decode cX7_takes 43 = .ok (.ireturn, 1) := dk_172 (dk_at dksX7_takes_1 19 rfl rfl)
def dkwX7_tenthsBy_0 : List UInt8 := [42, 180, 0, 181, 27, 46, 156, 0, 10, 42, 180, 0, 208, 167, 0, 9, 42, 180, 0, 181, 27, 46, 172]
abbrev dktX7_tenthsBy_0 : List UInt8 := dkwX7_tenthsBy_0 ++ []
theorem dksX7_tenthsBy_0 : cX7_tenthsBy.data.toList.drop 0 = dktX7_tenthsBy_0 := by decide +kernel
theorem dX7_tenthsBy_0 : decode cX7_tenthsBy 0 = .ok (.aload_n 0, 1) := dk_42 (dk_at dksX7_tenthsBy_0 0 rfl rfl)
theorem dX7_tenthsBy_1 : decode cX7_tenthsBy 1 = .ok (.getfield 181, 3) := dk_180 0 181 (dk_at dksX7_tenthsBy_0 1 rfl rfl)
theorem dX7_tenthsBy_4 : decode cX7_tenthsBy 4 = .ok (.iload_n 1, 1) := dk_27 (dk_at dksX7_tenthsBy_0 4 rfl rfl)
theorem dX7_tenthsBy_5 : decode cX7_tenthsBy 5 = .ok (.iaload, 1) := dk_46 (dk_at dksX7_tenthsBy_0 5 rfl rfl)
theorem dX7_tenthsBy_6 : decode cX7_tenthsBy 6 = .ok (.ifCond .ge 10, 3) := dk_156 0 10 (dk_at dksX7_tenthsBy_0 6 rfl rfl)
theorem dX7_tenthsBy_9 : decode cX7_tenthsBy 9 = .ok (.aload_n 0, 1) := dk_42 (dk_at dksX7_tenthsBy_0 9 rfl rfl)
theorem dX7_tenthsBy_10 : decode cX7_tenthsBy 10 = .ok (.getfield 208, 3) := dk_180 0 208 (dk_at dksX7_tenthsBy_0 10 rfl rfl)
theorem dX7_tenthsBy_13 : decode cX7_tenthsBy 13 = .ok (.goto 9, 3) := dk_167 0 9 (dk_at dksX7_tenthsBy_0 13 rfl rfl)
theorem dX7_tenthsBy_16 : decode cX7_tenthsBy 16 = .ok (.aload_n 0, 1) := dk_42 (dk_at dksX7_tenthsBy_0 16 rfl rfl)
theorem dX7_tenthsBy_17 : decode cX7_tenthsBy 17 = .ok (.getfield 181, 3) := dk_180 0 181 (dk_at dksX7_tenthsBy_0 17 rfl rfl)
theorem dX7_tenthsBy_20 : decode cX7_tenthsBy 20 = .ok (.iload_n 1, 1) := dk_27 (dk_at dksX7_tenthsBy_0 20 rfl rfl)
theorem dX7_tenthsBy_21 : decode cX7_tenthsBy 21 = .ok (.iaload, 1) := dk_46 (dk_at dksX7_tenthsBy_0 21 rfl rfl)
theorem dX7_tenthsBy_22 : decode cX7_tenthsBy 22 = .ok (.ireturn, 1) := dk_172 (dk_at dksX7_tenthsBy_0 22 rfl rfl)
def dkwX7_doesTake_8 : List UInt8 := [104, 42, 180, 0, 172, 27, 46, 96, 182, 1, 132, 153, 0, 7, 4, 167, 0, 4, 3, 172]
abbrev dktX7_doesTake_8 : List UInt8 := dkwX7_doesTake_8 ++ []
def dkwX7_doesTake_7 : List UInt8 := [180, 0, 121, 21, 4, 46, 104, 96, 79, 42, 180, 0, 148, 16, 8, 28, 79, 42, 17, 4, 76, 8, 27, 96]
abbrev dktX7_doesTake_7 : List UInt8 := dkwX7_doesTake_7 ++ dktX7_doesTake_8
def dkwX7_doesTake_6 : List UInt8 := [167, 0, 4, 3, 79, 42, 180, 0, 148, 16, 7, 16, 10, 42, 180, 0, 118, 21, 4, 46, 104, 29, 42]
abbrev dktX7_doesTake_6 : List UInt8 := dkwX7_doesTake_6 ++ dktX7_doesTake_7
def dkwX7_doesTake_5 : List UInt8 := [180, 0, 109, 16, 12, 42, 180, 0, 97, 28, 46, 104, 42, 180, 0, 178, 27, 46, 96, 46, 162, 0, 7, 4]
abbrev dktX7_doesTake_5 : List UInt8 := dkwX7_doesTake_5 ++ dktX7_doesTake_6
def dkwX7_doesTake_4 : List UInt8 := [180, 0, 148, 8, 42, 28, 5, 182, 1, 187, 79, 42, 180, 0, 148, 16, 6, 42, 180, 0, 100, 28, 46, 42]
abbrev dktX7_doesTake_4 : List UInt8 := dkwX7_doesTake_4 ++ dktX7_doesTake_5
def dkwX7_doesTake_3 : List UInt8 := [153, 0, 7, 4, 167, 0, 4, 3, 79, 42, 180, 0, 148, 7, 42, 28, 3, 182, 1, 187, 79, 42]
abbrev dktX7_doesTake_3 : List UInt8 := dkwX7_doesTake_3 ++ dktX7_doesTake_4
def dkwX7_doesTake_2 : List UInt8 := [42, 180, 0, 148, 5, 42, 180, 0, 103, 28, 46, 79, 42, 180, 0, 148, 6, 42, 180, 0, 106, 28, 51]
abbrev dktX7_doesTake_2 : List UInt8 := dkwX7_doesTake_2 ++ dktX7_doesTake_3
def dkwX7_doesTake_1 : List UInt8 := [42, 180, 0, 148, 3, 42, 180, 0, 97, 28, 46, 79, 42, 180, 0, 148, 4, 42, 180, 0, 100, 28, 46, 79]
abbrev dktX7_doesTake_1 : List UInt8 := dkwX7_doesTake_1 ++ dktX7_doesTake_2
def dkwX7_doesTake_0 : List UInt8 := [42, 180, 0, 172, 27, 46, 156, 0, 5, 4, 172, 16, 12, 28, 104, 42, 180, 0, 175, 27, 46, 96, 54, 4]
abbrev dktX7_doesTake_0 : List UInt8 := dkwX7_doesTake_0 ++ dktX7_doesTake_1
theorem dksX7_doesTake_0 : cX7_doesTake.data.toList.drop 0 = dktX7_doesTake_0 := by decide +kernel
theorem dksX7_doesTake_1 : cX7_doesTake.data.toList.drop 24 = dktX7_doesTake_1 := dk_seg dksX7_doesTake_0 24 rfl rfl
theorem dksX7_doesTake_2 : cX7_doesTake.data.toList.drop 48 = dktX7_doesTake_2 := dk_seg dksX7_doesTake_1 24 rfl rfl
theorem dksX7_doesTake_3 : cX7_doesTake.data.toList.drop 71 = dktX7_doesTake_3 := dk_seg dksX7_doesTake_2 23 rfl rfl
theorem dksX7_doesTake_4 : cX7_doesTake.data.toList.drop 93 = dktX7_doesTake_4 := dk_seg dksX7_doesTake_3 22 rfl rfl
theorem dksX7_doesTake_5 : cX7_doesTake.data.toList.drop 117 = dktX7_doesTake_5 := dk_seg dksX7_doesTake_4 24 rfl rfl
theorem dksX7_doesTake_6 : cX7_doesTake.data.toList.drop 141 = dktX7_doesTake_6 := dk_seg dksX7_doesTake_5 24 rfl rfl
theorem dksX7_doesTake_7 : cX7_doesTake.data.toList.drop 164 = dktX7_doesTake_7 := dk_seg dksX7_doesTake_6 23 rfl rfl
theorem dksX7_doesTake_8 : cX7_doesTake.data.toList.drop 188 = dktX7_doesTake_8 := dk_seg dksX7_doesTake_7 24 rfl rfl
theorem dX7_doesTake_0 : decode cX7_doesTake 0 = .ok (.aload_n 0, 1) := dk_42 (dk_at dksX7_doesTake_0 0 rfl rfl)
theorem dX7_doesTake_1 : decode cX7_doesTake 1 = .ok (.getfield 172, 3) := dk_180 0 172 (dk_at dksX7_doesTake_0 1 rfl rfl)
theorem dX7_doesTake_4 : decode cX7_doesTake 4 = .ok (.iload_n 1, 1) := dk_27 (dk_at dksX7_doesTake_0 4 rfl rfl)
theorem dX7_doesTake_5 : decode cX7_doesTake 5 = .ok (.iaload, 1) := dk_46 (dk_at dksX7_doesTake_0 5 rfl rfl)
theorem dX7_doesTake_6 : decode cX7_doesTake 6 = .ok (.ifCond .ge 5, 3) := dk_156 0 5 (dk_at dksX7_doesTake_0 6 rfl rfl)
theorem dX7_doesTake_9 : decode cX7_doesTake 9 = .ok (.iconst 1, 1) := dk_4 (dk_at dksX7_doesTake_0 9 rfl rfl)
theorem dX7_doesTake_10 : decode cX7_doesTake 10 = .ok (.ireturn, 1) := dk_172 (dk_at dksX7_doesTake_0 10 rfl rfl)
theorem dX7_doesTake_11 : decode cX7_doesTake 11 = .ok (.bipush 12, 2) := dk_16 12 (dk_at dksX7_doesTake_0 11 rfl rfl)
theorem dX7_doesTake_13 : decode cX7_doesTake 13 = .ok (.iload_n 2, 1) := dk_28 (dk_at dksX7_doesTake_0 13 rfl rfl)
theorem dX7_doesTake_14 : decode cX7_doesTake 14 = .ok (.imul, 1) := dk_104 (dk_at dksX7_doesTake_0 14 rfl rfl)
theorem dX7_doesTake_15 : decode cX7_doesTake 15 = .ok (.aload_n 0, 1) := dk_42 (dk_at dksX7_doesTake_0 15 rfl rfl)
theorem dX7_doesTake_16 : decode cX7_doesTake 16 = .ok (.getfield 175, 3) := dk_180 0 175 (dk_at dksX7_doesTake_0 16 rfl rfl)
theorem dX7_doesTake_19 : decode cX7_doesTake 19 = .ok (.iload_n 1, 1) := dk_27 (dk_at dksX7_doesTake_0 19 rfl rfl)
theorem dX7_doesTake_20 : decode cX7_doesTake 20 = .ok (.iaload, 1) := dk_46 (dk_at dksX7_doesTake_0 20 rfl rfl)
theorem dX7_doesTake_21 : decode cX7_doesTake 21 = .ok (.iadd, 1) := dk_96 (dk_at dksX7_doesTake_0 21 rfl rfl)
theorem dX7_doesTake_22 : decode cX7_doesTake 22 = .ok (.istore 4, 2) := dk_54 4 (dk_at dksX7_doesTake_0 22 rfl rfl)
theorem dX7_doesTake_24 : decode cX7_doesTake 24 = .ok (.aload_n 0, 1) := dk_42 (dk_at dksX7_doesTake_1 0 rfl rfl)
theorem dX7_doesTake_25 : decode cX7_doesTake 25 = .ok (.getfield 148, 3) := dk_180 0 148 (dk_at dksX7_doesTake_1 1 rfl rfl)
theorem dX7_doesTake_28 : decode cX7_doesTake 28 = .ok (.iconst 0, 1) := dk_3 (dk_at dksX7_doesTake_1 4 rfl rfl)
theorem dX7_doesTake_29 : decode cX7_doesTake 29 = .ok (.aload_n 0, 1) := dk_42 (dk_at dksX7_doesTake_1 5 rfl rfl)
theorem dX7_doesTake_30 : decode cX7_doesTake 30 = .ok (.getfield 97, 3) := dk_180 0 97 (dk_at dksX7_doesTake_1 6 rfl rfl)
theorem dX7_doesTake_33 : decode cX7_doesTake 33 = .ok (.iload_n 2, 1) := dk_28 (dk_at dksX7_doesTake_1 9 rfl rfl)
theorem dX7_doesTake_34 : decode cX7_doesTake 34 = .ok (.iaload, 1) := dk_46 (dk_at dksX7_doesTake_1 10 rfl rfl)
theorem dX7_doesTake_35 : decode cX7_doesTake 35 = .ok (.iastore, 1) := dk_79 (dk_at dksX7_doesTake_1 11 rfl rfl)
theorem dX7_doesTake_36 : decode cX7_doesTake 36 = .ok (.aload_n 0, 1) := dk_42 (dk_at dksX7_doesTake_1 12 rfl rfl)
theorem dX7_doesTake_37 : decode cX7_doesTake 37 = .ok (.getfield 148, 3) := dk_180 0 148 (dk_at dksX7_doesTake_1 13 rfl rfl)
theorem dX7_doesTake_40 : decode cX7_doesTake 40 = .ok (.iconst 1, 1) := dk_4 (dk_at dksX7_doesTake_1 16 rfl rfl)
theorem dX7_doesTake_41 : decode cX7_doesTake 41 = .ok (.aload_n 0, 1) := dk_42 (dk_at dksX7_doesTake_1 17 rfl rfl)
theorem dX7_doesTake_42 : decode cX7_doesTake 42 = .ok (.getfield 100, 3) := dk_180 0 100 (dk_at dksX7_doesTake_1 18 rfl rfl)
theorem dX7_doesTake_45 : decode cX7_doesTake 45 = .ok (.iload_n 2, 1) := dk_28 (dk_at dksX7_doesTake_1 21 rfl rfl)
theorem dX7_doesTake_46 : decode cX7_doesTake 46 = .ok (.iaload, 1) := dk_46 (dk_at dksX7_doesTake_1 22 rfl rfl)
theorem dX7_doesTake_47 : decode cX7_doesTake 47 = .ok (.iastore, 1) := dk_79 (dk_at dksX7_doesTake_1 23 rfl rfl)
theorem dX7_doesTake_48 : decode cX7_doesTake 48 = .ok (.aload_n 0, 1) := dk_42 (dk_at dksX7_doesTake_2 0 rfl rfl)
theorem dX7_doesTake_49 : decode cX7_doesTake 49 = .ok (.getfield 148, 3) := dk_180 0 148 (dk_at dksX7_doesTake_2 1 rfl rfl)
theorem dX7_doesTake_52 : decode cX7_doesTake 52 = .ok (.iconst 2, 1) := dk_5 (dk_at dksX7_doesTake_2 4 rfl rfl)
theorem dX7_doesTake_53 : decode cX7_doesTake 53 = .ok (.aload_n 0, 1) := dk_42 (dk_at dksX7_doesTake_2 5 rfl rfl)
theorem dX7_doesTake_54 : decode cX7_doesTake 54 = .ok (.getfield 103, 3) := dk_180 0 103 (dk_at dksX7_doesTake_2 6 rfl rfl)
theorem dX7_doesTake_57 : decode cX7_doesTake 57 = .ok (.iload_n 2, 1) := dk_28 (dk_at dksX7_doesTake_2 9 rfl rfl)
theorem dX7_doesTake_58 : decode cX7_doesTake 58 = .ok (.iaload, 1) := dk_46 (dk_at dksX7_doesTake_2 10 rfl rfl)
theorem dX7_doesTake_59 : decode cX7_doesTake 59 = .ok (.iastore, 1) := dk_79 (dk_at dksX7_doesTake_2 11 rfl rfl)
theorem dX7_doesTake_60 : decode cX7_doesTake 60 = .ok (.aload_n 0, 1) := dk_42 (dk_at dksX7_doesTake_2 12 rfl rfl)
theorem dX7_doesTake_61 : decode cX7_doesTake 61 = .ok (.getfield 148, 3) := dk_180 0 148 (dk_at dksX7_doesTake_2 13 rfl rfl)
theorem dX7_doesTake_64 : decode cX7_doesTake 64 = .ok (.iconst 3, 1) := dk_6 (dk_at dksX7_doesTake_2 16 rfl rfl)
theorem dX7_doesTake_65 : decode cX7_doesTake 65 = .ok (.aload_n 0, 1) := dk_42 (dk_at dksX7_doesTake_2 17 rfl rfl)
theorem dX7_doesTake_66 : decode cX7_doesTake 66 = .ok (.getfield 106, 3) := dk_180 0 106 (dk_at dksX7_doesTake_2 18 rfl rfl)
theorem dX7_doesTake_69 : decode cX7_doesTake 69 = .ok (.iload_n 2, 1) := dk_28 (dk_at dksX7_doesTake_2 21 rfl rfl)
theorem dX7_doesTake_70 : decode cX7_doesTake 70 = .ok (.baload, 1) := dk_51 (dk_at dksX7_doesTake_2 22 rfl rfl)
theorem dX7_doesTake_71 : decode cX7_doesTake 71 = .ok (.ifCond .eq 7, 3) := dk_153 0 7 (dk_at dksX7_doesTake_3 0 rfl rfl)
theorem dX7_doesTake_74 : decode cX7_doesTake 74 = .ok (.iconst 1, 1) := dk_4 (dk_at dksX7_doesTake_3 3 rfl rfl)
theorem dX7_doesTake_75 : decode cX7_doesTake 75 = .ok (.goto 4, 3) := dk_167 0 4 (dk_at dksX7_doesTake_3 4 rfl rfl)
theorem dX7_doesTake_78 : decode cX7_doesTake 78 = .ok (.iconst 0, 1) := dk_3 (dk_at dksX7_doesTake_3 7 rfl rfl)
theorem dX7_doesTake_79 : decode cX7_doesTake 79 = .ok (.iastore, 1) := dk_79 (dk_at dksX7_doesTake_3 8 rfl rfl)
theorem dX7_doesTake_80 : decode cX7_doesTake 80 = .ok (.aload_n 0, 1) := dk_42 (dk_at dksX7_doesTake_3 9 rfl rfl)
theorem dX7_doesTake_81 : decode cX7_doesTake 81 = .ok (.getfield 148, 3) := dk_180 0 148 (dk_at dksX7_doesTake_3 10 rfl rfl)
theorem dX7_doesTake_84 : decode cX7_doesTake 84 = .ok (.iconst 4, 1) := dk_7 (dk_at dksX7_doesTake_3 13 rfl rfl)
theorem dX7_doesTake_85 : decode cX7_doesTake 85 = .ok (.aload_n 0, 1) := dk_42 (dk_at dksX7_doesTake_3 14 rfl rfl)
theorem dX7_doesTake_86 : decode cX7_doesTake 86 = .ok (.iload_n 2, 1) := dk_28 (dk_at dksX7_doesTake_3 15 rfl rfl)
theorem dX7_doesTake_87 : decode cX7_doesTake 87 = .ok (.iconst 0, 1) := dk_3 (dk_at dksX7_doesTake_3 16 rfl rfl)
theorem dX7_doesTake_88 : decode cX7_doesTake 88 = .ok (.invokevirtual 443, 3) := dk_182 1 187 (dk_at dksX7_doesTake_3 17 rfl rfl)
theorem dX7_doesTake_91 : decode cX7_doesTake 91 = .ok (.iastore, 1) := dk_79 (dk_at dksX7_doesTake_3 20 rfl rfl)
theorem dX7_doesTake_92 : decode cX7_doesTake 92 = .ok (.aload_n 0, 1) := dk_42 (dk_at dksX7_doesTake_3 21 rfl rfl)
theorem dX7_doesTake_93 : decode cX7_doesTake 93 = .ok (.getfield 148, 3) := dk_180 0 148 (dk_at dksX7_doesTake_4 0 rfl rfl)
theorem dX7_doesTake_96 : decode cX7_doesTake 96 = .ok (.iconst 5, 1) := dk_8 (dk_at dksX7_doesTake_4 3 rfl rfl)
theorem dX7_doesTake_97 : decode cX7_doesTake 97 = .ok (.aload_n 0, 1) := dk_42 (dk_at dksX7_doesTake_4 4 rfl rfl)
theorem dX7_doesTake_98 : decode cX7_doesTake 98 = .ok (.iload_n 2, 1) := dk_28 (dk_at dksX7_doesTake_4 5 rfl rfl)
theorem dX7_doesTake_99 : decode cX7_doesTake 99 = .ok (.iconst 2, 1) := dk_5 (dk_at dksX7_doesTake_4 6 rfl rfl)
theorem dX7_doesTake_100 : decode cX7_doesTake 100 = .ok (.invokevirtual 443, 3) := dk_182 1 187 (dk_at dksX7_doesTake_4 7 rfl rfl)
theorem dX7_doesTake_103 : decode cX7_doesTake 103 = .ok (.iastore, 1) := dk_79 (dk_at dksX7_doesTake_4 10 rfl rfl)
theorem dX7_doesTake_104 : decode cX7_doesTake 104 = .ok (.aload_n 0, 1) := dk_42 (dk_at dksX7_doesTake_4 11 rfl rfl)
theorem dX7_doesTake_105 : decode cX7_doesTake 105 = .ok (.getfield 148, 3) := dk_180 0 148 (dk_at dksX7_doesTake_4 12 rfl rfl)
theorem dX7_doesTake_108 : decode cX7_doesTake 108 = .ok (.bipush 6, 2) := dk_16 6 (dk_at dksX7_doesTake_4 15 rfl rfl)
theorem dX7_doesTake_110 : decode cX7_doesTake 110 = .ok (.aload_n 0, 1) := dk_42 (dk_at dksX7_doesTake_4 17 rfl rfl)
theorem dX7_doesTake_111 : decode cX7_doesTake 111 = .ok (.getfield 100, 3) := dk_180 0 100 (dk_at dksX7_doesTake_4 18 rfl rfl)
theorem dX7_doesTake_114 : decode cX7_doesTake 114 = .ok (.iload_n 2, 1) := dk_28 (dk_at dksX7_doesTake_4 21 rfl rfl)
theorem dX7_doesTake_115 : decode cX7_doesTake 115 = .ok (.iaload, 1) := dk_46 (dk_at dksX7_doesTake_4 22 rfl rfl)
theorem dX7_doesTake_116 : decode cX7_doesTake 116 = .ok (.aload_n 0, 1) := dk_42 (dk_at dksX7_doesTake_4 23 rfl rfl)
theorem dX7_doesTake_117 : decode cX7_doesTake 117 = .ok (.getfield 109, 3) := dk_180 0 109 (dk_at dksX7_doesTake_5 0 rfl rfl)
theorem dX7_doesTake_120 : decode cX7_doesTake 120 = .ok (.bipush 12, 2) := dk_16 12 (dk_at dksX7_doesTake_5 3 rfl rfl)
theorem dX7_doesTake_122 : decode cX7_doesTake 122 = .ok (.aload_n 0, 1) := dk_42 (dk_at dksX7_doesTake_5 5 rfl rfl)
theorem dX7_doesTake_123 : decode cX7_doesTake 123 = .ok (.getfield 97, 3) := dk_180 0 97 (dk_at dksX7_doesTake_5 6 rfl rfl)
theorem dX7_doesTake_126 : decode cX7_doesTake 126 = .ok (.iload_n 2, 1) := dk_28 (dk_at dksX7_doesTake_5 9 rfl rfl)
theorem dX7_doesTake_127 : decode cX7_doesTake 127 = .ok (.iaload, 1) := dk_46 (dk_at dksX7_doesTake_5 10 rfl rfl)
theorem dX7_doesTake_128 : decode cX7_doesTake 128 = .ok (.imul, 1) := dk_104 (dk_at dksX7_doesTake_5 11 rfl rfl)
theorem dX7_doesTake_129 : decode cX7_doesTake 129 = .ok (.aload_n 0, 1) := dk_42 (dk_at dksX7_doesTake_5 12 rfl rfl)
theorem dX7_doesTake_130 : decode cX7_doesTake 130 = .ok (.getfield 178, 3) := dk_180 0 178 (dk_at dksX7_doesTake_5 13 rfl rfl)
theorem dX7_doesTake_133 : decode cX7_doesTake 133 = .ok (.iload_n 1, 1) := dk_27 (dk_at dksX7_doesTake_5 16 rfl rfl)
theorem dX7_doesTake_134 : decode cX7_doesTake 134 = .ok (.iaload, 1) := dk_46 (dk_at dksX7_doesTake_5 17 rfl rfl)
theorem dX7_doesTake_135 : decode cX7_doesTake 135 = .ok (.iadd, 1) := dk_96 (dk_at dksX7_doesTake_5 18 rfl rfl)
theorem dX7_doesTake_136 : decode cX7_doesTake 136 = .ok (.iaload, 1) := dk_46 (dk_at dksX7_doesTake_5 19 rfl rfl)
theorem dX7_doesTake_137 : decode cX7_doesTake 137 = .ok (.if_icmp .ge 7, 3) := dk_162 0 7 (dk_at dksX7_doesTake_5 20 rfl rfl)
theorem dX7_doesTake_140 : decode cX7_doesTake 140 = .ok (.iconst 1, 1) := dk_4 (dk_at dksX7_doesTake_5 23 rfl rfl)
theorem dX7_doesTake_141 : decode cX7_doesTake 141 = .ok (.goto 4, 3) := dk_167 0 4 (dk_at dksX7_doesTake_6 0 rfl rfl)
theorem dX7_doesTake_144 : decode cX7_doesTake 144 = .ok (.iconst 0, 1) := dk_3 (dk_at dksX7_doesTake_6 3 rfl rfl)
theorem dX7_doesTake_145 : decode cX7_doesTake 145 = .ok (.iastore, 1) := dk_79 (dk_at dksX7_doesTake_6 4 rfl rfl)
theorem dX7_doesTake_146 : decode cX7_doesTake 146 = .ok (.aload_n 0, 1) := dk_42 (dk_at dksX7_doesTake_6 5 rfl rfl)
theorem dX7_doesTake_147 : decode cX7_doesTake 147 = .ok (.getfield 148, 3) := dk_180 0 148 (dk_at dksX7_doesTake_6 6 rfl rfl)
theorem dX7_doesTake_150 : decode cX7_doesTake 150 = .ok (.bipush 7, 2) := dk_16 7 (dk_at dksX7_doesTake_6 9 rfl rfl)
theorem dX7_doesTake_152 : decode cX7_doesTake 152 = .ok (.bipush 10, 2) := dk_16 10 (dk_at dksX7_doesTake_6 11 rfl rfl)
theorem dX7_doesTake_154 : decode cX7_doesTake 154 = .ok (.aload_n 0, 1) := dk_42 (dk_at dksX7_doesTake_6 13 rfl rfl)
theorem dX7_doesTake_155 : decode cX7_doesTake 155 = .ok (.getfield 118, 3) := dk_180 0 118 (dk_at dksX7_doesTake_6 14 rfl rfl)
theorem dX7_doesTake_158 : decode cX7_doesTake 158 = .ok (.iload 4, 2) := dk_21 4 (dk_at dksX7_doesTake_6 17 rfl rfl)
theorem dX7_doesTake_160 : decode cX7_doesTake 160 = .ok (.iaload, 1) := dk_46 (dk_at dksX7_doesTake_6 19 rfl rfl)
theorem dX7_doesTake_161 : decode cX7_doesTake 161 = .ok (.imul, 1) := dk_104 (dk_at dksX7_doesTake_6 20 rfl rfl)
theorem dX7_doesTake_162 : decode cX7_doesTake 162 = .ok (.iload_n 3, 1) := dk_29 (dk_at dksX7_doesTake_6 21 rfl rfl)
theorem dX7_doesTake_163 : decode cX7_doesTake 163 = .ok (.aload_n 0, 1) := dk_42 (dk_at dksX7_doesTake_6 22 rfl rfl)
theorem dX7_doesTake_164 : decode cX7_doesTake 164 = .ok (.getfield 121, 3) := dk_180 0 121 (dk_at dksX7_doesTake_7 0 rfl rfl)
theorem dX7_doesTake_167 : decode cX7_doesTake 167 = .ok (.iload 4, 2) := dk_21 4 (dk_at dksX7_doesTake_7 3 rfl rfl)
theorem dX7_doesTake_169 : decode cX7_doesTake 169 = .ok (.iaload, 1) := dk_46 (dk_at dksX7_doesTake_7 5 rfl rfl)
theorem dX7_doesTake_170 : decode cX7_doesTake 170 = .ok (.imul, 1) := dk_104 (dk_at dksX7_doesTake_7 6 rfl rfl)
theorem dX7_doesTake_171 : decode cX7_doesTake 171 = .ok (.iadd, 1) := dk_96 (dk_at dksX7_doesTake_7 7 rfl rfl)
theorem dX7_doesTake_172 : decode cX7_doesTake 172 = .ok (.iastore, 1) := dk_79 (dk_at dksX7_doesTake_7 8 rfl rfl)
theorem dX7_doesTake_173 : decode cX7_doesTake 173 = .ok (.aload_n 0, 1) := dk_42 (dk_at dksX7_doesTake_7 9 rfl rfl)
theorem dX7_doesTake_174 : decode cX7_doesTake 174 = .ok (.getfield 148, 3) := dk_180 0 148 (dk_at dksX7_doesTake_7 10 rfl rfl)
theorem dX7_doesTake_177 : decode cX7_doesTake 177 = .ok (.bipush 8, 2) := dk_16 8 (dk_at dksX7_doesTake_7 13 rfl rfl)
theorem dX7_doesTake_179 : decode cX7_doesTake 179 = .ok (.iload_n 2, 1) := dk_28 (dk_at dksX7_doesTake_7 15 rfl rfl)
theorem dX7_doesTake_180 : decode cX7_doesTake 180 = .ok (.iastore, 1) := dk_79 (dk_at dksX7_doesTake_7 16 rfl rfl)
theorem dX7_doesTake_181 : decode cX7_doesTake 181 = .ok (.aload_n 0, 1) := dk_42 (dk_at dksX7_doesTake_7 17 rfl rfl)
theorem dX7_doesTake_182 : decode cX7_doesTake 182 = .ok (.sipush 1100, 3) := dk_17 4 76 (dk_at dksX7_doesTake_7 18 rfl rfl)
theorem dX7_doesTake_185 : decode cX7_doesTake 185 = .ok (.iconst 5, 1) := dk_8 (dk_at dksX7_doesTake_7 21 rfl rfl)
theorem dX7_doesTake_186 : decode cX7_doesTake 186 = .ok (.iload_n 1, 1) := dk_27 (dk_at dksX7_doesTake_7 22 rfl rfl)
theorem dX7_doesTake_187 : decode cX7_doesTake 187 = .ok (.iadd, 1) := dk_96 (dk_at dksX7_doesTake_7 23 rfl rfl)
theorem dX7_doesTake_188 : decode cX7_doesTake 188 = .ok (.imul, 1) := dk_104 (dk_at dksX7_doesTake_8 0 rfl rfl)
theorem dX7_doesTake_189 : decode cX7_doesTake 189 = .ok (.aload_n 0, 1) := dk_42 (dk_at dksX7_doesTake_8 1 rfl rfl)
theorem dX7_doesTake_190 : decode cX7_doesTake 190 = .ok (.getfield 172, 3) := dk_180 0 172 (dk_at dksX7_doesTake_8 2 rfl rfl)
theorem dX7_doesTake_193 : decode cX7_doesTake 193 = .ok (.iload_n 1, 1) := dk_27 (dk_at dksX7_doesTake_8 5 rfl rfl)
theorem dX7_doesTake_194 : decode cX7_doesTake 194 = .ok (.iaload, 1) := dk_46 (dk_at dksX7_doesTake_8 6 rfl rfl)
theorem dX7_doesTake_195 : decode cX7_doesTake 195 = .ok (.iadd, 1) := dk_96 (dk_at dksX7_doesTake_8 7 rfl rfl)
theorem dX7_doesTake_196 : decode cX7_doesTake 196 = .ok (.invokevirtual 388, 3) := dk_182 1 132 (dk_at dksX7_doesTake_8 8 rfl rfl)
theorem dX7_doesTake_199 : decode cX7_doesTake 199 = .ok (.ifCond .eq 7, 3) := dk_153 0 7 (dk_at dksX7_doesTake_8 11 rfl rfl)
theorem dX7_doesTake_202 : decode cX7_doesTake 202 = .ok (.iconst 1, 1) := dk_4 (dk_at dksX7_doesTake_8 14 rfl rfl)
theorem dX7_doesTake_203 : decode cX7_doesTake 203 = .ok (.goto 4, 3) := dk_167 0 4 (dk_at dksX7_doesTake_8 15 rfl rfl)
theorem dX7_doesTake_206 : decode cX7_doesTake 206 = .ok (.iconst 0, 1) := dk_3 (dk_at dksX7_doesTake_8 18 rfl rfl)
theorem dX7_doesTake_207 : decode cX7_doesTake 207 = .ok (.ireturn, 1) := dk_172 (dk_at dksX7_doesTake_8 19 rfl rfl)
def dkwX7_monthsOf_1 : List UInt8 := [46, 28, 160, 0, 7, 4, 167, 0, 4, 3, 96, 62, 132, 4, 1, 167, 255, 222, 29, 172]
abbrev dktX7_monthsOf_1 : List UInt8 := dkwX7_monthsOf_1 ++ []
def dkwX7_monthsOf_0 : List UInt8 := [3, 62, 3, 54, 4, 21, 4, 16, 12, 162, 0, 33, 29, 42, 180, 0, 115, 16, 12, 27, 104, 21, 4, 96]
abbrev dktX7_monthsOf_0 : List UInt8 := dkwX7_monthsOf_0 ++ dktX7_monthsOf_1
theorem dksX7_monthsOf_0 : cX7_monthsOf.data.toList.drop 0 = dktX7_monthsOf_0 := by decide +kernel
theorem dksX7_monthsOf_1 : cX7_monthsOf.data.toList.drop 24 = dktX7_monthsOf_1 := dk_seg dksX7_monthsOf_0 24 rfl rfl
theorem dX7_monthsOf_0 : decode cX7_monthsOf 0 = .ok (.iconst 0, 1) := dk_3 (dk_at dksX7_monthsOf_0 0 rfl rfl)
theorem dX7_monthsOf_1 : decode cX7_monthsOf 1 = .ok (.istore_n 3, 1) := dk_62 (dk_at dksX7_monthsOf_0 1 rfl rfl)
theorem dX7_monthsOf_2 : decode cX7_monthsOf 2 = .ok (.iconst 0, 1) := dk_3 (dk_at dksX7_monthsOf_0 2 rfl rfl)
theorem dX7_monthsOf_3 : decode cX7_monthsOf 3 = .ok (.istore 4, 2) := dk_54 4 (dk_at dksX7_monthsOf_0 3 rfl rfl)
theorem dX7_monthsOf_5 : decode cX7_monthsOf 5 = .ok (.iload 4, 2) := dk_21 4 (dk_at dksX7_monthsOf_0 5 rfl rfl)
theorem dX7_monthsOf_7 : decode cX7_monthsOf 7 = .ok (.bipush 12, 2) := dk_16 12 (dk_at dksX7_monthsOf_0 7 rfl rfl)
theorem dX7_monthsOf_9 : decode cX7_monthsOf 9 = .ok (.if_icmp .ge 33, 3) := dk_162 0 33 (dk_at dksX7_monthsOf_0 9 rfl rfl)
theorem dX7_monthsOf_12 : decode cX7_monthsOf 12 = .ok (.iload_n 3, 1) := dk_29 (dk_at dksX7_monthsOf_0 12 rfl rfl)
theorem dX7_monthsOf_13 : decode cX7_monthsOf 13 = .ok (.aload_n 0, 1) := dk_42 (dk_at dksX7_monthsOf_0 13 rfl rfl)
theorem dX7_monthsOf_14 : decode cX7_monthsOf 14 = .ok (.getfield 115, 3) := dk_180 0 115 (dk_at dksX7_monthsOf_0 14 rfl rfl)
theorem dX7_monthsOf_17 : decode cX7_monthsOf 17 = .ok (.bipush 12, 2) := dk_16 12 (dk_at dksX7_monthsOf_0 17 rfl rfl)
theorem dX7_monthsOf_19 : decode cX7_monthsOf 19 = .ok (.iload_n 1, 1) := dk_27 (dk_at dksX7_monthsOf_0 19 rfl rfl)
theorem dX7_monthsOf_20 : decode cX7_monthsOf 20 = .ok (.imul, 1) := dk_104 (dk_at dksX7_monthsOf_0 20 rfl rfl)
theorem dX7_monthsOf_21 : decode cX7_monthsOf 21 = .ok (.iload 4, 2) := dk_21 4 (dk_at dksX7_monthsOf_0 21 rfl rfl)
theorem dX7_monthsOf_23 : decode cX7_monthsOf 23 = .ok (.iadd, 1) := dk_96 (dk_at dksX7_monthsOf_0 23 rfl rfl)
theorem dX7_monthsOf_24 : decode cX7_monthsOf 24 = .ok (.iaload, 1) := dk_46 (dk_at dksX7_monthsOf_1 0 rfl rfl)
theorem dX7_monthsOf_25 : decode cX7_monthsOf 25 = .ok (.iload_n 2, 1) := dk_28 (dk_at dksX7_monthsOf_1 1 rfl rfl)
theorem dX7_monthsOf_26 : decode cX7_monthsOf 26 = .ok (.if_icmp .ne 7, 3) := dk_160 0 7 (dk_at dksX7_monthsOf_1 2 rfl rfl)
theorem dX7_monthsOf_29 : decode cX7_monthsOf 29 = .ok (.iconst 1, 1) := dk_4 (dk_at dksX7_monthsOf_1 5 rfl rfl)
theorem dX7_monthsOf_30 : decode cX7_monthsOf 30 = .ok (.goto 4, 3) := dk_167 0 4 (dk_at dksX7_monthsOf_1 6 rfl rfl)
theorem dX7_monthsOf_33 : decode cX7_monthsOf 33 = .ok (.iconst 0, 1) := dk_3 (dk_at dksX7_monthsOf_1 9 rfl rfl)
theorem dX7_monthsOf_34 : decode cX7_monthsOf 34 = .ok (.iadd, 1) := dk_96 (dk_at dksX7_monthsOf_1 10 rfl rfl)
theorem dX7_monthsOf_35 : decode cX7_monthsOf 35 = .ok (.istore_n 3, 1) := dk_62 (dk_at dksX7_monthsOf_1 11 rfl rfl)
theorem dX7_monthsOf_36 : decode cX7_monthsOf 36 = .ok (.iinc 4 1, 3) := dk_132 4 1 (dk_at dksX7_monthsOf_1 12 rfl rfl)
theorem dX7_monthsOf_39 : decode cX7_monthsOf 39 = .ok (.goto (-34), 3) := dk_167 255 222 (dk_at dksX7_monthsOf_1 15 rfl rfl)
theorem dX7_monthsOf_42 : decode cX7_monthsOf 42 = .ok (.iload_n 3, 1) := dk_29 (dk_at dksX7_monthsOf_1 18 rfl rfl)
theorem dX7_monthsOf_43 : decode cX7_monthsOf 43 = .ok (.ireturn, 1) := dk_172 (dk_at dksX7_monthsOf_1 19 rfl rfl)
def dkwX7_writes_2 : List UInt8 := [167, 0, 8, 42, 28, 182, 1, 65, 173]
abbrev dktX7_writes_2 : List UInt8 := dkwX7_writes_2 ++ []
def dkwX7_writes_1 : List UInt8 := [182, 1, 196, 153, 0, 7, 3, 167, 0, 4, 4, 181, 0, 1, 42, 180, 0, 1, 158, 0, 7, 9]
abbrev dktX7_writes_1 : List UInt8 := dkwX7_writes_1 ++ dktX7_writes_2
def dkwX7_writes_0 : List UInt8 := [42, 27, 184, 1, 179, 153, 0, 27, 28, 184, 1, 59, 153, 0, 20, 42, 27, 42, 27, 182, 1, 190]
abbrev dktX7_writes_0 : List UInt8 := dkwX7_writes_0 ++ dktX7_writes_1
theorem dksX7_writes_0 : cX7_writes.data.toList.drop 0 = dktX7_writes_0 := by decide +kernel
theorem dksX7_writes_1 : cX7_writes.data.toList.drop 22 = dktX7_writes_1 := dk_seg dksX7_writes_0 22 rfl rfl
theorem dksX7_writes_2 : cX7_writes.data.toList.drop 44 = dktX7_writes_2 := dk_seg dksX7_writes_1 22 rfl rfl
theorem dX7_writes_0 : decode cX7_writes 0 = .ok (.aload_n 0, 1) := dk_42 (dk_at dksX7_writes_0 0 rfl rfl)
theorem dX7_writes_1 : decode cX7_writes 1 = .ok (.iload_n 1, 1) := dk_27 (dk_at dksX7_writes_0 1 rfl rfl)
theorem dX7_writes_2 : decode cX7_writes 2 = .ok (.invokestatic 435, 3) := dk_184 1 179 (dk_at dksX7_writes_0 2 rfl rfl)
theorem dX7_writes_5 : decode cX7_writes 5 = .ok (.ifCond .eq 27, 3) := dk_153 0 27 (dk_at dksX7_writes_0 5 rfl rfl)
theorem dX7_writes_8 : decode cX7_writes 8 = .ok (.iload_n 2, 1) := dk_28 (dk_at dksX7_writes_0 8 rfl rfl)
theorem dX7_writes_9 : decode cX7_writes 9 = .ok (.invokestatic 315, 3) := dk_184 1 59 (dk_at dksX7_writes_0 9 rfl rfl)
theorem dX7_writes_12 : decode cX7_writes 12 = .ok (.ifCond .eq 20, 3) := dk_153 0 20 (dk_at dksX7_writes_0 12 rfl rfl)
theorem dX7_writes_15 : decode cX7_writes 15 = .ok (.aload_n 0, 1) := dk_42 (dk_at dksX7_writes_0 15 rfl rfl)
theorem dX7_writes_16 : decode cX7_writes 16 = .ok (.iload_n 1, 1) := dk_27 (dk_at dksX7_writes_0 16 rfl rfl)
theorem dX7_writes_17 : decode cX7_writes 17 = .ok (.aload_n 0, 1) := dk_42 (dk_at dksX7_writes_0 17 rfl rfl)
theorem dX7_writes_18 : decode cX7_writes 18 = .ok (.iload_n 1, 1) := dk_27 (dk_at dksX7_writes_0 18 rfl rfl)
theorem dX7_writes_19 : decode cX7_writes 19 = .ok (.invokevirtual 446, 3) := dk_182 1 190 (dk_at dksX7_writes_0 19 rfl rfl)
theorem dX7_writes_22 : decode cX7_writes 22 = .ok (.invokevirtual 452, 3) := dk_182 1 196 (dk_at dksX7_writes_1 0 rfl rfl)
theorem dX7_writes_25 : decode cX7_writes 25 = .ok (.ifCond .eq 7, 3) := dk_153 0 7 (dk_at dksX7_writes_1 3 rfl rfl)
theorem dX7_writes_28 : decode cX7_writes 28 = .ok (.iconst 0, 1) := dk_3 (dk_at dksX7_writes_1 6 rfl rfl)
theorem dX7_writes_29 : decode cX7_writes 29 = .ok (.goto 4, 3) := dk_167 0 4 (dk_at dksX7_writes_1 7 rfl rfl)
theorem dX7_writes_32 : decode cX7_writes 32 = .ok (.iconst 1, 1) := dk_4 (dk_at dksX7_writes_1 10 rfl rfl)
theorem dX7_writes_33 : decode cX7_writes 33 = .ok (.putfield 1, 3) := dk_181 0 1 (dk_at dksX7_writes_1 11 rfl rfl)
theorem dX7_writes_36 : decode cX7_writes 36 = .ok (.aload_n 0, 1) := dk_42 (dk_at dksX7_writes_1 14 rfl rfl)
theorem dX7_writes_37 : decode cX7_writes 37 = .ok (.getfield 1, 3) := dk_180 0 1 (dk_at dksX7_writes_1 15 rfl rfl)
theorem dX7_writes_40 : decode cX7_writes 40 = .ok (.ifCond .le 7, 3) := dk_158 0 7 (dk_at dksX7_writes_1 18 rfl rfl)
theorem dX7_writes_43 : decode cX7_writes 43 = .ok (.lconst 0, 1) := dk_9 (dk_at dksX7_writes_1 21 rfl rfl)
theorem dX7_writes_44 : decode cX7_writes 44 = .ok (.goto 8, 3) := dk_167 0 8 (dk_at dksX7_writes_2 0 rfl rfl)
theorem dX7_writes_47 : decode cX7_writes 47 = .ok (.aload_n 0, 1) := dk_42 (dk_at dksX7_writes_2 3 rfl rfl)
theorem dX7_writes_48 : decode cX7_writes 48 = .ok (.iload_n 2, 1) := dk_28 (dk_at dksX7_writes_2 4 rfl rfl)
theorem dX7_writes_49 : decode cX7_writes 49 = .ok (.invokevirtual 321, 3) := dk_182 1 65 (dk_at dksX7_writes_2 5 rfl rfl)
theorem dX7_writes_52 : decode cX7_writes 52 = .ok (.lreturn, 1) := dk_173 (dk_at dksX7_writes_2 8 rfl rfl)
def dkwX7_findWritten_6 : List UInt8 := [159, 0, 14, 42, 182, 1, 55, 153, 0, 7, 4, 167, 0, 4, 3, 172]
abbrev dktX7_findWritten_6 : List UInt8 := dkwX7_findWritten_6 ++ []
def dkwX7_findWritten_5 : List UInt8 := [104, 96, 133, 182, 1, 51, 132, 3, 1, 167, 255, 136, 42, 180, 0, 175, 27, 46, 42, 180, 0, 178, 27, 46]
abbrev dktX7_findWritten_5 : List UInt8 := dkwX7_findWritten_5 ++ dktX7_findWritten_6
def dkwX7_findWritten_4 : List UInt8 := [180, 0, 118, 21, 4, 46, 100, 104, 28, 42, 180, 0, 121, 21, 5, 46, 42, 180, 0, 121, 21, 4, 46, 100]
abbrev dktX7_findWritten_4 : List UInt8 := dkwX7_findWritten_4 ++ dktX7_findWritten_5
def dkwX7_findWritten_3 : List UInt8 := [180, 0, 97, 29, 46, 154, 0, 7, 4, 167, 0, 4, 3, 16, 10, 42, 180, 0, 118, 21, 5, 46, 42]
abbrev dktX7_findWritten_3 : List UInt8 := dkwX7_findWritten_3 ++ dktX7_findWritten_4
def dkwX7_findWritten_2 : List UInt8 := [180, 0, 175, 27, 46, 96, 54, 4, 16, 12, 29, 104, 42, 180, 0, 178, 27, 46, 96, 54, 5, 42, 42]
abbrev dktX7_findWritten_2 : List UInt8 := dkwX7_findWritten_2 ++ dktX7_findWritten_3
def dkwX7_findWritten_1 : List UInt8 := [27, 46, 182, 1, 18, 153, 0, 94, 42, 27, 29, 28, 182, 1, 193, 153, 0, 84, 16, 12, 29, 104, 42]
abbrev dktX7_findWritten_1 : List UInt8 := dkwX7_findWritten_1 ++ dktX7_findWritten_2
def dkwX7_findWritten_0 : List UInt8 := [42, 182, 1, 48, 3, 62, 29, 16, 24, 162, 0, 120, 42, 29, 42, 180, 0, 175, 27, 46, 42, 180, 0, 178]
abbrev dktX7_findWritten_0 : List UInt8 := dkwX7_findWritten_0 ++ dktX7_findWritten_1
theorem dksX7_findWritten_0 : cX7_findWritten.data.toList.drop 0 = dktX7_findWritten_0 := by decide +kernel
theorem dksX7_findWritten_1 : cX7_findWritten.data.toList.drop 24 = dktX7_findWritten_1 := dk_seg dksX7_findWritten_0 24 rfl rfl
theorem dksX7_findWritten_2 : cX7_findWritten.data.toList.drop 47 = dktX7_findWritten_2 := dk_seg dksX7_findWritten_1 23 rfl rfl
theorem dksX7_findWritten_3 : cX7_findWritten.data.toList.drop 70 = dktX7_findWritten_3 := dk_seg dksX7_findWritten_2 23 rfl rfl
theorem dksX7_findWritten_4 : cX7_findWritten.data.toList.drop 93 = dktX7_findWritten_4 := dk_seg dksX7_findWritten_3 23 rfl rfl
theorem dksX7_findWritten_5 : cX7_findWritten.data.toList.drop 117 = dktX7_findWritten_5 := dk_seg dksX7_findWritten_4 24 rfl rfl
theorem dksX7_findWritten_6 : cX7_findWritten.data.toList.drop 141 = dktX7_findWritten_6 := dk_seg dksX7_findWritten_5 24 rfl rfl
theorem dX7_findWritten_0 : decode cX7_findWritten 0 = .ok (.aload_n 0, 1) := dk_42 (dk_at dksX7_findWritten_0 0 rfl rfl)
theorem dX7_findWritten_1 : decode cX7_findWritten 1 = .ok (.invokevirtual 304, 3) := dk_182 1 48 (dk_at dksX7_findWritten_0 1 rfl rfl)
theorem dX7_findWritten_4 : decode cX7_findWritten 4 = .ok (.iconst 0, 1) := dk_3 (dk_at dksX7_findWritten_0 4 rfl rfl)
theorem dX7_findWritten_5 : decode cX7_findWritten 5 = .ok (.istore_n 3, 1) := dk_62 (dk_at dksX7_findWritten_0 5 rfl rfl)
theorem dX7_findWritten_6 : decode cX7_findWritten 6 = .ok (.iload_n 3, 1) := dk_29 (dk_at dksX7_findWritten_0 6 rfl rfl)
theorem dX7_findWritten_7 : decode cX7_findWritten 7 = .ok (.bipush 24, 2) := dk_16 24 (dk_at dksX7_findWritten_0 7 rfl rfl)
theorem dX7_findWritten_9 : decode cX7_findWritten 9 = .ok (.if_icmp .ge 120, 3) := dk_162 0 120 (dk_at dksX7_findWritten_0 9 rfl rfl)
theorem dX7_findWritten_12 : decode cX7_findWritten 12 = .ok (.aload_n 0, 1) := dk_42 (dk_at dksX7_findWritten_0 12 rfl rfl)
theorem dX7_findWritten_13 : decode cX7_findWritten 13 = .ok (.iload_n 3, 1) := dk_29 (dk_at dksX7_findWritten_0 13 rfl rfl)
theorem dX7_findWritten_14 : decode cX7_findWritten 14 = .ok (.aload_n 0, 1) := dk_42 (dk_at dksX7_findWritten_0 14 rfl rfl)
theorem dX7_findWritten_15 : decode cX7_findWritten 15 = .ok (.getfield 175, 3) := dk_180 0 175 (dk_at dksX7_findWritten_0 15 rfl rfl)
theorem dX7_findWritten_18 : decode cX7_findWritten 18 = .ok (.iload_n 1, 1) := dk_27 (dk_at dksX7_findWritten_0 18 rfl rfl)
theorem dX7_findWritten_19 : decode cX7_findWritten 19 = .ok (.iaload, 1) := dk_46 (dk_at dksX7_findWritten_0 19 rfl rfl)
theorem dX7_findWritten_20 : decode cX7_findWritten 20 = .ok (.aload_n 0, 1) := dk_42 (dk_at dksX7_findWritten_0 20 rfl rfl)
theorem dX7_findWritten_21 : decode cX7_findWritten 21 = .ok (.getfield 178, 3) := dk_180 0 178 (dk_at dksX7_findWritten_0 21 rfl rfl)
theorem dX7_findWritten_24 : decode cX7_findWritten 24 = .ok (.iload_n 1, 1) := dk_27 (dk_at dksX7_findWritten_1 0 rfl rfl)
theorem dX7_findWritten_25 : decode cX7_findWritten 25 = .ok (.iaload, 1) := dk_46 (dk_at dksX7_findWritten_1 1 rfl rfl)
theorem dX7_findWritten_26 : decode cX7_findWritten 26 = .ok (.invokevirtual 274, 3) := dk_182 1 18 (dk_at dksX7_findWritten_1 2 rfl rfl)
theorem dX7_findWritten_29 : decode cX7_findWritten 29 = .ok (.ifCond .eq 94, 3) := dk_153 0 94 (dk_at dksX7_findWritten_1 5 rfl rfl)
theorem dX7_findWritten_32 : decode cX7_findWritten 32 = .ok (.aload_n 0, 1) := dk_42 (dk_at dksX7_findWritten_1 8 rfl rfl)
theorem dX7_findWritten_33 : decode cX7_findWritten 33 = .ok (.iload_n 1, 1) := dk_27 (dk_at dksX7_findWritten_1 9 rfl rfl)
theorem dX7_findWritten_34 : decode cX7_findWritten 34 = .ok (.iload_n 3, 1) := dk_29 (dk_at dksX7_findWritten_1 10 rfl rfl)
theorem dX7_findWritten_35 : decode cX7_findWritten 35 = .ok (.iload_n 2, 1) := dk_28 (dk_at dksX7_findWritten_1 11 rfl rfl)
theorem dX7_findWritten_36 : decode cX7_findWritten 36 = .ok (.invokevirtual 449, 3) := dk_182 1 193 (dk_at dksX7_findWritten_1 12 rfl rfl)
theorem dX7_findWritten_39 : decode cX7_findWritten 39 = .ok (.ifCond .eq 84, 3) := dk_153 0 84 (dk_at dksX7_findWritten_1 15 rfl rfl)
theorem dX7_findWritten_42 : decode cX7_findWritten 42 = .ok (.bipush 12, 2) := dk_16 12 (dk_at dksX7_findWritten_1 18 rfl rfl)
theorem dX7_findWritten_44 : decode cX7_findWritten 44 = .ok (.iload_n 3, 1) := dk_29 (dk_at dksX7_findWritten_1 20 rfl rfl)
theorem dX7_findWritten_45 : decode cX7_findWritten 45 = .ok (.imul, 1) := dk_104 (dk_at dksX7_findWritten_1 21 rfl rfl)
theorem dX7_findWritten_46 : decode cX7_findWritten 46 = .ok (.aload_n 0, 1) := dk_42 (dk_at dksX7_findWritten_1 22 rfl rfl)
theorem dX7_findWritten_47 : decode cX7_findWritten 47 = .ok (.getfield 175, 3) := dk_180 0 175 (dk_at dksX7_findWritten_2 0 rfl rfl)
theorem dX7_findWritten_50 : decode cX7_findWritten 50 = .ok (.iload_n 1, 1) := dk_27 (dk_at dksX7_findWritten_2 3 rfl rfl)
theorem dX7_findWritten_51 : decode cX7_findWritten 51 = .ok (.iaload, 1) := dk_46 (dk_at dksX7_findWritten_2 4 rfl rfl)
theorem dX7_findWritten_52 : decode cX7_findWritten 52 = .ok (.iadd, 1) := dk_96 (dk_at dksX7_findWritten_2 5 rfl rfl)
theorem dX7_findWritten_53 : decode cX7_findWritten 53 = .ok (.istore 4, 2) := dk_54 4 (dk_at dksX7_findWritten_2 6 rfl rfl)
theorem dX7_findWritten_55 : decode cX7_findWritten 55 = .ok (.bipush 12, 2) := dk_16 12 (dk_at dksX7_findWritten_2 8 rfl rfl)
theorem dX7_findWritten_57 : decode cX7_findWritten 57 = .ok (.iload_n 3, 1) := dk_29 (dk_at dksX7_findWritten_2 10 rfl rfl)
theorem dX7_findWritten_58 : decode cX7_findWritten 58 = .ok (.imul, 1) := dk_104 (dk_at dksX7_findWritten_2 11 rfl rfl)
theorem dX7_findWritten_59 : decode cX7_findWritten 59 = .ok (.aload_n 0, 1) := dk_42 (dk_at dksX7_findWritten_2 12 rfl rfl)
theorem dX7_findWritten_60 : decode cX7_findWritten 60 = .ok (.getfield 178, 3) := dk_180 0 178 (dk_at dksX7_findWritten_2 13 rfl rfl)
theorem dX7_findWritten_63 : decode cX7_findWritten 63 = .ok (.iload_n 1, 1) := dk_27 (dk_at dksX7_findWritten_2 16 rfl rfl)
theorem dX7_findWritten_64 : decode cX7_findWritten 64 = .ok (.iaload, 1) := dk_46 (dk_at dksX7_findWritten_2 17 rfl rfl)
theorem dX7_findWritten_65 : decode cX7_findWritten 65 = .ok (.iadd, 1) := dk_96 (dk_at dksX7_findWritten_2 18 rfl rfl)
theorem dX7_findWritten_66 : decode cX7_findWritten 66 = .ok (.istore 5, 2) := dk_54 5 (dk_at dksX7_findWritten_2 19 rfl rfl)
theorem dX7_findWritten_68 : decode cX7_findWritten 68 = .ok (.aload_n 0, 1) := dk_42 (dk_at dksX7_findWritten_2 21 rfl rfl)
theorem dX7_findWritten_69 : decode cX7_findWritten 69 = .ok (.aload_n 0, 1) := dk_42 (dk_at dksX7_findWritten_2 22 rfl rfl)
theorem dX7_findWritten_70 : decode cX7_findWritten 70 = .ok (.getfield 97, 3) := dk_180 0 97 (dk_at dksX7_findWritten_3 0 rfl rfl)
theorem dX7_findWritten_73 : decode cX7_findWritten 73 = .ok (.iload_n 3, 1) := dk_29 (dk_at dksX7_findWritten_3 3 rfl rfl)
theorem dX7_findWritten_74 : decode cX7_findWritten 74 = .ok (.iaload, 1) := dk_46 (dk_at dksX7_findWritten_3 4 rfl rfl)
theorem dX7_findWritten_75 : decode cX7_findWritten 75 = .ok (.ifCond .ne 7, 3) := dk_154 0 7 (dk_at dksX7_findWritten_3 5 rfl rfl)
theorem dX7_findWritten_78 : decode cX7_findWritten 78 = .ok (.iconst 1, 1) := dk_4 (dk_at dksX7_findWritten_3 8 rfl rfl)
theorem dX7_findWritten_79 : decode cX7_findWritten 79 = .ok (.goto 4, 3) := dk_167 0 4 (dk_at dksX7_findWritten_3 9 rfl rfl)
theorem dX7_findWritten_82 : decode cX7_findWritten 82 = .ok (.iconst 0, 1) := dk_3 (dk_at dksX7_findWritten_3 12 rfl rfl)
theorem dX7_findWritten_83 : decode cX7_findWritten 83 = .ok (.bipush 10, 2) := dk_16 10 (dk_at dksX7_findWritten_3 13 rfl rfl)
theorem dX7_findWritten_85 : decode cX7_findWritten 85 = .ok (.aload_n 0, 1) := dk_42 (dk_at dksX7_findWritten_3 15 rfl rfl)
theorem dX7_findWritten_86 : decode cX7_findWritten 86 = .ok (.getfield 118, 3) := dk_180 0 118 (dk_at dksX7_findWritten_3 16 rfl rfl)
theorem dX7_findWritten_89 : decode cX7_findWritten 89 = .ok (.iload 5, 2) := dk_21 5 (dk_at dksX7_findWritten_3 19 rfl rfl)
theorem dX7_findWritten_91 : decode cX7_findWritten 91 = .ok (.iaload, 1) := dk_46 (dk_at dksX7_findWritten_3 21 rfl rfl)
theorem dX7_findWritten_92 : decode cX7_findWritten 92 = .ok (.aload_n 0, 1) := dk_42 (dk_at dksX7_findWritten_3 22 rfl rfl)
theorem dX7_findWritten_93 : decode cX7_findWritten 93 = .ok (.getfield 118, 3) := dk_180 0 118 (dk_at dksX7_findWritten_4 0 rfl rfl)
theorem dX7_findWritten_96 : decode cX7_findWritten 96 = .ok (.iload 4, 2) := dk_21 4 (dk_at dksX7_findWritten_4 3 rfl rfl)
theorem dX7_findWritten_98 : decode cX7_findWritten 98 = .ok (.iaload, 1) := dk_46 (dk_at dksX7_findWritten_4 5 rfl rfl)
theorem dX7_findWritten_99 : decode cX7_findWritten 99 = .ok (.isub, 1) := dk_100 (dk_at dksX7_findWritten_4 6 rfl rfl)
theorem dX7_findWritten_100 : decode cX7_findWritten 100 = .ok (.imul, 1) := dk_104 (dk_at dksX7_findWritten_4 7 rfl rfl)
theorem dX7_findWritten_101 : decode cX7_findWritten 101 = .ok (.iload_n 2, 1) := dk_28 (dk_at dksX7_findWritten_4 8 rfl rfl)
theorem dX7_findWritten_102 : decode cX7_findWritten 102 = .ok (.aload_n 0, 1) := dk_42 (dk_at dksX7_findWritten_4 9 rfl rfl)
theorem dX7_findWritten_103 : decode cX7_findWritten 103 = .ok (.getfield 121, 3) := dk_180 0 121 (dk_at dksX7_findWritten_4 10 rfl rfl)
theorem dX7_findWritten_106 : decode cX7_findWritten 106 = .ok (.iload 5, 2) := dk_21 5 (dk_at dksX7_findWritten_4 13 rfl rfl)
theorem dX7_findWritten_108 : decode cX7_findWritten 108 = .ok (.iaload, 1) := dk_46 (dk_at dksX7_findWritten_4 15 rfl rfl)
theorem dX7_findWritten_109 : decode cX7_findWritten 109 = .ok (.aload_n 0, 1) := dk_42 (dk_at dksX7_findWritten_4 16 rfl rfl)
theorem dX7_findWritten_110 : decode cX7_findWritten 110 = .ok (.getfield 121, 3) := dk_180 0 121 (dk_at dksX7_findWritten_4 17 rfl rfl)
theorem dX7_findWritten_113 : decode cX7_findWritten 113 = .ok (.iload 4, 2) := dk_21 4 (dk_at dksX7_findWritten_4 20 rfl rfl)
theorem dX7_findWritten_115 : decode cX7_findWritten 115 = .ok (.iaload, 1) := dk_46 (dk_at dksX7_findWritten_4 22 rfl rfl)
theorem dX7_findWritten_116 : decode cX7_findWritten 116 = .ok (.isub, 1) := dk_100 (dk_at dksX7_findWritten_4 23 rfl rfl)
theorem dX7_findWritten_117 : decode cX7_findWritten 117 = .ok (.imul, 1) := dk_104 (dk_at dksX7_findWritten_5 0 rfl rfl)
theorem dX7_findWritten_118 : decode cX7_findWritten 118 = .ok (.iadd, 1) := dk_96 (dk_at dksX7_findWritten_5 1 rfl rfl)
theorem dX7_findWritten_119 : decode cX7_findWritten 119 = .ok (.i2l, 1) := dk_133 (dk_at dksX7_findWritten_5 2 rfl rfl)
theorem dX7_findWritten_120 : decode cX7_findWritten 120 = .ok (.invokevirtual 307, 3) := dk_182 1 51 (dk_at dksX7_findWritten_5 3 rfl rfl)
theorem dX7_findWritten_123 : decode cX7_findWritten 123 = .ok (.iinc 3 1, 3) := dk_132 3 1 (dk_at dksX7_findWritten_5 6 rfl rfl)
theorem dX7_findWritten_126 : decode cX7_findWritten 126 = .ok (.goto (-120), 3) := dk_167 255 136 (dk_at dksX7_findWritten_5 9 rfl rfl)
theorem dX7_findWritten_129 : decode cX7_findWritten 129 = .ok (.aload_n 0, 1) := dk_42 (dk_at dksX7_findWritten_5 12 rfl rfl)
theorem dX7_findWritten_130 : decode cX7_findWritten 130 = .ok (.getfield 175, 3) := dk_180 0 175 (dk_at dksX7_findWritten_5 13 rfl rfl)
theorem dX7_findWritten_133 : decode cX7_findWritten 133 = .ok (.iload_n 1, 1) := dk_27 (dk_at dksX7_findWritten_5 16 rfl rfl)
theorem dX7_findWritten_134 : decode cX7_findWritten 134 = .ok (.iaload, 1) := dk_46 (dk_at dksX7_findWritten_5 17 rfl rfl)
theorem dX7_findWritten_135 : decode cX7_findWritten 135 = .ok (.aload_n 0, 1) := dk_42 (dk_at dksX7_findWritten_5 18 rfl rfl)
theorem dX7_findWritten_136 : decode cX7_findWritten 136 = .ok (.getfield 178, 3) := dk_180 0 178 (dk_at dksX7_findWritten_5 19 rfl rfl)
theorem dX7_findWritten_139 : decode cX7_findWritten 139 = .ok (.iload_n 1, 1) := dk_27 (dk_at dksX7_findWritten_5 22 rfl rfl)
theorem dX7_findWritten_140 : decode cX7_findWritten 140 = .ok (.iaload, 1) := dk_46 (dk_at dksX7_findWritten_5 23 rfl rfl)
theorem dX7_findWritten_141 : decode cX7_findWritten 141 = .ok (.if_icmp .eq 14, 3) := dk_159 0 14 (dk_at dksX7_findWritten_6 0 rfl rfl)
theorem dX7_findWritten_144 : decode cX7_findWritten 144 = .ok (.aload_n 0, 1) := dk_42 (dk_at dksX7_findWritten_6 3 rfl rfl)
theorem dX7_findWritten_145 : decode cX7_findWritten 145 = .ok (.invokevirtual 311, 3) := dk_182 1 55 (dk_at dksX7_findWritten_6 4 rfl rfl)
theorem dX7_findWritten_148 : decode cX7_findWritten 148 = .ok (.ifCond .eq 7, 3) := dk_153 0 7 (dk_at dksX7_findWritten_6 7 rfl rfl)
theorem dX7_findWritten_151 : decode cX7_findWritten 151 = .ok (.iconst 1, 1) := dk_4 (dk_at dksX7_findWritten_6 10 rfl rfl)
theorem dX7_findWritten_152 : decode cX7_findWritten 152 = .ok (.goto 4, 3) := dk_167 0 4 (dk_at dksX7_findWritten_6 11 rfl rfl)
theorem dX7_findWritten_155 : decode cX7_findWritten 155 = .ok (.iconst 0, 1) := dk_3 (dk_at dksX7_findWritten_6 14 rfl rfl)
theorem dX7_findWritten_156 : decode cX7_findWritten 156 = .ok (.ireturn, 1) := dk_172 (dk_at dksX7_findWritten_6 15 rfl rfl)
def dkwX7_forks_12 : List UInt8 := [167, 0, 19, 42, 27, 5, 112, 4, 160, 0, 7, 3, 167, 0, 4, 4, 182, 1, 65, 173]
abbrev dktX7_forks_12 : List UInt8 := dkwX7_forks_12 ++ []
def dkwX7_forks_11 : List UInt8 := [154, 0, 7, 32, 167, 0, 39, 27, 4, 160, 0, 8, 22, 4, 167, 0, 29, 27, 5, 160, 0, 8, 22, 6]
abbrev dktX7_forks_11 : List UInt8 := dkwX7_forks_11 ++ dktX7_forks_12
def dkwX7_forks_10 : List UInt8 := [22, 12, 181, 1, 25, 42, 27, 8, 162, 0, 8, 22, 10, 167, 0, 5, 22, 14, 181, 1, 29, 27]
abbrev dktX7_forks_10 : List UInt8 := dkwX7_forks_10 ++ dktX7_forks_11
def dkwX7_forks_9 : List UInt8 := [181, 0, 1, 42, 180, 0, 1, 158, 0, 5, 9, 173, 42, 27, 8, 162, 0, 8, 22, 8, 167, 0, 5]
abbrev dktX7_forks_9 : List UInt8 := dkwX7_forks_9 ++ dktX7_forks_10
def dkwX7_forks_8 : List UInt8 := [42, 180, 0, 1, 157, 0, 14, 27, 5, 164, 0, 13, 32, 9, 148, 154, 0, 7, 4, 167, 0, 4, 3]
abbrev dktX7_forks_8 : List UInt8 := dkwX7_forks_8 ++ dktX7_forks_9
def dkwX7_forks_7 : List UInt8 := [42, 180, 1, 25, 9, 148, 158, 0, 7, 10, 167, 0, 4, 9, 97, 55, 6, 132, 16, 1, 167, 255, 115, 42]
abbrev dktX7_forks_7 : List UInt8 := dkwX7_forks_7 ++ dktX7_forks_8
def dkwX7_forks_6 : List UInt8 := [10, 97, 65, 22, 4, 42, 180, 1, 25, 9, 148, 156, 0, 7, 10, 167, 0, 4, 9, 97, 55, 4, 22, 6]
abbrev dktX7_forks_6 : List UInt8 := dkwX7_forks_6 ++ dktX7_forks_7
def dkwX7_forks_5 : List UInt8 := [22, 12, 42, 180, 1, 29, 105, 148, 158, 0, 15, 42, 180, 1, 25, 55, 12, 42, 180, 1, 29, 55, 14, 32]
abbrev dktX7_forks_5 : List UInt8 := dkwX7_forks_5 ++ dktX7_forks_6
def dkwX7_forks_4 : List UInt8 := [180, 1, 25, 55, 8, 42, 180, 1, 29, 55, 10, 32, 9, 148, 153, 0, 21, 42, 180, 1, 25, 22, 14, 105]
abbrev dktX7_forks_4 : List UInt8 := dkwX7_forks_4 ++ dktX7_forks_5
def dkwX7_forks_3 : List UInt8 := [153, 0, 21, 42, 180, 1, 25, 22, 10, 105, 22, 8, 42, 180, 1, 29, 105, 148, 156, 0, 15, 42]
abbrev dktX7_forks_3 : List UInt8 := dkwX7_forks_3 ++ dktX7_forks_4
def dkwX7_forks_2 : List UInt8 := [162, 0, 140, 42, 21, 16, 16, 11, 108, 21, 16, 16, 11, 112, 182, 1, 196, 153, 0, 117, 32, 9, 148]
abbrev dktX7_forks_2 : List UInt8 := dkwX7_forks_2 ++ dktX7_forks_3
def dkwX7_forks_1 : List UInt8 := [9, 55, 6, 9, 55, 8, 10, 55, 10, 9, 55, 12, 10, 55, 14, 3, 54, 16, 21, 16, 16, 44]
abbrev dktX7_forks_1 : List UInt8 := dkwX7_forks_1 ++ dktX7_forks_2
def dkwX7_forks_0 : List UInt8 := [42, 27, 3, 16, 6, 184, 0, 253, 153, 0, 7, 3, 167, 0, 4, 4, 181, 0, 1, 9, 65, 9, 55, 4]
abbrev dktX7_forks_0 : List UInt8 := dkwX7_forks_0 ++ dktX7_forks_1
theorem dksX7_forks_0 : cX7_forks.data.toList.drop 0 = dktX7_forks_0 := by decide +kernel
theorem dksX7_forks_1 : cX7_forks.data.toList.drop 24 = dktX7_forks_1 := dk_seg dksX7_forks_0 24 rfl rfl
theorem dksX7_forks_2 : cX7_forks.data.toList.drop 46 = dktX7_forks_2 := dk_seg dksX7_forks_1 22 rfl rfl
theorem dksX7_forks_3 : cX7_forks.data.toList.drop 69 = dktX7_forks_3 := dk_seg dksX7_forks_2 23 rfl rfl
theorem dksX7_forks_4 : cX7_forks.data.toList.drop 91 = dktX7_forks_4 := dk_seg dksX7_forks_3 22 rfl rfl
theorem dksX7_forks_5 : cX7_forks.data.toList.drop 115 = dktX7_forks_5 := dk_seg dksX7_forks_4 24 rfl rfl
theorem dksX7_forks_6 : cX7_forks.data.toList.drop 139 = dktX7_forks_6 := dk_seg dksX7_forks_5 24 rfl rfl
theorem dksX7_forks_7 : cX7_forks.data.toList.drop 163 = dktX7_forks_7 := dk_seg dksX7_forks_6 24 rfl rfl
theorem dksX7_forks_8 : cX7_forks.data.toList.drop 187 = dktX7_forks_8 := dk_seg dksX7_forks_7 24 rfl rfl
theorem dksX7_forks_9 : cX7_forks.data.toList.drop 210 = dktX7_forks_9 := dk_seg dksX7_forks_8 23 rfl rfl
theorem dksX7_forks_10 : cX7_forks.data.toList.drop 233 = dktX7_forks_10 := dk_seg dksX7_forks_9 23 rfl rfl
theorem dksX7_forks_11 : cX7_forks.data.toList.drop 255 = dktX7_forks_11 := dk_seg dksX7_forks_10 22 rfl rfl
theorem dksX7_forks_12 : cX7_forks.data.toList.drop 279 = dktX7_forks_12 := dk_seg dksX7_forks_11 24 rfl rfl
theorem dX7_forks_0 : decode cX7_forks 0 = .ok (.aload_n 0, 1) := dk_42 (dk_at dksX7_forks_0 0 rfl rfl)
theorem dX7_forks_1 : decode cX7_forks 1 = .ok (.iload_n 1, 1) := dk_27 (dk_at dksX7_forks_0 1 rfl rfl)
theorem dX7_forks_2 : decode cX7_forks 2 = .ok (.iconst 0, 1) := dk_3 (dk_at dksX7_forks_0 2 rfl rfl)
theorem dX7_forks_3 : decode cX7_forks 3 = .ok (.bipush 6, 2) := dk_16 6 (dk_at dksX7_forks_0 3 rfl rfl)
theorem dX7_forks_5 : decode cX7_forks 5 = .ok (.invokestatic 253, 3) := dk_184 0 253 (dk_at dksX7_forks_0 5 rfl rfl)
theorem dX7_forks_8 : decode cX7_forks 8 = .ok (.ifCond .eq 7, 3) := dk_153 0 7 (dk_at dksX7_forks_0 8 rfl rfl)
theorem dX7_forks_11 : decode cX7_forks 11 = .ok (.iconst 0, 1) := dk_3 (dk_at dksX7_forks_0 11 rfl rfl)
theorem dX7_forks_12 : decode cX7_forks 12 = .ok (.goto 4, 3) := dk_167 0 4 (dk_at dksX7_forks_0 12 rfl rfl)
theorem dX7_forks_15 : decode cX7_forks 15 = .ok (.iconst 1, 1) := dk_4 (dk_at dksX7_forks_0 15 rfl rfl)
theorem dX7_forks_16 : decode cX7_forks 16 = .ok (.putfield 1, 3) := dk_181 0 1 (dk_at dksX7_forks_0 16 rfl rfl)
theorem dX7_forks_19 : decode cX7_forks 19 = .ok (.lconst 0, 1) := dk_9 (dk_at dksX7_forks_0 19 rfl rfl)
theorem dX7_forks_20 : decode cX7_forks 20 = .ok (.lstore_n 2, 1) := dk_65 (dk_at dksX7_forks_0 20 rfl rfl)
theorem dX7_forks_21 : decode cX7_forks 21 = .ok (.lconst 0, 1) := dk_9 (dk_at dksX7_forks_0 21 rfl rfl)
theorem dX7_forks_22 : decode cX7_forks 22 = .ok (.lstore 4, 2) := dk_55 4 (dk_at dksX7_forks_0 22 rfl rfl)
theorem dX7_forks_24 : decode cX7_forks 24 = .ok (.lconst 0, 1) := dk_9 (dk_at dksX7_forks_1 0 rfl rfl)
theorem dX7_forks_25 : decode cX7_forks 25 = .ok (.lstore 6, 2) := dk_55 6 (dk_at dksX7_forks_1 1 rfl rfl)
theorem dX7_forks_27 : decode cX7_forks 27 = .ok (.lconst 0, 1) := dk_9 (dk_at dksX7_forks_1 3 rfl rfl)
theorem dX7_forks_28 : decode cX7_forks 28 = .ok (.lstore 8, 2) := dk_55 8 (dk_at dksX7_forks_1 4 rfl rfl)
theorem dX7_forks_30 : decode cX7_forks 30 = .ok (.lconst 1, 1) := dk_10 (dk_at dksX7_forks_1 6 rfl rfl)
theorem dX7_forks_31 : decode cX7_forks 31 = .ok (.lstore 10, 2) := dk_55 10 (dk_at dksX7_forks_1 7 rfl rfl)
theorem dX7_forks_33 : decode cX7_forks 33 = .ok (.lconst 0, 1) := dk_9 (dk_at dksX7_forks_1 9 rfl rfl)
theorem dX7_forks_34 : decode cX7_forks 34 = .ok (.lstore 12, 2) := dk_55 12 (dk_at dksX7_forks_1 10 rfl rfl)
theorem dX7_forks_36 : decode cX7_forks 36 = .ok (.lconst 1, 1) := dk_10 (dk_at dksX7_forks_1 12 rfl rfl)
theorem dX7_forks_37 : decode cX7_forks 37 = .ok (.lstore 14, 2) := dk_55 14 (dk_at dksX7_forks_1 13 rfl rfl)
theorem dX7_forks_39 : decode cX7_forks 39 = .ok (.iconst 0, 1) := dk_3 (dk_at dksX7_forks_1 15 rfl rfl)
theorem dX7_forks_40 : decode cX7_forks 40 = .ok (.istore 16, 2) := dk_54 16 (dk_at dksX7_forks_1 16 rfl rfl)
theorem dX7_forks_42 : decode cX7_forks 42 = .ok (.iload 16, 2) := dk_21 16 (dk_at dksX7_forks_1 18 rfl rfl)
theorem dX7_forks_44 : decode cX7_forks 44 = .ok (.bipush 44, 2) := dk_16 44 (dk_at dksX7_forks_1 20 rfl rfl)
theorem dX7_forks_46 : decode cX7_forks 46 = .ok (.if_icmp .ge 140, 3) := dk_162 0 140 (dk_at dksX7_forks_2 0 rfl rfl)
theorem dX7_forks_49 : decode cX7_forks 49 = .ok (.aload_n 0, 1) := dk_42 (dk_at dksX7_forks_2 3 rfl rfl)
theorem dX7_forks_50 : decode cX7_forks 50 = .ok (.iload 16, 2) := dk_21 16 (dk_at dksX7_forks_2 4 rfl rfl)
theorem dX7_forks_52 : decode cX7_forks 52 = .ok (.bipush 11, 2) := dk_16 11 (dk_at dksX7_forks_2 6 rfl rfl)
theorem dX7_forks_54 : decode cX7_forks 54 = .ok (.idiv, 1) := dk_108 (dk_at dksX7_forks_2 8 rfl rfl)
theorem dX7_forks_55 : decode cX7_forks 55 = .ok (.iload 16, 2) := dk_21 16 (dk_at dksX7_forks_2 9 rfl rfl)
theorem dX7_forks_57 : decode cX7_forks 57 = .ok (.bipush 11, 2) := dk_16 11 (dk_at dksX7_forks_2 11 rfl rfl)
theorem dX7_forks_59 : decode cX7_forks 59 = .ok (.irem, 1) := dk_112 (dk_at dksX7_forks_2 13 rfl rfl)
theorem dX7_forks_60 : decode cX7_forks 60 = .ok (.invokevirtual 452, 3) := dk_182 1 196 (dk_at dksX7_forks_2 14 rfl rfl)
theorem dX7_forks_63 : decode cX7_forks 63 = .ok (.ifCond .eq 117, 3) := dk_153 0 117 (dk_at dksX7_forks_2 17 rfl rfl)
theorem dX7_forks_66 : decode cX7_forks 66 = .ok (.lload_n 2, 1) := dk_32 (dk_at dksX7_forks_2 20 rfl rfl)
theorem dX7_forks_67 : decode cX7_forks 67 = .ok (.lconst 0, 1) := dk_9 (dk_at dksX7_forks_2 21 rfl rfl)
theorem dX7_forks_68 : decode cX7_forks 68 = .ok (.lcmp, 1) := dk_148 (dk_at dksX7_forks_2 22 rfl rfl)
theorem dX7_forks_69 : decode cX7_forks 69 = .ok (.ifCond .eq 21, 3) := dk_153 0 21 (dk_at dksX7_forks_3 0 rfl rfl)
theorem dX7_forks_72 : decode cX7_forks 72 = .ok (.aload_n 0, 1) := dk_42 (dk_at dksX7_forks_3 3 rfl rfl)
theorem dX7_forks_73 : decode cX7_forks 73 = .ok (.getfield 281, 3) := dk_180 1 25 (dk_at dksX7_forks_3 4 rfl rfl)
theorem dX7_forks_76 : decode cX7_forks 76 = .ok (.lload 10, 2) := dk_22 10 (dk_at dksX7_forks_3 7 rfl rfl)
theorem dX7_forks_78 : decode cX7_forks 78 = .ok (.lmul, 1) := dk_105 (dk_at dksX7_forks_3 9 rfl rfl)
theorem dX7_forks_79 : decode cX7_forks 79 = .ok (.lload 8, 2) := dk_22 8 (dk_at dksX7_forks_3 10 rfl rfl)
theorem dX7_forks_81 : decode cX7_forks 81 = .ok (.aload_n 0, 1) := dk_42 (dk_at dksX7_forks_3 12 rfl rfl)
theorem dX7_forks_82 : decode cX7_forks 82 = .ok (.getfield 285, 3) := dk_180 1 29 (dk_at dksX7_forks_3 13 rfl rfl)
theorem dX7_forks_85 : decode cX7_forks 85 = .ok (.lmul, 1) := dk_105 (dk_at dksX7_forks_3 16 rfl rfl)
theorem dX7_forks_86 : decode cX7_forks 86 = .ok (.lcmp, 1) := dk_148 (dk_at dksX7_forks_3 17 rfl rfl)
theorem dX7_forks_87 : decode cX7_forks 87 = .ok (.ifCond .ge 15, 3) := dk_156 0 15 (dk_at dksX7_forks_3 18 rfl rfl)
theorem dX7_forks_90 : decode cX7_forks 90 = .ok (.aload_n 0, 1) := dk_42 (dk_at dksX7_forks_3 21 rfl rfl)
theorem dX7_forks_91 : decode cX7_forks 91 = .ok (.getfield 281, 3) := dk_180 1 25 (dk_at dksX7_forks_4 0 rfl rfl)
theorem dX7_forks_94 : decode cX7_forks 94 = .ok (.lstore 8, 2) := dk_55 8 (dk_at dksX7_forks_4 3 rfl rfl)
theorem dX7_forks_96 : decode cX7_forks 96 = .ok (.aload_n 0, 1) := dk_42 (dk_at dksX7_forks_4 5 rfl rfl)
theorem dX7_forks_97 : decode cX7_forks 97 = .ok (.getfield 285, 3) := dk_180 1 29 (dk_at dksX7_forks_4 6 rfl rfl)
theorem dX7_forks_100 : decode cX7_forks 100 = .ok (.lstore 10, 2) := dk_55 10 (dk_at dksX7_forks_4 9 rfl rfl)
theorem dX7_forks_102 : decode cX7_forks 102 = .ok (.lload_n 2, 1) := dk_32 (dk_at dksX7_forks_4 11 rfl rfl)
theorem dX7_forks_103 : decode cX7_forks 103 = .ok (.lconst 0, 1) := dk_9 (dk_at dksX7_forks_4 12 rfl rfl)
theorem dX7_forks_104 : decode cX7_forks 104 = .ok (.lcmp, 1) := dk_148 (dk_at dksX7_forks_4 13 rfl rfl)
theorem dX7_forks_105 : decode cX7_forks 105 = .ok (.ifCond .eq 21, 3) := dk_153 0 21 (dk_at dksX7_forks_4 14 rfl rfl)
theorem dX7_forks_108 : decode cX7_forks 108 = .ok (.aload_n 0, 1) := dk_42 (dk_at dksX7_forks_4 17 rfl rfl)
theorem dX7_forks_109 : decode cX7_forks 109 = .ok (.getfield 281, 3) := dk_180 1 25 (dk_at dksX7_forks_4 18 rfl rfl)
theorem dX7_forks_112 : decode cX7_forks 112 = .ok (.lload 14, 2) := dk_22 14 (dk_at dksX7_forks_4 21 rfl rfl)
theorem dX7_forks_114 : decode cX7_forks 114 = .ok (.lmul, 1) := dk_105 (dk_at dksX7_forks_4 23 rfl rfl)
theorem dX7_forks_115 : decode cX7_forks 115 = .ok (.lload 12, 2) := dk_22 12 (dk_at dksX7_forks_5 0 rfl rfl)
theorem dX7_forks_117 : decode cX7_forks 117 = .ok (.aload_n 0, 1) := dk_42 (dk_at dksX7_forks_5 2 rfl rfl)
theorem dX7_forks_118 : decode cX7_forks 118 = .ok (.getfield 285, 3) := dk_180 1 29 (dk_at dksX7_forks_5 3 rfl rfl)
theorem dX7_forks_121 : decode cX7_forks 121 = .ok (.lmul, 1) := dk_105 (dk_at dksX7_forks_5 6 rfl rfl)
theorem dX7_forks_122 : decode cX7_forks 122 = .ok (.lcmp, 1) := dk_148 (dk_at dksX7_forks_5 7 rfl rfl)
theorem dX7_forks_123 : decode cX7_forks 123 = .ok (.ifCond .le 15, 3) := dk_158 0 15 (dk_at dksX7_forks_5 8 rfl rfl)
theorem dX7_forks_126 : decode cX7_forks 126 = .ok (.aload_n 0, 1) := dk_42 (dk_at dksX7_forks_5 11 rfl rfl)
theorem dX7_forks_127 : decode cX7_forks 127 = .ok (.getfield 281, 3) := dk_180 1 25 (dk_at dksX7_forks_5 12 rfl rfl)
theorem dX7_forks_130 : decode cX7_forks 130 = .ok (.lstore 12, 2) := dk_55 12 (dk_at dksX7_forks_5 15 rfl rfl)
theorem dX7_forks_132 : decode cX7_forks 132 = .ok (.aload_n 0, 1) := dk_42 (dk_at dksX7_forks_5 17 rfl rfl)
theorem dX7_forks_133 : decode cX7_forks 133 = .ok (.getfield 285, 3) := dk_180 1 29 (dk_at dksX7_forks_5 18 rfl rfl)
theorem dX7_forks_136 : decode cX7_forks 136 = .ok (.lstore 14, 2) := dk_55 14 (dk_at dksX7_forks_5 21 rfl rfl)
theorem dX7_forks_138 : decode cX7_forks 138 = .ok (.lload_n 2, 1) := dk_32 (dk_at dksX7_forks_5 23 rfl rfl)
theorem dX7_forks_139 : decode cX7_forks 139 = .ok (.lconst 1, 1) := dk_10 (dk_at dksX7_forks_6 0 rfl rfl)
theorem dX7_forks_140 : decode cX7_forks 140 = .ok (.ladd, 1) := dk_97 (dk_at dksX7_forks_6 1 rfl rfl)
theorem dX7_forks_141 : decode cX7_forks 141 = .ok (.lstore_n 2, 1) := dk_65 (dk_at dksX7_forks_6 2 rfl rfl)
theorem dX7_forks_142 : decode cX7_forks 142 = .ok (.lload 4, 2) := dk_22 4 (dk_at dksX7_forks_6 3 rfl rfl)
theorem dX7_forks_144 : decode cX7_forks 144 = .ok (.aload_n 0, 1) := dk_42 (dk_at dksX7_forks_6 5 rfl rfl)
theorem dX7_forks_145 : decode cX7_forks 145 = .ok (.getfield 281, 3) := dk_180 1 25 (dk_at dksX7_forks_6 6 rfl rfl)
theorem dX7_forks_148 : decode cX7_forks 148 = .ok (.lconst 0, 1) := dk_9 (dk_at dksX7_forks_6 9 rfl rfl)
theorem dX7_forks_149 : decode cX7_forks 149 = .ok (.lcmp, 1) := dk_148 (dk_at dksX7_forks_6 10 rfl rfl)
theorem dX7_forks_150 : decode cX7_forks 150 = .ok (.ifCond .ge 7, 3) := dk_156 0 7 (dk_at dksX7_forks_6 11 rfl rfl)
theorem dX7_forks_153 : decode cX7_forks 153 = .ok (.lconst 1, 1) := dk_10 (dk_at dksX7_forks_6 14 rfl rfl)
theorem dX7_forks_154 : decode cX7_forks 154 = .ok (.goto 4, 3) := dk_167 0 4 (dk_at dksX7_forks_6 15 rfl rfl)
theorem dX7_forks_157 : decode cX7_forks 157 = .ok (.lconst 0, 1) := dk_9 (dk_at dksX7_forks_6 18 rfl rfl)
theorem dX7_forks_158 : decode cX7_forks 158 = .ok (.ladd, 1) := dk_97 (dk_at dksX7_forks_6 19 rfl rfl)
theorem dX7_forks_159 : decode cX7_forks 159 = .ok (.lstore 4, 2) := dk_55 4 (dk_at dksX7_forks_6 20 rfl rfl)
theorem dX7_forks_161 : decode cX7_forks 161 = .ok (.lload 6, 2) := dk_22 6 (dk_at dksX7_forks_6 22 rfl rfl)
theorem dX7_forks_163 : decode cX7_forks 163 = .ok (.aload_n 0, 1) := dk_42 (dk_at dksX7_forks_7 0 rfl rfl)
theorem dX7_forks_164 : decode cX7_forks 164 = .ok (.getfield 281, 3) := dk_180 1 25 (dk_at dksX7_forks_7 1 rfl rfl)
theorem dX7_forks_167 : decode cX7_forks 167 = .ok (.lconst 0, 1) := dk_9 (dk_at dksX7_forks_7 4 rfl rfl)
theorem dX7_forks_168 : decode cX7_forks 168 = .ok (.lcmp, 1) := dk_148 (dk_at dksX7_forks_7 5 rfl rfl)
theorem dX7_forks_169 : decode cX7_forks 169 = .ok (.ifCond .le 7, 3) := dk_158 0 7 (dk_at dksX7_forks_7 6 rfl rfl)
theorem dX7_forks_172 : decode cX7_forks 172 = .ok (.lconst 1, 1) := dk_10 (dk_at dksX7_forks_7 9 rfl rfl)
theorem dX7_forks_173 : decode cX7_forks 173 = .ok (.goto 4, 3) := dk_167 0 4 (dk_at dksX7_forks_7 10 rfl rfl)
theorem dX7_forks_176 : decode cX7_forks 176 = .ok (.lconst 0, 1) := dk_9 (dk_at dksX7_forks_7 13 rfl rfl)
theorem dX7_forks_177 : decode cX7_forks 177 = .ok (.ladd, 1) := dk_97 (dk_at dksX7_forks_7 14 rfl rfl)
theorem dX7_forks_178 : decode cX7_forks 178 = .ok (.lstore 6, 2) := dk_55 6 (dk_at dksX7_forks_7 15 rfl rfl)
theorem dX7_forks_180 : decode cX7_forks 180 = .ok (.iinc 16 1, 3) := dk_132 16 1 (dk_at dksX7_forks_7 17 rfl rfl)
theorem dX7_forks_183 : decode cX7_forks 183 = .ok (.goto (-141), 3) := dk_167 255 115 (dk_at dksX7_forks_7 20 rfl rfl)
theorem dX7_forks_186 : decode cX7_forks 186 = .ok (.aload_n 0, 1) := dk_42 (dk_at dksX7_forks_7 23 rfl rfl)
theorem dX7_forks_187 : decode cX7_forks 187 = .ok (.aload_n 0, 1) := dk_42 (dk_at dksX7_forks_8 0 rfl rfl)
theorem dX7_forks_188 : decode cX7_forks 188 = .ok (.getfield 1, 3) := dk_180 0 1 (dk_at dksX7_forks_8 1 rfl rfl)
theorem dX7_forks_191 : decode cX7_forks 191 = .ok (.ifCond .gt 14, 3) := dk_157 0 14 (dk_at dksX7_forks_8 4 rfl rfl)
theorem dX7_forks_194 : decode cX7_forks 194 = .ok (.iload_n 1, 1) := dk_27 (dk_at dksX7_forks_8 7 rfl rfl)
theorem dX7_forks_195 : decode cX7_forks 195 = .ok (.iconst 2, 1) := dk_5 (dk_at dksX7_forks_8 8 rfl rfl)
theorem dX7_forks_196 : decode cX7_forks 196 = .ok (.if_icmp .le 13, 3) := dk_164 0 13 (dk_at dksX7_forks_8 9 rfl rfl)
theorem dX7_forks_199 : decode cX7_forks 199 = .ok (.lload_n 2, 1) := dk_32 (dk_at dksX7_forks_8 12 rfl rfl)
theorem dX7_forks_200 : decode cX7_forks 200 = .ok (.lconst 0, 1) := dk_9 (dk_at dksX7_forks_8 13 rfl rfl)
theorem dX7_forks_201 : decode cX7_forks 201 = .ok (.lcmp, 1) := dk_148 (dk_at dksX7_forks_8 14 rfl rfl)
theorem dX7_forks_202 : decode cX7_forks 202 = .ok (.ifCond .ne 7, 3) := dk_154 0 7 (dk_at dksX7_forks_8 15 rfl rfl)
theorem dX7_forks_205 : decode cX7_forks 205 = .ok (.iconst 1, 1) := dk_4 (dk_at dksX7_forks_8 18 rfl rfl)
theorem dX7_forks_206 : decode cX7_forks 206 = .ok (.goto 4, 3) := dk_167 0 4 (dk_at dksX7_forks_8 19 rfl rfl)
theorem dX7_forks_209 : decode cX7_forks 209 = .ok (.iconst 0, 1) := dk_3 (dk_at dksX7_forks_8 22 rfl rfl)
theorem dX7_forks_210 : decode cX7_forks 210 = .ok (.putfield 1, 3) := dk_181 0 1 (dk_at dksX7_forks_9 0 rfl rfl)
theorem dX7_forks_213 : decode cX7_forks 213 = .ok (.aload_n 0, 1) := dk_42 (dk_at dksX7_forks_9 3 rfl rfl)
theorem dX7_forks_214 : decode cX7_forks 214 = .ok (.getfield 1, 3) := dk_180 0 1 (dk_at dksX7_forks_9 4 rfl rfl)
theorem dX7_forks_217 : decode cX7_forks 217 = .ok (.ifCond .le 5, 3) := dk_158 0 5 (dk_at dksX7_forks_9 7 rfl rfl)
theorem dX7_forks_220 : decode cX7_forks 220 = .ok (.lconst 0, 1) := dk_9 (dk_at dksX7_forks_9 10 rfl rfl)
theorem dX7_forks_221 : decode cX7_forks 221 = .ok (.lreturn, 1) := dk_173 (dk_at dksX7_forks_9 11 rfl rfl)
theorem dX7_forks_222 : decode cX7_forks 222 = .ok (.aload_n 0, 1) := dk_42 (dk_at dksX7_forks_9 12 rfl rfl)
theorem dX7_forks_223 : decode cX7_forks 223 = .ok (.iload_n 1, 1) := dk_27 (dk_at dksX7_forks_9 13 rfl rfl)
theorem dX7_forks_224 : decode cX7_forks 224 = .ok (.iconst 5, 1) := dk_8 (dk_at dksX7_forks_9 14 rfl rfl)
theorem dX7_forks_225 : decode cX7_forks 225 = .ok (.if_icmp .ge 8, 3) := dk_162 0 8 (dk_at dksX7_forks_9 15 rfl rfl)
theorem dX7_forks_228 : decode cX7_forks 228 = .ok (.lload 8, 2) := dk_22 8 (dk_at dksX7_forks_9 18 rfl rfl)
theorem dX7_forks_230 : decode cX7_forks 230 = .ok (.goto 5, 3) := dk_167 0 5 (dk_at dksX7_forks_9 20 rfl rfl)
theorem dX7_forks_233 : decode cX7_forks 233 = .ok (.lload 12, 2) := dk_22 12 (dk_at dksX7_forks_10 0 rfl rfl)
theorem dX7_forks_235 : decode cX7_forks 235 = .ok (.putfield 281, 3) := dk_181 1 25 (dk_at dksX7_forks_10 2 rfl rfl)
theorem dX7_forks_238 : decode cX7_forks 238 = .ok (.aload_n 0, 1) := dk_42 (dk_at dksX7_forks_10 5 rfl rfl)
theorem dX7_forks_239 : decode cX7_forks 239 = .ok (.iload_n 1, 1) := dk_27 (dk_at dksX7_forks_10 6 rfl rfl)
theorem dX7_forks_240 : decode cX7_forks 240 = .ok (.iconst 5, 1) := dk_8 (dk_at dksX7_forks_10 7 rfl rfl)
theorem dX7_forks_241 : decode cX7_forks 241 = .ok (.if_icmp .ge 8, 3) := dk_162 0 8 (dk_at dksX7_forks_10 8 rfl rfl)
theorem dX7_forks_244 : decode cX7_forks 244 = .ok (.lload 10, 2) := dk_22 10 (dk_at dksX7_forks_10 11 rfl rfl)
theorem dX7_forks_246 : decode cX7_forks 246 = .ok (.goto 5, 3) := dk_167 0 5 (dk_at dksX7_forks_10 13 rfl rfl)
theorem dX7_forks_249 : decode cX7_forks 249 = .ok (.lload 14, 2) := dk_22 14 (dk_at dksX7_forks_10 16 rfl rfl)
theorem dX7_forks_251 : decode cX7_forks 251 = .ok (.putfield 285, 3) := dk_181 1 29 (dk_at dksX7_forks_10 18 rfl rfl)
theorem dX7_forks_254 : decode cX7_forks 254 = .ok (.iload_n 1, 1) := dk_27 (dk_at dksX7_forks_10 21 rfl rfl)
theorem dX7_forks_255 : decode cX7_forks 255 = .ok (.ifCond .ne 7, 3) := dk_154 0 7 (dk_at dksX7_forks_11 0 rfl rfl)
theorem dX7_forks_258 : decode cX7_forks 258 = .ok (.lload_n 2, 1) := dk_32 (dk_at dksX7_forks_11 3 rfl rfl)
theorem dX7_forks_259 : decode cX7_forks 259 = .ok (.goto 39, 3) := dk_167 0 39 (dk_at dksX7_forks_11 4 rfl rfl)
theorem dX7_forks_262 : decode cX7_forks 262 = .ok (.iload_n 1, 1) := dk_27 (dk_at dksX7_forks_11 7 rfl rfl)
theorem dX7_forks_263 : decode cX7_forks 263 = .ok (.iconst 1, 1) := dk_4 (dk_at dksX7_forks_11 8 rfl rfl)
theorem dX7_forks_264 : decode cX7_forks 264 = .ok (.if_icmp .ne 8, 3) := dk_160 0 8 (dk_at dksX7_forks_11 9 rfl rfl)
theorem dX7_forks_267 : decode cX7_forks 267 = .ok (.lload 4, 2) := dk_22 4 (dk_at dksX7_forks_11 12 rfl rfl)
theorem dX7_forks_269 : decode cX7_forks 269 = .ok (.goto 29, 3) := dk_167 0 29 (dk_at dksX7_forks_11 14 rfl rfl)
theorem dX7_forks_272 : decode cX7_forks 272 = .ok (.iload_n 1, 1) := dk_27 (dk_at dksX7_forks_11 17 rfl rfl)
theorem dX7_forks_273 : decode cX7_forks 273 = .ok (.iconst 2, 1) := dk_5 (dk_at dksX7_forks_11 18 rfl rfl)
theorem dX7_forks_274 : decode cX7_forks 274 = .ok (.if_icmp .ne 8, 3) := dk_160 0 8 (dk_at dksX7_forks_11 19 rfl rfl)
theorem dX7_forks_277 : decode cX7_forks 277 = .ok (.lload 6, 2) := dk_22 6 (dk_at dksX7_forks_11 22 rfl rfl)
theorem dX7_forks_279 : decode cX7_forks 279 = .ok (.goto 19, 3) := dk_167 0 19 (dk_at dksX7_forks_12 0 rfl rfl)
theorem dX7_forks_282 : decode cX7_forks 282 = .ok (.aload_n 0, 1) := dk_42 (dk_at dksX7_forks_12 3 rfl rfl)
theorem dX7_forks_283 : decode cX7_forks 283 = .ok (.iload_n 1, 1) := dk_27 (dk_at dksX7_forks_12 4 rfl rfl)
theorem dX7_forks_284 : decode cX7_forks 284 = .ok (.iconst 2, 1) := dk_5 (dk_at dksX7_forks_12 5 rfl rfl)
theorem dX7_forks_285 : decode cX7_forks 285 = .ok (.irem, 1) := dk_112 (dk_at dksX7_forks_12 6 rfl rfl)
theorem dX7_forks_286 : decode cX7_forks 286 = .ok (.iconst 1, 1) := dk_4 (dk_at dksX7_forks_12 7 rfl rfl)
theorem dX7_forks_287 : decode cX7_forks 287 = .ok (.if_icmp .ne 7, 3) := dk_160 0 7 (dk_at dksX7_forks_12 8 rfl rfl)
theorem dX7_forks_290 : decode cX7_forks 290 = .ok (.iconst 0, 1) := dk_3 (dk_at dksX7_forks_12 11 rfl rfl)
theorem dX7_forks_291 : decode cX7_forks 291 = .ok (.goto 4, 3) := dk_167 0 4 (dk_at dksX7_forks_12 12 rfl rfl)
theorem dX7_forks_294 : decode cX7_forks 294 = .ok (.iconst 1, 1) := dk_4 (dk_at dksX7_forks_12 15 rfl rfl)
theorem dX7_forks_295 : decode cX7_forks 295 = .ok (.invokevirtual 321, 3) := dk_182 1 65 (dk_at dksX7_forks_12 16 rfl rfl)
theorem dX7_forks_298 : decode cX7_forks 298 = .ok (.lreturn, 1) := dk_173 (dk_at dksX7_forks_12 19 rfl rfl)
def dkwX7_book_3 : List UInt8 := [4, 172]
abbrev dktX7_book_3 : List UInt8 := dkwX7_book_3 ++ []
def dkwX7_book_2 : List UInt8 := [180, 0, 187, 16, 12, 27, 104, 28, 96, 29, 79, 42, 180, 0, 190, 16, 12, 27, 104, 28, 96, 21, 4, 79]
abbrev dktX7_book_2 : List UInt8 := dkwX7_book_2 ++ dktX7_book_3
def dkwX7_book_1 : List UInt8 := [17, 3, 231, 184, 0, 253, 153, 0, 15, 21, 4, 3, 19, 1, 199, 184, 0, 253, 154, 0, 5, 3, 172, 42]
abbrev dktX7_book_1 : List UInt8 := dkwX7_book_1 ++ dktX7_book_2
def dkwX7_book_0 : List UInt8 := [42, 3, 181, 0, 1, 42, 27, 182, 1, 1, 153, 0, 33, 28, 184, 1, 4, 153, 0, 26, 29, 3]
abbrev dktX7_book_0 : List UInt8 := dkwX7_book_0 ++ dktX7_book_1
theorem dksX7_book_0 : cX7_book.data.toList.drop 0 = dktX7_book_0 := by decide +kernel
theorem dksX7_book_1 : cX7_book.data.toList.drop 22 = dktX7_book_1 := dk_seg dksX7_book_0 22 rfl rfl
theorem dksX7_book_2 : cX7_book.data.toList.drop 46 = dktX7_book_2 := dk_seg dksX7_book_1 24 rfl rfl
theorem dksX7_book_3 : cX7_book.data.toList.drop 70 = dktX7_book_3 := dk_seg dksX7_book_2 24 rfl rfl
theorem dX7_book_0 : decode cX7_book 0 = .ok (.aload_n 0, 1) := dk_42 (dk_at dksX7_book_0 0 rfl rfl)
theorem dX7_book_1 : decode cX7_book 1 = .ok (.iconst 0, 1) := dk_3 (dk_at dksX7_book_0 1 rfl rfl)
theorem dX7_book_2 : decode cX7_book 2 = .ok (.putfield 1, 3) := dk_181 0 1 (dk_at dksX7_book_0 2 rfl rfl)
theorem dX7_book_5 : decode cX7_book 5 = .ok (.aload_n 0, 1) := dk_42 (dk_at dksX7_book_0 5 rfl rfl)
theorem dX7_book_6 : decode cX7_book 6 = .ok (.iload_n 1, 1) := dk_27 (dk_at dksX7_book_0 6 rfl rfl)
theorem dX7_book_7 : decode cX7_book 7 = .ok (.invokevirtual 257, 3) := dk_182 1 1 (dk_at dksX7_book_0 7 rfl rfl)
theorem dX7_book_10 : decode cX7_book 10 = .ok (.ifCond .eq 33, 3) := dk_153 0 33 (dk_at dksX7_book_0 10 rfl rfl)
theorem dX7_book_13 : decode cX7_book 13 = .ok (.iload_n 2, 1) := dk_28 (dk_at dksX7_book_0 13 rfl rfl)
theorem dX7_book_14 : decode cX7_book 14 = .ok (.invokestatic 260, 3) := dk_184 1 4 (dk_at dksX7_book_0 14 rfl rfl)
theorem dX7_book_17 : decode cX7_book 17 = .ok (.ifCond .eq 26, 3) := dk_153 0 26 (dk_at dksX7_book_0 17 rfl rfl)
theorem dX7_book_20 : decode cX7_book 20 = .ok (.iload_n 3, 1) := dk_29 (dk_at dksX7_book_0 20 rfl rfl)
theorem dX7_book_21 : decode cX7_book 21 = .ok (.iconst 0, 1) := dk_3 (dk_at dksX7_book_0 21 rfl rfl)
theorem dX7_book_22 : decode cX7_book 22 = .ok (.sipush 999, 3) := dk_17 3 231 (dk_at dksX7_book_1 0 rfl rfl)
theorem dX7_book_25 : decode cX7_book 25 = .ok (.invokestatic 253, 3) := dk_184 0 253 (dk_at dksX7_book_1 3 rfl rfl)
theorem dX7_book_28 : decode cX7_book 28 = .ok (.ifCond .eq 15, 3) := dk_153 0 15 (dk_at dksX7_book_1 6 rfl rfl)
theorem dX7_book_31 : decode cX7_book 31 = .ok (.iload 4, 2) := dk_21 4 (dk_at dksX7_book_1 9 rfl rfl)
theorem dX7_book_33 : decode cX7_book 33 = .ok (.iconst 0, 1) := dk_3 (dk_at dksX7_book_1 11 rfl rfl)
theorem dX7_book_34 : decode cX7_book 34 = .ok (.ldc_w 455, 3) := dk_19 1 199 (dk_at dksX7_book_1 12 rfl rfl)
theorem dX7_book_37 : decode cX7_book 37 = .ok (.invokestatic 253, 3) := dk_184 0 253 (dk_at dksX7_book_1 15 rfl rfl)
theorem dX7_book_40 : decode cX7_book 40 = .ok (.ifCond .ne 5, 3) := dk_154 0 5 (dk_at dksX7_book_1 18 rfl rfl)
theorem dX7_book_43 : decode cX7_book 43 = .ok (.iconst 0, 1) := dk_3 (dk_at dksX7_book_1 21 rfl rfl)
theorem dX7_book_44 : decode cX7_book 44 = .ok (.ireturn, 1) := dk_172 (dk_at dksX7_book_1 22 rfl rfl)
theorem dX7_book_45 : decode cX7_book 45 = .ok (.aload_n 0, 1) := dk_42 (dk_at dksX7_book_1 23 rfl rfl)
theorem dX7_book_46 : decode cX7_book 46 = .ok (.getfield 187, 3) := dk_180 0 187 (dk_at dksX7_book_2 0 rfl rfl)
theorem dX7_book_49 : decode cX7_book 49 = .ok (.bipush 12, 2) := dk_16 12 (dk_at dksX7_book_2 3 rfl rfl)
theorem dX7_book_51 : decode cX7_book 51 = .ok (.iload_n 1, 1) := dk_27 (dk_at dksX7_book_2 5 rfl rfl)
theorem dX7_book_52 : decode cX7_book 52 = .ok (.imul, 1) := dk_104 (dk_at dksX7_book_2 6 rfl rfl)
theorem dX7_book_53 : decode cX7_book 53 = .ok (.iload_n 2, 1) := dk_28 (dk_at dksX7_book_2 7 rfl rfl)
theorem dX7_book_54 : decode cX7_book 54 = .ok (.iadd, 1) := dk_96 (dk_at dksX7_book_2 8 rfl rfl)
theorem dX7_book_55 : decode cX7_book 55 = .ok (.iload_n 3, 1) := dk_29 (dk_at dksX7_book_2 9 rfl rfl)
theorem dX7_book_56 : decode cX7_book 56 = .ok (.iastore, 1) := dk_79 (dk_at dksX7_book_2 10 rfl rfl)
theorem dX7_book_57 : decode cX7_book 57 = .ok (.aload_n 0, 1) := dk_42 (dk_at dksX7_book_2 11 rfl rfl)
theorem dX7_book_58 : decode cX7_book 58 = .ok (.getfield 190, 3) := dk_180 0 190 (dk_at dksX7_book_2 12 rfl rfl)
theorem dX7_book_61 : decode cX7_book 61 = .ok (.bipush 12, 2) := dk_16 12 (dk_at dksX7_book_2 15 rfl rfl)
theorem dX7_book_63 : decode cX7_book 63 = .ok (.iload_n 1, 1) := dk_27 (dk_at dksX7_book_2 17 rfl rfl)
theorem dX7_book_64 : decode cX7_book 64 = .ok (.imul, 1) := dk_104 (dk_at dksX7_book_2 18 rfl rfl)
theorem dX7_book_65 : decode cX7_book 65 = .ok (.iload_n 2, 1) := dk_28 (dk_at dksX7_book_2 19 rfl rfl)
theorem dX7_book_66 : decode cX7_book 66 = .ok (.iadd, 1) := dk_96 (dk_at dksX7_book_2 20 rfl rfl)
theorem dX7_book_67 : decode cX7_book 67 = .ok (.iload 4, 2) := dk_21 4 (dk_at dksX7_book_2 21 rfl rfl)
theorem dX7_book_69 : decode cX7_book 69 = .ok (.iastore, 1) := dk_79 (dk_at dksX7_book_2 23 rfl rfl)
theorem dX7_book_70 : decode cX7_book 70 = .ok (.iconst 1, 1) := dk_4 (dk_at dksX7_book_3 0 rfl rfl)
theorem dX7_book_71 : decode cX7_book 71 = .ok (.ireturn, 1) := dk_172 (dk_at dksX7_book_3 1 rfl rfl)
def dkwX7_booked_4 : List UInt8 := [167, 0, 9, 42, 27, 28, 182, 1, 206, 173]
abbrev dktX7_booked_4 : List UInt8 := dkwX7_booked_4 ++ []
def dkwX7_booked_3 : List UInt8 := [29, 154, 0, 12, 42, 27, 28, 182, 1, 200, 167, 0, 23, 29, 4, 160, 0, 12, 42, 27, 28, 182, 1, 203]
abbrev dktX7_booked_3 : List UInt8 := dkwX7_booked_3 ++ dktX7_booked_4
def dkwX7_booked_2 : List UInt8 := [104, 28, 96, 46, 153, 0, 7, 3, 167, 0, 4, 4, 181, 0, 1, 42, 180, 0, 1, 158, 0, 5, 9, 173]
abbrev dktX7_booked_2 : List UInt8 := dkwX7_booked_2 ++ dktX7_booked_3
def dkwX7_booked_1 : List UInt8 := [4, 167, 0, 4, 3, 54, 4, 42, 21, 4, 153, 0, 25, 29, 153, 0, 17, 42, 180, 0, 115, 16, 12, 27]
abbrev dktX7_booked_1 : List UInt8 := dkwX7_booked_1 ++ dktX7_booked_2
def dkwX7_booked_0 : List UInt8 := [42, 27, 182, 1, 1, 153, 0, 23, 28, 184, 1, 4, 153, 0, 16, 29, 3, 5, 184, 0, 253, 153, 0, 7]
abbrev dktX7_booked_0 : List UInt8 := dkwX7_booked_0 ++ dktX7_booked_1
theorem dksX7_booked_0 : cX7_booked.data.toList.drop 0 = dktX7_booked_0 := by decide +kernel
theorem dksX7_booked_1 : cX7_booked.data.toList.drop 24 = dktX7_booked_1 := dk_seg dksX7_booked_0 24 rfl rfl
theorem dksX7_booked_2 : cX7_booked.data.toList.drop 48 = dktX7_booked_2 := dk_seg dksX7_booked_1 24 rfl rfl
theorem dksX7_booked_3 : cX7_booked.data.toList.drop 72 = dktX7_booked_3 := dk_seg dksX7_booked_2 24 rfl rfl
theorem dksX7_booked_4 : cX7_booked.data.toList.drop 96 = dktX7_booked_4 := dk_seg dksX7_booked_3 24 rfl rfl
theorem dX7_booked_0 : decode cX7_booked 0 = .ok (.aload_n 0, 1) := dk_42 (dk_at dksX7_booked_0 0 rfl rfl)
theorem dX7_booked_1 : decode cX7_booked 1 = .ok (.iload_n 1, 1) := dk_27 (dk_at dksX7_booked_0 1 rfl rfl)
theorem dX7_booked_2 : decode cX7_booked 2 = .ok (.invokevirtual 257, 3) := dk_182 1 1 (dk_at dksX7_booked_0 2 rfl rfl)
theorem dX7_booked_5 : decode cX7_booked 5 = .ok (.ifCond .eq 23, 3) := dk_153 0 23 (dk_at dksX7_booked_0 5 rfl rfl)
theorem dX7_booked_8 : decode cX7_booked 8 = .ok (.iload_n 2, 1) := dk_28 (dk_at dksX7_booked_0 8 rfl rfl)
theorem dX7_booked_9 : decode cX7_booked 9 = .ok (.invokestatic 260, 3) := dk_184 1 4 (dk_at dksX7_booked_0 9 rfl rfl)
theorem dX7_booked_12 : decode cX7_booked 12 = .ok (.ifCond .eq 16, 3) := dk_153 0 16 (dk_at dksX7_booked_0 12 rfl rfl)
theorem dX7_booked_15 : decode cX7_booked 15 = .ok (.iload_n 3, 1) := dk_29 (dk_at dksX7_booked_0 15 rfl rfl)
theorem dX7_booked_16 : decode cX7_booked 16 = .ok (.iconst 0, 1) := dk_3 (dk_at dksX7_booked_0 16 rfl rfl)
theorem dX7_booked_17 : decode cX7_booked 17 = .ok (.iconst 2, 1) := dk_5 (dk_at dksX7_booked_0 17 rfl rfl)
theorem dX7_booked_18 : decode cX7_booked 18 = .ok (.invokestatic 253, 3) := dk_184 0 253 (dk_at dksX7_booked_0 18 rfl rfl)
theorem dX7_booked_21 : decode cX7_booked 21 = .ok (.ifCond .eq 7, 3) := dk_153 0 7 (dk_at dksX7_booked_0 21 rfl rfl)
theorem dX7_booked_24 : decode cX7_booked 24 = .ok (.iconst 1, 1) := dk_4 (dk_at dksX7_booked_1 0 rfl rfl)
theorem dX7_booked_25 : decode cX7_booked 25 = .ok (.goto 4, 3) := dk_167 0 4 (dk_at dksX7_booked_1 1 rfl rfl)
theorem dX7_booked_28 : decode cX7_booked 28 = .ok (.iconst 0, 1) := dk_3 (dk_at dksX7_booked_1 4 rfl rfl)
theorem dX7_booked_29 : decode cX7_booked 29 = .ok (.istore 4, 2) := dk_54 4 (dk_at dksX7_booked_1 5 rfl rfl)
theorem dX7_booked_31 : decode cX7_booked 31 = .ok (.aload_n 0, 1) := dk_42 (dk_at dksX7_booked_1 7 rfl rfl)
theorem dX7_booked_32 : decode cX7_booked 32 = .ok (.iload 4, 2) := dk_21 4 (dk_at dksX7_booked_1 8 rfl rfl)
theorem dX7_booked_34 : decode cX7_booked 34 = .ok (.ifCond .eq 25, 3) := dk_153 0 25 (dk_at dksX7_booked_1 10 rfl rfl)
theorem dX7_booked_37 : decode cX7_booked 37 = .ok (.iload_n 3, 1) := dk_29 (dk_at dksX7_booked_1 13 rfl rfl)
theorem dX7_booked_38 : decode cX7_booked 38 = .ok (.ifCond .eq 17, 3) := dk_153 0 17 (dk_at dksX7_booked_1 14 rfl rfl)
theorem dX7_booked_41 : decode cX7_booked 41 = .ok (.aload_n 0, 1) := dk_42 (dk_at dksX7_booked_1 17 rfl rfl)
theorem dX7_booked_42 : decode cX7_booked 42 = .ok (.getfield 115, 3) := dk_180 0 115 (dk_at dksX7_booked_1 18 rfl rfl)
theorem dX7_booked_45 : decode cX7_booked 45 = .ok (.bipush 12, 2) := dk_16 12 (dk_at dksX7_booked_1 21 rfl rfl)
theorem dX7_booked_47 : decode cX7_booked 47 = .ok (.iload_n 1, 1) := dk_27 (dk_at dksX7_booked_1 23 rfl rfl)
theorem dX7_booked_48 : decode cX7_booked 48 = .ok (.imul, 1) := dk_104 (dk_at dksX7_booked_2 0 rfl rfl)
theorem dX7_booked_49 : decode cX7_booked 49 = .ok (.iload_n 2, 1) := dk_28 (dk_at dksX7_booked_2 1 rfl rfl)
theorem dX7_booked_50 : decode cX7_booked 50 = .ok (.iadd, 1) := dk_96 (dk_at dksX7_booked_2 2 rfl rfl)
theorem dX7_booked_51 : decode cX7_booked 51 = .ok (.iaload, 1) := dk_46 (dk_at dksX7_booked_2 3 rfl rfl)
theorem dX7_booked_52 : decode cX7_booked 52 = .ok (.ifCond .eq 7, 3) := dk_153 0 7 (dk_at dksX7_booked_2 4 rfl rfl)
theorem dX7_booked_55 : decode cX7_booked 55 = .ok (.iconst 0, 1) := dk_3 (dk_at dksX7_booked_2 7 rfl rfl)
theorem dX7_booked_56 : decode cX7_booked 56 = .ok (.goto 4, 3) := dk_167 0 4 (dk_at dksX7_booked_2 8 rfl rfl)
theorem dX7_booked_59 : decode cX7_booked 59 = .ok (.iconst 1, 1) := dk_4 (dk_at dksX7_booked_2 11 rfl rfl)
theorem dX7_booked_60 : decode cX7_booked 60 = .ok (.putfield 1, 3) := dk_181 0 1 (dk_at dksX7_booked_2 12 rfl rfl)
theorem dX7_booked_63 : decode cX7_booked 63 = .ok (.aload_n 0, 1) := dk_42 (dk_at dksX7_booked_2 15 rfl rfl)
theorem dX7_booked_64 : decode cX7_booked 64 = .ok (.getfield 1, 3) := dk_180 0 1 (dk_at dksX7_booked_2 16 rfl rfl)
theorem dX7_booked_67 : decode cX7_booked 67 = .ok (.ifCond .le 5, 3) := dk_158 0 5 (dk_at dksX7_booked_2 19 rfl rfl)
theorem dX7_booked_70 : decode cX7_booked 70 = .ok (.lconst 0, 1) := dk_9 (dk_at dksX7_booked_2 22 rfl rfl)
theorem dX7_booked_71 : decode cX7_booked 71 = .ok (.lreturn, 1) := dk_173 (dk_at dksX7_booked_2 23 rfl rfl)
theorem dX7_booked_72 : decode cX7_booked 72 = .ok (.iload_n 3, 1) := dk_29 (dk_at dksX7_booked_3 0 rfl rfl)
theorem dX7_booked_73 : decode cX7_booked 73 = .ok (.ifCond .ne 12, 3) := dk_154 0 12 (dk_at dksX7_booked_3 1 rfl rfl)
theorem dX7_booked_76 : decode cX7_booked 76 = .ok (.aload_n 0, 1) := dk_42 (dk_at dksX7_booked_3 4 rfl rfl)
theorem dX7_booked_77 : decode cX7_booked 77 = .ok (.iload_n 1, 1) := dk_27 (dk_at dksX7_booked_3 5 rfl rfl)
theorem dX7_booked_78 : decode cX7_booked 78 = .ok (.iload_n 2, 1) := dk_28 (dk_at dksX7_booked_3 6 rfl rfl)
theorem dX7_booked_79 : decode cX7_booked 79 = .ok (.invokevirtual 456, 3) := dk_182 1 200 (dk_at dksX7_booked_3 7 rfl rfl)
theorem dX7_booked_82 : decode cX7_booked 82 = .ok (.goto 23, 3) := dk_167 0 23 (dk_at dksX7_booked_3 10 rfl rfl)
theorem dX7_booked_85 : decode cX7_booked 85 = .ok (.iload_n 3, 1) := dk_29 (dk_at dksX7_booked_3 13 rfl rfl)
theorem dX7_booked_86 : decode cX7_booked 86 = .ok (.iconst 1, 1) := dk_4 (dk_at dksX7_booked_3 14 rfl rfl)
theorem dX7_booked_87 : decode cX7_booked 87 = .ok (.if_icmp .ne 12, 3) := dk_160 0 12 (dk_at dksX7_booked_3 15 rfl rfl)
theorem dX7_booked_90 : decode cX7_booked 90 = .ok (.aload_n 0, 1) := dk_42 (dk_at dksX7_booked_3 18 rfl rfl)
theorem dX7_booked_91 : decode cX7_booked 91 = .ok (.iload_n 1, 1) := dk_27 (dk_at dksX7_booked_3 19 rfl rfl)
theorem dX7_booked_92 : decode cX7_booked 92 = .ok (.iload_n 2, 1) := dk_28 (dk_at dksX7_booked_3 20 rfl rfl)
theorem dX7_booked_93 : decode cX7_booked 93 = .ok (.invokevirtual 459, 3) := dk_182 1 203 (dk_at dksX7_booked_3 21 rfl rfl)
theorem dX7_booked_96 : decode cX7_booked 96 = .ok (.goto 9, 3) := dk_167 0 9 (dk_at dksX7_booked_4 0 rfl rfl)
theorem dX7_booked_99 : decode cX7_booked 99 = .ok (.aload_n 0, 1) := dk_42 (dk_at dksX7_booked_4 3 rfl rfl)
theorem dX7_booked_100 : decode cX7_booked 100 = .ok (.iload_n 1, 1) := dk_27 (dk_at dksX7_booked_4 4 rfl rfl)
theorem dX7_booked_101 : decode cX7_booked 101 = .ok (.iload_n 2, 1) := dk_28 (dk_at dksX7_booked_4 5 rfl rfl)
theorem dX7_booked_102 : decode cX7_booked 102 = .ok (.invokevirtual 462, 3) := dk_182 1 206 (dk_at dksX7_booked_4 6 rfl rfl)
theorem dX7_booked_105 : decode cX7_booked 105 = .ok (.lreturn, 1) := dk_173 (dk_at dksX7_booked_4 9 rfl rfl)
def dkwX7_rateOf_1 : List UInt8 := [164, 0, 8, 29, 133, 167, 0, 10, 42, 180, 0, 100, 27, 46, 133, 173]
abbrev dktX7_rateOf_1 : List UInt8 := dkwX7_rateOf_1 ++ []
def dkwX7_rateOf_0 : List UInt8 := [42, 180, 0, 109, 16, 12, 42, 180, 0, 97, 27, 46, 104, 28, 96, 46, 62, 29, 42, 180, 0, 100, 27, 46]
abbrev dktX7_rateOf_0 : List UInt8 := dkwX7_rateOf_0 ++ dktX7_rateOf_1
theorem dksX7_rateOf_0 : cX7_rateOf.data.toList.drop 0 = dktX7_rateOf_0 := by decide +kernel
theorem dksX7_rateOf_1 : cX7_rateOf.data.toList.drop 24 = dktX7_rateOf_1 := dk_seg dksX7_rateOf_0 24 rfl rfl
theorem dX7_rateOf_0 : decode cX7_rateOf 0 = .ok (.aload_n 0, 1) := dk_42 (dk_at dksX7_rateOf_0 0 rfl rfl)
theorem dX7_rateOf_1 : decode cX7_rateOf 1 = .ok (.getfield 109, 3) := dk_180 0 109 (dk_at dksX7_rateOf_0 1 rfl rfl)
theorem dX7_rateOf_4 : decode cX7_rateOf 4 = .ok (.bipush 12, 2) := dk_16 12 (dk_at dksX7_rateOf_0 4 rfl rfl)
theorem dX7_rateOf_6 : decode cX7_rateOf 6 = .ok (.aload_n 0, 1) := dk_42 (dk_at dksX7_rateOf_0 6 rfl rfl)
theorem dX7_rateOf_7 : decode cX7_rateOf 7 = .ok (.getfield 97, 3) := dk_180 0 97 (dk_at dksX7_rateOf_0 7 rfl rfl)
theorem dX7_rateOf_10 : decode cX7_rateOf 10 = .ok (.iload_n 1, 1) := dk_27 (dk_at dksX7_rateOf_0 10 rfl rfl)
theorem dX7_rateOf_11 : decode cX7_rateOf 11 = .ok (.iaload, 1) := dk_46 (dk_at dksX7_rateOf_0 11 rfl rfl)
theorem dX7_rateOf_12 : decode cX7_rateOf 12 = .ok (.imul, 1) := dk_104 (dk_at dksX7_rateOf_0 12 rfl rfl)
theorem dX7_rateOf_13 : decode cX7_rateOf 13 = .ok (.iload_n 2, 1) := dk_28 (dk_at dksX7_rateOf_0 13 rfl rfl)
theorem dX7_rateOf_14 : decode cX7_rateOf 14 = .ok (.iadd, 1) := dk_96 (dk_at dksX7_rateOf_0 14 rfl rfl)
theorem dX7_rateOf_15 : decode cX7_rateOf 15 = .ok (.iaload, 1) := dk_46 (dk_at dksX7_rateOf_0 15 rfl rfl)
theorem dX7_rateOf_16 : decode cX7_rateOf 16 = .ok (.istore_n 3, 1) := dk_62 (dk_at dksX7_rateOf_0 16 rfl rfl)
theorem dX7_rateOf_17 : decode cX7_rateOf 17 = .ok (.iload_n 3, 1) := dk_29 (dk_at dksX7_rateOf_0 17 rfl rfl)
theorem dX7_rateOf_18 : decode cX7_rateOf 18 = .ok (.aload_n 0, 1) := dk_42 (dk_at dksX7_rateOf_0 18 rfl rfl)
theorem dX7_rateOf_19 : decode cX7_rateOf 19 = .ok (.getfield 100, 3) := dk_180 0 100 (dk_at dksX7_rateOf_0 19 rfl rfl)
theorem dX7_rateOf_22 : decode cX7_rateOf 22 = .ok (.iload_n 1, 1) := dk_27 (dk_at dksX7_rateOf_0 22 rfl rfl)
theorem dX7_rateOf_23 : decode cX7_rateOf 23 = .ok (.iaload, 1) := dk_46 (dk_at dksX7_rateOf_0 23 rfl rfl)
theorem dX7_rateOf_24 : decode cX7_rateOf 24 = .ok (.if_icmp .le 8, 3) := dk_164 0 8 (dk_at dksX7_rateOf_1 0 rfl rfl)
theorem dX7_rateOf_27 : decode cX7_rateOf 27 = .ok (.iload_n 3, 1) := dk_29 (dk_at dksX7_rateOf_1 3 rfl rfl)
theorem dX7_rateOf_28 : decode cX7_rateOf 28 = .ok (.i2l, 1) := dk_133 (dk_at dksX7_rateOf_1 4 rfl rfl)
theorem dX7_rateOf_29 : decode cX7_rateOf 29 = .ok (.goto 10, 3) := dk_167 0 10 (dk_at dksX7_rateOf_1 5 rfl rfl)
theorem dX7_rateOf_32 : decode cX7_rateOf 32 = .ok (.aload_n 0, 1) := dk_42 (dk_at dksX7_rateOf_1 8 rfl rfl)
theorem dX7_rateOf_33 : decode cX7_rateOf 33 = .ok (.getfield 100, 3) := dk_180 0 100 (dk_at dksX7_rateOf_1 9 rfl rfl)
theorem dX7_rateOf_36 : decode cX7_rateOf 36 = .ok (.iload_n 1, 1) := dk_27 (dk_at dksX7_rateOf_1 12 rfl rfl)
theorem dX7_rateOf_37 : decode cX7_rateOf 37 = .ok (.iaload, 1) := dk_46 (dk_at dksX7_rateOf_1 13 rfl rfl)
theorem dX7_rateOf_38 : decode cX7_rateOf 38 = .ok (.i2l, 1) := dk_133 (dk_at dksX7_rateOf_1 14 rfl rfl)
theorem dX7_rateOf_39 : decode cX7_rateOf 39 = .ok (.lreturn, 1) := dk_173 (dk_at dksX7_rateOf_1 15 rfl rfl)
def dkwX7_paidOf_1 : List UInt8 := [182, 1, 200, 105, 173]
abbrev dktX7_paidOf_1 : List UInt8 := dkwX7_paidOf_1 ++ []
def dkwX7_paidOf_0 : List UInt8 := [42, 27, 28, 182, 1, 11, 133, 42, 180, 0, 187, 16, 12, 27, 104, 28, 96, 46, 133, 105, 42, 27, 28]
abbrev dktX7_paidOf_0 : List UInt8 := dkwX7_paidOf_0 ++ dktX7_paidOf_1
theorem dksX7_paidOf_0 : cX7_paidOf.data.toList.drop 0 = dktX7_paidOf_0 := by decide +kernel
theorem dksX7_paidOf_1 : cX7_paidOf.data.toList.drop 23 = dktX7_paidOf_1 := dk_seg dksX7_paidOf_0 23 rfl rfl
theorem dX7_paidOf_0 : decode cX7_paidOf 0 = .ok (.aload_n 0, 1) := dk_42 (dk_at dksX7_paidOf_0 0 rfl rfl)
theorem dX7_paidOf_1 : decode cX7_paidOf 1 = .ok (.iload_n 1, 1) := dk_27 (dk_at dksX7_paidOf_0 1 rfl rfl)
theorem dX7_paidOf_2 : decode cX7_paidOf 2 = .ok (.iload_n 2, 1) := dk_28 (dk_at dksX7_paidOf_0 2 rfl rfl)
theorem dX7_paidOf_3 : decode cX7_paidOf 3 = .ok (.invokevirtual 267, 3) := dk_182 1 11 (dk_at dksX7_paidOf_0 3 rfl rfl)
theorem dX7_paidOf_6 : decode cX7_paidOf 6 = .ok (.i2l, 1) := dk_133 (dk_at dksX7_paidOf_0 6 rfl rfl)
theorem dX7_paidOf_7 : decode cX7_paidOf 7 = .ok (.aload_n 0, 1) := dk_42 (dk_at dksX7_paidOf_0 7 rfl rfl)
theorem dX7_paidOf_8 : decode cX7_paidOf 8 = .ok (.getfield 187, 3) := dk_180 0 187 (dk_at dksX7_paidOf_0 8 rfl rfl)
theorem dX7_paidOf_11 : decode cX7_paidOf 11 = .ok (.bipush 12, 2) := dk_16 12 (dk_at dksX7_paidOf_0 11 rfl rfl)
theorem dX7_paidOf_13 : decode cX7_paidOf 13 = .ok (.iload_n 1, 1) := dk_27 (dk_at dksX7_paidOf_0 13 rfl rfl)
theorem dX7_paidOf_14 : decode cX7_paidOf 14 = .ok (.imul, 1) := dk_104 (dk_at dksX7_paidOf_0 14 rfl rfl)
theorem dX7_paidOf_15 : decode cX7_paidOf 15 = .ok (.iload_n 2, 1) := dk_28 (dk_at dksX7_paidOf_0 15 rfl rfl)
theorem dX7_paidOf_16 : decode cX7_paidOf 16 = .ok (.iadd, 1) := dk_96 (dk_at dksX7_paidOf_0 16 rfl rfl)
theorem dX7_paidOf_17 : decode cX7_paidOf 17 = .ok (.iaload, 1) := dk_46 (dk_at dksX7_paidOf_0 17 rfl rfl)
theorem dX7_paidOf_18 : decode cX7_paidOf 18 = .ok (.i2l, 1) := dk_133 (dk_at dksX7_paidOf_0 18 rfl rfl)
theorem dX7_paidOf_19 : decode cX7_paidOf 19 = .ok (.lmul, 1) := dk_105 (dk_at dksX7_paidOf_0 19 rfl rfl)
theorem dX7_paidOf_20 : decode cX7_paidOf 20 = .ok (.aload_n 0, 1) := dk_42 (dk_at dksX7_paidOf_0 20 rfl rfl)
theorem dX7_paidOf_21 : decode cX7_paidOf 21 = .ok (.iload_n 1, 1) := dk_27 (dk_at dksX7_paidOf_0 21 rfl rfl)
theorem dX7_paidOf_22 : decode cX7_paidOf 22 = .ok (.iload_n 2, 1) := dk_28 (dk_at dksX7_paidOf_0 22 rfl rfl)
theorem dX7_paidOf_23 : decode cX7_paidOf 23 = .ok (.invokevirtual 456, 3) := dk_182 1 200 (dk_at dksX7_paidOf_1 0 rfl rfl)
theorem dX7_paidOf_26 : decode cX7_paidOf 26 = .ok (.lmul, 1) := dk_105 (dk_at dksX7_paidOf_1 3 rfl rfl)
theorem dX7_paidOf_27 : decode cX7_paidOf 27 = .ok (.lreturn, 1) := dk_173 (dk_at dksX7_paidOf_1 4 rfl rfl)
def dkwX7_restOf_0 : List UInt8 := [20, 0, 227, 42, 180, 0, 190, 16, 12, 27, 104, 28, 96, 46, 133, 105, 42, 27, 28, 182, 1, 203, 101, 173]
abbrev dktX7_restOf_0 : List UInt8 := dkwX7_restOf_0 ++ []
theorem dksX7_restOf_0 : cX7_restOf.data.toList.drop 0 = dktX7_restOf_0 := by decide +kernel
theorem dX7_restOf_0 : decode cX7_restOf 0 = .ok (.ldc2_w 227, 3) := dk_20 0 227 (dk_at dksX7_restOf_0 0 rfl rfl)
theorem dX7_restOf_3 : decode cX7_restOf 3 = .ok (.aload_n 0, 1) := dk_42 (dk_at dksX7_restOf_0 3 rfl rfl)
theorem dX7_restOf_4 : decode cX7_restOf 4 = .ok (.getfield 190, 3) := dk_180 0 190 (dk_at dksX7_restOf_0 4 rfl rfl)
theorem dX7_restOf_7 : decode cX7_restOf 7 = .ok (.bipush 12, 2) := dk_16 12 (dk_at dksX7_restOf_0 7 rfl rfl)
theorem dX7_restOf_9 : decode cX7_restOf 9 = .ok (.iload_n 1, 1) := dk_27 (dk_at dksX7_restOf_0 9 rfl rfl)
theorem dX7_restOf_10 : decode cX7_restOf 10 = .ok (.imul, 1) := dk_104 (dk_at dksX7_restOf_0 10 rfl rfl)
theorem dX7_restOf_11 : decode cX7_restOf 11 = .ok (.iload_n 2, 1) := dk_28 (dk_at dksX7_restOf_0 11 rfl rfl)
theorem dX7_restOf_12 : decode cX7_restOf 12 = .ok (.iadd, 1) := dk_96 (dk_at dksX7_restOf_0 12 rfl rfl)
theorem dX7_restOf_13 : decode cX7_restOf 13 = .ok (.iaload, 1) := dk_46 (dk_at dksX7_restOf_0 13 rfl rfl)
theorem dX7_restOf_14 : decode cX7_restOf 14 = .ok (.i2l, 1) := dk_133 (dk_at dksX7_restOf_0 14 rfl rfl)
theorem dX7_restOf_15 : decode cX7_restOf 15 = .ok (.lmul, 1) := dk_105 (dk_at dksX7_restOf_0 15 rfl rfl)
theorem dX7_restOf_16 : decode cX7_restOf 16 = .ok (.aload_n 0, 1) := dk_42 (dk_at dksX7_restOf_0 16 rfl rfl)
theorem dX7_restOf_17 : decode cX7_restOf 17 = .ok (.iload_n 1, 1) := dk_27 (dk_at dksX7_restOf_0 17 rfl rfl)
theorem dX7_restOf_18 : decode cX7_restOf 18 = .ok (.iload_n 2, 1) := dk_28 (dk_at dksX7_restOf_0 18 rfl rfl)
theorem dX7_restOf_19 : decode cX7_restOf 19 = .ok (.invokevirtual 459, 3) := dk_182 1 203 (dk_at dksX7_restOf_0 19 rfl rfl)
theorem dX7_restOf_22 : decode cX7_restOf 22 = .ok (.lsub, 1) := dk_101 (dk_at dksX7_restOf_0 22 rfl rfl)
theorem dX7_restOf_23 : decode cX7_restOf 23 = .ok (.lreturn, 1) := dk_173 (dk_at dksX7_restOf_0 23 rfl rfl)
def dkwX7_closes_4 : List UInt8 := [97, 55, 5, 132, 7, 1, 167, 255, 198, 22, 5, 173]
abbrev dktX7_closes_4 : List UInt8 := dkwX7_closes_4 ++ []
def dkwX7_closes_3 : List UInt8 := [180, 0, 97, 21, 7, 46, 27, 160, 0, 16, 42, 21, 7, 28, 29, 21, 4, 182, 1, 209, 167, 0, 4, 9]
abbrev dktX7_closes_3 : List UInt8 := dkwX7_closes_3 ++ dktX7_closes_4
def dkwX7_closes_2 : List UInt8 := [162, 0, 57, 42, 180, 0, 1, 154, 0, 50, 22, 5, 42, 21, 7, 28, 29, 182, 1, 18, 153, 0, 27, 42]
abbrev dktX7_closes_2 : List UInt8 := dkwX7_closes_2 ++ dktX7_closes_3
def dkwX7_closes_1 : List UInt8 := [184, 0, 253, 153, 0, 7, 3, 167, 0, 4, 4, 181, 0, 1, 9, 55, 5, 3, 54, 7, 21, 7, 16, 24]
abbrev dktX7_closes_1 : List UInt8 := dkwX7_closes_1 ++ dktX7_closes_2
def dkwX7_closes_0 : List UInt8 := [42, 27, 3, 4, 184, 0, 253, 153, 0, 25, 28, 29, 184, 1, 14, 153, 0, 17, 21, 4, 3, 8]
abbrev dktX7_closes_0 : List UInt8 := dkwX7_closes_0 ++ dktX7_closes_1
theorem dksX7_closes_0 : cX7_closes.data.toList.drop 0 = dktX7_closes_0 := by decide +kernel
theorem dksX7_closes_1 : cX7_closes.data.toList.drop 22 = dktX7_closes_1 := dk_seg dksX7_closes_0 22 rfl rfl
theorem dksX7_closes_2 : cX7_closes.data.toList.drop 46 = dktX7_closes_2 := dk_seg dksX7_closes_1 24 rfl rfl
theorem dksX7_closes_3 : cX7_closes.data.toList.drop 70 = dktX7_closes_3 := dk_seg dksX7_closes_2 24 rfl rfl
theorem dksX7_closes_4 : cX7_closes.data.toList.drop 94 = dktX7_closes_4 := dk_seg dksX7_closes_3 24 rfl rfl
theorem dX7_closes_0 : decode cX7_closes 0 = .ok (.aload_n 0, 1) := dk_42 (dk_at dksX7_closes_0 0 rfl rfl)
theorem dX7_closes_1 : decode cX7_closes 1 = .ok (.iload_n 1, 1) := dk_27 (dk_at dksX7_closes_0 1 rfl rfl)
theorem dX7_closes_2 : decode cX7_closes 2 = .ok (.iconst 0, 1) := dk_3 (dk_at dksX7_closes_0 2 rfl rfl)
theorem dX7_closes_3 : decode cX7_closes 3 = .ok (.iconst 1, 1) := dk_4 (dk_at dksX7_closes_0 3 rfl rfl)
theorem dX7_closes_4 : decode cX7_closes 4 = .ok (.invokestatic 253, 3) := dk_184 0 253 (dk_at dksX7_closes_0 4 rfl rfl)
theorem dX7_closes_7 : decode cX7_closes 7 = .ok (.ifCond .eq 25, 3) := dk_153 0 25 (dk_at dksX7_closes_0 7 rfl rfl)
theorem dX7_closes_10 : decode cX7_closes 10 = .ok (.iload_n 2, 1) := dk_28 (dk_at dksX7_closes_0 10 rfl rfl)
theorem dX7_closes_11 : decode cX7_closes 11 = .ok (.iload_n 3, 1) := dk_29 (dk_at dksX7_closes_0 11 rfl rfl)
theorem dX7_closes_12 : decode cX7_closes 12 = .ok (.invokestatic 270, 3) := dk_184 1 14 (dk_at dksX7_closes_0 12 rfl rfl)
theorem dX7_closes_15 : decode cX7_closes 15 = .ok (.ifCond .eq 17, 3) := dk_153 0 17 (dk_at dksX7_closes_0 15 rfl rfl)
theorem dX7_closes_18 : decode cX7_closes 18 = .ok (.iload 4, 2) := dk_21 4 (dk_at dksX7_closes_0 18 rfl rfl)
theorem dX7_closes_20 : decode cX7_closes 20 = .ok (.iconst 0, 1) := dk_3 (dk_at dksX7_closes_0 20 rfl rfl)
theorem dX7_closes_21 : decode cX7_closes 21 = .ok (.iconst 5, 1) := dk_8 (dk_at dksX7_closes_0 21 rfl rfl)
theorem dX7_closes_22 : decode cX7_closes 22 = .ok (.invokestatic 253, 3) := dk_184 0 253 (dk_at dksX7_closes_1 0 rfl rfl)
theorem dX7_closes_25 : decode cX7_closes 25 = .ok (.ifCond .eq 7, 3) := dk_153 0 7 (dk_at dksX7_closes_1 3 rfl rfl)
theorem dX7_closes_28 : decode cX7_closes 28 = .ok (.iconst 0, 1) := dk_3 (dk_at dksX7_closes_1 6 rfl rfl)
theorem dX7_closes_29 : decode cX7_closes 29 = .ok (.goto 4, 3) := dk_167 0 4 (dk_at dksX7_closes_1 7 rfl rfl)
theorem dX7_closes_32 : decode cX7_closes 32 = .ok (.iconst 1, 1) := dk_4 (dk_at dksX7_closes_1 10 rfl rfl)
theorem dX7_closes_33 : decode cX7_closes 33 = .ok (.putfield 1, 3) := dk_181 0 1 (dk_at dksX7_closes_1 11 rfl rfl)
theorem dX7_closes_36 : decode cX7_closes 36 = .ok (.lconst 0, 1) := dk_9 (dk_at dksX7_closes_1 14 rfl rfl)
theorem dX7_closes_37 : decode cX7_closes 37 = .ok (.lstore 5, 2) := dk_55 5 (dk_at dksX7_closes_1 15 rfl rfl)
theorem dX7_closes_39 : decode cX7_closes 39 = .ok (.iconst 0, 1) := dk_3 (dk_at dksX7_closes_1 17 rfl rfl)
theorem dX7_closes_40 : decode cX7_closes 40 = .ok (.istore 7, 2) := dk_54 7 (dk_at dksX7_closes_1 18 rfl rfl)
theorem dX7_closes_42 : decode cX7_closes 42 = .ok (.iload 7, 2) := dk_21 7 (dk_at dksX7_closes_1 20 rfl rfl)
theorem dX7_closes_44 : decode cX7_closes 44 = .ok (.bipush 24, 2) := dk_16 24 (dk_at dksX7_closes_1 22 rfl rfl)
theorem dX7_closes_46 : decode cX7_closes 46 = .ok (.if_icmp .ge 57, 3) := dk_162 0 57 (dk_at dksX7_closes_2 0 rfl rfl)
theorem dX7_closes_49 : decode cX7_closes 49 = .ok (.aload_n 0, 1) := dk_42 (dk_at dksX7_closes_2 3 rfl rfl)
theorem dX7_closes_50 : decode cX7_closes 50 = .ok (.getfield 1, 3) := dk_180 0 1 (dk_at dksX7_closes_2 4 rfl rfl)
theorem dX7_closes_53 : decode cX7_closes 53 = .ok (.ifCond .ne 50, 3) := dk_154 0 50 (dk_at dksX7_closes_2 7 rfl rfl)
theorem dX7_closes_56 : decode cX7_closes 56 = .ok (.lload 5, 2) := dk_22 5 (dk_at dksX7_closes_2 10 rfl rfl)
theorem dX7_closes_58 : decode cX7_closes 58 = .ok (.aload_n 0, 1) := dk_42 (dk_at dksX7_closes_2 12 rfl rfl)
theorem dX7_closes_59 : decode cX7_closes 59 = .ok (.iload 7, 2) := dk_21 7 (dk_at dksX7_closes_2 13 rfl rfl)
theorem dX7_closes_61 : decode cX7_closes 61 = .ok (.iload_n 2, 1) := dk_28 (dk_at dksX7_closes_2 15 rfl rfl)
theorem dX7_closes_62 : decode cX7_closes 62 = .ok (.iload_n 3, 1) := dk_29 (dk_at dksX7_closes_2 16 rfl rfl)
theorem dX7_closes_63 : decode cX7_closes 63 = .ok (.invokevirtual 274, 3) := dk_182 1 18 (dk_at dksX7_closes_2 17 rfl rfl)
theorem dX7_closes_66 : decode cX7_closes 66 = .ok (.ifCond .eq 27, 3) := dk_153 0 27 (dk_at dksX7_closes_2 20 rfl rfl)
theorem dX7_closes_69 : decode cX7_closes 69 = .ok (.aload_n 0, 1) := dk_42 (dk_at dksX7_closes_2 23 rfl rfl)
theorem dX7_closes_70 : decode cX7_closes 70 = .ok (.getfield 97, 3) := dk_180 0 97 (dk_at dksX7_closes_3 0 rfl rfl)
theorem dX7_closes_73 : decode cX7_closes 73 = .ok (.iload 7, 2) := dk_21 7 (dk_at dksX7_closes_3 3 rfl rfl)
theorem dX7_closes_75 : decode cX7_closes 75 = .ok (.iaload, 1) := dk_46 (dk_at dksX7_closes_3 5 rfl rfl)
theorem dX7_closes_76 : decode cX7_closes 76 = .ok (.iload_n 1, 1) := dk_27 (dk_at dksX7_closes_3 6 rfl rfl)
theorem dX7_closes_77 : decode cX7_closes 77 = .ok (.if_icmp .ne 16, 3) := dk_160 0 16 (dk_at dksX7_closes_3 7 rfl rfl)
theorem dX7_closes_80 : decode cX7_closes 80 = .ok (.aload_n 0, 1) := dk_42 (dk_at dksX7_closes_3 10 rfl rfl)
theorem dX7_closes_81 : decode cX7_closes 81 = .ok (.iload 7, 2) := dk_21 7 (dk_at dksX7_closes_3 11 rfl rfl)
theorem dX7_closes_83 : decode cX7_closes 83 = .ok (.iload_n 2, 1) := dk_28 (dk_at dksX7_closes_3 13 rfl rfl)
theorem dX7_closes_84 : decode cX7_closes 84 = .ok (.iload_n 3, 1) := dk_29 (dk_at dksX7_closes_3 14 rfl rfl)
theorem dX7_closes_85 : decode cX7_closes 85 = .ok (.iload 4, 2) := dk_21 4 (dk_at dksX7_closes_3 15 rfl rfl)
theorem dX7_closes_87 : decode cX7_closes 87 = .ok (.invokevirtual 465, 3) := dk_182 1 209 (dk_at dksX7_closes_3 17 rfl rfl)
theorem dX7_closes_90 : decode cX7_closes 90 = .ok (.goto 4, 3) := dk_167 0 4 (dk_at dksX7_closes_3 20 rfl rfl)
theorem dX7_closes_93 : decode cX7_closes 93 = .ok (.lconst 0, 1) := dk_9 (dk_at dksX7_closes_3 23 rfl rfl)
theorem dX7_closes_94 : decode cX7_closes 94 = .ok (.ladd, 1) := dk_97 (dk_at dksX7_closes_4 0 rfl rfl)
theorem dX7_closes_95 : decode cX7_closes 95 = .ok (.lstore 5, 2) := dk_55 5 (dk_at dksX7_closes_4 1 rfl rfl)
theorem dX7_closes_97 : decode cX7_closes 97 = .ok (.iinc 7 1, 3) := dk_132 7 1 (dk_at dksX7_closes_4 3 rfl rfl)
theorem dX7_closes_100 : decode cX7_closes 100 = .ok (.goto (-58), 3) := dk_167 255 198 (dk_at dksX7_closes_4 6 rfl rfl)
theorem dX7_closes_103 : decode cX7_closes 103 = .ok (.lload 5, 2) := dk_22 5 (dk_at dksX7_closes_4 9 rfl rfl)
theorem dX7_closes_105 : decode cX7_closes 105 = .ok (.lreturn, 1) := dk_173 (dk_at dksX7_closes_4 11 rfl rfl)
def dkwX7_closesBy_7 : List UInt8 := [173, 42, 27, 29, 182, 1, 206, 42, 27, 28, 182, 1, 206, 101, 173]
abbrev dktX7_closesBy_7 : List UInt8 := dkwX7_closesBy_7 ++ []
def dkwX7_closesBy_6 : List UInt8 := [180, 0, 190, 16, 12, 27, 104, 29, 96, 46, 42, 180, 0, 190, 16, 12, 27, 104, 28, 96, 46, 100, 133, 105]
abbrev dktX7_closesBy_6 : List UInt8 := dkwX7_closesBy_6 ++ dktX7_closesBy_7
def dkwX7_closesBy_5 : List UInt8 := [22, 11, 105, 42, 27, 29, 182, 1, 200, 42, 27, 28, 182, 1, 200, 101, 105, 173, 20, 0, 227, 42]
abbrev dktX7_closesBy_5 : List UInt8 := dkwX7_closesBy_5 ++ dktX7_closesBy_6
def dkwX7_closesBy_4 : List UInt8 := [28, 182, 1, 200, 105, 173, 22, 7, 22, 11, 22, 9, 101, 105, 42, 27, 28, 182, 1, 200, 105, 173, 22, 7]
abbrev dktX7_closesBy_4 : List UInt8 := dkwX7_closesBy_4 ++ dktX7_closesBy_5
def dkwX7_closesBy_3 : List UInt8 := [42, 27, 29, 182, 1, 203, 42, 27, 28, 182, 1, 203, 101, 173, 22, 7, 22, 5, 101, 22, 9, 105, 42, 27]
abbrev dktX7_closesBy_3 : List UInt8 := dkwX7_closesBy_3 ++ dktX7_closesBy_4
def dkwX7_closesBy_2 : List UInt8 := [170, 0, 0, 0, 0, 0, 0, 131, 0, 0, 0, 0, 0, 0, 0, 4, 0, 0, 0, 36, 0, 0, 0, 50, 0, 0, 0, 66, 0, 0, 0, 82, 0, 0, 0, 102]
abbrev dktX7_closesBy_2 : List UInt8 := dkwX7_closesBy_2 ++ dktX7_closesBy_3
def dkwX7_closesBy_1 : List UInt8 := [27, 104, 28, 96, 46, 133, 55, 9, 42, 180, 0, 187, 16, 12, 27, 104, 29, 96, 46, 133, 55, 11, 21, 4]
abbrev dktX7_closesBy_1 : List UInt8 := dkwX7_closesBy_1 ++ dktX7_closesBy_2
def dkwX7_closesBy_0 : List UInt8 := [42, 27, 28, 182, 1, 11, 133, 55, 5, 42, 27, 29, 182, 1, 11, 133, 55, 7, 42, 180, 0, 187, 16, 12]
abbrev dktX7_closesBy_0 : List UInt8 := dkwX7_closesBy_0 ++ dktX7_closesBy_1
theorem dksX7_closesBy_0 : cX7_closesBy.data.toList.drop 0 = dktX7_closesBy_0 := by decide +kernel
theorem dksX7_closesBy_1 : cX7_closesBy.data.toList.drop 24 = dktX7_closesBy_1 := dk_seg dksX7_closesBy_0 24 rfl rfl
theorem dksX7_closesBy_2 : cX7_closesBy.data.toList.drop 48 = dktX7_closesBy_2 := dk_seg dksX7_closesBy_1 24 rfl rfl
theorem dksX7_closesBy_3 : cX7_closesBy.data.toList.drop 84 = dktX7_closesBy_3 := dk_seg dksX7_closesBy_2 36 rfl rfl
theorem dksX7_closesBy_4 : cX7_closesBy.data.toList.drop 108 = dktX7_closesBy_4 := dk_seg dksX7_closesBy_3 24 rfl rfl
theorem dksX7_closesBy_5 : cX7_closesBy.data.toList.drop 132 = dktX7_closesBy_5 := dk_seg dksX7_closesBy_4 24 rfl rfl
theorem dksX7_closesBy_6 : cX7_closesBy.data.toList.drop 154 = dktX7_closesBy_6 := dk_seg dksX7_closesBy_5 22 rfl rfl
theorem dksX7_closesBy_7 : cX7_closesBy.data.toList.drop 178 = dktX7_closesBy_7 := dk_seg dksX7_closesBy_6 24 rfl rfl
theorem dX7_closesBy_0 : decode cX7_closesBy 0 = .ok (.aload_n 0, 1) := dk_42 (dk_at dksX7_closesBy_0 0 rfl rfl)
theorem dX7_closesBy_1 : decode cX7_closesBy 1 = .ok (.iload_n 1, 1) := dk_27 (dk_at dksX7_closesBy_0 1 rfl rfl)
theorem dX7_closesBy_2 : decode cX7_closesBy 2 = .ok (.iload_n 2, 1) := dk_28 (dk_at dksX7_closesBy_0 2 rfl rfl)
theorem dX7_closesBy_3 : decode cX7_closesBy 3 = .ok (.invokevirtual 267, 3) := dk_182 1 11 (dk_at dksX7_closesBy_0 3 rfl rfl)
theorem dX7_closesBy_6 : decode cX7_closesBy 6 = .ok (.i2l, 1) := dk_133 (dk_at dksX7_closesBy_0 6 rfl rfl)
theorem dX7_closesBy_7 : decode cX7_closesBy 7 = .ok (.lstore 5, 2) := dk_55 5 (dk_at dksX7_closesBy_0 7 rfl rfl)
theorem dX7_closesBy_9 : decode cX7_closesBy 9 = .ok (.aload_n 0, 1) := dk_42 (dk_at dksX7_closesBy_0 9 rfl rfl)
theorem dX7_closesBy_10 : decode cX7_closesBy 10 = .ok (.iload_n 1, 1) := dk_27 (dk_at dksX7_closesBy_0 10 rfl rfl)
theorem dX7_closesBy_11 : decode cX7_closesBy 11 = .ok (.iload_n 3, 1) := dk_29 (dk_at dksX7_closesBy_0 11 rfl rfl)
theorem dX7_closesBy_12 : decode cX7_closesBy 12 = .ok (.invokevirtual 267, 3) := dk_182 1 11 (dk_at dksX7_closesBy_0 12 rfl rfl)
theorem dX7_closesBy_15 : decode cX7_closesBy 15 = .ok (.i2l, 1) := dk_133 (dk_at dksX7_closesBy_0 15 rfl rfl)
theorem dX7_closesBy_16 : decode cX7_closesBy 16 = .ok (.lstore 7, 2) := dk_55 7 (dk_at dksX7_closesBy_0 16 rfl rfl)
theorem dX7_closesBy_18 : decode cX7_closesBy 18 = .ok (.aload_n 0, 1) := dk_42 (dk_at dksX7_closesBy_0 18 rfl rfl)
theorem dX7_closesBy_19 : decode cX7_closesBy 19 = .ok (.getfield 187, 3) := dk_180 0 187 (dk_at dksX7_closesBy_0 19 rfl rfl)
theorem dX7_closesBy_22 : decode cX7_closesBy 22 = .ok (.bipush 12, 2) := dk_16 12 (dk_at dksX7_closesBy_0 22 rfl rfl)
theorem dX7_closesBy_24 : decode cX7_closesBy 24 = .ok (.iload_n 1, 1) := dk_27 (dk_at dksX7_closesBy_1 0 rfl rfl)
theorem dX7_closesBy_25 : decode cX7_closesBy 25 = .ok (.imul, 1) := dk_104 (dk_at dksX7_closesBy_1 1 rfl rfl)
theorem dX7_closesBy_26 : decode cX7_closesBy 26 = .ok (.iload_n 2, 1) := dk_28 (dk_at dksX7_closesBy_1 2 rfl rfl)
theorem dX7_closesBy_27 : decode cX7_closesBy 27 = .ok (.iadd, 1) := dk_96 (dk_at dksX7_closesBy_1 3 rfl rfl)
theorem dX7_closesBy_28 : decode cX7_closesBy 28 = .ok (.iaload, 1) := dk_46 (dk_at dksX7_closesBy_1 4 rfl rfl)
theorem dX7_closesBy_29 : decode cX7_closesBy 29 = .ok (.i2l, 1) := dk_133 (dk_at dksX7_closesBy_1 5 rfl rfl)
theorem dX7_closesBy_30 : decode cX7_closesBy 30 = .ok (.lstore 9, 2) := dk_55 9 (dk_at dksX7_closesBy_1 6 rfl rfl)
theorem dX7_closesBy_32 : decode cX7_closesBy 32 = .ok (.aload_n 0, 1) := dk_42 (dk_at dksX7_closesBy_1 8 rfl rfl)
theorem dX7_closesBy_33 : decode cX7_closesBy 33 = .ok (.getfield 187, 3) := dk_180 0 187 (dk_at dksX7_closesBy_1 9 rfl rfl)
theorem dX7_closesBy_36 : decode cX7_closesBy 36 = .ok (.bipush 12, 2) := dk_16 12 (dk_at dksX7_closesBy_1 12 rfl rfl)
theorem dX7_closesBy_38 : decode cX7_closesBy 38 = .ok (.iload_n 1, 1) := dk_27 (dk_at dksX7_closesBy_1 14 rfl rfl)
theorem dX7_closesBy_39 : decode cX7_closesBy 39 = .ok (.imul, 1) := dk_104 (dk_at dksX7_closesBy_1 15 rfl rfl)
theorem dX7_closesBy_40 : decode cX7_closesBy 40 = .ok (.iload_n 3, 1) := dk_29 (dk_at dksX7_closesBy_1 16 rfl rfl)
theorem dX7_closesBy_41 : decode cX7_closesBy 41 = .ok (.iadd, 1) := dk_96 (dk_at dksX7_closesBy_1 17 rfl rfl)
theorem dX7_closesBy_42 : decode cX7_closesBy 42 = .ok (.iaload, 1) := dk_46 (dk_at dksX7_closesBy_1 18 rfl rfl)
theorem dX7_closesBy_43 : decode cX7_closesBy 43 = .ok (.i2l, 1) := dk_133 (dk_at dksX7_closesBy_1 19 rfl rfl)
theorem dX7_closesBy_44 : decode cX7_closesBy 44 = .ok (.lstore 11, 2) := dk_55 11 (dk_at dksX7_closesBy_1 20 rfl rfl)
theorem dX7_closesBy_46 : decode cX7_closesBy 46 = .ok (.iload 4, 2) := dk_21 4 (dk_at dksX7_closesBy_1 22 rfl rfl)
theorem dX7_closesBy_48 : decode cX7_closesBy 48 = .ok (.tableswitch 131 0 4 #[36, 50, 66, 82, 102], 36) := by decide +kernel
theorem dX7_closesBy_84 : decode cX7_closesBy 84 = .ok (.aload_n 0, 1) := dk_42 (dk_at dksX7_closesBy_3 0 rfl rfl)
theorem dX7_closesBy_85 : decode cX7_closesBy 85 = .ok (.iload_n 1, 1) := dk_27 (dk_at dksX7_closesBy_3 1 rfl rfl)
theorem dX7_closesBy_86 : decode cX7_closesBy 86 = .ok (.iload_n 3, 1) := dk_29 (dk_at dksX7_closesBy_3 2 rfl rfl)
theorem dX7_closesBy_87 : decode cX7_closesBy 87 = .ok (.invokevirtual 459, 3) := dk_182 1 203 (dk_at dksX7_closesBy_3 3 rfl rfl)
theorem dX7_closesBy_90 : decode cX7_closesBy 90 = .ok (.aload_n 0, 1) := dk_42 (dk_at dksX7_closesBy_3 6 rfl rfl)
theorem dX7_closesBy_91 : decode cX7_closesBy 91 = .ok (.iload_n 1, 1) := dk_27 (dk_at dksX7_closesBy_3 7 rfl rfl)
theorem dX7_closesBy_92 : decode cX7_closesBy 92 = .ok (.iload_n 2, 1) := dk_28 (dk_at dksX7_closesBy_3 8 rfl rfl)
theorem dX7_closesBy_93 : decode cX7_closesBy 93 = .ok (.invokevirtual 459, 3) := dk_182 1 203 (dk_at dksX7_closesBy_3 9 rfl rfl)
theorem dX7_closesBy_96 : decode cX7_closesBy 96 = .ok (.lsub, 1) := dk_101 (dk_at dksX7_closesBy_3 12 rfl rfl)
theorem dX7_closesBy_97 : decode cX7_closesBy 97 = .ok (.lreturn, 1) := dk_173 (dk_at dksX7_closesBy_3 13 rfl rfl)
theorem dX7_closesBy_98 : decode cX7_closesBy 98 = .ok (.lload 7, 2) := dk_22 7 (dk_at dksX7_closesBy_3 14 rfl rfl)
theorem dX7_closesBy_100 : decode cX7_closesBy 100 = .ok (.lload 5, 2) := dk_22 5 (dk_at dksX7_closesBy_3 16 rfl rfl)
theorem dX7_closesBy_102 : decode cX7_closesBy 102 = .ok (.lsub, 1) := dk_101 (dk_at dksX7_closesBy_3 18 rfl rfl)
theorem dX7_closesBy_103 : decode cX7_closesBy 103 = .ok (.lload 9, 2) := dk_22 9 (dk_at dksX7_closesBy_3 19 rfl rfl)
theorem dX7_closesBy_105 : decode cX7_closesBy 105 = .ok (.lmul, 1) := dk_105 (dk_at dksX7_closesBy_3 21 rfl rfl)
theorem dX7_closesBy_106 : decode cX7_closesBy 106 = .ok (.aload_n 0, 1) := dk_42 (dk_at dksX7_closesBy_3 22 rfl rfl)
theorem dX7_closesBy_107 : decode cX7_closesBy 107 = .ok (.iload_n 1, 1) := dk_27 (dk_at dksX7_closesBy_3 23 rfl rfl)
theorem dX7_closesBy_108 : decode cX7_closesBy 108 = .ok (.iload_n 2, 1) := dk_28 (dk_at dksX7_closesBy_4 0 rfl rfl)
theorem dX7_closesBy_109 : decode cX7_closesBy 109 = .ok (.invokevirtual 456, 3) := dk_182 1 200 (dk_at dksX7_closesBy_4 1 rfl rfl)
theorem dX7_closesBy_112 : decode cX7_closesBy 112 = .ok (.lmul, 1) := dk_105 (dk_at dksX7_closesBy_4 4 rfl rfl)
theorem dX7_closesBy_113 : decode cX7_closesBy 113 = .ok (.lreturn, 1) := dk_173 (dk_at dksX7_closesBy_4 5 rfl rfl)
theorem dX7_closesBy_114 : decode cX7_closesBy 114 = .ok (.lload 7, 2) := dk_22 7 (dk_at dksX7_closesBy_4 6 rfl rfl)
theorem dX7_closesBy_116 : decode cX7_closesBy 116 = .ok (.lload 11, 2) := dk_22 11 (dk_at dksX7_closesBy_4 8 rfl rfl)
theorem dX7_closesBy_118 : decode cX7_closesBy 118 = .ok (.lload 9, 2) := dk_22 9 (dk_at dksX7_closesBy_4 10 rfl rfl)
theorem dX7_closesBy_120 : decode cX7_closesBy 120 = .ok (.lsub, 1) := dk_101 (dk_at dksX7_closesBy_4 12 rfl rfl)
theorem dX7_closesBy_121 : decode cX7_closesBy 121 = .ok (.lmul, 1) := dk_105 (dk_at dksX7_closesBy_4 13 rfl rfl)
theorem dX7_closesBy_122 : decode cX7_closesBy 122 = .ok (.aload_n 0, 1) := dk_42 (dk_at dksX7_closesBy_4 14 rfl rfl)
theorem dX7_closesBy_123 : decode cX7_closesBy 123 = .ok (.iload_n 1, 1) := dk_27 (dk_at dksX7_closesBy_4 15 rfl rfl)
theorem dX7_closesBy_124 : decode cX7_closesBy 124 = .ok (.iload_n 2, 1) := dk_28 (dk_at dksX7_closesBy_4 16 rfl rfl)
theorem dX7_closesBy_125 : decode cX7_closesBy 125 = .ok (.invokevirtual 456, 3) := dk_182 1 200 (dk_at dksX7_closesBy_4 17 rfl rfl)
theorem dX7_closesBy_128 : decode cX7_closesBy 128 = .ok (.lmul, 1) := dk_105 (dk_at dksX7_closesBy_4 20 rfl rfl)
theorem dX7_closesBy_129 : decode cX7_closesBy 129 = .ok (.lreturn, 1) := dk_173 (dk_at dksX7_closesBy_4 21 rfl rfl)
theorem dX7_closesBy_130 : decode cX7_closesBy 130 = .ok (.lload 7, 2) := dk_22 7 (dk_at dksX7_closesBy_4 22 rfl rfl)
theorem dX7_closesBy_132 : decode cX7_closesBy 132 = .ok (.lload 11, 2) := dk_22 11 (dk_at dksX7_closesBy_5 0 rfl rfl)
theorem dX7_closesBy_134 : decode cX7_closesBy 134 = .ok (.lmul, 1) := dk_105 (dk_at dksX7_closesBy_5 2 rfl rfl)
theorem dX7_closesBy_135 : decode cX7_closesBy 135 = .ok (.aload_n 0, 1) := dk_42 (dk_at dksX7_closesBy_5 3 rfl rfl)
theorem dX7_closesBy_136 : decode cX7_closesBy 136 = .ok (.iload_n 1, 1) := dk_27 (dk_at dksX7_closesBy_5 4 rfl rfl)
theorem dX7_closesBy_137 : decode cX7_closesBy 137 = .ok (.iload_n 3, 1) := dk_29 (dk_at dksX7_closesBy_5 5 rfl rfl)
theorem dX7_closesBy_138 : decode cX7_closesBy 138 = .ok (.invokevirtual 456, 3) := dk_182 1 200 (dk_at dksX7_closesBy_5 6 rfl rfl)
theorem dX7_closesBy_141 : decode cX7_closesBy 141 = .ok (.aload_n 0, 1) := dk_42 (dk_at dksX7_closesBy_5 9 rfl rfl)
theorem dX7_closesBy_142 : decode cX7_closesBy 142 = .ok (.iload_n 1, 1) := dk_27 (dk_at dksX7_closesBy_5 10 rfl rfl)
theorem dX7_closesBy_143 : decode cX7_closesBy 143 = .ok (.iload_n 2, 1) := dk_28 (dk_at dksX7_closesBy_5 11 rfl rfl)
theorem dX7_closesBy_144 : decode cX7_closesBy 144 = .ok (.invokevirtual 456, 3) := dk_182 1 200 (dk_at dksX7_closesBy_5 12 rfl rfl)
theorem dX7_closesBy_147 : decode cX7_closesBy 147 = .ok (.lsub, 1) := dk_101 (dk_at dksX7_closesBy_5 15 rfl rfl)
theorem dX7_closesBy_148 : decode cX7_closesBy 148 = .ok (.lmul, 1) := dk_105 (dk_at dksX7_closesBy_5 16 rfl rfl)
theorem dX7_closesBy_149 : decode cX7_closesBy 149 = .ok (.lreturn, 1) := dk_173 (dk_at dksX7_closesBy_5 17 rfl rfl)
theorem dX7_closesBy_150 : decode cX7_closesBy 150 = .ok (.ldc2_w 227, 3) := dk_20 0 227 (dk_at dksX7_closesBy_5 18 rfl rfl)
theorem dX7_closesBy_153 : decode cX7_closesBy 153 = .ok (.aload_n 0, 1) := dk_42 (dk_at dksX7_closesBy_5 21 rfl rfl)
theorem dX7_closesBy_154 : decode cX7_closesBy 154 = .ok (.getfield 190, 3) := dk_180 0 190 (dk_at dksX7_closesBy_6 0 rfl rfl)
theorem dX7_closesBy_157 : decode cX7_closesBy 157 = .ok (.bipush 12, 2) := dk_16 12 (dk_at dksX7_closesBy_6 3 rfl rfl)
theorem dX7_closesBy_159 : decode cX7_closesBy 159 = .ok (.iload_n 1, 1) := dk_27 (dk_at dksX7_closesBy_6 5 rfl rfl)
theorem dX7_closesBy_160 : decode cX7_closesBy 160 = .ok (.imul, 1) := dk_104 (dk_at dksX7_closesBy_6 6 rfl rfl)
theorem dX7_closesBy_161 : decode cX7_closesBy 161 = .ok (.iload_n 3, 1) := dk_29 (dk_at dksX7_closesBy_6 7 rfl rfl)
theorem dX7_closesBy_162 : decode cX7_closesBy 162 = .ok (.iadd, 1) := dk_96 (dk_at dksX7_closesBy_6 8 rfl rfl)
theorem dX7_closesBy_163 : decode cX7_closesBy 163 = .ok (.iaload, 1) := dk_46 (dk_at dksX7_closesBy_6 9 rfl rfl)
theorem dX7_closesBy_164 : decode cX7_closesBy 164 = .ok (.aload_n 0, 1) := dk_42 (dk_at dksX7_closesBy_6 10 rfl rfl)
theorem dX7_closesBy_165 : decode cX7_closesBy 165 = .ok (.getfield 190, 3) := dk_180 0 190 (dk_at dksX7_closesBy_6 11 rfl rfl)
theorem dX7_closesBy_168 : decode cX7_closesBy 168 = .ok (.bipush 12, 2) := dk_16 12 (dk_at dksX7_closesBy_6 14 rfl rfl)
theorem dX7_closesBy_170 : decode cX7_closesBy 170 = .ok (.iload_n 1, 1) := dk_27 (dk_at dksX7_closesBy_6 16 rfl rfl)
theorem dX7_closesBy_171 : decode cX7_closesBy 171 = .ok (.imul, 1) := dk_104 (dk_at dksX7_closesBy_6 17 rfl rfl)
theorem dX7_closesBy_172 : decode cX7_closesBy 172 = .ok (.iload_n 2, 1) := dk_28 (dk_at dksX7_closesBy_6 18 rfl rfl)
theorem dX7_closesBy_173 : decode cX7_closesBy 173 = .ok (.iadd, 1) := dk_96 (dk_at dksX7_closesBy_6 19 rfl rfl)
theorem dX7_closesBy_174 : decode cX7_closesBy 174 = .ok (.iaload, 1) := dk_46 (dk_at dksX7_closesBy_6 20 rfl rfl)
theorem dX7_closesBy_175 : decode cX7_closesBy 175 = .ok (.isub, 1) := dk_100 (dk_at dksX7_closesBy_6 21 rfl rfl)
theorem dX7_closesBy_176 : decode cX7_closesBy 176 = .ok (.i2l, 1) := dk_133 (dk_at dksX7_closesBy_6 22 rfl rfl)
theorem dX7_closesBy_177 : decode cX7_closesBy 177 = .ok (.lmul, 1) := dk_105 (dk_at dksX7_closesBy_6 23 rfl rfl)
theorem dX7_closesBy_178 : decode cX7_closesBy 178 = .ok (.lreturn, 1) := dk_173 (dk_at dksX7_closesBy_7 0 rfl rfl)
theorem dX7_closesBy_179 : decode cX7_closesBy 179 = .ok (.aload_n 0, 1) := dk_42 (dk_at dksX7_closesBy_7 1 rfl rfl)
theorem dX7_closesBy_180 : decode cX7_closesBy 180 = .ok (.iload_n 1, 1) := dk_27 (dk_at dksX7_closesBy_7 2 rfl rfl)
theorem dX7_closesBy_181 : decode cX7_closesBy 181 = .ok (.iload_n 3, 1) := dk_29 (dk_at dksX7_closesBy_7 3 rfl rfl)
theorem dX7_closesBy_182 : decode cX7_closesBy 182 = .ok (.invokevirtual 462, 3) := dk_182 1 206 (dk_at dksX7_closesBy_7 4 rfl rfl)
theorem dX7_closesBy_185 : decode cX7_closesBy 185 = .ok (.aload_n 0, 1) := dk_42 (dk_at dksX7_closesBy_7 7 rfl rfl)
theorem dX7_closesBy_186 : decode cX7_closesBy 186 = .ok (.iload_n 1, 1) := dk_27 (dk_at dksX7_closesBy_7 8 rfl rfl)
theorem dX7_closesBy_187 : decode cX7_closesBy 187 = .ok (.iload_n 2, 1) := dk_28 (dk_at dksX7_closesBy_7 9 rfl rfl)
theorem dX7_closesBy_188 : decode cX7_closesBy 188 = .ok (.invokevirtual 462, 3) := dk_182 1 206 (dk_at dksX7_closesBy_7 10 rfl rfl)
theorem dX7_closesBy_191 : decode cX7_closesBy 191 = .ok (.lsub, 1) := dk_101 (dk_at dksX7_closesBy_7 13 rfl rfl)
theorem dX7_closesBy_192 : decode cX7_closesBy 192 = .ok (.lreturn, 1) := dk_173 (dk_at dksX7_closesBy_7 14 rfl rfl)
def dkwX7_lots_2 : List UInt8 := [148, 158, 0, 7, 20, 1, 82, 173, 42, 29, 182, 1, 229, 42, 21, 4, 182, 1, 65, 173]
abbrev dktX7_lots_2 : List UInt8 := dkwX7_lots_2 ++ []
def dkwX7_lots_1 : List UInt8 := [27, 28, 182, 1, 226, 153, 0, 23, 29, 133, 42, 180, 1, 39, 148, 157, 0, 13, 29, 133, 42, 180, 1, 45]
abbrev dktX7_lots_1 : List UInt8 := dkwX7_lots_1 ++ dktX7_lots_2
def dkwX7_lots_0 : List UInt8 := [42, 3, 181, 0, 1, 29, 4, 16, 9, 184, 0, 253, 153, 0, 40, 21, 4, 184, 1, 59, 153, 0, 32, 42]
abbrev dktX7_lots_0 : List UInt8 := dkwX7_lots_0 ++ dktX7_lots_1
theorem dksX7_lots_0 : cX7_lots.data.toList.drop 0 = dktX7_lots_0 := by decide +kernel
theorem dksX7_lots_1 : cX7_lots.data.toList.drop 24 = dktX7_lots_1 := dk_seg dksX7_lots_0 24 rfl rfl
theorem dksX7_lots_2 : cX7_lots.data.toList.drop 48 = dktX7_lots_2 := dk_seg dksX7_lots_1 24 rfl rfl
theorem dX7_lots_0 : decode cX7_lots 0 = .ok (.aload_n 0, 1) := dk_42 (dk_at dksX7_lots_0 0 rfl rfl)
theorem dX7_lots_1 : decode cX7_lots 1 = .ok (.iconst 0, 1) := dk_3 (dk_at dksX7_lots_0 1 rfl rfl)
theorem dX7_lots_2 : decode cX7_lots 2 = .ok (.putfield 1, 3) := dk_181 0 1 (dk_at dksX7_lots_0 2 rfl rfl)
theorem dX7_lots_5 : decode cX7_lots 5 = .ok (.iload_n 3, 1) := dk_29 (dk_at dksX7_lots_0 5 rfl rfl)
theorem dX7_lots_6 : decode cX7_lots 6 = .ok (.iconst 1, 1) := dk_4 (dk_at dksX7_lots_0 6 rfl rfl)
theorem dX7_lots_7 : decode cX7_lots 7 = .ok (.bipush 9, 2) := dk_16 9 (dk_at dksX7_lots_0 7 rfl rfl)
theorem dX7_lots_9 : decode cX7_lots 9 = .ok (.invokestatic 253, 3) := dk_184 0 253 (dk_at dksX7_lots_0 9 rfl rfl)
theorem dX7_lots_12 : decode cX7_lots 12 = .ok (.ifCond .eq 40, 3) := dk_153 0 40 (dk_at dksX7_lots_0 12 rfl rfl)
theorem dX7_lots_15 : decode cX7_lots 15 = .ok (.iload 4, 2) := dk_21 4 (dk_at dksX7_lots_0 15 rfl rfl)
theorem dX7_lots_17 : decode cX7_lots 17 = .ok (.invokestatic 315, 3) := dk_184 1 59 (dk_at dksX7_lots_0 17 rfl rfl)
theorem dX7_lots_20 : decode cX7_lots 20 = .ok (.ifCond .eq 32, 3) := dk_153 0 32 (dk_at dksX7_lots_0 20 rfl rfl)
theorem dX7_lots_23 : decode cX7_lots 23 = .ok (.aload_n 0, 1) := dk_42 (dk_at dksX7_lots_0 23 rfl rfl)
theorem dX7_lots_24 : decode cX7_lots 24 = .ok (.iload_n 1, 1) := dk_27 (dk_at dksX7_lots_1 0 rfl rfl)
theorem dX7_lots_25 : decode cX7_lots 25 = .ok (.iload_n 2, 1) := dk_28 (dk_at dksX7_lots_1 1 rfl rfl)
theorem dX7_lots_26 : decode cX7_lots 26 = .ok (.invokevirtual 482, 3) := dk_182 1 226 (dk_at dksX7_lots_1 2 rfl rfl)
theorem dX7_lots_29 : decode cX7_lots 29 = .ok (.ifCond .eq 23, 3) := dk_153 0 23 (dk_at dksX7_lots_1 5 rfl rfl)
theorem dX7_lots_32 : decode cX7_lots 32 = .ok (.iload_n 3, 1) := dk_29 (dk_at dksX7_lots_1 8 rfl rfl)
theorem dX7_lots_33 : decode cX7_lots 33 = .ok (.i2l, 1) := dk_133 (dk_at dksX7_lots_1 9 rfl rfl)
theorem dX7_lots_34 : decode cX7_lots 34 = .ok (.aload_n 0, 1) := dk_42 (dk_at dksX7_lots_1 10 rfl rfl)
theorem dX7_lots_35 : decode cX7_lots 35 = .ok (.getfield 295, 3) := dk_180 1 39 (dk_at dksX7_lots_1 11 rfl rfl)
theorem dX7_lots_38 : decode cX7_lots 38 = .ok (.lcmp, 1) := dk_148 (dk_at dksX7_lots_1 14 rfl rfl)
theorem dX7_lots_39 : decode cX7_lots 39 = .ok (.ifCond .gt 13, 3) := dk_157 0 13 (dk_at dksX7_lots_1 15 rfl rfl)
theorem dX7_lots_42 : decode cX7_lots 42 = .ok (.iload_n 3, 1) := dk_29 (dk_at dksX7_lots_1 18 rfl rfl)
theorem dX7_lots_43 : decode cX7_lots 43 = .ok (.i2l, 1) := dk_133 (dk_at dksX7_lots_1 19 rfl rfl)
theorem dX7_lots_44 : decode cX7_lots 44 = .ok (.aload_n 0, 1) := dk_42 (dk_at dksX7_lots_1 20 rfl rfl)
theorem dX7_lots_45 : decode cX7_lots 45 = .ok (.getfield 301, 3) := dk_180 1 45 (dk_at dksX7_lots_1 21 rfl rfl)
theorem dX7_lots_48 : decode cX7_lots 48 = .ok (.lcmp, 1) := dk_148 (dk_at dksX7_lots_2 0 rfl rfl)
theorem dX7_lots_49 : decode cX7_lots 49 = .ok (.ifCond .le 7, 3) := dk_158 0 7 (dk_at dksX7_lots_2 1 rfl rfl)
theorem dX7_lots_52 : decode cX7_lots 52 = .ok (.ldc2_w 338, 3) := dk_20 1 82 (dk_at dksX7_lots_2 4 rfl rfl)
theorem dX7_lots_55 : decode cX7_lots 55 = .ok (.lreturn, 1) := dk_173 (dk_at dksX7_lots_2 7 rfl rfl)
theorem dX7_lots_56 : decode cX7_lots 56 = .ok (.aload_n 0, 1) := dk_42 (dk_at dksX7_lots_2 8 rfl rfl)
theorem dX7_lots_57 : decode cX7_lots 57 = .ok (.iload_n 3, 1) := dk_29 (dk_at dksX7_lots_2 9 rfl rfl)
theorem dX7_lots_58 : decode cX7_lots 58 = .ok (.invokevirtual 485, 3) := dk_182 1 229 (dk_at dksX7_lots_2 10 rfl rfl)
theorem dX7_lots_61 : decode cX7_lots 61 = .ok (.aload_n 0, 1) := dk_42 (dk_at dksX7_lots_2 13 rfl rfl)
theorem dX7_lots_62 : decode cX7_lots 62 = .ok (.iload 4, 2) := dk_21 4 (dk_at dksX7_lots_2 14 rfl rfl)
theorem dX7_lots_64 : decode cX7_lots 64 = .ok (.invokevirtual 321, 3) := dk_182 1 65 (dk_at dksX7_lots_2 16 rfl rfl)
theorem dX7_lots_67 : decode cX7_lots 67 = .ok (.lreturn, 1) := dk_173 (dk_at dksX7_lots_2 19 rfl rfl)
def dkwX7_laysLots_5 : List UInt8 := [21, 5, 27, 28, 182, 1, 21, 79, 132, 4, 1, 132, 5, 1, 167, 255, 176, 4, 172]
abbrev dktX7_laysLots_5 : List UInt8 := dkwX7_laysLots_5 ++ []
def dkwX7_laysLots_4 : List UInt8 := [132, 3, 1, 167, 0, 32, 42, 21, 5, 27, 28, 182, 1, 18, 153, 0, 21, 42, 180, 0, 196, 21, 4, 42]
abbrev dktX7_laysLots_4 : List UInt8 := dkwX7_laysLots_4 ++ dktX7_laysLots_5
def dkwX7_laysLots_3 : List UInt8 := [180, 0, 97, 21, 5, 46, 154, 0, 23, 42, 180, 0, 193, 29, 42, 21, 5, 27, 28, 182, 1, 21, 79]
abbrev dktX7_laysLots_3 : List UInt8 := dkwX7_laysLots_3 ++ dktX7_laysLots_4
def dkwX7_laysLots_2 : List UInt8 := [54, 4, 3, 54, 5, 21, 5, 16, 24, 162, 0, 79, 42, 21, 5, 27, 28, 182, 1, 18, 153, 0, 33, 42]
abbrev dktX7_laysLots_2 : List UInt8 := dkwX7_laysLots_2 ++ dktX7_laysLots_3
def dkwX7_laysLots_1 : List UInt8 := [20, 1, 213, 148, 157, 0, 14, 42, 180, 1, 45, 20, 1, 213, 148, 158, 0, 5, 3, 172, 3, 62, 3]
abbrev dktX7_laysLots_1 : List UInt8 := dkwX7_laysLots_1 ++ dktX7_laysLots_2
def dkwX7_laysLots_0 : List UInt8 := [27, 28, 184, 1, 14, 153, 0, 35, 42, 27, 28, 2, 182, 1, 62, 153, 0, 25, 42, 180, 1, 39]
abbrev dktX7_laysLots_0 : List UInt8 := dkwX7_laysLots_0 ++ dktX7_laysLots_1
theorem dksX7_laysLots_0 : cX7_laysLots.data.toList.drop 0 = dktX7_laysLots_0 := by decide +kernel
theorem dksX7_laysLots_1 : cX7_laysLots.data.toList.drop 22 = dktX7_laysLots_1 := dk_seg dksX7_laysLots_0 22 rfl rfl
theorem dksX7_laysLots_2 : cX7_laysLots.data.toList.drop 45 = dktX7_laysLots_2 := dk_seg dksX7_laysLots_1 23 rfl rfl
theorem dksX7_laysLots_3 : cX7_laysLots.data.toList.drop 69 = dktX7_laysLots_3 := dk_seg dksX7_laysLots_2 24 rfl rfl
theorem dksX7_laysLots_4 : cX7_laysLots.data.toList.drop 92 = dktX7_laysLots_4 := dk_seg dksX7_laysLots_3 23 rfl rfl
theorem dksX7_laysLots_5 : cX7_laysLots.data.toList.drop 116 = dktX7_laysLots_5 := dk_seg dksX7_laysLots_4 24 rfl rfl
theorem dX7_laysLots_0 : decode cX7_laysLots 0 = .ok (.iload_n 1, 1) := dk_27 (dk_at dksX7_laysLots_0 0 rfl rfl)
theorem dX7_laysLots_1 : decode cX7_laysLots 1 = .ok (.iload_n 2, 1) := dk_28 (dk_at dksX7_laysLots_0 1 rfl rfl)
theorem dX7_laysLots_2 : decode cX7_laysLots 2 = .ok (.invokestatic 270, 3) := dk_184 1 14 (dk_at dksX7_laysLots_0 2 rfl rfl)
theorem dX7_laysLots_5 : decode cX7_laysLots 5 = .ok (.ifCond .eq 35, 3) := dk_153 0 35 (dk_at dksX7_laysLots_0 5 rfl rfl)
theorem dX7_laysLots_8 : decode cX7_laysLots 8 = .ok (.aload_n 0, 1) := dk_42 (dk_at dksX7_laysLots_0 8 rfl rfl)
theorem dX7_laysLots_9 : decode cX7_laysLots 9 = .ok (.iload_n 1, 1) := dk_27 (dk_at dksX7_laysLots_0 9 rfl rfl)
theorem dX7_laysLots_10 : decode cX7_laysLots 10 = .ok (.iload_n 2, 1) := dk_28 (dk_at dksX7_laysLots_0 10 rfl rfl)
theorem dX7_laysLots_11 : decode cX7_laysLots 11 = .ok (.iconst (-1), 1) := dk_2 (dk_at dksX7_laysLots_0 11 rfl rfl)
theorem dX7_laysLots_12 : decode cX7_laysLots 12 = .ok (.invokevirtual 318, 3) := dk_182 1 62 (dk_at dksX7_laysLots_0 12 rfl rfl)
theorem dX7_laysLots_15 : decode cX7_laysLots 15 = .ok (.ifCond .eq 25, 3) := dk_153 0 25 (dk_at dksX7_laysLots_0 15 rfl rfl)
theorem dX7_laysLots_18 : decode cX7_laysLots 18 = .ok (.aload_n 0, 1) := dk_42 (dk_at dksX7_laysLots_0 18 rfl rfl)
theorem dX7_laysLots_19 : decode cX7_laysLots 19 = .ok (.getfield 295, 3) := dk_180 1 39 (dk_at dksX7_laysLots_0 19 rfl rfl)
theorem dX7_laysLots_22 : decode cX7_laysLots 22 = .ok (.ldc2_w 469, 3) := dk_20 1 213 (dk_at dksX7_laysLots_1 0 rfl rfl)
theorem dX7_laysLots_25 : decode cX7_laysLots 25 = .ok (.lcmp, 1) := dk_148 (dk_at dksX7_laysLots_1 3 rfl rfl)
theorem dX7_laysLots_26 : decode cX7_laysLots 26 = .ok (.ifCond .gt 14, 3) := dk_157 0 14 (dk_at dksX7_laysLots_1 4 rfl rfl)
theorem dX7_laysLots_29 : decode cX7_laysLots 29 = .ok (.aload_n 0, 1) := dk_42 (dk_at dksX7_laysLots_1 7 rfl rfl)
theorem dX7_laysLots_30 : decode cX7_laysLots 30 = .ok (.getfield 301, 3) := dk_180 1 45 (dk_at dksX7_laysLots_1 8 rfl rfl)
theorem dX7_laysLots_33 : decode cX7_laysLots 33 = .ok (.ldc2_w 469, 3) := dk_20 1 213 (dk_at dksX7_laysLots_1 11 rfl rfl)
theorem dX7_laysLots_36 : decode cX7_laysLots 36 = .ok (.lcmp, 1) := dk_148 (dk_at dksX7_laysLots_1 14 rfl rfl)
theorem dX7_laysLots_37 : decode cX7_laysLots 37 = .ok (.ifCond .le 5, 3) := dk_158 0 5 (dk_at dksX7_laysLots_1 15 rfl rfl)
theorem dX7_laysLots_40 : decode cX7_laysLots 40 = .ok (.iconst 0, 1) := dk_3 (dk_at dksX7_laysLots_1 18 rfl rfl)
theorem dX7_laysLots_41 : decode cX7_laysLots 41 = .ok (.ireturn, 1) := dk_172 (dk_at dksX7_laysLots_1 19 rfl rfl)
theorem dX7_laysLots_42 : decode cX7_laysLots 42 = .ok (.iconst 0, 1) := dk_3 (dk_at dksX7_laysLots_1 20 rfl rfl)
theorem dX7_laysLots_43 : decode cX7_laysLots 43 = .ok (.istore_n 3, 1) := dk_62 (dk_at dksX7_laysLots_1 21 rfl rfl)
theorem dX7_laysLots_44 : decode cX7_laysLots 44 = .ok (.iconst 0, 1) := dk_3 (dk_at dksX7_laysLots_1 22 rfl rfl)
theorem dX7_laysLots_45 : decode cX7_laysLots 45 = .ok (.istore 4, 2) := dk_54 4 (dk_at dksX7_laysLots_2 0 rfl rfl)
theorem dX7_laysLots_47 : decode cX7_laysLots 47 = .ok (.iconst 0, 1) := dk_3 (dk_at dksX7_laysLots_2 2 rfl rfl)
theorem dX7_laysLots_48 : decode cX7_laysLots 48 = .ok (.istore 5, 2) := dk_54 5 (dk_at dksX7_laysLots_2 3 rfl rfl)
theorem dX7_laysLots_50 : decode cX7_laysLots 50 = .ok (.iload 5, 2) := dk_21 5 (dk_at dksX7_laysLots_2 5 rfl rfl)
theorem dX7_laysLots_52 : decode cX7_laysLots 52 = .ok (.bipush 24, 2) := dk_16 24 (dk_at dksX7_laysLots_2 7 rfl rfl)
theorem dX7_laysLots_54 : decode cX7_laysLots 54 = .ok (.if_icmp .ge 79, 3) := dk_162 0 79 (dk_at dksX7_laysLots_2 9 rfl rfl)
theorem dX7_laysLots_57 : decode cX7_laysLots 57 = .ok (.aload_n 0, 1) := dk_42 (dk_at dksX7_laysLots_2 12 rfl rfl)
theorem dX7_laysLots_58 : decode cX7_laysLots 58 = .ok (.iload 5, 2) := dk_21 5 (dk_at dksX7_laysLots_2 13 rfl rfl)
theorem dX7_laysLots_60 : decode cX7_laysLots 60 = .ok (.iload_n 1, 1) := dk_27 (dk_at dksX7_laysLots_2 15 rfl rfl)
theorem dX7_laysLots_61 : decode cX7_laysLots 61 = .ok (.iload_n 2, 1) := dk_28 (dk_at dksX7_laysLots_2 16 rfl rfl)
theorem dX7_laysLots_62 : decode cX7_laysLots 62 = .ok (.invokevirtual 274, 3) := dk_182 1 18 (dk_at dksX7_laysLots_2 17 rfl rfl)
theorem dX7_laysLots_65 : decode cX7_laysLots 65 = .ok (.ifCond .eq 33, 3) := dk_153 0 33 (dk_at dksX7_laysLots_2 20 rfl rfl)
theorem dX7_laysLots_68 : decode cX7_laysLots 68 = .ok (.aload_n 0, 1) := dk_42 (dk_at dksX7_laysLots_2 23 rfl rfl)
theorem dX7_laysLots_69 : decode cX7_laysLots 69 = .ok (.getfield 97, 3) := dk_180 0 97 (dk_at dksX7_laysLots_3 0 rfl rfl)
theorem dX7_laysLots_72 : decode cX7_laysLots 72 = .ok (.iload 5, 2) := dk_21 5 (dk_at dksX7_laysLots_3 3 rfl rfl)
theorem dX7_laysLots_74 : decode cX7_laysLots 74 = .ok (.iaload, 1) := dk_46 (dk_at dksX7_laysLots_3 5 rfl rfl)
theorem dX7_laysLots_75 : decode cX7_laysLots 75 = .ok (.ifCond .ne 23, 3) := dk_154 0 23 (dk_at dksX7_laysLots_3 6 rfl rfl)
theorem dX7_laysLots_78 : decode cX7_laysLots 78 = .ok (.aload_n 0, 1) := dk_42 (dk_at dksX7_laysLots_3 9 rfl rfl)
theorem dX7_laysLots_79 : decode cX7_laysLots 79 = .ok (.getfield 193, 3) := dk_180 0 193 (dk_at dksX7_laysLots_3 10 rfl rfl)
theorem dX7_laysLots_82 : decode cX7_laysLots 82 = .ok (.iload_n 3, 1) := dk_29 (dk_at dksX7_laysLots_3 13 rfl rfl)
theorem dX7_laysLots_83 : decode cX7_laysLots 83 = .ok (.aload_n 0, 1) := dk_42 (dk_at dksX7_laysLots_3 14 rfl rfl)
theorem dX7_laysLots_84 : decode cX7_laysLots 84 = .ok (.iload 5, 2) := dk_21 5 (dk_at dksX7_laysLots_3 15 rfl rfl)
theorem dX7_laysLots_86 : decode cX7_laysLots 86 = .ok (.iload_n 1, 1) := dk_27 (dk_at dksX7_laysLots_3 17 rfl rfl)
theorem dX7_laysLots_87 : decode cX7_laysLots 87 = .ok (.iload_n 2, 1) := dk_28 (dk_at dksX7_laysLots_3 18 rfl rfl)
theorem dX7_laysLots_88 : decode cX7_laysLots 88 = .ok (.invokevirtual 277, 3) := dk_182 1 21 (dk_at dksX7_laysLots_3 19 rfl rfl)
theorem dX7_laysLots_91 : decode cX7_laysLots 91 = .ok (.iastore, 1) := dk_79 (dk_at dksX7_laysLots_3 22 rfl rfl)
theorem dX7_laysLots_92 : decode cX7_laysLots 92 = .ok (.iinc 3 1, 3) := dk_132 3 1 (dk_at dksX7_laysLots_4 0 rfl rfl)
theorem dX7_laysLots_95 : decode cX7_laysLots 95 = .ok (.goto 32, 3) := dk_167 0 32 (dk_at dksX7_laysLots_4 3 rfl rfl)
theorem dX7_laysLots_98 : decode cX7_laysLots 98 = .ok (.aload_n 0, 1) := dk_42 (dk_at dksX7_laysLots_4 6 rfl rfl)
theorem dX7_laysLots_99 : decode cX7_laysLots 99 = .ok (.iload 5, 2) := dk_21 5 (dk_at dksX7_laysLots_4 7 rfl rfl)
theorem dX7_laysLots_101 : decode cX7_laysLots 101 = .ok (.iload_n 1, 1) := dk_27 (dk_at dksX7_laysLots_4 9 rfl rfl)
theorem dX7_laysLots_102 : decode cX7_laysLots 102 = .ok (.iload_n 2, 1) := dk_28 (dk_at dksX7_laysLots_4 10 rfl rfl)
theorem dX7_laysLots_103 : decode cX7_laysLots 103 = .ok (.invokevirtual 274, 3) := dk_182 1 18 (dk_at dksX7_laysLots_4 11 rfl rfl)
theorem dX7_laysLots_106 : decode cX7_laysLots 106 = .ok (.ifCond .eq 21, 3) := dk_153 0 21 (dk_at dksX7_laysLots_4 14 rfl rfl)
theorem dX7_laysLots_109 : decode cX7_laysLots 109 = .ok (.aload_n 0, 1) := dk_42 (dk_at dksX7_laysLots_4 17 rfl rfl)
theorem dX7_laysLots_110 : decode cX7_laysLots 110 = .ok (.getfield 196, 3) := dk_180 0 196 (dk_at dksX7_laysLots_4 18 rfl rfl)
theorem dX7_laysLots_113 : decode cX7_laysLots 113 = .ok (.iload 4, 2) := dk_21 4 (dk_at dksX7_laysLots_4 21 rfl rfl)
theorem dX7_laysLots_115 : decode cX7_laysLots 115 = .ok (.aload_n 0, 1) := dk_42 (dk_at dksX7_laysLots_4 23 rfl rfl)
theorem dX7_laysLots_116 : decode cX7_laysLots 116 = .ok (.iload 5, 2) := dk_21 5 (dk_at dksX7_laysLots_5 0 rfl rfl)
theorem dX7_laysLots_118 : decode cX7_laysLots 118 = .ok (.iload_n 1, 1) := dk_27 (dk_at dksX7_laysLots_5 2 rfl rfl)
theorem dX7_laysLots_119 : decode cX7_laysLots 119 = .ok (.iload_n 2, 1) := dk_28 (dk_at dksX7_laysLots_5 3 rfl rfl)
theorem dX7_laysLots_120 : decode cX7_laysLots 120 = .ok (.invokevirtual 277, 3) := dk_182 1 21 (dk_at dksX7_laysLots_5 4 rfl rfl)
theorem dX7_laysLots_123 : decode cX7_laysLots 123 = .ok (.iastore, 1) := dk_79 (dk_at dksX7_laysLots_5 7 rfl rfl)
theorem dX7_laysLots_124 : decode cX7_laysLots 124 = .ok (.iinc 4 1, 3) := dk_132 4 1 (dk_at dksX7_laysLots_5 8 rfl rfl)
theorem dX7_laysLots_127 : decode cX7_laysLots 127 = .ok (.iinc 5 1, 3) := dk_132 5 1 (dk_at dksX7_laysLots_5 11 rfl rfl)
theorem dX7_laysLots_130 : decode cX7_laysLots 130 = .ok (.goto (-80), 3) := dk_167 255 176 (dk_at dksX7_laysLots_5 14 rfl rfl)
theorem dX7_laysLots_133 : decode cX7_laysLots 133 = .ok (.iconst 1, 1) := dk_4 (dk_at dksX7_laysLots_5 17 rfl rfl)
theorem dX7_laysLots_134 : decode cX7_laysLots 134 = .ok (.ireturn, 1) := dk_172 (dk_at dksX7_laysLots_5 18 rfl rfl)
def dkwX7_findLots_6 : List UInt8 := [177]
abbrev dktX7_findLots_6 : List UInt8 := dkwX7_findLots_6 ++ []
def dkwX7_findLots_5 : List UInt8 := [160, 0, 7, 10, 167, 0, 4, 9, 97, 181, 1, 25, 132, 6, 1, 167, 255, 189, 132, 3, 1, 167, 255, 151]
abbrev dktX7_findLots_5 : List UInt8 := dkwX7_findLots_5 ++ dktX7_findLots_6
def dkwX7_findLots_4 : List UInt8 := [181, 1, 29, 42, 89, 180, 1, 25, 22, 4, 42, 180, 0, 196, 21, 6, 184, 1, 222, 101, 184, 1, 215, 28]
abbrev dktX7_findLots_4 : List UInt8 := dkwX7_findLots_4 ++ dktX7_findLots_5
def dkwX7_findLots_3 : List UInt8 := [180, 1, 45, 136, 120, 162, 0, 61, 21, 6, 184, 1, 219, 27, 160, 0, 46, 42, 89, 180, 1, 29, 10, 97]
abbrev dktX7_findLots_3 : List UInt8 := dkwX7_findLots_3 ++ dktX7_findLots_4
def dkwX7_findLots_2 : List UInt8 := [184, 1, 219, 27, 160, 0, 86, 42, 180, 0, 193, 29, 184, 1, 222, 55, 4, 3, 54, 6, 21, 6, 4, 42]
abbrev dktX7_findLots_2 : List UInt8 := dkwX7_findLots_2 ++ dktX7_findLots_3
def dkwX7_findLots_1 : List UInt8 := [9, 181, 1, 25, 42, 9, 181, 1, 29, 3, 62, 29, 4, 42, 180, 1, 39, 136, 120, 162, 0, 100, 29]
abbrev dktX7_findLots_1 : List UInt8 := dkwX7_findLots_1 ++ dktX7_findLots_2
def dkwX7_findLots_0 : List UInt8 := [42, 180, 1, 36, 42, 180, 1, 45, 105, 42, 180, 1, 42, 42, 180, 1, 39, 105, 101, 184, 1, 215, 61, 42]
abbrev dktX7_findLots_0 : List UInt8 := dkwX7_findLots_0 ++ dktX7_findLots_1
theorem dksX7_findLots_0 : cX7_findLots.data.toList.drop 0 = dktX7_findLots_0 := by decide +kernel
theorem dksX7_findLots_1 : cX7_findLots.data.toList.drop 24 = dktX7_findLots_1 := dk_seg dksX7_findLots_0 24 rfl rfl
theorem dksX7_findLots_2 : cX7_findLots.data.toList.drop 47 = dktX7_findLots_2 := dk_seg dksX7_findLots_1 23 rfl rfl
theorem dksX7_findLots_3 : cX7_findLots.data.toList.drop 71 = dktX7_findLots_3 := dk_seg dksX7_findLots_2 24 rfl rfl
theorem dksX7_findLots_4 : cX7_findLots.data.toList.drop 95 = dktX7_findLots_4 := dk_seg dksX7_findLots_3 24 rfl rfl
theorem dksX7_findLots_5 : cX7_findLots.data.toList.drop 119 = dktX7_findLots_5 := dk_seg dksX7_findLots_4 24 rfl rfl
theorem dksX7_findLots_6 : cX7_findLots.data.toList.drop 143 = dktX7_findLots_6 := dk_seg dksX7_findLots_5 24 rfl rfl
theorem dX7_findLots_0 : decode cX7_findLots 0 = .ok (.aload_n 0, 1) := dk_42 (dk_at dksX7_findLots_0 0 rfl rfl)
theorem dX7_findLots_1 : decode cX7_findLots 1 = .ok (.getfield 292, 3) := dk_180 1 36 (dk_at dksX7_findLots_0 1 rfl rfl)
theorem dX7_findLots_4 : decode cX7_findLots 4 = .ok (.aload_n 0, 1) := dk_42 (dk_at dksX7_findLots_0 4 rfl rfl)
theorem dX7_findLots_5 : decode cX7_findLots 5 = .ok (.getfield 301, 3) := dk_180 1 45 (dk_at dksX7_findLots_0 5 rfl rfl)
theorem dX7_findLots_8 : decode cX7_findLots 8 = .ok (.lmul, 1) := dk_105 (dk_at dksX7_findLots_0 8 rfl rfl)
theorem dX7_findLots_9 : decode cX7_findLots 9 = .ok (.aload_n 0, 1) := dk_42 (dk_at dksX7_findLots_0 9 rfl rfl)
theorem dX7_findLots_10 : decode cX7_findLots 10 = .ok (.getfield 298, 3) := dk_180 1 42 (dk_at dksX7_findLots_0 10 rfl rfl)
theorem dX7_findLots_13 : decode cX7_findLots 13 = .ok (.aload_n 0, 1) := dk_42 (dk_at dksX7_findLots_0 13 rfl rfl)
theorem dX7_findLots_14 : decode cX7_findLots 14 = .ok (.getfield 295, 3) := dk_180 1 39 (dk_at dksX7_findLots_0 14 rfl rfl)
theorem dX7_findLots_17 : decode cX7_findLots 17 = .ok (.lmul, 1) := dk_105 (dk_at dksX7_findLots_0 17 rfl rfl)
theorem dX7_findLots_18 : decode cX7_findLots 18 = .ok (.lsub, 1) := dk_101 (dk_at dksX7_findLots_0 18 rfl rfl)
theorem dX7_findLots_19 : decode cX7_findLots 19 = .ok (.invokestatic 471, 3) := dk_184 1 215 (dk_at dksX7_findLots_0 19 rfl rfl)
theorem dX7_findLots_22 : decode cX7_findLots 22 = .ok (.istore_n 2, 1) := dk_61 (dk_at dksX7_findLots_0 22 rfl rfl)
theorem dX7_findLots_23 : decode cX7_findLots 23 = .ok (.aload_n 0, 1) := dk_42 (dk_at dksX7_findLots_0 23 rfl rfl)
theorem dX7_findLots_24 : decode cX7_findLots 24 = .ok (.lconst 0, 1) := dk_9 (dk_at dksX7_findLots_1 0 rfl rfl)
theorem dX7_findLots_25 : decode cX7_findLots 25 = .ok (.putfield 281, 3) := dk_181 1 25 (dk_at dksX7_findLots_1 1 rfl rfl)
theorem dX7_findLots_28 : decode cX7_findLots 28 = .ok (.aload_n 0, 1) := dk_42 (dk_at dksX7_findLots_1 4 rfl rfl)
theorem dX7_findLots_29 : decode cX7_findLots 29 = .ok (.lconst 0, 1) := dk_9 (dk_at dksX7_findLots_1 5 rfl rfl)
theorem dX7_findLots_30 : decode cX7_findLots 30 = .ok (.putfield 285, 3) := dk_181 1 29 (dk_at dksX7_findLots_1 6 rfl rfl)
theorem dX7_findLots_33 : decode cX7_findLots 33 = .ok (.iconst 0, 1) := dk_3 (dk_at dksX7_findLots_1 9 rfl rfl)
theorem dX7_findLots_34 : decode cX7_findLots 34 = .ok (.istore_n 3, 1) := dk_62 (dk_at dksX7_findLots_1 10 rfl rfl)
theorem dX7_findLots_35 : decode cX7_findLots 35 = .ok (.iload_n 3, 1) := dk_29 (dk_at dksX7_findLots_1 11 rfl rfl)
theorem dX7_findLots_36 : decode cX7_findLots 36 = .ok (.iconst 1, 1) := dk_4 (dk_at dksX7_findLots_1 12 rfl rfl)
theorem dX7_findLots_37 : decode cX7_findLots 37 = .ok (.aload_n 0, 1) := dk_42 (dk_at dksX7_findLots_1 13 rfl rfl)
theorem dX7_findLots_38 : decode cX7_findLots 38 = .ok (.getfield 295, 3) := dk_180 1 39 (dk_at dksX7_findLots_1 14 rfl rfl)
theorem dX7_findLots_41 : decode cX7_findLots 41 = .ok (.l2i, 1) := dk_136 (dk_at dksX7_findLots_1 17 rfl rfl)
theorem dX7_findLots_42 : decode cX7_findLots 42 = .ok (.ishl, 1) := dk_120 (dk_at dksX7_findLots_1 18 rfl rfl)
theorem dX7_findLots_43 : decode cX7_findLots 43 = .ok (.if_icmp .ge 100, 3) := dk_162 0 100 (dk_at dksX7_findLots_1 19 rfl rfl)
theorem dX7_findLots_46 : decode cX7_findLots 46 = .ok (.iload_n 3, 1) := dk_29 (dk_at dksX7_findLots_1 22 rfl rfl)
theorem dX7_findLots_47 : decode cX7_findLots 47 = .ok (.invokestatic 475, 3) := dk_184 1 219 (dk_at dksX7_findLots_2 0 rfl rfl)
theorem dX7_findLots_50 : decode cX7_findLots 50 = .ok (.iload_n 1, 1) := dk_27 (dk_at dksX7_findLots_2 3 rfl rfl)
theorem dX7_findLots_51 : decode cX7_findLots 51 = .ok (.if_icmp .ne 86, 3) := dk_160 0 86 (dk_at dksX7_findLots_2 4 rfl rfl)
theorem dX7_findLots_54 : decode cX7_findLots 54 = .ok (.aload_n 0, 1) := dk_42 (dk_at dksX7_findLots_2 7 rfl rfl)
theorem dX7_findLots_55 : decode cX7_findLots 55 = .ok (.getfield 193, 3) := dk_180 0 193 (dk_at dksX7_findLots_2 8 rfl rfl)
theorem dX7_findLots_58 : decode cX7_findLots 58 = .ok (.iload_n 3, 1) := dk_29 (dk_at dksX7_findLots_2 11 rfl rfl)
theorem dX7_findLots_59 : decode cX7_findLots 59 = .ok (.invokestatic 478, 3) := dk_184 1 222 (dk_at dksX7_findLots_2 12 rfl rfl)
theorem dX7_findLots_62 : decode cX7_findLots 62 = .ok (.lstore 4, 2) := dk_55 4 (dk_at dksX7_findLots_2 15 rfl rfl)
theorem dX7_findLots_64 : decode cX7_findLots 64 = .ok (.iconst 0, 1) := dk_3 (dk_at dksX7_findLots_2 17 rfl rfl)
theorem dX7_findLots_65 : decode cX7_findLots 65 = .ok (.istore 6, 2) := dk_54 6 (dk_at dksX7_findLots_2 18 rfl rfl)
theorem dX7_findLots_67 : decode cX7_findLots 67 = .ok (.iload 6, 2) := dk_21 6 (dk_at dksX7_findLots_2 20 rfl rfl)
theorem dX7_findLots_69 : decode cX7_findLots 69 = .ok (.iconst 1, 1) := dk_4 (dk_at dksX7_findLots_2 22 rfl rfl)
theorem dX7_findLots_70 : decode cX7_findLots 70 = .ok (.aload_n 0, 1) := dk_42 (dk_at dksX7_findLots_2 23 rfl rfl)
theorem dX7_findLots_71 : decode cX7_findLots 71 = .ok (.getfield 301, 3) := dk_180 1 45 (dk_at dksX7_findLots_3 0 rfl rfl)
theorem dX7_findLots_74 : decode cX7_findLots 74 = .ok (.l2i, 1) := dk_136 (dk_at dksX7_findLots_3 3 rfl rfl)
theorem dX7_findLots_75 : decode cX7_findLots 75 = .ok (.ishl, 1) := dk_120 (dk_at dksX7_findLots_3 4 rfl rfl)
theorem dX7_findLots_76 : decode cX7_findLots 76 = .ok (.if_icmp .ge 61, 3) := dk_162 0 61 (dk_at dksX7_findLots_3 5 rfl rfl)
theorem dX7_findLots_79 : decode cX7_findLots 79 = .ok (.iload 6, 2) := dk_21 6 (dk_at dksX7_findLots_3 8 rfl rfl)
theorem dX7_findLots_81 : decode cX7_findLots 81 = .ok (.invokestatic 475, 3) := dk_184 1 219 (dk_at dksX7_findLots_3 10 rfl rfl)
theorem dX7_findLots_84 : decode cX7_findLots 84 = .ok (.iload_n 1, 1) := dk_27 (dk_at dksX7_findLots_3 13 rfl rfl)
theorem dX7_findLots_85 : decode cX7_findLots 85 = .ok (.if_icmp .ne 46, 3) := dk_160 0 46 (dk_at dksX7_findLots_3 14 rfl rfl)
theorem dX7_findLots_88 : decode cX7_findLots 88 = .ok (.aload_n 0, 1) := dk_42 (dk_at dksX7_findLots_3 17 rfl rfl)
theorem dX7_findLots_89 : decode cX7_findLots 89 = .ok (.dup, 1) := dk_89 (dk_at dksX7_findLots_3 18 rfl rfl)
theorem dX7_findLots_90 : decode cX7_findLots 90 = .ok (.getfield 285, 3) := dk_180 1 29 (dk_at dksX7_findLots_3 19 rfl rfl)
theorem dX7_findLots_93 : decode cX7_findLots 93 = .ok (.lconst 1, 1) := dk_10 (dk_at dksX7_findLots_3 22 rfl rfl)
theorem dX7_findLots_94 : decode cX7_findLots 94 = .ok (.ladd, 1) := dk_97 (dk_at dksX7_findLots_3 23 rfl rfl)
theorem dX7_findLots_95 : decode cX7_findLots 95 = .ok (.putfield 285, 3) := dk_181 1 29 (dk_at dksX7_findLots_4 0 rfl rfl)
theorem dX7_findLots_98 : decode cX7_findLots 98 = .ok (.aload_n 0, 1) := dk_42 (dk_at dksX7_findLots_4 3 rfl rfl)
theorem dX7_findLots_99 : decode cX7_findLots 99 = .ok (.dup, 1) := dk_89 (dk_at dksX7_findLots_4 4 rfl rfl)
theorem dX7_findLots_100 : decode cX7_findLots 100 = .ok (.getfield 281, 3) := dk_180 1 25 (dk_at dksX7_findLots_4 5 rfl rfl)
theorem dX7_findLots_103 : decode cX7_findLots 103 = .ok (.lload 4, 2) := dk_22 4 (dk_at dksX7_findLots_4 8 rfl rfl)
theorem dX7_findLots_105 : decode cX7_findLots 105 = .ok (.aload_n 0, 1) := dk_42 (dk_at dksX7_findLots_4 10 rfl rfl)
theorem dX7_findLots_106 : decode cX7_findLots 106 = .ok (.getfield 196, 3) := dk_180 0 196 (dk_at dksX7_findLots_4 11 rfl rfl)
theorem dX7_findLots_109 : decode cX7_findLots 109 = .ok (.iload 6, 2) := dk_21 6 (dk_at dksX7_findLots_4 14 rfl rfl)
theorem dX7_findLots_111 : decode cX7_findLots 111 = .ok (.invokestatic 478, 3) := dk_184 1 222 (dk_at dksX7_findLots_4 16 rfl rfl)
theorem dX7_findLots_114 : decode cX7_findLots 114 = .ok (.lsub, 1) := dk_101 (dk_at dksX7_findLots_4 19 rfl rfl)
theorem dX7_findLots_115 : decode cX7_findLots 115 = .ok (.invokestatic 471, 3) := dk_184 1 215 (dk_at dksX7_findLots_4 20 rfl rfl)
theorem dX7_findLots_118 : decode cX7_findLots 118 = .ok (.iload_n 2, 1) := dk_28 (dk_at dksX7_findLots_4 23 rfl rfl)
theorem dX7_findLots_119 : decode cX7_findLots 119 = .ok (.if_icmp .ne 7, 3) := dk_160 0 7 (dk_at dksX7_findLots_5 0 rfl rfl)
theorem dX7_findLots_122 : decode cX7_findLots 122 = .ok (.lconst 1, 1) := dk_10 (dk_at dksX7_findLots_5 3 rfl rfl)
theorem dX7_findLots_123 : decode cX7_findLots 123 = .ok (.goto 4, 3) := dk_167 0 4 (dk_at dksX7_findLots_5 4 rfl rfl)
theorem dX7_findLots_126 : decode cX7_findLots 126 = .ok (.lconst 0, 1) := dk_9 (dk_at dksX7_findLots_5 7 rfl rfl)
theorem dX7_findLots_127 : decode cX7_findLots 127 = .ok (.ladd, 1) := dk_97 (dk_at dksX7_findLots_5 8 rfl rfl)
theorem dX7_findLots_128 : decode cX7_findLots 128 = .ok (.putfield 281, 3) := dk_181 1 25 (dk_at dksX7_findLots_5 9 rfl rfl)
theorem dX7_findLots_131 : decode cX7_findLots 131 = .ok (.iinc 6 1, 3) := dk_132 6 1 (dk_at dksX7_findLots_5 12 rfl rfl)
theorem dX7_findLots_134 : decode cX7_findLots 134 = .ok (.goto (-67), 3) := dk_167 255 189 (dk_at dksX7_findLots_5 15 rfl rfl)
theorem dX7_findLots_137 : decode cX7_findLots 137 = .ok (.iinc 3 1, 3) := dk_132 3 1 (dk_at dksX7_findLots_5 18 rfl rfl)
theorem dX7_findLots_140 : decode cX7_findLots 140 = .ok (.goto (-105), 3) := dk_167 255 151 (dk_at dksX7_findLots_5 21 rfl rfl)
theorem dX7_findLots_143 : decode cX7_findLots 143 = .ok (.return_, 1) := dk_177 (dk_at dksX7_findLots_6 0 rfl rfl)
def dkwX7_signOf_0 : List UInt8 := [30, 9, 148, 156, 0, 7, 2, 167, 0, 14, 30, 9, 148, 158, 0, 7, 4, 167, 0, 4, 3, 172]
abbrev dktX7_signOf_0 : List UInt8 := dkwX7_signOf_0 ++ []
theorem dksX7_signOf_0 : cX7_signOf.data.toList.drop 0 = dktX7_signOf_0 := by decide +kernel
theorem dX7_signOf_0 : decode cX7_signOf 0 = .ok (.lload_n 0, 1) := dk_30 (dk_at dksX7_signOf_0 0 rfl rfl)
theorem dX7_signOf_1 : decode cX7_signOf 1 = .ok (.lconst 0, 1) := dk_9 (dk_at dksX7_signOf_0 1 rfl rfl)
theorem dX7_signOf_2 : decode cX7_signOf 2 = .ok (.lcmp, 1) := dk_148 (dk_at dksX7_signOf_0 2 rfl rfl)
theorem dX7_signOf_3 : decode cX7_signOf 3 = .ok (.ifCond .ge 7, 3) := dk_156 0 7 (dk_at dksX7_signOf_0 3 rfl rfl)
theorem dX7_signOf_6 : decode cX7_signOf 6 = .ok (.iconst (-1), 1) := dk_2 (dk_at dksX7_signOf_0 6 rfl rfl)
theorem dX7_signOf_7 : decode cX7_signOf 7 = .ok (.goto 14, 3) := dk_167 0 14 (dk_at dksX7_signOf_0 7 rfl rfl)
theorem dX7_signOf_10 : decode cX7_signOf 10 = .ok (.lload_n 0, 1) := dk_30 (dk_at dksX7_signOf_0 10 rfl rfl)
theorem dX7_signOf_11 : decode cX7_signOf 11 = .ok (.lconst 0, 1) := dk_9 (dk_at dksX7_signOf_0 11 rfl rfl)
theorem dX7_signOf_12 : decode cX7_signOf 12 = .ok (.lcmp, 1) := dk_148 (dk_at dksX7_signOf_0 12 rfl rfl)
theorem dX7_signOf_13 : decode cX7_signOf 13 = .ok (.ifCond .le 7, 3) := dk_158 0 7 (dk_at dksX7_signOf_0 13 rfl rfl)
theorem dX7_signOf_16 : decode cX7_signOf 16 = .ok (.iconst 1, 1) := dk_4 (dk_at dksX7_signOf_0 16 rfl rfl)
theorem dX7_signOf_17 : decode cX7_signOf 17 = .ok (.goto 4, 3) := dk_167 0 4 (dk_at dksX7_signOf_0 17 rfl rfl)
theorem dX7_signOf_20 : decode cX7_signOf 20 = .ok (.iconst 0, 1) := dk_3 (dk_at dksX7_signOf_0 20 rfl rfl)
theorem dX7_signOf_21 : decode cX7_signOf 21 = .ok (.ireturn, 1) := dk_172 (dk_at dksX7_signOf_0 21 rfl rfl)
def dkwX7_bits_1 : List UInt8 := [27, 172]
abbrev dktX7_bits_1 : List UInt8 := dkwX7_bits_1 ++ []
def dkwX7_bits_0 : List UInt8 := [3, 60, 3, 61, 28, 16, 9, 162, 0, 17, 27, 26, 28, 122, 4, 126, 96, 60, 132, 2, 1, 167, 255, 239]
abbrev dktX7_bits_0 : List UInt8 := dkwX7_bits_0 ++ dktX7_bits_1
theorem dksX7_bits_0 : cX7_bits.data.toList.drop 0 = dktX7_bits_0 := by decide +kernel
theorem dksX7_bits_1 : cX7_bits.data.toList.drop 24 = dktX7_bits_1 := dk_seg dksX7_bits_0 24 rfl rfl
theorem dX7_bits_0 : decode cX7_bits 0 = .ok (.iconst 0, 1) := dk_3 (dk_at dksX7_bits_0 0 rfl rfl)
theorem dX7_bits_1 : decode cX7_bits 1 = .ok (.istore_n 1, 1) := dk_60 (dk_at dksX7_bits_0 1 rfl rfl)
theorem dX7_bits_2 : decode cX7_bits 2 = .ok (.iconst 0, 1) := dk_3 (dk_at dksX7_bits_0 2 rfl rfl)
theorem dX7_bits_3 : decode cX7_bits 3 = .ok (.istore_n 2, 1) := dk_61 (dk_at dksX7_bits_0 3 rfl rfl)
theorem dX7_bits_4 : decode cX7_bits 4 = .ok (.iload_n 2, 1) := dk_28 (dk_at dksX7_bits_0 4 rfl rfl)
theorem dX7_bits_5 : decode cX7_bits 5 = .ok (.bipush 9, 2) := dk_16 9 (dk_at dksX7_bits_0 5 rfl rfl)
theorem dX7_bits_7 : decode cX7_bits 7 = .ok (.if_icmp .ge 17, 3) := dk_162 0 17 (dk_at dksX7_bits_0 7 rfl rfl)
theorem dX7_bits_10 : decode cX7_bits 10 = .ok (.iload_n 1, 1) := dk_27 (dk_at dksX7_bits_0 10 rfl rfl)
theorem dX7_bits_11 : decode cX7_bits 11 = .ok (.iload_n 0, 1) := dk_26 (dk_at dksX7_bits_0 11 rfl rfl)
theorem dX7_bits_12 : decode cX7_bits 12 = .ok (.iload_n 2, 1) := dk_28 (dk_at dksX7_bits_0 12 rfl rfl)
theorem dX7_bits_13 : decode cX7_bits 13 = .ok (.ishr, 1) := dk_122 (dk_at dksX7_bits_0 13 rfl rfl)
theorem dX7_bits_14 : decode cX7_bits 14 = .ok (.iconst 1, 1) := dk_4 (dk_at dksX7_bits_0 14 rfl rfl)
theorem dX7_bits_15 : decode cX7_bits 15 = .ok (.iand, 1) := dk_126 (dk_at dksX7_bits_0 15 rfl rfl)
theorem dX7_bits_16 : decode cX7_bits 16 = .ok (.iadd, 1) := dk_96 (dk_at dksX7_bits_0 16 rfl rfl)
theorem dX7_bits_17 : decode cX7_bits 17 = .ok (.istore_n 1, 1) := dk_60 (dk_at dksX7_bits_0 17 rfl rfl)
theorem dX7_bits_18 : decode cX7_bits 18 = .ok (.iinc 2 1, 3) := dk_132 2 1 (dk_at dksX7_bits_0 18 rfl rfl)
theorem dX7_bits_21 : decode cX7_bits 21 = .ok (.goto (-17), 3) := dk_167 255 239 (dk_at dksX7_bits_0 21 rfl rfl)
theorem dX7_bits_24 : decode cX7_bits 24 = .ok (.iload_n 1, 1) := dk_27 (dk_at dksX7_bits_1 0 rfl rfl)
theorem dX7_bits_25 : decode cX7_bits 25 = .ok (.ireturn, 1) := dk_172 (dk_at dksX7_bits_1 1 rfl rfl)
def dkwX7_sumIn_1 : List UInt8 := [21, 4, 46, 133, 167, 0, 4, 9, 97, 65, 132, 4, 1, 167, 255, 224, 32, 173]
abbrev dktX7_sumIn_1 : List UInt8 := dkwX7_sumIn_1 ++ []
def dkwX7_sumIn_0 : List UInt8 := [9, 65, 3, 54, 4, 21, 4, 16, 9, 162, 0, 31, 32, 27, 21, 4, 122, 4, 126, 4, 160, 0, 11, 42]
abbrev dktX7_sumIn_0 : List UInt8 := dkwX7_sumIn_0 ++ dktX7_sumIn_1
theorem dksX7_sumIn_0 : cX7_sumIn.data.toList.drop 0 = dktX7_sumIn_0 := by decide +kernel
theorem dksX7_sumIn_1 : cX7_sumIn.data.toList.drop 24 = dktX7_sumIn_1 := dk_seg dksX7_sumIn_0 24 rfl rfl
theorem dX7_sumIn_0 : decode cX7_sumIn 0 = .ok (.lconst 0, 1) := dk_9 (dk_at dksX7_sumIn_0 0 rfl rfl)
theorem dX7_sumIn_1 : decode cX7_sumIn 1 = .ok (.lstore_n 2, 1) := dk_65 (dk_at dksX7_sumIn_0 1 rfl rfl)
theorem dX7_sumIn_2 : decode cX7_sumIn 2 = .ok (.iconst 0, 1) := dk_3 (dk_at dksX7_sumIn_0 2 rfl rfl)
theorem dX7_sumIn_3 : decode cX7_sumIn 3 = .ok (.istore 4, 2) := dk_54 4 (dk_at dksX7_sumIn_0 3 rfl rfl)
theorem dX7_sumIn_5 : decode cX7_sumIn 5 = .ok (.iload 4, 2) := dk_21 4 (dk_at dksX7_sumIn_0 5 rfl rfl)
theorem dX7_sumIn_7 : decode cX7_sumIn 7 = .ok (.bipush 9, 2) := dk_16 9 (dk_at dksX7_sumIn_0 7 rfl rfl)
theorem dX7_sumIn_9 : decode cX7_sumIn 9 = .ok (.if_icmp .ge 31, 3) := dk_162 0 31 (dk_at dksX7_sumIn_0 9 rfl rfl)
theorem dX7_sumIn_12 : decode cX7_sumIn 12 = .ok (.lload_n 2, 1) := dk_32 (dk_at dksX7_sumIn_0 12 rfl rfl)
theorem dX7_sumIn_13 : decode cX7_sumIn 13 = .ok (.iload_n 1, 1) := dk_27 (dk_at dksX7_sumIn_0 13 rfl rfl)
theorem dX7_sumIn_14 : decode cX7_sumIn 14 = .ok (.iload 4, 2) := dk_21 4 (dk_at dksX7_sumIn_0 14 rfl rfl)
theorem dX7_sumIn_16 : decode cX7_sumIn 16 = .ok (.ishr, 1) := dk_122 (dk_at dksX7_sumIn_0 16 rfl rfl)
theorem dX7_sumIn_17 : decode cX7_sumIn 17 = .ok (.iconst 1, 1) := dk_4 (dk_at dksX7_sumIn_0 17 rfl rfl)
theorem dX7_sumIn_18 : decode cX7_sumIn 18 = .ok (.iand, 1) := dk_126 (dk_at dksX7_sumIn_0 18 rfl rfl)
theorem dX7_sumIn_19 : decode cX7_sumIn 19 = .ok (.iconst 1, 1) := dk_4 (dk_at dksX7_sumIn_0 19 rfl rfl)
theorem dX7_sumIn_20 : decode cX7_sumIn 20 = .ok (.if_icmp .ne 11, 3) := dk_160 0 11 (dk_at dksX7_sumIn_0 20 rfl rfl)
theorem dX7_sumIn_23 : decode cX7_sumIn 23 = .ok (.aload_n 0, 1) := dk_42 (dk_at dksX7_sumIn_0 23 rfl rfl)
theorem dX7_sumIn_24 : decode cX7_sumIn 24 = .ok (.iload 4, 2) := dk_21 4 (dk_at dksX7_sumIn_1 0 rfl rfl)
theorem dX7_sumIn_26 : decode cX7_sumIn 26 = .ok (.iaload, 1) := dk_46 (dk_at dksX7_sumIn_1 2 rfl rfl)
theorem dX7_sumIn_27 : decode cX7_sumIn 27 = .ok (.i2l, 1) := dk_133 (dk_at dksX7_sumIn_1 3 rfl rfl)
theorem dX7_sumIn_28 : decode cX7_sumIn 28 = .ok (.goto 4, 3) := dk_167 0 4 (dk_at dksX7_sumIn_1 4 rfl rfl)
theorem dX7_sumIn_31 : decode cX7_sumIn 31 = .ok (.lconst 0, 1) := dk_9 (dk_at dksX7_sumIn_1 7 rfl rfl)
theorem dX7_sumIn_32 : decode cX7_sumIn 32 = .ok (.ladd, 1) := dk_97 (dk_at dksX7_sumIn_1 8 rfl rfl)
theorem dX7_sumIn_33 : decode cX7_sumIn 33 = .ok (.lstore_n 2, 1) := dk_65 (dk_at dksX7_sumIn_1 9 rfl rfl)
theorem dX7_sumIn_34 : decode cX7_sumIn 34 = .ok (.iinc 4 1, 3) := dk_132 4 1 (dk_at dksX7_sumIn_1 10 rfl rfl)
theorem dX7_sumIn_37 : decode cX7_sumIn 37 = .ok (.goto (-32), 3) := dk_167 255 224 (dk_at dksX7_sumIn_1 13 rfl rfl)
theorem dX7_sumIn_40 : decode cX7_sumIn 40 = .ok (.lload_n 2, 1) := dk_32 (dk_at dksX7_sumIn_1 16 rfl rfl)
theorem dX7_sumIn_41 : decode cX7_sumIn 41 = .ok (.lreturn, 1) := dk_173 (dk_at dksX7_sumIn_1 17 rfl rfl)
def dkwX7_needed_3 : List UInt8 := [148, 155, 0, 6, 21, 4, 172, 132, 4, 1, 167, 255, 203, 2, 172]
abbrev dktX7_needed_3 : List UInt8 := dkwX7_needed_3 ++ []
def dkwX7_needed_2 : List UInt8 := [157, 0, 37, 42, 21, 4, 182, 1, 229, 20, 1, 232, 42, 180, 1, 25, 105, 29, 133, 42, 180, 1, 29, 105]
abbrev dktX7_needed_2 : List UInt8 := dkwX7_needed_2 ++ dktX7_needed_3
def dkwX7_needed_1 : List UInt8 := [2, 172, 4, 54, 4, 21, 4, 133, 42, 180, 1, 39, 148, 157, 0, 48, 21, 4, 133, 42, 180, 1, 45, 148]
abbrev dktX7_needed_1 : List UInt8 := dkwX7_needed_1 ++ dktX7_needed_2
def dkwX7_needed_0 : List UInt8 := [42, 3, 181, 0, 1, 29, 4, 16, 100, 184, 0, 253, 153, 0, 12, 42, 27, 28, 182, 1, 226, 154, 0, 5]
abbrev dktX7_needed_0 : List UInt8 := dkwX7_needed_0 ++ dktX7_needed_1
theorem dksX7_needed_0 : cX7_needed.data.toList.drop 0 = dktX7_needed_0 := by decide +kernel
theorem dksX7_needed_1 : cX7_needed.data.toList.drop 24 = dktX7_needed_1 := dk_seg dksX7_needed_0 24 rfl rfl
theorem dksX7_needed_2 : cX7_needed.data.toList.drop 48 = dktX7_needed_2 := dk_seg dksX7_needed_1 24 rfl rfl
theorem dksX7_needed_3 : cX7_needed.data.toList.drop 72 = dktX7_needed_3 := dk_seg dksX7_needed_2 24 rfl rfl
theorem dX7_needed_0 : decode cX7_needed 0 = .ok (.aload_n 0, 1) := dk_42 (dk_at dksX7_needed_0 0 rfl rfl)
theorem dX7_needed_1 : decode cX7_needed 1 = .ok (.iconst 0, 1) := dk_3 (dk_at dksX7_needed_0 1 rfl rfl)
theorem dX7_needed_2 : decode cX7_needed 2 = .ok (.putfield 1, 3) := dk_181 0 1 (dk_at dksX7_needed_0 2 rfl rfl)
theorem dX7_needed_5 : decode cX7_needed 5 = .ok (.iload_n 3, 1) := dk_29 (dk_at dksX7_needed_0 5 rfl rfl)
theorem dX7_needed_6 : decode cX7_needed 6 = .ok (.iconst 1, 1) := dk_4 (dk_at dksX7_needed_0 6 rfl rfl)
theorem dX7_needed_7 : decode cX7_needed 7 = .ok (.bipush 100, 2) := dk_16 100 (dk_at dksX7_needed_0 7 rfl rfl)
theorem dX7_needed_9 : decode cX7_needed 9 = .ok (.invokestatic 253, 3) := dk_184 0 253 (dk_at dksX7_needed_0 9 rfl rfl)
theorem dX7_needed_12 : decode cX7_needed 12 = .ok (.ifCond .eq 12, 3) := dk_153 0 12 (dk_at dksX7_needed_0 12 rfl rfl)
theorem dX7_needed_15 : decode cX7_needed 15 = .ok (.aload_n 0, 1) := dk_42 (dk_at dksX7_needed_0 15 rfl rfl)
theorem dX7_needed_16 : decode cX7_needed 16 = .ok (.iload_n 1, 1) := dk_27 (dk_at dksX7_needed_0 16 rfl rfl)
theorem dX7_needed_17 : decode cX7_needed 17 = .ok (.iload_n 2, 1) := dk_28 (dk_at dksX7_needed_0 17 rfl rfl)
theorem dX7_needed_18 : decode cX7_needed 18 = .ok (.invokevirtual 482, 3) := dk_182 1 226 (dk_at dksX7_needed_0 18 rfl rfl)
theorem dX7_needed_21 : decode cX7_needed 21 = .ok (.ifCond .ne 5, 3) := dk_154 0 5 (dk_at dksX7_needed_0 21 rfl rfl)
theorem dX7_needed_24 : decode cX7_needed 24 = .ok (.iconst (-1), 1) := dk_2 (dk_at dksX7_needed_1 0 rfl rfl)
theorem dX7_needed_25 : decode cX7_needed 25 = .ok (.ireturn, 1) := dk_172 (dk_at dksX7_needed_1 1 rfl rfl)
theorem dX7_needed_26 : decode cX7_needed 26 = .ok (.iconst 1, 1) := dk_4 (dk_at dksX7_needed_1 2 rfl rfl)
theorem dX7_needed_27 : decode cX7_needed 27 = .ok (.istore 4, 2) := dk_54 4 (dk_at dksX7_needed_1 3 rfl rfl)
theorem dX7_needed_29 : decode cX7_needed 29 = .ok (.iload 4, 2) := dk_21 4 (dk_at dksX7_needed_1 5 rfl rfl)
theorem dX7_needed_31 : decode cX7_needed 31 = .ok (.i2l, 1) := dk_133 (dk_at dksX7_needed_1 7 rfl rfl)
theorem dX7_needed_32 : decode cX7_needed 32 = .ok (.aload_n 0, 1) := dk_42 (dk_at dksX7_needed_1 8 rfl rfl)
theorem dX7_needed_33 : decode cX7_needed 33 = .ok (.getfield 295, 3) := dk_180 1 39 (dk_at dksX7_needed_1 9 rfl rfl)
theorem dX7_needed_36 : decode cX7_needed 36 = .ok (.lcmp, 1) := dk_148 (dk_at dksX7_needed_1 12 rfl rfl)
theorem dX7_needed_37 : decode cX7_needed 37 = .ok (.ifCond .gt 48, 3) := dk_157 0 48 (dk_at dksX7_needed_1 13 rfl rfl)
theorem dX7_needed_40 : decode cX7_needed 40 = .ok (.iload 4, 2) := dk_21 4 (dk_at dksX7_needed_1 16 rfl rfl)
theorem dX7_needed_42 : decode cX7_needed 42 = .ok (.i2l, 1) := dk_133 (dk_at dksX7_needed_1 18 rfl rfl)
theorem dX7_needed_43 : decode cX7_needed 43 = .ok (.aload_n 0, 1) := dk_42 (dk_at dksX7_needed_1 19 rfl rfl)
theorem dX7_needed_44 : decode cX7_needed 44 = .ok (.getfield 301, 3) := dk_180 1 45 (dk_at dksX7_needed_1 20 rfl rfl)
theorem dX7_needed_47 : decode cX7_needed 47 = .ok (.lcmp, 1) := dk_148 (dk_at dksX7_needed_1 23 rfl rfl)
theorem dX7_needed_48 : decode cX7_needed 48 = .ok (.ifCond .gt 37, 3) := dk_157 0 37 (dk_at dksX7_needed_2 0 rfl rfl)
theorem dX7_needed_51 : decode cX7_needed 51 = .ok (.aload_n 0, 1) := dk_42 (dk_at dksX7_needed_2 3 rfl rfl)
theorem dX7_needed_52 : decode cX7_needed 52 = .ok (.iload 4, 2) := dk_21 4 (dk_at dksX7_needed_2 4 rfl rfl)
theorem dX7_needed_54 : decode cX7_needed 54 = .ok (.invokevirtual 485, 3) := dk_182 1 229 (dk_at dksX7_needed_2 6 rfl rfl)
theorem dX7_needed_57 : decode cX7_needed 57 = .ok (.ldc2_w 488, 3) := dk_20 1 232 (dk_at dksX7_needed_2 9 rfl rfl)
theorem dX7_needed_60 : decode cX7_needed 60 = .ok (.aload_n 0, 1) := dk_42 (dk_at dksX7_needed_2 12 rfl rfl)
theorem dX7_needed_61 : decode cX7_needed 61 = .ok (.getfield 281, 3) := dk_180 1 25 (dk_at dksX7_needed_2 13 rfl rfl)
theorem dX7_needed_64 : decode cX7_needed 64 = .ok (.lmul, 1) := dk_105 (dk_at dksX7_needed_2 16 rfl rfl)
theorem dX7_needed_65 : decode cX7_needed 65 = .ok (.iload_n 3, 1) := dk_29 (dk_at dksX7_needed_2 17 rfl rfl)
theorem dX7_needed_66 : decode cX7_needed 66 = .ok (.i2l, 1) := dk_133 (dk_at dksX7_needed_2 18 rfl rfl)
theorem dX7_needed_67 : decode cX7_needed 67 = .ok (.aload_n 0, 1) := dk_42 (dk_at dksX7_needed_2 19 rfl rfl)
theorem dX7_needed_68 : decode cX7_needed 68 = .ok (.getfield 285, 3) := dk_180 1 29 (dk_at dksX7_needed_2 20 rfl rfl)
theorem dX7_needed_71 : decode cX7_needed 71 = .ok (.lmul, 1) := dk_105 (dk_at dksX7_needed_2 23 rfl rfl)
theorem dX7_needed_72 : decode cX7_needed 72 = .ok (.lcmp, 1) := dk_148 (dk_at dksX7_needed_3 0 rfl rfl)
theorem dX7_needed_73 : decode cX7_needed 73 = .ok (.ifCond .lt 6, 3) := dk_155 0 6 (dk_at dksX7_needed_3 1 rfl rfl)
theorem dX7_needed_76 : decode cX7_needed 76 = .ok (.iload 4, 2) := dk_21 4 (dk_at dksX7_needed_3 4 rfl rfl)
theorem dX7_needed_78 : decode cX7_needed 78 = .ok (.ireturn, 1) := dk_172 (dk_at dksX7_needed_3 6 rfl rfl)
theorem dX7_needed_79 : decode cX7_needed 79 = .ok (.iinc 4 1, 3) := dk_132 4 1 (dk_at dksX7_needed_3 7 rfl rfl)
theorem dX7_needed_82 : decode cX7_needed 82 = .ok (.goto (-53), 3) := dk_167 255 203 (dk_at dksX7_needed_3 10 rfl rfl)
theorem dX7_needed_85 : decode cX7_needed 85 = .ok (.iconst (-1), 1) := dk_2 (dk_at dksX7_needed_3 13 rfl rfl)
theorem dX7_needed_86 : decode cX7_needed 86 = .ok (.ireturn, 1) := dk_172 (dk_at dksX7_needed_3 14 rfl rfl)
def dkwX7_slips_7 : List UInt8 := [21, 4, 167, 0, 5, 21, 5, 172]
abbrev dktX7_slips_7 : List UInt8 := dkwX7_slips_7 ++ []
def dkwX7_slips_6 : List UInt8 := [21, 5, 54, 5, 132, 6, 1, 167, 255, 141, 28, 154, 0, 7, 29, 167, 0, 15, 28, 4, 160, 0, 8]
abbrev dktX7_slips_6 : List UInt8 := dkwX7_slips_6 ++ dktX7_slips_7
def dkwX7_slips_5 : List UInt8 := [158, 0, 7, 4, 167, 0, 4, 3, 96, 54, 4, 21, 8, 21, 5, 164, 0, 8, 21, 8, 167, 0, 5]
abbrev dktX7_slips_5 : List UInt8 := dkwX7_slips_5 ++ dktX7_slips_6
def dkwX7_slips_4 : List UInt8 := [54, 8, 21, 8, 156, 0, 9, 21, 8, 116, 167, 0, 5, 21, 8, 54, 8, 132, 3, 1, 21, 4, 21, 8]
abbrev dktX7_slips_4 : List UInt8 := dkwX7_slips_4 ++ dktX7_slips_5
def dkwX7_slips_3 : List UInt8 := [180, 0, 124, 21, 7, 46, 4, 160, 0, 68, 42, 21, 6, 27, 182, 1, 11, 42, 21, 7, 182, 1, 234, 100]
abbrev dktX7_slips_3 : List UInt8 := dkwX7_slips_3 ++ dktX7_slips_4
def dkwX7_slips_2 : List UInt8 := [54, 7, 42, 180, 0, 93, 21, 6, 51, 153, 0, 89, 42, 180, 0, 115, 21, 7, 46, 153, 0, 79, 42]
abbrev dktX7_slips_2 : List UInt8 := dkwX7_slips_2 ++ dktX7_slips_3
def dkwX7_slips_1 : List UInt8 := [62, 3, 54, 4, 3, 54, 5, 3, 54, 6, 21, 6, 16, 24, 162, 0, 114, 16, 12, 21, 6, 104, 27, 96]
abbrev dktX7_slips_1 : List UInt8 := dkwX7_slips_1 ++ dktX7_slips_2
def dkwX7_slips_0 : List UInt8 := [42, 3, 181, 0, 1, 27, 184, 1, 4, 153, 0, 12, 28, 3, 5, 184, 0, 253, 154, 0, 5, 2, 172, 3]
abbrev dktX7_slips_0 : List UInt8 := dkwX7_slips_0 ++ dktX7_slips_1
theorem dksX7_slips_0 : cX7_slips.data.toList.drop 0 = dktX7_slips_0 := by decide +kernel
theorem dksX7_slips_1 : cX7_slips.data.toList.drop 24 = dktX7_slips_1 := dk_seg dksX7_slips_0 24 rfl rfl
theorem dksX7_slips_2 : cX7_slips.data.toList.drop 48 = dktX7_slips_2 := dk_seg dksX7_slips_1 24 rfl rfl
theorem dksX7_slips_3 : cX7_slips.data.toList.drop 71 = dktX7_slips_3 := dk_seg dksX7_slips_2 23 rfl rfl
theorem dksX7_slips_4 : cX7_slips.data.toList.drop 95 = dktX7_slips_4 := dk_seg dksX7_slips_3 24 rfl rfl
theorem dksX7_slips_5 : cX7_slips.data.toList.drop 119 = dktX7_slips_5 := dk_seg dksX7_slips_4 24 rfl rfl
theorem dksX7_slips_6 : cX7_slips.data.toList.drop 142 = dktX7_slips_6 := dk_seg dksX7_slips_5 23 rfl rfl
theorem dksX7_slips_7 : cX7_slips.data.toList.drop 165 = dktX7_slips_7 := dk_seg dksX7_slips_6 23 rfl rfl
theorem dX7_slips_0 : decode cX7_slips 0 = .ok (.aload_n 0, 1) := dk_42 (dk_at dksX7_slips_0 0 rfl rfl)
theorem dX7_slips_1 : decode cX7_slips 1 = .ok (.iconst 0, 1) := dk_3 (dk_at dksX7_slips_0 1 rfl rfl)
theorem dX7_slips_2 : decode cX7_slips 2 = .ok (.putfield 1, 3) := dk_181 0 1 (dk_at dksX7_slips_0 2 rfl rfl)
theorem dX7_slips_5 : decode cX7_slips 5 = .ok (.iload_n 1, 1) := dk_27 (dk_at dksX7_slips_0 5 rfl rfl)
theorem dX7_slips_6 : decode cX7_slips 6 = .ok (.invokestatic 260, 3) := dk_184 1 4 (dk_at dksX7_slips_0 6 rfl rfl)
theorem dX7_slips_9 : decode cX7_slips 9 = .ok (.ifCond .eq 12, 3) := dk_153 0 12 (dk_at dksX7_slips_0 9 rfl rfl)
theorem dX7_slips_12 : decode cX7_slips 12 = .ok (.iload_n 2, 1) := dk_28 (dk_at dksX7_slips_0 12 rfl rfl)
theorem dX7_slips_13 : decode cX7_slips 13 = .ok (.iconst 0, 1) := dk_3 (dk_at dksX7_slips_0 13 rfl rfl)
theorem dX7_slips_14 : decode cX7_slips 14 = .ok (.iconst 2, 1) := dk_5 (dk_at dksX7_slips_0 14 rfl rfl)
theorem dX7_slips_15 : decode cX7_slips 15 = .ok (.invokestatic 253, 3) := dk_184 0 253 (dk_at dksX7_slips_0 15 rfl rfl)
theorem dX7_slips_18 : decode cX7_slips 18 = .ok (.ifCond .ne 5, 3) := dk_154 0 5 (dk_at dksX7_slips_0 18 rfl rfl)
theorem dX7_slips_21 : decode cX7_slips 21 = .ok (.iconst (-1), 1) := dk_2 (dk_at dksX7_slips_0 21 rfl rfl)
theorem dX7_slips_22 : decode cX7_slips 22 = .ok (.ireturn, 1) := dk_172 (dk_at dksX7_slips_0 22 rfl rfl)
theorem dX7_slips_23 : decode cX7_slips 23 = .ok (.iconst 0, 1) := dk_3 (dk_at dksX7_slips_0 23 rfl rfl)
theorem dX7_slips_24 : decode cX7_slips 24 = .ok (.istore_n 3, 1) := dk_62 (dk_at dksX7_slips_1 0 rfl rfl)
theorem dX7_slips_25 : decode cX7_slips 25 = .ok (.iconst 0, 1) := dk_3 (dk_at dksX7_slips_1 1 rfl rfl)
theorem dX7_slips_26 : decode cX7_slips 26 = .ok (.istore 4, 2) := dk_54 4 (dk_at dksX7_slips_1 2 rfl rfl)
theorem dX7_slips_28 : decode cX7_slips 28 = .ok (.iconst 0, 1) := dk_3 (dk_at dksX7_slips_1 4 rfl rfl)
theorem dX7_slips_29 : decode cX7_slips 29 = .ok (.istore 5, 2) := dk_54 5 (dk_at dksX7_slips_1 5 rfl rfl)
theorem dX7_slips_31 : decode cX7_slips 31 = .ok (.iconst 0, 1) := dk_3 (dk_at dksX7_slips_1 7 rfl rfl)
theorem dX7_slips_32 : decode cX7_slips 32 = .ok (.istore 6, 2) := dk_54 6 (dk_at dksX7_slips_1 8 rfl rfl)
theorem dX7_slips_34 : decode cX7_slips 34 = .ok (.iload 6, 2) := dk_21 6 (dk_at dksX7_slips_1 10 rfl rfl)
theorem dX7_slips_36 : decode cX7_slips 36 = .ok (.bipush 24, 2) := dk_16 24 (dk_at dksX7_slips_1 12 rfl rfl)
theorem dX7_slips_38 : decode cX7_slips 38 = .ok (.if_icmp .ge 114, 3) := dk_162 0 114 (dk_at dksX7_slips_1 14 rfl rfl)
theorem dX7_slips_41 : decode cX7_slips 41 = .ok (.bipush 12, 2) := dk_16 12 (dk_at dksX7_slips_1 17 rfl rfl)
theorem dX7_slips_43 : decode cX7_slips 43 = .ok (.iload 6, 2) := dk_21 6 (dk_at dksX7_slips_1 19 rfl rfl)
theorem dX7_slips_45 : decode cX7_slips 45 = .ok (.imul, 1) := dk_104 (dk_at dksX7_slips_1 21 rfl rfl)
theorem dX7_slips_46 : decode cX7_slips 46 = .ok (.iload_n 1, 1) := dk_27 (dk_at dksX7_slips_1 22 rfl rfl)
theorem dX7_slips_47 : decode cX7_slips 47 = .ok (.iadd, 1) := dk_96 (dk_at dksX7_slips_1 23 rfl rfl)
theorem dX7_slips_48 : decode cX7_slips 48 = .ok (.istore 7, 2) := dk_54 7 (dk_at dksX7_slips_2 0 rfl rfl)
theorem dX7_slips_50 : decode cX7_slips 50 = .ok (.aload_n 0, 1) := dk_42 (dk_at dksX7_slips_2 2 rfl rfl)
theorem dX7_slips_51 : decode cX7_slips 51 = .ok (.getfield 93, 3) := dk_180 0 93 (dk_at dksX7_slips_2 3 rfl rfl)
theorem dX7_slips_54 : decode cX7_slips 54 = .ok (.iload 6, 2) := dk_21 6 (dk_at dksX7_slips_2 6 rfl rfl)
theorem dX7_slips_56 : decode cX7_slips 56 = .ok (.baload, 1) := dk_51 (dk_at dksX7_slips_2 8 rfl rfl)
theorem dX7_slips_57 : decode cX7_slips 57 = .ok (.ifCond .eq 89, 3) := dk_153 0 89 (dk_at dksX7_slips_2 9 rfl rfl)
theorem dX7_slips_60 : decode cX7_slips 60 = .ok (.aload_n 0, 1) := dk_42 (dk_at dksX7_slips_2 12 rfl rfl)
theorem dX7_slips_61 : decode cX7_slips 61 = .ok (.getfield 115, 3) := dk_180 0 115 (dk_at dksX7_slips_2 13 rfl rfl)
theorem dX7_slips_64 : decode cX7_slips 64 = .ok (.iload 7, 2) := dk_21 7 (dk_at dksX7_slips_2 16 rfl rfl)
theorem dX7_slips_66 : decode cX7_slips 66 = .ok (.iaload, 1) := dk_46 (dk_at dksX7_slips_2 18 rfl rfl)
theorem dX7_slips_67 : decode cX7_slips 67 = .ok (.ifCond .eq 79, 3) := dk_153 0 79 (dk_at dksX7_slips_2 19 rfl rfl)
theorem dX7_slips_70 : decode cX7_slips 70 = .ok (.aload_n 0, 1) := dk_42 (dk_at dksX7_slips_2 22 rfl rfl)
theorem dX7_slips_71 : decode cX7_slips 71 = .ok (.getfield 124, 3) := dk_180 0 124 (dk_at dksX7_slips_3 0 rfl rfl)
theorem dX7_slips_74 : decode cX7_slips 74 = .ok (.iload 7, 2) := dk_21 7 (dk_at dksX7_slips_3 3 rfl rfl)
theorem dX7_slips_76 : decode cX7_slips 76 = .ok (.iaload, 1) := dk_46 (dk_at dksX7_slips_3 5 rfl rfl)
theorem dX7_slips_77 : decode cX7_slips 77 = .ok (.iconst 1, 1) := dk_4 (dk_at dksX7_slips_3 6 rfl rfl)
theorem dX7_slips_78 : decode cX7_slips 78 = .ok (.if_icmp .ne 68, 3) := dk_160 0 68 (dk_at dksX7_slips_3 7 rfl rfl)
theorem dX7_slips_81 : decode cX7_slips 81 = .ok (.aload_n 0, 1) := dk_42 (dk_at dksX7_slips_3 10 rfl rfl)
theorem dX7_slips_82 : decode cX7_slips 82 = .ok (.iload 6, 2) := dk_21 6 (dk_at dksX7_slips_3 11 rfl rfl)
theorem dX7_slips_84 : decode cX7_slips 84 = .ok (.iload_n 1, 1) := dk_27 (dk_at dksX7_slips_3 13 rfl rfl)
theorem dX7_slips_85 : decode cX7_slips 85 = .ok (.invokevirtual 267, 3) := dk_182 1 11 (dk_at dksX7_slips_3 14 rfl rfl)
theorem dX7_slips_88 : decode cX7_slips 88 = .ok (.aload_n 0, 1) := dk_42 (dk_at dksX7_slips_3 17 rfl rfl)
theorem dX7_slips_89 : decode cX7_slips 89 = .ok (.iload 7, 2) := dk_21 7 (dk_at dksX7_slips_3 18 rfl rfl)
theorem dX7_slips_91 : decode cX7_slips 91 = .ok (.invokevirtual 490, 3) := dk_182 1 234 (dk_at dksX7_slips_3 20 rfl rfl)
theorem dX7_slips_94 : decode cX7_slips 94 = .ok (.isub, 1) := dk_100 (dk_at dksX7_slips_3 23 rfl rfl)
theorem dX7_slips_95 : decode cX7_slips 95 = .ok (.istore 8, 2) := dk_54 8 (dk_at dksX7_slips_4 0 rfl rfl)
theorem dX7_slips_97 : decode cX7_slips 97 = .ok (.iload 8, 2) := dk_21 8 (dk_at dksX7_slips_4 2 rfl rfl)
theorem dX7_slips_99 : decode cX7_slips 99 = .ok (.ifCond .ge 9, 3) := dk_156 0 9 (dk_at dksX7_slips_4 4 rfl rfl)
theorem dX7_slips_102 : decode cX7_slips 102 = .ok (.iload 8, 2) := dk_21 8 (dk_at dksX7_slips_4 7 rfl rfl)
theorem dX7_slips_104 : decode cX7_slips 104 = .ok (.ineg, 1) := dk_116 (dk_at dksX7_slips_4 9 rfl rfl)
theorem dX7_slips_105 : decode cX7_slips 105 = .ok (.goto 5, 3) := dk_167 0 5 (dk_at dksX7_slips_4 10 rfl rfl)
theorem dX7_slips_108 : decode cX7_slips 108 = .ok (.iload 8, 2) := dk_21 8 (dk_at dksX7_slips_4 13 rfl rfl)
theorem dX7_slips_110 : decode cX7_slips 110 = .ok (.istore 8, 2) := dk_54 8 (dk_at dksX7_slips_4 15 rfl rfl)
theorem dX7_slips_112 : decode cX7_slips 112 = .ok (.iinc 3 1, 3) := dk_132 3 1 (dk_at dksX7_slips_4 17 rfl rfl)
theorem dX7_slips_115 : decode cX7_slips 115 = .ok (.iload 4, 2) := dk_21 4 (dk_at dksX7_slips_4 20 rfl rfl)
theorem dX7_slips_117 : decode cX7_slips 117 = .ok (.iload 8, 2) := dk_21 8 (dk_at dksX7_slips_4 22 rfl rfl)
theorem dX7_slips_119 : decode cX7_slips 119 = .ok (.ifCond .le 7, 3) := dk_158 0 7 (dk_at dksX7_slips_5 0 rfl rfl)
theorem dX7_slips_122 : decode cX7_slips 122 = .ok (.iconst 1, 1) := dk_4 (dk_at dksX7_slips_5 3 rfl rfl)
theorem dX7_slips_123 : decode cX7_slips 123 = .ok (.goto 4, 3) := dk_167 0 4 (dk_at dksX7_slips_5 4 rfl rfl)
theorem dX7_slips_126 : decode cX7_slips 126 = .ok (.iconst 0, 1) := dk_3 (dk_at dksX7_slips_5 7 rfl rfl)
theorem dX7_slips_127 : decode cX7_slips 127 = .ok (.iadd, 1) := dk_96 (dk_at dksX7_slips_5 8 rfl rfl)
theorem dX7_slips_128 : decode cX7_slips 128 = .ok (.istore 4, 2) := dk_54 4 (dk_at dksX7_slips_5 9 rfl rfl)
theorem dX7_slips_130 : decode cX7_slips 130 = .ok (.iload 8, 2) := dk_21 8 (dk_at dksX7_slips_5 11 rfl rfl)
theorem dX7_slips_132 : decode cX7_slips 132 = .ok (.iload 5, 2) := dk_21 5 (dk_at dksX7_slips_5 13 rfl rfl)
theorem dX7_slips_134 : decode cX7_slips 134 = .ok (.if_icmp .le 8, 3) := dk_164 0 8 (dk_at dksX7_slips_5 15 rfl rfl)
theorem dX7_slips_137 : decode cX7_slips 137 = .ok (.iload 8, 2) := dk_21 8 (dk_at dksX7_slips_5 18 rfl rfl)
theorem dX7_slips_139 : decode cX7_slips 139 = .ok (.goto 5, 3) := dk_167 0 5 (dk_at dksX7_slips_5 20 rfl rfl)
theorem dX7_slips_142 : decode cX7_slips 142 = .ok (.iload 5, 2) := dk_21 5 (dk_at dksX7_slips_6 0 rfl rfl)
theorem dX7_slips_144 : decode cX7_slips 144 = .ok (.istore 5, 2) := dk_54 5 (dk_at dksX7_slips_6 2 rfl rfl)
theorem dX7_slips_146 : decode cX7_slips 146 = .ok (.iinc 6 1, 3) := dk_132 6 1 (dk_at dksX7_slips_6 4 rfl rfl)
theorem dX7_slips_149 : decode cX7_slips 149 = .ok (.goto (-115), 3) := dk_167 255 141 (dk_at dksX7_slips_6 7 rfl rfl)
theorem dX7_slips_152 : decode cX7_slips 152 = .ok (.iload_n 2, 1) := dk_28 (dk_at dksX7_slips_6 10 rfl rfl)
theorem dX7_slips_153 : decode cX7_slips 153 = .ok (.ifCond .ne 7, 3) := dk_154 0 7 (dk_at dksX7_slips_6 11 rfl rfl)
theorem dX7_slips_156 : decode cX7_slips 156 = .ok (.iload_n 3, 1) := dk_29 (dk_at dksX7_slips_6 14 rfl rfl)
theorem dX7_slips_157 : decode cX7_slips 157 = .ok (.goto 15, 3) := dk_167 0 15 (dk_at dksX7_slips_6 15 rfl rfl)
theorem dX7_slips_160 : decode cX7_slips 160 = .ok (.iload_n 2, 1) := dk_28 (dk_at dksX7_slips_6 18 rfl rfl)
theorem dX7_slips_161 : decode cX7_slips 161 = .ok (.iconst 1, 1) := dk_4 (dk_at dksX7_slips_6 19 rfl rfl)
theorem dX7_slips_162 : decode cX7_slips 162 = .ok (.if_icmp .ne 8, 3) := dk_160 0 8 (dk_at dksX7_slips_6 20 rfl rfl)
theorem dX7_slips_165 : decode cX7_slips 165 = .ok (.iload 4, 2) := dk_21 4 (dk_at dksX7_slips_7 0 rfl rfl)
theorem dX7_slips_167 : decode cX7_slips 167 = .ok (.goto 5, 3) := dk_167 0 5 (dk_at dksX7_slips_7 2 rfl rfl)
theorem dX7_slips_170 : decode cX7_slips 170 = .ok (.iload 5, 2) := dk_21 5 (dk_at dksX7_slips_7 5 rfl rfl)
theorem dX7_slips_172 : decode cX7_slips 172 = .ok (.ireturn, 1) := dk_172 (dk_at dksX7_slips_7 7 rfl rfl)
def dkwX7_sheetHands_0 : List UInt8 := [42, 42, 180, 0, 127, 27, 46, 42, 180, 0, 130, 27, 46, 182, 1, 7, 172]
abbrev dktX7_sheetHands_0 : List UInt8 := dkwX7_sheetHands_0 ++ []
theorem dksX7_sheetHands_0 : cX7_sheetHands.data.toList.drop 0 = dktX7_sheetHands_0 := by decide +kernel
theorem dX7_sheetHands_0 : decode cX7_sheetHands 0 = .ok (.aload_n 0, 1) := dk_42 (dk_at dksX7_sheetHands_0 0 rfl rfl)
theorem dX7_sheetHands_1 : decode cX7_sheetHands 1 = .ok (.aload_n 0, 1) := dk_42 (dk_at dksX7_sheetHands_0 1 rfl rfl)
theorem dX7_sheetHands_2 : decode cX7_sheetHands 2 = .ok (.getfield 127, 3) := dk_180 0 127 (dk_at dksX7_sheetHands_0 2 rfl rfl)
theorem dX7_sheetHands_5 : decode cX7_sheetHands 5 = .ok (.iload_n 1, 1) := dk_27 (dk_at dksX7_sheetHands_0 5 rfl rfl)
theorem dX7_sheetHands_6 : decode cX7_sheetHands 6 = .ok (.iaload, 1) := dk_46 (dk_at dksX7_sheetHands_0 6 rfl rfl)
theorem dX7_sheetHands_7 : decode cX7_sheetHands 7 = .ok (.aload_n 0, 1) := dk_42 (dk_at dksX7_sheetHands_0 7 rfl rfl)
theorem dX7_sheetHands_8 : decode cX7_sheetHands 8 = .ok (.getfield 130, 3) := dk_180 0 130 (dk_at dksX7_sheetHands_0 8 rfl rfl)
theorem dX7_sheetHands_11 : decode cX7_sheetHands 11 = .ok (.iload_n 1, 1) := dk_27 (dk_at dksX7_sheetHands_0 11 rfl rfl)
theorem dX7_sheetHands_12 : decode cX7_sheetHands 12 = .ok (.iaload, 1) := dk_46 (dk_at dksX7_sheetHands_0 12 rfl rfl)
theorem dX7_sheetHands_13 : decode cX7_sheetHands 13 = .ok (.invokevirtual 263, 3) := dk_182 1 7 (dk_at dksX7_sheetHands_0 13 rfl rfl)
theorem dX7_sheetHands_16 : decode cX7_sheetHands 16 = .ok (.ireturn, 1) := dk_172 (dk_at dksX7_sheetHands_0 16 rfl rfl)
def dkwX7_mixed_10 : List UInt8 := [180, 0, 1, 158, 0, 7, 9, 167, 0, 10, 42, 29, 5, 112, 182, 1, 65, 173]
abbrev dktX7_mixed_10 : List UInt8 := dkwX7_mixed_10 ++ []
def dkwX7_mixed_9 : List UInt8 := [132, 4, 1, 167, 255, 85, 42, 42, 182, 1, 55, 153, 0, 7, 3, 167, 0, 4, 4, 181, 0, 1, 42]
abbrev dktX7_mixed_9 : List UInt8 := dkwX7_mixed_9 ++ dktX7_mixed_10
def dkwX7_mixed_8 : List UInt8 := [162, 0, 7, 4, 167, 0, 4, 3, 160, 0, 9, 21, 7, 133, 167, 0, 6, 21, 8, 133, 182, 1, 51]
abbrev dktX7_mixed_8 : List UInt8 := dkwX7_mixed_8 ++ dktX7_mixed_9
def dkwX7_mixed_7 : List UInt8 := [54, 9, 42, 42, 180, 0, 97, 21, 4, 46, 154, 0, 7, 4, 167, 0, 4, 3, 21, 9, 21, 7, 21, 8]
abbrev dktX7_mixed_7 : List UInt8 := dkwX7_mixed_7 ++ dktX7_mixed_8
def dkwX7_mixed_6 : List UInt8 := [42, 180, 0, 97, 21, 4, 46, 154, 0, 7, 4, 167, 0, 4, 3, 160, 0, 7, 4, 167, 0, 4, 3]
abbrev dktX7_mixed_6 : List UInt8 := dkwX7_mixed_6 ++ dktX7_mixed_7
def dkwX7_mixed_5 : List UInt8 := [42, 21, 5, 182, 1, 234, 100, 167, 0, 5, 21, 7, 54, 8, 29, 5, 162, 0, 7, 4, 167, 0, 4, 3]
abbrev dktX7_mixed_5 : List UInt8 := dkwX7_mixed_5 ++ dktX7_mixed_6
def dkwX7_mixed_4 : List UInt8 := [21, 5, 46, 4, 160, 0, 30, 42, 180, 0, 124, 21, 6, 46, 4, 160, 0, 19, 42, 21, 6, 182, 1, 234]
abbrev dktX7_mixed_4 : List UInt8 := dkwX7_mixed_4 ++ dktX7_mixed_5
def dkwX7_mixed_3 : List UInt8 := [16, 12, 21, 4, 104, 28, 96, 54, 6, 42, 21, 4, 27, 28, 182, 1, 21, 54, 7, 42, 180, 0, 124]
abbrev dktX7_mixed_3 : List UInt8 := dkwX7_mixed_3 ++ dktX7_mixed_4
def dkwX7_mixed_2 : List UInt8 := [162, 0, 170, 42, 21, 4, 27, 28, 182, 1, 18, 153, 0, 153, 16, 12, 21, 4, 104, 27, 96, 54, 5]
abbrev dktX7_mixed_2 : List UInt8 := dkwX7_mixed_2 ++ dktX7_mixed_3
def dkwX7_mixed_1 : List UInt8 := [181, 0, 1, 42, 180, 0, 1, 158, 0, 5, 9, 173, 42, 182, 1, 48, 3, 54, 4, 21, 4, 16, 24]
abbrev dktX7_mixed_1 : List UInt8 := dkwX7_mixed_1 ++ dktX7_mixed_2
def dkwX7_mixed_0 : List UInt8 := [42, 27, 28, 184, 1, 14, 153, 0, 16, 29, 3, 6, 184, 0, 253, 153, 0, 7, 3, 167, 0, 4, 4]
abbrev dktX7_mixed_0 : List UInt8 := dkwX7_mixed_0 ++ dktX7_mixed_1
theorem dksX7_mixed_0 : cX7_mixed.data.toList.drop 0 = dktX7_mixed_0 := by decide +kernel
theorem dksX7_mixed_1 : cX7_mixed.data.toList.drop 23 = dktX7_mixed_1 := dk_seg dksX7_mixed_0 23 rfl rfl
theorem dksX7_mixed_2 : cX7_mixed.data.toList.drop 46 = dktX7_mixed_2 := dk_seg dksX7_mixed_1 23 rfl rfl
theorem dksX7_mixed_3 : cX7_mixed.data.toList.drop 69 = dktX7_mixed_3 := dk_seg dksX7_mixed_2 23 rfl rfl
theorem dksX7_mixed_4 : cX7_mixed.data.toList.drop 92 = dktX7_mixed_4 := dk_seg dksX7_mixed_3 23 rfl rfl
theorem dksX7_mixed_5 : cX7_mixed.data.toList.drop 116 = dktX7_mixed_5 := dk_seg dksX7_mixed_4 24 rfl rfl
theorem dksX7_mixed_6 : cX7_mixed.data.toList.drop 140 = dktX7_mixed_6 := dk_seg dksX7_mixed_5 24 rfl rfl
theorem dksX7_mixed_7 : cX7_mixed.data.toList.drop 163 = dktX7_mixed_7 := dk_seg dksX7_mixed_6 23 rfl rfl
theorem dksX7_mixed_8 : cX7_mixed.data.toList.drop 187 = dktX7_mixed_8 := dk_seg dksX7_mixed_7 24 rfl rfl
theorem dksX7_mixed_9 : cX7_mixed.data.toList.drop 210 = dktX7_mixed_9 := dk_seg dksX7_mixed_8 23 rfl rfl
theorem dksX7_mixed_10 : cX7_mixed.data.toList.drop 233 = dktX7_mixed_10 := dk_seg dksX7_mixed_9 23 rfl rfl
theorem dX7_mixed_0 : decode cX7_mixed 0 = .ok (.aload_n 0, 1) := dk_42 (dk_at dksX7_mixed_0 0 rfl rfl)
theorem dX7_mixed_1 : decode cX7_mixed 1 = .ok (.iload_n 1, 1) := dk_27 (dk_at dksX7_mixed_0 1 rfl rfl)
theorem dX7_mixed_2 : decode cX7_mixed 2 = .ok (.iload_n 2, 1) := dk_28 (dk_at dksX7_mixed_0 2 rfl rfl)
theorem dX7_mixed_3 : decode cX7_mixed 3 = .ok (.invokestatic 270, 3) := dk_184 1 14 (dk_at dksX7_mixed_0 3 rfl rfl)
theorem dX7_mixed_6 : decode cX7_mixed 6 = .ok (.ifCond .eq 16, 3) := dk_153 0 16 (dk_at dksX7_mixed_0 6 rfl rfl)
theorem dX7_mixed_9 : decode cX7_mixed 9 = .ok (.iload_n 3, 1) := dk_29 (dk_at dksX7_mixed_0 9 rfl rfl)
theorem dX7_mixed_10 : decode cX7_mixed 10 = .ok (.iconst 0, 1) := dk_3 (dk_at dksX7_mixed_0 10 rfl rfl)
theorem dX7_mixed_11 : decode cX7_mixed 11 = .ok (.iconst 3, 1) := dk_6 (dk_at dksX7_mixed_0 11 rfl rfl)
theorem dX7_mixed_12 : decode cX7_mixed 12 = .ok (.invokestatic 253, 3) := dk_184 0 253 (dk_at dksX7_mixed_0 12 rfl rfl)
theorem dX7_mixed_15 : decode cX7_mixed 15 = .ok (.ifCond .eq 7, 3) := dk_153 0 7 (dk_at dksX7_mixed_0 15 rfl rfl)
theorem dX7_mixed_18 : decode cX7_mixed 18 = .ok (.iconst 0, 1) := dk_3 (dk_at dksX7_mixed_0 18 rfl rfl)
theorem dX7_mixed_19 : decode cX7_mixed 19 = .ok (.goto 4, 3) := dk_167 0 4 (dk_at dksX7_mixed_0 19 rfl rfl)
theorem dX7_mixed_22 : decode cX7_mixed 22 = .ok (.iconst 1, 1) := dk_4 (dk_at dksX7_mixed_0 22 rfl rfl)
theorem dX7_mixed_23 : decode cX7_mixed 23 = .ok (.putfield 1, 3) := dk_181 0 1 (dk_at dksX7_mixed_1 0 rfl rfl)
theorem dX7_mixed_26 : decode cX7_mixed 26 = .ok (.aload_n 0, 1) := dk_42 (dk_at dksX7_mixed_1 3 rfl rfl)
theorem dX7_mixed_27 : decode cX7_mixed 27 = .ok (.getfield 1, 3) := dk_180 0 1 (dk_at dksX7_mixed_1 4 rfl rfl)
theorem dX7_mixed_30 : decode cX7_mixed 30 = .ok (.ifCond .le 5, 3) := dk_158 0 5 (dk_at dksX7_mixed_1 7 rfl rfl)
theorem dX7_mixed_33 : decode cX7_mixed 33 = .ok (.lconst 0, 1) := dk_9 (dk_at dksX7_mixed_1 10 rfl rfl)
theorem dX7_mixed_34 : decode cX7_mixed 34 = .ok (.lreturn, 1) := dk_173 (dk_at dksX7_mixed_1 11 rfl rfl)
theorem dX7_mixed_35 : decode cX7_mixed 35 = .ok (.aload_n 0, 1) := dk_42 (dk_at dksX7_mixed_1 12 rfl rfl)
theorem dX7_mixed_36 : decode cX7_mixed 36 = .ok (.invokevirtual 304, 3) := dk_182 1 48 (dk_at dksX7_mixed_1 13 rfl rfl)
theorem dX7_mixed_39 : decode cX7_mixed 39 = .ok (.iconst 0, 1) := dk_3 (dk_at dksX7_mixed_1 16 rfl rfl)
theorem dX7_mixed_40 : decode cX7_mixed 40 = .ok (.istore 4, 2) := dk_54 4 (dk_at dksX7_mixed_1 17 rfl rfl)
theorem dX7_mixed_42 : decode cX7_mixed 42 = .ok (.iload 4, 2) := dk_21 4 (dk_at dksX7_mixed_1 19 rfl rfl)
theorem dX7_mixed_44 : decode cX7_mixed 44 = .ok (.bipush 24, 2) := dk_16 24 (dk_at dksX7_mixed_1 21 rfl rfl)
theorem dX7_mixed_46 : decode cX7_mixed 46 = .ok (.if_icmp .ge 170, 3) := dk_162 0 170 (dk_at dksX7_mixed_2 0 rfl rfl)
theorem dX7_mixed_49 : decode cX7_mixed 49 = .ok (.aload_n 0, 1) := dk_42 (dk_at dksX7_mixed_2 3 rfl rfl)
theorem dX7_mixed_50 : decode cX7_mixed 50 = .ok (.iload 4, 2) := dk_21 4 (dk_at dksX7_mixed_2 4 rfl rfl)
theorem dX7_mixed_52 : decode cX7_mixed 52 = .ok (.iload_n 1, 1) := dk_27 (dk_at dksX7_mixed_2 6 rfl rfl)
theorem dX7_mixed_53 : decode cX7_mixed 53 = .ok (.iload_n 2, 1) := dk_28 (dk_at dksX7_mixed_2 7 rfl rfl)
theorem dX7_mixed_54 : decode cX7_mixed 54 = .ok (.invokevirtual 274, 3) := dk_182 1 18 (dk_at dksX7_mixed_2 8 rfl rfl)
theorem dX7_mixed_57 : decode cX7_mixed 57 = .ok (.ifCond .eq 153, 3) := dk_153 0 153 (dk_at dksX7_mixed_2 11 rfl rfl)
theorem dX7_mixed_60 : decode cX7_mixed 60 = .ok (.bipush 12, 2) := dk_16 12 (dk_at dksX7_mixed_2 14 rfl rfl)
theorem dX7_mixed_62 : decode cX7_mixed 62 = .ok (.iload 4, 2) := dk_21 4 (dk_at dksX7_mixed_2 16 rfl rfl)
theorem dX7_mixed_64 : decode cX7_mixed 64 = .ok (.imul, 1) := dk_104 (dk_at dksX7_mixed_2 18 rfl rfl)
theorem dX7_mixed_65 : decode cX7_mixed 65 = .ok (.iload_n 1, 1) := dk_27 (dk_at dksX7_mixed_2 19 rfl rfl)
theorem dX7_mixed_66 : decode cX7_mixed 66 = .ok (.iadd, 1) := dk_96 (dk_at dksX7_mixed_2 20 rfl rfl)
theorem dX7_mixed_67 : decode cX7_mixed 67 = .ok (.istore 5, 2) := dk_54 5 (dk_at dksX7_mixed_2 21 rfl rfl)
theorem dX7_mixed_69 : decode cX7_mixed 69 = .ok (.bipush 12, 2) := dk_16 12 (dk_at dksX7_mixed_3 0 rfl rfl)
theorem dX7_mixed_71 : decode cX7_mixed 71 = .ok (.iload 4, 2) := dk_21 4 (dk_at dksX7_mixed_3 2 rfl rfl)
theorem dX7_mixed_73 : decode cX7_mixed 73 = .ok (.imul, 1) := dk_104 (dk_at dksX7_mixed_3 4 rfl rfl)
theorem dX7_mixed_74 : decode cX7_mixed 74 = .ok (.iload_n 2, 1) := dk_28 (dk_at dksX7_mixed_3 5 rfl rfl)
theorem dX7_mixed_75 : decode cX7_mixed 75 = .ok (.iadd, 1) := dk_96 (dk_at dksX7_mixed_3 6 rfl rfl)
theorem dX7_mixed_76 : decode cX7_mixed 76 = .ok (.istore 6, 2) := dk_54 6 (dk_at dksX7_mixed_3 7 rfl rfl)
theorem dX7_mixed_78 : decode cX7_mixed 78 = .ok (.aload_n 0, 1) := dk_42 (dk_at dksX7_mixed_3 9 rfl rfl)
theorem dX7_mixed_79 : decode cX7_mixed 79 = .ok (.iload 4, 2) := dk_21 4 (dk_at dksX7_mixed_3 10 rfl rfl)
theorem dX7_mixed_81 : decode cX7_mixed 81 = .ok (.iload_n 1, 1) := dk_27 (dk_at dksX7_mixed_3 12 rfl rfl)
theorem dX7_mixed_82 : decode cX7_mixed 82 = .ok (.iload_n 2, 1) := dk_28 (dk_at dksX7_mixed_3 13 rfl rfl)
theorem dX7_mixed_83 : decode cX7_mixed 83 = .ok (.invokevirtual 277, 3) := dk_182 1 21 (dk_at dksX7_mixed_3 14 rfl rfl)
theorem dX7_mixed_86 : decode cX7_mixed 86 = .ok (.istore 7, 2) := dk_54 7 (dk_at dksX7_mixed_3 17 rfl rfl)
theorem dX7_mixed_88 : decode cX7_mixed 88 = .ok (.aload_n 0, 1) := dk_42 (dk_at dksX7_mixed_3 19 rfl rfl)
theorem dX7_mixed_89 : decode cX7_mixed 89 = .ok (.getfield 124, 3) := dk_180 0 124 (dk_at dksX7_mixed_3 20 rfl rfl)
theorem dX7_mixed_92 : decode cX7_mixed 92 = .ok (.iload 5, 2) := dk_21 5 (dk_at dksX7_mixed_4 0 rfl rfl)
theorem dX7_mixed_94 : decode cX7_mixed 94 = .ok (.iaload, 1) := dk_46 (dk_at dksX7_mixed_4 2 rfl rfl)
theorem dX7_mixed_95 : decode cX7_mixed 95 = .ok (.iconst 1, 1) := dk_4 (dk_at dksX7_mixed_4 3 rfl rfl)
theorem dX7_mixed_96 : decode cX7_mixed 96 = .ok (.if_icmp .ne 30, 3) := dk_160 0 30 (dk_at dksX7_mixed_4 4 rfl rfl)
theorem dX7_mixed_99 : decode cX7_mixed 99 = .ok (.aload_n 0, 1) := dk_42 (dk_at dksX7_mixed_4 7 rfl rfl)
theorem dX7_mixed_100 : decode cX7_mixed 100 = .ok (.getfield 124, 3) := dk_180 0 124 (dk_at dksX7_mixed_4 8 rfl rfl)
theorem dX7_mixed_103 : decode cX7_mixed 103 = .ok (.iload 6, 2) := dk_21 6 (dk_at dksX7_mixed_4 11 rfl rfl)
theorem dX7_mixed_105 : decode cX7_mixed 105 = .ok (.iaload, 1) := dk_46 (dk_at dksX7_mixed_4 13 rfl rfl)
theorem dX7_mixed_106 : decode cX7_mixed 106 = .ok (.iconst 1, 1) := dk_4 (dk_at dksX7_mixed_4 14 rfl rfl)
theorem dX7_mixed_107 : decode cX7_mixed 107 = .ok (.if_icmp .ne 19, 3) := dk_160 0 19 (dk_at dksX7_mixed_4 15 rfl rfl)
theorem dX7_mixed_110 : decode cX7_mixed 110 = .ok (.aload_n 0, 1) := dk_42 (dk_at dksX7_mixed_4 18 rfl rfl)
theorem dX7_mixed_111 : decode cX7_mixed 111 = .ok (.iload 6, 2) := dk_21 6 (dk_at dksX7_mixed_4 19 rfl rfl)
theorem dX7_mixed_113 : decode cX7_mixed 113 = .ok (.invokevirtual 490, 3) := dk_182 1 234 (dk_at dksX7_mixed_4 21 rfl rfl)
theorem dX7_mixed_116 : decode cX7_mixed 116 = .ok (.aload_n 0, 1) := dk_42 (dk_at dksX7_mixed_5 0 rfl rfl)
theorem dX7_mixed_117 : decode cX7_mixed 117 = .ok (.iload 5, 2) := dk_21 5 (dk_at dksX7_mixed_5 1 rfl rfl)
theorem dX7_mixed_119 : decode cX7_mixed 119 = .ok (.invokevirtual 490, 3) := dk_182 1 234 (dk_at dksX7_mixed_5 3 rfl rfl)
theorem dX7_mixed_122 : decode cX7_mixed 122 = .ok (.isub, 1) := dk_100 (dk_at dksX7_mixed_5 6 rfl rfl)
theorem dX7_mixed_123 : decode cX7_mixed 123 = .ok (.goto 5, 3) := dk_167 0 5 (dk_at dksX7_mixed_5 7 rfl rfl)
theorem dX7_mixed_126 : decode cX7_mixed 126 = .ok (.iload 7, 2) := dk_21 7 (dk_at dksX7_mixed_5 10 rfl rfl)
theorem dX7_mixed_128 : decode cX7_mixed 128 = .ok (.istore 8, 2) := dk_54 8 (dk_at dksX7_mixed_5 12 rfl rfl)
theorem dX7_mixed_130 : decode cX7_mixed 130 = .ok (.iload_n 3, 1) := dk_29 (dk_at dksX7_mixed_5 14 rfl rfl)
theorem dX7_mixed_131 : decode cX7_mixed 131 = .ok (.iconst 2, 1) := dk_5 (dk_at dksX7_mixed_5 15 rfl rfl)
theorem dX7_mixed_132 : decode cX7_mixed 132 = .ok (.if_icmp .ge 7, 3) := dk_162 0 7 (dk_at dksX7_mixed_5 16 rfl rfl)
theorem dX7_mixed_135 : decode cX7_mixed 135 = .ok (.iconst 1, 1) := dk_4 (dk_at dksX7_mixed_5 19 rfl rfl)
theorem dX7_mixed_136 : decode cX7_mixed 136 = .ok (.goto 4, 3) := dk_167 0 4 (dk_at dksX7_mixed_5 20 rfl rfl)
theorem dX7_mixed_139 : decode cX7_mixed 139 = .ok (.iconst 0, 1) := dk_3 (dk_at dksX7_mixed_5 23 rfl rfl)
theorem dX7_mixed_140 : decode cX7_mixed 140 = .ok (.aload_n 0, 1) := dk_42 (dk_at dksX7_mixed_6 0 rfl rfl)
theorem dX7_mixed_141 : decode cX7_mixed 141 = .ok (.getfield 97, 3) := dk_180 0 97 (dk_at dksX7_mixed_6 1 rfl rfl)
theorem dX7_mixed_144 : decode cX7_mixed 144 = .ok (.iload 4, 2) := dk_21 4 (dk_at dksX7_mixed_6 4 rfl rfl)
theorem dX7_mixed_146 : decode cX7_mixed 146 = .ok (.iaload, 1) := dk_46 (dk_at dksX7_mixed_6 6 rfl rfl)
theorem dX7_mixed_147 : decode cX7_mixed 147 = .ok (.ifCond .ne 7, 3) := dk_154 0 7 (dk_at dksX7_mixed_6 7 rfl rfl)
theorem dX7_mixed_150 : decode cX7_mixed 150 = .ok (.iconst 1, 1) := dk_4 (dk_at dksX7_mixed_6 10 rfl rfl)
theorem dX7_mixed_151 : decode cX7_mixed 151 = .ok (.goto 4, 3) := dk_167 0 4 (dk_at dksX7_mixed_6 11 rfl rfl)
theorem dX7_mixed_154 : decode cX7_mixed 154 = .ok (.iconst 0, 1) := dk_3 (dk_at dksX7_mixed_6 14 rfl rfl)
theorem dX7_mixed_155 : decode cX7_mixed 155 = .ok (.if_icmp .ne 7, 3) := dk_160 0 7 (dk_at dksX7_mixed_6 15 rfl rfl)
theorem dX7_mixed_158 : decode cX7_mixed 158 = .ok (.iconst 1, 1) := dk_4 (dk_at dksX7_mixed_6 18 rfl rfl)
theorem dX7_mixed_159 : decode cX7_mixed 159 = .ok (.goto 4, 3) := dk_167 0 4 (dk_at dksX7_mixed_6 19 rfl rfl)
theorem dX7_mixed_162 : decode cX7_mixed 162 = .ok (.iconst 0, 1) := dk_3 (dk_at dksX7_mixed_6 22 rfl rfl)
theorem dX7_mixed_163 : decode cX7_mixed 163 = .ok (.istore 9, 2) := dk_54 9 (dk_at dksX7_mixed_7 0 rfl rfl)
theorem dX7_mixed_165 : decode cX7_mixed 165 = .ok (.aload_n 0, 1) := dk_42 (dk_at dksX7_mixed_7 2 rfl rfl)
theorem dX7_mixed_166 : decode cX7_mixed 166 = .ok (.aload_n 0, 1) := dk_42 (dk_at dksX7_mixed_7 3 rfl rfl)
theorem dX7_mixed_167 : decode cX7_mixed 167 = .ok (.getfield 97, 3) := dk_180 0 97 (dk_at dksX7_mixed_7 4 rfl rfl)
theorem dX7_mixed_170 : decode cX7_mixed 170 = .ok (.iload 4, 2) := dk_21 4 (dk_at dksX7_mixed_7 7 rfl rfl)
theorem dX7_mixed_172 : decode cX7_mixed 172 = .ok (.iaload, 1) := dk_46 (dk_at dksX7_mixed_7 9 rfl rfl)
theorem dX7_mixed_173 : decode cX7_mixed 173 = .ok (.ifCond .ne 7, 3) := dk_154 0 7 (dk_at dksX7_mixed_7 10 rfl rfl)
theorem dX7_mixed_176 : decode cX7_mixed 176 = .ok (.iconst 1, 1) := dk_4 (dk_at dksX7_mixed_7 13 rfl rfl)
theorem dX7_mixed_177 : decode cX7_mixed 177 = .ok (.goto 4, 3) := dk_167 0 4 (dk_at dksX7_mixed_7 14 rfl rfl)
theorem dX7_mixed_180 : decode cX7_mixed 180 = .ok (.iconst 0, 1) := dk_3 (dk_at dksX7_mixed_7 17 rfl rfl)
theorem dX7_mixed_181 : decode cX7_mixed 181 = .ok (.iload 9, 2) := dk_21 9 (dk_at dksX7_mixed_7 18 rfl rfl)
theorem dX7_mixed_183 : decode cX7_mixed 183 = .ok (.iload 7, 2) := dk_21 7 (dk_at dksX7_mixed_7 20 rfl rfl)
theorem dX7_mixed_185 : decode cX7_mixed 185 = .ok (.iload 8, 2) := dk_21 8 (dk_at dksX7_mixed_7 22 rfl rfl)
theorem dX7_mixed_187 : decode cX7_mixed 187 = .ok (.if_icmp .ge 7, 3) := dk_162 0 7 (dk_at dksX7_mixed_8 0 rfl rfl)
theorem dX7_mixed_190 : decode cX7_mixed 190 = .ok (.iconst 1, 1) := dk_4 (dk_at dksX7_mixed_8 3 rfl rfl)
theorem dX7_mixed_191 : decode cX7_mixed 191 = .ok (.goto 4, 3) := dk_167 0 4 (dk_at dksX7_mixed_8 4 rfl rfl)
theorem dX7_mixed_194 : decode cX7_mixed 194 = .ok (.iconst 0, 1) := dk_3 (dk_at dksX7_mixed_8 7 rfl rfl)
theorem dX7_mixed_195 : decode cX7_mixed 195 = .ok (.if_icmp .ne 9, 3) := dk_160 0 9 (dk_at dksX7_mixed_8 8 rfl rfl)
theorem dX7_mixed_198 : decode cX7_mixed 198 = .ok (.iload 7, 2) := dk_21 7 (dk_at dksX7_mixed_8 11 rfl rfl)
theorem dX7_mixed_200 : decode cX7_mixed 200 = .ok (.i2l, 1) := dk_133 (dk_at dksX7_mixed_8 13 rfl rfl)
theorem dX7_mixed_201 : decode cX7_mixed 201 = .ok (.goto 6, 3) := dk_167 0 6 (dk_at dksX7_mixed_8 14 rfl rfl)
theorem dX7_mixed_204 : decode cX7_mixed 204 = .ok (.iload 8, 2) := dk_21 8 (dk_at dksX7_mixed_8 17 rfl rfl)
theorem dX7_mixed_206 : decode cX7_mixed 206 = .ok (.i2l, 1) := dk_133 (dk_at dksX7_mixed_8 19 rfl rfl)
theorem dX7_mixed_207 : decode cX7_mixed 207 = .ok (.invokevirtual 307, 3) := dk_182 1 51 (dk_at dksX7_mixed_8 20 rfl rfl)
theorem dX7_mixed_210 : decode cX7_mixed 210 = .ok (.iinc 4 1, 3) := dk_132 4 1 (dk_at dksX7_mixed_9 0 rfl rfl)
theorem dX7_mixed_213 : decode cX7_mixed 213 = .ok (.goto (-171), 3) := dk_167 255 85 (dk_at dksX7_mixed_9 3 rfl rfl)
theorem dX7_mixed_216 : decode cX7_mixed 216 = .ok (.aload_n 0, 1) := dk_42 (dk_at dksX7_mixed_9 6 rfl rfl)
theorem dX7_mixed_217 : decode cX7_mixed 217 = .ok (.aload_n 0, 1) := dk_42 (dk_at dksX7_mixed_9 7 rfl rfl)
theorem dX7_mixed_218 : decode cX7_mixed 218 = .ok (.invokevirtual 311, 3) := dk_182 1 55 (dk_at dksX7_mixed_9 8 rfl rfl)
theorem dX7_mixed_221 : decode cX7_mixed 221 = .ok (.ifCond .eq 7, 3) := dk_153 0 7 (dk_at dksX7_mixed_9 11 rfl rfl)
theorem dX7_mixed_224 : decode cX7_mixed 224 = .ok (.iconst 0, 1) := dk_3 (dk_at dksX7_mixed_9 14 rfl rfl)
theorem dX7_mixed_225 : decode cX7_mixed 225 = .ok (.goto 4, 3) := dk_167 0 4 (dk_at dksX7_mixed_9 15 rfl rfl)
theorem dX7_mixed_228 : decode cX7_mixed 228 = .ok (.iconst 1, 1) := dk_4 (dk_at dksX7_mixed_9 18 rfl rfl)
theorem dX7_mixed_229 : decode cX7_mixed 229 = .ok (.putfield 1, 3) := dk_181 0 1 (dk_at dksX7_mixed_9 19 rfl rfl)
theorem dX7_mixed_232 : decode cX7_mixed 232 = .ok (.aload_n 0, 1) := dk_42 (dk_at dksX7_mixed_9 22 rfl rfl)
theorem dX7_mixed_233 : decode cX7_mixed 233 = .ok (.getfield 1, 3) := dk_180 0 1 (dk_at dksX7_mixed_10 0 rfl rfl)
theorem dX7_mixed_236 : decode cX7_mixed 236 = .ok (.ifCond .le 7, 3) := dk_158 0 7 (dk_at dksX7_mixed_10 3 rfl rfl)
theorem dX7_mixed_239 : decode cX7_mixed 239 = .ok (.lconst 0, 1) := dk_9 (dk_at dksX7_mixed_10 6 rfl rfl)
theorem dX7_mixed_240 : decode cX7_mixed 240 = .ok (.goto 10, 3) := dk_167 0 10 (dk_at dksX7_mixed_10 7 rfl rfl)
theorem dX7_mixed_243 : decode cX7_mixed 243 = .ok (.aload_n 0, 1) := dk_42 (dk_at dksX7_mixed_10 10 rfl rfl)
theorem dX7_mixed_244 : decode cX7_mixed 244 = .ok (.iload_n 3, 1) := dk_29 (dk_at dksX7_mixed_10 11 rfl rfl)
theorem dX7_mixed_245 : decode cX7_mixed 245 = .ok (.iconst 2, 1) := dk_5 (dk_at dksX7_mixed_10 12 rfl rfl)
theorem dX7_mixed_246 : decode cX7_mixed 246 = .ok (.irem, 1) := dk_112 (dk_at dksX7_mixed_10 13 rfl rfl)
theorem dX7_mixed_247 : decode cX7_mixed 247 = .ok (.invokevirtual 321, 3) := dk_182 1 65 (dk_at dksX7_mixed_10 14 rfl rfl)
theorem dX7_mixed_250 : decode cX7_mixed 250 = .ok (.lreturn, 1) := dk_173 (dk_at dksX7_mixed_10 17 rfl rfl)
def dkwX7_where_3 : List UInt8 := [172]
abbrev dktX7_where_3 : List UInt8 := dkwX7_where_3 ++ []
def dkwX7_where_2 : List UInt8 := [61, 132, 4, 1, 167, 255, 226, 28, 156, 0, 7, 2, 167, 0, 12, 27, 154, 0, 7, 28, 167, 0, 4, 29]
abbrev dktX7_where_2 : List UInt8 := dkwX7_where_2 ++ dktX7_where_3
def dkwX7_where_1 : List UInt8 := [16, 12, 162, 0, 29, 42, 21, 4, 182, 1, 237, 29, 164, 0, 13, 42, 21, 4, 182, 1, 237, 62, 21, 4]
abbrev dktX7_where_1 : List UInt8 := dkwX7_where_1 ++ dktX7_where_2
def dkwX7_where_0 : List UInt8 := [42, 3, 181, 0, 1, 27, 184, 1, 59, 154, 0, 5, 2, 172, 2, 61, 3, 62, 4, 54, 4, 21, 4]
abbrev dktX7_where_0 : List UInt8 := dkwX7_where_0 ++ dktX7_where_1
theorem dksX7_where_0 : cX7_where.data.toList.drop 0 = dktX7_where_0 := by decide +kernel
theorem dksX7_where_1 : cX7_where.data.toList.drop 23 = dktX7_where_1 := dk_seg dksX7_where_0 23 rfl rfl
theorem dksX7_where_2 : cX7_where.data.toList.drop 47 = dktX7_where_2 := dk_seg dksX7_where_1 24 rfl rfl
theorem dksX7_where_3 : cX7_where.data.toList.drop 71 = dktX7_where_3 := dk_seg dksX7_where_2 24 rfl rfl
theorem dX7_where_0 : decode cX7_where 0 = .ok (.aload_n 0, 1) := dk_42 (dk_at dksX7_where_0 0 rfl rfl)
theorem dX7_where_1 : decode cX7_where 1 = .ok (.iconst 0, 1) := dk_3 (dk_at dksX7_where_0 1 rfl rfl)
theorem dX7_where_2 : decode cX7_where 2 = .ok (.putfield 1, 3) := dk_181 0 1 (dk_at dksX7_where_0 2 rfl rfl)
theorem dX7_where_5 : decode cX7_where 5 = .ok (.iload_n 1, 1) := dk_27 (dk_at dksX7_where_0 5 rfl rfl)
theorem dX7_where_6 : decode cX7_where 6 = .ok (.invokestatic 315, 3) := dk_184 1 59 (dk_at dksX7_where_0 6 rfl rfl)
theorem dX7_where_9 : decode cX7_where 9 = .ok (.ifCond .ne 5, 3) := dk_154 0 5 (dk_at dksX7_where_0 9 rfl rfl)
theorem dX7_where_12 : decode cX7_where 12 = .ok (.iconst (-1), 1) := dk_2 (dk_at dksX7_where_0 12 rfl rfl)
theorem dX7_where_13 : decode cX7_where 13 = .ok (.ireturn, 1) := dk_172 (dk_at dksX7_where_0 13 rfl rfl)
theorem dX7_where_14 : decode cX7_where 14 = .ok (.iconst (-1), 1) := dk_2 (dk_at dksX7_where_0 14 rfl rfl)
theorem dX7_where_15 : decode cX7_where 15 = .ok (.istore_n 2, 1) := dk_61 (dk_at dksX7_where_0 15 rfl rfl)
theorem dX7_where_16 : decode cX7_where 16 = .ok (.iconst 0, 1) := dk_3 (dk_at dksX7_where_0 16 rfl rfl)
theorem dX7_where_17 : decode cX7_where 17 = .ok (.istore_n 3, 1) := dk_62 (dk_at dksX7_where_0 17 rfl rfl)
theorem dX7_where_18 : decode cX7_where 18 = .ok (.iconst 1, 1) := dk_4 (dk_at dksX7_where_0 18 rfl rfl)
theorem dX7_where_19 : decode cX7_where 19 = .ok (.istore 4, 2) := dk_54 4 (dk_at dksX7_where_0 19 rfl rfl)
theorem dX7_where_21 : decode cX7_where 21 = .ok (.iload 4, 2) := dk_21 4 (dk_at dksX7_where_0 21 rfl rfl)
theorem dX7_where_23 : decode cX7_where 23 = .ok (.bipush 12, 2) := dk_16 12 (dk_at dksX7_where_1 0 rfl rfl)
theorem dX7_where_25 : decode cX7_where 25 = .ok (.if_icmp .ge 29, 3) := dk_162 0 29 (dk_at dksX7_where_1 2 rfl rfl)
theorem dX7_where_28 : decode cX7_where 28 = .ok (.aload_n 0, 1) := dk_42 (dk_at dksX7_where_1 5 rfl rfl)
theorem dX7_where_29 : decode cX7_where 29 = .ok (.iload 4, 2) := dk_21 4 (dk_at dksX7_where_1 6 rfl rfl)
theorem dX7_where_31 : decode cX7_where 31 = .ok (.invokevirtual 493, 3) := dk_182 1 237 (dk_at dksX7_where_1 8 rfl rfl)
theorem dX7_where_34 : decode cX7_where 34 = .ok (.iload_n 3, 1) := dk_29 (dk_at dksX7_where_1 11 rfl rfl)
theorem dX7_where_35 : decode cX7_where 35 = .ok (.if_icmp .le 13, 3) := dk_164 0 13 (dk_at dksX7_where_1 12 rfl rfl)
theorem dX7_where_38 : decode cX7_where 38 = .ok (.aload_n 0, 1) := dk_42 (dk_at dksX7_where_1 15 rfl rfl)
theorem dX7_where_39 : decode cX7_where 39 = .ok (.iload 4, 2) := dk_21 4 (dk_at dksX7_where_1 16 rfl rfl)
theorem dX7_where_41 : decode cX7_where 41 = .ok (.invokevirtual 493, 3) := dk_182 1 237 (dk_at dksX7_where_1 18 rfl rfl)
theorem dX7_where_44 : decode cX7_where 44 = .ok (.istore_n 3, 1) := dk_62 (dk_at dksX7_where_1 21 rfl rfl)
theorem dX7_where_45 : decode cX7_where 45 = .ok (.iload 4, 2) := dk_21 4 (dk_at dksX7_where_1 22 rfl rfl)
theorem dX7_where_47 : decode cX7_where 47 = .ok (.istore_n 2, 1) := dk_61 (dk_at dksX7_where_2 0 rfl rfl)
theorem dX7_where_48 : decode cX7_where 48 = .ok (.iinc 4 1, 3) := dk_132 4 1 (dk_at dksX7_where_2 1 rfl rfl)
theorem dX7_where_51 : decode cX7_where 51 = .ok (.goto (-30), 3) := dk_167 255 226 (dk_at dksX7_where_2 4 rfl rfl)
theorem dX7_where_54 : decode cX7_where 54 = .ok (.iload_n 2, 1) := dk_28 (dk_at dksX7_where_2 7 rfl rfl)
theorem dX7_where_55 : decode cX7_where 55 = .ok (.ifCond .ge 7, 3) := dk_156 0 7 (dk_at dksX7_where_2 8 rfl rfl)
theorem dX7_where_58 : decode cX7_where 58 = .ok (.iconst (-1), 1) := dk_2 (dk_at dksX7_where_2 11 rfl rfl)
theorem dX7_where_59 : decode cX7_where 59 = .ok (.goto 12, 3) := dk_167 0 12 (dk_at dksX7_where_2 12 rfl rfl)
theorem dX7_where_62 : decode cX7_where 62 = .ok (.iload_n 1, 1) := dk_27 (dk_at dksX7_where_2 15 rfl rfl)
theorem dX7_where_63 : decode cX7_where 63 = .ok (.ifCond .ne 7, 3) := dk_154 0 7 (dk_at dksX7_where_2 16 rfl rfl)
theorem dX7_where_66 : decode cX7_where 66 = .ok (.iload_n 2, 1) := dk_28 (dk_at dksX7_where_2 19 rfl rfl)
theorem dX7_where_67 : decode cX7_where 67 = .ok (.goto 4, 3) := dk_167 0 4 (dk_at dksX7_where_2 20 rfl rfl)
theorem dX7_where_70 : decode cX7_where 70 = .ok (.iload_n 3, 1) := dk_29 (dk_at dksX7_where_2 23 rfl rfl)
theorem dX7_where_71 : decode cX7_where 71 = .ok (.ireturn, 1) := dk_172 (dk_at dksX7_where_3 0 rfl rfl)
def dkwX7_weightOf_7 : List UInt8 := [167, 255, 158, 21, 5, 21, 6, 104, 172]
abbrev dktX7_weightOf_7 : List UInt8 := dkwX7_weightOf_7 ++ []
def dkwX7_weightOf_6 : List UInt8 := [42, 180, 0, 97, 21, 7, 46, 21, 4, 159, 0, 7, 4, 167, 0, 4, 3, 96, 54, 6, 132, 7, 1]
abbrev dktX7_weightOf_6 : List UInt8 := dkwX7_weightOf_6 ++ dktX7_weightOf_7
def dkwX7_weightOf_5 : List UInt8 := [21, 4, 104, 27, 96, 46, 162, 0, 7, 4, 167, 0, 4, 3, 96, 54, 5, 21, 6, 21, 8, 153, 0, 19]
abbrev dktX7_weightOf_5 : List UInt8 := dkwX7_weightOf_5 ++ dktX7_weightOf_6
def dkwX7_weightOf_4 : List UInt8 := [180, 0, 97, 21, 7, 46, 21, 4, 160, 0, 29, 42, 180, 0, 100, 21, 7, 46, 42, 180, 0, 109, 16, 12]
abbrev dktX7_weightOf_4 : List UInt8 := dkwX7_weightOf_4 ++ dktX7_weightOf_5
def dkwX7_weightOf_3 : List UInt8 := [162, 0, 97, 42, 21, 7, 27, 4, 100, 27, 182, 1, 18, 54, 8, 21, 5, 21, 8, 153, 0, 41, 42]
abbrev dktX7_weightOf_3 : List UInt8 := dkwX7_weightOf_3 ++ dktX7_weightOf_4
def dkwX7_weightOf_2 : List UInt8 := [164, 0, 7, 3, 167, 0, 4, 4, 54, 4, 3, 54, 5, 3, 54, 6, 3, 54, 7, 21, 7, 16, 24]
abbrev dktX7_weightOf_2 : List UInt8 := dkwX7_weightOf_2 ++ dktX7_weightOf_3
def dkwX7_weightOf_1 : List UInt8 := [46, 42, 180, 0, 109, 16, 12, 27, 96, 4, 100, 46, 100, 62, 28, 29, 160, 0, 5, 3, 172, 28, 29]
abbrev dktX7_weightOf_1 : List UInt8 := dkwX7_weightOf_1 ++ dktX7_weightOf_2
def dkwX7_weightOf_0 : List UInt8 := [42, 180, 0, 109, 27, 46, 42, 180, 0, 109, 27, 4, 100, 46, 100, 61, 42, 180, 0, 109, 16, 12, 27, 96]
abbrev dktX7_weightOf_0 : List UInt8 := dkwX7_weightOf_0 ++ dktX7_weightOf_1
theorem dksX7_weightOf_0 : cX7_weightOf.data.toList.drop 0 = dktX7_weightOf_0 := by decide +kernel
theorem dksX7_weightOf_1 : cX7_weightOf.data.toList.drop 24 = dktX7_weightOf_1 := dk_seg dksX7_weightOf_0 24 rfl rfl
theorem dksX7_weightOf_2 : cX7_weightOf.data.toList.drop 47 = dktX7_weightOf_2 := dk_seg dksX7_weightOf_1 23 rfl rfl
theorem dksX7_weightOf_3 : cX7_weightOf.data.toList.drop 70 = dktX7_weightOf_3 := dk_seg dksX7_weightOf_2 23 rfl rfl
theorem dksX7_weightOf_4 : cX7_weightOf.data.toList.drop 93 = dktX7_weightOf_4 := dk_seg dksX7_weightOf_3 23 rfl rfl
theorem dksX7_weightOf_5 : cX7_weightOf.data.toList.drop 117 = dktX7_weightOf_5 := dk_seg dksX7_weightOf_4 24 rfl rfl
theorem dksX7_weightOf_6 : cX7_weightOf.data.toList.drop 141 = dktX7_weightOf_6 := dk_seg dksX7_weightOf_5 24 rfl rfl
theorem dksX7_weightOf_7 : cX7_weightOf.data.toList.drop 164 = dktX7_weightOf_7 := dk_seg dksX7_weightOf_6 23 rfl rfl
theorem dX7_weightOf_0 : decode cX7_weightOf 0 = .ok (.aload_n 0, 1) := dk_42 (dk_at dksX7_weightOf_0 0 rfl rfl)
theorem dX7_weightOf_1 : decode cX7_weightOf 1 = .ok (.getfield 109, 3) := dk_180 0 109 (dk_at dksX7_weightOf_0 1 rfl rfl)
theorem dX7_weightOf_4 : decode cX7_weightOf 4 = .ok (.iload_n 1, 1) := dk_27 (dk_at dksX7_weightOf_0 4 rfl rfl)
theorem dX7_weightOf_5 : decode cX7_weightOf 5 = .ok (.iaload, 1) := dk_46 (dk_at dksX7_weightOf_0 5 rfl rfl)
theorem dX7_weightOf_6 : decode cX7_weightOf 6 = .ok (.aload_n 0, 1) := dk_42 (dk_at dksX7_weightOf_0 6 rfl rfl)
theorem dX7_weightOf_7 : decode cX7_weightOf 7 = .ok (.getfield 109, 3) := dk_180 0 109 (dk_at dksX7_weightOf_0 7 rfl rfl)
theorem dX7_weightOf_10 : decode cX7_weightOf 10 = .ok (.iload_n 1, 1) := dk_27 (dk_at dksX7_weightOf_0 10 rfl rfl)
theorem dX7_weightOf_11 : decode cX7_weightOf 11 = .ok (.iconst 1, 1) := dk_4 (dk_at dksX7_weightOf_0 11 rfl rfl)
theorem dX7_weightOf_12 : decode cX7_weightOf 12 = .ok (.isub, 1) := dk_100 (dk_at dksX7_weightOf_0 12 rfl rfl)
theorem dX7_weightOf_13 : decode cX7_weightOf 13 = .ok (.iaload, 1) := dk_46 (dk_at dksX7_weightOf_0 13 rfl rfl)
theorem dX7_weightOf_14 : decode cX7_weightOf 14 = .ok (.isub, 1) := dk_100 (dk_at dksX7_weightOf_0 14 rfl rfl)
theorem dX7_weightOf_15 : decode cX7_weightOf 15 = .ok (.istore_n 2, 1) := dk_61 (dk_at dksX7_weightOf_0 15 rfl rfl)
theorem dX7_weightOf_16 : decode cX7_weightOf 16 = .ok (.aload_n 0, 1) := dk_42 (dk_at dksX7_weightOf_0 16 rfl rfl)
theorem dX7_weightOf_17 : decode cX7_weightOf 17 = .ok (.getfield 109, 3) := dk_180 0 109 (dk_at dksX7_weightOf_0 17 rfl rfl)
theorem dX7_weightOf_20 : decode cX7_weightOf 20 = .ok (.bipush 12, 2) := dk_16 12 (dk_at dksX7_weightOf_0 20 rfl rfl)
theorem dX7_weightOf_22 : decode cX7_weightOf 22 = .ok (.iload_n 1, 1) := dk_27 (dk_at dksX7_weightOf_0 22 rfl rfl)
theorem dX7_weightOf_23 : decode cX7_weightOf 23 = .ok (.iadd, 1) := dk_96 (dk_at dksX7_weightOf_0 23 rfl rfl)
theorem dX7_weightOf_24 : decode cX7_weightOf 24 = .ok (.iaload, 1) := dk_46 (dk_at dksX7_weightOf_1 0 rfl rfl)
theorem dX7_weightOf_25 : decode cX7_weightOf 25 = .ok (.aload_n 0, 1) := dk_42 (dk_at dksX7_weightOf_1 1 rfl rfl)
theorem dX7_weightOf_26 : decode cX7_weightOf 26 = .ok (.getfield 109, 3) := dk_180 0 109 (dk_at dksX7_weightOf_1 2 rfl rfl)
theorem dX7_weightOf_29 : decode cX7_weightOf 29 = .ok (.bipush 12, 2) := dk_16 12 (dk_at dksX7_weightOf_1 5 rfl rfl)
theorem dX7_weightOf_31 : decode cX7_weightOf 31 = .ok (.iload_n 1, 1) := dk_27 (dk_at dksX7_weightOf_1 7 rfl rfl)
theorem dX7_weightOf_32 : decode cX7_weightOf 32 = .ok (.iadd, 1) := dk_96 (dk_at dksX7_weightOf_1 8 rfl rfl)
theorem dX7_weightOf_33 : decode cX7_weightOf 33 = .ok (.iconst 1, 1) := dk_4 (dk_at dksX7_weightOf_1 9 rfl rfl)
theorem dX7_weightOf_34 : decode cX7_weightOf 34 = .ok (.isub, 1) := dk_100 (dk_at dksX7_weightOf_1 10 rfl rfl)
theorem dX7_weightOf_35 : decode cX7_weightOf 35 = .ok (.iaload, 1) := dk_46 (dk_at dksX7_weightOf_1 11 rfl rfl)
theorem dX7_weightOf_36 : decode cX7_weightOf 36 = .ok (.isub, 1) := dk_100 (dk_at dksX7_weightOf_1 12 rfl rfl)
theorem dX7_weightOf_37 : decode cX7_weightOf 37 = .ok (.istore_n 3, 1) := dk_62 (dk_at dksX7_weightOf_1 13 rfl rfl)
theorem dX7_weightOf_38 : decode cX7_weightOf 38 = .ok (.iload_n 2, 1) := dk_28 (dk_at dksX7_weightOf_1 14 rfl rfl)
theorem dX7_weightOf_39 : decode cX7_weightOf 39 = .ok (.iload_n 3, 1) := dk_29 (dk_at dksX7_weightOf_1 15 rfl rfl)
theorem dX7_weightOf_40 : decode cX7_weightOf 40 = .ok (.if_icmp .ne 5, 3) := dk_160 0 5 (dk_at dksX7_weightOf_1 16 rfl rfl)
theorem dX7_weightOf_43 : decode cX7_weightOf 43 = .ok (.iconst 0, 1) := dk_3 (dk_at dksX7_weightOf_1 19 rfl rfl)
theorem dX7_weightOf_44 : decode cX7_weightOf 44 = .ok (.ireturn, 1) := dk_172 (dk_at dksX7_weightOf_1 20 rfl rfl)
theorem dX7_weightOf_45 : decode cX7_weightOf 45 = .ok (.iload_n 2, 1) := dk_28 (dk_at dksX7_weightOf_1 21 rfl rfl)
theorem dX7_weightOf_46 : decode cX7_weightOf 46 = .ok (.iload_n 3, 1) := dk_29 (dk_at dksX7_weightOf_1 22 rfl rfl)
theorem dX7_weightOf_47 : decode cX7_weightOf 47 = .ok (.if_icmp .le 7, 3) := dk_164 0 7 (dk_at dksX7_weightOf_2 0 rfl rfl)
theorem dX7_weightOf_50 : decode cX7_weightOf 50 = .ok (.iconst 0, 1) := dk_3 (dk_at dksX7_weightOf_2 3 rfl rfl)
theorem dX7_weightOf_51 : decode cX7_weightOf 51 = .ok (.goto 4, 3) := dk_167 0 4 (dk_at dksX7_weightOf_2 4 rfl rfl)
theorem dX7_weightOf_54 : decode cX7_weightOf 54 = .ok (.iconst 1, 1) := dk_4 (dk_at dksX7_weightOf_2 7 rfl rfl)
theorem dX7_weightOf_55 : decode cX7_weightOf 55 = .ok (.istore 4, 2) := dk_54 4 (dk_at dksX7_weightOf_2 8 rfl rfl)
theorem dX7_weightOf_57 : decode cX7_weightOf 57 = .ok (.iconst 0, 1) := dk_3 (dk_at dksX7_weightOf_2 10 rfl rfl)
theorem dX7_weightOf_58 : decode cX7_weightOf 58 = .ok (.istore 5, 2) := dk_54 5 (dk_at dksX7_weightOf_2 11 rfl rfl)
theorem dX7_weightOf_60 : decode cX7_weightOf 60 = .ok (.iconst 0, 1) := dk_3 (dk_at dksX7_weightOf_2 13 rfl rfl)
theorem dX7_weightOf_61 : decode cX7_weightOf 61 = .ok (.istore 6, 2) := dk_54 6 (dk_at dksX7_weightOf_2 14 rfl rfl)
theorem dX7_weightOf_63 : decode cX7_weightOf 63 = .ok (.iconst 0, 1) := dk_3 (dk_at dksX7_weightOf_2 16 rfl rfl)
theorem dX7_weightOf_64 : decode cX7_weightOf 64 = .ok (.istore 7, 2) := dk_54 7 (dk_at dksX7_weightOf_2 17 rfl rfl)
theorem dX7_weightOf_66 : decode cX7_weightOf 66 = .ok (.iload 7, 2) := dk_21 7 (dk_at dksX7_weightOf_2 19 rfl rfl)
theorem dX7_weightOf_68 : decode cX7_weightOf 68 = .ok (.bipush 24, 2) := dk_16 24 (dk_at dksX7_weightOf_2 21 rfl rfl)
theorem dX7_weightOf_70 : decode cX7_weightOf 70 = .ok (.if_icmp .ge 97, 3) := dk_162 0 97 (dk_at dksX7_weightOf_3 0 rfl rfl)
theorem dX7_weightOf_73 : decode cX7_weightOf 73 = .ok (.aload_n 0, 1) := dk_42 (dk_at dksX7_weightOf_3 3 rfl rfl)
theorem dX7_weightOf_74 : decode cX7_weightOf 74 = .ok (.iload 7, 2) := dk_21 7 (dk_at dksX7_weightOf_3 4 rfl rfl)
theorem dX7_weightOf_76 : decode cX7_weightOf 76 = .ok (.iload_n 1, 1) := dk_27 (dk_at dksX7_weightOf_3 6 rfl rfl)
theorem dX7_weightOf_77 : decode cX7_weightOf 77 = .ok (.iconst 1, 1) := dk_4 (dk_at dksX7_weightOf_3 7 rfl rfl)
theorem dX7_weightOf_78 : decode cX7_weightOf 78 = .ok (.isub, 1) := dk_100 (dk_at dksX7_weightOf_3 8 rfl rfl)
theorem dX7_weightOf_79 : decode cX7_weightOf 79 = .ok (.iload_n 1, 1) := dk_27 (dk_at dksX7_weightOf_3 9 rfl rfl)
theorem dX7_weightOf_80 : decode cX7_weightOf 80 = .ok (.invokevirtual 274, 3) := dk_182 1 18 (dk_at dksX7_weightOf_3 10 rfl rfl)
theorem dX7_weightOf_83 : decode cX7_weightOf 83 = .ok (.istore 8, 2) := dk_54 8 (dk_at dksX7_weightOf_3 13 rfl rfl)
theorem dX7_weightOf_85 : decode cX7_weightOf 85 = .ok (.iload 5, 2) := dk_21 5 (dk_at dksX7_weightOf_3 15 rfl rfl)
theorem dX7_weightOf_87 : decode cX7_weightOf 87 = .ok (.iload 8, 2) := dk_21 8 (dk_at dksX7_weightOf_3 17 rfl rfl)
theorem dX7_weightOf_89 : decode cX7_weightOf 89 = .ok (.ifCond .eq 41, 3) := dk_153 0 41 (dk_at dksX7_weightOf_3 19 rfl rfl)
theorem dX7_weightOf_92 : decode cX7_weightOf 92 = .ok (.aload_n 0, 1) := dk_42 (dk_at dksX7_weightOf_3 22 rfl rfl)
theorem dX7_weightOf_93 : decode cX7_weightOf 93 = .ok (.getfield 97, 3) := dk_180 0 97 (dk_at dksX7_weightOf_4 0 rfl rfl)
theorem dX7_weightOf_96 : decode cX7_weightOf 96 = .ok (.iload 7, 2) := dk_21 7 (dk_at dksX7_weightOf_4 3 rfl rfl)
theorem dX7_weightOf_98 : decode cX7_weightOf 98 = .ok (.iaload, 1) := dk_46 (dk_at dksX7_weightOf_4 5 rfl rfl)
theorem dX7_weightOf_99 : decode cX7_weightOf 99 = .ok (.iload 4, 2) := dk_21 4 (dk_at dksX7_weightOf_4 6 rfl rfl)
theorem dX7_weightOf_101 : decode cX7_weightOf 101 = .ok (.if_icmp .ne 29, 3) := dk_160 0 29 (dk_at dksX7_weightOf_4 8 rfl rfl)
theorem dX7_weightOf_104 : decode cX7_weightOf 104 = .ok (.aload_n 0, 1) := dk_42 (dk_at dksX7_weightOf_4 11 rfl rfl)
theorem dX7_weightOf_105 : decode cX7_weightOf 105 = .ok (.getfield 100, 3) := dk_180 0 100 (dk_at dksX7_weightOf_4 12 rfl rfl)
theorem dX7_weightOf_108 : decode cX7_weightOf 108 = .ok (.iload 7, 2) := dk_21 7 (dk_at dksX7_weightOf_4 15 rfl rfl)
theorem dX7_weightOf_110 : decode cX7_weightOf 110 = .ok (.iaload, 1) := dk_46 (dk_at dksX7_weightOf_4 17 rfl rfl)
theorem dX7_weightOf_111 : decode cX7_weightOf 111 = .ok (.aload_n 0, 1) := dk_42 (dk_at dksX7_weightOf_4 18 rfl rfl)
theorem dX7_weightOf_112 : decode cX7_weightOf 112 = .ok (.getfield 109, 3) := dk_180 0 109 (dk_at dksX7_weightOf_4 19 rfl rfl)
theorem dX7_weightOf_115 : decode cX7_weightOf 115 = .ok (.bipush 12, 2) := dk_16 12 (dk_at dksX7_weightOf_4 22 rfl rfl)
theorem dX7_weightOf_117 : decode cX7_weightOf 117 = .ok (.iload 4, 2) := dk_21 4 (dk_at dksX7_weightOf_5 0 rfl rfl)
theorem dX7_weightOf_119 : decode cX7_weightOf 119 = .ok (.imul, 1) := dk_104 (dk_at dksX7_weightOf_5 2 rfl rfl)
theorem dX7_weightOf_120 : decode cX7_weightOf 120 = .ok (.iload_n 1, 1) := dk_27 (dk_at dksX7_weightOf_5 3 rfl rfl)
theorem dX7_weightOf_121 : decode cX7_weightOf 121 = .ok (.iadd, 1) := dk_96 (dk_at dksX7_weightOf_5 4 rfl rfl)
theorem dX7_weightOf_122 : decode cX7_weightOf 122 = .ok (.iaload, 1) := dk_46 (dk_at dksX7_weightOf_5 5 rfl rfl)
theorem dX7_weightOf_123 : decode cX7_weightOf 123 = .ok (.if_icmp .ge 7, 3) := dk_162 0 7 (dk_at dksX7_weightOf_5 6 rfl rfl)
theorem dX7_weightOf_126 : decode cX7_weightOf 126 = .ok (.iconst 1, 1) := dk_4 (dk_at dksX7_weightOf_5 9 rfl rfl)
theorem dX7_weightOf_127 : decode cX7_weightOf 127 = .ok (.goto 4, 3) := dk_167 0 4 (dk_at dksX7_weightOf_5 10 rfl rfl)
theorem dX7_weightOf_130 : decode cX7_weightOf 130 = .ok (.iconst 0, 1) := dk_3 (dk_at dksX7_weightOf_5 13 rfl rfl)
theorem dX7_weightOf_131 : decode cX7_weightOf 131 = .ok (.iadd, 1) := dk_96 (dk_at dksX7_weightOf_5 14 rfl rfl)
theorem dX7_weightOf_132 : decode cX7_weightOf 132 = .ok (.istore 5, 2) := dk_54 5 (dk_at dksX7_weightOf_5 15 rfl rfl)
theorem dX7_weightOf_134 : decode cX7_weightOf 134 = .ok (.iload 6, 2) := dk_21 6 (dk_at dksX7_weightOf_5 17 rfl rfl)
theorem dX7_weightOf_136 : decode cX7_weightOf 136 = .ok (.iload 8, 2) := dk_21 8 (dk_at dksX7_weightOf_5 19 rfl rfl)
theorem dX7_weightOf_138 : decode cX7_weightOf 138 = .ok (.ifCond .eq 19, 3) := dk_153 0 19 (dk_at dksX7_weightOf_5 21 rfl rfl)
theorem dX7_weightOf_141 : decode cX7_weightOf 141 = .ok (.aload_n 0, 1) := dk_42 (dk_at dksX7_weightOf_6 0 rfl rfl)
theorem dX7_weightOf_142 : decode cX7_weightOf 142 = .ok (.getfield 97, 3) := dk_180 0 97 (dk_at dksX7_weightOf_6 1 rfl rfl)
theorem dX7_weightOf_145 : decode cX7_weightOf 145 = .ok (.iload 7, 2) := dk_21 7 (dk_at dksX7_weightOf_6 4 rfl rfl)
theorem dX7_weightOf_147 : decode cX7_weightOf 147 = .ok (.iaload, 1) := dk_46 (dk_at dksX7_weightOf_6 6 rfl rfl)
theorem dX7_weightOf_148 : decode cX7_weightOf 148 = .ok (.iload 4, 2) := dk_21 4 (dk_at dksX7_weightOf_6 7 rfl rfl)
theorem dX7_weightOf_150 : decode cX7_weightOf 150 = .ok (.if_icmp .eq 7, 3) := dk_159 0 7 (dk_at dksX7_weightOf_6 9 rfl rfl)
theorem dX7_weightOf_153 : decode cX7_weightOf 153 = .ok (.iconst 1, 1) := dk_4 (dk_at dksX7_weightOf_6 12 rfl rfl)
theorem dX7_weightOf_154 : decode cX7_weightOf 154 = .ok (.goto 4, 3) := dk_167 0 4 (dk_at dksX7_weightOf_6 13 rfl rfl)
theorem dX7_weightOf_157 : decode cX7_weightOf 157 = .ok (.iconst 0, 1) := dk_3 (dk_at dksX7_weightOf_6 16 rfl rfl)
theorem dX7_weightOf_158 : decode cX7_weightOf 158 = .ok (.iadd, 1) := dk_96 (dk_at dksX7_weightOf_6 17 rfl rfl)
theorem dX7_weightOf_159 : decode cX7_weightOf 159 = .ok (.istore 6, 2) := dk_54 6 (dk_at dksX7_weightOf_6 18 rfl rfl)
theorem dX7_weightOf_161 : decode cX7_weightOf 161 = .ok (.iinc 7 1, 3) := dk_132 7 1 (dk_at dksX7_weightOf_6 20 rfl rfl)
theorem dX7_weightOf_164 : decode cX7_weightOf 164 = .ok (.goto (-98), 3) := dk_167 255 158 (dk_at dksX7_weightOf_7 0 rfl rfl)
theorem dX7_weightOf_167 : decode cX7_weightOf 167 = .ok (.iload 5, 2) := dk_21 5 (dk_at dksX7_weightOf_7 3 rfl rfl)
theorem dX7_weightOf_169 : decode cX7_weightOf 169 = .ok (.iload 6, 2) := dk_21 6 (dk_at dksX7_weightOf_7 5 rfl rfl)
theorem dX7_weightOf_171 : decode cX7_weightOf 171 = .ok (.imul, 1) := dk_104 (dk_at dksX7_weightOf_7 7 rfl rfl)
theorem dX7_weightOf_172 : decode cX7_weightOf 172 = .ok (.ireturn, 1) := dk_172 (dk_at dksX7_weightOf_7 8 rfl rfl)
def dkwX7_mark_6 : List UInt8 := [180, 0, 127, 28, 182, 1, 240, 42, 29, 17, 5, 160, 96, 42, 180, 0, 130, 28, 182, 1, 240, 4, 172]
abbrev dktX7_mark_6 : List UInt8 := dkwX7_mark_6 ++ []
def dkwX7_mark_5 : List UInt8 := [182, 1, 240, 42, 29, 17, 3, 96, 96, 42, 180, 0, 124, 28, 182, 1, 240, 42, 29, 17, 4, 128, 96, 42]
abbrev dktX7_mark_5 : List UInt8 := dkwX7_mark_5 ++ dktX7_mark_6
def dkwX7_mark_4 : List UInt8 := [17, 1, 32, 96, 42, 180, 0, 118, 28, 182, 1, 240, 42, 29, 17, 2, 64, 96, 42, 180, 0, 121, 28]
abbrev dktX7_mark_4 : List UInt8 := dkwX7_mark_4 ++ dktX7_mark_5
def dkwX7_mark_3 : List UInt8 := [180, 1, 172, 79, 17, 6, 192, 27, 104, 62, 42, 29, 42, 180, 0, 115, 28, 182, 1, 240, 42, 29]
abbrev dktX7_mark_3 : List UInt8 := dkwX7_mark_3 ++ dktX7_mark_4
def dkwX7_mark_2 : List UInt8 := [180, 0, 202, 27, 46, 181, 1, 172, 167, 0, 20, 42, 180, 0, 199, 27, 4, 84, 42, 180, 0, 202, 27, 42]
abbrev dktX7_mark_2 : List UInt8 := dkwX7_mark_2 ++ dktX7_mark_3
def dkwX7_mark_1 : List UInt8 := [153, 0, 16, 42, 180, 1, 172, 42, 180, 0, 202, 27, 46, 162, 0, 5, 3, 172, 28, 153, 0, 16, 42, 42]
abbrev dktX7_mark_1 : List UInt8 := dkwX7_mark_1 ++ dktX7_mark_2
def dkwX7_mark_0 : List UInt8 := [42, 3, 181, 0, 1, 27, 3, 6, 184, 0, 253, 153, 0, 29, 28, 153, 0, 27, 42, 180, 0, 199, 27, 51]
abbrev dktX7_mark_0 : List UInt8 := dkwX7_mark_0 ++ dktX7_mark_1
theorem dksX7_mark_0 : cX7_mark.data.toList.drop 0 = dktX7_mark_0 := by decide +kernel
theorem dksX7_mark_1 : cX7_mark.data.toList.drop 24 = dktX7_mark_1 := dk_seg dksX7_mark_0 24 rfl rfl
theorem dksX7_mark_2 : cX7_mark.data.toList.drop 48 = dktX7_mark_2 := dk_seg dksX7_mark_1 24 rfl rfl
theorem dksX7_mark_3 : cX7_mark.data.toList.drop 72 = dktX7_mark_3 := dk_seg dksX7_mark_2 24 rfl rfl
theorem dksX7_mark_4 : cX7_mark.data.toList.drop 94 = dktX7_mark_4 := dk_seg dksX7_mark_3 22 rfl rfl
theorem dksX7_mark_5 : cX7_mark.data.toList.drop 117 = dktX7_mark_5 := dk_seg dksX7_mark_4 23 rfl rfl
theorem dksX7_mark_6 : cX7_mark.data.toList.drop 141 = dktX7_mark_6 := dk_seg dksX7_mark_5 24 rfl rfl
theorem dX7_mark_0 : decode cX7_mark 0 = .ok (.aload_n 0, 1) := dk_42 (dk_at dksX7_mark_0 0 rfl rfl)
theorem dX7_mark_1 : decode cX7_mark 1 = .ok (.iconst 0, 1) := dk_3 (dk_at dksX7_mark_0 1 rfl rfl)
theorem dX7_mark_2 : decode cX7_mark 2 = .ok (.putfield 1, 3) := dk_181 0 1 (dk_at dksX7_mark_0 2 rfl rfl)
theorem dX7_mark_5 : decode cX7_mark 5 = .ok (.iload_n 1, 1) := dk_27 (dk_at dksX7_mark_0 5 rfl rfl)
theorem dX7_mark_6 : decode cX7_mark 6 = .ok (.iconst 0, 1) := dk_3 (dk_at dksX7_mark_0 6 rfl rfl)
theorem dX7_mark_7 : decode cX7_mark 7 = .ok (.iconst 3, 1) := dk_6 (dk_at dksX7_mark_0 7 rfl rfl)
theorem dX7_mark_8 : decode cX7_mark 8 = .ok (.invokestatic 253, 3) := dk_184 0 253 (dk_at dksX7_mark_0 8 rfl rfl)
theorem dX7_mark_11 : decode cX7_mark 11 = .ok (.ifCond .eq 29, 3) := dk_153 0 29 (dk_at dksX7_mark_0 11 rfl rfl)
theorem dX7_mark_14 : decode cX7_mark 14 = .ok (.iload_n 2, 1) := dk_28 (dk_at dksX7_mark_0 14 rfl rfl)
theorem dX7_mark_15 : decode cX7_mark 15 = .ok (.ifCond .eq 27, 3) := dk_153 0 27 (dk_at dksX7_mark_0 15 rfl rfl)
theorem dX7_mark_18 : decode cX7_mark 18 = .ok (.aload_n 0, 1) := dk_42 (dk_at dksX7_mark_0 18 rfl rfl)
theorem dX7_mark_19 : decode cX7_mark 19 = .ok (.getfield 199, 3) := dk_180 0 199 (dk_at dksX7_mark_0 19 rfl rfl)
theorem dX7_mark_22 : decode cX7_mark 22 = .ok (.iload_n 1, 1) := dk_27 (dk_at dksX7_mark_0 22 rfl rfl)
theorem dX7_mark_23 : decode cX7_mark 23 = .ok (.baload, 1) := dk_51 (dk_at dksX7_mark_0 23 rfl rfl)
theorem dX7_mark_24 : decode cX7_mark 24 = .ok (.ifCond .eq 16, 3) := dk_153 0 16 (dk_at dksX7_mark_1 0 rfl rfl)
theorem dX7_mark_27 : decode cX7_mark 27 = .ok (.aload_n 0, 1) := dk_42 (dk_at dksX7_mark_1 3 rfl rfl)
theorem dX7_mark_28 : decode cX7_mark 28 = .ok (.getfield 428, 3) := dk_180 1 172 (dk_at dksX7_mark_1 4 rfl rfl)
theorem dX7_mark_31 : decode cX7_mark 31 = .ok (.aload_n 0, 1) := dk_42 (dk_at dksX7_mark_1 7 rfl rfl)
theorem dX7_mark_32 : decode cX7_mark 32 = .ok (.getfield 202, 3) := dk_180 0 202 (dk_at dksX7_mark_1 8 rfl rfl)
theorem dX7_mark_35 : decode cX7_mark 35 = .ok (.iload_n 1, 1) := dk_27 (dk_at dksX7_mark_1 11 rfl rfl)
theorem dX7_mark_36 : decode cX7_mark 36 = .ok (.iaload, 1) := dk_46 (dk_at dksX7_mark_1 12 rfl rfl)
theorem dX7_mark_37 : decode cX7_mark 37 = .ok (.if_icmp .ge 5, 3) := dk_162 0 5 (dk_at dksX7_mark_1 13 rfl rfl)
theorem dX7_mark_40 : decode cX7_mark 40 = .ok (.iconst 0, 1) := dk_3 (dk_at dksX7_mark_1 16 rfl rfl)
theorem dX7_mark_41 : decode cX7_mark 41 = .ok (.ireturn, 1) := dk_172 (dk_at dksX7_mark_1 17 rfl rfl)
theorem dX7_mark_42 : decode cX7_mark 42 = .ok (.iload_n 2, 1) := dk_28 (dk_at dksX7_mark_1 18 rfl rfl)
theorem dX7_mark_43 : decode cX7_mark 43 = .ok (.ifCond .eq 16, 3) := dk_153 0 16 (dk_at dksX7_mark_1 19 rfl rfl)
theorem dX7_mark_46 : decode cX7_mark 46 = .ok (.aload_n 0, 1) := dk_42 (dk_at dksX7_mark_1 22 rfl rfl)
theorem dX7_mark_47 : decode cX7_mark 47 = .ok (.aload_n 0, 1) := dk_42 (dk_at dksX7_mark_1 23 rfl rfl)
theorem dX7_mark_48 : decode cX7_mark 48 = .ok (.getfield 202, 3) := dk_180 0 202 (dk_at dksX7_mark_2 0 rfl rfl)
theorem dX7_mark_51 : decode cX7_mark 51 = .ok (.iload_n 1, 1) := dk_27 (dk_at dksX7_mark_2 3 rfl rfl)
theorem dX7_mark_52 : decode cX7_mark 52 = .ok (.iaload, 1) := dk_46 (dk_at dksX7_mark_2 4 rfl rfl)
theorem dX7_mark_53 : decode cX7_mark 53 = .ok (.putfield 428, 3) := dk_181 1 172 (dk_at dksX7_mark_2 5 rfl rfl)
theorem dX7_mark_56 : decode cX7_mark 56 = .ok (.goto 20, 3) := dk_167 0 20 (dk_at dksX7_mark_2 8 rfl rfl)
theorem dX7_mark_59 : decode cX7_mark 59 = .ok (.aload_n 0, 1) := dk_42 (dk_at dksX7_mark_2 11 rfl rfl)
theorem dX7_mark_60 : decode cX7_mark 60 = .ok (.getfield 199, 3) := dk_180 0 199 (dk_at dksX7_mark_2 12 rfl rfl)
theorem dX7_mark_63 : decode cX7_mark 63 = .ok (.iload_n 1, 1) := dk_27 (dk_at dksX7_mark_2 15 rfl rfl)
theorem dX7_mark_64 : decode cX7_mark 64 = .ok (.iconst 1, 1) := dk_4 (dk_at dksX7_mark_2 16 rfl rfl)
theorem dX7_mark_65 : decode cX7_mark 65 = .ok (.bastore, 1) := dk_84 (dk_at dksX7_mark_2 17 rfl rfl)
theorem dX7_mark_66 : decode cX7_mark 66 = .ok (.aload_n 0, 1) := dk_42 (dk_at dksX7_mark_2 18 rfl rfl)
theorem dX7_mark_67 : decode cX7_mark 67 = .ok (.getfield 202, 3) := dk_180 0 202 (dk_at dksX7_mark_2 19 rfl rfl)
theorem dX7_mark_70 : decode cX7_mark 70 = .ok (.iload_n 1, 1) := dk_27 (dk_at dksX7_mark_2 22 rfl rfl)
theorem dX7_mark_71 : decode cX7_mark 71 = .ok (.aload_n 0, 1) := dk_42 (dk_at dksX7_mark_2 23 rfl rfl)
theorem dX7_mark_72 : decode cX7_mark 72 = .ok (.getfield 428, 3) := dk_180 1 172 (dk_at dksX7_mark_3 0 rfl rfl)
theorem dX7_mark_75 : decode cX7_mark 75 = .ok (.iastore, 1) := dk_79 (dk_at dksX7_mark_3 3 rfl rfl)
theorem dX7_mark_76 : decode cX7_mark 76 = .ok (.sipush 1728, 3) := dk_17 6 192 (dk_at dksX7_mark_3 4 rfl rfl)
theorem dX7_mark_79 : decode cX7_mark 79 = .ok (.iload_n 1, 1) := dk_27 (dk_at dksX7_mark_3 7 rfl rfl)
theorem dX7_mark_80 : decode cX7_mark 80 = .ok (.imul, 1) := dk_104 (dk_at dksX7_mark_3 8 rfl rfl)
theorem dX7_mark_81 : decode cX7_mark 81 = .ok (.istore_n 3, 1) := dk_62 (dk_at dksX7_mark_3 9 rfl rfl)
theorem dX7_mark_82 : decode cX7_mark 82 = .ok (.aload_n 0, 1) := dk_42 (dk_at dksX7_mark_3 10 rfl rfl)
theorem dX7_mark_83 : decode cX7_mark 83 = .ok (.iload_n 3, 1) := dk_29 (dk_at dksX7_mark_3 11 rfl rfl)
theorem dX7_mark_84 : decode cX7_mark 84 = .ok (.aload_n 0, 1) := dk_42 (dk_at dksX7_mark_3 12 rfl rfl)
theorem dX7_mark_85 : decode cX7_mark 85 = .ok (.getfield 115, 3) := dk_180 0 115 (dk_at dksX7_mark_3 13 rfl rfl)
theorem dX7_mark_88 : decode cX7_mark 88 = .ok (.iload_n 2, 1) := dk_28 (dk_at dksX7_mark_3 16 rfl rfl)
theorem dX7_mark_89 : decode cX7_mark 89 = .ok (.invokevirtual 496, 3) := dk_182 1 240 (dk_at dksX7_mark_3 17 rfl rfl)
theorem dX7_mark_92 : decode cX7_mark 92 = .ok (.aload_n 0, 1) := dk_42 (dk_at dksX7_mark_3 20 rfl rfl)
theorem dX7_mark_93 : decode cX7_mark 93 = .ok (.iload_n 3, 1) := dk_29 (dk_at dksX7_mark_3 21 rfl rfl)
theorem dX7_mark_94 : decode cX7_mark 94 = .ok (.sipush 288, 3) := dk_17 1 32 (dk_at dksX7_mark_4 0 rfl rfl)
theorem dX7_mark_97 : decode cX7_mark 97 = .ok (.iadd, 1) := dk_96 (dk_at dksX7_mark_4 3 rfl rfl)
theorem dX7_mark_98 : decode cX7_mark 98 = .ok (.aload_n 0, 1) := dk_42 (dk_at dksX7_mark_4 4 rfl rfl)
theorem dX7_mark_99 : decode cX7_mark 99 = .ok (.getfield 118, 3) := dk_180 0 118 (dk_at dksX7_mark_4 5 rfl rfl)
theorem dX7_mark_102 : decode cX7_mark 102 = .ok (.iload_n 2, 1) := dk_28 (dk_at dksX7_mark_4 8 rfl rfl)
theorem dX7_mark_103 : decode cX7_mark 103 = .ok (.invokevirtual 496, 3) := dk_182 1 240 (dk_at dksX7_mark_4 9 rfl rfl)
theorem dX7_mark_106 : decode cX7_mark 106 = .ok (.aload_n 0, 1) := dk_42 (dk_at dksX7_mark_4 12 rfl rfl)
theorem dX7_mark_107 : decode cX7_mark 107 = .ok (.iload_n 3, 1) := dk_29 (dk_at dksX7_mark_4 13 rfl rfl)
theorem dX7_mark_108 : decode cX7_mark 108 = .ok (.sipush 576, 3) := dk_17 2 64 (dk_at dksX7_mark_4 14 rfl rfl)
theorem dX7_mark_111 : decode cX7_mark 111 = .ok (.iadd, 1) := dk_96 (dk_at dksX7_mark_4 17 rfl rfl)
theorem dX7_mark_112 : decode cX7_mark 112 = .ok (.aload_n 0, 1) := dk_42 (dk_at dksX7_mark_4 18 rfl rfl)
theorem dX7_mark_113 : decode cX7_mark 113 = .ok (.getfield 121, 3) := dk_180 0 121 (dk_at dksX7_mark_4 19 rfl rfl)
theorem dX7_mark_116 : decode cX7_mark 116 = .ok (.iload_n 2, 1) := dk_28 (dk_at dksX7_mark_4 22 rfl rfl)
theorem dX7_mark_117 : decode cX7_mark 117 = .ok (.invokevirtual 496, 3) := dk_182 1 240 (dk_at dksX7_mark_5 0 rfl rfl)
theorem dX7_mark_120 : decode cX7_mark 120 = .ok (.aload_n 0, 1) := dk_42 (dk_at dksX7_mark_5 3 rfl rfl)
theorem dX7_mark_121 : decode cX7_mark 121 = .ok (.iload_n 3, 1) := dk_29 (dk_at dksX7_mark_5 4 rfl rfl)
theorem dX7_mark_122 : decode cX7_mark 122 = .ok (.sipush 864, 3) := dk_17 3 96 (dk_at dksX7_mark_5 5 rfl rfl)
theorem dX7_mark_125 : decode cX7_mark 125 = .ok (.iadd, 1) := dk_96 (dk_at dksX7_mark_5 8 rfl rfl)
theorem dX7_mark_126 : decode cX7_mark 126 = .ok (.aload_n 0, 1) := dk_42 (dk_at dksX7_mark_5 9 rfl rfl)
theorem dX7_mark_127 : decode cX7_mark 127 = .ok (.getfield 124, 3) := dk_180 0 124 (dk_at dksX7_mark_5 10 rfl rfl)
theorem dX7_mark_130 : decode cX7_mark 130 = .ok (.iload_n 2, 1) := dk_28 (dk_at dksX7_mark_5 13 rfl rfl)
theorem dX7_mark_131 : decode cX7_mark 131 = .ok (.invokevirtual 496, 3) := dk_182 1 240 (dk_at dksX7_mark_5 14 rfl rfl)
theorem dX7_mark_134 : decode cX7_mark 134 = .ok (.aload_n 0, 1) := dk_42 (dk_at dksX7_mark_5 17 rfl rfl)
theorem dX7_mark_135 : decode cX7_mark 135 = .ok (.iload_n 3, 1) := dk_29 (dk_at dksX7_mark_5 18 rfl rfl)
theorem dX7_mark_136 : decode cX7_mark 136 = .ok (.sipush 1152, 3) := dk_17 4 128 (dk_at dksX7_mark_5 19 rfl rfl)
theorem dX7_mark_139 : decode cX7_mark 139 = .ok (.iadd, 1) := dk_96 (dk_at dksX7_mark_5 22 rfl rfl)
theorem dX7_mark_140 : decode cX7_mark 140 = .ok (.aload_n 0, 1) := dk_42 (dk_at dksX7_mark_5 23 rfl rfl)
theorem dX7_mark_141 : decode cX7_mark 141 = .ok (.getfield 127, 3) := dk_180 0 127 (dk_at dksX7_mark_6 0 rfl rfl)
theorem dX7_mark_144 : decode cX7_mark 144 = .ok (.iload_n 2, 1) := dk_28 (dk_at dksX7_mark_6 3 rfl rfl)
theorem dX7_mark_145 : decode cX7_mark 145 = .ok (.invokevirtual 496, 3) := dk_182 1 240 (dk_at dksX7_mark_6 4 rfl rfl)
theorem dX7_mark_148 : decode cX7_mark 148 = .ok (.aload_n 0, 1) := dk_42 (dk_at dksX7_mark_6 7 rfl rfl)
theorem dX7_mark_149 : decode cX7_mark 149 = .ok (.iload_n 3, 1) := dk_29 (dk_at dksX7_mark_6 8 rfl rfl)
theorem dX7_mark_150 : decode cX7_mark 150 = .ok (.sipush 1440, 3) := dk_17 5 160 (dk_at dksX7_mark_6 9 rfl rfl)
theorem dX7_mark_153 : decode cX7_mark 153 = .ok (.iadd, 1) := dk_96 (dk_at dksX7_mark_6 12 rfl rfl)
theorem dX7_mark_154 : decode cX7_mark 154 = .ok (.aload_n 0, 1) := dk_42 (dk_at dksX7_mark_6 13 rfl rfl)
theorem dX7_mark_155 : decode cX7_mark 155 = .ok (.getfield 130, 3) := dk_180 0 130 (dk_at dksX7_mark_6 14 rfl rfl)
theorem dX7_mark_158 : decode cX7_mark 158 = .ok (.iload_n 2, 1) := dk_28 (dk_at dksX7_mark_6 17 rfl rfl)
theorem dX7_mark_159 : decode cX7_mark 159 = .ok (.invokevirtual 496, 3) := dk_182 1 240 (dk_at dksX7_mark_6 18 rfl rfl)
theorem dX7_mark_162 : decode cX7_mark 162 = .ok (.iconst 1, 1) := dk_4 (dk_at dksX7_mark_6 21 rfl rfl)
theorem dX7_mark_163 : decode cX7_mark 163 = .ok (.ireturn, 1) := dk_172 (dk_at dksX7_mark_6 22 rfl rfl)
def dkwX7_keeps_2 : List UInt8 := [167, 255, 212, 177]
abbrev dktX7_keeps_2 : List UInt8 := dkwX7_keeps_2 ++ []
def dkwX7_keeps_1 : List UInt8 := [21, 4, 96, 46, 79, 167, 0, 16, 42, 180, 0, 205, 27, 21, 4, 96, 44, 21, 4, 46, 79, 132, 4, 1]
abbrev dktX7_keeps_1 : List UInt8 := dkwX7_keeps_1 ++ dktX7_keeps_2
def dkwX7_keeps_0 : List UInt8 := [3, 54, 4, 21, 4, 17, 1, 32, 162, 0, 42, 29, 153, 0, 19, 44, 21, 4, 42, 180, 0, 205, 27]
abbrev dktX7_keeps_0 : List UInt8 := dkwX7_keeps_0 ++ dktX7_keeps_1
theorem dksX7_keeps_0 : cX7_keeps.data.toList.drop 0 = dktX7_keeps_0 := by decide +kernel
theorem dksX7_keeps_1 : cX7_keeps.data.toList.drop 23 = dktX7_keeps_1 := dk_seg dksX7_keeps_0 23 rfl rfl
theorem dksX7_keeps_2 : cX7_keeps.data.toList.drop 47 = dktX7_keeps_2 := dk_seg dksX7_keeps_1 24 rfl rfl
theorem dX7_keeps_0 : decode cX7_keeps 0 = .ok (.iconst 0, 1) := dk_3 (dk_at dksX7_keeps_0 0 rfl rfl)
theorem dX7_keeps_1 : decode cX7_keeps 1 = .ok (.istore 4, 2) := dk_54 4 (dk_at dksX7_keeps_0 1 rfl rfl)
theorem dX7_keeps_3 : decode cX7_keeps 3 = .ok (.iload 4, 2) := dk_21 4 (dk_at dksX7_keeps_0 3 rfl rfl)
theorem dX7_keeps_5 : decode cX7_keeps 5 = .ok (.sipush 288, 3) := dk_17 1 32 (dk_at dksX7_keeps_0 5 rfl rfl)
theorem dX7_keeps_8 : decode cX7_keeps 8 = .ok (.if_icmp .ge 42, 3) := dk_162 0 42 (dk_at dksX7_keeps_0 8 rfl rfl)
theorem dX7_keeps_11 : decode cX7_keeps 11 = .ok (.iload_n 3, 1) := dk_29 (dk_at dksX7_keeps_0 11 rfl rfl)
theorem dX7_keeps_12 : decode cX7_keeps 12 = .ok (.ifCond .eq 19, 3) := dk_153 0 19 (dk_at dksX7_keeps_0 12 rfl rfl)
theorem dX7_keeps_15 : decode cX7_keeps 15 = .ok (.aload_n 2, 1) := dk_44 (dk_at dksX7_keeps_0 15 rfl rfl)
theorem dX7_keeps_16 : decode cX7_keeps 16 = .ok (.iload 4, 2) := dk_21 4 (dk_at dksX7_keeps_0 16 rfl rfl)
theorem dX7_keeps_18 : decode cX7_keeps 18 = .ok (.aload_n 0, 1) := dk_42 (dk_at dksX7_keeps_0 18 rfl rfl)
theorem dX7_keeps_19 : decode cX7_keeps 19 = .ok (.getfield 205, 3) := dk_180 0 205 (dk_at dksX7_keeps_0 19 rfl rfl)
theorem dX7_keeps_22 : decode cX7_keeps 22 = .ok (.iload_n 1, 1) := dk_27 (dk_at dksX7_keeps_0 22 rfl rfl)
theorem dX7_keeps_23 : decode cX7_keeps 23 = .ok (.iload 4, 2) := dk_21 4 (dk_at dksX7_keeps_1 0 rfl rfl)
theorem dX7_keeps_25 : decode cX7_keeps 25 = .ok (.iadd, 1) := dk_96 (dk_at dksX7_keeps_1 2 rfl rfl)
theorem dX7_keeps_26 : decode cX7_keeps 26 = .ok (.iaload, 1) := dk_46 (dk_at dksX7_keeps_1 3 rfl rfl)
theorem dX7_keeps_27 : decode cX7_keeps 27 = .ok (.iastore, 1) := dk_79 (dk_at dksX7_keeps_1 4 rfl rfl)
theorem dX7_keeps_28 : decode cX7_keeps 28 = .ok (.goto 16, 3) := dk_167 0 16 (dk_at dksX7_keeps_1 5 rfl rfl)
theorem dX7_keeps_31 : decode cX7_keeps 31 = .ok (.aload_n 0, 1) := dk_42 (dk_at dksX7_keeps_1 8 rfl rfl)
theorem dX7_keeps_32 : decode cX7_keeps 32 = .ok (.getfield 205, 3) := dk_180 0 205 (dk_at dksX7_keeps_1 9 rfl rfl)
theorem dX7_keeps_35 : decode cX7_keeps 35 = .ok (.iload_n 1, 1) := dk_27 (dk_at dksX7_keeps_1 12 rfl rfl)
theorem dX7_keeps_36 : decode cX7_keeps 36 = .ok (.iload 4, 2) := dk_21 4 (dk_at dksX7_keeps_1 13 rfl rfl)
theorem dX7_keeps_38 : decode cX7_keeps 38 = .ok (.iadd, 1) := dk_96 (dk_at dksX7_keeps_1 15 rfl rfl)
theorem dX7_keeps_39 : decode cX7_keeps 39 = .ok (.aload_n 2, 1) := dk_44 (dk_at dksX7_keeps_1 16 rfl rfl)
theorem dX7_keeps_40 : decode cX7_keeps 40 = .ok (.iload 4, 2) := dk_21 4 (dk_at dksX7_keeps_1 17 rfl rfl)
theorem dX7_keeps_42 : decode cX7_keeps 42 = .ok (.iaload, 1) := dk_46 (dk_at dksX7_keeps_1 19 rfl rfl)
theorem dX7_keeps_43 : decode cX7_keeps 43 = .ok (.iastore, 1) := dk_79 (dk_at dksX7_keeps_1 20 rfl rfl)
theorem dX7_keeps_44 : decode cX7_keeps 44 = .ok (.iinc 4 1, 3) := dk_132 4 1 (dk_at dksX7_keeps_1 21 rfl rfl)
theorem dX7_keeps_47 : decode cX7_keeps 47 = .ok (.goto (-44), 3) := dk_167 255 212 (dk_at dksX7_keeps_2 0 rfl rfl)
theorem dX7_keeps_50 : decode cX7_keeps 50 = .ok (.return_, 1) := dk_177 (dk_at dksX7_keeps_2 3 rfl rfl)
def dkwX7_count_8 : List UInt8 := [172, 2, 172]
abbrev dktX7_count_8 : List UInt8 := dkwX7_count_8 ++ []
def dkwX7_count_7 : List UInt8 := [4, 167, 0, 4, 3, 96, 61, 132, 3, 1, 167, 255, 228, 28, 172, 42, 180, 0, 208, 172, 42, 180, 0, 11]
abbrev dktX7_count_7 : List UInt8 := dkwX7_count_7 ++ dktX7_count_8
def dkwX7_count_6 : List UInt8 := [180, 1, 172, 172, 3, 62, 29, 42, 180, 1, 172, 162, 0, 26, 28, 42, 180, 0, 169, 29, 51, 153, 0, 7]
abbrev dktX7_count_6 : List UInt8 := dkwX7_count_6 ++ dktX7_count_7
def dkwX7_count_5 : List UInt8 := [167, 0, 13, 3, 167, 0, 9, 42, 180, 0, 124, 29, 46, 96, 61, 132, 3, 1, 167, 255, 215, 28, 172, 42]
abbrev dktX7_count_5 : List UInt8 := dkwX7_count_5 ++ dktX7_count_6
def dkwX7_count_4 : List UInt8 := [62, 29, 17, 1, 32, 162, 0, 40, 28, 27, 4, 160, 0, 20, 42, 180, 0, 115, 29, 46, 153, 0, 7, 4]
abbrev dktX7_count_4 : List UInt8 := dkwX7_count_4 ++ dktX7_count_5
def dkwX7_count_3 : List UInt8 := [180, 0, 106, 29, 51, 153, 0, 7, 4, 167, 0, 4, 3, 96, 61, 132, 3, 1, 167, 255, 217, 28, 172, 3]
abbrev dktX7_count_3 : List UInt8 := dkwX7_count_3 ++ dktX7_count_4
def dkwX7_count_2 : List UInt8 := [3, 62, 29, 16, 24, 162, 0, 39, 28, 42, 180, 0, 93, 29, 51, 153, 0, 20, 27, 153, 0, 12, 42]
abbrev dktX7_count_2 : List UInt8 := dkwX7_count_2 ++ dktX7_count_3
def dkwX7_count_1 : List UInt8 := [170, 0, 0, 0, 0, 0, 0, 192, 0, 0, 0, 0, 0, 0, 0, 7, 0, 0, 0, 48, 0, 0, 0, 94, 0, 0, 0, 94, 0, 0, 0, 142, 0, 0, 0, 147, 0, 0, 0, 182, 0, 0, 0, 187, 0, 0, 0, 48]
abbrev dktX7_count_1 : List UInt8 := dkwX7_count_1 ++ dktX7_count_2
def dkwX7_count_0 : List UInt8 := [42, 3, 181, 0, 1, 3, 61, 27]
abbrev dktX7_count_0 : List UInt8 := dkwX7_count_0 ++ dktX7_count_1
theorem dksX7_count_0 : cX7_count.data.toList.drop 0 = dktX7_count_0 := by decide +kernel
theorem dksX7_count_1 : cX7_count.data.toList.drop 8 = dktX7_count_1 := dk_seg dksX7_count_0 8 rfl rfl
theorem dksX7_count_2 : cX7_count.data.toList.drop 56 = dktX7_count_2 := dk_seg dksX7_count_1 48 rfl rfl
theorem dksX7_count_3 : cX7_count.data.toList.drop 79 = dktX7_count_3 := dk_seg dksX7_count_2 23 rfl rfl
theorem dksX7_count_4 : cX7_count.data.toList.drop 103 = dktX7_count_4 := dk_seg dksX7_count_3 24 rfl rfl
theorem dksX7_count_5 : cX7_count.data.toList.drop 127 = dktX7_count_5 := dk_seg dksX7_count_4 24 rfl rfl
theorem dksX7_count_6 : cX7_count.data.toList.drop 151 = dktX7_count_6 := dk_seg dksX7_count_5 24 rfl rfl
theorem dksX7_count_7 : cX7_count.data.toList.drop 175 = dktX7_count_7 := dk_seg dksX7_count_6 24 rfl rfl
theorem dksX7_count_8 : cX7_count.data.toList.drop 199 = dktX7_count_8 := dk_seg dksX7_count_7 24 rfl rfl
theorem dX7_count_0 : decode cX7_count 0 = .ok (.aload_n 0, 1) := dk_42 (dk_at dksX7_count_0 0 rfl rfl)
theorem dX7_count_1 : decode cX7_count 1 = .ok (.iconst 0, 1) := dk_3 (dk_at dksX7_count_0 1 rfl rfl)
theorem dX7_count_2 : decode cX7_count 2 = .ok (.putfield 1, 3) := dk_181 0 1 (dk_at dksX7_count_0 2 rfl rfl)
theorem dX7_count_5 : decode cX7_count 5 = .ok (.iconst 0, 1) := dk_3 (dk_at dksX7_count_0 5 rfl rfl)
theorem dX7_count_6 : decode cX7_count 6 = .ok (.istore_n 2, 1) := dk_61 (dk_at dksX7_count_0 6 rfl rfl)
theorem dX7_count_7 : decode cX7_count 7 = .ok (.iload_n 1, 1) := dk_27 (dk_at dksX7_count_0 7 rfl rfl)
theorem dX7_count_8 : decode cX7_count 8 = .ok (.tableswitch 192 0 7 #[48, 94, 94, 142, 147, 182, 187, 48], 48) := by decide +kernel
theorem dX7_count_56 : decode cX7_count 56 = .ok (.iconst 0, 1) := dk_3 (dk_at dksX7_count_2 0 rfl rfl)
theorem dX7_count_57 : decode cX7_count 57 = .ok (.istore_n 3, 1) := dk_62 (dk_at dksX7_count_2 1 rfl rfl)
theorem dX7_count_58 : decode cX7_count 58 = .ok (.iload_n 3, 1) := dk_29 (dk_at dksX7_count_2 2 rfl rfl)
theorem dX7_count_59 : decode cX7_count 59 = .ok (.bipush 24, 2) := dk_16 24 (dk_at dksX7_count_2 3 rfl rfl)
theorem dX7_count_61 : decode cX7_count 61 = .ok (.if_icmp .ge 39, 3) := dk_162 0 39 (dk_at dksX7_count_2 5 rfl rfl)
theorem dX7_count_64 : decode cX7_count 64 = .ok (.iload_n 2, 1) := dk_28 (dk_at dksX7_count_2 8 rfl rfl)
theorem dX7_count_65 : decode cX7_count 65 = .ok (.aload_n 0, 1) := dk_42 (dk_at dksX7_count_2 9 rfl rfl)
theorem dX7_count_66 : decode cX7_count 66 = .ok (.getfield 93, 3) := dk_180 0 93 (dk_at dksX7_count_2 10 rfl rfl)
theorem dX7_count_69 : decode cX7_count 69 = .ok (.iload_n 3, 1) := dk_29 (dk_at dksX7_count_2 13 rfl rfl)
theorem dX7_count_70 : decode cX7_count 70 = .ok (.baload, 1) := dk_51 (dk_at dksX7_count_2 14 rfl rfl)
theorem dX7_count_71 : decode cX7_count 71 = .ok (.ifCond .eq 20, 3) := dk_153 0 20 (dk_at dksX7_count_2 15 rfl rfl)
theorem dX7_count_74 : decode cX7_count 74 = .ok (.iload_n 1, 1) := dk_27 (dk_at dksX7_count_2 18 rfl rfl)
theorem dX7_count_75 : decode cX7_count 75 = .ok (.ifCond .eq 12, 3) := dk_153 0 12 (dk_at dksX7_count_2 19 rfl rfl)
theorem dX7_count_78 : decode cX7_count 78 = .ok (.aload_n 0, 1) := dk_42 (dk_at dksX7_count_2 22 rfl rfl)
theorem dX7_count_79 : decode cX7_count 79 = .ok (.getfield 106, 3) := dk_180 0 106 (dk_at dksX7_count_3 0 rfl rfl)
theorem dX7_count_82 : decode cX7_count 82 = .ok (.iload_n 3, 1) := dk_29 (dk_at dksX7_count_3 3 rfl rfl)
theorem dX7_count_83 : decode cX7_count 83 = .ok (.baload, 1) := dk_51 (dk_at dksX7_count_3 4 rfl rfl)
theorem dX7_count_84 : decode cX7_count 84 = .ok (.ifCond .eq 7, 3) := dk_153 0 7 (dk_at dksX7_count_3 5 rfl rfl)
theorem dX7_count_87 : decode cX7_count 87 = .ok (.iconst 1, 1) := dk_4 (dk_at dksX7_count_3 8 rfl rfl)
theorem dX7_count_88 : decode cX7_count 88 = .ok (.goto 4, 3) := dk_167 0 4 (dk_at dksX7_count_3 9 rfl rfl)
theorem dX7_count_91 : decode cX7_count 91 = .ok (.iconst 0, 1) := dk_3 (dk_at dksX7_count_3 12 rfl rfl)
theorem dX7_count_92 : decode cX7_count 92 = .ok (.iadd, 1) := dk_96 (dk_at dksX7_count_3 13 rfl rfl)
theorem dX7_count_93 : decode cX7_count 93 = .ok (.istore_n 2, 1) := dk_61 (dk_at dksX7_count_3 14 rfl rfl)
theorem dX7_count_94 : decode cX7_count 94 = .ok (.iinc 3 1, 3) := dk_132 3 1 (dk_at dksX7_count_3 15 rfl rfl)
theorem dX7_count_97 : decode cX7_count 97 = .ok (.goto (-39), 3) := dk_167 255 217 (dk_at dksX7_count_3 18 rfl rfl)
theorem dX7_count_100 : decode cX7_count 100 = .ok (.iload_n 2, 1) := dk_28 (dk_at dksX7_count_3 21 rfl rfl)
theorem dX7_count_101 : decode cX7_count 101 = .ok (.ireturn, 1) := dk_172 (dk_at dksX7_count_3 22 rfl rfl)
theorem dX7_count_102 : decode cX7_count 102 = .ok (.iconst 0, 1) := dk_3 (dk_at dksX7_count_3 23 rfl rfl)
theorem dX7_count_103 : decode cX7_count 103 = .ok (.istore_n 3, 1) := dk_62 (dk_at dksX7_count_4 0 rfl rfl)
theorem dX7_count_104 : decode cX7_count 104 = .ok (.iload_n 3, 1) := dk_29 (dk_at dksX7_count_4 1 rfl rfl)
theorem dX7_count_105 : decode cX7_count 105 = .ok (.sipush 288, 3) := dk_17 1 32 (dk_at dksX7_count_4 2 rfl rfl)
theorem dX7_count_108 : decode cX7_count 108 = .ok (.if_icmp .ge 40, 3) := dk_162 0 40 (dk_at dksX7_count_4 5 rfl rfl)
theorem dX7_count_111 : decode cX7_count 111 = .ok (.iload_n 2, 1) := dk_28 (dk_at dksX7_count_4 8 rfl rfl)
theorem dX7_count_112 : decode cX7_count 112 = .ok (.iload_n 1, 1) := dk_27 (dk_at dksX7_count_4 9 rfl rfl)
theorem dX7_count_113 : decode cX7_count 113 = .ok (.iconst 1, 1) := dk_4 (dk_at dksX7_count_4 10 rfl rfl)
theorem dX7_count_114 : decode cX7_count 114 = .ok (.if_icmp .ne 20, 3) := dk_160 0 20 (dk_at dksX7_count_4 11 rfl rfl)
theorem dX7_count_117 : decode cX7_count 117 = .ok (.aload_n 0, 1) := dk_42 (dk_at dksX7_count_4 14 rfl rfl)
theorem dX7_count_118 : decode cX7_count 118 = .ok (.getfield 115, 3) := dk_180 0 115 (dk_at dksX7_count_4 15 rfl rfl)
theorem dX7_count_121 : decode cX7_count 121 = .ok (.iload_n 3, 1) := dk_29 (dk_at dksX7_count_4 18 rfl rfl)
theorem dX7_count_122 : decode cX7_count 122 = .ok (.iaload, 1) := dk_46 (dk_at dksX7_count_4 19 rfl rfl)
theorem dX7_count_123 : decode cX7_count 123 = .ok (.ifCond .eq 7, 3) := dk_153 0 7 (dk_at dksX7_count_4 20 rfl rfl)
theorem dX7_count_126 : decode cX7_count 126 = .ok (.iconst 1, 1) := dk_4 (dk_at dksX7_count_4 23 rfl rfl)
theorem dX7_count_127 : decode cX7_count 127 = .ok (.goto 13, 3) := dk_167 0 13 (dk_at dksX7_count_5 0 rfl rfl)
theorem dX7_count_130 : decode cX7_count 130 = .ok (.iconst 0, 1) := dk_3 (dk_at dksX7_count_5 3 rfl rfl)
theorem dX7_count_131 : decode cX7_count 131 = .ok (.goto 9, 3) := dk_167 0 9 (dk_at dksX7_count_5 4 rfl rfl)
theorem dX7_count_134 : decode cX7_count 134 = .ok (.aload_n 0, 1) := dk_42 (dk_at dksX7_count_5 7 rfl rfl)
theorem dX7_count_135 : decode cX7_count 135 = .ok (.getfield 124, 3) := dk_180 0 124 (dk_at dksX7_count_5 8 rfl rfl)
theorem dX7_count_138 : decode cX7_count 138 = .ok (.iload_n 3, 1) := dk_29 (dk_at dksX7_count_5 11 rfl rfl)
theorem dX7_count_139 : decode cX7_count 139 = .ok (.iaload, 1) := dk_46 (dk_at dksX7_count_5 12 rfl rfl)
theorem dX7_count_140 : decode cX7_count 140 = .ok (.iadd, 1) := dk_96 (dk_at dksX7_count_5 13 rfl rfl)
theorem dX7_count_141 : decode cX7_count 141 = .ok (.istore_n 2, 1) := dk_61 (dk_at dksX7_count_5 14 rfl rfl)
theorem dX7_count_142 : decode cX7_count 142 = .ok (.iinc 3 1, 3) := dk_132 3 1 (dk_at dksX7_count_5 15 rfl rfl)
theorem dX7_count_145 : decode cX7_count 145 = .ok (.goto (-41), 3) := dk_167 255 215 (dk_at dksX7_count_5 18 rfl rfl)
theorem dX7_count_148 : decode cX7_count 148 = .ok (.iload_n 2, 1) := dk_28 (dk_at dksX7_count_5 21 rfl rfl)
theorem dX7_count_149 : decode cX7_count 149 = .ok (.ireturn, 1) := dk_172 (dk_at dksX7_count_5 22 rfl rfl)
theorem dX7_count_150 : decode cX7_count 150 = .ok (.aload_n 0, 1) := dk_42 (dk_at dksX7_count_5 23 rfl rfl)
theorem dX7_count_151 : decode cX7_count 151 = .ok (.getfield 428, 3) := dk_180 1 172 (dk_at dksX7_count_6 0 rfl rfl)
theorem dX7_count_154 : decode cX7_count 154 = .ok (.ireturn, 1) := dk_172 (dk_at dksX7_count_6 3 rfl rfl)
theorem dX7_count_155 : decode cX7_count 155 = .ok (.iconst 0, 1) := dk_3 (dk_at dksX7_count_6 4 rfl rfl)
theorem dX7_count_156 : decode cX7_count 156 = .ok (.istore_n 3, 1) := dk_62 (dk_at dksX7_count_6 5 rfl rfl)
theorem dX7_count_157 : decode cX7_count 157 = .ok (.iload_n 3, 1) := dk_29 (dk_at dksX7_count_6 6 rfl rfl)
theorem dX7_count_158 : decode cX7_count 158 = .ok (.aload_n 0, 1) := dk_42 (dk_at dksX7_count_6 7 rfl rfl)
theorem dX7_count_159 : decode cX7_count 159 = .ok (.getfield 428, 3) := dk_180 1 172 (dk_at dksX7_count_6 8 rfl rfl)
theorem dX7_count_162 : decode cX7_count 162 = .ok (.if_icmp .ge 26, 3) := dk_162 0 26 (dk_at dksX7_count_6 11 rfl rfl)
theorem dX7_count_165 : decode cX7_count 165 = .ok (.iload_n 2, 1) := dk_28 (dk_at dksX7_count_6 14 rfl rfl)
theorem dX7_count_166 : decode cX7_count 166 = .ok (.aload_n 0, 1) := dk_42 (dk_at dksX7_count_6 15 rfl rfl)
theorem dX7_count_167 : decode cX7_count 167 = .ok (.getfield 169, 3) := dk_180 0 169 (dk_at dksX7_count_6 16 rfl rfl)
theorem dX7_count_170 : decode cX7_count 170 = .ok (.iload_n 3, 1) := dk_29 (dk_at dksX7_count_6 19 rfl rfl)
theorem dX7_count_171 : decode cX7_count 171 = .ok (.baload, 1) := dk_51 (dk_at dksX7_count_6 20 rfl rfl)
theorem dX7_count_172 : decode cX7_count 172 = .ok (.ifCond .eq 7, 3) := dk_153 0 7 (dk_at dksX7_count_6 21 rfl rfl)
theorem dX7_count_175 : decode cX7_count 175 = .ok (.iconst 1, 1) := dk_4 (dk_at dksX7_count_7 0 rfl rfl)
theorem dX7_count_176 : decode cX7_count 176 = .ok (.goto 4, 3) := dk_167 0 4 (dk_at dksX7_count_7 1 rfl rfl)
theorem dX7_count_179 : decode cX7_count 179 = .ok (.iconst 0, 1) := dk_3 (dk_at dksX7_count_7 4 rfl rfl)
theorem dX7_count_180 : decode cX7_count 180 = .ok (.iadd, 1) := dk_96 (dk_at dksX7_count_7 5 rfl rfl)
theorem dX7_count_181 : decode cX7_count 181 = .ok (.istore_n 2, 1) := dk_61 (dk_at dksX7_count_7 6 rfl rfl)
theorem dX7_count_182 : decode cX7_count 182 = .ok (.iinc 3 1, 3) := dk_132 3 1 (dk_at dksX7_count_7 7 rfl rfl)
theorem dX7_count_185 : decode cX7_count 185 = .ok (.goto (-28), 3) := dk_167 255 228 (dk_at dksX7_count_7 10 rfl rfl)
theorem dX7_count_188 : decode cX7_count 188 = .ok (.iload_n 2, 1) := dk_28 (dk_at dksX7_count_7 13 rfl rfl)
theorem dX7_count_189 : decode cX7_count 189 = .ok (.ireturn, 1) := dk_172 (dk_at dksX7_count_7 14 rfl rfl)
theorem dX7_count_190 : decode cX7_count 190 = .ok (.aload_n 0, 1) := dk_42 (dk_at dksX7_count_7 15 rfl rfl)
theorem dX7_count_191 : decode cX7_count 191 = .ok (.getfield 208, 3) := dk_180 0 208 (dk_at dksX7_count_7 16 rfl rfl)
theorem dX7_count_194 : decode cX7_count 194 = .ok (.ireturn, 1) := dk_172 (dk_at dksX7_count_7 19 rfl rfl)
theorem dX7_count_195 : decode cX7_count 195 = .ok (.aload_n 0, 1) := dk_42 (dk_at dksX7_count_7 20 rfl rfl)
theorem dX7_count_196 : decode cX7_count 196 = .ok (.getfield 11, 3) := dk_180 0 11 (dk_at dksX7_count_7 21 rfl rfl)
theorem dX7_count_199 : decode cX7_count 199 = .ok (.ireturn, 1) := dk_172 (dk_at dksX7_count_8 0 rfl rfl)
theorem dX7_count_200 : decode cX7_count 200 = .ok (.iconst (-1), 1) := dk_2 (dk_at dksX7_count_8 1 rfl rfl)
theorem dX7_count_201 : decode cX7_count 201 = .ok (.ireturn, 1) := dk_172 (dk_at dksX7_count_8 2 rfl rfl)
