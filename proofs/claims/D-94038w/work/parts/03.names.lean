/-! RiverWageLaw -/
set_option maxRecDepth 100000
def RX0 : String := "RiverWageLaw"
abbrev cX0_bank : ByteArray := method_3_code
abbrev cX0_river : ByteArray := method_4_code
abbrev cX0_part : ByteArray := method_5_code
abbrev cX0_bounds : ByteArray := method_6_code
abbrev cX0_sheets : ByteArray := method_7_code
abbrev cX0_choosing : ByteArray := method_8_code
abbrev cX0_beside : ByteArray := method_9_code
abbrev cX0_apart : ByteArray := method_10_code
abbrev cX0_others : ByteArray := method_11_code
abbrev cX0_writes : ByteArray := method_12_code
abbrev cX0_forks : ByteArray := method_13_code
abbrev cX0_booked : ByteArray := method_14_code
abbrev cX0_closes : ByteArray := method_15_code
abbrev cX0_mixed : ByteArray := method_16_code
def yX0_bank : MethodName := ⟨RX0, "bank", "(LRiverWage;IIII[J)I"⟩
def yX0_river : MethodName := ⟨RX0, "river", "(LRiverWage;IIII[J)I"⟩
def yX0_part : MethodName := ⟨RX0, "part", "(LRiverWage;IIII[J)I"⟩
def yX0_bounds : MethodName := ⟨RX0, "bounds", "(LRiverWage;III[J)I"⟩
def yX0_sheets : MethodName := ⟨RX0, "sheets", "(LRiverWage;IIZI[J)I"⟩
def yX0_choosing : MethodName := ⟨RX0, "choosing", "(LRiverWage;IIII[J)I"⟩
def yX0_beside : MethodName := ⟨RX0, "beside", "(LRiverWage;III[J)I"⟩
def yX0_apart : MethodName := ⟨RX0, "apart", "(LRiverWage;IIII[J)I"⟩
def yX0_others : MethodName := ⟨RX0, "others", "(LRiverWage;ZI[J)I"⟩
def yX0_writes : MethodName := ⟨RX0, "writes", "(LRiverWage;II[J)I"⟩
def yX0_forks : MethodName := ⟨RX0, "forks", "(LRiverWage;I[J)I"⟩
def yX0_booked : MethodName := ⟨RX0, "booked", "(LRiverWage;III[J)I"⟩
def yX0_closes : MethodName := ⟨RX0, "closes", "(LRiverWage;IIII[J)I"⟩
def yX0_mixed : MethodName := ⟨RX0, "mixed", "(LRiverWage;III[J)I"⟩
theorem q97 : (Jvm.Cond.initialized "RiverWageLaw") ∈ lw_all := lw_g (lw_at lw_m1 0 rfl) rfl
theorem q123 : (Jvm.Cond.classLink "RiverWageLaw" (8 : Nat) "RiverWage") ∈ lw_all := lw_g (lw_at lw_m1 26 rfl) rfl
theorem q125 : (Jvm.Cond.methodLink "RiverWageLaw" (60 : Nat) ({ cls := "RiverWage", name := "<init>", desc := "()V" } : Jvm.MethodName)) ∈ lw_all := lw_g (lw_at lw_m1 28 rfl) rfl
theorem q357 : (Jvm.Cond.methodLink "RiverWageLaw" (64 : Nat) ({ cls := "RiverWage", name := "kitchen", desc := "(IIIIZ)Z" } : Jvm.MethodName)) ∈ lw_all := lw_g (lw_at lw_m2 20 rfl) rfl
theorem q364 : (Jvm.Cond.methodLink "RiverWageLaw" (69 : Nat) ({ cls := "RiverWage", name := "call", desc := "(IIII)Z" } : Jvm.MethodName)) ∈ lw_all := lw_g (lw_at lw_m2 27 rfl) rfl
theorem q378 : (Jvm.Cond.methodLink "RiverWageLaw" (74 : Nat) ({ cls := "RiverWage", name := "sheet", desc := "(IIII)Z" } : Jvm.MethodName)) ∈ lw_all := lw_g (lw_at lw_m2 41 rfl) rfl
theorem q382 : (Jvm.Cond.methodLink "RiverWageLaw" (78 : Nat) ({ cls := "RiverWage", name := "tenths", desc := "(I)Z" } : Jvm.MethodName)) ∈ lw_all := lw_g (lw_at lw_m2 45 rfl) rfl
theorem q386 : (Jvm.Cond.methodLink "RiverWageLaw" (83 : Nat) ({ cls := "RiverWage", name := "floor", desc := "(IIII)Z" } : Jvm.MethodName)) ∈ lw_all := lw_g (lw_at lw_m2 49 rfl) rfl
theorem q390 : (Jvm.Cond.methodLink "RiverWageLaw" (87 : Nat) ({ cls := "RiverWage", name := "hands", desc := "(II)I" } : Jvm.MethodName)) ∈ lw_all := lw_g (lw_at lw_m2 53 rfl) rfl
theorem q406 : (Jvm.Cond.methodLink "RiverWageLaw" (112 : Nat) ({ cls := "RiverWage", name := "swings", desc := "(II)I" } : Jvm.MethodName)) ∈ lw_all := lw_g (lw_at lw_m2 69 rfl) rfl
theorem q445 : (Jvm.Cond.methodLink "RiverWageLaw" (116 : Nat) ({ cls := "RiverWage", name := "next", desc := "(II)I" } : Jvm.MethodName)) ∈ lw_all := lw_g (lw_at lw_m2 108 rfl) rfl
theorem q449 : (Jvm.Cond.methodLink "RiverWageLaw" (127 : Nat) ({ cls := "RiverWage", name := "odds", desc := "(III)J" } : Jvm.MethodName)) ∈ lw_all := lw_g (lw_at lw_m2 112 rfl) rfl
theorem q480 : (Jvm.Cond.methodLink "RiverWageLaw" (134 : Nat) ({ cls := "RiverWage", name := "alike", desc := "(II)J" } : Jvm.MethodName)) ∈ lw_all := lw_g (lw_at lw_m2 143 rfl) rfl
theorem q488 : (Jvm.Cond.methodLink "RiverWageLaw" (143 : Nat) ({ cls := "RiverWage", name := "feed", desc := "(JJJ)I" } : Jvm.MethodName)) ∈ lw_all := lw_g (lw_at lw_m2 151 rfl) rfl
theorem q492 : (Jvm.Cond.methodLink "RiverWageLaw" (148 : Nat) ({ cls := "RiverWage", name := "law", desc := "(I)I" } : Jvm.MethodName)) ∈ lw_all := lw_g (lw_at lw_m2 155 rfl) rfl
theorem q798 : (Jvm.Cond.methodLink "RiverWageLaw" (153 : Nat) ({ cls := "RiverWage", name := "world", desc := "(IIII)I" } : Jvm.MethodName)) ∈ lw_all := lw_g (lw_at lw_m3 221 rfl) rfl
theorem q844 : (Jvm.Cond.methodLink "RiverWageLaw" (157 : Nat) ({ cls := "RiverWage", name := "fits", desc := "(II)J" } : Jvm.MethodName)) ∈ lw_all := lw_g (lw_at lw_m4 27 rfl) rfl
theorem q855 : (Jvm.Cond.methodLink "RiverWageLaw" (161 : Nat) ({ cls := "RiverWage", name := "best", desc := "(I)I" } : Jvm.MethodName)) ∈ lw_all := lw_g (lw_at lw_m4 38 rfl) rfl
theorem q859 : (Jvm.Cond.methodLink "RiverWageLaw" (165 : Nat) ({ cls := "RiverWage", name := "rivers", desc := "(IIIII)I" } : Jvm.MethodName)) ∈ lw_all := lw_g (lw_at lw_m4 42 rfl) rfl
theorem q866 : (Jvm.Cond.methodLink "RiverWageLaw" (170 : Nat) ({ cls := "RiverWage", name := "other", desc := "(IIZ)I" } : Jvm.MethodName)) ∈ lw_all := lw_g (lw_at lw_m4 49 rfl) rfl
theorem q870 : (Jvm.Cond.methodLink "RiverWageLaw" (179 : Nat) ({ cls := "RiverWage", name := "drawer", desc := "(I)I" } : Jvm.MethodName)) ∈ lw_all := lw_g (lw_at lw_m4 53 rfl) rfl
theorem q878 : (Jvm.Cond.methodLink "RiverWageLaw" (183 : Nat) ({ cls := "RiverWage", name := "writer", desc := "(I)I" } : Jvm.MethodName)) ∈ lw_all := lw_g (lw_at lw_m4 61 rfl) rfl
theorem q890 : (Jvm.Cond.methodLink "RiverWageLaw" (187 : Nat) ({ cls := "RiverWage", name := "takes", desc := "(II)I" } : Jvm.MethodName)) ∈ lw_all := lw_g (lw_at lw_m4 73 rfl) rfl
theorem q902 : (Jvm.Cond.methodLink "RiverWageLaw" (199 : Nat) ({ cls := "RiverWage", name := "book", desc := "(IIII)Z" } : Jvm.MethodName)) ∈ lw_all := lw_g (lw_at lw_m4 85 rfl) rfl
theorem q907 : (Jvm.Cond.methodLink "RiverWageLaw" (209 : Nat) ({ cls := "RiverWage", name := "lots", desc := "(IIII)J" } : Jvm.MethodName)) ∈ lw_all := lw_g (lw_at lw_m4 90 rfl) rfl
theorem q935 : (Jvm.Cond.methodLink "RiverWageLaw" (213 : Nat) ({ cls := "RiverWage", name := "needed", desc := "(III)I" } : Jvm.MethodName)) ∈ lw_all := lw_g (lw_at lw_m4 118 rfl) rfl
theorem q940 : (Jvm.Cond.methodLink "RiverWageLaw" (218 : Nat) ({ cls := "RiverWage", name := "slips", desc := "(II)I" } : Jvm.MethodName)) ∈ lw_all := lw_g (lw_at lw_m4 123 rfl) rfl
theorem q944 : (Jvm.Cond.methodLink "RiverWageLaw" (225 : Nat) ({ cls := "RiverWage", name := "where", desc := "(I)I" } : Jvm.MethodName)) ∈ lw_all := lw_g (lw_at lw_m4 127 rfl) rfl
theorem q952 : (Jvm.Cond.methodLink "RiverWageLaw" (229 : Nat) ({ cls := "RiverWage", name := "mark", desc := "(IZ)Z" } : Jvm.MethodName)) ∈ lw_all := lw_g (lw_at lw_m4 135 rfl) rfl
theorem q959 : (Jvm.Cond.methodLink "RiverWageLaw" (234 : Nat) ({ cls := "RiverWage", name := "count", desc := "(I)I" } : Jvm.MethodName)) ∈ lw_all := lw_g (lw_at lw_m4 142 rfl) rfl
theorem q963 : (Jvm.Cond.methodLink "RiverWageLaw" (92 : Nat) ({ cls := "RiverWageLaw", name := "bank", desc := "(LRiverWage;IIII[J)I" } : Jvm.MethodName)) ∈ lw_all := lw_g (lw_at lw_m4 146 rfl) rfl
theorem q964 : (Jvm.Cond.static ({ cls := "RiverWageLaw", name := "bank", desc := "(LRiverWage;IIII[J)I" } : Jvm.MethodName)) ∈ lw_all := lw_g (lw_at lw_m4 147 rfl) rfl
theorem q965 : (Jvm.Cond.codeWith ({ cls := "RiverWageLaw", name := "bank", desc := "(LRiverWage;IIII[J)I" } : Jvm.MethodName) method_3_code (7 : Nat) (Option.some Jvm.ClassFile.FieldType.int) [((0 : Nat), (14 : Nat), (17 : Nat), (13 : Nat))]) ∈ lw_all := lw_g (lw_at lw_m4 148 rfl) rfl
theorem q966 : (Jvm.Cond.classLink "RiverWageLaw" (13 : Nat) "java/util/NoSuchElementException") ∈ lw_all := lw_g (lw_at lw_m4 149 rfl) rfl
theorem q967 : (Jvm.Cond.methodLink "RiverWageLaw" (7 : Nat) ({ cls := "RiverWage", name := "bank", desc := "(IIII)I" } : Jvm.MethodName)) ∈ lw_all := lw_g (lw_at lw_m4 150 rfl) rfl
theorem q995 : (Jvm.Cond.methodLink "RiverWageLaw" (102 : Nat) ({ cls := "RiverWageLaw", name := "river", desc := "(LRiverWage;IIII[J)I" } : Jvm.MethodName)) ∈ lw_all := lw_g (lw_at lw_m4 178 rfl) rfl
theorem q996 : (Jvm.Cond.static ({ cls := "RiverWageLaw", name := "river", desc := "(LRiverWage;IIII[J)I" } : Jvm.MethodName)) ∈ lw_all := lw_g (lw_at lw_m4 179 rfl) rfl
theorem q997 : (Jvm.Cond.codeWith ({ cls := "RiverWageLaw", name := "river", desc := "(LRiverWage;IIII[J)I" } : Jvm.MethodName) method_4_code (7 : Nat) (Option.some Jvm.ClassFile.FieldType.int) [((0 : Nat), (13 : Nat), (16 : Nat), (13 : Nat))]) ∈ lw_all := lw_g (lw_at lw_m4 180 rfl) rfl
theorem q998 : (Jvm.Cond.methodLink "RiverWageLaw" (15 : Nat) ({ cls := "RiverWage", name := "river", desc := "(IIII)J" } : Jvm.MethodName)) ∈ lw_all := lw_g (lw_at lw_m4 181 rfl) rfl
theorem q1006 : (Jvm.Cond.methodLink "RiverWageLaw" (105 : Nat) ({ cls := "RiverWageLaw", name := "part", desc := "(LRiverWage;IIII[J)I" } : Jvm.MethodName)) ∈ lw_all := lw_g (lw_at lw_m4 189 rfl) rfl
theorem q1007 : (Jvm.Cond.static ({ cls := "RiverWageLaw", name := "part", desc := "(LRiverWage;IIII[J)I" } : Jvm.MethodName)) ∈ lw_all := lw_g (lw_at lw_m4 190 rfl) rfl
theorem q1008 : (Jvm.Cond.codeWith ({ cls := "RiverWageLaw", name := "part", desc := "(LRiverWage;IIII[J)I" } : Jvm.MethodName) method_5_code (7 : Nat) (Option.some Jvm.ClassFile.FieldType.int) [((0 : Nat), (13 : Nat), (16 : Nat), (13 : Nat))]) ∈ lw_all := lw_g (lw_at lw_m4 191 rfl) rfl
theorem q1009 : (Jvm.Cond.methodLink "RiverWageLaw" (19 : Nat) ({ cls := "RiverWage", name := "part", desc := "(IIII)J" } : Jvm.MethodName)) ∈ lw_all := lw_g (lw_at lw_m4 192 rfl) rfl
theorem q1013 : (Jvm.Cond.methodLink "RiverWageLaw" (108 : Nat) ({ cls := "RiverWageLaw", name := "bounds", desc := "(LRiverWage;III[J)I" } : Jvm.MethodName)) ∈ lw_all := lw_g (lw_at lw_m4 196 rfl) rfl
theorem q1014 : (Jvm.Cond.static ({ cls := "RiverWageLaw", name := "bounds", desc := "(LRiverWage;III[J)I" } : Jvm.MethodName)) ∈ lw_all := lw_g (lw_at lw_m4 197 rfl) rfl
theorem q1015 : (Jvm.Cond.codeWith ({ cls := "RiverWageLaw", name := "bounds", desc := "(LRiverWage;III[J)I" } : Jvm.MethodName) method_6_code (6 : Nat) (Option.some Jvm.ClassFile.FieldType.int) [((0 : Nat), (11 : Nat), (14 : Nat), (13 : Nat))]) ∈ lw_all := lw_g (lw_at lw_m4 198 rfl) rfl
theorem q1016 : (Jvm.Cond.methodLink "RiverWageLaw" (22 : Nat) ({ cls := "RiverWage", name := "bounds", desc := "(III)J" } : Jvm.MethodName)) ∈ lw_all := lw_g (lw_at lw_m4 199 rfl) rfl
theorem q1020 : (Jvm.Cond.methodLink "RiverWageLaw" (120 : Nat) ({ cls := "RiverWageLaw", name := "sheets", desc := "(LRiverWage;IIZI[J)I" } : Jvm.MethodName)) ∈ lw_all := lw_g (lw_at lw_m4 203 rfl) rfl
theorem q1021 : (Jvm.Cond.static ({ cls := "RiverWageLaw", name := "sheets", desc := "(LRiverWage;IIZI[J)I" } : Jvm.MethodName)) ∈ lw_all := lw_g (lw_at lw_m4 204 rfl) rfl
theorem q1022 : (Jvm.Cond.codeWith ({ cls := "RiverWageLaw", name := "sheets", desc := "(LRiverWage;IIZI[J)I" } : Jvm.MethodName) method_7_code (7 : Nat) (Option.some Jvm.ClassFile.FieldType.int) [((0 : Nat), (13 : Nat), (16 : Nat), (13 : Nat))]) ∈ lw_all := lw_g (lw_at lw_m4 205 rfl) rfl
theorem q1023 : (Jvm.Cond.methodLink "RiverWageLaw" (26 : Nat) ({ cls := "RiverWage", name := "sheets", desc := "(IIZI)J" } : Jvm.MethodName)) ∈ lw_all := lw_g (lw_at lw_m4 206 rfl) rfl
theorem q1031 : (Jvm.Cond.methodLink "RiverWageLaw" (124 : Nat) ({ cls := "RiverWageLaw", name := "choosing", desc := "(LRiverWage;IIII[J)I" } : Jvm.MethodName)) ∈ lw_all := lw_g (lw_at lw_m4 214 rfl) rfl
theorem q1032 : (Jvm.Cond.static ({ cls := "RiverWageLaw", name := "choosing", desc := "(LRiverWage;IIII[J)I" } : Jvm.MethodName)) ∈ lw_all := lw_g (lw_at lw_m4 215 rfl) rfl
theorem q1033 : (Jvm.Cond.codeWith ({ cls := "RiverWageLaw", name := "choosing", desc := "(LRiverWage;IIII[J)I" } : Jvm.MethodName) method_8_code (7 : Nat) (Option.some Jvm.ClassFile.FieldType.int) [((0 : Nat), (13 : Nat), (16 : Nat), (13 : Nat))]) ∈ lw_all := lw_g (lw_at lw_m4 216 rfl) rfl
theorem q1034 : (Jvm.Cond.methodLink "RiverWageLaw" (30 : Nat) ({ cls := "RiverWage", name := "choosing", desc := "(IIII)J" } : Jvm.MethodName)) ∈ lw_all := lw_g (lw_at lw_m4 217 rfl) rfl
theorem q1038 : (Jvm.Cond.methodLink "RiverWageLaw" (131 : Nat) ({ cls := "RiverWageLaw", name := "beside", desc := "(LRiverWage;III[J)I" } : Jvm.MethodName)) ∈ lw_all := lw_g (lw_at lw_m4 221 rfl) rfl
theorem q1039 : (Jvm.Cond.static ({ cls := "RiverWageLaw", name := "beside", desc := "(LRiverWage;III[J)I" } : Jvm.MethodName)) ∈ lw_all := lw_g (lw_at lw_m4 222 rfl) rfl
theorem q1040 : (Jvm.Cond.codeWith ({ cls := "RiverWageLaw", name := "beside", desc := "(LRiverWage;III[J)I" } : Jvm.MethodName) method_9_code (6 : Nat) (Option.some Jvm.ClassFile.FieldType.int) [((0 : Nat), (11 : Nat), (14 : Nat), (13 : Nat))]) ∈ lw_all := lw_g (lw_at lw_m4 223 rfl) rfl
theorem q1041 : (Jvm.Cond.methodLink "RiverWageLaw" (33 : Nat) ({ cls := "RiverWage", name := "beside", desc := "(III)J" } : Jvm.MethodName)) ∈ lw_all := lw_g (lw_at lw_m4 224 rfl) rfl
theorem q1045 : (Jvm.Cond.methodLink "RiverWageLaw" (138 : Nat) ({ cls := "RiverWageLaw", name := "apart", desc := "(LRiverWage;IIII[J)I" } : Jvm.MethodName)) ∈ lw_all := lw_g (lw_at lw_m4 228 rfl) rfl
theorem q1046 : (Jvm.Cond.static ({ cls := "RiverWageLaw", name := "apart", desc := "(LRiverWage;IIII[J)I" } : Jvm.MethodName)) ∈ lw_all := lw_g (lw_at lw_m4 229 rfl) rfl
theorem q1047 : (Jvm.Cond.codeWith ({ cls := "RiverWageLaw", name := "apart", desc := "(LRiverWage;IIII[J)I" } : Jvm.MethodName) method_10_code (7 : Nat) (Option.some Jvm.ClassFile.FieldType.int) [((0 : Nat), (13 : Nat), (16 : Nat), (13 : Nat))]) ∈ lw_all := lw_g (lw_at lw_m4 230 rfl) rfl
theorem q1048 : (Jvm.Cond.methodLink "RiverWageLaw" (36 : Nat) ({ cls := "RiverWage", name := "apart", desc := "(IIII)J" } : Jvm.MethodName)) ∈ lw_all := lw_g (lw_at lw_m4 231 rfl) rfl
theorem q1052 : (Jvm.Cond.methodLink "RiverWageLaw" (175 : Nat) ({ cls := "RiverWageLaw", name := "others", desc := "(LRiverWage;ZI[J)I" } : Jvm.MethodName)) ∈ lw_all := lw_g (lw_at lw_m4 235 rfl) rfl
theorem q1053 : (Jvm.Cond.static ({ cls := "RiverWageLaw", name := "others", desc := "(LRiverWage;ZI[J)I" } : Jvm.MethodName)) ∈ lw_all := lw_g (lw_at lw_m4 236 rfl) rfl
theorem q1054 : (Jvm.Cond.codeWith ({ cls := "RiverWageLaw", name := "others", desc := "(LRiverWage;ZI[J)I" } : Jvm.MethodName) method_11_code (5 : Nat) (Option.some Jvm.ClassFile.FieldType.int) [((0 : Nat), (9 : Nat), (12 : Nat), (13 : Nat))]) ∈ lw_all := lw_g (lw_at lw_m4 237 rfl) rfl
theorem q1055 : (Jvm.Cond.methodLink "RiverWageLaw" (39 : Nat) ({ cls := "RiverWage", name := "others", desc := "(ZI)J" } : Jvm.MethodName)) ∈ lw_all := lw_g (lw_at lw_m4 238 rfl) rfl
theorem q1059 : (Jvm.Cond.methodLink "RiverWageLaw" (191 : Nat) ({ cls := "RiverWageLaw", name := "writes", desc := "(LRiverWage;II[J)I" } : Jvm.MethodName)) ∈ lw_all := lw_g (lw_at lw_m5 2 rfl) rfl
theorem q1060 : (Jvm.Cond.static ({ cls := "RiverWageLaw", name := "writes", desc := "(LRiverWage;II[J)I" } : Jvm.MethodName)) ∈ lw_all := lw_g (lw_at lw_m5 3 rfl) rfl
theorem q1061 : (Jvm.Cond.codeWith ({ cls := "RiverWageLaw", name := "writes", desc := "(LRiverWage;II[J)I" } : Jvm.MethodName) method_12_code (5 : Nat) (Option.some Jvm.ClassFile.FieldType.int) [((0 : Nat), (9 : Nat), (12 : Nat), (13 : Nat))]) ∈ lw_all := lw_g (lw_at lw_m5 4 rfl) rfl
theorem q1062 : (Jvm.Cond.methodLink "RiverWageLaw" (43 : Nat) ({ cls := "RiverWage", name := "writes", desc := "(II)J" } : Jvm.MethodName)) ∈ lw_all := lw_g (lw_at lw_m5 5 rfl) rfl
theorem q1070 : (Jvm.Cond.methodLink "RiverWageLaw" (195 : Nat) ({ cls := "RiverWageLaw", name := "forks", desc := "(LRiverWage;I[J)I" } : Jvm.MethodName)) ∈ lw_all := lw_g (lw_at lw_m5 13 rfl) rfl
theorem q1071 : (Jvm.Cond.static ({ cls := "RiverWageLaw", name := "forks", desc := "(LRiverWage;I[J)I" } : Jvm.MethodName)) ∈ lw_all := lw_g (lw_at lw_m5 14 rfl) rfl
theorem q1072 : (Jvm.Cond.codeWith ({ cls := "RiverWageLaw", name := "forks", desc := "(LRiverWage;I[J)I" } : Jvm.MethodName) method_13_code (4 : Nat) (Option.some Jvm.ClassFile.FieldType.int) [((0 : Nat), (8 : Nat), (11 : Nat), (13 : Nat))]) ∈ lw_all := lw_g (lw_at lw_m5 15 rfl) rfl
theorem q1073 : (Jvm.Cond.methodLink "RiverWageLaw" (47 : Nat) ({ cls := "RiverWage", name := "forks", desc := "(I)J" } : Jvm.MethodName)) ∈ lw_all := lw_g (lw_at lw_m5 16 rfl) rfl
theorem q1077 : (Jvm.Cond.methodLink "RiverWageLaw" (203 : Nat) ({ cls := "RiverWageLaw", name := "booked", desc := "(LRiverWage;III[J)I" } : Jvm.MethodName)) ∈ lw_all := lw_g (lw_at lw_m5 20 rfl) rfl
theorem q1078 : (Jvm.Cond.static ({ cls := "RiverWageLaw", name := "booked", desc := "(LRiverWage;III[J)I" } : Jvm.MethodName)) ∈ lw_all := lw_g (lw_at lw_m5 21 rfl) rfl
theorem q1079 : (Jvm.Cond.codeWith ({ cls := "RiverWageLaw", name := "booked", desc := "(LRiverWage;III[J)I" } : Jvm.MethodName) method_14_code (6 : Nat) (Option.some Jvm.ClassFile.FieldType.int) [((0 : Nat), (11 : Nat), (14 : Nat), (13 : Nat))]) ∈ lw_all := lw_g (lw_at lw_m5 22 rfl) rfl
theorem q1080 : (Jvm.Cond.methodLink "RiverWageLaw" (51 : Nat) ({ cls := "RiverWage", name := "booked", desc := "(III)J" } : Jvm.MethodName)) ∈ lw_all := lw_g (lw_at lw_m5 23 rfl) rfl
theorem q1096 : (Jvm.Cond.methodLink "RiverWageLaw" (206 : Nat) ({ cls := "RiverWageLaw", name := "closes", desc := "(LRiverWage;IIII[J)I" } : Jvm.MethodName)) ∈ lw_all := lw_g (lw_at lw_m5 39 rfl) rfl
theorem q1097 : (Jvm.Cond.static ({ cls := "RiverWageLaw", name := "closes", desc := "(LRiverWage;IIII[J)I" } : Jvm.MethodName)) ∈ lw_all := lw_g (lw_at lw_m5 40 rfl) rfl
theorem q1098 : (Jvm.Cond.codeWith ({ cls := "RiverWageLaw", name := "closes", desc := "(LRiverWage;IIII[J)I" } : Jvm.MethodName) method_15_code (7 : Nat) (Option.some Jvm.ClassFile.FieldType.int) [((0 : Nat), (13 : Nat), (16 : Nat), (13 : Nat))]) ∈ lw_all := lw_g (lw_at lw_m5 41 rfl) rfl
theorem q1099 : (Jvm.Cond.methodLink "RiverWageLaw" (54 : Nat) ({ cls := "RiverWage", name := "closes", desc := "(IIII)J" } : Jvm.MethodName)) ∈ lw_all := lw_g (lw_at lw_m5 42 rfl) rfl
theorem q1103 : (Jvm.Cond.methodLink "RiverWageLaw" (222 : Nat) ({ cls := "RiverWageLaw", name := "mixed", desc := "(LRiverWage;III[J)I" } : Jvm.MethodName)) ∈ lw_all := lw_g (lw_at lw_m5 46 rfl) rfl
theorem q1104 : (Jvm.Cond.static ({ cls := "RiverWageLaw", name := "mixed", desc := "(LRiverWage;III[J)I" } : Jvm.MethodName)) ∈ lw_all := lw_g (lw_at lw_m5 47 rfl) rfl
theorem q1105 : (Jvm.Cond.codeWith ({ cls := "RiverWageLaw", name := "mixed", desc := "(LRiverWage;III[J)I" } : Jvm.MethodName) method_16_code (6 : Nat) (Option.some Jvm.ClassFile.FieldType.int) [((0 : Nat), (11 : Nat), (14 : Nat), (13 : Nat))]) ∈ lw_all := lw_g (lw_at lw_m5 48 rfl) rfl
theorem q1106 : (Jvm.Cond.methodLink "RiverWageLaw" (57 : Nat) ({ cls := "RiverWage", name := "mixed", desc := "(III)J" } : Jvm.MethodName)) ∈ lw_all := lw_g (lw_at lw_m5 49 rfl) rfl
theorem q1110 : (Jvm.Cond.methodLink "RiverWageLaw" (98 : Nat) ({ cls := "RiverWageModel", name := "thrown", desc := "()I" } : Jvm.MethodName)) ∈ lw_all := lw_g (lw_at lw_m5 53 rfl) rfl
theorem q1114 : (Jvm.Cond.methodLink "RiverWageLaw" (147 : Nat) ({ cls := "RiverWageModel", name := "feed", desc := "(JJJ)I" } : Jvm.MethodName)) ∈ lw_all := lw_g (lw_at lw_m5 57 rfl) rfl
theorem q1123 : (Jvm.Cond.classLink "RiverWageLaw" (61 : Nat) "RiverWageModel") ∈ lw_all := lw_g (lw_at lw_m5 66 rfl) rfl
theorem q1124 : (Jvm.Cond.methodLink "RiverWageLaw" (63 : Nat) ({ cls := "RiverWageModel", name := "<init>", desc := "()V" } : Jvm.MethodName)) ∈ lw_all := lw_g (lw_at lw_m5 67 rfl) rfl
theorem q1332 : (Jvm.Cond.methodLink "RiverWageLaw" (68 : Nat) ({ cls := "RiverWageModel", name := "kitchen", desc := "(IIIIZ)Z" } : Jvm.MethodName)) ∈ lw_all := lw_g (lw_at lw_m6 35 rfl) rfl
theorem q1339 : (Jvm.Cond.methodLink "RiverWageLaw" (73 : Nat) ({ cls := "RiverWageModel", name := "call", desc := "(IIII)Z" } : Jvm.MethodName)) ∈ lw_all := lw_g (lw_at lw_m6 42 rfl) rfl
theorem q1350 : (Jvm.Cond.methodLink "RiverWageLaw" (77 : Nat) ({ cls := "RiverWageModel", name := "sheet", desc := "(IIII)Z" } : Jvm.MethodName)) ∈ lw_all := lw_g (lw_at lw_m6 53 rfl) rfl
theorem q1354 : (Jvm.Cond.methodLink "RiverWageLaw" (82 : Nat) ({ cls := "RiverWageModel", name := "tenths", desc := "(I)Z" } : Jvm.MethodName)) ∈ lw_all := lw_g (lw_at lw_m6 57 rfl) rfl
theorem q1358 : (Jvm.Cond.methodLink "RiverWageLaw" (86 : Nat) ({ cls := "RiverWageModel", name := "floor", desc := "(IIII)Z" } : Jvm.MethodName)) ∈ lw_all := lw_g (lw_at lw_m6 61 rfl) rfl
theorem q1362 : (Jvm.Cond.methodLink "RiverWageLaw" (91 : Nat) ({ cls := "RiverWageModel", name := "hands", desc := "(II)I" } : Jvm.MethodName)) ∈ lw_all := lw_g (lw_at lw_m6 65 rfl) rfl
theorem q1374 : (Jvm.Cond.methodLink "RiverWageLaw" (97 : Nat) ({ cls := "RiverWageModel", name := "bank", desc := "(IIII)I" } : Jvm.MethodName)) ∈ lw_all := lw_g (lw_at lw_m6 77 rfl) rfl
theorem q1389 : (Jvm.Cond.methodLink "RiverWageLaw" (104 : Nat) ({ cls := "RiverWageModel", name := "river", desc := "(IIII)J" } : Jvm.MethodName)) ∈ lw_all := lw_g (lw_at lw_m6 92 rfl) rfl
theorem q1419 : (Jvm.Cond.methodLink "RiverWageLaw" (107 : Nat) ({ cls := "RiverWageModel", name := "part", desc := "(IIII)J" } : Jvm.MethodName)) ∈ lw_all := lw_g (lw_at lw_m6 122 rfl) rfl
theorem q1423 : (Jvm.Cond.methodLink "RiverWageLaw" (111 : Nat) ({ cls := "RiverWageModel", name := "bounds", desc := "(III)J" } : Jvm.MethodName)) ∈ lw_all := lw_g (lw_at lw_m6 126 rfl) rfl
theorem q1435 : (Jvm.Cond.methodLink "RiverWageLaw" (115 : Nat) ({ cls := "RiverWageModel", name := "swings", desc := "(II)I" } : Jvm.MethodName)) ∈ lw_all := lw_g (lw_at lw_m6 138 rfl) rfl
theorem q1439 : (Jvm.Cond.methodLink "RiverWageLaw" (119 : Nat) ({ cls := "RiverWageModel", name := "next", desc := "(II)I" } : Jvm.MethodName)) ∈ lw_all := lw_g (lw_at lw_m6 142 rfl) rfl
theorem q1443 : (Jvm.Cond.methodLink "RiverWageLaw" (123 : Nat) ({ cls := "RiverWageModel", name := "sheets", desc := "(IIZI)J" } : Jvm.MethodName)) ∈ lw_all := lw_g (lw_at lw_m6 146 rfl) rfl
theorem q1447 : (Jvm.Cond.methodLink "RiverWageLaw" (126 : Nat) ({ cls := "RiverWageModel", name := "choosing", desc := "(IIII)J" } : Jvm.MethodName)) ∈ lw_all := lw_g (lw_at lw_m6 150 rfl) rfl
theorem q1455 : (Jvm.Cond.methodLink "RiverWageLaw" (130 : Nat) ({ cls := "RiverWageModel", name := "odds", desc := "(III)J" } : Jvm.MethodName)) ∈ lw_all := lw_g (lw_at lw_m6 158 rfl) rfl
theorem q1461 : (Jvm.Cond.methodLink "RiverWageLaw" (133 : Nat) ({ cls := "RiverWageModel", name := "beside", desc := "(III)J" } : Jvm.MethodName)) ∈ lw_all := lw_g (lw_at lw_m6 164 rfl) rfl
theorem q1465 : (Jvm.Cond.methodLink "RiverWageLaw" (137 : Nat) ({ cls := "RiverWageModel", name := "alike", desc := "(II)J" } : Jvm.MethodName)) ∈ lw_all := lw_g (lw_at lw_m6 168 rfl) rfl
theorem q1469 : (Jvm.Cond.methodLink "RiverWageLaw" (140 : Nat) ({ cls := "RiverWageModel", name := "apart", desc := "(IIII)J" } : Jvm.MethodName)) ∈ lw_all := lw_g (lw_at lw_m6 172 rfl) rfl
theorem q1473 : (Jvm.Cond.methodLink "RiverWageLaw" (152 : Nat) ({ cls := "RiverWageModel", name := "law", desc := "(I)I" } : Jvm.MethodName)) ∈ lw_all := lw_g (lw_at lw_m6 176 rfl) rfl
theorem q1560 : (Jvm.Cond.methodLink "RiverWageLaw" (156 : Nat) ({ cls := "RiverWageModel", name := "world", desc := "(IIII)I" } : Jvm.MethodName)) ∈ lw_all := lw_g (lw_at lw_m7 23 rfl) rfl
theorem q1599 : (Jvm.Cond.methodLink "RiverWageLaw" (160 : Nat) ({ cls := "RiverWageModel", name := "fits", desc := "(II)J" } : Jvm.MethodName)) ∈ lw_all := lw_g (lw_at lw_m7 62 rfl) rfl
theorem q1610 : (Jvm.Cond.methodLink "RiverWageLaw" (164 : Nat) ({ cls := "RiverWageModel", name := "best", desc := "(I)I" } : Jvm.MethodName)) ∈ lw_all := lw_g (lw_at lw_m7 73 rfl) rfl
theorem q1614 : (Jvm.Cond.methodLink "RiverWageLaw" (169 : Nat) ({ cls := "RiverWageModel", name := "rivers", desc := "(IIIII)I" } : Jvm.MethodName)) ∈ lw_all := lw_g (lw_at lw_m7 77 rfl) rfl
theorem q1618 : (Jvm.Cond.methodLink "RiverWageLaw" (174 : Nat) ({ cls := "RiverWageModel", name := "other", desc := "(IIZ)I" } : Jvm.MethodName)) ∈ lw_all := lw_g (lw_at lw_m7 81 rfl) rfl
theorem q1622 : (Jvm.Cond.methodLink "RiverWageLaw" (178 : Nat) ({ cls := "RiverWageModel", name := "others", desc := "(ZI)J" } : Jvm.MethodName)) ∈ lw_all := lw_g (lw_at lw_m7 85 rfl) rfl
theorem q1630 : (Jvm.Cond.methodLink "RiverWageLaw" (182 : Nat) ({ cls := "RiverWageModel", name := "drawer", desc := "(I)I" } : Jvm.MethodName)) ∈ lw_all := lw_g (lw_at lw_m7 93 rfl) rfl
theorem q1634 : (Jvm.Cond.methodLink "RiverWageLaw" (186 : Nat) ({ cls := "RiverWageModel", name := "writer", desc := "(I)I" } : Jvm.MethodName)) ∈ lw_all := lw_g (lw_at lw_m7 97 rfl) rfl
theorem q1646 : (Jvm.Cond.methodLink "RiverWageLaw" (190 : Nat) ({ cls := "RiverWageModel", name := "takes", desc := "(II)I" } : Jvm.MethodName)) ∈ lw_all := lw_g (lw_at lw_m7 109 rfl) rfl
theorem q1662 : (Jvm.Cond.methodLink "RiverWageLaw" (194 : Nat) ({ cls := "RiverWageModel", name := "writes", desc := "(II)J" } : Jvm.MethodName)) ∈ lw_all := lw_g (lw_at lw_m7 125 rfl) rfl
theorem q1670 : (Jvm.Cond.methodLink "RiverWageLaw" (198 : Nat) ({ cls := "RiverWageModel", name := "forks", desc := "(I)J" } : Jvm.MethodName)) ∈ lw_all := lw_g (lw_at lw_m7 133 rfl) rfl
theorem q1674 : (Jvm.Cond.methodLink "RiverWageLaw" (202 : Nat) ({ cls := "RiverWageModel", name := "book", desc := "(IIII)Z" } : Jvm.MethodName)) ∈ lw_all := lw_g (lw_at lw_m7 137 rfl) rfl
theorem q1679 : (Jvm.Cond.methodLink "RiverWageLaw" (205 : Nat) ({ cls := "RiverWageModel", name := "booked", desc := "(III)J" } : Jvm.MethodName)) ∈ lw_all := lw_g (lw_at lw_m7 142 rfl) rfl
theorem q1695 : (Jvm.Cond.methodLink "RiverWageLaw" (208 : Nat) ({ cls := "RiverWageModel", name := "closes", desc := "(IIII)J" } : Jvm.MethodName)) ∈ lw_all := lw_g (lw_at lw_m7 158 rfl) rfl
theorem q1703 : (Jvm.Cond.methodLink "RiverWageLaw" (212 : Nat) ({ cls := "RiverWageModel", name := "lots", desc := "(IIII)J" } : Jvm.MethodName)) ∈ lw_all := lw_g (lw_at lw_m7 166 rfl) rfl
theorem q1725 : (Jvm.Cond.methodLink "RiverWageLaw" (217 : Nat) ({ cls := "RiverWageModel", name := "needed", desc := "(III)I" } : Jvm.MethodName)) ∈ lw_all := lw_g (lw_at lw_m7 188 rfl) rfl
theorem q1730 : (Jvm.Cond.methodLink "RiverWageLaw" (221 : Nat) ({ cls := "RiverWageModel", name := "slips", desc := "(II)I" } : Jvm.MethodName)) ∈ lw_all := lw_g (lw_at lw_m7 193 rfl) rfl
theorem q1738 : (Jvm.Cond.methodLink "RiverWageLaw" (224 : Nat) ({ cls := "RiverWageModel", name := "mixed", desc := "(III)J" } : Jvm.MethodName)) ∈ lw_all := lw_g (lw_at lw_m7 201 rfl) rfl
theorem q1742 : (Jvm.Cond.methodLink "RiverWageLaw" (228 : Nat) ({ cls := "RiverWageModel", name := "where", desc := "(I)I" } : Jvm.MethodName)) ∈ lw_all := lw_g (lw_at lw_m7 205 rfl) rfl
theorem q1750 : (Jvm.Cond.methodLink "RiverWageLaw" (233 : Nat) ({ cls := "RiverWageModel", name := "mark", desc := "(IZ)Z" } : Jvm.MethodName)) ∈ lw_all := lw_g (lw_at lw_m7 213 rfl) rfl
theorem q1758 : (Jvm.Cond.methodLink "RiverWageLaw" (237 : Nat) ({ cls := "RiverWageModel", name := "count", desc := "(I)I" } : Jvm.MethodName)) ∈ lw_all := lw_g (lw_at lw_m7 221 rfl) rfl
theorem q1762 : (Jvm.Cond.constantLong "RiverWageLaw" (141 : Nat) (4294967295 : Int64)) ∈ lw_all := lw_g (lw_at lw_m7 225 rfl) rfl

/-! RiverWage -/
set_option maxRecDepth 100000
def RX1 : String := "RiverWage"
def TX1 : u_T := fun k => match k with
  | 0 => ("RiverWage", "kitchens", "[LRiverWage$Kitchen;", true)
  | 1 => ("RiverWage", "floors", "[[I", true)
  | 2 => ("RiverWage", "trades", "[[I", true)
  | 3 => ("RiverWage", "tape", "[B", true)
  | 4 => ("RiverWage", "reader", "LRiverWage$Reader;", true)
  | 5 => ("RiverWage", "laws", "[LRiverWage$Law;", true)
  | 6 => ("RiverWage", "writers", "[LRiverWage$Writer;", true)
  | 7 => ("RiverWage", "taped", "I", false)
  | 8 => ("RiverWage", "tenths", "I", false)
  | 9 => ("RiverWage", "by", "I", false)
  | 10 => ("RiverWage", "one", "LRiverWage$Mean;", true)
  | 11 => ("RiverWage", "two", "LRiverWage$Mean;", true)
  | 12 => ("RiverWage", "changes", "[I", true)
  | 13 => ("RiverWage", "as", "J", false)
  | 14 => ("RiverWage", "far", "J", false)
  | 15 => ("RiverWage", "all", "I", false)
  | 16 => ("RiverWage", "worldWhole", "[[I", true)
  | 17 => ("RiverWage", "worldHalf", "[[I", true)
  | 18 => ("RiverWage", "facts", "[I", true)
  | 19 => ("RiverWage", "otherSum", "[I", true)
  | 20 => ("RiverWage", "otherMany", "[I", true)
  | 21 => ("RiverWage", "isPrinted", "[Z", true)
  | 22 => ("RiverWage", "others", "I", false)
  | 23 => ("RiverWage", "lots0", "[I", true)
  | 24 => ("RiverWage", "lots1", "[I", true)
  | 25 => ("RiverWage", "there0", "I", false)
  | 26 => ("RiverWage", "there1", "I", false)
  | _ => ("RiverWage", "marks", "[[I", true)
def tyX1 : Nat → FieldType := fun k => match k with
  | 0 => .array (.object "RiverWage$Kitchen")
  | 1 => .array (.array .int)
  | 2 => .array (.array .int)
  | 3 => .array .byte
  | 4 => .object "RiverWage$Reader"
  | 5 => .array (.object "RiverWage$Law")
  | 6 => .array (.object "RiverWage$Writer")
  | 7 => .int
  | 8 => .int
  | 9 => .int
  | 10 => .object "RiverWage$Mean"
  | 11 => .object "RiverWage$Mean"
  | 12 => .array .int
  | 13 => .long
  | 14 => .long
  | 15 => .int
  | 16 => .array (.array .int)
  | 17 => .array (.array .int)
  | 18 => .array .int
  | 19 => .array .int
  | 20 => .array .int
  | 21 => .array .boolean
  | 22 => .int
  | 23 => .array .int
  | 24 => .array .int
  | 25 => .int
  | 26 => .int
  | _ => .array (.array .int)
abbrev wsX10 : List Cond := u_ws RX1 TX1 28
set_option maxRecDepth 100000 in
theorem nmX1 : ∀ a, a < 28 → ∀ b, b < 28 → a ≠ b → (TX1 a).2.1 ≠ (TX1 b).2.1 := by decide +kernel
set_option maxRecDepth 100000 in
theorem tyX1_ok : ∀ k, k < 28 → parseFieldDescriptor (TX1 k).2.2.1 = some (tyX1 k) := by decide +kernel
abbrev cX1_init : ByteArray := prog_1_method_4_code
abbrev cX1_kitchen : ByteArray := prog_1_method_9_code
abbrev cX1_in : ByteArray := prog_1_method_1_code
abbrev cX1_call : ByteArray := prog_1_method_10_code
abbrev cX1_isKitchen : ByteArray := prog_1_method_6_code
abbrev cX1_isMonth : ByteArray := prog_1_method_7_code
abbrev cX1_sheet : ByteArray := prog_1_method_11_code
abbrev cX1_tenths : ByteArray := prog_1_method_12_code
abbrev cX1_floor : ByteArray := prog_1_method_13_code
abbrev cX1_hands : ByteArray := prog_1_method_16_code
abbrev cX1_handsOf : ByteArray := prog_1_method_15_code
abbrev cX1_handsOf_2 : ByteArray := prog_1_method_14_code
abbrev cX1_swings : ByteArray := prog_1_method_32_code
abbrev cX1_areMonths : ByteArray := prog_1_method_8_code
abbrev cX1_ends : ByteArray := prog_1_method_30_code
abbrev cX1_begins : ByteArray := prog_1_method_20_code
abbrev cX1_of : ByteArray := prog_1_method_19_code
abbrev cX1_may : ByteArray := prog_1_method_29_code
abbrev cX1_isThere : ByteArray := prog_1_method_21_code
abbrev cX1_above : ByteArray := prog_1_method_22_code
abbrev cX1_next : ByteArray := prog_1_method_33_code
abbrev cX1_odds : ByteArray := prog_1_method_38_code
abbrev cX1_rivers : ByteArray := prog_1_method_24_code
abbrev cX1_change : ByteArray := prog_1_method_17_code
abbrev cX1_deals : ByteArray := prog_1_method_37_code
abbrev cX1_lowest : ByteArray := prog_1_method_3_code
abbrev cX1_gcd : ByteArray := prog_1_method_2_code
abbrev cX1_alike : ByteArray := prog_1_method_40_code
abbrev cX1_below : ByteArray := prog_1_method_23_code
abbrev cX1_feed : ByteArray := prog_1_method_41_code
abbrev cX1_law : ByteArray := prog_1_method_43_code
abbrev cX1_isLaw : ByteArray := prog_1_method_42_code
abbrev cX1_world : ByteArray := prog_1_method_49_code
abbrev cX1_runs : ByteArray := prog_1_method_44_code
abbrev cX1_goes : ByteArray := prog_1_method_45_code
abbrev cX1_isSo : ByteArray := prog_1_method_46_code
abbrev cX1_hired : ByteArray := prog_1_method_47_code
abbrev cX1_worldHands : ByteArray := prog_1_method_48_code
abbrev cX1_fits : ByteArray := prog_1_method_51_code
abbrev cX1_fitsOf : ByteArray := prog_1_method_50_code
abbrev cX1_best : ByteArray := prog_1_method_52_code
abbrev cX1_rivers_2 : ByteArray := prog_1_method_53_code
abbrev cX1_other : ByteArray := prog_1_method_54_code
abbrev cX1_drawer : ByteArray := prog_1_method_57_code
abbrev cX1_sums : ByteArray := prog_1_method_55_code
abbrev cX1_writer : ByteArray := prog_1_method_58_code
abbrev cX1_takes : ByteArray := prog_1_method_60_code
abbrev cX1_isTaken : ByteArray := prog_1_method_59_code
abbrev cX1_book : ByteArray := prog_1_method_64_code
abbrev cX1_lots : ByteArray := prog_1_method_73_code
abbrev cX1_lays : ByteArray := prog_1_method_70_code
abbrev cX1_sorts : ByteArray := prog_1_method_35_code
abbrev cX1_draws : ByteArray := prog_1_method_72_code
abbrev cX1_sum : ByteArray := prog_1_method_71_code
abbrev cX1_needed : ByteArray := prog_1_method_74_code
abbrev cX1_slips : ByteArray := prog_1_method_75_code
abbrev cX1_where : ByteArray := prog_1_method_78_code
abbrev cX1_weight : ByteArray := prog_1_method_77_code
abbrev cX1_mark : ByteArray := prog_1_method_79_code
abbrev cX1_moves : ByteArray := prog_1_method_80_code
abbrev cX1_count : ByteArray := prog_1_method_81_code
abbrev cX1_bank : ByteArray := prog_1_method_18_code
abbrev cX1_need : ByteArray := prog_1_method_5_code
abbrev cX1_river : ByteArray := prog_1_method_26_code
abbrev cX1_needRiver : ByteArray := prog_1_method_25_code
abbrev cX1_part : ByteArray := prog_1_method_27_code
abbrev cX1_bounds : ByteArray := prog_1_method_31_code
abbrev cX1_sheets : ByteArray := prog_1_method_34_code
abbrev cX1_choosing : ByteArray := prog_1_method_36_code
abbrev cX1_beside : ByteArray := prog_1_method_39_code
abbrev cX1_apart : ByteArray := prog_1_method_28_code
abbrev cX1_others : ByteArray := prog_1_method_56_code
abbrev cX1_writes : ByteArray := prog_1_method_62_code
abbrev cX1_writes_2 : ByteArray := prog_1_method_61_code
abbrev cX1_forks : ByteArray := prog_1_method_63_code
abbrev cX1_booked : ByteArray := prog_1_method_68_code
abbrev cX1_rate : ByteArray := prog_1_method_65_code
abbrev cX1_paid : ByteArray := prog_1_method_66_code
abbrev cX1_taken : ByteArray := prog_1_method_67_code
abbrev cX1_closes : ByteArray := prog_1_method_69_code
abbrev cX1_mixed : ByteArray := prog_1_method_76_code
def yX1_init : MethodName := ⟨RX1, "<init>", "()V"⟩
def yX1_kitchen : MethodName := ⟨RX1, "kitchen", "(IIIIZ)Z"⟩
def yX1_in : MethodName := ⟨RX1, "in", "(III)Z"⟩
def yX1_call : MethodName := ⟨RX1, "call", "(IIII)Z"⟩
def yX1_isKitchen : MethodName := ⟨RX1, "isKitchen", "(I)Z"⟩
def yX1_isMonth : MethodName := ⟨RX1, "isMonth", "(I)Z"⟩
def yX1_sheet : MethodName := ⟨RX1, "sheet", "(IIII)Z"⟩
def yX1_tenths : MethodName := ⟨RX1, "tenths", "(I)Z"⟩
def yX1_floor : MethodName := ⟨RX1, "floor", "(IIII)Z"⟩
def yX1_hands : MethodName := ⟨RX1, "hands", "(II)I"⟩
def yX1_handsOf : MethodName := ⟨RX1, "handsOf", "(LRiverWage$Kitchen;I)I"⟩
def yX1_handsOf_2 : MethodName := ⟨RX1, "handsOf", "(II)I"⟩
def yX1_swings : MethodName := ⟨RX1, "swings", "(II)I"⟩
def yX1_areMonths : MethodName := ⟨RX1, "areMonths", "(II)Z"⟩
def yX1_ends : MethodName := ⟨RX1, "ends", "(IIZ)Z"⟩
def yX1_begins : MethodName := ⟨RX1, "begins", "()V"⟩
def yX1_of : MethodName := ⟨RX1, "of", "(I)LRiverWage$Mean;"⟩
def yX1_may : MethodName := ⟨RX1, "may", "(LRiverWage$Kitchen;IZ)I"⟩
def yX1_isThere : MethodName := ⟨RX1, "isThere", "()Z"⟩
def yX1_above : MethodName := ⟨RX1, "above", "()J"⟩
def yX1_next : MethodName := ⟨RX1, "next", "(II)I"⟩
def yX1_odds : MethodName := ⟨RX1, "odds", "(III)J"⟩
def yX1_rivers : MethodName := ⟨RX1, "rivers", "(III)Z"⟩
def yX1_change : MethodName := ⟨RX1, "change", "(LRiverWage$Kitchen;II)I"⟩
def yX1_deals : MethodName := ⟨RX1, "deals", "(IIJIIJ)V"⟩
def yX1_lowest : MethodName := ⟨RX1, "lowest", "(JJI)J"⟩
def yX1_gcd : MethodName := ⟨RX1, "gcd", "(JJ)J"⟩
def yX1_alike : MethodName := ⟨RX1, "alike", "(II)J"⟩
def yX1_below : MethodName := ⟨RX1, "below", "()J"⟩
def yX1_feed : MethodName := ⟨RX1, "feed", "(JJJ)I"⟩
def yX1_law : MethodName := ⟨RX1, "law", "(I)I"⟩
def yX1_isLaw : MethodName := ⟨RX1, "isLaw", "(I)Z"⟩
def yX1_world : MethodName := ⟨RX1, "world", "(IIII)I"⟩
def yX1_runs : MethodName := ⟨RX1, "runs", "(LRiverWage$Law;I)V"⟩
def yX1_goes : MethodName := ⟨RX1, "goes", "(LRiverWage$Law;III)V"⟩
def yX1_isSo : MethodName := ⟨RX1, "isSo", "(LRiverWage$Expression;)Z"⟩
def yX1_hired : MethodName := ⟨RX1, "hired", "(LRiverWage$Expression;I)I"⟩
def yX1_worldHands : MethodName := ⟨RX1, "worldHands", "(II)I"⟩
def yX1_fits : MethodName := ⟨RX1, "fits", "(II)J"⟩
def yX1_fitsOf : MethodName := ⟨RX1, "fitsOf", "(II)J"⟩
def yX1_best : MethodName := ⟨RX1, "best", "(I)I"⟩
def yX1_rivers_2 : MethodName := ⟨RX1, "rivers", "(IIIII)I"⟩
def yX1_other : MethodName := ⟨RX1, "other", "(IIZ)I"⟩
def yX1_drawer : MethodName := ⟨RX1, "drawer", "(I)I"⟩
def yX1_sums : MethodName := ⟨RX1, "sums", "(Z)V"⟩
def yX1_writer : MethodName := ⟨RX1, "writer", "(I)I"⟩
def yX1_takes : MethodName := ⟨RX1, "takes", "(II)I"⟩
def yX1_isTaken : MethodName := ⟨RX1, "isTaken", "(LRiverWage$Writer;I)Z"⟩
def yX1_book : MethodName := ⟨RX1, "book", "(IIII)Z"⟩
def yX1_lots : MethodName := ⟨RX1, "lots", "(IIII)J"⟩
def yX1_lays : MethodName := ⟨RX1, "lays", "(II)Z"⟩
def yX1_sorts : MethodName := ⟨RX1, "sorts", "(III)I"⟩
def yX1_draws : MethodName := ⟨RX1, "draws", "(I)V"⟩
def yX1_sum : MethodName := ⟨RX1, "sum", "([II)I"⟩
def yX1_needed : MethodName := ⟨RX1, "needed", "(III)I"⟩
def yX1_slips : MethodName := ⟨RX1, "slips", "(II)I"⟩
def yX1_where : MethodName := ⟨RX1, "where", "(I)I"⟩
def yX1_weight : MethodName := ⟨RX1, "weight", "(I)I"⟩
def yX1_mark : MethodName := ⟨RX1, "mark", "(IZ)Z"⟩
def yX1_moves : MethodName := ⟨RX1, "moves", "([I[IIZ)V"⟩
def yX1_count : MethodName := ⟨RX1, "count", "(I)I"⟩
def yX1_bank : MethodName := ⟨RX1, "bank", "(IIII)I"⟩
def yX1_need : MethodName := ⟨RX1, "need", "(Z)V"⟩
def yX1_river : MethodName := ⟨RX1, "river", "(IIII)J"⟩
def yX1_needRiver : MethodName := ⟨RX1, "needRiver", "(IIII)V"⟩
def yX1_part : MethodName := ⟨RX1, "part", "(IIII)J"⟩
def yX1_bounds : MethodName := ⟨RX1, "bounds", "(III)J"⟩
def yX1_sheets : MethodName := ⟨RX1, "sheets", "(IIZI)J"⟩
def yX1_choosing : MethodName := ⟨RX1, "choosing", "(IIII)J"⟩
def yX1_beside : MethodName := ⟨RX1, "beside", "(III)J"⟩
def yX1_apart : MethodName := ⟨RX1, "apart", "(IIII)J"⟩
def yX1_others : MethodName := ⟨RX1, "others", "(ZI)J"⟩
def yX1_writes : MethodName := ⟨RX1, "writes", "(II)J"⟩
def yX1_writes_2 : MethodName := ⟨RX1, "writes", "(LRiverWage$Writer;I)Z"⟩
def yX1_forks : MethodName := ⟨RX1, "forks", "(I)J"⟩
def yX1_booked : MethodName := ⟨RX1, "booked", "(III)J"⟩
def yX1_rate : MethodName := ⟨RX1, "rate", "(LRiverWage$Kitchen;I)J"⟩
def yX1_paid : MethodName := ⟨RX1, "paid", "(LRiverWage$Kitchen;I)J"⟩
def yX1_taken : MethodName := ⟨RX1, "taken", "(LRiverWage$Kitchen;I)J"⟩
def yX1_closes : MethodName := ⟨RX1, "closes", "(IIII)J"⟩
def yX1_mixed : MethodName := ⟨RX1, "mixed", "(III)J"⟩
theorem q98 : (Jvm.Cond.initialized "RiverWage") ∈ lw_all := lw_g (lw_at lw_m1 1 rfl) rfl
theorem q124 : (Jvm.Cond.instantiable "RiverWage" (28 : Nat)) ∈ lw_all := lw_g (lw_at lw_m1 27 rfl) rfl
theorem q126 : (Jvm.Cond.instanceMethod ({ cls := "RiverWage", name := "<init>", desc := "()V" } : Jvm.MethodName)) ∈ lw_all := lw_g (lw_at lw_m1 29 rfl) rfl
theorem q127 : (Jvm.Cond.code ({ cls := "RiverWage", name := "<init>", desc := "()V" } : Jvm.MethodName) prog_1_method_4_code (2 : Nat) (Option.none : Option Jvm.ClassFile.FieldType)) ∈ lw_all := lw_g (lw_at lw_m1 30 rfl) rfl
theorem q128 : (Jvm.Cond.methodLink "RiverWage" (13 : Nat) ({ cls := "java/lang/Object", name := "<init>", desc := "()V" } : Jvm.MethodName)) ∈ lw_all := lw_g (lw_at lw_m1 31 rfl) rfl
theorem q131 : (Jvm.Cond.classLink "RiverWage" (19 : Nat) "RiverWage$Kitchen") ∈ lw_all := lw_g (lw_at lw_m1 34 rfl) rfl
theorem q133 : (Jvm.Cond.classLink "RiverWage" (25 : Nat) "[[I") ∈ lw_all := lw_g (lw_at lw_m1 36 rfl) rfl
theorem q135 : (Jvm.Cond.classLink "RiverWage" (37 : Nat) "RiverWage$Reader") ∈ lw_all := lw_g (lw_at lw_m1 38 rfl) rfl
theorem q137 : (Jvm.Cond.methodLinkNest "RiverWage" (39 : Nat) ({ cls := "RiverWage$Reader", name := "<init>", desc := "()V" } : Jvm.MethodName) "RiverWage") ∈ lw_tbl := lw_at lw_m1 40 rfl
theorem q168 : (Jvm.Cond.classLink "RiverWage" (44 : Nat) "RiverWage$Law") ∈ lw_all := lw_g (lw_at lw_m1 71 rfl) rfl
theorem q170 : (Jvm.Cond.classLink "RiverWage" (50 : Nat) "RiverWage$Writer") ∈ lw_all := lw_g (lw_at lw_m1 73 rfl) rfl
theorem q172 : (Jvm.Cond.classLink "RiverWage" (63 : Nat) "RiverWage$Mean") ∈ lw_all := lw_g (lw_at lw_m1 75 rfl) rfl
theorem q174 : (Jvm.Cond.methodLinkNest "RiverWage" (65 : Nat) ({ cls := "RiverWage$Mean", name := "<init>", desc := "()V" } : Jvm.MethodName) "RiverWage") ∈ lw_tbl := lw_at lw_m1 77 rfl
theorem q179 : (Jvm.Cond.fieldLinkNest "RiverWage" (185 : Nat) "RiverWage$Mean" "sum" "J" "RiverWage") ∈ lw_tbl := lw_at lw_m1 82 rfl
theorem q181 : (Jvm.Cond.fieldLinkNest "RiverWage" (182 : Nat) "RiverWage$Mean" "many" "I" "RiverWage") ∈ lw_tbl := lw_at lw_m1 84 rfl
theorem q187 : (Jvm.Cond.classLink "RiverWage" (102 : Nat) "[I") ∈ lw_all := lw_g (lw_at lw_m1 90 rfl) rfl
theorem q189 : (Jvm.Cond.methodLink "RiverWage" (106 : Nat) ({ cls := "RiverWage$Kitchen", name := "<init>", desc := "()V" } : Jvm.MethodName)) ∈ lw_all := lw_g (lw_at lw_m1 92 rfl) rfl
theorem q193 : (Jvm.Cond.fieldLinkNest "RiverWage" (124 : Nat) "RiverWage$Kitchen" "bank" "I" "RiverWage") ∈ lw_tbl := lw_at lw_m1 96 rfl
theorem q194 : (Jvm.Cond.fieldLinkNest "RiverWage" (127 : Nat) "RiverWage$Kitchen" "wage" "I" "RiverWage") ∈ lw_tbl := lw_at lw_m1 97 rfl
theorem q195 : (Jvm.Cond.fieldLinkNest "RiverWage" (130 : Nat) "RiverWage$Kitchen" "most" "I" "RiverWage") ∈ lw_tbl := lw_at lw_m1 98 rfl
theorem q197 : (Jvm.Cond.fieldLinkNest "RiverWage" (116 : Nat) "RiverWage$Kitchen" "isTold" "Z" "RiverWage") ∈ lw_tbl := lw_at lw_m1 100 rfl
theorem q198 : (Jvm.Cond.fieldLinkNest "RiverWage" (133 : Nat) "RiverWage$Kitchen" "chosen" "Z" "RiverWage") ∈ lw_tbl := lw_at lw_m1 101 rfl
theorem q200 : (Jvm.Cond.fieldLinkNest "RiverWage" (139 : Nat) "RiverWage$Kitchen" "whole" "[I" "RiverWage") ∈ lw_tbl := lw_at lw_m1 103 rfl
theorem q202 : (Jvm.Cond.fieldLinkNest "RiverWage" (142 : Nat) "RiverWage$Kitchen" "half" "[I" "RiverWage") ∈ lw_tbl := lw_at lw_m1 105 rfl
theorem q204 : (Jvm.Cond.fieldLinkNest "RiverWage" (149 : Nat) "RiverWage$Kitchen" "sheetWhole" "[I" "RiverWage") ∈ lw_tbl := lw_at lw_m1 107 rfl
theorem q206 : (Jvm.Cond.fieldLinkNest "RiverWage" (152 : Nat) "RiverWage$Kitchen" "sheetHalf" "[I" "RiverWage") ∈ lw_tbl := lw_at lw_m1 109 rfl
theorem q208 : (Jvm.Cond.fieldLinkNest "RiverWage" (354 : Nat) "RiverWage$Kitchen" "hours" "[I" "RiverWage") ∈ lw_tbl := lw_at lw_m1 111 rfl
theorem q210 : (Jvm.Cond.fieldLinkNest "RiverWage" (357 : Nat) "RiverWage$Kitchen" "takings" "[I" "RiverWage") ∈ lw_tbl := lw_at lw_m1 113 rfl
theorem q236 : (Jvm.Cond.methodLinkNest "RiverWage" (107 : Nat) ({ cls := "RiverWage$Law", name := "<init>", desc := "()V" } : Jvm.MethodName) "RiverWage") ∈ lw_tbl := lw_at lw_m1 139 rfl
theorem q244 : (Jvm.Cond.fieldLinkNest "RiverWage" (281 : Nat) "RiverWage$Law" "ways" "[LRiverWage$Expression;" "RiverWage") ∈ lw_tbl := lw_at lw_m1 147 rfl
theorem q249 : (Jvm.Cond.methodLinkNest "RiverWage" (108 : Nat) ({ cls := "RiverWage$Writer", name := "<init>", desc := "()V" } : Jvm.MethodName) "RiverWage") ∈ lw_tbl := lw_at lw_m1 152 rfl
theorem q254 : (Jvm.Cond.fieldLinkNest "RiverWage" (332 : Nat) "RiverWage$Writer" "take" "LRiverWage$Expression;" "RiverWage") ∈ lw_tbl := lw_at lw_m1 157 rfl
theorem q256 : (Jvm.Cond.fieldLinkNest "RiverWage" (342 : Nat) "RiverWage$Writer" "from" "I" "RiverWage") ∈ lw_tbl := lw_at lw_m1 159 rfl
theorem q259 : (Jvm.Cond.fieldLinkNest "RiverWage" (339 : Nat) "RiverWage$Writer" "to" "I" "RiverWage") ∈ lw_tbl := lw_at lw_m1 162 rfl
theorem q262 : (Jvm.Cond.fieldLinkNest "RiverWage" (345 : Nat) "RiverWage$Writer" "tenths" "I" "RiverWage") ∈ lw_tbl := lw_at lw_m1 165 rfl
theorem q272 : (Jvm.Cond.fieldLink "RiverWage" (21 : Nat) "RiverWage" "kitchens" "[LRiverWage$Kitchen;") ∈ lw_all := lw_g (lw_at lw_m1 175 rfl) rfl
theorem q273 : (Jvm.Cond.fieldLink "RiverWage" (27 : Nat) "RiverWage" "floors" "[[I") ∈ lw_all := lw_g (lw_at lw_m1 176 rfl) rfl
theorem q274 : (Jvm.Cond.fieldLink "RiverWage" (30 : Nat) "RiverWage" "trades" "[[I") ∈ lw_all := lw_g (lw_at lw_m1 177 rfl) rfl
theorem q275 : (Jvm.Cond.fieldLink "RiverWage" (33 : Nat) "RiverWage" "tape" "[B") ∈ lw_all := lw_g (lw_at lw_m1 178 rfl) rfl
theorem q276 : (Jvm.Cond.fieldLink "RiverWage" (40 : Nat) "RiverWage" "reader" "LRiverWage$Reader;") ∈ lw_all := lw_g (lw_at lw_m1 179 rfl) rfl
theorem q277 : (Jvm.Cond.fieldLink "RiverWage" (46 : Nat) "RiverWage" "laws" "[LRiverWage$Law;") ∈ lw_all := lw_g (lw_at lw_m1 180 rfl) rfl
theorem q278 : (Jvm.Cond.fieldLink "RiverWage" (52 : Nat) "RiverWage" "writers" "[LRiverWage$Writer;") ∈ lw_all := lw_g (lw_at lw_m1 181 rfl) rfl
theorem q279 : (Jvm.Cond.fieldLink "RiverWage" (252 : Nat) "RiverWage" "taped" "I") ∈ lw_all := lw_g (lw_at lw_m1 182 rfl) rfl
theorem q280 : (Jvm.Cond.fieldLink "RiverWage" (56 : Nat) "RiverWage" "tenths" "I") ∈ lw_all := lw_g (lw_at lw_m1 183 rfl) rfl
theorem q281 : (Jvm.Cond.fieldLink "RiverWage" (60 : Nat) "RiverWage" "by" "I") ∈ lw_all := lw_g (lw_at lw_m1 184 rfl) rfl
theorem q282 : (Jvm.Cond.fieldLink "RiverWage" (66 : Nat) "RiverWage" "one" "LRiverWage$Mean;") ∈ lw_all := lw_g (lw_at lw_m1 185 rfl) rfl
theorem q283 : (Jvm.Cond.fieldLink "RiverWage" (70 : Nat) "RiverWage" "two" "LRiverWage$Mean;") ∈ lw_all := lw_g (lw_at lw_m1 186 rfl) rfl
theorem q284 : (Jvm.Cond.fieldLink "RiverWage" (73 : Nat) "RiverWage" "changes" "[I") ∈ lw_all := lw_g (lw_at lw_m1 187 rfl) rfl
theorem q285 : (Jvm.Cond.fieldLink "RiverWage" (243 : Nat) "RiverWage" "as" "J") ∈ lw_all := lw_g (lw_at lw_m1 188 rfl) rfl
theorem q286 : (Jvm.Cond.fieldLink "RiverWage" (240 : Nat) "RiverWage" "far" "J") ∈ lw_all := lw_g (lw_at lw_m1 189 rfl) rfl
theorem q287 : (Jvm.Cond.fieldLink "RiverWage" (237 : Nat) "RiverWage" "all" "I") ∈ lw_all := lw_g (lw_at lw_m1 190 rfl) rfl
theorem q288 : (Jvm.Cond.fieldLink "RiverWage" (77 : Nat) "RiverWage" "worldWhole" "[[I") ∈ lw_all := lw_g (lw_at lw_m1 191 rfl) rfl
theorem q289 : (Jvm.Cond.fieldLink "RiverWage" (80 : Nat) "RiverWage" "worldHalf" "[[I") ∈ lw_all := lw_g (lw_at lw_m1 192 rfl) rfl
theorem q290 : (Jvm.Cond.fieldLink "RiverWage" (83 : Nat) "RiverWage" "facts" "[I") ∈ lw_all := lw_g (lw_at lw_m1 193 rfl) rfl
theorem q291 : (Jvm.Cond.fieldLink "RiverWage" (86 : Nat) "RiverWage" "otherSum" "[I") ∈ lw_all := lw_g (lw_at lw_m1 194 rfl) rfl
theorem q292 : (Jvm.Cond.fieldLink "RiverWage" (89 : Nat) "RiverWage" "otherMany" "[I") ∈ lw_all := lw_g (lw_at lw_m1 195 rfl) rfl
theorem q293 : (Jvm.Cond.fieldLink "RiverWage" (92 : Nat) "RiverWage" "isPrinted" "[Z") ∈ lw_all := lw_g (lw_at lw_m1 196 rfl) rfl
theorem q294 : (Jvm.Cond.fieldLink "RiverWage" (322 : Nat) "RiverWage" "others" "I") ∈ lw_all := lw_g (lw_at lw_m1 197 rfl) rfl
theorem q295 : (Jvm.Cond.fieldLink "RiverWage" (96 : Nat) "RiverWage" "lots0" "[I") ∈ lw_all := lw_g (lw_at lw_m1 198 rfl) rfl
theorem q296 : (Jvm.Cond.fieldLink "RiverWage" (99 : Nat) "RiverWage" "lots1" "[I") ∈ lw_all := lw_g (lw_at lw_m1 199 rfl) rfl
theorem q297 : (Jvm.Cond.fieldLink "RiverWage" (372 : Nat) "RiverWage" "there0" "I") ∈ lw_all := lw_g (lw_at lw_m1 200 rfl) rfl
theorem q298 : (Jvm.Cond.fieldLink "RiverWage" (375 : Nat) "RiverWage" "there1" "I") ∈ lw_all := lw_g (lw_at lw_m1 201 rfl) rfl
theorem q299 : (Jvm.Cond.fieldLink "RiverWage" (103 : Nat) "RiverWage" "marks" "[[I") ∈ lw_all := lw_g (lw_at lw_m1 202 rfl) rfl
theorem q300 : (Jvm.Cond.laysFinal "RiverWage" "RiverWage" "kitchens" "[LRiverWage$Kitchen;") ∈ lw_all := lw_g (lw_at lw_m1 203 rfl) rfl
theorem q301 : (Jvm.Cond.soleField "RiverWage" "kitchens") ∈ lw_all := lw_g (lw_at lw_m1 204 rfl) rfl
theorem q302 : (Jvm.Cond.laysFinal "RiverWage" "RiverWage" "floors" "[[I") ∈ lw_all := lw_g (lw_at lw_m1 205 rfl) rfl
theorem q303 : (Jvm.Cond.soleField "RiverWage" "floors") ∈ lw_all := lw_g (lw_at lw_m1 206 rfl) rfl
theorem q304 : (Jvm.Cond.laysFinal "RiverWage" "RiverWage" "trades" "[[I") ∈ lw_all := lw_g (lw_at lw_m1 207 rfl) rfl
theorem q305 : (Jvm.Cond.soleField "RiverWage" "trades") ∈ lw_all := lw_g (lw_at lw_m1 208 rfl) rfl
theorem q306 : (Jvm.Cond.laysFinal "RiverWage" "RiverWage" "tape" "[B") ∈ lw_all := lw_g (lw_at lw_m1 209 rfl) rfl
theorem q307 : (Jvm.Cond.soleField "RiverWage" "tape") ∈ lw_all := lw_g (lw_at lw_m1 210 rfl) rfl
theorem q308 : (Jvm.Cond.laysFinal "RiverWage" "RiverWage" "reader" "LRiverWage$Reader;") ∈ lw_all := lw_g (lw_at lw_m1 211 rfl) rfl
theorem q309 : (Jvm.Cond.soleField "RiverWage" "reader") ∈ lw_all := lw_g (lw_at lw_m1 212 rfl) rfl
theorem q310 : (Jvm.Cond.laysFinal "RiverWage" "RiverWage" "laws" "[LRiverWage$Law;") ∈ lw_all := lw_g (lw_at lw_m1 213 rfl) rfl
theorem q311 : (Jvm.Cond.soleField "RiverWage" "laws") ∈ lw_all := lw_g (lw_at lw_m1 214 rfl) rfl
theorem q312 : (Jvm.Cond.laysFinal "RiverWage" "RiverWage" "writers" "[LRiverWage$Writer;") ∈ lw_all := lw_g (lw_at lw_m1 215 rfl) rfl
theorem q313 : (Jvm.Cond.soleField "RiverWage" "writers") ∈ lw_all := lw_g (lw_at lw_m1 216 rfl) rfl
theorem q314 : (Jvm.Cond.lays "RiverWage" "RiverWage" "taped" "I") ∈ lw_all := lw_g (lw_at lw_m1 217 rfl) rfl
theorem q315 : (Jvm.Cond.soleField "RiverWage" "taped") ∈ lw_all := lw_g (lw_at lw_m1 218 rfl) rfl
theorem q316 : (Jvm.Cond.lays "RiverWage" "RiverWage" "tenths" "I") ∈ lw_all := lw_g (lw_at lw_m1 219 rfl) rfl
theorem q317 : (Jvm.Cond.soleField "RiverWage" "tenths") ∈ lw_all := lw_g (lw_at lw_m1 220 rfl) rfl
theorem q318 : (Jvm.Cond.lays "RiverWage" "RiverWage" "by" "I") ∈ lw_all := lw_g (lw_at lw_m1 221 rfl) rfl
theorem q319 : (Jvm.Cond.soleField "RiverWage" "by") ∈ lw_all := lw_g (lw_at lw_m1 222 rfl) rfl
theorem q320 : (Jvm.Cond.laysFinal "RiverWage" "RiverWage" "one" "LRiverWage$Mean;") ∈ lw_all := lw_g (lw_at lw_m1 223 rfl) rfl
theorem q321 : (Jvm.Cond.soleField "RiverWage" "one") ∈ lw_all := lw_g (lw_at lw_m1 224 rfl) rfl
theorem q322 : (Jvm.Cond.laysFinal "RiverWage" "RiverWage" "two" "LRiverWage$Mean;") ∈ lw_all := lw_g (lw_at lw_m1 225 rfl) rfl
theorem q323 : (Jvm.Cond.soleField "RiverWage" "two") ∈ lw_all := lw_g (lw_at lw_m1 226 rfl) rfl
theorem q324 : (Jvm.Cond.laysFinal "RiverWage" "RiverWage" "changes" "[I") ∈ lw_all := lw_g (lw_at lw_m1 227 rfl) rfl
theorem q325 : (Jvm.Cond.soleField "RiverWage" "changes") ∈ lw_all := lw_g (lw_at lw_m1 228 rfl) rfl
theorem q326 : (Jvm.Cond.lays "RiverWage" "RiverWage" "as" "J") ∈ lw_all := lw_g (lw_at lw_m1 229 rfl) rfl
theorem q327 : (Jvm.Cond.soleField "RiverWage" "as") ∈ lw_all := lw_g (lw_at lw_m1 230 rfl) rfl
theorem q328 : (Jvm.Cond.lays "RiverWage" "RiverWage" "far" "J") ∈ lw_all := lw_g (lw_at lw_m1 231 rfl) rfl
theorem q329 : (Jvm.Cond.soleField "RiverWage" "far") ∈ lw_all := lw_g (lw_at lw_m1 232 rfl) rfl
theorem q330 : (Jvm.Cond.lays "RiverWage" "RiverWage" "all" "I") ∈ lw_all := lw_g (lw_at lw_m1 233 rfl) rfl
theorem q331 : (Jvm.Cond.soleField "RiverWage" "all") ∈ lw_all := lw_g (lw_at lw_m1 234 rfl) rfl
theorem q332 : (Jvm.Cond.laysFinal "RiverWage" "RiverWage" "worldWhole" "[[I") ∈ lw_all := lw_g (lw_at lw_m1 235 rfl) rfl
theorem q333 : (Jvm.Cond.soleField "RiverWage" "worldWhole") ∈ lw_all := lw_g (lw_at lw_m1 236 rfl) rfl
theorem q334 : (Jvm.Cond.laysFinal "RiverWage" "RiverWage" "worldHalf" "[[I") ∈ lw_all := lw_g (lw_at lw_m1 237 rfl) rfl
theorem q335 : (Jvm.Cond.soleField "RiverWage" "worldHalf") ∈ lw_all := lw_g (lw_at lw_m1 238 rfl) rfl
theorem q336 : (Jvm.Cond.laysFinal "RiverWage" "RiverWage" "facts" "[I") ∈ lw_all := lw_g (lw_at lw_m1 239 rfl) rfl
theorem q337 : (Jvm.Cond.soleField "RiverWage" "facts") ∈ lw_all := lw_g (lw_at lw_m2 0 rfl) rfl
theorem q338 : (Jvm.Cond.laysFinal "RiverWage" "RiverWage" "otherSum" "[I") ∈ lw_all := lw_g (lw_at lw_m2 1 rfl) rfl
theorem q339 : (Jvm.Cond.soleField "RiverWage" "otherSum") ∈ lw_all := lw_g (lw_at lw_m2 2 rfl) rfl
theorem q340 : (Jvm.Cond.laysFinal "RiverWage" "RiverWage" "otherMany" "[I") ∈ lw_all := lw_g (lw_at lw_m2 3 rfl) rfl
theorem q341 : (Jvm.Cond.soleField "RiverWage" "otherMany") ∈ lw_all := lw_g (lw_at lw_m2 4 rfl) rfl
theorem q342 : (Jvm.Cond.laysFinal "RiverWage" "RiverWage" "isPrinted" "[Z") ∈ lw_all := lw_g (lw_at lw_m2 5 rfl) rfl
theorem q343 : (Jvm.Cond.soleField "RiverWage" "isPrinted") ∈ lw_all := lw_g (lw_at lw_m2 6 rfl) rfl
theorem q344 : (Jvm.Cond.lays "RiverWage" "RiverWage" "others" "I") ∈ lw_all := lw_g (lw_at lw_m2 7 rfl) rfl
theorem q345 : (Jvm.Cond.soleField "RiverWage" "others") ∈ lw_all := lw_g (lw_at lw_m2 8 rfl) rfl
theorem q346 : (Jvm.Cond.laysFinal "RiverWage" "RiverWage" "lots0" "[I") ∈ lw_all := lw_g (lw_at lw_m2 9 rfl) rfl
theorem q347 : (Jvm.Cond.soleField "RiverWage" "lots0") ∈ lw_all := lw_g (lw_at lw_m2 10 rfl) rfl
theorem q348 : (Jvm.Cond.laysFinal "RiverWage" "RiverWage" "lots1" "[I") ∈ lw_all := lw_g (lw_at lw_m2 11 rfl) rfl
theorem q349 : (Jvm.Cond.soleField "RiverWage" "lots1") ∈ lw_all := lw_g (lw_at lw_m2 12 rfl) rfl
theorem q350 : (Jvm.Cond.lays "RiverWage" "RiverWage" "there0" "I") ∈ lw_all := lw_g (lw_at lw_m2 13 rfl) rfl
theorem q351 : (Jvm.Cond.soleField "RiverWage" "there0") ∈ lw_all := lw_g (lw_at lw_m2 14 rfl) rfl
theorem q352 : (Jvm.Cond.lays "RiverWage" "RiverWage" "there1" "I") ∈ lw_all := lw_g (lw_at lw_m2 15 rfl) rfl
theorem q353 : (Jvm.Cond.soleField "RiverWage" "there1") ∈ lw_all := lw_g (lw_at lw_m2 16 rfl) rfl
theorem q354 : (Jvm.Cond.laysFinal "RiverWage" "RiverWage" "marks" "[[I") ∈ lw_all := lw_g (lw_at lw_m2 17 rfl) rfl
theorem q355 : (Jvm.Cond.soleField "RiverWage" "marks") ∈ lw_all := lw_g (lw_at lw_m2 18 rfl) rfl
theorem q356 : (Jvm.Cond.superclass "RiverWage" "java/lang/Object") ∈ lw_all := lw_g (lw_at lw_m2 19 rfl) rfl
theorem q358 : (Jvm.Cond.instanceMethod ({ cls := "RiverWage", name := "kitchen", desc := "(IIIIZ)Z" } : Jvm.MethodName)) ∈ lw_all := lw_g (lw_at lw_m2 21 rfl) rfl
theorem q359 : (Jvm.Cond.selects "RiverWage" ({ cls := "RiverWage", name := "kitchen", desc := "(IIIIZ)Z" } : Jvm.MethodName) ({ cls := "RiverWage", name := "kitchen", desc := "(IIIIZ)Z" } : Jvm.MethodName)) ∈ lw_all := lw_g (lw_at lw_m2 22 rfl) rfl
theorem q360 : (Jvm.Cond.code ({ cls := "RiverWage", name := "kitchen", desc := "(IIIIZ)Z" } : Jvm.MethodName) prog_1_method_9_code (7 : Nat) (Option.some Jvm.ClassFile.FieldType.boolean)) ∈ lw_all := lw_g (lw_at lw_m2 23 rfl) rfl
theorem q361 : (Jvm.Cond.methodLink "RiverWage" (112 : Nat) ({ cls := "RiverWage", name := "in", desc := "(III)Z" } : Jvm.MethodName)) ∈ lw_all := lw_g (lw_at lw_m2 24 rfl) rfl
theorem q362 : (Jvm.Cond.static ({ cls := "RiverWage", name := "in", desc := "(III)Z" } : Jvm.MethodName)) ∈ lw_all := lw_g (lw_at lw_m2 25 rfl) rfl
theorem q363 : (Jvm.Cond.code ({ cls := "RiverWage", name := "in", desc := "(III)Z" } : Jvm.MethodName) prog_1_method_1_code (3 : Nat) (Option.some Jvm.ClassFile.FieldType.boolean)) ∈ lw_all := lw_g (lw_at lw_m2 26 rfl) rfl
theorem q365 : (Jvm.Cond.instanceMethod ({ cls := "RiverWage", name := "call", desc := "(IIII)Z" } : Jvm.MethodName)) ∈ lw_all := lw_g (lw_at lw_m2 28 rfl) rfl
theorem q366 : (Jvm.Cond.selects "RiverWage" ({ cls := "RiverWage", name := "call", desc := "(IIII)Z" } : Jvm.MethodName) ({ cls := "RiverWage", name := "call", desc := "(IIII)Z" } : Jvm.MethodName)) ∈ lw_all := lw_g (lw_at lw_m2 29 rfl) rfl
theorem q367 : (Jvm.Cond.code ({ cls := "RiverWage", name := "call", desc := "(IIII)Z" } : Jvm.MethodName) prog_1_method_10_code (6 : Nat) (Option.some Jvm.ClassFile.FieldType.boolean)) ∈ lw_all := lw_g (lw_at lw_m2 30 rfl) rfl
theorem q368 : (Jvm.Cond.methodLink "RiverWage" (136 : Nat) ({ cls := "RiverWage", name := "isKitchen", desc := "(I)Z" } : Jvm.MethodName)) ∈ lw_all := lw_g (lw_at lw_m2 31 rfl) rfl
theorem q369 : (Jvm.Cond.privateMethod ({ cls := "RiverWage", name := "isKitchen", desc := "(I)Z" } : Jvm.MethodName)) ∈ lw_tbl := lw_at lw_m2 32 rfl
theorem q370 : (Jvm.Cond.instanceMethod ({ cls := "RiverWage", name := "isKitchen", desc := "(I)Z" } : Jvm.MethodName)) ∈ lw_all := lw_g (lw_at lw_m2 33 rfl) rfl
theorem q371 : (Jvm.Cond.code ({ cls := "RiverWage", name := "isKitchen", desc := "(I)Z" } : Jvm.MethodName) prog_1_method_6_code (2 : Nat) (Option.some Jvm.ClassFile.FieldType.boolean)) ∈ lw_all := lw_g (lw_at lw_m2 34 rfl) rfl
theorem q372 : (Jvm.Cond.methodLink "RiverWage" (120 : Nat) ({ cls := "RiverWage", name := "isMonth", desc := "(I)Z" } : Jvm.MethodName)) ∈ lw_all := lw_g (lw_at lw_m2 35 rfl) rfl
theorem q373 : (Jvm.Cond.static ({ cls := "RiverWage", name := "isMonth", desc := "(I)Z" } : Jvm.MethodName)) ∈ lw_all := lw_g (lw_at lw_m2 36 rfl) rfl
theorem q374 : (Jvm.Cond.code ({ cls := "RiverWage", name := "isMonth", desc := "(I)Z" } : Jvm.MethodName) prog_1_method_7_code (1 : Nat) (Option.some Jvm.ClassFile.FieldType.boolean)) ∈ lw_all := lw_g (lw_at lw_m2 37 rfl) rfl
theorem q375 : (Jvm.Cond.methodLink "RiverWage" (145 : Nat) ({ cls := "java/lang/Math", name := "max", desc := "(II)I" } : Jvm.MethodName)) ∈ lw_all := lw_g (lw_at lw_m2 38 rfl) rfl
theorem q379 : (Jvm.Cond.instanceMethod ({ cls := "RiverWage", name := "sheet", desc := "(IIII)Z" } : Jvm.MethodName)) ∈ lw_all := lw_g (lw_at lw_m2 42 rfl) rfl
theorem q380 : (Jvm.Cond.selects "RiverWage" ({ cls := "RiverWage", name := "sheet", desc := "(IIII)Z" } : Jvm.MethodName) ({ cls := "RiverWage", name := "sheet", desc := "(IIII)Z" } : Jvm.MethodName)) ∈ lw_all := lw_g (lw_at lw_m2 43 rfl) rfl
theorem q381 : (Jvm.Cond.code ({ cls := "RiverWage", name := "sheet", desc := "(IIII)Z" } : Jvm.MethodName) prog_1_method_11_code (5 : Nat) (Option.some Jvm.ClassFile.FieldType.boolean)) ∈ lw_all := lw_g (lw_at lw_m2 44 rfl) rfl
theorem q383 : (Jvm.Cond.instanceMethod ({ cls := "RiverWage", name := "tenths", desc := "(I)Z" } : Jvm.MethodName)) ∈ lw_all := lw_g (lw_at lw_m2 46 rfl) rfl
theorem q384 : (Jvm.Cond.selects "RiverWage" ({ cls := "RiverWage", name := "tenths", desc := "(I)Z" } : Jvm.MethodName) ({ cls := "RiverWage", name := "tenths", desc := "(I)Z" } : Jvm.MethodName)) ∈ lw_all := lw_g (lw_at lw_m2 47 rfl) rfl
theorem q385 : (Jvm.Cond.code ({ cls := "RiverWage", name := "tenths", desc := "(I)Z" } : Jvm.MethodName) prog_1_method_12_code (2 : Nat) (Option.some Jvm.ClassFile.FieldType.boolean)) ∈ lw_all := lw_g (lw_at lw_m2 48 rfl) rfl
theorem q387 : (Jvm.Cond.instanceMethod ({ cls := "RiverWage", name := "floor", desc := "(IIII)Z" } : Jvm.MethodName)) ∈ lw_all := lw_g (lw_at lw_m2 50 rfl) rfl
theorem q388 : (Jvm.Cond.selects "RiverWage" ({ cls := "RiverWage", name := "floor", desc := "(IIII)Z" } : Jvm.MethodName) ({ cls := "RiverWage", name := "floor", desc := "(IIII)Z" } : Jvm.MethodName)) ∈ lw_all := lw_g (lw_at lw_m2 51 rfl) rfl
theorem q389 : (Jvm.Cond.code ({ cls := "RiverWage", name := "floor", desc := "(IIII)Z" } : Jvm.MethodName) prog_1_method_13_code (6 : Nat) (Option.some Jvm.ClassFile.FieldType.boolean)) ∈ lw_all := lw_g (lw_at lw_m2 52 rfl) rfl
theorem q391 : (Jvm.Cond.instanceMethod ({ cls := "RiverWage", name := "hands", desc := "(II)I" } : Jvm.MethodName)) ∈ lw_all := lw_g (lw_at lw_m2 54 rfl) rfl
theorem q392 : (Jvm.Cond.selects "RiverWage" ({ cls := "RiverWage", name := "hands", desc := "(II)I" } : Jvm.MethodName) ({ cls := "RiverWage", name := "hands", desc := "(II)I" } : Jvm.MethodName)) ∈ lw_all := lw_g (lw_at lw_m2 55 rfl) rfl
theorem q393 : (Jvm.Cond.code ({ cls := "RiverWage", name := "hands", desc := "(II)I" } : Jvm.MethodName) prog_1_method_16_code (3 : Nat) (Option.some Jvm.ClassFile.FieldType.int)) ∈ lw_all := lw_g (lw_at lw_m2 56 rfl) rfl
theorem q394 : (Jvm.Cond.methodLink "RiverWage" (158 : Nat) ({ cls := "RiverWage$Kitchen", name := "isSilent", desc := "(I)Z" } : Jvm.MethodName)) ∈ lw_all := lw_g (lw_at lw_m2 57 rfl) rfl
theorem q398 : (Jvm.Cond.methodLink "RiverWage" (161 : Nat) ({ cls := "RiverWage", name := "handsOf", desc := "(LRiverWage$Kitchen;I)I" } : Jvm.MethodName)) ∈ lw_all := lw_g (lw_at lw_m2 61 rfl) rfl
theorem q399 : (Jvm.Cond.privateMethod ({ cls := "RiverWage", name := "handsOf", desc := "(LRiverWage$Kitchen;I)I" } : Jvm.MethodName)) ∈ lw_tbl := lw_at lw_m2 62 rfl
theorem q400 : (Jvm.Cond.instanceMethod ({ cls := "RiverWage", name := "handsOf", desc := "(LRiverWage$Kitchen;I)I" } : Jvm.MethodName)) ∈ lw_all := lw_g (lw_at lw_m2 63 rfl) rfl
theorem q401 : (Jvm.Cond.code ({ cls := "RiverWage", name := "handsOf", desc := "(LRiverWage$Kitchen;I)I" } : Jvm.MethodName) prog_1_method_15_code (3 : Nat) (Option.some Jvm.ClassFile.FieldType.int)) ∈ lw_all := lw_g (lw_at lw_m2 64 rfl) rfl
theorem q402 : (Jvm.Cond.methodLink "RiverWage" (155 : Nat) ({ cls := "RiverWage", name := "handsOf", desc := "(II)I" } : Jvm.MethodName)) ∈ lw_all := lw_g (lw_at lw_m2 65 rfl) rfl
theorem q403 : (Jvm.Cond.privateMethod ({ cls := "RiverWage", name := "handsOf", desc := "(II)I" } : Jvm.MethodName)) ∈ lw_tbl := lw_at lw_m2 66 rfl
theorem q404 : (Jvm.Cond.instanceMethod ({ cls := "RiverWage", name := "handsOf", desc := "(II)I" } : Jvm.MethodName)) ∈ lw_all := lw_g (lw_at lw_m2 67 rfl) rfl
theorem q405 : (Jvm.Cond.code ({ cls := "RiverWage", name := "handsOf", desc := "(II)I" } : Jvm.MethodName) prog_1_method_14_code (3 : Nat) (Option.some Jvm.ClassFile.FieldType.int)) ∈ lw_all := lw_g (lw_at lw_m2 68 rfl) rfl
theorem q407 : (Jvm.Cond.instanceMethod ({ cls := "RiverWage", name := "swings", desc := "(II)I" } : Jvm.MethodName)) ∈ lw_all := lw_g (lw_at lw_m2 70 rfl) rfl
theorem q408 : (Jvm.Cond.selects "RiverWage" ({ cls := "RiverWage", name := "swings", desc := "(II)I" } : Jvm.MethodName) ({ cls := "RiverWage", name := "swings", desc := "(II)I" } : Jvm.MethodName)) ∈ lw_all := lw_g (lw_at lw_m2 71 rfl) rfl
theorem q409 : (Jvm.Cond.code ({ cls := "RiverWage", name := "swings", desc := "(II)I" } : Jvm.MethodName) prog_1_method_32_code (4 : Nat) (Option.some Jvm.ClassFile.FieldType.int)) ∈ lw_all := lw_g (lw_at lw_m2 72 rfl) rfl
theorem q410 : (Jvm.Cond.methodLink "RiverWage" (164 : Nat) ({ cls := "RiverWage", name := "areMonths", desc := "(II)Z" } : Jvm.MethodName)) ∈ lw_all := lw_g (lw_at lw_m2 73 rfl) rfl
theorem q411 : (Jvm.Cond.static ({ cls := "RiverWage", name := "areMonths", desc := "(II)Z" } : Jvm.MethodName)) ∈ lw_all := lw_g (lw_at lw_m2 74 rfl) rfl
theorem q412 : (Jvm.Cond.code ({ cls := "RiverWage", name := "areMonths", desc := "(II)Z" } : Jvm.MethodName) prog_1_method_8_code (2 : Nat) (Option.some Jvm.ClassFile.FieldType.boolean)) ∈ lw_all := lw_g (lw_at lw_m2 75 rfl) rfl
theorem q413 : (Jvm.Cond.methodLink "RiverWage" (226 : Nat) ({ cls := "RiverWage", name := "ends", desc := "(IIZ)Z" } : Jvm.MethodName)) ∈ lw_all := lw_g (lw_at lw_m2 76 rfl) rfl
theorem q414 : (Jvm.Cond.privateMethod ({ cls := "RiverWage", name := "ends", desc := "(IIZ)Z" } : Jvm.MethodName)) ∈ lw_tbl := lw_at lw_m2 77 rfl
theorem q415 : (Jvm.Cond.instanceMethod ({ cls := "RiverWage", name := "ends", desc := "(IIZ)Z" } : Jvm.MethodName)) ∈ lw_all := lw_g (lw_at lw_m2 78 rfl) rfl
theorem q416 : (Jvm.Cond.code ({ cls := "RiverWage", name := "ends", desc := "(IIZ)Z" } : Jvm.MethodName) prog_1_method_30_code (7 : Nat) (Option.some Jvm.ClassFile.FieldType.boolean)) ∈ lw_all := lw_g (lw_at lw_m2 79 rfl) rfl
theorem q417 : (Jvm.Cond.methodLink "RiverWage" (189 : Nat) ({ cls := "RiverWage", name := "begins", desc := "()V" } : Jvm.MethodName)) ∈ lw_all := lw_g (lw_at lw_m2 80 rfl) rfl
theorem q418 : (Jvm.Cond.privateMethod ({ cls := "RiverWage", name := "begins", desc := "()V" } : Jvm.MethodName)) ∈ lw_tbl := lw_at lw_m2 81 rfl
theorem q419 : (Jvm.Cond.instanceMethod ({ cls := "RiverWage", name := "begins", desc := "()V" } : Jvm.MethodName)) ∈ lw_all := lw_g (lw_at lw_m2 82 rfl) rfl
theorem q420 : (Jvm.Cond.code ({ cls := "RiverWage", name := "begins", desc := "()V" } : Jvm.MethodName) prog_1_method_20_code (1 : Nat) (Option.none : Option Jvm.ClassFile.FieldType)) ∈ lw_all := lw_g (lw_at lw_m2 83 rfl) rfl
theorem q421 : (Jvm.Cond.methodLink "RiverWage" (179 : Nat) ({ cls := "RiverWage$Mean", name := "begin", desc := "()V" } : Jvm.MethodName)) ∈ lw_all := lw_g (lw_at lw_m2 84 rfl) rfl
theorem q425 : (Jvm.Cond.methodLink "RiverWage" (192 : Nat) ({ cls := "RiverWage", name := "of", desc := "(I)LRiverWage$Mean;" } : Jvm.MethodName)) ∈ lw_all := lw_g (lw_at lw_m2 88 rfl) rfl
theorem q426 : (Jvm.Cond.privateMethod ({ cls := "RiverWage", name := "of", desc := "(I)LRiverWage$Mean;" } : Jvm.MethodName)) ∈ lw_tbl := lw_at lw_m2 89 rfl
theorem q427 : (Jvm.Cond.instanceMethod ({ cls := "RiverWage", name := "of", desc := "(I)LRiverWage$Mean;" } : Jvm.MethodName)) ∈ lw_all := lw_g (lw_at lw_m2 90 rfl) rfl
theorem q428 : (Jvm.Cond.code ({ cls := "RiverWage", name := "of", desc := "(I)LRiverWage$Mean;" } : Jvm.MethodName) prog_1_method_19_code (2 : Nat) (Option.some (Jvm.ClassFile.FieldType.object "RiverWage$Mean"))) ∈ lw_all := lw_g (lw_at lw_m2 91 rfl) rfl
theorem q429 : (Jvm.Cond.methodLink "RiverWage" (222 : Nat) ({ cls := "RiverWage", name := "may", desc := "(LRiverWage$Kitchen;IZ)I" } : Jvm.MethodName)) ∈ lw_all := lw_g (lw_at lw_m2 92 rfl) rfl
theorem q430 : (Jvm.Cond.privateMethod ({ cls := "RiverWage", name := "may", desc := "(LRiverWage$Kitchen;IZ)I" } : Jvm.MethodName)) ∈ lw_tbl := lw_at lw_m2 93 rfl
theorem q431 : (Jvm.Cond.instanceMethod ({ cls := "RiverWage", name := "may", desc := "(LRiverWage$Kitchen;IZ)I" } : Jvm.MethodName)) ∈ lw_all := lw_g (lw_at lw_m2 94 rfl) rfl
theorem q432 : (Jvm.Cond.code ({ cls := "RiverWage", name := "may", desc := "(LRiverWage$Kitchen;IZ)I" } : Jvm.MethodName) prog_1_method_29_code (4 : Nat) (Option.some Jvm.ClassFile.FieldType.int)) ∈ lw_all := lw_g (lw_at lw_m2 95 rfl) rfl
theorem q433 : (Jvm.Cond.methodLink "RiverWage" (196 : Nat) ({ cls := "RiverWage$Mean", name := "adds", desc := "(J)V" } : Jvm.MethodName)) ∈ lw_all := lw_g (lw_at lw_m2 96 rfl) rfl
theorem q437 : (Jvm.Cond.methodLink "RiverWage" (200 : Nat) ({ cls := "RiverWage", name := "isThere", desc := "()Z" } : Jvm.MethodName)) ∈ lw_all := lw_g (lw_at lw_m2 100 rfl) rfl
theorem q438 : (Jvm.Cond.privateMethod ({ cls := "RiverWage", name := "isThere", desc := "()Z" } : Jvm.MethodName)) ∈ lw_tbl := lw_at lw_m2 101 rfl
theorem q439 : (Jvm.Cond.instanceMethod ({ cls := "RiverWage", name := "isThere", desc := "()Z" } : Jvm.MethodName)) ∈ lw_all := lw_g (lw_at lw_m2 102 rfl) rfl
theorem q440 : (Jvm.Cond.code ({ cls := "RiverWage", name := "isThere", desc := "()Z" } : Jvm.MethodName) prog_1_method_21_code (1 : Nat) (Option.some Jvm.ClassFile.FieldType.boolean)) ∈ lw_all := lw_g (lw_at lw_m2 103 rfl) rfl
theorem q441 : (Jvm.Cond.methodLink "RiverWage" (211 : Nat) ({ cls := "RiverWage", name := "above", desc := "()J" } : Jvm.MethodName)) ∈ lw_all := lw_g (lw_at lw_m2 104 rfl) rfl
theorem q442 : (Jvm.Cond.privateMethod ({ cls := "RiverWage", name := "above", desc := "()J" } : Jvm.MethodName)) ∈ lw_tbl := lw_at lw_m2 105 rfl
theorem q443 : (Jvm.Cond.instanceMethod ({ cls := "RiverWage", name := "above", desc := "()J" } : Jvm.MethodName)) ∈ lw_all := lw_g (lw_at lw_m2 106 rfl) rfl
theorem q444 : (Jvm.Cond.code ({ cls := "RiverWage", name := "above", desc := "()J" } : Jvm.MethodName) prog_1_method_22_code (1 : Nat) (Option.some Jvm.ClassFile.FieldType.long)) ∈ lw_all := lw_g (lw_at lw_m2 107 rfl) rfl
theorem q446 : (Jvm.Cond.instanceMethod ({ cls := "RiverWage", name := "next", desc := "(II)I" } : Jvm.MethodName)) ∈ lw_all := lw_g (lw_at lw_m2 109 rfl) rfl
theorem q447 : (Jvm.Cond.selects "RiverWage" ({ cls := "RiverWage", name := "next", desc := "(II)I" } : Jvm.MethodName) ({ cls := "RiverWage", name := "next", desc := "(II)I" } : Jvm.MethodName)) ∈ lw_all := lw_g (lw_at lw_m2 110 rfl) rfl
theorem q448 : (Jvm.Cond.code ({ cls := "RiverWage", name := "next", desc := "(II)I" } : Jvm.MethodName) prog_1_method_33_code (8 : Nat) (Option.some Jvm.ClassFile.FieldType.int)) ∈ lw_all := lw_g (lw_at lw_m2 111 rfl) rfl
theorem q450 : (Jvm.Cond.instanceMethod ({ cls := "RiverWage", name := "odds", desc := "(III)J" } : Jvm.MethodName)) ∈ lw_all := lw_g (lw_at lw_m2 113 rfl) rfl
theorem q451 : (Jvm.Cond.selects "RiverWage" ({ cls := "RiverWage", name := "odds", desc := "(III)J" } : Jvm.MethodName) ({ cls := "RiverWage", name := "odds", desc := "(III)J" } : Jvm.MethodName)) ∈ lw_all := lw_g (lw_at lw_m2 114 rfl) rfl
theorem q452 : (Jvm.Cond.code ({ cls := "RiverWage", name := "odds", desc := "(III)J" } : Jvm.MethodName) prog_1_method_38_code (6 : Nat) (Option.some Jvm.ClassFile.FieldType.long)) ∈ lw_all := lw_g (lw_at lw_m2 115 rfl) rfl
theorem q453 : (Jvm.Cond.methodLink "RiverWage" (204 : Nat) ({ cls := "RiverWage", name := "rivers", desc := "(III)Z" } : Jvm.MethodName)) ∈ lw_all := lw_g (lw_at lw_m2 116 rfl) rfl
theorem q454 : (Jvm.Cond.privateMethod ({ cls := "RiverWage", name := "rivers", desc := "(III)Z" } : Jvm.MethodName)) ∈ lw_tbl := lw_at lw_m2 117 rfl
theorem q455 : (Jvm.Cond.instanceMethod ({ cls := "RiverWage", name := "rivers", desc := "(III)Z" } : Jvm.MethodName)) ∈ lw_all := lw_g (lw_at lw_m2 118 rfl) rfl
theorem q456 : (Jvm.Cond.code ({ cls := "RiverWage", name := "rivers", desc := "(III)Z" } : Jvm.MethodName) prog_1_method_24_code (5 : Nat) (Option.some Jvm.ClassFile.FieldType.boolean)) ∈ lw_all := lw_g (lw_at lw_m2 119 rfl) rfl
theorem q457 : (Jvm.Cond.methodLink "RiverWage" (172 : Nat) ({ cls := "RiverWage$Kitchen", name := "isCounted", desc := "(II)Z" } : Jvm.MethodName)) ∈ lw_all := lw_g (lw_at lw_m2 120 rfl) rfl
theorem q462 : (Jvm.Cond.methodLink "RiverWage" (175 : Nat) ({ cls := "RiverWage", name := "change", desc := "(LRiverWage$Kitchen;II)I" } : Jvm.MethodName)) ∈ lw_all := lw_g (lw_at lw_m2 125 rfl) rfl
theorem q463 : (Jvm.Cond.privateMethod ({ cls := "RiverWage", name := "change", desc := "(LRiverWage$Kitchen;II)I" } : Jvm.MethodName)) ∈ lw_tbl := lw_at lw_m2 126 rfl
theorem q464 : (Jvm.Cond.instanceMethod ({ cls := "RiverWage", name := "change", desc := "(LRiverWage$Kitchen;II)I" } : Jvm.MethodName)) ∈ lw_all := lw_g (lw_at lw_m2 127 rfl) rfl
theorem q465 : (Jvm.Cond.code ({ cls := "RiverWage", name := "change", desc := "(LRiverWage$Kitchen;II)I" } : Jvm.MethodName) prog_1_method_17_code (4 : Nat) (Option.some Jvm.ClassFile.FieldType.int)) ∈ lw_all := lw_g (lw_at lw_m2 128 rfl) rfl
theorem q466 : (Jvm.Cond.constantLong "RiverWage" (250 : Nat) (-1 : Int64)) ∈ lw_all := lw_g (lw_at lw_m2 129 rfl) rfl
theorem q467 : (Jvm.Cond.methodLink "RiverWage" (7 : Nat) ({ cls := "java/lang/Math", name := "abs", desc := "(J)J" } : Jvm.MethodName)) ∈ lw_all := lw_g (lw_at lw_m2 130 rfl) rfl
theorem q470 : (Jvm.Cond.methodLink "RiverWage" (246 : Nat) ({ cls := "RiverWage", name := "deals", desc := "(IIJIIJ)V" } : Jvm.MethodName)) ∈ lw_all := lw_g (lw_at lw_m2 133 rfl) rfl
theorem q471 : (Jvm.Cond.privateMethod ({ cls := "RiverWage", name := "deals", desc := "(IIJIIJ)V" } : Jvm.MethodName)) ∈ lw_tbl := lw_at lw_m2 134 rfl
theorem q472 : (Jvm.Cond.instanceMethod ({ cls := "RiverWage", name := "deals", desc := "(IIJIIJ)V" } : Jvm.MethodName)) ∈ lw_all := lw_g (lw_at lw_m2 135 rfl) rfl
theorem q473 : (Jvm.Cond.code ({ cls := "RiverWage", name := "deals", desc := "(IIJIIJ)V" } : Jvm.MethodName) prog_1_method_37_code (10 : Nat) (Option.none : Option Jvm.ClassFile.FieldType)) ∈ lw_all := lw_g (lw_at lw_m2 136 rfl) rfl
theorem q474 : (Jvm.Cond.methodLink "RiverWage" (218 : Nat) ({ cls := "RiverWage", name := "lowest", desc := "(JJI)J" } : Jvm.MethodName)) ∈ lw_all := lw_g (lw_at lw_m2 137 rfl) rfl
theorem q475 : (Jvm.Cond.static ({ cls := "RiverWage", name := "lowest", desc := "(JJI)J" } : Jvm.MethodName)) ∈ lw_all := lw_g (lw_at lw_m2 138 rfl) rfl
theorem q476 : (Jvm.Cond.code ({ cls := "RiverWage", name := "lowest", desc := "(JJI)J" } : Jvm.MethodName) prog_1_method_3_code (7 : Nat) (Option.some Jvm.ClassFile.FieldType.long)) ∈ lw_all := lw_g (lw_at lw_m2 139 rfl) rfl
theorem q477 : (Jvm.Cond.methodLink "RiverWage" (1 : Nat) ({ cls := "RiverWage", name := "gcd", desc := "(JJ)J" } : Jvm.MethodName)) ∈ lw_all := lw_g (lw_at lw_m2 140 rfl) rfl
theorem q478 : (Jvm.Cond.static ({ cls := "RiverWage", name := "gcd", desc := "(JJ)J" } : Jvm.MethodName)) ∈ lw_all := lw_g (lw_at lw_m2 141 rfl) rfl
theorem q479 : (Jvm.Cond.code ({ cls := "RiverWage", name := "gcd", desc := "(JJ)J" } : Jvm.MethodName) prog_1_method_2_code (4 : Nat) (Option.some Jvm.ClassFile.FieldType.long)) ∈ lw_all := lw_g (lw_at lw_m2 142 rfl) rfl
theorem q481 : (Jvm.Cond.instanceMethod ({ cls := "RiverWage", name := "alike", desc := "(II)J" } : Jvm.MethodName)) ∈ lw_all := lw_g (lw_at lw_m2 144 rfl) rfl
theorem q482 : (Jvm.Cond.selects "RiverWage" ({ cls := "RiverWage", name := "alike", desc := "(II)J" } : Jvm.MethodName) ({ cls := "RiverWage", name := "alike", desc := "(II)J" } : Jvm.MethodName)) ∈ lw_all := lw_g (lw_at lw_m2 145 rfl) rfl
theorem q483 : (Jvm.Cond.code ({ cls := "RiverWage", name := "alike", desc := "(II)J" } : Jvm.MethodName) prog_1_method_40_code (9 : Nat) (Option.some Jvm.ClassFile.FieldType.long)) ∈ lw_all := lw_g (lw_at lw_m2 146 rfl) rfl
theorem q484 : (Jvm.Cond.methodLink "RiverWage" (215 : Nat) ({ cls := "RiverWage", name := "below", desc := "()J" } : Jvm.MethodName)) ∈ lw_all := lw_g (lw_at lw_m2 147 rfl) rfl
theorem q485 : (Jvm.Cond.privateMethod ({ cls := "RiverWage", name := "below", desc := "()J" } : Jvm.MethodName)) ∈ lw_tbl := lw_at lw_m2 148 rfl
theorem q486 : (Jvm.Cond.instanceMethod ({ cls := "RiverWage", name := "below", desc := "()J" } : Jvm.MethodName)) ∈ lw_all := lw_g (lw_at lw_m2 149 rfl) rfl
theorem q487 : (Jvm.Cond.code ({ cls := "RiverWage", name := "below", desc := "()J" } : Jvm.MethodName) prog_1_method_23_code (1 : Nat) (Option.some Jvm.ClassFile.FieldType.long)) ∈ lw_all := lw_g (lw_at lw_m2 150 rfl) rfl
theorem q489 : (Jvm.Cond.instanceMethod ({ cls := "RiverWage", name := "feed", desc := "(JJJ)I" } : Jvm.MethodName)) ∈ lw_all := lw_g (lw_at lw_m2 152 rfl) rfl
theorem q490 : (Jvm.Cond.selects "RiverWage" ({ cls := "RiverWage", name := "feed", desc := "(JJJ)I" } : Jvm.MethodName) ({ cls := "RiverWage", name := "feed", desc := "(JJJ)I" } : Jvm.MethodName)) ∈ lw_all := lw_g (lw_at lw_m2 153 rfl) rfl
theorem q491 : (Jvm.Cond.code ({ cls := "RiverWage", name := "feed", desc := "(JJJ)I" } : Jvm.MethodName) prog_1_method_41_code (9 : Nat) (Option.some Jvm.ClassFile.FieldType.int)) ∈ lw_all := lw_g (lw_at lw_m2 154 rfl) rfl
theorem q493 : (Jvm.Cond.instanceMethod ({ cls := "RiverWage", name := "law", desc := "(I)I" } : Jvm.MethodName)) ∈ lw_all := lw_g (lw_at lw_m2 156 rfl) rfl
theorem q494 : (Jvm.Cond.selects "RiverWage" ({ cls := "RiverWage", name := "law", desc := "(I)I" } : Jvm.MethodName) ({ cls := "RiverWage", name := "law", desc := "(I)I" } : Jvm.MethodName)) ∈ lw_all := lw_g (lw_at lw_m2 157 rfl) rfl
theorem q495 : (Jvm.Cond.codeWith ({ cls := "RiverWage", name := "law", desc := "(I)I" } : Jvm.MethodName) prog_1_method_43_code (4 : Nat) (Option.some Jvm.ClassFile.FieldType.int) [((31 : Nat), (44 : Nat), (47 : Nat), (265 : Nat))]) ∈ lw_all := lw_g (lw_at lw_m2 158 rfl) rfl
theorem q496 : (Jvm.Cond.classLink "RiverWage" (265 : Nat) "RiverWage$Wrong") ∈ lw_all := lw_g (lw_at lw_m2 159 rfl) rfl
theorem q497 : (Jvm.Cond.methodLink "RiverWage" (255 : Nat) ({ cls := "RiverWage", name := "isLaw", desc := "(I)Z" } : Jvm.MethodName)) ∈ lw_all := lw_g (lw_at lw_m2 160 rfl) rfl
theorem q498 : (Jvm.Cond.static ({ cls := "RiverWage", name := "isLaw", desc := "(I)Z" } : Jvm.MethodName)) ∈ lw_all := lw_g (lw_at lw_m2 161 rfl) rfl
theorem q499 : (Jvm.Cond.code ({ cls := "RiverWage", name := "isLaw", desc := "(I)Z" } : Jvm.MethodName) prog_1_method_42_code (1 : Nat) (Option.some Jvm.ClassFile.FieldType.boolean)) ∈ lw_all := lw_g (lw_at lw_m2 162 rfl) rfl
theorem q500 : (Jvm.Cond.methodLink "RiverWage" (258 : Nat) ({ cls := "RiverWage$Reader", name := "begin", desc := "([BI)V" } : Jvm.MethodName)) ∈ lw_all := lw_g (lw_at lw_m2 163 rfl) rfl
theorem q603 : (Jvm.Cond.methodLink "RiverWage" (261 : Nat) ({ cls := "RiverWage$Reader", name := "law", desc := "()LRiverWage$Law;" } : Jvm.MethodName)) ∈ lw_all := lw_g (lw_at lw_m3 26 rfl) rfl
theorem q694 : (Jvm.Cond.fieldLinkNest "RiverWage" (267 : Nat) "RiverWage$Wrong" "fault" "I" "RiverWage") ∈ lw_tbl := lw_at lw_m3 117 rfl
theorem q799 : (Jvm.Cond.instanceMethod ({ cls := "RiverWage", name := "world", desc := "(IIII)I" } : Jvm.MethodName)) ∈ lw_all := lw_g (lw_at lw_m3 222 rfl) rfl
theorem q800 : (Jvm.Cond.selects "RiverWage" ({ cls := "RiverWage", name := "world", desc := "(IIII)I" } : Jvm.MethodName) ({ cls := "RiverWage", name := "world", desc := "(IIII)I" } : Jvm.MethodName)) ∈ lw_all := lw_g (lw_at lw_m3 223 rfl) rfl
theorem q801 : (Jvm.Cond.code ({ cls := "RiverWage", name := "world", desc := "(IIII)I" } : Jvm.MethodName) prog_1_method_49_code (5 : Nat) (Option.some Jvm.ClassFile.FieldType.int)) ∈ lw_all := lw_g (lw_at lw_m3 224 rfl) rfl
theorem q802 : (Jvm.Cond.methodLink "RiverWage" (302 : Nat) ({ cls := "RiverWage", name := "runs", desc := "(LRiverWage$Law;I)V" } : Jvm.MethodName)) ∈ lw_all := lw_g (lw_at lw_m3 225 rfl) rfl
theorem q803 : (Jvm.Cond.privateMethod ({ cls := "RiverWage", name := "runs", desc := "(LRiverWage$Law;I)V" } : Jvm.MethodName)) ∈ lw_tbl := lw_at lw_m3 226 rfl
theorem q804 : (Jvm.Cond.instanceMethod ({ cls := "RiverWage", name := "runs", desc := "(LRiverWage$Law;I)V" } : Jvm.MethodName)) ∈ lw_all := lw_g (lw_at lw_m3 227 rfl) rfl
theorem q805 : (Jvm.Cond.code ({ cls := "RiverWage", name := "runs", desc := "(LRiverWage$Law;I)V" } : Jvm.MethodName) prog_1_method_44_code (6 : Nat) (Option.none : Option Jvm.ClassFile.FieldType)) ∈ lw_all := lw_g (lw_at lw_m3 228 rfl) rfl
theorem q806 : (Jvm.Cond.constantLong "RiverWage" (270 : Nat) (1103515245 : Int64)) ∈ lw_all := lw_g (lw_at lw_m3 229 rfl) rfl
theorem q807 : (Jvm.Cond.constantLong "RiverWage" (272 : Nat) (12345 : Int64)) ∈ lw_all := lw_g (lw_at lw_m3 230 rfl) rfl
theorem q808 : (Jvm.Cond.constantLong "RiverWage" (274 : Nat) (2147483648 : Int64)) ∈ lw_all := lw_g (lw_at lw_m3 231 rfl) rfl
theorem q809 : (Jvm.Cond.constant "RiverWage" (276 : Nat) (65536 : Int32)) ∈ lw_all := lw_g (lw_at lw_m3 232 rfl) rfl
theorem q810 : (Jvm.Cond.methodLink "RiverWage" (277 : Nat) ({ cls := "RiverWage", name := "goes", desc := "(LRiverWage$Law;III)V" } : Jvm.MethodName)) ∈ lw_all := lw_g (lw_at lw_m3 233 rfl) rfl
theorem q811 : (Jvm.Cond.privateMethod ({ cls := "RiverWage", name := "goes", desc := "(LRiverWage$Law;III)V" } : Jvm.MethodName)) ∈ lw_tbl := lw_at lw_m3 234 rfl
theorem q812 : (Jvm.Cond.instanceMethod ({ cls := "RiverWage", name := "goes", desc := "(LRiverWage$Law;III)V" } : Jvm.MethodName)) ∈ lw_all := lw_g (lw_at lw_m3 235 rfl) rfl
theorem q813 : (Jvm.Cond.code ({ cls := "RiverWage", name := "goes", desc := "(LRiverWage$Law;III)V" } : Jvm.MethodName) prog_1_method_45_code (8 : Nat) (Option.none : Option Jvm.ClassFile.FieldType)) ∈ lw_all := lw_g (lw_at lw_m3 236 rfl) rfl
theorem q814 : (Jvm.Cond.methodLink "RiverWage" (285 : Nat) ({ cls := "RiverWage", name := "isSo", desc := "(LRiverWage$Expression;)Z" } : Jvm.MethodName)) ∈ lw_all := lw_g (lw_at lw_m3 237 rfl) rfl
theorem q815 : (Jvm.Cond.privateMethod ({ cls := "RiverWage", name := "isSo", desc := "(LRiverWage$Expression;)Z" } : Jvm.MethodName)) ∈ lw_tbl := lw_at lw_m3 238 rfl
theorem q816 : (Jvm.Cond.instanceMethod ({ cls := "RiverWage", name := "isSo", desc := "(LRiverWage$Expression;)Z" } : Jvm.MethodName)) ∈ lw_all := lw_g (lw_at lw_m3 239 rfl) rfl
theorem q817 : (Jvm.Cond.code ({ cls := "RiverWage", name := "isSo", desc := "(LRiverWage$Expression;)Z" } : Jvm.MethodName) prog_1_method_46_code (2 : Nat) (Option.some Jvm.ClassFile.FieldType.boolean)) ∈ lw_all := lw_g (lw_at lw_m4 0 rfl) rfl
theorem q818 : (Jvm.Cond.methodLink "RiverWage" (293 : Nat) ({ cls := "RiverWage$Expression", name := "worked", desc := "([I)I" } : Jvm.MethodName)) ∈ lw_all := lw_g (lw_at lw_m4 1 rfl) rfl
theorem q835 : (Jvm.Cond.methodLink "RiverWage" (289 : Nat) ({ cls := "RiverWage", name := "hired", desc := "(LRiverWage$Expression;I)I" } : Jvm.MethodName)) ∈ lw_all := lw_g (lw_at lw_m4 18 rfl) rfl
theorem q836 : (Jvm.Cond.privateMethod ({ cls := "RiverWage", name := "hired", desc := "(LRiverWage$Expression;I)I" } : Jvm.MethodName)) ∈ lw_tbl := lw_at lw_m4 19 rfl
theorem q837 : (Jvm.Cond.instanceMethod ({ cls := "RiverWage", name := "hired", desc := "(LRiverWage$Expression;I)I" } : Jvm.MethodName)) ∈ lw_all := lw_g (lw_at lw_m4 20 rfl) rfl
theorem q838 : (Jvm.Cond.code ({ cls := "RiverWage", name := "hired", desc := "(LRiverWage$Expression;I)I" } : Jvm.MethodName) prog_1_method_47_code (3 : Nat) (Option.some Jvm.ClassFile.FieldType.int)) ∈ lw_all := lw_g (lw_at lw_m4 21 rfl) rfl
theorem q839 : (Jvm.Cond.methodLink "RiverWage" (299 : Nat) ({ cls := "java/lang/Math", name := "min", desc := "(II)I" } : Jvm.MethodName)) ∈ lw_all := lw_g (lw_at lw_m4 22 rfl) rfl
theorem q840 : (Jvm.Cond.methodLink "RiverWage" (306 : Nat) ({ cls := "RiverWage", name := "worldHands", desc := "(II)I" } : Jvm.MethodName)) ∈ lw_all := lw_g (lw_at lw_m4 23 rfl) rfl
theorem q841 : (Jvm.Cond.privateMethod ({ cls := "RiverWage", name := "worldHands", desc := "(II)I" } : Jvm.MethodName)) ∈ lw_tbl := lw_at lw_m4 24 rfl
theorem q842 : (Jvm.Cond.instanceMethod ({ cls := "RiverWage", name := "worldHands", desc := "(II)I" } : Jvm.MethodName)) ∈ lw_all := lw_g (lw_at lw_m4 25 rfl) rfl
theorem q843 : (Jvm.Cond.code ({ cls := "RiverWage", name := "worldHands", desc := "(II)I" } : Jvm.MethodName) prog_1_method_48_code (3 : Nat) (Option.some Jvm.ClassFile.FieldType.int)) ∈ lw_all := lw_g (lw_at lw_m4 26 rfl) rfl
theorem q845 : (Jvm.Cond.instanceMethod ({ cls := "RiverWage", name := "fits", desc := "(II)J" } : Jvm.MethodName)) ∈ lw_all := lw_g (lw_at lw_m4 28 rfl) rfl
theorem q846 : (Jvm.Cond.selects "RiverWage" ({ cls := "RiverWage", name := "fits", desc := "(II)J" } : Jvm.MethodName) ({ cls := "RiverWage", name := "fits", desc := "(II)J" } : Jvm.MethodName)) ∈ lw_all := lw_g (lw_at lw_m4 29 rfl) rfl
theorem q847 : (Jvm.Cond.code ({ cls := "RiverWage", name := "fits", desc := "(II)J" } : Jvm.MethodName) prog_1_method_51_code (3 : Nat) (Option.some Jvm.ClassFile.FieldType.long)) ∈ lw_all := lw_g (lw_at lw_m4 30 rfl) rfl
theorem q848 : (Jvm.Cond.methodLink "RiverWage" (312 : Nat) ({ cls := "RiverWage", name := "fitsOf", desc := "(II)J" } : Jvm.MethodName)) ∈ lw_all := lw_g (lw_at lw_m4 31 rfl) rfl
theorem q849 : (Jvm.Cond.privateMethod ({ cls := "RiverWage", name := "fitsOf", desc := "(II)J" } : Jvm.MethodName)) ∈ lw_tbl := lw_at lw_m4 32 rfl
theorem q850 : (Jvm.Cond.instanceMethod ({ cls := "RiverWage", name := "fitsOf", desc := "(II)J" } : Jvm.MethodName)) ∈ lw_all := lw_g (lw_at lw_m4 33 rfl) rfl
theorem q851 : (Jvm.Cond.code ({ cls := "RiverWage", name := "fitsOf", desc := "(II)J" } : Jvm.MethodName) prog_1_method_50_code (8 : Nat) (Option.some Jvm.ClassFile.FieldType.long)) ∈ lw_all := lw_g (lw_at lw_m4 34 rfl) rfl
theorem q852 : (Jvm.Cond.methodLink "RiverWage" (309 : Nat) ({ cls := "java/lang/Math", name := "abs", desc := "(I)I" } : Jvm.MethodName)) ∈ lw_all := lw_g (lw_at lw_m4 35 rfl) rfl
theorem q856 : (Jvm.Cond.instanceMethod ({ cls := "RiverWage", name := "best", desc := "(I)I" } : Jvm.MethodName)) ∈ lw_all := lw_g (lw_at lw_m4 39 rfl) rfl
theorem q857 : (Jvm.Cond.selects "RiverWage" ({ cls := "RiverWage", name := "best", desc := "(I)I" } : Jvm.MethodName) ({ cls := "RiverWage", name := "best", desc := "(I)I" } : Jvm.MethodName)) ∈ lw_all := lw_g (lw_at lw_m4 40 rfl) rfl
theorem q858 : (Jvm.Cond.code ({ cls := "RiverWage", name := "best", desc := "(I)I" } : Jvm.MethodName) prog_1_method_52_code (4 : Nat) (Option.some Jvm.ClassFile.FieldType.int)) ∈ lw_all := lw_g (lw_at lw_m4 41 rfl) rfl
theorem q860 : (Jvm.Cond.instanceMethod ({ cls := "RiverWage", name := "rivers", desc := "(IIIII)I" } : Jvm.MethodName)) ∈ lw_all := lw_g (lw_at lw_m4 43 rfl) rfl
theorem q861 : (Jvm.Cond.selects "RiverWage" ({ cls := "RiverWage", name := "rivers", desc := "(IIIII)I" } : Jvm.MethodName) ({ cls := "RiverWage", name := "rivers", desc := "(IIIII)I" } : Jvm.MethodName)) ∈ lw_all := lw_g (lw_at lw_m4 44 rfl) rfl
theorem q862 : (Jvm.Cond.code ({ cls := "RiverWage", name := "rivers", desc := "(IIIII)I" } : Jvm.MethodName) prog_1_method_53_code (9 : Nat) (Option.some Jvm.ClassFile.FieldType.int)) ∈ lw_all := lw_g (lw_at lw_m4 45 rfl) rfl
theorem q863 : (Jvm.Cond.methodLink "RiverWage" (316 : Nat) ({ cls := "java/lang/Long", name := "signum", desc := "(J)I" } : Jvm.MethodName)) ∈ lw_all := lw_g (lw_at lw_m4 46 rfl) rfl
theorem q867 : (Jvm.Cond.instanceMethod ({ cls := "RiverWage", name := "other", desc := "(IIZ)I" } : Jvm.MethodName)) ∈ lw_all := lw_g (lw_at lw_m4 50 rfl) rfl
theorem q868 : (Jvm.Cond.selects "RiverWage" ({ cls := "RiverWage", name := "other", desc := "(IIZ)I" } : Jvm.MethodName) ({ cls := "RiverWage", name := "other", desc := "(IIZ)I" } : Jvm.MethodName)) ∈ lw_all := lw_g (lw_at lw_m4 51 rfl) rfl
theorem q869 : (Jvm.Cond.code ({ cls := "RiverWage", name := "other", desc := "(IIZ)I" } : Jvm.MethodName) prog_1_method_54_code (4 : Nat) (Option.some Jvm.ClassFile.FieldType.int)) ∈ lw_all := lw_g (lw_at lw_m4 52 rfl) rfl
theorem q871 : (Jvm.Cond.instanceMethod ({ cls := "RiverWage", name := "drawer", desc := "(I)I" } : Jvm.MethodName)) ∈ lw_all := lw_g (lw_at lw_m4 54 rfl) rfl
theorem q872 : (Jvm.Cond.selects "RiverWage" ({ cls := "RiverWage", name := "drawer", desc := "(I)I" } : Jvm.MethodName) ({ cls := "RiverWage", name := "drawer", desc := "(I)I" } : Jvm.MethodName)) ∈ lw_all := lw_g (lw_at lw_m4 55 rfl) rfl
theorem q873 : (Jvm.Cond.code ({ cls := "RiverWage", name := "drawer", desc := "(I)I" } : Jvm.MethodName) prog_1_method_57_code (2 : Nat) (Option.some Jvm.ClassFile.FieldType.int)) ∈ lw_all := lw_g (lw_at lw_m4 56 rfl) rfl
theorem q874 : (Jvm.Cond.methodLink "RiverWage" (325 : Nat) ({ cls := "RiverWage", name := "sums", desc := "(Z)V" } : Jvm.MethodName)) ∈ lw_all := lw_g (lw_at lw_m4 57 rfl) rfl
theorem q875 : (Jvm.Cond.privateMethod ({ cls := "RiverWage", name := "sums", desc := "(Z)V" } : Jvm.MethodName)) ∈ lw_tbl := lw_at lw_m4 58 rfl
theorem q876 : (Jvm.Cond.instanceMethod ({ cls := "RiverWage", name := "sums", desc := "(Z)V" } : Jvm.MethodName)) ∈ lw_all := lw_g (lw_at lw_m4 59 rfl) rfl
theorem q877 : (Jvm.Cond.code ({ cls := "RiverWage", name := "sums", desc := "(Z)V" } : Jvm.MethodName) prog_1_method_55_code (3 : Nat) (Option.none : Option Jvm.ClassFile.FieldType)) ∈ lw_all := lw_g (lw_at lw_m4 60 rfl) rfl
theorem q879 : (Jvm.Cond.instanceMethod ({ cls := "RiverWage", name := "writer", desc := "(I)I" } : Jvm.MethodName)) ∈ lw_all := lw_g (lw_at lw_m4 62 rfl) rfl
theorem q880 : (Jvm.Cond.selects "RiverWage" ({ cls := "RiverWage", name := "writer", desc := "(I)I" } : Jvm.MethodName) ({ cls := "RiverWage", name := "writer", desc := "(I)I" } : Jvm.MethodName)) ∈ lw_all := lw_g (lw_at lw_m4 63 rfl) rfl
theorem q881 : (Jvm.Cond.codeWith ({ cls := "RiverWage", name := "writer", desc := "(I)I" } : Jvm.MethodName) prog_1_method_58_code (4 : Nat) (Option.some Jvm.ClassFile.FieldType.int) [((33 : Nat), (46 : Nat), (49 : Nat), (265 : Nat))]) ∈ lw_all := lw_g (lw_at lw_m4 64 rfl) rfl
theorem q882 : (Jvm.Cond.methodLink "RiverWage" (328 : Nat) ({ cls := "RiverWage$Reader", name := "writer", desc := "()LRiverWage$Writer;" } : Jvm.MethodName)) ∈ lw_all := lw_g (lw_at lw_m4 65 rfl) rfl
theorem q891 : (Jvm.Cond.instanceMethod ({ cls := "RiverWage", name := "takes", desc := "(II)I" } : Jvm.MethodName)) ∈ lw_all := lw_g (lw_at lw_m4 74 rfl) rfl
theorem q892 : (Jvm.Cond.selects "RiverWage" ({ cls := "RiverWage", name := "takes", desc := "(II)I" } : Jvm.MethodName) ({ cls := "RiverWage", name := "takes", desc := "(II)I" } : Jvm.MethodName)) ∈ lw_all := lw_g (lw_at lw_m4 75 rfl) rfl
theorem q893 : (Jvm.Cond.code ({ cls := "RiverWage", name := "takes", desc := "(II)I" } : Jvm.MethodName) prog_1_method_60_code (4 : Nat) (Option.some Jvm.ClassFile.FieldType.int)) ∈ lw_all := lw_g (lw_at lw_m4 76 rfl) rfl
theorem q894 : (Jvm.Cond.methodLink "RiverWage" (346 : Nat) ({ cls := "RiverWage", name := "isTaken", desc := "(LRiverWage$Writer;I)Z" } : Jvm.MethodName)) ∈ lw_all := lw_g (lw_at lw_m4 77 rfl) rfl
theorem q895 : (Jvm.Cond.privateMethod ({ cls := "RiverWage", name := "isTaken", desc := "(LRiverWage$Writer;I)Z" } : Jvm.MethodName)) ∈ lw_tbl := lw_at lw_m4 78 rfl
theorem q896 : (Jvm.Cond.instanceMethod ({ cls := "RiverWage", name := "isTaken", desc := "(LRiverWage$Writer;I)Z" } : Jvm.MethodName)) ∈ lw_all := lw_g (lw_at lw_m4 79 rfl) rfl
theorem q897 : (Jvm.Cond.code ({ cls := "RiverWage", name := "isTaken", desc := "(LRiverWage$Writer;I)Z" } : Jvm.MethodName) prog_1_method_59_code (4 : Nat) (Option.some Jvm.ClassFile.FieldType.boolean)) ∈ lw_all := lw_g (lw_at lw_m4 80 rfl) rfl
theorem q898 : (Jvm.Cond.methodLink "RiverWage" (336 : Nat) ({ cls := "RiverWage$Kitchen", name := "months", desc := "(I)I" } : Jvm.MethodName)) ∈ lw_all := lw_g (lw_at lw_m4 81 rfl) rfl
theorem q903 : (Jvm.Cond.instanceMethod ({ cls := "RiverWage", name := "book", desc := "(IIII)Z" } : Jvm.MethodName)) ∈ lw_all := lw_g (lw_at lw_m4 86 rfl) rfl
theorem q904 : (Jvm.Cond.selects "RiverWage" ({ cls := "RiverWage", name := "book", desc := "(IIII)Z" } : Jvm.MethodName) ({ cls := "RiverWage", name := "book", desc := "(IIII)Z" } : Jvm.MethodName)) ∈ lw_all := lw_g (lw_at lw_m4 87 rfl) rfl
theorem q905 : (Jvm.Cond.code ({ cls := "RiverWage", name := "book", desc := "(IIII)Z" } : Jvm.MethodName) prog_1_method_64_code (5 : Nat) (Option.some Jvm.ClassFile.FieldType.boolean)) ∈ lw_all := lw_g (lw_at lw_m4 88 rfl) rfl
theorem q906 : (Jvm.Cond.constant "RiverWage" (353 : Nat) (99999 : Int32)) ∈ lw_all := lw_g (lw_at lw_m4 89 rfl) rfl
theorem q908 : (Jvm.Cond.instanceMethod ({ cls := "RiverWage", name := "lots", desc := "(IIII)J" } : Jvm.MethodName)) ∈ lw_all := lw_g (lw_at lw_m4 91 rfl) rfl
theorem q909 : (Jvm.Cond.selects "RiverWage" ({ cls := "RiverWage", name := "lots", desc := "(IIII)J" } : Jvm.MethodName) ({ cls := "RiverWage", name := "lots", desc := "(IIII)J" } : Jvm.MethodName)) ∈ lw_all := lw_g (lw_at lw_m4 92 rfl) rfl
theorem q910 : (Jvm.Cond.code ({ cls := "RiverWage", name := "lots", desc := "(IIII)J" } : Jvm.MethodName) prog_1_method_73_code (5 : Nat) (Option.some Jvm.ClassFile.FieldType.long)) ∈ lw_all := lw_g (lw_at lw_m4 93 rfl) rfl
theorem q911 : (Jvm.Cond.methodLink "RiverWage" (388 : Nat) ({ cls := "RiverWage", name := "lays", desc := "(II)Z" } : Jvm.MethodName)) ∈ lw_all := lw_g (lw_at lw_m4 94 rfl) rfl
theorem q912 : (Jvm.Cond.privateMethod ({ cls := "RiverWage", name := "lays", desc := "(II)Z" } : Jvm.MethodName)) ∈ lw_tbl := lw_at lw_m4 95 rfl
theorem q913 : (Jvm.Cond.instanceMethod ({ cls := "RiverWage", name := "lays", desc := "(II)Z" } : Jvm.MethodName)) ∈ lw_all := lw_g (lw_at lw_m4 96 rfl) rfl
theorem q914 : (Jvm.Cond.code ({ cls := "RiverWage", name := "lays", desc := "(II)Z" } : Jvm.MethodName) prog_1_method_70_code (4 : Nat) (Option.some Jvm.ClassFile.FieldType.boolean)) ∈ lw_all := lw_g (lw_at lw_m4 97 rfl) rfl
theorem q915 : (Jvm.Cond.methodLink "RiverWage" (233 : Nat) ({ cls := "RiverWage", name := "sorts", desc := "(III)I" } : Jvm.MethodName)) ∈ lw_all := lw_g (lw_at lw_m4 98 rfl) rfl
theorem q916 : (Jvm.Cond.privateMethod ({ cls := "RiverWage", name := "sorts", desc := "(III)I" } : Jvm.MethodName)) ∈ lw_tbl := lw_at lw_m4 99 rfl
theorem q917 : (Jvm.Cond.instanceMethod ({ cls := "RiverWage", name := "sorts", desc := "(III)I" } : Jvm.MethodName)) ∈ lw_all := lw_g (lw_at lw_m4 100 rfl) rfl
theorem q918 : (Jvm.Cond.code ({ cls := "RiverWage", name := "sorts", desc := "(III)I" } : Jvm.MethodName) prog_1_method_35_code (8 : Nat) (Option.some Jvm.ClassFile.FieldType.int)) ∈ lw_all := lw_g (lw_at lw_m4 101 rfl) rfl
theorem q919 : (Jvm.Cond.methodLink "RiverWage" (391 : Nat) ({ cls := "RiverWage", name := "draws", desc := "(I)V" } : Jvm.MethodName)) ∈ lw_all := lw_g (lw_at lw_m4 102 rfl) rfl
theorem q920 : (Jvm.Cond.privateMethod ({ cls := "RiverWage", name := "draws", desc := "(I)V" } : Jvm.MethodName)) ∈ lw_tbl := lw_at lw_m4 103 rfl
theorem q921 : (Jvm.Cond.instanceMethod ({ cls := "RiverWage", name := "draws", desc := "(I)V" } : Jvm.MethodName)) ∈ lw_all := lw_g (lw_at lw_m4 104 rfl) rfl
theorem q922 : (Jvm.Cond.code ({ cls := "RiverWage", name := "draws", desc := "(I)V" } : Jvm.MethodName) prog_1_method_72_code (5 : Nat) (Option.none : Option Jvm.ClassFile.FieldType)) ∈ lw_all := lw_g (lw_at lw_m4 105 rfl) rfl
theorem q923 : (Jvm.Cond.methodLink "RiverWage" (378 : Nat) ({ cls := "java/lang/Integer", name := "bitCount", desc := "(I)I" } : Jvm.MethodName)) ∈ lw_all := lw_g (lw_at lw_m4 106 rfl) rfl
theorem q929 : (Jvm.Cond.methodLink "RiverWage" (383 : Nat) ({ cls := "RiverWage", name := "sum", desc := "([II)I" } : Jvm.MethodName)) ∈ lw_all := lw_g (lw_at lw_m4 112 rfl) rfl
theorem q930 : (Jvm.Cond.static ({ cls := "RiverWage", name := "sum", desc := "([II)I" } : Jvm.MethodName)) ∈ lw_all := lw_g (lw_at lw_m4 113 rfl) rfl
theorem q931 : (Jvm.Cond.code ({ cls := "RiverWage", name := "sum", desc := "([II)I" } : Jvm.MethodName) prog_1_method_71_code (4 : Nat) (Option.some Jvm.ClassFile.FieldType.int)) ∈ lw_all := lw_g (lw_at lw_m4 114 rfl) rfl
theorem q932 : (Jvm.Cond.methodLink "RiverWage" (386 : Nat) ({ cls := "java/lang/Integer", name := "signum", desc := "(I)I" } : Jvm.MethodName)) ∈ lw_all := lw_g (lw_at lw_m4 115 rfl) rfl
theorem q936 : (Jvm.Cond.instanceMethod ({ cls := "RiverWage", name := "needed", desc := "(III)I" } : Jvm.MethodName)) ∈ lw_all := lw_g (lw_at lw_m4 119 rfl) rfl
theorem q937 : (Jvm.Cond.selects "RiverWage" ({ cls := "RiverWage", name := "needed", desc := "(III)I" } : Jvm.MethodName) ({ cls := "RiverWage", name := "needed", desc := "(III)I" } : Jvm.MethodName)) ∈ lw_all := lw_g (lw_at lw_m4 120 rfl) rfl
theorem q938 : (Jvm.Cond.code ({ cls := "RiverWage", name := "needed", desc := "(III)I" } : Jvm.MethodName) prog_1_method_74_code (5 : Nat) (Option.some Jvm.ClassFile.FieldType.int)) ∈ lw_all := lw_g (lw_at lw_m4 121 rfl) rfl
theorem q939 : (Jvm.Cond.constantLong "RiverWage" (395 : Nat) (100 : Int64)) ∈ lw_all := lw_g (lw_at lw_m4 122 rfl) rfl
theorem q941 : (Jvm.Cond.instanceMethod ({ cls := "RiverWage", name := "slips", desc := "(II)I" } : Jvm.MethodName)) ∈ lw_all := lw_g (lw_at lw_m4 124 rfl) rfl
theorem q942 : (Jvm.Cond.selects "RiverWage" ({ cls := "RiverWage", name := "slips", desc := "(II)I" } : Jvm.MethodName) ({ cls := "RiverWage", name := "slips", desc := "(II)I" } : Jvm.MethodName)) ∈ lw_all := lw_g (lw_at lw_m4 125 rfl) rfl
theorem q943 : (Jvm.Cond.code ({ cls := "RiverWage", name := "slips", desc := "(II)I" } : Jvm.MethodName) prog_1_method_75_code (9 : Nat) (Option.some Jvm.ClassFile.FieldType.int)) ∈ lw_all := lw_g (lw_at lw_m4 126 rfl) rfl
theorem q945 : (Jvm.Cond.instanceMethod ({ cls := "RiverWage", name := "where", desc := "(I)I" } : Jvm.MethodName)) ∈ lw_all := lw_g (lw_at lw_m4 128 rfl) rfl
theorem q946 : (Jvm.Cond.selects "RiverWage" ({ cls := "RiverWage", name := "where", desc := "(I)I" } : Jvm.MethodName) ({ cls := "RiverWage", name := "where", desc := "(I)I" } : Jvm.MethodName)) ∈ lw_all := lw_g (lw_at lw_m4 129 rfl) rfl
theorem q947 : (Jvm.Cond.code ({ cls := "RiverWage", name := "where", desc := "(I)I" } : Jvm.MethodName) prog_1_method_78_code (5 : Nat) (Option.some Jvm.ClassFile.FieldType.int)) ∈ lw_all := lw_g (lw_at lw_m4 130 rfl) rfl
theorem q948 : (Jvm.Cond.methodLink "RiverWage" (397 : Nat) ({ cls := "RiverWage", name := "weight", desc := "(I)I" } : Jvm.MethodName)) ∈ lw_all := lw_g (lw_at lw_m4 131 rfl) rfl
theorem q949 : (Jvm.Cond.privateMethod ({ cls := "RiverWage", name := "weight", desc := "(I)I" } : Jvm.MethodName)) ∈ lw_tbl := lw_at lw_m4 132 rfl
theorem q950 : (Jvm.Cond.instanceMethod ({ cls := "RiverWage", name := "weight", desc := "(I)I" } : Jvm.MethodName)) ∈ lw_all := lw_g (lw_at lw_m4 133 rfl) rfl
theorem q951 : (Jvm.Cond.code ({ cls := "RiverWage", name := "weight", desc := "(I)I" } : Jvm.MethodName) prog_1_method_77_code (9 : Nat) (Option.some Jvm.ClassFile.FieldType.int)) ∈ lw_all := lw_g (lw_at lw_m4 134 rfl) rfl
theorem q953 : (Jvm.Cond.instanceMethod ({ cls := "RiverWage", name := "mark", desc := "(IZ)Z" } : Jvm.MethodName)) ∈ lw_all := lw_g (lw_at lw_m4 136 rfl) rfl
theorem q954 : (Jvm.Cond.selects "RiverWage" ({ cls := "RiverWage", name := "mark", desc := "(IZ)Z" } : Jvm.MethodName) ({ cls := "RiverWage", name := "mark", desc := "(IZ)Z" } : Jvm.MethodName)) ∈ lw_all := lw_g (lw_at lw_m4 137 rfl) rfl
theorem q955 : (Jvm.Cond.code ({ cls := "RiverWage", name := "mark", desc := "(IZ)Z" } : Jvm.MethodName) prog_1_method_79_code (7 : Nat) (Option.some Jvm.ClassFile.FieldType.boolean)) ∈ lw_all := lw_g (lw_at lw_m4 138 rfl) rfl
theorem q956 : (Jvm.Cond.methodLink "RiverWage" (400 : Nat) ({ cls := "RiverWage", name := "moves", desc := "([I[IIZ)V" } : Jvm.MethodName)) ∈ lw_all := lw_g (lw_at lw_m4 139 rfl) rfl
theorem q957 : (Jvm.Cond.static ({ cls := "RiverWage", name := "moves", desc := "([I[IIZ)V" } : Jvm.MethodName)) ∈ lw_all := lw_g (lw_at lw_m4 140 rfl) rfl
theorem q958 : (Jvm.Cond.code ({ cls := "RiverWage", name := "moves", desc := "([I[IIZ)V" } : Jvm.MethodName) prog_1_method_80_code (5 : Nat) (Option.none : Option Jvm.ClassFile.FieldType)) ∈ lw_all := lw_g (lw_at lw_m4 141 rfl) rfl
theorem q960 : (Jvm.Cond.instanceMethod ({ cls := "RiverWage", name := "count", desc := "(I)I" } : Jvm.MethodName)) ∈ lw_all := lw_g (lw_at lw_m4 143 rfl) rfl
theorem q961 : (Jvm.Cond.selects "RiverWage" ({ cls := "RiverWage", name := "count", desc := "(I)I" } : Jvm.MethodName) ({ cls := "RiverWage", name := "count", desc := "(I)I" } : Jvm.MethodName)) ∈ lw_all := lw_g (lw_at lw_m4 144 rfl) rfl
theorem q962 : (Jvm.Cond.code ({ cls := "RiverWage", name := "count", desc := "(I)I" } : Jvm.MethodName) prog_1_method_81_code (5 : Nat) (Option.some Jvm.ClassFile.FieldType.int)) ∈ lw_all := lw_g (lw_at lw_m4 145 rfl) rfl
theorem q968 : (Jvm.Cond.instanceMethod ({ cls := "RiverWage", name := "bank", desc := "(IIII)I" } : Jvm.MethodName)) ∈ lw_all := lw_g (lw_at lw_m4 151 rfl) rfl
theorem q969 : (Jvm.Cond.selects "RiverWage" ({ cls := "RiverWage", name := "bank", desc := "(IIII)I" } : Jvm.MethodName) ({ cls := "RiverWage", name := "bank", desc := "(IIII)I" } : Jvm.MethodName)) ∈ lw_all := lw_g (lw_at lw_m4 152 rfl) rfl
theorem q970 : (Jvm.Cond.code ({ cls := "RiverWage", name := "bank", desc := "(IIII)I" } : Jvm.MethodName) prog_1_method_18_code (8 : Nat) (Option.some Jvm.ClassFile.FieldType.int)) ∈ lw_all := lw_g (lw_at lw_m4 153 rfl) rfl
theorem q971 : (Jvm.Cond.methodLink "RiverWage" (168 : Nat) ({ cls := "RiverWage", name := "need", desc := "(Z)V" } : Jvm.MethodName)) ∈ lw_all := lw_g (lw_at lw_m4 154 rfl) rfl
theorem q972 : (Jvm.Cond.static ({ cls := "RiverWage", name := "need", desc := "(Z)V" } : Jvm.MethodName)) ∈ lw_all := lw_g (lw_at lw_m4 155 rfl) rfl
theorem q973 : (Jvm.Cond.code ({ cls := "RiverWage", name := "need", desc := "(Z)V" } : Jvm.MethodName) prog_1_method_5_code (1 : Nat) (Option.none : Option Jvm.ClassFile.FieldType)) ∈ lw_all := lw_g (lw_at lw_m4 156 rfl) rfl
theorem q974 : (Jvm.Cond.classLink "RiverWage" (109 : Nat) "java/util/NoSuchElementException") ∈ lw_all := lw_g (lw_at lw_m4 157 rfl) rfl
theorem q983 : (Jvm.Cond.methodLink "RiverWage" (111 : Nat) ({ cls := "java/util/NoSuchElementException", name := "<init>", desc := "()V" } : Jvm.MethodName)) ∈ lw_all := lw_g (lw_at lw_m4 166 rfl) rfl
theorem q999 : (Jvm.Cond.instanceMethod ({ cls := "RiverWage", name := "river", desc := "(IIII)J" } : Jvm.MethodName)) ∈ lw_all := lw_g (lw_at lw_m4 182 rfl) rfl
theorem q1000 : (Jvm.Cond.selects "RiverWage" ({ cls := "RiverWage", name := "river", desc := "(IIII)J" } : Jvm.MethodName) ({ cls := "RiverWage", name := "river", desc := "(IIII)J" } : Jvm.MethodName)) ∈ lw_all := lw_g (lw_at lw_m4 183 rfl) rfl
theorem q1001 : (Jvm.Cond.code ({ cls := "RiverWage", name := "river", desc := "(IIII)J" } : Jvm.MethodName) prog_1_method_26_code (5 : Nat) (Option.some Jvm.ClassFile.FieldType.long)) ∈ lw_all := lw_g (lw_at lw_m4 184 rfl) rfl
theorem q1002 : (Jvm.Cond.methodLink "RiverWage" (207 : Nat) ({ cls := "RiverWage", name := "needRiver", desc := "(IIII)V" } : Jvm.MethodName)) ∈ lw_all := lw_g (lw_at lw_m4 185 rfl) rfl
theorem q1003 : (Jvm.Cond.privateMethod ({ cls := "RiverWage", name := "needRiver", desc := "(IIII)V" } : Jvm.MethodName)) ∈ lw_tbl := lw_at lw_m4 186 rfl
theorem q1004 : (Jvm.Cond.instanceMethod ({ cls := "RiverWage", name := "needRiver", desc := "(IIII)V" } : Jvm.MethodName)) ∈ lw_all := lw_g (lw_at lw_m4 187 rfl) rfl
theorem q1005 : (Jvm.Cond.code ({ cls := "RiverWage", name := "needRiver", desc := "(IIII)V" } : Jvm.MethodName) prog_1_method_25_code (5 : Nat) (Option.none : Option Jvm.ClassFile.FieldType)) ∈ lw_all := lw_g (lw_at lw_m4 188 rfl) rfl
theorem q1010 : (Jvm.Cond.instanceMethod ({ cls := "RiverWage", name := "part", desc := "(IIII)J" } : Jvm.MethodName)) ∈ lw_all := lw_g (lw_at lw_m4 193 rfl) rfl
theorem q1011 : (Jvm.Cond.selects "RiverWage" ({ cls := "RiverWage", name := "part", desc := "(IIII)J" } : Jvm.MethodName) ({ cls := "RiverWage", name := "part", desc := "(IIII)J" } : Jvm.MethodName)) ∈ lw_all := lw_g (lw_at lw_m4 194 rfl) rfl
theorem q1012 : (Jvm.Cond.code ({ cls := "RiverWage", name := "part", desc := "(IIII)J" } : Jvm.MethodName) prog_1_method_27_code (9 : Nat) (Option.some Jvm.ClassFile.FieldType.long)) ∈ lw_all := lw_g (lw_at lw_m4 195 rfl) rfl
theorem q1017 : (Jvm.Cond.instanceMethod ({ cls := "RiverWage", name := "bounds", desc := "(III)J" } : Jvm.MethodName)) ∈ lw_all := lw_g (lw_at lw_m4 200 rfl) rfl
theorem q1018 : (Jvm.Cond.selects "RiverWage" ({ cls := "RiverWage", name := "bounds", desc := "(III)J" } : Jvm.MethodName) ({ cls := "RiverWage", name := "bounds", desc := "(III)J" } : Jvm.MethodName)) ∈ lw_all := lw_g (lw_at lw_m4 201 rfl) rfl
theorem q1019 : (Jvm.Cond.code ({ cls := "RiverWage", name := "bounds", desc := "(III)J" } : Jvm.MethodName) prog_1_method_31_code (4 : Nat) (Option.some Jvm.ClassFile.FieldType.long)) ∈ lw_all := lw_g (lw_at lw_m4 202 rfl) rfl
theorem q1024 : (Jvm.Cond.instanceMethod ({ cls := "RiverWage", name := "sheets", desc := "(IIZI)J" } : Jvm.MethodName)) ∈ lw_all := lw_g (lw_at lw_m4 207 rfl) rfl
theorem q1025 : (Jvm.Cond.selects "RiverWage" ({ cls := "RiverWage", name := "sheets", desc := "(IIZI)J" } : Jvm.MethodName) ({ cls := "RiverWage", name := "sheets", desc := "(IIZI)J" } : Jvm.MethodName)) ∈ lw_all := lw_g (lw_at lw_m4 208 rfl) rfl
theorem q1026 : (Jvm.Cond.code ({ cls := "RiverWage", name := "sheets", desc := "(IIZI)J" } : Jvm.MethodName) prog_1_method_34_code (7 : Nat) (Option.some Jvm.ClassFile.FieldType.long)) ∈ lw_all := lw_g (lw_at lw_m4 209 rfl) rfl
theorem q1027 : (Jvm.Cond.methodLink "RiverWage" (230 : Nat) ({ cls := "RiverWage$Kitchen", name := "isOnSheets", desc := "(II)Z" } : Jvm.MethodName)) ∈ lw_all := lw_g (lw_at lw_m4 210 rfl) rfl
theorem q1035 : (Jvm.Cond.instanceMethod ({ cls := "RiverWage", name := "choosing", desc := "(IIII)J" } : Jvm.MethodName)) ∈ lw_all := lw_g (lw_at lw_m4 218 rfl) rfl
theorem q1036 : (Jvm.Cond.selects "RiverWage" ({ cls := "RiverWage", name := "choosing", desc := "(IIII)J" } : Jvm.MethodName) ({ cls := "RiverWage", name := "choosing", desc := "(IIII)J" } : Jvm.MethodName)) ∈ lw_all := lw_g (lw_at lw_m4 219 rfl) rfl
theorem q1037 : (Jvm.Cond.code ({ cls := "RiverWage", name := "choosing", desc := "(IIII)J" } : Jvm.MethodName) prog_1_method_36_code (9 : Nat) (Option.some Jvm.ClassFile.FieldType.long)) ∈ lw_all := lw_g (lw_at lw_m4 220 rfl) rfl
theorem q1042 : (Jvm.Cond.instanceMethod ({ cls := "RiverWage", name := "beside", desc := "(III)J" } : Jvm.MethodName)) ∈ lw_all := lw_g (lw_at lw_m4 225 rfl) rfl
theorem q1043 : (Jvm.Cond.selects "RiverWage" ({ cls := "RiverWage", name := "beside", desc := "(III)J" } : Jvm.MethodName) ({ cls := "RiverWage", name := "beside", desc := "(III)J" } : Jvm.MethodName)) ∈ lw_all := lw_g (lw_at lw_m4 226 rfl) rfl
theorem q1044 : (Jvm.Cond.code ({ cls := "RiverWage", name := "beside", desc := "(III)J" } : Jvm.MethodName) prog_1_method_39_code (6 : Nat) (Option.some Jvm.ClassFile.FieldType.long)) ∈ lw_all := lw_g (lw_at lw_m4 227 rfl) rfl
theorem q1049 : (Jvm.Cond.instanceMethod ({ cls := "RiverWage", name := "apart", desc := "(IIII)J" } : Jvm.MethodName)) ∈ lw_all := lw_g (lw_at lw_m4 232 rfl) rfl
theorem q1050 : (Jvm.Cond.selects "RiverWage" ({ cls := "RiverWage", name := "apart", desc := "(IIII)J" } : Jvm.MethodName) ({ cls := "RiverWage", name := "apart", desc := "(IIII)J" } : Jvm.MethodName)) ∈ lw_all := lw_g (lw_at lw_m4 233 rfl) rfl
theorem q1051 : (Jvm.Cond.code ({ cls := "RiverWage", name := "apart", desc := "(IIII)J" } : Jvm.MethodName) prog_1_method_28_code (5 : Nat) (Option.some Jvm.ClassFile.FieldType.long)) ∈ lw_all := lw_g (lw_at lw_m4 234 rfl) rfl
theorem q1056 : (Jvm.Cond.instanceMethod ({ cls := "RiverWage", name := "others", desc := "(ZI)J" } : Jvm.MethodName)) ∈ lw_all := lw_g (lw_at lw_m4 239 rfl) rfl
theorem q1057 : (Jvm.Cond.selects "RiverWage" ({ cls := "RiverWage", name := "others", desc := "(ZI)J" } : Jvm.MethodName) ({ cls := "RiverWage", name := "others", desc := "(ZI)J" } : Jvm.MethodName)) ∈ lw_all := lw_g (lw_at lw_m5 0 rfl) rfl
theorem q1058 : (Jvm.Cond.code ({ cls := "RiverWage", name := "others", desc := "(ZI)J" } : Jvm.MethodName) prog_1_method_56_code (3 : Nat) (Option.some Jvm.ClassFile.FieldType.long)) ∈ lw_all := lw_g (lw_at lw_m5 1 rfl) rfl
theorem q1063 : (Jvm.Cond.instanceMethod ({ cls := "RiverWage", name := "writes", desc := "(II)J" } : Jvm.MethodName)) ∈ lw_all := lw_g (lw_at lw_m5 6 rfl) rfl
theorem q1064 : (Jvm.Cond.selects "RiverWage" ({ cls := "RiverWage", name := "writes", desc := "(II)J" } : Jvm.MethodName) ({ cls := "RiverWage", name := "writes", desc := "(II)J" } : Jvm.MethodName)) ∈ lw_all := lw_g (lw_at lw_m5 7 rfl) rfl
theorem q1065 : (Jvm.Cond.code ({ cls := "RiverWage", name := "writes", desc := "(II)J" } : Jvm.MethodName) prog_1_method_62_code (3 : Nat) (Option.some Jvm.ClassFile.FieldType.long)) ∈ lw_all := lw_g (lw_at lw_m5 8 rfl) rfl
theorem q1066 : (Jvm.Cond.methodLink "RiverWage" (350 : Nat) ({ cls := "RiverWage", name := "writes", desc := "(LRiverWage$Writer;I)Z" } : Jvm.MethodName)) ∈ lw_all := lw_g (lw_at lw_m5 9 rfl) rfl
theorem q1067 : (Jvm.Cond.privateMethod ({ cls := "RiverWage", name := "writes", desc := "(LRiverWage$Writer;I)Z" } : Jvm.MethodName)) ∈ lw_tbl := lw_at lw_m5 10 rfl
theorem q1068 : (Jvm.Cond.instanceMethod ({ cls := "RiverWage", name := "writes", desc := "(LRiverWage$Writer;I)Z" } : Jvm.MethodName)) ∈ lw_all := lw_g (lw_at lw_m5 11 rfl) rfl
theorem q1069 : (Jvm.Cond.code ({ cls := "RiverWage", name := "writes", desc := "(LRiverWage$Writer;I)Z" } : Jvm.MethodName) prog_1_method_61_code (4 : Nat) (Option.some Jvm.ClassFile.FieldType.boolean)) ∈ lw_all := lw_g (lw_at lw_m5 12 rfl) rfl
theorem q1074 : (Jvm.Cond.instanceMethod ({ cls := "RiverWage", name := "forks", desc := "(I)J" } : Jvm.MethodName)) ∈ lw_all := lw_g (lw_at lw_m5 17 rfl) rfl
theorem q1075 : (Jvm.Cond.selects "RiverWage" ({ cls := "RiverWage", name := "forks", desc := "(I)J" } : Jvm.MethodName) ({ cls := "RiverWage", name := "forks", desc := "(I)J" } : Jvm.MethodName)) ∈ lw_all := lw_g (lw_at lw_m5 18 rfl) rfl
theorem q1076 : (Jvm.Cond.code ({ cls := "RiverWage", name := "forks", desc := "(I)J" } : Jvm.MethodName) prog_1_method_63_code (15 : Nat) (Option.some Jvm.ClassFile.FieldType.long)) ∈ lw_all := lw_g (lw_at lw_m5 19 rfl) rfl
theorem q1081 : (Jvm.Cond.instanceMethod ({ cls := "RiverWage", name := "booked", desc := "(III)J" } : Jvm.MethodName)) ∈ lw_all := lw_g (lw_at lw_m5 24 rfl) rfl
theorem q1082 : (Jvm.Cond.selects "RiverWage" ({ cls := "RiverWage", name := "booked", desc := "(III)J" } : Jvm.MethodName) ({ cls := "RiverWage", name := "booked", desc := "(III)J" } : Jvm.MethodName)) ∈ lw_all := lw_g (lw_at lw_m5 25 rfl) rfl
theorem q1083 : (Jvm.Cond.code ({ cls := "RiverWage", name := "booked", desc := "(III)J" } : Jvm.MethodName) prog_1_method_68_code (5 : Nat) (Option.some Jvm.ClassFile.FieldType.long)) ∈ lw_all := lw_g (lw_at lw_m5 26 rfl) rfl
theorem q1084 : (Jvm.Cond.methodLink "RiverWage" (360 : Nat) ({ cls := "RiverWage", name := "rate", desc := "(LRiverWage$Kitchen;I)J" } : Jvm.MethodName)) ∈ lw_all := lw_g (lw_at lw_m5 27 rfl) rfl
theorem q1085 : (Jvm.Cond.privateMethod ({ cls := "RiverWage", name := "rate", desc := "(LRiverWage$Kitchen;I)J" } : Jvm.MethodName)) ∈ lw_tbl := lw_at lw_m5 28 rfl
theorem q1086 : (Jvm.Cond.instanceMethod ({ cls := "RiverWage", name := "rate", desc := "(LRiverWage$Kitchen;I)J" } : Jvm.MethodName)) ∈ lw_all := lw_g (lw_at lw_m5 29 rfl) rfl
theorem q1087 : (Jvm.Cond.code ({ cls := "RiverWage", name := "rate", desc := "(LRiverWage$Kitchen;I)J" } : Jvm.MethodName) prog_1_method_65_code (3 : Nat) (Option.some Jvm.ClassFile.FieldType.long)) ∈ lw_all := lw_g (lw_at lw_m5 30 rfl) rfl
theorem q1088 : (Jvm.Cond.methodLink "RiverWage" (366 : Nat) ({ cls := "RiverWage", name := "paid", desc := "(LRiverWage$Kitchen;I)J" } : Jvm.MethodName)) ∈ lw_all := lw_g (lw_at lw_m5 31 rfl) rfl
theorem q1089 : (Jvm.Cond.privateMethod ({ cls := "RiverWage", name := "paid", desc := "(LRiverWage$Kitchen;I)J" } : Jvm.MethodName)) ∈ lw_tbl := lw_at lw_m5 32 rfl
theorem q1090 : (Jvm.Cond.instanceMethod ({ cls := "RiverWage", name := "paid", desc := "(LRiverWage$Kitchen;I)J" } : Jvm.MethodName)) ∈ lw_all := lw_g (lw_at lw_m5 33 rfl) rfl
theorem q1091 : (Jvm.Cond.code ({ cls := "RiverWage", name := "paid", desc := "(LRiverWage$Kitchen;I)J" } : Jvm.MethodName) prog_1_method_66_code (3 : Nat) (Option.some Jvm.ClassFile.FieldType.long)) ∈ lw_all := lw_g (lw_at lw_m5 34 rfl) rfl
theorem q1092 : (Jvm.Cond.methodLink "RiverWage" (369 : Nat) ({ cls := "RiverWage", name := "taken", desc := "(LRiverWage$Kitchen;I)J" } : Jvm.MethodName)) ∈ lw_all := lw_g (lw_at lw_m5 35 rfl) rfl
theorem q1093 : (Jvm.Cond.static ({ cls := "RiverWage", name := "taken", desc := "(LRiverWage$Kitchen;I)J" } : Jvm.MethodName)) ∈ lw_all := lw_g (lw_at lw_m5 36 rfl) rfl
theorem q1094 : (Jvm.Cond.code ({ cls := "RiverWage", name := "taken", desc := "(LRiverWage$Kitchen;I)J" } : Jvm.MethodName) prog_1_method_67_code (2 : Nat) (Option.some Jvm.ClassFile.FieldType.long)) ∈ lw_all := lw_g (lw_at lw_m5 37 rfl) rfl
theorem q1095 : (Jvm.Cond.constantLong "RiverWage" (364 : Nat) (10 : Int64)) ∈ lw_all := lw_g (lw_at lw_m5 38 rfl) rfl
theorem q1100 : (Jvm.Cond.instanceMethod ({ cls := "RiverWage", name := "closes", desc := "(IIII)J" } : Jvm.MethodName)) ∈ lw_all := lw_g (lw_at lw_m5 43 rfl) rfl
theorem q1101 : (Jvm.Cond.selects "RiverWage" ({ cls := "RiverWage", name := "closes", desc := "(IIII)J" } : Jvm.MethodName) ({ cls := "RiverWage", name := "closes", desc := "(IIII)J" } : Jvm.MethodName)) ∈ lw_all := lw_g (lw_at lw_m5 44 rfl) rfl
theorem q1102 : (Jvm.Cond.code ({ cls := "RiverWage", name := "closes", desc := "(IIII)J" } : Jvm.MethodName) prog_1_method_69_code (13 : Nat) (Option.some Jvm.ClassFile.FieldType.long)) ∈ lw_all := lw_g (lw_at lw_m5 45 rfl) rfl
theorem q1107 : (Jvm.Cond.instanceMethod ({ cls := "RiverWage", name := "mixed", desc := "(III)J" } : Jvm.MethodName)) ∈ lw_all := lw_g (lw_at lw_m5 50 rfl) rfl
theorem q1108 : (Jvm.Cond.selects "RiverWage" ({ cls := "RiverWage", name := "mixed", desc := "(III)J" } : Jvm.MethodName) ({ cls := "RiverWage", name := "mixed", desc := "(III)J" } : Jvm.MethodName)) ∈ lw_all := lw_g (lw_at lw_m5 51 rfl) rfl
theorem q1109 : (Jvm.Cond.code ({ cls := "RiverWage", name := "mixed", desc := "(III)J" } : Jvm.MethodName) prog_1_method_76_code (8 : Nat) (Option.some Jvm.ClassFile.FieldType.long)) ∈ lw_all := lw_g (lw_at lw_m5 52 rfl) rfl
theorem q1764 : (Jvm.Cond.castable "RiverWage" "java/lang/Object") ∈ lw_tbl := lw_at lw_m7 227 rfl
theorem in_X1 : ∀ w ∈ wsX10, w ∈ lw_all := lw_in wsX10 [300, 302, 304, 306, 308, 310, 312, 314, 316, 318, 320, 322, 324, 326, 328, 330, 332, 334, 336, 338, 340, 342, 344, 346, 348, 350, 352, 354] (by decide +kernel) (by decide +kernel)

/-! RiverWage$Reader -/
set_option maxRecDepth 100000
def RX2 : String := "RiverWage$Reader"
def TX2 : u_T := fun k => match k with
  | 0 => ("RiverWage$Reader", "text", "[B", false)
  | 1 => ("RiverWage$Reader", "size", "I", false)
  | 2 => ("RiverWage$Reader", "to", "I", false)
  | 3 => ("RiverWage$Reader", "kind", "I", false)
  | 4 => ("RiverWage$Reader", "from", "I", false)
  | 5 => ("RiverWage$Reader", "value", "I", false)
  | 6 => ("RiverWage$Reader", "within", "I", false)
  | _ => ("RiverWage$Reader", "known", "Ljava/lang/String;", false)
def tyX2 : Nat → FieldType := fun k => match k with
  | 0 => .array .byte
  | 1 => .int
  | 2 => .int
  | 3 => .int
  | 4 => .int
  | 5 => .int
  | 6 => .int
  | _ => .object "java/lang/String"
abbrev wsX20 : List Cond := u_ws RX2 TX2 8
theorem nmX2 : ∀ a, a < 8 → ∀ b, b < 8 → a ≠ b → (TX2 a).2.1 ≠ (TX2 b).2.1 := by decide +kernel
theorem tyX2_ok : ∀ k, k < 8 → parseFieldDescriptor (TX2 k).2.2.1 = some (tyX2 k) := by decide +kernel
abbrev cX2_init : ByteArray := prog_9_method_1_code
abbrev cX2_begin : ByteArray := prog_9_method_2_code
abbrev cX2_next : ByteArray := prog_9_method_6_code
abbrev cX2_at : ByteArray := prog_9_method_3_code
abbrev cX2_isLetter : ByteArray := prog_9_method_4_code
abbrev cX2_isDigit : ByteArray := prog_9_method_5_code
abbrev cX2_law : ByteArray := prog_9_method_13_code
abbrev cX2_which : ByteArray := prog_9_method_8_code
abbrev cX2_wrong : ByteArray := prog_9_method_7_code
abbrev cX2_need : ByteArray := prog_9_method_9_code
abbrev cX2_expression : ByteArray := prog_9_method_15_code
abbrev cX2_test : ByteArray := prog_9_method_16_code
abbrev cX2_sum : ByteArray := prog_9_method_17_code
abbrev cX2_product : ByteArray := prog_9_method_18_code
abbrev cX2_part : ByteArray := prog_9_method_19_code
abbrev cX2_isSign : ByteArray := prog_9_method_10_code
abbrev cX2_number : ByteArray := prog_9_method_12_code
abbrev cX2_need_2 : ByteArray := prog_9_method_11_code
abbrev cX2_writer : ByteArray := prog_9_method_14_code
def yX2_init : MethodName := ⟨RX2, "<init>", "()V"⟩
def yX2_begin : MethodName := ⟨RX2, "begin", "([BI)V"⟩
def yX2_next : MethodName := ⟨RX2, "next", "()V"⟩
def yX2_at : MethodName := ⟨RX2, "at", "(I)I"⟩
def yX2_isLetter : MethodName := ⟨RX2, "isLetter", "(I)Z"⟩
def yX2_isDigit : MethodName := ⟨RX2, "isDigit", "(I)Z"⟩
def yX2_law : MethodName := ⟨RX2, "law", "()LRiverWage$Law;"⟩
def yX2_which : MethodName := ⟨RX2, "which", "(Ljava/lang/String;)I"⟩
def yX2_wrong : MethodName := ⟨RX2, "wrong", "(I)LRiverWage$Wrong;"⟩
def yX2_need : MethodName := ⟨RX2, "need", "(Ljava/lang/String;)V"⟩
def yX2_expression : MethodName := ⟨RX2, "expression", "()LRiverWage$Expression;"⟩
def yX2_test : MethodName := ⟨RX2, "test", "()LRiverWage$Expression;"⟩
def yX2_sum : MethodName := ⟨RX2, "sum", "()LRiverWage$Expression;"⟩
def yX2_product : MethodName := ⟨RX2, "product", "()LRiverWage$Expression;"⟩
def yX2_part : MethodName := ⟨RX2, "part", "()LRiverWage$Expression;"⟩
def yX2_isSign : MethodName := ⟨RX2, "isSign", "(C)Z"⟩
def yX2_number : MethodName := ⟨RX2, "number", "(II)I"⟩
def yX2_need_2 : MethodName := ⟨RX2, "need", "(C)V"⟩
def yX2_writer : MethodName := ⟨RX2, "writer", "()LRiverWage$Writer;"⟩
theorem q99 : (Jvm.Cond.initialized "RiverWage$Reader") ∈ lw_all := lw_g (lw_at lw_m1 2 rfl) rfl
theorem q136 : (Jvm.Cond.instantiable "RiverWage$Reader" (8 : Nat)) ∈ lw_all := lw_g (lw_at lw_m1 39 rfl) rfl
theorem q138 : (Jvm.Cond.instanceMethod ({ cls := "RiverWage$Reader", name := "<init>", desc := "()V" } : Jvm.MethodName)) ∈ lw_all := lw_g (lw_at lw_m1 41 rfl) rfl
theorem q139 : (Jvm.Cond.code ({ cls := "RiverWage$Reader", name := "<init>", desc := "()V" } : Jvm.MethodName) prog_9_method_1_code (1 : Nat) (Option.none : Option Jvm.ClassFile.FieldType)) ∈ lw_all := lw_g (lw_at lw_m1 42 rfl) rfl
theorem q140 : (Jvm.Cond.methodLink "RiverWage$Reader" (3 : Nat) ({ cls := "java/lang/Object", name := "<init>", desc := "()V" } : Jvm.MethodName)) ∈ lw_all := lw_g (lw_at lw_m1 43 rfl) rfl
theorem q141 : (Jvm.Cond.fieldLink "RiverWage$Reader" (9 : Nat) "RiverWage$Reader" "text" "[B") ∈ lw_all := lw_g (lw_at lw_m1 44 rfl) rfl
theorem q142 : (Jvm.Cond.fieldLink "RiverWage$Reader" (15 : Nat) "RiverWage$Reader" "size" "I") ∈ lw_all := lw_g (lw_at lw_m1 45 rfl) rfl
theorem q143 : (Jvm.Cond.fieldLink "RiverWage$Reader" (19 : Nat) "RiverWage$Reader" "to" "I") ∈ lw_all := lw_g (lw_at lw_m1 46 rfl) rfl
theorem q144 : (Jvm.Cond.fieldLink "RiverWage$Reader" (31 : Nat) "RiverWage$Reader" "kind" "I") ∈ lw_all := lw_g (lw_at lw_m1 47 rfl) rfl
theorem q145 : (Jvm.Cond.fieldLink "RiverWage$Reader" (28 : Nat) "RiverWage$Reader" "from" "I") ∈ lw_all := lw_g (lw_at lw_m1 48 rfl) rfl
theorem q146 : (Jvm.Cond.fieldLink "RiverWage$Reader" (45 : Nat) "RiverWage$Reader" "value" "I") ∈ lw_all := lw_g (lw_at lw_m1 49 rfl) rfl
theorem q147 : (Jvm.Cond.fieldLink "RiverWage$Reader" (22 : Nat) "RiverWage$Reader" "within" "I") ∈ lw_all := lw_g (lw_at lw_m1 50 rfl) rfl
theorem q148 : (Jvm.Cond.fieldLink "RiverWage$Reader" (88 : Nat) "RiverWage$Reader" "known" "Ljava/lang/String;") ∈ lw_all := lw_g (lw_at lw_m1 51 rfl) rfl
theorem q149 : (Jvm.Cond.lays "RiverWage$Reader" "RiverWage$Reader" "text" "[B") ∈ lw_all := lw_g (lw_at lw_m1 52 rfl) rfl
theorem q150 : (Jvm.Cond.soleField "RiverWage$Reader" "text") ∈ lw_all := lw_g (lw_at lw_m1 53 rfl) rfl
theorem q151 : (Jvm.Cond.lays "RiverWage$Reader" "RiverWage$Reader" "size" "I") ∈ lw_all := lw_g (lw_at lw_m1 54 rfl) rfl
theorem q152 : (Jvm.Cond.soleField "RiverWage$Reader" "size") ∈ lw_all := lw_g (lw_at lw_m1 55 rfl) rfl
theorem q153 : (Jvm.Cond.lays "RiverWage$Reader" "RiverWage$Reader" "to" "I") ∈ lw_all := lw_g (lw_at lw_m1 56 rfl) rfl
theorem q154 : (Jvm.Cond.soleField "RiverWage$Reader" "to") ∈ lw_all := lw_g (lw_at lw_m1 57 rfl) rfl
theorem q155 : (Jvm.Cond.lays "RiverWage$Reader" "RiverWage$Reader" "kind" "I") ∈ lw_all := lw_g (lw_at lw_m1 58 rfl) rfl
theorem q156 : (Jvm.Cond.soleField "RiverWage$Reader" "kind") ∈ lw_all := lw_g (lw_at lw_m1 59 rfl) rfl
theorem q157 : (Jvm.Cond.lays "RiverWage$Reader" "RiverWage$Reader" "from" "I") ∈ lw_all := lw_g (lw_at lw_m1 60 rfl) rfl
theorem q158 : (Jvm.Cond.soleField "RiverWage$Reader" "from") ∈ lw_all := lw_g (lw_at lw_m1 61 rfl) rfl
theorem q159 : (Jvm.Cond.lays "RiverWage$Reader" "RiverWage$Reader" "value" "I") ∈ lw_all := lw_g (lw_at lw_m1 62 rfl) rfl
theorem q160 : (Jvm.Cond.soleField "RiverWage$Reader" "value") ∈ lw_all := lw_g (lw_at lw_m1 63 rfl) rfl
theorem q161 : (Jvm.Cond.lays "RiverWage$Reader" "RiverWage$Reader" "within" "I") ∈ lw_all := lw_g (lw_at lw_m1 64 rfl) rfl
theorem q162 : (Jvm.Cond.soleField "RiverWage$Reader" "within") ∈ lw_all := lw_g (lw_at lw_m1 65 rfl) rfl
theorem q163 : (Jvm.Cond.lays "RiverWage$Reader" "RiverWage$Reader" "known" "Ljava/lang/String;") ∈ lw_all := lw_g (lw_at lw_m1 66 rfl) rfl
theorem q164 : (Jvm.Cond.soleField "RiverWage$Reader" "known") ∈ lw_all := lw_g (lw_at lw_m1 67 rfl) rfl
theorem q165 : (Jvm.Cond.superclass "RiverWage$Reader" "java/lang/Object") ∈ lw_all := lw_g (lw_at lw_m1 68 rfl) rfl
theorem q243 : (Jvm.Cond.fieldLinkNest "RiverWage$Reader" (94 : Nat) "RiverWage$Law" "ways" "[LRiverWage$Expression;" "RiverWage") ∈ lw_tbl := lw_at lw_m1 146 rfl
theorem q253 : (Jvm.Cond.fieldLinkNest "RiverWage$Reader" (118 : Nat) "RiverWage$Writer" "take" "LRiverWage$Expression;" "RiverWage") ∈ lw_tbl := lw_at lw_m1 156 rfl
theorem q255 : (Jvm.Cond.fieldLinkNest "RiverWage$Reader" (125 : Nat) "RiverWage$Writer" "from" "I" "RiverWage") ∈ lw_tbl := lw_at lw_m1 158 rfl
theorem q258 : (Jvm.Cond.fieldLinkNest "RiverWage$Reader" (126 : Nat) "RiverWage$Writer" "to" "I" "RiverWage") ∈ lw_tbl := lw_at lw_m1 161 rfl
theorem q261 : (Jvm.Cond.fieldLinkNest "RiverWage$Reader" (127 : Nat) "RiverWage$Writer" "tenths" "I" "RiverWage") ∈ lw_tbl := lw_at lw_m1 164 rfl
theorem q501 : (Jvm.Cond.instanceMethod ({ cls := "RiverWage$Reader", name := "begin", desc := "([BI)V" } : Jvm.MethodName)) ∈ lw_all := lw_g (lw_at lw_m2 164 rfl) rfl
theorem q502 : (Jvm.Cond.selects "RiverWage$Reader" ({ cls := "RiverWage$Reader", name := "begin", desc := "([BI)V" } : Jvm.MethodName) ({ cls := "RiverWage$Reader", name := "begin", desc := "([BI)V" } : Jvm.MethodName)) ∈ lw_all := lw_g (lw_at lw_m2 165 rfl) rfl
theorem q503 : (Jvm.Cond.code ({ cls := "RiverWage$Reader", name := "begin", desc := "([BI)V" } : Jvm.MethodName) prog_9_method_2_code (3 : Nat) (Option.none : Option Jvm.ClassFile.FieldType)) ∈ lw_all := lw_g (lw_at lw_m2 166 rfl) rfl
theorem q504 : (Jvm.Cond.methodLink "RiverWage$Reader" (25 : Nat) ({ cls := "RiverWage$Reader", name := "next", desc := "()V" } : Jvm.MethodName)) ∈ lw_all := lw_g (lw_at lw_m2 167 rfl) rfl
theorem q505 : (Jvm.Cond.privateMethod ({ cls := "RiverWage$Reader", name := "next", desc := "()V" } : Jvm.MethodName)) ∈ lw_tbl := lw_at lw_m2 168 rfl
theorem q506 : (Jvm.Cond.instanceMethod ({ cls := "RiverWage$Reader", name := "next", desc := "()V" } : Jvm.MethodName)) ∈ lw_all := lw_g (lw_at lw_m2 169 rfl) rfl
theorem q507 : (Jvm.Cond.code ({ cls := "RiverWage$Reader", name := "next", desc := "()V" } : Jvm.MethodName) prog_9_method_6_code (1 : Nat) (Option.none : Option Jvm.ClassFile.FieldType)) ∈ lw_all := lw_g (lw_at lw_m2 170 rfl) rfl
theorem q508 : (Jvm.Cond.methodLink "RiverWage$Reader" (34 : Nat) ({ cls := "RiverWage$Reader", name := "at", desc := "(I)I" } : Jvm.MethodName)) ∈ lw_all := lw_g (lw_at lw_m2 171 rfl) rfl
theorem q509 : (Jvm.Cond.privateMethod ({ cls := "RiverWage$Reader", name := "at", desc := "(I)I" } : Jvm.MethodName)) ∈ lw_tbl := lw_at lw_m2 172 rfl
theorem q510 : (Jvm.Cond.instanceMethod ({ cls := "RiverWage$Reader", name := "at", desc := "(I)I" } : Jvm.MethodName)) ∈ lw_all := lw_g (lw_at lw_m2 173 rfl) rfl
theorem q511 : (Jvm.Cond.code ({ cls := "RiverWage$Reader", name := "at", desc := "(I)I" } : Jvm.MethodName) prog_9_method_3_code (2 : Nat) (Option.some Jvm.ClassFile.FieldType.int)) ∈ lw_all := lw_g (lw_at lw_m2 174 rfl) rfl
theorem q512 : (Jvm.Cond.methodLink "RiverWage$Reader" (38 : Nat) ({ cls := "RiverWage$Reader", name := "isLetter", desc := "(I)Z" } : Jvm.MethodName)) ∈ lw_all := lw_g (lw_at lw_m2 175 rfl) rfl
theorem q513 : (Jvm.Cond.static ({ cls := "RiverWage$Reader", name := "isLetter", desc := "(I)Z" } : Jvm.MethodName)) ∈ lw_all := lw_g (lw_at lw_m2 176 rfl) rfl
theorem q514 : (Jvm.Cond.code ({ cls := "RiverWage$Reader", name := "isLetter", desc := "(I)Z" } : Jvm.MethodName) prog_9_method_4_code (1 : Nat) (Option.some Jvm.ClassFile.FieldType.boolean)) ∈ lw_all := lw_g (lw_at lw_m2 177 rfl) rfl
theorem q515 : (Jvm.Cond.methodLink "RiverWage$Reader" (42 : Nat) ({ cls := "RiverWage$Reader", name := "isDigit", desc := "(I)Z" } : Jvm.MethodName)) ∈ lw_all := lw_g (lw_at lw_m2 178 rfl) rfl
theorem q516 : (Jvm.Cond.static ({ cls := "RiverWage$Reader", name := "isDigit", desc := "(I)Z" } : Jvm.MethodName)) ∈ lw_all := lw_g (lw_at lw_m2 179 rfl) rfl
theorem q517 : (Jvm.Cond.code ({ cls := "RiverWage$Reader", name := "isDigit", desc := "(I)Z" } : Jvm.MethodName) prog_9_method_5_code (1 : Nat) (Option.some Jvm.ClassFile.FieldType.boolean)) ∈ lw_all := lw_g (lw_at lw_m2 180 rfl) rfl
theorem q518 : (Jvm.Cond.stringRef "RiverWage$Reader" (48 : Nat) "()<=+-*;") ∈ lw_tbl := lw_at lw_m2 181 rfl
theorem q519 : (Jvm.Cond.methodLink "RiverWage$Reader" (50 : Nat) ({ cls := "java/lang/String", name := "indexOf", desc := "(I)I" } : Jvm.MethodName)) ∈ lw_all := lw_g (lw_at lw_m2 182 rfl) rfl
theorem q604 : (Jvm.Cond.instanceMethod ({ cls := "RiverWage$Reader", name := "law", desc := "()LRiverWage$Law;" } : Jvm.MethodName)) ∈ lw_all := lw_g (lw_at lw_m3 27 rfl) rfl
theorem q605 : (Jvm.Cond.selects "RiverWage$Reader" ({ cls := "RiverWage$Reader", name := "law", desc := "()LRiverWage$Law;" } : Jvm.MethodName) ({ cls := "RiverWage$Reader", name := "law", desc := "()LRiverWage$Law;" } : Jvm.MethodName)) ∈ lw_all := lw_g (lw_at lw_m3 28 rfl) rfl
theorem q606 : (Jvm.Cond.code ({ cls := "RiverWage$Reader", name := "law", desc := "()LRiverWage$Law;" } : Jvm.MethodName) prog_9_method_13_code (3 : Nat) (Option.some (Jvm.ClassFile.FieldType.object "RiverWage$Law"))) ∈ lw_all := lw_g (lw_at lw_m3 29 rfl) rfl
theorem q607 : (Jvm.Cond.classLink "RiverWage$Reader" (83 : Nat) "RiverWage$Law") ∈ lw_all := lw_g (lw_at lw_m3 30 rfl) rfl
theorem q608 : (Jvm.Cond.methodLinkNest "RiverWage$Reader" (85 : Nat) ({ cls := "RiverWage$Law", name := "<init>", desc := "()V" } : Jvm.MethodName) "RiverWage") ∈ lw_tbl := lw_at lw_m3 31 rfl
theorem q609 : (Jvm.Cond.stringRef "RiverWage$Reader" (86 : Nat) "whole half wage floor gap bank month trade draw was ") ∈ lw_tbl := lw_at lw_m3 32 rfl
theorem q610 : (Jvm.Cond.stringRef "RiverWage$Reader" (92 : Nat) "hire part shut opens ") ∈ lw_tbl := lw_at lw_m3 33 rfl
theorem q611 : (Jvm.Cond.methodLink "RiverWage$Reader" (71 : Nat) ({ cls := "RiverWage$Reader", name := "which", desc := "(Ljava/lang/String;)I" } : Jvm.MethodName)) ∈ lw_all := lw_g (lw_at lw_m3 34 rfl) rfl
theorem q612 : (Jvm.Cond.privateMethod ({ cls := "RiverWage$Reader", name := "which", desc := "(Ljava/lang/String;)I" } : Jvm.MethodName)) ∈ lw_tbl := lw_at lw_m3 35 rfl
theorem q613 : (Jvm.Cond.instanceMethod ({ cls := "RiverWage$Reader", name := "which", desc := "(Ljava/lang/String;)I" } : Jvm.MethodName)) ∈ lw_all := lw_g (lw_at lw_m3 36 rfl) rfl
theorem q614 : (Jvm.Cond.code ({ cls := "RiverWage$Reader", name := "which", desc := "(Ljava/lang/String;)I" } : Jvm.MethodName) prog_9_method_8_code (7 : Nat) (Option.some Jvm.ClassFile.FieldType.int)) ∈ lw_all := lw_g (lw_at lw_m3 37 rfl) rfl
theorem q615 : (Jvm.Cond.methodLink "RiverWage$Reader" (60 : Nat) ({ cls := "java/lang/String", name := "length", desc := "()I" } : Jvm.MethodName)) ∈ lw_all := lw_g (lw_at lw_m3 38 rfl) rfl
theorem q616 : (Jvm.Cond.methodLink "RiverWage$Reader" (64 : Nat) ({ cls := "java/lang/String", name := "indexOf", desc := "(II)I" } : Jvm.MethodName)) ∈ lw_all := lw_g (lw_at lw_m3 39 rfl) rfl
theorem q617 : (Jvm.Cond.methodLink "RiverWage$Reader" (67 : Nat) ({ cls := "java/lang/String", name := "charAt", desc := "(I)C" } : Jvm.MethodName)) ∈ lw_all := lw_g (lw_at lw_m3 40 rfl) rfl
theorem q637 : (Jvm.Cond.methodLink "RiverWage$Reader" (75 : Nat) ({ cls := "RiverWage$Reader", name := "wrong", desc := "(I)LRiverWage$Wrong;" } : Jvm.MethodName)) ∈ lw_all := lw_g (lw_at lw_m3 60 rfl) rfl
theorem q638 : (Jvm.Cond.privateMethod ({ cls := "RiverWage$Reader", name := "wrong", desc := "(I)LRiverWage$Wrong;" } : Jvm.MethodName)) ∈ lw_tbl := lw_at lw_m3 61 rfl
theorem q639 : (Jvm.Cond.instanceMethod ({ cls := "RiverWage$Reader", name := "wrong", desc := "(I)LRiverWage$Wrong;" } : Jvm.MethodName)) ∈ lw_all := lw_g (lw_at lw_m3 62 rfl) rfl
theorem q640 : (Jvm.Cond.code ({ cls := "RiverWage$Reader", name := "wrong", desc := "(I)LRiverWage$Wrong;" } : Jvm.MethodName) prog_9_method_7_code (2 : Nat) (Option.some (Jvm.ClassFile.FieldType.object "RiverWage$Wrong"))) ∈ lw_all := lw_g (lw_at lw_m3 63 rfl) rfl
theorem q641 : (Jvm.Cond.classLink "RiverWage$Reader" (55 : Nat) "RiverWage$Wrong") ∈ lw_all := lw_g (lw_at lw_m3 64 rfl) rfl
theorem q681 : (Jvm.Cond.methodLink "RiverWage$Reader" (57 : Nat) ({ cls := "RiverWage$Wrong", name := "<init>", desc := "(II)V" } : Jvm.MethodName)) ∈ lw_all := lw_g (lw_at lw_m3 104 rfl) rfl
theorem q710 : (Jvm.Cond.stringRef "RiverWage$Reader" (98 : Nat) "when ") ∈ lw_tbl := lw_at lw_m3 133 rfl
theorem q711 : (Jvm.Cond.methodLink "RiverWage$Reader" (100 : Nat) ({ cls := "RiverWage$Reader", name := "need", desc := "(Ljava/lang/String;)V" } : Jvm.MethodName)) ∈ lw_all := lw_g (lw_at lw_m3 134 rfl) rfl
theorem q712 : (Jvm.Cond.privateMethod ({ cls := "RiverWage$Reader", name := "need", desc := "(Ljava/lang/String;)V" } : Jvm.MethodName)) ∈ lw_tbl := lw_at lw_m3 135 rfl
theorem q713 : (Jvm.Cond.instanceMethod ({ cls := "RiverWage$Reader", name := "need", desc := "(Ljava/lang/String;)V" } : Jvm.MethodName)) ∈ lw_all := lw_g (lw_at lw_m3 136 rfl) rfl
theorem q714 : (Jvm.Cond.code ({ cls := "RiverWage$Reader", name := "need", desc := "(Ljava/lang/String;)V" } : Jvm.MethodName) prog_9_method_9_code (2 : Nat) (Option.none : Option Jvm.ClassFile.FieldType)) ∈ lw_all := lw_g (lw_at lw_m3 137 rfl) rfl
theorem q715 : (Jvm.Cond.methodLink "RiverWage$Reader" (104 : Nat) ({ cls := "RiverWage$Reader", name := "expression", desc := "()LRiverWage$Expression;" } : Jvm.MethodName)) ∈ lw_all := lw_g (lw_at lw_m3 138 rfl) rfl
theorem q716 : (Jvm.Cond.privateMethod ({ cls := "RiverWage$Reader", name := "expression", desc := "()LRiverWage$Expression;" } : Jvm.MethodName)) ∈ lw_tbl := lw_at lw_m3 139 rfl
theorem q717 : (Jvm.Cond.instanceMethod ({ cls := "RiverWage$Reader", name := "expression", desc := "()LRiverWage$Expression;" } : Jvm.MethodName)) ∈ lw_all := lw_g (lw_at lw_m3 140 rfl) rfl
theorem q718 : (Jvm.Cond.code ({ cls := "RiverWage$Reader", name := "expression", desc := "()LRiverWage$Expression;" } : Jvm.MethodName) prog_9_method_15_code (3 : Nat) (Option.some (Jvm.ClassFile.FieldType.object "RiverWage$Expression"))) ∈ lw_all := lw_g (lw_at lw_m3 141 rfl) rfl
theorem q719 : (Jvm.Cond.methodLink "RiverWage$Reader" (130 : Nat) ({ cls := "RiverWage$Reader", name := "test", desc := "()LRiverWage$Expression;" } : Jvm.MethodName)) ∈ lw_all := lw_g (lw_at lw_m3 142 rfl) rfl
theorem q720 : (Jvm.Cond.privateMethod ({ cls := "RiverWage$Reader", name := "test", desc := "()LRiverWage$Expression;" } : Jvm.MethodName)) ∈ lw_tbl := lw_at lw_m3 143 rfl
theorem q721 : (Jvm.Cond.instanceMethod ({ cls := "RiverWage$Reader", name := "test", desc := "()LRiverWage$Expression;" } : Jvm.MethodName)) ∈ lw_all := lw_g (lw_at lw_m3 144 rfl) rfl
theorem q722 : (Jvm.Cond.code ({ cls := "RiverWage$Reader", name := "test", desc := "()LRiverWage$Expression;" } : Jvm.MethodName) prog_9_method_16_code (3 : Nat) (Option.some (Jvm.ClassFile.FieldType.object "RiverWage$Expression"))) ∈ lw_all := lw_g (lw_at lw_m3 145 rfl) rfl
theorem q723 : (Jvm.Cond.methodLink "RiverWage$Reader" (140 : Nat) ({ cls := "RiverWage$Reader", name := "sum", desc := "()LRiverWage$Expression;" } : Jvm.MethodName)) ∈ lw_all := lw_g (lw_at lw_m3 146 rfl) rfl
theorem q724 : (Jvm.Cond.privateMethod ({ cls := "RiverWage$Reader", name := "sum", desc := "()LRiverWage$Expression;" } : Jvm.MethodName)) ∈ lw_tbl := lw_at lw_m3 147 rfl
theorem q725 : (Jvm.Cond.instanceMethod ({ cls := "RiverWage$Reader", name := "sum", desc := "()LRiverWage$Expression;" } : Jvm.MethodName)) ∈ lw_all := lw_g (lw_at lw_m3 148 rfl) rfl
theorem q726 : (Jvm.Cond.code ({ cls := "RiverWage$Reader", name := "sum", desc := "()LRiverWage$Expression;" } : Jvm.MethodName) prog_9_method_17_code (3 : Nat) (Option.some (Jvm.ClassFile.FieldType.object "RiverWage$Expression"))) ∈ lw_all := lw_g (lw_at lw_m3 149 rfl) rfl
theorem q727 : (Jvm.Cond.methodLink "RiverWage$Reader" (143 : Nat) ({ cls := "RiverWage$Reader", name := "product", desc := "()LRiverWage$Expression;" } : Jvm.MethodName)) ∈ lw_all := lw_g (lw_at lw_m3 150 rfl) rfl
theorem q728 : (Jvm.Cond.privateMethod ({ cls := "RiverWage$Reader", name := "product", desc := "()LRiverWage$Expression;" } : Jvm.MethodName)) ∈ lw_tbl := lw_at lw_m3 151 rfl
theorem q729 : (Jvm.Cond.instanceMethod ({ cls := "RiverWage$Reader", name := "product", desc := "()LRiverWage$Expression;" } : Jvm.MethodName)) ∈ lw_all := lw_g (lw_at lw_m3 152 rfl) rfl
theorem q730 : (Jvm.Cond.code ({ cls := "RiverWage$Reader", name := "product", desc := "()LRiverWage$Expression;" } : Jvm.MethodName) prog_9_method_18_code (2 : Nat) (Option.some (Jvm.ClassFile.FieldType.object "RiverWage$Expression"))) ∈ lw_all := lw_g (lw_at lw_m3 153 rfl) rfl
theorem q731 : (Jvm.Cond.methodLink "RiverWage$Reader" (146 : Nat) ({ cls := "RiverWage$Reader", name := "part", desc := "()LRiverWage$Expression;" } : Jvm.MethodName)) ∈ lw_all := lw_g (lw_at lw_m3 154 rfl) rfl
theorem q732 : (Jvm.Cond.privateMethod ({ cls := "RiverWage$Reader", name := "part", desc := "()LRiverWage$Expression;" } : Jvm.MethodName)) ∈ lw_tbl := lw_at lw_m3 155 rfl
theorem q733 : (Jvm.Cond.instanceMethod ({ cls := "RiverWage$Reader", name := "part", desc := "()LRiverWage$Expression;" } : Jvm.MethodName)) ∈ lw_all := lw_g (lw_at lw_m3 156 rfl) rfl
theorem q734 : (Jvm.Cond.code ({ cls := "RiverWage$Reader", name := "part", desc := "()LRiverWage$Expression;" } : Jvm.MethodName) prog_9_method_19_code (5 : Nat) (Option.some (Jvm.ClassFile.FieldType.object "RiverWage$Expression"))) ∈ lw_all := lw_g (lw_at lw_m3 157 rfl) rfl
theorem q735 : (Jvm.Cond.stringRef "RiverWage$Reader" (149 : Nat) "not ") ∈ lw_tbl := lw_at lw_m3 158 rfl
theorem q736 : (Jvm.Cond.methodLink "RiverWage$Reader" (79 : Nat) ({ cls := "RiverWage$Reader", name := "isSign", desc := "(C)Z" } : Jvm.MethodName)) ∈ lw_all := lw_g (lw_at lw_m3 159 rfl) rfl
theorem q737 : (Jvm.Cond.privateMethod ({ cls := "RiverWage$Reader", name := "isSign", desc := "(C)Z" } : Jvm.MethodName)) ∈ lw_tbl := lw_at lw_m3 160 rfl
theorem q738 : (Jvm.Cond.instanceMethod ({ cls := "RiverWage$Reader", name := "isSign", desc := "(C)Z" } : Jvm.MethodName)) ∈ lw_all := lw_g (lw_at lw_m3 161 rfl) rfl
theorem q739 : (Jvm.Cond.code ({ cls := "RiverWage$Reader", name := "isSign", desc := "(C)Z" } : Jvm.MethodName) prog_9_method_10_code (2 : Nat) (Option.some Jvm.ClassFile.FieldType.boolean)) ∈ lw_all := lw_g (lw_at lw_m3 162 rfl) rfl
theorem q740 : (Jvm.Cond.classLink "RiverWage$Reader" (151 : Nat) "RiverWage$Given") ∈ lw_all := lw_g (lw_at lw_m3 163 rfl) rfl
theorem q742 : (Jvm.Cond.methodLink "RiverWage$Reader" (122 : Nat) ({ cls := "RiverWage$Reader", name := "number", desc := "(II)I" } : Jvm.MethodName)) ∈ lw_all := lw_g (lw_at lw_m3 165 rfl) rfl
theorem q743 : (Jvm.Cond.privateMethod ({ cls := "RiverWage$Reader", name := "number", desc := "(II)I" } : Jvm.MethodName)) ∈ lw_tbl := lw_at lw_m3 166 rfl
theorem q744 : (Jvm.Cond.instanceMethod ({ cls := "RiverWage$Reader", name := "number", desc := "(II)I" } : Jvm.MethodName)) ∈ lw_all := lw_g (lw_at lw_m3 167 rfl) rfl
theorem q745 : (Jvm.Cond.code ({ cls := "RiverWage$Reader", name := "number", desc := "(II)I" } : Jvm.MethodName) prog_9_method_12_code (4 : Nat) (Option.some Jvm.ClassFile.FieldType.int)) ∈ lw_all := lw_g (lw_at lw_m3 168 rfl) rfl
theorem q746 : (Jvm.Cond.methodLink "RiverWage$Reader" (153 : Nat) ({ cls := "RiverWage$Given", name := "<init>", desc := "(I)V" } : Jvm.MethodName)) ∈ lw_all := lw_g (lw_at lw_m3 169 rfl) rfl
theorem q757 : (Jvm.Cond.classLink "RiverWage$Reader" (156 : Nat) "RiverWage$Fact") ∈ lw_all := lw_g (lw_at lw_m3 180 rfl) rfl
theorem q759 : (Jvm.Cond.methodLink "RiverWage$Reader" (158 : Nat) ({ cls := "RiverWage$Fact", name := "<init>", desc := "(I)V" } : Jvm.MethodName)) ∈ lw_all := lw_g (lw_at lw_m3 182 rfl) rfl
theorem q767 : (Jvm.Cond.classLink "RiverWage$Reader" (159 : Nat) "RiverWage$Not") ∈ lw_all := lw_g (lw_at lw_m3 190 rfl) rfl
theorem q769 : (Jvm.Cond.methodLink "RiverWage$Reader" (161 : Nat) ({ cls := "RiverWage$Not", name := "<init>", desc := "(LRiverWage$Expression;)V" } : Jvm.MethodName)) ∈ lw_all := lw_g (lw_at lw_m3 192 rfl) rfl
theorem q777 : (Jvm.Cond.methodLink "RiverWage$Reader" (108 : Nat) ({ cls := "RiverWage$Reader", name := "need", desc := "(C)V" } : Jvm.MethodName)) ∈ lw_all := lw_g (lw_at lw_m3 200 rfl) rfl
theorem q778 : (Jvm.Cond.privateMethod ({ cls := "RiverWage$Reader", name := "need", desc := "(C)V" } : Jvm.MethodName)) ∈ lw_tbl := lw_at lw_m3 201 rfl
theorem q779 : (Jvm.Cond.instanceMethod ({ cls := "RiverWage$Reader", name := "need", desc := "(C)V" } : Jvm.MethodName)) ∈ lw_all := lw_g (lw_at lw_m3 202 rfl) rfl
theorem q780 : (Jvm.Cond.code ({ cls := "RiverWage$Reader", name := "need", desc := "(C)V" } : Jvm.MethodName) prog_9_method_11_code (2 : Nat) (Option.none : Option Jvm.ClassFile.FieldType)) ∈ lw_all := lw_g (lw_at lw_m3 203 rfl) rfl
theorem q781 : (Jvm.Cond.classLink "RiverWage$Reader" (135 : Nat) "RiverWage$Two") ∈ lw_all := lw_g (lw_at lw_m3 204 rfl) rfl
theorem q783 : (Jvm.Cond.methodLink "RiverWage$Reader" (137 : Nat) ({ cls := "RiverWage$Two", name := "<init>", desc := "(CLRiverWage$Expression;LRiverWage$Expression;)V" } : Jvm.MethodName)) ∈ lw_all := lw_g (lw_at lw_m3 206 rfl) rfl
theorem q797 : (Jvm.Cond.stringRef "RiverWage$Reader" (133 : Nat) "and or ") ∈ lw_tbl := lw_at lw_m3 220 rfl
theorem q883 : (Jvm.Cond.instanceMethod ({ cls := "RiverWage$Reader", name := "writer", desc := "()LRiverWage$Writer;" } : Jvm.MethodName)) ∈ lw_all := lw_g (lw_at lw_m4 66 rfl) rfl
theorem q884 : (Jvm.Cond.selects "RiverWage$Reader" ({ cls := "RiverWage$Reader", name := "writer", desc := "()LRiverWage$Writer;" } : Jvm.MethodName) ({ cls := "RiverWage$Reader", name := "writer", desc := "()LRiverWage$Writer;" } : Jvm.MethodName)) ∈ lw_all := lw_g (lw_at lw_m4 67 rfl) rfl
theorem q885 : (Jvm.Cond.code ({ cls := "RiverWage$Reader", name := "writer", desc := "()LRiverWage$Writer;" } : Jvm.MethodName) prog_9_method_14_code (4 : Nat) (Option.some (Jvm.ClassFile.FieldType.object "RiverWage$Writer"))) ∈ lw_all := lw_g (lw_at lw_m4 68 rfl) rfl
theorem q886 : (Jvm.Cond.classLink "RiverWage$Reader" (111 : Nat) "RiverWage$Writer") ∈ lw_all := lw_g (lw_at lw_m4 69 rfl) rfl
theorem q887 : (Jvm.Cond.methodLinkNest "RiverWage$Reader" (113 : Nat) ({ cls := "RiverWage$Writer", name := "<init>", desc := "()V" } : Jvm.MethodName) "RiverWage") ∈ lw_tbl := lw_at lw_m4 70 rfl
theorem q888 : (Jvm.Cond.stringRef "RiverWage$Reader" (114 : Nat) "bank wage most chosen silent shut bound hands number ") ∈ lw_tbl := lw_at lw_m4 71 rfl
theorem q889 : (Jvm.Cond.stringRef "RiverWage$Reader" (116 : Nat) "take from to tenths ") ∈ lw_tbl := lw_at lw_m4 72 rfl
theorem q1765 : (Jvm.Cond.castable "RiverWage$Reader" "java/lang/Object") ∈ lw_tbl := lw_at lw_m7 228 rfl
theorem in_X2 : ∀ w ∈ wsX20, w ∈ lw_all := lw_in wsX20 [149, 151, 153, 155, 157, 159, 161, 163] (by decide +kernel) (by decide +kernel)

/-! RiverWage$Mean -/
set_option maxRecDepth 100000
def RX3 : String := "RiverWage$Mean"
def TX3 : u_T := fun k => match k with
  | 0 => ("RiverWage$Mean", "sum", "J", false)
  | _ => ("RiverWage$Mean", "many", "I", false)
def tyX3 : Nat → FieldType := fun k => match k with
  | 0 => .long
  | _ => .int
abbrev wsX30 : List Cond := u_ws RX3 TX3 2
theorem nmX3 : ∀ a, a < 2 → ∀ b, b < 2 → a ≠ b → (TX3 a).2.1 ≠ (TX3 b).2.1 := by decide +kernel
theorem tyX3_ok : ∀ k, k < 2 → parseFieldDescriptor (TX3 k).2.2.1 = some (tyX3 k) := by decide +kernel
abbrev cX3_init : ByteArray := prog_7_method_1_code
abbrev cX3_begin : ByteArray := prog_7_method_2_code
abbrev cX3_adds : ByteArray := prog_7_method_3_code
def yX3_init : MethodName := ⟨RX3, "<init>", "()V"⟩
def yX3_begin : MethodName := ⟨RX3, "begin", "()V"⟩
def yX3_adds : MethodName := ⟨RX3, "adds", "(J)V"⟩
theorem q100 : (Jvm.Cond.initialized "RiverWage$Mean") ∈ lw_all := lw_g (lw_at lw_m1 3 rfl) rfl
theorem q173 : (Jvm.Cond.instantiable "RiverWage$Mean" (2 : Nat)) ∈ lw_all := lw_g (lw_at lw_m1 76 rfl) rfl
theorem q175 : (Jvm.Cond.instanceMethod ({ cls := "RiverWage$Mean", name := "<init>", desc := "()V" } : Jvm.MethodName)) ∈ lw_all := lw_g (lw_at lw_m1 78 rfl) rfl
theorem q176 : (Jvm.Cond.code ({ cls := "RiverWage$Mean", name := "<init>", desc := "()V" } : Jvm.MethodName) prog_7_method_1_code (1 : Nat) (Option.none : Option Jvm.ClassFile.FieldType)) ∈ lw_all := lw_g (lw_at lw_m1 79 rfl) rfl
theorem q177 : (Jvm.Cond.methodLink "RiverWage$Mean" (1 : Nat) ({ cls := "java/lang/Object", name := "<init>", desc := "()V" } : Jvm.MethodName)) ∈ lw_all := lw_g (lw_at lw_m1 80 rfl) rfl
theorem q178 : (Jvm.Cond.fieldLink "RiverWage$Mean" (7 : Nat) "RiverWage$Mean" "sum" "J") ∈ lw_all := lw_g (lw_at lw_m1 81 rfl) rfl
theorem q180 : (Jvm.Cond.fieldLink "RiverWage$Mean" (13 : Nat) "RiverWage$Mean" "many" "I") ∈ lw_all := lw_g (lw_at lw_m1 83 rfl) rfl
theorem q182 : (Jvm.Cond.lays "RiverWage$Mean" "RiverWage$Mean" "sum" "J") ∈ lw_all := lw_g (lw_at lw_m1 85 rfl) rfl
theorem q183 : (Jvm.Cond.soleField "RiverWage$Mean" "sum") ∈ lw_all := lw_g (lw_at lw_m1 86 rfl) rfl
theorem q184 : (Jvm.Cond.lays "RiverWage$Mean" "RiverWage$Mean" "many" "I") ∈ lw_all := lw_g (lw_at lw_m1 87 rfl) rfl
theorem q185 : (Jvm.Cond.soleField "RiverWage$Mean" "many") ∈ lw_all := lw_g (lw_at lw_m1 88 rfl) rfl
theorem q186 : (Jvm.Cond.superclass "RiverWage$Mean" "java/lang/Object") ∈ lw_all := lw_g (lw_at lw_m1 89 rfl) rfl
theorem q422 : (Jvm.Cond.instanceMethod ({ cls := "RiverWage$Mean", name := "begin", desc := "()V" } : Jvm.MethodName)) ∈ lw_all := lw_g (lw_at lw_m2 85 rfl) rfl
theorem q423 : (Jvm.Cond.selects "RiverWage$Mean" ({ cls := "RiverWage$Mean", name := "begin", desc := "()V" } : Jvm.MethodName) ({ cls := "RiverWage$Mean", name := "begin", desc := "()V" } : Jvm.MethodName)) ∈ lw_all := lw_g (lw_at lw_m2 86 rfl) rfl
theorem q424 : (Jvm.Cond.code ({ cls := "RiverWage$Mean", name := "begin", desc := "()V" } : Jvm.MethodName) prog_7_method_2_code (1 : Nat) (Option.none : Option Jvm.ClassFile.FieldType)) ∈ lw_all := lw_g (lw_at lw_m2 87 rfl) rfl
theorem q434 : (Jvm.Cond.instanceMethod ({ cls := "RiverWage$Mean", name := "adds", desc := "(J)V" } : Jvm.MethodName)) ∈ lw_all := lw_g (lw_at lw_m2 97 rfl) rfl
theorem q435 : (Jvm.Cond.selects "RiverWage$Mean" ({ cls := "RiverWage$Mean", name := "adds", desc := "(J)V" } : Jvm.MethodName) ({ cls := "RiverWage$Mean", name := "adds", desc := "(J)V" } : Jvm.MethodName)) ∈ lw_all := lw_g (lw_at lw_m2 98 rfl) rfl
theorem q436 : (Jvm.Cond.code ({ cls := "RiverWage$Mean", name := "adds", desc := "(J)V" } : Jvm.MethodName) prog_7_method_3_code (3 : Nat) (Option.none : Option Jvm.ClassFile.FieldType)) ∈ lw_all := lw_g (lw_at lw_m2 99 rfl) rfl
theorem q1766 : (Jvm.Cond.castable "RiverWage$Mean" "java/lang/Object") ∈ lw_tbl := lw_at lw_m7 229 rfl
theorem in_X3 : ∀ w ∈ wsX30, w ∈ lw_all := lw_in wsX30 [182, 184] (by decide +kernel) (by decide +kernel)

/-! RiverWage$Kitchen -/
set_option maxRecDepth 100000
def RX4 : String := "RiverWage$Kitchen"
def TX4 : u_T := fun k => match k with
  | 0 => ("RiverWage$Kitchen", "bank", "I", false)
  | 1 => ("RiverWage$Kitchen", "wage", "I", false)
  | 2 => ("RiverWage$Kitchen", "most", "I", false)
  | 3 => ("RiverWage$Kitchen", "isTold", "Z", false)
  | 4 => ("RiverWage$Kitchen", "chosen", "Z", false)
  | 5 => ("RiverWage$Kitchen", "whole", "[I", true)
  | 6 => ("RiverWage$Kitchen", "half", "[I", true)
  | 7 => ("RiverWage$Kitchen", "sheetWhole", "[I", true)
  | 8 => ("RiverWage$Kitchen", "sheetHalf", "[I", true)
  | 9 => ("RiverWage$Kitchen", "hours", "[I", true)
  | _ => ("RiverWage$Kitchen", "takings", "[I", true)
def tyX4 : Nat → FieldType := fun k => match k with
  | 0 => .int
  | 1 => .int
  | 2 => .int
  | 3 => .boolean
  | 4 => .boolean
  | 5 => .array .int
  | 6 => .array .int
  | 7 => .array .int
  | 8 => .array .int
  | 9 => .array .int
  | _ => .array .int
abbrev wsX40 : List Cond := u_ws RX4 TX4 11
theorem nmX4 : ∀ a, a < 11 → ∀ b, b < 11 → a ≠ b → (TX4 a).2.1 ≠ (TX4 b).2.1 := by decide +kernel
theorem tyX4_ok : ∀ k, k < 11 → parseFieldDescriptor (TX4 k).2.2.1 = some (tyX4 k) := by decide +kernel
abbrev cX4_init : ByteArray := prog_5_method_1_code
abbrev cX4_isSilent : ByteArray := prog_5_method_2_code
abbrev cX4_isCounted : ByteArray := prog_5_method_3_code
abbrev cX4_months : ByteArray := prog_5_method_4_code
abbrev cX4_isOnSheets : ByteArray := prog_5_method_5_code
def yX4_init : MethodName := ⟨RX4, "<init>", "()V"⟩
def yX4_isSilent : MethodName := ⟨RX4, "isSilent", "(I)Z"⟩
def yX4_isCounted : MethodName := ⟨RX4, "isCounted", "(II)Z"⟩
def yX4_months : MethodName := ⟨RX4, "months", "(I)I"⟩
def yX4_isOnSheets : MethodName := ⟨RX4, "isOnSheets", "(II)Z"⟩
theorem q101 : (Jvm.Cond.initialized "RiverWage$Kitchen") ∈ lw_all := lw_g (lw_at lw_m1 4 rfl) rfl
theorem q188 : (Jvm.Cond.instantiable "RiverWage$Kitchen" (11 : Nat)) ∈ lw_all := lw_g (lw_at lw_m1 91 rfl) rfl
theorem q190 : (Jvm.Cond.instanceMethod ({ cls := "RiverWage$Kitchen", name := "<init>", desc := "()V" } : Jvm.MethodName)) ∈ lw_all := lw_g (lw_at lw_m1 93 rfl) rfl
theorem q191 : (Jvm.Cond.code ({ cls := "RiverWage$Kitchen", name := "<init>", desc := "()V" } : Jvm.MethodName) prog_5_method_1_code (2 : Nat) (Option.none : Option Jvm.ClassFile.FieldType)) ∈ lw_all := lw_g (lw_at lw_m1 94 rfl) rfl
theorem q192 : (Jvm.Cond.methodLink "RiverWage$Kitchen" (3 : Nat) ({ cls := "java/lang/Object", name := "<init>", desc := "()V" } : Jvm.MethodName)) ∈ lw_all := lw_g (lw_at lw_m1 95 rfl) rfl
theorem q196 : (Jvm.Cond.fieldLink "RiverWage$Kitchen" (30 : Nat) "RiverWage$Kitchen" "isTold" "Z") ∈ lw_all := lw_g (lw_at lw_m1 99 rfl) rfl
theorem q199 : (Jvm.Cond.fieldLink "RiverWage$Kitchen" (9 : Nat) "RiverWage$Kitchen" "whole" "[I") ∈ lw_all := lw_g (lw_at lw_m1 102 rfl) rfl
theorem q201 : (Jvm.Cond.fieldLink "RiverWage$Kitchen" (15 : Nat) "RiverWage$Kitchen" "half" "[I") ∈ lw_all := lw_g (lw_at lw_m1 104 rfl) rfl
theorem q203 : (Jvm.Cond.fieldLink "RiverWage$Kitchen" (18 : Nat) "RiverWage$Kitchen" "sheetWhole" "[I") ∈ lw_all := lw_g (lw_at lw_m1 106 rfl) rfl
theorem q205 : (Jvm.Cond.fieldLink "RiverWage$Kitchen" (21 : Nat) "RiverWage$Kitchen" "sheetHalf" "[I") ∈ lw_all := lw_g (lw_at lw_m1 108 rfl) rfl
theorem q207 : (Jvm.Cond.fieldLink "RiverWage$Kitchen" (24 : Nat) "RiverWage$Kitchen" "hours" "[I") ∈ lw_all := lw_g (lw_at lw_m1 110 rfl) rfl
theorem q209 : (Jvm.Cond.fieldLink "RiverWage$Kitchen" (27 : Nat) "RiverWage$Kitchen" "takings" "[I") ∈ lw_all := lw_g (lw_at lw_m1 112 rfl) rfl
theorem q211 : (Jvm.Cond.lays "RiverWage$Kitchen" "RiverWage$Kitchen" "bank" "I") ∈ lw_all := lw_g (lw_at lw_m1 114 rfl) rfl
theorem q212 : (Jvm.Cond.soleField "RiverWage$Kitchen" "bank") ∈ lw_all := lw_g (lw_at lw_m1 115 rfl) rfl
theorem q213 : (Jvm.Cond.lays "RiverWage$Kitchen" "RiverWage$Kitchen" "wage" "I") ∈ lw_all := lw_g (lw_at lw_m1 116 rfl) rfl
theorem q214 : (Jvm.Cond.soleField "RiverWage$Kitchen" "wage") ∈ lw_all := lw_g (lw_at lw_m1 117 rfl) rfl
theorem q215 : (Jvm.Cond.lays "RiverWage$Kitchen" "RiverWage$Kitchen" "most" "I") ∈ lw_all := lw_g (lw_at lw_m1 118 rfl) rfl
theorem q216 : (Jvm.Cond.soleField "RiverWage$Kitchen" "most") ∈ lw_all := lw_g (lw_at lw_m1 119 rfl) rfl
theorem q217 : (Jvm.Cond.lays "RiverWage$Kitchen" "RiverWage$Kitchen" "isTold" "Z") ∈ lw_all := lw_g (lw_at lw_m1 120 rfl) rfl
theorem q218 : (Jvm.Cond.soleField "RiverWage$Kitchen" "isTold") ∈ lw_all := lw_g (lw_at lw_m1 121 rfl) rfl
theorem q219 : (Jvm.Cond.lays "RiverWage$Kitchen" "RiverWage$Kitchen" "chosen" "Z") ∈ lw_all := lw_g (lw_at lw_m1 122 rfl) rfl
theorem q220 : (Jvm.Cond.soleField "RiverWage$Kitchen" "chosen") ∈ lw_all := lw_g (lw_at lw_m1 123 rfl) rfl
theorem q221 : (Jvm.Cond.laysFinal "RiverWage$Kitchen" "RiverWage$Kitchen" "whole" "[I") ∈ lw_all := lw_g (lw_at lw_m1 124 rfl) rfl
theorem q222 : (Jvm.Cond.soleField "RiverWage$Kitchen" "whole") ∈ lw_all := lw_g (lw_at lw_m1 125 rfl) rfl
theorem q223 : (Jvm.Cond.laysFinal "RiverWage$Kitchen" "RiverWage$Kitchen" "half" "[I") ∈ lw_all := lw_g (lw_at lw_m1 126 rfl) rfl
theorem q224 : (Jvm.Cond.soleField "RiverWage$Kitchen" "half") ∈ lw_all := lw_g (lw_at lw_m1 127 rfl) rfl
theorem q225 : (Jvm.Cond.laysFinal "RiverWage$Kitchen" "RiverWage$Kitchen" "sheetWhole" "[I") ∈ lw_all := lw_g (lw_at lw_m1 128 rfl) rfl
theorem q226 : (Jvm.Cond.soleField "RiverWage$Kitchen" "sheetWhole") ∈ lw_all := lw_g (lw_at lw_m1 129 rfl) rfl
theorem q227 : (Jvm.Cond.laysFinal "RiverWage$Kitchen" "RiverWage$Kitchen" "sheetHalf" "[I") ∈ lw_all := lw_g (lw_at lw_m1 130 rfl) rfl
theorem q228 : (Jvm.Cond.soleField "RiverWage$Kitchen" "sheetHalf") ∈ lw_all := lw_g (lw_at lw_m1 131 rfl) rfl
theorem q229 : (Jvm.Cond.laysFinal "RiverWage$Kitchen" "RiverWage$Kitchen" "hours" "[I") ∈ lw_all := lw_g (lw_at lw_m1 132 rfl) rfl
theorem q230 : (Jvm.Cond.soleField "RiverWage$Kitchen" "hours") ∈ lw_all := lw_g (lw_at lw_m1 133 rfl) rfl
theorem q231 : (Jvm.Cond.laysFinal "RiverWage$Kitchen" "RiverWage$Kitchen" "takings" "[I") ∈ lw_all := lw_g (lw_at lw_m1 134 rfl) rfl
theorem q232 : (Jvm.Cond.soleField "RiverWage$Kitchen" "takings") ∈ lw_all := lw_g (lw_at lw_m1 135 rfl) rfl
theorem q233 : (Jvm.Cond.superclass "RiverWage$Kitchen" "java/lang/Object") ∈ lw_all := lw_g (lw_at lw_m1 136 rfl) rfl
theorem q395 : (Jvm.Cond.instanceMethod ({ cls := "RiverWage$Kitchen", name := "isSilent", desc := "(I)Z" } : Jvm.MethodName)) ∈ lw_all := lw_g (lw_at lw_m2 58 rfl) rfl
theorem q396 : (Jvm.Cond.selects "RiverWage$Kitchen" ({ cls := "RiverWage$Kitchen", name := "isSilent", desc := "(I)Z" } : Jvm.MethodName) ({ cls := "RiverWage$Kitchen", name := "isSilent", desc := "(I)Z" } : Jvm.MethodName)) ∈ lw_all := lw_g (lw_at lw_m2 59 rfl) rfl
theorem q397 : (Jvm.Cond.code ({ cls := "RiverWage$Kitchen", name := "isSilent", desc := "(I)Z" } : Jvm.MethodName) prog_5_method_2_code (2 : Nat) (Option.some Jvm.ClassFile.FieldType.boolean)) ∈ lw_all := lw_g (lw_at lw_m2 60 rfl) rfl
theorem q458 : (Jvm.Cond.instanceMethod ({ cls := "RiverWage$Kitchen", name := "isCounted", desc := "(II)Z" } : Jvm.MethodName)) ∈ lw_all := lw_g (lw_at lw_m2 121 rfl) rfl
theorem q459 : (Jvm.Cond.selects "RiverWage$Kitchen" ({ cls := "RiverWage$Kitchen", name := "isCounted", desc := "(II)Z" } : Jvm.MethodName) ({ cls := "RiverWage$Kitchen", name := "isCounted", desc := "(II)Z" } : Jvm.MethodName)) ∈ lw_all := lw_g (lw_at lw_m2 122 rfl) rfl
theorem q460 : (Jvm.Cond.code ({ cls := "RiverWage$Kitchen", name := "isCounted", desc := "(II)Z" } : Jvm.MethodName) prog_5_method_3_code (3 : Nat) (Option.some Jvm.ClassFile.FieldType.boolean)) ∈ lw_all := lw_g (lw_at lw_m2 123 rfl) rfl
theorem q461 : (Jvm.Cond.methodLink "RiverWage$Kitchen" (34 : Nat) ({ cls := "RiverWage$Kitchen", name := "isSilent", desc := "(I)Z" } : Jvm.MethodName)) ∈ lw_all := lw_g (lw_at lw_m2 124 rfl) rfl
theorem q899 : (Jvm.Cond.instanceMethod ({ cls := "RiverWage$Kitchen", name := "months", desc := "(I)I" } : Jvm.MethodName)) ∈ lw_all := lw_g (lw_at lw_m4 82 rfl) rfl
theorem q900 : (Jvm.Cond.selects "RiverWage$Kitchen" ({ cls := "RiverWage$Kitchen", name := "months", desc := "(I)I" } : Jvm.MethodName) ({ cls := "RiverWage$Kitchen", name := "months", desc := "(I)I" } : Jvm.MethodName)) ∈ lw_all := lw_g (lw_at lw_m4 83 rfl) rfl
theorem q901 : (Jvm.Cond.code ({ cls := "RiverWage$Kitchen", name := "months", desc := "(I)I" } : Jvm.MethodName) prog_5_method_4_code (4 : Nat) (Option.some Jvm.ClassFile.FieldType.int)) ∈ lw_all := lw_g (lw_at lw_m4 84 rfl) rfl
theorem q1028 : (Jvm.Cond.instanceMethod ({ cls := "RiverWage$Kitchen", name := "isOnSheets", desc := "(II)Z" } : Jvm.MethodName)) ∈ lw_all := lw_g (lw_at lw_m4 211 rfl) rfl
theorem q1029 : (Jvm.Cond.selects "RiverWage$Kitchen" ({ cls := "RiverWage$Kitchen", name := "isOnSheets", desc := "(II)Z" } : Jvm.MethodName) ({ cls := "RiverWage$Kitchen", name := "isOnSheets", desc := "(II)Z" } : Jvm.MethodName)) ∈ lw_all := lw_g (lw_at lw_m4 212 rfl) rfl
theorem q1030 : (Jvm.Cond.code ({ cls := "RiverWage$Kitchen", name := "isOnSheets", desc := "(II)Z" } : Jvm.MethodName) prog_5_method_5_code (3 : Nat) (Option.some Jvm.ClassFile.FieldType.boolean)) ∈ lw_all := lw_g (lw_at lw_m4 213 rfl) rfl
theorem q1767 : (Jvm.Cond.castable "RiverWage$Kitchen" "java/lang/Object") ∈ lw_tbl := lw_at lw_m7 230 rfl
theorem in_X4 : ∀ w ∈ wsX40, w ∈ lw_all := lw_in wsX40 [211, 213, 215, 217, 219, 221, 223, 225, 227, 229, 231] (by decide +kernel) (by decide +kernel)

/-! RiverWage$Law -/
set_option maxRecDepth 100000
def RX5 : String := "RiverWage$Law"
def TX5 : u_T := fun k => match k with
  | _ => ("RiverWage$Law", "ways", "[LRiverWage$Expression;", true)
def tyX5 : Nat → FieldType := fun k => match k with
  | _ => .array (.object "RiverWage$Expression")
abbrev wsX50 : List Cond := u_ws RX5 TX5 1
theorem nmX5 : ∀ a, a < 1 → ∀ b, b < 1 → a ≠ b → (TX5 a).2.1 ≠ (TX5 b).2.1 := by decide +kernel
theorem tyX5_ok : ∀ k, k < 1 → parseFieldDescriptor (TX5 k).2.2.1 = some (tyX5 k) := by decide +kernel
abbrev cX5_init : ByteArray := prog_6_method_1_code
def yX5_init : MethodName := ⟨RX5, "<init>", "()V"⟩
theorem q102 : (Jvm.Cond.initialized "RiverWage$Law") ∈ lw_all := lw_g (lw_at lw_m1 5 rfl) rfl
theorem q235 : (Jvm.Cond.instantiable "RiverWage$Law" (1 : Nat)) ∈ lw_all := lw_g (lw_at lw_m1 138 rfl) rfl
theorem q237 : (Jvm.Cond.instanceMethod ({ cls := "RiverWage$Law", name := "<init>", desc := "()V" } : Jvm.MethodName)) ∈ lw_all := lw_g (lw_at lw_m1 140 rfl) rfl
theorem q238 : (Jvm.Cond.code ({ cls := "RiverWage$Law", name := "<init>", desc := "()V" } : Jvm.MethodName) prog_6_method_1_code (1 : Nat) (Option.none : Option Jvm.ClassFile.FieldType)) ∈ lw_all := lw_g (lw_at lw_m1 141 rfl) rfl
theorem q239 : (Jvm.Cond.methodLink "RiverWage$Law" (3 : Nat) ({ cls := "java/lang/Object", name := "<init>", desc := "()V" } : Jvm.MethodName)) ∈ lw_all := lw_g (lw_at lw_m1 142 rfl) rfl
theorem q240 : (Jvm.Cond.classLink "RiverWage$Law" (9 : Nat) "RiverWage$Expression") ∈ lw_all := lw_g (lw_at lw_m1 143 rfl) rfl
theorem q242 : (Jvm.Cond.fieldLink "RiverWage$Law" (11 : Nat) "RiverWage$Law" "ways" "[LRiverWage$Expression;") ∈ lw_all := lw_g (lw_at lw_m1 145 rfl) rfl
theorem q245 : (Jvm.Cond.laysFinal "RiverWage$Law" "RiverWage$Law" "ways" "[LRiverWage$Expression;") ∈ lw_all := lw_g (lw_at lw_m1 148 rfl) rfl
theorem q246 : (Jvm.Cond.soleField "RiverWage$Law" "ways") ∈ lw_all := lw_g (lw_at lw_m1 149 rfl) rfl
theorem q247 : (Jvm.Cond.superclass "RiverWage$Law" "java/lang/Object") ∈ lw_all := lw_g (lw_at lw_m1 150 rfl) rfl
theorem q1768 : (Jvm.Cond.castable "RiverWage$Law" "java/lang/Object") ∈ lw_tbl := lw_at lw_m7 231 rfl
theorem in_X5 : ∀ w ∈ wsX50, w ∈ lw_all := lw_in wsX50 [245] (by decide +kernel) (by decide +kernel)

/-! RiverWage$Writer -/
set_option maxRecDepth 100000
def RX6 : String := "RiverWage$Writer"
def TX6 : u_T := fun k => match k with
  | 0 => ("RiverWage$Writer", "take", "LRiverWage$Expression;", false)
  | 1 => ("RiverWage$Writer", "from", "I", false)
  | 2 => ("RiverWage$Writer", "to", "I", false)
  | _ => ("RiverWage$Writer", "tenths", "I", false)
def tyX6 : Nat → FieldType := fun k => match k with
  | 0 => .object "RiverWage$Expression"
  | 1 => .int
  | 2 => .int
  | _ => .int
abbrev wsX60 : List Cond := u_ws RX6 TX6 4
theorem nmX6 : ∀ a, a < 4 → ∀ b, b < 4 → a ≠ b → (TX6 a).2.1 ≠ (TX6 b).2.1 := by decide +kernel
theorem tyX6_ok : ∀ k, k < 4 → parseFieldDescriptor (TX6 k).2.2.1 = some (tyX6 k) := by decide +kernel
abbrev cX6_init : ByteArray := prog_11_method_1_code
def yX6_init : MethodName := ⟨RX6, "<init>", "()V"⟩
theorem q103 : (Jvm.Cond.initialized "RiverWage$Writer") ∈ lw_all := lw_g (lw_at lw_m1 6 rfl) rfl
theorem q248 : (Jvm.Cond.instantiable "RiverWage$Writer" (4 : Nat)) ∈ lw_all := lw_g (lw_at lw_m1 151 rfl) rfl
theorem q250 : (Jvm.Cond.instanceMethod ({ cls := "RiverWage$Writer", name := "<init>", desc := "()V" } : Jvm.MethodName)) ∈ lw_all := lw_g (lw_at lw_m1 153 rfl) rfl
theorem q251 : (Jvm.Cond.code ({ cls := "RiverWage$Writer", name := "<init>", desc := "()V" } : Jvm.MethodName) prog_11_method_1_code (1 : Nat) (Option.none : Option Jvm.ClassFile.FieldType)) ∈ lw_all := lw_g (lw_at lw_m1 154 rfl) rfl
theorem q252 : (Jvm.Cond.methodLink "RiverWage$Writer" (3 : Nat) ({ cls := "java/lang/Object", name := "<init>", desc := "()V" } : Jvm.MethodName)) ∈ lw_all := lw_g (lw_at lw_m1 155 rfl) rfl
theorem q257 : (Jvm.Cond.fieldLink "RiverWage$Writer" (9 : Nat) "RiverWage$Writer" "to" "I") ∈ lw_all := lw_g (lw_at lw_m1 160 rfl) rfl
theorem q260 : (Jvm.Cond.fieldLink "RiverWage$Writer" (15 : Nat) "RiverWage$Writer" "tenths" "I") ∈ lw_all := lw_g (lw_at lw_m1 163 rfl) rfl
theorem q263 : (Jvm.Cond.lays "RiverWage$Writer" "RiverWage$Writer" "take" "LRiverWage$Expression;") ∈ lw_all := lw_g (lw_at lw_m1 166 rfl) rfl
theorem q264 : (Jvm.Cond.soleField "RiverWage$Writer" "take") ∈ lw_all := lw_g (lw_at lw_m1 167 rfl) rfl
theorem q265 : (Jvm.Cond.lays "RiverWage$Writer" "RiverWage$Writer" "from" "I") ∈ lw_all := lw_g (lw_at lw_m1 168 rfl) rfl
theorem q266 : (Jvm.Cond.soleField "RiverWage$Writer" "from") ∈ lw_all := lw_g (lw_at lw_m1 169 rfl) rfl
theorem q267 : (Jvm.Cond.lays "RiverWage$Writer" "RiverWage$Writer" "to" "I") ∈ lw_all := lw_g (lw_at lw_m1 170 rfl) rfl
theorem q268 : (Jvm.Cond.soleField "RiverWage$Writer" "to") ∈ lw_all := lw_g (lw_at lw_m1 171 rfl) rfl
theorem q269 : (Jvm.Cond.lays "RiverWage$Writer" "RiverWage$Writer" "tenths" "I") ∈ lw_all := lw_g (lw_at lw_m1 172 rfl) rfl
theorem q270 : (Jvm.Cond.soleField "RiverWage$Writer" "tenths") ∈ lw_all := lw_g (lw_at lw_m1 173 rfl) rfl
theorem q271 : (Jvm.Cond.superclass "RiverWage$Writer" "java/lang/Object") ∈ lw_all := lw_g (lw_at lw_m1 174 rfl) rfl
theorem q1769 : (Jvm.Cond.castable "RiverWage$Writer" "java/lang/Object") ∈ lw_tbl := lw_at lw_m7 232 rfl
theorem in_X6 : ∀ w ∈ wsX60, w ∈ lw_all := lw_in wsX60 [263, 265, 267, 269] (by decide +kernel) (by decide +kernel)

/-! RiverWageModel -/
set_option maxRecDepth 100000
def RX7 : String := "RiverWageModel"
def TX7 : u_T := fun k => match k with
  | 0 => ("RiverWageModel", "thrown", "I", false)
  | 1 => ("RiverWageModel", "tape", "[I", true)
  | 2 => ("RiverWageModel", "taped", "I", false)
  | 3 => ("RiverWageModel", "size", "I", false)
  | 4 => ("RiverWageModel", "sort", "[I", true)
  | 5 => ("RiverWageModel", "place", "[I", true)
  | 6 => ("RiverWageModel", "value", "[J", true)
  | 7 => ("RiverWageModel", "at", "I", false)
  | 8 => ("RiverWageModel", "fault", "I", false)
  | 9 => ("RiverWageModel", "words", "[J", true)
  | 10 => ("RiverWageModel", "isTold", "[Z", true)
  | 11 => ("RiverWageModel", "bankOf", "[I", true)
  | 12 => ("RiverWageModel", "wage", "[I", true)
  | 13 => ("RiverWageModel", "most", "[I", true)
  | 14 => ("RiverWageModel", "isChosen", "[Z", true)
  | 15 => ("RiverWageModel", "ofTen", "I", false)
  | 16 => ("RiverWageModel", "floorOf", "[I", true)
  | 17 => ("RiverWageModel", "tradeOf", "[I", true)
  | 18 => ("RiverWageModel", "state", "[I", true)
  | 19 => ("RiverWageModel", "whole", "[I", true)
  | 20 => ("RiverWageModel", "half", "[I", true)
  | 21 => ("RiverWageModel", "isSheet", "[I", true)
  | 22 => ("RiverWageModel", "sheetWhole", "[I", true)
  | 23 => ("RiverWageModel", "sheetHalf", "[I", true)
  | 24 => ("RiverWageModel", "up", "J", false)
  | 25 => ("RiverWageModel", "down", "J", false)
  | 26 => ("RiverWageModel", "one", "J", false)
  | 27 => ("RiverWageModel", "oneMany", "J", false)
  | 28 => ("RiverWageModel", "other", "J", false)
  | 29 => ("RiverWageModel", "otherMany", "J", false)
  | 30 => ("RiverWageModel", "changes", "[I", true)
  | 31 => ("RiverWageModel", "lineAt", "[I", true)
  | 32 => ("RiverWageModel", "codes", "I", false)
  | 33 => ("RiverWageModel", "op", "[I", true)
  | 34 => ("RiverWageModel", "arg", "[I", true)
  | 35 => ("RiverWageModel", "writerFacts", "[I", true)
  | 36 => ("RiverWageModel", "facts", "[I", true)
  | 37 => ("RiverWageModel", "pile", "[I", true)
  | 38 => ("RiverWageModel", "worldWhole", "[I", true)
  | 39 => ("RiverWageModel", "worldHalf", "[I", true)
  | 40 => ("RiverWageModel", "worldShut", "[Z", true)
  | 41 => ("RiverWageModel", "riversMany", "I", false)
  | 42 => ("RiverWageModel", "sumThere", "[I", true)
  | 43 => ("RiverWageModel", "manyThere", "[I", true)
  | 44 => ("RiverWageModel", "isPrinted", "[Z", true)
  | 45 => ("RiverWageModel", "isWriter", "Z", false)
  | 46 => ("RiverWageModel", "takeAt", "[I", true)
  | 47 => ("RiverWageModel", "fromOf", "[I", true)
  | 48 => ("RiverWageModel", "toOf", "[I", true)
  | 49 => ("RiverWageModel", "tenthsOf", "[I", true)
  | 50 => ("RiverWageModel", "readOf", "[I", true)
  | 51 => ("RiverWageModel", "hoursOf", "[I", true)
  | 52 => ("RiverWageModel", "takings", "[I", true)
  | 53 => ("RiverWageModel", "lotOne", "[I", true)
  | 54 => ("RiverWageModel", "lotOther", "[I", true)
  | 55 => ("RiverWageModel", "isMarked", "[Z", true)
  | 56 => ("RiverWageModel", "markRivers", "[I", true)
  | _ => ("RiverWageModel", "kept", "[I", true)
def tyX7 : Nat → FieldType := fun k => match k with
  | 0 => .int
  | 1 => .array .int
  | 2 => .int
  | 3 => .int
  | 4 => .array .int
  | 5 => .array .int
  | 6 => .array .long
  | 7 => .int
  | 8 => .int
  | 9 => .array .long
  | 10 => .array .boolean
  | 11 => .array .int
  | 12 => .array .int
  | 13 => .array .int
  | 14 => .array .boolean
  | 15 => .int
  | 16 => .array .int
  | 17 => .array .int
  | 18 => .array .int
  | 19 => .array .int
  | 20 => .array .int
  | 21 => .array .int
  | 22 => .array .int
  | 23 => .array .int
  | 24 => .long
  | 25 => .long
  | 26 => .long
  | 27 => .long
  | 28 => .long
  | 29 => .long
  | 30 => .array .int
  | 31 => .array .int
  | 32 => .int
  | 33 => .array .int
  | 34 => .array .int
  | 35 => .array .int
  | 36 => .array .int
  | 37 => .array .int
  | 38 => .array .int
  | 39 => .array .int
  | 40 => .array .boolean
  | 41 => .int
  | 42 => .array .int
  | 43 => .array .int
  | 44 => .array .boolean
  | 45 => .boolean
  | 46 => .array .int
  | 47 => .array .int
  | 48 => .array .int
  | 49 => .array .int
  | 50 => .array .int
  | 51 => .array .int
  | 52 => .array .int
  | 53 => .array .int
  | 54 => .array .int
  | 55 => .array .boolean
  | 56 => .array .int
  | _ => .array .int
abbrev wsX70 : List Cond := u_ws RX7 TX7 58
set_option maxRecDepth 100000 in
theorem nmX7 : ∀ a, a < 58 → ∀ b, b < 58 → a ≠ b → (TX7 a).2.1 ≠ (TX7 b).2.1 := by decide +kernel
set_option maxRecDepth 100000 in
theorem tyX7_ok : ∀ k, k < 58 → parseFieldDescriptor (TX7 k).2.2.1 = some (tyX7 k) := by decide +kernel
abbrev cX7_thrown : ByteArray := prog_14_method_1_code
abbrev cX7_feed : ByteArray := prog_14_method_2_code
abbrev cX7_lay : ByteArray := prog_14_method_3_code
abbrev cX7_init : ByteArray := prog_14_method_4_code
abbrev cX7_kitchen : ByteArray := prog_14_method_20_code
abbrev cX7_within : ByteArray := prog_14_method_17_code
abbrev cX7_call : ByteArray := prog_14_method_21_code
abbrev cX7_isKitchen : ByteArray := prog_14_method_19_code
abbrev cX7_isMonth : ByteArray := prog_14_method_18_code
abbrev cX7_sheet : ByteArray := prog_14_method_22_code
abbrev cX7_tenths : ByteArray := prog_14_method_23_code
abbrev cX7_floor : ByteArray := prog_14_method_24_code
abbrev cX7_hands : ByteArray := prog_14_method_27_code
abbrev cX7_handsOf : ByteArray := prog_14_method_26_code
abbrev cX7_handsBy : ByteArray := prog_14_method_25_code
abbrev cX7_bank : ByteArray := prog_14_method_31_code
abbrev cX7_areMonths : ByteArray := prog_14_method_28_code
abbrev cX7_isCounted : ByteArray := prog_14_method_29_code
abbrev cX7_changeOf : ByteArray := prog_14_method_30_code
abbrev cX7_river : ByteArray := prog_14_method_39_code
abbrev cX7_isWhat : ByteArray := prog_14_method_38_code
abbrev cX7_findRiver : ByteArray := prog_14_method_37_code
abbrev cX7_beginsSums : ByteArray := prog_14_method_34_code
abbrev cX7_adds : ByteArray := prog_14_method_35_code
abbrev cX7_differs : ByteArray := prog_14_method_36_code
abbrev cX7_lowest : ByteArray := prog_14_method_33_code
abbrev cX7_common : ByteArray := prog_14_method_32_code
abbrev cX7_part : ByteArray := prog_14_method_40_code
abbrev cX7_bounds : ByteArray := prog_14_method_43_code
abbrev cX7_findBound : ByteArray := prog_14_method_42_code
abbrev cX7_mayChange : ByteArray := prog_14_method_41_code
abbrev cX7_swings : ByteArray := prog_14_method_44_code
abbrev cX7_next : ByteArray := prog_14_method_45_code
abbrev cX7_sheets : ByteArray := prog_14_method_46_code
abbrev cX7_choosing : ByteArray := prog_14_method_48_code
abbrev cX7_sumOf : ByteArray := prog_14_method_47_code
abbrev cX7_odds : ByteArray := prog_14_method_49_code
abbrev cX7_beside : ByteArray := prog_14_method_50_code
abbrev cX7_alike : ByteArray := prog_14_method_51_code
abbrev cX7_apart : ByteArray := prog_14_method_52_code
abbrev cX7_law : ByteArray := prog_14_method_54_code
abbrev cX7_cutAll : ByteArray := prog_14_method_9_code
abbrev cX7_isLetter : ByteArray := prog_14_method_5_code
abbrev cX7_rank : ByteArray := prog_14_method_7_code
abbrev cX7_isDigit : ByteArray := prog_14_method_6_code
abbrev cX7_isSignOf : ByteArray := prog_14_method_8_code
abbrev cX7_readLine : ByteArray := prog_14_method_56_code
abbrev cX7_isWord : ByteArray := prog_14_method_12_code
abbrev cX7_wrong : ByteArray := prog_14_method_10_code
abbrev cX7_takeWord : ByteArray := prog_14_method_16_code
abbrev cX7_hasWord : ByteArray := prog_14_method_15_code
abbrev cX7_all : ByteArray := prog_14_method_57_code
abbrev cX7_test : ByteArray := prog_14_method_58_code
abbrev cX7_sums : ByteArray := prog_14_method_59_code
abbrev cX7_products : ByteArray := prog_14_method_60_code
abbrev cX7_takePart : ByteArray := prog_14_method_62_code
abbrev cX7_factHere : ByteArray := prog_14_method_61_code
abbrev cX7_isSign : ByteArray := prog_14_method_11_code
abbrev cX7_emit : ByteArray := prog_14_method_53_code
abbrev cX7_hasSign : ByteArray := prog_14_method_14_code
abbrev cX7_takeSign : ByteArray := prog_14_method_13_code
abbrev cX7_keepsCodes : ByteArray := prog_14_method_55_code
abbrev cX7_world : ByteArray := prog_14_method_71_code
abbrev cX7_runs : ByteArray := prog_14_method_68_code
abbrev cX7_goesOn : ByteArray := prog_14_method_69_code
abbrev cX7_isSo : ByteArray := prog_14_method_66_code
abbrev cX7_worthOf : ByteArray := prog_14_method_63_code
abbrev cX7_worthAt : ByteArray := prog_14_method_64_code
abbrev cX7_both : ByteArray := prog_14_method_65_code
abbrev cX7_handsByLine : ByteArray := prog_14_method_67_code
abbrev cX7_worldHands : ByteArray := prog_14_method_70_code
abbrev cX7_fits : ByteArray := prog_14_method_74_code
abbrev cX7_areSeeds : ByteArray := prog_14_method_73_code
abbrev cX7_fitOf : ByteArray := prog_14_method_72_code
abbrev cX7_best : ByteArray := prog_14_method_75_code
abbrev cX7_rivers : ByteArray := prog_14_method_76_code
abbrev cX7_other : ByteArray := prog_14_method_77_code
abbrev cX7_others : ByteArray := prog_14_method_79_code
abbrev cX7_findOthers : ByteArray := prog_14_method_78_code
abbrev cX7_drawer : ByteArray := prog_14_method_80_code
abbrev cX7_writer : ByteArray := prog_14_method_82_code
abbrev cX7_isWriterNumber : ByteArray := prog_14_method_81_code
abbrev cX7_readWriterLine : ByteArray := prog_14_method_83_code
abbrev cX7_takes : ByteArray := prog_14_method_87_code
abbrev cX7_tenthsBy : ByteArray := prog_14_method_86_code
abbrev cX7_doesTake : ByteArray := prog_14_method_85_code
abbrev cX7_monthsOf : ByteArray := prog_14_method_84_code
abbrev cX7_writes : ByteArray := prog_14_method_89_code
abbrev cX7_findWritten : ByteArray := prog_14_method_88_code
abbrev cX7_forks : ByteArray := prog_14_method_90_code
abbrev cX7_book : ByteArray := prog_14_method_91_code
abbrev cX7_booked : ByteArray := prog_14_method_95_code
abbrev cX7_rateOf : ByteArray := prog_14_method_92_code
abbrev cX7_paidOf : ByteArray := prog_14_method_93_code
abbrev cX7_restOf : ByteArray := prog_14_method_94_code
abbrev cX7_closes : ByteArray := prog_14_method_97_code
abbrev cX7_closesBy : ByteArray := prog_14_method_96_code
abbrev cX7_lots : ByteArray := prog_14_method_103_code
abbrev cX7_laysLots : ByteArray := prog_14_method_99_code
abbrev cX7_findLots : ByteArray := prog_14_method_102_code
abbrev cX7_signOf : ByteArray := prog_14_method_98_code
abbrev cX7_bits : ByteArray := prog_14_method_100_code
abbrev cX7_sumIn : ByteArray := prog_14_method_101_code
abbrev cX7_needed : ByteArray := prog_14_method_104_code
abbrev cX7_slips : ByteArray := prog_14_method_106_code
abbrev cX7_sheetHands : ByteArray := prog_14_method_105_code
abbrev cX7_mixed : ByteArray := prog_14_method_107_code
abbrev cX7_where : ByteArray := prog_14_method_109_code
abbrev cX7_weightOf : ByteArray := prog_14_method_108_code
abbrev cX7_mark : ByteArray := prog_14_method_111_code
abbrev cX7_keeps : ByteArray := prog_14_method_110_code
abbrev cX7_count : ByteArray := prog_14_method_112_code
def yX7_thrown : MethodName := ⟨RX7, "thrown", "()I"⟩
def yX7_feed : MethodName := ⟨RX7, "feed", "(JJJ)I"⟩
def yX7_lay : MethodName := ⟨RX7, "lay", "(J)V"⟩
def yX7_init : MethodName := ⟨RX7, "<init>", "()V"⟩
def yX7_kitchen : MethodName := ⟨RX7, "kitchen", "(IIIIZ)Z"⟩
def yX7_within : MethodName := ⟨RX7, "within", "(III)Z"⟩
def yX7_call : MethodName := ⟨RX7, "call", "(IIII)Z"⟩
def yX7_isKitchen : MethodName := ⟨RX7, "isKitchen", "(I)Z"⟩
def yX7_isMonth : MethodName := ⟨RX7, "isMonth", "(I)Z"⟩
def yX7_sheet : MethodName := ⟨RX7, "sheet", "(IIII)Z"⟩
def yX7_tenths : MethodName := ⟨RX7, "tenths", "(I)Z"⟩
def yX7_floor : MethodName := ⟨RX7, "floor", "(IIII)Z"⟩
def yX7_hands : MethodName := ⟨RX7, "hands", "(II)I"⟩
def yX7_handsOf : MethodName := ⟨RX7, "handsOf", "(II)I"⟩
def yX7_handsBy : MethodName := ⟨RX7, "handsBy", "(II)I"⟩
def yX7_bank : MethodName := ⟨RX7, "bank", "(IIII)I"⟩
def yX7_areMonths : MethodName := ⟨RX7, "areMonths", "(II)Z"⟩
def yX7_isCounted : MethodName := ⟨RX7, "isCounted", "(III)Z"⟩
def yX7_changeOf : MethodName := ⟨RX7, "changeOf", "(III)I"⟩
def yX7_river : MethodName := ⟨RX7, "river", "(IIII)J"⟩
def yX7_isWhat : MethodName := ⟨RX7, "isWhat", "(I)Z"⟩
def yX7_findRiver : MethodName := ⟨RX7, "findRiver", "(III)Z"⟩
def yX7_beginsSums : MethodName := ⟨RX7, "beginsSums", "()V"⟩
def yX7_adds : MethodName := ⟨RX7, "adds", "(ZJ)V"⟩
def yX7_differs : MethodName := ⟨RX7, "differs", "()Z"⟩
def yX7_lowest : MethodName := ⟨RX7, "lowest", "(I)J"⟩
def yX7_common : MethodName := ⟨RX7, "common", "(JJ)J"⟩
def yX7_part : MethodName := ⟨RX7, "part", "(IIII)J"⟩
def yX7_bounds : MethodName := ⟨RX7, "bounds", "(III)J"⟩
def yX7_findBound : MethodName := ⟨RX7, "findBound", "(III)Z"⟩
def yX7_mayChange : MethodName := ⟨RX7, "mayChange", "(IIII)I"⟩
def yX7_swings : MethodName := ⟨RX7, "swings", "(II)I"⟩
def yX7_next : MethodName := ⟨RX7, "next", "(II)I"⟩
def yX7_sheets : MethodName := ⟨RX7, "sheets", "(IIZI)J"⟩
def yX7_choosing : MethodName := ⟨RX7, "choosing", "(IIII)J"⟩
def yX7_sumOf : MethodName := ⟨RX7, "sumOf", "(IIIII)J"⟩
def yX7_odds : MethodName := ⟨RX7, "odds", "(III)J"⟩
def yX7_beside : MethodName := ⟨RX7, "beside", "(III)J"⟩
def yX7_alike : MethodName := ⟨RX7, "alike", "(II)J"⟩
def yX7_apart : MethodName := ⟨RX7, "apart", "(IIII)J"⟩
def yX7_law : MethodName := ⟨RX7, "law", "(I)I"⟩
def yX7_cutAll : MethodName := ⟨RX7, "cutAll", "()V"⟩
def yX7_isLetter : MethodName := ⟨RX7, "isLetter", "(I)Z"⟩
def yX7_rank : MethodName := ⟨RX7, "rank", "(I)I"⟩
def yX7_isDigit : MethodName := ⟨RX7, "isDigit", "(I)Z"⟩
def yX7_isSignOf : MethodName := ⟨RX7, "isSignOf", "(I)Z"⟩
def yX7_readLine : MethodName := ⟨RX7, "readLine", "()V"⟩
def yX7_isWord : MethodName := ⟨RX7, "isWord", "(I)Z"⟩
def yX7_wrong : MethodName := ⟨RX7, "wrong", "(I)V"⟩
def yX7_takeWord : MethodName := ⟨RX7, "takeWord", "(I)V"⟩
def yX7_hasWord : MethodName := ⟨RX7, "hasWord", "(I)Z"⟩
def yX7_all : MethodName := ⟨RX7, "all", "(I)V"⟩
def yX7_test : MethodName := ⟨RX7, "test", "(I)V"⟩
def yX7_sums : MethodName := ⟨RX7, "sums", "(I)V"⟩
def yX7_products : MethodName := ⟨RX7, "products", "(I)V"⟩
def yX7_takePart : MethodName := ⟨RX7, "takePart", "(I)V"⟩
def yX7_factHere : MethodName := ⟨RX7, "factHere", "()I"⟩
def yX7_isSign : MethodName := ⟨RX7, "isSign", "(I)Z"⟩
def yX7_emit : MethodName := ⟨RX7, "emit", "(II)V"⟩
def yX7_hasSign : MethodName := ⟨RX7, "hasSign", "(I)Z"⟩
def yX7_takeSign : MethodName := ⟨RX7, "takeSign", "(I)V"⟩
def yX7_keepsCodes : MethodName := ⟨RX7, "keepsCodes", "(I)V"⟩
def yX7_world : MethodName := ⟨RX7, "world", "(IIII)I"⟩
def yX7_runs : MethodName := ⟨RX7, "runs", "(II)V"⟩
def yX7_goesOn : MethodName := ⟨RX7, "goesOn", "(IIII)V"⟩
def yX7_isSo : MethodName := ⟨RX7, "isSo", "(II)Z"⟩
def yX7_worthOf : MethodName := ⟨RX7, "worthOf", "(II)I"⟩
def yX7_worthAt : MethodName := ⟨RX7, "worthAt", "(I)I"⟩
def yX7_both : MethodName := ⟨RX7, "both", "(III)I"⟩
def yX7_handsByLine : MethodName := ⟨RX7, "handsByLine", "(III)I"⟩
def yX7_worldHands : MethodName := ⟨RX7, "worldHands", "(II)I"⟩
def yX7_fits : MethodName := ⟨RX7, "fits", "(II)J"⟩
def yX7_areSeeds : MethodName := ⟨RX7, "areSeeds", "(I)Z"⟩
def yX7_fitOf : MethodName := ⟨RX7, "fitOf", "(II)J"⟩
def yX7_best : MethodName := ⟨RX7, "best", "(I)I"⟩
def yX7_rivers : MethodName := ⟨RX7, "rivers", "(IIIII)I"⟩
def yX7_other : MethodName := ⟨RX7, "other", "(IIZ)I"⟩
def yX7_others : MethodName := ⟨RX7, "others", "(ZI)J"⟩
def yX7_findOthers : MethodName := ⟨RX7, "findOthers", "(Z)Z"⟩
def yX7_drawer : MethodName := ⟨RX7, "drawer", "(I)I"⟩
def yX7_writer : MethodName := ⟨RX7, "writer", "(I)I"⟩
def yX7_isWriterNumber : MethodName := ⟨RX7, "isWriterNumber", "(I)Z"⟩
def yX7_readWriterLine : MethodName := ⟨RX7, "readWriterLine", "()V"⟩
def yX7_takes : MethodName := ⟨RX7, "takes", "(II)I"⟩
def yX7_tenthsBy : MethodName := ⟨RX7, "tenthsBy", "(I)I"⟩
def yX7_doesTake : MethodName := ⟨RX7, "doesTake", "(III)Z"⟩
def yX7_monthsOf : MethodName := ⟨RX7, "monthsOf", "(II)I"⟩
def yX7_writes : MethodName := ⟨RX7, "writes", "(II)J"⟩
def yX7_findWritten : MethodName := ⟨RX7, "findWritten", "(II)Z"⟩
def yX7_forks : MethodName := ⟨RX7, "forks", "(I)J"⟩
def yX7_book : MethodName := ⟨RX7, "book", "(IIII)Z"⟩
def yX7_booked : MethodName := ⟨RX7, "booked", "(III)J"⟩
def yX7_rateOf : MethodName := ⟨RX7, "rateOf", "(II)J"⟩
def yX7_paidOf : MethodName := ⟨RX7, "paidOf", "(II)J"⟩
def yX7_restOf : MethodName := ⟨RX7, "restOf", "(II)J"⟩
def yX7_closes : MethodName := ⟨RX7, "closes", "(IIII)J"⟩
def yX7_closesBy : MethodName := ⟨RX7, "closesBy", "(IIII)J"⟩
def yX7_lots : MethodName := ⟨RX7, "lots", "(IIII)J"⟩
def yX7_laysLots : MethodName := ⟨RX7, "laysLots", "(II)Z"⟩
def yX7_findLots : MethodName := ⟨RX7, "findLots", "(I)V"⟩
def yX7_signOf : MethodName := ⟨RX7, "signOf", "(J)I"⟩
def yX7_bits : MethodName := ⟨RX7, "bits", "(I)I"⟩
def yX7_sumIn : MethodName := ⟨RX7, "sumIn", "([II)J"⟩
def yX7_needed : MethodName := ⟨RX7, "needed", "(III)I"⟩
def yX7_slips : MethodName := ⟨RX7, "slips", "(II)I"⟩
def yX7_sheetHands : MethodName := ⟨RX7, "sheetHands", "(I)I"⟩
def yX7_mixed : MethodName := ⟨RX7, "mixed", "(III)J"⟩
def yX7_where : MethodName := ⟨RX7, "where", "(I)I"⟩
def yX7_weightOf : MethodName := ⟨RX7, "weightOf", "(I)I"⟩
def yX7_mark : MethodName := ⟨RX7, "mark", "(IZ)Z"⟩
def yX7_keeps : MethodName := ⟨RX7, "keeps", "(I[IZ)V"⟩
def yX7_count : MethodName := ⟨RX7, "count", "(I)I"⟩
theorem q104 : (Jvm.Cond.initialized "RiverWageModel") ∈ lw_all := lw_g (lw_at lw_m1 7 rfl) rfl
theorem q1111 : (Jvm.Cond.instanceMethod ({ cls := "RiverWageModel", name := "thrown", desc := "()I" } : Jvm.MethodName)) ∈ lw_all := lw_g (lw_at lw_m5 54 rfl) rfl
theorem q1112 : (Jvm.Cond.selects "RiverWageModel" ({ cls := "RiverWageModel", name := "thrown", desc := "()I" } : Jvm.MethodName) ({ cls := "RiverWageModel", name := "thrown", desc := "()I" } : Jvm.MethodName)) ∈ lw_all := lw_g (lw_at lw_m5 55 rfl) rfl
theorem q1113 : (Jvm.Cond.code ({ cls := "RiverWageModel", name := "thrown", desc := "()I" } : Jvm.MethodName) prog_14_method_1_code (1 : Nat) (Option.some Jvm.ClassFile.FieldType.int)) ∈ lw_all := lw_g (lw_at lw_m5 56 rfl) rfl
theorem q1115 : (Jvm.Cond.instanceMethod ({ cls := "RiverWageModel", name := "feed", desc := "(JJJ)I" } : Jvm.MethodName)) ∈ lw_all := lw_g (lw_at lw_m5 58 rfl) rfl
theorem q1116 : (Jvm.Cond.selects "RiverWageModel" ({ cls := "RiverWageModel", name := "feed", desc := "(JJJ)I" } : Jvm.MethodName) ({ cls := "RiverWageModel", name := "feed", desc := "(JJJ)I" } : Jvm.MethodName)) ∈ lw_all := lw_g (lw_at lw_m5 59 rfl) rfl
theorem q1117 : (Jvm.Cond.code ({ cls := "RiverWageModel", name := "feed", desc := "(JJJ)I" } : Jvm.MethodName) prog_14_method_2_code (7 : Nat) (Option.some Jvm.ClassFile.FieldType.int)) ∈ lw_all := lw_g (lw_at lw_m5 60 rfl) rfl
theorem q1118 : (Jvm.Cond.methodLink "RiverWageModel" (7 : Nat) ({ cls := "RiverWageModel", name := "lay", desc := "(J)V" } : Jvm.MethodName)) ∈ lw_all := lw_g (lw_at lw_m5 61 rfl) rfl
theorem q1119 : (Jvm.Cond.privateMethod ({ cls := "RiverWageModel", name := "lay", desc := "(J)V" } : Jvm.MethodName)) ∈ lw_tbl := lw_at lw_m5 62 rfl
theorem q1120 : (Jvm.Cond.instanceMethod ({ cls := "RiverWageModel", name := "lay", desc := "(J)V" } : Jvm.MethodName)) ∈ lw_all := lw_g (lw_at lw_m5 63 rfl) rfl
theorem q1121 : (Jvm.Cond.instantiable "RiverWageModel" (58 : Nat)) ∈ lw_all := lw_g (lw_at lw_m5 64 rfl) rfl
theorem q1122 : (Jvm.Cond.code ({ cls := "RiverWageModel", name := "lay", desc := "(J)V" } : Jvm.MethodName) prog_14_method_3_code (5 : Nat) (Option.none : Option Jvm.ClassFile.FieldType)) ∈ lw_all := lw_g (lw_at lw_m5 65 rfl) rfl
theorem q1125 : (Jvm.Cond.instanceMethod ({ cls := "RiverWageModel", name := "<init>", desc := "()V" } : Jvm.MethodName)) ∈ lw_all := lw_g (lw_at lw_m5 68 rfl) rfl
theorem q1126 : (Jvm.Cond.code ({ cls := "RiverWageModel", name := "<init>", desc := "()V" } : Jvm.MethodName) prog_14_method_4_code (2 : Nat) (Option.none : Option Jvm.ClassFile.FieldType)) ∈ lw_all := lw_g (lw_at lw_m5 69 rfl) rfl
theorem q1127 : (Jvm.Cond.methodLink "RiverWageModel" (18 : Nat) ({ cls := "java/lang/Object", name := "<init>", desc := "()V" } : Jvm.MethodName)) ∈ lw_all := lw_g (lw_at lw_m5 70 rfl) rfl
theorem q1128 : (Jvm.Cond.constantLong "RiverWageModel" (34 : Nat) (418216 : Int64)) ∈ lw_all := lw_g (lw_at lw_m5 71 rfl) rfl
theorem q1129 : (Jvm.Cond.constantLong "RiverWageModel" (36 : Nat) (812503 : Int64)) ∈ lw_all := lw_g (lw_at lw_m5 72 rfl) rfl
theorem q1130 : (Jvm.Cond.constantLong "RiverWageModel" (38 : Nat) (974156 : Int64)) ∈ lw_all := lw_g (lw_at lw_m5 73 rfl) rfl
theorem q1131 : (Jvm.Cond.constantLong "RiverWageModel" (40 : Nat) (28930245 : Int64)) ∈ lw_all := lw_g (lw_at lw_m5 74 rfl) rfl
theorem q1132 : (Jvm.Cond.constantLong "RiverWageModel" (42 : Nat) (1176170 : Int64)) ∈ lw_all := lw_g (lw_at lw_m5 75 rfl) rfl
theorem q1133 : (Jvm.Cond.constantLong "RiverWageModel" (44 : Nat) (1891 : Int64)) ∈ lw_all := lw_g (lw_at lw_m5 76 rfl) rfl
theorem q1134 : (Jvm.Cond.constantLong "RiverWageModel" (46 : Nat) (573 : Int64)) ∈ lw_all := lw_g (lw_at lw_m5 77 rfl) rfl
theorem q1135 : (Jvm.Cond.constantLong "RiverWageModel" (48 : Nat) (19741 : Int64)) ∈ lw_all := lw_g (lw_at lw_m5 78 rfl) rfl
theorem q1136 : (Jvm.Cond.constantLong "RiverWageModel" (50 : Nat) (43531911 : Int64)) ∈ lw_all := lw_g (lw_at lw_m5 79 rfl) rfl
theorem q1137 : (Jvm.Cond.constantLong "RiverWageModel" (52 : Nat) (407043 : Int64)) ∈ lw_all := lw_g (lw_at lw_m5 80 rfl) rfl
theorem q1138 : (Jvm.Cond.constantLong "RiverWageModel" (54 : Nat) (1166652 : Int64)) ∈ lw_all := lw_g (lw_at lw_m5 81 rfl) rfl
theorem q1139 : (Jvm.Cond.constantLong "RiverWageModel" (56 : Nat) (11873910 : Int64)) ∈ lw_all := lw_g (lw_at lw_m5 82 rfl) rfl
theorem q1140 : (Jvm.Cond.constantLong "RiverWageModel" (58 : Nat) (9636 : Int64)) ∈ lw_all := lw_g (lw_at lw_m5 83 rfl) rfl
theorem q1141 : (Jvm.Cond.constantLong "RiverWageModel" (60 : Nat) (103204 : Int64)) ∈ lw_all := lw_g (lw_at lw_m5 84 rfl) rfl
theorem q1142 : (Jvm.Cond.constantLong "RiverWageModel" (62 : Nat) (25143802 : Int64)) ∈ lw_all := lw_g (lw_at lw_m5 85 rfl) rfl
theorem q1143 : (Jvm.Cond.constantLong "RiverWageModel" (64 : Nat) (38396496 : Int64)) ∈ lw_all := lw_g (lw_at lw_m5 86 rfl) rfl
theorem q1144 : (Jvm.Cond.constantLong "RiverWageModel" (66 : Nat) (227314 : Int64)) ∈ lw_all := lw_g (lw_at lw_m5 87 rfl) rfl
theorem q1145 : (Jvm.Cond.constantLong "RiverWageModel" (68 : Nat) (31543 : Int64)) ∈ lw_all := lw_g (lw_at lw_m5 88 rfl) rfl
theorem q1146 : (Jvm.Cond.constantLong "RiverWageModel" (70 : Nat) (1014841 : Int64)) ∈ lw_all := lw_g (lw_at lw_m5 89 rfl) rfl
theorem q1147 : (Jvm.Cond.constantLong "RiverWageModel" (72 : Nat) (329128 : Int64)) ∈ lw_all := lw_g (lw_at lw_m5 90 rfl) rfl
theorem q1148 : (Jvm.Cond.constantLong "RiverWageModel" (74 : Nat) (755 : Int64)) ∈ lw_all := lw_g (lw_at lw_m5 91 rfl) rfl
theorem q1149 : (Jvm.Cond.constantLong "RiverWageModel" (76 : Nat) (1396986782 : Int64)) ∈ lw_all := lw_g (lw_at lw_m5 92 rfl) rfl
theorem q1150 : (Jvm.Cond.constantLong "RiverWageModel" (78 : Nat) (679747 : Int64)) ∈ lw_all := lw_g (lw_at lw_m5 93 rfl) rfl
theorem q1151 : (Jvm.Cond.constantLong "RiverWageModel" (80 : Nat) (223811164 : Int64)) ∈ lw_all := lw_g (lw_at lw_m5 94 rfl) rfl
theorem q1152 : (Jvm.Cond.constantLong "RiverWageModel" (82 : Nat) (1335017851 : Int64)) ∈ lw_all := lw_g (lw_at lw_m5 95 rfl) rfl
theorem q1153 : (Jvm.Cond.constantLong "RiverWageModel" (84 : Nat) (4537388 : Int64)) ∈ lw_all := lw_g (lw_at lw_m5 96 rfl) rfl
theorem q1154 : (Jvm.Cond.constantLong "RiverWageModel" (86 : Nat) (15063274 : Int64)) ∈ lw_all := lw_g (lw_at lw_m5 97 rfl) rfl
theorem q1155 : (Jvm.Cond.constantLong "RiverWageModel" (88 : Nat) (1010834209 : Int64)) ∈ lw_all := lw_g (lw_at lw_m5 98 rfl) rfl
theorem q1156 : (Jvm.Cond.fieldLink "RiverWageModel" (1 : Nat) "RiverWageModel" "thrown" "I") ∈ lw_all := lw_g (lw_at lw_m5 99 rfl) rfl
theorem q1157 : (Jvm.Cond.fieldLink "RiverWageModel" (14 : Nat) "RiverWageModel" "tape" "[I") ∈ lw_all := lw_g (lw_at lw_m5 100 rfl) rfl
theorem q1158 : (Jvm.Cond.fieldLink "RiverWageModel" (11 : Nat) "RiverWageModel" "taped" "I") ∈ lw_all := lw_g (lw_at lw_m5 101 rfl) rfl
theorem q1159 : (Jvm.Cond.fieldLink "RiverWageModel" (215 : Nat) "RiverWageModel" "size" "I") ∈ lw_all := lw_g (lw_at lw_m5 102 rfl) rfl
theorem q1160 : (Jvm.Cond.fieldLink "RiverWageModel" (24 : Nat) "RiverWageModel" "sort" "[I") ∈ lw_all := lw_g (lw_at lw_m5 103 rfl) rfl
theorem q1161 : (Jvm.Cond.fieldLink "RiverWageModel" (27 : Nat) "RiverWageModel" "place" "[I") ∈ lw_all := lw_g (lw_at lw_m5 104 rfl) rfl
theorem q1162 : (Jvm.Cond.fieldLink "RiverWageModel" (30 : Nat) "RiverWageModel" "value" "[J") ∈ lw_all := lw_g (lw_at lw_m5 105 rfl) rfl
theorem q1163 : (Jvm.Cond.fieldLink "RiverWageModel" (234 : Nat) "RiverWageModel" "at" "I") ∈ lw_all := lw_g (lw_at lw_m5 106 rfl) rfl
theorem q1164 : (Jvm.Cond.fieldLink "RiverWageModel" (237 : Nat) "RiverWageModel" "fault" "I") ∈ lw_all := lw_g (lw_at lw_m5 107 rfl) rfl
theorem q1165 : (Jvm.Cond.fieldLink "RiverWageModel" (90 : Nat) "RiverWageModel" "words" "[J") ∈ lw_all := lw_g (lw_at lw_m5 108 rfl) rfl
theorem q1166 : (Jvm.Cond.fieldLink "RiverWageModel" (93 : Nat) "RiverWageModel" "isTold" "[Z") ∈ lw_all := lw_g (lw_at lw_m5 109 rfl) rfl
theorem q1167 : (Jvm.Cond.fieldLink "RiverWageModel" (97 : Nat) "RiverWageModel" "bankOf" "[I") ∈ lw_all := lw_g (lw_at lw_m5 110 rfl) rfl
theorem q1168 : (Jvm.Cond.fieldLink "RiverWageModel" (100 : Nat) "RiverWageModel" "wage" "[I") ∈ lw_all := lw_g (lw_at lw_m5 111 rfl) rfl
theorem q1169 : (Jvm.Cond.fieldLink "RiverWageModel" (103 : Nat) "RiverWageModel" "most" "[I") ∈ lw_all := lw_g (lw_at lw_m5 112 rfl) rfl
theorem q1170 : (Jvm.Cond.fieldLink "RiverWageModel" (106 : Nat) "RiverWageModel" "isChosen" "[Z") ∈ lw_all := lw_g (lw_at lw_m5 113 rfl) rfl
theorem q1171 : (Jvm.Cond.fieldLink "RiverWageModel" (208 : Nat) "RiverWageModel" "ofTen" "I") ∈ lw_all := lw_g (lw_at lw_m5 114 rfl) rfl
theorem q1172 : (Jvm.Cond.fieldLink "RiverWageModel" (109 : Nat) "RiverWageModel" "floorOf" "[I") ∈ lw_all := lw_g (lw_at lw_m5 115 rfl) rfl
theorem q1173 : (Jvm.Cond.fieldLink "RiverWageModel" (112 : Nat) "RiverWageModel" "tradeOf" "[I") ∈ lw_all := lw_g (lw_at lw_m5 116 rfl) rfl
theorem q1174 : (Jvm.Cond.fieldLink "RiverWageModel" (115 : Nat) "RiverWageModel" "state" "[I") ∈ lw_all := lw_g (lw_at lw_m5 117 rfl) rfl
theorem q1175 : (Jvm.Cond.fieldLink "RiverWageModel" (118 : Nat) "RiverWageModel" "whole" "[I") ∈ lw_all := lw_g (lw_at lw_m5 118 rfl) rfl
theorem q1176 : (Jvm.Cond.fieldLink "RiverWageModel" (121 : Nat) "RiverWageModel" "half" "[I") ∈ lw_all := lw_g (lw_at lw_m5 119 rfl) rfl
theorem q1177 : (Jvm.Cond.fieldLink "RiverWageModel" (124 : Nat) "RiverWageModel" "isSheet" "[I") ∈ lw_all := lw_g (lw_at lw_m5 120 rfl) rfl
theorem q1178 : (Jvm.Cond.fieldLink "RiverWageModel" (127 : Nat) "RiverWageModel" "sheetWhole" "[I") ∈ lw_all := lw_g (lw_at lw_m5 121 rfl) rfl
theorem q1179 : (Jvm.Cond.fieldLink "RiverWageModel" (130 : Nat) "RiverWageModel" "sheetHalf" "[I") ∈ lw_all := lw_g (lw_at lw_m5 122 rfl) rfl
theorem q1180 : (Jvm.Cond.fieldLink "RiverWageModel" (281 : Nat) "RiverWageModel" "up" "J") ∈ lw_all := lw_g (lw_at lw_m5 123 rfl) rfl
theorem q1181 : (Jvm.Cond.fieldLink "RiverWageModel" (285 : Nat) "RiverWageModel" "down" "J") ∈ lw_all := lw_g (lw_at lw_m5 124 rfl) rfl
theorem q1182 : (Jvm.Cond.fieldLink "RiverWageModel" (292 : Nat) "RiverWageModel" "one" "J") ∈ lw_all := lw_g (lw_at lw_m5 125 rfl) rfl
theorem q1183 : (Jvm.Cond.fieldLink "RiverWageModel" (295 : Nat) "RiverWageModel" "oneMany" "J") ∈ lw_all := lw_g (lw_at lw_m5 126 rfl) rfl
theorem q1184 : (Jvm.Cond.fieldLink "RiverWageModel" (298 : Nat) "RiverWageModel" "other" "J") ∈ lw_all := lw_g (lw_at lw_m5 127 rfl) rfl
theorem q1185 : (Jvm.Cond.fieldLink "RiverWageModel" (301 : Nat) "RiverWageModel" "otherMany" "J") ∈ lw_all := lw_g (lw_at lw_m5 128 rfl) rfl
theorem q1186 : (Jvm.Cond.fieldLink "RiverWageModel" (133 : Nat) "RiverWageModel" "changes" "[I") ∈ lw_all := lw_g (lw_at lw_m5 129 rfl) rfl
theorem q1187 : (Jvm.Cond.fieldLink "RiverWageModel" (136 : Nat) "RiverWageModel" "lineAt" "[I") ∈ lw_all := lw_g (lw_at lw_m5 130 rfl) rfl
theorem q1188 : (Jvm.Cond.fieldLink "RiverWageModel" (340 : Nat) "RiverWageModel" "codes" "I") ∈ lw_all := lw_g (lw_at lw_m5 131 rfl) rfl
theorem q1189 : (Jvm.Cond.fieldLink "RiverWageModel" (139 : Nat) "RiverWageModel" "op" "[I") ∈ lw_all := lw_g (lw_at lw_m5 132 rfl) rfl
theorem q1190 : (Jvm.Cond.fieldLink "RiverWageModel" (142 : Nat) "RiverWageModel" "arg" "[I") ∈ lw_all := lw_g (lw_at lw_m5 133 rfl) rfl
theorem q1191 : (Jvm.Cond.fieldLink "RiverWageModel" (145 : Nat) "RiverWageModel" "writerFacts" "[I") ∈ lw_all := lw_g (lw_at lw_m5 134 rfl) rfl
theorem q1192 : (Jvm.Cond.fieldLink "RiverWageModel" (148 : Nat) "RiverWageModel" "facts" "[I") ∈ lw_all := lw_g (lw_at lw_m5 135 rfl) rfl
theorem q1193 : (Jvm.Cond.fieldLink "RiverWageModel" (151 : Nat) "RiverWageModel" "pile" "[I") ∈ lw_all := lw_g (lw_at lw_m5 136 rfl) rfl
theorem q1194 : (Jvm.Cond.fieldLink "RiverWageModel" (154 : Nat) "RiverWageModel" "worldWhole" "[I") ∈ lw_all := lw_g (lw_at lw_m5 137 rfl) rfl
theorem q1195 : (Jvm.Cond.fieldLink "RiverWageModel" (157 : Nat) "RiverWageModel" "worldHalf" "[I") ∈ lw_all := lw_g (lw_at lw_m5 138 rfl) rfl
theorem q1196 : (Jvm.Cond.fieldLink "RiverWageModel" (160 : Nat) "RiverWageModel" "worldShut" "[Z") ∈ lw_all := lw_g (lw_at lw_m5 139 rfl) rfl
theorem q1197 : (Jvm.Cond.fieldLink "RiverWageModel" (428 : Nat) "RiverWageModel" "riversMany" "I") ∈ lw_all := lw_g (lw_at lw_m5 140 rfl) rfl
theorem q1198 : (Jvm.Cond.fieldLink "RiverWageModel" (163 : Nat) "RiverWageModel" "sumThere" "[I") ∈ lw_all := lw_g (lw_at lw_m5 141 rfl) rfl
theorem q1199 : (Jvm.Cond.fieldLink "RiverWageModel" (166 : Nat) "RiverWageModel" "manyThere" "[I") ∈ lw_all := lw_g (lw_at lw_m5 142 rfl) rfl
theorem q1200 : (Jvm.Cond.fieldLink "RiverWageModel" (169 : Nat) "RiverWageModel" "isPrinted" "[Z") ∈ lw_all := lw_g (lw_at lw_m5 143 rfl) rfl
theorem q1201 : (Jvm.Cond.fieldLink "RiverWageModel" (346 : Nat) "RiverWageModel" "isWriter" "Z") ∈ lw_all := lw_g (lw_at lw_m5 144 rfl) rfl
theorem q1202 : (Jvm.Cond.fieldLink "RiverWageModel" (172 : Nat) "RiverWageModel" "takeAt" "[I") ∈ lw_all := lw_g (lw_at lw_m5 145 rfl) rfl
theorem q1203 : (Jvm.Cond.fieldLink "RiverWageModel" (175 : Nat) "RiverWageModel" "fromOf" "[I") ∈ lw_all := lw_g (lw_at lw_m5 146 rfl) rfl
theorem q1204 : (Jvm.Cond.fieldLink "RiverWageModel" (178 : Nat) "RiverWageModel" "toOf" "[I") ∈ lw_all := lw_g (lw_at lw_m5 147 rfl) rfl
theorem q1205 : (Jvm.Cond.fieldLink "RiverWageModel" (181 : Nat) "RiverWageModel" "tenthsOf" "[I") ∈ lw_all := lw_g (lw_at lw_m5 148 rfl) rfl
theorem q1206 : (Jvm.Cond.fieldLink "RiverWageModel" (184 : Nat) "RiverWageModel" "readOf" "[I") ∈ lw_all := lw_g (lw_at lw_m5 149 rfl) rfl
theorem q1207 : (Jvm.Cond.fieldLink "RiverWageModel" (187 : Nat) "RiverWageModel" "hoursOf" "[I") ∈ lw_all := lw_g (lw_at lw_m5 150 rfl) rfl
theorem q1208 : (Jvm.Cond.fieldLink "RiverWageModel" (190 : Nat) "RiverWageModel" "takings" "[I") ∈ lw_all := lw_g (lw_at lw_m5 151 rfl) rfl
theorem q1209 : (Jvm.Cond.fieldLink "RiverWageModel" (193 : Nat) "RiverWageModel" "lotOne" "[I") ∈ lw_all := lw_g (lw_at lw_m5 152 rfl) rfl
theorem q1210 : (Jvm.Cond.fieldLink "RiverWageModel" (196 : Nat) "RiverWageModel" "lotOther" "[I") ∈ lw_all := lw_g (lw_at lw_m5 153 rfl) rfl
theorem q1211 : (Jvm.Cond.fieldLink "RiverWageModel" (199 : Nat) "RiverWageModel" "isMarked" "[Z") ∈ lw_all := lw_g (lw_at lw_m5 154 rfl) rfl
theorem q1212 : (Jvm.Cond.fieldLink "RiverWageModel" (202 : Nat) "RiverWageModel" "markRivers" "[I") ∈ lw_all := lw_g (lw_at lw_m5 155 rfl) rfl
theorem q1213 : (Jvm.Cond.fieldLink "RiverWageModel" (205 : Nat) "RiverWageModel" "kept" "[I") ∈ lw_all := lw_g (lw_at lw_m5 156 rfl) rfl
theorem q1214 : (Jvm.Cond.lays "RiverWageModel" "RiverWageModel" "thrown" "I") ∈ lw_all := lw_g (lw_at lw_m5 157 rfl) rfl
theorem q1215 : (Jvm.Cond.soleField "RiverWageModel" "thrown") ∈ lw_all := lw_g (lw_at lw_m5 158 rfl) rfl
theorem q1216 : (Jvm.Cond.laysFinal "RiverWageModel" "RiverWageModel" "tape" "[I") ∈ lw_all := lw_g (lw_at lw_m5 159 rfl) rfl
theorem q1217 : (Jvm.Cond.soleField "RiverWageModel" "tape") ∈ lw_all := lw_g (lw_at lw_m5 160 rfl) rfl
theorem q1218 : (Jvm.Cond.lays "RiverWageModel" "RiverWageModel" "taped" "I") ∈ lw_all := lw_g (lw_at lw_m5 161 rfl) rfl
theorem q1219 : (Jvm.Cond.soleField "RiverWageModel" "taped") ∈ lw_all := lw_g (lw_at lw_m5 162 rfl) rfl
theorem q1220 : (Jvm.Cond.lays "RiverWageModel" "RiverWageModel" "size" "I") ∈ lw_all := lw_g (lw_at lw_m5 163 rfl) rfl
theorem q1221 : (Jvm.Cond.soleField "RiverWageModel" "size") ∈ lw_all := lw_g (lw_at lw_m5 164 rfl) rfl
theorem q1222 : (Jvm.Cond.laysFinal "RiverWageModel" "RiverWageModel" "sort" "[I") ∈ lw_all := lw_g (lw_at lw_m5 165 rfl) rfl
theorem q1223 : (Jvm.Cond.soleField "RiverWageModel" "sort") ∈ lw_all := lw_g (lw_at lw_m5 166 rfl) rfl
theorem q1224 : (Jvm.Cond.laysFinal "RiverWageModel" "RiverWageModel" "place" "[I") ∈ lw_all := lw_g (lw_at lw_m5 167 rfl) rfl
theorem q1225 : (Jvm.Cond.soleField "RiverWageModel" "place") ∈ lw_all := lw_g (lw_at lw_m5 168 rfl) rfl
theorem q1226 : (Jvm.Cond.laysFinal "RiverWageModel" "RiverWageModel" "value" "[J") ∈ lw_all := lw_g (lw_at lw_m5 169 rfl) rfl
theorem q1227 : (Jvm.Cond.soleField "RiverWageModel" "value") ∈ lw_all := lw_g (lw_at lw_m5 170 rfl) rfl
theorem q1228 : (Jvm.Cond.lays "RiverWageModel" "RiverWageModel" "at" "I") ∈ lw_all := lw_g (lw_at lw_m5 171 rfl) rfl
theorem q1229 : (Jvm.Cond.soleField "RiverWageModel" "at") ∈ lw_all := lw_g (lw_at lw_m5 172 rfl) rfl
theorem q1230 : (Jvm.Cond.lays "RiverWageModel" "RiverWageModel" "fault" "I") ∈ lw_all := lw_g (lw_at lw_m5 173 rfl) rfl
theorem q1231 : (Jvm.Cond.soleField "RiverWageModel" "fault") ∈ lw_all := lw_g (lw_at lw_m5 174 rfl) rfl
theorem q1232 : (Jvm.Cond.laysFinal "RiverWageModel" "RiverWageModel" "words" "[J") ∈ lw_all := lw_g (lw_at lw_m5 175 rfl) rfl
theorem q1233 : (Jvm.Cond.soleField "RiverWageModel" "words") ∈ lw_all := lw_g (lw_at lw_m5 176 rfl) rfl
theorem q1234 : (Jvm.Cond.laysFinal "RiverWageModel" "RiverWageModel" "isTold" "[Z") ∈ lw_all := lw_g (lw_at lw_m5 177 rfl) rfl
theorem q1235 : (Jvm.Cond.soleField "RiverWageModel" "isTold") ∈ lw_all := lw_g (lw_at lw_m5 178 rfl) rfl
theorem q1236 : (Jvm.Cond.laysFinal "RiverWageModel" "RiverWageModel" "bankOf" "[I") ∈ lw_all := lw_g (lw_at lw_m5 179 rfl) rfl
theorem q1237 : (Jvm.Cond.soleField "RiverWageModel" "bankOf") ∈ lw_all := lw_g (lw_at lw_m5 180 rfl) rfl
theorem q1238 : (Jvm.Cond.laysFinal "RiverWageModel" "RiverWageModel" "wage" "[I") ∈ lw_all := lw_g (lw_at lw_m5 181 rfl) rfl
theorem q1239 : (Jvm.Cond.soleField "RiverWageModel" "wage") ∈ lw_all := lw_g (lw_at lw_m5 182 rfl) rfl
theorem q1240 : (Jvm.Cond.laysFinal "RiverWageModel" "RiverWageModel" "most" "[I") ∈ lw_all := lw_g (lw_at lw_m5 183 rfl) rfl
theorem q1241 : (Jvm.Cond.soleField "RiverWageModel" "most") ∈ lw_all := lw_g (lw_at lw_m5 184 rfl) rfl
theorem q1242 : (Jvm.Cond.laysFinal "RiverWageModel" "RiverWageModel" "isChosen" "[Z") ∈ lw_all := lw_g (lw_at lw_m5 185 rfl) rfl
theorem q1243 : (Jvm.Cond.soleField "RiverWageModel" "isChosen") ∈ lw_all := lw_g (lw_at lw_m5 186 rfl) rfl
theorem q1244 : (Jvm.Cond.lays "RiverWageModel" "RiverWageModel" "ofTen" "I") ∈ lw_all := lw_g (lw_at lw_m5 187 rfl) rfl
theorem q1245 : (Jvm.Cond.soleField "RiverWageModel" "ofTen") ∈ lw_all := lw_g (lw_at lw_m5 188 rfl) rfl
theorem q1246 : (Jvm.Cond.laysFinal "RiverWageModel" "RiverWageModel" "floorOf" "[I") ∈ lw_all := lw_g (lw_at lw_m5 189 rfl) rfl
theorem q1247 : (Jvm.Cond.soleField "RiverWageModel" "floorOf") ∈ lw_all := lw_g (lw_at lw_m5 190 rfl) rfl
theorem q1248 : (Jvm.Cond.laysFinal "RiverWageModel" "RiverWageModel" "tradeOf" "[I") ∈ lw_all := lw_g (lw_at lw_m5 191 rfl) rfl
theorem q1249 : (Jvm.Cond.soleField "RiverWageModel" "tradeOf") ∈ lw_all := lw_g (lw_at lw_m5 192 rfl) rfl
theorem q1250 : (Jvm.Cond.laysFinal "RiverWageModel" "RiverWageModel" "state" "[I") ∈ lw_all := lw_g (lw_at lw_m5 193 rfl) rfl
theorem q1251 : (Jvm.Cond.soleField "RiverWageModel" "state") ∈ lw_all := lw_g (lw_at lw_m5 194 rfl) rfl
theorem q1252 : (Jvm.Cond.laysFinal "RiverWageModel" "RiverWageModel" "whole" "[I") ∈ lw_all := lw_g (lw_at lw_m5 195 rfl) rfl
theorem q1253 : (Jvm.Cond.soleField "RiverWageModel" "whole") ∈ lw_all := lw_g (lw_at lw_m5 196 rfl) rfl
theorem q1254 : (Jvm.Cond.laysFinal "RiverWageModel" "RiverWageModel" "half" "[I") ∈ lw_all := lw_g (lw_at lw_m5 197 rfl) rfl
theorem q1255 : (Jvm.Cond.soleField "RiverWageModel" "half") ∈ lw_all := lw_g (lw_at lw_m5 198 rfl) rfl
theorem q1256 : (Jvm.Cond.laysFinal "RiverWageModel" "RiverWageModel" "isSheet" "[I") ∈ lw_all := lw_g (lw_at lw_m5 199 rfl) rfl
theorem q1257 : (Jvm.Cond.soleField "RiverWageModel" "isSheet") ∈ lw_all := lw_g (lw_at lw_m5 200 rfl) rfl
theorem q1258 : (Jvm.Cond.laysFinal "RiverWageModel" "RiverWageModel" "sheetWhole" "[I") ∈ lw_all := lw_g (lw_at lw_m5 201 rfl) rfl
theorem q1259 : (Jvm.Cond.soleField "RiverWageModel" "sheetWhole") ∈ lw_all := lw_g (lw_at lw_m5 202 rfl) rfl
theorem q1260 : (Jvm.Cond.laysFinal "RiverWageModel" "RiverWageModel" "sheetHalf" "[I") ∈ lw_all := lw_g (lw_at lw_m5 203 rfl) rfl
theorem q1261 : (Jvm.Cond.soleField "RiverWageModel" "sheetHalf") ∈ lw_all := lw_g (lw_at lw_m5 204 rfl) rfl
theorem q1262 : (Jvm.Cond.lays "RiverWageModel" "RiverWageModel" "up" "J") ∈ lw_all := lw_g (lw_at lw_m5 205 rfl) rfl
theorem q1263 : (Jvm.Cond.soleField "RiverWageModel" "up") ∈ lw_all := lw_g (lw_at lw_m5 206 rfl) rfl
theorem q1264 : (Jvm.Cond.lays "RiverWageModel" "RiverWageModel" "down" "J") ∈ lw_all := lw_g (lw_at lw_m5 207 rfl) rfl
theorem q1265 : (Jvm.Cond.soleField "RiverWageModel" "down") ∈ lw_all := lw_g (lw_at lw_m5 208 rfl) rfl
theorem q1266 : (Jvm.Cond.lays "RiverWageModel" "RiverWageModel" "one" "J") ∈ lw_all := lw_g (lw_at lw_m5 209 rfl) rfl
theorem q1267 : (Jvm.Cond.soleField "RiverWageModel" "one") ∈ lw_all := lw_g (lw_at lw_m5 210 rfl) rfl
theorem q1268 : (Jvm.Cond.lays "RiverWageModel" "RiverWageModel" "oneMany" "J") ∈ lw_all := lw_g (lw_at lw_m5 211 rfl) rfl
theorem q1269 : (Jvm.Cond.soleField "RiverWageModel" "oneMany") ∈ lw_all := lw_g (lw_at lw_m5 212 rfl) rfl
theorem q1270 : (Jvm.Cond.lays "RiverWageModel" "RiverWageModel" "other" "J") ∈ lw_all := lw_g (lw_at lw_m5 213 rfl) rfl
theorem q1271 : (Jvm.Cond.soleField "RiverWageModel" "other") ∈ lw_all := lw_g (lw_at lw_m5 214 rfl) rfl
theorem q1272 : (Jvm.Cond.lays "RiverWageModel" "RiverWageModel" "otherMany" "J") ∈ lw_all := lw_g (lw_at lw_m5 215 rfl) rfl
theorem q1273 : (Jvm.Cond.soleField "RiverWageModel" "otherMany") ∈ lw_all := lw_g (lw_at lw_m5 216 rfl) rfl
theorem q1274 : (Jvm.Cond.laysFinal "RiverWageModel" "RiverWageModel" "changes" "[I") ∈ lw_all := lw_g (lw_at lw_m5 217 rfl) rfl
theorem q1275 : (Jvm.Cond.soleField "RiverWageModel" "changes") ∈ lw_all := lw_g (lw_at lw_m5 218 rfl) rfl
theorem q1276 : (Jvm.Cond.laysFinal "RiverWageModel" "RiverWageModel" "lineAt" "[I") ∈ lw_all := lw_g (lw_at lw_m5 219 rfl) rfl
theorem q1277 : (Jvm.Cond.soleField "RiverWageModel" "lineAt") ∈ lw_all := lw_g (lw_at lw_m5 220 rfl) rfl
theorem q1278 : (Jvm.Cond.lays "RiverWageModel" "RiverWageModel" "codes" "I") ∈ lw_all := lw_g (lw_at lw_m5 221 rfl) rfl
theorem q1279 : (Jvm.Cond.soleField "RiverWageModel" "codes") ∈ lw_all := lw_g (lw_at lw_m5 222 rfl) rfl
theorem q1280 : (Jvm.Cond.laysFinal "RiverWageModel" "RiverWageModel" "op" "[I") ∈ lw_all := lw_g (lw_at lw_m5 223 rfl) rfl
theorem q1281 : (Jvm.Cond.soleField "RiverWageModel" "op") ∈ lw_all := lw_g (lw_at lw_m5 224 rfl) rfl
theorem q1282 : (Jvm.Cond.laysFinal "RiverWageModel" "RiverWageModel" "arg" "[I") ∈ lw_all := lw_g (lw_at lw_m5 225 rfl) rfl
theorem q1283 : (Jvm.Cond.soleField "RiverWageModel" "arg") ∈ lw_all := lw_g (lw_at lw_m5 226 rfl) rfl
theorem q1284 : (Jvm.Cond.laysFinal "RiverWageModel" "RiverWageModel" "writerFacts" "[I") ∈ lw_all := lw_g (lw_at lw_m5 227 rfl) rfl
theorem q1285 : (Jvm.Cond.soleField "RiverWageModel" "writerFacts") ∈ lw_all := lw_g (lw_at lw_m5 228 rfl) rfl
theorem q1286 : (Jvm.Cond.laysFinal "RiverWageModel" "RiverWageModel" "facts" "[I") ∈ lw_all := lw_g (lw_at lw_m5 229 rfl) rfl
theorem q1287 : (Jvm.Cond.soleField "RiverWageModel" "facts") ∈ lw_all := lw_g (lw_at lw_m5 230 rfl) rfl
theorem q1288 : (Jvm.Cond.laysFinal "RiverWageModel" "RiverWageModel" "pile" "[I") ∈ lw_all := lw_g (lw_at lw_m5 231 rfl) rfl
theorem q1289 : (Jvm.Cond.soleField "RiverWageModel" "pile") ∈ lw_all := lw_g (lw_at lw_m5 232 rfl) rfl
theorem q1290 : (Jvm.Cond.laysFinal "RiverWageModel" "RiverWageModel" "worldWhole" "[I") ∈ lw_all := lw_g (lw_at lw_m5 233 rfl) rfl
theorem q1291 : (Jvm.Cond.soleField "RiverWageModel" "worldWhole") ∈ lw_all := lw_g (lw_at lw_m5 234 rfl) rfl
theorem q1292 : (Jvm.Cond.laysFinal "RiverWageModel" "RiverWageModel" "worldHalf" "[I") ∈ lw_all := lw_g (lw_at lw_m5 235 rfl) rfl
theorem q1293 : (Jvm.Cond.soleField "RiverWageModel" "worldHalf") ∈ lw_all := lw_g (lw_at lw_m5 236 rfl) rfl
theorem q1294 : (Jvm.Cond.laysFinal "RiverWageModel" "RiverWageModel" "worldShut" "[Z") ∈ lw_all := lw_g (lw_at lw_m5 237 rfl) rfl
theorem q1295 : (Jvm.Cond.soleField "RiverWageModel" "worldShut") ∈ lw_all := lw_g (lw_at lw_m5 238 rfl) rfl
theorem q1296 : (Jvm.Cond.lays "RiverWageModel" "RiverWageModel" "riversMany" "I") ∈ lw_all := lw_g (lw_at lw_m5 239 rfl) rfl
theorem q1297 : (Jvm.Cond.soleField "RiverWageModel" "riversMany") ∈ lw_all := lw_g (lw_at lw_m6 0 rfl) rfl
theorem q1298 : (Jvm.Cond.laysFinal "RiverWageModel" "RiverWageModel" "sumThere" "[I") ∈ lw_all := lw_g (lw_at lw_m6 1 rfl) rfl
theorem q1299 : (Jvm.Cond.soleField "RiverWageModel" "sumThere") ∈ lw_all := lw_g (lw_at lw_m6 2 rfl) rfl
theorem q1300 : (Jvm.Cond.laysFinal "RiverWageModel" "RiverWageModel" "manyThere" "[I") ∈ lw_all := lw_g (lw_at lw_m6 3 rfl) rfl
theorem q1301 : (Jvm.Cond.soleField "RiverWageModel" "manyThere") ∈ lw_all := lw_g (lw_at lw_m6 4 rfl) rfl
theorem q1302 : (Jvm.Cond.laysFinal "RiverWageModel" "RiverWageModel" "isPrinted" "[Z") ∈ lw_all := lw_g (lw_at lw_m6 5 rfl) rfl
theorem q1303 : (Jvm.Cond.soleField "RiverWageModel" "isPrinted") ∈ lw_all := lw_g (lw_at lw_m6 6 rfl) rfl
theorem q1304 : (Jvm.Cond.lays "RiverWageModel" "RiverWageModel" "isWriter" "Z") ∈ lw_all := lw_g (lw_at lw_m6 7 rfl) rfl
theorem q1305 : (Jvm.Cond.soleField "RiverWageModel" "isWriter") ∈ lw_all := lw_g (lw_at lw_m6 8 rfl) rfl
theorem q1306 : (Jvm.Cond.laysFinal "RiverWageModel" "RiverWageModel" "takeAt" "[I") ∈ lw_all := lw_g (lw_at lw_m6 9 rfl) rfl
theorem q1307 : (Jvm.Cond.soleField "RiverWageModel" "takeAt") ∈ lw_all := lw_g (lw_at lw_m6 10 rfl) rfl
theorem q1308 : (Jvm.Cond.laysFinal "RiverWageModel" "RiverWageModel" "fromOf" "[I") ∈ lw_all := lw_g (lw_at lw_m6 11 rfl) rfl
theorem q1309 : (Jvm.Cond.soleField "RiverWageModel" "fromOf") ∈ lw_all := lw_g (lw_at lw_m6 12 rfl) rfl
theorem q1310 : (Jvm.Cond.laysFinal "RiverWageModel" "RiverWageModel" "toOf" "[I") ∈ lw_all := lw_g (lw_at lw_m6 13 rfl) rfl
theorem q1311 : (Jvm.Cond.soleField "RiverWageModel" "toOf") ∈ lw_all := lw_g (lw_at lw_m6 14 rfl) rfl
theorem q1312 : (Jvm.Cond.laysFinal "RiverWageModel" "RiverWageModel" "tenthsOf" "[I") ∈ lw_all := lw_g (lw_at lw_m6 15 rfl) rfl
theorem q1313 : (Jvm.Cond.soleField "RiverWageModel" "tenthsOf") ∈ lw_all := lw_g (lw_at lw_m6 16 rfl) rfl
theorem q1314 : (Jvm.Cond.laysFinal "RiverWageModel" "RiverWageModel" "readOf" "[I") ∈ lw_all := lw_g (lw_at lw_m6 17 rfl) rfl
theorem q1315 : (Jvm.Cond.soleField "RiverWageModel" "readOf") ∈ lw_all := lw_g (lw_at lw_m6 18 rfl) rfl
theorem q1316 : (Jvm.Cond.laysFinal "RiverWageModel" "RiverWageModel" "hoursOf" "[I") ∈ lw_all := lw_g (lw_at lw_m6 19 rfl) rfl
theorem q1317 : (Jvm.Cond.soleField "RiverWageModel" "hoursOf") ∈ lw_all := lw_g (lw_at lw_m6 20 rfl) rfl
theorem q1318 : (Jvm.Cond.laysFinal "RiverWageModel" "RiverWageModel" "takings" "[I") ∈ lw_all := lw_g (lw_at lw_m6 21 rfl) rfl
theorem q1319 : (Jvm.Cond.soleField "RiverWageModel" "takings") ∈ lw_all := lw_g (lw_at lw_m6 22 rfl) rfl
theorem q1320 : (Jvm.Cond.laysFinal "RiverWageModel" "RiverWageModel" "lotOne" "[I") ∈ lw_all := lw_g (lw_at lw_m6 23 rfl) rfl
theorem q1321 : (Jvm.Cond.soleField "RiverWageModel" "lotOne") ∈ lw_all := lw_g (lw_at lw_m6 24 rfl) rfl
theorem q1322 : (Jvm.Cond.laysFinal "RiverWageModel" "RiverWageModel" "lotOther" "[I") ∈ lw_all := lw_g (lw_at lw_m6 25 rfl) rfl
theorem q1323 : (Jvm.Cond.soleField "RiverWageModel" "lotOther") ∈ lw_all := lw_g (lw_at lw_m6 26 rfl) rfl
theorem q1324 : (Jvm.Cond.laysFinal "RiverWageModel" "RiverWageModel" "isMarked" "[Z") ∈ lw_all := lw_g (lw_at lw_m6 27 rfl) rfl
theorem q1325 : (Jvm.Cond.soleField "RiverWageModel" "isMarked") ∈ lw_all := lw_g (lw_at lw_m6 28 rfl) rfl
theorem q1326 : (Jvm.Cond.laysFinal "RiverWageModel" "RiverWageModel" "markRivers" "[I") ∈ lw_all := lw_g (lw_at lw_m6 29 rfl) rfl
theorem q1327 : (Jvm.Cond.soleField "RiverWageModel" "markRivers") ∈ lw_all := lw_g (lw_at lw_m6 30 rfl) rfl
theorem q1328 : (Jvm.Cond.laysFinal "RiverWageModel" "RiverWageModel" "kept" "[I") ∈ lw_all := lw_g (lw_at lw_m6 31 rfl) rfl
theorem q1329 : (Jvm.Cond.soleField "RiverWageModel" "kept") ∈ lw_all := lw_g (lw_at lw_m6 32 rfl) rfl
theorem q1330 : (Jvm.Cond.superclass "RiverWageModel" "java/lang/Object") ∈ lw_all := lw_g (lw_at lw_m6 33 rfl) rfl
theorem q1333 : (Jvm.Cond.instanceMethod ({ cls := "RiverWageModel", name := "kitchen", desc := "(IIIIZ)Z" } : Jvm.MethodName)) ∈ lw_all := lw_g (lw_at lw_m6 36 rfl) rfl
theorem q1334 : (Jvm.Cond.selects "RiverWageModel" ({ cls := "RiverWageModel", name := "kitchen", desc := "(IIIIZ)Z" } : Jvm.MethodName) ({ cls := "RiverWageModel", name := "kitchen", desc := "(IIIIZ)Z" } : Jvm.MethodName)) ∈ lw_all := lw_g (lw_at lw_m6 37 rfl) rfl
theorem q1335 : (Jvm.Cond.code ({ cls := "RiverWageModel", name := "kitchen", desc := "(IIIIZ)Z" } : Jvm.MethodName) prog_14_method_20_code (6 : Nat) (Option.some Jvm.ClassFile.FieldType.boolean)) ∈ lw_all := lw_g (lw_at lw_m6 38 rfl) rfl
theorem q1336 : (Jvm.Cond.methodLink "RiverWageModel" (253 : Nat) ({ cls := "RiverWageModel", name := "within", desc := "(III)Z" } : Jvm.MethodName)) ∈ lw_all := lw_g (lw_at lw_m6 39 rfl) rfl
theorem q1337 : (Jvm.Cond.static ({ cls := "RiverWageModel", name := "within", desc := "(III)Z" } : Jvm.MethodName)) ∈ lw_all := lw_g (lw_at lw_m6 40 rfl) rfl
theorem q1338 : (Jvm.Cond.code ({ cls := "RiverWageModel", name := "within", desc := "(III)Z" } : Jvm.MethodName) prog_14_method_17_code (3 : Nat) (Option.some Jvm.ClassFile.FieldType.boolean)) ∈ lw_all := lw_g (lw_at lw_m6 41 rfl) rfl
theorem q1340 : (Jvm.Cond.instanceMethod ({ cls := "RiverWageModel", name := "call", desc := "(IIII)Z" } : Jvm.MethodName)) ∈ lw_all := lw_g (lw_at lw_m6 43 rfl) rfl
theorem q1341 : (Jvm.Cond.selects "RiverWageModel" ({ cls := "RiverWageModel", name := "call", desc := "(IIII)Z" } : Jvm.MethodName) ({ cls := "RiverWageModel", name := "call", desc := "(IIII)Z" } : Jvm.MethodName)) ∈ lw_all := lw_g (lw_at lw_m6 44 rfl) rfl
theorem q1342 : (Jvm.Cond.code ({ cls := "RiverWageModel", name := "call", desc := "(IIII)Z" } : Jvm.MethodName) prog_14_method_21_code (8 : Nat) (Option.some Jvm.ClassFile.FieldType.boolean)) ∈ lw_all := lw_g (lw_at lw_m6 45 rfl) rfl
theorem q1343 : (Jvm.Cond.methodLink "RiverWageModel" (257 : Nat) ({ cls := "RiverWageModel", name := "isKitchen", desc := "(I)Z" } : Jvm.MethodName)) ∈ lw_all := lw_g (lw_at lw_m6 46 rfl) rfl
theorem q1344 : (Jvm.Cond.privateMethod ({ cls := "RiverWageModel", name := "isKitchen", desc := "(I)Z" } : Jvm.MethodName)) ∈ lw_tbl := lw_at lw_m6 47 rfl
theorem q1345 : (Jvm.Cond.instanceMethod ({ cls := "RiverWageModel", name := "isKitchen", desc := "(I)Z" } : Jvm.MethodName)) ∈ lw_all := lw_g (lw_at lw_m6 48 rfl) rfl
theorem q1346 : (Jvm.Cond.code ({ cls := "RiverWageModel", name := "isKitchen", desc := "(I)Z" } : Jvm.MethodName) prog_14_method_19_code (2 : Nat) (Option.some Jvm.ClassFile.FieldType.boolean)) ∈ lw_all := lw_g (lw_at lw_m6 49 rfl) rfl
theorem q1347 : (Jvm.Cond.methodLink "RiverWageModel" (260 : Nat) ({ cls := "RiverWageModel", name := "isMonth", desc := "(I)Z" } : Jvm.MethodName)) ∈ lw_all := lw_g (lw_at lw_m6 50 rfl) rfl
theorem q1348 : (Jvm.Cond.static ({ cls := "RiverWageModel", name := "isMonth", desc := "(I)Z" } : Jvm.MethodName)) ∈ lw_all := lw_g (lw_at lw_m6 51 rfl) rfl
theorem q1349 : (Jvm.Cond.code ({ cls := "RiverWageModel", name := "isMonth", desc := "(I)Z" } : Jvm.MethodName) prog_14_method_18_code (1 : Nat) (Option.some Jvm.ClassFile.FieldType.boolean)) ∈ lw_all := lw_g (lw_at lw_m6 52 rfl) rfl
theorem q1351 : (Jvm.Cond.instanceMethod ({ cls := "RiverWageModel", name := "sheet", desc := "(IIII)Z" } : Jvm.MethodName)) ∈ lw_all := lw_g (lw_at lw_m6 54 rfl) rfl
theorem q1352 : (Jvm.Cond.selects "RiverWageModel" ({ cls := "RiverWageModel", name := "sheet", desc := "(IIII)Z" } : Jvm.MethodName) ({ cls := "RiverWageModel", name := "sheet", desc := "(IIII)Z" } : Jvm.MethodName)) ∈ lw_all := lw_g (lw_at lw_m6 55 rfl) rfl
theorem q1353 : (Jvm.Cond.code ({ cls := "RiverWageModel", name := "sheet", desc := "(IIII)Z" } : Jvm.MethodName) prog_14_method_22_code (6 : Nat) (Option.some Jvm.ClassFile.FieldType.boolean)) ∈ lw_all := lw_g (lw_at lw_m6 56 rfl) rfl
theorem q1355 : (Jvm.Cond.instanceMethod ({ cls := "RiverWageModel", name := "tenths", desc := "(I)Z" } : Jvm.MethodName)) ∈ lw_all := lw_g (lw_at lw_m6 58 rfl) rfl
theorem q1356 : (Jvm.Cond.selects "RiverWageModel" ({ cls := "RiverWageModel", name := "tenths", desc := "(I)Z" } : Jvm.MethodName) ({ cls := "RiverWageModel", name := "tenths", desc := "(I)Z" } : Jvm.MethodName)) ∈ lw_all := lw_g (lw_at lw_m6 59 rfl) rfl
theorem q1357 : (Jvm.Cond.code ({ cls := "RiverWageModel", name := "tenths", desc := "(I)Z" } : Jvm.MethodName) prog_14_method_23_code (2 : Nat) (Option.some Jvm.ClassFile.FieldType.boolean)) ∈ lw_all := lw_g (lw_at lw_m6 60 rfl) rfl
theorem q1359 : (Jvm.Cond.instanceMethod ({ cls := "RiverWageModel", name := "floor", desc := "(IIII)Z" } : Jvm.MethodName)) ∈ lw_all := lw_g (lw_at lw_m6 62 rfl) rfl
theorem q1360 : (Jvm.Cond.selects "RiverWageModel" ({ cls := "RiverWageModel", name := "floor", desc := "(IIII)Z" } : Jvm.MethodName) ({ cls := "RiverWageModel", name := "floor", desc := "(IIII)Z" } : Jvm.MethodName)) ∈ lw_all := lw_g (lw_at lw_m6 63 rfl) rfl
theorem q1361 : (Jvm.Cond.code ({ cls := "RiverWageModel", name := "floor", desc := "(IIII)Z" } : Jvm.MethodName) prog_14_method_24_code (6 : Nat) (Option.some Jvm.ClassFile.FieldType.boolean)) ∈ lw_all := lw_g (lw_at lw_m6 64 rfl) rfl
theorem q1363 : (Jvm.Cond.instanceMethod ({ cls := "RiverWageModel", name := "hands", desc := "(II)I" } : Jvm.MethodName)) ∈ lw_all := lw_g (lw_at lw_m6 66 rfl) rfl
theorem q1364 : (Jvm.Cond.selects "RiverWageModel" ({ cls := "RiverWageModel", name := "hands", desc := "(II)I" } : Jvm.MethodName) ({ cls := "RiverWageModel", name := "hands", desc := "(II)I" } : Jvm.MethodName)) ∈ lw_all := lw_g (lw_at lw_m6 67 rfl) rfl
theorem q1365 : (Jvm.Cond.code ({ cls := "RiverWageModel", name := "hands", desc := "(II)I" } : Jvm.MethodName) prog_14_method_27_code (3 : Nat) (Option.some Jvm.ClassFile.FieldType.int)) ∈ lw_all := lw_g (lw_at lw_m6 68 rfl) rfl
theorem q1366 : (Jvm.Cond.methodLink "RiverWageModel" (267 : Nat) ({ cls := "RiverWageModel", name := "handsOf", desc := "(II)I" } : Jvm.MethodName)) ∈ lw_all := lw_g (lw_at lw_m6 69 rfl) rfl
theorem q1367 : (Jvm.Cond.privateMethod ({ cls := "RiverWageModel", name := "handsOf", desc := "(II)I" } : Jvm.MethodName)) ∈ lw_tbl := lw_at lw_m6 70 rfl
theorem q1368 : (Jvm.Cond.instanceMethod ({ cls := "RiverWageModel", name := "handsOf", desc := "(II)I" } : Jvm.MethodName)) ∈ lw_all := lw_g (lw_at lw_m6 71 rfl) rfl
theorem q1369 : (Jvm.Cond.code ({ cls := "RiverWageModel", name := "handsOf", desc := "(II)I" } : Jvm.MethodName) prog_14_method_26_code (3 : Nat) (Option.some Jvm.ClassFile.FieldType.int)) ∈ lw_all := lw_g (lw_at lw_m6 72 rfl) rfl
theorem q1370 : (Jvm.Cond.methodLink "RiverWageModel" (263 : Nat) ({ cls := "RiverWageModel", name := "handsBy", desc := "(II)I" } : Jvm.MethodName)) ∈ lw_all := lw_g (lw_at lw_m6 73 rfl) rfl
theorem q1371 : (Jvm.Cond.privateMethod ({ cls := "RiverWageModel", name := "handsBy", desc := "(II)I" } : Jvm.MethodName)) ∈ lw_tbl := lw_at lw_m6 74 rfl
theorem q1372 : (Jvm.Cond.instanceMethod ({ cls := "RiverWageModel", name := "handsBy", desc := "(II)I" } : Jvm.MethodName)) ∈ lw_all := lw_g (lw_at lw_m6 75 rfl) rfl
theorem q1373 : (Jvm.Cond.code ({ cls := "RiverWageModel", name := "handsBy", desc := "(II)I" } : Jvm.MethodName) prog_14_method_25_code (3 : Nat) (Option.some Jvm.ClassFile.FieldType.int)) ∈ lw_all := lw_g (lw_at lw_m6 76 rfl) rfl
theorem q1375 : (Jvm.Cond.instanceMethod ({ cls := "RiverWageModel", name := "bank", desc := "(IIII)I" } : Jvm.MethodName)) ∈ lw_all := lw_g (lw_at lw_m6 78 rfl) rfl
theorem q1376 : (Jvm.Cond.selects "RiverWageModel" ({ cls := "RiverWageModel", name := "bank", desc := "(IIII)I" } : Jvm.MethodName) ({ cls := "RiverWageModel", name := "bank", desc := "(IIII)I" } : Jvm.MethodName)) ∈ lw_all := lw_g (lw_at lw_m6 79 rfl) rfl
theorem q1377 : (Jvm.Cond.code ({ cls := "RiverWageModel", name := "bank", desc := "(IIII)I" } : Jvm.MethodName) prog_14_method_31_code (11 : Nat) (Option.some Jvm.ClassFile.FieldType.int)) ∈ lw_all := lw_g (lw_at lw_m6 80 rfl) rfl
theorem q1378 : (Jvm.Cond.methodLink "RiverWageModel" (270 : Nat) ({ cls := "RiverWageModel", name := "areMonths", desc := "(II)Z" } : Jvm.MethodName)) ∈ lw_all := lw_g (lw_at lw_m6 81 rfl) rfl
theorem q1379 : (Jvm.Cond.static ({ cls := "RiverWageModel", name := "areMonths", desc := "(II)Z" } : Jvm.MethodName)) ∈ lw_all := lw_g (lw_at lw_m6 82 rfl) rfl
theorem q1380 : (Jvm.Cond.code ({ cls := "RiverWageModel", name := "areMonths", desc := "(II)Z" } : Jvm.MethodName) prog_14_method_28_code (2 : Nat) (Option.some Jvm.ClassFile.FieldType.boolean)) ∈ lw_all := lw_g (lw_at lw_m6 83 rfl) rfl
theorem q1381 : (Jvm.Cond.methodLink "RiverWageModel" (274 : Nat) ({ cls := "RiverWageModel", name := "isCounted", desc := "(III)Z" } : Jvm.MethodName)) ∈ lw_all := lw_g (lw_at lw_m6 84 rfl) rfl
theorem q1382 : (Jvm.Cond.privateMethod ({ cls := "RiverWageModel", name := "isCounted", desc := "(III)Z" } : Jvm.MethodName)) ∈ lw_tbl := lw_at lw_m6 85 rfl
theorem q1383 : (Jvm.Cond.instanceMethod ({ cls := "RiverWageModel", name := "isCounted", desc := "(III)Z" } : Jvm.MethodName)) ∈ lw_all := lw_g (lw_at lw_m6 86 rfl) rfl
theorem q1384 : (Jvm.Cond.code ({ cls := "RiverWageModel", name := "isCounted", desc := "(III)Z" } : Jvm.MethodName) prog_14_method_29_code (4 : Nat) (Option.some Jvm.ClassFile.FieldType.boolean)) ∈ lw_all := lw_g (lw_at lw_m6 87 rfl) rfl
theorem q1385 : (Jvm.Cond.methodLink "RiverWageModel" (277 : Nat) ({ cls := "RiverWageModel", name := "changeOf", desc := "(III)I" } : Jvm.MethodName)) ∈ lw_all := lw_g (lw_at lw_m6 88 rfl) rfl
theorem q1386 : (Jvm.Cond.privateMethod ({ cls := "RiverWageModel", name := "changeOf", desc := "(III)I" } : Jvm.MethodName)) ∈ lw_tbl := lw_at lw_m6 89 rfl
theorem q1387 : (Jvm.Cond.instanceMethod ({ cls := "RiverWageModel", name := "changeOf", desc := "(III)I" } : Jvm.MethodName)) ∈ lw_all := lw_g (lw_at lw_m6 90 rfl) rfl
theorem q1388 : (Jvm.Cond.code ({ cls := "RiverWageModel", name := "changeOf", desc := "(III)I" } : Jvm.MethodName) prog_14_method_30_code (4 : Nat) (Option.some Jvm.ClassFile.FieldType.int)) ∈ lw_all := lw_g (lw_at lw_m6 91 rfl) rfl
theorem q1390 : (Jvm.Cond.instanceMethod ({ cls := "RiverWageModel", name := "river", desc := "(IIII)J" } : Jvm.MethodName)) ∈ lw_all := lw_g (lw_at lw_m6 93 rfl) rfl
theorem q1391 : (Jvm.Cond.selects "RiverWageModel" ({ cls := "RiverWageModel", name := "river", desc := "(IIII)J" } : Jvm.MethodName) ({ cls := "RiverWageModel", name := "river", desc := "(IIII)J" } : Jvm.MethodName)) ∈ lw_all := lw_g (lw_at lw_m6 94 rfl) rfl
theorem q1392 : (Jvm.Cond.code ({ cls := "RiverWageModel", name := "river", desc := "(IIII)J" } : Jvm.MethodName) prog_14_method_39_code (5 : Nat) (Option.some Jvm.ClassFile.FieldType.long)) ∈ lw_all := lw_g (lw_at lw_m6 95 rfl) rfl
theorem q1393 : (Jvm.Cond.methodLink "RiverWageModel" (315 : Nat) ({ cls := "RiverWageModel", name := "isWhat", desc := "(I)Z" } : Jvm.MethodName)) ∈ lw_all := lw_g (lw_at lw_m6 96 rfl) rfl
theorem q1394 : (Jvm.Cond.static ({ cls := "RiverWageModel", name := "isWhat", desc := "(I)Z" } : Jvm.MethodName)) ∈ lw_all := lw_g (lw_at lw_m6 97 rfl) rfl
theorem q1395 : (Jvm.Cond.code ({ cls := "RiverWageModel", name := "isWhat", desc := "(I)Z" } : Jvm.MethodName) prog_14_method_38_code (1 : Nat) (Option.some Jvm.ClassFile.FieldType.boolean)) ∈ lw_all := lw_g (lw_at lw_m6 98 rfl) rfl
theorem q1396 : (Jvm.Cond.methodLink "RiverWageModel" (318 : Nat) ({ cls := "RiverWageModel", name := "findRiver", desc := "(III)Z" } : Jvm.MethodName)) ∈ lw_all := lw_g (lw_at lw_m6 99 rfl) rfl
theorem q1397 : (Jvm.Cond.privateMethod ({ cls := "RiverWageModel", name := "findRiver", desc := "(III)Z" } : Jvm.MethodName)) ∈ lw_tbl := lw_at lw_m6 100 rfl
theorem q1398 : (Jvm.Cond.instanceMethod ({ cls := "RiverWageModel", name := "findRiver", desc := "(III)Z" } : Jvm.MethodName)) ∈ lw_all := lw_g (lw_at lw_m6 101 rfl) rfl
theorem q1399 : (Jvm.Cond.code ({ cls := "RiverWageModel", name := "findRiver", desc := "(III)Z" } : Jvm.MethodName) prog_14_method_37_code (5 : Nat) (Option.some Jvm.ClassFile.FieldType.boolean)) ∈ lw_all := lw_g (lw_at lw_m6 102 rfl) rfl
theorem q1400 : (Jvm.Cond.methodLink "RiverWageModel" (304 : Nat) ({ cls := "RiverWageModel", name := "beginsSums", desc := "()V" } : Jvm.MethodName)) ∈ lw_all := lw_g (lw_at lw_m6 103 rfl) rfl
theorem q1401 : (Jvm.Cond.privateMethod ({ cls := "RiverWageModel", name := "beginsSums", desc := "()V" } : Jvm.MethodName)) ∈ lw_tbl := lw_at lw_m6 104 rfl
theorem q1402 : (Jvm.Cond.instanceMethod ({ cls := "RiverWageModel", name := "beginsSums", desc := "()V" } : Jvm.MethodName)) ∈ lw_all := lw_g (lw_at lw_m6 105 rfl) rfl
theorem q1403 : (Jvm.Cond.code ({ cls := "RiverWageModel", name := "beginsSums", desc := "()V" } : Jvm.MethodName) prog_14_method_34_code (1 : Nat) (Option.none : Option Jvm.ClassFile.FieldType)) ∈ lw_all := lw_g (lw_at lw_m6 106 rfl) rfl
theorem q1404 : (Jvm.Cond.methodLink "RiverWageModel" (307 : Nat) ({ cls := "RiverWageModel", name := "adds", desc := "(ZJ)V" } : Jvm.MethodName)) ∈ lw_all := lw_g (lw_at lw_m6 107 rfl) rfl
theorem q1405 : (Jvm.Cond.privateMethod ({ cls := "RiverWageModel", name := "adds", desc := "(ZJ)V" } : Jvm.MethodName)) ∈ lw_tbl := lw_at lw_m6 108 rfl
theorem q1406 : (Jvm.Cond.instanceMethod ({ cls := "RiverWageModel", name := "adds", desc := "(ZJ)V" } : Jvm.MethodName)) ∈ lw_all := lw_g (lw_at lw_m6 109 rfl) rfl
theorem q1407 : (Jvm.Cond.code ({ cls := "RiverWageModel", name := "adds", desc := "(ZJ)V" } : Jvm.MethodName) prog_14_method_35_code (4 : Nat) (Option.none : Option Jvm.ClassFile.FieldType)) ∈ lw_all := lw_g (lw_at lw_m6 110 rfl) rfl
theorem q1408 : (Jvm.Cond.methodLink "RiverWageModel" (311 : Nat) ({ cls := "RiverWageModel", name := "differs", desc := "()Z" } : Jvm.MethodName)) ∈ lw_all := lw_g (lw_at lw_m6 111 rfl) rfl
theorem q1409 : (Jvm.Cond.privateMethod ({ cls := "RiverWageModel", name := "differs", desc := "()Z" } : Jvm.MethodName)) ∈ lw_tbl := lw_at lw_m6 112 rfl
theorem q1410 : (Jvm.Cond.instanceMethod ({ cls := "RiverWageModel", name := "differs", desc := "()Z" } : Jvm.MethodName)) ∈ lw_all := lw_g (lw_at lw_m6 113 rfl) rfl
theorem q1411 : (Jvm.Cond.code ({ cls := "RiverWageModel", name := "differs", desc := "()Z" } : Jvm.MethodName) prog_14_method_36_code (1 : Nat) (Option.some Jvm.ClassFile.FieldType.boolean)) ∈ lw_all := lw_g (lw_at lw_m6 114 rfl) rfl
theorem q1412 : (Jvm.Cond.methodLink "RiverWageModel" (321 : Nat) ({ cls := "RiverWageModel", name := "lowest", desc := "(I)J" } : Jvm.MethodName)) ∈ lw_all := lw_g (lw_at lw_m6 115 rfl) rfl
theorem q1413 : (Jvm.Cond.privateMethod ({ cls := "RiverWageModel", name := "lowest", desc := "(I)J" } : Jvm.MethodName)) ∈ lw_tbl := lw_at lw_m6 116 rfl
theorem q1414 : (Jvm.Cond.instanceMethod ({ cls := "RiverWageModel", name := "lowest", desc := "(I)J" } : Jvm.MethodName)) ∈ lw_all := lw_g (lw_at lw_m6 117 rfl) rfl
theorem q1415 : (Jvm.Cond.code ({ cls := "RiverWageModel", name := "lowest", desc := "(I)J" } : Jvm.MethodName) prog_14_method_33_code (4 : Nat) (Option.some Jvm.ClassFile.FieldType.long)) ∈ lw_all := lw_g (lw_at lw_m6 118 rfl) rfl
theorem q1416 : (Jvm.Cond.methodLink "RiverWageModel" (288 : Nat) ({ cls := "RiverWageModel", name := "common", desc := "(JJ)J" } : Jvm.MethodName)) ∈ lw_all := lw_g (lw_at lw_m6 119 rfl) rfl
theorem q1417 : (Jvm.Cond.static ({ cls := "RiverWageModel", name := "common", desc := "(JJ)J" } : Jvm.MethodName)) ∈ lw_all := lw_g (lw_at lw_m6 120 rfl) rfl
theorem q1418 : (Jvm.Cond.code ({ cls := "RiverWageModel", name := "common", desc := "(JJ)J" } : Jvm.MethodName) prog_14_method_32_code (10 : Nat) (Option.some Jvm.ClassFile.FieldType.long)) ∈ lw_all := lw_g (lw_at lw_m6 121 rfl) rfl
theorem q1420 : (Jvm.Cond.instanceMethod ({ cls := "RiverWageModel", name := "part", desc := "(IIII)J" } : Jvm.MethodName)) ∈ lw_all := lw_g (lw_at lw_m6 123 rfl) rfl
theorem q1421 : (Jvm.Cond.selects "RiverWageModel" ({ cls := "RiverWageModel", name := "part", desc := "(IIII)J" } : Jvm.MethodName) ({ cls := "RiverWageModel", name := "part", desc := "(IIII)J" } : Jvm.MethodName)) ∈ lw_all := lw_g (lw_at lw_m6 124 rfl) rfl
theorem q1422 : (Jvm.Cond.code ({ cls := "RiverWageModel", name := "part", desc := "(IIII)J" } : Jvm.MethodName) prog_14_method_40_code (9 : Nat) (Option.some Jvm.ClassFile.FieldType.long)) ∈ lw_all := lw_g (lw_at lw_m6 125 rfl) rfl
theorem q1424 : (Jvm.Cond.instanceMethod ({ cls := "RiverWageModel", name := "bounds", desc := "(III)J" } : Jvm.MethodName)) ∈ lw_all := lw_g (lw_at lw_m6 127 rfl) rfl
theorem q1425 : (Jvm.Cond.selects "RiverWageModel" ({ cls := "RiverWageModel", name := "bounds", desc := "(III)J" } : Jvm.MethodName) ({ cls := "RiverWageModel", name := "bounds", desc := "(III)J" } : Jvm.MethodName)) ∈ lw_all := lw_g (lw_at lw_m6 128 rfl) rfl
theorem q1426 : (Jvm.Cond.code ({ cls := "RiverWageModel", name := "bounds", desc := "(III)J" } : Jvm.MethodName) prog_14_method_43_code (4 : Nat) (Option.some Jvm.ClassFile.FieldType.long)) ∈ lw_all := lw_g (lw_at lw_m6 129 rfl) rfl
theorem q1427 : (Jvm.Cond.methodLink "RiverWageModel" (329 : Nat) ({ cls := "RiverWageModel", name := "findBound", desc := "(III)Z" } : Jvm.MethodName)) ∈ lw_all := lw_g (lw_at lw_m6 130 rfl) rfl
theorem q1428 : (Jvm.Cond.privateMethod ({ cls := "RiverWageModel", name := "findBound", desc := "(III)Z" } : Jvm.MethodName)) ∈ lw_tbl := lw_at lw_m6 131 rfl
theorem q1429 : (Jvm.Cond.instanceMethod ({ cls := "RiverWageModel", name := "findBound", desc := "(III)Z" } : Jvm.MethodName)) ∈ lw_all := lw_g (lw_at lw_m6 132 rfl) rfl
theorem q1430 : (Jvm.Cond.code ({ cls := "RiverWageModel", name := "findBound", desc := "(III)Z" } : Jvm.MethodName) prog_14_method_42_code (5 : Nat) (Option.some Jvm.ClassFile.FieldType.boolean)) ∈ lw_all := lw_g (lw_at lw_m6 133 rfl) rfl
theorem q1431 : (Jvm.Cond.methodLink "RiverWageModel" (325 : Nat) ({ cls := "RiverWageModel", name := "mayChange", desc := "(IIII)I" } : Jvm.MethodName)) ∈ lw_all := lw_g (lw_at lw_m6 134 rfl) rfl
theorem q1432 : (Jvm.Cond.privateMethod ({ cls := "RiverWageModel", name := "mayChange", desc := "(IIII)I" } : Jvm.MethodName)) ∈ lw_tbl := lw_at lw_m6 135 rfl
theorem q1433 : (Jvm.Cond.instanceMethod ({ cls := "RiverWageModel", name := "mayChange", desc := "(IIII)I" } : Jvm.MethodName)) ∈ lw_all := lw_g (lw_at lw_m6 136 rfl) rfl
theorem q1434 : (Jvm.Cond.code ({ cls := "RiverWageModel", name := "mayChange", desc := "(IIII)I" } : Jvm.MethodName) prog_14_method_41_code (6 : Nat) (Option.some Jvm.ClassFile.FieldType.int)) ∈ lw_all := lw_g (lw_at lw_m6 137 rfl) rfl
theorem q1436 : (Jvm.Cond.instanceMethod ({ cls := "RiverWageModel", name := "swings", desc := "(II)I" } : Jvm.MethodName)) ∈ lw_all := lw_g (lw_at lw_m6 139 rfl) rfl
theorem q1437 : (Jvm.Cond.selects "RiverWageModel" ({ cls := "RiverWageModel", name := "swings", desc := "(II)I" } : Jvm.MethodName) ({ cls := "RiverWageModel", name := "swings", desc := "(II)I" } : Jvm.MethodName)) ∈ lw_all := lw_g (lw_at lw_m6 140 rfl) rfl
theorem q1438 : (Jvm.Cond.code ({ cls := "RiverWageModel", name := "swings", desc := "(II)I" } : Jvm.MethodName) prog_14_method_44_code (4 : Nat) (Option.some Jvm.ClassFile.FieldType.int)) ∈ lw_all := lw_g (lw_at lw_m6 141 rfl) rfl
theorem q1440 : (Jvm.Cond.instanceMethod ({ cls := "RiverWageModel", name := "next", desc := "(II)I" } : Jvm.MethodName)) ∈ lw_all := lw_g (lw_at lw_m6 143 rfl) rfl
theorem q1441 : (Jvm.Cond.selects "RiverWageModel" ({ cls := "RiverWageModel", name := "next", desc := "(II)I" } : Jvm.MethodName) ({ cls := "RiverWageModel", name := "next", desc := "(II)I" } : Jvm.MethodName)) ∈ lw_all := lw_g (lw_at lw_m6 144 rfl) rfl
theorem q1442 : (Jvm.Cond.code ({ cls := "RiverWageModel", name := "next", desc := "(II)I" } : Jvm.MethodName) prog_14_method_45_code (14 : Nat) (Option.some Jvm.ClassFile.FieldType.int)) ∈ lw_all := lw_g (lw_at lw_m6 145 rfl) rfl
theorem q1444 : (Jvm.Cond.instanceMethod ({ cls := "RiverWageModel", name := "sheets", desc := "(IIZI)J" } : Jvm.MethodName)) ∈ lw_all := lw_g (lw_at lw_m6 147 rfl) rfl
theorem q1445 : (Jvm.Cond.selects "RiverWageModel" ({ cls := "RiverWageModel", name := "sheets", desc := "(IIZI)J" } : Jvm.MethodName) ({ cls := "RiverWageModel", name := "sheets", desc := "(IIZI)J" } : Jvm.MethodName)) ∈ lw_all := lw_g (lw_at lw_m6 148 rfl) rfl
theorem q1446 : (Jvm.Cond.code ({ cls := "RiverWageModel", name := "sheets", desc := "(IIZI)J" } : Jvm.MethodName) prog_14_method_46_code (8 : Nat) (Option.some Jvm.ClassFile.FieldType.long)) ∈ lw_all := lw_g (lw_at lw_m6 149 rfl) rfl
theorem q1448 : (Jvm.Cond.instanceMethod ({ cls := "RiverWageModel", name := "choosing", desc := "(IIII)J" } : Jvm.MethodName)) ∈ lw_all := lw_g (lw_at lw_m6 151 rfl) rfl
theorem q1449 : (Jvm.Cond.selects "RiverWageModel" ({ cls := "RiverWageModel", name := "choosing", desc := "(IIII)J" } : Jvm.MethodName) ({ cls := "RiverWageModel", name := "choosing", desc := "(IIII)J" } : Jvm.MethodName)) ∈ lw_all := lw_g (lw_at lw_m6 152 rfl) rfl
theorem q1450 : (Jvm.Cond.code ({ cls := "RiverWageModel", name := "choosing", desc := "(IIII)J" } : Jvm.MethodName) prog_14_method_48_code (6 : Nat) (Option.some Jvm.ClassFile.FieldType.long)) ∈ lw_all := lw_g (lw_at lw_m6 153 rfl) rfl
theorem q1451 : (Jvm.Cond.methodLink "RiverWageModel" (332 : Nat) ({ cls := "RiverWageModel", name := "sumOf", desc := "(IIIII)J" } : Jvm.MethodName)) ∈ lw_all := lw_g (lw_at lw_m6 154 rfl) rfl
theorem q1452 : (Jvm.Cond.privateMethod ({ cls := "RiverWageModel", name := "sumOf", desc := "(IIIII)J" } : Jvm.MethodName)) ∈ lw_tbl := lw_at lw_m6 155 rfl
theorem q1453 : (Jvm.Cond.instanceMethod ({ cls := "RiverWageModel", name := "sumOf", desc := "(IIIII)J" } : Jvm.MethodName)) ∈ lw_all := lw_g (lw_at lw_m6 156 rfl) rfl
theorem q1454 : (Jvm.Cond.code ({ cls := "RiverWageModel", name := "sumOf", desc := "(IIIII)J" } : Jvm.MethodName) prog_14_method_47_code (10 : Nat) (Option.some Jvm.ClassFile.FieldType.long)) ∈ lw_all := lw_g (lw_at lw_m6 157 rfl) rfl
theorem q1456 : (Jvm.Cond.instanceMethod ({ cls := "RiverWageModel", name := "odds", desc := "(III)J" } : Jvm.MethodName)) ∈ lw_all := lw_g (lw_at lw_m6 159 rfl) rfl
theorem q1457 : (Jvm.Cond.selects "RiverWageModel" ({ cls := "RiverWageModel", name := "odds", desc := "(III)J" } : Jvm.MethodName) ({ cls := "RiverWageModel", name := "odds", desc := "(III)J" } : Jvm.MethodName)) ∈ lw_all := lw_g (lw_at lw_m6 160 rfl) rfl
theorem q1458 : (Jvm.Cond.code ({ cls := "RiverWageModel", name := "odds", desc := "(III)J" } : Jvm.MethodName) prog_14_method_49_code (23 : Nat) (Option.some Jvm.ClassFile.FieldType.long)) ∈ lw_all := lw_g (lw_at lw_m6 161 rfl) rfl
theorem q1459 : (Jvm.Cond.constantLong "RiverWageModel" (336 : Nat) (14 : Int64)) ∈ lw_all := lw_g (lw_at lw_m6 162 rfl) rfl
theorem q1460 : (Jvm.Cond.constantLong "RiverWageModel" (338 : Nat) (-1 : Int64)) ∈ lw_all := lw_g (lw_at lw_m6 163 rfl) rfl
theorem q1462 : (Jvm.Cond.instanceMethod ({ cls := "RiverWageModel", name := "beside", desc := "(III)J" } : Jvm.MethodName)) ∈ lw_all := lw_g (lw_at lw_m6 165 rfl) rfl
theorem q1463 : (Jvm.Cond.selects "RiverWageModel" ({ cls := "RiverWageModel", name := "beside", desc := "(III)J" } : Jvm.MethodName) ({ cls := "RiverWageModel", name := "beside", desc := "(III)J" } : Jvm.MethodName)) ∈ lw_all := lw_g (lw_at lw_m6 166 rfl) rfl
theorem q1464 : (Jvm.Cond.code ({ cls := "RiverWageModel", name := "beside", desc := "(III)J" } : Jvm.MethodName) prog_14_method_50_code (5 : Nat) (Option.some Jvm.ClassFile.FieldType.long)) ∈ lw_all := lw_g (lw_at lw_m6 167 rfl) rfl
theorem q1466 : (Jvm.Cond.instanceMethod ({ cls := "RiverWageModel", name := "alike", desc := "(II)J" } : Jvm.MethodName)) ∈ lw_all := lw_g (lw_at lw_m6 169 rfl) rfl
theorem q1467 : (Jvm.Cond.selects "RiverWageModel" ({ cls := "RiverWageModel", name := "alike", desc := "(II)J" } : Jvm.MethodName) ({ cls := "RiverWageModel", name := "alike", desc := "(II)J" } : Jvm.MethodName)) ∈ lw_all := lw_g (lw_at lw_m6 170 rfl) rfl
theorem q1468 : (Jvm.Cond.code ({ cls := "RiverWageModel", name := "alike", desc := "(II)J" } : Jvm.MethodName) prog_14_method_51_code (11 : Nat) (Option.some Jvm.ClassFile.FieldType.long)) ∈ lw_all := lw_g (lw_at lw_m6 171 rfl) rfl
theorem q1470 : (Jvm.Cond.instanceMethod ({ cls := "RiverWageModel", name := "apart", desc := "(IIII)J" } : Jvm.MethodName)) ∈ lw_all := lw_g (lw_at lw_m6 173 rfl) rfl
theorem q1471 : (Jvm.Cond.selects "RiverWageModel" ({ cls := "RiverWageModel", name := "apart", desc := "(IIII)J" } : Jvm.MethodName) ({ cls := "RiverWageModel", name := "apart", desc := "(IIII)J" } : Jvm.MethodName)) ∈ lw_all := lw_g (lw_at lw_m6 174 rfl) rfl
theorem q1472 : (Jvm.Cond.code ({ cls := "RiverWageModel", name := "apart", desc := "(IIII)J" } : Jvm.MethodName) prog_14_method_52_code (5 : Nat) (Option.some Jvm.ClassFile.FieldType.long)) ∈ lw_all := lw_g (lw_at lw_m6 175 rfl) rfl
theorem q1474 : (Jvm.Cond.instanceMethod ({ cls := "RiverWageModel", name := "law", desc := "(I)I" } : Jvm.MethodName)) ∈ lw_all := lw_g (lw_at lw_m6 177 rfl) rfl
theorem q1475 : (Jvm.Cond.selects "RiverWageModel" ({ cls := "RiverWageModel", name := "law", desc := "(I)I" } : Jvm.MethodName) ({ cls := "RiverWageModel", name := "law", desc := "(I)I" } : Jvm.MethodName)) ∈ lw_all := lw_g (lw_at lw_m6 178 rfl) rfl
theorem q1476 : (Jvm.Cond.code ({ cls := "RiverWageModel", name := "law", desc := "(I)I" } : Jvm.MethodName) prog_14_method_54_code (3 : Nat) (Option.some Jvm.ClassFile.FieldType.int)) ∈ lw_all := lw_g (lw_at lw_m6 179 rfl) rfl
theorem q1477 : (Jvm.Cond.methodLink "RiverWageModel" (343 : Nat) ({ cls := "RiverWageModel", name := "cutAll", desc := "()V" } : Jvm.MethodName)) ∈ lw_all := lw_g (lw_at lw_m6 180 rfl) rfl
theorem q1478 : (Jvm.Cond.privateMethod ({ cls := "RiverWageModel", name := "cutAll", desc := "()V" } : Jvm.MethodName)) ∈ lw_tbl := lw_at lw_m6 181 rfl
theorem q1479 : (Jvm.Cond.instanceMethod ({ cls := "RiverWageModel", name := "cutAll", desc := "()V" } : Jvm.MethodName)) ∈ lw_all := lw_g (lw_at lw_m6 182 rfl) rfl
theorem q1480 : (Jvm.Cond.code ({ cls := "RiverWageModel", name := "cutAll", desc := "()V" } : Jvm.MethodName) prog_14_method_9_code (7 : Nat) (Option.none : Option Jvm.ClassFile.FieldType)) ∈ lw_all := lw_g (lw_at lw_m6 183 rfl) rfl
theorem q1481 : (Jvm.Cond.methodLink "RiverWageModel" (211 : Nat) ({ cls := "RiverWageModel", name := "isLetter", desc := "(I)Z" } : Jvm.MethodName)) ∈ lw_all := lw_g (lw_at lw_m6 184 rfl) rfl
theorem q1482 : (Jvm.Cond.static ({ cls := "RiverWageModel", name := "isLetter", desc := "(I)Z" } : Jvm.MethodName)) ∈ lw_all := lw_g (lw_at lw_m6 185 rfl) rfl
theorem q1483 : (Jvm.Cond.code ({ cls := "RiverWageModel", name := "isLetter", desc := "(I)Z" } : Jvm.MethodName) prog_14_method_5_code (1 : Nat) (Option.some Jvm.ClassFile.FieldType.boolean)) ∈ lw_all := lw_g (lw_at lw_m6 186 rfl) rfl
theorem q1484 : (Jvm.Cond.constantLong "RiverWageModel" (218 : Nat) (37 : Int64)) ∈ lw_all := lw_g (lw_at lw_m6 187 rfl) rfl
theorem q1485 : (Jvm.Cond.methodLink "RiverWageModel" (220 : Nat) ({ cls := "RiverWageModel", name := "rank", desc := "(I)I" } : Jvm.MethodName)) ∈ lw_all := lw_g (lw_at lw_m6 188 rfl) rfl
theorem q1486 : (Jvm.Cond.static ({ cls := "RiverWageModel", name := "rank", desc := "(I)I" } : Jvm.MethodName)) ∈ lw_all := lw_g (lw_at lw_m6 189 rfl) rfl
theorem q1487 : (Jvm.Cond.code ({ cls := "RiverWageModel", name := "rank", desc := "(I)I" } : Jvm.MethodName) prog_14_method_7_code (1 : Nat) (Option.some Jvm.ClassFile.FieldType.int)) ∈ lw_all := lw_g (lw_at lw_m6 190 rfl) rfl
theorem q1488 : (Jvm.Cond.methodLink "RiverWageModel" (224 : Nat) ({ cls := "RiverWageModel", name := "isDigit", desc := "(I)Z" } : Jvm.MethodName)) ∈ lw_all := lw_g (lw_at lw_m6 191 rfl) rfl
theorem q1489 : (Jvm.Cond.static ({ cls := "RiverWageModel", name := "isDigit", desc := "(I)Z" } : Jvm.MethodName)) ∈ lw_all := lw_g (lw_at lw_m6 192 rfl) rfl
theorem q1490 : (Jvm.Cond.code ({ cls := "RiverWageModel", name := "isDigit", desc := "(I)Z" } : Jvm.MethodName) prog_14_method_6_code (1 : Nat) (Option.some Jvm.ClassFile.FieldType.boolean)) ∈ lw_all := lw_g (lw_at lw_m6 193 rfl) rfl
theorem q1491 : (Jvm.Cond.constantLong "RiverWageModel" (227 : Nat) (10 : Int64)) ∈ lw_all := lw_g (lw_at lw_m6 194 rfl) rfl
theorem q1492 : (Jvm.Cond.constantLong "RiverWageModel" (229 : Nat) (48 : Int64)) ∈ lw_all := lw_g (lw_at lw_m6 195 rfl) rfl
theorem q1493 : (Jvm.Cond.methodLink "RiverWageModel" (231 : Nat) ({ cls := "RiverWageModel", name := "isSignOf", desc := "(I)Z" } : Jvm.MethodName)) ∈ lw_all := lw_g (lw_at lw_m6 196 rfl) rfl
theorem q1494 : (Jvm.Cond.static ({ cls := "RiverWageModel", name := "isSignOf", desc := "(I)Z" } : Jvm.MethodName)) ∈ lw_all := lw_g (lw_at lw_m6 197 rfl) rfl
theorem q1495 : (Jvm.Cond.code ({ cls := "RiverWageModel", name := "isSignOf", desc := "(I)Z" } : Jvm.MethodName) prog_14_method_8_code (1 : Nat) (Option.some Jvm.ClassFile.FieldType.boolean)) ∈ lw_all := lw_g (lw_at lw_m6 198 rfl) rfl
theorem q1496 : (Jvm.Cond.methodLink "RiverWageModel" (350 : Nat) ({ cls := "RiverWageModel", name := "readLine", desc := "()V" } : Jvm.MethodName)) ∈ lw_all := lw_g (lw_at lw_m6 199 rfl) rfl
theorem q1497 : (Jvm.Cond.privateMethod ({ cls := "RiverWageModel", name := "readLine", desc := "()V" } : Jvm.MethodName)) ∈ lw_tbl := lw_at lw_m6 200 rfl
theorem q1498 : (Jvm.Cond.instanceMethod ({ cls := "RiverWageModel", name := "readLine", desc := "()V" } : Jvm.MethodName)) ∈ lw_all := lw_g (lw_at lw_m6 201 rfl) rfl
theorem q1499 : (Jvm.Cond.code ({ cls := "RiverWageModel", name := "readLine", desc := "()V" } : Jvm.MethodName) prog_14_method_56_code (3 : Nat) (Option.none : Option Jvm.ClassFile.FieldType)) ∈ lw_all := lw_g (lw_at lw_m6 202 rfl) rfl
theorem q1500 : (Jvm.Cond.methodLink "RiverWageModel" (247 : Nat) ({ cls := "RiverWageModel", name := "isWord", desc := "(I)Z" } : Jvm.MethodName)) ∈ lw_all := lw_g (lw_at lw_m6 203 rfl) rfl
theorem q1501 : (Jvm.Cond.privateMethod ({ cls := "RiverWageModel", name := "isWord", desc := "(I)Z" } : Jvm.MethodName)) ∈ lw_tbl := lw_at lw_m6 204 rfl
theorem q1502 : (Jvm.Cond.instanceMethod ({ cls := "RiverWageModel", name := "isWord", desc := "(I)Z" } : Jvm.MethodName)) ∈ lw_all := lw_g (lw_at lw_m6 205 rfl) rfl
theorem q1503 : (Jvm.Cond.code ({ cls := "RiverWageModel", name := "isWord", desc := "(I)Z" } : Jvm.MethodName) prog_14_method_12_code (2 : Nat) (Option.some Jvm.ClassFile.FieldType.boolean)) ∈ lw_all := lw_g (lw_at lw_m6 206 rfl) rfl
theorem q1504 : (Jvm.Cond.methodLink "RiverWageModel" (243 : Nat) ({ cls := "RiverWageModel", name := "wrong", desc := "(I)V" } : Jvm.MethodName)) ∈ lw_all := lw_g (lw_at lw_m6 207 rfl) rfl
theorem q1505 : (Jvm.Cond.privateMethod ({ cls := "RiverWageModel", name := "wrong", desc := "(I)V" } : Jvm.MethodName)) ∈ lw_tbl := lw_at lw_m6 208 rfl
theorem q1506 : (Jvm.Cond.instanceMethod ({ cls := "RiverWageModel", name := "wrong", desc := "(I)V" } : Jvm.MethodName)) ∈ lw_all := lw_g (lw_at lw_m6 209 rfl) rfl
theorem q1507 : (Jvm.Cond.code ({ cls := "RiverWageModel", name := "wrong", desc := "(I)V" } : Jvm.MethodName) prog_14_method_10_code (2 : Nat) (Option.none : Option Jvm.ClassFile.FieldType)) ∈ lw_all := lw_g (lw_at lw_m6 210 rfl) rfl
theorem q1508 : (Jvm.Cond.methodLink "RiverWageModel" (356 : Nat) ({ cls := "RiverWageModel", name := "takeWord", desc := "(I)V" } : Jvm.MethodName)) ∈ lw_all := lw_g (lw_at lw_m6 211 rfl) rfl
theorem q1509 : (Jvm.Cond.privateMethod ({ cls := "RiverWageModel", name := "takeWord", desc := "(I)V" } : Jvm.MethodName)) ∈ lw_tbl := lw_at lw_m6 212 rfl
theorem q1510 : (Jvm.Cond.instanceMethod ({ cls := "RiverWageModel", name := "takeWord", desc := "(I)V" } : Jvm.MethodName)) ∈ lw_all := lw_g (lw_at lw_m6 213 rfl) rfl
theorem q1511 : (Jvm.Cond.code ({ cls := "RiverWageModel", name := "takeWord", desc := "(I)V" } : Jvm.MethodName) prog_14_method_16_code (2 : Nat) (Option.none : Option Jvm.ClassFile.FieldType)) ∈ lw_all := lw_g (lw_at lw_m6 214 rfl) rfl
theorem q1512 : (Jvm.Cond.methodLink "RiverWageModel" (250 : Nat) ({ cls := "RiverWageModel", name := "hasWord", desc := "(I)Z" } : Jvm.MethodName)) ∈ lw_all := lw_g (lw_at lw_m6 215 rfl) rfl
theorem q1513 : (Jvm.Cond.privateMethod ({ cls := "RiverWageModel", name := "hasWord", desc := "(I)Z" } : Jvm.MethodName)) ∈ lw_tbl := lw_at lw_m6 216 rfl
theorem q1514 : (Jvm.Cond.instanceMethod ({ cls := "RiverWageModel", name := "hasWord", desc := "(I)Z" } : Jvm.MethodName)) ∈ lw_all := lw_g (lw_at lw_m6 217 rfl) rfl
theorem q1515 : (Jvm.Cond.code ({ cls := "RiverWageModel", name := "hasWord", desc := "(I)Z" } : Jvm.MethodName) prog_14_method_15_code (3 : Nat) (Option.some Jvm.ClassFile.FieldType.boolean)) ∈ lw_all := lw_g (lw_at lw_m6 218 rfl) rfl
theorem q1516 : (Jvm.Cond.methodLink "RiverWageModel" (359 : Nat) ({ cls := "RiverWageModel", name := "all", desc := "(I)V" } : Jvm.MethodName)) ∈ lw_all := lw_g (lw_at lw_m6 219 rfl) rfl
theorem q1517 : (Jvm.Cond.privateMethod ({ cls := "RiverWageModel", name := "all", desc := "(I)V" } : Jvm.MethodName)) ∈ lw_tbl := lw_at lw_m6 220 rfl
theorem q1518 : (Jvm.Cond.instanceMethod ({ cls := "RiverWageModel", name := "all", desc := "(I)V" } : Jvm.MethodName)) ∈ lw_all := lw_g (lw_at lw_m6 221 rfl) rfl
theorem q1519 : (Jvm.Cond.code ({ cls := "RiverWageModel", name := "all", desc := "(I)V" } : Jvm.MethodName) prog_14_method_57_code (3 : Nat) (Option.none : Option Jvm.ClassFile.FieldType)) ∈ lw_all := lw_g (lw_at lw_m6 222 rfl) rfl
theorem q1520 : (Jvm.Cond.methodLink "RiverWageModel" (369 : Nat) ({ cls := "RiverWageModel", name := "test", desc := "(I)V" } : Jvm.MethodName)) ∈ lw_all := lw_g (lw_at lw_m6 223 rfl) rfl
theorem q1521 : (Jvm.Cond.privateMethod ({ cls := "RiverWageModel", name := "test", desc := "(I)V" } : Jvm.MethodName)) ∈ lw_tbl := lw_at lw_m6 224 rfl
theorem q1522 : (Jvm.Cond.instanceMethod ({ cls := "RiverWageModel", name := "test", desc := "(I)V" } : Jvm.MethodName)) ∈ lw_all := lw_g (lw_at lw_m6 225 rfl) rfl
theorem q1523 : (Jvm.Cond.code ({ cls := "RiverWageModel", name := "test", desc := "(I)V" } : Jvm.MethodName) prog_14_method_58_code (3 : Nat) (Option.none : Option Jvm.ClassFile.FieldType)) ∈ lw_all := lw_g (lw_at lw_m6 226 rfl) rfl
theorem q1524 : (Jvm.Cond.methodLink "RiverWageModel" (372 : Nat) ({ cls := "RiverWageModel", name := "sums", desc := "(I)V" } : Jvm.MethodName)) ∈ lw_all := lw_g (lw_at lw_m6 227 rfl) rfl
theorem q1525 : (Jvm.Cond.privateMethod ({ cls := "RiverWageModel", name := "sums", desc := "(I)V" } : Jvm.MethodName)) ∈ lw_tbl := lw_at lw_m6 228 rfl
theorem q1526 : (Jvm.Cond.instanceMethod ({ cls := "RiverWageModel", name := "sums", desc := "(I)V" } : Jvm.MethodName)) ∈ lw_all := lw_g (lw_at lw_m6 229 rfl) rfl
theorem q1527 : (Jvm.Cond.code ({ cls := "RiverWageModel", name := "sums", desc := "(I)V" } : Jvm.MethodName) prog_14_method_59_code (3 : Nat) (Option.none : Option Jvm.ClassFile.FieldType)) ∈ lw_all := lw_g (lw_at lw_m6 230 rfl) rfl
theorem q1528 : (Jvm.Cond.methodLink "RiverWageModel" (378 : Nat) ({ cls := "RiverWageModel", name := "products", desc := "(I)V" } : Jvm.MethodName)) ∈ lw_all := lw_g (lw_at lw_m6 231 rfl) rfl
theorem q1529 : (Jvm.Cond.privateMethod ({ cls := "RiverWageModel", name := "products", desc := "(I)V" } : Jvm.MethodName)) ∈ lw_tbl := lw_at lw_m6 232 rfl
theorem q1530 : (Jvm.Cond.instanceMethod ({ cls := "RiverWageModel", name := "products", desc := "(I)V" } : Jvm.MethodName)) ∈ lw_all := lw_g (lw_at lw_m6 233 rfl) rfl
theorem q1531 : (Jvm.Cond.code ({ cls := "RiverWageModel", name := "products", desc := "(I)V" } : Jvm.MethodName) prog_14_method_60_code (2 : Nat) (Option.none : Option Jvm.ClassFile.FieldType)) ∈ lw_all := lw_g (lw_at lw_m6 234 rfl) rfl
theorem q1532 : (Jvm.Cond.methodLink "RiverWageModel" (381 : Nat) ({ cls := "RiverWageModel", name := "takePart", desc := "(I)V" } : Jvm.MethodName)) ∈ lw_all := lw_g (lw_at lw_m6 235 rfl) rfl
theorem q1533 : (Jvm.Cond.privateMethod ({ cls := "RiverWageModel", name := "takePart", desc := "(I)V" } : Jvm.MethodName)) ∈ lw_tbl := lw_at lw_m6 236 rfl
theorem q1534 : (Jvm.Cond.instanceMethod ({ cls := "RiverWageModel", name := "takePart", desc := "(I)V" } : Jvm.MethodName)) ∈ lw_all := lw_g (lw_at lw_m6 237 rfl) rfl
theorem q1535 : (Jvm.Cond.code ({ cls := "RiverWageModel", name := "takePart", desc := "(I)V" } : Jvm.MethodName) prog_14_method_62_code (4 : Nat) (Option.none : Option Jvm.ClassFile.FieldType)) ∈ lw_all := lw_g (lw_at lw_m6 238 rfl) rfl
theorem q1536 : (Jvm.Cond.methodLink "RiverWageModel" (384 : Nat) ({ cls := "RiverWageModel", name := "factHere", desc := "()I" } : Jvm.MethodName)) ∈ lw_all := lw_g (lw_at lw_m6 239 rfl) rfl
theorem q1537 : (Jvm.Cond.privateMethod ({ cls := "RiverWageModel", name := "factHere", desc := "()I" } : Jvm.MethodName)) ∈ lw_tbl := lw_at lw_m7 0 rfl
theorem q1538 : (Jvm.Cond.instanceMethod ({ cls := "RiverWageModel", name := "factHere", desc := "()I" } : Jvm.MethodName)) ∈ lw_all := lw_g (lw_at lw_m7 1 rfl) rfl
theorem q1539 : (Jvm.Cond.code ({ cls := "RiverWageModel", name := "factHere", desc := "()I" } : Jvm.MethodName) prog_14_method_61_code (3 : Nat) (Option.some Jvm.ClassFile.FieldType.int)) ∈ lw_all := lw_g (lw_at lw_m7 2 rfl) rfl
theorem q1540 : (Jvm.Cond.methodLink "RiverWageModel" (240 : Nat) ({ cls := "RiverWageModel", name := "isSign", desc := "(I)Z" } : Jvm.MethodName)) ∈ lw_all := lw_g (lw_at lw_m7 3 rfl) rfl
theorem q1541 : (Jvm.Cond.privateMethod ({ cls := "RiverWageModel", name := "isSign", desc := "(I)Z" } : Jvm.MethodName)) ∈ lw_tbl := lw_at lw_m7 4 rfl
theorem q1542 : (Jvm.Cond.instanceMethod ({ cls := "RiverWageModel", name := "isSign", desc := "(I)Z" } : Jvm.MethodName)) ∈ lw_all := lw_g (lw_at lw_m7 5 rfl) rfl
theorem q1543 : (Jvm.Cond.code ({ cls := "RiverWageModel", name := "isSign", desc := "(I)Z" } : Jvm.MethodName) prog_14_method_11_code (2 : Nat) (Option.some Jvm.ClassFile.FieldType.boolean)) ∈ lw_all := lw_g (lw_at lw_m7 6 rfl) rfl
theorem q1544 : (Jvm.Cond.methodLink "RiverWageModel" (362 : Nat) ({ cls := "RiverWageModel", name := "emit", desc := "(II)V" } : Jvm.MethodName)) ∈ lw_all := lw_g (lw_at lw_m7 7 rfl) rfl
theorem q1545 : (Jvm.Cond.privateMethod ({ cls := "RiverWageModel", name := "emit", desc := "(II)V" } : Jvm.MethodName)) ∈ lw_tbl := lw_at lw_m7 8 rfl
theorem q1546 : (Jvm.Cond.instanceMethod ({ cls := "RiverWageModel", name := "emit", desc := "(II)V" } : Jvm.MethodName)) ∈ lw_all := lw_g (lw_at lw_m7 9 rfl) rfl
theorem q1547 : (Jvm.Cond.code ({ cls := "RiverWageModel", name := "emit", desc := "(II)V" } : Jvm.MethodName) prog_14_method_53_code (3 : Nat) (Option.none : Option Jvm.ClassFile.FieldType)) ∈ lw_all := lw_g (lw_at lw_m7 10 rfl) rfl
theorem q1548 : (Jvm.Cond.methodLink "RiverWageModel" (375 : Nat) ({ cls := "RiverWageModel", name := "hasSign", desc := "(I)Z" } : Jvm.MethodName)) ∈ lw_all := lw_g (lw_at lw_m7 11 rfl) rfl
theorem q1549 : (Jvm.Cond.privateMethod ({ cls := "RiverWageModel", name := "hasSign", desc := "(I)Z" } : Jvm.MethodName)) ∈ lw_tbl := lw_at lw_m7 12 rfl
theorem q1550 : (Jvm.Cond.instanceMethod ({ cls := "RiverWageModel", name := "hasSign", desc := "(I)Z" } : Jvm.MethodName)) ∈ lw_all := lw_g (lw_at lw_m7 13 rfl) rfl
theorem q1551 : (Jvm.Cond.code ({ cls := "RiverWageModel", name := "hasSign", desc := "(I)Z" } : Jvm.MethodName) prog_14_method_14_code (3 : Nat) (Option.some Jvm.ClassFile.FieldType.boolean)) ∈ lw_all := lw_g (lw_at lw_m7 14 rfl) rfl
theorem q1552 : (Jvm.Cond.methodLink "RiverWageModel" (366 : Nat) ({ cls := "RiverWageModel", name := "takeSign", desc := "(I)V" } : Jvm.MethodName)) ∈ lw_all := lw_g (lw_at lw_m7 15 rfl) rfl
theorem q1553 : (Jvm.Cond.privateMethod ({ cls := "RiverWageModel", name := "takeSign", desc := "(I)V" } : Jvm.MethodName)) ∈ lw_tbl := lw_at lw_m7 16 rfl
theorem q1554 : (Jvm.Cond.instanceMethod ({ cls := "RiverWageModel", name := "takeSign", desc := "(I)V" } : Jvm.MethodName)) ∈ lw_all := lw_g (lw_at lw_m7 17 rfl) rfl
theorem q1555 : (Jvm.Cond.code ({ cls := "RiverWageModel", name := "takeSign", desc := "(I)V" } : Jvm.MethodName) prog_14_method_13_code (2 : Nat) (Option.none : Option Jvm.ClassFile.FieldType)) ∈ lw_all := lw_g (lw_at lw_m7 18 rfl) rfl
theorem q1556 : (Jvm.Cond.methodLink "RiverWageModel" (353 : Nat) ({ cls := "RiverWageModel", name := "keepsCodes", desc := "(I)V" } : Jvm.MethodName)) ∈ lw_all := lw_g (lw_at lw_m7 19 rfl) rfl
theorem q1557 : (Jvm.Cond.privateMethod ({ cls := "RiverWageModel", name := "keepsCodes", desc := "(I)V" } : Jvm.MethodName)) ∈ lw_tbl := lw_at lw_m7 20 rfl
theorem q1558 : (Jvm.Cond.instanceMethod ({ cls := "RiverWageModel", name := "keepsCodes", desc := "(I)V" } : Jvm.MethodName)) ∈ lw_all := lw_g (lw_at lw_m7 21 rfl) rfl
theorem q1559 : (Jvm.Cond.code ({ cls := "RiverWageModel", name := "keepsCodes", desc := "(I)V" } : Jvm.MethodName) prog_14_method_55_code (3 : Nat) (Option.none : Option Jvm.ClassFile.FieldType)) ∈ lw_all := lw_g (lw_at lw_m7 22 rfl) rfl
theorem q1561 : (Jvm.Cond.instanceMethod ({ cls := "RiverWageModel", name := "world", desc := "(IIII)I" } : Jvm.MethodName)) ∈ lw_all := lw_g (lw_at lw_m7 24 rfl) rfl
theorem q1562 : (Jvm.Cond.selects "RiverWageModel" ({ cls := "RiverWageModel", name := "world", desc := "(IIII)I" } : Jvm.MethodName) ({ cls := "RiverWageModel", name := "world", desc := "(IIII)I" } : Jvm.MethodName)) ∈ lw_all := lw_g (lw_at lw_m7 25 rfl) rfl
theorem q1563 : (Jvm.Cond.code ({ cls := "RiverWageModel", name := "world", desc := "(IIII)I" } : Jvm.MethodName) prog_14_method_71_code (5 : Nat) (Option.some Jvm.ClassFile.FieldType.int)) ∈ lw_all := lw_g (lw_at lw_m7 26 rfl) rfl
theorem q1564 : (Jvm.Cond.methodLink "RiverWageModel" (415 : Nat) ({ cls := "RiverWageModel", name := "runs", desc := "(II)V" } : Jvm.MethodName)) ∈ lw_all := lw_g (lw_at lw_m7 27 rfl) rfl
theorem q1565 : (Jvm.Cond.privateMethod ({ cls := "RiverWageModel", name := "runs", desc := "(II)V" } : Jvm.MethodName)) ∈ lw_tbl := lw_at lw_m7 28 rfl
theorem q1566 : (Jvm.Cond.instanceMethod ({ cls := "RiverWageModel", name := "runs", desc := "(II)V" } : Jvm.MethodName)) ∈ lw_all := lw_g (lw_at lw_m7 29 rfl) rfl
theorem q1567 : (Jvm.Cond.code ({ cls := "RiverWageModel", name := "runs", desc := "(II)V" } : Jvm.MethodName) prog_14_method_68_code (7 : Nat) (Option.none : Option Jvm.ClassFile.FieldType)) ∈ lw_all := lw_g (lw_at lw_m7 30 rfl) rfl
theorem q1568 : (Jvm.Cond.constantLong "RiverWageModel" (397 : Nat) (1103515245 : Int64)) ∈ lw_all := lw_g (lw_at lw_m7 31 rfl) rfl
theorem q1569 : (Jvm.Cond.constantLong "RiverWageModel" (399 : Nat) (12345 : Int64)) ∈ lw_all := lw_g (lw_at lw_m7 32 rfl) rfl
theorem q1570 : (Jvm.Cond.constantLong "RiverWageModel" (401 : Nat) (2147483648 : Int64)) ∈ lw_all := lw_g (lw_at lw_m7 33 rfl) rfl
theorem q1571 : (Jvm.Cond.constantLong "RiverWageModel" (403 : Nat) (65536 : Int64)) ∈ lw_all := lw_g (lw_at lw_m7 34 rfl) rfl
theorem q1572 : (Jvm.Cond.methodLink "RiverWageModel" (405 : Nat) ({ cls := "RiverWageModel", name := "goesOn", desc := "(IIII)V" } : Jvm.MethodName)) ∈ lw_all := lw_g (lw_at lw_m7 35 rfl) rfl
theorem q1573 : (Jvm.Cond.privateMethod ({ cls := "RiverWageModel", name := "goesOn", desc := "(IIII)V" } : Jvm.MethodName)) ∈ lw_tbl := lw_at lw_m7 36 rfl
theorem q1574 : (Jvm.Cond.instanceMethod ({ cls := "RiverWageModel", name := "goesOn", desc := "(IIII)V" } : Jvm.MethodName)) ∈ lw_all := lw_g (lw_at lw_m7 37 rfl) rfl
theorem q1575 : (Jvm.Cond.code ({ cls := "RiverWageModel", name := "goesOn", desc := "(IIII)V" } : Jvm.MethodName) prog_14_method_69_code (9 : Nat) (Option.none : Option Jvm.ClassFile.FieldType)) ∈ lw_all := lw_g (lw_at lw_m7 38 rfl) rfl
theorem q1576 : (Jvm.Cond.methodLink "RiverWageModel" (409 : Nat) ({ cls := "RiverWageModel", name := "isSo", desc := "(II)Z" } : Jvm.MethodName)) ∈ lw_all := lw_g (lw_at lw_m7 39 rfl) rfl
theorem q1577 : (Jvm.Cond.privateMethod ({ cls := "RiverWageModel", name := "isSo", desc := "(II)Z" } : Jvm.MethodName)) ∈ lw_tbl := lw_at lw_m7 40 rfl
theorem q1578 : (Jvm.Cond.instanceMethod ({ cls := "RiverWageModel", name := "isSo", desc := "(II)Z" } : Jvm.MethodName)) ∈ lw_all := lw_g (lw_at lw_m7 41 rfl) rfl
theorem q1579 : (Jvm.Cond.code ({ cls := "RiverWageModel", name := "isSo", desc := "(II)Z" } : Jvm.MethodName) prog_14_method_66_code (3 : Nat) (Option.some Jvm.ClassFile.FieldType.boolean)) ∈ lw_all := lw_g (lw_at lw_m7 42 rfl) rfl
theorem q1580 : (Jvm.Cond.methodLink "RiverWageModel" (394 : Nat) ({ cls := "RiverWageModel", name := "worthOf", desc := "(II)I" } : Jvm.MethodName)) ∈ lw_all := lw_g (lw_at lw_m7 43 rfl) rfl
theorem q1581 : (Jvm.Cond.privateMethod ({ cls := "RiverWageModel", name := "worthOf", desc := "(II)I" } : Jvm.MethodName)) ∈ lw_tbl := lw_at lw_m7 44 rfl
theorem q1582 : (Jvm.Cond.instanceMethod ({ cls := "RiverWageModel", name := "worthOf", desc := "(II)I" } : Jvm.MethodName)) ∈ lw_all := lw_g (lw_at lw_m7 45 rfl) rfl
theorem q1583 : (Jvm.Cond.code ({ cls := "RiverWageModel", name := "worthOf", desc := "(II)I" } : Jvm.MethodName) prog_14_method_63_code (3 : Nat) (Option.some Jvm.ClassFile.FieldType.int)) ∈ lw_all := lw_g (lw_at lw_m7 46 rfl) rfl
theorem q1584 : (Jvm.Cond.methodLink "RiverWageModel" (388 : Nat) ({ cls := "RiverWageModel", name := "worthAt", desc := "(I)I" } : Jvm.MethodName)) ∈ lw_all := lw_g (lw_at lw_m7 47 rfl) rfl
theorem q1585 : (Jvm.Cond.privateMethod ({ cls := "RiverWageModel", name := "worthAt", desc := "(I)I" } : Jvm.MethodName)) ∈ lw_tbl := lw_at lw_m7 48 rfl
theorem q1586 : (Jvm.Cond.instanceMethod ({ cls := "RiverWageModel", name := "worthAt", desc := "(I)I" } : Jvm.MethodName)) ∈ lw_all := lw_g (lw_at lw_m7 49 rfl) rfl
theorem q1587 : (Jvm.Cond.code ({ cls := "RiverWageModel", name := "worthAt", desc := "(I)I" } : Jvm.MethodName) prog_14_method_64_code (5 : Nat) (Option.some Jvm.ClassFile.FieldType.int)) ∈ lw_all := lw_g (lw_at lw_m7 50 rfl) rfl
theorem q1588 : (Jvm.Cond.methodLink "RiverWageModel" (391 : Nat) ({ cls := "RiverWageModel", name := "both", desc := "(III)I" } : Jvm.MethodName)) ∈ lw_all := lw_g (lw_at lw_m7 51 rfl) rfl
theorem q1589 : (Jvm.Cond.static ({ cls := "RiverWageModel", name := "both", desc := "(III)I" } : Jvm.MethodName)) ∈ lw_all := lw_g (lw_at lw_m7 52 rfl) rfl
theorem q1590 : (Jvm.Cond.code ({ cls := "RiverWageModel", name := "both", desc := "(III)I" } : Jvm.MethodName) prog_14_method_65_code (3 : Nat) (Option.some Jvm.ClassFile.FieldType.int)) ∈ lw_all := lw_g (lw_at lw_m7 53 rfl) rfl
theorem q1591 : (Jvm.Cond.methodLink "RiverWageModel" (412 : Nat) ({ cls := "RiverWageModel", name := "handsByLine", desc := "(III)I" } : Jvm.MethodName)) ∈ lw_all := lw_g (lw_at lw_m7 54 rfl) rfl
theorem q1592 : (Jvm.Cond.privateMethod ({ cls := "RiverWageModel", name := "handsByLine", desc := "(III)I" } : Jvm.MethodName)) ∈ lw_tbl := lw_at lw_m7 55 rfl
theorem q1593 : (Jvm.Cond.instanceMethod ({ cls := "RiverWageModel", name := "handsByLine", desc := "(III)I" } : Jvm.MethodName)) ∈ lw_all := lw_g (lw_at lw_m7 56 rfl) rfl
theorem q1594 : (Jvm.Cond.code ({ cls := "RiverWageModel", name := "handsByLine", desc := "(III)I" } : Jvm.MethodName) prog_14_method_67_code (5 : Nat) (Option.some Jvm.ClassFile.FieldType.int)) ∈ lw_all := lw_g (lw_at lw_m7 57 rfl) rfl
theorem q1595 : (Jvm.Cond.methodLink "RiverWageModel" (418 : Nat) ({ cls := "RiverWageModel", name := "worldHands", desc := "(II)I" } : Jvm.MethodName)) ∈ lw_all := lw_g (lw_at lw_m7 58 rfl) rfl
theorem q1596 : (Jvm.Cond.privateMethod ({ cls := "RiverWageModel", name := "worldHands", desc := "(II)I" } : Jvm.MethodName)) ∈ lw_tbl := lw_at lw_m7 59 rfl
theorem q1597 : (Jvm.Cond.instanceMethod ({ cls := "RiverWageModel", name := "worldHands", desc := "(II)I" } : Jvm.MethodName)) ∈ lw_all := lw_g (lw_at lw_m7 60 rfl) rfl
theorem q1598 : (Jvm.Cond.code ({ cls := "RiverWageModel", name := "worldHands", desc := "(II)I" } : Jvm.MethodName) prog_14_method_70_code (3 : Nat) (Option.some Jvm.ClassFile.FieldType.int)) ∈ lw_all := lw_g (lw_at lw_m7 61 rfl) rfl
theorem q1600 : (Jvm.Cond.instanceMethod ({ cls := "RiverWageModel", name := "fits", desc := "(II)J" } : Jvm.MethodName)) ∈ lw_all := lw_g (lw_at lw_m7 63 rfl) rfl
theorem q1601 : (Jvm.Cond.selects "RiverWageModel" ({ cls := "RiverWageModel", name := "fits", desc := "(II)J" } : Jvm.MethodName) ({ cls := "RiverWageModel", name := "fits", desc := "(II)J" } : Jvm.MethodName)) ∈ lw_all := lw_g (lw_at lw_m7 64 rfl) rfl
theorem q1602 : (Jvm.Cond.code ({ cls := "RiverWageModel", name := "fits", desc := "(II)J" } : Jvm.MethodName) prog_14_method_74_code (3 : Nat) (Option.some Jvm.ClassFile.FieldType.long)) ∈ lw_all := lw_g (lw_at lw_m7 65 rfl) rfl
theorem q1603 : (Jvm.Cond.methodLink "RiverWageModel" (421 : Nat) ({ cls := "RiverWageModel", name := "areSeeds", desc := "(I)Z" } : Jvm.MethodName)) ∈ lw_all := lw_g (lw_at lw_m7 66 rfl) rfl
theorem q1604 : (Jvm.Cond.static ({ cls := "RiverWageModel", name := "areSeeds", desc := "(I)Z" } : Jvm.MethodName)) ∈ lw_all := lw_g (lw_at lw_m7 67 rfl) rfl
theorem q1605 : (Jvm.Cond.code ({ cls := "RiverWageModel", name := "areSeeds", desc := "(I)Z" } : Jvm.MethodName) prog_14_method_73_code (1 : Nat) (Option.some Jvm.ClassFile.FieldType.boolean)) ∈ lw_all := lw_g (lw_at lw_m7 68 rfl) rfl
theorem q1606 : (Jvm.Cond.methodLink "RiverWageModel" (424 : Nat) ({ cls := "RiverWageModel", name := "fitOf", desc := "(II)J" } : Jvm.MethodName)) ∈ lw_all := lw_g (lw_at lw_m7 69 rfl) rfl
theorem q1607 : (Jvm.Cond.privateMethod ({ cls := "RiverWageModel", name := "fitOf", desc := "(II)J" } : Jvm.MethodName)) ∈ lw_tbl := lw_at lw_m7 70 rfl
theorem q1608 : (Jvm.Cond.instanceMethod ({ cls := "RiverWageModel", name := "fitOf", desc := "(II)J" } : Jvm.MethodName)) ∈ lw_all := lw_g (lw_at lw_m7 71 rfl) rfl
theorem q1609 : (Jvm.Cond.code ({ cls := "RiverWageModel", name := "fitOf", desc := "(II)J" } : Jvm.MethodName) prog_14_method_72_code (8 : Nat) (Option.some Jvm.ClassFile.FieldType.long)) ∈ lw_all := lw_g (lw_at lw_m7 72 rfl) rfl
theorem q1611 : (Jvm.Cond.instanceMethod ({ cls := "RiverWageModel", name := "best", desc := "(I)I" } : Jvm.MethodName)) ∈ lw_all := lw_g (lw_at lw_m7 74 rfl) rfl
theorem q1612 : (Jvm.Cond.selects "RiverWageModel" ({ cls := "RiverWageModel", name := "best", desc := "(I)I" } : Jvm.MethodName) ({ cls := "RiverWageModel", name := "best", desc := "(I)I" } : Jvm.MethodName)) ∈ lw_all := lw_g (lw_at lw_m7 75 rfl) rfl
theorem q1613 : (Jvm.Cond.code ({ cls := "RiverWageModel", name := "best", desc := "(I)I" } : Jvm.MethodName) prog_14_method_75_code (8 : Nat) (Option.some Jvm.ClassFile.FieldType.int)) ∈ lw_all := lw_g (lw_at lw_m7 76 rfl) rfl
theorem q1615 : (Jvm.Cond.instanceMethod ({ cls := "RiverWageModel", name := "rivers", desc := "(IIIII)I" } : Jvm.MethodName)) ∈ lw_all := lw_g (lw_at lw_m7 78 rfl) rfl
theorem q1616 : (Jvm.Cond.selects "RiverWageModel" ({ cls := "RiverWageModel", name := "rivers", desc := "(IIIII)I" } : Jvm.MethodName) ({ cls := "RiverWageModel", name := "rivers", desc := "(IIIII)I" } : Jvm.MethodName)) ∈ lw_all := lw_g (lw_at lw_m7 79 rfl) rfl
theorem q1617 : (Jvm.Cond.code ({ cls := "RiverWageModel", name := "rivers", desc := "(IIIII)I" } : Jvm.MethodName) prog_14_method_76_code (9 : Nat) (Option.some Jvm.ClassFile.FieldType.int)) ∈ lw_all := lw_g (lw_at lw_m7 80 rfl) rfl
theorem q1619 : (Jvm.Cond.instanceMethod ({ cls := "RiverWageModel", name := "other", desc := "(IIZ)I" } : Jvm.MethodName)) ∈ lw_all := lw_g (lw_at lw_m7 82 rfl) rfl
theorem q1620 : (Jvm.Cond.selects "RiverWageModel" ({ cls := "RiverWageModel", name := "other", desc := "(IIZ)I" } : Jvm.MethodName) ({ cls := "RiverWageModel", name := "other", desc := "(IIZ)I" } : Jvm.MethodName)) ∈ lw_all := lw_g (lw_at lw_m7 83 rfl) rfl
theorem q1621 : (Jvm.Cond.code ({ cls := "RiverWageModel", name := "other", desc := "(IIZ)I" } : Jvm.MethodName) prog_14_method_77_code (4 : Nat) (Option.some Jvm.ClassFile.FieldType.int)) ∈ lw_all := lw_g (lw_at lw_m7 84 rfl) rfl
theorem q1623 : (Jvm.Cond.instanceMethod ({ cls := "RiverWageModel", name := "others", desc := "(ZI)J" } : Jvm.MethodName)) ∈ lw_all := lw_g (lw_at lw_m7 86 rfl) rfl
theorem q1624 : (Jvm.Cond.selects "RiverWageModel" ({ cls := "RiverWageModel", name := "others", desc := "(ZI)J" } : Jvm.MethodName) ({ cls := "RiverWageModel", name := "others", desc := "(ZI)J" } : Jvm.MethodName)) ∈ lw_all := lw_g (lw_at lw_m7 87 rfl) rfl
theorem q1625 : (Jvm.Cond.code ({ cls := "RiverWageModel", name := "others", desc := "(ZI)J" } : Jvm.MethodName) prog_14_method_79_code (3 : Nat) (Option.some Jvm.ClassFile.FieldType.long)) ∈ lw_all := lw_g (lw_at lw_m7 88 rfl) rfl
theorem q1626 : (Jvm.Cond.methodLink "RiverWageModel" (431 : Nat) ({ cls := "RiverWageModel", name := "findOthers", desc := "(Z)Z" } : Jvm.MethodName)) ∈ lw_all := lw_g (lw_at lw_m7 89 rfl) rfl
theorem q1627 : (Jvm.Cond.privateMethod ({ cls := "RiverWageModel", name := "findOthers", desc := "(Z)Z" } : Jvm.MethodName)) ∈ lw_tbl := lw_at lw_m7 90 rfl
theorem q1628 : (Jvm.Cond.instanceMethod ({ cls := "RiverWageModel", name := "findOthers", desc := "(Z)Z" } : Jvm.MethodName)) ∈ lw_all := lw_g (lw_at lw_m7 91 rfl) rfl
theorem q1629 : (Jvm.Cond.code ({ cls := "RiverWageModel", name := "findOthers", desc := "(Z)Z" } : Jvm.MethodName) prog_14_method_78_code (3 : Nat) (Option.some Jvm.ClassFile.FieldType.boolean)) ∈ lw_all := lw_g (lw_at lw_m7 92 rfl) rfl
theorem q1631 : (Jvm.Cond.instanceMethod ({ cls := "RiverWageModel", name := "drawer", desc := "(I)I" } : Jvm.MethodName)) ∈ lw_all := lw_g (lw_at lw_m7 94 rfl) rfl
theorem q1632 : (Jvm.Cond.selects "RiverWageModel" ({ cls := "RiverWageModel", name := "drawer", desc := "(I)I" } : Jvm.MethodName) ({ cls := "RiverWageModel", name := "drawer", desc := "(I)I" } : Jvm.MethodName)) ∈ lw_all := lw_g (lw_at lw_m7 95 rfl) rfl
theorem q1633 : (Jvm.Cond.code ({ cls := "RiverWageModel", name := "drawer", desc := "(I)I" } : Jvm.MethodName) prog_14_method_80_code (4 : Nat) (Option.some Jvm.ClassFile.FieldType.int)) ∈ lw_all := lw_g (lw_at lw_m7 96 rfl) rfl
theorem q1635 : (Jvm.Cond.instanceMethod ({ cls := "RiverWageModel", name := "writer", desc := "(I)I" } : Jvm.MethodName)) ∈ lw_all := lw_g (lw_at lw_m7 98 rfl) rfl
theorem q1636 : (Jvm.Cond.selects "RiverWageModel" ({ cls := "RiverWageModel", name := "writer", desc := "(I)I" } : Jvm.MethodName) ({ cls := "RiverWageModel", name := "writer", desc := "(I)I" } : Jvm.MethodName)) ∈ lw_all := lw_g (lw_at lw_m7 99 rfl) rfl
theorem q1637 : (Jvm.Cond.code ({ cls := "RiverWageModel", name := "writer", desc := "(I)I" } : Jvm.MethodName) prog_14_method_82_code (3 : Nat) (Option.some Jvm.ClassFile.FieldType.int)) ∈ lw_all := lw_g (lw_at lw_m7 100 rfl) rfl
theorem q1638 : (Jvm.Cond.methodLink "RiverWageModel" (435 : Nat) ({ cls := "RiverWageModel", name := "isWriterNumber", desc := "(I)Z" } : Jvm.MethodName)) ∈ lw_all := lw_g (lw_at lw_m7 101 rfl) rfl
theorem q1639 : (Jvm.Cond.static ({ cls := "RiverWageModel", name := "isWriterNumber", desc := "(I)Z" } : Jvm.MethodName)) ∈ lw_all := lw_g (lw_at lw_m7 102 rfl) rfl
theorem q1640 : (Jvm.Cond.code ({ cls := "RiverWageModel", name := "isWriterNumber", desc := "(I)Z" } : Jvm.MethodName) prog_14_method_81_code (1 : Nat) (Option.some Jvm.ClassFile.FieldType.boolean)) ∈ lw_all := lw_g (lw_at lw_m7 103 rfl) rfl
theorem q1641 : (Jvm.Cond.methodLink "RiverWageModel" (438 : Nat) ({ cls := "RiverWageModel", name := "readWriterLine", desc := "()V" } : Jvm.MethodName)) ∈ lw_all := lw_g (lw_at lw_m7 104 rfl) rfl
theorem q1642 : (Jvm.Cond.privateMethod ({ cls := "RiverWageModel", name := "readWriterLine", desc := "()V" } : Jvm.MethodName)) ∈ lw_tbl := lw_at lw_m7 105 rfl
theorem q1643 : (Jvm.Cond.instanceMethod ({ cls := "RiverWageModel", name := "readWriterLine", desc := "()V" } : Jvm.MethodName)) ∈ lw_all := lw_g (lw_at lw_m7 106 rfl) rfl
theorem q1644 : (Jvm.Cond.code ({ cls := "RiverWageModel", name := "readWriterLine", desc := "()V" } : Jvm.MethodName) prog_14_method_83_code (3 : Nat) (Option.none : Option Jvm.ClassFile.FieldType)) ∈ lw_all := lw_g (lw_at lw_m7 107 rfl) rfl
theorem q1645 : (Jvm.Cond.constantLong "RiverWageModel" (441 : Nat) (11 : Int64)) ∈ lw_all := lw_g (lw_at lw_m7 108 rfl) rfl
theorem q1647 : (Jvm.Cond.instanceMethod ({ cls := "RiverWageModel", name := "takes", desc := "(II)I" } : Jvm.MethodName)) ∈ lw_all := lw_g (lw_at lw_m7 110 rfl) rfl
theorem q1648 : (Jvm.Cond.selects "RiverWageModel" ({ cls := "RiverWageModel", name := "takes", desc := "(II)I" } : Jvm.MethodName) ({ cls := "RiverWageModel", name := "takes", desc := "(II)I" } : Jvm.MethodName)) ∈ lw_all := lw_g (lw_at lw_m7 111 rfl) rfl
theorem q1649 : (Jvm.Cond.code ({ cls := "RiverWageModel", name := "takes", desc := "(II)I" } : Jvm.MethodName) prog_14_method_87_code (3 : Nat) (Option.some Jvm.ClassFile.FieldType.int)) ∈ lw_all := lw_g (lw_at lw_m7 112 rfl) rfl
theorem q1650 : (Jvm.Cond.methodLink "RiverWageModel" (446 : Nat) ({ cls := "RiverWageModel", name := "tenthsBy", desc := "(I)I" } : Jvm.MethodName)) ∈ lw_all := lw_g (lw_at lw_m7 113 rfl) rfl
theorem q1651 : (Jvm.Cond.privateMethod ({ cls := "RiverWageModel", name := "tenthsBy", desc := "(I)I" } : Jvm.MethodName)) ∈ lw_tbl := lw_at lw_m7 114 rfl
theorem q1652 : (Jvm.Cond.instanceMethod ({ cls := "RiverWageModel", name := "tenthsBy", desc := "(I)I" } : Jvm.MethodName)) ∈ lw_all := lw_g (lw_at lw_m7 115 rfl) rfl
theorem q1653 : (Jvm.Cond.code ({ cls := "RiverWageModel", name := "tenthsBy", desc := "(I)I" } : Jvm.MethodName) prog_14_method_86_code (2 : Nat) (Option.some Jvm.ClassFile.FieldType.int)) ∈ lw_all := lw_g (lw_at lw_m7 116 rfl) rfl
theorem q1654 : (Jvm.Cond.methodLink "RiverWageModel" (449 : Nat) ({ cls := "RiverWageModel", name := "doesTake", desc := "(III)Z" } : Jvm.MethodName)) ∈ lw_all := lw_g (lw_at lw_m7 117 rfl) rfl
theorem q1655 : (Jvm.Cond.privateMethod ({ cls := "RiverWageModel", name := "doesTake", desc := "(III)Z" } : Jvm.MethodName)) ∈ lw_tbl := lw_at lw_m7 118 rfl
theorem q1656 : (Jvm.Cond.instanceMethod ({ cls := "RiverWageModel", name := "doesTake", desc := "(III)Z" } : Jvm.MethodName)) ∈ lw_all := lw_g (lw_at lw_m7 119 rfl) rfl
theorem q1657 : (Jvm.Cond.code ({ cls := "RiverWageModel", name := "doesTake", desc := "(III)Z" } : Jvm.MethodName) prog_14_method_85_code (5 : Nat) (Option.some Jvm.ClassFile.FieldType.boolean)) ∈ lw_all := lw_g (lw_at lw_m7 120 rfl) rfl
theorem q1658 : (Jvm.Cond.methodLink "RiverWageModel" (443 : Nat) ({ cls := "RiverWageModel", name := "monthsOf", desc := "(II)I" } : Jvm.MethodName)) ∈ lw_all := lw_g (lw_at lw_m7 121 rfl) rfl
theorem q1659 : (Jvm.Cond.privateMethod ({ cls := "RiverWageModel", name := "monthsOf", desc := "(II)I" } : Jvm.MethodName)) ∈ lw_tbl := lw_at lw_m7 122 rfl
theorem q1660 : (Jvm.Cond.instanceMethod ({ cls := "RiverWageModel", name := "monthsOf", desc := "(II)I" } : Jvm.MethodName)) ∈ lw_all := lw_g (lw_at lw_m7 123 rfl) rfl
theorem q1661 : (Jvm.Cond.code ({ cls := "RiverWageModel", name := "monthsOf", desc := "(II)I" } : Jvm.MethodName) prog_14_method_84_code (5 : Nat) (Option.some Jvm.ClassFile.FieldType.int)) ∈ lw_all := lw_g (lw_at lw_m7 124 rfl) rfl
theorem q1663 : (Jvm.Cond.instanceMethod ({ cls := "RiverWageModel", name := "writes", desc := "(II)J" } : Jvm.MethodName)) ∈ lw_all := lw_g (lw_at lw_m7 126 rfl) rfl
theorem q1664 : (Jvm.Cond.selects "RiverWageModel" ({ cls := "RiverWageModel", name := "writes", desc := "(II)J" } : Jvm.MethodName) ({ cls := "RiverWageModel", name := "writes", desc := "(II)J" } : Jvm.MethodName)) ∈ lw_all := lw_g (lw_at lw_m7 127 rfl) rfl
theorem q1665 : (Jvm.Cond.code ({ cls := "RiverWageModel", name := "writes", desc := "(II)J" } : Jvm.MethodName) prog_14_method_89_code (3 : Nat) (Option.some Jvm.ClassFile.FieldType.long)) ∈ lw_all := lw_g (lw_at lw_m7 128 rfl) rfl
theorem q1666 : (Jvm.Cond.methodLink "RiverWageModel" (452 : Nat) ({ cls := "RiverWageModel", name := "findWritten", desc := "(II)Z" } : Jvm.MethodName)) ∈ lw_all := lw_g (lw_at lw_m7 129 rfl) rfl
theorem q1667 : (Jvm.Cond.privateMethod ({ cls := "RiverWageModel", name := "findWritten", desc := "(II)Z" } : Jvm.MethodName)) ∈ lw_tbl := lw_at lw_m7 130 rfl
theorem q1668 : (Jvm.Cond.instanceMethod ({ cls := "RiverWageModel", name := "findWritten", desc := "(II)Z" } : Jvm.MethodName)) ∈ lw_all := lw_g (lw_at lw_m7 131 rfl) rfl
theorem q1669 : (Jvm.Cond.code ({ cls := "RiverWageModel", name := "findWritten", desc := "(II)Z" } : Jvm.MethodName) prog_14_method_88_code (6 : Nat) (Option.some Jvm.ClassFile.FieldType.boolean)) ∈ lw_all := lw_g (lw_at lw_m7 132 rfl) rfl
theorem q1671 : (Jvm.Cond.instanceMethod ({ cls := "RiverWageModel", name := "forks", desc := "(I)J" } : Jvm.MethodName)) ∈ lw_all := lw_g (lw_at lw_m7 134 rfl) rfl
theorem q1672 : (Jvm.Cond.selects "RiverWageModel" ({ cls := "RiverWageModel", name := "forks", desc := "(I)J" } : Jvm.MethodName) ({ cls := "RiverWageModel", name := "forks", desc := "(I)J" } : Jvm.MethodName)) ∈ lw_all := lw_g (lw_at lw_m7 135 rfl) rfl
theorem q1673 : (Jvm.Cond.code ({ cls := "RiverWageModel", name := "forks", desc := "(I)J" } : Jvm.MethodName) prog_14_method_90_code (17 : Nat) (Option.some Jvm.ClassFile.FieldType.long)) ∈ lw_all := lw_g (lw_at lw_m7 136 rfl) rfl
theorem q1675 : (Jvm.Cond.instanceMethod ({ cls := "RiverWageModel", name := "book", desc := "(IIII)Z" } : Jvm.MethodName)) ∈ lw_all := lw_g (lw_at lw_m7 138 rfl) rfl
theorem q1676 : (Jvm.Cond.selects "RiverWageModel" ({ cls := "RiverWageModel", name := "book", desc := "(IIII)Z" } : Jvm.MethodName) ({ cls := "RiverWageModel", name := "book", desc := "(IIII)Z" } : Jvm.MethodName)) ∈ lw_all := lw_g (lw_at lw_m7 139 rfl) rfl
theorem q1677 : (Jvm.Cond.code ({ cls := "RiverWageModel", name := "book", desc := "(IIII)Z" } : Jvm.MethodName) prog_14_method_91_code (5 : Nat) (Option.some Jvm.ClassFile.FieldType.boolean)) ∈ lw_all := lw_g (lw_at lw_m7 140 rfl) rfl
theorem q1678 : (Jvm.Cond.constant "RiverWageModel" (455 : Nat) (99999 : Int32)) ∈ lw_all := lw_g (lw_at lw_m7 141 rfl) rfl
theorem q1680 : (Jvm.Cond.instanceMethod ({ cls := "RiverWageModel", name := "booked", desc := "(III)J" } : Jvm.MethodName)) ∈ lw_all := lw_g (lw_at lw_m7 143 rfl) rfl
theorem q1681 : (Jvm.Cond.selects "RiverWageModel" ({ cls := "RiverWageModel", name := "booked", desc := "(III)J" } : Jvm.MethodName) ({ cls := "RiverWageModel", name := "booked", desc := "(III)J" } : Jvm.MethodName)) ∈ lw_all := lw_g (lw_at lw_m7 144 rfl) rfl
theorem q1682 : (Jvm.Cond.code ({ cls := "RiverWageModel", name := "booked", desc := "(III)J" } : Jvm.MethodName) prog_14_method_95_code (5 : Nat) (Option.some Jvm.ClassFile.FieldType.long)) ∈ lw_all := lw_g (lw_at lw_m7 145 rfl) rfl
theorem q1683 : (Jvm.Cond.methodLink "RiverWageModel" (456 : Nat) ({ cls := "RiverWageModel", name := "rateOf", desc := "(II)J" } : Jvm.MethodName)) ∈ lw_all := lw_g (lw_at lw_m7 146 rfl) rfl
theorem q1684 : (Jvm.Cond.privateMethod ({ cls := "RiverWageModel", name := "rateOf", desc := "(II)J" } : Jvm.MethodName)) ∈ lw_tbl := lw_at lw_m7 147 rfl
theorem q1685 : (Jvm.Cond.instanceMethod ({ cls := "RiverWageModel", name := "rateOf", desc := "(II)J" } : Jvm.MethodName)) ∈ lw_all := lw_g (lw_at lw_m7 148 rfl) rfl
theorem q1686 : (Jvm.Cond.code ({ cls := "RiverWageModel", name := "rateOf", desc := "(II)J" } : Jvm.MethodName) prog_14_method_92_code (4 : Nat) (Option.some Jvm.ClassFile.FieldType.long)) ∈ lw_all := lw_g (lw_at lw_m7 149 rfl) rfl
theorem q1687 : (Jvm.Cond.methodLink "RiverWageModel" (459 : Nat) ({ cls := "RiverWageModel", name := "paidOf", desc := "(II)J" } : Jvm.MethodName)) ∈ lw_all := lw_g (lw_at lw_m7 150 rfl) rfl
theorem q1688 : (Jvm.Cond.privateMethod ({ cls := "RiverWageModel", name := "paidOf", desc := "(II)J" } : Jvm.MethodName)) ∈ lw_tbl := lw_at lw_m7 151 rfl
theorem q1689 : (Jvm.Cond.instanceMethod ({ cls := "RiverWageModel", name := "paidOf", desc := "(II)J" } : Jvm.MethodName)) ∈ lw_all := lw_g (lw_at lw_m7 152 rfl) rfl
theorem q1690 : (Jvm.Cond.code ({ cls := "RiverWageModel", name := "paidOf", desc := "(II)J" } : Jvm.MethodName) prog_14_method_93_code (3 : Nat) (Option.some Jvm.ClassFile.FieldType.long)) ∈ lw_all := lw_g (lw_at lw_m7 153 rfl) rfl
theorem q1691 : (Jvm.Cond.methodLink "RiverWageModel" (462 : Nat) ({ cls := "RiverWageModel", name := "restOf", desc := "(II)J" } : Jvm.MethodName)) ∈ lw_all := lw_g (lw_at lw_m7 154 rfl) rfl
theorem q1692 : (Jvm.Cond.privateMethod ({ cls := "RiverWageModel", name := "restOf", desc := "(II)J" } : Jvm.MethodName)) ∈ lw_tbl := lw_at lw_m7 155 rfl
theorem q1693 : (Jvm.Cond.instanceMethod ({ cls := "RiverWageModel", name := "restOf", desc := "(II)J" } : Jvm.MethodName)) ∈ lw_all := lw_g (lw_at lw_m7 156 rfl) rfl
theorem q1694 : (Jvm.Cond.code ({ cls := "RiverWageModel", name := "restOf", desc := "(II)J" } : Jvm.MethodName) prog_14_method_94_code (3 : Nat) (Option.some Jvm.ClassFile.FieldType.long)) ∈ lw_all := lw_g (lw_at lw_m7 157 rfl) rfl
theorem q1696 : (Jvm.Cond.instanceMethod ({ cls := "RiverWageModel", name := "closes", desc := "(IIII)J" } : Jvm.MethodName)) ∈ lw_all := lw_g (lw_at lw_m7 159 rfl) rfl
theorem q1697 : (Jvm.Cond.selects "RiverWageModel" ({ cls := "RiverWageModel", name := "closes", desc := "(IIII)J" } : Jvm.MethodName) ({ cls := "RiverWageModel", name := "closes", desc := "(IIII)J" } : Jvm.MethodName)) ∈ lw_all := lw_g (lw_at lw_m7 160 rfl) rfl
theorem q1698 : (Jvm.Cond.code ({ cls := "RiverWageModel", name := "closes", desc := "(IIII)J" } : Jvm.MethodName) prog_14_method_97_code (8 : Nat) (Option.some Jvm.ClassFile.FieldType.long)) ∈ lw_all := lw_g (lw_at lw_m7 161 rfl) rfl
theorem q1699 : (Jvm.Cond.methodLink "RiverWageModel" (465 : Nat) ({ cls := "RiverWageModel", name := "closesBy", desc := "(IIII)J" } : Jvm.MethodName)) ∈ lw_all := lw_g (lw_at lw_m7 162 rfl) rfl
theorem q1700 : (Jvm.Cond.privateMethod ({ cls := "RiverWageModel", name := "closesBy", desc := "(IIII)J" } : Jvm.MethodName)) ∈ lw_tbl := lw_at lw_m7 163 rfl
theorem q1701 : (Jvm.Cond.instanceMethod ({ cls := "RiverWageModel", name := "closesBy", desc := "(IIII)J" } : Jvm.MethodName)) ∈ lw_all := lw_g (lw_at lw_m7 164 rfl) rfl
theorem q1702 : (Jvm.Cond.code ({ cls := "RiverWageModel", name := "closesBy", desc := "(IIII)J" } : Jvm.MethodName) prog_14_method_96_code (13 : Nat) (Option.some Jvm.ClassFile.FieldType.long)) ∈ lw_all := lw_g (lw_at lw_m7 165 rfl) rfl
theorem q1704 : (Jvm.Cond.instanceMethod ({ cls := "RiverWageModel", name := "lots", desc := "(IIII)J" } : Jvm.MethodName)) ∈ lw_all := lw_g (lw_at lw_m7 167 rfl) rfl
theorem q1705 : (Jvm.Cond.selects "RiverWageModel" ({ cls := "RiverWageModel", name := "lots", desc := "(IIII)J" } : Jvm.MethodName) ({ cls := "RiverWageModel", name := "lots", desc := "(IIII)J" } : Jvm.MethodName)) ∈ lw_all := lw_g (lw_at lw_m7 168 rfl) rfl
theorem q1706 : (Jvm.Cond.code ({ cls := "RiverWageModel", name := "lots", desc := "(IIII)J" } : Jvm.MethodName) prog_14_method_103_code (5 : Nat) (Option.some Jvm.ClassFile.FieldType.long)) ∈ lw_all := lw_g (lw_at lw_m7 169 rfl) rfl
theorem q1707 : (Jvm.Cond.methodLink "RiverWageModel" (482 : Nat) ({ cls := "RiverWageModel", name := "laysLots", desc := "(II)Z" } : Jvm.MethodName)) ∈ lw_all := lw_g (lw_at lw_m7 170 rfl) rfl
theorem q1708 : (Jvm.Cond.privateMethod ({ cls := "RiverWageModel", name := "laysLots", desc := "(II)Z" } : Jvm.MethodName)) ∈ lw_tbl := lw_at lw_m7 171 rfl
theorem q1709 : (Jvm.Cond.instanceMethod ({ cls := "RiverWageModel", name := "laysLots", desc := "(II)Z" } : Jvm.MethodName)) ∈ lw_all := lw_g (lw_at lw_m7 172 rfl) rfl
theorem q1710 : (Jvm.Cond.code ({ cls := "RiverWageModel", name := "laysLots", desc := "(II)Z" } : Jvm.MethodName) prog_14_method_99_code (6 : Nat) (Option.some Jvm.ClassFile.FieldType.boolean)) ∈ lw_all := lw_g (lw_at lw_m7 173 rfl) rfl
theorem q1711 : (Jvm.Cond.constantLong "RiverWageModel" (469 : Nat) (9 : Int64)) ∈ lw_all := lw_g (lw_at lw_m7 174 rfl) rfl
theorem q1712 : (Jvm.Cond.methodLink "RiverWageModel" (485 : Nat) ({ cls := "RiverWageModel", name := "findLots", desc := "(I)V" } : Jvm.MethodName)) ∈ lw_all := lw_g (lw_at lw_m7 175 rfl) rfl
theorem q1713 : (Jvm.Cond.privateMethod ({ cls := "RiverWageModel", name := "findLots", desc := "(I)V" } : Jvm.MethodName)) ∈ lw_tbl := lw_at lw_m7 176 rfl
theorem q1714 : (Jvm.Cond.instanceMethod ({ cls := "RiverWageModel", name := "findLots", desc := "(I)V" } : Jvm.MethodName)) ∈ lw_all := lw_g (lw_at lw_m7 177 rfl) rfl
theorem q1715 : (Jvm.Cond.code ({ cls := "RiverWageModel", name := "findLots", desc := "(I)V" } : Jvm.MethodName) prog_14_method_102_code (7 : Nat) (Option.none : Option Jvm.ClassFile.FieldType)) ∈ lw_all := lw_g (lw_at lw_m7 178 rfl) rfl
theorem q1716 : (Jvm.Cond.methodLink "RiverWageModel" (471 : Nat) ({ cls := "RiverWageModel", name := "signOf", desc := "(J)I" } : Jvm.MethodName)) ∈ lw_all := lw_g (lw_at lw_m7 179 rfl) rfl
theorem q1717 : (Jvm.Cond.static ({ cls := "RiverWageModel", name := "signOf", desc := "(J)I" } : Jvm.MethodName)) ∈ lw_all := lw_g (lw_at lw_m7 180 rfl) rfl
theorem q1718 : (Jvm.Cond.code ({ cls := "RiverWageModel", name := "signOf", desc := "(J)I" } : Jvm.MethodName) prog_14_method_98_code (2 : Nat) (Option.some Jvm.ClassFile.FieldType.int)) ∈ lw_all := lw_g (lw_at lw_m7 181 rfl) rfl
theorem q1719 : (Jvm.Cond.methodLink "RiverWageModel" (475 : Nat) ({ cls := "RiverWageModel", name := "bits", desc := "(I)I" } : Jvm.MethodName)) ∈ lw_all := lw_g (lw_at lw_m7 182 rfl) rfl
theorem q1720 : (Jvm.Cond.static ({ cls := "RiverWageModel", name := "bits", desc := "(I)I" } : Jvm.MethodName)) ∈ lw_all := lw_g (lw_at lw_m7 183 rfl) rfl
theorem q1721 : (Jvm.Cond.code ({ cls := "RiverWageModel", name := "bits", desc := "(I)I" } : Jvm.MethodName) prog_14_method_100_code (3 : Nat) (Option.some Jvm.ClassFile.FieldType.int)) ∈ lw_all := lw_g (lw_at lw_m7 184 rfl) rfl
theorem q1722 : (Jvm.Cond.methodLink "RiverWageModel" (478 : Nat) ({ cls := "RiverWageModel", name := "sumIn", desc := "([II)J" } : Jvm.MethodName)) ∈ lw_all := lw_g (lw_at lw_m7 185 rfl) rfl
theorem q1723 : (Jvm.Cond.static ({ cls := "RiverWageModel", name := "sumIn", desc := "([II)J" } : Jvm.MethodName)) ∈ lw_all := lw_g (lw_at lw_m7 186 rfl) rfl
theorem q1724 : (Jvm.Cond.code ({ cls := "RiverWageModel", name := "sumIn", desc := "([II)J" } : Jvm.MethodName) prog_14_method_101_code (5 : Nat) (Option.some Jvm.ClassFile.FieldType.long)) ∈ lw_all := lw_g (lw_at lw_m7 187 rfl) rfl
theorem q1726 : (Jvm.Cond.instanceMethod ({ cls := "RiverWageModel", name := "needed", desc := "(III)I" } : Jvm.MethodName)) ∈ lw_all := lw_g (lw_at lw_m7 189 rfl) rfl
theorem q1727 : (Jvm.Cond.selects "RiverWageModel" ({ cls := "RiverWageModel", name := "needed", desc := "(III)I" } : Jvm.MethodName) ({ cls := "RiverWageModel", name := "needed", desc := "(III)I" } : Jvm.MethodName)) ∈ lw_all := lw_g (lw_at lw_m7 190 rfl) rfl
theorem q1728 : (Jvm.Cond.code ({ cls := "RiverWageModel", name := "needed", desc := "(III)I" } : Jvm.MethodName) prog_14_method_104_code (5 : Nat) (Option.some Jvm.ClassFile.FieldType.int)) ∈ lw_all := lw_g (lw_at lw_m7 191 rfl) rfl
theorem q1729 : (Jvm.Cond.constantLong "RiverWageModel" (488 : Nat) (100 : Int64)) ∈ lw_all := lw_g (lw_at lw_m7 192 rfl) rfl
theorem q1731 : (Jvm.Cond.instanceMethod ({ cls := "RiverWageModel", name := "slips", desc := "(II)I" } : Jvm.MethodName)) ∈ lw_all := lw_g (lw_at lw_m7 194 rfl) rfl
theorem q1732 : (Jvm.Cond.selects "RiverWageModel" ({ cls := "RiverWageModel", name := "slips", desc := "(II)I" } : Jvm.MethodName) ({ cls := "RiverWageModel", name := "slips", desc := "(II)I" } : Jvm.MethodName)) ∈ lw_all := lw_g (lw_at lw_m7 195 rfl) rfl
theorem q1733 : (Jvm.Cond.code ({ cls := "RiverWageModel", name := "slips", desc := "(II)I" } : Jvm.MethodName) prog_14_method_106_code (9 : Nat) (Option.some Jvm.ClassFile.FieldType.int)) ∈ lw_all := lw_g (lw_at lw_m7 196 rfl) rfl
theorem q1734 : (Jvm.Cond.methodLink "RiverWageModel" (490 : Nat) ({ cls := "RiverWageModel", name := "sheetHands", desc := "(I)I" } : Jvm.MethodName)) ∈ lw_all := lw_g (lw_at lw_m7 197 rfl) rfl
theorem q1735 : (Jvm.Cond.privateMethod ({ cls := "RiverWageModel", name := "sheetHands", desc := "(I)I" } : Jvm.MethodName)) ∈ lw_tbl := lw_at lw_m7 198 rfl
theorem q1736 : (Jvm.Cond.instanceMethod ({ cls := "RiverWageModel", name := "sheetHands", desc := "(I)I" } : Jvm.MethodName)) ∈ lw_all := lw_g (lw_at lw_m7 199 rfl) rfl
theorem q1737 : (Jvm.Cond.code ({ cls := "RiverWageModel", name := "sheetHands", desc := "(I)I" } : Jvm.MethodName) prog_14_method_105_code (2 : Nat) (Option.some Jvm.ClassFile.FieldType.int)) ∈ lw_all := lw_g (lw_at lw_m7 200 rfl) rfl
theorem q1739 : (Jvm.Cond.instanceMethod ({ cls := "RiverWageModel", name := "mixed", desc := "(III)J" } : Jvm.MethodName)) ∈ lw_all := lw_g (lw_at lw_m7 202 rfl) rfl
theorem q1740 : (Jvm.Cond.selects "RiverWageModel" ({ cls := "RiverWageModel", name := "mixed", desc := "(III)J" } : Jvm.MethodName) ({ cls := "RiverWageModel", name := "mixed", desc := "(III)J" } : Jvm.MethodName)) ∈ lw_all := lw_g (lw_at lw_m7 203 rfl) rfl
theorem q1741 : (Jvm.Cond.code ({ cls := "RiverWageModel", name := "mixed", desc := "(III)J" } : Jvm.MethodName) prog_14_method_107_code (10 : Nat) (Option.some Jvm.ClassFile.FieldType.long)) ∈ lw_all := lw_g (lw_at lw_m7 204 rfl) rfl
theorem q1743 : (Jvm.Cond.instanceMethod ({ cls := "RiverWageModel", name := "where", desc := "(I)I" } : Jvm.MethodName)) ∈ lw_all := lw_g (lw_at lw_m7 206 rfl) rfl
theorem q1744 : (Jvm.Cond.selects "RiverWageModel" ({ cls := "RiverWageModel", name := "where", desc := "(I)I" } : Jvm.MethodName) ({ cls := "RiverWageModel", name := "where", desc := "(I)I" } : Jvm.MethodName)) ∈ lw_all := lw_g (lw_at lw_m7 207 rfl) rfl
theorem q1745 : (Jvm.Cond.code ({ cls := "RiverWageModel", name := "where", desc := "(I)I" } : Jvm.MethodName) prog_14_method_109_code (5 : Nat) (Option.some Jvm.ClassFile.FieldType.int)) ∈ lw_all := lw_g (lw_at lw_m7 208 rfl) rfl
theorem q1746 : (Jvm.Cond.methodLink "RiverWageModel" (493 : Nat) ({ cls := "RiverWageModel", name := "weightOf", desc := "(I)I" } : Jvm.MethodName)) ∈ lw_all := lw_g (lw_at lw_m7 209 rfl) rfl
theorem q1747 : (Jvm.Cond.privateMethod ({ cls := "RiverWageModel", name := "weightOf", desc := "(I)I" } : Jvm.MethodName)) ∈ lw_tbl := lw_at lw_m7 210 rfl
theorem q1748 : (Jvm.Cond.instanceMethod ({ cls := "RiverWageModel", name := "weightOf", desc := "(I)I" } : Jvm.MethodName)) ∈ lw_all := lw_g (lw_at lw_m7 211 rfl) rfl
theorem q1749 : (Jvm.Cond.code ({ cls := "RiverWageModel", name := "weightOf", desc := "(I)I" } : Jvm.MethodName) prog_14_method_108_code (9 : Nat) (Option.some Jvm.ClassFile.FieldType.int)) ∈ lw_all := lw_g (lw_at lw_m7 212 rfl) rfl
theorem q1751 : (Jvm.Cond.instanceMethod ({ cls := "RiverWageModel", name := "mark", desc := "(IZ)Z" } : Jvm.MethodName)) ∈ lw_all := lw_g (lw_at lw_m7 214 rfl) rfl
theorem q1752 : (Jvm.Cond.selects "RiverWageModel" ({ cls := "RiverWageModel", name := "mark", desc := "(IZ)Z" } : Jvm.MethodName) ({ cls := "RiverWageModel", name := "mark", desc := "(IZ)Z" } : Jvm.MethodName)) ∈ lw_all := lw_g (lw_at lw_m7 215 rfl) rfl
theorem q1753 : (Jvm.Cond.code ({ cls := "RiverWageModel", name := "mark", desc := "(IZ)Z" } : Jvm.MethodName) prog_14_method_111_code (4 : Nat) (Option.some Jvm.ClassFile.FieldType.boolean)) ∈ lw_all := lw_g (lw_at lw_m7 216 rfl) rfl
theorem q1754 : (Jvm.Cond.methodLink "RiverWageModel" (496 : Nat) ({ cls := "RiverWageModel", name := "keeps", desc := "(I[IZ)V" } : Jvm.MethodName)) ∈ lw_all := lw_g (lw_at lw_m7 217 rfl) rfl
theorem q1755 : (Jvm.Cond.privateMethod ({ cls := "RiverWageModel", name := "keeps", desc := "(I[IZ)V" } : Jvm.MethodName)) ∈ lw_tbl := lw_at lw_m7 218 rfl
theorem q1756 : (Jvm.Cond.instanceMethod ({ cls := "RiverWageModel", name := "keeps", desc := "(I[IZ)V" } : Jvm.MethodName)) ∈ lw_all := lw_g (lw_at lw_m7 219 rfl) rfl
theorem q1757 : (Jvm.Cond.code ({ cls := "RiverWageModel", name := "keeps", desc := "(I[IZ)V" } : Jvm.MethodName) prog_14_method_110_code (5 : Nat) (Option.none : Option Jvm.ClassFile.FieldType)) ∈ lw_all := lw_g (lw_at lw_m7 220 rfl) rfl
theorem q1759 : (Jvm.Cond.instanceMethod ({ cls := "RiverWageModel", name := "count", desc := "(I)I" } : Jvm.MethodName)) ∈ lw_all := lw_g (lw_at lw_m7 222 rfl) rfl
theorem q1760 : (Jvm.Cond.selects "RiverWageModel" ({ cls := "RiverWageModel", name := "count", desc := "(I)I" } : Jvm.MethodName) ({ cls := "RiverWageModel", name := "count", desc := "(I)I" } : Jvm.MethodName)) ∈ lw_all := lw_g (lw_at lw_m7 223 rfl) rfl
theorem q1761 : (Jvm.Cond.code ({ cls := "RiverWageModel", name := "count", desc := "(I)I" } : Jvm.MethodName) prog_14_method_112_code (4 : Nat) (Option.some Jvm.ClassFile.FieldType.int)) ∈ lw_all := lw_g (lw_at lw_m7 224 rfl) rfl
theorem q1770 : (Jvm.Cond.castable "RiverWageModel" "java/lang/Object") ∈ lw_tbl := lw_at lw_m7 233 rfl
theorem in_X7 : ∀ w ∈ wsX70, w ∈ lw_all := lw_in wsX70 [1214, 1216, 1218, 1220, 1222, 1224, 1226, 1228, 1230, 1232, 1234, 1236, 1238, 1240, 1242, 1244, 1246, 1248, 1250, 1252, 1254, 1256, 1258, 1260, 1262, 1264, 1266, 1268, 1270, 1272, 1274, 1276, 1278, 1280, 1282, 1284, 1286, 1288, 1290, 1292, 1294, 1296, 1298, 1300, 1302, 1304, 1306, 1308, 1310, 1312, 1314, 1316, 1318, 1320, 1322, 1324, 1326, 1328] (by decide +kernel) (by decide +kernel)

/-! RiverWage$Wrong -/
set_option maxRecDepth 100000
def RX8 : String := "RiverWage$Wrong"
def TX8 : u_T := fun k => match k with
  | 0 => ("java/lang/Throwable", "cause", "Ljava/lang/Throwable;", false)
  | 1 => ("java/lang/Throwable", "stackTrace", "[Ljava/lang/StackTraceElement;", false)
  | 2 => ("java/lang/Throwable", "suppressedExceptions", "Ljava/util/List;", false)
  | 3 => ("java/lang/Throwable", "detailMessage", "Ljava/lang/String;", false)
  | 4 => ("java/lang/Throwable", "backtrace", "Ljava/lang/Object;", false)
  | 5 => ("java/lang/Throwable", "depth", "I", false)
  | _ => ("RiverWage$Wrong", "fault", "I", true)
def tyX8 : Nat → FieldType := fun k => match k with
  | 0 => .object "java/lang/Throwable"
  | 1 => .array (.object "java/lang/StackTraceElement")
  | 2 => .object "java/util/List"
  | 3 => .object "java/lang/String"
  | 4 => .object "java/lang/Object"
  | 5 => .int
  | _ => .int
abbrev wsX80 : List Cond := u_ws RX8 TX8 7
theorem nmX8 : ∀ a, a < 7 → ∀ b, b < 7 → a ≠ b → (TX8 a).2.1 ≠ (TX8 b).2.1 := by decide +kernel
theorem tyX8_ok : ∀ k, k < 7 → parseFieldDescriptor (TX8 k).2.2.1 = some (tyX8 k) := by decide +kernel
abbrev cX8_init : ByteArray := prog_12_method_1_code
def yX8_init : MethodName := ⟨RX8, "<init>", "(II)V"⟩
theorem q115 : (Jvm.Cond.initialized "RiverWage$Wrong") ∈ lw_all := lw_g (lw_at lw_m1 18 rfl) rfl
theorem q642 : (Jvm.Cond.instantiable "RiverWage$Wrong" (7 : Nat)) ∈ lw_all := lw_g (lw_at lw_m3 65 rfl) rfl
theorem q643 : (Jvm.Cond.castable "RiverWage$Wrong" "RiverWage$Wrong") ∈ lw_tbl := lw_at lw_m3 66 rfl
theorem q650 : (Jvm.Cond.selects "RiverWage$Wrong" ({ cls := "java/lang/Throwable", name := "fillInStackTrace", desc := "(I)Ljava/lang/Throwable;" } : Jvm.MethodName) ({ cls := "java/lang/Throwable", name := "fillInStackTrace", desc := "(I)Ljava/lang/Throwable;" } : Jvm.MethodName)) ∈ lw_all := lw_g (lw_at lw_m3 73 rfl) rfl
theorem q651 : (Jvm.Cond.selects "RiverWage$Wrong" ({ cls := "java/lang/Throwable", name := "fillInStackTrace", desc := "()Ljava/lang/Throwable;" } : Jvm.MethodName) ({ cls := "java/lang/Throwable", name := "fillInStackTrace", desc := "()Ljava/lang/Throwable;" } : Jvm.MethodName)) ∈ lw_all := lw_g (lw_at lw_m3 74 rfl) rfl
theorem q652 : (Jvm.Cond.lays "RiverWage$Wrong" "java/lang/Throwable" "cause" "Ljava/lang/Throwable;") ∈ lw_all := lw_g (lw_at lw_m3 75 rfl) rfl
theorem q654 : (Jvm.Cond.lays "RiverWage$Wrong" "java/lang/Throwable" "stackTrace" "[Ljava/lang/StackTraceElement;") ∈ lw_all := lw_g (lw_at lw_m3 77 rfl) rfl
theorem q656 : (Jvm.Cond.lays "RiverWage$Wrong" "java/lang/Throwable" "suppressedExceptions" "Ljava/util/List;") ∈ lw_all := lw_g (lw_at lw_m3 79 rfl) rfl
theorem q658 : (Jvm.Cond.lays "RiverWage$Wrong" "java/lang/Throwable" "detailMessage" "Ljava/lang/String;") ∈ lw_all := lw_g (lw_at lw_m3 81 rfl) rfl
theorem q660 : (Jvm.Cond.lays "RiverWage$Wrong" "java/lang/Throwable" "backtrace" "Ljava/lang/Object;") ∈ lw_all := lw_g (lw_at lw_m3 83 rfl) rfl
theorem q682 : (Jvm.Cond.instanceMethod ({ cls := "RiverWage$Wrong", name := "<init>", desc := "(II)V" } : Jvm.MethodName)) ∈ lw_all := lw_g (lw_at lw_m3 105 rfl) rfl
theorem q683 : (Jvm.Cond.code ({ cls := "RiverWage$Wrong", name := "<init>", desc := "(II)V" } : Jvm.MethodName) prog_12_method_1_code (3 : Nat) (Option.none : Option Jvm.ClassFile.FieldType)) ∈ lw_all := lw_g (lw_at lw_m3 106 rfl) rfl
theorem q684 : (Jvm.Cond.methodLink "RiverWage$Wrong" (1 : Nat) ({ cls := "java/lang/RuntimeException", name := "<init>", desc := "(Ljava/lang/String;Ljava/lang/Throwable;ZZ)V" } : Jvm.MethodName)) ∈ lw_all := lw_g (lw_at lw_m3 107 rfl) rfl
theorem q693 : (Jvm.Cond.fieldLink "RiverWage$Wrong" (7 : Nat) "RiverWage$Wrong" "fault" "I") ∈ lw_all := lw_g (lw_at lw_m3 116 rfl) rfl
theorem q700 : (Jvm.Cond.laysFinal "RiverWage$Wrong" "RiverWage$Wrong" "fault" "I") ∈ lw_all := lw_g (lw_at lw_m3 123 rfl) rfl
theorem q701 : (Jvm.Cond.soleField "RiverWage$Wrong" "fault") ∈ lw_all := lw_g (lw_at lw_m3 124 rfl) rfl
theorem q706 : (Jvm.Cond.lays "RiverWage$Wrong" "java/lang/Throwable" "depth" "I") ∈ lw_all := lw_g (lw_at lw_m3 129 rfl) rfl
theorem q709 : (Jvm.Cond.superclass "RiverWage$Wrong" "java/lang/RuntimeException") ∈ lw_all := lw_g (lw_at lw_m3 132 rfl) rfl
theorem q1772 : (Jvm.Cond.castable "RiverWage$Wrong" "java/lang/Object") ∈ lw_tbl := lw_at lw_m7 235 rfl
theorem in_X8 : ∀ w ∈ wsX80, w ∈ lw_all := lw_in wsX80 [652, 654, 656, 658, 660, 706, 700] (by decide +kernel) (by decide +kernel)

/-! RiverWage$Expression -/
set_option maxRecDepth 100000
def RX9 : String := "RiverWage$Expression"
abbrev cX9_init : ByteArray := prog_2_method_1_code
def yX9_init : MethodName := ⟨RX9, "<init>", "()V"⟩
theorem q116 : (Jvm.Cond.initialized "RiverWage$Expression") ∈ lw_all := lw_g (lw_at lw_m1 19 rfl) rfl
theorem q750 : (Jvm.Cond.instanceMethod ({ cls := "RiverWage$Expression", name := "<init>", desc := "()V" } : Jvm.MethodName)) ∈ lw_all := lw_g (lw_at lw_m3 173 rfl) rfl
theorem q751 : (Jvm.Cond.code ({ cls := "RiverWage$Expression", name := "<init>", desc := "()V" } : Jvm.MethodName) prog_2_method_1_code (1 : Nat) (Option.none : Option Jvm.ClassFile.FieldType)) ∈ lw_all := lw_g (lw_at lw_m3 174 rfl) rfl
theorem q752 : (Jvm.Cond.methodLink "RiverWage$Expression" (1 : Nat) ({ cls := "java/lang/Object", name := "<init>", desc := "()V" } : Jvm.MethodName)) ∈ lw_all := lw_g (lw_at lw_m3 175 rfl) rfl
theorem q819 : (Jvm.Cond.declares ({ cls := "RiverWage$Expression", name := "worked", desc := "([I)I" } : Jvm.MethodName)) ∈ lw_tbl := lw_at lw_m4 2 rfl
theorem q820 : (Jvm.Cond.sameMethod "RiverWage$Expression" "RiverWage$Expression" "worked" "([I)I") ∈ lw_all := lw_g (lw_at lw_m4 3 rfl) rfl

/-! RiverWage$Given -/
set_option maxRecDepth 100000
def RX10 : String := "RiverWage$Given"
def TX10 : u_T := fun k => match k with
  | _ => ("RiverWage$Given", "n", "I", true)
def tyX10 : Nat → FieldType := fun k => match k with
  | _ => .int
abbrev wsX100 : List Cond := u_ws RX10 TX10 1
theorem nmX10 : ∀ a, a < 1 → ∀ b, b < 1 → a ≠ b → (TX10 a).2.1 ≠ (TX10 b).2.1 := by decide +kernel
theorem tyX10_ok : ∀ k, k < 1 → parseFieldDescriptor (TX10 k).2.2.1 = some (tyX10 k) := by decide +kernel
abbrev cX10_init : ByteArray := prog_4_method_1_code
abbrev cX10_worked : ByteArray := prog_4_method_2_code
def yX10_init : MethodName := ⟨RX10, "<init>", "(I)V"⟩
def yX10_worked : MethodName := ⟨RX10, "worked", "([I)I"⟩
theorem q117 : (Jvm.Cond.initialized "RiverWage$Given") ∈ lw_all := lw_g (lw_at lw_m1 20 rfl) rfl
theorem q741 : (Jvm.Cond.instantiable "RiverWage$Given" (1 : Nat)) ∈ lw_all := lw_g (lw_at lw_m3 164 rfl) rfl
theorem q747 : (Jvm.Cond.instanceMethod ({ cls := "RiverWage$Given", name := "<init>", desc := "(I)V" } : Jvm.MethodName)) ∈ lw_all := lw_g (lw_at lw_m3 170 rfl) rfl
theorem q748 : (Jvm.Cond.code ({ cls := "RiverWage$Given", name := "<init>", desc := "(I)V" } : Jvm.MethodName) prog_4_method_1_code (2 : Nat) (Option.none : Option Jvm.ClassFile.FieldType)) ∈ lw_all := lw_g (lw_at lw_m3 171 rfl) rfl
theorem q749 : (Jvm.Cond.methodLinkNest "RiverWage$Given" (1 : Nat) ({ cls := "RiverWage$Expression", name := "<init>", desc := "()V" } : Jvm.MethodName) "RiverWage") ∈ lw_tbl := lw_at lw_m3 172 rfl
theorem q753 : (Jvm.Cond.fieldLink "RiverWage$Given" (7 : Nat) "RiverWage$Given" "n" "I") ∈ lw_all := lw_g (lw_at lw_m3 176 rfl) rfl
theorem q754 : (Jvm.Cond.laysFinal "RiverWage$Given" "RiverWage$Given" "n" "I") ∈ lw_all := lw_g (lw_at lw_m3 177 rfl) rfl
theorem q755 : (Jvm.Cond.soleField "RiverWage$Given" "n") ∈ lw_all := lw_g (lw_at lw_m3 178 rfl) rfl
theorem q756 : (Jvm.Cond.superclass "RiverWage$Given" "RiverWage$Expression") ∈ lw_all := lw_g (lw_at lw_m3 179 rfl) rfl
theorem q824 : (Jvm.Cond.selects "RiverWage$Given" ({ cls := "RiverWage$Expression", name := "worked", desc := "([I)I" } : Jvm.MethodName) ({ cls := "RiverWage$Given", name := "worked", desc := "([I)I" } : Jvm.MethodName)) ∈ lw_all := lw_g (lw_at lw_m4 7 rfl) rfl
theorem q825 : (Jvm.Cond.instanceMethod ({ cls := "RiverWage$Given", name := "worked", desc := "([I)I" } : Jvm.MethodName)) ∈ lw_all := lw_g (lw_at lw_m4 8 rfl) rfl
theorem q826 : (Jvm.Cond.code ({ cls := "RiverWage$Given", name := "worked", desc := "([I)I" } : Jvm.MethodName) prog_4_method_2_code (2 : Nat) (Option.some Jvm.ClassFile.FieldType.int)) ∈ lw_all := lw_g (lw_at lw_m4 9 rfl) rfl
theorem q1773 : (Jvm.Cond.castable "RiverWage$Given" "java/lang/Object") ∈ lw_tbl := lw_at lw_m7 236 rfl
theorem q1779 : (Jvm.Cond.castable "RiverWage$Given" "RiverWage$Expression") ∈ lw_tbl := lw_at lw_m8 2 rfl
theorem in_X10 : ∀ w ∈ wsX100, w ∈ lw_all := lw_in wsX100 [754] (by decide +kernel) (by decide +kernel)

/-! RiverWage$Fact -/
set_option maxRecDepth 100000
def RX11 : String := "RiverWage$Fact"
def TX11 : u_T := fun k => match k with
  | _ => ("RiverWage$Fact", "which", "I", true)
def tyX11 : Nat → FieldType := fun k => match k with
  | _ => .int
abbrev wsX110 : List Cond := u_ws RX11 TX11 1
theorem nmX11 : ∀ a, a < 1 → ∀ b, b < 1 → a ≠ b → (TX11 a).2.1 ≠ (TX11 b).2.1 := by decide +kernel
theorem tyX11_ok : ∀ k, k < 1 → parseFieldDescriptor (TX11 k).2.2.1 = some (tyX11 k) := by decide +kernel
abbrev cX11_init : ByteArray := prog_3_method_1_code
abbrev cX11_worked : ByteArray := prog_3_method_2_code
def yX11_init : MethodName := ⟨RX11, "<init>", "(I)V"⟩
def yX11_worked : MethodName := ⟨RX11, "worked", "([I)I"⟩
theorem q118 : (Jvm.Cond.initialized "RiverWage$Fact") ∈ lw_all := lw_g (lw_at lw_m1 21 rfl) rfl
theorem q758 : (Jvm.Cond.instantiable "RiverWage$Fact" (1 : Nat)) ∈ lw_all := lw_g (lw_at lw_m3 181 rfl) rfl
theorem q760 : (Jvm.Cond.instanceMethod ({ cls := "RiverWage$Fact", name := "<init>", desc := "(I)V" } : Jvm.MethodName)) ∈ lw_all := lw_g (lw_at lw_m3 183 rfl) rfl
theorem q761 : (Jvm.Cond.code ({ cls := "RiverWage$Fact", name := "<init>", desc := "(I)V" } : Jvm.MethodName) prog_3_method_1_code (2 : Nat) (Option.none : Option Jvm.ClassFile.FieldType)) ∈ lw_all := lw_g (lw_at lw_m3 184 rfl) rfl
theorem q762 : (Jvm.Cond.methodLinkNest "RiverWage$Fact" (1 : Nat) ({ cls := "RiverWage$Expression", name := "<init>", desc := "()V" } : Jvm.MethodName) "RiverWage") ∈ lw_tbl := lw_at lw_m3 185 rfl
theorem q763 : (Jvm.Cond.fieldLink "RiverWage$Fact" (7 : Nat) "RiverWage$Fact" "which" "I") ∈ lw_all := lw_g (lw_at lw_m3 186 rfl) rfl
theorem q764 : (Jvm.Cond.laysFinal "RiverWage$Fact" "RiverWage$Fact" "which" "I") ∈ lw_all := lw_g (lw_at lw_m3 187 rfl) rfl
theorem q765 : (Jvm.Cond.soleField "RiverWage$Fact" "which") ∈ lw_all := lw_g (lw_at lw_m3 188 rfl) rfl
theorem q766 : (Jvm.Cond.superclass "RiverWage$Fact" "RiverWage$Expression") ∈ lw_all := lw_g (lw_at lw_m3 189 rfl) rfl
theorem q821 : (Jvm.Cond.selects "RiverWage$Fact" ({ cls := "RiverWage$Expression", name := "worked", desc := "([I)I" } : Jvm.MethodName) ({ cls := "RiverWage$Fact", name := "worked", desc := "([I)I" } : Jvm.MethodName)) ∈ lw_all := lw_g (lw_at lw_m4 4 rfl) rfl
theorem q822 : (Jvm.Cond.instanceMethod ({ cls := "RiverWage$Fact", name := "worked", desc := "([I)I" } : Jvm.MethodName)) ∈ lw_all := lw_g (lw_at lw_m4 5 rfl) rfl
theorem q823 : (Jvm.Cond.code ({ cls := "RiverWage$Fact", name := "worked", desc := "([I)I" } : Jvm.MethodName) prog_3_method_2_code (2 : Nat) (Option.some Jvm.ClassFile.FieldType.int)) ∈ lw_all := lw_g (lw_at lw_m4 6 rfl) rfl
theorem q1774 : (Jvm.Cond.castable "RiverWage$Fact" "java/lang/Object") ∈ lw_tbl := lw_at lw_m7 237 rfl
theorem q1780 : (Jvm.Cond.castable "RiverWage$Fact" "RiverWage$Expression") ∈ lw_tbl := lw_at lw_m8 3 rfl
theorem in_X11 : ∀ w ∈ wsX110, w ∈ lw_all := lw_in wsX110 [764] (by decide +kernel) (by decide +kernel)

/-! RiverWage$Not -/
set_option maxRecDepth 100000
def RX12 : String := "RiverWage$Not"
def TX12 : u_T := fun k => match k with
  | _ => ("RiverWage$Not", "part", "LRiverWage$Expression;", true)
def tyX12 : Nat → FieldType := fun k => match k with
  | _ => .object "RiverWage$Expression"
abbrev wsX120 : List Cond := u_ws RX12 TX12 1
theorem nmX12 : ∀ a, a < 1 → ∀ b, b < 1 → a ≠ b → (TX12 a).2.1 ≠ (TX12 b).2.1 := by decide +kernel
theorem tyX12_ok : ∀ k, k < 1 → parseFieldDescriptor (TX12 k).2.2.1 = some (tyX12 k) := by decide +kernel
abbrev cX12_init : ByteArray := prog_8_method_1_code
abbrev cX12_worked : ByteArray := prog_8_method_2_code
def yX12_init : MethodName := ⟨RX12, "<init>", "(LRiverWage$Expression;)V"⟩
def yX12_worked : MethodName := ⟨RX12, "worked", "([I)I"⟩
theorem q119 : (Jvm.Cond.initialized "RiverWage$Not") ∈ lw_all := lw_g (lw_at lw_m1 22 rfl) rfl
theorem q768 : (Jvm.Cond.instantiable "RiverWage$Not" (1 : Nat)) ∈ lw_all := lw_g (lw_at lw_m3 191 rfl) rfl
theorem q770 : (Jvm.Cond.instanceMethod ({ cls := "RiverWage$Not", name := "<init>", desc := "(LRiverWage$Expression;)V" } : Jvm.MethodName)) ∈ lw_all := lw_g (lw_at lw_m3 193 rfl) rfl
theorem q771 : (Jvm.Cond.code ({ cls := "RiverWage$Not", name := "<init>", desc := "(LRiverWage$Expression;)V" } : Jvm.MethodName) prog_8_method_1_code (2 : Nat) (Option.none : Option Jvm.ClassFile.FieldType)) ∈ lw_all := lw_g (lw_at lw_m3 194 rfl) rfl
theorem q772 : (Jvm.Cond.methodLinkNest "RiverWage$Not" (1 : Nat) ({ cls := "RiverWage$Expression", name := "<init>", desc := "()V" } : Jvm.MethodName) "RiverWage") ∈ lw_tbl := lw_at lw_m3 195 rfl
theorem q773 : (Jvm.Cond.fieldLink "RiverWage$Not" (7 : Nat) "RiverWage$Not" "part" "LRiverWage$Expression;") ∈ lw_all := lw_g (lw_at lw_m3 196 rfl) rfl
theorem q774 : (Jvm.Cond.laysFinal "RiverWage$Not" "RiverWage$Not" "part" "LRiverWage$Expression;") ∈ lw_all := lw_g (lw_at lw_m3 197 rfl) rfl
theorem q775 : (Jvm.Cond.soleField "RiverWage$Not" "part") ∈ lw_all := lw_g (lw_at lw_m3 198 rfl) rfl
theorem q776 : (Jvm.Cond.superclass "RiverWage$Not" "RiverWage$Expression") ∈ lw_all := lw_g (lw_at lw_m3 199 rfl) rfl
theorem q827 : (Jvm.Cond.selects "RiverWage$Not" ({ cls := "RiverWage$Expression", name := "worked", desc := "([I)I" } : Jvm.MethodName) ({ cls := "RiverWage$Not", name := "worked", desc := "([I)I" } : Jvm.MethodName)) ∈ lw_all := lw_g (lw_at lw_m4 10 rfl) rfl
theorem q828 : (Jvm.Cond.instanceMethod ({ cls := "RiverWage$Not", name := "worked", desc := "([I)I" } : Jvm.MethodName)) ∈ lw_all := lw_g (lw_at lw_m4 11 rfl) rfl
theorem q829 : (Jvm.Cond.code ({ cls := "RiverWage$Not", name := "worked", desc := "([I)I" } : Jvm.MethodName) prog_8_method_2_code (2 : Nat) (Option.some Jvm.ClassFile.FieldType.int)) ∈ lw_all := lw_g (lw_at lw_m4 12 rfl) rfl
theorem q830 : (Jvm.Cond.methodLink "RiverWage$Not" (13 : Nat) ({ cls := "RiverWage$Expression", name := "worked", desc := "([I)I" } : Jvm.MethodName)) ∈ lw_all := lw_g (lw_at lw_m4 13 rfl) rfl
theorem q1775 : (Jvm.Cond.castable "RiverWage$Not" "java/lang/Object") ∈ lw_tbl := lw_at lw_m7 238 rfl
theorem q1781 : (Jvm.Cond.castable "RiverWage$Not" "RiverWage$Expression") ∈ lw_tbl := lw_at lw_m8 4 rfl
theorem in_X12 : ∀ w ∈ wsX120, w ∈ lw_all := lw_in wsX120 [774] (by decide +kernel) (by decide +kernel)

/-! RiverWage$Two -/
set_option maxRecDepth 100000
def RX13 : String := "RiverWage$Two"
def TX13 : u_T := fun k => match k with
  | 0 => ("RiverWage$Two", "way", "C", true)
  | 1 => ("RiverWage$Two", "a", "LRiverWage$Expression;", true)
  | _ => ("RiverWage$Two", "b", "LRiverWage$Expression;", true)
def tyX13 : Nat → FieldType := fun k => match k with
  | 0 => .char
  | 1 => .object "RiverWage$Expression"
  | _ => .object "RiverWage$Expression"
abbrev wsX130 : List Cond := u_ws RX13 TX13 3
theorem nmX13 : ∀ a, a < 3 → ∀ b, b < 3 → a ≠ b → (TX13 a).2.1 ≠ (TX13 b).2.1 := by decide +kernel
theorem tyX13_ok : ∀ k, k < 3 → parseFieldDescriptor (TX13 k).2.2.1 = some (tyX13 k) := by decide +kernel
abbrev cX13_init : ByteArray := prog_10_method_1_code
abbrev cX13_worked : ByteArray := prog_10_method_2_code
def yX13_init : MethodName := ⟨RX13, "<init>", "(CLRiverWage$Expression;LRiverWage$Expression;)V"⟩
def yX13_worked : MethodName := ⟨RX13, "worked", "([I)I"⟩
theorem q120 : (Jvm.Cond.initialized "RiverWage$Two") ∈ lw_all := lw_g (lw_at lw_m1 23 rfl) rfl
theorem q782 : (Jvm.Cond.instantiable "RiverWage$Two" (3 : Nat)) ∈ lw_all := lw_g (lw_at lw_m3 205 rfl) rfl
theorem q784 : (Jvm.Cond.instanceMethod ({ cls := "RiverWage$Two", name := "<init>", desc := "(CLRiverWage$Expression;LRiverWage$Expression;)V" } : Jvm.MethodName)) ∈ lw_all := lw_g (lw_at lw_m3 207 rfl) rfl
theorem q785 : (Jvm.Cond.code ({ cls := "RiverWage$Two", name := "<init>", desc := "(CLRiverWage$Expression;LRiverWage$Expression;)V" } : Jvm.MethodName) prog_10_method_1_code (4 : Nat) (Option.none : Option Jvm.ClassFile.FieldType)) ∈ lw_all := lw_g (lw_at lw_m3 208 rfl) rfl
theorem q786 : (Jvm.Cond.methodLinkNest "RiverWage$Two" (1 : Nat) ({ cls := "RiverWage$Expression", name := "<init>", desc := "()V" } : Jvm.MethodName) "RiverWage") ∈ lw_tbl := lw_at lw_m3 209 rfl
theorem q787 : (Jvm.Cond.fieldLink "RiverWage$Two" (7 : Nat) "RiverWage$Two" "way" "C") ∈ lw_all := lw_g (lw_at lw_m3 210 rfl) rfl
theorem q788 : (Jvm.Cond.fieldLink "RiverWage$Two" (13 : Nat) "RiverWage$Two" "a" "LRiverWage$Expression;") ∈ lw_all := lw_g (lw_at lw_m3 211 rfl) rfl
theorem q789 : (Jvm.Cond.fieldLink "RiverWage$Two" (17 : Nat) "RiverWage$Two" "b" "LRiverWage$Expression;") ∈ lw_all := lw_g (lw_at lw_m3 212 rfl) rfl
theorem q790 : (Jvm.Cond.laysFinal "RiverWage$Two" "RiverWage$Two" "way" "C") ∈ lw_all := lw_g (lw_at lw_m3 213 rfl) rfl
theorem q791 : (Jvm.Cond.soleField "RiverWage$Two" "way") ∈ lw_all := lw_g (lw_at lw_m3 214 rfl) rfl
theorem q792 : (Jvm.Cond.laysFinal "RiverWage$Two" "RiverWage$Two" "a" "LRiverWage$Expression;") ∈ lw_all := lw_g (lw_at lw_m3 215 rfl) rfl
theorem q793 : (Jvm.Cond.soleField "RiverWage$Two" "a") ∈ lw_all := lw_g (lw_at lw_m3 216 rfl) rfl
theorem q794 : (Jvm.Cond.laysFinal "RiverWage$Two" "RiverWage$Two" "b" "LRiverWage$Expression;") ∈ lw_all := lw_g (lw_at lw_m3 217 rfl) rfl
theorem q795 : (Jvm.Cond.soleField "RiverWage$Two" "b") ∈ lw_all := lw_g (lw_at lw_m3 218 rfl) rfl
theorem q796 : (Jvm.Cond.superclass "RiverWage$Two" "RiverWage$Expression") ∈ lw_all := lw_g (lw_at lw_m3 219 rfl) rfl
theorem q831 : (Jvm.Cond.instanceMethod ({ cls := "RiverWage$Two", name := "worked", desc := "([I)I" } : Jvm.MethodName)) ∈ lw_all := lw_g (lw_at lw_m4 14 rfl) rfl
theorem q832 : (Jvm.Cond.code ({ cls := "RiverWage$Two", name := "worked", desc := "([I)I" } : Jvm.MethodName) prog_10_method_2_code (4 : Nat) (Option.some Jvm.ClassFile.FieldType.int)) ∈ lw_all := lw_g (lw_at lw_m4 15 rfl) rfl
theorem q833 : (Jvm.Cond.methodLink "RiverWage$Two" (20 : Nat) ({ cls := "RiverWage$Expression", name := "worked", desc := "([I)I" } : Jvm.MethodName)) ∈ lw_all := lw_g (lw_at lw_m4 16 rfl) rfl
theorem q834 : (Jvm.Cond.selects "RiverWage$Two" ({ cls := "RiverWage$Expression", name := "worked", desc := "([I)I" } : Jvm.MethodName) ({ cls := "RiverWage$Two", name := "worked", desc := "([I)I" } : Jvm.MethodName)) ∈ lw_all := lw_g (lw_at lw_m4 17 rfl) rfl
theorem q1776 : (Jvm.Cond.castable "RiverWage$Two" "java/lang/Object") ∈ lw_tbl := lw_at lw_m7 239 rfl
theorem q1782 : (Jvm.Cond.castable "RiverWage$Two" "RiverWage$Expression") ∈ lw_tbl := lw_at lw_m8 5 rfl
theorem in_X13 : ∀ w ∈ wsX130, w ∈ lw_all := lw_in wsX130 [790, 792, 794] (by decide +kernel) (by decide +kernel)

/-! java/lang/Math -/
set_option maxRecDepth 100000
def RJ0 : String := "java/lang/Math"
abbrev cJ0_max : ByteArray := prog_22_method_65_code
abbrev cJ0_abs : ByteArray := prog_22_method_61_code
abbrev cJ0_min : ByteArray := prog_22_method_69_code
abbrev cJ0_abs_2 : ByteArray := prog_22_method_59_code
def yJ0_max : MethodName := ⟨RJ0, "max", "(II)I"⟩
def yJ0_abs : MethodName := ⟨RJ0, "abs", "(J)J"⟩
def yJ0_min : MethodName := ⟨RJ0, "min", "(II)I"⟩
def yJ0_abs_2 : MethodName := ⟨RJ0, "abs", "(I)I"⟩
theorem q105 : (Jvm.Cond.initialized "java/lang/Math") ∈ lw_all := lw_g (lw_at lw_m1 8 rfl) rfl
theorem q376 : (Jvm.Cond.static ({ cls := "java/lang/Math", name := "max", desc := "(II)I" } : Jvm.MethodName)) ∈ lw_all := lw_g (lw_at lw_m2 39 rfl) rfl
theorem q377 : (Jvm.Cond.code ({ cls := "java/lang/Math", name := "max", desc := "(II)I" } : Jvm.MethodName) prog_22_method_65_code (2 : Nat) (Option.some Jvm.ClassFile.FieldType.int)) ∈ lw_all := lw_g (lw_at lw_m2 40 rfl) rfl
theorem q468 : (Jvm.Cond.static ({ cls := "java/lang/Math", name := "abs", desc := "(J)J" } : Jvm.MethodName)) ∈ lw_all := lw_g (lw_at lw_m2 131 rfl) rfl
theorem q469 : (Jvm.Cond.code ({ cls := "java/lang/Math", name := "abs", desc := "(J)J" } : Jvm.MethodName) prog_22_method_61_code (2 : Nat) (Option.some Jvm.ClassFile.FieldType.long)) ∈ lw_all := lw_g (lw_at lw_m2 132 rfl) rfl
theorem q549 : (Jvm.Cond.static ({ cls := "java/lang/Math", name := "min", desc := "(II)I" } : Jvm.MethodName)) ∈ lw_all := lw_g (lw_at lw_m2 212 rfl) rfl
theorem q550 : (Jvm.Cond.code ({ cls := "java/lang/Math", name := "min", desc := "(II)I" } : Jvm.MethodName) prog_22_method_69_code (2 : Nat) (Option.some Jvm.ClassFile.FieldType.int)) ∈ lw_all := lw_g (lw_at lw_m2 213 rfl) rfl
theorem q853 : (Jvm.Cond.static ({ cls := "java/lang/Math", name := "abs", desc := "(I)I" } : Jvm.MethodName)) ∈ lw_all := lw_g (lw_at lw_m4 36 rfl) rfl
theorem q854 : (Jvm.Cond.code ({ cls := "java/lang/Math", name := "abs", desc := "(I)I" } : Jvm.MethodName) prog_22_method_59_code (1 : Nat) (Option.some Jvm.ClassFile.FieldType.int)) ∈ lw_all := lw_g (lw_at lw_m4 37 rfl) rfl

/-! java/lang/Throwable -/
set_option maxRecDepth 100000
def RJ1 : String := "java/lang/Throwable"
def TJ1 : u_T := fun k => match k with
  | 0 => ("java/lang/Throwable", "cause", "Ljava/lang/Throwable;", false)
  | 1 => ("java/lang/Throwable", "stackTrace", "[Ljava/lang/StackTraceElement;", false)
  | 2 => ("java/lang/Throwable", "suppressedExceptions", "Ljava/util/List;", false)
  | 3 => ("java/lang/Throwable", "detailMessage", "Ljava/lang/String;", false)
  | _ => ("java/lang/Throwable", "backtrace", "Ljava/lang/Object;", false)
def tyJ1 : Nat → FieldType := fun k => match k with
  | 0 => .object "java/lang/Throwable"
  | 1 => .array (.object "java/lang/StackTraceElement")
  | 2 => .object "java/util/List"
  | 3 => .object "java/lang/String"
  | _ => .object "java/lang/Object"
abbrev wsJ10 : List Cond := u_ws RJ1 TJ1 5
theorem nmJ1 : ∀ a, a < 5 → ∀ b, b < 5 → a ≠ b → (TJ1 a).2.1 ≠ (TJ1 b).2.1 := by decide +kernel
theorem tyJ1_ok : ∀ k, k < 5 → parseFieldDescriptor (TJ1 k).2.2.1 = some (tyJ1 k) := by decide +kernel
abbrev cJ1_init : ByteArray := prog_27_method_1_code
abbrev cJ1_init_2 : ByteArray := prog_27_method_5_code
def yJ1_init : MethodName := ⟨RJ1, "<init>", "()V"⟩
def yJ1_init_2 : MethodName := ⟨RJ1, "<init>", "(Ljava/lang/String;Ljava/lang/Throwable;ZZ)V"⟩
theorem q106 : (Jvm.Cond.initialized "java/lang/Throwable") ∈ lw_all := lw_g (lw_at lw_m1 9 rfl) rfl
theorem q648 : (Jvm.Cond.declares ({ cls := "java/lang/Throwable", name := "<init>", desc := "()V" } : Jvm.MethodName)) ∈ lw_tbl := lw_at lw_m3 71 rfl
theorem q649 : (Jvm.Cond.declares ({ cls := "java/lang/Throwable", name := "<init>", desc := "(Ljava/lang/String;)V" } : Jvm.MethodName)) ∈ lw_tbl := lw_at lw_m3 72 rfl
theorem q653 : (Jvm.Cond.lays "java/lang/Throwable" "java/lang/Throwable" "cause" "Ljava/lang/Throwable;") ∈ lw_all := lw_g (lw_at lw_m3 76 rfl) rfl
theorem q655 : (Jvm.Cond.lays "java/lang/Throwable" "java/lang/Throwable" "stackTrace" "[Ljava/lang/StackTraceElement;") ∈ lw_all := lw_g (lw_at lw_m3 78 rfl) rfl
theorem q657 : (Jvm.Cond.lays "java/lang/Throwable" "java/lang/Throwable" "suppressedExceptions" "Ljava/util/List;") ∈ lw_all := lw_g (lw_at lw_m3 80 rfl) rfl
theorem q659 : (Jvm.Cond.lays "java/lang/Throwable" "java/lang/Throwable" "detailMessage" "Ljava/lang/String;") ∈ lw_all := lw_g (lw_at lw_m3 82 rfl) rfl
theorem q661 : (Jvm.Cond.lays "java/lang/Throwable" "java/lang/Throwable" "backtrace" "Ljava/lang/Object;") ∈ lw_all := lw_g (lw_at lw_m3 84 rfl) rfl
theorem q662 : (Jvm.Cond.fieldLink "java/lang/Throwable" (198 : Nat) "java/lang/Throwable" "backtrace" "Ljava/lang/Object;") ∈ lw_all := lw_g (lw_at lw_m3 85 rfl) rfl
theorem q663 : (Jvm.Cond.superclass "java/lang/Throwable" "java/lang/Object") ∈ lw_all := lw_g (lw_at lw_m3 86 rfl) rfl
theorem q664 : (Jvm.Cond.instanceMethod ({ cls := "java/lang/Throwable", name := "<init>", desc := "()V" } : Jvm.MethodName)) ∈ lw_all := lw_g (lw_at lw_m3 87 rfl) rfl
theorem q665 : (Jvm.Cond.code ({ cls := "java/lang/Throwable", name := "<init>", desc := "()V" } : Jvm.MethodName) prog_27_method_1_code (1 : Nat) (Option.none : Option Jvm.ClassFile.FieldType)) ∈ lw_all := lw_g (lw_at lw_m3 88 rfl) rfl
theorem q666 : (Jvm.Cond.methodLink "java/lang/Throwable" (1 : Nat) ({ cls := "java/lang/Object", name := "<init>", desc := "()V" } : Jvm.MethodName)) ∈ lw_all := lw_g (lw_at lw_m3 89 rfl) rfl
theorem q667 : (Jvm.Cond.fieldLink "java/lang/Throwable" (13 : Nat) "java/lang/Throwable" "UNASSIGNED_STACK" "[Ljava/lang/StackTraceElement;") ∈ lw_all := lw_g (lw_at lw_m3 90 rfl) rfl
theorem q668 : (Jvm.Cond.laysStatic "java/lang/Throwable" "UNASSIGNED_STACK" "[Ljava/lang/StackTraceElement;") ∈ lw_tbl := lw_at lw_m3 91 rfl
theorem q669 : (Jvm.Cond.fieldLink "java/lang/Throwable" (20 : Nat) "java/lang/Throwable" "SUPPRESSED_SENTINEL" "Ljava/util/List;") ∈ lw_all := lw_g (lw_at lw_m3 92 rfl) rfl
theorem q670 : (Jvm.Cond.laysStatic "java/lang/Throwable" "SUPPRESSED_SENTINEL" "Ljava/util/List;") ∈ lw_tbl := lw_at lw_m3 93 rfl
theorem q671 : (Jvm.Cond.methodLink "java/lang/Throwable" (27 : Nat) ({ cls := "java/lang/Throwable", name := "fillInStackTrace", desc := "()Ljava/lang/Throwable;" } : Jvm.MethodName)) ∈ lw_all := lw_g (lw_at lw_m3 94 rfl) rfl
theorem q672 : (Jvm.Cond.instanceMethod ({ cls := "java/lang/Throwable", name := "fillInStackTrace", desc := "()Ljava/lang/Throwable;" } : Jvm.MethodName)) ∈ lw_all := lw_g (lw_at lw_m3 95 rfl) rfl
theorem q673 : (Jvm.Cond.sameMethod "java/lang/Throwable" "java/lang/Throwable" "fillInStackTrace" "()Ljava/lang/Throwable;") ∈ lw_all := lw_g (lw_at lw_m3 96 rfl) rfl
theorem q675 : (Jvm.Cond.codeSync ({ cls := "java/lang/Throwable", name := "fillInStackTrace", desc := "()Ljava/lang/Throwable;" } : Jvm.MethodName) prog_27_method_18_code (1 : Nat) (Option.some (Jvm.ClassFile.FieldType.object "java/lang/Throwable"))) ∈ lw_all := lw_g (lw_at lw_m3 98 rfl) rfl
theorem q676 : (Jvm.Cond.methodLink "java/lang/Throwable" (202 : Nat) ({ cls := "java/lang/Throwable", name := "fillInStackTrace", desc := "(I)Ljava/lang/Throwable;" } : Jvm.MethodName)) ∈ lw_all := lw_g (lw_at lw_m3 99 rfl) rfl
theorem q677 : (Jvm.Cond.privateMethod ({ cls := "java/lang/Throwable", name := "fillInStackTrace", desc := "(I)Ljava/lang/Throwable;" } : Jvm.MethodName)) ∈ lw_tbl := lw_at lw_m3 100 rfl
theorem q678 : (Jvm.Cond.instanceMethod ({ cls := "java/lang/Throwable", name := "fillInStackTrace", desc := "(I)Ljava/lang/Throwable;" } : Jvm.MethodName)) ∈ lw_all := lw_g (lw_at lw_m3 101 rfl) rfl
theorem q679 : (Jvm.Cond.instantiable "java/lang/Throwable" (6 : Nat)) ∈ lw_all := lw_g (lw_at lw_m3 102 rfl) rfl
theorem q680 : (Jvm.Cond.native ({ cls := "java/lang/Throwable", name := "fillInStackTrace", desc := "(I)Ljava/lang/Throwable;" } : Jvm.MethodName)) ∈ lw_all := lw_g (lw_at lw_m3 103 rfl) rfl
theorem q691 : (Jvm.Cond.instanceMethod ({ cls := "java/lang/Throwable", name := "<init>", desc := "(Ljava/lang/String;Ljava/lang/Throwable;ZZ)V" } : Jvm.MethodName)) ∈ lw_all := lw_g (lw_at lw_m3 114 rfl) rfl
theorem q692 : (Jvm.Cond.code ({ cls := "java/lang/Throwable", name := "<init>", desc := "(Ljava/lang/String;Ljava/lang/Throwable;ZZ)V" } : Jvm.MethodName) prog_27_method_5_code (5 : Nat) (Option.none : Option Jvm.ClassFile.FieldType)) ∈ lw_all := lw_g (lw_at lw_m3 115 rfl) rfl
theorem q695 : (Jvm.Cond.fieldLink "java/lang/Throwable" (198 : Nat) "java/lang/Throwable" "backtrace" "Ljava/lang/Object;") ∈ lw_all := lw_g (lw_at lw_m3 118 rfl) rfl
theorem q696 : (Jvm.Cond.fieldLink "java/lang/Throwable" (31 : Nat) "java/lang/Throwable" "detailMessage" "Ljava/lang/String;") ∈ lw_all := lw_g (lw_at lw_m3 119 rfl) rfl
theorem q697 : (Jvm.Cond.fieldLink "java/lang/Throwable" (7 : Nat) "java/lang/Throwable" "cause" "Ljava/lang/Throwable;") ∈ lw_all := lw_g (lw_at lw_m3 120 rfl) rfl
theorem q698 : (Jvm.Cond.fieldLink "java/lang/Throwable" (17 : Nat) "java/lang/Throwable" "stackTrace" "[Ljava/lang/StackTraceElement;") ∈ lw_all := lw_g (lw_at lw_m3 121 rfl) rfl
theorem q699 : (Jvm.Cond.fieldLink "java/lang/Throwable" (24 : Nat) "java/lang/Throwable" "suppressedExceptions" "Ljava/util/List;") ∈ lw_all := lw_g (lw_at lw_m3 122 rfl) rfl
theorem q702 : (Jvm.Cond.soleField "java/lang/Throwable" "backtrace") ∈ lw_all := lw_g (lw_at lw_m3 125 rfl) rfl
theorem q703 : (Jvm.Cond.soleField "java/lang/Throwable" "detailMessage") ∈ lw_all := lw_g (lw_at lw_m3 126 rfl) rfl
theorem q704 : (Jvm.Cond.soleField "java/lang/Throwable" "cause") ∈ lw_all := lw_g (lw_at lw_m3 127 rfl) rfl
theorem q705 : (Jvm.Cond.soleField "java/lang/Throwable" "stackTrace") ∈ lw_all := lw_g (lw_at lw_m3 128 rfl) rfl
theorem q707 : (Jvm.Cond.soleField "java/lang/Throwable" "depth") ∈ lw_all := lw_g (lw_at lw_m3 130 rfl) rfl
theorem q708 : (Jvm.Cond.soleField "java/lang/Throwable" "suppressedExceptions") ∈ lw_all := lw_g (lw_at lw_m3 131 rfl) rfl
theorem q1763 : (Jvm.Cond.sameMethod "java/lang/Throwable" "java/lang/Throwable" "fillInStackTrace" "(I)Ljava/lang/Throwable;") ∈ lw_all := lw_g (lw_at lw_m7 226 rfl) rfl
theorem q1777 : (Jvm.Cond.castable "java/lang/Throwable" "java/lang/Object") ∈ lw_tbl := lw_at lw_m8 0 rfl
theorem in_J1 : ∀ w ∈ wsJ10, w ∈ lw_all := lw_in wsJ10 [653, 655, 657, 659, 661] (by decide +kernel) (by decide +kernel)

/-! java/lang/Exception -/
set_option maxRecDepth 100000
def RJ2 : String := "java/lang/Exception"
abbrev cJ2_init : ByteArray := prog_19_method_5_code
abbrev cJ2_init_2 : ByteArray := prog_19_method_1_code
def yJ2_init : MethodName := ⟨RJ2, "<init>", "(Ljava/lang/String;Ljava/lang/Throwable;ZZ)V"⟩
def yJ2_init_2 : MethodName := ⟨RJ2, "<init>", "()V"⟩
theorem q107 : (Jvm.Cond.initialized "java/lang/Exception") ∈ lw_all := lw_g (lw_at lw_m1 10 rfl) rfl
theorem q646 : (Jvm.Cond.declares ({ cls := "java/lang/Exception", name := "<init>", desc := "()V" } : Jvm.MethodName)) ∈ lw_tbl := lw_at lw_m3 69 rfl
theorem q647 : (Jvm.Cond.declares ({ cls := "java/lang/Exception", name := "<init>", desc := "(Ljava/lang/String;)V" } : Jvm.MethodName)) ∈ lw_tbl := lw_at lw_m3 70 rfl
theorem q688 : (Jvm.Cond.instanceMethod ({ cls := "java/lang/Exception", name := "<init>", desc := "(Ljava/lang/String;Ljava/lang/Throwable;ZZ)V" } : Jvm.MethodName)) ∈ lw_all := lw_g (lw_at lw_m3 111 rfl) rfl
theorem q689 : (Jvm.Cond.code ({ cls := "java/lang/Exception", name := "<init>", desc := "(Ljava/lang/String;Ljava/lang/Throwable;ZZ)V" } : Jvm.MethodName) prog_19_method_5_code (5 : Nat) (Option.none : Option Jvm.ClassFile.FieldType)) ∈ lw_all := lw_g (lw_at lw_m3 112 rfl) rfl
theorem q690 : (Jvm.Cond.methodLink "java/lang/Exception" (16 : Nat) ({ cls := "java/lang/Throwable", name := "<init>", desc := "(Ljava/lang/String;Ljava/lang/Throwable;ZZ)V" } : Jvm.MethodName)) ∈ lw_all := lw_g (lw_at lw_m3 113 rfl) rfl
theorem q990 : (Jvm.Cond.instanceMethod ({ cls := "java/lang/Exception", name := "<init>", desc := "()V" } : Jvm.MethodName)) ∈ lw_all := lw_g (lw_at lw_m4 173 rfl) rfl
theorem q991 : (Jvm.Cond.code ({ cls := "java/lang/Exception", name := "<init>", desc := "()V" } : Jvm.MethodName) prog_19_method_1_code (1 : Nat) (Option.none : Option Jvm.ClassFile.FieldType)) ∈ lw_all := lw_g (lw_at lw_m4 174 rfl) rfl
theorem q992 : (Jvm.Cond.methodLink "java/lang/Exception" (1 : Nat) ({ cls := "java/lang/Throwable", name := "<init>", desc := "()V" } : Jvm.MethodName)) ∈ lw_all := lw_g (lw_at lw_m4 175 rfl) rfl

/-! java/lang/RuntimeException -/
set_option maxRecDepth 100000
def RJ3 : String := "java/lang/RuntimeException"
abbrev cJ3_init : ByteArray := prog_23_method_5_code
abbrev cJ3_init_2 : ByteArray := prog_23_method_1_code
def yJ3_init : MethodName := ⟨RJ3, "<init>", "(Ljava/lang/String;Ljava/lang/Throwable;ZZ)V"⟩
def yJ3_init_2 : MethodName := ⟨RJ3, "<init>", "()V"⟩
theorem q108 : (Jvm.Cond.initialized "java/lang/RuntimeException") ∈ lw_all := lw_g (lw_at lw_m1 11 rfl) rfl
theorem q644 : (Jvm.Cond.declares ({ cls := "java/lang/RuntimeException", name := "<init>", desc := "()V" } : Jvm.MethodName)) ∈ lw_tbl := lw_at lw_m3 67 rfl
theorem q645 : (Jvm.Cond.declares ({ cls := "java/lang/RuntimeException", name := "<init>", desc := "(Ljava/lang/String;)V" } : Jvm.MethodName)) ∈ lw_tbl := lw_at lw_m3 68 rfl
theorem q685 : (Jvm.Cond.instanceMethod ({ cls := "java/lang/RuntimeException", name := "<init>", desc := "(Ljava/lang/String;Ljava/lang/Throwable;ZZ)V" } : Jvm.MethodName)) ∈ lw_all := lw_g (lw_at lw_m3 108 rfl) rfl
theorem q686 : (Jvm.Cond.code ({ cls := "java/lang/RuntimeException", name := "<init>", desc := "(Ljava/lang/String;Ljava/lang/Throwable;ZZ)V" } : Jvm.MethodName) prog_23_method_5_code (5 : Nat) (Option.none : Option Jvm.ClassFile.FieldType)) ∈ lw_all := lw_g (lw_at lw_m3 109 rfl) rfl
theorem q687 : (Jvm.Cond.methodLink "java/lang/RuntimeException" (16 : Nat) ({ cls := "java/lang/Exception", name := "<init>", desc := "(Ljava/lang/String;Ljava/lang/Throwable;ZZ)V" } : Jvm.MethodName)) ∈ lw_all := lw_g (lw_at lw_m3 110 rfl) rfl
theorem q987 : (Jvm.Cond.instanceMethod ({ cls := "java/lang/RuntimeException", name := "<init>", desc := "()V" } : Jvm.MethodName)) ∈ lw_all := lw_g (lw_at lw_m4 170 rfl) rfl
theorem q988 : (Jvm.Cond.code ({ cls := "java/lang/RuntimeException", name := "<init>", desc := "()V" } : Jvm.MethodName) prog_23_method_1_code (1 : Nat) (Option.none : Option Jvm.ClassFile.FieldType)) ∈ lw_all := lw_g (lw_at lw_m4 171 rfl) rfl
theorem q989 : (Jvm.Cond.methodLink "java/lang/RuntimeException" (1 : Nat) ({ cls := "java/lang/Exception", name := "<init>", desc := "()V" } : Jvm.MethodName)) ∈ lw_all := lw_g (lw_at lw_m4 172 rfl) rfl

/-! java/util/NoSuchElementException -/
set_option maxRecDepth 100000
def RJ4 : String := "java/util/NoSuchElementException"
def TJ4 : u_T := fun k => match k with
  | 0 => ("java/lang/Throwable", "cause", "Ljava/lang/Throwable;", false)
  | 1 => ("java/lang/Throwable", "stackTrace", "[Ljava/lang/StackTraceElement;", false)
  | 2 => ("java/lang/Throwable", "suppressedExceptions", "Ljava/util/List;", false)
  | 3 => ("java/lang/Throwable", "detailMessage", "Ljava/lang/String;", false)
  | 4 => ("java/lang/Throwable", "backtrace", "Ljava/lang/Object;", false)
  | _ => ("java/lang/Throwable", "depth", "I", false)
def tyJ4 : Nat → FieldType := fun k => match k with
  | 0 => .object "java/lang/Throwable"
  | 1 => .array (.object "java/lang/StackTraceElement")
  | 2 => .object "java/util/List"
  | 3 => .object "java/lang/String"
  | 4 => .object "java/lang/Object"
  | _ => .int
abbrev wsJ40 : List Cond := u_ws RJ4 TJ4 6
theorem nmJ4 : ∀ a, a < 6 → ∀ b, b < 6 → a ≠ b → (TJ4 a).2.1 ≠ (TJ4 b).2.1 := by decide +kernel
theorem tyJ4_ok : ∀ k, k < 6 → parseFieldDescriptor (TJ4 k).2.2.1 = some (tyJ4 k) := by decide +kernel
abbrev cJ4_init : ByteArray := prog_30_method_1_code
def yJ4_init : MethodName := ⟨RJ4, "<init>", "()V"⟩
theorem q109 : (Jvm.Cond.initialized "java/util/NoSuchElementException") ∈ lw_all := lw_g (lw_at lw_m1 12 rfl) rfl
theorem q674 : (Jvm.Cond.selects "java/util/NoSuchElementException" ({ cls := "java/lang/Throwable", name := "fillInStackTrace", desc := "()Ljava/lang/Throwable;" } : Jvm.MethodName) ({ cls := "java/lang/Throwable", name := "fillInStackTrace", desc := "()Ljava/lang/Throwable;" } : Jvm.MethodName)) ∈ lw_all := lw_g (lw_at lw_m3 97 rfl) rfl
theorem q975 : (Jvm.Cond.instantiable "java/util/NoSuchElementException" (6 : Nat)) ∈ lw_all := lw_g (lw_at lw_m4 158 rfl) rfl
theorem q976 : (Jvm.Cond.castable "java/util/NoSuchElementException" "java/util/NoSuchElementException") ∈ lw_tbl := lw_at lw_m4 159 rfl
theorem q977 : (Jvm.Cond.selects "java/util/NoSuchElementException" ({ cls := "java/lang/Throwable", name := "fillInStackTrace", desc := "(I)Ljava/lang/Throwable;" } : Jvm.MethodName) ({ cls := "java/lang/Throwable", name := "fillInStackTrace", desc := "(I)Ljava/lang/Throwable;" } : Jvm.MethodName)) ∈ lw_all := lw_g (lw_at lw_m4 160 rfl) rfl
theorem q978 : (Jvm.Cond.lays "java/util/NoSuchElementException" "java/lang/Throwable" "cause" "Ljava/lang/Throwable;") ∈ lw_all := lw_g (lw_at lw_m4 161 rfl) rfl
theorem q979 : (Jvm.Cond.lays "java/util/NoSuchElementException" "java/lang/Throwable" "stackTrace" "[Ljava/lang/StackTraceElement;") ∈ lw_all := lw_g (lw_at lw_m4 162 rfl) rfl
theorem q980 : (Jvm.Cond.lays "java/util/NoSuchElementException" "java/lang/Throwable" "suppressedExceptions" "Ljava/util/List;") ∈ lw_all := lw_g (lw_at lw_m4 163 rfl) rfl
theorem q981 : (Jvm.Cond.lays "java/util/NoSuchElementException" "java/lang/Throwable" "detailMessage" "Ljava/lang/String;") ∈ lw_all := lw_g (lw_at lw_m4 164 rfl) rfl
theorem q982 : (Jvm.Cond.lays "java/util/NoSuchElementException" "java/lang/Throwable" "backtrace" "Ljava/lang/Object;") ∈ lw_all := lw_g (lw_at lw_m4 165 rfl) rfl
theorem q984 : (Jvm.Cond.instanceMethod ({ cls := "java/util/NoSuchElementException", name := "<init>", desc := "()V" } : Jvm.MethodName)) ∈ lw_all := lw_g (lw_at lw_m4 167 rfl) rfl
theorem q985 : (Jvm.Cond.code ({ cls := "java/util/NoSuchElementException", name := "<init>", desc := "()V" } : Jvm.MethodName) prog_30_method_1_code (1 : Nat) (Option.none : Option Jvm.ClassFile.FieldType)) ∈ lw_all := lw_g (lw_at lw_m4 168 rfl) rfl
theorem q986 : (Jvm.Cond.methodLink "java/util/NoSuchElementException" (1 : Nat) ({ cls := "java/lang/RuntimeException", name := "<init>", desc := "()V" } : Jvm.MethodName)) ∈ lw_all := lw_g (lw_at lw_m4 169 rfl) rfl
theorem q993 : (Jvm.Cond.lays "java/util/NoSuchElementException" "java/lang/Throwable" "depth" "I") ∈ lw_all := lw_g (lw_at lw_m4 176 rfl) rfl
theorem q994 : (Jvm.Cond.superclass "java/util/NoSuchElementException" "java/lang/RuntimeException") ∈ lw_all := lw_g (lw_at lw_m4 177 rfl) rfl
theorem q1771 : (Jvm.Cond.castable "java/util/NoSuchElementException" "java/lang/Object") ∈ lw_tbl := lw_at lw_m7 234 rfl
theorem in_J4 : ∀ w ∈ wsJ40, w ∈ lw_all := lw_in wsJ40 [978, 979, 980, 981, 982, 993] (by decide +kernel) (by decide +kernel)

/-! java/lang/String -/
set_option maxRecDepth 100000
def RJ5 : String := "java/lang/String"
abbrev cJ5_indexOf : ByteArray := prog_24_method_79_code
abbrev cJ5_indexOf_2 : ByteArray := prog_24_method_80_code
abbrev cJ5_isLatin1 : ByteArray := prog_24_method_154_code
abbrev cJ5_length : ByteArray := prog_24_method_54_code
abbrev cJ5_coder : ByteArray := prog_24_method_152_code
abbrev cJ5_checkBoundsBeginEnd : ByteArray := prog_24_method_158_code
abbrev cJ5_charAt : ByteArray := prog_24_method_56_code
abbrev cJ5_checkIndex : ByteArray := prog_24_method_155_code
def yJ5_indexOf : MethodName := ⟨RJ5, "indexOf", "(I)I"⟩
def yJ5_indexOf_2 : MethodName := ⟨RJ5, "indexOf", "(II)I"⟩
def yJ5_isLatin1 : MethodName := ⟨RJ5, "isLatin1", "()Z"⟩
def yJ5_length : MethodName := ⟨RJ5, "length", "()I"⟩
def yJ5_coder : MethodName := ⟨RJ5, "coder", "()B"⟩
def yJ5_checkBoundsBeginEnd : MethodName := ⟨RJ5, "checkBoundsBeginEnd", "(III)V"⟩
def yJ5_charAt : MethodName := ⟨RJ5, "charAt", "(I)C"⟩
def yJ5_checkIndex : MethodName := ⟨RJ5, "checkIndex", "(II)V"⟩
theorem q110 : (Jvm.Cond.initialized "java/lang/String") ∈ lw_all := lw_g (lw_at lw_m1 13 rfl) rfl
theorem q520 : (Jvm.Cond.instanceMethod ({ cls := "java/lang/String", name := "indexOf", desc := "(I)I" } : Jvm.MethodName)) ∈ lw_all := lw_g (lw_at lw_m2 183 rfl) rfl
theorem q521 : (Jvm.Cond.selects "java/lang/String" ({ cls := "java/lang/String", name := "indexOf", desc := "(I)I" } : Jvm.MethodName) ({ cls := "java/lang/String", name := "indexOf", desc := "(I)I" } : Jvm.MethodName)) ∈ lw_all := lw_g (lw_at lw_m2 184 rfl) rfl
theorem q522 : (Jvm.Cond.code ({ cls := "java/lang/String", name := "indexOf", desc := "(I)I" } : Jvm.MethodName) prog_24_method_79_code (2 : Nat) (Option.some Jvm.ClassFile.FieldType.int)) ∈ lw_all := lw_g (lw_at lw_m2 185 rfl) rfl
theorem q523 : (Jvm.Cond.methodLink "java/lang/String" (633 : Nat) ({ cls := "java/lang/String", name := "indexOf", desc := "(II)I" } : Jvm.MethodName)) ∈ lw_all := lw_g (lw_at lw_m2 186 rfl) rfl
theorem q524 : (Jvm.Cond.instanceMethod ({ cls := "java/lang/String", name := "indexOf", desc := "(II)I" } : Jvm.MethodName)) ∈ lw_all := lw_g (lw_at lw_m2 187 rfl) rfl
theorem q525 : (Jvm.Cond.selects "java/lang/String" ({ cls := "java/lang/String", name := "indexOf", desc := "(II)I" } : Jvm.MethodName) ({ cls := "java/lang/String", name := "indexOf", desc := "(II)I" } : Jvm.MethodName)) ∈ lw_all := lw_g (lw_at lw_m2 188 rfl) rfl
theorem q526 : (Jvm.Cond.code ({ cls := "java/lang/String", name := "indexOf", desc := "(II)I" } : Jvm.MethodName) prog_24_method_80_code (3 : Nat) (Option.some Jvm.ClassFile.FieldType.int)) ∈ lw_all := lw_g (lw_at lw_m2 189 rfl) rfl
theorem q527 : (Jvm.Cond.methodLink "java/lang/String" (492 : Nat) ({ cls := "java/lang/String", name := "isLatin1", desc := "()Z" } : Jvm.MethodName)) ∈ lw_all := lw_g (lw_at lw_m2 190 rfl) rfl
theorem q528 : (Jvm.Cond.instanceMethod ({ cls := "java/lang/String", name := "isLatin1", desc := "()Z" } : Jvm.MethodName)) ∈ lw_all := lw_g (lw_at lw_m2 191 rfl) rfl
theorem q529 : (Jvm.Cond.selects "java/lang/String" ({ cls := "java/lang/String", name := "isLatin1", desc := "()Z" } : Jvm.MethodName) ({ cls := "java/lang/String", name := "isLatin1", desc := "()Z" } : Jvm.MethodName)) ∈ lw_all := lw_g (lw_at lw_m2 192 rfl) rfl
theorem q530 : (Jvm.Cond.code ({ cls := "java/lang/String", name := "isLatin1", desc := "()Z" } : Jvm.MethodName) prog_24_method_154_code (1 : Nat) (Option.some Jvm.ClassFile.FieldType.boolean)) ∈ lw_all := lw_g (lw_at lw_m2 193 rfl) rfl
theorem q531 : (Jvm.Cond.fieldLink "java/lang/String" (38 : Nat) "java/lang/String" "COMPACT_STRINGS" "Z") ∈ lw_all := lw_g (lw_at lw_m2 194 rfl) rfl
theorem q532 : (Jvm.Cond.laysStatic "java/lang/String" "COMPACT_STRINGS" "Z") ∈ lw_tbl := lw_at lw_m2 195 rfl
theorem q533 : (Jvm.Cond.methodLink "java/lang/String" (505 : Nat) ({ cls := "java/lang/String", name := "length", desc := "()I" } : Jvm.MethodName)) ∈ lw_all := lw_g (lw_at lw_m2 196 rfl) rfl
theorem q534 : (Jvm.Cond.instanceMethod ({ cls := "java/lang/String", name := "length", desc := "()I" } : Jvm.MethodName)) ∈ lw_all := lw_g (lw_at lw_m2 197 rfl) rfl
theorem q535 : (Jvm.Cond.selects "java/lang/String" ({ cls := "java/lang/String", name := "length", desc := "()I" } : Jvm.MethodName) ({ cls := "java/lang/String", name := "length", desc := "()I" } : Jvm.MethodName)) ∈ lw_all := lw_g (lw_at lw_m2 198 rfl) rfl
theorem q536 : (Jvm.Cond.code ({ cls := "java/lang/String", name := "length", desc := "()I" } : Jvm.MethodName) prog_24_method_54_code (1 : Nat) (Option.some Jvm.ClassFile.FieldType.int)) ∈ lw_all := lw_g (lw_at lw_m2 199 rfl) rfl
theorem q537 : (Jvm.Cond.methodLink "java/lang/String" (335 : Nat) ({ cls := "java/lang/String", name := "coder", desc := "()B" } : Jvm.MethodName)) ∈ lw_all := lw_g (lw_at lw_m2 200 rfl) rfl
theorem q538 : (Jvm.Cond.instanceMethod ({ cls := "java/lang/String", name := "coder", desc := "()B" } : Jvm.MethodName)) ∈ lw_all := lw_g (lw_at lw_m2 201 rfl) rfl
theorem q539 : (Jvm.Cond.selects "java/lang/String" ({ cls := "java/lang/String", name := "coder", desc := "()B" } : Jvm.MethodName) ({ cls := "java/lang/String", name := "coder", desc := "()B" } : Jvm.MethodName)) ∈ lw_all := lw_g (lw_at lw_m2 202 rfl) rfl
theorem q540 : (Jvm.Cond.code ({ cls := "java/lang/String", name := "coder", desc := "()B" } : Jvm.MethodName) prog_24_method_152_code (1 : Nat) (Option.some Jvm.ClassFile.FieldType.byte)) ∈ lw_all := lw_g (lw_at lw_m2 203 rfl) rfl
theorem q541 : (Jvm.Cond.methodLink "java/lang/String" (637 : Nat) ({ cls := "java/lang/StringLatin1", name := "indexOf", desc := "([BIII)I" } : Jvm.MethodName)) ∈ lw_all := lw_g (lw_at lw_m2 204 rfl) rfl
theorem q554 : (Jvm.Cond.methodLink "java/lang/String" (640 : Nat) ({ cls := "java/lang/StringUTF16", name := "indexOf", desc := "([BIII)I" } : Jvm.MethodName)) ∈ lw_all := lw_g (lw_at lw_m2 217 rfl) rfl
theorem q570 : (Jvm.Cond.static ({ cls := "java/lang/String", name := "checkBoundsBeginEnd", desc := "(III)V" } : Jvm.MethodName)) ∈ lw_all := lw_g (lw_at lw_m2 233 rfl) rfl
theorem q571 : (Jvm.Cond.code ({ cls := "java/lang/String", name := "checkBoundsBeginEnd", desc := "(III)V" } : Jvm.MethodName) prog_24_method_158_code (3 : Nat) (Option.none : Option Jvm.ClassFile.FieldType)) ∈ lw_all := lw_g (lw_at lw_m2 234 rfl) rfl
theorem q572 : (Jvm.Cond.fieldLink "java/lang/String" (1053 : Nat) "jdk/internal/util/Preconditions" "SIOOBE_FORMATTER" "Ljava/util/function/BiFunction;") ∈ lw_all := lw_g (lw_at lw_m2 235 rfl) rfl
theorem q574 : (Jvm.Cond.methodLink "java/lang/String" (1062 : Nat) ({ cls := "jdk/internal/util/Preconditions", name := "checkFromToIndex", desc := "(IIILjava/util/function/BiFunction;)I" } : Jvm.MethodName)) ∈ lw_all := lw_g (lw_at lw_m2 237 rfl) rfl
theorem q618 : (Jvm.Cond.instanceMethod ({ cls := "java/lang/String", name := "charAt", desc := "(I)C" } : Jvm.MethodName)) ∈ lw_all := lw_g (lw_at lw_m3 41 rfl) rfl
theorem q619 : (Jvm.Cond.selects "java/lang/String" ({ cls := "java/lang/String", name := "charAt", desc := "(I)C" } : Jvm.MethodName) ({ cls := "java/lang/String", name := "charAt", desc := "(I)C" } : Jvm.MethodName)) ∈ lw_all := lw_g (lw_at lw_m3 42 rfl) rfl
theorem q620 : (Jvm.Cond.code ({ cls := "java/lang/String", name := "charAt", desc := "(I)C" } : Jvm.MethodName) prog_24_method_56_code (2 : Nat) (Option.some Jvm.ClassFile.FieldType.char)) ∈ lw_all := lw_g (lw_at lw_m3 43 rfl) rfl
theorem q621 : (Jvm.Cond.methodLink "java/lang/String" (495 : Nat) ({ cls := "java/lang/StringLatin1", name := "charAt", desc := "([BI)C" } : Jvm.MethodName)) ∈ lw_all := lw_g (lw_at lw_m3 44 rfl) rfl
theorem q625 : (Jvm.Cond.static ({ cls := "java/lang/String", name := "checkIndex", desc := "(II)V" } : Jvm.MethodName)) ∈ lw_all := lw_g (lw_at lw_m3 48 rfl) rfl
theorem q626 : (Jvm.Cond.code ({ cls := "java/lang/String", name := "checkIndex", desc := "(II)V" } : Jvm.MethodName) prog_24_method_155_code (2 : Nat) (Option.none : Option Jvm.ClassFile.FieldType)) ∈ lw_all := lw_g (lw_at lw_m3 49 rfl) rfl
theorem q627 : (Jvm.Cond.methodLink "java/lang/String" (1059 : Nat) ({ cls := "jdk/internal/util/Preconditions", name := "checkIndex", desc := "(IILjava/util/function/BiFunction;)I" } : Jvm.MethodName)) ∈ lw_all := lw_g (lw_at lw_m3 50 rfl) rfl
theorem q630 : (Jvm.Cond.methodLink "java/lang/String" (498 : Nat) ({ cls := "java/lang/StringUTF16", name := "charAt", desc := "([BI)C" } : Jvm.MethodName)) ∈ lw_all := lw_g (lw_at lw_m3 53 rfl) rfl
theorem q1778 : (Jvm.Cond.castable "java/lang/String" "java/lang/Object") ∈ lw_tbl := lw_at lw_m8 1 rfl
theorem q1783 : (Jvm.Cond.fieldLink "java/lang/String" (15 : Nat) "java/lang/String" "coder" "B") ∈ lw_all := lw_g (lw_at lw_m8 6 rfl) rfl
theorem q1784 : (Jvm.Cond.fieldLink "java/lang/String" (9 : Nat) "java/lang/String" "value" "[B") ∈ lw_all := lw_g (lw_at lw_m8 7 rfl) rfl

/-! java/lang/StringLatin1 -/
set_option maxRecDepth 100000
def RJ6 : String := "java/lang/StringLatin1"
abbrev cJ6_indexOf : ByteArray := prog_25_method_22_code
abbrev cJ6_canEncode : ByteArray := prog_25_method_4_code
abbrev cJ6_indexOfChar : ByteArray := prog_25_method_23_code
abbrev cJ6_charAt : ByteArray := prog_25_method_2_code
def yJ6_indexOf : MethodName := ⟨RJ6, "indexOf", "([BIII)I"⟩
def yJ6_canEncode : MethodName := ⟨RJ6, "canEncode", "(I)Z"⟩
def yJ6_indexOfChar : MethodName := ⟨RJ6, "indexOfChar", "([BIII)I"⟩
def yJ6_charAt : MethodName := ⟨RJ6, "charAt", "([BI)C"⟩
theorem q111 : (Jvm.Cond.initialized "java/lang/StringLatin1") ∈ lw_all := lw_g (lw_at lw_m1 14 rfl) rfl
theorem q542 : (Jvm.Cond.static ({ cls := "java/lang/StringLatin1", name := "indexOf", desc := "([BIII)I" } : Jvm.MethodName)) ∈ lw_all := lw_g (lw_at lw_m2 205 rfl) rfl
theorem q543 : (Jvm.Cond.code ({ cls := "java/lang/StringLatin1", name := "indexOf", desc := "([BIII)I" } : Jvm.MethodName) prog_25_method_22_code (4 : Nat) (Option.some Jvm.ClassFile.FieldType.int)) ∈ lw_all := lw_g (lw_at lw_m2 206 rfl) rfl
theorem q544 : (Jvm.Cond.methodLink "java/lang/StringLatin1" (88 : Nat) ({ cls := "java/lang/StringLatin1", name := "canEncode", desc := "(I)Z" } : Jvm.MethodName)) ∈ lw_all := lw_g (lw_at lw_m2 207 rfl) rfl
theorem q545 : (Jvm.Cond.static ({ cls := "java/lang/StringLatin1", name := "canEncode", desc := "(I)Z" } : Jvm.MethodName)) ∈ lw_all := lw_g (lw_at lw_m2 208 rfl) rfl
theorem q546 : (Jvm.Cond.code ({ cls := "java/lang/StringLatin1", name := "canEncode", desc := "(I)Z" } : Jvm.MethodName) prog_25_method_4_code (1 : Nat) (Option.some Jvm.ClassFile.FieldType.boolean)) ∈ lw_all := lw_g (lw_at lw_m2 209 rfl) rfl
theorem q547 : (Jvm.Cond.methodLink "java/lang/StringLatin1" (92 : Nat) ({ cls := "java/lang/Math", name := "max", desc := "(II)I" } : Jvm.MethodName)) ∈ lw_all := lw_g (lw_at lw_m2 210 rfl) rfl
theorem q548 : (Jvm.Cond.methodLink "java/lang/StringLatin1" (38 : Nat) ({ cls := "java/lang/Math", name := "min", desc := "(II)I" } : Jvm.MethodName)) ∈ lw_all := lw_g (lw_at lw_m2 211 rfl) rfl
theorem q551 : (Jvm.Cond.methodLink "java/lang/StringLatin1" (95 : Nat) ({ cls := "java/lang/StringLatin1", name := "indexOfChar", desc := "([BIII)I" } : Jvm.MethodName)) ∈ lw_all := lw_g (lw_at lw_m2 214 rfl) rfl
theorem q552 : (Jvm.Cond.static ({ cls := "java/lang/StringLatin1", name := "indexOfChar", desc := "([BIII)I" } : Jvm.MethodName)) ∈ lw_all := lw_g (lw_at lw_m2 215 rfl) rfl
theorem q553 : (Jvm.Cond.code ({ cls := "java/lang/StringLatin1", name := "indexOfChar", desc := "([BIII)I" } : Jvm.MethodName) prog_25_method_23_code (6 : Nat) (Option.some Jvm.ClassFile.FieldType.int)) ∈ lw_all := lw_g (lw_at lw_m2 216 rfl) rfl
theorem q622 : (Jvm.Cond.static ({ cls := "java/lang/StringLatin1", name := "charAt", desc := "([BI)C" } : Jvm.MethodName)) ∈ lw_all := lw_g (lw_at lw_m3 45 rfl) rfl
theorem q623 : (Jvm.Cond.code ({ cls := "java/lang/StringLatin1", name := "charAt", desc := "([BI)C" } : Jvm.MethodName) prog_25_method_2_code (2 : Nat) (Option.some Jvm.ClassFile.FieldType.char)) ∈ lw_all := lw_g (lw_at lw_m3 46 rfl) rfl
theorem q624 : (Jvm.Cond.methodLink "java/lang/StringLatin1" (9 : Nat) ({ cls := "java/lang/String", name := "checkIndex", desc := "(II)V" } : Jvm.MethodName)) ∈ lw_all := lw_g (lw_at lw_m3 47 rfl) rfl

/-! jdk/internal/util/Preconditions -/
set_option maxRecDepth 100000
def RJ8 : String := "jdk/internal/util/Preconditions"
abbrev cJ8_checkFromToIndex : ByteArray := prog_31_method_12_code
abbrev cJ8_checkIndex : ByteArray := prog_31_method_11_code
def yJ8_checkFromToIndex : MethodName := ⟨RJ8, "checkFromToIndex", "(IIILjava/util/function/BiFunction;)I"⟩
def yJ8_checkIndex : MethodName := ⟨RJ8, "checkIndex", "(IILjava/util/function/BiFunction;)I"⟩
theorem q113 : (Jvm.Cond.initialized "jdk/internal/util/Preconditions") ∈ lw_all := lw_g (lw_at lw_m1 16 rfl) rfl
theorem q573 : (Jvm.Cond.laysStatic "jdk/internal/util/Preconditions" "SIOOBE_FORMATTER" "Ljava/util/function/BiFunction;") ∈ lw_tbl := lw_at lw_m2 236 rfl
theorem q575 : (Jvm.Cond.static ({ cls := "jdk/internal/util/Preconditions", name := "checkFromToIndex", desc := "(IIILjava/util/function/BiFunction;)I" } : Jvm.MethodName)) ∈ lw_all := lw_g (lw_at lw_m2 238 rfl) rfl
theorem q576 : (Jvm.Cond.code ({ cls := "jdk/internal/util/Preconditions", name := "checkFromToIndex", desc := "(IIILjava/util/function/BiFunction;)I" } : Jvm.MethodName) prog_31_method_12_code (4 : Nat) (Option.some Jvm.ClassFile.FieldType.int)) ∈ lw_all := lw_g (lw_at lw_m2 239 rfl) rfl
theorem q628 : (Jvm.Cond.static ({ cls := "jdk/internal/util/Preconditions", name := "checkIndex", desc := "(IILjava/util/function/BiFunction;)I" } : Jvm.MethodName)) ∈ lw_all := lw_g (lw_at lw_m3 51 rfl) rfl
theorem q629 : (Jvm.Cond.code ({ cls := "jdk/internal/util/Preconditions", name := "checkIndex", desc := "(IILjava/util/function/BiFunction;)I" } : Jvm.MethodName) prog_31_method_11_code (3 : Nat) (Option.some Jvm.ClassFile.FieldType.int)) ∈ lw_all := lw_g (lw_at lw_m3 52 rfl) rfl

/-! java/lang/Character -/
set_option maxRecDepth 100000
def RJ9 : String := "java/lang/Character"
abbrev cJ9_isValidCodePoint : ByteArray := prog_17_method_11_code
abbrev cJ9_highSurrogate : ByteArray := prog_17_method_28_code
abbrev cJ9_lowSurrogate : ByteArray := prog_17_method_29_code
def yJ9_isValidCodePoint : MethodName := ⟨RJ9, "isValidCodePoint", "(I)Z"⟩
def yJ9_highSurrogate : MethodName := ⟨RJ9, "highSurrogate", "(I)C"⟩
def yJ9_lowSurrogate : MethodName := ⟨RJ9, "lowSurrogate", "(I)C"⟩
theorem q114 : (Jvm.Cond.initialized "java/lang/Character") ∈ lw_all := lw_g (lw_at lw_m1 17 rfl) rfl
theorem q593 : (Jvm.Cond.static ({ cls := "java/lang/Character", name := "isValidCodePoint", desc := "(I)Z" } : Jvm.MethodName)) ∈ lw_all := lw_g (lw_at lw_m3 16 rfl) rfl
theorem q594 : (Jvm.Cond.code ({ cls := "java/lang/Character", name := "isValidCodePoint", desc := "(I)Z" } : Jvm.MethodName) prog_17_method_11_code (2 : Nat) (Option.some Jvm.ClassFile.FieldType.boolean)) ∈ lw_all := lw_g (lw_at lw_m3 17 rfl) rfl
theorem q596 : (Jvm.Cond.static ({ cls := "java/lang/Character", name := "highSurrogate", desc := "(I)C" } : Jvm.MethodName)) ∈ lw_all := lw_g (lw_at lw_m3 19 rfl) rfl
theorem q597 : (Jvm.Cond.code ({ cls := "java/lang/Character", name := "highSurrogate", desc := "(I)C" } : Jvm.MethodName) prog_17_method_28_code (1 : Nat) (Option.some Jvm.ClassFile.FieldType.char)) ∈ lw_all := lw_g (lw_at lw_m3 20 rfl) rfl
theorem q598 : (Jvm.Cond.constant "java/lang/Character" (110 : Nat) (55232 : Int32)) ∈ lw_all := lw_g (lw_at lw_m3 21 rfl) rfl
theorem q600 : (Jvm.Cond.static ({ cls := "java/lang/Character", name := "lowSurrogate", desc := "(I)C" } : Jvm.MethodName)) ∈ lw_all := lw_g (lw_at lw_m3 23 rfl) rfl
theorem q601 : (Jvm.Cond.code ({ cls := "java/lang/Character", name := "lowSurrogate", desc := "(I)C" } : Jvm.MethodName) prog_17_method_29_code (1 : Nat) (Option.some Jvm.ClassFile.FieldType.char)) ∈ lw_all := lw_g (lw_at lw_m3 24 rfl) rfl
theorem q602 : (Jvm.Cond.constant "java/lang/Character" (76 : Nat) (56320 : Int32)) ∈ lw_all := lw_g (lw_at lw_m3 25 rfl) rfl

/-! java/lang/Long -/
set_option maxRecDepth 100000
def RJ10 : String := "java/lang/Long"
abbrev cJ10_signum : ByteArray := prog_21_method_57_code
def yJ10_signum : MethodName := ⟨RJ10, "signum", "(J)I"⟩
theorem q121 : (Jvm.Cond.initialized "java/lang/Long") ∈ lw_all := lw_g (lw_at lw_m1 24 rfl) rfl
theorem q864 : (Jvm.Cond.static ({ cls := "java/lang/Long", name := "signum", desc := "(J)I" } : Jvm.MethodName)) ∈ lw_all := lw_g (lw_at lw_m4 47 rfl) rfl
theorem q865 : (Jvm.Cond.code ({ cls := "java/lang/Long", name := "signum", desc := "(J)I" } : Jvm.MethodName) prog_21_method_57_code (2 : Nat) (Option.some Jvm.ClassFile.FieldType.int)) ∈ lw_all := lw_g (lw_at lw_m4 48 rfl) rfl

/-! java/lang/Integer -/
set_option maxRecDepth 100000
def RJ11 : String := "java/lang/Integer"
abbrev cJ11_bitCount : ByteArray := prog_20_method_49_code
abbrev cJ11_signum : ByteArray := prog_20_method_56_code
def yJ11_bitCount : MethodName := ⟨RJ11, "bitCount", "(I)I"⟩
def yJ11_signum : MethodName := ⟨RJ11, "signum", "(I)I"⟩
theorem q122 : (Jvm.Cond.initialized "java/lang/Integer") ∈ lw_all := lw_g (lw_at lw_m1 25 rfl) rfl
theorem q924 : (Jvm.Cond.static ({ cls := "java/lang/Integer", name := "bitCount", desc := "(I)I" } : Jvm.MethodName)) ∈ lw_all := lw_g (lw_at lw_m4 107 rfl) rfl
theorem q925 : (Jvm.Cond.code ({ cls := "java/lang/Integer", name := "bitCount", desc := "(I)I" } : Jvm.MethodName) prog_20_method_49_code (1 : Nat) (Option.some Jvm.ClassFile.FieldType.int)) ∈ lw_all := lw_g (lw_at lw_m4 108 rfl) rfl
theorem q926 : (Jvm.Cond.constant "java/lang/Integer" (265 : Nat) (1431655765 : Int32)) ∈ lw_all := lw_g (lw_at lw_m4 109 rfl) rfl
theorem q927 : (Jvm.Cond.constant "java/lang/Integer" (266 : Nat) (858993459 : Int32)) ∈ lw_all := lw_g (lw_at lw_m4 110 rfl) rfl
theorem q928 : (Jvm.Cond.constant "java/lang/Integer" (267 : Nat) (252645135 : Int32)) ∈ lw_all := lw_g (lw_at lw_m4 111 rfl) rfl
theorem q933 : (Jvm.Cond.static ({ cls := "java/lang/Integer", name := "signum", desc := "(I)I" } : Jvm.MethodName)) ∈ lw_all := lw_g (lw_at lw_m4 116 rfl) rfl
theorem q934 : (Jvm.Cond.code ({ cls := "java/lang/Integer", name := "signum", desc := "(I)I" } : Jvm.MethodName) prog_20_method_56_code (1 : Nat) (Option.some Jvm.ClassFile.FieldType.int)) ∈ lw_all := lw_g (lw_at lw_m4 117 rfl) rfl

/-! java/lang/Object -/
set_option maxRecDepth 100000
def RJ12 : String := "java/lang/Object"
abbrev cJ12_init : ByteArray := object_method_1_code
def yJ12_init : MethodName := ⟨RJ12, "<init>", "()V"⟩
theorem q129 : (Jvm.Cond.instanceMethod ({ cls := "java/lang/Object", name := "<init>", desc := "()V" } : Jvm.MethodName)) ∈ lw_all := lw_g (lw_at lw_m1 32 rfl) rfl
theorem q130 : (Jvm.Cond.code ({ cls := "java/lang/Object", name := "<init>", desc := "()V" } : Jvm.MethodName) object_method_1_code (1 : Nat) (Option.none : Option Jvm.ClassFile.FieldType)) ∈ lw_all := lw_g (lw_at lw_m1 33 rfl) rfl

theorem q132 : (Jvm.Cond.arrayOver (Jvm.ClassFile.FieldType.object "RiverWage$Kitchen")) ∈ lw_tbl := lw_at lw_m1 35 rfl
set_option maxRecDepth 100000
theorem q134 : (Jvm.Cond.arrayOver (Jvm.ClassFile.FieldType.array Jvm.ClassFile.FieldType.int)) ∈ lw_tbl := lw_at lw_m1 37 rfl
theorem q166 : (Jvm.Cond.arrayClass Jvm.ClassFile.FieldType.int) ∈ lw_all := lw_g (lw_at lw_m1 69 rfl) rfl
theorem q167 : (Jvm.Cond.arrayClass Jvm.ClassFile.FieldType.byte) ∈ lw_all := lw_g (lw_at lw_m1 70 rfl) rfl
theorem q169 : (Jvm.Cond.arrayOver (Jvm.ClassFile.FieldType.object "RiverWage$Law")) ∈ lw_tbl := lw_at lw_m1 72 rfl
theorem q171 : (Jvm.Cond.arrayOver (Jvm.ClassFile.FieldType.object "RiverWage$Writer")) ∈ lw_tbl := lw_at lw_m1 74 rfl
theorem q234 : (Jvm.Cond.arrayClass Jvm.ClassFile.FieldType.boolean) ∈ lw_all := lw_g (lw_at lw_m1 137 rfl) rfl
theorem q241 : (Jvm.Cond.arrayOver (Jvm.ClassFile.FieldType.object "RiverWage$Expression")) ∈ lw_tbl := lw_at lw_m1 144 rfl
theorem q1331 : (Jvm.Cond.arrayClass Jvm.ClassFile.FieldType.long) ∈ lw_all := lw_g (lw_at lw_m6 34 rfl) rfl
