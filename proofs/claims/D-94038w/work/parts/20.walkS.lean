set_option maxRecDepth 100000
def fJ0_max (p1 : Int32) (p2 : Int32) (M : gM) (Q : Int32 → gM → Prop) : Prop :=
  (if p1 < p2 then Q p2 M else Q p1 M)
theorem mJ0_max {kf : Nat} (hkf : 1 ≤ kf) (G : gG) (p1 : Int32) (p2 : Int32) (M : gM) (Q : Int32 → gM → Prop) (h : fJ0_max p1 p2 M Q) : gMet yJ0_max cJ0_max 2 (Option.some FieldType.int) kf G M [.int p1, .int p2] (gQi Q) gE0 := by
  refine g_introJ (lv := [(0, .int p1), (1, .int p2)]) (by decide +kernel) rfl rfl (fun w hw => ?_)
  unfold fJ0_max at h
  refine g_iload_n hw 0 dJ0_max_0 rfl ?_
  refine g_iload_n hw 1 dJ0_max_1 rfl ?_
  refine g_icmp_lt (tgt := 9) hw dJ0_max_2 (by decide) (fun hb1 => ?_) (fun hb1 => ?_)
  · have h := gT h hb1
    refine g_iload_n hw 1 dJ0_max_9 rfl ?_
    exact g_iret hw dJ0_max_10 rfl ⟨_, rfl, h⟩
  · have h := gF h hb1
    refine g_iload_n hw 0 dJ0_max_5 rfl ?_
    refine g_goto (tgt := 10) hw dJ0_max_6 (by decide) ?_
    exact g_iret hw dJ0_max_10 rfl ⟨_, rfl, h⟩
def fJ0_abs (p1 : Int64) (M : gM) (Q : Int64 → gM → Prop) : Prop :=
  (if 0 ≤ (lg_cmp p1 0) then Q p1 M else Q (-p1) M)
theorem mJ0_abs {kf : Nat} (hkf : 1 ≤ kf) (G : gG) (p1 : Int64) (M : gM) (Q : Int64 → gM → Prop) (h : fJ0_abs p1 M Q) : gMet yJ0_abs cJ0_abs 2 (Option.some FieldType.long) kf G M [.long p1] (gQl Q) gE0 := by
  refine g_introJ (lv := [(0, .long p1)]) (by decide +kernel) rfl rfl (fun w hw => ?_)
  unfold fJ0_abs at h
  refine g_lload_n hw 0 dJ0_abs_0 rfl ?_
  refine g_lconst (v := 0) hw dJ0_abs_1 (by decide) ?_
  refine g_lcmp hw dJ0_abs_2 ?_
  refine g_if_ge (tgt := 11) hw dJ0_abs_3 (by decide) (fun hb1 => ?_) (fun hb1 => ?_)
  · have h := gT h hb1
    refine g_lload_n hw 0 dJ0_abs_11 rfl ?_
    exact g_lret hw dJ0_abs_12 ⟨_, rfl, h⟩
  · have h := gF h hb1
    refine g_lload_n hw 0 dJ0_abs_6 rfl ?_
    refine g_lneg hw dJ0_abs_7 ?_
    refine g_goto (tgt := 12) hw dJ0_abs_8 (by decide) ?_
    exact g_lret hw dJ0_abs_12 ⟨_, rfl, h⟩
def fJ0_min (p1 : Int32) (p2 : Int32) (M : gM) (Q : Int32 → gM → Prop) : Prop :=
  (if p2 < p1 then Q p2 M else Q p1 M)
theorem mJ0_min {kf : Nat} (hkf : 1 ≤ kf) (G : gG) (p1 : Int32) (p2 : Int32) (M : gM) (Q : Int32 → gM → Prop) (h : fJ0_min p1 p2 M Q) : gMet yJ0_min cJ0_min 2 (Option.some FieldType.int) kf G M [.int p1, .int p2] (gQi Q) gE0 := by
  refine g_introJ (lv := [(0, .int p1), (1, .int p2)]) (by decide +kernel) rfl rfl (fun w hw => ?_)
  unfold fJ0_min at h
  refine g_iload_n hw 0 dJ0_min_0 rfl ?_
  refine g_iload_n hw 1 dJ0_min_1 rfl ?_
  refine g_icmp_gt (tgt := 9) hw dJ0_min_2 (by decide) (fun hb1 => ?_) (fun hb1 => ?_)
  · have h := gT h hb1
    refine g_iload_n hw 1 dJ0_min_9 rfl ?_
    exact g_iret hw dJ0_min_10 rfl ⟨_, rfl, h⟩
  · have h := gF h hb1
    refine g_iload_n hw 0 dJ0_min_5 rfl ?_
    refine g_goto (tgt := 10) hw dJ0_min_6 (by decide) ?_
    exact g_iret hw dJ0_min_10 rfl ⟨_, rfl, h⟩
def fJ0_abs_2 (p1 : Int32) (M : gM) (Q : Int32 → gM → Prop) : Prop :=
  (if 0 ≤ p1 then Q p1 M else Q (-p1) M)
theorem mJ0_abs_2 {kf : Nat} (hkf : 1 ≤ kf) (G : gG) (p1 : Int32) (M : gM) (Q : Int32 → gM → Prop) (h : fJ0_abs_2 p1 M Q) : gMet yJ0_abs_2 cJ0_abs_2 1 (Option.some FieldType.int) kf G M [.int p1] (gQi Q) gE0 := by
  refine g_introJ (lv := [(0, .int p1)]) (by decide +kernel) rfl rfl (fun w hw => ?_)
  unfold fJ0_abs_2 at h
  refine g_iload_n hw 0 dJ0_abs_2_0 rfl ?_
  refine g_if_ge (tgt := 9) hw dJ0_abs_2_1 (by decide) (fun hb1 => ?_) (fun hb1 => ?_)
  · have h := gT h hb1
    refine g_iload_n hw 0 dJ0_abs_2_9 rfl ?_
    exact g_iret hw dJ0_abs_2_10 rfl ⟨_, rfl, h⟩
  · have h := gF h hb1
    refine g_iload_n hw 0 dJ0_abs_2_4 rfl ?_
    refine g_ineg hw dJ0_abs_2_5 ?_
    refine g_goto (tgt := 10) hw dJ0_abs_2_6 (by decide) ?_
    exact g_iret hw dJ0_abs_2_10 rfl ⟨_, rfl, h⟩
theorem pfJ1_7 {y0 : MethodName} {cc : ByteArray} {nL : Nat} {ret : Option FieldType} {hh : List (Nat × Nat × Nat × Nat)} {kf : Nat} {G : gG} {Qv : Option Value → gM → Prop} {E : String → Nat → gM → Prop} {w : gM → Nat → List (Nat × Value) → List Value → Prop} {M : gM} {pc : Nat} {lv : List (Nat × Value)} {rest : List Value} (hw : gX y0 cc nL ret hh kf G Qv E w) (hy : y0.cls = RJ1) {c : Nat} {q : Option Nat} (d : decode cc pc = .ok (.putfield 7, 3)) (hk : gk M c = 8) (kk : w (gsR M c 0 q) (pc + 3) lv rest) : w M pc lv (va_rf (q.map (gA G)) :: .ref (gA G c) :: rest) := by
  obtain ⟨cls9, nm9, ds9⟩ := y0
  subst hy
  exact g_putC (C := RX8) (T := TX8) (N := 7) (ci := 7) hw in_X8 tyX8 tyX8_ok nmX8 rfl 0 (by decide) (Or.inl ⟨q697, Or.inl rfl⟩) (by cases q <;> rfl) (by cases q <;> rfl) (gOne_R M c 0 q) (by show va_rf ((gR (gsR M c 0 q) c 0).map (gA G)) = _; rw [gR_sR, if_pos ⟨rfl, rfl⟩]) d hk kk
theorem pfJ1_17 {y0 : MethodName} {cc : ByteArray} {nL : Nat} {ret : Option FieldType} {hh : List (Nat × Nat × Nat × Nat)} {kf : Nat} {G : gG} {Qv : Option Value → gM → Prop} {E : String → Nat → gM → Prop} {w : gM → Nat → List (Nat × Value) → List Value → Prop} {M : gM} {pc : Nat} {lv : List (Nat × Value)} {rest : List Value} (hw : gX y0 cc nL ret hh kf G Qv E w) (hy : y0.cls = RJ1) {c : Nat} {q : Option Nat} (d : decode cc pc = .ok (.putfield 17, 3)) (hk : gk M c = 8) (kk : w (gsR M c 1 q) (pc + 3) lv rest) : w M pc lv (va_rf (q.map (gA G)) :: .ref (gA G c) :: rest) := by
  obtain ⟨cls9, nm9, ds9⟩ := y0
  subst hy
  exact g_putC (C := RX8) (T := TX8) (N := 7) (ci := 7) hw in_X8 tyX8 tyX8_ok nmX8 rfl 1 (by decide) (Or.inl ⟨q698, Or.inl rfl⟩) (by cases q <;> rfl) (by cases q <;> rfl) (gOne_R M c 1 q) (by show va_rf ((gR (gsR M c 1 q) c 1).map (gA G)) = _; rw [gR_sR, if_pos ⟨rfl, rfl⟩]) d hk kk
theorem pfJ1_24 {y0 : MethodName} {cc : ByteArray} {nL : Nat} {ret : Option FieldType} {hh : List (Nat × Nat × Nat × Nat)} {kf : Nat} {G : gG} {Qv : Option Value → gM → Prop} {E : String → Nat → gM → Prop} {w : gM → Nat → List (Nat × Value) → List Value → Prop} {M : gM} {pc : Nat} {lv : List (Nat × Value)} {rest : List Value} (hw : gX y0 cc nL ret hh kf G Qv E w) (hy : y0.cls = RJ1) {c : Nat} {q : Option Nat} (d : decode cc pc = .ok (.putfield 24, 3)) (hk : gk M c = 8) (kk : w (gsR M c 2 q) (pc + 3) lv rest) : w M pc lv (va_rf (q.map (gA G)) :: .ref (gA G c) :: rest) := by
  obtain ⟨cls9, nm9, ds9⟩ := y0
  subst hy
  exact g_putC (C := RX8) (T := TX8) (N := 7) (ci := 7) hw in_X8 tyX8 tyX8_ok nmX8 rfl 2 (by decide) (Or.inl ⟨q699, Or.inl rfl⟩) (by cases q <;> rfl) (by cases q <;> rfl) (gOne_R M c 2 q) (by show va_rf ((gR (gsR M c 2 q) c 2).map (gA G)) = _; rw [gR_sR, if_pos ⟨rfl, rfl⟩]) d hk kk
theorem pfJ1_31 {y0 : MethodName} {cc : ByteArray} {nL : Nat} {ret : Option FieldType} {hh : List (Nat × Nat × Nat × Nat)} {kf : Nat} {G : gG} {Qv : Option Value → gM → Prop} {E : String → Nat → gM → Prop} {w : gM → Nat → List (Nat × Value) → List Value → Prop} {M : gM} {pc : Nat} {lv : List (Nat × Value)} {rest : List Value} (hw : gX y0 cc nL ret hh kf G Qv E w) (hy : y0.cls = RJ1) {c : Nat} {q : Option Nat} (d : decode cc pc = .ok (.putfield 31, 3)) (hk : gk M c = 8) (kk : w (gsR M c 3 q) (pc + 3) lv rest) : w M pc lv (va_rf (q.map (gA G)) :: .ref (gA G c) :: rest) := by
  obtain ⟨cls9, nm9, ds9⟩ := y0
  subst hy
  exact g_putC (C := RX8) (T := TX8) (N := 7) (ci := 7) hw in_X8 tyX8 tyX8_ok nmX8 rfl 3 (by decide) (Or.inl ⟨q696, Or.inl rfl⟩) (by cases q <;> rfl) (by cases q <;> rfl) (gOne_R M c 3 q) (by show va_rf ((gR (gsR M c 3 q) c 3).map (gA G)) = _; rw [gR_sR, if_pos ⟨rfl, rfl⟩]) d hk kk
def fJ1_init_2_b41 (l0_5 : Nat) (l1_6 : Option Nat) (l2_7 : Option Nat) (l3_8 : Int32) (M : gM) (Q : gM → Prop) : Prop :=
  gk M l0_5 = 8 ∧ (if l3_8 = 0 then Q (gsR (gsR (gsR M l0_5 3 l1_6) l0_5 0 l2_7) l0_5 2 none) else Q (gsR (gsR M l0_5 3 l1_6) l0_5 0 l2_7))
theorem wJ1_init_2_b41 {kf : Nat} {G : gG} {w : gM → Nat → List (Nat × Value) → List Value → Prop} {Q : gM → Prop} (hw : gX yJ1_init_2 cJ1_init_2 5 (Option.none : Option FieldType) [] kf G (gQv Q) gE0 w) (hkf : 1 ≤ kf)  {l0_5 : Nat} {l1_6 : Option Nat} {l2_7 : Option Nat} {l3_8 : Int32} {M : gM}  (h : fJ1_init_2_b41 l0_5 l1_6 l2_7 l3_8 M Q) : w M 41 [(0, .ref (gA G l0_5)), (1, va_rf (l1_6.map (gA G))), (2, va_rf (l2_7.map (gA G))), (3, .int l3_8)] [] := by
  unfold fJ1_init_2_b41 at h
  refine g_aload_n hw 0 dJ1_init_2_41 rfl ?_
  refine g_aload_nq hw 1 dJ1_init_2_42 rfl ?_
  obtain ⟨hk9, h⟩ := h
  refine pfJ1_31 (q := l1_6) hw rfl dJ1_init_2_43 hk9 ?_
  refine g_aload_n hw 0 dJ1_init_2_46 rfl ?_
  refine g_aload_nq hw 2 dJ1_init_2_47 rfl ?_
  refine pfJ1_7 (q := l2_7) hw rfl dJ1_init_2_48 hk9 ?_
  refine g_iload_n hw 3 dJ1_init_2_51 rfl ?_
  refine g_if_ne (tgt := 60) hw dJ1_init_2_52 (by decide) (fun hb10 => ?_) (fun hb10 => ?_)
  · have h := gF h hb10
    exact g_vret hw dJ1_init_2_60 ⟨rfl, h⟩
  · have h := gT h hb10
    refine g_aload_n hw 0 dJ1_init_2_55 rfl ?_
    refine g_null hw dJ1_init_2_56 ?_
    refine pfJ1_24 (q := none) hw rfl dJ1_init_2_57 hk9 ?_
    exact g_vret hw dJ1_init_2_60 ⟨rfl, h⟩
def fJ1_init_2 (c0 : Nat) (p1 : Option Nat) (p2 : Option Nat) (p3 : Int32) (p4 : Int32) (M : gM) (Q : gM → Prop) : Prop :=
  gk M c0 = 8 ∧ ∀ q2 : Option Nat, ∀ q3 : Option Nat, (if p4 = 0 then fJ1_init_2_b41 c0 p1 p2 p3 (gsR (gsR (gsR (gsR M c0 0 (some c0)) c0 1 q2) c0 2 q3) c0 1 none) Q else False)
theorem mJ1_init_2 {kf : Nat} (hkf : 1 ≤ kf) (G : gG) (c0 : Nat) (p1 : Option Nat) (p2 : Option Nat) (p3 : Int32) (p4 : Int32) (M : gM) (Q : gM → Prop) (h : fJ1_init_2 c0 p1 p2 p3 p4 M Q) : gMet yJ1_init_2 cJ1_init_2 5 (Option.none : Option FieldType) kf G M [.ref (gA G c0), va_rf (p1.map (gA G)), va_rf (p2.map (gA G)), .int p3, .int p4] (gQv Q) gE0 := by
  refine g_introJ (lv := [(0, .ref (gA G c0)), (1, va_rf (p1.map (gA G))), (2, va_rf (p2.map (gA G))), (3, .int p3), (4, .int p4)]) (by decide +kernel) (by cases p1 <;> cases p2 <;> rfl) (by cases p1 <;> cases p2 <;> rfl) (fun w hw => ?_)
  unfold fJ1_init_2 at h
  refine g_aload_n hw 0 dJ1_init_2_0 rfl ?_
  refine g_objInit hw dJ1_init_2_1 q666 q129 q130 rfl (gK1 hkf) ?_
  refine g_aload_n hw 0 dJ1_init_2_4 rfl ?_
  refine g_aload_n hw 0 dJ1_init_2_5 rfl ?_
  obtain ⟨hk1, h⟩ := h
  refine pfJ1_7 (q := some c0) hw rfl dJ1_init_2_6 hk1 ?_
  refine g_aload_n hw 0 dJ1_init_2_9 rfl ?_
  refine g_getsU hw dJ1_init_2_10 q667 (fun q2 => ?_)
  have h := h q2
  refine pfJ1_17 (q := q2) hw rfl dJ1_init_2_13 hk1 ?_
  refine g_aload_n hw 0 dJ1_init_2_16 rfl ?_
  refine g_getsN hw dJ1_init_2_17 q669 (fun q3 => ?_)
  have h := h q3
  refine pfJ1_24 (q := q3) hw rfl dJ1_init_2_20 hk1 ?_
  refine g_iload hw 4 dJ1_init_2_23 rfl ?_
  refine g_if_eq (tgt := 36) hw dJ1_init_2_25 (by decide) (fun hb4 => ?_) (fun hb4 => ?_)
  · have h := gT h hb4
    refine g_aload_n hw 0 dJ1_init_2_36 rfl ?_
    refine g_null hw dJ1_init_2_37 ?_
    refine pfJ1_17 (q := none) hw rfl dJ1_init_2_38 hk1 ?_
    refine g_sub hw (lv2 := [(0, .ref (gA G c0)), (1, va_rf (p1.map (gA G))), (2, va_rf (p2.map (gA G))), (3, .int p3)]) [0, 1, 2, 3] rfl ?_
    exact wJ1_init_2_b41 hw hkf h
  · have h := gF h hb4
    refine g_aload_n hw 0 dJ1_init_2_28 rfl ?_
    exact h.elim
def fJ10_signum (p1 : Int64) (M : gM) (Q : Int32 → gM → Prop) : Prop :=
  Q (((p1 >>> ((63 : Int32).toInt64 &&& 63)) ||| (((-p1).toUInt64 >>> ((63 : Int32).toInt64.toUInt64 &&& Int64.toUInt64 63)).toInt64)).toInt32) M
theorem mJ10_signum {kf : Nat} (hkf : 1 ≤ kf) (G : gG) (p1 : Int64) (M : gM) (Q : Int32 → gM → Prop) (h : fJ10_signum p1 M Q) : gMet yJ10_signum cJ10_signum 2 (Option.some FieldType.int) kf G M [.long p1] (gQi Q) gE0 := by
  refine g_introJ (lv := [(0, .long p1)]) (by decide +kernel) rfl rfl (fun w hw => ?_)
  unfold fJ10_signum at h
  refine g_lload_n hw 0 dJ10_signum_0 rfl ?_
  refine g_bipush (v := 63) hw dJ10_signum_1 (by decide) ?_
  refine g_lshr hw dJ10_signum_3 ?_
  refine g_lload_n hw 0 dJ10_signum_4 rfl ?_
  refine g_lneg hw dJ10_signum_5 ?_
  refine g_bipush (v := 63) hw dJ10_signum_6 (by decide) ?_
  refine g_lushr hw dJ10_signum_8 ?_
  refine g_lor hw dJ10_signum_9 ?_
  refine g_l2i hw dJ10_signum_10 ?_
  exact g_iret hw dJ10_signum_11 rfl ⟨_, rfl, h⟩
def fJ11_bitCount_b48 (l0_5 : Int32) (M : gM) (Q : Int32 → gM → Prop) : Prop :=
  Q (l0_5 &&& 63) M
theorem wJ11_bitCount_b48 {kf : Nat} {G : gG} {w : gM → Nat → List (Nat × Value) → List Value → Prop} {Q : Int32 → gM → Prop} (hw : gX yJ11_bitCount cJ11_bitCount 1 (Option.some FieldType.int) [] kf G (gQi Q) gE0 w) (hkf : 1 ≤ kf)  {l0_5 : Int32} {M : gM}  (h : fJ11_bitCount_b48 l0_5 M Q) : w M 48 [(0, .int l0_5)] [] := by
  unfold fJ11_bitCount_b48 at h
  refine g_iload_n hw 0 dJ11_bitCount_48 rfl ?_
  refine g_bipush (v := 63) hw dJ11_bitCount_49 (by decide) ?_
  refine g_iand hw dJ11_bitCount_51 ?_
  exact g_iret hw dJ11_bitCount_52 rfl ⟨_, rfl, h⟩
def fJ11_bitCount_b41 (l0_4 : Int32) (M : gM) (Q : Int32 → gM → Prop) : Prop :=
  fJ11_bitCount_b48 (l0_4 + ((l0_4.toUInt32 >>> ((16 : Int32).toUInt32 &&& Int32.toUInt32 31)).toInt32)) M Q
theorem wJ11_bitCount_b41 {kf : Nat} {G : gG} {w : gM → Nat → List (Nat × Value) → List Value → Prop} {Q : Int32 → gM → Prop} (hw : gX yJ11_bitCount cJ11_bitCount 1 (Option.some FieldType.int) [] kf G (gQi Q) gE0 w) (hkf : 1 ≤ kf)  {l0_4 : Int32} {M : gM}  (h : fJ11_bitCount_b41 l0_4 M Q) : w M 41 [(0, .int l0_4)] [] := by
  unfold fJ11_bitCount_b41 at h
  refine g_iload_n hw 0 dJ11_bitCount_41 rfl ?_
  refine g_iload_n hw 0 dJ11_bitCount_42 rfl ?_
  refine g_bipush (v := 16) hw dJ11_bitCount_43 (by decide) ?_
  refine g_iushr hw dJ11_bitCount_45 ?_
  refine g_iadd hw dJ11_bitCount_46 ?_
  refine g_istore_n hw (lv2 := [(0, .int (l0_4 + ((l0_4.toUInt32 >>> ((16 : Int32).toUInt32 &&& Int32.toUInt32 31)).toInt32)))]) [0] dJ11_bitCount_47 rfl rfl ?_
  exact wJ11_bitCount_b48 hw hkf h
def fJ11_bitCount_b34 (l0_3 : Int32) (M : gM) (Q : Int32 → gM → Prop) : Prop :=
  fJ11_bitCount_b41 (l0_3 + ((l0_3.toUInt32 >>> ((8 : Int32).toUInt32 &&& Int32.toUInt32 31)).toInt32)) M Q
theorem wJ11_bitCount_b34 {kf : Nat} {G : gG} {w : gM → Nat → List (Nat × Value) → List Value → Prop} {Q : Int32 → gM → Prop} (hw : gX yJ11_bitCount cJ11_bitCount 1 (Option.some FieldType.int) [] kf G (gQi Q) gE0 w) (hkf : 1 ≤ kf)  {l0_3 : Int32} {M : gM}  (h : fJ11_bitCount_b34 l0_3 M Q) : w M 34 [(0, .int l0_3)] [] := by
  unfold fJ11_bitCount_b34 at h
  refine g_iload_n hw 0 dJ11_bitCount_34 rfl ?_
  refine g_iload_n hw 0 dJ11_bitCount_35 rfl ?_
  refine g_bipush (v := 8) hw dJ11_bitCount_36 (by decide) ?_
  refine g_iushr hw dJ11_bitCount_38 ?_
  refine g_iadd hw dJ11_bitCount_39 ?_
  refine g_istore_n hw (lv2 := [(0, .int (l0_3 + ((l0_3.toUInt32 >>> ((8 : Int32).toUInt32 &&& Int32.toUInt32 31)).toInt32)))]) [0] dJ11_bitCount_40 rfl rfl ?_
  exact wJ11_bitCount_b41 hw hkf h
def fJ11_bitCount_b24 (l0_2 : Int32) (M : gM) (Q : Int32 → gM → Prop) : Prop :=
  fJ11_bitCount_b34 ((l0_2 + ((l0_2.toUInt32 >>> ((4 : Int32).toUInt32 &&& Int32.toUInt32 31)).toInt32)) &&& 252645135) M Q
theorem wJ11_bitCount_b24 {kf : Nat} {G : gG} {w : gM → Nat → List (Nat × Value) → List Value → Prop} {Q : Int32 → gM → Prop} (hw : gX yJ11_bitCount cJ11_bitCount 1 (Option.some FieldType.int) [] kf G (gQi Q) gE0 w) (hkf : 1 ≤ kf)  {l0_2 : Int32} {M : gM}  (h : fJ11_bitCount_b24 l0_2 M Q) : w M 24 [(0, .int l0_2)] [] := by
  unfold fJ11_bitCount_b24 at h
  refine g_iload_n hw 0 dJ11_bitCount_24 rfl ?_
  refine g_iload_n hw 0 dJ11_bitCount_25 rfl ?_
  refine g_iconst (v := 4) hw dJ11_bitCount_26 (by decide) ?_
  refine g_iushr hw dJ11_bitCount_27 ?_
  refine g_iadd hw dJ11_bitCount_28 ?_
  refine g_ldcw hw dJ11_bitCount_29 q928 ?_
  refine g_iand hw dJ11_bitCount_32 ?_
  refine g_istore_n hw (lv2 := [(0, .int ((l0_2 + ((l0_2.toUInt32 >>> ((4 : Int32).toUInt32 &&& Int32.toUInt32 31)).toInt32)) &&& 252645135))]) [0] dJ11_bitCount_33 rfl rfl ?_
  exact wJ11_bitCount_b34 hw hkf h
def fJ11_bitCount_b10 (l0_1 : Int32) (M : gM) (Q : Int32 → gM → Prop) : Prop :=
  fJ11_bitCount_b24 ((l0_1 &&& 858993459) + (((l0_1.toUInt32 >>> ((2 : Int32).toUInt32 &&& Int32.toUInt32 31)).toInt32) &&& 858993459)) M Q
theorem wJ11_bitCount_b10 {kf : Nat} {G : gG} {w : gM → Nat → List (Nat × Value) → List Value → Prop} {Q : Int32 → gM → Prop} (hw : gX yJ11_bitCount cJ11_bitCount 1 (Option.some FieldType.int) [] kf G (gQi Q) gE0 w) (hkf : 1 ≤ kf)  {l0_1 : Int32} {M : gM}  (h : fJ11_bitCount_b10 l0_1 M Q) : w M 10 [(0, .int l0_1)] [] := by
  unfold fJ11_bitCount_b10 at h
  refine g_iload_n hw 0 dJ11_bitCount_10 rfl ?_
  refine g_ldcw hw dJ11_bitCount_11 q927 ?_
  refine g_iand hw dJ11_bitCount_14 ?_
  refine g_iload_n hw 0 dJ11_bitCount_15 rfl ?_
  refine g_iconst (v := 2) hw dJ11_bitCount_16 (by decide) ?_
  refine g_iushr hw dJ11_bitCount_17 ?_
  refine g_ldcw hw dJ11_bitCount_18 q927 ?_
  refine g_iand hw dJ11_bitCount_21 ?_
  refine g_iadd hw dJ11_bitCount_22 ?_
  refine g_istore_n hw (lv2 := [(0, .int ((l0_1 &&& 858993459) + (((l0_1.toUInt32 >>> ((2 : Int32).toUInt32 &&& Int32.toUInt32 31)).toInt32) &&& 858993459)))]) [0] dJ11_bitCount_23 rfl rfl ?_
  exact wJ11_bitCount_b24 hw hkf h
def fJ11_bitCount (p1 : Int32) (M : gM) (Q : Int32 → gM → Prop) : Prop :=
  fJ11_bitCount_b10 (p1 - (((p1.toUInt32 >>> ((1 : Int32).toUInt32 &&& Int32.toUInt32 31)).toInt32) &&& 1431655765)) M Q
theorem mJ11_bitCount {kf : Nat} (hkf : 1 ≤ kf) (G : gG) (p1 : Int32) (M : gM) (Q : Int32 → gM → Prop) (h : fJ11_bitCount p1 M Q) : gMet yJ11_bitCount cJ11_bitCount 1 (Option.some FieldType.int) kf G M [.int p1] (gQi Q) gE0 := by
  refine g_introJ (lv := [(0, .int p1)]) (by decide +kernel) rfl rfl (fun w hw => ?_)
  unfold fJ11_bitCount at h
  refine g_iload_n hw 0 dJ11_bitCount_0 rfl ?_
  refine g_iload_n hw 0 dJ11_bitCount_1 rfl ?_
  refine g_iconst (v := 1) hw dJ11_bitCount_2 (by decide) ?_
  refine g_iushr hw dJ11_bitCount_3 ?_
  refine g_ldcw hw dJ11_bitCount_4 q926 ?_
  refine g_iand hw dJ11_bitCount_7 ?_
  refine g_isub hw dJ11_bitCount_8 ?_
  refine g_istore_n hw (lv2 := [(0, .int (p1 - (((p1.toUInt32 >>> ((1 : Int32).toUInt32 &&& Int32.toUInt32 31)).toInt32) &&& 1431655765)))]) [0] dJ11_bitCount_9 rfl rfl ?_
  exact wJ11_bitCount_b10 hw hkf h
def fJ11_signum (p1 : Int32) (M : gM) (Q : Int32 → gM → Prop) : Prop :=
  Q ((p1 >>> ((31 : Int32) &&& 31)) ||| (((-p1).toUInt32 >>> ((31 : Int32).toUInt32 &&& Int32.toUInt32 31)).toInt32)) M
theorem mJ11_signum {kf : Nat} (hkf : 1 ≤ kf) (G : gG) (p1 : Int32) (M : gM) (Q : Int32 → gM → Prop) (h : fJ11_signum p1 M Q) : gMet yJ11_signum cJ11_signum 1 (Option.some FieldType.int) kf G M [.int p1] (gQi Q) gE0 := by
  refine g_introJ (lv := [(0, .int p1)]) (by decide +kernel) rfl rfl (fun w hw => ?_)
  unfold fJ11_signum at h
  refine g_iload_n hw 0 dJ11_signum_0 rfl ?_
  refine g_bipush (v := 31) hw dJ11_signum_1 (by decide) ?_
  refine g_ishr hw dJ11_signum_3 ?_
  refine g_iload_n hw 0 dJ11_signum_4 rfl ?_
  refine g_ineg hw dJ11_signum_5 ?_
  refine g_bipush (v := 31) hw dJ11_signum_6 (by decide) ?_
  refine g_iushr hw dJ11_signum_8 ?_
  refine g_ior hw dJ11_signum_9 ?_
  exact g_iret hw dJ11_signum_10 rfl ⟨_, rfl, h⟩
theorem sJ2_16 {y0 : MethodName} {cc : ByteArray} {nL : Nat} {ret : Option FieldType} {hh : List (Nat × Nat × Nat × Nat)} {kf : Nat} {G : gG} {Qv : Option Value → gM → Prop} {E : String → Nat → gM → Prop} {w : gM → Nat → List (Nat × Value) → List Value → Prop} {M : gM} {pc : Nat} {lv : List (Nat × Value)} {rest : List Value} (hw : gX y0 cc nL ret hh kf G Qv E w) (hy : y0.cls = RJ2) {c0 : Nat} {p1 : Option Nat} {p2 : Option Nat} {p3 : Int32} {p4 : Int32} {Q : gM → Prop} (d : decode cc pc = .ok (.invokespecial 16, 3)) (hrest : Nat.ble ((rest.map Value.category).sum) 8 = true) (hk : 1 + 1 ≤ kf) (h : fJ1_init_2 c0 p1 p2 p3 p4 M Q) (kk : ∀ M1, Q M1 → w M1 (pc + 3) lv rest) : w M pc lv (.int p4 :: .int p3 :: va_rf (p2.map (gA G)) :: va_rf (p1.map (gA G)) :: .ref (gA G c0) :: rest) := by
  obtain ⟨cls9, nm9, ds9⟩ := y0
  subst hy
  exact g_callI hw [va_rf (p1.map (gA G)), va_rf (p2.map (gA G)), .int p3, .int p4] (nA := 4) rfl d (Or.inl q690) q691 q106 q692 (by decide +kernel) rfl rfl hrest rfl (by omega : kf - 1 + 1 ≤ kf) (mJ1_init_2 (kf := kf - 1) (by omega) G c0 p1 p2 p3 p4 M Q h) (fun _ _ _ q => q.elim) (fun v M1 h => by obtain ⟨rfl, h⟩ := h; exact kk M1 h)
def fJ2_init (c0 : Nat) (p1 : Option Nat) (p2 : Option Nat) (p3 : Int32) (p4 : Int32) (M : gM) (Q : gM → Prop) : Prop :=
  fJ1_init_2 c0 p1 p2 p3 p4 M (fun M1 => Q M1)
theorem mJ2_init {kf : Nat} (hkf : 2 ≤ kf) (G : gG) (c0 : Nat) (p1 : Option Nat) (p2 : Option Nat) (p3 : Int32) (p4 : Int32) (M : gM) (Q : gM → Prop) (h : fJ2_init c0 p1 p2 p3 p4 M Q) : gMet yJ2_init cJ2_init 5 (Option.none : Option FieldType) kf G M [.ref (gA G c0), va_rf (p1.map (gA G)), va_rf (p2.map (gA G)), .int p3, .int p4] (gQv Q) gE0 := by
  refine g_introJ (lv := [(0, .ref (gA G c0)), (1, va_rf (p1.map (gA G))), (2, va_rf (p2.map (gA G))), (3, .int p3), (4, .int p4)]) (by decide +kernel) (by cases p1 <;> cases p2 <;> rfl) (by cases p1 <;> cases p2 <;> rfl) (fun w hw => ?_)
  unfold fJ2_init at h
  refine g_aload_n hw 0 dJ2_init_0 rfl ?_
  refine g_aload_nq hw 1 dJ2_init_1 rfl ?_
  refine g_aload_nq hw 2 dJ2_init_2 rfl ?_
  refine g_iload_n hw 3 dJ2_init_3 rfl ?_
  refine g_iload hw 4 dJ2_init_4 rfl ?_
  refine sJ2_16 hw rfl dJ2_init_6 rfl (gK2 hkf) h (fun M1 h => ?_)
  exact g_vret hw dJ2_init_9 ⟨rfl, h⟩
theorem sJ3_16 {y0 : MethodName} {cc : ByteArray} {nL : Nat} {ret : Option FieldType} {hh : List (Nat × Nat × Nat × Nat)} {kf : Nat} {G : gG} {Qv : Option Value → gM → Prop} {E : String → Nat → gM → Prop} {w : gM → Nat → List (Nat × Value) → List Value → Prop} {M : gM} {pc : Nat} {lv : List (Nat × Value)} {rest : List Value} (hw : gX y0 cc nL ret hh kf G Qv E w) (hy : y0.cls = RJ3) {c0 : Nat} {p1 : Option Nat} {p2 : Option Nat} {p3 : Int32} {p4 : Int32} {Q : gM → Prop} (d : decode cc pc = .ok (.invokespecial 16, 3)) (hrest : Nat.ble ((rest.map Value.category).sum) 8 = true) (hk : 2 + 1 ≤ kf) (h : fJ2_init c0 p1 p2 p3 p4 M Q) (kk : ∀ M1, Q M1 → w M1 (pc + 3) lv rest) : w M pc lv (.int p4 :: .int p3 :: va_rf (p2.map (gA G)) :: va_rf (p1.map (gA G)) :: .ref (gA G c0) :: rest) := by
  obtain ⟨cls9, nm9, ds9⟩ := y0
  subst hy
  exact g_callI hw [va_rf (p1.map (gA G)), va_rf (p2.map (gA G)), .int p3, .int p4] (nA := 4) rfl d (Or.inl q687) q688 q107 q689 (by decide +kernel) rfl rfl hrest rfl (by omega : kf - 1 + 1 ≤ kf) (mJ2_init (kf := kf - 1) (by omega) G c0 p1 p2 p3 p4 M Q h) (fun _ _ _ q => q.elim) (fun v M1 h => by obtain ⟨rfl, h⟩ := h; exact kk M1 h)
def fJ3_init (c0 : Nat) (p1 : Option Nat) (p2 : Option Nat) (p3 : Int32) (p4 : Int32) (M : gM) (Q : gM → Prop) : Prop :=
  fJ2_init c0 p1 p2 p3 p4 M (fun M1 => Q M1)
theorem mJ3_init {kf : Nat} (hkf : 3 ≤ kf) (G : gG) (c0 : Nat) (p1 : Option Nat) (p2 : Option Nat) (p3 : Int32) (p4 : Int32) (M : gM) (Q : gM → Prop) (h : fJ3_init c0 p1 p2 p3 p4 M Q) : gMet yJ3_init cJ3_init 5 (Option.none : Option FieldType) kf G M [.ref (gA G c0), va_rf (p1.map (gA G)), va_rf (p2.map (gA G)), .int p3, .int p4] (gQv Q) gE0 := by
  refine g_introJ (lv := [(0, .ref (gA G c0)), (1, va_rf (p1.map (gA G))), (2, va_rf (p2.map (gA G))), (3, .int p3), (4, .int p4)]) (by decide +kernel) (by cases p1 <;> cases p2 <;> rfl) (by cases p1 <;> cases p2 <;> rfl) (fun w hw => ?_)
  unfold fJ3_init at h
  refine g_aload_n hw 0 dJ3_init_0 rfl ?_
  refine g_aload_nq hw 1 dJ3_init_1 rfl ?_
  refine g_aload_nq hw 2 dJ3_init_2 rfl ?_
  refine g_iload_n hw 3 dJ3_init_3 rfl ?_
  refine g_iload hw 4 dJ3_init_4 rfl ?_
  refine sJ3_16 hw rfl dJ3_init_6 rfl (gK2 hkf) h (fun M1 h => ?_)
  exact g_vret hw dJ3_init_9 ⟨rfl, h⟩
def fJ5_isLatin1_b17  (M : gM) (Q : Int32 → gM → Prop) : Prop :=
  Q 0 M
theorem wJ5_isLatin1_b17 {kf : Nat} {G : gG} {w : gM → Nat → List (Nat × Value) → List Value → Prop} {Q : Int32 → gM → Prop} (hw : gX yJ5_isLatin1 cJ5_isLatin1 1 (Option.some FieldType.boolean) [] kf G (gQi Q) gE0 w) (hkf : 1 ≤ kf)   {M : gM}  (h : fJ5_isLatin1_b17 M Q) : w M 17 [] [] := by
  unfold fJ5_isLatin1_b17 at h
  refine g_iconst (v := 0) hw dJ5_isLatin1_17 (by decide) ?_
  exact g_iret hw dJ5_isLatin1_18 (by decide +kernel) ⟨_, rfl, h⟩
def fJ5_isLatin1 (c0 : Nat) (M : gM) (Q : Int32 → gM → Prop) : Prop :=
  (if (1 : Int32) = 0 then fJ5_isLatin1_b17 M Q else (c0 < 8) ∧ (if (0 : Int32) = 0 then Q 1 M else fJ5_isLatin1_b17 M Q))
theorem mJ5_isLatin1 {kf : Nat} (hkf : 1 ≤ kf) (G : gG) (c0 : Nat) (M : gM) (Q : Int32 → gM → Prop) (h : fJ5_isLatin1 c0 M Q) : gMet yJ5_isLatin1 cJ5_isLatin1 1 (Option.some FieldType.boolean) kf G M [.ref (gA G c0)] (gQi Q) gE0 := by
  refine g_introJ (lv := [(0, .ref (gA G c0))]) (by decide +kernel) rfl rfl (fun w hw => ?_)
  unfold fJ5_isLatin1 at h
  refine g_getsI hw dJ5_isLatin1_0 q531 ?_
  refine g_if_eq (tgt := 17) hw dJ5_isLatin1_3 (by decide) (fun hb1 => ?_) (fun hb1 => ?_)
  · have h := gT h hb1
    refine g_sub hw (lv2 := []) [] rfl ?_
    exact wJ5_isLatin1_b17 hw hkf h
  · have h := gF h hb1
    refine g_aload_n hw 0 dJ5_isLatin1_6 rfl ?_
    obtain ⟨hs2, h⟩ := h
    refine g_strC hw dJ5_isLatin1_7 q1783 hs2 ?_
    refine g_if_ne (tgt := 17) hw dJ5_isLatin1_10 (by decide) (fun hb3 => ?_) (fun hb3 => ?_)
    · have h := gF h hb3
      refine g_sub hw (lv2 := []) [] rfl ?_
      exact wJ5_isLatin1_b17 hw hkf h
    · have h := gT h hb3
      refine g_iconst (v := 1) hw dJ5_isLatin1_13 (by decide) ?_
      refine g_goto (tgt := 18) hw dJ5_isLatin1_14 (by decide) ?_
      exact g_iret hw dJ5_isLatin1_18 (by decide +kernel) ⟨_, rfl, h⟩
def fJ5_coder (c0 : Nat) (M : gM) (Q : Int32 → gM → Prop) : Prop :=
  (if (1 : Int32) = 0 then narrow .byte (.int 1) = .int 1 ∧ Q 1 M else (c0 < 8) ∧ narrow .byte (.int 0) = .int 0 ∧ Q 0 M)
theorem mJ5_coder {kf : Nat} (hkf : 1 ≤ kf) (G : gG) (c0 : Nat) (M : gM) (Q : Int32 → gM → Prop) (h : fJ5_coder c0 M Q) : gMet yJ5_coder cJ5_coder 1 (Option.some FieldType.byte) kf G M [.ref (gA G c0)] (gQi Q) gE0 := by
  refine g_introJ (lv := [(0, .ref (gA G c0))]) (by decide +kernel) rfl rfl (fun w hw => ?_)
  unfold fJ5_coder at h
  refine g_getsI hw dJ5_coder_0 q531 ?_
  refine g_if_eq (tgt := 13) hw dJ5_coder_3 (by decide) (fun hb1 => ?_) (fun hb1 => ?_)
  · have h := gT h hb1
    refine g_iconst (v := 1) hw dJ5_coder_13 (by decide) ?_
    obtain ⟨hc2, h⟩ := h
    exact g_iret hw dJ5_coder_14 hc2 ⟨_, rfl, h⟩
  · have h := gF h hb1
    refine g_aload_n hw 0 dJ5_coder_6 rfl ?_
    obtain ⟨hs3, h⟩ := h
    refine g_strC hw dJ5_coder_7 q1783 hs3 ?_
    refine g_goto (tgt := 14) hw dJ5_coder_10 (by decide) ?_
    obtain ⟨hc4, h⟩ := h
    exact g_iret hw dJ5_coder_14 hc4 ⟨_, rfl, h⟩
theorem sJ5_335 {y0 : MethodName} {cc : ByteArray} {nL : Nat} {ret : Option FieldType} {hh : List (Nat × Nat × Nat × Nat)} {kf : Nat} {G : gG} {Qv : Option Value → gM → Prop} {E : String → Nat → gM → Prop} {w : gM → Nat → List (Nat × Value) → List Value → Prop} {M : gM} {pc : Nat} {lv : List (Nat × Value)} {rest : List Value} (hw : gX y0 cc nL ret hh kf G Qv E w) (hy : y0.cls = RJ5) {c0 : Nat} {Q : Int32 → gM → Prop} (d : decode cc pc = .ok (.invokevirtual 335, 3)) (hrest : Nat.ble ((rest.map Value.category).sum) 8 = true) (hk : 1 + 1 ≤ kf) (hkd : c0 < 8) (h : fJ5_coder c0 M Q) (kk : ∀ r M1, Q r M1 → w M1 (pc + 3) lv (.int r :: rest)) : w M pc lv (.ref (gA G c0) :: rest) := by
  obtain ⟨cls9, nm9, ds9⟩ := y0
  subst hy
  exact g_callVS hw [] (nA := 0) rfl d q537 q538 q539 q110 q540 (by decide +kernel) rfl hrest rfl (by omega : kf - 1 + 1 ≤ kf) hkd (mJ5_coder (kf := kf - 1) (by omega) G c0 M Q h) (fun _ _ _ q => q.elim) (fun v M1 h => by obtain ⟨r, rfl, h⟩ := h; exact kk r M1 h)
def fJ5_length (c0 : Nat) (M : gM) (Q : Int32 → gM → Prop) : Prop :=
  (c0 < 8) ∧ (8 ≤ (8 + c0) ∧ (8 + c0) < 16) ∧ (c0 < 8) ∧ fJ5_coder c0 M (fun r5 M4 => Q ((nI (gSL (8 + c0))) >>> (r5 &&& 31)) M4)
theorem mJ5_length {kf : Nat} (hkf : 2 ≤ kf) (G : gG) (c0 : Nat) (M : gM) (Q : Int32 → gM → Prop) (h : fJ5_length c0 M Q) : gMet yJ5_length cJ5_length 1 (Option.some FieldType.int) kf G M [.ref (gA G c0)] (gQi Q) gE0 := by
  refine g_introJ (lv := [(0, .ref (gA G c0))]) (by decide +kernel) rfl rfl (fun w hw => ?_)
  unfold fJ5_length at h
  refine g_aload_n hw 0 dJ5_length_0 rfl ?_
  obtain ⟨hs1, h⟩ := h
  refine g_strV hw dJ5_length_1 q1784 hs1 ?_
  obtain ⟨hs2, h⟩ := h
  refine g_salen hw dJ5_length_4 hs2 ?_
  refine g_aload_n hw 0 dJ5_length_5 rfl ?_
  obtain ⟨hs3, h⟩ := h
  refine sJ5_335 hw rfl dJ5_length_6 rfl (gK2 hkf) hs3 h (fun r5 M4 h => ?_)
  refine g_ishr hw dJ5_length_9 ?_
  exact g_iret hw dJ5_length_10 rfl ⟨_, rfl, h⟩
def fJ6_canEncode_b15  (M : gM) (Q : Int32 → gM → Prop) : Prop :=
  Q 0 M
theorem wJ6_canEncode_b15 {kf : Nat} {G : gG} {w : gM → Nat → List (Nat × Value) → List Value → Prop} {Q : Int32 → gM → Prop} (hw : gX yJ6_canEncode cJ6_canEncode 1 (Option.some FieldType.boolean) [] kf G (gQi Q) gE0 w) (hkf : 1 ≤ kf)   {M : gM}  (h : fJ6_canEncode_b15 M Q) : w M 15 [] [] := by
  unfold fJ6_canEncode_b15 at h
  refine g_iconst (v := 0) hw dJ6_canEncode_15 (by decide) ?_
  exact g_iret hw dJ6_canEncode_16 (by decide +kernel) ⟨_, rfl, h⟩
def fJ6_canEncode (p1 : Int32) (M : gM) (Q : Int32 → gM → Prop) : Prop :=
  (if p1 < 0 then fJ6_canEncode_b15 M Q else (if 255 < p1 then fJ6_canEncode_b15 M Q else Q 1 M))
theorem mJ6_canEncode {kf : Nat} (hkf : 1 ≤ kf) (G : gG) (p1 : Int32) (M : gM) (Q : Int32 → gM → Prop) (h : fJ6_canEncode p1 M Q) : gMet yJ6_canEncode cJ6_canEncode 1 (Option.some FieldType.boolean) kf G M [.int p1] (gQi Q) gE0 := by
  refine g_introJ (lv := [(0, .int p1)]) (by decide +kernel) rfl rfl (fun w hw => ?_)
  unfold fJ6_canEncode at h
  refine g_iload_n hw 0 dJ6_canEncode_0 rfl ?_
  refine g_if_lt (tgt := 15) hw dJ6_canEncode_1 (by decide) (fun hb1 => ?_) (fun hb1 => ?_)
  · have h := gT h hb1
    refine g_sub hw (lv2 := []) [] rfl ?_
    exact wJ6_canEncode_b15 hw hkf h
  · have h := gF h hb1
    refine g_iload_n hw 0 dJ6_canEncode_4 rfl ?_
    refine g_sipush (v := 255) hw dJ6_canEncode_5 (by decide) ?_
    refine g_icmp_gt (tgt := 15) hw dJ6_canEncode_8 (by decide) (fun hb2 => ?_) (fun hb2 => ?_)
    · have h := gT h hb2
      refine g_sub hw (lv2 := []) [] rfl ?_
      exact wJ6_canEncode_b15 hw hkf h
    · have h := gF h hb2
      refine g_iconst (v := 1) hw dJ6_canEncode_11 (by decide) ?_
      refine g_goto (tgt := 16) hw dJ6_canEncode_12 (by decide) ?_
      exact g_iret hw dJ6_canEncode_16 (by decide +kernel) ⟨_, rfl, h⟩
def fJ6_indexOfChar_L7s (R7 : Int32 → gM → Prop) (K22_7 : Int32 → gM → Prop) (K31_7 : gM → Prop) (l0_1 : Nat) (l3_2 : Int32) (l4_3 : Int32) (l5_4 : Int32) (M : gM) (Q : Int32 → gM → Prop) : Prop :=
  (if l3_2 ≤ l5_4 then K31_7 M else (8 ≤ l0_1 ∧ l0_1 < 16) ∧ vp_in l5_4 (gSL l0_1) ∧ (if (gSB l0_1 l5_4.toNatClampNeg) = l4_3 then K22_7 l5_4 M else R7 (l5_4 + 1) M))
def fJ6_indexOfChar_L7 (K22_7 : Int32 → gM → Prop) (K31_7 : gM → Prop) (l0_1 : Nat) (l3_2 : Int32) (l4_3 : Int32) (Q : Int32 → gM → Prop) : Nat → Int32 → gM → Prop
  | 0 => fun _ _ => False
  | n + 1 => fun l5_4 M => fJ6_indexOfChar_L7s (fJ6_indexOfChar_L7 K22_7 K31_7 l0_1 l3_2 l4_3 Q n) K22_7 K31_7 l0_1 l3_2 l4_3 l5_4 M Q
theorem wJ6_indexOfChar_L7s {kf : Nat} {G : gG} {w : gM → Nat → List (Nat × Value) → List Value → Prop} {Q : Int32 → gM → Prop} (hw : gX yJ6_indexOfChar cJ6_indexOfChar 6 (Option.some FieldType.int) [] kf G (gQi Q) gE0 w) (hkf : 1 ≤ kf) {R7 : Int32 → gM → Prop} {K22_7 : Int32 → gM → Prop} {K31_7 : gM → Prop} {l0_1 : Nat} {l3_2 : Int32} {l4_3 : Int32} {l5_4 : Int32} {M : gM} (hR7 : ∀ (v0 : Int32) (M : gM), R7 v0 M → w M 7 [(0, .ref (gA G l0_1)), (3, .int l3_2), (4, .int l4_3), (5, .int v0)] []) (hK22_7 : ∀ (v0 : Int32) (M : gM), K22_7 v0 M → w M 22 [(5, .int v0)] []) (hK31_7 : ∀  (M : gM), K31_7 M → w M 31 [] []) (h : fJ6_indexOfChar_L7s R7 K22_7 K31_7 l0_1 l3_2 l4_3 l5_4 M Q) : w M 7 [(0, .ref (gA G l0_1)), (3, .int l3_2), (4, .int l4_3), (5, .int l5_4)] [] := by
  unfold fJ6_indexOfChar_L7s at h
  refine g_iload hw 3 dJ6_indexOfChar_7 rfl ?_
  refine g_iload_n hw 1 dJ6_indexOfChar_9 rfl ?_
  refine g_icmp_ge (tgt := 31) hw dJ6_indexOfChar_10 (by decide) (fun hb5 => ?_) (fun hb5 => ?_)
  · have h := gT h hb5
    refine g_sub hw (lv2 := []) [] rfl ?_
    exact hK31_7 M h
  · have h := gF h hb5
    refine g_aload_n hw 0 dJ6_indexOfChar_13 rfl ?_
    refine g_iload hw 3 dJ6_indexOfChar_14 rfl ?_
    obtain ⟨hs6, h⟩ := h
    obtain ⟨hi7, h⟩ := h
    refine g_sbald (n := l5_4.toNatClampNeg) hw dJ6_indexOfChar_16 hs6 hi7 rfl ?_
    refine g_iload hw 2 dJ6_indexOfChar_17 rfl ?_
    refine g_icmp_ne (tgt := 25) hw dJ6_indexOfChar_19 (by decide) (fun hb8 => ?_) (fun hb8 => ?_)
    · have h := gF h hb8
      refine g_iinc hw (lv2 := [(0, .ref (gA G l0_1)), (3, .int l3_2), (4, .int l4_3), (5, .int (l5_4 + 1))]) 3 [1, 2, 3, 0] dJ6_indexOfChar_25 rfl (by decide) rfl rfl ?_
      refine g_goto (tgt := 7) hw dJ6_indexOfChar_28 (by decide) ?_
      exact hR7 (l5_4 + 1) M h
    · have h := gT h hb8
      refine g_sub hw (lv2 := [(5, .int l5_4)]) [3] rfl ?_
      exact hK22_7 l5_4 M h
theorem wJ6_indexOfChar_L7 {kf : Nat} {G : gG} {w : gM → Nat → List (Nat × Value) → List Value → Prop} {Q : Int32 → gM → Prop} (hw : gX yJ6_indexOfChar cJ6_indexOfChar 6 (Option.some FieldType.int) [] kf G (gQi Q) gE0 w) (hkf : 1 ≤ kf) {K22_7 : Int32 → gM → Prop} {K31_7 : gM → Prop} {l0_1 : Nat} {l3_2 : Int32} {l4_3 : Int32} (hK22_7 : ∀ (v0 : Int32) (M : gM), K22_7 v0 M → w M 22 [(5, .int v0)] []) (hK31_7 : ∀  (M : gM), K31_7 M → w M 31 [] []) : ∀ (n : Nat) (l5_4 : Int32) (M : gM), fJ6_indexOfChar_L7 K22_7 K31_7 l0_1 l3_2 l4_3 Q n l5_4 M → w M 7 [(0, .ref (gA G l0_1)), (3, .int l3_2), (4, .int l4_3), (5, .int l5_4)] [] := by
  intro n
  induction n with
  | zero => intro l5_4 M h; exact h.elim
  | succ n ih => intro l5_4 M h; exact wJ6_indexOfChar_L7s hw hkf ih hK22_7 hK31_7 h
def fJ6_indexOfChar (p1 : Nat) (p2 : Int32) (p3 : Int32) (p4 : Int32) (M : gM) (Q : Int32 → gM → Prop) : Prop :=
  ∃ n, fJ6_indexOfChar_L7 (fun l5_9 M10 => Q l5_9 M10) (fun M11 => Q (-1) M11) p1 p4 p2.toInt8.toInt32 Q n p3 M
theorem mJ6_indexOfChar {kf : Nat} (hkf : 1 ≤ kf) (G : gG) (p1 : Nat) (p2 : Int32) (p3 : Int32) (p4 : Int32) (M : gM) (Q : Int32 → gM → Prop) (h : fJ6_indexOfChar p1 p2 p3 p4 M Q) : gMet yJ6_indexOfChar cJ6_indexOfChar 6 (Option.some FieldType.int) kf G M [.ref (gA G p1), .int p2, .int p3, .int p4] (gQi Q) gE0 := by
  refine g_introJ (lv := [(0, .ref (gA G p1)), (1, .int p2), (2, .int p3), (3, .int p4)]) (by decide +kernel) rfl rfl (fun w hw => ?_)
  unfold fJ6_indexOfChar at h
  refine g_iload_n hw 1 dJ6_indexOfChar_0 rfl ?_
  refine g_i2b hw dJ6_indexOfChar_1 ?_
  refine g_istore hw (lv2 := [(0, .ref (gA G p1)), (2, .int p3), (3, .int p4), (4, .int p2.toInt8.toInt32)]) [1, 3, 4, 0] dJ6_indexOfChar_2 rfl rfl ?_
  refine g_iload_n hw 1 dJ6_indexOfChar_4 rfl ?_
  refine g_istore hw (lv2 := [(0, .ref (gA G p1)), (3, .int p4), (4, .int p2.toInt8.toInt32), (5, .int p3)]) [1, 3, 4, 0] dJ6_indexOfChar_5 rfl rfl ?_
  obtain ⟨n9, h⟩ := h
  refine wJ6_indexOfChar_L7 hw hkf (fun l5_9 M10 h => ?_) (fun M11 h => ?_) n9 p3 M h
  · refine g_iload hw 0 dJ6_indexOfChar_22 rfl ?_
    exact g_iret hw dJ6_indexOfChar_24 rfl ⟨_, rfl, h⟩
  · refine g_iconst (v := (-1)) hw dJ6_indexOfChar_31 (by decide) ?_
    exact g_iret hw dJ6_indexOfChar_32 rfl ⟨_, rfl, h⟩
theorem sJ6_88 {y0 : MethodName} {cc : ByteArray} {nL : Nat} {ret : Option FieldType} {hh : List (Nat × Nat × Nat × Nat)} {kf : Nat} {G : gG} {Qv : Option Value → gM → Prop} {E : String → Nat → gM → Prop} {w : gM → Nat → List (Nat × Value) → List Value → Prop} {M : gM} {pc : Nat} {lv : List (Nat × Value)} {rest : List Value} (hw : gX y0 cc nL ret hh kf G Qv E w) (hy : y0.cls = RJ6) {p1 : Int32} {Q : Int32 → gM → Prop} (d : decode cc pc = .ok (.invokestatic 88, 3)) (hrest : Nat.ble ((rest.map Value.category).sum) 8 = true) (hk : 1 + 1 ≤ kf) (h : fJ6_canEncode p1 M Q) (kk : ∀ r M1, Q r M1 → w M1 (pc + 3) lv (.int r :: rest)) : w M pc lv (.int p1 :: rest) := by
  obtain ⟨cls9, nm9, ds9⟩ := y0
  subst hy
  exact g_callS hw [.int p1] (nA := 1) rfl d q544 q545 q111 q546 (by decide +kernel) rfl hrest rfl (by omega : kf - 1 + 1 ≤ kf) (mJ6_canEncode (kf := kf - 1) (by omega) G p1 M Q h) (fun _ _ _ q => q.elim) (fun v M1 h => by obtain ⟨r, rfl, h⟩ := h; exact kk r M1 h)
theorem sJ6_92 {y0 : MethodName} {cc : ByteArray} {nL : Nat} {ret : Option FieldType} {hh : List (Nat × Nat × Nat × Nat)} {kf : Nat} {G : gG} {Qv : Option Value → gM → Prop} {E : String → Nat → gM → Prop} {w : gM → Nat → List (Nat × Value) → List Value → Prop} {M : gM} {pc : Nat} {lv : List (Nat × Value)} {rest : List Value} (hw : gX y0 cc nL ret hh kf G Qv E w) (hy : y0.cls = RJ6) {p1 : Int32} {p2 : Int32} {Q : Int32 → gM → Prop} (d : decode cc pc = .ok (.invokestatic 92, 3)) (hrest : Nat.ble ((rest.map Value.category).sum) 8 = true) (hk : 1 + 1 ≤ kf) (h : fJ0_max p1 p2 M Q) (kk : ∀ r M1, Q r M1 → w M1 (pc + 3) lv (.int r :: rest)) : w M pc lv (.int p2 :: .int p1 :: rest) := by
  obtain ⟨cls9, nm9, ds9⟩ := y0
  subst hy
  exact g_callS hw [.int p1, .int p2] (nA := 2) rfl d q547 q376 q105 q377 (by decide +kernel) rfl hrest rfl (by omega : kf - 1 + 1 ≤ kf) (mJ0_max (kf := kf - 1) (by omega) G p1 p2 M Q h) (fun _ _ _ q => q.elim) (fun v M1 h => by obtain ⟨r, rfl, h⟩ := h; exact kk r M1 h)
theorem sJ6_38 {y0 : MethodName} {cc : ByteArray} {nL : Nat} {ret : Option FieldType} {hh : List (Nat × Nat × Nat × Nat)} {kf : Nat} {G : gG} {Qv : Option Value → gM → Prop} {E : String → Nat → gM → Prop} {w : gM → Nat → List (Nat × Value) → List Value → Prop} {M : gM} {pc : Nat} {lv : List (Nat × Value)} {rest : List Value} (hw : gX y0 cc nL ret hh kf G Qv E w) (hy : y0.cls = RJ6) {p1 : Int32} {p2 : Int32} {Q : Int32 → gM → Prop} (d : decode cc pc = .ok (.invokestatic 38, 3)) (hrest : Nat.ble ((rest.map Value.category).sum) 8 = true) (hk : 1 + 1 ≤ kf) (h : fJ0_min p1 p2 M Q) (kk : ∀ r M1, Q r M1 → w M1 (pc + 3) lv (.int r :: rest)) : w M pc lv (.int p2 :: .int p1 :: rest) := by
  obtain ⟨cls9, nm9, ds9⟩ := y0
  subst hy
  exact g_callS hw [.int p1, .int p2] (nA := 2) rfl d q548 q549 q105 q550 (by decide +kernel) rfl hrest rfl (by omega : kf - 1 + 1 ≤ kf) (mJ0_min (kf := kf - 1) (by omega) G p1 p2 M Q h) (fun _ _ _ q => q.elim) (fun v M1 h => by obtain ⟨r, rfl, h⟩ := h; exact kk r M1 h)
theorem sJ6_95 {y0 : MethodName} {cc : ByteArray} {nL : Nat} {ret : Option FieldType} {hh : List (Nat × Nat × Nat × Nat)} {kf : Nat} {G : gG} {Qv : Option Value → gM → Prop} {E : String → Nat → gM → Prop} {w : gM → Nat → List (Nat × Value) → List Value → Prop} {M : gM} {pc : Nat} {lv : List (Nat × Value)} {rest : List Value} (hw : gX y0 cc nL ret hh kf G Qv E w) (hy : y0.cls = RJ6) {p1 : Nat} {p2 : Int32} {p3 : Int32} {p4 : Int32} {Q : Int32 → gM → Prop} (d : decode cc pc = .ok (.invokestatic 95, 3)) (hrest : Nat.ble ((rest.map Value.category).sum) 8 = true) (hk : 1 + 1 ≤ kf) (h : fJ6_indexOfChar p1 p2 p3 p4 M Q) (kk : ∀ r M1, Q r M1 → w M1 (pc + 3) lv (.int r :: rest)) : w M pc lv (.int p4 :: .int p3 :: .int p2 :: .ref (gA G p1) :: rest) := by
  obtain ⟨cls9, nm9, ds9⟩ := y0
  subst hy
  exact g_callS hw [.ref (gA G p1), .int p2, .int p3, .int p4] (nA := 4) rfl d q551 q552 q111 q553 (by decide +kernel) rfl hrest rfl (by omega : kf - 1 + 1 ≤ kf) (mJ6_indexOfChar (kf := kf - 1) (by omega) G p1 p2 p3 p4 M Q h) (fun _ _ _ q => q.elim) (fun v M1 h => by obtain ⟨r, rfl, h⟩ := h; exact kk r M1 h)
def fJ6_indexOf (p1 : Nat) (p2 : Int32) (p3 : Int32) (p4 : Int32) (M : gM) (Q : Int32 → gM → Prop) : Prop :=
  fJ6_canEncode p2 M (fun r2 M1 => (if r2 = 0 then Q (-1) M1 else fJ0_max p3 0 M1 (fun r5 M4 => (8 ≤ p1 ∧ p1 < 16) ∧ fJ0_min p4 (nI (gSL p1)) M4 (fun r8 M7 => (if r5 < r8 then fJ6_indexOfChar p1 p2 r5 r8 M7 (fun r11 M10 => Q r11 M10) else Q (-1) M7)))))
theorem mJ6_indexOf {kf : Nat} (hkf : 2 ≤ kf) (G : gG) (p1 : Nat) (p2 : Int32) (p3 : Int32) (p4 : Int32) (M : gM) (Q : Int32 → gM → Prop) (h : fJ6_indexOf p1 p2 p3 p4 M Q) : gMet yJ6_indexOf cJ6_indexOf 4 (Option.some FieldType.int) kf G M [.ref (gA G p1), .int p2, .int p3, .int p4] (gQi Q) gE0 := by
  refine g_introJ (lv := [(0, .ref (gA G p1)), (1, .int p2), (2, .int p3), (3, .int p4)]) (by decide +kernel) rfl rfl (fun w hw => ?_)
  unfold fJ6_indexOf at h
  refine g_iload_n hw 1 dJ6_indexOf_0 rfl ?_
  refine sJ6_88 hw rfl dJ6_indexOf_1 rfl (gK2 hkf) h (fun r2 M1 h => ?_)
  refine g_if_ne (tgt := 9) hw dJ6_indexOf_4 (by decide) (fun hb3 => ?_) (fun hb3 => ?_)
  · have h := gF h hb3
    refine g_iload_n hw 2 dJ6_indexOf_9 rfl ?_
    refine g_iconst (v := 0) hw dJ6_indexOf_10 (by decide) ?_
    refine sJ6_92 hw rfl dJ6_indexOf_11 rfl (gK2 hkf) h (fun r5 M4 h => ?_)
    refine g_istore_n hw (lv2 := [(0, .ref (gA G p1)), (1, .int p2), (2, .int r5), (3, .int p4)]) [1, 2, 0, 3] dJ6_indexOf_14 rfl rfl ?_
    refine g_iload_n hw 3 dJ6_indexOf_15 rfl ?_
    refine g_aload_n hw 0 dJ6_indexOf_16 rfl ?_
    obtain ⟨hs6, h⟩ := h
    refine g_salen hw dJ6_indexOf_17 hs6 ?_
    refine sJ6_38 hw rfl dJ6_indexOf_18 rfl (gK2 hkf) h (fun r8 M7 h => ?_)
    refine g_istore_n hw (lv2 := [(0, .ref (gA G p1)), (1, .int p2), (2, .int r5), (3, .int r8)]) [1, 2, 3, 0] dJ6_indexOf_21 rfl rfl ?_
    refine g_iload_n hw 2 dJ6_indexOf_22 rfl ?_
    refine g_iload_n hw 3 dJ6_indexOf_23 rfl ?_
    refine g_icmp_lt (tgt := 29) hw dJ6_indexOf_24 (by decide) (fun hb9 => ?_) (fun hb9 => ?_)
    · have h := gT h hb9
      refine g_aload_n hw 0 dJ6_indexOf_29 rfl ?_
      refine g_iload_n hw 1 dJ6_indexOf_30 rfl ?_
      refine g_iload_n hw 2 dJ6_indexOf_31 rfl ?_
      refine g_iload_n hw 3 dJ6_indexOf_32 rfl ?_
      refine sJ6_95 hw rfl dJ6_indexOf_33 rfl (gK2 hkf) h (fun r11 M10 h => ?_)
      exact g_iret hw dJ6_indexOf_36 rfl ⟨_, rfl, h⟩
    · have h := gF h hb9
      refine g_iconst (v := (-1)) hw dJ6_indexOf_27 (by decide) ?_
      exact g_iret hw dJ6_indexOf_28 rfl ⟨_, rfl, h⟩
  · have h := gT h hb3
    refine g_iconst (v := (-1)) hw dJ6_indexOf_7 (by decide) ?_
    exact g_iret hw dJ6_indexOf_8 rfl ⟨_, rfl, h⟩
theorem sJ5_492 {y0 : MethodName} {cc : ByteArray} {nL : Nat} {ret : Option FieldType} {hh : List (Nat × Nat × Nat × Nat)} {kf : Nat} {G : gG} {Qv : Option Value → gM → Prop} {E : String → Nat → gM → Prop} {w : gM → Nat → List (Nat × Value) → List Value → Prop} {M : gM} {pc : Nat} {lv : List (Nat × Value)} {rest : List Value} (hw : gX y0 cc nL ret hh kf G Qv E w) (hy : y0.cls = RJ5) {c0 : Nat} {Q : Int32 → gM → Prop} (d : decode cc pc = .ok (.invokevirtual 492, 3)) (hrest : Nat.ble ((rest.map Value.category).sum) 8 = true) (hk : 1 + 1 ≤ kf) (hkd : c0 < 8) (h : fJ5_isLatin1 c0 M Q) (kk : ∀ r M1, Q r M1 → w M1 (pc + 3) lv (.int r :: rest)) : w M pc lv (.ref (gA G c0) :: rest) := by
  obtain ⟨cls9, nm9, ds9⟩ := y0
  subst hy
  exact g_callVS hw [] (nA := 0) rfl d q527 q528 q529 q110 q530 (by decide +kernel) rfl hrest rfl (by omega : kf - 1 + 1 ≤ kf) hkd (mJ5_isLatin1 (kf := kf - 1) (by omega) G c0 M Q h) (fun _ _ _ q => q.elim) (fun v M1 h => by obtain ⟨r, rfl, h⟩ := h; exact kk r M1 h)
theorem sJ5_505 {y0 : MethodName} {cc : ByteArray} {nL : Nat} {ret : Option FieldType} {hh : List (Nat × Nat × Nat × Nat)} {kf : Nat} {G : gG} {Qv : Option Value → gM → Prop} {E : String → Nat → gM → Prop} {w : gM → Nat → List (Nat × Value) → List Value → Prop} {M : gM} {pc : Nat} {lv : List (Nat × Value)} {rest : List Value} (hw : gX y0 cc nL ret hh kf G Qv E w) (hy : y0.cls = RJ5) {c0 : Nat} {Q : Int32 → gM → Prop} (d : decode cc pc = .ok (.invokevirtual 505, 3)) (hrest : Nat.ble ((rest.map Value.category).sum) 8 = true) (hk : 2 + 1 ≤ kf) (hkd : c0 < 8) (h : fJ5_length c0 M Q) (kk : ∀ r M1, Q r M1 → w M1 (pc + 3) lv (.int r :: rest)) : w M pc lv (.ref (gA G c0) :: rest) := by
  obtain ⟨cls9, nm9, ds9⟩ := y0
  subst hy
  exact g_callVS hw [] (nA := 0) rfl d q533 q534 q535 q110 q536 (by decide +kernel) rfl hrest rfl (by omega : kf - 1 + 1 ≤ kf) hkd (mJ5_length (kf := kf - 1) (by omega) G c0 M Q h) (fun _ _ _ q => q.elim) (fun v M1 h => by obtain ⟨r, rfl, h⟩ := h; exact kk r M1 h)
theorem sJ5_637 {y0 : MethodName} {cc : ByteArray} {nL : Nat} {ret : Option FieldType} {hh : List (Nat × Nat × Nat × Nat)} {kf : Nat} {G : gG} {Qv : Option Value → gM → Prop} {E : String → Nat → gM → Prop} {w : gM → Nat → List (Nat × Value) → List Value → Prop} {M : gM} {pc : Nat} {lv : List (Nat × Value)} {rest : List Value} (hw : gX y0 cc nL ret hh kf G Qv E w) (hy : y0.cls = RJ5) {p1 : Nat} {p2 : Int32} {p3 : Int32} {p4 : Int32} {Q : Int32 → gM → Prop} (d : decode cc pc = .ok (.invokestatic 637, 3)) (hrest : Nat.ble ((rest.map Value.category).sum) 8 = true) (hk : 2 + 1 ≤ kf) (h : fJ6_indexOf p1 p2 p3 p4 M Q) (kk : ∀ r M1, Q r M1 → w M1 (pc + 3) lv (.int r :: rest)) : w M pc lv (.int p4 :: .int p3 :: .int p2 :: .ref (gA G p1) :: rest) := by
  obtain ⟨cls9, nm9, ds9⟩ := y0
  subst hy
  exact g_callS hw [.ref (gA G p1), .int p2, .int p3, .int p4] (nA := 4) rfl d q541 q542 q111 q543 (by decide +kernel) rfl hrest rfl (by omega : kf - 1 + 1 ≤ kf) (mJ6_indexOf (kf := kf - 1) (by omega) G p1 p2 p3 p4 M Q h) (fun _ _ _ q => q.elim) (fun v M1 h => by obtain ⟨r, rfl, h⟩ := h; exact kk r M1 h)
def fJ5_indexOf_2 (c0 : Nat) (p1 : Int32) (p2 : Int32) (M : gM) (Q : Int32 → gM → Prop) : Prop :=
  (c0 < 8) ∧ fJ5_isLatin1 c0 M (fun r3 M2 => (if r3 = 0 then (c0 < 8) ∧ (c0 < 8) ∧ fJ5_length c0 M2 (fun r8 M7 => False) else (c0 < 8) ∧ (c0 < 8) ∧ fJ5_length c0 M2 (fun r12 M11 => fJ6_indexOf (8 + c0) p1 p2 r12 M11 (fun r14 M13 => Q r14 M13))))
theorem mJ5_indexOf_2 {kf : Nat} (hkf : 3 ≤ kf) (G : gG) (c0 : Nat) (p1 : Int32) (p2 : Int32) (M : gM) (Q : Int32 → gM → Prop) (h : fJ5_indexOf_2 c0 p1 p2 M Q) : gMet yJ5_indexOf_2 cJ5_indexOf_2 3 (Option.some FieldType.int) kf G M [.ref (gA G c0), .int p1, .int p2] (gQi Q) gE0 := by
  refine g_introJ (lv := [(0, .ref (gA G c0)), (1, .int p1), (2, .int p2)]) (by decide +kernel) rfl rfl (fun w hw => ?_)
  unfold fJ5_indexOf_2 at h
  refine g_aload_n hw 0 dJ5_indexOf_2_0 rfl ?_
  obtain ⟨hs1, h⟩ := h
  refine sJ5_492 hw rfl dJ5_indexOf_2_1 rfl (gK2 hkf) hs1 h (fun r3 M2 h => ?_)
  refine g_if_eq (tgt := 23) hw dJ5_indexOf_2_4 (by decide) (fun hb4 => ?_) (fun hb4 => ?_)
  · have h := gT h hb4
    refine g_aload_n hw 0 dJ5_indexOf_2_23 rfl ?_
    obtain ⟨hs5, h⟩ := h
    refine g_strV hw dJ5_indexOf_2_24 q1784 hs5 ?_
    refine g_iload_n hw 1 dJ5_indexOf_2_27 rfl ?_
    refine g_iload_n hw 2 dJ5_indexOf_2_28 rfl ?_
    refine g_aload_n hw 0 dJ5_indexOf_2_29 rfl ?_
    obtain ⟨hs6, h⟩ := h
    refine sJ5_505 hw rfl dJ5_indexOf_2_30 rfl (gK2 hkf) hs6 h (fun r8 M7 h => ?_)
    exact h.elim
  · have h := gF h hb4
    refine g_aload_n hw 0 dJ5_indexOf_2_7 rfl ?_
    obtain ⟨hs9, h⟩ := h
    refine g_strV hw dJ5_indexOf_2_8 q1784 hs9 ?_
    refine g_iload_n hw 1 dJ5_indexOf_2_11 rfl ?_
    refine g_iload_n hw 2 dJ5_indexOf_2_12 rfl ?_
    refine g_aload_n hw 0 dJ5_indexOf_2_13 rfl ?_
    obtain ⟨hs10, h⟩ := h
    refine sJ5_505 hw rfl dJ5_indexOf_2_14 rfl (gK2 hkf) hs10 h (fun r12 M11 h => ?_)
    refine sJ5_637 hw rfl dJ5_indexOf_2_17 rfl (gK2 hkf) h (fun r14 M13 h => ?_)
    refine g_goto (tgt := 36) hw dJ5_indexOf_2_20 (by decide) ?_
    exact g_iret hw dJ5_indexOf_2_36 rfl ⟨_, rfl, h⟩
theorem sJ5_633 {y0 : MethodName} {cc : ByteArray} {nL : Nat} {ret : Option FieldType} {hh : List (Nat × Nat × Nat × Nat)} {kf : Nat} {G : gG} {Qv : Option Value → gM → Prop} {E : String → Nat → gM → Prop} {w : gM → Nat → List (Nat × Value) → List Value → Prop} {M : gM} {pc : Nat} {lv : List (Nat × Value)} {rest : List Value} (hw : gX y0 cc nL ret hh kf G Qv E w) (hy : y0.cls = RJ5) {c0 : Nat} {p1 : Int32} {p2 : Int32} {Q : Int32 → gM → Prop} (d : decode cc pc = .ok (.invokevirtual 633, 3)) (hrest : Nat.ble ((rest.map Value.category).sum) 8 = true) (hk : 3 + 1 ≤ kf) (hkd : c0 < 8) (h : fJ5_indexOf_2 c0 p1 p2 M Q) (kk : ∀ r M1, Q r M1 → w M1 (pc + 3) lv (.int r :: rest)) : w M pc lv (.int p2 :: .int p1 :: .ref (gA G c0) :: rest) := by
  obtain ⟨cls9, nm9, ds9⟩ := y0
  subst hy
  exact g_callVS hw [.int p1, .int p2] (nA := 2) rfl d q523 q524 q525 q110 q526 (by decide +kernel) rfl hrest rfl (by omega : kf - 1 + 1 ≤ kf) hkd (mJ5_indexOf_2 (kf := kf - 1) (by omega) G c0 p1 p2 M Q h) (fun _ _ _ q => q.elim) (fun v M1 h => by obtain ⟨r, rfl, h⟩ := h; exact kk r M1 h)
def fJ5_indexOf (c0 : Nat) (p1 : Int32) (M : gM) (Q : Int32 → gM → Prop) : Prop :=
  (c0 < 8) ∧ fJ5_indexOf_2 c0 p1 0 M (fun r3 M2 => Q r3 M2)
theorem mJ5_indexOf {kf : Nat} (hkf : 4 ≤ kf) (G : gG) (c0 : Nat) (p1 : Int32) (M : gM) (Q : Int32 → gM → Prop) (h : fJ5_indexOf c0 p1 M Q) : gMet yJ5_indexOf cJ5_indexOf 2 (Option.some FieldType.int) kf G M [.ref (gA G c0), .int p1] (gQi Q) gE0 := by
  refine g_introJ (lv := [(0, .ref (gA G c0)), (1, .int p1)]) (by decide +kernel) rfl rfl (fun w hw => ?_)
  unfold fJ5_indexOf at h
  refine g_aload_n hw 0 dJ5_indexOf_0 rfl ?_
  refine g_iload_n hw 1 dJ5_indexOf_1 rfl ?_
  refine g_iconst (v := 0) hw dJ5_indexOf_2 (by decide) ?_
  obtain ⟨hs1, h⟩ := h
  refine sJ5_633 hw rfl dJ5_indexOf_3 rfl (gK2 hkf) hs1 h (fun r3 M2 h => ?_)
  exact g_iret hw dJ5_indexOf_6 rfl ⟨_, rfl, h⟩
def fJ8_checkFromToIndex_b14 (l0_2 : Int32) (l1_3 : Int32) (l2_4 : Int32) (l3_5 : Nat) (M : gM) (Q : Int32 → gM → Prop) : Prop :=
  False
theorem wJ8_checkFromToIndex_b14 {kf : Nat} {G : gG} {w : gM → Nat → List (Nat × Value) → List Value → Prop} {Q : Int32 → gM → Prop} (hw : gX yJ8_checkFromToIndex cJ8_checkFromToIndex 4 (Option.some FieldType.int) [] kf G (gQi Q) gE0 w) (hkf : 1 ≤ kf)  {l0_2 : Int32} {l1_3 : Int32} {l2_4 : Int32} {l3_5 : Nat} {M : gM}  (h : fJ8_checkFromToIndex_b14 l0_2 l1_3 l2_4 l3_5 M Q) : w M 14 [(0, .int l0_2), (1, .int l1_3), (2, .int l2_4), (3, .ref (gA G l3_5))] [] := by
  unfold fJ8_checkFromToIndex_b14 at h
  refine g_aload_n hw 3 dJ8_checkFromToIndex_14 rfl ?_
  refine g_iload_n hw 0 dJ8_checkFromToIndex_15 rfl ?_
  refine g_iload_n hw 1 dJ8_checkFromToIndex_16 rfl ?_
  refine g_iload_n hw 2 dJ8_checkFromToIndex_17 rfl ?_
  exact h.elim
def fJ8_checkFromToIndex (p1 : Int32) (p2 : Int32) (p3 : Int32) (p4 : Nat) (M : gM) (Q : Int32 → gM → Prop) : Prop :=
  (if p1 < 0 then fJ8_checkFromToIndex_b14 p1 p2 p3 p4 M Q else (if p2 < p1 then fJ8_checkFromToIndex_b14 p1 p2 p3 p4 M Q else (if p2 ≤ p3 then Q p1 M else fJ8_checkFromToIndex_b14 p1 p2 p3 p4 M Q)))
theorem mJ8_checkFromToIndex {kf : Nat} (hkf : 1 ≤ kf) (G : gG) (p1 : Int32) (p2 : Int32) (p3 : Int32) (p4 : Nat) (M : gM) (Q : Int32 → gM → Prop) (h : fJ8_checkFromToIndex p1 p2 p3 p4 M Q) : gMet yJ8_checkFromToIndex cJ8_checkFromToIndex 4 (Option.some FieldType.int) kf G M [.int p1, .int p2, .int p3, .ref (gA G p4)] (gQi Q) gE0 := by
  refine g_introJ (lv := [(0, .int p1), (1, .int p2), (2, .int p3), (3, .ref (gA G p4))]) (by decide +kernel) rfl rfl (fun w hw => ?_)
  unfold fJ8_checkFromToIndex at h
  refine g_iload_n hw 0 dJ8_checkFromToIndex_0 rfl ?_
  refine g_if_lt (tgt := 14) hw dJ8_checkFromToIndex_1 (by decide) (fun hb1 => ?_) (fun hb1 => ?_)
  · have h := gT h hb1
    exact wJ8_checkFromToIndex_b14 hw hkf h
  · have h := gF h hb1
    refine g_iload_n hw 0 dJ8_checkFromToIndex_4 rfl ?_
    refine g_iload_n hw 1 dJ8_checkFromToIndex_5 rfl ?_
    refine g_icmp_gt (tgt := 14) hw dJ8_checkFromToIndex_6 (by decide) (fun hb6 => ?_) (fun hb6 => ?_)
    · have h := gT h hb6
      exact wJ8_checkFromToIndex_b14 hw hkf h
    · have h := gF h hb6
      refine g_iload_n hw 1 dJ8_checkFromToIndex_9 rfl ?_
      refine g_iload_n hw 2 dJ8_checkFromToIndex_10 rfl ?_
      refine g_icmp_le (tgt := 22) hw dJ8_checkFromToIndex_11 (by decide) (fun hb7 => ?_) (fun hb7 => ?_)
      · have h := gT h hb7
        refine g_iload_n hw 0 dJ8_checkFromToIndex_22 rfl ?_
        exact g_iret hw dJ8_checkFromToIndex_23 rfl ⟨_, rfl, h⟩
      · have h := gF h hb7
        exact wJ8_checkFromToIndex_b14 hw hkf h
theorem sJ5_1062 {y0 : MethodName} {cc : ByteArray} {nL : Nat} {ret : Option FieldType} {hh : List (Nat × Nat × Nat × Nat)} {kf : Nat} {G : gG} {Qv : Option Value → gM → Prop} {E : String → Nat → gM → Prop} {w : gM → Nat → List (Nat × Value) → List Value → Prop} {M : gM} {pc : Nat} {lv : List (Nat × Value)} {rest : List Value} (hw : gX y0 cc nL ret hh kf G Qv E w) (hy : y0.cls = RJ5) {p1 : Int32} {p2 : Int32} {p3 : Int32} {p4 : Nat} {Q : Int32 → gM → Prop} (d : decode cc pc = .ok (.invokestatic 1062, 3)) (hrest : Nat.ble ((rest.map Value.category).sum) 8 = true) (hk : 1 + 1 ≤ kf) (h : fJ8_checkFromToIndex p1 p2 p3 p4 M Q) (kk : ∀ r M1, Q r M1 → w M1 (pc + 3) lv (.int r :: rest)) : w M pc lv (.ref (gA G p4) :: .int p3 :: .int p2 :: .int p1 :: rest) := by
  obtain ⟨cls9, nm9, ds9⟩ := y0
  subst hy
  exact g_callS hw [.int p1, .int p2, .int p3, .ref (gA G p4)] (nA := 4) rfl d q574 q575 q113 q576 (by decide +kernel) rfl hrest rfl (by omega : kf - 1 + 1 ≤ kf) (mJ8_checkFromToIndex (kf := kf - 1) (by omega) G p1 p2 p3 p4 M Q h) (fun _ _ _ q => q.elim) (fun v M1 h => by obtain ⟨r, rfl, h⟩ := h; exact kk r M1 h)
def fJ5_checkBoundsBeginEnd (p1 : Int32) (p2 : Int32) (p3 : Int32) (M : gM) (Q : gM → Prop) : Prop :=
  ∀ q1 : Option Nat, gdr (q1) (fun a2 => fJ8_checkFromToIndex p1 p2 p3 a2 M (fun r5 M4 => Q M4))
theorem mJ5_checkBoundsBeginEnd {kf : Nat} (hkf : 2 ≤ kf) (G : gG) (p1 : Int32) (p2 : Int32) (p3 : Int32) (M : gM) (Q : gM → Prop) (h : fJ5_checkBoundsBeginEnd p1 p2 p3 M Q) : gMet yJ5_checkBoundsBeginEnd cJ5_checkBoundsBeginEnd 3 (Option.none : Option FieldType) kf G M [.int p1, .int p2, .int p3] (gQv Q) gE0 := by
  refine g_introJ (lv := [(0, .int p1), (1, .int p2), (2, .int p3)]) (by decide +kernel) rfl rfl (fun w hw => ?_)
  unfold fJ5_checkBoundsBeginEnd at h
  refine g_iload_n hw 0 dJ5_checkBoundsBeginEnd_0 rfl ?_
  refine g_iload_n hw 1 dJ5_checkBoundsBeginEnd_1 rfl ?_
  refine g_iload_n hw 2 dJ5_checkBoundsBeginEnd_2 rfl ?_
  refine g_getsF hw dJ5_checkBoundsBeginEnd_3 q572 (fun q1 => ?_)
  have h := h q1
  obtain ⟨a2, e3, h⟩ := h
  rw [e3]
  refine sJ5_1062 hw rfl dJ5_checkBoundsBeginEnd_6 rfl (gK2 hkf) h (fun r5 M4 h => ?_)
  refine g_pop hw dJ5_checkBoundsBeginEnd_9 rfl ?_
  exact g_vret hw dJ5_checkBoundsBeginEnd_10 ⟨rfl, h⟩
def fJ6_charAt (p1 : Nat) (p2 : Int32) (M : gM) (Q : Int32 → gM → Prop) : Prop :=
  (8 ≤ p1 ∧ p1 < 16) ∧ False
theorem mJ6_charAt {kf : Nat} (hkf : 1 ≤ kf) (G : gG) (p1 : Nat) (p2 : Int32) (M : gM) (Q : Int32 → gM → Prop) (h : fJ6_charAt p1 p2 M Q) : gMet yJ6_charAt cJ6_charAt 2 (Option.some FieldType.char) kf G M [.ref (gA G p1), .int p2] (gQi Q) gE0 := by
  refine g_introJ (lv := [(0, .ref (gA G p1)), (1, .int p2)]) (by decide +kernel) rfl rfl (fun w hw => ?_)
  unfold fJ6_charAt at h
  refine g_iload_n hw 1 dJ6_charAt_0 rfl ?_
  refine g_aload_n hw 0 dJ6_charAt_1 rfl ?_
  obtain ⟨hs1, h⟩ := h
  refine g_salen hw dJ6_charAt_2 hs1 ?_
  exact h.elim
theorem sJ5_495 {y0 : MethodName} {cc : ByteArray} {nL : Nat} {ret : Option FieldType} {hh : List (Nat × Nat × Nat × Nat)} {kf : Nat} {G : gG} {Qv : Option Value → gM → Prop} {E : String → Nat → gM → Prop} {w : gM → Nat → List (Nat × Value) → List Value → Prop} {M : gM} {pc : Nat} {lv : List (Nat × Value)} {rest : List Value} (hw : gX y0 cc nL ret hh kf G Qv E w) (hy : y0.cls = RJ5) {p1 : Nat} {p2 : Int32} {Q : Int32 → gM → Prop} (d : decode cc pc = .ok (.invokestatic 495, 3)) (hrest : Nat.ble ((rest.map Value.category).sum) 8 = true) (hk : 1 + 1 ≤ kf) (h : fJ6_charAt p1 p2 M Q) (kk : ∀ r M1, Q r M1 → w M1 (pc + 3) lv (.int r :: rest)) : w M pc lv (.int p2 :: .ref (gA G p1) :: rest) := by
  obtain ⟨cls9, nm9, ds9⟩ := y0
  subst hy
  exact g_callS hw [.ref (gA G p1), .int p2] (nA := 2) rfl d q621 q622 q111 q623 (by decide +kernel) rfl hrest rfl (by omega : kf - 1 + 1 ≤ kf) (mJ6_charAt (kf := kf - 1) (by omega) G p1 p2 M Q h) (fun _ _ _ q => q.elim) (fun v M1 h => by obtain ⟨r, rfl, h⟩ := h; exact kk r M1 h)
def fJ5_charAt (c0 : Nat) (p1 : Int32) (M : gM) (Q : Int32 → gM → Prop) : Prop :=
  (c0 < 8) ∧ fJ5_isLatin1 c0 M (fun r3 M2 => (if r3 = 0 then (c0 < 8) ∧ False else (c0 < 8) ∧ fJ6_charAt (8 + c0) p1 M2 (fun r8 M7 => narrow .char (.int r8) = .int r8 ∧ Q r8 M7)))
theorem mJ5_charAt {kf : Nat} (hkf : 2 ≤ kf) (G : gG) (c0 : Nat) (p1 : Int32) (M : gM) (Q : Int32 → gM → Prop) (h : fJ5_charAt c0 p1 M Q) : gMet yJ5_charAt cJ5_charAt 2 (Option.some FieldType.char) kf G M [.ref (gA G c0), .int p1] (gQi Q) gE0 := by
  refine g_introJ (lv := [(0, .ref (gA G c0)), (1, .int p1)]) (by decide +kernel) rfl rfl (fun w hw => ?_)
  unfold fJ5_charAt at h
  refine g_aload_n hw 0 dJ5_charAt_0 rfl ?_
  obtain ⟨hs1, h⟩ := h
  refine sJ5_492 hw rfl dJ5_charAt_1 rfl (gK2 hkf) hs1 h (fun r3 M2 h => ?_)
  refine g_if_eq (tgt := 16) hw dJ5_charAt_4 (by decide) (fun hb4 => ?_) (fun hb4 => ?_)
  · have h := gT h hb4
    refine g_aload_n hw 0 dJ5_charAt_16 rfl ?_
    obtain ⟨hs5, h⟩ := h
    refine g_strV hw dJ5_charAt_17 q1784 hs5 ?_
    refine g_iload_n hw 1 dJ5_charAt_20 rfl ?_
    exact h.elim
  · have h := gF h hb4
    refine g_aload_n hw 0 dJ5_charAt_7 rfl ?_
    obtain ⟨hs6, h⟩ := h
    refine g_strV hw dJ5_charAt_8 q1784 hs6 ?_
    refine g_iload_n hw 1 dJ5_charAt_11 rfl ?_
    refine sJ5_495 hw rfl dJ5_charAt_12 rfl (gK2 hkf) h (fun r8 M7 h => ?_)
    obtain ⟨hc9, h⟩ := h
    exact g_iret hw dJ5_charAt_15 hc9 ⟨_, rfl, h⟩
def fJ8_checkIndex_b9 (l0_2 : Int32) (l1_3 : Int32) (l2_4 : Option Nat) (M : gM) (Q : Int32 → gM → Prop) : Prop :=
  False
theorem wJ8_checkIndex_b9 {kf : Nat} {G : gG} {w : gM → Nat → List (Nat × Value) → List Value → Prop} {Q : Int32 → gM → Prop} (hw : gX yJ8_checkIndex cJ8_checkIndex 3 (Option.some FieldType.int) [] kf G (gQi Q) gE0 w) (hkf : 1 ≤ kf)  {l0_2 : Int32} {l1_3 : Int32} {l2_4 : Option Nat} {M : gM}  (h : fJ8_checkIndex_b9 l0_2 l1_3 l2_4 M Q) : w M 9 [(0, .int l0_2), (1, .int l1_3), (2, va_rf (l2_4.map (gA G)))] [] := by
  unfold fJ8_checkIndex_b9 at h
  refine g_aload_nq hw 2 dJ8_checkIndex_9 rfl ?_
  refine g_iload_n hw 0 dJ8_checkIndex_10 rfl ?_
  refine g_iload_n hw 1 dJ8_checkIndex_11 rfl ?_
  exact h.elim
def fJ8_checkIndex (p1 : Int32) (p2 : Int32) (p3 : Option Nat) (M : gM) (Q : Int32 → gM → Prop) : Prop :=
  (if p1 < 0 then fJ8_checkIndex_b9 p1 p2 p3 M Q else (if p1 < p2 then Q p1 M else fJ8_checkIndex_b9 p1 p2 p3 M Q))
theorem mJ8_checkIndex {kf : Nat} (hkf : 1 ≤ kf) (G : gG) (p1 : Int32) (p2 : Int32) (p3 : Option Nat) (M : gM) (Q : Int32 → gM → Prop) (h : fJ8_checkIndex p1 p2 p3 M Q) : gMet yJ8_checkIndex cJ8_checkIndex 3 (Option.some FieldType.int) kf G M [.int p1, .int p2, va_rf (p3.map (gA G))] (gQi Q) gE0 := by
  refine g_introJ (lv := [(0, .int p1), (1, .int p2), (2, va_rf (p3.map (gA G)))]) (by decide +kernel) (by cases p3 <;> rfl) (by cases p3 <;> rfl) (fun w hw => ?_)
  unfold fJ8_checkIndex at h
  refine g_iload_n hw 0 dJ8_checkIndex_0 rfl ?_
  refine g_if_lt (tgt := 9) hw dJ8_checkIndex_1 (by decide) (fun hb1 => ?_) (fun hb1 => ?_)
  · have h := gT h hb1
    exact wJ8_checkIndex_b9 hw hkf h
  · have h := gF h hb1
    refine g_iload_n hw 0 dJ8_checkIndex_4 rfl ?_
    refine g_iload_n hw 1 dJ8_checkIndex_5 rfl ?_
    refine g_icmp_lt (tgt := 16) hw dJ8_checkIndex_6 (by decide) (fun hb5 => ?_) (fun hb5 => ?_)
    · have h := gT h hb5
      refine g_iload_n hw 0 dJ8_checkIndex_16 rfl ?_
      exact g_iret hw dJ8_checkIndex_17 rfl ⟨_, rfl, h⟩
    · have h := gF h hb5
      exact wJ8_checkIndex_b9 hw hkf h
theorem sJ5_1059 {y0 : MethodName} {cc : ByteArray} {nL : Nat} {ret : Option FieldType} {hh : List (Nat × Nat × Nat × Nat)} {kf : Nat} {G : gG} {Qv : Option Value → gM → Prop} {E : String → Nat → gM → Prop} {w : gM → Nat → List (Nat × Value) → List Value → Prop} {M : gM} {pc : Nat} {lv : List (Nat × Value)} {rest : List Value} (hw : gX y0 cc nL ret hh kf G Qv E w) (hy : y0.cls = RJ5) {p1 : Int32} {p2 : Int32} {p3 : Option Nat} {Q : Int32 → gM → Prop} (d : decode cc pc = .ok (.invokestatic 1059, 3)) (hrest : Nat.ble ((rest.map Value.category).sum) 8 = true) (hk : 1 + 1 ≤ kf) (h : fJ8_checkIndex p1 p2 p3 M Q) (kk : ∀ r M1, Q r M1 → w M1 (pc + 3) lv (.int r :: rest)) : w M pc lv (va_rf (p3.map (gA G)) :: .int p2 :: .int p1 :: rest) := by
  obtain ⟨cls9, nm9, ds9⟩ := y0
  subst hy
  exact g_callS hw [.int p1, .int p2, va_rf (p3.map (gA G))] (nA := 3) rfl d q627 q628 q113 q629 (by decide +kernel) rfl hrest rfl (by omega : kf - 1 + 1 ≤ kf) (mJ8_checkIndex (kf := kf - 1) (by omega) G p1 p2 p3 M Q h) (fun _ _ _ q => q.elim) (fun v M1 h => by obtain ⟨r, rfl, h⟩ := h; exact kk r M1 h)
def fJ5_checkIndex (p1 : Int32) (p2 : Int32) (M : gM) (Q : gM → Prop) : Prop :=
  ∀ q1 : Option Nat, fJ8_checkIndex p1 p2 q1 M (fun r3 M2 => Q M2)
theorem mJ5_checkIndex {kf : Nat} (hkf : 2 ≤ kf) (G : gG) (p1 : Int32) (p2 : Int32) (M : gM) (Q : gM → Prop) (h : fJ5_checkIndex p1 p2 M Q) : gMet yJ5_checkIndex cJ5_checkIndex 2 (Option.none : Option FieldType) kf G M [.int p1, .int p2] (gQv Q) gE0 := by
  refine g_introJ (lv := [(0, .int p1), (1, .int p2)]) (by decide +kernel) rfl rfl (fun w hw => ?_)
  unfold fJ5_checkIndex at h
  refine g_iload_n hw 0 dJ5_checkIndex_0 rfl ?_
  refine g_iload_n hw 1 dJ5_checkIndex_1 rfl ?_
  refine g_getsF hw dJ5_checkIndex_2 q572 (fun q1 => ?_)
  have h := h q1
  refine sJ5_1059 hw rfl dJ5_checkIndex_5 rfl (gK2 hkf) h (fun r3 M2 h => ?_)
  refine g_pop hw dJ5_checkIndex_8 rfl ?_
  exact g_vret hw dJ5_checkIndex_9 ⟨rfl, h⟩
def fX9_init (c0 : Nat) (M : gM) (Q : gM → Prop) : Prop :=
  Q M
theorem mX9_init {kf : Nat} (hkf : 1 ≤ kf) (G : gG) (c0 : Nat) (M : gM) (Q : gM → Prop) (h : fX9_init c0 M Q) : gMet yX9_init cX9_init 1 (Option.none : Option FieldType) kf G M [.ref (gA G c0)] (gQv Q) gE0 := by
  refine g_intro (lv := [(0, .ref (gA G c0))]) (by decide) rfl rfl (fun w hw => ?_)
  unfold fX9_init at h
  refine g_aload_n hw 0 dX9_init_0 rfl ?_
  refine g_objInit hw dX9_init_1 q752 q129 q130 rfl (gK1 hkf) ?_
  exact g_vret hw dX9_init_4 ⟨rfl, h⟩
theorem sX10_1 {y0 : MethodName} {cc : ByteArray} {nL : Nat} {ret : Option FieldType} {hh : List (Nat × Nat × Nat × Nat)} {kf : Nat} {G : gG} {Qv : Option Value → gM → Prop} {E : String → Nat → gM → Prop} {w : gM → Nat → List (Nat × Value) → List Value → Prop} {M : gM} {pc : Nat} {lv : List (Nat × Value)} {rest : List Value} (hw : gX y0 cc nL ret hh kf G Qv E w) (hy : y0.cls = RX10) {c0 : Nat} {Q : gM → Prop} (d : decode cc pc = .ok (.invokespecial 1, 3)) (hrest : Nat.ble ((rest.map Value.category).sum) 8 = true) (hk : 1 + 1 ≤ kf) (h : fX9_init c0 M Q) (kk : ∀ M1, Q M1 → w M1 (pc + 3) lv rest) : w M pc lv (.ref (gA G c0) :: rest) := by
  obtain ⟨cls9, nm9, ds9⟩ := y0
  subst hy
  exact g_callI hw [] (nA := 0) rfl d (Or.inr ⟨_, q749⟩) q750 q116 q751 (by decide +kernel) rfl rfl hrest rfl (by omega : kf - 1 + 1 ≤ kf) (mX9_init (kf := kf - 1) (by omega) G c0 M Q h) (fun _ _ _ q => q.elim) (fun v M1 h => by obtain ⟨rfl, h⟩ := h; exact kk M1 h)
theorem pfX10_7 {y0 : MethodName} {cc : ByteArray} {nL : Nat} {ret : Option FieldType} {hh : List (Nat × Nat × Nat × Nat)} {kf : Nat} {G : gG} {Qv : Option Value → gM → Prop} {E : String → Nat → gM → Prop} {w : gM → Nat → List (Nat × Value) → List Value → Prop} {M : gM} {pc : Nat} {lv : List (Nat × Value)} {rest : List Value} (hw : gX y0 cc nL ret hh kf G Qv E w) (hy : y0.cls = RX10) (hyn : y0.name = "<init>") {c : Nat} {x : Int32} (d : decode cc pc = .ok (.putfield 7, 3)) (hk : gk M c = 9) (kk : w (gsI M c 0 x) (pc + 3) lv rest) : w M pc lv (.int x :: .ref (gA G c) :: rest) := by
  obtain ⟨cls9, nm9, ds9⟩ := y0
  subst hy
  exact g_putC (C := RX10) (T := TX10) (N := 1) (ci := 8) hw in_X10 tyX10 tyX10_ok nmX10 rfl 0 (by decide) (Or.inl ⟨q753, Or.inr ⟨rfl, hyn, rfl⟩⟩) rfl rfl (gOne_I M c 0 x) (by show Value.int (gI (gsI M c 0 x) c 0) = _; rw [gI_sI, if_pos ⟨rfl, rfl⟩]) d hk kk
def fX10_init (c0 : Nat) (p1 : Int32) (M : gM) (Q : gM → Prop) : Prop :=
  fX9_init c0 M (fun M1 => gk M1 c0 = 9 ∧ Q (gsI M1 c0 0 p1))
theorem mX10_init {kf : Nat} (hkf : 2 ≤ kf) (G : gG) (c0 : Nat) (p1 : Int32) (M : gM) (Q : gM → Prop) (h : fX10_init c0 p1 M Q) : gMet yX10_init cX10_init 2 (Option.none : Option FieldType) kf G M [.ref (gA G c0), .int p1] (gQv Q) gE0 := by
  refine g_intro (lv := [(0, .ref (gA G c0)), (1, .int p1)]) (by decide) rfl rfl (fun w hw => ?_)
  unfold fX10_init at h
  refine g_aload_n hw 0 dX10_init_0 rfl ?_
  refine sX10_1 hw rfl dX10_init_1 rfl (gK2 hkf) h (fun M1 h => ?_)
  refine g_aload_n hw 0 dX10_init_4 rfl ?_
  refine g_iload_n hw 1 dX10_init_5 rfl ?_
  obtain ⟨hk3, h⟩ := h
  refine pfX10_7 hw rfl rfl dX10_init_6 hk3 ?_
  exact g_vret hw dX10_init_9 ⟨rfl, h⟩
theorem gfX10_7 {y0 : MethodName} {cc : ByteArray} {nL : Nat} {ret : Option FieldType} {hh : List (Nat × Nat × Nat × Nat)} {kf : Nat} {G : gG} {Qv : Option Value → gM → Prop} {E : String → Nat → gM → Prop} {w : gM → Nat → List (Nat × Value) → List Value → Prop} {M : gM} {pc : Nat} {lv : List (Nat × Value)} {rest : List Value} (hw : gX y0 cc nL ret hh kf G Qv E w) (hy : y0.cls = RX10) {c : Nat} (d : decode cc pc = .ok (.getfield 7, 3)) (hk : gk M c = 9) (kk : w M (pc + 3) lv (.int (gI M c 0) :: rest)) : w M pc lv (.ref (gA G c) :: rest) := by
  obtain ⟨cls9, nm9, ds9⟩ := y0
  subst hy
  exact g_getC (C := RX10) (T := TX10) (N := 1) (ci := 8) hw in_X10 rfl 0 (by decide) (Or.inl q753) rfl d hk kk
def fX10_worked (c0 : Nat) (p1 : Nat) (M : gM) (Q : Int32 → gM → Prop) : Prop :=
  gk M c0 = 9 ∧ Q (gI M c0 0) M
theorem mX10_worked {kf : Nat} (hkf : 1 ≤ kf) (G : gG) (c0 : Nat) (p1 : Nat) (M : gM) (Q : Int32 → gM → Prop) (h : fX10_worked c0 p1 M Q) : gMet yX10_worked cX10_worked 2 (Option.some FieldType.int) kf G M [.ref (gA G c0), .ref (gA G p1)] (gQi Q) gE0 := by
  refine g_intro (lv := [(0, .ref (gA G c0)), (1, .ref (gA G p1))]) (by decide) rfl rfl (fun w hw => ?_)
  unfold fX10_worked at h
  refine g_aload_n hw 0 dX10_worked_0 rfl ?_
  obtain ⟨hk1, h⟩ := h
  refine gfX10_7 hw rfl dX10_worked_1 hk1 ?_
  exact g_iret hw dX10_worked_4 rfl ⟨_, rfl, h⟩
theorem sX11_1 {y0 : MethodName} {cc : ByteArray} {nL : Nat} {ret : Option FieldType} {hh : List (Nat × Nat × Nat × Nat)} {kf : Nat} {G : gG} {Qv : Option Value → gM → Prop} {E : String → Nat → gM → Prop} {w : gM → Nat → List (Nat × Value) → List Value → Prop} {M : gM} {pc : Nat} {lv : List (Nat × Value)} {rest : List Value} (hw : gX y0 cc nL ret hh kf G Qv E w) (hy : y0.cls = RX11) {c0 : Nat} {Q : gM → Prop} (d : decode cc pc = .ok (.invokespecial 1, 3)) (hrest : Nat.ble ((rest.map Value.category).sum) 8 = true) (hk : 1 + 1 ≤ kf) (h : fX9_init c0 M Q) (kk : ∀ M1, Q M1 → w M1 (pc + 3) lv rest) : w M pc lv (.ref (gA G c0) :: rest) := by
  obtain ⟨cls9, nm9, ds9⟩ := y0
  subst hy
  exact g_callI hw [] (nA := 0) rfl d (Or.inr ⟨_, q762⟩) q750 q116 q751 (by decide +kernel) rfl rfl hrest rfl (by omega : kf - 1 + 1 ≤ kf) (mX9_init (kf := kf - 1) (by omega) G c0 M Q h) (fun _ _ _ q => q.elim) (fun v M1 h => by obtain ⟨rfl, h⟩ := h; exact kk M1 h)
theorem pfX11_7 {y0 : MethodName} {cc : ByteArray} {nL : Nat} {ret : Option FieldType} {hh : List (Nat × Nat × Nat × Nat)} {kf : Nat} {G : gG} {Qv : Option Value → gM → Prop} {E : String → Nat → gM → Prop} {w : gM → Nat → List (Nat × Value) → List Value → Prop} {M : gM} {pc : Nat} {lv : List (Nat × Value)} {rest : List Value} (hw : gX y0 cc nL ret hh kf G Qv E w) (hy : y0.cls = RX11) (hyn : y0.name = "<init>") {c : Nat} {x : Int32} (d : decode cc pc = .ok (.putfield 7, 3)) (hk : gk M c = 10) (kk : w (gsI M c 0 x) (pc + 3) lv rest) : w M pc lv (.int x :: .ref (gA G c) :: rest) := by
  obtain ⟨cls9, nm9, ds9⟩ := y0
  subst hy
  exact g_putC (C := RX11) (T := TX11) (N := 1) (ci := 9) hw in_X11 tyX11 tyX11_ok nmX11 rfl 0 (by decide) (Or.inl ⟨q763, Or.inr ⟨rfl, hyn, rfl⟩⟩) rfl rfl (gOne_I M c 0 x) (by show Value.int (gI (gsI M c 0 x) c 0) = _; rw [gI_sI, if_pos ⟨rfl, rfl⟩]) d hk kk
def fX11_init (c0 : Nat) (p1 : Int32) (M : gM) (Q : gM → Prop) : Prop :=
  fX9_init c0 M (fun M1 => gk M1 c0 = 10 ∧ Q (gsI M1 c0 0 p1))
theorem mX11_init {kf : Nat} (hkf : 2 ≤ kf) (G : gG) (c0 : Nat) (p1 : Int32) (M : gM) (Q : gM → Prop) (h : fX11_init c0 p1 M Q) : gMet yX11_init cX11_init 2 (Option.none : Option FieldType) kf G M [.ref (gA G c0), .int p1] (gQv Q) gE0 := by
  refine g_intro (lv := [(0, .ref (gA G c0)), (1, .int p1)]) (by decide) rfl rfl (fun w hw => ?_)
  unfold fX11_init at h
  refine g_aload_n hw 0 dX11_init_0 rfl ?_
  refine sX11_1 hw rfl dX11_init_1 rfl (gK2 hkf) h (fun M1 h => ?_)
  refine g_aload_n hw 0 dX11_init_4 rfl ?_
  refine g_iload_n hw 1 dX11_init_5 rfl ?_
  obtain ⟨hk3, h⟩ := h
  refine pfX11_7 hw rfl rfl dX11_init_6 hk3 ?_
  exact g_vret hw dX11_init_9 ⟨rfl, h⟩
theorem gfX11_7 {y0 : MethodName} {cc : ByteArray} {nL : Nat} {ret : Option FieldType} {hh : List (Nat × Nat × Nat × Nat)} {kf : Nat} {G : gG} {Qv : Option Value → gM → Prop} {E : String → Nat → gM → Prop} {w : gM → Nat → List (Nat × Value) → List Value → Prop} {M : gM} {pc : Nat} {lv : List (Nat × Value)} {rest : List Value} (hw : gX y0 cc nL ret hh kf G Qv E w) (hy : y0.cls = RX11) {c : Nat} (d : decode cc pc = .ok (.getfield 7, 3)) (hk : gk M c = 10) (kk : w M (pc + 3) lv (.int (gI M c 0) :: rest)) : w M pc lv (.ref (gA G c) :: rest) := by
  obtain ⟨cls9, nm9, ds9⟩ := y0
  subst hy
  exact g_getC (C := RX11) (T := TX11) (N := 1) (ci := 9) hw in_X11 rfl 0 (by decide) (Or.inl q763) rfl d hk kk
def fX11_worked (c0 : Nat) (p1 : Nat) (M : gM) (Q : Int32 → gM → Prop) : Prop :=
  gk M c0 = 10 ∧ gk M p1 = 40 ∧ vp_in (gI M c0 0) (gl M p1) ∧ Q (gI M p1 ((gI M c0 0).toNatClampNeg)) M
theorem mX11_worked {kf : Nat} (hkf : 1 ≤ kf) (G : gG) (c0 : Nat) (p1 : Nat) (M : gM) (Q : Int32 → gM → Prop) (h : fX11_worked c0 p1 M Q) : gMet yX11_worked cX11_worked 2 (Option.some FieldType.int) kf G M [.ref (gA G c0), .ref (gA G p1)] (gQi Q) gE0 := by
  refine g_intro (lv := [(0, .ref (gA G c0)), (1, .ref (gA G p1))]) (by decide) rfl rfl (fun w hw => ?_)
  unfold fX11_worked at h
  refine g_aload_n hw 1 dX11_worked_0 rfl ?_
  refine g_aload_n hw 0 dX11_worked_1 rfl ?_
  obtain ⟨hk1, h⟩ := h
  refine gfX11_7 hw rfl dX11_worked_2 hk1 ?_
  obtain ⟨hk2, h⟩ := h
  obtain ⟨hi3, h⟩ := h
  refine g_iald (n := (gI M c0 0).toNatClampNeg) hw dX11_worked_5 hk2 hi3 rfl ?_
  exact g_iret hw dX11_worked_6 rfl ⟨_, rfl, h⟩
theorem sX12_1 {y0 : MethodName} {cc : ByteArray} {nL : Nat} {ret : Option FieldType} {hh : List (Nat × Nat × Nat × Nat)} {kf : Nat} {G : gG} {Qv : Option Value → gM → Prop} {E : String → Nat → gM → Prop} {w : gM → Nat → List (Nat × Value) → List Value → Prop} {M : gM} {pc : Nat} {lv : List (Nat × Value)} {rest : List Value} (hw : gX y0 cc nL ret hh kf G Qv E w) (hy : y0.cls = RX12) {c0 : Nat} {Q : gM → Prop} (d : decode cc pc = .ok (.invokespecial 1, 3)) (hrest : Nat.ble ((rest.map Value.category).sum) 8 = true) (hk : 1 + 1 ≤ kf) (h : fX9_init c0 M Q) (kk : ∀ M1, Q M1 → w M1 (pc + 3) lv rest) : w M pc lv (.ref (gA G c0) :: rest) := by
  obtain ⟨cls9, nm9, ds9⟩ := y0
  subst hy
  exact g_callI hw [] (nA := 0) rfl d (Or.inr ⟨_, q772⟩) q750 q116 q751 (by decide +kernel) rfl rfl hrest rfl (by omega : kf - 1 + 1 ≤ kf) (mX9_init (kf := kf - 1) (by omega) G c0 M Q h) (fun _ _ _ q => q.elim) (fun v M1 h => by obtain ⟨rfl, h⟩ := h; exact kk M1 h)
theorem pfX12_7 {y0 : MethodName} {cc : ByteArray} {nL : Nat} {ret : Option FieldType} {hh : List (Nat × Nat × Nat × Nat)} {kf : Nat} {G : gG} {Qv : Option Value → gM → Prop} {E : String → Nat → gM → Prop} {w : gM → Nat → List (Nat × Value) → List Value → Prop} {M : gM} {pc : Nat} {lv : List (Nat × Value)} {rest : List Value} (hw : gX y0 cc nL ret hh kf G Qv E w) (hy : y0.cls = RX12) (hyn : y0.name = "<init>") {c : Nat} {q : Option Nat} (d : decode cc pc = .ok (.putfield 7, 3)) (hk : gk M c = 11) (kk : w (gsR M c 0 q) (pc + 3) lv rest) : w M pc lv (va_rf (q.map (gA G)) :: .ref (gA G c) :: rest) := by
  obtain ⟨cls9, nm9, ds9⟩ := y0
  subst hy
  exact g_putC (C := RX12) (T := TX12) (N := 1) (ci := 10) hw in_X12 tyX12 tyX12_ok nmX12 rfl 0 (by decide) (Or.inl ⟨q773, Or.inr ⟨rfl, hyn, rfl⟩⟩) (by cases q <;> rfl) (by cases q <;> rfl) (gOne_R M c 0 q) (by show va_rf ((gR (gsR M c 0 q) c 0).map (gA G)) = _; rw [gR_sR, if_pos ⟨rfl, rfl⟩]) d hk kk
def fX12_init (c0 : Nat) (p1 : Nat) (M : gM) (Q : gM → Prop) : Prop :=
  fX9_init c0 M (fun M1 => gk M1 c0 = 11 ∧ Q (gsR M1 c0 0 (some p1)))
theorem mX12_init {kf : Nat} (hkf : 2 ≤ kf) (G : gG) (c0 : Nat) (p1 : Nat) (M : gM) (Q : gM → Prop) (h : fX12_init c0 p1 M Q) : gMet yX12_init cX12_init 2 (Option.none : Option FieldType) kf G M [.ref (gA G c0), .ref (gA G p1)] (gQv Q) gE0 := by
  refine g_intro (lv := [(0, .ref (gA G c0)), (1, .ref (gA G p1))]) (by decide) rfl rfl (fun w hw => ?_)
  unfold fX12_init at h
  refine g_aload_n hw 0 dX12_init_0 rfl ?_
  refine sX12_1 hw rfl dX12_init_1 rfl (gK2 hkf) h (fun M1 h => ?_)
  refine g_aload_n hw 0 dX12_init_4 rfl ?_
  refine g_aload_n hw 1 dX12_init_5 rfl ?_
  obtain ⟨hk3, h⟩ := h
  refine pfX12_7 (q := some p1) hw rfl rfl dX12_init_6 hk3 ?_
  exact g_vret hw dX12_init_9 ⟨rfl, h⟩
theorem gfX12_7 {y0 : MethodName} {cc : ByteArray} {nL : Nat} {ret : Option FieldType} {hh : List (Nat × Nat × Nat × Nat)} {kf : Nat} {G : gG} {Qv : Option Value → gM → Prop} {E : String → Nat → gM → Prop} {w : gM → Nat → List (Nat × Value) → List Value → Prop} {M : gM} {pc : Nat} {lv : List (Nat × Value)} {rest : List Value} (hw : gX y0 cc nL ret hh kf G Qv E w) (hy : y0.cls = RX12) {c : Nat} {q : Option Nat} (d : decode cc pc = .ok (.getfield 7, 3)) (hk : gk M c = 11) (hq : gR M c 0 = q) (kk : w M (pc + 3) lv (va_rf (q.map (gA G)) :: rest)) : w M pc lv (.ref (gA G c) :: rest) := by
  obtain ⟨cls9, nm9, ds9⟩ := y0
  subst hy
  subst hq
  exact g_getC (C := RX12) (T := TX12) (N := 1) (ci := 10) hw in_X12 rfl 0 (by decide) (Or.inl q773) rfl d hk kk
theorem sX12_13P {y0 : MethodName} {cc : ByteArray} {nL : Nat} {ret : Option FieldType} {hh : List (Nat × Nat × Nat × Nat)} {kf : Nat} {G : gG} {Qv : Option Value → gM → Prop} {E : String → Nat → gM → Prop} {w : gM → Nat → List (Nat × Value) → List Value → Prop} {M : gM} {pc : Nat} {lv : List (Nat × Value)} {rest : List Value} (hw : gX y0 cc nL ret hh kf G Qv E w) (hy : y0.cls = RX12) {c0 p1 : Nat} {Q : Int32 → gM → Prop} (d : decode cc pc = .ok (.invokevirtual 13, 3)) (hrest : Nat.ble ((rest.map Value.category).sum) 8 = true) {v : Nat} {P : Nat → Nat → gM → (Int32 → gM → Prop) → Prop} (hk : v + 1 ≤ kf) (hv : 1 ≤ v) (hP : ∀ (kf : Nat) (c p1 : Nat) (M : gM) (Q : Int32 → gM → Prop), v ≤ kf → P c p1 M Q → gWk kf G M c p1 Q) (h : P c0 p1 M Q) (kk : ∀ r M1, Q r M1 → w M1 (pc + 3) lv (.int r :: rest)) : w M pc lv (.ref (gA G p1) :: .ref (gA G c0) :: rest) := by
  obtain ⟨cls9, nm9, ds9⟩ := y0
  subst hy
  exact g_callW hw d q830 hrest (by omega) (hP (kf - 1) c0 p1 M Q (by omega) h) kk
def fX12_worked (P : Nat → Nat → gM → (Int32 → gM → Prop) → Prop) (c0 : Nat) (p1 : Nat) (M : gM) (Q : Int32 → gM → Prop) : Prop :=
  gk M c0 = 11 ∧ gdr (gR M c0 0) (fun a2 => P a2 p1 M (fun r5 M4 => (if r5 = 0 then Q 1 M4 else Q 0 M4)))
theorem mX12_worked {kf : Nat} (G : gG) {v : Nat} {P : Nat → Nat → gM → (Int32 → gM → Prop) → Prop} (hkf : v + 1 ≤ kf) (hv : 1 ≤ v) (hP : ∀ (kf : Nat) (c p1 : Nat) (M : gM) (Q : Int32 → gM → Prop), v ≤ kf → P c p1 M Q → gWk kf G M c p1 Q) (c0 : Nat) (p1 : Nat) (M : gM) (Q : Int32 → gM → Prop) (h : fX12_worked P c0 p1 M Q) : gMet yX12_worked cX12_worked 2 (Option.some FieldType.int) kf G M [.ref (gA G c0), .ref (gA G p1)] (gQi Q) gE0 := by
  refine g_intro (lv := [(0, .ref (gA G c0)), (1, .ref (gA G p1))]) (by decide) rfl rfl (fun w hw => ?_)
  unfold fX12_worked at h
  refine g_aload_n hw 0 dX12_worked_0 rfl ?_
  obtain ⟨hk1, h⟩ := h
  obtain ⟨a2, e3, h⟩ := h
  refine gfX12_7 (q := some a2) hw rfl dX12_worked_1 hk1 e3 ?_
  refine g_aload_n hw 1 dX12_worked_4 rfl ?_
  refine sX12_13P hw rfl dX12_worked_5 rfl hkf hv hP h (fun r5 M4 h => ?_)
  refine g_if_ne (tgt := 15) hw dX12_worked_8 (by decide) (fun hb6 => ?_) (fun hb6 => ?_)
  · have h := gF h hb6
    refine g_iconst (v := 0) hw dX12_worked_15 (by decide) ?_
    exact g_iret hw dX12_worked_16 rfl ⟨_, rfl, h⟩
  · have h := gT h hb6
    refine g_iconst (v := 1) hw dX12_worked_11 (by decide) ?_
    refine g_goto (tgt := 16) hw dX12_worked_12 (by decide) ?_
    exact g_iret hw dX12_worked_16 rfl ⟨_, rfl, h⟩
theorem sX13_1 {y0 : MethodName} {cc : ByteArray} {nL : Nat} {ret : Option FieldType} {hh : List (Nat × Nat × Nat × Nat)} {kf : Nat} {G : gG} {Qv : Option Value → gM → Prop} {E : String → Nat → gM → Prop} {w : gM → Nat → List (Nat × Value) → List Value → Prop} {M : gM} {pc : Nat} {lv : List (Nat × Value)} {rest : List Value} (hw : gX y0 cc nL ret hh kf G Qv E w) (hy : y0.cls = RX13) {c0 : Nat} {Q : gM → Prop} (d : decode cc pc = .ok (.invokespecial 1, 3)) (hrest : Nat.ble ((rest.map Value.category).sum) 8 = true) (hk : 1 + 1 ≤ kf) (h : fX9_init c0 M Q) (kk : ∀ M1, Q M1 → w M1 (pc + 3) lv rest) : w M pc lv (.ref (gA G c0) :: rest) := by
  obtain ⟨cls9, nm9, ds9⟩ := y0
  subst hy
  exact g_callI hw [] (nA := 0) rfl d (Or.inr ⟨_, q786⟩) q750 q116 q751 (by decide +kernel) rfl rfl hrest rfl (by omega : kf - 1 + 1 ≤ kf) (mX9_init (kf := kf - 1) (by omega) G c0 M Q h) (fun _ _ _ q => q.elim) (fun v M1 h => by obtain ⟨rfl, h⟩ := h; exact kk M1 h)
theorem pfX13_7 {y0 : MethodName} {cc : ByteArray} {nL : Nat} {ret : Option FieldType} {hh : List (Nat × Nat × Nat × Nat)} {kf : Nat} {G : gG} {Qv : Option Value → gM → Prop} {E : String → Nat → gM → Prop} {w : gM → Nat → List (Nat × Value) → List Value → Prop} {M : gM} {pc : Nat} {lv : List (Nat × Value)} {rest : List Value} (hw : gX y0 cc nL ret hh kf G Qv E w) (hy : y0.cls = RX13) (hyn : y0.name = "<init>") {c : Nat} {x : Int32} (d : decode cc pc = .ok (.putfield 7, 3)) (hk : gk M c = 12) (hx : narrow .char (.int x) = .int x ∧ fits .char (.int x) = true) (kk : w (gsI M c 0 x) (pc + 3) lv rest) : w M pc lv (.int x :: .ref (gA G c) :: rest) := by
  obtain ⟨cls9, nm9, ds9⟩ := y0
  subst hy
  exact g_putC (C := RX13) (T := TX13) (N := 3) (ci := 11) hw in_X13 tyX13 tyX13_ok nmX13 rfl 0 (by decide) (Or.inl ⟨q787, Or.inr ⟨rfl, hyn, rfl⟩⟩) hx.1 hx.2 (gOne_I M c 0 x) (by show Value.int (gI (gsI M c 0 x) c 0) = _; rw [gI_sI, if_pos ⟨rfl, rfl⟩]) d hk kk
theorem pfX13_13 {y0 : MethodName} {cc : ByteArray} {nL : Nat} {ret : Option FieldType} {hh : List (Nat × Nat × Nat × Nat)} {kf : Nat} {G : gG} {Qv : Option Value → gM → Prop} {E : String → Nat → gM → Prop} {w : gM → Nat → List (Nat × Value) → List Value → Prop} {M : gM} {pc : Nat} {lv : List (Nat × Value)} {rest : List Value} (hw : gX y0 cc nL ret hh kf G Qv E w) (hy : y0.cls = RX13) (hyn : y0.name = "<init>") {c : Nat} {q : Option Nat} (d : decode cc pc = .ok (.putfield 13, 3)) (hk : gk M c = 12) (kk : w (gsR M c 1 q) (pc + 3) lv rest) : w M pc lv (va_rf (q.map (gA G)) :: .ref (gA G c) :: rest) := by
  obtain ⟨cls9, nm9, ds9⟩ := y0
  subst hy
  exact g_putC (C := RX13) (T := TX13) (N := 3) (ci := 11) hw in_X13 tyX13 tyX13_ok nmX13 rfl 1 (by decide) (Or.inl ⟨q788, Or.inr ⟨rfl, hyn, rfl⟩⟩) (by cases q <;> rfl) (by cases q <;> rfl) (gOne_R M c 1 q) (by show va_rf ((gR (gsR M c 1 q) c 1).map (gA G)) = _; rw [gR_sR, if_pos ⟨rfl, rfl⟩]) d hk kk
theorem pfX13_17 {y0 : MethodName} {cc : ByteArray} {nL : Nat} {ret : Option FieldType} {hh : List (Nat × Nat × Nat × Nat)} {kf : Nat} {G : gG} {Qv : Option Value → gM → Prop} {E : String → Nat → gM → Prop} {w : gM → Nat → List (Nat × Value) → List Value → Prop} {M : gM} {pc : Nat} {lv : List (Nat × Value)} {rest : List Value} (hw : gX y0 cc nL ret hh kf G Qv E w) (hy : y0.cls = RX13) (hyn : y0.name = "<init>") {c : Nat} {q : Option Nat} (d : decode cc pc = .ok (.putfield 17, 3)) (hk : gk M c = 12) (kk : w (gsR M c 2 q) (pc + 3) lv rest) : w M pc lv (va_rf (q.map (gA G)) :: .ref (gA G c) :: rest) := by
  obtain ⟨cls9, nm9, ds9⟩ := y0
  subst hy
  exact g_putC (C := RX13) (T := TX13) (N := 3) (ci := 11) hw in_X13 tyX13 tyX13_ok nmX13 rfl 2 (by decide) (Or.inl ⟨q789, Or.inr ⟨rfl, hyn, rfl⟩⟩) (by cases q <;> rfl) (by cases q <;> rfl) (gOne_R M c 2 q) (by show va_rf ((gR (gsR M c 2 q) c 2).map (gA G)) = _; rw [gR_sR, if_pos ⟨rfl, rfl⟩]) d hk kk
def fX13_init (c0 : Nat) (p1 : Int32) (p2 : Nat) (p3 : Nat) (M : gM) (Q : gM → Prop) : Prop :=
  fX9_init c0 M (fun M1 => gk M1 c0 = 12 ∧ (narrow .char (.int p1) = .int p1 ∧ fits .char (.int p1) = true) ∧ Q (gsR (gsR (gsI M1 c0 0 p1) c0 1 (some p2)) c0 2 (some p3)))
theorem mX13_init {kf : Nat} (hkf : 2 ≤ kf) (G : gG) (c0 : Nat) (p1 : Int32) (p2 : Nat) (p3 : Nat) (M : gM) (Q : gM → Prop) (h : fX13_init c0 p1 p2 p3 M Q) : gMet yX13_init cX13_init 4 (Option.none : Option FieldType) kf G M [.ref (gA G c0), .int p1, .ref (gA G p2), .ref (gA G p3)] (gQv Q) gE0 := by
  refine g_intro (lv := [(0, .ref (gA G c0)), (1, .int p1), (2, .ref (gA G p2)), (3, .ref (gA G p3))]) (by decide) rfl rfl (fun w hw => ?_)
  unfold fX13_init at h
  refine g_aload_n hw 0 dX13_init_0 rfl ?_
  refine sX13_1 hw rfl dX13_init_1 rfl (gK2 hkf) h (fun M1 h => ?_)
  refine g_aload_n hw 0 dX13_init_4 rfl ?_
  refine g_iload_n hw 1 dX13_init_5 rfl ?_
  obtain ⟨hk3, h⟩ := h
  obtain ⟨hc4, h⟩ := h
  refine pfX13_7 hw rfl rfl dX13_init_6 hk3 hc4 ?_
  refine g_aload_n hw 0 dX13_init_9 rfl ?_
  refine g_aload_n hw 2 dX13_init_10 rfl ?_
  refine pfX13_13 (q := some p2) hw rfl rfl dX13_init_11 hk3 ?_
  refine g_aload_n hw 0 dX13_init_14 rfl ?_
  refine g_aload_n hw 3 dX13_init_15 rfl ?_
  refine pfX13_17 (q := some p3) hw rfl rfl dX13_init_16 hk3 ?_
  exact g_vret hw dX13_init_19 ⟨rfl, h⟩
theorem gfX13_13 {y0 : MethodName} {cc : ByteArray} {nL : Nat} {ret : Option FieldType} {hh : List (Nat × Nat × Nat × Nat)} {kf : Nat} {G : gG} {Qv : Option Value → gM → Prop} {E : String → Nat → gM → Prop} {w : gM → Nat → List (Nat × Value) → List Value → Prop} {M : gM} {pc : Nat} {lv : List (Nat × Value)} {rest : List Value} (hw : gX y0 cc nL ret hh kf G Qv E w) (hy : y0.cls = RX13) {c : Nat} {q : Option Nat} (d : decode cc pc = .ok (.getfield 13, 3)) (hk : gk M c = 12) (hq : gR M c 1 = q) (kk : w M (pc + 3) lv (va_rf (q.map (gA G)) :: rest)) : w M pc lv (.ref (gA G c) :: rest) := by
  obtain ⟨cls9, nm9, ds9⟩ := y0
  subst hy
  subst hq
  exact g_getC (C := RX13) (T := TX13) (N := 3) (ci := 11) hw in_X13 rfl 1 (by decide) (Or.inl q788) rfl d hk kk
theorem sX13_20P {y0 : MethodName} {cc : ByteArray} {nL : Nat} {ret : Option FieldType} {hh : List (Nat × Nat × Nat × Nat)} {kf : Nat} {G : gG} {Qv : Option Value → gM → Prop} {E : String → Nat → gM → Prop} {w : gM → Nat → List (Nat × Value) → List Value → Prop} {M : gM} {pc : Nat} {lv : List (Nat × Value)} {rest : List Value} (hw : gX y0 cc nL ret hh kf G Qv E w) (hy : y0.cls = RX13) {c0 p1 : Nat} {Q : Int32 → gM → Prop} (d : decode cc pc = .ok (.invokevirtual 20, 3)) (hrest : Nat.ble ((rest.map Value.category).sum) 8 = true) {v : Nat} {P : Nat → Nat → gM → (Int32 → gM → Prop) → Prop} (hk : v + 1 ≤ kf) (hv : 1 ≤ v) (hP : ∀ (kf : Nat) (c p1 : Nat) (M : gM) (Q : Int32 → gM → Prop), v ≤ kf → P c p1 M Q → gWk kf G M c p1 Q) (h : P c0 p1 M Q) (kk : ∀ r M1, Q r M1 → w M1 (pc + 3) lv (.int r :: rest)) : w M pc lv (.ref (gA G p1) :: .ref (gA G c0) :: rest) := by
  obtain ⟨cls9, nm9, ds9⟩ := y0
  subst hy
  exact g_callW hw d q833 hrest (by omega) (hP (kf - 1) c0 p1 M Q (by omega) h) kk
theorem gfX13_17 {y0 : MethodName} {cc : ByteArray} {nL : Nat} {ret : Option FieldType} {hh : List (Nat × Nat × Nat × Nat)} {kf : Nat} {G : gG} {Qv : Option Value → gM → Prop} {E : String → Nat → gM → Prop} {w : gM → Nat → List (Nat × Value) → List Value → Prop} {M : gM} {pc : Nat} {lv : List (Nat × Value)} {rest : List Value} (hw : gX y0 cc nL ret hh kf G Qv E w) (hy : y0.cls = RX13) {c : Nat} {q : Option Nat} (d : decode cc pc = .ok (.getfield 17, 3)) (hk : gk M c = 12) (hq : gR M c 2 = q) (kk : w M (pc + 3) lv (va_rf (q.map (gA G)) :: rest)) : w M pc lv (.ref (gA G c) :: rest) := by
  obtain ⟨cls9, nm9, ds9⟩ := y0
  subst hy
  subst hq
  exact g_getC (C := RX13) (T := TX13) (N := 3) (ci := 11) hw in_X13 rfl 2 (by decide) (Or.inl q789) rfl d hk kk
theorem gfX13_7 {y0 : MethodName} {cc : ByteArray} {nL : Nat} {ret : Option FieldType} {hh : List (Nat × Nat × Nat × Nat)} {kf : Nat} {G : gG} {Qv : Option Value → gM → Prop} {E : String → Nat → gM → Prop} {w : gM → Nat → List (Nat × Value) → List Value → Prop} {M : gM} {pc : Nat} {lv : List (Nat × Value)} {rest : List Value} (hw : gX y0 cc nL ret hh kf G Qv E w) (hy : y0.cls = RX13) {c : Nat} (d : decode cc pc = .ok (.getfield 7, 3)) (hk : gk M c = 12) (kk : w M (pc + 3) lv (.int (gI M c 0) :: rest)) : w M pc lv (.ref (gA G c) :: rest) := by
  obtain ⟨cls9, nm9, ds9⟩ := y0
  subst hy
  exact g_getC (C := RX13) (T := TX13) (N := 3) (ci := 11) hw in_X13 rfl 0 (by decide) (Or.inl q787) rfl d hk kk
def fX13_worked_b126 (P : Nat → Nat → gM → (Int32 → gM → Prop) → Prop) (M : gM) (Q : Int32 → gM → Prop) : Prop :=
  Q 0 M
theorem wX13_worked_b126 {kf : Nat} {G : gG} {w : gM → Nat → List (Nat × Value) → List Value → Prop} {Q : Int32 → gM → Prop} (hw : gX yX13_worked cX13_worked 4 (Option.some FieldType.int) [] kf G (gQi Q) gE0 w) {v : Nat} {P : Nat → Nat → gM → (Int32 → gM → Prop) → Prop} (hkf : v + 1 ≤ kf) (hv : 1 ≤ v) (hP : ∀ (kf : Nat) (c p1 : Nat) (M : gM) (Q : Int32 → gM → Prop), v ≤ kf → P c p1 M Q → gWk kf G M c p1 Q)   {M : gM}  (h : fX13_worked_b126 P M Q) : w M 126 [] [] := by
  unfold fX13_worked_b126 at h
  refine g_iconst (v := 0) hw dX13_worked_126 (by decide) ?_
  exact g_iret hw dX13_worked_127 rfl ⟨_, rfl, h⟩
def fX13_worked_b136 (P : Nat → Nat → gM → (Int32 → gM → Prop) → Prop) (M : gM) (Q : Int32 → gM → Prop) : Prop :=
  Q 1 M
theorem wX13_worked_b136 {kf : Nat} {G : gG} {w : gM → Nat → List (Nat × Value) → List Value → Prop} {Q : Int32 → gM → Prop} (hw : gX yX13_worked cX13_worked 4 (Option.some FieldType.int) [] kf G (gQi Q) gE0 w) {v : Nat} {P : Nat → Nat → gM → (Int32 → gM → Prop) → Prop} (hkf : v + 1 ≤ kf) (hv : 1 ≤ v) (hP : ∀ (kf : Nat) (c p1 : Nat) (M : gM) (Q : Int32 → gM → Prop), v ≤ kf → P c p1 M Q → gWk kf G M c p1 Q)   {M : gM}  (h : fX13_worked_b136 P M Q) : w M 136 [] [] := by
  unfold fX13_worked_b136 at h
  refine g_iconst (v := 1) hw dX13_worked_136 (by decide) ?_
  refine g_goto (tgt := 141) hw dX13_worked_137 (by decide) ?_
  exact g_iret hw dX13_worked_141 rfl ⟨_, rfl, h⟩
def fX13_worked (P : Nat → Nat → gM → (Int32 → gM → Prop) → Prop) (c0 : Nat) (p1 : Nat) (M : gM) (Q : Int32 → gM → Prop) : Prop :=
  gk M c0 = 12 ∧ gdr (gR M c0 1) (fun a2 => P a2 p1 M (fun r5 M4 => gk M4 c0 = 12 ∧ gdr (gR M4 c0 2) (fun a7 => P a7 p1 M4 (fun r10 M9 => gk M9 c0 = 12 ∧ (if (gI M9 c0 0) = 38 then (if r5 = 0 then fX13_worked_b126 P M9 Q else (if r10 = 0 then fX13_worked_b126 P M9 Q else Q 1 M9)) else (if (gI M9 c0 0) = 42 then Q (r5 * r10) M9 else (if (gI M9 c0 0) = 43 then Q (r5 + r10) M9 else (if (gI M9 c0 0) = 45 then Q (r5 - r10) M9 else (if (gI M9 c0 0) = 60 then (if r10 ≤ r5 then Q 0 M9 else Q 1 M9) else (if (gI M9 c0 0) = 61 then (if r5 = r10 then Q 1 M9 else Q 0 M9) else (if r5 = 0 then (if r10 = 0 then Q 0 M9 else fX13_worked_b136 P M9 Q) else fX13_worked_b136 P M9 Q)))))))))))
theorem mX13_worked {kf : Nat} (G : gG) {v : Nat} {P : Nat → Nat → gM → (Int32 → gM → Prop) → Prop} (hkf : v + 1 ≤ kf) (hv : 1 ≤ v) (hP : ∀ (kf : Nat) (c p1 : Nat) (M : gM) (Q : Int32 → gM → Prop), v ≤ kf → P c p1 M Q → gWk kf G M c p1 Q) (c0 : Nat) (p1 : Nat) (M : gM) (Q : Int32 → gM → Prop) (h : fX13_worked P c0 p1 M Q) : gMet yX13_worked cX13_worked 4 (Option.some FieldType.int) kf G M [.ref (gA G c0), .ref (gA G p1)] (gQi Q) gE0 := by
  refine g_intro (lv := [(0, .ref (gA G c0)), (1, .ref (gA G p1))]) (by decide) rfl rfl (fun w hw => ?_)
  unfold fX13_worked at h
  refine g_aload_n hw 0 dX13_worked_0 rfl ?_
  obtain ⟨hk1, h⟩ := h
  obtain ⟨a2, e3, h⟩ := h
  refine gfX13_13 (q := some a2) hw rfl dX13_worked_1 hk1 e3 ?_
  refine g_aload_n hw 1 dX13_worked_4 rfl ?_
  refine sX13_20P hw rfl dX13_worked_5 rfl hkf hv hP h (fun r5 M4 h => ?_)
  refine g_istore_n hw (lv2 := [(0, .ref (gA G c0)), (1, .ref (gA G p1)), (2, .int r5)]) [1, 2, 0] dX13_worked_8 rfl rfl ?_
  refine g_aload_n hw 0 dX13_worked_9 rfl ?_
  obtain ⟨hk6, h⟩ := h
  obtain ⟨a7, e8, h⟩ := h
  refine gfX13_17 (q := some a7) hw rfl dX13_worked_10 hk6 e8 ?_
  refine g_aload_n hw 1 dX13_worked_13 rfl ?_
  refine sX13_20P hw rfl dX13_worked_14 rfl hkf hv hP h (fun r10 M9 h => ?_)
  refine g_istore_n hw (lv2 := [(0, .ref (gA G c0)), (2, .int r5), (3, .int r10)]) [1, 3, 0] dX13_worked_17 rfl rfl ?_
  refine g_aload_n hw 0 dX13_worked_18 rfl ?_
  obtain ⟨hk11, h⟩ := h
  refine gfX13_7 hw rfl dX13_worked_19 hk11 ?_
  by_cases hb18 : (gI M9 c0 0) = 38
  · have h := gT h hb18
    refine g_lookup (tgt := 114) hw dX13_worked_22 (by decide) (by rw [hb18] <;> rfl) (by decide) ?_
    refine g_iload_n hw 1 dX13_worked_114 rfl ?_
    refine g_if_eq (tgt := 126) hw dX13_worked_115 (by decide) (fun hb12 => ?_) (fun hb12 => ?_)
    · have h := gT h hb12
      refine g_sub hw (lv2 := []) [] rfl ?_
      exact wX13_worked_b126 hw hkf hv hP h
    · have h := gF h hb12
      refine g_iload_n hw 2 dX13_worked_118 rfl ?_
      refine g_if_eq (tgt := 126) hw dX13_worked_119 (by decide) (fun hb13 => ?_) (fun hb13 => ?_)
      · have h := gT h hb13
        refine g_sub hw (lv2 := []) [] rfl ?_
        exact wX13_worked_b126 hw hkf hv hP h
      · have h := gF h hb13
        refine g_iconst (v := 1) hw dX13_worked_122 (by decide) ?_
        refine g_goto (tgt := 127) hw dX13_worked_123 (by decide) ?_
        exact g_iret hw dX13_worked_127 rfl ⟨_, rfl, h⟩
  · have h := gF h hb18
    by_cases hb19 : (gI M9 c0 0) = 42
    · have h := gT h hb19
      refine g_lookup (tgt := 88) hw dX13_worked_22 (by decide) (by rw [hb19] <;> rfl) (by decide) ?_
      refine g_iload_n hw 1 dX13_worked_88 rfl ?_
      refine g_iload_n hw 2 dX13_worked_89 rfl ?_
      refine g_imul hw dX13_worked_90 ?_
      exact g_iret hw dX13_worked_91 rfl ⟨_, rfl, h⟩
    · have h := gF h hb19
      by_cases hb20 : (gI M9 c0 0) = 43
      · have h := gT h hb20
        refine g_lookup (tgt := 80) hw dX13_worked_22 (by decide) (by rw [hb20] <;> rfl) (by decide) ?_
        refine g_iload_n hw 1 dX13_worked_80 rfl ?_
        refine g_iload_n hw 2 dX13_worked_81 rfl ?_
        refine g_iadd hw dX13_worked_82 ?_
        exact g_iret hw dX13_worked_83 rfl ⟨_, rfl, h⟩
      · have h := gF h hb20
        by_cases hb21 : (gI M9 c0 0) = 45
        · have h := gT h hb21
          refine g_lookup (tgt := 84) hw dX13_worked_22 (by decide) (by rw [hb21] <;> rfl) (by decide) ?_
          refine g_iload_n hw 1 dX13_worked_84 rfl ?_
          refine g_iload_n hw 2 dX13_worked_85 rfl ?_
          refine g_isub hw dX13_worked_86 ?_
          exact g_iret hw dX13_worked_87 rfl ⟨_, rfl, h⟩
        · have h := gF h hb21
          by_cases hb22 : (gI M9 c0 0) = 60
          · have h := gT h hb22
            refine g_lookup (tgt := 92) hw dX13_worked_22 (by decide) (by rw [hb22] <;> rfl) (by decide) ?_
            refine g_iload_n hw 1 dX13_worked_92 rfl ?_
            refine g_iload_n hw 2 dX13_worked_93 rfl ?_
            refine g_icmp_ge (tgt := 101) hw dX13_worked_94 (by decide) (fun hb14 => ?_) (fun hb14 => ?_)
            · have h := gT h hb14
              refine g_iconst (v := 0) hw dX13_worked_101 (by decide) ?_
              exact g_iret hw dX13_worked_102 rfl ⟨_, rfl, h⟩
            · have h := gF h hb14
              refine g_iconst (v := 1) hw dX13_worked_97 (by decide) ?_
              refine g_goto (tgt := 102) hw dX13_worked_98 (by decide) ?_
              exact g_iret hw dX13_worked_102 rfl ⟨_, rfl, h⟩
          · have h := gF h hb22
            by_cases hb23 : (gI M9 c0 0) = 61
            · have h := gT h hb23
              refine g_lookup (tgt := 103) hw dX13_worked_22 (by decide) (by rw [hb23] <;> rfl) (by decide) ?_
              refine g_iload_n hw 1 dX13_worked_103 rfl ?_
              refine g_iload_n hw 2 dX13_worked_104 rfl ?_
              refine g_icmp_ne (tgt := 112) hw dX13_worked_105 (by decide) (fun hb15 => ?_) (fun hb15 => ?_)
              · have h := gF h hb15
                refine g_iconst (v := 0) hw dX13_worked_112 (by decide) ?_
                exact g_iret hw dX13_worked_113 rfl ⟨_, rfl, h⟩
              · have h := gT h hb15
                refine g_iconst (v := 1) hw dX13_worked_108 (by decide) ?_
                refine g_goto (tgt := 113) hw dX13_worked_109 (by decide) ?_
                exact g_iret hw dX13_worked_113 rfl ⟨_, rfl, h⟩
            · have h := gF h hb23
              refine g_lookup (tgt := 128) (off := 106) hw dX13_worked_22 (by decide) (by have z0 := gNeI (k := 38) hb18 rfl; have z1 := gNeI (k := 42) hb19 rfl; have z2 := gNeI (k := 43) hb20 rfl; have z3 := gNeI (k := 45) hb21 rfl; have z4 := gNeI (k := 60) hb22 rfl; have z5 := gNeI (k := 61) hb23 rfl; simp [Op.lookupswitch.offset, z0, z1, z2, z3, z4, z5, Ne.symm z0, Ne.symm z1, Ne.symm z2, Ne.symm z3, Ne.symm z4, Ne.symm z5]) (by decide) ?_
              refine g_iload_n hw 1 dX13_worked_128 rfl ?_
              refine g_if_ne (tgt := 136) hw dX13_worked_129 (by decide) (fun hb16 => ?_) (fun hb16 => ?_)
              · have h := gF h hb16
                refine g_sub hw (lv2 := []) [] rfl ?_
                exact wX13_worked_b136 hw hkf hv hP h
              · have h := gT h hb16
                refine g_iload_n hw 2 dX13_worked_132 rfl ?_
                refine g_if_eq (tgt := 140) hw dX13_worked_133 (by decide) (fun hb17 => ?_) (fun hb17 => ?_)
                · have h := gT h hb17
                  refine g_iconst (v := 0) hw dX13_worked_140 (by decide) ?_
                  exact g_iret hw dX13_worked_141 rfl ⟨_, rfl, h⟩
                · have h := gF h hb17
                  refine g_sub hw (lv2 := []) [] rfl ?_
                  exact wX13_worked_b136 hw hkf hv hP h
def fX3_init (c0 : Nat) (M : gM) (Q : gM → Prop) : Prop :=
  Q M
theorem mX3_init {kf : Nat} (hkf : 1 ≤ kf) (G : gG) (c0 : Nat) (M : gM) (Q : gM → Prop) (h : fX3_init c0 M Q) : gMet yX3_init cX3_init 1 (Option.none : Option FieldType) kf G M [.ref (gA G c0)] (gQv Q) gE0 := by
  refine g_intro (lv := [(0, .ref (gA G c0))]) (by decide) rfl rfl (fun w hw => ?_)
  unfold fX3_init at h
  refine g_aload_n hw 0 dX3_init_0 rfl ?_
  refine g_objInit hw dX3_init_1 q177 q129 q130 rfl (gK1 hkf) ?_
  exact g_vret hw dX3_init_4 ⟨rfl, h⟩
theorem pfX3_7 {y0 : MethodName} {cc : ByteArray} {nL : Nat} {ret : Option FieldType} {hh : List (Nat × Nat × Nat × Nat)} {kf : Nat} {G : gG} {Qv : Option Value → gM → Prop} {E : String → Nat → gM → Prop} {w : gM → Nat → List (Nat × Value) → List Value → Prop} {M : gM} {pc : Nat} {lv : List (Nat × Value)} {rest : List Value} (hw : gX y0 cc nL ret hh kf G Qv E w) (hy : y0.cls = RX3) {c : Nat} {x : Int64} (d : decode cc pc = .ok (.putfield 7, 3)) (hk : gk M c = 3) (kk : w (gsL M c 0 x) (pc + 3) lv rest) : w M pc lv (.long x :: .ref (gA G c) :: rest) := by
  obtain ⟨cls9, nm9, ds9⟩ := y0
  subst hy
  exact g_putC (C := RX3) (T := TX3) (N := 2) (ci := 2) hw in_X3 tyX3 tyX3_ok nmX3 rfl 0 (by decide) (Or.inl ⟨q178, Or.inl rfl⟩) rfl rfl (gOne_L M c 0 x) (by show Value.long (gL (gsL M c 0 x) c 0) = _; rw [gL_sL, if_pos ⟨rfl, rfl⟩]) d hk kk
theorem pfX3_13 {y0 : MethodName} {cc : ByteArray} {nL : Nat} {ret : Option FieldType} {hh : List (Nat × Nat × Nat × Nat)} {kf : Nat} {G : gG} {Qv : Option Value → gM → Prop} {E : String → Nat → gM → Prop} {w : gM → Nat → List (Nat × Value) → List Value → Prop} {M : gM} {pc : Nat} {lv : List (Nat × Value)} {rest : List Value} (hw : gX y0 cc nL ret hh kf G Qv E w) (hy : y0.cls = RX3) {c : Nat} {x : Int32} (d : decode cc pc = .ok (.putfield 13, 3)) (hk : gk M c = 3) (kk : w (gsI M c 1 x) (pc + 3) lv rest) : w M pc lv (.int x :: .ref (gA G c) :: rest) := by
  obtain ⟨cls9, nm9, ds9⟩ := y0
  subst hy
  exact g_putC (C := RX3) (T := TX3) (N := 2) (ci := 2) hw in_X3 tyX3 tyX3_ok nmX3 rfl 1 (by decide) (Or.inl ⟨q180, Or.inl rfl⟩) rfl rfl (gOne_I M c 1 x) (by show Value.int (gI (gsI M c 1 x) c 1) = _; rw [gI_sI, if_pos ⟨rfl, rfl⟩]) d hk kk
def fX3_begin (c0 : Nat) (M : gM) (Q : gM → Prop) : Prop :=
  gk M c0 = 3 ∧ Q (gsI (gsL M c0 0 0) c0 1 0)
theorem mX3_begin {kf : Nat} (hkf : 1 ≤ kf) (G : gG) (c0 : Nat) (M : gM) (Q : gM → Prop) (h : fX3_begin c0 M Q) : gMet yX3_begin cX3_begin 1 (Option.none : Option FieldType) kf G M [.ref (gA G c0)] (gQv Q) gE0 := by
  refine g_intro (lv := [(0, .ref (gA G c0))]) (by decide) rfl rfl (fun w hw => ?_)
  unfold fX3_begin at h
  refine g_aload_n hw 0 dX3_begin_0 rfl ?_
  refine g_lconst (v := 0) hw dX3_begin_1 (by decide) ?_
  obtain ⟨hk1, h⟩ := h
  refine pfX3_7 hw rfl dX3_begin_2 hk1 ?_
  refine g_aload_n hw 0 dX3_begin_5 rfl ?_
  refine g_iconst (v := 0) hw dX3_begin_6 (by decide) ?_
  refine pfX3_13 hw rfl dX3_begin_7 hk1 ?_
  exact g_vret hw dX3_begin_10 ⟨rfl, h⟩
theorem gfX3_7 {y0 : MethodName} {cc : ByteArray} {nL : Nat} {ret : Option FieldType} {hh : List (Nat × Nat × Nat × Nat)} {kf : Nat} {G : gG} {Qv : Option Value → gM → Prop} {E : String → Nat → gM → Prop} {w : gM → Nat → List (Nat × Value) → List Value → Prop} {M : gM} {pc : Nat} {lv : List (Nat × Value)} {rest : List Value} (hw : gX y0 cc nL ret hh kf G Qv E w) (hy : y0.cls = RX3) {c : Nat} (d : decode cc pc = .ok (.getfield 7, 3)) (hk : gk M c = 3) (kk : w M (pc + 3) lv (.long (gL M c 0) :: rest)) : w M pc lv (.ref (gA G c) :: rest) := by
  obtain ⟨cls9, nm9, ds9⟩ := y0
  subst hy
  exact g_getC (C := RX3) (T := TX3) (N := 2) (ci := 2) hw in_X3 rfl 0 (by decide) (Or.inl q178) rfl d hk kk
theorem gfX3_13 {y0 : MethodName} {cc : ByteArray} {nL : Nat} {ret : Option FieldType} {hh : List (Nat × Nat × Nat × Nat)} {kf : Nat} {G : gG} {Qv : Option Value → gM → Prop} {E : String → Nat → gM → Prop} {w : gM → Nat → List (Nat × Value) → List Value → Prop} {M : gM} {pc : Nat} {lv : List (Nat × Value)} {rest : List Value} (hw : gX y0 cc nL ret hh kf G Qv E w) (hy : y0.cls = RX3) {c : Nat} (d : decode cc pc = .ok (.getfield 13, 3)) (hk : gk M c = 3) (kk : w M (pc + 3) lv (.int (gI M c 1) :: rest)) : w M pc lv (.ref (gA G c) :: rest) := by
  obtain ⟨cls9, nm9, ds9⟩ := y0
  subst hy
  exact g_getC (C := RX3) (T := TX3) (N := 2) (ci := 2) hw in_X3 rfl 1 (by decide) (Or.inl q180) rfl d hk kk
def fX3_adds (c0 : Nat) (p1 : Int64) (M : gM) (Q : gM → Prop) : Prop :=
  gk M c0 = 3 ∧ Q (gsI (gsL M c0 0 ((gL M c0 0) + p1)) c0 1 ((gI (gsL M c0 0 ((gL M c0 0) + p1)) c0 1) + 1))
theorem mX3_adds {kf : Nat} (hkf : 1 ≤ kf) (G : gG) (c0 : Nat) (p1 : Int64) (M : gM) (Q : gM → Prop) (h : fX3_adds c0 p1 M Q) : gMet yX3_adds cX3_adds 3 (Option.none : Option FieldType) kf G M [.ref (gA G c0), .long p1] (gQv Q) gE0 := by
  refine g_intro (lv := [(0, .ref (gA G c0)), (1, .long p1)]) (by decide) rfl rfl (fun w hw => ?_)
  unfold fX3_adds at h
  refine g_aload_n hw 0 dX3_adds_0 rfl ?_
  refine g_dup hw dX3_adds_1 rfl ?_
  obtain ⟨hk1, h⟩ := h
  refine gfX3_7 hw rfl dX3_adds_2 hk1 ?_
  refine g_lload_n hw 1 dX3_adds_5 rfl ?_
  refine g_ladd hw dX3_adds_6 ?_
  refine pfX3_7 hw rfl dX3_adds_7 hk1 ?_
  refine g_aload_n hw 0 dX3_adds_10 rfl ?_
  refine g_dup hw dX3_adds_11 rfl ?_
  refine gfX3_13 hw rfl dX3_adds_12 hk1 ?_
  refine g_iconst (v := 1) hw dX3_adds_15 (by decide) ?_
  refine g_iadd hw dX3_adds_16 ?_
  refine pfX3_13 hw rfl dX3_adds_17 hk1 ?_
  exact g_vret hw dX3_adds_20 ⟨rfl, h⟩
theorem pfX4_9 {y0 : MethodName} {cc : ByteArray} {nL : Nat} {ret : Option FieldType} {hh : List (Nat × Nat × Nat × Nat)} {kf : Nat} {G : gG} {Qv : Option Value → gM → Prop} {E : String → Nat → gM → Prop} {w : gM → Nat → List (Nat × Value) → List Value → Prop} {M : gM} {pc : Nat} {lv : List (Nat × Value)} {rest : List Value} (hw : gX y0 cc nL ret hh kf G Qv E w) (hy : y0.cls = RX4) (hyn : y0.name = "<init>") {c : Nat} {q : Option Nat} (d : decode cc pc = .ok (.putfield 9, 3)) (hk : gk M c = 4) (kk : w (gsR M c 5 q) (pc + 3) lv rest) : w M pc lv (va_rf (q.map (gA G)) :: .ref (gA G c) :: rest) := by
  obtain ⟨cls9, nm9, ds9⟩ := y0
  subst hy
  exact g_putC (C := RX4) (T := TX4) (N := 11) (ci := 3) hw in_X4 tyX4 tyX4_ok nmX4 rfl 5 (by decide) (Or.inl ⟨q199, Or.inr ⟨rfl, hyn, rfl⟩⟩) (by cases q <;> rfl) (by cases q <;> rfl) (gOne_R M c 5 q) (by show va_rf ((gR (gsR M c 5 q) c 5).map (gA G)) = _; rw [gR_sR, if_pos ⟨rfl, rfl⟩]) d hk kk
theorem pfX4_15 {y0 : MethodName} {cc : ByteArray} {nL : Nat} {ret : Option FieldType} {hh : List (Nat × Nat × Nat × Nat)} {kf : Nat} {G : gG} {Qv : Option Value → gM → Prop} {E : String → Nat → gM → Prop} {w : gM → Nat → List (Nat × Value) → List Value → Prop} {M : gM} {pc : Nat} {lv : List (Nat × Value)} {rest : List Value} (hw : gX y0 cc nL ret hh kf G Qv E w) (hy : y0.cls = RX4) (hyn : y0.name = "<init>") {c : Nat} {q : Option Nat} (d : decode cc pc = .ok (.putfield 15, 3)) (hk : gk M c = 4) (kk : w (gsR M c 6 q) (pc + 3) lv rest) : w M pc lv (va_rf (q.map (gA G)) :: .ref (gA G c) :: rest) := by
  obtain ⟨cls9, nm9, ds9⟩ := y0
  subst hy
  exact g_putC (C := RX4) (T := TX4) (N := 11) (ci := 3) hw in_X4 tyX4 tyX4_ok nmX4 rfl 6 (by decide) (Or.inl ⟨q201, Or.inr ⟨rfl, hyn, rfl⟩⟩) (by cases q <;> rfl) (by cases q <;> rfl) (gOne_R M c 6 q) (by show va_rf ((gR (gsR M c 6 q) c 6).map (gA G)) = _; rw [gR_sR, if_pos ⟨rfl, rfl⟩]) d hk kk
theorem pfX4_18 {y0 : MethodName} {cc : ByteArray} {nL : Nat} {ret : Option FieldType} {hh : List (Nat × Nat × Nat × Nat)} {kf : Nat} {G : gG} {Qv : Option Value → gM → Prop} {E : String → Nat → gM → Prop} {w : gM → Nat → List (Nat × Value) → List Value → Prop} {M : gM} {pc : Nat} {lv : List (Nat × Value)} {rest : List Value} (hw : gX y0 cc nL ret hh kf G Qv E w) (hy : y0.cls = RX4) (hyn : y0.name = "<init>") {c : Nat} {q : Option Nat} (d : decode cc pc = .ok (.putfield 18, 3)) (hk : gk M c = 4) (kk : w (gsR M c 7 q) (pc + 3) lv rest) : w M pc lv (va_rf (q.map (gA G)) :: .ref (gA G c) :: rest) := by
  obtain ⟨cls9, nm9, ds9⟩ := y0
  subst hy
  exact g_putC (C := RX4) (T := TX4) (N := 11) (ci := 3) hw in_X4 tyX4 tyX4_ok nmX4 rfl 7 (by decide) (Or.inl ⟨q203, Or.inr ⟨rfl, hyn, rfl⟩⟩) (by cases q <;> rfl) (by cases q <;> rfl) (gOne_R M c 7 q) (by show va_rf ((gR (gsR M c 7 q) c 7).map (gA G)) = _; rw [gR_sR, if_pos ⟨rfl, rfl⟩]) d hk kk
theorem pfX4_21 {y0 : MethodName} {cc : ByteArray} {nL : Nat} {ret : Option FieldType} {hh : List (Nat × Nat × Nat × Nat)} {kf : Nat} {G : gG} {Qv : Option Value → gM → Prop} {E : String → Nat → gM → Prop} {w : gM → Nat → List (Nat × Value) → List Value → Prop} {M : gM} {pc : Nat} {lv : List (Nat × Value)} {rest : List Value} (hw : gX y0 cc nL ret hh kf G Qv E w) (hy : y0.cls = RX4) (hyn : y0.name = "<init>") {c : Nat} {q : Option Nat} (d : decode cc pc = .ok (.putfield 21, 3)) (hk : gk M c = 4) (kk : w (gsR M c 8 q) (pc + 3) lv rest) : w M pc lv (va_rf (q.map (gA G)) :: .ref (gA G c) :: rest) := by
  obtain ⟨cls9, nm9, ds9⟩ := y0
  subst hy
  exact g_putC (C := RX4) (T := TX4) (N := 11) (ci := 3) hw in_X4 tyX4 tyX4_ok nmX4 rfl 8 (by decide) (Or.inl ⟨q205, Or.inr ⟨rfl, hyn, rfl⟩⟩) (by cases q <;> rfl) (by cases q <;> rfl) (gOne_R M c 8 q) (by show va_rf ((gR (gsR M c 8 q) c 8).map (gA G)) = _; rw [gR_sR, if_pos ⟨rfl, rfl⟩]) d hk kk
theorem pfX4_24 {y0 : MethodName} {cc : ByteArray} {nL : Nat} {ret : Option FieldType} {hh : List (Nat × Nat × Nat × Nat)} {kf : Nat} {G : gG} {Qv : Option Value → gM → Prop} {E : String → Nat → gM → Prop} {w : gM → Nat → List (Nat × Value) → List Value → Prop} {M : gM} {pc : Nat} {lv : List (Nat × Value)} {rest : List Value} (hw : gX y0 cc nL ret hh kf G Qv E w) (hy : y0.cls = RX4) (hyn : y0.name = "<init>") {c : Nat} {q : Option Nat} (d : decode cc pc = .ok (.putfield 24, 3)) (hk : gk M c = 4) (kk : w (gsR M c 9 q) (pc + 3) lv rest) : w M pc lv (va_rf (q.map (gA G)) :: .ref (gA G c) :: rest) := by
  obtain ⟨cls9, nm9, ds9⟩ := y0
  subst hy
  exact g_putC (C := RX4) (T := TX4) (N := 11) (ci := 3) hw in_X4 tyX4 tyX4_ok nmX4 rfl 9 (by decide) (Or.inl ⟨q207, Or.inr ⟨rfl, hyn, rfl⟩⟩) (by cases q <;> rfl) (by cases q <;> rfl) (gOne_R M c 9 q) (by show va_rf ((gR (gsR M c 9 q) c 9).map (gA G)) = _; rw [gR_sR, if_pos ⟨rfl, rfl⟩]) d hk kk
theorem pfX4_27 {y0 : MethodName} {cc : ByteArray} {nL : Nat} {ret : Option FieldType} {hh : List (Nat × Nat × Nat × Nat)} {kf : Nat} {G : gG} {Qv : Option Value → gM → Prop} {E : String → Nat → gM → Prop} {w : gM → Nat → List (Nat × Value) → List Value → Prop} {M : gM} {pc : Nat} {lv : List (Nat × Value)} {rest : List Value} (hw : gX y0 cc nL ret hh kf G Qv E w) (hy : y0.cls = RX4) (hyn : y0.name = "<init>") {c : Nat} {q : Option Nat} (d : decode cc pc = .ok (.putfield 27, 3)) (hk : gk M c = 4) (kk : w (gsR M c 10 q) (pc + 3) lv rest) : w M pc lv (va_rf (q.map (gA G)) :: .ref (gA G c) :: rest) := by
  obtain ⟨cls9, nm9, ds9⟩ := y0
  subst hy
  exact g_putC (C := RX4) (T := TX4) (N := 11) (ci := 3) hw in_X4 tyX4 tyX4_ok nmX4 rfl 10 (by decide) (Or.inl ⟨q209, Or.inr ⟨rfl, hyn, rfl⟩⟩) (by cases q <;> rfl) (by cases q <;> rfl) (gOne_R M c 10 q) (by show va_rf ((gR (gsR M c 10 q) c 10).map (gA G)) = _; rw [gR_sR, if_pos ⟨rfl, rfl⟩]) d hk kk
theorem gfX4_9 {y0 : MethodName} {cc : ByteArray} {nL : Nat} {ret : Option FieldType} {hh : List (Nat × Nat × Nat × Nat)} {kf : Nat} {G : gG} {Qv : Option Value → gM → Prop} {E : String → Nat → gM → Prop} {w : gM → Nat → List (Nat × Value) → List Value → Prop} {M : gM} {pc : Nat} {lv : List (Nat × Value)} {rest : List Value} (hw : gX y0 cc nL ret hh kf G Qv E w) (hy : y0.cls = RX4) {c : Nat} {q : Option Nat} (d : decode cc pc = .ok (.getfield 9, 3)) (hk : gk M c = 4) (hq : gR M c 5 = q) (kk : w M (pc + 3) lv (va_rf (q.map (gA G)) :: rest)) : w M pc lv (.ref (gA G c) :: rest) := by
  obtain ⟨cls9, nm9, ds9⟩ := y0
  subst hy
  subst hq
  exact g_getC (C := RX4) (T := TX4) (N := 11) (ci := 3) hw in_X4 rfl 5 (by decide) (Or.inl q199) rfl d hk kk
theorem gfX4_18 {y0 : MethodName} {cc : ByteArray} {nL : Nat} {ret : Option FieldType} {hh : List (Nat × Nat × Nat × Nat)} {kf : Nat} {G : gG} {Qv : Option Value → gM → Prop} {E : String → Nat → gM → Prop} {w : gM → Nat → List (Nat × Value) → List Value → Prop} {M : gM} {pc : Nat} {lv : List (Nat × Value)} {rest : List Value} (hw : gX y0 cc nL ret hh kf G Qv E w) (hy : y0.cls = RX4) {c : Nat} {q : Option Nat} (d : decode cc pc = .ok (.getfield 18, 3)) (hk : gk M c = 4) (hq : gR M c 7 = q) (kk : w M (pc + 3) lv (va_rf (q.map (gA G)) :: rest)) : w M pc lv (.ref (gA G c) :: rest) := by
  obtain ⟨cls9, nm9, ds9⟩ := y0
  subst hy
  subst hq
  exact g_getC (C := RX4) (T := TX4) (N := 11) (ci := 3) hw in_X4 rfl 7 (by decide) (Or.inl q203) rfl d hk kk
def fX4_init_L54s (R54 : Int32 → gM → Prop) (K80_54 : gM → Prop) (l0_21 : Nat) (l1_22 : Int32) (M : gM) (Q : gM → Prop) : Prop :=
  (if 12 ≤ l1_22 then K80_54 M else gk M l0_21 = 4 ∧ gdr (gR M l0_21 5) (fun a25 => gk M a25 = 40 ∧ vp_in l1_22 (gl M a25) ∧ gdr (gR (gsI M a25 l1_22.toNatClampNeg (-1)) l0_21 7) (fun a29 => gk (gsI M a25 l1_22.toNatClampNeg (-1)) a29 = 40 ∧ vp_in l1_22 (gl (gsI M a25 l1_22.toNatClampNeg (-1)) a29) ∧ R54 (l1_22 + 1) (gsI (gsI M a25 l1_22.toNatClampNeg (-1)) a29 l1_22.toNatClampNeg (-1)))))
def fX4_init_L54 (K80_54 : gM → Prop) (l0_21 : Nat) (Q : gM → Prop) : Nat → Int32 → gM → Prop
  | 0 => fun _ _ => False
  | n + 1 => fun l1_22 M => fX4_init_L54s (fX4_init_L54 K80_54 l0_21 Q n) K80_54 l0_21 l1_22 M Q
theorem wX4_init_L54s {kf : Nat} {G : gG} {w : gM → Nat → List (Nat × Value) → List Value → Prop} {Q : gM → Prop} (hw : gX yX4_init cX4_init 2 (Option.none : Option FieldType) [] kf G (gQv Q) gE0 w) (hkf : 1 ≤ kf) {R54 : Int32 → gM → Prop} {K80_54 : gM → Prop} {l0_21 : Nat} {l1_22 : Int32} {M : gM} (hR54 : ∀ (v0 : Int32) (M : gM), R54 v0 M → w M 54 [(0, .ref (gA G l0_21)), (1, .int v0)] []) (hK80_54 : ∀  (M : gM), K80_54 M → w M 80 [] []) (h : fX4_init_L54s R54 K80_54 l0_21 l1_22 M Q) : w M 54 [(0, .ref (gA G l0_21)), (1, .int l1_22)] [] := by
  unfold fX4_init_L54s at h
  refine g_iload_n hw 1 dX4_init_54 rfl ?_
  refine g_bipush (v := 12) hw dX4_init_55 (by decide) ?_
  refine g_icmp_ge (tgt := 80) hw dX4_init_57 (by decide) (fun hb23 => ?_) (fun hb23 => ?_)
  · have h := gT h hb23
    refine g_sub hw (lv2 := []) [] rfl ?_
    exact hK80_54 M h
  · have h := gF h hb23
    refine g_aload_n hw 0 dX4_init_60 rfl ?_
    obtain ⟨hk24, h⟩ := h
    obtain ⟨a25, e26, h⟩ := h
    refine gfX4_9 (q := some a25) hw rfl dX4_init_61 hk24 e26 ?_
    refine g_iload_n hw 1 dX4_init_64 rfl ?_
    refine g_iconst (v := (-1)) hw dX4_init_65 (by decide) ?_
    obtain ⟨hk27, h⟩ := h
    obtain ⟨hi28, h⟩ := h
    refine g_iast (n := l1_22.toNatClampNeg) hw dX4_init_66 hk27 hi28 rfl ?_
    refine g_aload_n hw 0 dX4_init_67 rfl ?_
    obtain ⟨a29, e30, h⟩ := h
    refine gfX4_18 (q := some a29) hw rfl dX4_init_68 hk24 e30 ?_
    refine g_iload_n hw 1 dX4_init_71 rfl ?_
    refine g_iconst (v := (-1)) hw dX4_init_72 (by decide) ?_
    obtain ⟨hk31, h⟩ := h
    obtain ⟨hi32, h⟩ := h
    refine g_iast (n := l1_22.toNatClampNeg) hw dX4_init_73 hk31 hi32 rfl ?_
    refine g_iinc hw (lv2 := [(0, .ref (gA G l0_21)), (1, .int (l1_22 + 1))]) 1 [1, 0] dX4_init_74 rfl (by decide) rfl rfl ?_
    refine g_goto (tgt := 54) hw dX4_init_77 (by decide) ?_
    exact hR54 (l1_22 + 1) (gsI (gsI M a25 l1_22.toNatClampNeg (-1)) a29 l1_22.toNatClampNeg (-1)) h
theorem wX4_init_L54 {kf : Nat} {G : gG} {w : gM → Nat → List (Nat × Value) → List Value → Prop} {Q : gM → Prop} (hw : gX yX4_init cX4_init 2 (Option.none : Option FieldType) [] kf G (gQv Q) gE0 w) (hkf : 1 ≤ kf) {K80_54 : gM → Prop} {l0_21 : Nat} (hK80_54 : ∀  (M : gM), K80_54 M → w M 80 [] []) : ∀ (n : Nat) (l1_22 : Int32) (M : gM), fX4_init_L54 K80_54 l0_21 Q n l1_22 M → w M 54 [(0, .ref (gA G l0_21)), (1, .int l1_22)] [] := by
  intro n
  induction n with
  | zero => intro l1_22 M h; exact h.elim
  | succ n ih => intro l1_22 M h; exact wX4_init_L54s hw hkf ih hK80_54 h
def fX4_init_b52 (l0_20 : Nat) (M : gM) (Q : gM → Prop) : Prop :=
  ∃ n, fX4_init_L54 (fun M33 => Q M33) l0_20 Q n 0 M
theorem wX4_init_b52 {kf : Nat} {G : gG} {w : gM → Nat → List (Nat × Value) → List Value → Prop} {Q : gM → Prop} (hw : gX yX4_init cX4_init 2 (Option.none : Option FieldType) [] kf G (gQv Q) gE0 w) (hkf : 1 ≤ kf)  {l0_20 : Nat} {M : gM}  (h : fX4_init_b52 l0_20 M Q) : w M 52 [(0, .ref (gA G l0_20))] [] := by
  unfold fX4_init_b52 at h
  refine g_iconst (v := 0) hw dX4_init_52 (by decide) ?_
  refine g_istore_n hw (lv2 := [(0, .ref (gA G l0_20)), (1, .int 0)]) [1, 0] dX4_init_53 rfl rfl ?_
  obtain ⟨n9, h⟩ := h
  refine wX4_init_L54 hw hkf (fun M33 h => ?_) n9 0 M h
  exact g_vret hw dX4_init_80 ⟨rfl, h⟩
def fX4_init_b28 (l0_10 : Nat) (M : gM) (Q : gM → Prop) : Prop :=
  gn M < gLC ∧ gs M + 12 ≤ gLS ∧ gk (gnew M 40 12 12) l0_10 = 4 ∧ gn (gsR (gnew M 40 12 12) l0_10 8 (some (gn M))) < gLC ∧ gs (gsR (gnew M 40 12 12) l0_10 8 (some (gn M))) + 12 ≤ gLS ∧ gk (gnew (gsR (gnew M 40 12 12) l0_10 8 (some (gn M))) 40 12 12) l0_10 = 4 ∧ gn (gsR (gnew (gsR (gnew M 40 12 12) l0_10 8 (some (gn M))) 40 12 12) l0_10 9 (some (gn (gsR (gnew M 40 12 12) l0_10 8 (some (gn M)))))) < gLC ∧ gs (gsR (gnew (gsR (gnew M 40 12 12) l0_10 8 (some (gn M))) 40 12 12) l0_10 9 (some (gn (gsR (gnew M 40 12 12) l0_10 8 (some (gn M)))))) + 12 ≤ gLS ∧ gk (gnew (gsR (gnew (gsR (gnew M 40 12 12) l0_10 8 (some (gn M))) 40 12 12) l0_10 9 (some (gn (gsR (gnew M 40 12 12) l0_10 8 (some (gn M)))))) 40 12 12) l0_10 = 4 ∧ fX4_init_b52 l0_10 (gsR (gnew (gsR (gnew (gsR (gnew M 40 12 12) l0_10 8 (some (gn M))) 40 12 12) l0_10 9 (some (gn (gsR (gnew M 40 12 12) l0_10 8 (some (gn M)))))) 40 12 12) l0_10 10 (some (gn (gsR (gnew (gsR (gnew M 40 12 12) l0_10 8 (some (gn M))) 40 12 12) l0_10 9 (some (gn (gsR (gnew M 40 12 12) l0_10 8 (some (gn M))))))))) Q
theorem wX4_init_b28 {kf : Nat} {G : gG} {w : gM → Nat → List (Nat × Value) → List Value → Prop} {Q : gM → Prop} (hw : gX yX4_init cX4_init 2 (Option.none : Option FieldType) [] kf G (gQv Q) gE0 w) (hkf : 1 ≤ kf)  {l0_10 : Nat} {M : gM}  (h : fX4_init_b28 l0_10 M Q) : w M 28 [(0, .ref (gA G l0_10))] [] := by
  unfold fX4_init_b28 at h
  refine g_aload_n hw 0 dX4_init_28 rfl ?_
  refine g_bipush (v := 12) hw dX4_init_29 (by decide) ?_
  obtain ⟨hc11, h⟩ := h
  obtain ⟨hc12, h⟩ := h
  refine g_newa (N := 12) hw 0 dX4_init_31 q166 rfl (by decide) rfl (by decide) rfl (by decide) hc11 hc12 ?_
  obtain ⟨hk13, h⟩ := h
  refine pfX4_21 (q := some (gn M)) hw rfl rfl dX4_init_33 hk13 ?_
  refine g_aload_n hw 0 dX4_init_36 rfl ?_
  refine g_bipush (v := 12) hw dX4_init_37 (by decide) ?_
  obtain ⟨hc14, h⟩ := h
  obtain ⟨hc15, h⟩ := h
  refine g_newa (N := 12) hw 0 dX4_init_39 q166 rfl (by decide) rfl (by decide) rfl (by decide) hc14 hc15 ?_
  obtain ⟨hk16, h⟩ := h
  refine pfX4_24 (q := some (gn (gsR (gnew M 40 12 12) l0_10 8 (some (gn M))))) hw rfl rfl dX4_init_41 hk16 ?_
  refine g_aload_n hw 0 dX4_init_44 rfl ?_
  refine g_bipush (v := 12) hw dX4_init_45 (by decide) ?_
  obtain ⟨hc17, h⟩ := h
  obtain ⟨hc18, h⟩ := h
  refine g_newa (N := 12) hw 0 dX4_init_47 q166 rfl (by decide) rfl (by decide) rfl (by decide) hc17 hc18 ?_
  obtain ⟨hk19, h⟩ := h
  refine pfX4_27 (q := some (gn (gsR (gnew (gsR (gnew M 40 12 12) l0_10 8 (some (gn M))) 40 12 12) l0_10 9 (some (gn (gsR (gnew M 40 12 12) l0_10 8 (some (gn M)))))))) hw rfl rfl dX4_init_49 hk19 ?_
  exact wX4_init_b52 hw hkf h
def fX4_init (c0 : Nat) (M : gM) (Q : gM → Prop) : Prop :=
  gn M < gLC ∧ gs M + 12 ≤ gLS ∧ gk (gnew M 40 12 12) c0 = 4 ∧ gn (gsR (gnew M 40 12 12) c0 5 (some (gn M))) < gLC ∧ gs (gsR (gnew M 40 12 12) c0 5 (some (gn M))) + 12 ≤ gLS ∧ gk (gnew (gsR (gnew M 40 12 12) c0 5 (some (gn M))) 40 12 12) c0 = 4 ∧ gn (gsR (gnew (gsR (gnew M 40 12 12) c0 5 (some (gn M))) 40 12 12) c0 6 (some (gn (gsR (gnew M 40 12 12) c0 5 (some (gn M)))))) < gLC ∧ gs (gsR (gnew (gsR (gnew M 40 12 12) c0 5 (some (gn M))) 40 12 12) c0 6 (some (gn (gsR (gnew M 40 12 12) c0 5 (some (gn M)))))) + 12 ≤ gLS ∧ gk (gnew (gsR (gnew (gsR (gnew M 40 12 12) c0 5 (some (gn M))) 40 12 12) c0 6 (some (gn (gsR (gnew M 40 12 12) c0 5 (some (gn M)))))) 40 12 12) c0 = 4 ∧ fX4_init_b28 c0 (gsR (gnew (gsR (gnew (gsR (gnew M 40 12 12) c0 5 (some (gn M))) 40 12 12) c0 6 (some (gn (gsR (gnew M 40 12 12) c0 5 (some (gn M)))))) 40 12 12) c0 7 (some (gn (gsR (gnew (gsR (gnew M 40 12 12) c0 5 (some (gn M))) 40 12 12) c0 6 (some (gn (gsR (gnew M 40 12 12) c0 5 (some (gn M))))))))) Q
theorem mX4_init {kf : Nat} (hkf : 1 ≤ kf) (G : gG) (c0 : Nat) (M : gM) (Q : gM → Prop) (h : fX4_init c0 M Q) : gMet yX4_init cX4_init 2 (Option.none : Option FieldType) kf G M [.ref (gA G c0)] (gQv Q) gE0 := by
  refine g_intro (lv := [(0, .ref (gA G c0))]) (by decide) rfl rfl (fun w hw => ?_)
  unfold fX4_init at h
  refine g_aload_n hw 0 dX4_init_0 rfl ?_
  refine g_objInit hw dX4_init_1 q192 q129 q130 rfl (gK1 hkf) ?_
  refine g_aload_n hw 0 dX4_init_4 rfl ?_
  refine g_bipush (v := 12) hw dX4_init_5 (by decide) ?_
  obtain ⟨hc1, h⟩ := h
  obtain ⟨hc2, h⟩ := h
  refine g_newa (N := 12) hw 0 dX4_init_7 q166 rfl (by decide) rfl (by decide) rfl (by decide) hc1 hc2 ?_
  obtain ⟨hk3, h⟩ := h
  refine pfX4_9 (q := some (gn M)) hw rfl rfl dX4_init_9 hk3 ?_
  refine g_aload_n hw 0 dX4_init_12 rfl ?_
  refine g_bipush (v := 12) hw dX4_init_13 (by decide) ?_
  obtain ⟨hc4, h⟩ := h
  obtain ⟨hc5, h⟩ := h
  refine g_newa (N := 12) hw 0 dX4_init_15 q166 rfl (by decide) rfl (by decide) rfl (by decide) hc4 hc5 ?_
  obtain ⟨hk6, h⟩ := h
  refine pfX4_15 (q := some (gn (gsR (gnew M 40 12 12) c0 5 (some (gn M))))) hw rfl rfl dX4_init_17 hk6 ?_
  refine g_aload_n hw 0 dX4_init_20 rfl ?_
  refine g_bipush (v := 12) hw dX4_init_21 (by decide) ?_
  obtain ⟨hc7, h⟩ := h
  obtain ⟨hc8, h⟩ := h
  refine g_newa (N := 12) hw 0 dX4_init_23 q166 rfl (by decide) rfl (by decide) rfl (by decide) hc7 hc8 ?_
  obtain ⟨hk9, h⟩ := h
  refine pfX4_18 (q := some (gn (gsR (gnew (gsR (gnew M 40 12 12) c0 5 (some (gn M))) 40 12 12) c0 6 (some (gn (gsR (gnew M 40 12 12) c0 5 (some (gn M)))))))) hw rfl rfl dX4_init_25 hk9 ?_
  exact wX4_init_b28 hw hkf h
def fX4_isSilent (c0 : Nat) (p1 : Int32) (M : gM) (Q : Int32 → gM → Prop) : Prop :=
  gk M c0 = 4 ∧ gdr (gR M c0 5) (fun a2 => gk M a2 = 40 ∧ vp_in p1 (gl M a2) ∧ (if (gI M a2 p1.toNatClampNeg) = (-1) then Q 1 M else Q 0 M))
theorem mX4_isSilent {kf : Nat} (hkf : 1 ≤ kf) (G : gG) (c0 : Nat) (p1 : Int32) (M : gM) (Q : Int32 → gM → Prop) (h : fX4_isSilent c0 p1 M Q) : gMet yX4_isSilent cX4_isSilent 2 (Option.some FieldType.boolean) kf G M [.ref (gA G c0), .int p1] (gQi Q) gE0 := by
  refine g_intro (lv := [(0, .ref (gA G c0)), (1, .int p1)]) (by decide) rfl rfl (fun w hw => ?_)
  unfold fX4_isSilent at h
  refine g_aload_n hw 0 dX4_isSilent_0 rfl ?_
  obtain ⟨hk1, h⟩ := h
  obtain ⟨a2, e3, h⟩ := h
  refine gfX4_9 (q := some a2) hw rfl dX4_isSilent_1 hk1 e3 ?_
  refine g_iload_n hw 1 dX4_isSilent_4 rfl ?_
  obtain ⟨hk4, h⟩ := h
  obtain ⟨hi5, h⟩ := h
  refine g_iald (n := p1.toNatClampNeg) hw dX4_isSilent_5 hk4 hi5 rfl ?_
  refine g_iconst (v := (-1)) hw dX4_isSilent_6 (by decide) ?_
  refine g_icmp_ne (tgt := 14) hw dX4_isSilent_7 (by decide) (fun hb6 => ?_) (fun hb6 => ?_)
  · have h := gF h hb6
    refine g_iconst (v := 0) hw dX4_isSilent_14 (by decide) ?_
    exact g_iret hw dX4_isSilent_15 (by decide +kernel) ⟨_, rfl, h⟩
  · have h := gT h hb6
    refine g_iconst (v := 1) hw dX4_isSilent_10 (by decide) ?_
    refine g_goto (tgt := 15) hw dX4_isSilent_11 (by decide) ?_
    exact g_iret hw dX4_isSilent_15 (by decide +kernel) ⟨_, rfl, h⟩
theorem gfX4_30 {y0 : MethodName} {cc : ByteArray} {nL : Nat} {ret : Option FieldType} {hh : List (Nat × Nat × Nat × Nat)} {kf : Nat} {G : gG} {Qv : Option Value → gM → Prop} {E : String → Nat → gM → Prop} {w : gM → Nat → List (Nat × Value) → List Value → Prop} {M : gM} {pc : Nat} {lv : List (Nat × Value)} {rest : List Value} (hw : gX y0 cc nL ret hh kf G Qv E w) (hy : y0.cls = RX4) {c : Nat} (d : decode cc pc = .ok (.getfield 30, 3)) (hk : gk M c = 4) (kk : w M (pc + 3) lv (.int (gI M c 3) :: rest)) : w M pc lv (.ref (gA G c) :: rest) := by
  obtain ⟨cls9, nm9, ds9⟩ := y0
  subst hy
  exact g_getC (C := RX4) (T := TX4) (N := 11) (ci := 3) hw in_X4 rfl 3 (by decide) (Or.inl q196) rfl d hk kk
theorem sX4_34 {y0 : MethodName} {cc : ByteArray} {nL : Nat} {ret : Option FieldType} {hh : List (Nat × Nat × Nat × Nat)} {kf : Nat} {G : gG} {Qv : Option Value → gM → Prop} {E : String → Nat → gM → Prop} {w : gM → Nat → List (Nat × Value) → List Value → Prop} {M : gM} {pc : Nat} {lv : List (Nat × Value)} {rest : List Value} (hw : gX y0 cc nL ret hh kf G Qv E w) (hy : y0.cls = RX4) {c0 : Nat} {p1 : Int32} {Q : Int32 → gM → Prop} (d : decode cc pc = .ok (.invokevirtual 34, 3)) (hrest : Nat.ble ((rest.map Value.category).sum) 8 = true) (hk : 1 + 1 ≤ kf) (hkd : gk M c0 = 4) (h : fX4_isSilent c0 p1 M Q) (kk : ∀ r M1, Q r M1 → w M1 (pc + 3) lv (.int r :: rest)) : w M pc lv (.int p1 :: .ref (gA G c0) :: rest) := by
  obtain ⟨cls9, nm9, ds9⟩ := y0
  subst hy
  exact g_callV (r := (RX4, TX4, 11)) (ci := 3) hw [.int p1] (nA := 1) rfl d q461 q395 q396 q101 q397 (by decide +kernel) rfl rfl hrest rfl (by omega : kf - 1 + 1 ≤ kf) hkd (mX4_isSilent (kf := kf - 1) (by omega) G c0 p1 M Q h) (fun _ _ _ q => q.elim) (fun v M1 h => by obtain ⟨r, rfl, h⟩ := h; exact kk r M1 h)
def fX4_isCounted_b27  (M : gM) (Q : Int32 → gM → Prop) : Prop :=
  Q 0 M
theorem wX4_isCounted_b27 {kf : Nat} {G : gG} {w : gM → Nat → List (Nat × Value) → List Value → Prop} {Q : Int32 → gM → Prop} (hw : gX yX4_isCounted cX4_isCounted 3 (Option.some FieldType.boolean) [] kf G (gQi Q) gE0 w) (hkf : 2 ≤ kf)   {M : gM}  (h : fX4_isCounted_b27 M Q) : w M 27 [] [] := by
  unfold fX4_isCounted_b27 at h
  refine g_iconst (v := 0) hw dX4_isCounted_27 (by decide) ?_
  exact g_iret hw dX4_isCounted_28 (by decide +kernel) ⟨_, rfl, h⟩
def fX4_isCounted (c0 : Nat) (p1 : Int32) (p2 : Int32) (M : gM) (Q : Int32 → gM → Prop) : Prop :=
  gk M c0 = 4 ∧ (if (gI M c0 3) = 0 then fX4_isCounted_b27 M Q else fX4_isSilent c0 p1 M (fun r4 M3 => (if r4 = 0 then gk M3 c0 = 4 ∧ fX4_isSilent c0 p2 M3 (fun r8 M7 => (if r8 = 0 then Q 1 M7 else fX4_isCounted_b27 M7 Q)) else fX4_isCounted_b27 M3 Q)))
theorem mX4_isCounted {kf : Nat} (hkf : 2 ≤ kf) (G : gG) (c0 : Nat) (p1 : Int32) (p2 : Int32) (M : gM) (Q : Int32 → gM → Prop) (h : fX4_isCounted c0 p1 p2 M Q) : gMet yX4_isCounted cX4_isCounted 3 (Option.some FieldType.boolean) kf G M [.ref (gA G c0), .int p1, .int p2] (gQi Q) gE0 := by
  refine g_intro (lv := [(0, .ref (gA G c0)), (1, .int p1), (2, .int p2)]) (by decide) rfl rfl (fun w hw => ?_)
  unfold fX4_isCounted at h
  refine g_aload_n hw 0 dX4_isCounted_0 rfl ?_
  obtain ⟨hk1, h⟩ := h
  refine gfX4_30 hw rfl dX4_isCounted_1 hk1 ?_
  refine g_if_eq (tgt := 27) hw dX4_isCounted_4 (by decide) (fun hb2 => ?_) (fun hb2 => ?_)
  · have h := gT h hb2
    refine g_sub hw (lv2 := []) [] rfl ?_
    exact wX4_isCounted_b27 hw hkf h
  · have h := gF h hb2
    refine g_aload_n hw 0 dX4_isCounted_7 rfl ?_
    refine g_iload_n hw 1 dX4_isCounted_8 rfl ?_
    refine sX4_34 hw rfl dX4_isCounted_9 rfl (gK2 hkf) hk1 h (fun r4 M3 h => ?_)
    refine g_if_ne (tgt := 27) hw dX4_isCounted_12 (by decide) (fun hb5 => ?_) (fun hb5 => ?_)
    · have h := gF h hb5
      refine g_sub hw (lv2 := []) [] rfl ?_
      exact wX4_isCounted_b27 hw hkf h
    · have h := gT h hb5
      refine g_aload_n hw 0 dX4_isCounted_15 rfl ?_
      refine g_iload_n hw 2 dX4_isCounted_16 rfl ?_
      obtain ⟨hk6, h⟩ := h
      refine sX4_34 hw rfl dX4_isCounted_17 rfl (gK2 hkf) hk6 h (fun r8 M7 h => ?_)
      refine g_if_ne (tgt := 27) hw dX4_isCounted_20 (by decide) (fun hb9 => ?_) (fun hb9 => ?_)
      · have h := gF h hb9
        refine g_sub hw (lv2 := []) [] rfl ?_
        exact wX4_isCounted_b27 hw hkf h
      · have h := gT h hb9
        refine g_iconst (v := 1) hw dX4_isCounted_23 (by decide) ?_
        refine g_goto (tgt := 28) hw dX4_isCounted_24 (by decide) ?_
        exact g_iret hw dX4_isCounted_28 (by decide +kernel) ⟨_, rfl, h⟩
def fX4_months_b23 (R4 : Int32 → Int32 → gM → Prop) (l0_1 : Nat) (l1_2 : Int32) (l2_12 : Int32) (l3_13 : Int32) (M : gM) (Q : Int32 → gM → Prop) : Prop :=
  R4 l2_12 (l3_13 + 1) M
theorem wX4_months_b23 {kf : Nat} {G : gG} {w : gM → Nat → List (Nat × Value) → List Value → Prop} {Q : Int32 → gM → Prop} (hw : gX yX4_months cX4_months 4 (Option.some FieldType.int) [] kf G (gQi Q) gE0 w) (hkf : 1 ≤ kf) {R4 : Int32 → Int32 → gM → Prop} {l0_1 : Nat} {l1_2 : Int32} {l2_12 : Int32} {l3_13 : Int32} {M : gM} (hR4 : ∀ (v0 : Int32) (v1 : Int32) (M : gM), R4 v0 v1 M → w M 4 [(0, .ref (gA G l0_1)), (1, .int l1_2), (2, .int v0), (3, .int v1)] []) (h : fX4_months_b23 R4 l0_1 l1_2 l2_12 l3_13 M Q) : w M 23 [(0, .ref (gA G l0_1)), (1, .int l1_2), (2, .int l2_12), (3, .int l3_13)] [] := by
  unfold fX4_months_b23 at h
  refine g_iinc hw (lv2 := [(0, .ref (gA G l0_1)), (1, .int l1_2), (2, .int l2_12), (3, .int (l3_13 + 1))]) 3 [1, 2, 3, 0] dX4_months_23 rfl (by decide) rfl rfl ?_
  refine g_goto (tgt := 4) hw dX4_months_26 (by decide) ?_
  exact hR4 l2_12 (l3_13 + 1) M h
def fX4_months_L4s (R4 : Int32 → Int32 → gM → Prop) (K29_4 : Int32 → gM → Prop) (l0_1 : Nat) (l1_2 : Int32) (l2_3 : Int32) (l3_4 : Int32) (M : gM) (Q : Int32 → gM → Prop) : Prop :=
  (if 12 ≤ l3_4 then K29_4 l2_3 M else gk M l0_1 = 4 ∧ gdr (gR M l0_1 5) (fun a7 => gk M a7 = 40 ∧ vp_in l3_4 (gl M a7) ∧ (if (gI M a7 l3_4.toNatClampNeg) = l1_2 then fX4_months_b23 R4 l0_1 l1_2 (l2_3 + 1) l3_4 M Q else fX4_months_b23 R4 l0_1 l1_2 l2_3 l3_4 M Q)))
def fX4_months_L4 (K29_4 : Int32 → gM → Prop) (l0_1 : Nat) (l1_2 : Int32) (Q : Int32 → gM → Prop) : Nat → Int32 → Int32 → gM → Prop
  | 0 => fun _ _ _ => False
  | n + 1 => fun l2_3 l3_4 M => fX4_months_L4s (fX4_months_L4 K29_4 l0_1 l1_2 Q n) K29_4 l0_1 l1_2 l2_3 l3_4 M Q
theorem wX4_months_L4s {kf : Nat} {G : gG} {w : gM → Nat → List (Nat × Value) → List Value → Prop} {Q : Int32 → gM → Prop} (hw : gX yX4_months cX4_months 4 (Option.some FieldType.int) [] kf G (gQi Q) gE0 w) (hkf : 1 ≤ kf) {R4 : Int32 → Int32 → gM → Prop} {K29_4 : Int32 → gM → Prop} {l0_1 : Nat} {l1_2 : Int32} {l2_3 : Int32} {l3_4 : Int32} {M : gM} (hR4 : ∀ (v0 : Int32) (v1 : Int32) (M : gM), R4 v0 v1 M → w M 4 [(0, .ref (gA G l0_1)), (1, .int l1_2), (2, .int v0), (3, .int v1)] []) (hK29_4 : ∀ (v0 : Int32) (M : gM), K29_4 v0 M → w M 29 [(2, .int v0)] []) (h : fX4_months_L4s R4 K29_4 l0_1 l1_2 l2_3 l3_4 M Q) : w M 4 [(0, .ref (gA G l0_1)), (1, .int l1_2), (2, .int l2_3), (3, .int l3_4)] [] := by
  unfold fX4_months_L4s at h
  refine g_iload_n hw 3 dX4_months_4 rfl ?_
  refine g_bipush (v := 12) hw dX4_months_5 (by decide) ?_
  refine g_icmp_ge (tgt := 29) hw dX4_months_7 (by decide) (fun hb5 => ?_) (fun hb5 => ?_)
  · have h := gT h hb5
    refine g_sub hw (lv2 := [(2, .int l2_3)]) [2] rfl ?_
    exact hK29_4 l2_3 M h
  · have h := gF h hb5
    refine g_aload_n hw 0 dX4_months_10 rfl ?_
    obtain ⟨hk6, h⟩ := h
    obtain ⟨a7, e8, h⟩ := h
    refine gfX4_9 (q := some a7) hw rfl dX4_months_11 hk6 e8 ?_
    refine g_iload_n hw 3 dX4_months_14 rfl ?_
    obtain ⟨hk9, h⟩ := h
    obtain ⟨hi10, h⟩ := h
    refine g_iald (n := l3_4.toNatClampNeg) hw dX4_months_15 hk9 hi10 rfl ?_
    refine g_iload_n hw 1 dX4_months_16 rfl ?_
    refine g_icmp_ne (tgt := 23) hw dX4_months_17 (by decide) (fun hb11 => ?_) (fun hb11 => ?_)
    · have h := gF h hb11
      exact wX4_months_b23 hw hkf hR4 h
    · have h := gT h hb11
      refine g_iinc hw (lv2 := [(0, .ref (gA G l0_1)), (1, .int l1_2), (2, .int (l2_3 + 1)), (3, .int l3_4)]) 2 [1, 2, 0, 3] dX4_months_20 rfl (by decide) rfl rfl ?_
      exact wX4_months_b23 hw hkf hR4 h
theorem wX4_months_L4 {kf : Nat} {G : gG} {w : gM → Nat → List (Nat × Value) → List Value → Prop} {Q : Int32 → gM → Prop} (hw : gX yX4_months cX4_months 4 (Option.some FieldType.int) [] kf G (gQi Q) gE0 w) (hkf : 1 ≤ kf) {K29_4 : Int32 → gM → Prop} {l0_1 : Nat} {l1_2 : Int32} (hK29_4 : ∀ (v0 : Int32) (M : gM), K29_4 v0 M → w M 29 [(2, .int v0)] []) : ∀ (n : Nat) (l2_3 : Int32) (l3_4 : Int32) (M : gM), fX4_months_L4 K29_4 l0_1 l1_2 Q n l2_3 l3_4 M → w M 4 [(0, .ref (gA G l0_1)), (1, .int l1_2), (2, .int l2_3), (3, .int l3_4)] [] := by
  intro n
  induction n with
  | zero => intro l2_3 l3_4 M h; exact h.elim
  | succ n ih => intro l2_3 l3_4 M h; exact wX4_months_L4s hw hkf ih hK29_4 h
def fX4_months (c0 : Nat) (p1 : Int32) (M : gM) (Q : Int32 → gM → Prop) : Prop :=
  ∃ n, fX4_months_L4 (fun l2_14 M15 => Q l2_14 M15) c0 p1 Q n 0 0 M
theorem mX4_months {kf : Nat} (hkf : 1 ≤ kf) (G : gG) (c0 : Nat) (p1 : Int32) (M : gM) (Q : Int32 → gM → Prop) (h : fX4_months c0 p1 M Q) : gMet yX4_months cX4_months 4 (Option.some FieldType.int) kf G M [.ref (gA G c0), .int p1] (gQi Q) gE0 := by
  refine g_intro (lv := [(0, .ref (gA G c0)), (1, .int p1)]) (by decide) rfl rfl (fun w hw => ?_)
  unfold fX4_months at h
  refine g_iconst (v := 0) hw dX4_months_0 (by decide) ?_
  refine g_istore_n hw (lv2 := [(0, .ref (gA G c0)), (1, .int p1), (2, .int 0)]) [1, 2, 0] dX4_months_1 rfl rfl ?_
  refine g_iconst (v := 0) hw dX4_months_2 (by decide) ?_
  refine g_istore_n hw (lv2 := [(0, .ref (gA G c0)), (1, .int p1), (2, .int 0), (3, .int 0)]) [1, 2, 3, 0] dX4_months_3 rfl rfl ?_
  obtain ⟨n9, h⟩ := h
  refine wX4_months_L4 hw hkf (fun l2_14 M15 h => ?_) n9 0 0 M h
  refine g_iload_n hw 0 dX4_months_29 rfl ?_
  exact g_iret hw dX4_months_30 rfl ⟨_, rfl, h⟩
def fX4_isOnSheets_b29  (M : gM) (Q : Int32 → gM → Prop) : Prop :=
  Q 0 M
theorem wX4_isOnSheets_b29 {kf : Nat} {G : gG} {w : gM → Nat → List (Nat × Value) → List Value → Prop} {Q : Int32 → gM → Prop} (hw : gX yX4_isOnSheets cX4_isOnSheets 3 (Option.some FieldType.boolean) [] kf G (gQi Q) gE0 w) (hkf : 1 ≤ kf)   {M : gM}  (h : fX4_isOnSheets_b29 M Q) : w M 29 [] [] := by
  unfold fX4_isOnSheets_b29 at h
  refine g_iconst (v := 0) hw dX4_isOnSheets_29 (by decide) ?_
  exact g_iret hw dX4_isOnSheets_30 (by decide +kernel) ⟨_, rfl, h⟩
def fX4_isOnSheets (c0 : Nat) (p1 : Int32) (p2 : Int32) (M : gM) (Q : Int32 → gM → Prop) : Prop :=
  gk M c0 = 4 ∧ (if (gI M c0 3) = 0 then fX4_isOnSheets_b29 M Q else gdr (gR M c0 7) (fun a3 => gk M a3 = 40 ∧ vp_in p1 (gl M a3) ∧ (if (gI M a3 p1.toNatClampNeg) < 0 then fX4_isOnSheets_b29 M Q else gdr (gR M c0 7) (fun a8 => gk M a8 = 40 ∧ vp_in p2 (gl M a8) ∧ (if (gI M a8 p2.toNatClampNeg) < 0 then fX4_isOnSheets_b29 M Q else Q 1 M)))))
theorem mX4_isOnSheets {kf : Nat} (hkf : 1 ≤ kf) (G : gG) (c0 : Nat) (p1 : Int32) (p2 : Int32) (M : gM) (Q : Int32 → gM → Prop) (h : fX4_isOnSheets c0 p1 p2 M Q) : gMet yX4_isOnSheets cX4_isOnSheets 3 (Option.some FieldType.boolean) kf G M [.ref (gA G c0), .int p1, .int p2] (gQi Q) gE0 := by
  refine g_intro (lv := [(0, .ref (gA G c0)), (1, .int p1), (2, .int p2)]) (by decide) rfl rfl (fun w hw => ?_)
  unfold fX4_isOnSheets at h
  refine g_aload_n hw 0 dX4_isOnSheets_0 rfl ?_
  obtain ⟨hk1, h⟩ := h
  refine gfX4_30 hw rfl dX4_isOnSheets_1 hk1 ?_
  refine g_if_eq (tgt := 29) hw dX4_isOnSheets_4 (by decide) (fun hb2 => ?_) (fun hb2 => ?_)
  · have h := gT h hb2
    refine g_sub hw (lv2 := []) [] rfl ?_
    exact wX4_isOnSheets_b29 hw hkf h
  · have h := gF h hb2
    refine g_aload_n hw 0 dX4_isOnSheets_7 rfl ?_
    obtain ⟨a3, e4, h⟩ := h
    refine gfX4_18 (q := some a3) hw rfl dX4_isOnSheets_8 hk1 e4 ?_
    refine g_iload_n hw 1 dX4_isOnSheets_11 rfl ?_
    obtain ⟨hk5, h⟩ := h
    obtain ⟨hi6, h⟩ := h
    refine g_iald (n := p1.toNatClampNeg) hw dX4_isOnSheets_12 hk5 hi6 rfl ?_
    refine g_if_lt (tgt := 29) hw dX4_isOnSheets_13 (by decide) (fun hb7 => ?_) (fun hb7 => ?_)
    · have h := gT h hb7
      refine g_sub hw (lv2 := []) [] rfl ?_
      exact wX4_isOnSheets_b29 hw hkf h
    · have h := gF h hb7
      refine g_aload_n hw 0 dX4_isOnSheets_16 rfl ?_
      obtain ⟨a8, e9, h⟩ := h
      refine gfX4_18 (q := some a8) hw rfl dX4_isOnSheets_17 hk1 e9 ?_
      refine g_iload_n hw 2 dX4_isOnSheets_20 rfl ?_
      obtain ⟨hk10, h⟩ := h
      obtain ⟨hi11, h⟩ := h
      refine g_iald (n := p2.toNatClampNeg) hw dX4_isOnSheets_21 hk10 hi11 rfl ?_
      refine g_if_lt (tgt := 29) hw dX4_isOnSheets_22 (by decide) (fun hb12 => ?_) (fun hb12 => ?_)
      · have h := gT h hb12
        refine g_sub hw (lv2 := []) [] rfl ?_
        exact wX4_isOnSheets_b29 hw hkf h
      · have h := gF h hb12
        refine g_iconst (v := 1) hw dX4_isOnSheets_25 (by decide) ?_
        refine g_goto (tgt := 30) hw dX4_isOnSheets_26 (by decide) ?_
        exact g_iret hw dX4_isOnSheets_30 (by decide +kernel) ⟨_, rfl, h⟩
theorem pfX5_11 {y0 : MethodName} {cc : ByteArray} {nL : Nat} {ret : Option FieldType} {hh : List (Nat × Nat × Nat × Nat)} {kf : Nat} {G : gG} {Qv : Option Value → gM → Prop} {E : String → Nat → gM → Prop} {w : gM → Nat → List (Nat × Value) → List Value → Prop} {M : gM} {pc : Nat} {lv : List (Nat × Value)} {rest : List Value} (hw : gX y0 cc nL ret hh kf G Qv E w) (hy : y0.cls = RX5) (hyn : y0.name = "<init>") {c : Nat} {q : Option Nat} (d : decode cc pc = .ok (.putfield 11, 3)) (hk : gk M c = 5) (kk : w (gsR M c 0 q) (pc + 3) lv rest) : w M pc lv (va_rf (q.map (gA G)) :: .ref (gA G c) :: rest) := by
  obtain ⟨cls9, nm9, ds9⟩ := y0
  subst hy
  exact g_putC (C := RX5) (T := TX5) (N := 1) (ci := 4) hw in_X5 tyX5 tyX5_ok nmX5 rfl 0 (by decide) (Or.inl ⟨q242, Or.inr ⟨rfl, hyn, rfl⟩⟩) (by cases q <;> rfl) (by cases q <;> rfl) (gOne_R M c 0 q) (by show va_rf ((gR (gsR M c 0 q) c 0).map (gA G)) = _; rw [gR_sR, if_pos ⟨rfl, rfl⟩]) d hk kk
def fX5_init (c0 : Nat) (M : gM) (Q : gM → Prop) : Prop :=
  gn M < gLC ∧ gs M + 4 ≤ gLS ∧ gk (gnew M 47 4 4) c0 = 5 ∧ Q (gsR (gnew M 47 4 4) c0 0 (some (gn M)))
theorem mX5_init {kf : Nat} (hkf : 1 ≤ kf) (G : gG) (c0 : Nat) (M : gM) (Q : gM → Prop) (h : fX5_init c0 M Q) : gMet yX5_init cX5_init 1 (Option.none : Option FieldType) kf G M [.ref (gA G c0)] (gQv Q) gE0 := by
  refine g_intro (lv := [(0, .ref (gA G c0))]) (by decide) rfl rfl (fun w hw => ?_)
  unfold fX5_init at h
  refine g_aload_n hw 0 dX5_init_0 rfl ?_
  refine g_objInit hw dX5_init_1 q239 q129 q130 rfl (gK1 hkf) ?_
  refine g_aload_n hw 0 dX5_init_4 rfl ?_
  refine g_iconst (v := 4) hw dX5_init_5 (by decide) ?_
  obtain ⟨hc1, h⟩ := h
  obtain ⟨hc2, h⟩ := h
  refine g_anew (C := "RiverWage$Expression") (N := 4) hw 7 dX5_init_6 q240 q241 rfl rfl (by decide) (by decide) (by decide) hc1 hc2 ?_
  obtain ⟨hk3, h⟩ := h
  refine pfX5_11 (q := some (gn M)) hw rfl rfl dX5_init_9 hk3 ?_
  exact g_vret hw dX5_init_12 ⟨rfl, h⟩
theorem pfX6_9 {y0 : MethodName} {cc : ByteArray} {nL : Nat} {ret : Option FieldType} {hh : List (Nat × Nat × Nat × Nat)} {kf : Nat} {G : gG} {Qv : Option Value → gM → Prop} {E : String → Nat → gM → Prop} {w : gM → Nat → List (Nat × Value) → List Value → Prop} {M : gM} {pc : Nat} {lv : List (Nat × Value)} {rest : List Value} (hw : gX y0 cc nL ret hh kf G Qv E w) (hy : y0.cls = RX6) {c : Nat} {x : Int32} (d : decode cc pc = .ok (.putfield 9, 3)) (hk : gk M c = 6) (kk : w (gsI M c 2 x) (pc + 3) lv rest) : w M pc lv (.int x :: .ref (gA G c) :: rest) := by
  obtain ⟨cls9, nm9, ds9⟩ := y0
  subst hy
  exact g_putC (C := RX6) (T := TX6) (N := 4) (ci := 5) hw in_X6 tyX6 tyX6_ok nmX6 rfl 2 (by decide) (Or.inl ⟨q257, Or.inl rfl⟩) rfl rfl (gOne_I M c 2 x) (by show Value.int (gI (gsI M c 2 x) c 2) = _; rw [gI_sI, if_pos ⟨rfl, rfl⟩]) d hk kk
theorem pfX6_15 {y0 : MethodName} {cc : ByteArray} {nL : Nat} {ret : Option FieldType} {hh : List (Nat × Nat × Nat × Nat)} {kf : Nat} {G : gG} {Qv : Option Value → gM → Prop} {E : String → Nat → gM → Prop} {w : gM → Nat → List (Nat × Value) → List Value → Prop} {M : gM} {pc : Nat} {lv : List (Nat × Value)} {rest : List Value} (hw : gX y0 cc nL ret hh kf G Qv E w) (hy : y0.cls = RX6) {c : Nat} {x : Int32} (d : decode cc pc = .ok (.putfield 15, 3)) (hk : gk M c = 6) (kk : w (gsI M c 3 x) (pc + 3) lv rest) : w M pc lv (.int x :: .ref (gA G c) :: rest) := by
  obtain ⟨cls9, nm9, ds9⟩ := y0
  subst hy
  exact g_putC (C := RX6) (T := TX6) (N := 4) (ci := 5) hw in_X6 tyX6 tyX6_ok nmX6 rfl 3 (by decide) (Or.inl ⟨q260, Or.inl rfl⟩) rfl rfl (gOne_I M c 3 x) (by show Value.int (gI (gsI M c 3 x) c 3) = _; rw [gI_sI, if_pos ⟨rfl, rfl⟩]) d hk kk
def fX6_init (c0 : Nat) (M : gM) (Q : gM → Prop) : Prop :=
  gk M c0 = 6 ∧ Q (gsI (gsI M c0 2 11) c0 3 (-1))
theorem mX6_init {kf : Nat} (hkf : 1 ≤ kf) (G : gG) (c0 : Nat) (M : gM) (Q : gM → Prop) (h : fX6_init c0 M Q) : gMet yX6_init cX6_init 1 (Option.none : Option FieldType) kf G M [.ref (gA G c0)] (gQv Q) gE0 := by
  refine g_intro (lv := [(0, .ref (gA G c0))]) (by decide) rfl rfl (fun w hw => ?_)
  unfold fX6_init at h
  refine g_aload_n hw 0 dX6_init_0 rfl ?_
  refine g_objInit hw dX6_init_1 q252 q129 q130 rfl (gK1 hkf) ?_
  refine g_aload_n hw 0 dX6_init_4 rfl ?_
  refine g_bipush (v := 11) hw dX6_init_5 (by decide) ?_
  obtain ⟨hk1, h⟩ := h
  refine pfX6_9 hw rfl dX6_init_7 hk1 ?_
  refine g_aload_n hw 0 dX6_init_10 rfl ?_
  refine g_iconst (v := (-1)) hw dX6_init_11 (by decide) ?_
  refine pfX6_15 hw rfl dX6_init_12 hk1 ?_
  exact g_vret hw dX6_init_15 ⟨rfl, h⟩
theorem sX8_1 {y0 : MethodName} {cc : ByteArray} {nL : Nat} {ret : Option FieldType} {hh : List (Nat × Nat × Nat × Nat)} {kf : Nat} {G : gG} {Qv : Option Value → gM → Prop} {E : String → Nat → gM → Prop} {w : gM → Nat → List (Nat × Value) → List Value → Prop} {M : gM} {pc : Nat} {lv : List (Nat × Value)} {rest : List Value} (hw : gX y0 cc nL ret hh kf G Qv E w) (hy : y0.cls = RX8) {c0 : Nat} {p1 : Option Nat} {p2 : Option Nat} {p3 : Int32} {p4 : Int32} {Q : gM → Prop} (d : decode cc pc = .ok (.invokespecial 1, 3)) (hrest : Nat.ble ((rest.map Value.category).sum) 8 = true) (hk : 3 + 1 ≤ kf) (h : fJ3_init c0 p1 p2 p3 p4 M Q) (kk : ∀ M1, Q M1 → w M1 (pc + 3) lv rest) : w M pc lv (.int p4 :: .int p3 :: va_rf (p2.map (gA G)) :: va_rf (p1.map (gA G)) :: .ref (gA G c0) :: rest) := by
  obtain ⟨cls9, nm9, ds9⟩ := y0
  subst hy
  exact g_callI hw [va_rf (p1.map (gA G)), va_rf (p2.map (gA G)), .int p3, .int p4] (nA := 4) rfl d (Or.inl q684) q685 q108 q686 (by decide +kernel) rfl rfl hrest rfl (by omega : kf - 1 + 1 ≤ kf) (mJ3_init (kf := kf - 1) (by omega) G c0 p1 p2 p3 p4 M Q h) (fun _ _ _ q => q.elim) (fun v M1 h => by obtain ⟨rfl, h⟩ := h; exact kk M1 h)
theorem pfX8_7 {y0 : MethodName} {cc : ByteArray} {nL : Nat} {ret : Option FieldType} {hh : List (Nat × Nat × Nat × Nat)} {kf : Nat} {G : gG} {Qv : Option Value → gM → Prop} {E : String → Nat → gM → Prop} {w : gM → Nat → List (Nat × Value) → List Value → Prop} {M : gM} {pc : Nat} {lv : List (Nat × Value)} {rest : List Value} (hw : gX y0 cc nL ret hh kf G Qv E w) (hy : y0.cls = RX8) (hyn : y0.name = "<init>") {c : Nat} {x : Int32} (d : decode cc pc = .ok (.putfield 7, 3)) (hk : gk M c = 8) (kk : w (gsI M c 6 x) (pc + 3) lv rest) : w M pc lv (.int x :: .ref (gA G c) :: rest) := by
  obtain ⟨cls9, nm9, ds9⟩ := y0
  subst hy
  exact g_putC (C := RX8) (T := TX8) (N := 7) (ci := 7) hw in_X8 tyX8 tyX8_ok nmX8 rfl 6 (by decide) (Or.inl ⟨q693, Or.inr ⟨rfl, hyn, rfl⟩⟩) rfl rfl (gOne_I M c 6 x) (by show Value.int (gI (gsI M c 6 x) c 6) = _; rw [gI_sI, if_pos ⟨rfl, rfl⟩]) d hk kk
def fX8_init (c0 : Nat) (p1 : Int32) (p2 : Int32) (M : gM) (Q : gM → Prop) : Prop :=
  fJ3_init c0 none none 0 0 M (fun M1 => gk M1 c0 = 8 ∧ Q (gsI M1 c0 6 (p1 + (16 * p2))))
theorem mX8_init {kf : Nat} (hkf : 4 ≤ kf) (G : gG) (c0 : Nat) (p1 : Int32) (p2 : Int32) (M : gM) (Q : gM → Prop) (h : fX8_init c0 p1 p2 M Q) : gMet yX8_init cX8_init 3 (Option.none : Option FieldType) kf G M [.ref (gA G c0), .int p1, .int p2] (gQv Q) gE0 := by
  refine g_intro (lv := [(0, .ref (gA G c0)), (1, .int p1), (2, .int p2)]) (by decide) rfl rfl (fun w hw => ?_)
  unfold fX8_init at h
  refine g_aload_n hw 0 dX8_init_0 rfl ?_
  refine g_null hw dX8_init_1 ?_
  refine g_null hw dX8_init_2 ?_
  refine g_iconst (v := 0) hw dX8_init_3 (by decide) ?_
  refine g_iconst (v := 0) hw dX8_init_4 (by decide) ?_
  refine sX8_1 hw rfl dX8_init_5 rfl (gK2 hkf) h (fun M1 h => ?_)
  refine g_aload_n hw 0 dX8_init_8 rfl ?_
  refine g_iload_n hw 1 dX8_init_9 rfl ?_
  refine g_bipush (v := 16) hw dX8_init_10 (by decide) ?_
  refine g_iload_n hw 2 dX8_init_12 rfl ?_
  refine g_imul hw dX8_init_13 ?_
  refine g_iadd hw dX8_init_14 ?_
  obtain ⟨hk3, h⟩ := h
  refine pfX8_7 hw rfl rfl dX8_init_15 hk3 ?_
  exact g_vret hw dX8_init_18 ⟨rfl, h⟩
/-- an expression's worth, by depth -/
def fEw : Nat → Nat → Nat → gM → (Int32 → gM → Prop) → Prop
  | 0 => fun _ _ _ _ => False
  | n + 1 => fun c f M Q => (gk M c = 9 ∧ fX10_worked c f M Q) ∨ (gk M c = 10 ∧ fX11_worked c f M Q) ∨ (gk M c = 11 ∧ fX12_worked (fEw n) c f M Q) ∨ (gk M c = 12 ∧ fX13_worked (fEw n) c f M Q)
theorem mEw (G : gG) : ∀ (n kf c f : Nat) (M : gM) (Q : Int32 → gM → Prop), n + 1 ≤ kf → fEw n c f M Q → gWk kf G M c f Q := by
  intro n
  induction n with
  | zero => intro kf c f M Q hk h; exact h.elim
  | succ n ih =>
    intro kf c f M Q hk h
    rcases h with ⟨h1, h⟩ | ⟨h1, h⟩ | ⟨h1, h⟩ | ⟨h1, h⟩
    · exact Or.inl ⟨h1, mX10_worked (by omega) G c f M Q h⟩
    · exact Or.inr (Or.inl ⟨h1, mX11_worked (by omega) G c f M Q h⟩)
    · exact Or.inr (Or.inr (Or.inl ⟨h1, mX12_worked G (v := n + 1) (by omega) (by omega) (fun kf c f M Q hk h => ih kf c f M Q hk h) c f M Q h⟩))
    · exact Or.inr (Or.inr (Or.inr ⟨h1, mX13_worked G (v := n + 1) (by omega) (by omega) (fun kf c f M Q hk h => ih kf c f M Q hk h) c f M Q h⟩))
