set_option maxRecDepth 100000
theorem sX0_7H {y0 : MethodName} {cc : ByteArray} {nL : Nat} {ret : Option FieldType} {hh : List (Nat × Nat × Nat × Nat)} {kf : Nat} {G : gG} {Qv : Option Value → gM → Prop} {E : String → Nat → gM → Prop} {E1 : Nat → gM → Prop} {w : gM → Nat → List (Nat × Value) → List Value → Prop} {M : gM} {pc : Nat} {lv : List (Nat × Value)} {rest : List Value} (hw : gX y0 cc nL ret hh kf G Qv E w) (hy : y0.cls = RX0) {p1 : Int32} {p2 : Int32} {p3 : Int32} {p4 : Int32} {Q : Int32 → gM → Prop} (d : decode cc pc = .ok (.invokevirtual 7, 3)) (hrest : Nat.ble ((rest.map Value.category).sum) 8 = true) (hk : 9 + 1 ≤ kf) (hkd : gk M 16 = 1) (h : fX1_bank p1 p2 p3 p4 M Q E1) (kx : ∀ cls o M1, gEx "java/util/NoSuchElementException" E1 cls o M1 → gCat y0.cls hh G E w pc lv cls o M1) (kk : ∀ r M1, Q r M1 → w M1 (pc + 3) lv (.int r :: rest)) : w M pc lv (.int p4 :: .int p3 :: .int p2 :: .int p1 :: .ref (gA G 16) :: rest) := by
  obtain ⟨cls9, nm9, ds9⟩ := y0
  subst hy
  exact g_callV (r := (RX1, TX1, 28)) (ci := 0) hw [.int p1, .int p2, .int p3, .int p4] (nA := 4) rfl d q967 q968 q969 q98 q970 (by decide +kernel) rfl rfl hrest rfl (by omega : kf - 1 + 1 ≤ kf) hkd (mX1_bank (kf := kf - 1) (by omega) G p1 p2 p3 p4 M Q E1 h) kx (fun v M1 h => by obtain ⟨r, rfl, h⟩ := h; exact kk r M1 h)
def fX0_bank (p2 : Int32) (p3 : Int32) (p4 : Int32) (p5 : Int32) (p6 : Nat) (M : gM) (Q : Int32 → gM → Prop) : Prop :=
  gk M 16 = 1 ∧ fX1_bank p2 p3 p4 p5 M (fun r3 M2 => gk M2 p6 = 41 ∧ vp_in 0 (gl M2 p6) ∧ Q 0 (gsL M2 p6 0 r3.toInt64)) (fun o4 M5 => Q 1 M5)
theorem mX0_bank {kf : Nat} (hkf : 10 ≤ kf) (G : gG) (p2 : Int32) (p3 : Int32) (p4 : Int32) (p5 : Int32) (p6 : Nat) (M : gM) (Q : Int32 → gM → Prop) (h : fX0_bank p2 p3 p4 p5 p6 M Q) : gMetW yX0_bank cX0_bank 7 (Option.some FieldType.int) [(0, 14, 17, 13)] kf G M [.ref (gA G 16), .int p2, .int p3, .int p4, .int p5, .ref (gA G p6)] (gQi Q) gE0 := by
  refine g_introW (lv := [(0, .ref (gA G 16)), (1, .int p2), (2, .int p3), (3, .int p4), (4, .int p5), (5, .ref (gA G p6))]) (by decide) rfl rfl (by decide) (fun w hw => ?_)
  unfold fX0_bank at h
  refine g_aload hw 5 dX0_bank_0 rfl ?_
  refine g_iconst (v := 0) hw dX0_bank_2 (by decide) ?_
  refine g_aload_n hw 0 dX0_bank_3 rfl ?_
  refine g_iload_n hw 1 dX0_bank_4 rfl ?_
  refine g_iload_n hw 2 dX0_bank_5 rfl ?_
  refine g_iload_n hw 3 dX0_bank_6 rfl ?_
  refine g_iload hw 4 dX0_bank_7 rfl ?_
  obtain ⟨hk1, h⟩ := h
  refine sX0_7H hw rfl dX0_bank_9 rfl (gK2 hkf) hk1 h (gCatH (by decide) q966 q976 (fun o4 M5 h => ?_)) (fun r3 M2 h => ?_)
  · refine g_astore hw (lv2 := []) [] dX0_bank_17 rfl rfl ?_
    refine g_iconst (v := 1) hw dX0_bank_19 (by decide) ?_
    exact g_iret hw dX0_bank_20 rfl ⟨_, rfl, h⟩
  refine g_i2l hw dX0_bank_12 ?_
  obtain ⟨hk6, h⟩ := h
  obtain ⟨hi7, h⟩ := h
  refine g_last (n := 0) hw dX0_bank_13 hk6 hi7 rfl ?_
  refine g_goto (tgt := 21) hw dX0_bank_14 (by decide) ?_
  refine g_iconst (v := 0) hw dX0_bank_21 (by decide) ?_
  exact g_iret hw dX0_bank_22 rfl ⟨_, rfl, h⟩
theorem sX0_15H {y0 : MethodName} {cc : ByteArray} {nL : Nat} {ret : Option FieldType} {hh : List (Nat × Nat × Nat × Nat)} {kf : Nat} {G : gG} {Qv : Option Value → gM → Prop} {E : String → Nat → gM → Prop} {E1 : Nat → gM → Prop} {w : gM → Nat → List (Nat × Value) → List Value → Prop} {M : gM} {pc : Nat} {lv : List (Nat × Value)} {rest : List Value} (hw : gX y0 cc nL ret hh kf G Qv E w) (hy : y0.cls = RX0) {p1 : Int32} {p2 : Int32} {p3 : Int32} {p4 : Int32} {Q : Int64 → gM → Prop} (d : decode cc pc = .ok (.invokevirtual 15, 3)) (hrest : Nat.ble ((rest.map Value.category).sum) 8 = true) (hk : 103 + 1 ≤ kf) (hkd : gk M 16 = 1) (h : fX1_river p1 p2 p3 p4 M Q E1) (kx : ∀ cls o M1, gEx "java/util/NoSuchElementException" E1 cls o M1 → gCat y0.cls hh G E w pc lv cls o M1) (kk : ∀ r M1, Q r M1 → w M1 (pc + 3) lv (.long r :: rest)) : w M pc lv (.int p4 :: .int p3 :: .int p2 :: .int p1 :: .ref (gA G 16) :: rest) := by
  obtain ⟨cls9, nm9, ds9⟩ := y0
  subst hy
  exact g_callV (r := (RX1, TX1, 28)) (ci := 0) hw [.int p1, .int p2, .int p3, .int p4] (nA := 4) rfl d q998 q999 q1000 q98 q1001 (by decide +kernel) rfl rfl hrest rfl (by omega : kf - 1 + 1 ≤ kf) hkd (mX1_river (kf := kf - 1) (by omega) G p1 p2 p3 p4 M Q E1 h) kx (fun v M1 h => by obtain ⟨r, rfl, h⟩ := h; exact kk r M1 h)
def fX0_river (p2 : Int32) (p3 : Int32) (p4 : Int32) (p5 : Int32) (p6 : Nat) (M : gM) (Q : Int32 → gM → Prop) : Prop :=
  gk M 16 = 1 ∧ fX1_river p2 p3 p4 p5 M (fun r3 M2 => gk M2 p6 = 41 ∧ vp_in 0 (gl M2 p6) ∧ Q 0 (gsL M2 p6 0 r3)) (fun o4 M5 => Q 1 M5)
theorem mX0_river {kf : Nat} (hkf : 104 ≤ kf) (G : gG) (p2 : Int32) (p3 : Int32) (p4 : Int32) (p5 : Int32) (p6 : Nat) (M : gM) (Q : Int32 → gM → Prop) (h : fX0_river p2 p3 p4 p5 p6 M Q) : gMetW yX0_river cX0_river 7 (Option.some FieldType.int) [(0, 13, 16, 13)] kf G M [.ref (gA G 16), .int p2, .int p3, .int p4, .int p5, .ref (gA G p6)] (gQi Q) gE0 := by
  refine g_introW (lv := [(0, .ref (gA G 16)), (1, .int p2), (2, .int p3), (3, .int p4), (4, .int p5), (5, .ref (gA G p6))]) (by decide) rfl rfl (by decide) (fun w hw => ?_)
  unfold fX0_river at h
  refine g_aload hw 5 dX0_river_0 rfl ?_
  refine g_iconst (v := 0) hw dX0_river_2 (by decide) ?_
  refine g_aload_n hw 0 dX0_river_3 rfl ?_
  refine g_iload_n hw 1 dX0_river_4 rfl ?_
  refine g_iload_n hw 2 dX0_river_5 rfl ?_
  refine g_iload_n hw 3 dX0_river_6 rfl ?_
  refine g_iload hw 4 dX0_river_7 rfl ?_
  obtain ⟨hk1, h⟩ := h
  refine sX0_15H hw rfl dX0_river_9 rfl (gK2 hkf) hk1 h (gCatH (by decide) q966 q976 (fun o4 M5 h => ?_)) (fun r3 M2 h => ?_)
  · refine g_astore hw (lv2 := []) [] dX0_river_16 rfl rfl ?_
    refine g_iconst (v := 1) hw dX0_river_18 (by decide) ?_
    exact g_iret hw dX0_river_19 rfl ⟨_, rfl, h⟩
  obtain ⟨hk6, h⟩ := h
  obtain ⟨hi7, h⟩ := h
  refine g_last (n := 0) hw dX0_river_12 hk6 hi7 rfl ?_
  refine g_goto (tgt := 20) hw dX0_river_13 (by decide) ?_
  refine g_iconst (v := 0) hw dX0_river_20 (by decide) ?_
  exact g_iret hw dX0_river_21 rfl ⟨_, rfl, h⟩
theorem sX0_19H {y0 : MethodName} {cc : ByteArray} {nL : Nat} {ret : Option FieldType} {hh : List (Nat × Nat × Nat × Nat)} {kf : Nat} {G : gG} {Qv : Option Value → gM → Prop} {E : String → Nat → gM → Prop} {E1 : Nat → gM → Prop} {w : gM → Nat → List (Nat × Value) → List Value → Prop} {M : gM} {pc : Nat} {lv : List (Nat × Value)} {rest : List Value} (hw : gX y0 cc nL ret hh kf G Qv E w) (hy : y0.cls = RX0) {p1 : Int32} {p2 : Int32} {p3 : Int32} {p4 : Int32} {Q : Int64 → gM → Prop} (d : decode cc pc = .ok (.invokevirtual 19, 3)) (hrest : Nat.ble ((rest.map Value.category).sum) 8 = true) (hk : 103 + 1 ≤ kf) (hkd : gk M 16 = 1) (h : fX1_part p1 p2 p3 p4 M Q E1) (kx : ∀ cls o M1, gEx "java/util/NoSuchElementException" E1 cls o M1 → gCat y0.cls hh G E w pc lv cls o M1) (kk : ∀ r M1, Q r M1 → w M1 (pc + 3) lv (.long r :: rest)) : w M pc lv (.int p4 :: .int p3 :: .int p2 :: .int p1 :: .ref (gA G 16) :: rest) := by
  obtain ⟨cls9, nm9, ds9⟩ := y0
  subst hy
  exact g_callV (r := (RX1, TX1, 28)) (ci := 0) hw [.int p1, .int p2, .int p3, .int p4] (nA := 4) rfl d q1009 q1010 q1011 q98 q1012 (by decide +kernel) rfl rfl hrest rfl (by omega : kf - 1 + 1 ≤ kf) hkd (mX1_part (kf := kf - 1) (by omega) G p1 p2 p3 p4 M Q E1 h) kx (fun v M1 h => by obtain ⟨r, rfl, h⟩ := h; exact kk r M1 h)
def fX0_part (p2 : Int32) (p3 : Int32) (p4 : Int32) (p5 : Int32) (p6 : Nat) (M : gM) (Q : Int32 → gM → Prop) : Prop :=
  gk M 16 = 1 ∧ fX1_part p2 p3 p4 p5 M (fun r3 M2 => gk M2 p6 = 41 ∧ vp_in 0 (gl M2 p6) ∧ Q 0 (gsL M2 p6 0 r3)) (fun o4 M5 => Q 1 M5)
theorem mX0_part {kf : Nat} (hkf : 104 ≤ kf) (G : gG) (p2 : Int32) (p3 : Int32) (p4 : Int32) (p5 : Int32) (p6 : Nat) (M : gM) (Q : Int32 → gM → Prop) (h : fX0_part p2 p3 p4 p5 p6 M Q) : gMetW yX0_part cX0_part 7 (Option.some FieldType.int) [(0, 13, 16, 13)] kf G M [.ref (gA G 16), .int p2, .int p3, .int p4, .int p5, .ref (gA G p6)] (gQi Q) gE0 := by
  refine g_introW (lv := [(0, .ref (gA G 16)), (1, .int p2), (2, .int p3), (3, .int p4), (4, .int p5), (5, .ref (gA G p6))]) (by decide) rfl rfl (by decide) (fun w hw => ?_)
  unfold fX0_part at h
  refine g_aload hw 5 dX0_part_0 rfl ?_
  refine g_iconst (v := 0) hw dX0_part_2 (by decide) ?_
  refine g_aload_n hw 0 dX0_part_3 rfl ?_
  refine g_iload_n hw 1 dX0_part_4 rfl ?_
  refine g_iload_n hw 2 dX0_part_5 rfl ?_
  refine g_iload_n hw 3 dX0_part_6 rfl ?_
  refine g_iload hw 4 dX0_part_7 rfl ?_
  obtain ⟨hk1, h⟩ := h
  refine sX0_19H hw rfl dX0_part_9 rfl (gK2 hkf) hk1 h (gCatH (by decide) q966 q976 (fun o4 M5 h => ?_)) (fun r3 M2 h => ?_)
  · refine g_astore hw (lv2 := []) [] dX0_part_16 rfl rfl ?_
    refine g_iconst (v := 1) hw dX0_part_18 (by decide) ?_
    exact g_iret hw dX0_part_19 rfl ⟨_, rfl, h⟩
  obtain ⟨hk6, h⟩ := h
  obtain ⟨hi7, h⟩ := h
  refine g_last (n := 0) hw dX0_part_12 hk6 hi7 rfl ?_
  refine g_goto (tgt := 20) hw dX0_part_13 (by decide) ?_
  refine g_iconst (v := 0) hw dX0_part_20 (by decide) ?_
  exact g_iret hw dX0_part_21 rfl ⟨_, rfl, h⟩
theorem sX0_22H {y0 : MethodName} {cc : ByteArray} {nL : Nat} {ret : Option FieldType} {hh : List (Nat × Nat × Nat × Nat)} {kf : Nat} {G : gG} {Qv : Option Value → gM → Prop} {E : String → Nat → gM → Prop} {E1 : Nat → gM → Prop} {w : gM → Nat → List (Nat × Value) → List Value → Prop} {M : gM} {pc : Nat} {lv : List (Nat × Value)} {rest : List Value} (hw : gX y0 cc nL ret hh kf G Qv E w) (hy : y0.cls = RX0) {p1 : Int32} {p2 : Int32} {p3 : Int32} {Q : Int64 → gM → Prop} (d : decode cc pc = .ok (.invokevirtual 22, 3)) (hrest : Nat.ble ((rest.map Value.category).sum) 8 = true) (hk : 103 + 1 ≤ kf) (hkd : gk M 16 = 1) (h : fX1_bounds p1 p2 p3 M Q E1) (kx : ∀ cls o M1, gEx "java/util/NoSuchElementException" E1 cls o M1 → gCat y0.cls hh G E w pc lv cls o M1) (kk : ∀ r M1, Q r M1 → w M1 (pc + 3) lv (.long r :: rest)) : w M pc lv (.int p3 :: .int p2 :: .int p1 :: .ref (gA G 16) :: rest) := by
  obtain ⟨cls9, nm9, ds9⟩ := y0
  subst hy
  exact g_callV (r := (RX1, TX1, 28)) (ci := 0) hw [.int p1, .int p2, .int p3] (nA := 3) rfl d q1016 q1017 q1018 q98 q1019 (by decide +kernel) rfl rfl hrest rfl (by omega : kf - 1 + 1 ≤ kf) hkd (mX1_bounds (kf := kf - 1) (by omega) G p1 p2 p3 M Q E1 h) kx (fun v M1 h => by obtain ⟨r, rfl, h⟩ := h; exact kk r M1 h)
def fX0_bounds (p2 : Int32) (p3 : Int32) (p4 : Int32) (p5 : Nat) (M : gM) (Q : Int32 → gM → Prop) : Prop :=
  gk M 16 = 1 ∧ fX1_bounds p2 p3 p4 M (fun r3 M2 => gk M2 p5 = 41 ∧ vp_in 0 (gl M2 p5) ∧ Q 0 (gsL M2 p5 0 r3)) (fun o4 M5 => Q 1 M5)
theorem mX0_bounds {kf : Nat} (hkf : 104 ≤ kf) (G : gG) (p2 : Int32) (p3 : Int32) (p4 : Int32) (p5 : Nat) (M : gM) (Q : Int32 → gM → Prop) (h : fX0_bounds p2 p3 p4 p5 M Q) : gMetW yX0_bounds cX0_bounds 6 (Option.some FieldType.int) [(0, 11, 14, 13)] kf G M [.ref (gA G 16), .int p2, .int p3, .int p4, .ref (gA G p5)] (gQi Q) gE0 := by
  refine g_introW (lv := [(0, .ref (gA G 16)), (1, .int p2), (2, .int p3), (3, .int p4), (4, .ref (gA G p5))]) (by decide) rfl rfl (by decide) (fun w hw => ?_)
  unfold fX0_bounds at h
  refine g_aload hw 4 dX0_bounds_0 rfl ?_
  refine g_iconst (v := 0) hw dX0_bounds_2 (by decide) ?_
  refine g_aload_n hw 0 dX0_bounds_3 rfl ?_
  refine g_iload_n hw 1 dX0_bounds_4 rfl ?_
  refine g_iload_n hw 2 dX0_bounds_5 rfl ?_
  refine g_iload_n hw 3 dX0_bounds_6 rfl ?_
  obtain ⟨hk1, h⟩ := h
  refine sX0_22H hw rfl dX0_bounds_7 rfl (gK2 hkf) hk1 h (gCatH (by decide) q966 q976 (fun o4 M5 h => ?_)) (fun r3 M2 h => ?_)
  · refine g_astore hw (lv2 := []) [] dX0_bounds_14 rfl rfl ?_
    refine g_iconst (v := 1) hw dX0_bounds_16 (by decide) ?_
    exact g_iret hw dX0_bounds_17 rfl ⟨_, rfl, h⟩
  obtain ⟨hk6, h⟩ := h
  obtain ⟨hi7, h⟩ := h
  refine g_last (n := 0) hw dX0_bounds_10 hk6 hi7 rfl ?_
  refine g_goto (tgt := 18) hw dX0_bounds_11 (by decide) ?_
  refine g_iconst (v := 0) hw dX0_bounds_18 (by decide) ?_
  exact g_iret hw dX0_bounds_19 rfl ⟨_, rfl, h⟩
theorem sX0_26H {y0 : MethodName} {cc : ByteArray} {nL : Nat} {ret : Option FieldType} {hh : List (Nat × Nat × Nat × Nat)} {kf : Nat} {G : gG} {Qv : Option Value → gM → Prop} {E : String → Nat → gM → Prop} {E1 : Nat → gM → Prop} {w : gM → Nat → List (Nat × Value) → List Value → Prop} {M : gM} {pc : Nat} {lv : List (Nat × Value)} {rest : List Value} (hw : gX y0 cc nL ret hh kf G Qv E w) (hy : y0.cls = RX0) {p1 : Int32} {p2 : Int32} {p3 : Int32} {p4 : Int32} {Q : Int64 → gM → Prop} (d : decode cc pc = .ok (.invokevirtual 26, 3)) (hrest : Nat.ble ((rest.map Value.category).sum) 8 = true) (hk : 103 + 1 ≤ kf) (hkd : gk M 16 = 1) (h : fX1_sheets p1 p2 p3 p4 M Q E1) (kx : ∀ cls o M1, gEx "java/util/NoSuchElementException" E1 cls o M1 → gCat y0.cls hh G E w pc lv cls o M1) (kk : ∀ r M1, Q r M1 → w M1 (pc + 3) lv (.long r :: rest)) : w M pc lv (.int p4 :: .int p3 :: .int p2 :: .int p1 :: .ref (gA G 16) :: rest) := by
  obtain ⟨cls9, nm9, ds9⟩ := y0
  subst hy
  exact g_callV (r := (RX1, TX1, 28)) (ci := 0) hw [.int p1, .int p2, .int p3, .int p4] (nA := 4) rfl d q1023 q1024 q1025 q98 q1026 (by decide +kernel) rfl rfl hrest rfl (by omega : kf - 1 + 1 ≤ kf) hkd (mX1_sheets (kf := kf - 1) (by omega) G p1 p2 p3 p4 M Q E1 h) kx (fun v M1 h => by obtain ⟨r, rfl, h⟩ := h; exact kk r M1 h)
def fX0_sheets (p2 : Int32) (p3 : Int32) (p4 : Int32) (p5 : Int32) (p6 : Nat) (M : gM) (Q : Int32 → gM → Prop) : Prop :=
  gk M 16 = 1 ∧ fX1_sheets p2 p3 p4 p5 M (fun r3 M2 => gk M2 p6 = 41 ∧ vp_in 0 (gl M2 p6) ∧ Q 0 (gsL M2 p6 0 r3)) (fun o4 M5 => Q 1 M5)
theorem mX0_sheets {kf : Nat} (hkf : 104 ≤ kf) (G : gG) (p2 : Int32) (p3 : Int32) (p4 : Int32) (p5 : Int32) (p6 : Nat) (M : gM) (Q : Int32 → gM → Prop) (h : fX0_sheets p2 p3 p4 p5 p6 M Q) : gMetW yX0_sheets cX0_sheets 7 (Option.some FieldType.int) [(0, 13, 16, 13)] kf G M [.ref (gA G 16), .int p2, .int p3, .int p4, .int p5, .ref (gA G p6)] (gQi Q) gE0 := by
  refine g_introW (lv := [(0, .ref (gA G 16)), (1, .int p2), (2, .int p3), (3, .int p4), (4, .int p5), (5, .ref (gA G p6))]) (by decide) rfl rfl (by decide) (fun w hw => ?_)
  unfold fX0_sheets at h
  refine g_aload hw 5 dX0_sheets_0 rfl ?_
  refine g_iconst (v := 0) hw dX0_sheets_2 (by decide) ?_
  refine g_aload_n hw 0 dX0_sheets_3 rfl ?_
  refine g_iload_n hw 1 dX0_sheets_4 rfl ?_
  refine g_iload_n hw 2 dX0_sheets_5 rfl ?_
  refine g_iload_n hw 3 dX0_sheets_6 rfl ?_
  refine g_iload hw 4 dX0_sheets_7 rfl ?_
  obtain ⟨hk1, h⟩ := h
  refine sX0_26H hw rfl dX0_sheets_9 rfl (gK2 hkf) hk1 h (gCatH (by decide) q966 q976 (fun o4 M5 h => ?_)) (fun r3 M2 h => ?_)
  · refine g_astore hw (lv2 := []) [] dX0_sheets_16 rfl rfl ?_
    refine g_iconst (v := 1) hw dX0_sheets_18 (by decide) ?_
    exact g_iret hw dX0_sheets_19 rfl ⟨_, rfl, h⟩
  obtain ⟨hk6, h⟩ := h
  obtain ⟨hi7, h⟩ := h
  refine g_last (n := 0) hw dX0_sheets_12 hk6 hi7 rfl ?_
  refine g_goto (tgt := 20) hw dX0_sheets_13 (by decide) ?_
  refine g_iconst (v := 0) hw dX0_sheets_20 (by decide) ?_
  exact g_iret hw dX0_sheets_21 rfl ⟨_, rfl, h⟩
theorem sX0_30H {y0 : MethodName} {cc : ByteArray} {nL : Nat} {ret : Option FieldType} {hh : List (Nat × Nat × Nat × Nat)} {kf : Nat} {G : gG} {Qv : Option Value → gM → Prop} {E : String → Nat → gM → Prop} {E1 : Nat → gM → Prop} {w : gM → Nat → List (Nat × Value) → List Value → Prop} {M : gM} {pc : Nat} {lv : List (Nat × Value)} {rest : List Value} (hw : gX y0 cc nL ret hh kf G Qv E w) (hy : y0.cls = RX0) {p1 : Int32} {p2 : Int32} {p3 : Int32} {p4 : Int32} {Q : Int64 → gM → Prop} (d : decode cc pc = .ok (.invokevirtual 30, 3)) (hrest : Nat.ble ((rest.map Value.category).sum) 8 = true) (hk : 103 + 1 ≤ kf) (hkd : gk M 16 = 1) (h : fX1_choosing p1 p2 p3 p4 M Q E1) (kx : ∀ cls o M1, gEx "java/util/NoSuchElementException" E1 cls o M1 → gCat y0.cls hh G E w pc lv cls o M1) (kk : ∀ r M1, Q r M1 → w M1 (pc + 3) lv (.long r :: rest)) : w M pc lv (.int p4 :: .int p3 :: .int p2 :: .int p1 :: .ref (gA G 16) :: rest) := by
  obtain ⟨cls9, nm9, ds9⟩ := y0
  subst hy
  exact g_callV (r := (RX1, TX1, 28)) (ci := 0) hw [.int p1, .int p2, .int p3, .int p4] (nA := 4) rfl d q1034 q1035 q1036 q98 q1037 (by decide +kernel) rfl rfl hrest rfl (by omega : kf - 1 + 1 ≤ kf) hkd (mX1_choosing (kf := kf - 1) (by omega) G p1 p2 p3 p4 M Q E1 h) kx (fun v M1 h => by obtain ⟨r, rfl, h⟩ := h; exact kk r M1 h)
def fX0_choosing (p2 : Int32) (p3 : Int32) (p4 : Int32) (p5 : Int32) (p6 : Nat) (M : gM) (Q : Int32 → gM → Prop) : Prop :=
  gk M 16 = 1 ∧ fX1_choosing p2 p3 p4 p5 M (fun r3 M2 => gk M2 p6 = 41 ∧ vp_in 0 (gl M2 p6) ∧ Q 0 (gsL M2 p6 0 r3)) (fun o4 M5 => Q 1 M5)
theorem mX0_choosing {kf : Nat} (hkf : 104 ≤ kf) (G : gG) (p2 : Int32) (p3 : Int32) (p4 : Int32) (p5 : Int32) (p6 : Nat) (M : gM) (Q : Int32 → gM → Prop) (h : fX0_choosing p2 p3 p4 p5 p6 M Q) : gMetW yX0_choosing cX0_choosing 7 (Option.some FieldType.int) [(0, 13, 16, 13)] kf G M [.ref (gA G 16), .int p2, .int p3, .int p4, .int p5, .ref (gA G p6)] (gQi Q) gE0 := by
  refine g_introW (lv := [(0, .ref (gA G 16)), (1, .int p2), (2, .int p3), (3, .int p4), (4, .int p5), (5, .ref (gA G p6))]) (by decide) rfl rfl (by decide) (fun w hw => ?_)
  unfold fX0_choosing at h
  refine g_aload hw 5 dX0_choosing_0 rfl ?_
  refine g_iconst (v := 0) hw dX0_choosing_2 (by decide) ?_
  refine g_aload_n hw 0 dX0_choosing_3 rfl ?_
  refine g_iload_n hw 1 dX0_choosing_4 rfl ?_
  refine g_iload_n hw 2 dX0_choosing_5 rfl ?_
  refine g_iload_n hw 3 dX0_choosing_6 rfl ?_
  refine g_iload hw 4 dX0_choosing_7 rfl ?_
  obtain ⟨hk1, h⟩ := h
  refine sX0_30H hw rfl dX0_choosing_9 rfl (gK2 hkf) hk1 h (gCatH (by decide) q966 q976 (fun o4 M5 h => ?_)) (fun r3 M2 h => ?_)
  · refine g_astore hw (lv2 := []) [] dX0_choosing_16 rfl rfl ?_
    refine g_iconst (v := 1) hw dX0_choosing_18 (by decide) ?_
    exact g_iret hw dX0_choosing_19 rfl ⟨_, rfl, h⟩
  obtain ⟨hk6, h⟩ := h
  obtain ⟨hi7, h⟩ := h
  refine g_last (n := 0) hw dX0_choosing_12 hk6 hi7 rfl ?_
  refine g_goto (tgt := 20) hw dX0_choosing_13 (by decide) ?_
  refine g_iconst (v := 0) hw dX0_choosing_20 (by decide) ?_
  exact g_iret hw dX0_choosing_21 rfl ⟨_, rfl, h⟩
theorem sX0_33H {y0 : MethodName} {cc : ByteArray} {nL : Nat} {ret : Option FieldType} {hh : List (Nat × Nat × Nat × Nat)} {kf : Nat} {G : gG} {Qv : Option Value → gM → Prop} {E : String → Nat → gM → Prop} {E1 : Nat → gM → Prop} {w : gM → Nat → List (Nat × Value) → List Value → Prop} {M : gM} {pc : Nat} {lv : List (Nat × Value)} {rest : List Value} (hw : gX y0 cc nL ret hh kf G Qv E w) (hy : y0.cls = RX0) {p1 : Int32} {p2 : Int32} {p3 : Int32} {Q : Int64 → gM → Prop} (d : decode cc pc = .ok (.invokevirtual 33, 3)) (hrest : Nat.ble ((rest.map Value.category).sum) 8 = true) (hk : 103 + 1 ≤ kf) (hkd : gk M 16 = 1) (h : fX1_beside p1 p2 p3 M Q E1) (kx : ∀ cls o M1, gEx "java/util/NoSuchElementException" E1 cls o M1 → gCat y0.cls hh G E w pc lv cls o M1) (kk : ∀ r M1, Q r M1 → w M1 (pc + 3) lv (.long r :: rest)) : w M pc lv (.int p3 :: .int p2 :: .int p1 :: .ref (gA G 16) :: rest) := by
  obtain ⟨cls9, nm9, ds9⟩ := y0
  subst hy
  exact g_callV (r := (RX1, TX1, 28)) (ci := 0) hw [.int p1, .int p2, .int p3] (nA := 3) rfl d q1041 q1042 q1043 q98 q1044 (by decide +kernel) rfl rfl hrest rfl (by omega : kf - 1 + 1 ≤ kf) hkd (mX1_beside (kf := kf - 1) (by omega) G p1 p2 p3 M Q E1 h) kx (fun v M1 h => by obtain ⟨r, rfl, h⟩ := h; exact kk r M1 h)
def fX0_beside (p2 : Int32) (p3 : Int32) (p4 : Int32) (p5 : Nat) (M : gM) (Q : Int32 → gM → Prop) : Prop :=
  gk M 16 = 1 ∧ fX1_beside p2 p3 p4 M (fun r3 M2 => gk M2 p5 = 41 ∧ vp_in 0 (gl M2 p5) ∧ Q 0 (gsL M2 p5 0 r3)) (fun o4 M5 => Q 1 M5)
theorem mX0_beside {kf : Nat} (hkf : 104 ≤ kf) (G : gG) (p2 : Int32) (p3 : Int32) (p4 : Int32) (p5 : Nat) (M : gM) (Q : Int32 → gM → Prop) (h : fX0_beside p2 p3 p4 p5 M Q) : gMetW yX0_beside cX0_beside 6 (Option.some FieldType.int) [(0, 11, 14, 13)] kf G M [.ref (gA G 16), .int p2, .int p3, .int p4, .ref (gA G p5)] (gQi Q) gE0 := by
  refine g_introW (lv := [(0, .ref (gA G 16)), (1, .int p2), (2, .int p3), (3, .int p4), (4, .ref (gA G p5))]) (by decide) rfl rfl (by decide) (fun w hw => ?_)
  unfold fX0_beside at h
  refine g_aload hw 4 dX0_beside_0 rfl ?_
  refine g_iconst (v := 0) hw dX0_beside_2 (by decide) ?_
  refine g_aload_n hw 0 dX0_beside_3 rfl ?_
  refine g_iload_n hw 1 dX0_beside_4 rfl ?_
  refine g_iload_n hw 2 dX0_beside_5 rfl ?_
  refine g_iload_n hw 3 dX0_beside_6 rfl ?_
  obtain ⟨hk1, h⟩ := h
  refine sX0_33H hw rfl dX0_beside_7 rfl (gK2 hkf) hk1 h (gCatH (by decide) q966 q976 (fun o4 M5 h => ?_)) (fun r3 M2 h => ?_)
  · refine g_astore hw (lv2 := []) [] dX0_beside_14 rfl rfl ?_
    refine g_iconst (v := 1) hw dX0_beside_16 (by decide) ?_
    exact g_iret hw dX0_beside_17 rfl ⟨_, rfl, h⟩
  obtain ⟨hk6, h⟩ := h
  obtain ⟨hi7, h⟩ := h
  refine g_last (n := 0) hw dX0_beside_10 hk6 hi7 rfl ?_
  refine g_goto (tgt := 18) hw dX0_beside_11 (by decide) ?_
  refine g_iconst (v := 0) hw dX0_beside_18 (by decide) ?_
  exact g_iret hw dX0_beside_19 rfl ⟨_, rfl, h⟩
theorem sX0_36H {y0 : MethodName} {cc : ByteArray} {nL : Nat} {ret : Option FieldType} {hh : List (Nat × Nat × Nat × Nat)} {kf : Nat} {G : gG} {Qv : Option Value → gM → Prop} {E : String → Nat → gM → Prop} {E1 : Nat → gM → Prop} {w : gM → Nat → List (Nat × Value) → List Value → Prop} {M : gM} {pc : Nat} {lv : List (Nat × Value)} {rest : List Value} (hw : gX y0 cc nL ret hh kf G Qv E w) (hy : y0.cls = RX0) {p1 : Int32} {p2 : Int32} {p3 : Int32} {p4 : Int32} {Q : Int64 → gM → Prop} (d : decode cc pc = .ok (.invokevirtual 36, 3)) (hrest : Nat.ble ((rest.map Value.category).sum) 8 = true) (hk : 103 + 1 ≤ kf) (hkd : gk M 16 = 1) (h : fX1_apart p1 p2 p3 p4 M Q E1) (kx : ∀ cls o M1, gEx "java/util/NoSuchElementException" E1 cls o M1 → gCat y0.cls hh G E w pc lv cls o M1) (kk : ∀ r M1, Q r M1 → w M1 (pc + 3) lv (.long r :: rest)) : w M pc lv (.int p4 :: .int p3 :: .int p2 :: .int p1 :: .ref (gA G 16) :: rest) := by
  obtain ⟨cls9, nm9, ds9⟩ := y0
  subst hy
  exact g_callV (r := (RX1, TX1, 28)) (ci := 0) hw [.int p1, .int p2, .int p3, .int p4] (nA := 4) rfl d q1048 q1049 q1050 q98 q1051 (by decide +kernel) rfl rfl hrest rfl (by omega : kf - 1 + 1 ≤ kf) hkd (mX1_apart (kf := kf - 1) (by omega) G p1 p2 p3 p4 M Q E1 h) kx (fun v M1 h => by obtain ⟨r, rfl, h⟩ := h; exact kk r M1 h)
def fX0_apart (p2 : Int32) (p3 : Int32) (p4 : Int32) (p5 : Int32) (p6 : Nat) (M : gM) (Q : Int32 → gM → Prop) : Prop :=
  gk M 16 = 1 ∧ fX1_apart p2 p3 p4 p5 M (fun r3 M2 => gk M2 p6 = 41 ∧ vp_in 0 (gl M2 p6) ∧ Q 0 (gsL M2 p6 0 r3)) (fun o4 M5 => Q 1 M5)
theorem mX0_apart {kf : Nat} (hkf : 104 ≤ kf) (G : gG) (p2 : Int32) (p3 : Int32) (p4 : Int32) (p5 : Int32) (p6 : Nat) (M : gM) (Q : Int32 → gM → Prop) (h : fX0_apart p2 p3 p4 p5 p6 M Q) : gMetW yX0_apart cX0_apart 7 (Option.some FieldType.int) [(0, 13, 16, 13)] kf G M [.ref (gA G 16), .int p2, .int p3, .int p4, .int p5, .ref (gA G p6)] (gQi Q) gE0 := by
  refine g_introW (lv := [(0, .ref (gA G 16)), (1, .int p2), (2, .int p3), (3, .int p4), (4, .int p5), (5, .ref (gA G p6))]) (by decide) rfl rfl (by decide) (fun w hw => ?_)
  unfold fX0_apart at h
  refine g_aload hw 5 dX0_apart_0 rfl ?_
  refine g_iconst (v := 0) hw dX0_apart_2 (by decide) ?_
  refine g_aload_n hw 0 dX0_apart_3 rfl ?_
  refine g_iload_n hw 1 dX0_apart_4 rfl ?_
  refine g_iload_n hw 2 dX0_apart_5 rfl ?_
  refine g_iload_n hw 3 dX0_apart_6 rfl ?_
  refine g_iload hw 4 dX0_apart_7 rfl ?_
  obtain ⟨hk1, h⟩ := h
  refine sX0_36H hw rfl dX0_apart_9 rfl (gK2 hkf) hk1 h (gCatH (by decide) q966 q976 (fun o4 M5 h => ?_)) (fun r3 M2 h => ?_)
  · refine g_astore hw (lv2 := []) [] dX0_apart_16 rfl rfl ?_
    refine g_iconst (v := 1) hw dX0_apart_18 (by decide) ?_
    exact g_iret hw dX0_apart_19 rfl ⟨_, rfl, h⟩
  obtain ⟨hk6, h⟩ := h
  obtain ⟨hi7, h⟩ := h
  refine g_last (n := 0) hw dX0_apart_12 hk6 hi7 rfl ?_
  refine g_goto (tgt := 20) hw dX0_apart_13 (by decide) ?_
  refine g_iconst (v := 0) hw dX0_apart_20 (by decide) ?_
  exact g_iret hw dX0_apart_21 rfl ⟨_, rfl, h⟩
theorem sX0_39H {y0 : MethodName} {cc : ByteArray} {nL : Nat} {ret : Option FieldType} {hh : List (Nat × Nat × Nat × Nat)} {kf : Nat} {G : gG} {Qv : Option Value → gM → Prop} {E : String → Nat → gM → Prop} {E1 : Nat → gM → Prop} {w : gM → Nat → List (Nat × Value) → List Value → Prop} {M : gM} {pc : Nat} {lv : List (Nat × Value)} {rest : List Value} (hw : gX y0 cc nL ret hh kf G Qv E w) (hy : y0.cls = RX0) {p1 : Int32} {p2 : Int32} {Q : Int64 → gM → Prop} (d : decode cc pc = .ok (.invokevirtual 39, 3)) (hrest : Nat.ble ((rest.map Value.category).sum) 8 = true) (hk : 103 + 1 ≤ kf) (hkd : gk M 16 = 1) (h : fX1_others p1 p2 M Q E1) (kx : ∀ cls o M1, gEx "java/util/NoSuchElementException" E1 cls o M1 → gCat y0.cls hh G E w pc lv cls o M1) (kk : ∀ r M1, Q r M1 → w M1 (pc + 3) lv (.long r :: rest)) : w M pc lv (.int p2 :: .int p1 :: .ref (gA G 16) :: rest) := by
  obtain ⟨cls9, nm9, ds9⟩ := y0
  subst hy
  exact g_callV (r := (RX1, TX1, 28)) (ci := 0) hw [.int p1, .int p2] (nA := 2) rfl d q1055 q1056 q1057 q98 q1058 (by decide +kernel) rfl rfl hrest rfl (by omega : kf - 1 + 1 ≤ kf) hkd (mX1_others (kf := kf - 1) (by omega) G p1 p2 M Q E1 h) kx (fun v M1 h => by obtain ⟨r, rfl, h⟩ := h; exact kk r M1 h)
def fX0_others (p2 : Int32) (p3 : Int32) (p4 : Nat) (M : gM) (Q : Int32 → gM → Prop) : Prop :=
  gk M 16 = 1 ∧ fX1_others p2 p3 M (fun r3 M2 => gk M2 p4 = 41 ∧ vp_in 0 (gl M2 p4) ∧ Q 0 (gsL M2 p4 0 r3)) (fun o4 M5 => Q 1 M5)
theorem mX0_others {kf : Nat} (hkf : 104 ≤ kf) (G : gG) (p2 : Int32) (p3 : Int32) (p4 : Nat) (M : gM) (Q : Int32 → gM → Prop) (h : fX0_others p2 p3 p4 M Q) : gMetW yX0_others cX0_others 5 (Option.some FieldType.int) [(0, 9, 12, 13)] kf G M [.ref (gA G 16), .int p2, .int p3, .ref (gA G p4)] (gQi Q) gE0 := by
  refine g_introW (lv := [(0, .ref (gA G 16)), (1, .int p2), (2, .int p3), (3, .ref (gA G p4))]) (by decide) rfl rfl (by decide) (fun w hw => ?_)
  unfold fX0_others at h
  refine g_aload_n hw 3 dX0_others_0 rfl ?_
  refine g_iconst (v := 0) hw dX0_others_1 (by decide) ?_
  refine g_aload_n hw 0 dX0_others_2 rfl ?_
  refine g_iload_n hw 1 dX0_others_3 rfl ?_
  refine g_iload_n hw 2 dX0_others_4 rfl ?_
  obtain ⟨hk1, h⟩ := h
  refine sX0_39H hw rfl dX0_others_5 rfl (gK2 hkf) hk1 h (gCatH (by decide) q966 q976 (fun o4 M5 h => ?_)) (fun r3 M2 h => ?_)
  · refine g_astore hw (lv2 := []) [] dX0_others_12 rfl rfl ?_
    refine g_iconst (v := 1) hw dX0_others_14 (by decide) ?_
    exact g_iret hw dX0_others_15 rfl ⟨_, rfl, h⟩
  obtain ⟨hk6, h⟩ := h
  obtain ⟨hi7, h⟩ := h
  refine g_last (n := 0) hw dX0_others_8 hk6 hi7 rfl ?_
  refine g_goto (tgt := 16) hw dX0_others_9 (by decide) ?_
  refine g_iconst (v := 0) hw dX0_others_16 (by decide) ?_
  exact g_iret hw dX0_others_17 rfl ⟨_, rfl, h⟩
theorem sX0_43H {y0 : MethodName} {cc : ByteArray} {nL : Nat} {ret : Option FieldType} {hh : List (Nat × Nat × Nat × Nat)} {kf : Nat} {G : gG} {Qv : Option Value → gM → Prop} {E : String → Nat → gM → Prop} {E1 : Nat → gM → Prop} {w : gM → Nat → List (Nat × Value) → List Value → Prop} {M : gM} {pc : Nat} {lv : List (Nat × Value)} {rest : List Value} (hw : gX y0 cc nL ret hh kf G Qv E w) (hy : y0.cls = RX0) {p1 : Int32} {p2 : Int32} {Q : Int64 → gM → Prop} (d : decode cc pc = .ok (.invokevirtual 43, 3)) (hrest : Nat.ble ((rest.map Value.category).sum) 8 = true) (hk : 1014 + 1 ≤ kf) (hkd : gk M 16 = 1) (h : fX1_writes p1 p2 M Q E1) (kx : ∀ cls o M1, gEx "java/util/NoSuchElementException" E1 cls o M1 → gCat y0.cls hh G E w pc lv cls o M1) (kk : ∀ r M1, Q r M1 → w M1 (pc + 3) lv (.long r :: rest)) : w M pc lv (.int p2 :: .int p1 :: .ref (gA G 16) :: rest) := by
  obtain ⟨cls9, nm9, ds9⟩ := y0
  subst hy
  exact g_callV (r := (RX1, TX1, 28)) (ci := 0) hw [.int p1, .int p2] (nA := 2) rfl d q1062 q1063 q1064 q98 q1065 (by decide +kernel) rfl rfl hrest rfl (by omega : kf - 1 + 1 ≤ kf) hkd (mX1_writes (kf := kf - 1) (by omega) G p1 p2 M Q E1 h) kx (fun v M1 h => by obtain ⟨r, rfl, h⟩ := h; exact kk r M1 h)
def fX0_writes (p2 : Int32) (p3 : Int32) (p4 : Nat) (M : gM) (Q : Int32 → gM → Prop) : Prop :=
  gk M 16 = 1 ∧ fX1_writes p2 p3 M (fun r3 M2 => gk M2 p4 = 41 ∧ vp_in 0 (gl M2 p4) ∧ Q 0 (gsL M2 p4 0 r3)) (fun o4 M5 => Q 1 M5)
theorem mX0_writes {kf : Nat} (hkf : 1015 ≤ kf) (G : gG) (p2 : Int32) (p3 : Int32) (p4 : Nat) (M : gM) (Q : Int32 → gM → Prop) (h : fX0_writes p2 p3 p4 M Q) : gMetW yX0_writes cX0_writes 5 (Option.some FieldType.int) [(0, 9, 12, 13)] kf G M [.ref (gA G 16), .int p2, .int p3, .ref (gA G p4)] (gQi Q) gE0 := by
  refine g_introW (lv := [(0, .ref (gA G 16)), (1, .int p2), (2, .int p3), (3, .ref (gA G p4))]) (by decide) rfl rfl (by decide) (fun w hw => ?_)
  unfold fX0_writes at h
  refine g_aload_n hw 3 dX0_writes_0 rfl ?_
  refine g_iconst (v := 0) hw dX0_writes_1 (by decide) ?_
  refine g_aload_n hw 0 dX0_writes_2 rfl ?_
  refine g_iload_n hw 1 dX0_writes_3 rfl ?_
  refine g_iload_n hw 2 dX0_writes_4 rfl ?_
  obtain ⟨hk1, h⟩ := h
  refine sX0_43H hw rfl dX0_writes_5 rfl (gK2 hkf) hk1 h (gCatH (by decide) q966 q976 (fun o4 M5 h => ?_)) (fun r3 M2 h => ?_)
  · refine g_astore hw (lv2 := []) [] dX0_writes_12 rfl rfl ?_
    refine g_iconst (v := 1) hw dX0_writes_14 (by decide) ?_
    exact g_iret hw dX0_writes_15 rfl ⟨_, rfl, h⟩
  obtain ⟨hk6, h⟩ := h
  obtain ⟨hi7, h⟩ := h
  refine g_last (n := 0) hw dX0_writes_8 hk6 hi7 rfl ?_
  refine g_goto (tgt := 16) hw dX0_writes_9 (by decide) ?_
  refine g_iconst (v := 0) hw dX0_writes_16 (by decide) ?_
  exact g_iret hw dX0_writes_17 rfl ⟨_, rfl, h⟩
theorem sX0_47H {y0 : MethodName} {cc : ByteArray} {nL : Nat} {ret : Option FieldType} {hh : List (Nat × Nat × Nat × Nat)} {kf : Nat} {G : gG} {Qv : Option Value → gM → Prop} {E : String → Nat → gM → Prop} {E1 : Nat → gM → Prop} {w : gM → Nat → List (Nat × Value) → List Value → Prop} {M : gM} {pc : Nat} {lv : List (Nat × Value)} {rest : List Value} (hw : gX y0 cc nL ret hh kf G Qv E w) (hy : y0.cls = RX0) {p1 : Int32} {Q : Int64 → gM → Prop} (d : decode cc pc = .ok (.invokevirtual 47, 3)) (hrest : Nat.ble ((rest.map Value.category).sum) 8 = true) (hk : 1014 + 1 ≤ kf) (hkd : gk M 16 = 1) (h : fX1_forks p1 M Q E1) (kx : ∀ cls o M1, gEx "java/util/NoSuchElementException" E1 cls o M1 → gCat y0.cls hh G E w pc lv cls o M1) (kk : ∀ r M1, Q r M1 → w M1 (pc + 3) lv (.long r :: rest)) : w M pc lv (.int p1 :: .ref (gA G 16) :: rest) := by
  obtain ⟨cls9, nm9, ds9⟩ := y0
  subst hy
  exact g_callV (r := (RX1, TX1, 28)) (ci := 0) hw [.int p1] (nA := 1) rfl d q1073 q1074 q1075 q98 q1076 (by decide +kernel) rfl rfl hrest rfl (by omega : kf - 1 + 1 ≤ kf) hkd (mX1_forks (kf := kf - 1) (by omega) G p1 M Q E1 h) kx (fun v M1 h => by obtain ⟨r, rfl, h⟩ := h; exact kk r M1 h)
def fX0_forks (p2 : Int32) (p3 : Nat) (M : gM) (Q : Int32 → gM → Prop) : Prop :=
  gk M 16 = 1 ∧ fX1_forks p2 M (fun r3 M2 => gk M2 p3 = 41 ∧ vp_in 0 (gl M2 p3) ∧ Q 0 (gsL M2 p3 0 r3)) (fun o4 M5 => Q 1 M5)
theorem mX0_forks {kf : Nat} (hkf : 1015 ≤ kf) (G : gG) (p2 : Int32) (p3 : Nat) (M : gM) (Q : Int32 → gM → Prop) (h : fX0_forks p2 p3 M Q) : gMetW yX0_forks cX0_forks 4 (Option.some FieldType.int) [(0, 8, 11, 13)] kf G M [.ref (gA G 16), .int p2, .ref (gA G p3)] (gQi Q) gE0 := by
  refine g_introW (lv := [(0, .ref (gA G 16)), (1, .int p2), (2, .ref (gA G p3))]) (by decide) rfl rfl (by decide) (fun w hw => ?_)
  unfold fX0_forks at h
  refine g_aload_n hw 2 dX0_forks_0 rfl ?_
  refine g_iconst (v := 0) hw dX0_forks_1 (by decide) ?_
  refine g_aload_n hw 0 dX0_forks_2 rfl ?_
  refine g_iload_n hw 1 dX0_forks_3 rfl ?_
  obtain ⟨hk1, h⟩ := h
  refine sX0_47H hw rfl dX0_forks_4 rfl (gK2 hkf) hk1 h (gCatH (by decide) q966 q976 (fun o4 M5 h => ?_)) (fun r3 M2 h => ?_)
  · refine g_astore_n hw (lv2 := []) [] dX0_forks_11 rfl rfl ?_
    refine g_iconst (v := 1) hw dX0_forks_12 (by decide) ?_
    exact g_iret hw dX0_forks_13 rfl ⟨_, rfl, h⟩
  obtain ⟨hk6, h⟩ := h
  obtain ⟨hi7, h⟩ := h
  refine g_last (n := 0) hw dX0_forks_7 hk6 hi7 rfl ?_
  refine g_goto (tgt := 14) hw dX0_forks_8 (by decide) ?_
  refine g_iconst (v := 0) hw dX0_forks_14 (by decide) ?_
  exact g_iret hw dX0_forks_15 rfl ⟨_, rfl, h⟩
theorem sX0_51H {y0 : MethodName} {cc : ByteArray} {nL : Nat} {ret : Option FieldType} {hh : List (Nat × Nat × Nat × Nat)} {kf : Nat} {G : gG} {Qv : Option Value → gM → Prop} {E : String → Nat → gM → Prop} {E1 : Nat → gM → Prop} {w : gM → Nat → List (Nat × Value) → List Value → Prop} {M : gM} {pc : Nat} {lv : List (Nat × Value)} {rest : List Value} (hw : gX y0 cc nL ret hh kf G Qv E w) (hy : y0.cls = RX0) {p1 : Int32} {p2 : Int32} {p3 : Int32} {Q : Int64 → gM → Prop} (d : decode cc pc = .ok (.invokevirtual 51, 3)) (hrest : Nat.ble ((rest.map Value.category).sum) 8 = true) (hk : 9 + 1 ≤ kf) (hkd : gk M 16 = 1) (h : fX1_booked p1 p2 p3 M Q E1) (kx : ∀ cls o M1, gEx "java/util/NoSuchElementException" E1 cls o M1 → gCat y0.cls hh G E w pc lv cls o M1) (kk : ∀ r M1, Q r M1 → w M1 (pc + 3) lv (.long r :: rest)) : w M pc lv (.int p3 :: .int p2 :: .int p1 :: .ref (gA G 16) :: rest) := by
  obtain ⟨cls9, nm9, ds9⟩ := y0
  subst hy
  exact g_callV (r := (RX1, TX1, 28)) (ci := 0) hw [.int p1, .int p2, .int p3] (nA := 3) rfl d q1080 q1081 q1082 q98 q1083 (by decide +kernel) rfl rfl hrest rfl (by omega : kf - 1 + 1 ≤ kf) hkd (mX1_booked (kf := kf - 1) (by omega) G p1 p2 p3 M Q E1 h) kx (fun v M1 h => by obtain ⟨r, rfl, h⟩ := h; exact kk r M1 h)
def fX0_booked (p2 : Int32) (p3 : Int32) (p4 : Int32) (p5 : Nat) (M : gM) (Q : Int32 → gM → Prop) : Prop :=
  gk M 16 = 1 ∧ fX1_booked p2 p3 p4 M (fun r3 M2 => gk M2 p5 = 41 ∧ vp_in 0 (gl M2 p5) ∧ Q 0 (gsL M2 p5 0 r3)) (fun o4 M5 => Q 1 M5)
theorem mX0_booked {kf : Nat} (hkf : 10 ≤ kf) (G : gG) (p2 : Int32) (p3 : Int32) (p4 : Int32) (p5 : Nat) (M : gM) (Q : Int32 → gM → Prop) (h : fX0_booked p2 p3 p4 p5 M Q) : gMetW yX0_booked cX0_booked 6 (Option.some FieldType.int) [(0, 11, 14, 13)] kf G M [.ref (gA G 16), .int p2, .int p3, .int p4, .ref (gA G p5)] (gQi Q) gE0 := by
  refine g_introW (lv := [(0, .ref (gA G 16)), (1, .int p2), (2, .int p3), (3, .int p4), (4, .ref (gA G p5))]) (by decide) rfl rfl (by decide) (fun w hw => ?_)
  unfold fX0_booked at h
  refine g_aload hw 4 dX0_booked_0 rfl ?_
  refine g_iconst (v := 0) hw dX0_booked_2 (by decide) ?_
  refine g_aload_n hw 0 dX0_booked_3 rfl ?_
  refine g_iload_n hw 1 dX0_booked_4 rfl ?_
  refine g_iload_n hw 2 dX0_booked_5 rfl ?_
  refine g_iload_n hw 3 dX0_booked_6 rfl ?_
  obtain ⟨hk1, h⟩ := h
  refine sX0_51H hw rfl dX0_booked_7 rfl (gK2 hkf) hk1 h (gCatH (by decide) q966 q976 (fun o4 M5 h => ?_)) (fun r3 M2 h => ?_)
  · refine g_astore hw (lv2 := []) [] dX0_booked_14 rfl rfl ?_
    refine g_iconst (v := 1) hw dX0_booked_16 (by decide) ?_
    exact g_iret hw dX0_booked_17 rfl ⟨_, rfl, h⟩
  obtain ⟨hk6, h⟩ := h
  obtain ⟨hi7, h⟩ := h
  refine g_last (n := 0) hw dX0_booked_10 hk6 hi7 rfl ?_
  refine g_goto (tgt := 18) hw dX0_booked_11 (by decide) ?_
  refine g_iconst (v := 0) hw dX0_booked_18 (by decide) ?_
  exact g_iret hw dX0_booked_19 rfl ⟨_, rfl, h⟩
theorem sX0_54H {y0 : MethodName} {cc : ByteArray} {nL : Nat} {ret : Option FieldType} {hh : List (Nat × Nat × Nat × Nat)} {kf : Nat} {G : gG} {Qv : Option Value → gM → Prop} {E : String → Nat → gM → Prop} {E1 : Nat → gM → Prop} {w : gM → Nat → List (Nat × Value) → List Value → Prop} {M : gM} {pc : Nat} {lv : List (Nat × Value)} {rest : List Value} (hw : gX y0 cc nL ret hh kf G Qv E w) (hy : y0.cls = RX0) {p1 : Int32} {p2 : Int32} {p3 : Int32} {p4 : Int32} {Q : Int64 → gM → Prop} (d : decode cc pc = .ok (.invokevirtual 54, 3)) (hrest : Nat.ble ((rest.map Value.category).sum) 8 = true) (hk : 9 + 1 ≤ kf) (hkd : gk M 16 = 1) (h : fX1_closes p1 p2 p3 p4 M Q E1) (kx : ∀ cls o M1, gEx "java/util/NoSuchElementException" E1 cls o M1 → gCat y0.cls hh G E w pc lv cls o M1) (kk : ∀ r M1, Q r M1 → w M1 (pc + 3) lv (.long r :: rest)) : w M pc lv (.int p4 :: .int p3 :: .int p2 :: .int p1 :: .ref (gA G 16) :: rest) := by
  obtain ⟨cls9, nm9, ds9⟩ := y0
  subst hy
  exact g_callV (r := (RX1, TX1, 28)) (ci := 0) hw [.int p1, .int p2, .int p3, .int p4] (nA := 4) rfl d q1099 q1100 q1101 q98 q1102 (by decide +kernel) rfl rfl hrest rfl (by omega : kf - 1 + 1 ≤ kf) hkd (mX1_closes (kf := kf - 1) (by omega) G p1 p2 p3 p4 M Q E1 h) kx (fun v M1 h => by obtain ⟨r, rfl, h⟩ := h; exact kk r M1 h)
def fX0_closes (p2 : Int32) (p3 : Int32) (p4 : Int32) (p5 : Int32) (p6 : Nat) (M : gM) (Q : Int32 → gM → Prop) : Prop :=
  gk M 16 = 1 ∧ fX1_closes p2 p3 p4 p5 M (fun r3 M2 => gk M2 p6 = 41 ∧ vp_in 0 (gl M2 p6) ∧ Q 0 (gsL M2 p6 0 r3)) (fun o4 M5 => Q 1 M5)
theorem mX0_closes {kf : Nat} (hkf : 10 ≤ kf) (G : gG) (p2 : Int32) (p3 : Int32) (p4 : Int32) (p5 : Int32) (p6 : Nat) (M : gM) (Q : Int32 → gM → Prop) (h : fX0_closes p2 p3 p4 p5 p6 M Q) : gMetW yX0_closes cX0_closes 7 (Option.some FieldType.int) [(0, 13, 16, 13)] kf G M [.ref (gA G 16), .int p2, .int p3, .int p4, .int p5, .ref (gA G p6)] (gQi Q) gE0 := by
  refine g_introW (lv := [(0, .ref (gA G 16)), (1, .int p2), (2, .int p3), (3, .int p4), (4, .int p5), (5, .ref (gA G p6))]) (by decide) rfl rfl (by decide) (fun w hw => ?_)
  unfold fX0_closes at h
  refine g_aload hw 5 dX0_closes_0 rfl ?_
  refine g_iconst (v := 0) hw dX0_closes_2 (by decide) ?_
  refine g_aload_n hw 0 dX0_closes_3 rfl ?_
  refine g_iload_n hw 1 dX0_closes_4 rfl ?_
  refine g_iload_n hw 2 dX0_closes_5 rfl ?_
  refine g_iload_n hw 3 dX0_closes_6 rfl ?_
  refine g_iload hw 4 dX0_closes_7 rfl ?_
  obtain ⟨hk1, h⟩ := h
  refine sX0_54H hw rfl dX0_closes_9 rfl (gK2 hkf) hk1 h (gCatH (by decide) q966 q976 (fun o4 M5 h => ?_)) (fun r3 M2 h => ?_)
  · refine g_astore hw (lv2 := []) [] dX0_closes_16 rfl rfl ?_
    refine g_iconst (v := 1) hw dX0_closes_18 (by decide) ?_
    exact g_iret hw dX0_closes_19 rfl ⟨_, rfl, h⟩
  obtain ⟨hk6, h⟩ := h
  obtain ⟨hi7, h⟩ := h
  refine g_last (n := 0) hw dX0_closes_12 hk6 hi7 rfl ?_
  refine g_goto (tgt := 20) hw dX0_closes_13 (by decide) ?_
  refine g_iconst (v := 0) hw dX0_closes_20 (by decide) ?_
  exact g_iret hw dX0_closes_21 rfl ⟨_, rfl, h⟩
theorem sX0_57H {y0 : MethodName} {cc : ByteArray} {nL : Nat} {ret : Option FieldType} {hh : List (Nat × Nat × Nat × Nat)} {kf : Nat} {G : gG} {Qv : Option Value → gM → Prop} {E : String → Nat → gM → Prop} {E1 : Nat → gM → Prop} {w : gM → Nat → List (Nat × Value) → List Value → Prop} {M : gM} {pc : Nat} {lv : List (Nat × Value)} {rest : List Value} (hw : gX y0 cc nL ret hh kf G Qv E w) (hy : y0.cls = RX0) {p1 : Int32} {p2 : Int32} {p3 : Int32} {Q : Int64 → gM → Prop} (d : decode cc pc = .ok (.invokevirtual 57, 3)) (hrest : Nat.ble ((rest.map Value.category).sum) 8 = true) (hk : 103 + 1 ≤ kf) (hkd : gk M 16 = 1) (h : fX1_mixed p1 p2 p3 M Q E1) (kx : ∀ cls o M1, gEx "java/util/NoSuchElementException" E1 cls o M1 → gCat y0.cls hh G E w pc lv cls o M1) (kk : ∀ r M1, Q r M1 → w M1 (pc + 3) lv (.long r :: rest)) : w M pc lv (.int p3 :: .int p2 :: .int p1 :: .ref (gA G 16) :: rest) := by
  obtain ⟨cls9, nm9, ds9⟩ := y0
  subst hy
  exact g_callV (r := (RX1, TX1, 28)) (ci := 0) hw [.int p1, .int p2, .int p3] (nA := 3) rfl d q1106 q1107 q1108 q98 q1109 (by decide +kernel) rfl rfl hrest rfl (by omega : kf - 1 + 1 ≤ kf) hkd (mX1_mixed (kf := kf - 1) (by omega) G p1 p2 p3 M Q E1 h) kx (fun v M1 h => by obtain ⟨r, rfl, h⟩ := h; exact kk r M1 h)
def fX0_mixed (p2 : Int32) (p3 : Int32) (p4 : Int32) (p5 : Nat) (M : gM) (Q : Int32 → gM → Prop) : Prop :=
  gk M 16 = 1 ∧ fX1_mixed p2 p3 p4 M (fun r3 M2 => gk M2 p5 = 41 ∧ vp_in 0 (gl M2 p5) ∧ Q 0 (gsL M2 p5 0 r3)) (fun o4 M5 => Q 1 M5)
theorem mX0_mixed {kf : Nat} (hkf : 104 ≤ kf) (G : gG) (p2 : Int32) (p3 : Int32) (p4 : Int32) (p5 : Nat) (M : gM) (Q : Int32 → gM → Prop) (h : fX0_mixed p2 p3 p4 p5 M Q) : gMetW yX0_mixed cX0_mixed 6 (Option.some FieldType.int) [(0, 11, 14, 13)] kf G M [.ref (gA G 16), .int p2, .int p3, .int p4, .ref (gA G p5)] (gQi Q) gE0 := by
  refine g_introW (lv := [(0, .ref (gA G 16)), (1, .int p2), (2, .int p3), (3, .int p4), (4, .ref (gA G p5))]) (by decide) rfl rfl (by decide) (fun w hw => ?_)
  unfold fX0_mixed at h
  refine g_aload hw 4 dX0_mixed_0 rfl ?_
  refine g_iconst (v := 0) hw dX0_mixed_2 (by decide) ?_
  refine g_aload_n hw 0 dX0_mixed_3 rfl ?_
  refine g_iload_n hw 1 dX0_mixed_4 rfl ?_
  refine g_iload_n hw 2 dX0_mixed_5 rfl ?_
  refine g_iload_n hw 3 dX0_mixed_6 rfl ?_
  obtain ⟨hk1, h⟩ := h
  refine sX0_57H hw rfl dX0_mixed_7 rfl (gK2 hkf) hk1 h (gCatH (by decide) q966 q976 (fun o4 M5 h => ?_)) (fun r3 M2 h => ?_)
  · refine g_astore hw (lv2 := []) [] dX0_mixed_14 rfl rfl ?_
    refine g_iconst (v := 1) hw dX0_mixed_16 (by decide) ?_
    exact g_iret hw dX0_mixed_17 rfl ⟨_, rfl, h⟩
  obtain ⟨hk6, h⟩ := h
  obtain ⟨hi7, h⟩ := h
  refine g_last (n := 0) hw dX0_mixed_10 hk6 hi7 rfl ?_
  refine g_goto (tgt := 18) hw dX0_mixed_11 (by decide) ?_
  refine g_iconst (v := 0) hw dX0_mixed_18 (by decide) ?_
  exact g_iret hw dX0_mixed_19 rfl ⟨_, rfl, h⟩
