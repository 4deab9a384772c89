set_option maxRecDepth 100000
theorem sX0_60 {y0 : MethodName} {cc : ByteArray} {nL : Nat} {ret : Option FieldType} {hh : List (Nat × Nat × Nat × Nat)} {kf : Nat} {G : gG} {Qv : Option Value → gM → Prop} {E : String → Nat → gM → Prop} {w : gM → Nat → List (Nat × Value) → List Value → Prop} {M : gM} {pc : Nat} {lv : List (Nat × Value)} {rest : List Value} (hw : gX y0 cc nL ret hh kf G Qv E w) (hy : y0.cls = RX0)  {Q : gM → Prop} (d : decode cc pc = .ok (.invokespecial 60, 3)) (hrest : Nat.ble ((rest.map Value.category).sum) 8 = true) (hk : 2 + 1 ≤ kf) (h : fX1_init M Q) (kk : ∀ M1, Q M1 → w M1 (pc + 3) lv rest) : w M pc lv (.ref (gA G 16) :: rest) := by
  obtain ⟨cls9, nm9, ds9⟩ := y0
  subst hy
  exact g_callI hw [] (nA := 0) rfl d (Or.inl q125) q126 q98 q127 (by decide +kernel) rfl rfl hrest rfl (by omega : kf - 1 + 1 ≤ kf) (mX1_init (kf := kf - 1) (by omega) G M Q h) (fun _ _ _ q => q.elim) (fun v M1 h => by obtain ⟨rfl, h⟩ := h; exact kk M1 h)
theorem sX0_63 {y0 : MethodName} {cc : ByteArray} {nL : Nat} {ret : Option FieldType} {hh : List (Nat × Nat × Nat × Nat)} {kf : Nat} {G : gG} {Qv : Option Value → gM → Prop} {E : String → Nat → gM → Prop} {w : gM → Nat → List (Nat × Value) → List Value → Prop} {M : gM} {pc : Nat} {lv : List (Nat × Value)} {rest : List Value} (hw : gX y0 cc nL ret hh kf G Qv E w) (hy : y0.cls = RX0)  {Q : gM → Prop} (d : decode cc pc = .ok (.invokespecial 63, 3)) (hrest : Nat.ble ((rest.map Value.category).sum) 8 = true) (hk : 1 + 1 ≤ kf) (h : fX7_init M Q) (kk : ∀ M1, Q M1 → w M1 (pc + 3) lv rest) : w M pc lv (.ref (gA G 268) :: rest) := by
  obtain ⟨cls9, nm9, ds9⟩ := y0
  subst hy
  exact g_callI hw [] (nA := 0) rfl d (Or.inl q1124) q1125 q104 q1126 (by decide +kernel) rfl rfl hrest rfl (by omega : kf - 1 + 1 ≤ kf) (mX7_init (kf := kf - 1) (by omega) G M Q h) (fun _ _ _ q => q.elim) (fun v M1 h => by obtain ⟨rfl, h⟩ := h; exact kk M1 h)
theorem sX0_64 {y0 : MethodName} {cc : ByteArray} {nL : Nat} {ret : Option FieldType} {hh : List (Nat × Nat × Nat × Nat)} {kf : Nat} {G : gG} {Qv : Option Value → gM → Prop} {E : String → Nat → gM → Prop} {w : gM → Nat → List (Nat × Value) → List Value → Prop} {M : gM} {pc : Nat} {lv : List (Nat × Value)} {rest : List Value} (hw : gX y0 cc nL ret hh kf G Qv E w) (hy : y0.cls = RX0) {p1 : Int32} {p2 : Int32} {p3 : Int32} {p4 : Int32} {p5 : Int32} {Q : Int32 → gM → Prop} (d : decode cc pc = .ok (.invokevirtual 64, 3)) (hrest : Nat.ble ((rest.map Value.category).sum) 8 = true) (hk : 2 + 1 ≤ kf) (hkd : gk M 16 = 1) (h : fX1_kitchen p1 p2 p3 p4 p5 M Q) (kk : ∀ r M1, Q r M1 → w M1 (pc + 3) lv (.int r :: rest)) : w M pc lv (.int p5 :: .int p4 :: .int p3 :: .int p2 :: .int p1 :: .ref (gA G 16) :: rest) := by
  obtain ⟨cls9, nm9, ds9⟩ := y0
  subst hy
  exact g_callV (r := (RX1, TX1, 28)) (ci := 0) hw [.int p1, .int p2, .int p3, .int p4, .int p5] (nA := 5) rfl d q357 q358 q359 q98 q360 (by decide +kernel) rfl rfl hrest rfl (by omega : kf - 1 + 1 ≤ kf) hkd (mX1_kitchen (kf := kf - 1) (by omega) G p1 p2 p3 p4 p5 M Q h) (fun _ _ _ q => q.elim) (fun v M1 h => by obtain ⟨r, rfl, h⟩ := h; exact kk r M1 h)
theorem sX0_68 {y0 : MethodName} {cc : ByteArray} {nL : Nat} {ret : Option FieldType} {hh : List (Nat × Nat × Nat × Nat)} {kf : Nat} {G : gG} {Qv : Option Value → gM → Prop} {E : String → Nat → gM → Prop} {w : gM → Nat → List (Nat × Value) → List Value → Prop} {M : gM} {pc : Nat} {lv : List (Nat × Value)} {rest : List Value} (hw : gX y0 cc nL ret hh kf G Qv E w) (hy : y0.cls = RX0) {p1 : Int32} {p2 : Int32} {p3 : Int32} {p4 : Int32} {p5 : Int32} {Q : Int32 → gM → Prop} (d : decode cc pc = .ok (.invokevirtual 68, 3)) (hrest : Nat.ble ((rest.map Value.category).sum) 8 = true) (hk : 2 + 1 ≤ kf) (hkd : gk M 268 = 7) (h : fX7_kitchen p1 p2 p3 p4 p5 M Q) (kk : ∀ r M1, Q r M1 → w M1 (pc + 3) lv (.int r :: rest)) : w M pc lv (.int p5 :: .int p4 :: .int p3 :: .int p2 :: .int p1 :: .ref (gA G 268) :: rest) := by
  obtain ⟨cls9, nm9, ds9⟩ := y0
  subst hy
  exact g_callV (r := (RX7, TX7, 58)) (ci := 6) hw [.int p1, .int p2, .int p3, .int p4, .int p5] (nA := 5) rfl d q1332 q1333 q1334 q104 q1335 (by decide +kernel) rfl rfl hrest rfl (by omega : kf - 1 + 1 ≤ kf) hkd (mX7_kitchen (kf := kf - 1) (by omega) G p1 p2 p3 p4 p5 M Q h) (fun _ _ _ q => q.elim) (fun v M1 h => by obtain ⟨r, rfl, h⟩ := h; exact kk r M1 h)
theorem sX0_69 {y0 : MethodName} {cc : ByteArray} {nL : Nat} {ret : Option FieldType} {hh : List (Nat × Nat × Nat × Nat)} {kf : Nat} {G : gG} {Qv : Option Value → gM → Prop} {E : String → Nat → gM → Prop} {w : gM → Nat → List (Nat × Value) → List Value → Prop} {M : gM} {pc : Nat} {lv : List (Nat × Value)} {rest : List Value} (hw : gX y0 cc nL ret hh kf G Qv E w) (hy : y0.cls = RX0) {p1 : Int32} {p2 : Int32} {p3 : Int32} {p4 : Int32} {Q : Int32 → gM → Prop} (d : decode cc pc = .ok (.invokevirtual 69, 3)) (hrest : Nat.ble ((rest.map Value.category).sum) 8 = true) (hk : 3 + 1 ≤ kf) (hkd : gk M 16 = 1) (h : fX1_call p1 p2 p3 p4 M Q) (kk : ∀ r M1, Q r M1 → w M1 (pc + 3) lv (.int r :: rest)) : w M pc lv (.int p4 :: .int p3 :: .int p2 :: .int p1 :: .ref (gA G 16) :: rest) := by
  obtain ⟨cls9, nm9, ds9⟩ := y0
  subst hy
  exact g_callV (r := (RX1, TX1, 28)) (ci := 0) hw [.int p1, .int p2, .int p3, .int p4] (nA := 4) rfl d q364 q365 q366 q98 q367 (by decide +kernel) rfl rfl hrest rfl (by omega : kf - 1 + 1 ≤ kf) hkd (mX1_call (kf := kf - 1) (by omega) G p1 p2 p3 p4 M Q h) (fun _ _ _ q => q.elim) (fun v M1 h => by obtain ⟨r, rfl, h⟩ := h; exact kk r M1 h)
theorem sX0_73 {y0 : MethodName} {cc : ByteArray} {nL : Nat} {ret : Option FieldType} {hh : List (Nat × Nat × Nat × Nat)} {kf : Nat} {G : gG} {Qv : Option Value → gM → Prop} {E : String → Nat → gM → Prop} {w : gM → Nat → List (Nat × Value) → List Value → Prop} {M : gM} {pc : Nat} {lv : List (Nat × Value)} {rest : List Value} (hw : gX y0 cc nL ret hh kf G Qv E w) (hy : y0.cls = RX0) {p1 : Int32} {p2 : Int32} {p3 : Int32} {p4 : Int32} {Q : Int32 → gM → Prop} (d : decode cc pc = .ok (.invokevirtual 73, 3)) (hrest : Nat.ble ((rest.map Value.category).sum) 8 = true) (hk : 3 + 1 ≤ kf) (hkd : gk M 268 = 7) (h : fX7_call p1 p2 p3 p4 M Q) (kk : ∀ r M1, Q r M1 → w M1 (pc + 3) lv (.int r :: rest)) : w M pc lv (.int p4 :: .int p3 :: .int p2 :: .int p1 :: .ref (gA G 268) :: rest) := by
  obtain ⟨cls9, nm9, ds9⟩ := y0
  subst hy
  exact g_callV (r := (RX7, TX7, 58)) (ci := 6) hw [.int p1, .int p2, .int p3, .int p4] (nA := 4) rfl d q1339 q1340 q1341 q104 q1342 (by decide +kernel) rfl rfl hrest rfl (by omega : kf - 1 + 1 ≤ kf) hkd (mX7_call (kf := kf - 1) (by omega) G p1 p2 p3 p4 M Q h) (fun _ _ _ q => q.elim) (fun v M1 h => by obtain ⟨r, rfl, h⟩ := h; exact kk r M1 h)
theorem sX0_74 {y0 : MethodName} {cc : ByteArray} {nL : Nat} {ret : Option FieldType} {hh : List (Nat × Nat × Nat × Nat)} {kf : Nat} {G : gG} {Qv : Option Value → gM → Prop} {E : String → Nat → gM → Prop} {w : gM → Nat → List (Nat × Value) → List Value → Prop} {M : gM} {pc : Nat} {lv : List (Nat × Value)} {rest : List Value} (hw : gX y0 cc nL ret hh kf G Qv E w) (hy : y0.cls = RX0) {p1 : Int32} {p2 : Int32} {p3 : Int32} {p4 : Int32} {Q : Int32 → gM → Prop} (d : decode cc pc = .ok (.invokevirtual 74, 3)) (hrest : Nat.ble ((rest.map Value.category).sum) 8 = true) (hk : 3 + 1 ≤ kf) (hkd : gk M 16 = 1) (h : fX1_sheet p1 p2 p3 p4 M Q) (kk : ∀ r M1, Q r M1 → w M1 (pc + 3) lv (.int r :: rest)) : w M pc lv (.int p4 :: .int p3 :: .int p2 :: .int p1 :: .ref (gA G 16) :: rest) := by
  obtain ⟨cls9, nm9, ds9⟩ := y0
  subst hy
  exact g_callV (r := (RX1, TX1, 28)) (ci := 0) hw [.int p1, .int p2, .int p3, .int p4] (nA := 4) rfl d q378 q379 q380 q98 q381 (by decide +kernel) rfl rfl hrest rfl (by omega : kf - 1 + 1 ≤ kf) hkd (mX1_sheet (kf := kf - 1) (by omega) G p1 p2 p3 p4 M Q h) (fun _ _ _ q => q.elim) (fun v M1 h => by obtain ⟨r, rfl, h⟩ := h; exact kk r M1 h)
theorem sX0_77 {y0 : MethodName} {cc : ByteArray} {nL : Nat} {ret : Option FieldType} {hh : List (Nat × Nat × Nat × Nat)} {kf : Nat} {G : gG} {Qv : Option Value → gM → Prop} {E : String → Nat → gM → Prop} {w : gM → Nat → List (Nat × Value) → List Value → Prop} {M : gM} {pc : Nat} {lv : List (Nat × Value)} {rest : List Value} (hw : gX y0 cc nL ret hh kf G Qv E w) (hy : y0.cls = RX0) {p1 : Int32} {p2 : Int32} {p3 : Int32} {p4 : Int32} {Q : Int32 → gM → Prop} (d : decode cc pc = .ok (.invokevirtual 77, 3)) (hrest : Nat.ble ((rest.map Value.category).sum) 8 = true) (hk : 3 + 1 ≤ kf) (hkd : gk M 268 = 7) (h : fX7_sheet p1 p2 p3 p4 M Q) (kk : ∀ r M1, Q r M1 → w M1 (pc + 3) lv (.int r :: rest)) : w M pc lv (.int p4 :: .int p3 :: .int p2 :: .int p1 :: .ref (gA G 268) :: rest) := by
  obtain ⟨cls9, nm9, ds9⟩ := y0
  subst hy
  exact g_callV (r := (RX7, TX7, 58)) (ci := 6) hw [.int p1, .int p2, .int p3, .int p4] (nA := 4) rfl d q1350 q1351 q1352 q104 q1353 (by decide +kernel) rfl rfl hrest rfl (by omega : kf - 1 + 1 ≤ kf) hkd (mX7_sheet (kf := kf - 1) (by omega) G p1 p2 p3 p4 M Q h) (fun _ _ _ q => q.elim) (fun v M1 h => by obtain ⟨r, rfl, h⟩ := h; exact kk r M1 h)
theorem sX0_78 {y0 : MethodName} {cc : ByteArray} {nL : Nat} {ret : Option FieldType} {hh : List (Nat × Nat × Nat × Nat)} {kf : Nat} {G : gG} {Qv : Option Value → gM → Prop} {E : String → Nat → gM → Prop} {w : gM → Nat → List (Nat × Value) → List Value → Prop} {M : gM} {pc : Nat} {lv : List (Nat × Value)} {rest : List Value} (hw : gX y0 cc nL ret hh kf G Qv E w) (hy : y0.cls = RX0) {p1 : Int32} {Q : Int32 → gM → Prop} (d : decode cc pc = .ok (.invokevirtual 78, 3)) (hrest : Nat.ble ((rest.map Value.category).sum) 8 = true) (hk : 2 + 1 ≤ kf) (hkd : gk M 16 = 1) (h : fX1_tenths p1 M Q) (kk : ∀ r M1, Q r M1 → w M1 (pc + 3) lv (.int r :: rest)) : w M pc lv (.int p1 :: .ref (gA G 16) :: rest) := by
  obtain ⟨cls9, nm9, ds9⟩ := y0
  subst hy
  exact g_callV (r := (RX1, TX1, 28)) (ci := 0) hw [.int p1] (nA := 1) rfl d q382 q383 q384 q98 q385 (by decide +kernel) rfl rfl hrest rfl (by omega : kf - 1 + 1 ≤ kf) hkd (mX1_tenths (kf := kf - 1) (by omega) G p1 M Q h) (fun _ _ _ q => q.elim) (fun v M1 h => by obtain ⟨r, rfl, h⟩ := h; exact kk r M1 h)
theorem sX0_82 {y0 : MethodName} {cc : ByteArray} {nL : Nat} {ret : Option FieldType} {hh : List (Nat × Nat × Nat × Nat)} {kf : Nat} {G : gG} {Qv : Option Value → gM → Prop} {E : String → Nat → gM → Prop} {w : gM → Nat → List (Nat × Value) → List Value → Prop} {M : gM} {pc : Nat} {lv : List (Nat × Value)} {rest : List Value} (hw : gX y0 cc nL ret hh kf G Qv E w) (hy : y0.cls = RX0) {p1 : Int32} {Q : Int32 → gM → Prop} (d : decode cc pc = .ok (.invokevirtual 82, 3)) (hrest : Nat.ble ((rest.map Value.category).sum) 8 = true) (hk : 2 + 1 ≤ kf) (hkd : gk M 268 = 7) (h : fX7_tenths p1 M Q) (kk : ∀ r M1, Q r M1 → w M1 (pc + 3) lv (.int r :: rest)) : w M pc lv (.int p1 :: .ref (gA G 268) :: rest) := by
  obtain ⟨cls9, nm9, ds9⟩ := y0
  subst hy
  exact g_callV (r := (RX7, TX7, 58)) (ci := 6) hw [.int p1] (nA := 1) rfl d q1354 q1355 q1356 q104 q1357 (by decide +kernel) rfl rfl hrest rfl (by omega : kf - 1 + 1 ≤ kf) hkd (mX7_tenths (kf := kf - 1) (by omega) G p1 M Q h) (fun _ _ _ q => q.elim) (fun v M1 h => by obtain ⟨r, rfl, h⟩ := h; exact kk r M1 h)
theorem sX0_83 {y0 : MethodName} {cc : ByteArray} {nL : Nat} {ret : Option FieldType} {hh : List (Nat × Nat × Nat × Nat)} {kf : Nat} {G : gG} {Qv : Option Value → gM → Prop} {E : String → Nat → gM → Prop} {w : gM → Nat → List (Nat × Value) → List Value → Prop} {M : gM} {pc : Nat} {lv : List (Nat × Value)} {rest : List Value} (hw : gX y0 cc nL ret hh kf G Qv E w) (hy : y0.cls = RX0) {p1 : Int32} {p2 : Int32} {p3 : Int32} {p4 : Int32} {Q : Int32 → gM → Prop} (d : decode cc pc = .ok (.invokevirtual 83, 3)) (hrest : Nat.ble ((rest.map Value.category).sum) 8 = true) (hk : 3 + 1 ≤ kf) (hkd : gk M 16 = 1) (h : fX1_floor p1 p2 p3 p4 M Q) (kk : ∀ r M1, Q r M1 → w M1 (pc + 3) lv (.int r :: rest)) : w M pc lv (.int p4 :: .int p3 :: .int p2 :: .int p1 :: .ref (gA G 16) :: rest) := by
  obtain ⟨cls9, nm9, ds9⟩ := y0
  subst hy
  exact g_callV (r := (RX1, TX1, 28)) (ci := 0) hw [.int p1, .int p2, .int p3, .int p4] (nA := 4) rfl d q386 q387 q388 q98 q389 (by decide +kernel) rfl rfl hrest rfl (by omega : kf - 1 + 1 ≤ kf) hkd (mX1_floor (kf := kf - 1) (by omega) G p1 p2 p3 p4 M Q h) (fun _ _ _ q => q.elim) (fun v M1 h => by obtain ⟨r, rfl, h⟩ := h; exact kk r M1 h)
theorem sX0_86 {y0 : MethodName} {cc : ByteArray} {nL : Nat} {ret : Option FieldType} {hh : List (Nat × Nat × Nat × Nat)} {kf : Nat} {G : gG} {Qv : Option Value → gM → Prop} {E : String → Nat → gM → Prop} {w : gM → Nat → List (Nat × Value) → List Value → Prop} {M : gM} {pc : Nat} {lv : List (Nat × Value)} {rest : List Value} (hw : gX y0 cc nL ret hh kf G Qv E w) (hy : y0.cls = RX0) {p1 : Int32} {p2 : Int32} {p3 : Int32} {p4 : Int32} {Q : Int32 → gM → Prop} (d : decode cc pc = .ok (.invokevirtual 86, 3)) (hrest : Nat.ble ((rest.map Value.category).sum) 8 = true) (hk : 3 + 1 ≤ kf) (hkd : gk M 268 = 7) (h : fX7_floor p1 p2 p3 p4 M Q) (kk : ∀ r M1, Q r M1 → w M1 (pc + 3) lv (.int r :: rest)) : w M pc lv (.int p4 :: .int p3 :: .int p2 :: .int p1 :: .ref (gA G 268) :: rest) := by
  obtain ⟨cls9, nm9, ds9⟩ := y0
  subst hy
  exact g_callV (r := (RX7, TX7, 58)) (ci := 6) hw [.int p1, .int p2, .int p3, .int p4] (nA := 4) rfl d q1358 q1359 q1360 q104 q1361 (by decide +kernel) rfl rfl hrest rfl (by omega : kf - 1 + 1 ≤ kf) hkd (mX7_floor (kf := kf - 1) (by omega) G p1 p2 p3 p4 M Q h) (fun _ _ _ q => q.elim) (fun v M1 h => by obtain ⟨r, rfl, h⟩ := h; exact kk r M1 h)
theorem sX0_87 {y0 : MethodName} {cc : ByteArray} {nL : Nat} {ret : Option FieldType} {hh : List (Nat × Nat × Nat × Nat)} {kf : Nat} {G : gG} {Qv : Option Value → gM → Prop} {E : String → Nat → gM → Prop} {w : gM → Nat → List (Nat × Value) → List Value → Prop} {M : gM} {pc : Nat} {lv : List (Nat × Value)} {rest : List Value} (hw : gX y0 cc nL ret hh kf G Qv E w) (hy : y0.cls = RX0) {p1 : Int32} {p2 : Int32} {Q : Int32 → gM → Prop} (d : decode cc pc = .ok (.invokevirtual 87, 3)) (hrest : Nat.ble ((rest.map Value.category).sum) 8 = true) (hk : 3 + 1 ≤ kf) (hkd : gk M 16 = 1) (h : fX1_hands p1 p2 M Q) (kk : ∀ r M1, Q r M1 → w M1 (pc + 3) lv (.int r :: rest)) : w M pc lv (.int p2 :: .int p1 :: .ref (gA G 16) :: rest) := by
  obtain ⟨cls9, nm9, ds9⟩ := y0
  subst hy
  exact g_callV (r := (RX1, TX1, 28)) (ci := 0) hw [.int p1, .int p2] (nA := 2) rfl d q390 q391 q392 q98 q393 (by decide +kernel) rfl rfl hrest rfl (by omega : kf - 1 + 1 ≤ kf) hkd (mX1_hands (kf := kf - 1) (by omega) G p1 p2 M Q h) (fun _ _ _ q => q.elim) (fun v M1 h => by obtain ⟨r, rfl, h⟩ := h; exact kk r M1 h)
theorem sX0_91 {y0 : MethodName} {cc : ByteArray} {nL : Nat} {ret : Option FieldType} {hh : List (Nat × Nat × Nat × Nat)} {kf : Nat} {G : gG} {Qv : Option Value → gM → Prop} {E : String → Nat → gM → Prop} {w : gM → Nat → List (Nat × Value) → List Value → Prop} {M : gM} {pc : Nat} {lv : List (Nat × Value)} {rest : List Value} (hw : gX y0 cc nL ret hh kf G Qv E w) (hy : y0.cls = RX0) {p1 : Int32} {p2 : Int32} {Q : Int32 → gM → Prop} (d : decode cc pc = .ok (.invokevirtual 91, 3)) (hrest : Nat.ble ((rest.map Value.category).sum) 8 = true) (hk : 3 + 1 ≤ kf) (hkd : gk M 268 = 7) (h : fX7_hands p1 p2 M Q) (kk : ∀ r M1, Q r M1 → w M1 (pc + 3) lv (.int r :: rest)) : w M pc lv (.int p2 :: .int p1 :: .ref (gA G 268) :: rest) := by
  obtain ⟨cls9, nm9, ds9⟩ := y0
  subst hy
  exact g_callV (r := (RX7, TX7, 58)) (ci := 6) hw [.int p1, .int p2] (nA := 2) rfl d q1362 q1363 q1364 q104 q1365 (by decide +kernel) rfl rfl hrest rfl (by omega : kf - 1 + 1 ≤ kf) hkd (mX7_hands (kf := kf - 1) (by omega) G p1 p2 M Q h) (fun _ _ _ q => q.elim) (fun v M1 h => by obtain ⟨r, rfl, h⟩ := h; exact kk r M1 h)
theorem sX0_92 {y0 : MethodName} {cc : ByteArray} {nL : Nat} {ret : Option FieldType} {hh : List (Nat × Nat × Nat × Nat)} {kf : Nat} {G : gG} {Qv : Option Value → gM → Prop} {E : String → Nat → gM → Prop} {w : gM → Nat → List (Nat × Value) → List Value → Prop} {M : gM} {pc : Nat} {lv : List (Nat × Value)} {rest : List Value} (hw : gX y0 cc nL ret hh kf G Qv E w) (hy : y0.cls = RX0) {p2 : Int32} {p3 : Int32} {p4 : Int32} {p5 : Int32} {p6 : Nat} {Q : Int32 → gM → Prop} (d : decode cc pc = .ok (.invokestatic 92, 3)) (hrest : Nat.ble ((rest.map Value.category).sum) 8 = true) (hk : 10 + 1 ≤ kf) (h : fX0_bank p2 p3 p4 p5 p6 M Q) (kk : ∀ r M1, Q r M1 → w M1 (pc + 3) lv (.int r :: rest)) : w M pc lv (.ref (gA G p6) :: .int p5 :: .int p4 :: .int p3 :: .int p2 :: .ref (gA G 16) :: rest) := by
  obtain ⟨cls9, nm9, ds9⟩ := y0
  subst hy
  exact g_callSW hw [.ref (gA G 16), .int p2, .int p3, .int p4, .int p5, .ref (gA G p6)] (nA := 6) rfl d q963 q964 q97 q965 (by decide +kernel) rfl hrest rfl (by omega : kf - 1 + 1 ≤ kf) (mX0_bank (kf := kf - 1) (by omega) G p2 p3 p4 p5 p6 M Q h) (fun _ _ _ q => q.elim) (fun v M1 h => by obtain ⟨r, rfl, h⟩ := h; exact kk r M1 h)
theorem sX0_97 {y0 : MethodName} {cc : ByteArray} {nL : Nat} {ret : Option FieldType} {hh : List (Nat × Nat × Nat × Nat)} {kf : Nat} {G : gG} {Qv : Option Value → gM → Prop} {E : String → Nat → gM → Prop} {w : gM → Nat → List (Nat × Value) → List Value → Prop} {M : gM} {pc : Nat} {lv : List (Nat × Value)} {rest : List Value} (hw : gX y0 cc nL ret hh kf G Qv E w) (hy : y0.cls = RX0) {p1 : Int32} {p2 : Int32} {p3 : Int32} {p4 : Int32} {Q : Int32 → gM → Prop} (d : decode cc pc = .ok (.invokevirtual 97, 3)) (hrest : Nat.ble ((rest.map Value.category).sum) 8 = true) (hk : 4 + 1 ≤ kf) (hkd : gk M 268 = 7) (h : fX7_bank p1 p2 p3 p4 M Q) (kk : ∀ r M1, Q r M1 → w M1 (pc + 3) lv (.int r :: rest)) : w M pc lv (.int p4 :: .int p3 :: .int p2 :: .int p1 :: .ref (gA G 268) :: rest) := by
  obtain ⟨cls9, nm9, ds9⟩ := y0
  subst hy
  exact g_callV (r := (RX7, TX7, 58)) (ci := 6) hw [.int p1, .int p2, .int p3, .int p4] (nA := 4) rfl d q1374 q1375 q1376 q104 q1377 (by decide +kernel) rfl rfl hrest rfl (by omega : kf - 1 + 1 ≤ kf) hkd (mX7_bank (kf := kf - 1) (by omega) G p1 p2 p3 p4 M Q h) (fun _ _ _ q => q.elim) (fun v M1 h => by obtain ⟨r, rfl, h⟩ := h; exact kk r M1 h)
theorem sX0_98 {y0 : MethodName} {cc : ByteArray} {nL : Nat} {ret : Option FieldType} {hh : List (Nat × Nat × Nat × Nat)} {kf : Nat} {G : gG} {Qv : Option Value → gM → Prop} {E : String → Nat → gM → Prop} {w : gM → Nat → List (Nat × Value) → List Value → Prop} {M : gM} {pc : Nat} {lv : List (Nat × Value)} {rest : List Value} (hw : gX y0 cc nL ret hh kf G Qv E w) (hy : y0.cls = RX0)  {Q : Int32 → gM → Prop} (d : decode cc pc = .ok (.invokevirtual 98, 3)) (hrest : Nat.ble ((rest.map Value.category).sum) 8 = true) (hk : 1 + 1 ≤ kf) (hkd : gk M 268 = 7) (h : fX7_thrown M Q) (kk : ∀ r M1, Q r M1 → w M1 (pc + 3) lv (.int r :: rest)) : w M pc lv (.ref (gA G 268) :: rest) := by
  obtain ⟨cls9, nm9, ds9⟩ := y0
  subst hy
  exact g_callV (r := (RX7, TX7, 58)) (ci := 6) hw [] (nA := 0) rfl d q1110 q1111 q1112 q104 q1113 (by decide +kernel) rfl rfl hrest rfl (by omega : kf - 1 + 1 ≤ kf) hkd (mX7_thrown (kf := kf - 1) (by omega) G M Q h) (fun _ _ _ q => q.elim) (fun v M1 h => by obtain ⟨r, rfl, h⟩ := h; exact kk r M1 h)
theorem sX0_102 {y0 : MethodName} {cc : ByteArray} {nL : Nat} {ret : Option FieldType} {hh : List (Nat × Nat × Nat × Nat)} {kf : Nat} {G : gG} {Qv : Option Value → gM → Prop} {E : String → Nat → gM → Prop} {w : gM → Nat → List (Nat × Value) → List Value → Prop} {M : gM} {pc : Nat} {lv : List (Nat × Value)} {rest : List Value} (hw : gX y0 cc nL ret hh kf G Qv E w) (hy : y0.cls = RX0) {p2 : Int32} {p3 : Int32} {p4 : Int32} {p5 : Int32} {p6 : Nat} {Q : Int32 → gM → Prop} (d : decode cc pc = .ok (.invokestatic 102, 3)) (hrest : Nat.ble ((rest.map Value.category).sum) 8 = true) (hk : 104 + 1 ≤ kf) (h : fX0_river p2 p3 p4 p5 p6 M Q) (kk : ∀ r M1, Q r M1 → w M1 (pc + 3) lv (.int r :: rest)) : w M pc lv (.ref (gA G p6) :: .int p5 :: .int p4 :: .int p3 :: .int p2 :: .ref (gA G 16) :: rest) := by
  obtain ⟨cls9, nm9, ds9⟩ := y0
  subst hy
  exact g_callSW hw [.ref (gA G 16), .int p2, .int p3, .int p4, .int p5, .ref (gA G p6)] (nA := 6) rfl d q995 q996 q97 q997 (by decide +kernel) rfl hrest rfl (by omega : kf - 1 + 1 ≤ kf) (mX0_river (kf := kf - 1) (by omega) G p2 p3 p4 p5 p6 M Q h) (fun _ _ _ q => q.elim) (fun v M1 h => by obtain ⟨r, rfl, h⟩ := h; exact kk r M1 h)
theorem sX0_104 {y0 : MethodName} {cc : ByteArray} {nL : Nat} {ret : Option FieldType} {hh : List (Nat × Nat × Nat × Nat)} {kf : Nat} {G : gG} {Qv : Option Value → gM → Prop} {E : String → Nat → gM → Prop} {w : gM → Nat → List (Nat × Value) → List Value → Prop} {M : gM} {pc : Nat} {lv : List (Nat × Value)} {rest : List Value} (hw : gX y0 cc nL ret hh kf G Qv E w) (hy : y0.cls = RX0) {p1 : Int32} {p2 : Int32} {p3 : Int32} {p4 : Int32} {Q : Int64 → gM → Prop} (d : decode cc pc = .ok (.invokevirtual 104, 3)) (hrest : Nat.ble ((rest.map Value.category).sum) 8 = true) (hk : 5 + 1 ≤ kf) (hkd : gk M 268 = 7) (h : fX7_river p1 p2 p3 p4 M Q) (kk : ∀ r M1, Q r M1 → w M1 (pc + 3) lv (.long r :: rest)) : w M pc lv (.int p4 :: .int p3 :: .int p2 :: .int p1 :: .ref (gA G 268) :: rest) := by
  obtain ⟨cls9, nm9, ds9⟩ := y0
  subst hy
  exact g_callV (r := (RX7, TX7, 58)) (ci := 6) hw [.int p1, .int p2, .int p3, .int p4] (nA := 4) rfl d q1389 q1390 q1391 q104 q1392 (by decide +kernel) rfl rfl hrest rfl (by omega : kf - 1 + 1 ≤ kf) hkd (mX7_river (kf := kf - 1) (by omega) G p1 p2 p3 p4 M Q h) (fun _ _ _ q => q.elim) (fun v M1 h => by obtain ⟨r, rfl, h⟩ := h; exact kk r M1 h)
theorem sX0_105 {y0 : MethodName} {cc : ByteArray} {nL : Nat} {ret : Option FieldType} {hh : List (Nat × Nat × Nat × Nat)} {kf : Nat} {G : gG} {Qv : Option Value → gM → Prop} {E : String → Nat → gM → Prop} {w : gM → Nat → List (Nat × Value) → List Value → Prop} {M : gM} {pc : Nat} {lv : List (Nat × Value)} {rest : List Value} (hw : gX y0 cc nL ret hh kf G Qv E w) (hy : y0.cls = RX0) {p2 : Int32} {p3 : Int32} {p4 : Int32} {p5 : Int32} {p6 : Nat} {Q : Int32 → gM → Prop} (d : decode cc pc = .ok (.invokestatic 105, 3)) (hrest : Nat.ble ((rest.map Value.category).sum) 8 = true) (hk : 104 + 1 ≤ kf) (h : fX0_part p2 p3 p4 p5 p6 M Q) (kk : ∀ r M1, Q r M1 → w M1 (pc + 3) lv (.int r :: rest)) : w M pc lv (.ref (gA G p6) :: .int p5 :: .int p4 :: .int p3 :: .int p2 :: .ref (gA G 16) :: rest) := by
  obtain ⟨cls9, nm9, ds9⟩ := y0
  subst hy
  exact g_callSW hw [.ref (gA G 16), .int p2, .int p3, .int p4, .int p5, .ref (gA G p6)] (nA := 6) rfl d q1006 q1007 q97 q1008 (by decide +kernel) rfl hrest rfl (by omega : kf - 1 + 1 ≤ kf) (mX0_part (kf := kf - 1) (by omega) G p2 p3 p4 p5 p6 M Q h) (fun _ _ _ q => q.elim) (fun v M1 h => by obtain ⟨r, rfl, h⟩ := h; exact kk r M1 h)
theorem sX0_107 {y0 : MethodName} {cc : ByteArray} {nL : Nat} {ret : Option FieldType} {hh : List (Nat × Nat × Nat × Nat)} {kf : Nat} {G : gG} {Qv : Option Value → gM → Prop} {E : String → Nat → gM → Prop} {w : gM → Nat → List (Nat × Value) → List Value → Prop} {M : gM} {pc : Nat} {lv : List (Nat × Value)} {rest : List Value} (hw : gX y0 cc nL ret hh kf G Qv E w) (hy : y0.cls = RX0) {p1 : Int32} {p2 : Int32} {p3 : Int32} {p4 : Int32} {Q : Int64 → gM → Prop} (d : decode cc pc = .ok (.invokevirtual 107, 3)) (hrest : Nat.ble ((rest.map Value.category).sum) 8 = true) (hk : 5 + 1 ≤ kf) (hkd : gk M 268 = 7) (h : fX7_part p1 p2 p3 p4 M Q) (kk : ∀ r M1, Q r M1 → w M1 (pc + 3) lv (.long r :: rest)) : w M pc lv (.int p4 :: .int p3 :: .int p2 :: .int p1 :: .ref (gA G 268) :: rest) := by
  obtain ⟨cls9, nm9, ds9⟩ := y0
  subst hy
  exact g_callV (r := (RX7, TX7, 58)) (ci := 6) hw [.int p1, .int p2, .int p3, .int p4] (nA := 4) rfl d q1419 q1420 q1421 q104 q1422 (by decide +kernel) rfl rfl hrest rfl (by omega : kf - 1 + 1 ≤ kf) hkd (mX7_part (kf := kf - 1) (by omega) G p1 p2 p3 p4 M Q h) (fun _ _ _ q => q.elim) (fun v M1 h => by obtain ⟨r, rfl, h⟩ := h; exact kk r M1 h)
theorem sX0_108 {y0 : MethodName} {cc : ByteArray} {nL : Nat} {ret : Option FieldType} {hh : List (Nat × Nat × Nat × Nat)} {kf : Nat} {G : gG} {Qv : Option Value → gM → Prop} {E : String → Nat → gM → Prop} {w : gM → Nat → List (Nat × Value) → List Value → Prop} {M : gM} {pc : Nat} {lv : List (Nat × Value)} {rest : List Value} (hw : gX y0 cc nL ret hh kf G Qv E w) (hy : y0.cls = RX0) {p2 : Int32} {p3 : Int32} {p4 : Int32} {p5 : Nat} {Q : Int32 → gM → Prop} (d : decode cc pc = .ok (.invokestatic 108, 3)) (hrest : Nat.ble ((rest.map Value.category).sum) 8 = true) (hk : 104 + 1 ≤ kf) (h : fX0_bounds p2 p3 p4 p5 M Q) (kk : ∀ r M1, Q r M1 → w M1 (pc + 3) lv (.int r :: rest)) : w M pc lv (.ref (gA G p5) :: .int p4 :: .int p3 :: .int p2 :: .ref (gA G 16) :: rest) := by
  obtain ⟨cls9, nm9, ds9⟩ := y0
  subst hy
  exact g_callSW hw [.ref (gA G 16), .int p2, .int p3, .int p4, .ref (gA G p5)] (nA := 5) rfl d q1013 q1014 q97 q1015 (by decide +kernel) rfl hrest rfl (by omega : kf - 1 + 1 ≤ kf) (mX0_bounds (kf := kf - 1) (by omega) G p2 p3 p4 p5 M Q h) (fun _ _ _ q => q.elim) (fun v M1 h => by obtain ⟨r, rfl, h⟩ := h; exact kk r M1 h)
theorem sX0_111 {y0 : MethodName} {cc : ByteArray} {nL : Nat} {ret : Option FieldType} {hh : List (Nat × Nat × Nat × Nat)} {kf : Nat} {G : gG} {Qv : Option Value → gM → Prop} {E : String → Nat → gM → Prop} {w : gM → Nat → List (Nat × Value) → List Value → Prop} {M : gM} {pc : Nat} {lv : List (Nat × Value)} {rest : List Value} (hw : gX y0 cc nL ret hh kf G Qv E w) (hy : y0.cls = RX0) {p1 : Int32} {p2 : Int32} {p3 : Int32} {Q : Int64 → gM → Prop} (d : decode cc pc = .ok (.invokevirtual 111, 3)) (hrest : Nat.ble ((rest.map Value.category).sum) 8 = true) (hk : 5 + 1 ≤ kf) (hkd : gk M 268 = 7) (h : fX7_bounds p1 p2 p3 M Q) (kk : ∀ r M1, Q r M1 → w M1 (pc + 3) lv (.long r :: rest)) : w M pc lv (.int p3 :: .int p2 :: .int p1 :: .ref (gA G 268) :: rest) := by
  obtain ⟨cls9, nm9, ds9⟩ := y0
  subst hy
  exact g_callV (r := (RX7, TX7, 58)) (ci := 6) hw [.int p1, .int p2, .int p3] (nA := 3) rfl d q1423 q1424 q1425 q104 q1426 (by decide +kernel) rfl rfl hrest rfl (by omega : kf - 1 + 1 ≤ kf) hkd (mX7_bounds (kf := kf - 1) (by omega) G p1 p2 p3 M Q h) (fun _ _ _ q => q.elim) (fun v M1 h => by obtain ⟨r, rfl, h⟩ := h; exact kk r M1 h)
theorem sX0_112 {y0 : MethodName} {cc : ByteArray} {nL : Nat} {ret : Option FieldType} {hh : List (Nat × Nat × Nat × Nat)} {kf : Nat} {G : gG} {Qv : Option Value → gM → Prop} {E : String → Nat → gM → Prop} {w : gM → Nat → List (Nat × Value) → List Value → Prop} {M : gM} {pc : Nat} {lv : List (Nat × Value)} {rest : List Value} (hw : gX y0 cc nL ret hh kf G Qv E w) (hy : y0.cls = RX0) {p1 : Int32} {p2 : Int32} {Q : Int32 → gM → Prop} (d : decode cc pc = .ok (.invokevirtual 112, 3)) (hrest : Nat.ble ((rest.map Value.category).sum) 8 = true) (hk : 5 + 1 ≤ kf) (hkd : gk M 16 = 1) (h : fX1_swings p1 p2 M Q) (kk : ∀ r M1, Q r M1 → w M1 (pc + 3) lv (.int r :: rest)) : w M pc lv (.int p2 :: .int p1 :: .ref (gA G 16) :: rest) := by
  obtain ⟨cls9, nm9, ds9⟩ := y0
  subst hy
  exact g_callV (r := (RX1, TX1, 28)) (ci := 0) hw [.int p1, .int p2] (nA := 2) rfl d q406 q407 q408 q98 q409 (by decide +kernel) rfl rfl hrest rfl (by omega : kf - 1 + 1 ≤ kf) hkd (mX1_swings (kf := kf - 1) (by omega) G p1 p2 M Q h) (fun _ _ _ q => q.elim) (fun v M1 h => by obtain ⟨r, rfl, h⟩ := h; exact kk r M1 h)
theorem sX0_115 {y0 : MethodName} {cc : ByteArray} {nL : Nat} {ret : Option FieldType} {hh : List (Nat × Nat × Nat × Nat)} {kf : Nat} {G : gG} {Qv : Option Value → gM → Prop} {E : String → Nat → gM → Prop} {w : gM → Nat → List (Nat × Value) → List Value → Prop} {M : gM} {pc : Nat} {lv : List (Nat × Value)} {rest : List Value} (hw : gX y0 cc nL ret hh kf G Qv E w) (hy : y0.cls = RX0) {p1 : Int32} {p2 : Int32} {Q : Int32 → gM → Prop} (d : decode cc pc = .ok (.invokevirtual 115, 3)) (hrest : Nat.ble ((rest.map Value.category).sum) 8 = true) (hk : 5 + 1 ≤ kf) (hkd : gk M 268 = 7) (h : fX7_swings p1 p2 M Q) (kk : ∀ r M1, Q r M1 → w M1 (pc + 3) lv (.int r :: rest)) : w M pc lv (.int p2 :: .int p1 :: .ref (gA G 268) :: rest) := by
  obtain ⟨cls9, nm9, ds9⟩ := y0
  subst hy
  exact g_callV (r := (RX7, TX7, 58)) (ci := 6) hw [.int p1, .int p2] (nA := 2) rfl d q1435 q1436 q1437 q104 q1438 (by decide +kernel) rfl rfl hrest rfl (by omega : kf - 1 + 1 ≤ kf) hkd (mX7_swings (kf := kf - 1) (by omega) G p1 p2 M Q h) (fun _ _ _ q => q.elim) (fun v M1 h => by obtain ⟨r, rfl, h⟩ := h; exact kk r M1 h)
theorem sX0_116 {y0 : MethodName} {cc : ByteArray} {nL : Nat} {ret : Option FieldType} {hh : List (Nat × Nat × Nat × Nat)} {kf : Nat} {G : gG} {Qv : Option Value → gM → Prop} {E : String → Nat → gM → Prop} {w : gM → Nat → List (Nat × Value) → List Value → Prop} {M : gM} {pc : Nat} {lv : List (Nat × Value)} {rest : List Value} (hw : gX y0 cc nL ret hh kf G Qv E w) (hy : y0.cls = RX0) {p1 : Int32} {p2 : Int32} {Q : Int32 → gM → Prop} (d : decode cc pc = .ok (.invokevirtual 116, 3)) (hrest : Nat.ble ((rest.map Value.category).sum) 8 = true) (hk : 5 + 1 ≤ kf) (hkd : gk M 16 = 1) (h : fX1_next p1 p2 M Q) (kk : ∀ r M1, Q r M1 → w M1 (pc + 3) lv (.int r :: rest)) : w M pc lv (.int p2 :: .int p1 :: .ref (gA G 16) :: rest) := by
  obtain ⟨cls9, nm9, ds9⟩ := y0
  subst hy
  exact g_callV (r := (RX1, TX1, 28)) (ci := 0) hw [.int p1, .int p2] (nA := 2) rfl d q445 q446 q447 q98 q448 (by decide +kernel) rfl rfl hrest rfl (by omega : kf - 1 + 1 ≤ kf) hkd (mX1_next (kf := kf - 1) (by omega) G p1 p2 M Q h) (fun _ _ _ q => q.elim) (fun v M1 h => by obtain ⟨r, rfl, h⟩ := h; exact kk r M1 h)
theorem sX0_119 {y0 : MethodName} {cc : ByteArray} {nL : Nat} {ret : Option FieldType} {hh : List (Nat × Nat × Nat × Nat)} {kf : Nat} {G : gG} {Qv : Option Value → gM → Prop} {E : String → Nat → gM → Prop} {w : gM → Nat → List (Nat × Value) → List Value → Prop} {M : gM} {pc : Nat} {lv : List (Nat × Value)} {rest : List Value} (hw : gX y0 cc nL ret hh kf G Qv E w) (hy : y0.cls = RX0) {p1 : Int32} {p2 : Int32} {Q : Int32 → gM → Prop} (d : decode cc pc = .ok (.invokevirtual 119, 3)) (hrest : Nat.ble ((rest.map Value.category).sum) 8 = true) (hk : 5 + 1 ≤ kf) (hkd : gk M 268 = 7) (h : fX7_next p1 p2 M Q) (kk : ∀ r M1, Q r M1 → w M1 (pc + 3) lv (.int r :: rest)) : w M pc lv (.int p2 :: .int p1 :: .ref (gA G 268) :: rest) := by
  obtain ⟨cls9, nm9, ds9⟩ := y0
  subst hy
  exact g_callV (r := (RX7, TX7, 58)) (ci := 6) hw [.int p1, .int p2] (nA := 2) rfl d q1439 q1440 q1441 q104 q1442 (by decide +kernel) rfl rfl hrest rfl (by omega : kf - 1 + 1 ≤ kf) hkd (mX7_next (kf := kf - 1) (by omega) G p1 p2 M Q h) (fun _ _ _ q => q.elim) (fun v M1 h => by obtain ⟨r, rfl, h⟩ := h; exact kk r M1 h)
theorem sX0_120 {y0 : MethodName} {cc : ByteArray} {nL : Nat} {ret : Option FieldType} {hh : List (Nat × Nat × Nat × Nat)} {kf : Nat} {G : gG} {Qv : Option Value → gM → Prop} {E : String → Nat → gM → Prop} {w : gM → Nat → List (Nat × Value) → List Value → Prop} {M : gM} {pc : Nat} {lv : List (Nat × Value)} {rest : List Value} (hw : gX y0 cc nL ret hh kf G Qv E w) (hy : y0.cls = RX0) {p2 : Int32} {p3 : Int32} {p4 : Int32} {p5 : Int32} {p6 : Nat} {Q : Int32 → gM → Prop} (d : decode cc pc = .ok (.invokestatic 120, 3)) (hrest : Nat.ble ((rest.map Value.category).sum) 8 = true) (hk : 104 + 1 ≤ kf) (h : fX0_sheets p2 p3 p4 p5 p6 M Q) (kk : ∀ r M1, Q r M1 → w M1 (pc + 3) lv (.int r :: rest)) : w M pc lv (.ref (gA G p6) :: .int p5 :: .int p4 :: .int p3 :: .int p2 :: .ref (gA G 16) :: rest) := by
  obtain ⟨cls9, nm9, ds9⟩ := y0
  subst hy
  exact g_callSW hw [.ref (gA G 16), .int p2, .int p3, .int p4, .int p5, .ref (gA G p6)] (nA := 6) rfl d q1020 q1021 q97 q1022 (by decide +kernel) rfl hrest rfl (by omega : kf - 1 + 1 ≤ kf) (mX0_sheets (kf := kf - 1) (by omega) G p2 p3 p4 p5 p6 M Q h) (fun _ _ _ q => q.elim) (fun v M1 h => by obtain ⟨r, rfl, h⟩ := h; exact kk r M1 h)
theorem sX0_123 {y0 : MethodName} {cc : ByteArray} {nL : Nat} {ret : Option FieldType} {hh : List (Nat × Nat × Nat × Nat)} {kf : Nat} {G : gG} {Qv : Option Value → gM → Prop} {E : String → Nat → gM → Prop} {w : gM → Nat → List (Nat × Value) → List Value → Prop} {M : gM} {pc : Nat} {lv : List (Nat × Value)} {rest : List Value} (hw : gX y0 cc nL ret hh kf G Qv E w) (hy : y0.cls = RX0) {p1 : Int32} {p2 : Int32} {p3 : Int32} {p4 : Int32} {Q : Int64 → gM → Prop} (d : decode cc pc = .ok (.invokevirtual 123, 3)) (hrest : Nat.ble ((rest.map Value.category).sum) 8 = true) (hk : 4 + 1 ≤ kf) (hkd : gk M 268 = 7) (h : fX7_sheets p1 p2 p3 p4 M Q) (kk : ∀ r M1, Q r M1 → w M1 (pc + 3) lv (.long r :: rest)) : w M pc lv (.int p4 :: .int p3 :: .int p2 :: .int p1 :: .ref (gA G 268) :: rest) := by
  obtain ⟨cls9, nm9, ds9⟩ := y0
  subst hy
  exact g_callV (r := (RX7, TX7, 58)) (ci := 6) hw [.int p1, .int p2, .int p3, .int p4] (nA := 4) rfl d q1443 q1444 q1445 q104 q1446 (by decide +kernel) rfl rfl hrest rfl (by omega : kf - 1 + 1 ≤ kf) hkd (mX7_sheets (kf := kf - 1) (by omega) G p1 p2 p3 p4 M Q h) (fun _ _ _ q => q.elim) (fun v M1 h => by obtain ⟨r, rfl, h⟩ := h; exact kk r M1 h)
theorem sX0_124 {y0 : MethodName} {cc : ByteArray} {nL : Nat} {ret : Option FieldType} {hh : List (Nat × Nat × Nat × Nat)} {kf : Nat} {G : gG} {Qv : Option Value → gM → Prop} {E : String → Nat → gM → Prop} {w : gM → Nat → List (Nat × Value) → List Value → Prop} {M : gM} {pc : Nat} {lv : List (Nat × Value)} {rest : List Value} (hw : gX y0 cc nL ret hh kf G Qv E w) (hy : y0.cls = RX0) {p2 : Int32} {p3 : Int32} {p4 : Int32} {p5 : Int32} {p6 : Nat} {Q : Int32 → gM → Prop} (d : decode cc pc = .ok (.invokestatic 124, 3)) (hrest : Nat.ble ((rest.map Value.category).sum) 8 = true) (hk : 104 + 1 ≤ kf) (h : fX0_choosing p2 p3 p4 p5 p6 M Q) (kk : ∀ r M1, Q r M1 → w M1 (pc + 3) lv (.int r :: rest)) : w M pc lv (.ref (gA G p6) :: .int p5 :: .int p4 :: .int p3 :: .int p2 :: .ref (gA G 16) :: rest) := by
  obtain ⟨cls9, nm9, ds9⟩ := y0
  subst hy
  exact g_callSW hw [.ref (gA G 16), .int p2, .int p3, .int p4, .int p5, .ref (gA G p6)] (nA := 6) rfl d q1031 q1032 q97 q1033 (by decide +kernel) rfl hrest rfl (by omega : kf - 1 + 1 ≤ kf) (mX0_choosing (kf := kf - 1) (by omega) G p2 p3 p4 p5 p6 M Q h) (fun _ _ _ q => q.elim) (fun v M1 h => by obtain ⟨r, rfl, h⟩ := h; exact kk r M1 h)
theorem sX0_126 {y0 : MethodName} {cc : ByteArray} {nL : Nat} {ret : Option FieldType} {hh : List (Nat × Nat × Nat × Nat)} {kf : Nat} {G : gG} {Qv : Option Value → gM → Prop} {E : String → Nat → gM → Prop} {w : gM → Nat → List (Nat × Value) → List Value → Prop} {M : gM} {pc : Nat} {lv : List (Nat × Value)} {rest : List Value} (hw : gX y0 cc nL ret hh kf G Qv E w) (hy : y0.cls = RX0) {p1 : Int32} {p2 : Int32} {p3 : Int32} {p4 : Int32} {Q : Int64 → gM → Prop} (d : decode cc pc = .ok (.invokevirtual 126, 3)) (hrest : Nat.ble ((rest.map Value.category).sum) 8 = true) (hk : 5 + 1 ≤ kf) (hkd : gk M 268 = 7) (h : fX7_choosing p1 p2 p3 p4 M Q) (kk : ∀ r M1, Q r M1 → w M1 (pc + 3) lv (.long r :: rest)) : w M pc lv (.int p4 :: .int p3 :: .int p2 :: .int p1 :: .ref (gA G 268) :: rest) := by
  obtain ⟨cls9, nm9, ds9⟩ := y0
  subst hy
  exact g_callV (r := (RX7, TX7, 58)) (ci := 6) hw [.int p1, .int p2, .int p3, .int p4] (nA := 4) rfl d q1447 q1448 q1449 q104 q1450 (by decide +kernel) rfl rfl hrest rfl (by omega : kf - 1 + 1 ≤ kf) hkd (mX7_choosing (kf := kf - 1) (by omega) G p1 p2 p3 p4 M Q h) (fun _ _ _ q => q.elim) (fun v M1 h => by obtain ⟨r, rfl, h⟩ := h; exact kk r M1 h)
theorem sX0_127 {y0 : MethodName} {cc : ByteArray} {nL : Nat} {ret : Option FieldType} {hh : List (Nat × Nat × Nat × Nat)} {kf : Nat} {G : gG} {Qv : Option Value → gM → Prop} {E : String → Nat → gM → Prop} {w : gM → Nat → List (Nat × Value) → List Value → Prop} {M : gM} {pc : Nat} {lv : List (Nat × Value)} {rest : List Value} (hw : gX y0 cc nL ret hh kf G Qv E w) (hy : y0.cls = RX0) {p1 : Int32} {p2 : Int32} {p3 : Int32} {Q : Int64 → gM → Prop} (d : decode cc pc = .ok (.invokevirtual 127, 3)) (hrest : Nat.ble ((rest.map Value.category).sum) 8 = true) (hk : 103 + 1 ≤ kf) (hkd : gk M 16 = 1) (h : fX1_odds p1 p2 p3 M Q) (kk : ∀ r M1, Q r M1 → w M1 (pc + 3) lv (.long r :: rest)) : w M pc lv (.int p3 :: .int p2 :: .int p1 :: .ref (gA G 16) :: rest) := by
  obtain ⟨cls9, nm9, ds9⟩ := y0
  subst hy
  exact g_callV (r := (RX1, TX1, 28)) (ci := 0) hw [.int p1, .int p2, .int p3] (nA := 3) rfl d q449 q450 q451 q98 q452 (by decide +kernel) rfl rfl hrest rfl (by omega : kf - 1 + 1 ≤ kf) hkd (mX1_odds (kf := kf - 1) (by omega) G p1 p2 p3 M Q h) (fun _ _ _ q => q.elim) (fun v M1 h => by obtain ⟨r, rfl, h⟩ := h; exact kk r M1 h)
theorem sX0_130 {y0 : MethodName} {cc : ByteArray} {nL : Nat} {ret : Option FieldType} {hh : List (Nat × Nat × Nat × Nat)} {kf : Nat} {G : gG} {Qv : Option Value → gM → Prop} {E : String → Nat → gM → Prop} {w : gM → Nat → List (Nat × Value) → List Value → Prop} {M : gM} {pc : Nat} {lv : List (Nat × Value)} {rest : List Value} (hw : gX y0 cc nL ret hh kf G Qv E w) (hy : y0.cls = RX0) {p1 : Int32} {p2 : Int32} {p3 : Int32} {Q : Int64 → gM → Prop} (d : decode cc pc = .ok (.invokevirtual 130, 3)) (hrest : Nat.ble ((rest.map Value.category).sum) 8 = true) (hk : 5 + 1 ≤ kf) (hkd : gk M 268 = 7) (h : fX7_odds p1 p2 p3 M Q) (kk : ∀ r M1, Q r M1 → w M1 (pc + 3) lv (.long r :: rest)) : w M pc lv (.int p3 :: .int p2 :: .int p1 :: .ref (gA G 268) :: rest) := by
  obtain ⟨cls9, nm9, ds9⟩ := y0
  subst hy
  exact g_callV (r := (RX7, TX7, 58)) (ci := 6) hw [.int p1, .int p2, .int p3] (nA := 3) rfl d q1455 q1456 q1457 q104 q1458 (by decide +kernel) rfl rfl hrest rfl (by omega : kf - 1 + 1 ≤ kf) hkd (mX7_odds (kf := kf - 1) (by omega) G p1 p2 p3 M Q h) (fun _ _ _ q => q.elim) (fun v M1 h => by obtain ⟨r, rfl, h⟩ := h; exact kk r M1 h)
theorem sX0_131 {y0 : MethodName} {cc : ByteArray} {nL : Nat} {ret : Option FieldType} {hh : List (Nat × Nat × Nat × Nat)} {kf : Nat} {G : gG} {Qv : Option Value → gM → Prop} {E : String → Nat → gM → Prop} {w : gM → Nat → List (Nat × Value) → List Value → Prop} {M : gM} {pc : Nat} {lv : List (Nat × Value)} {rest : List Value} (hw : gX y0 cc nL ret hh kf G Qv E w) (hy : y0.cls = RX0) {p2 : Int32} {p3 : Int32} {p4 : Int32} {p5 : Nat} {Q : Int32 → gM → Prop} (d : decode cc pc = .ok (.invokestatic 131, 3)) (hrest : Nat.ble ((rest.map Value.category).sum) 8 = true) (hk : 104 + 1 ≤ kf) (h : fX0_beside p2 p3 p4 p5 M Q) (kk : ∀ r M1, Q r M1 → w M1 (pc + 3) lv (.int r :: rest)) : w M pc lv (.ref (gA G p5) :: .int p4 :: .int p3 :: .int p2 :: .ref (gA G 16) :: rest) := by
  obtain ⟨cls9, nm9, ds9⟩ := y0
  subst hy
  exact g_callSW hw [.ref (gA G 16), .int p2, .int p3, .int p4, .ref (gA G p5)] (nA := 5) rfl d q1038 q1039 q97 q1040 (by decide +kernel) rfl hrest rfl (by omega : kf - 1 + 1 ≤ kf) (mX0_beside (kf := kf - 1) (by omega) G p2 p3 p4 p5 M Q h) (fun _ _ _ q => q.elim) (fun v M1 h => by obtain ⟨r, rfl, h⟩ := h; exact kk r M1 h)
theorem sX0_133 {y0 : MethodName} {cc : ByteArray} {nL : Nat} {ret : Option FieldType} {hh : List (Nat × Nat × Nat × Nat)} {kf : Nat} {G : gG} {Qv : Option Value → gM → Prop} {E : String → Nat → gM → Prop} {w : gM → Nat → List (Nat × Value) → List Value → Prop} {M : gM} {pc : Nat} {lv : List (Nat × Value)} {rest : List Value} (hw : gX y0 cc nL ret hh kf G Qv E w) (hy : y0.cls = RX0) {p1 : Int32} {p2 : Int32} {p3 : Int32} {Q : Int64 → gM → Prop} (d : decode cc pc = .ok (.invokevirtual 133, 3)) (hrest : Nat.ble ((rest.map Value.category).sum) 8 = true) (hk : 4 + 1 ≤ kf) (hkd : gk M 268 = 7) (h : fX7_beside p1 p2 p3 M Q) (kk : ∀ r M1, Q r M1 → w M1 (pc + 3) lv (.long r :: rest)) : w M pc lv (.int p3 :: .int p2 :: .int p1 :: .ref (gA G 268) :: rest) := by
  obtain ⟨cls9, nm9, ds9⟩ := y0
  subst hy
  exact g_callV (r := (RX7, TX7, 58)) (ci := 6) hw [.int p1, .int p2, .int p3] (nA := 3) rfl d q1461 q1462 q1463 q104 q1464 (by decide +kernel) rfl rfl hrest rfl (by omega : kf - 1 + 1 ≤ kf) hkd (mX7_beside (kf := kf - 1) (by omega) G p1 p2 p3 M Q h) (fun _ _ _ q => q.elim) (fun v M1 h => by obtain ⟨r, rfl, h⟩ := h; exact kk r M1 h)
theorem sX0_134 {y0 : MethodName} {cc : ByteArray} {nL : Nat} {ret : Option FieldType} {hh : List (Nat × Nat × Nat × Nat)} {kf : Nat} {G : gG} {Qv : Option Value → gM → Prop} {E : String → Nat → gM → Prop} {w : gM → Nat → List (Nat × Value) → List Value → Prop} {M : gM} {pc : Nat} {lv : List (Nat × Value)} {rest : List Value} (hw : gX y0 cc nL ret hh kf G Qv E w) (hy : y0.cls = RX0) {p1 : Int32} {p2 : Int32} {Q : Int64 → gM → Prop} (d : decode cc pc = .ok (.invokevirtual 134, 3)) (hrest : Nat.ble ((rest.map Value.category).sum) 8 = true) (hk : 103 + 1 ≤ kf) (hkd : gk M 16 = 1) (h : fX1_alike p1 p2 M Q) (kk : ∀ r M1, Q r M1 → w M1 (pc + 3) lv (.long r :: rest)) : w M pc lv (.int p2 :: .int p1 :: .ref (gA G 16) :: rest) := by
  obtain ⟨cls9, nm9, ds9⟩ := y0
  subst hy
  exact g_callV (r := (RX1, TX1, 28)) (ci := 0) hw [.int p1, .int p2] (nA := 2) rfl d q480 q481 q482 q98 q483 (by decide +kernel) rfl rfl hrest rfl (by omega : kf - 1 + 1 ≤ kf) hkd (mX1_alike (kf := kf - 1) (by omega) G p1 p2 M Q h) (fun _ _ _ q => q.elim) (fun v M1 h => by obtain ⟨r, rfl, h⟩ := h; exact kk r M1 h)
theorem sX0_137 {y0 : MethodName} {cc : ByteArray} {nL : Nat} {ret : Option FieldType} {hh : List (Nat × Nat × Nat × Nat)} {kf : Nat} {G : gG} {Qv : Option Value → gM → Prop} {E : String → Nat → gM → Prop} {w : gM → Nat → List (Nat × Value) → List Value → Prop} {M : gM} {pc : Nat} {lv : List (Nat × Value)} {rest : List Value} (hw : gX y0 cc nL ret hh kf G Qv E w) (hy : y0.cls = RX0) {p1 : Int32} {p2 : Int32} {Q : Int64 → gM → Prop} (d : decode cc pc = .ok (.invokevirtual 137, 3)) (hrest : Nat.ble ((rest.map Value.category).sum) 8 = true) (hk : 5 + 1 ≤ kf) (hkd : gk M 268 = 7) (h : fX7_alike p1 p2 M Q) (kk : ∀ r M1, Q r M1 → w M1 (pc + 3) lv (.long r :: rest)) : w M pc lv (.int p2 :: .int p1 :: .ref (gA G 268) :: rest) := by
  obtain ⟨cls9, nm9, ds9⟩ := y0
  subst hy
  exact g_callV (r := (RX7, TX7, 58)) (ci := 6) hw [.int p1, .int p2] (nA := 2) rfl d q1465 q1466 q1467 q104 q1468 (by decide +kernel) rfl rfl hrest rfl (by omega : kf - 1 + 1 ≤ kf) hkd (mX7_alike (kf := kf - 1) (by omega) G p1 p2 M Q h) (fun _ _ _ q => q.elim) (fun v M1 h => by obtain ⟨r, rfl, h⟩ := h; exact kk r M1 h)
theorem sX0_138 {y0 : MethodName} {cc : ByteArray} {nL : Nat} {ret : Option FieldType} {hh : List (Nat × Nat × Nat × Nat)} {kf : Nat} {G : gG} {Qv : Option Value → gM → Prop} {E : String → Nat → gM → Prop} {w : gM → Nat → List (Nat × Value) → List Value → Prop} {M : gM} {pc : Nat} {lv : List (Nat × Value)} {rest : List Value} (hw : gX y0 cc nL ret hh kf G Qv E w) (hy : y0.cls = RX0) {p2 : Int32} {p3 : Int32} {p4 : Int32} {p5 : Int32} {p6 : Nat} {Q : Int32 → gM → Prop} (d : decode cc pc = .ok (.invokestatic 138, 3)) (hrest : Nat.ble ((rest.map Value.category).sum) 8 = true) (hk : 104 + 1 ≤ kf) (h : fX0_apart p2 p3 p4 p5 p6 M Q) (kk : ∀ r M1, Q r M1 → w M1 (pc + 3) lv (.int r :: rest)) : w M pc lv (.ref (gA G p6) :: .int p5 :: .int p4 :: .int p3 :: .int p2 :: .ref (gA G 16) :: rest) := by
  obtain ⟨cls9, nm9, ds9⟩ := y0
  subst hy
  exact g_callSW hw [.ref (gA G 16), .int p2, .int p3, .int p4, .int p5, .ref (gA G p6)] (nA := 6) rfl d q1045 q1046 q97 q1047 (by decide +kernel) rfl hrest rfl (by omega : kf - 1 + 1 ≤ kf) (mX0_apart (kf := kf - 1) (by omega) G p2 p3 p4 p5 p6 M Q h) (fun _ _ _ q => q.elim) (fun v M1 h => by obtain ⟨r, rfl, h⟩ := h; exact kk r M1 h)
theorem sX0_140 {y0 : MethodName} {cc : ByteArray} {nL : Nat} {ret : Option FieldType} {hh : List (Nat × Nat × Nat × Nat)} {kf : Nat} {G : gG} {Qv : Option Value → gM → Prop} {E : String → Nat → gM → Prop} {w : gM → Nat → List (Nat × Value) → List Value → Prop} {M : gM} {pc : Nat} {lv : List (Nat × Value)} {rest : List Value} (hw : gX y0 cc nL ret hh kf G Qv E w) (hy : y0.cls = RX0) {p1 : Int32} {p2 : Int32} {p3 : Int32} {p4 : Int32} {Q : Int64 → gM → Prop} (d : decode cc pc = .ok (.invokevirtual 140, 3)) (hrest : Nat.ble ((rest.map Value.category).sum) 8 = true) (hk : 5 + 1 ≤ kf) (hkd : gk M 268 = 7) (h : fX7_apart p1 p2 p3 p4 M Q) (kk : ∀ r M1, Q r M1 → w M1 (pc + 3) lv (.long r :: rest)) : w M pc lv (.int p4 :: .int p3 :: .int p2 :: .int p1 :: .ref (gA G 268) :: rest) := by
  obtain ⟨cls9, nm9, ds9⟩ := y0
  subst hy
  exact g_callV (r := (RX7, TX7, 58)) (ci := 6) hw [.int p1, .int p2, .int p3, .int p4] (nA := 4) rfl d q1469 q1470 q1471 q104 q1472 (by decide +kernel) rfl rfl hrest rfl (by omega : kf - 1 + 1 ≤ kf) hkd (mX7_apart (kf := kf - 1) (by omega) G p1 p2 p3 p4 M Q h) (fun _ _ _ q => q.elim) (fun v M1 h => by obtain ⟨r, rfl, h⟩ := h; exact kk r M1 h)
theorem sX0_143 {y0 : MethodName} {cc : ByteArray} {nL : Nat} {ret : Option FieldType} {hh : List (Nat × Nat × Nat × Nat)} {kf : Nat} {G : gG} {Qv : Option Value → gM → Prop} {E : String → Nat → gM → Prop} {w : gM → Nat → List (Nat × Value) → List Value → Prop} {M : gM} {pc : Nat} {lv : List (Nat × Value)} {rest : List Value} (hw : gX y0 cc nL ret hh kf G Qv E w) (hy : y0.cls = RX0) {p1 : Int64} {p2 : Int64} {p3 : Int64} {Q : Int32 → gM → Prop} (d : decode cc pc = .ok (.invokevirtual 143, 3)) (hrest : Nat.ble ((rest.map Value.category).sum) 8 = true) (hk : 1 + 1 ≤ kf) (hkd : gk M 16 = 1) (h : fX1_feed p1 p2 p3 M Q) (kk : ∀ r M1, Q r M1 → w M1 (pc + 3) lv (.int r :: rest)) : w M pc lv (.long p3 :: .long p2 :: .long p1 :: .ref (gA G 16) :: rest) := by
  obtain ⟨cls9, nm9, ds9⟩ := y0
  subst hy
  exact g_callV (r := (RX1, TX1, 28)) (ci := 0) hw [.long p1, .long p2, .long p3] (nA := 3) rfl d q488 q489 q490 q98 q491 (by decide +kernel) rfl rfl hrest rfl (by omega : kf - 1 + 1 ≤ kf) hkd (mX1_feed (kf := kf - 1) (by omega) G p1 p2 p3 M Q h) (fun _ _ _ q => q.elim) (fun v M1 h => by obtain ⟨r, rfl, h⟩ := h; exact kk r M1 h)
theorem sX0_147 {y0 : MethodName} {cc : ByteArray} {nL : Nat} {ret : Option FieldType} {hh : List (Nat × Nat × Nat × Nat)} {kf : Nat} {G : gG} {Qv : Option Value → gM → Prop} {E : String → Nat → gM → Prop} {w : gM → Nat → List (Nat × Value) → List Value → Prop} {M : gM} {pc : Nat} {lv : List (Nat × Value)} {rest : List Value} (hw : gX y0 cc nL ret hh kf G Qv E w) (hy : y0.cls = RX0) {p1 : Int64} {p2 : Int64} {p3 : Int64} {Q : Int32 → gM → Prop} (d : decode cc pc = .ok (.invokevirtual 147, 3)) (hrest : Nat.ble ((rest.map Value.category).sum) 8 = true) (hk : 2 + 1 ≤ kf) (hkd : gk M 268 = 7) (h : fX7_feed p1 p2 p3 M Q) (kk : ∀ r M1, Q r M1 → w M1 (pc + 3) lv (.int r :: rest)) : w M pc lv (.long p3 :: .long p2 :: .long p1 :: .ref (gA G 268) :: rest) := by
  obtain ⟨cls9, nm9, ds9⟩ := y0
  subst hy
  exact g_callV (r := (RX7, TX7, 58)) (ci := 6) hw [.long p1, .long p2, .long p3] (nA := 3) rfl d q1114 q1115 q1116 q104 q1117 (by decide +kernel) rfl rfl hrest rfl (by omega : kf - 1 + 1 ≤ kf) hkd (mX7_feed (kf := kf - 1) (by omega) G p1 p2 p3 M Q h) (fun _ _ _ q => q.elim) (fun v M1 h => by obtain ⟨r, rfl, h⟩ := h; exact kk r M1 h)
theorem sX0_148 {y0 : MethodName} {cc : ByteArray} {nL : Nat} {ret : Option FieldType} {hh : List (Nat × Nat × Nat × Nat)} {kf : Nat} {G : gG} {Qv : Option Value → gM → Prop} {E : String → Nat → gM → Prop} {w : gM → Nat → List (Nat × Value) → List Value → Prop} {M : gM} {pc : Nat} {lv : List (Nat × Value)} {rest : List Value} (hw : gX y0 cc nL ret hh kf G Qv E w) (hy : y0.cls = RX0) {p1 : Int32} {Q : Int32 → gM → Prop} (d : decode cc pc = .ok (.invokevirtual 148, 3)) (hrest : Nat.ble ((rest.map Value.category).sum) 8 = true) (hk : 52 + 1 ≤ kf) (hkd : gk M 16 = 1) (h : fX1_law p1 M Q) (kk : ∀ r M1, Q r M1 → w M1 (pc + 3) lv (.int r :: rest)) : w M pc lv (.int p1 :: .ref (gA G 16) :: rest) := by
  obtain ⟨cls9, nm9, ds9⟩ := y0
  subst hy
  exact g_callVW (r := (RX1, TX1, 28)) (ci := 0) hw [.int p1] (nA := 1) rfl d q492 q493 q494 q98 q495 (by decide +kernel) rfl rfl hrest rfl (by omega : kf - 1 + 1 ≤ kf) hkd (mX1_law (kf := kf - 1) (by omega) G p1 M Q h) (fun _ _ _ q => q.elim) (fun v M1 h => by obtain ⟨r, rfl, h⟩ := h; exact kk r M1 h)
theorem sX0_152 {y0 : MethodName} {cc : ByteArray} {nL : Nat} {ret : Option FieldType} {hh : List (Nat × Nat × Nat × Nat)} {kf : Nat} {G : gG} {Qv : Option Value → gM → Prop} {E : String → Nat → gM → Prop} {w : gM → Nat → List (Nat × Value) → List Value → Prop} {M : gM} {pc : Nat} {lv : List (Nat × Value)} {rest : List Value} (hw : gX y0 cc nL ret hh kf G Qv E w) (hy : y0.cls = RX0) {p1 : Int32} {Q : Int32 → gM → Prop} (d : decode cc pc = .ok (.invokevirtual 152, 3)) (hrest : Nat.ble ((rest.map Value.category).sum) 8 = true) (hk : 48 + 1 ≤ kf) (hkd : gk M 268 = 7) (h : fX7_law p1 M Q) (kk : ∀ r M1, Q r M1 → w M1 (pc + 3) lv (.int r :: rest)) : w M pc lv (.int p1 :: .ref (gA G 268) :: rest) := by
  obtain ⟨cls9, nm9, ds9⟩ := y0
  subst hy
  exact g_callV (r := (RX7, TX7, 58)) (ci := 6) hw [.int p1] (nA := 1) rfl d q1473 q1474 q1475 q104 q1476 (by decide +kernel) rfl rfl hrest rfl (by omega : kf - 1 + 1 ≤ kf) hkd (mX7_law (kf := kf - 1) (by omega) G p1 M Q h) (fun _ _ _ q => q.elim) (fun v M1 h => by obtain ⟨r, rfl, h⟩ := h; exact kk r M1 h)
theorem sX0_153 {y0 : MethodName} {cc : ByteArray} {nL : Nat} {ret : Option FieldType} {hh : List (Nat × Nat × Nat × Nat)} {kf : Nat} {G : gG} {Qv : Option Value → gM → Prop} {E : String → Nat → gM → Prop} {w : gM → Nat → List (Nat × Value) → List Value → Prop} {M : gM} {pc : Nat} {lv : List (Nat × Value)} {rest : List Value} (hw : gX y0 cc nL ret hh kf G Qv E w) (hy : y0.cls = RX0) {p1 : Int32} {p2 : Int32} {p3 : Int32} {p4 : Int32} {Q : Int32 → gM → Prop} (d : decode cc pc = .ok (.invokevirtual 153, 3)) (hrest : Nat.ble ((rest.map Value.category).sum) 8 = true) (hk : 1015 + 1 ≤ kf) (hkd : gk M 16 = 1) (h : fX1_world p1 p2 p3 p4 M Q) (kk : ∀ r M1, Q r M1 → w M1 (pc + 3) lv (.int r :: rest)) : w M pc lv (.int p4 :: .int p3 :: .int p2 :: .int p1 :: .ref (gA G 16) :: rest) := by
  obtain ⟨cls9, nm9, ds9⟩ := y0
  subst hy
  exact g_callV (r := (RX1, TX1, 28)) (ci := 0) hw [.int p1, .int p2, .int p3, .int p4] (nA := 4) rfl d q798 q799 q800 q98 q801 (by decide +kernel) rfl rfl hrest rfl (by omega : kf - 1 + 1 ≤ kf) hkd (mX1_world (kf := kf - 1) (by omega) G p1 p2 p3 p4 M Q h) (fun _ _ _ q => q.elim) (fun v M1 h => by obtain ⟨r, rfl, h⟩ := h; exact kk r M1 h)
theorem sX0_156 {y0 : MethodName} {cc : ByteArray} {nL : Nat} {ret : Option FieldType} {hh : List (Nat × Nat × Nat × Nat)} {kf : Nat} {G : gG} {Qv : Option Value → gM → Prop} {E : String → Nat → gM → Prop} {w : gM → Nat → List (Nat × Value) → List Value → Prop} {M : gM} {pc : Nat} {lv : List (Nat × Value)} {rest : List Value} (hw : gX y0 cc nL ret hh kf G Qv E w) (hy : y0.cls = RX0) {p1 : Int32} {p2 : Int32} {p3 : Int32} {p4 : Int32} {Q : Int32 → gM → Prop} (d : decode cc pc = .ok (.invokevirtual 156, 3)) (hrest : Nat.ble ((rest.map Value.category).sum) 8 = true) (hk : 7 + 1 ≤ kf) (hkd : gk M 268 = 7) (h : fX7_world p1 p2 p3 p4 M Q) (kk : ∀ r M1, Q r M1 → w M1 (pc + 3) lv (.int r :: rest)) : w M pc lv (.int p4 :: .int p3 :: .int p2 :: .int p1 :: .ref (gA G 268) :: rest) := by
  obtain ⟨cls9, nm9, ds9⟩ := y0
  subst hy
  exact g_callV (r := (RX7, TX7, 58)) (ci := 6) hw [.int p1, .int p2, .int p3, .int p4] (nA := 4) rfl d q1560 q1561 q1562 q104 q1563 (by decide +kernel) rfl rfl hrest rfl (by omega : kf - 1 + 1 ≤ kf) hkd (mX7_world (kf := kf - 1) (by omega) G p1 p2 p3 p4 M Q h) (fun _ _ _ q => q.elim) (fun v M1 h => by obtain ⟨r, rfl, h⟩ := h; exact kk r M1 h)
theorem sX0_157 {y0 : MethodName} {cc : ByteArray} {nL : Nat} {ret : Option FieldType} {hh : List (Nat × Nat × Nat × Nat)} {kf : Nat} {G : gG} {Qv : Option Value → gM → Prop} {E : String → Nat → gM → Prop} {w : gM → Nat → List (Nat × Value) → List Value → Prop} {M : gM} {pc : Nat} {lv : List (Nat × Value)} {rest : List Value} (hw : gX y0 cc nL ret hh kf G Qv E w) (hy : y0.cls = RX0) {p1 : Int32} {p2 : Int32} {Q : Int64 → gM → Prop} (d : decode cc pc = .ok (.invokevirtual 157, 3)) (hrest : Nat.ble ((rest.map Value.category).sum) 8 = true) (hk : 1016 + 1 ≤ kf) (hkd : gk M 16 = 1) (h : fX1_fits p1 p2 M Q) (kk : ∀ r M1, Q r M1 → w M1 (pc + 3) lv (.long r :: rest)) : w M pc lv (.int p2 :: .int p1 :: .ref (gA G 16) :: rest) := by
  obtain ⟨cls9, nm9, ds9⟩ := y0
  subst hy
  exact g_callV (r := (RX1, TX1, 28)) (ci := 0) hw [.int p1, .int p2] (nA := 2) rfl d q844 q845 q846 q98 q847 (by decide +kernel) rfl rfl hrest rfl (by omega : kf - 1 + 1 ≤ kf) hkd (mX1_fits (kf := kf - 1) (by omega) G p1 p2 M Q h) (fun _ _ _ q => q.elim) (fun v M1 h => by obtain ⟨r, rfl, h⟩ := h; exact kk r M1 h)
theorem sX0_160 {y0 : MethodName} {cc : ByteArray} {nL : Nat} {ret : Option FieldType} {hh : List (Nat × Nat × Nat × Nat)} {kf : Nat} {G : gG} {Qv : Option Value → gM → Prop} {E : String → Nat → gM → Prop} {w : gM → Nat → List (Nat × Value) → List Value → Prop} {M : gM} {pc : Nat} {lv : List (Nat × Value)} {rest : List Value} (hw : gX y0 cc nL ret hh kf G Qv E w) (hy : y0.cls = RX0) {p1 : Int32} {p2 : Int32} {Q : Int64 → gM → Prop} (d : decode cc pc = .ok (.invokevirtual 160, 3)) (hrest : Nat.ble ((rest.map Value.category).sum) 8 = true) (hk : 8 + 1 ≤ kf) (hkd : gk M 268 = 7) (h : fX7_fits p1 p2 M Q) (kk : ∀ r M1, Q r M1 → w M1 (pc + 3) lv (.long r :: rest)) : w M pc lv (.int p2 :: .int p1 :: .ref (gA G 268) :: rest) := by
  obtain ⟨cls9, nm9, ds9⟩ := y0
  subst hy
  exact g_callV (r := (RX7, TX7, 58)) (ci := 6) hw [.int p1, .int p2] (nA := 2) rfl d q1599 q1600 q1601 q104 q1602 (by decide +kernel) rfl rfl hrest rfl (by omega : kf - 1 + 1 ≤ kf) hkd (mX7_fits (kf := kf - 1) (by omega) G p1 p2 M Q h) (fun _ _ _ q => q.elim) (fun v M1 h => by obtain ⟨r, rfl, h⟩ := h; exact kk r M1 h)
theorem sX0_161 {y0 : MethodName} {cc : ByteArray} {nL : Nat} {ret : Option FieldType} {hh : List (Nat × Nat × Nat × Nat)} {kf : Nat} {G : gG} {Qv : Option Value → gM → Prop} {E : String → Nat → gM → Prop} {w : gM → Nat → List (Nat × Value) → List Value → Prop} {M : gM} {pc : Nat} {lv : List (Nat × Value)} {rest : List Value} (hw : gX y0 cc nL ret hh kf G Qv E w) (hy : y0.cls = RX0) {p1 : Int32} {Q : Int32 → gM → Prop} (d : decode cc pc = .ok (.invokevirtual 161, 3)) (hrest : Nat.ble ((rest.map Value.category).sum) 8 = true) (hk : 1016 + 1 ≤ kf) (hkd : gk M 16 = 1) (h : fX1_best p1 M Q) (kk : ∀ r M1, Q r M1 → w M1 (pc + 3) lv (.int r :: rest)) : w M pc lv (.int p1 :: .ref (gA G 16) :: rest) := by
  obtain ⟨cls9, nm9, ds9⟩ := y0
  subst hy
  exact g_callV (r := (RX1, TX1, 28)) (ci := 0) hw [.int p1] (nA := 1) rfl d q855 q856 q857 q98 q858 (by decide +kernel) rfl rfl hrest rfl (by omega : kf - 1 + 1 ≤ kf) hkd (mX1_best (kf := kf - 1) (by omega) G p1 M Q h) (fun _ _ _ q => q.elim) (fun v M1 h => by obtain ⟨r, rfl, h⟩ := h; exact kk r M1 h)
theorem sX0_164 {y0 : MethodName} {cc : ByteArray} {nL : Nat} {ret : Option FieldType} {hh : List (Nat × Nat × Nat × Nat)} {kf : Nat} {G : gG} {Qv : Option Value → gM → Prop} {E : String → Nat → gM → Prop} {w : gM → Nat → List (Nat × Value) → List Value → Prop} {M : gM} {pc : Nat} {lv : List (Nat × Value)} {rest : List Value} (hw : gX y0 cc nL ret hh kf G Qv E w) (hy : y0.cls = RX0) {p1 : Int32} {Q : Int32 → gM → Prop} (d : decode cc pc = .ok (.invokevirtual 164, 3)) (hrest : Nat.ble ((rest.map Value.category).sum) 8 = true) (hk : 8 + 1 ≤ kf) (hkd : gk M 268 = 7) (h : fX7_best p1 M Q) (kk : ∀ r M1, Q r M1 → w M1 (pc + 3) lv (.int r :: rest)) : w M pc lv (.int p1 :: .ref (gA G 268) :: rest) := by
  obtain ⟨cls9, nm9, ds9⟩ := y0
  subst hy
  exact g_callV (r := (RX7, TX7, 58)) (ci := 6) hw [.int p1] (nA := 1) rfl d q1610 q1611 q1612 q104 q1613 (by decide +kernel) rfl rfl hrest rfl (by omega : kf - 1 + 1 ≤ kf) hkd (mX7_best (kf := kf - 1) (by omega) G p1 M Q h) (fun _ _ _ q => q.elim) (fun v M1 h => by obtain ⟨r, rfl, h⟩ := h; exact kk r M1 h)
theorem sX0_165 {y0 : MethodName} {cc : ByteArray} {nL : Nat} {ret : Option FieldType} {hh : List (Nat × Nat × Nat × Nat)} {kf : Nat} {G : gG} {Qv : Option Value → gM → Prop} {E : String → Nat → gM → Prop} {w : gM → Nat → List (Nat × Value) → List Value → Prop} {M : gM} {pc : Nat} {lv : List (Nat × Value)} {rest : List Value} (hw : gX y0 cc nL ret hh kf G Qv E w) (hy : y0.cls = RX0) {p1 : Int32} {p2 : Int32} {p3 : Int32} {p4 : Int32} {p5 : Int32} {Q : Int32 → gM → Prop} (d : decode cc pc = .ok (.invokevirtual 165, 3)) (hrest : Nat.ble ((rest.map Value.category).sum) 8 = true) (hk : 1015 + 1 ≤ kf) (hkd : gk M 16 = 1) (h : fX1_rivers_2 p1 p2 p3 p4 p5 M Q) (kk : ∀ r M1, Q r M1 → w M1 (pc + 3) lv (.int r :: rest)) : w M pc lv (.int p5 :: .int p4 :: .int p3 :: .int p2 :: .int p1 :: .ref (gA G 16) :: rest) := by
  obtain ⟨cls9, nm9, ds9⟩ := y0
  subst hy
  exact g_callV (r := (RX1, TX1, 28)) (ci := 0) hw [.int p1, .int p2, .int p3, .int p4, .int p5] (nA := 5) rfl d q859 q860 q861 q98 q862 (by decide +kernel) rfl rfl hrest rfl (by omega : kf - 1 + 1 ≤ kf) hkd (mX1_rivers_2 (kf := kf - 1) (by omega) G p1 p2 p3 p4 p5 M Q h) (fun _ _ _ q => q.elim) (fun v M1 h => by obtain ⟨r, rfl, h⟩ := h; exact kk r M1 h)
theorem sX0_169 {y0 : MethodName} {cc : ByteArray} {nL : Nat} {ret : Option FieldType} {hh : List (Nat × Nat × Nat × Nat)} {kf : Nat} {G : gG} {Qv : Option Value → gM → Prop} {E : String → Nat → gM → Prop} {w : gM → Nat → List (Nat × Value) → List Value → Prop} {M : gM} {pc : Nat} {lv : List (Nat × Value)} {rest : List Value} (hw : gX y0 cc nL ret hh kf G Qv E w) (hy : y0.cls = RX0) {p1 : Int32} {p2 : Int32} {p3 : Int32} {p4 : Int32} {p5 : Int32} {Q : Int32 → gM → Prop} (d : decode cc pc = .ok (.invokevirtual 169, 3)) (hrest : Nat.ble ((rest.map Value.category).sum) 8 = true) (hk : 7 + 1 ≤ kf) (hkd : gk M 268 = 7) (h : fX7_rivers p1 p2 p3 p4 p5 M Q) (kk : ∀ r M1, Q r M1 → w M1 (pc + 3) lv (.int r :: rest)) : w M pc lv (.int p5 :: .int p4 :: .int p3 :: .int p2 :: .int p1 :: .ref (gA G 268) :: rest) := by
  obtain ⟨cls9, nm9, ds9⟩ := y0
  subst hy
  exact g_callV (r := (RX7, TX7, 58)) (ci := 6) hw [.int p1, .int p2, .int p3, .int p4, .int p5] (nA := 5) rfl d q1614 q1615 q1616 q104 q1617 (by decide +kernel) rfl rfl hrest rfl (by omega : kf - 1 + 1 ≤ kf) hkd (mX7_rivers (kf := kf - 1) (by omega) G p1 p2 p3 p4 p5 M Q h) (fun _ _ _ q => q.elim) (fun v M1 h => by obtain ⟨r, rfl, h⟩ := h; exact kk r M1 h)
theorem sX0_170 {y0 : MethodName} {cc : ByteArray} {nL : Nat} {ret : Option FieldType} {hh : List (Nat × Nat × Nat × Nat)} {kf : Nat} {G : gG} {Qv : Option Value → gM → Prop} {E : String → Nat → gM → Prop} {w : gM → Nat → List (Nat × Value) → List Value → Prop} {M : gM} {pc : Nat} {lv : List (Nat × Value)} {rest : List Value} (hw : gX y0 cc nL ret hh kf G Qv E w) (hy : y0.cls = RX0) {p1 : Int32} {p2 : Int32} {p3 : Int32} {Q : Int32 → gM → Prop} (d : decode cc pc = .ok (.invokevirtual 170, 3)) (hrest : Nat.ble ((rest.map Value.category).sum) 8 = true) (hk : 2 + 1 ≤ kf) (hkd : gk M 16 = 1) (h : fX1_other p1 p2 p3 M Q) (kk : ∀ r M1, Q r M1 → w M1 (pc + 3) lv (.int r :: rest)) : w M pc lv (.int p3 :: .int p2 :: .int p1 :: .ref (gA G 16) :: rest) := by
  obtain ⟨cls9, nm9, ds9⟩ := y0
  subst hy
  exact g_callV (r := (RX1, TX1, 28)) (ci := 0) hw [.int p1, .int p2, .int p3] (nA := 3) rfl d q866 q867 q868 q98 q869 (by decide +kernel) rfl rfl hrest rfl (by omega : kf - 1 + 1 ≤ kf) hkd (mX1_other (kf := kf - 1) (by omega) G p1 p2 p3 M Q h) (fun _ _ _ q => q.elim) (fun v M1 h => by obtain ⟨r, rfl, h⟩ := h; exact kk r M1 h)
theorem sX0_174 {y0 : MethodName} {cc : ByteArray} {nL : Nat} {ret : Option FieldType} {hh : List (Nat × Nat × Nat × Nat)} {kf : Nat} {G : gG} {Qv : Option Value → gM → Prop} {E : String → Nat → gM → Prop} {w : gM → Nat → List (Nat × Value) → List Value → Prop} {M : gM} {pc : Nat} {lv : List (Nat × Value)} {rest : List Value} (hw : gX y0 cc nL ret hh kf G Qv E w) (hy : y0.cls = RX0) {p1 : Int32} {p2 : Int32} {p3 : Int32} {Q : Int32 → gM → Prop} (d : decode cc pc = .ok (.invokevirtual 174, 3)) (hrest : Nat.ble ((rest.map Value.category).sum) 8 = true) (hk : 2 + 1 ≤ kf) (hkd : gk M 268 = 7) (h : fX7_other p1 p2 p3 M Q) (kk : ∀ r M1, Q r M1 → w M1 (pc + 3) lv (.int r :: rest)) : w M pc lv (.int p3 :: .int p2 :: .int p1 :: .ref (gA G 268) :: rest) := by
  obtain ⟨cls9, nm9, ds9⟩ := y0
  subst hy
  exact g_callV (r := (RX7, TX7, 58)) (ci := 6) hw [.int p1, .int p2, .int p3] (nA := 3) rfl d q1618 q1619 q1620 q104 q1621 (by decide +kernel) rfl rfl hrest rfl (by omega : kf - 1 + 1 ≤ kf) hkd (mX7_other (kf := kf - 1) (by omega) G p1 p2 p3 M Q h) (fun _ _ _ q => q.elim) (fun v M1 h => by obtain ⟨r, rfl, h⟩ := h; exact kk r M1 h)
theorem sX0_175 {y0 : MethodName} {cc : ByteArray} {nL : Nat} {ret : Option FieldType} {hh : List (Nat × Nat × Nat × Nat)} {kf : Nat} {G : gG} {Qv : Option Value → gM → Prop} {E : String → Nat → gM → Prop} {w : gM → Nat → List (Nat × Value) → List Value → Prop} {M : gM} {pc : Nat} {lv : List (Nat × Value)} {rest : List Value} (hw : gX y0 cc nL ret hh kf G Qv E w) (hy : y0.cls = RX0) {p2 : Int32} {p3 : Int32} {p4 : Nat} {Q : Int32 → gM → Prop} (d : decode cc pc = .ok (.invokestatic 175, 3)) (hrest : Nat.ble ((rest.map Value.category).sum) 8 = true) (hk : 104 + 1 ≤ kf) (h : fX0_others p2 p3 p4 M Q) (kk : ∀ r M1, Q r M1 → w M1 (pc + 3) lv (.int r :: rest)) : w M pc lv (.ref (gA G p4) :: .int p3 :: .int p2 :: .ref (gA G 16) :: rest) := by
  obtain ⟨cls9, nm9, ds9⟩ := y0
  subst hy
  exact g_callSW hw [.ref (gA G 16), .int p2, .int p3, .ref (gA G p4)] (nA := 4) rfl d q1052 q1053 q97 q1054 (by decide +kernel) rfl hrest rfl (by omega : kf - 1 + 1 ≤ kf) (mX0_others (kf := kf - 1) (by omega) G p2 p3 p4 M Q h) (fun _ _ _ q => q.elim) (fun v M1 h => by obtain ⟨r, rfl, h⟩ := h; exact kk r M1 h)
theorem sX0_178 {y0 : MethodName} {cc : ByteArray} {nL : Nat} {ret : Option FieldType} {hh : List (Nat × Nat × Nat × Nat)} {kf : Nat} {G : gG} {Qv : Option Value → gM → Prop} {E : String → Nat → gM → Prop} {w : gM → Nat → List (Nat × Value) → List Value → Prop} {M : gM} {pc : Nat} {lv : List (Nat × Value)} {rest : List Value} (hw : gX y0 cc nL ret hh kf G Qv E w) (hy : y0.cls = RX0) {p1 : Int32} {p2 : Int32} {Q : Int64 → gM → Prop} (d : decode cc pc = .ok (.invokevirtual 178, 3)) (hrest : Nat.ble ((rest.map Value.category).sum) 8 = true) (hk : 3 + 1 ≤ kf) (hkd : gk M 268 = 7) (h : fX7_others p1 p2 M Q) (kk : ∀ r M1, Q r M1 → w M1 (pc + 3) lv (.long r :: rest)) : w M pc lv (.int p2 :: .int p1 :: .ref (gA G 268) :: rest) := by
  obtain ⟨cls9, nm9, ds9⟩ := y0
  subst hy
  exact g_callV (r := (RX7, TX7, 58)) (ci := 6) hw [.int p1, .int p2] (nA := 2) rfl d q1622 q1623 q1624 q104 q1625 (by decide +kernel) rfl rfl hrest rfl (by omega : kf - 1 + 1 ≤ kf) hkd (mX7_others (kf := kf - 1) (by omega) G p1 p2 M Q h) (fun _ _ _ q => q.elim) (fun v M1 h => by obtain ⟨r, rfl, h⟩ := h; exact kk r M1 h)
theorem sX0_179 {y0 : MethodName} {cc : ByteArray} {nL : Nat} {ret : Option FieldType} {hh : List (Nat × Nat × Nat × Nat)} {kf : Nat} {G : gG} {Qv : Option Value → gM → Prop} {E : String → Nat → gM → Prop} {w : gM → Nat → List (Nat × Value) → List Value → Prop} {M : gM} {pc : Nat} {lv : List (Nat × Value)} {rest : List Value} (hw : gX y0 cc nL ret hh kf G Qv E w) (hy : y0.cls = RX0) {p1 : Int32} {Q : Int32 → gM → Prop} (d : decode cc pc = .ok (.invokevirtual 179, 3)) (hrest : Nat.ble ((rest.map Value.category).sum) 8 = true) (hk : 3 + 1 ≤ kf) (hkd : gk M 16 = 1) (h : fX1_drawer p1 M Q) (kk : ∀ r M1, Q r M1 → w M1 (pc + 3) lv (.int r :: rest)) : w M pc lv (.int p1 :: .ref (gA G 16) :: rest) := by
  obtain ⟨cls9, nm9, ds9⟩ := y0
  subst hy
  exact g_callV (r := (RX1, TX1, 28)) (ci := 0) hw [.int p1] (nA := 1) rfl d q870 q871 q872 q98 q873 (by decide +kernel) rfl rfl hrest rfl (by omega : kf - 1 + 1 ≤ kf) hkd (mX1_drawer (kf := kf - 1) (by omega) G p1 M Q h) (fun _ _ _ q => q.elim) (fun v M1 h => by obtain ⟨r, rfl, h⟩ := h; exact kk r M1 h)
theorem sX0_182 {y0 : MethodName} {cc : ByteArray} {nL : Nat} {ret : Option FieldType} {hh : List (Nat × Nat × Nat × Nat)} {kf : Nat} {G : gG} {Qv : Option Value → gM → Prop} {E : String → Nat → gM → Prop} {w : gM → Nat → List (Nat × Value) → List Value → Prop} {M : gM} {pc : Nat} {lv : List (Nat × Value)} {rest : List Value} (hw : gX y0 cc nL ret hh kf G Qv E w) (hy : y0.cls = RX0) {p1 : Int32} {Q : Int32 → gM → Prop} (d : decode cc pc = .ok (.invokevirtual 182, 3)) (hrest : Nat.ble ((rest.map Value.category).sum) 8 = true) (hk : 2 + 1 ≤ kf) (hkd : gk M 268 = 7) (h : fX7_drawer p1 M Q) (kk : ∀ r M1, Q r M1 → w M1 (pc + 3) lv (.int r :: rest)) : w M pc lv (.int p1 :: .ref (gA G 268) :: rest) := by
  obtain ⟨cls9, nm9, ds9⟩ := y0
  subst hy
  exact g_callV (r := (RX7, TX7, 58)) (ci := 6) hw [.int p1] (nA := 1) rfl d q1630 q1631 q1632 q104 q1633 (by decide +kernel) rfl rfl hrest rfl (by omega : kf - 1 + 1 ≤ kf) hkd (mX7_drawer (kf := kf - 1) (by omega) G p1 M Q h) (fun _ _ _ q => q.elim) (fun v M1 h => by obtain ⟨r, rfl, h⟩ := h; exact kk r M1 h)
theorem sX0_183 {y0 : MethodName} {cc : ByteArray} {nL : Nat} {ret : Option FieldType} {hh : List (Nat × Nat × Nat × Nat)} {kf : Nat} {G : gG} {Qv : Option Value → gM → Prop} {E : String → Nat → gM → Prop} {w : gM → Nat → List (Nat × Value) → List Value → Prop} {M : gM} {pc : Nat} {lv : List (Nat × Value)} {rest : List Value} (hw : gX y0 cc nL ret hh kf G Qv E w) (hy : y0.cls = RX0) {p1 : Int32} {Q : Int32 → gM → Prop} (d : decode cc pc = .ok (.invokevirtual 183, 3)) (hrest : Nat.ble ((rest.map Value.category).sum) 8 = true) (hk : 52 + 1 ≤ kf) (hkd : gk M 16 = 1) (h : fX1_writer p1 M Q) (kk : ∀ r M1, Q r M1 → w M1 (pc + 3) lv (.int r :: rest)) : w M pc lv (.int p1 :: .ref (gA G 16) :: rest) := by
  obtain ⟨cls9, nm9, ds9⟩ := y0
  subst hy
  exact g_callVW (r := (RX1, TX1, 28)) (ci := 0) hw [.int p1] (nA := 1) rfl d q878 q879 q880 q98 q881 (by decide +kernel) rfl rfl hrest rfl (by omega : kf - 1 + 1 ≤ kf) hkd (mX1_writer (kf := kf - 1) (by omega) G p1 M Q h) (fun _ _ _ q => q.elim) (fun v M1 h => by obtain ⟨r, rfl, h⟩ := h; exact kk r M1 h)
theorem sX0_186 {y0 : MethodName} {cc : ByteArray} {nL : Nat} {ret : Option FieldType} {hh : List (Nat × Nat × Nat × Nat)} {kf : Nat} {G : gG} {Qv : Option Value → gM → Prop} {E : String → Nat → gM → Prop} {w : gM → Nat → List (Nat × Value) → List Value → Prop} {M : gM} {pc : Nat} {lv : List (Nat × Value)} {rest : List Value} (hw : gX y0 cc nL ret hh kf G Qv E w) (hy : y0.cls = RX0) {p1 : Int32} {Q : Int32 → gM → Prop} (d : decode cc pc = .ok (.invokevirtual 186, 3)) (hrest : Nat.ble ((rest.map Value.category).sum) 8 = true) (hk : 48 + 1 ≤ kf) (hkd : gk M 268 = 7) (h : fX7_writer p1 M Q) (kk : ∀ r M1, Q r M1 → w M1 (pc + 3) lv (.int r :: rest)) : w M pc lv (.int p1 :: .ref (gA G 268) :: rest) := by
  obtain ⟨cls9, nm9, ds9⟩ := y0
  subst hy
  exact g_callV (r := (RX7, TX7, 58)) (ci := 6) hw [.int p1] (nA := 1) rfl d q1634 q1635 q1636 q104 q1637 (by decide +kernel) rfl rfl hrest rfl (by omega : kf - 1 + 1 ≤ kf) hkd (mX7_writer (kf := kf - 1) (by omega) G p1 M Q h) (fun _ _ _ q => q.elim) (fun v M1 h => by obtain ⟨r, rfl, h⟩ := h; exact kk r M1 h)
theorem sX0_187 {y0 : MethodName} {cc : ByteArray} {nL : Nat} {ret : Option FieldType} {hh : List (Nat × Nat × Nat × Nat)} {kf : Nat} {G : gG} {Qv : Option Value → gM → Prop} {E : String → Nat → gM → Prop} {w : gM → Nat → List (Nat × Value) → List Value → Prop} {M : gM} {pc : Nat} {lv : List (Nat × Value)} {rest : List Value} (hw : gX y0 cc nL ret hh kf G Qv E w) (hy : y0.cls = RX0) {p1 : Int32} {p2 : Int32} {Q : Int32 → gM → Prop} (d : decode cc pc = .ok (.invokevirtual 187, 3)) (hrest : Nat.ble ((rest.map Value.category).sum) 8 = true) (hk : 1013 + 1 ≤ kf) (hkd : gk M 16 = 1) (h : fX1_takes p1 p2 M Q) (kk : ∀ r M1, Q r M1 → w M1 (pc + 3) lv (.int r :: rest)) : w M pc lv (.int p2 :: .int p1 :: .ref (gA G 16) :: rest) := by
  obtain ⟨cls9, nm9, ds9⟩ := y0
  subst hy
  exact g_callV (r := (RX1, TX1, 28)) (ci := 0) hw [.int p1, .int p2] (nA := 2) rfl d q890 q891 q892 q98 q893 (by decide +kernel) rfl rfl hrest rfl (by omega : kf - 1 + 1 ≤ kf) hkd (mX1_takes (kf := kf - 1) (by omega) G p1 p2 M Q h) (fun _ _ _ q => q.elim) (fun v M1 h => by obtain ⟨r, rfl, h⟩ := h; exact kk r M1 h)
theorem sX0_190 {y0 : MethodName} {cc : ByteArray} {nL : Nat} {ret : Option FieldType} {hh : List (Nat × Nat × Nat × Nat)} {kf : Nat} {G : gG} {Qv : Option Value → gM → Prop} {E : String → Nat → gM → Prop} {w : gM → Nat → List (Nat × Value) → List Value → Prop} {M : gM} {pc : Nat} {lv : List (Nat × Value)} {rest : List Value} (hw : gX y0 cc nL ret hh kf G Qv E w) (hy : y0.cls = RX0) {p1 : Int32} {p2 : Int32} {Q : Int32 → gM → Prop} (d : decode cc pc = .ok (.invokevirtual 190, 3)) (hrest : Nat.ble ((rest.map Value.category).sum) 8 = true) (hk : 4 + 1 ≤ kf) (hkd : gk M 268 = 7) (h : fX7_takes p1 p2 M Q) (kk : ∀ r M1, Q r M1 → w M1 (pc + 3) lv (.int r :: rest)) : w M pc lv (.int p2 :: .int p1 :: .ref (gA G 268) :: rest) := by
  obtain ⟨cls9, nm9, ds9⟩ := y0
  subst hy
  exact g_callV (r := (RX7, TX7, 58)) (ci := 6) hw [.int p1, .int p2] (nA := 2) rfl d q1646 q1647 q1648 q104 q1649 (by decide +kernel) rfl rfl hrest rfl (by omega : kf - 1 + 1 ≤ kf) hkd (mX7_takes (kf := kf - 1) (by omega) G p1 p2 M Q h) (fun _ _ _ q => q.elim) (fun v M1 h => by obtain ⟨r, rfl, h⟩ := h; exact kk r M1 h)
theorem sX0_191 {y0 : MethodName} {cc : ByteArray} {nL : Nat} {ret : Option FieldType} {hh : List (Nat × Nat × Nat × Nat)} {kf : Nat} {G : gG} {Qv : Option Value → gM → Prop} {E : String → Nat → gM → Prop} {w : gM → Nat → List (Nat × Value) → List Value → Prop} {M : gM} {pc : Nat} {lv : List (Nat × Value)} {rest : List Value} (hw : gX y0 cc nL ret hh kf G Qv E w) (hy : y0.cls = RX0) {p2 : Int32} {p3 : Int32} {p4 : Nat} {Q : Int32 → gM → Prop} (d : decode cc pc = .ok (.invokestatic 191, 3)) (hrest : Nat.ble ((rest.map Value.category).sum) 8 = true) (hk : 1015 + 1 ≤ kf) (h : fX0_writes p2 p3 p4 M Q) (kk : ∀ r M1, Q r M1 → w M1 (pc + 3) lv (.int r :: rest)) : w M pc lv (.ref (gA G p4) :: .int p3 :: .int p2 :: .ref (gA G 16) :: rest) := by
  obtain ⟨cls9, nm9, ds9⟩ := y0
  subst hy
  exact g_callSW hw [.ref (gA G 16), .int p2, .int p3, .ref (gA G p4)] (nA := 4) rfl d q1059 q1060 q97 q1061 (by decide +kernel) rfl hrest rfl (by omega : kf - 1 + 1 ≤ kf) (mX0_writes (kf := kf - 1) (by omega) G p2 p3 p4 M Q h) (fun _ _ _ q => q.elim) (fun v M1 h => by obtain ⟨r, rfl, h⟩ := h; exact kk r M1 h)
theorem sX0_194 {y0 : MethodName} {cc : ByteArray} {nL : Nat} {ret : Option FieldType} {hh : List (Nat × Nat × Nat × Nat)} {kf : Nat} {G : gG} {Qv : Option Value → gM → Prop} {E : String → Nat → gM → Prop} {w : gM → Nat → List (Nat × Value) → List Value → Prop} {M : gM} {pc : Nat} {lv : List (Nat × Value)} {rest : List Value} (hw : gX y0 cc nL ret hh kf G Qv E w) (hy : y0.cls = RX0) {p1 : Int32} {p2 : Int32} {Q : Int64 → gM → Prop} (d : decode cc pc = .ok (.invokevirtual 194, 3)) (hrest : Nat.ble ((rest.map Value.category).sum) 8 = true) (hk : 5 + 1 ≤ kf) (hkd : gk M 268 = 7) (h : fX7_writes p1 p2 M Q) (kk : ∀ r M1, Q r M1 → w M1 (pc + 3) lv (.long r :: rest)) : w M pc lv (.int p2 :: .int p1 :: .ref (gA G 268) :: rest) := by
  obtain ⟨cls9, nm9, ds9⟩ := y0
  subst hy
  exact g_callV (r := (RX7, TX7, 58)) (ci := 6) hw [.int p1, .int p2] (nA := 2) rfl d q1662 q1663 q1664 q104 q1665 (by decide +kernel) rfl rfl hrest rfl (by omega : kf - 1 + 1 ≤ kf) hkd (mX7_writes (kf := kf - 1) (by omega) G p1 p2 M Q h) (fun _ _ _ q => q.elim) (fun v M1 h => by obtain ⟨r, rfl, h⟩ := h; exact kk r M1 h)
theorem sX0_195 {y0 : MethodName} {cc : ByteArray} {nL : Nat} {ret : Option FieldType} {hh : List (Nat × Nat × Nat × Nat)} {kf : Nat} {G : gG} {Qv : Option Value → gM → Prop} {E : String → Nat → gM → Prop} {w : gM → Nat → List (Nat × Value) → List Value → Prop} {M : gM} {pc : Nat} {lv : List (Nat × Value)} {rest : List Value} (hw : gX y0 cc nL ret hh kf G Qv E w) (hy : y0.cls = RX0) {p2 : Int32} {p3 : Nat} {Q : Int32 → gM → Prop} (d : decode cc pc = .ok (.invokestatic 195, 3)) (hrest : Nat.ble ((rest.map Value.category).sum) 8 = true) (hk : 1015 + 1 ≤ kf) (h : fX0_forks p2 p3 M Q) (kk : ∀ r M1, Q r M1 → w M1 (pc + 3) lv (.int r :: rest)) : w M pc lv (.ref (gA G p3) :: .int p2 :: .ref (gA G 16) :: rest) := by
  obtain ⟨cls9, nm9, ds9⟩ := y0
  subst hy
  exact g_callSW hw [.ref (gA G 16), .int p2, .ref (gA G p3)] (nA := 3) rfl d q1070 q1071 q97 q1072 (by decide +kernel) rfl hrest rfl (by omega : kf - 1 + 1 ≤ kf) (mX0_forks (kf := kf - 1) (by omega) G p2 p3 M Q h) (fun _ _ _ q => q.elim) (fun v M1 h => by obtain ⟨r, rfl, h⟩ := h; exact kk r M1 h)
theorem sX0_198 {y0 : MethodName} {cc : ByteArray} {nL : Nat} {ret : Option FieldType} {hh : List (Nat × Nat × Nat × Nat)} {kf : Nat} {G : gG} {Qv : Option Value → gM → Prop} {E : String → Nat → gM → Prop} {w : gM → Nat → List (Nat × Value) → List Value → Prop} {M : gM} {pc : Nat} {lv : List (Nat × Value)} {rest : List Value} (hw : gX y0 cc nL ret hh kf G Qv E w) (hy : y0.cls = RX0) {p1 : Int32} {Q : Int64 → gM → Prop} (d : decode cc pc = .ok (.invokevirtual 198, 3)) (hrest : Nat.ble ((rest.map Value.category).sum) 8 = true) (hk : 5 + 1 ≤ kf) (hkd : gk M 268 = 7) (h : fX7_forks p1 M Q) (kk : ∀ r M1, Q r M1 → w M1 (pc + 3) lv (.long r :: rest)) : w M pc lv (.int p1 :: .ref (gA G 268) :: rest) := by
  obtain ⟨cls9, nm9, ds9⟩ := y0
  subst hy
  exact g_callV (r := (RX7, TX7, 58)) (ci := 6) hw [.int p1] (nA := 1) rfl d q1670 q1671 q1672 q104 q1673 (by decide +kernel) rfl rfl hrest rfl (by omega : kf - 1 + 1 ≤ kf) hkd (mX7_forks (kf := kf - 1) (by omega) G p1 M Q h) (fun _ _ _ q => q.elim) (fun v M1 h => by obtain ⟨r, rfl, h⟩ := h; exact kk r M1 h)
theorem sX0_199 {y0 : MethodName} {cc : ByteArray} {nL : Nat} {ret : Option FieldType} {hh : List (Nat × Nat × Nat × Nat)} {kf : Nat} {G : gG} {Qv : Option Value → gM → Prop} {E : String → Nat → gM → Prop} {w : gM → Nat → List (Nat × Value) → List Value → Prop} {M : gM} {pc : Nat} {lv : List (Nat × Value)} {rest : List Value} (hw : gX y0 cc nL ret hh kf G Qv E w) (hy : y0.cls = RX0) {p1 : Int32} {p2 : Int32} {p3 : Int32} {p4 : Int32} {Q : Int32 → gM → Prop} (d : decode cc pc = .ok (.invokevirtual 199, 3)) (hrest : Nat.ble ((rest.map Value.category).sum) 8 = true) (hk : 3 + 1 ≤ kf) (hkd : gk M 16 = 1) (h : fX1_book p1 p2 p3 p4 M Q) (kk : ∀ r M1, Q r M1 → w M1 (pc + 3) lv (.int r :: rest)) : w M pc lv (.int p4 :: .int p3 :: .int p2 :: .int p1 :: .ref (gA G 16) :: rest) := by
  obtain ⟨cls9, nm9, ds9⟩ := y0
  subst hy
  exact g_callV (r := (RX1, TX1, 28)) (ci := 0) hw [.int p1, .int p2, .int p3, .int p4] (nA := 4) rfl d q902 q903 q904 q98 q905 (by decide +kernel) rfl rfl hrest rfl (by omega : kf - 1 + 1 ≤ kf) hkd (mX1_book (kf := kf - 1) (by omega) G p1 p2 p3 p4 M Q h) (fun _ _ _ q => q.elim) (fun v M1 h => by obtain ⟨r, rfl, h⟩ := h; exact kk r M1 h)
theorem sX0_202 {y0 : MethodName} {cc : ByteArray} {nL : Nat} {ret : Option FieldType} {hh : List (Nat × Nat × Nat × Nat)} {kf : Nat} {G : gG} {Qv : Option Value → gM → Prop} {E : String → Nat → gM → Prop} {w : gM → Nat → List (Nat × Value) → List Value → Prop} {M : gM} {pc : Nat} {lv : List (Nat × Value)} {rest : List Value} (hw : gX y0 cc nL ret hh kf G Qv E w) (hy : y0.cls = RX0) {p1 : Int32} {p2 : Int32} {p3 : Int32} {p4 : Int32} {Q : Int32 → gM → Prop} (d : decode cc pc = .ok (.invokevirtual 202, 3)) (hrest : Nat.ble ((rest.map Value.category).sum) 8 = true) (hk : 3 + 1 ≤ kf) (hkd : gk M 268 = 7) (h : fX7_book p1 p2 p3 p4 M Q) (kk : ∀ r M1, Q r M1 → w M1 (pc + 3) lv (.int r :: rest)) : w M pc lv (.int p4 :: .int p3 :: .int p2 :: .int p1 :: .ref (gA G 268) :: rest) := by
  obtain ⟨cls9, nm9, ds9⟩ := y0
  subst hy
  exact g_callV (r := (RX7, TX7, 58)) (ci := 6) hw [.int p1, .int p2, .int p3, .int p4] (nA := 4) rfl d q1674 q1675 q1676 q104 q1677 (by decide +kernel) rfl rfl hrest rfl (by omega : kf - 1 + 1 ≤ kf) hkd (mX7_book (kf := kf - 1) (by omega) G p1 p2 p3 p4 M Q h) (fun _ _ _ q => q.elim) (fun v M1 h => by obtain ⟨r, rfl, h⟩ := h; exact kk r M1 h)
theorem sX0_203 {y0 : MethodName} {cc : ByteArray} {nL : Nat} {ret : Option FieldType} {hh : List (Nat × Nat × Nat × Nat)} {kf : Nat} {G : gG} {Qv : Option Value → gM → Prop} {E : String → Nat → gM → Prop} {w : gM → Nat → List (Nat × Value) → List Value → Prop} {M : gM} {pc : Nat} {lv : List (Nat × Value)} {rest : List Value} (hw : gX y0 cc nL ret hh kf G Qv E w) (hy : y0.cls = RX0) {p2 : Int32} {p3 : Int32} {p4 : Int32} {p5 : Nat} {Q : Int32 → gM → Prop} (d : decode cc pc = .ok (.invokestatic 203, 3)) (hrest : Nat.ble ((rest.map Value.category).sum) 8 = true) (hk : 10 + 1 ≤ kf) (h : fX0_booked p2 p3 p4 p5 M Q) (kk : ∀ r M1, Q r M1 → w M1 (pc + 3) lv (.int r :: rest)) : w M pc lv (.ref (gA G p5) :: .int p4 :: .int p3 :: .int p2 :: .ref (gA G 16) :: rest) := by
  obtain ⟨cls9, nm9, ds9⟩ := y0
  subst hy
  exact g_callSW hw [.ref (gA G 16), .int p2, .int p3, .int p4, .ref (gA G p5)] (nA := 5) rfl d q1077 q1078 q97 q1079 (by decide +kernel) rfl hrest rfl (by omega : kf - 1 + 1 ≤ kf) (mX0_booked (kf := kf - 1) (by omega) G p2 p3 p4 p5 M Q h) (fun _ _ _ q => q.elim) (fun v M1 h => by obtain ⟨r, rfl, h⟩ := h; exact kk r M1 h)
theorem sX0_205 {y0 : MethodName} {cc : ByteArray} {nL : Nat} {ret : Option FieldType} {hh : List (Nat × Nat × Nat × Nat)} {kf : Nat} {G : gG} {Qv : Option Value → gM → Prop} {E : String → Nat → gM → Prop} {w : gM → Nat → List (Nat × Value) → List Value → Prop} {M : gM} {pc : Nat} {lv : List (Nat × Value)} {rest : List Value} (hw : gX y0 cc nL ret hh kf G Qv E w) (hy : y0.cls = RX0) {p1 : Int32} {p2 : Int32} {p3 : Int32} {Q : Int64 → gM → Prop} (d : decode cc pc = .ok (.invokevirtual 205, 3)) (hrest : Nat.ble ((rest.map Value.category).sum) 8 = true) (hk : 5 + 1 ≤ kf) (hkd : gk M 268 = 7) (h : fX7_booked p1 p2 p3 M Q) (kk : ∀ r M1, Q r M1 → w M1 (pc + 3) lv (.long r :: rest)) : w M pc lv (.int p3 :: .int p2 :: .int p1 :: .ref (gA G 268) :: rest) := by
  obtain ⟨cls9, nm9, ds9⟩ := y0
  subst hy
  exact g_callV (r := (RX7, TX7, 58)) (ci := 6) hw [.int p1, .int p2, .int p3] (nA := 3) rfl d q1679 q1680 q1681 q104 q1682 (by decide +kernel) rfl rfl hrest rfl (by omega : kf - 1 + 1 ≤ kf) hkd (mX7_booked (kf := kf - 1) (by omega) G p1 p2 p3 M Q h) (fun _ _ _ q => q.elim) (fun v M1 h => by obtain ⟨r, rfl, h⟩ := h; exact kk r M1 h)
theorem sX0_206 {y0 : MethodName} {cc : ByteArray} {nL : Nat} {ret : Option FieldType} {hh : List (Nat × Nat × Nat × Nat)} {kf : Nat} {G : gG} {Qv : Option Value → gM → Prop} {E : String → Nat → gM → Prop} {w : gM → Nat → List (Nat × Value) → List Value → Prop} {M : gM} {pc : Nat} {lv : List (Nat × Value)} {rest : List Value} (hw : gX y0 cc nL ret hh kf G Qv E w) (hy : y0.cls = RX0) {p2 : Int32} {p3 : Int32} {p4 : Int32} {p5 : Int32} {p6 : Nat} {Q : Int32 → gM → Prop} (d : decode cc pc = .ok (.invokestatic 206, 3)) (hrest : Nat.ble ((rest.map Value.category).sum) 8 = true) (hk : 10 + 1 ≤ kf) (h : fX0_closes p2 p3 p4 p5 p6 M Q) (kk : ∀ r M1, Q r M1 → w M1 (pc + 3) lv (.int r :: rest)) : w M pc lv (.ref (gA G p6) :: .int p5 :: .int p4 :: .int p3 :: .int p2 :: .ref (gA G 16) :: rest) := by
  obtain ⟨cls9, nm9, ds9⟩ := y0
  subst hy
  exact g_callSW hw [.ref (gA G 16), .int p2, .int p3, .int p4, .int p5, .ref (gA G p6)] (nA := 6) rfl d q1096 q1097 q97 q1098 (by decide +kernel) rfl hrest rfl (by omega : kf - 1 + 1 ≤ kf) (mX0_closes (kf := kf - 1) (by omega) G p2 p3 p4 p5 p6 M Q h) (fun _ _ _ q => q.elim) (fun v M1 h => by obtain ⟨r, rfl, h⟩ := h; exact kk r M1 h)
theorem sX0_208 {y0 : MethodName} {cc : ByteArray} {nL : Nat} {ret : Option FieldType} {hh : List (Nat × Nat × Nat × Nat)} {kf : Nat} {G : gG} {Qv : Option Value → gM → Prop} {E : String → Nat → gM → Prop} {w : gM → Nat → List (Nat × Value) → List Value → Prop} {M : gM} {pc : Nat} {lv : List (Nat × Value)} {rest : List Value} (hw : gX y0 cc nL ret hh kf G Qv E w) (hy : y0.cls = RX0) {p1 : Int32} {p2 : Int32} {p3 : Int32} {p4 : Int32} {Q : Int64 → gM → Prop} (d : decode cc pc = .ok (.invokevirtual 208, 3)) (hrest : Nat.ble ((rest.map Value.category).sum) 8 = true) (hk : 6 + 1 ≤ kf) (hkd : gk M 268 = 7) (h : fX7_closes p1 p2 p3 p4 M Q) (kk : ∀ r M1, Q r M1 → w M1 (pc + 3) lv (.long r :: rest)) : w M pc lv (.int p4 :: .int p3 :: .int p2 :: .int p1 :: .ref (gA G 268) :: rest) := by
  obtain ⟨cls9, nm9, ds9⟩ := y0
  subst hy
  exact g_callV (r := (RX7, TX7, 58)) (ci := 6) hw [.int p1, .int p2, .int p3, .int p4] (nA := 4) rfl d q1695 q1696 q1697 q104 q1698 (by decide +kernel) rfl rfl hrest rfl (by omega : kf - 1 + 1 ≤ kf) hkd (mX7_closes (kf := kf - 1) (by omega) G p1 p2 p3 p4 M Q h) (fun _ _ _ q => q.elim) (fun v M1 h => by obtain ⟨r, rfl, h⟩ := h; exact kk r M1 h)
theorem sX0_209 {y0 : MethodName} {cc : ByteArray} {nL : Nat} {ret : Option FieldType} {hh : List (Nat × Nat × Nat × Nat)} {kf : Nat} {G : gG} {Qv : Option Value → gM → Prop} {E : String → Nat → gM → Prop} {w : gM → Nat → List (Nat × Value) → List Value → Prop} {M : gM} {pc : Nat} {lv : List (Nat × Value)} {rest : List Value} (hw : gX y0 cc nL ret hh kf G Qv E w) (hy : y0.cls = RX0) {p1 : Int32} {p2 : Int32} {p3 : Int32} {p4 : Int32} {Q : Int64 → gM → Prop} (d : decode cc pc = .ok (.invokevirtual 209, 3)) (hrest : Nat.ble ((rest.map Value.category).sum) 8 = true) (hk : 103 + 1 ≤ kf) (hkd : gk M 16 = 1) (h : fX1_lots p1 p2 p3 p4 M Q) (kk : ∀ r M1, Q r M1 → w M1 (pc + 3) lv (.long r :: rest)) : w M pc lv (.int p4 :: .int p3 :: .int p2 :: .int p1 :: .ref (gA G 16) :: rest) := by
  obtain ⟨cls9, nm9, ds9⟩ := y0
  subst hy
  exact g_callV (r := (RX1, TX1, 28)) (ci := 0) hw [.int p1, .int p2, .int p3, .int p4] (nA := 4) rfl d q907 q908 q909 q98 q910 (by decide +kernel) rfl rfl hrest rfl (by omega : kf - 1 + 1 ≤ kf) hkd (mX1_lots (kf := kf - 1) (by omega) G p1 p2 p3 p4 M Q h) (fun _ _ _ q => q.elim) (fun v M1 h => by obtain ⟨r, rfl, h⟩ := h; exact kk r M1 h)
theorem sX0_212 {y0 : MethodName} {cc : ByteArray} {nL : Nat} {ret : Option FieldType} {hh : List (Nat × Nat × Nat × Nat)} {kf : Nat} {G : gG} {Qv : Option Value → gM → Prop} {E : String → Nat → gM → Prop} {w : gM → Nat → List (Nat × Value) → List Value → Prop} {M : gM} {pc : Nat} {lv : List (Nat × Value)} {rest : List Value} (hw : gX y0 cc nL ret hh kf G Qv E w) (hy : y0.cls = RX0) {p1 : Int32} {p2 : Int32} {p3 : Int32} {p4 : Int32} {Q : Int64 → gM → Prop} (d : decode cc pc = .ok (.invokevirtual 212, 3)) (hrest : Nat.ble ((rest.map Value.category).sum) 8 = true) (hk : 6 + 1 ≤ kf) (hkd : gk M 268 = 7) (h : fX7_lots p1 p2 p3 p4 M Q) (kk : ∀ r M1, Q r M1 → w M1 (pc + 3) lv (.long r :: rest)) : w M pc lv (.int p4 :: .int p3 :: .int p2 :: .int p1 :: .ref (gA G 268) :: rest) := by
  obtain ⟨cls9, nm9, ds9⟩ := y0
  subst hy
  exact g_callV (r := (RX7, TX7, 58)) (ci := 6) hw [.int p1, .int p2, .int p3, .int p4] (nA := 4) rfl d q1703 q1704 q1705 q104 q1706 (by decide +kernel) rfl rfl hrest rfl (by omega : kf - 1 + 1 ≤ kf) hkd (mX7_lots (kf := kf - 1) (by omega) G p1 p2 p3 p4 M Q h) (fun _ _ _ q => q.elim) (fun v M1 h => by obtain ⟨r, rfl, h⟩ := h; exact kk r M1 h)
theorem sX0_213 {y0 : MethodName} {cc : ByteArray} {nL : Nat} {ret : Option FieldType} {hh : List (Nat × Nat × Nat × Nat)} {kf : Nat} {G : gG} {Qv : Option Value → gM → Prop} {E : String → Nat → gM → Prop} {w : gM → Nat → List (Nat × Value) → List Value → Prop} {M : gM} {pc : Nat} {lv : List (Nat × Value)} {rest : List Value} (hw : gX y0 cc nL ret hh kf G Qv E w) (hy : y0.cls = RX0) {p1 : Int32} {p2 : Int32} {p3 : Int32} {Q : Int32 → gM → Prop} (d : decode cc pc = .ok (.invokevirtual 213, 3)) (hrest : Nat.ble ((rest.map Value.category).sum) 8 = true) (hk : 6 + 1 ≤ kf) (hkd : gk M 16 = 1) (h : fX1_needed p1 p2 p3 M Q) (kk : ∀ r M1, Q r M1 → w M1 (pc + 3) lv (.int r :: rest)) : w M pc lv (.int p3 :: .int p2 :: .int p1 :: .ref (gA G 16) :: rest) := by
  obtain ⟨cls9, nm9, ds9⟩ := y0
  subst hy
  exact g_callV (r := (RX1, TX1, 28)) (ci := 0) hw [.int p1, .int p2, .int p3] (nA := 3) rfl d q935 q936 q937 q98 q938 (by decide +kernel) rfl rfl hrest rfl (by omega : kf - 1 + 1 ≤ kf) hkd (mX1_needed (kf := kf - 1) (by omega) G p1 p2 p3 M Q h) (fun _ _ _ q => q.elim) (fun v M1 h => by obtain ⟨r, rfl, h⟩ := h; exact kk r M1 h)
theorem sX0_217 {y0 : MethodName} {cc : ByteArray} {nL : Nat} {ret : Option FieldType} {hh : List (Nat × Nat × Nat × Nat)} {kf : Nat} {G : gG} {Qv : Option Value → gM → Prop} {E : String → Nat → gM → Prop} {w : gM → Nat → List (Nat × Value) → List Value → Prop} {M : gM} {pc : Nat} {lv : List (Nat × Value)} {rest : List Value} (hw : gX y0 cc nL ret hh kf G Qv E w) (hy : y0.cls = RX0) {p1 : Int32} {p2 : Int32} {p3 : Int32} {Q : Int32 → gM → Prop} (d : decode cc pc = .ok (.invokevirtual 217, 3)) (hrest : Nat.ble ((rest.map Value.category).sum) 8 = true) (hk : 6 + 1 ≤ kf) (hkd : gk M 268 = 7) (h : fX7_needed p1 p2 p3 M Q) (kk : ∀ r M1, Q r M1 → w M1 (pc + 3) lv (.int r :: rest)) : w M pc lv (.int p3 :: .int p2 :: .int p1 :: .ref (gA G 268) :: rest) := by
  obtain ⟨cls9, nm9, ds9⟩ := y0
  subst hy
  exact g_callV (r := (RX7, TX7, 58)) (ci := 6) hw [.int p1, .int p2, .int p3] (nA := 3) rfl d q1725 q1726 q1727 q104 q1728 (by decide +kernel) rfl rfl hrest rfl (by omega : kf - 1 + 1 ≤ kf) hkd (mX7_needed (kf := kf - 1) (by omega) G p1 p2 p3 M Q h) (fun _ _ _ q => q.elim) (fun v M1 h => by obtain ⟨r, rfl, h⟩ := h; exact kk r M1 h)
theorem sX0_218 {y0 : MethodName} {cc : ByteArray} {nL : Nat} {ret : Option FieldType} {hh : List (Nat × Nat × Nat × Nat)} {kf : Nat} {G : gG} {Qv : Option Value → gM → Prop} {E : String → Nat → gM → Prop} {w : gM → Nat → List (Nat × Value) → List Value → Prop} {M : gM} {pc : Nat} {lv : List (Nat × Value)} {rest : List Value} (hw : gX y0 cc nL ret hh kf G Qv E w) (hy : y0.cls = RX0) {p1 : Int32} {p2 : Int32} {Q : Int32 → gM → Prop} (d : decode cc pc = .ok (.invokevirtual 218, 3)) (hrest : Nat.ble ((rest.map Value.category).sum) 8 = true) (hk : 3 + 1 ≤ kf) (hkd : gk M 16 = 1) (h : fX1_slips p1 p2 M Q) (kk : ∀ r M1, Q r M1 → w M1 (pc + 3) lv (.int r :: rest)) : w M pc lv (.int p2 :: .int p1 :: .ref (gA G 16) :: rest) := by
  obtain ⟨cls9, nm9, ds9⟩ := y0
  subst hy
  exact g_callV (r := (RX1, TX1, 28)) (ci := 0) hw [.int p1, .int p2] (nA := 2) rfl d q940 q941 q942 q98 q943 (by decide +kernel) rfl rfl hrest rfl (by omega : kf - 1 + 1 ≤ kf) hkd (mX1_slips (kf := kf - 1) (by omega) G p1 p2 M Q h) (fun _ _ _ q => q.elim) (fun v M1 h => by obtain ⟨r, rfl, h⟩ := h; exact kk r M1 h)
theorem sX0_221 {y0 : MethodName} {cc : ByteArray} {nL : Nat} {ret : Option FieldType} {hh : List (Nat × Nat × Nat × Nat)} {kf : Nat} {G : gG} {Qv : Option Value → gM → Prop} {E : String → Nat → gM → Prop} {w : gM → Nat → List (Nat × Value) → List Value → Prop} {M : gM} {pc : Nat} {lv : List (Nat × Value)} {rest : List Value} (hw : gX y0 cc nL ret hh kf G Qv E w) (hy : y0.cls = RX0) {p1 : Int32} {p2 : Int32} {Q : Int32 → gM → Prop} (d : decode cc pc = .ok (.invokevirtual 221, 3)) (hrest : Nat.ble ((rest.map Value.category).sum) 8 = true) (hk : 3 + 1 ≤ kf) (hkd : gk M 268 = 7) (h : fX7_slips p1 p2 M Q) (kk : ∀ r M1, Q r M1 → w M1 (pc + 3) lv (.int r :: rest)) : w M pc lv (.int p2 :: .int p1 :: .ref (gA G 268) :: rest) := by
  obtain ⟨cls9, nm9, ds9⟩ := y0
  subst hy
  exact g_callV (r := (RX7, TX7, 58)) (ci := 6) hw [.int p1, .int p2] (nA := 2) rfl d q1730 q1731 q1732 q104 q1733 (by decide +kernel) rfl rfl hrest rfl (by omega : kf - 1 + 1 ≤ kf) hkd (mX7_slips (kf := kf - 1) (by omega) G p1 p2 M Q h) (fun _ _ _ q => q.elim) (fun v M1 h => by obtain ⟨r, rfl, h⟩ := h; exact kk r M1 h)
theorem sX0_222 {y0 : MethodName} {cc : ByteArray} {nL : Nat} {ret : Option FieldType} {hh : List (Nat × Nat × Nat × Nat)} {kf : Nat} {G : gG} {Qv : Option Value → gM → Prop} {E : String → Nat → gM → Prop} {w : gM → Nat → List (Nat × Value) → List Value → Prop} {M : gM} {pc : Nat} {lv : List (Nat × Value)} {rest : List Value} (hw : gX y0 cc nL ret hh kf G Qv E w) (hy : y0.cls = RX0) {p2 : Int32} {p3 : Int32} {p4 : Int32} {p5 : Nat} {Q : Int32 → gM → Prop} (d : decode cc pc = .ok (.invokestatic 222, 3)) (hrest : Nat.ble ((rest.map Value.category).sum) 8 = true) (hk : 104 + 1 ≤ kf) (h : fX0_mixed p2 p3 p4 p5 M Q) (kk : ∀ r M1, Q r M1 → w M1 (pc + 3) lv (.int r :: rest)) : w M pc lv (.ref (gA G p5) :: .int p4 :: .int p3 :: .int p2 :: .ref (gA G 16) :: rest) := by
  obtain ⟨cls9, nm9, ds9⟩ := y0
  subst hy
  exact g_callSW hw [.ref (gA G 16), .int p2, .int p3, .int p4, .ref (gA G p5)] (nA := 5) rfl d q1103 q1104 q97 q1105 (by decide +kernel) rfl hrest rfl (by omega : kf - 1 + 1 ≤ kf) (mX0_mixed (kf := kf - 1) (by omega) G p2 p3 p4 p5 M Q h) (fun _ _ _ q => q.elim) (fun v M1 h => by obtain ⟨r, rfl, h⟩ := h; exact kk r M1 h)
theorem sX0_224 {y0 : MethodName} {cc : ByteArray} {nL : Nat} {ret : Option FieldType} {hh : List (Nat × Nat × Nat × Nat)} {kf : Nat} {G : gG} {Qv : Option Value → gM → Prop} {E : String → Nat → gM → Prop} {w : gM → Nat → List (Nat × Value) → List Value → Prop} {M : gM} {pc : Nat} {lv : List (Nat × Value)} {rest : List Value} (hw : gX y0 cc nL ret hh kf G Qv E w) (hy : y0.cls = RX0) {p1 : Int32} {p2 : Int32} {p3 : Int32} {Q : Int64 → gM → Prop} (d : decode cc pc = .ok (.invokevirtual 224, 3)) (hrest : Nat.ble ((rest.map Value.category).sum) 8 = true) (hk : 4 + 1 ≤ kf) (hkd : gk M 268 = 7) (h : fX7_mixed p1 p2 p3 M Q) (kk : ∀ r M1, Q r M1 → w M1 (pc + 3) lv (.long r :: rest)) : w M pc lv (.int p3 :: .int p2 :: .int p1 :: .ref (gA G 268) :: rest) := by
  obtain ⟨cls9, nm9, ds9⟩ := y0
  subst hy
  exact g_callV (r := (RX7, TX7, 58)) (ci := 6) hw [.int p1, .int p2, .int p3] (nA := 3) rfl d q1738 q1739 q1740 q104 q1741 (by decide +kernel) rfl rfl hrest rfl (by omega : kf - 1 + 1 ≤ kf) hkd (mX7_mixed (kf := kf - 1) (by omega) G p1 p2 p3 M Q h) (fun _ _ _ q => q.elim) (fun v M1 h => by obtain ⟨r, rfl, h⟩ := h; exact kk r M1 h)
theorem sX0_225 {y0 : MethodName} {cc : ByteArray} {nL : Nat} {ret : Option FieldType} {hh : List (Nat × Nat × Nat × Nat)} {kf : Nat} {G : gG} {Qv : Option Value → gM → Prop} {E : String → Nat → gM → Prop} {w : gM → Nat → List (Nat × Value) → List Value → Prop} {M : gM} {pc : Nat} {lv : List (Nat × Value)} {rest : List Value} (hw : gX y0 cc nL ret hh kf G Qv E w) (hy : y0.cls = RX0) {p1 : Int32} {Q : Int32 → gM → Prop} (d : decode cc pc = .ok (.invokevirtual 225, 3)) (hrest : Nat.ble ((rest.map Value.category).sum) 8 = true) (hk : 4 + 1 ≤ kf) (hkd : gk M 16 = 1) (h : fX1_where p1 M Q) (kk : ∀ r M1, Q r M1 → w M1 (pc + 3) lv (.int r :: rest)) : w M pc lv (.int p1 :: .ref (gA G 16) :: rest) := by
  obtain ⟨cls9, nm9, ds9⟩ := y0
  subst hy
  exact g_callV (r := (RX1, TX1, 28)) (ci := 0) hw [.int p1] (nA := 1) rfl d q944 q945 q946 q98 q947 (by decide +kernel) rfl rfl hrest rfl (by omega : kf - 1 + 1 ≤ kf) hkd (mX1_where (kf := kf - 1) (by omega) G p1 M Q h) (fun _ _ _ q => q.elim) (fun v M1 h => by obtain ⟨r, rfl, h⟩ := h; exact kk r M1 h)
theorem sX0_228 {y0 : MethodName} {cc : ByteArray} {nL : Nat} {ret : Option FieldType} {hh : List (Nat × Nat × Nat × Nat)} {kf : Nat} {G : gG} {Qv : Option Value → gM → Prop} {E : String → Nat → gM → Prop} {w : gM → Nat → List (Nat × Value) → List Value → Prop} {M : gM} {pc : Nat} {lv : List (Nat × Value)} {rest : List Value} (hw : gX y0 cc nL ret hh kf G Qv E w) (hy : y0.cls = RX0) {p1 : Int32} {Q : Int32 → gM → Prop} (d : decode cc pc = .ok (.invokevirtual 228, 3)) (hrest : Nat.ble ((rest.map Value.category).sum) 8 = true) (hk : 3 + 1 ≤ kf) (hkd : gk M 268 = 7) (h : fX7_where p1 M Q) (kk : ∀ r M1, Q r M1 → w M1 (pc + 3) lv (.int r :: rest)) : w M pc lv (.int p1 :: .ref (gA G 268) :: rest) := by
  obtain ⟨cls9, nm9, ds9⟩ := y0
  subst hy
  exact g_callV (r := (RX7, TX7, 58)) (ci := 6) hw [.int p1] (nA := 1) rfl d q1742 q1743 q1744 q104 q1745 (by decide +kernel) rfl rfl hrest rfl (by omega : kf - 1 + 1 ≤ kf) hkd (mX7_where (kf := kf - 1) (by omega) G p1 M Q h) (fun _ _ _ q => q.elim) (fun v M1 h => by obtain ⟨r, rfl, h⟩ := h; exact kk r M1 h)
theorem sX0_229 {y0 : MethodName} {cc : ByteArray} {nL : Nat} {ret : Option FieldType} {hh : List (Nat × Nat × Nat × Nat)} {kf : Nat} {G : gG} {Qv : Option Value → gM → Prop} {E : String → Nat → gM → Prop} {w : gM → Nat → List (Nat × Value) → List Value → Prop} {M : gM} {pc : Nat} {lv : List (Nat × Value)} {rest : List Value} (hw : gX y0 cc nL ret hh kf G Qv E w) (hy : y0.cls = RX0) {p1 : Int32} {p2 : Int32} {Q : Int32 → gM → Prop} (d : decode cc pc = .ok (.invokevirtual 229, 3)) (hrest : Nat.ble ((rest.map Value.category).sum) 8 = true) (hk : 2 + 1 ≤ kf) (hkd : gk M 16 = 1) (h : fX1_mark p1 p2 M Q) (kk : ∀ r M1, Q r M1 → w M1 (pc + 3) lv (.int r :: rest)) : w M pc lv (.int p2 :: .int p1 :: .ref (gA G 16) :: rest) := by
  obtain ⟨cls9, nm9, ds9⟩ := y0
  subst hy
  exact g_callV (r := (RX1, TX1, 28)) (ci := 0) hw [.int p1, .int p2] (nA := 2) rfl d q952 q953 q954 q98 q955 (by decide +kernel) rfl rfl hrest rfl (by omega : kf - 1 + 1 ≤ kf) hkd (mX1_mark (kf := kf - 1) (by omega) G p1 p2 M Q h) (fun _ _ _ q => q.elim) (fun v M1 h => by obtain ⟨r, rfl, h⟩ := h; exact kk r M1 h)
theorem sX0_233 {y0 : MethodName} {cc : ByteArray} {nL : Nat} {ret : Option FieldType} {hh : List (Nat × Nat × Nat × Nat)} {kf : Nat} {G : gG} {Qv : Option Value → gM → Prop} {E : String → Nat → gM → Prop} {w : gM → Nat → List (Nat × Value) → List Value → Prop} {M : gM} {pc : Nat} {lv : List (Nat × Value)} {rest : List Value} (hw : gX y0 cc nL ret hh kf G Qv E w) (hy : y0.cls = RX0) {p1 : Int32} {p2 : Int32} {Q : Int32 → gM → Prop} (d : decode cc pc = .ok (.invokevirtual 233, 3)) (hrest : Nat.ble ((rest.map Value.category).sum) 8 = true) (hk : 2 + 1 ≤ kf) (hkd : gk M 268 = 7) (h : fX7_mark p1 p2 M Q) (kk : ∀ r M1, Q r M1 → w M1 (pc + 3) lv (.int r :: rest)) : w M pc lv (.int p2 :: .int p1 :: .ref (gA G 268) :: rest) := by
  obtain ⟨cls9, nm9, ds9⟩ := y0
  subst hy
  exact g_callV (r := (RX7, TX7, 58)) (ci := 6) hw [.int p1, .int p2] (nA := 2) rfl d q1750 q1751 q1752 q104 q1753 (by decide +kernel) rfl rfl hrest rfl (by omega : kf - 1 + 1 ≤ kf) hkd (mX7_mark (kf := kf - 1) (by omega) G p1 p2 M Q h) (fun _ _ _ q => q.elim) (fun v M1 h => by obtain ⟨r, rfl, h⟩ := h; exact kk r M1 h)
theorem sX0_234 {y0 : MethodName} {cc : ByteArray} {nL : Nat} {ret : Option FieldType} {hh : List (Nat × Nat × Nat × Nat)} {kf : Nat} {G : gG} {Qv : Option Value → gM → Prop} {E : String → Nat → gM → Prop} {w : gM → Nat → List (Nat × Value) → List Value → Prop} {M : gM} {pc : Nat} {lv : List (Nat × Value)} {rest : List Value} (hw : gX y0 cc nL ret hh kf G Qv E w) (hy : y0.cls = RX0) {p1 : Int32} {Q : Int32 → gM → Prop} (d : decode cc pc = .ok (.invokevirtual 234, 3)) (hrest : Nat.ble ((rest.map Value.category).sum) 8 = true) (hk : 1 + 1 ≤ kf) (hkd : gk M 16 = 1) (h : fX1_count p1 M Q) (kk : ∀ r M1, Q r M1 → w M1 (pc + 3) lv (.int r :: rest)) : w M pc lv (.int p1 :: .ref (gA G 16) :: rest) := by
  obtain ⟨cls9, nm9, ds9⟩ := y0
  subst hy
  exact g_callV (r := (RX1, TX1, 28)) (ci := 0) hw [.int p1] (nA := 1) rfl d q959 q960 q961 q98 q962 (by decide +kernel) rfl rfl hrest rfl (by omega : kf - 1 + 1 ≤ kf) hkd (mX1_count (kf := kf - 1) (by omega) G p1 M Q h) (fun _ _ _ q => q.elim) (fun v M1 h => by obtain ⟨r, rfl, h⟩ := h; exact kk r M1 h)
theorem sX0_237 {y0 : MethodName} {cc : ByteArray} {nL : Nat} {ret : Option FieldType} {hh : List (Nat × Nat × Nat × Nat)} {kf : Nat} {G : gG} {Qv : Option Value → gM → Prop} {E : String → Nat → gM → Prop} {w : gM → Nat → List (Nat × Value) → List Value → Prop} {M : gM} {pc : Nat} {lv : List (Nat × Value)} {rest : List Value} (hw : gX y0 cc nL ret hh kf G Qv E w) (hy : y0.cls = RX0) {p1 : Int32} {Q : Int32 → gM → Prop} (d : decode cc pc = .ok (.invokevirtual 237, 3)) (hrest : Nat.ble ((rest.map Value.category).sum) 8 = true) (hk : 1 + 1 ≤ kf) (hkd : gk M 268 = 7) (h : fX7_count p1 M Q) (kk : ∀ r M1, Q r M1 → w M1 (pc + 3) lv (.int r :: rest)) : w M pc lv (.int p1 :: .ref (gA G 268) :: rest) := by
  obtain ⟨cls9, nm9, ds9⟩ := y0
  subst hy
  exact g_callV (r := (RX7, TX7, 58)) (ci := 6) hw [.int p1] (nA := 1) rfl d q1758 q1759 q1760 q104 q1761 (by decide +kernel) rfl rfl hrest rfl (by omega : kf - 1 + 1 ≤ kf) hkd (mX7_count (kf := kf - 1) (by omega) G p1 M Q h) (fun _ _ _ q => q.elim) (fun v M1 h => by obtain ⟨r, rfl, h⟩ := h; exact kk r M1 h)
def fL_law_b2724 (L : Nat) (xs : Nat → Int32) (R23 : Int32 → gM → Prop) (l3_13 : Nat) (l4_50 : Int32) (M : gM) (Q : Int32 → gM → Prop) : Prop :=
  R23 (l4_50 + 7) M
theorem wL_law_b2724 {kf : Nat} {G : gG} {w : gM → Nat → List (Nat × Value) → List Value → Prop} {Q : Int32 → gM → Prop} (hw : gX yL_law cL_law 8 (Option.some FieldType.boolean) [] kf G (gQi Q) gE0 w) {L : Nat} {xs : Nat → Int32} {b : Nat} (hkf : 1017 ≤ kf) (hv : gScr G b L xs) {R23 : Int32 → gM → Prop} {l3_13 : Nat} {l4_50 : Int32} {M : gM} (hR23 : ∀ (v0 : Int32) (M : gM), R23 v0 M → w M 23 [(0, .ref (gA G (gBig + b))), (1, .ref (gA G 16)), (2, .ref (gA G 268)), (3, .ref (gA G l3_13)), (4, .int v0)] []) (h : fL_law_b2724 L xs R23 l3_13 l4_50 M Q) : w M 2724 [(0, .ref (gA G (gBig + b))), (1, .ref (gA G 16)), (2, .ref (gA G 268)), (3, .ref (gA G l3_13)), (4, .int l4_50)] [] := by
  unfold fL_law_b2724 at h
  refine g_iinc hw (lv2 := [(0, .ref (gA G (gBig + b))), (1, .ref (gA G 16)), (2, .ref (gA G 268)), (3, .ref (gA G l3_13)), (4, .int (l4_50 + 7))]) 4 [1, 2, 3, 4, 0] dL_law_2724 rfl (by decide) rfl rfl ?_
  refine g_goto (tgt := 23) hw dL_law_2727 (by decide) ?_
  exact hR23 (l4_50 + 7) M h
def fL_law_b301 (L : Nat) (xs : Nat → Int32) (R23 : Int32 → gM → Prop) (K307_23 : gM → Prop) (l3_13 : Nat) (l4_39 : Int32) (s0_40 : Int32) (s2_41 : Int32) (s3_42 : Int32) (s4_43 : Int32) (s5_44 : Int32) (s6_45 : Int32) (M : gM) (Q : Int32 → gM → Prop) : Prop :=
  gk M 268 = 7 ∧ fX7_kitchen s2_41 s3_42 s4_43 s5_44 s6_45 M (fun r48 M47 => (if s0_40 = r48 then fL_law_b2724 L xs R23 l3_13 l4_39 M47 Q else K307_23 M47))
theorem wL_law_b301 {kf : Nat} {G : gG} {w : gM → Nat → List (Nat × Value) → List Value → Prop} {Q : Int32 → gM → Prop} (hw : gX yL_law cL_law 8 (Option.some FieldType.boolean) [] kf G (gQi Q) gE0 w) {L : Nat} {xs : Nat → Int32} {b : Nat} (hkf : 1017 ≤ kf) (hv : gScr G b L xs) {R23 : Int32 → gM → Prop} {K307_23 : gM → Prop} {l3_13 : Nat} {l4_39 : Int32} {s0_40 : Int32} {s2_41 : Int32} {s3_42 : Int32} {s4_43 : Int32} {s5_44 : Int32} {s6_45 : Int32} {M : gM} (hR23 : ∀ (v0 : Int32) (M : gM), R23 v0 M → w M 23 [(0, .ref (gA G (gBig + b))), (1, .ref (gA G 16)), (2, .ref (gA G 268)), (3, .ref (gA G l3_13)), (4, .int v0)] []) (hK307_23 : ∀  (M : gM), K307_23 M → w M 307 [] []) (h : fL_law_b301 L xs R23 K307_23 l3_13 l4_39 s0_40 s2_41 s3_42 s4_43 s5_44 s6_45 M Q) : w M 301 [(0, .ref (gA G (gBig + b))), (1, .ref (gA G 16)), (2, .ref (gA G 268)), (3, .ref (gA G l3_13)), (4, .int l4_39)] [.int s6_45, .int s5_44, .int s4_43, .int s3_42, .int s2_41, .ref (gA G 268), .int s0_40] := by
  unfold fL_law_b301 at h
  obtain ⟨hk46, h⟩ := h
  refine sX0_68 hw rfl dL_law_301 rfl (gK2 hkf) hk46 h (fun r48 M47 h => ?_)
  refine g_icmp_eq (tgt := 2724) hw dL_law_304 (by decide) (fun hb49 => ?_) (fun hb49 => ?_)
  · have h := gT h hb49
    exact wL_law_b2724 hw hkf hv hR23 h
  · have h := gF h hb49
    refine g_sub hw (lv2 := []) [] rfl ?_
    exact hK307_23 M47 h
def fL_law_b259 (L : Nat) (xs : Nat → Int32) (R23 : Int32 → gM → Prop) (K307_23 : gM → Prop) (l3_13 : Nat) (l4_24 : Int32) (s1_25 : Int32) (s2_26 : Int32) (s3_27 : Int32) (s4_28 : Int32) (s5_29 : Int32) (M : gM) (Q : Int32 → gM → Prop) : Prop :=
  gk M 16 = 1 ∧ fX1_kitchen s1_25 s2_26 s3_27 s4_28 s5_29 M (fun r32 M31 => vp_in (l4_24 + 1) L ∧ vp_in (l4_24 + 2) L ∧ vp_in (l4_24 + 3) L ∧ vp_in (l4_24 + 4) L ∧ vp_in (l4_24 + 5) L ∧ (if (xs ((l4_24 + 5).toNatClampNeg)) = 0 then fL_law_b301 L xs R23 K307_23 l3_13 l4_24 r32 (xs ((l4_24 + 1).toNatClampNeg)) (xs ((l4_24 + 2).toNatClampNeg)) (xs ((l4_24 + 3).toNatClampNeg)) (xs ((l4_24 + 4).toNatClampNeg)) 0 M31 Q else fL_law_b301 L xs R23 K307_23 l3_13 l4_24 r32 (xs ((l4_24 + 1).toNatClampNeg)) (xs ((l4_24 + 2).toNatClampNeg)) (xs ((l4_24 + 3).toNatClampNeg)) (xs ((l4_24 + 4).toNatClampNeg)) 1 M31 Q))
theorem wL_law_b259 {kf : Nat} {G : gG} {w : gM → Nat → List (Nat × Value) → List Value → Prop} {Q : Int32 → gM → Prop} (hw : gX yL_law cL_law 8 (Option.some FieldType.boolean) [] kf G (gQi Q) gE0 w) {L : Nat} {xs : Nat → Int32} {b : Nat} (hkf : 1017 ≤ kf) (hv : gScr G b L xs) {R23 : Int32 → gM → Prop} {K307_23 : gM → Prop} {l3_13 : Nat} {l4_24 : Int32} {s1_25 : Int32} {s2_26 : Int32} {s3_27 : Int32} {s4_28 : Int32} {s5_29 : Int32} {M : gM} (hR23 : ∀ (v0 : Int32) (M : gM), R23 v0 M → w M 23 [(0, .ref (gA G (gBig + b))), (1, .ref (gA G 16)), (2, .ref (gA G 268)), (3, .ref (gA G l3_13)), (4, .int v0)] []) (hK307_23 : ∀  (M : gM), K307_23 M → w M 307 [] []) (h : fL_law_b259 L xs R23 K307_23 l3_13 l4_24 s1_25 s2_26 s3_27 s4_28 s5_29 M Q) : w M 259 [(0, .ref (gA G (gBig + b))), (1, .ref (gA G 16)), (2, .ref (gA G 268)), (3, .ref (gA G l3_13)), (4, .int l4_24)] [.int s5_29, .int s4_28, .int s3_27, .int s2_26, .int s1_25, .ref (gA G 16)] := by
  unfold fL_law_b259 at h
  obtain ⟨hk30, h⟩ := h
  refine sX0_64 hw rfl dL_law_259 rfl (gK2 hkf) hk30 h (fun r32 M31 h => ?_)
  refine g_aload_n hw 2 dL_law_262 rfl ?_
  refine g_aload_n hw 0 dL_law_263 rfl ?_
  refine g_iload hw 4 dL_law_264 rfl ?_
  refine g_iconst (v := 1) hw dL_law_266 (by decide) ?_
  refine g_iadd hw dL_law_267 ?_
  obtain ⟨hi33, h⟩ := h
  refine g_sciald (n := (l4_24 + 1).toNatClampNeg) hw hv dL_law_268 hi33 rfl ?_
  refine g_aload_n hw 0 dL_law_269 rfl ?_
  refine g_iload hw 4 dL_law_270 rfl ?_
  refine g_iconst (v := 2) hw dL_law_272 (by decide) ?_
  refine g_iadd hw dL_law_273 ?_
  obtain ⟨hi34, h⟩ := h
  refine g_sciald (n := (l4_24 + 2).toNatClampNeg) hw hv dL_law_274 hi34 rfl ?_
  refine g_aload_n hw 0 dL_law_275 rfl ?_
  refine g_iload hw 4 dL_law_276 rfl ?_
  refine g_iconst (v := 3) hw dL_law_278 (by decide) ?_
  refine g_iadd hw dL_law_279 ?_
  obtain ⟨hi35, h⟩ := h
  refine g_sciald (n := (l4_24 + 3).toNatClampNeg) hw hv dL_law_280 hi35 rfl ?_
  refine g_aload_n hw 0 dL_law_281 rfl ?_
  refine g_iload hw 4 dL_law_282 rfl ?_
  refine g_iconst (v := 4) hw dL_law_284 (by decide) ?_
  refine g_iadd hw dL_law_285 ?_
  obtain ⟨hi36, h⟩ := h
  refine g_sciald (n := (l4_24 + 4).toNatClampNeg) hw hv dL_law_286 hi36 rfl ?_
  refine g_aload_n hw 0 dL_law_287 rfl ?_
  refine g_iload hw 4 dL_law_288 rfl ?_
  refine g_iconst (v := 5) hw dL_law_290 (by decide) ?_
  refine g_iadd hw dL_law_291 ?_
  obtain ⟨hi37, h⟩ := h
  refine g_sciald (n := (l4_24 + 5).toNatClampNeg) hw hv dL_law_292 hi37 rfl ?_
  refine g_if_eq (tgt := 300) hw dL_law_293 (by decide) (fun hb38 => ?_) (fun hb38 => ?_)
  · have h := gT h hb38
    refine g_iconst (v := 0) hw dL_law_300 (by decide) ?_
    exact wL_law_b301 hw hkf hv hR23 hK307_23 h
  · have h := gF h hb38
    refine g_iconst (v := 1) hw dL_law_296 (by decide) ?_
    refine g_goto (tgt := 301) hw dL_law_297 (by decide) ?_
    exact wL_law_b301 hw hkf hv hR23 hK307_23 h
def fL_law_b220 (L : Nat) (xs : Nat → Int32) (R23 : Int32 → gM → Prop) (K307_23 : gM → Prop) (l3_13 : Nat) (l4_17 : Int32) (M : gM) (Q : Int32 → gM → Prop) : Prop :=
  vp_in (l4_17 + 1) L ∧ vp_in (l4_17 + 2) L ∧ vp_in (l4_17 + 3) L ∧ vp_in (l4_17 + 4) L ∧ vp_in (l4_17 + 5) L ∧ (if (xs ((l4_17 + 5).toNatClampNeg)) = 0 then fL_law_b259 L xs R23 K307_23 l3_13 l4_17 (xs ((l4_17 + 1).toNatClampNeg)) (xs ((l4_17 + 2).toNatClampNeg)) (xs ((l4_17 + 3).toNatClampNeg)) (xs ((l4_17 + 4).toNatClampNeg)) 0 M Q else fL_law_b259 L xs R23 K307_23 l3_13 l4_17 (xs ((l4_17 + 1).toNatClampNeg)) (xs ((l4_17 + 2).toNatClampNeg)) (xs ((l4_17 + 3).toNatClampNeg)) (xs ((l4_17 + 4).toNatClampNeg)) 1 M Q)
theorem wL_law_b220 {kf : Nat} {G : gG} {w : gM → Nat → List (Nat × Value) → List Value → Prop} {Q : Int32 → gM → Prop} (hw : gX yL_law cL_law 8 (Option.some FieldType.boolean) [] kf G (gQi Q) gE0 w) {L : Nat} {xs : Nat → Int32} {b : Nat} (hkf : 1017 ≤ kf) (hv : gScr G b L xs) {R23 : Int32 → gM → Prop} {K307_23 : gM → Prop} {l3_13 : Nat} {l4_17 : Int32} {M : gM} (hR23 : ∀ (v0 : Int32) (M : gM), R23 v0 M → w M 23 [(0, .ref (gA G (gBig + b))), (1, .ref (gA G 16)), (2, .ref (gA G 268)), (3, .ref (gA G l3_13)), (4, .int v0)] []) (hK307_23 : ∀  (M : gM), K307_23 M → w M 307 [] []) (h : fL_law_b220 L xs R23 K307_23 l3_13 l4_17 M Q) : w M 220 [(0, .ref (gA G (gBig + b))), (1, .ref (gA G 16)), (2, .ref (gA G 268)), (3, .ref (gA G l3_13)), (4, .int l4_17)] [] := by
  unfold fL_law_b220 at h
  refine g_aload_n hw 1 dL_law_220 rfl ?_
  refine g_aload_n hw 0 dL_law_221 rfl ?_
  refine g_iload hw 4 dL_law_222 rfl ?_
  refine g_iconst (v := 1) hw dL_law_224 (by decide) ?_
  refine g_iadd hw dL_law_225 ?_
  obtain ⟨hi18, h⟩ := h
  refine g_sciald (n := (l4_17 + 1).toNatClampNeg) hw hv dL_law_226 hi18 rfl ?_
  refine g_aload_n hw 0 dL_law_227 rfl ?_
  refine g_iload hw 4 dL_law_228 rfl ?_
  refine g_iconst (v := 2) hw dL_law_230 (by decide) ?_
  refine g_iadd hw dL_law_231 ?_
  obtain ⟨hi19, h⟩ := h
  refine g_sciald (n := (l4_17 + 2).toNatClampNeg) hw hv dL_law_232 hi19 rfl ?_
  refine g_aload_n hw 0 dL_law_233 rfl ?_
  refine g_iload hw 4 dL_law_234 rfl ?_
  refine g_iconst (v := 3) hw dL_law_236 (by decide) ?_
  refine g_iadd hw dL_law_237 ?_
  obtain ⟨hi20, h⟩ := h
  refine g_sciald (n := (l4_17 + 3).toNatClampNeg) hw hv dL_law_238 hi20 rfl ?_
  refine g_aload_n hw 0 dL_law_239 rfl ?_
  refine g_iload hw 4 dL_law_240 rfl ?_
  refine g_iconst (v := 4) hw dL_law_242 (by decide) ?_
  refine g_iadd hw dL_law_243 ?_
  obtain ⟨hi21, h⟩ := h
  refine g_sciald (n := (l4_17 + 4).toNatClampNeg) hw hv dL_law_244 hi21 rfl ?_
  refine g_aload_n hw 0 dL_law_245 rfl ?_
  refine g_iload hw 4 dL_law_246 rfl ?_
  refine g_iconst (v := 5) hw dL_law_248 (by decide) ?_
  refine g_iadd hw dL_law_249 ?_
  obtain ⟨hi22, h⟩ := h
  refine g_sciald (n := (l4_17 + 5).toNatClampNeg) hw hv dL_law_250 hi22 rfl ?_
  refine g_if_eq (tgt := 258) hw dL_law_251 (by decide) (fun hb23 => ?_) (fun hb23 => ?_)
  · have h := gT h hb23
    refine g_iconst (v := 0) hw dL_law_258 (by decide) ?_
    exact wL_law_b259 hw hkf hv hR23 hK307_23 h
  · have h := gF h hb23
    refine g_iconst (v := 1) hw dL_law_254 (by decide) ?_
    refine g_goto (tgt := 259) hw dL_law_255 (by decide) ?_
    exact wL_law_b259 hw hkf hv hR23 hK307_23 h
def fL_law_b309 (L : Nat) (xs : Nat → Int32) (R23 : Int32 → gM → Prop) (K368_23 : gM → Prop) (l3_13 : Nat) (l4_51 : Int32) (M : gM) (Q : Int32 → gM → Prop) : Prop :=
  vp_in (l4_51 + 1) L ∧ vp_in (l4_51 + 2) L ∧ vp_in (l4_51 + 3) L ∧ vp_in (l4_51 + 4) L ∧ gk M 16 = 1 ∧ fX1_call (xs ((l4_51 + 1).toNatClampNeg)) (xs ((l4_51 + 2).toNatClampNeg)) (xs ((l4_51 + 3).toNatClampNeg)) (xs ((l4_51 + 4).toNatClampNeg)) M (fun r58 M57 => vp_in (l4_51 + 1) L ∧ vp_in (l4_51 + 2) L ∧ vp_in (l4_51 + 3) L ∧ vp_in (l4_51 + 4) L ∧ gk M57 268 = 7 ∧ fX7_call (xs ((l4_51 + 1).toNatClampNeg)) (xs ((l4_51 + 2).toNatClampNeg)) (xs ((l4_51 + 3).toNatClampNeg)) (xs ((l4_51 + 4).toNatClampNeg)) M57 (fun r65 M64 => (if r58 = r65 then fL_law_b2724 L xs R23 l3_13 l4_51 M64 Q else K368_23 M64)))
theorem wL_law_b309 {kf : Nat} {G : gG} {w : gM → Nat → List (Nat × Value) → List Value → Prop} {Q : Int32 → gM → Prop} (hw : gX yL_law cL_law 8 (Option.some FieldType.boolean) [] kf G (gQi Q) gE0 w) {L : Nat} {xs : Nat → Int32} {b : Nat} (hkf : 1017 ≤ kf) (hv : gScr G b L xs) {R23 : Int32 → gM → Prop} {K368_23 : gM → Prop} {l3_13 : Nat} {l4_51 : Int32} {M : gM} (hR23 : ∀ (v0 : Int32) (M : gM), R23 v0 M → w M 23 [(0, .ref (gA G (gBig + b))), (1, .ref (gA G 16)), (2, .ref (gA G 268)), (3, .ref (gA G l3_13)), (4, .int v0)] []) (hK368_23 : ∀  (M : gM), K368_23 M → w M 368 [] []) (h : fL_law_b309 L xs R23 K368_23 l3_13 l4_51 M Q) : w M 309 [(0, .ref (gA G (gBig + b))), (1, .ref (gA G 16)), (2, .ref (gA G 268)), (3, .ref (gA G l3_13)), (4, .int l4_51)] [] := by
  unfold fL_law_b309 at h
  refine g_aload_n hw 1 dL_law_309 rfl ?_
  refine g_aload_n hw 0 dL_law_310 rfl ?_
  refine g_iload hw 4 dL_law_311 rfl ?_
  refine g_iconst (v := 1) hw dL_law_313 (by decide) ?_
  refine g_iadd hw dL_law_314 ?_
  obtain ⟨hi52, h⟩ := h
  refine g_sciald (n := (l4_51 + 1).toNatClampNeg) hw hv dL_law_315 hi52 rfl ?_
  refine g_aload_n hw 0 dL_law_316 rfl ?_
  refine g_iload hw 4 dL_law_317 rfl ?_
  refine g_iconst (v := 2) hw dL_law_319 (by decide) ?_
  refine g_iadd hw dL_law_320 ?_
  obtain ⟨hi53, h⟩ := h
  refine g_sciald (n := (l4_51 + 2).toNatClampNeg) hw hv dL_law_321 hi53 rfl ?_
  refine g_aload_n hw 0 dL_law_322 rfl ?_
  refine g_iload hw 4 dL_law_323 rfl ?_
  refine g_iconst (v := 3) hw dL_law_325 (by decide) ?_
  refine g_iadd hw dL_law_326 ?_
  obtain ⟨hi54, h⟩ := h
  refine g_sciald (n := (l4_51 + 3).toNatClampNeg) hw hv dL_law_327 hi54 rfl ?_
  refine g_aload_n hw 0 dL_law_328 rfl ?_
  refine g_iload hw 4 dL_law_329 rfl ?_
  refine g_iconst (v := 4) hw dL_law_331 (by decide) ?_
  refine g_iadd hw dL_law_332 ?_
  obtain ⟨hi55, h⟩ := h
  refine g_sciald (n := (l4_51 + 4).toNatClampNeg) hw hv dL_law_333 hi55 rfl ?_
  obtain ⟨hk56, h⟩ := h
  refine sX0_69 hw rfl dL_law_334 rfl (gK2 hkf) hk56 h (fun r58 M57 h => ?_)
  refine g_aload_n hw 2 dL_law_337 rfl ?_
  refine g_aload_n hw 0 dL_law_338 rfl ?_
  refine g_iload hw 4 dL_law_339 rfl ?_
  refine g_iconst (v := 1) hw dL_law_341 (by decide) ?_
  refine g_iadd hw dL_law_342 ?_
  obtain ⟨hi59, h⟩ := h
  refine g_sciald (n := (l4_51 + 1).toNatClampNeg) hw hv dL_law_343 hi59 rfl ?_
  refine g_aload_n hw 0 dL_law_344 rfl ?_
  refine g_iload hw 4 dL_law_345 rfl ?_
  refine g_iconst (v := 2) hw dL_law_347 (by decide) ?_
  refine g_iadd hw dL_law_348 ?_
  obtain ⟨hi60, h⟩ := h
  refine g_sciald (n := (l4_51 + 2).toNatClampNeg) hw hv dL_law_349 hi60 rfl ?_
  refine g_aload_n hw 0 dL_law_350 rfl ?_
  refine g_iload hw 4 dL_law_351 rfl ?_
  refine g_iconst (v := 3) hw dL_law_353 (by decide) ?_
  refine g_iadd hw dL_law_354 ?_
  obtain ⟨hi61, h⟩ := h
  refine g_sciald (n := (l4_51 + 3).toNatClampNeg) hw hv dL_law_355 hi61 rfl ?_
  refine g_aload_n hw 0 dL_law_356 rfl ?_
  refine g_iload hw 4 dL_law_357 rfl ?_
  refine g_iconst (v := 4) hw dL_law_359 (by decide) ?_
  refine g_iadd hw dL_law_360 ?_
  obtain ⟨hi62, h⟩ := h
  refine g_sciald (n := (l4_51 + 4).toNatClampNeg) hw hv dL_law_361 hi62 rfl ?_
  obtain ⟨hk63, h⟩ := h
  refine sX0_73 hw rfl dL_law_362 rfl (gK2 hkf) hk63 h (fun r65 M64 h => ?_)
  refine g_icmp_eq (tgt := 2724) hw dL_law_365 (by decide) (fun hb66 => ?_) (fun hb66 => ?_)
  · have h := gT h hb66
    exact wL_law_b2724 hw hkf hv hR23 h
  · have h := gF h hb66
    refine g_sub hw (lv2 := []) [] rfl ?_
    exact hK368_23 M64 h
def fL_law_b370 (L : Nat) (xs : Nat → Int32) (R23 : Int32 → gM → Prop) (K429_23 : gM → Prop) (l3_13 : Nat) (l4_67 : Int32) (M : gM) (Q : Int32 → gM → Prop) : Prop :=
  vp_in (l4_67 + 1) L ∧ vp_in (l4_67 + 2) L ∧ vp_in (l4_67 + 3) L ∧ vp_in (l4_67 + 4) L ∧ gk M 16 = 1 ∧ fX1_sheet (xs ((l4_67 + 1).toNatClampNeg)) (xs ((l4_67 + 2).toNatClampNeg)) (xs ((l4_67 + 3).toNatClampNeg)) (xs ((l4_67 + 4).toNatClampNeg)) M (fun r74 M73 => vp_in (l4_67 + 1) L ∧ vp_in (l4_67 + 2) L ∧ vp_in (l4_67 + 3) L ∧ vp_in (l4_67 + 4) L ∧ gk M73 268 = 7 ∧ fX7_sheet (xs ((l4_67 + 1).toNatClampNeg)) (xs ((l4_67 + 2).toNatClampNeg)) (xs ((l4_67 + 3).toNatClampNeg)) (xs ((l4_67 + 4).toNatClampNeg)) M73 (fun r81 M80 => (if r74 = r81 then fL_law_b2724 L xs R23 l3_13 l4_67 M80 Q else K429_23 M80)))
theorem wL_law_b370 {kf : Nat} {G : gG} {w : gM → Nat → List (Nat × Value) → List Value → Prop} {Q : Int32 → gM → Prop} (hw : gX yL_law cL_law 8 (Option.some FieldType.boolean) [] kf G (gQi Q) gE0 w) {L : Nat} {xs : Nat → Int32} {b : Nat} (hkf : 1017 ≤ kf) (hv : gScr G b L xs) {R23 : Int32 → gM → Prop} {K429_23 : gM → Prop} {l3_13 : Nat} {l4_67 : Int32} {M : gM} (hR23 : ∀ (v0 : Int32) (M : gM), R23 v0 M → w M 23 [(0, .ref (gA G (gBig + b))), (1, .ref (gA G 16)), (2, .ref (gA G 268)), (3, .ref (gA G l3_13)), (4, .int v0)] []) (hK429_23 : ∀  (M : gM), K429_23 M → w M 429 [] []) (h : fL_law_b370 L xs R23 K429_23 l3_13 l4_67 M Q) : w M 370 [(0, .ref (gA G (gBig + b))), (1, .ref (gA G 16)), (2, .ref (gA G 268)), (3, .ref (gA G l3_13)), (4, .int l4_67)] [] := by
  unfold fL_law_b370 at h
  refine g_aload_n hw 1 dL_law_370 rfl ?_
  refine g_aload_n hw 0 dL_law_371 rfl ?_
  refine g_iload hw 4 dL_law_372 rfl ?_
  refine g_iconst (v := 1) hw dL_law_374 (by decide) ?_
  refine g_iadd hw dL_law_375 ?_
  obtain ⟨hi68, h⟩ := h
  refine g_sciald (n := (l4_67 + 1).toNatClampNeg) hw hv dL_law_376 hi68 rfl ?_
  refine g_aload_n hw 0 dL_law_377 rfl ?_
  refine g_iload hw 4 dL_law_378 rfl ?_
  refine g_iconst (v := 2) hw dL_law_380 (by decide) ?_
  refine g_iadd hw dL_law_381 ?_
  obtain ⟨hi69, h⟩ := h
  refine g_sciald (n := (l4_67 + 2).toNatClampNeg) hw hv dL_law_382 hi69 rfl ?_
  refine g_aload_n hw 0 dL_law_383 rfl ?_
  refine g_iload hw 4 dL_law_384 rfl ?_
  refine g_iconst (v := 3) hw dL_law_386 (by decide) ?_
  refine g_iadd hw dL_law_387 ?_
  obtain ⟨hi70, h⟩ := h
  refine g_sciald (n := (l4_67 + 3).toNatClampNeg) hw hv dL_law_388 hi70 rfl ?_
  refine g_aload_n hw 0 dL_law_389 rfl ?_
  refine g_iload hw 4 dL_law_390 rfl ?_
  refine g_iconst (v := 4) hw dL_law_392 (by decide) ?_
  refine g_iadd hw dL_law_393 ?_
  obtain ⟨hi71, h⟩ := h
  refine g_sciald (n := (l4_67 + 4).toNatClampNeg) hw hv dL_law_394 hi71 rfl ?_
  obtain ⟨hk72, h⟩ := h
  refine sX0_74 hw rfl dL_law_395 rfl (gK2 hkf) hk72 h (fun r74 M73 h => ?_)
  refine g_aload_n hw 2 dL_law_398 rfl ?_
  refine g_aload_n hw 0 dL_law_399 rfl ?_
  refine g_iload hw 4 dL_law_400 rfl ?_
  refine g_iconst (v := 1) hw dL_law_402 (by decide) ?_
  refine g_iadd hw dL_law_403 ?_
  obtain ⟨hi75, h⟩ := h
  refine g_sciald (n := (l4_67 + 1).toNatClampNeg) hw hv dL_law_404 hi75 rfl ?_
  refine g_aload_n hw 0 dL_law_405 rfl ?_
  refine g_iload hw 4 dL_law_406 rfl ?_
  refine g_iconst (v := 2) hw dL_law_408 (by decide) ?_
  refine g_iadd hw dL_law_409 ?_
  obtain ⟨hi76, h⟩ := h
  refine g_sciald (n := (l4_67 + 2).toNatClampNeg) hw hv dL_law_410 hi76 rfl ?_
  refine g_aload_n hw 0 dL_law_411 rfl ?_
  refine g_iload hw 4 dL_law_412 rfl ?_
  refine g_iconst (v := 3) hw dL_law_414 (by decide) ?_
  refine g_iadd hw dL_law_415 ?_
  obtain ⟨hi77, h⟩ := h
  refine g_sciald (n := (l4_67 + 3).toNatClampNeg) hw hv dL_law_416 hi77 rfl ?_
  refine g_aload_n hw 0 dL_law_417 rfl ?_
  refine g_iload hw 4 dL_law_418 rfl ?_
  refine g_iconst (v := 4) hw dL_law_420 (by decide) ?_
  refine g_iadd hw dL_law_421 ?_
  obtain ⟨hi78, h⟩ := h
  refine g_sciald (n := (l4_67 + 4).toNatClampNeg) hw hv dL_law_422 hi78 rfl ?_
  obtain ⟨hk79, h⟩ := h
  refine sX0_77 hw rfl dL_law_423 rfl (gK2 hkf) hk79 h (fun r81 M80 h => ?_)
  refine g_icmp_eq (tgt := 2724) hw dL_law_426 (by decide) (fun hb82 => ?_) (fun hb82 => ?_)
  · have h := gT h hb82
    exact wL_law_b2724 hw hkf hv hR23 h
  · have h := gF h hb82
    refine g_sub hw (lv2 := []) [] rfl ?_
    exact hK429_23 M80 h
def fL_law_b431 (L : Nat) (xs : Nat → Int32) (R23 : Int32 → gM → Prop) (K454_23 : gM → Prop) (l3_13 : Nat) (l4_83 : Int32) (M : gM) (Q : Int32 → gM → Prop) : Prop :=
  vp_in (l4_83 + 1) L ∧ gk M 16 = 1 ∧ fX1_tenths (xs ((l4_83 + 1).toNatClampNeg)) M (fun r87 M86 => vp_in (l4_83 + 1) L ∧ gk M86 268 = 7 ∧ fX7_tenths (xs ((l4_83 + 1).toNatClampNeg)) M86 (fun r91 M90 => (if r87 = r91 then fL_law_b2724 L xs R23 l3_13 l4_83 M90 Q else K454_23 M90)))
theorem wL_law_b431 {kf : Nat} {G : gG} {w : gM → Nat → List (Nat × Value) → List Value → Prop} {Q : Int32 → gM → Prop} (hw : gX yL_law cL_law 8 (Option.some FieldType.boolean) [] kf G (gQi Q) gE0 w) {L : Nat} {xs : Nat → Int32} {b : Nat} (hkf : 1017 ≤ kf) (hv : gScr G b L xs) {R23 : Int32 → gM → Prop} {K454_23 : gM → Prop} {l3_13 : Nat} {l4_83 : Int32} {M : gM} (hR23 : ∀ (v0 : Int32) (M : gM), R23 v0 M → w M 23 [(0, .ref (gA G (gBig + b))), (1, .ref (gA G 16)), (2, .ref (gA G 268)), (3, .ref (gA G l3_13)), (4, .int v0)] []) (hK454_23 : ∀  (M : gM), K454_23 M → w M 454 [] []) (h : fL_law_b431 L xs R23 K454_23 l3_13 l4_83 M Q) : w M 431 [(0, .ref (gA G (gBig + b))), (1, .ref (gA G 16)), (2, .ref (gA G 268)), (3, .ref (gA G l3_13)), (4, .int l4_83)] [] := by
  unfold fL_law_b431 at h
  refine g_aload_n hw 1 dL_law_431 rfl ?_
  refine g_aload_n hw 0 dL_law_432 rfl ?_
  refine g_iload hw 4 dL_law_433 rfl ?_
  refine g_iconst (v := 1) hw dL_law_435 (by decide) ?_
  refine g_iadd hw dL_law_436 ?_
  obtain ⟨hi84, h⟩ := h
  refine g_sciald (n := (l4_83 + 1).toNatClampNeg) hw hv dL_law_437 hi84 rfl ?_
  obtain ⟨hk85, h⟩ := h
  refine sX0_78 hw rfl dL_law_438 rfl (gK2 hkf) hk85 h (fun r87 M86 h => ?_)
  refine g_aload_n hw 2 dL_law_441 rfl ?_
  refine g_aload_n hw 0 dL_law_442 rfl ?_
  refine g_iload hw 4 dL_law_443 rfl ?_
  refine g_iconst (v := 1) hw dL_law_445 (by decide) ?_
  refine g_iadd hw dL_law_446 ?_
  obtain ⟨hi88, h⟩ := h
  refine g_sciald (n := (l4_83 + 1).toNatClampNeg) hw hv dL_law_447 hi88 rfl ?_
  obtain ⟨hk89, h⟩ := h
  refine sX0_82 hw rfl dL_law_448 rfl (gK2 hkf) hk89 h (fun r91 M90 h => ?_)
  refine g_icmp_eq (tgt := 2724) hw dL_law_451 (by decide) (fun hb92 => ?_) (fun hb92 => ?_)
  · have h := gT h hb92
    exact wL_law_b2724 hw hkf hv hR23 h
  · have h := gF h hb92
    refine g_sub hw (lv2 := []) [] rfl ?_
    exact hK454_23 M90 h
def fL_law_b456 (L : Nat) (xs : Nat → Int32) (R23 : Int32 → gM → Prop) (K515_23 : gM → Prop) (l3_13 : Nat) (l4_93 : Int32) (M : gM) (Q : Int32 → gM → Prop) : Prop :=
  vp_in (l4_93 + 1) L ∧ vp_in (l4_93 + 2) L ∧ vp_in (l4_93 + 3) L ∧ vp_in (l4_93 + 4) L ∧ gk M 16 = 1 ∧ fX1_floor (xs ((l4_93 + 1).toNatClampNeg)) (xs ((l4_93 + 2).toNatClampNeg)) (xs ((l4_93 + 3).toNatClampNeg)) (xs ((l4_93 + 4).toNatClampNeg)) M (fun r100 M99 => vp_in (l4_93 + 1) L ∧ vp_in (l4_93 + 2) L ∧ vp_in (l4_93 + 3) L ∧ vp_in (l4_93 + 4) L ∧ gk M99 268 = 7 ∧ fX7_floor (xs ((l4_93 + 1).toNatClampNeg)) (xs ((l4_93 + 2).toNatClampNeg)) (xs ((l4_93 + 3).toNatClampNeg)) (xs ((l4_93 + 4).toNatClampNeg)) M99 (fun r107 M106 => (if r100 = r107 then fL_law_b2724 L xs R23 l3_13 l4_93 M106 Q else K515_23 M106)))
theorem wL_law_b456 {kf : Nat} {G : gG} {w : gM → Nat → List (Nat × Value) → List Value → Prop} {Q : Int32 → gM → Prop} (hw : gX yL_law cL_law 8 (Option.some FieldType.boolean) [] kf G (gQi Q) gE0 w) {L : Nat} {xs : Nat → Int32} {b : Nat} (hkf : 1017 ≤ kf) (hv : gScr G b L xs) {R23 : Int32 → gM → Prop} {K515_23 : gM → Prop} {l3_13 : Nat} {l4_93 : Int32} {M : gM} (hR23 : ∀ (v0 : Int32) (M : gM), R23 v0 M → w M 23 [(0, .ref (gA G (gBig + b))), (1, .ref (gA G 16)), (2, .ref (gA G 268)), (3, .ref (gA G l3_13)), (4, .int v0)] []) (hK515_23 : ∀  (M : gM), K515_23 M → w M 515 [] []) (h : fL_law_b456 L xs R23 K515_23 l3_13 l4_93 M Q) : w M 456 [(0, .ref (gA G (gBig + b))), (1, .ref (gA G 16)), (2, .ref (gA G 268)), (3, .ref (gA G l3_13)), (4, .int l4_93)] [] := by
  unfold fL_law_b456 at h
  refine g_aload_n hw 1 dL_law_456 rfl ?_
  refine g_aload_n hw 0 dL_law_457 rfl ?_
  refine g_iload hw 4 dL_law_458 rfl ?_
  refine g_iconst (v := 1) hw dL_law_460 (by decide) ?_
  refine g_iadd hw dL_law_461 ?_
  obtain ⟨hi94, h⟩ := h
  refine g_sciald (n := (l4_93 + 1).toNatClampNeg) hw hv dL_law_462 hi94 rfl ?_
  refine g_aload_n hw 0 dL_law_463 rfl ?_
  refine g_iload hw 4 dL_law_464 rfl ?_
  refine g_iconst (v := 2) hw dL_law_466 (by decide) ?_
  refine g_iadd hw dL_law_467 ?_
  obtain ⟨hi95, h⟩ := h
  refine g_sciald (n := (l4_93 + 2).toNatClampNeg) hw hv dL_law_468 hi95 rfl ?_
  refine g_aload_n hw 0 dL_law_469 rfl ?_
  refine g_iload hw 4 dL_law_470 rfl ?_
  refine g_iconst (v := 3) hw dL_law_472 (by decide) ?_
  refine g_iadd hw dL_law_473 ?_
  obtain ⟨hi96, h⟩ := h
  refine g_sciald (n := (l4_93 + 3).toNatClampNeg) hw hv dL_law_474 hi96 rfl ?_
  refine g_aload_n hw 0 dL_law_475 rfl ?_
  refine g_iload hw 4 dL_law_476 rfl ?_
  refine g_iconst (v := 4) hw dL_law_478 (by decide) ?_
  refine g_iadd hw dL_law_479 ?_
  obtain ⟨hi97, h⟩ := h
  refine g_sciald (n := (l4_93 + 4).toNatClampNeg) hw hv dL_law_480 hi97 rfl ?_
  obtain ⟨hk98, h⟩ := h
  refine sX0_83 hw rfl dL_law_481 rfl (gK2 hkf) hk98 h (fun r100 M99 h => ?_)
  refine g_aload_n hw 2 dL_law_484 rfl ?_
  refine g_aload_n hw 0 dL_law_485 rfl ?_
  refine g_iload hw 4 dL_law_486 rfl ?_
  refine g_iconst (v := 1) hw dL_law_488 (by decide) ?_
  refine g_iadd hw dL_law_489 ?_
  obtain ⟨hi101, h⟩ := h
  refine g_sciald (n := (l4_93 + 1).toNatClampNeg) hw hv dL_law_490 hi101 rfl ?_
  refine g_aload_n hw 0 dL_law_491 rfl ?_
  refine g_iload hw 4 dL_law_492 rfl ?_
  refine g_iconst (v := 2) hw dL_law_494 (by decide) ?_
  refine g_iadd hw dL_law_495 ?_
  obtain ⟨hi102, h⟩ := h
  refine g_sciald (n := (l4_93 + 2).toNatClampNeg) hw hv dL_law_496 hi102 rfl ?_
  refine g_aload_n hw 0 dL_law_497 rfl ?_
  refine g_iload hw 4 dL_law_498 rfl ?_
  refine g_iconst (v := 3) hw dL_law_500 (by decide) ?_
  refine g_iadd hw dL_law_501 ?_
  obtain ⟨hi103, h⟩ := h
  refine g_sciald (n := (l4_93 + 3).toNatClampNeg) hw hv dL_law_502 hi103 rfl ?_
  refine g_aload_n hw 0 dL_law_503 rfl ?_
  refine g_iload hw 4 dL_law_504 rfl ?_
  refine g_iconst (v := 4) hw dL_law_506 (by decide) ?_
  refine g_iadd hw dL_law_507 ?_
  obtain ⟨hi104, h⟩ := h
  refine g_sciald (n := (l4_93 + 4).toNatClampNeg) hw hv dL_law_508 hi104 rfl ?_
  obtain ⟨hk105, h⟩ := h
  refine sX0_86 hw rfl dL_law_509 rfl (gK2 hkf) hk105 h (fun r107 M106 h => ?_)
  refine g_icmp_eq (tgt := 2724) hw dL_law_512 (by decide) (fun hb108 => ?_) (fun hb108 => ?_)
  · have h := gT h hb108
    exact wL_law_b2724 hw hkf hv hR23 h
  · have h := gF h hb108
    refine g_sub hw (lv2 := []) [] rfl ?_
    exact hK515_23 M106 h
def fL_law_b517 (L : Nat) (xs : Nat → Int32) (R23 : Int32 → gM → Prop) (K552_23 : gM → Prop) (l3_13 : Nat) (l4_109 : Int32) (M : gM) (Q : Int32 → gM → Prop) : Prop :=
  vp_in (l4_109 + 1) L ∧ vp_in (l4_109 + 2) L ∧ gk M 16 = 1 ∧ fX1_hands (xs ((l4_109 + 1).toNatClampNeg)) (xs ((l4_109 + 2).toNatClampNeg)) M (fun r114 M113 => vp_in (l4_109 + 1) L ∧ vp_in (l4_109 + 2) L ∧ gk M113 268 = 7 ∧ fX7_hands (xs ((l4_109 + 1).toNatClampNeg)) (xs ((l4_109 + 2).toNatClampNeg)) M113 (fun r119 M118 => (if r114 = r119 then fL_law_b2724 L xs R23 l3_13 l4_109 M118 Q else K552_23 M118)))
theorem wL_law_b517 {kf : Nat} {G : gG} {w : gM → Nat → List (Nat × Value) → List Value → Prop} {Q : Int32 → gM → Prop} (hw : gX yL_law cL_law 8 (Option.some FieldType.boolean) [] kf G (gQi Q) gE0 w) {L : Nat} {xs : Nat → Int32} {b : Nat} (hkf : 1017 ≤ kf) (hv : gScr G b L xs) {R23 : Int32 → gM → Prop} {K552_23 : gM → Prop} {l3_13 : Nat} {l4_109 : Int32} {M : gM} (hR23 : ∀ (v0 : Int32) (M : gM), R23 v0 M → w M 23 [(0, .ref (gA G (gBig + b))), (1, .ref (gA G 16)), (2, .ref (gA G 268)), (3, .ref (gA G l3_13)), (4, .int v0)] []) (hK552_23 : ∀  (M : gM), K552_23 M → w M 552 [] []) (h : fL_law_b517 L xs R23 K552_23 l3_13 l4_109 M Q) : w M 517 [(0, .ref (gA G (gBig + b))), (1, .ref (gA G 16)), (2, .ref (gA G 268)), (3, .ref (gA G l3_13)), (4, .int l4_109)] [] := by
  unfold fL_law_b517 at h
  refine g_aload_n hw 1 dL_law_517 rfl ?_
  refine g_aload_n hw 0 dL_law_518 rfl ?_
  refine g_iload hw 4 dL_law_519 rfl ?_
  refine g_iconst (v := 1) hw dL_law_521 (by decide) ?_
  refine g_iadd hw dL_law_522 ?_
  obtain ⟨hi110, h⟩ := h
  refine g_sciald (n := (l4_109 + 1).toNatClampNeg) hw hv dL_law_523 hi110 rfl ?_
  refine g_aload_n hw 0 dL_law_524 rfl ?_
  refine g_iload hw 4 dL_law_525 rfl ?_
  refine g_iconst (v := 2) hw dL_law_527 (by decide) ?_
  refine g_iadd hw dL_law_528 ?_
  obtain ⟨hi111, h⟩ := h
  refine g_sciald (n := (l4_109 + 2).toNatClampNeg) hw hv dL_law_529 hi111 rfl ?_
  obtain ⟨hk112, h⟩ := h
  refine sX0_87 hw rfl dL_law_530 rfl (gK2 hkf) hk112 h (fun r114 M113 h => ?_)
  refine g_aload_n hw 2 dL_law_533 rfl ?_
  refine g_aload_n hw 0 dL_law_534 rfl ?_
  refine g_iload hw 4 dL_law_535 rfl ?_
  refine g_iconst (v := 1) hw dL_law_537 (by decide) ?_
  refine g_iadd hw dL_law_538 ?_
  obtain ⟨hi115, h⟩ := h
  refine g_sciald (n := (l4_109 + 1).toNatClampNeg) hw hv dL_law_539 hi115 rfl ?_
  refine g_aload_n hw 0 dL_law_540 rfl ?_
  refine g_iload hw 4 dL_law_541 rfl ?_
  refine g_iconst (v := 2) hw dL_law_543 (by decide) ?_
  refine g_iadd hw dL_law_544 ?_
  obtain ⟨hi116, h⟩ := h
  refine g_sciald (n := (l4_109 + 2).toNatClampNeg) hw hv dL_law_545 hi116 rfl ?_
  obtain ⟨hk117, h⟩ := h
  refine sX0_91 hw rfl dL_law_546 rfl (gK2 hkf) hk117 h (fun r119 M118 h => ?_)
  refine g_icmp_eq (tgt := 2724) hw dL_law_549 (by decide) (fun hb120 => ?_) (fun hb120 => ?_)
  · have h := gT h hb120
    exact wL_law_b2724 hw hkf hv hR23 h
  · have h := gF h hb120
    refine g_sub hw (lv2 := []) [] rfl ?_
    exact hK552_23 M118 h
def fL_law_b643 (L : Nat) (xs : Nat → Int32) (R23 : Int32 → gM → Prop) (l3_13 : Nat) (l4_140 : Int32) (M : gM) (Q : Int32 → gM → Prop) : Prop :=
  fL_law_b2724 L xs R23 l3_13 l4_140 M Q
theorem wL_law_b643 {kf : Nat} {G : gG} {w : gM → Nat → List (Nat × Value) → List Value → Prop} {Q : Int32 → gM → Prop} (hw : gX yL_law cL_law 8 (Option.some FieldType.boolean) [] kf G (gQi Q) gE0 w) {L : Nat} {xs : Nat → Int32} {b : Nat} (hkf : 1017 ≤ kf) (hv : gScr G b L xs) {R23 : Int32 → gM → Prop} {l3_13 : Nat} {l4_140 : Int32} {M : gM} (hR23 : ∀ (v0 : Int32) (M : gM), R23 v0 M → w M 23 [(0, .ref (gA G (gBig + b))), (1, .ref (gA G 16)), (2, .ref (gA G 268)), (3, .ref (gA G l3_13)), (4, .int v0)] []) (h : fL_law_b643 L xs R23 l3_13 l4_140 M Q) : w M 643 [(0, .ref (gA G (gBig + b))), (1, .ref (gA G 16)), (2, .ref (gA G 268)), (3, .ref (gA G l3_13)), (4, .int l4_140)] [] := by
  unfold fL_law_b643 at h
  refine g_goto (tgt := 2724) hw dL_law_643 (by decide) ?_
  exact wL_law_b2724 hw hkf hv hR23 h
def fL_law_b554 (L : Nat) (xs : Nat → Int32) (R23 : Int32 → gM → Prop) (K624_23 : gM → Prop) (K641_23 : gM → Prop) (l3_13 : Nat) (l4_121 : Int32) (M : gM) (Q : Int32 → gM → Prop) : Prop :=
  vp_in (l4_121 + 1) L ∧ vp_in (l4_121 + 2) L ∧ vp_in (l4_121 + 3) L ∧ vp_in (l4_121 + 4) L ∧ fX0_bank (xs ((l4_121 + 1).toNatClampNeg)) (xs ((l4_121 + 2).toNatClampNeg)) (xs ((l4_121 + 3).toNatClampNeg)) (xs ((l4_121 + 4).toNatClampNeg)) l3_13 M (fun r127 M126 => vp_in (l4_121 + 1) L ∧ vp_in (l4_121 + 2) L ∧ vp_in (l4_121 + 3) L ∧ vp_in (l4_121 + 4) L ∧ gk M126 268 = 7 ∧ fX7_bank (xs ((l4_121 + 1).toNatClampNeg)) (xs ((l4_121 + 2).toNatClampNeg)) (xs ((l4_121 + 3).toNatClampNeg)) (xs ((l4_121 + 4).toNatClampNeg)) M126 (fun r134 M133 => gk M133 268 = 7 ∧ fX7_thrown M133 (fun r137 M136 => (if r137 = r127 then (if r127 = 0 then gk M136 l3_13 = 41 ∧ vp_in 0 (gl M136 l3_13) ∧ (if (lg_cmp (gL M136 l3_13 0) r134.toInt64) = 0 then fL_law_b643 L xs R23 l3_13 l4_121 M136 Q else K641_23 M136) else fL_law_b643 L xs R23 l3_13 l4_121 M136 Q) else K624_23 M136))))
theorem wL_law_b554 {kf : Nat} {G : gG} {w : gM → Nat → List (Nat × Value) → List Value → Prop} {Q : Int32 → gM → Prop} (hw : gX yL_law cL_law 8 (Option.some FieldType.boolean) [] kf G (gQi Q) gE0 w) {L : Nat} {xs : Nat → Int32} {b : Nat} (hkf : 1017 ≤ kf) (hv : gScr G b L xs) {R23 : Int32 → gM → Prop} {K624_23 : gM → Prop} {K641_23 : gM → Prop} {l3_13 : Nat} {l4_121 : Int32} {M : gM} (hR23 : ∀ (v0 : Int32) (M : gM), R23 v0 M → w M 23 [(0, .ref (gA G (gBig + b))), (1, .ref (gA G 16)), (2, .ref (gA G 268)), (3, .ref (gA G l3_13)), (4, .int v0)] []) (hK624_23 : ∀  (M : gM), K624_23 M → w M 624 [] []) (hK641_23 : ∀  (M : gM), K641_23 M → w M 641 [] []) (h : fL_law_b554 L xs R23 K624_23 K641_23 l3_13 l4_121 M Q) : w M 554 [(0, .ref (gA G (gBig + b))), (1, .ref (gA G 16)), (2, .ref (gA G 268)), (3, .ref (gA G l3_13)), (4, .int l4_121)] [] := by
  unfold fL_law_b554 at h
  refine g_aload_n hw 1 dL_law_554 rfl ?_
  refine g_aload_n hw 0 dL_law_555 rfl ?_
  refine g_iload hw 4 dL_law_556 rfl ?_
  refine g_iconst (v := 1) hw dL_law_558 (by decide) ?_
  refine g_iadd hw dL_law_559 ?_
  obtain ⟨hi122, h⟩ := h
  refine g_sciald (n := (l4_121 + 1).toNatClampNeg) hw hv dL_law_560 hi122 rfl ?_
  refine g_aload_n hw 0 dL_law_561 rfl ?_
  refine g_iload hw 4 dL_law_562 rfl ?_
  refine g_iconst (v := 2) hw dL_law_564 (by decide) ?_
  refine g_iadd hw dL_law_565 ?_
  obtain ⟨hi123, h⟩ := h
  refine g_sciald (n := (l4_121 + 2).toNatClampNeg) hw hv dL_law_566 hi123 rfl ?_
  refine g_aload_n hw 0 dL_law_567 rfl ?_
  refine g_iload hw 4 dL_law_568 rfl ?_
  refine g_iconst (v := 3) hw dL_law_570 (by decide) ?_
  refine g_iadd hw dL_law_571 ?_
  obtain ⟨hi124, h⟩ := h
  refine g_sciald (n := (l4_121 + 3).toNatClampNeg) hw hv dL_law_572 hi124 rfl ?_
  refine g_aload_n hw 0 dL_law_573 rfl ?_
  refine g_iload hw 4 dL_law_574 rfl ?_
  refine g_iconst (v := 4) hw dL_law_576 (by decide) ?_
  refine g_iadd hw dL_law_577 ?_
  obtain ⟨hi125, h⟩ := h
  refine g_sciald (n := (l4_121 + 4).toNatClampNeg) hw hv dL_law_578 hi125 rfl ?_
  refine g_aload_n hw 3 dL_law_579 rfl ?_
  refine sX0_92 hw rfl dL_law_580 rfl (gK2 hkf) h (fun r127 M126 h => ?_)
  refine g_istore hw (lv2 := [(0, .ref (gA G (gBig + b))), (1, .ref (gA G 16)), (2, .ref (gA G 268)), (3, .ref (gA G l3_13)), (4, .int l4_121), (5, .int r127)]) [1, 2, 3, 4, 5, 0] dL_law_583 rfl rfl ?_
  refine g_aload_n hw 2 dL_law_585 rfl ?_
  refine g_aload_n hw 0 dL_law_586 rfl ?_
  refine g_iload hw 4 dL_law_587 rfl ?_
  refine g_iconst (v := 1) hw dL_law_589 (by decide) ?_
  refine g_iadd hw dL_law_590 ?_
  obtain ⟨hi128, h⟩ := h
  refine g_sciald (n := (l4_121 + 1).toNatClampNeg) hw hv dL_law_591 hi128 rfl ?_
  refine g_aload_n hw 0 dL_law_592 rfl ?_
  refine g_iload hw 4 dL_law_593 rfl ?_
  refine g_iconst (v := 2) hw dL_law_595 (by decide) ?_
  refine g_iadd hw dL_law_596 ?_
  obtain ⟨hi129, h⟩ := h
  refine g_sciald (n := (l4_121 + 2).toNatClampNeg) hw hv dL_law_597 hi129 rfl ?_
  refine g_aload_n hw 0 dL_law_598 rfl ?_
  refine g_iload hw 4 dL_law_599 rfl ?_
  refine g_iconst (v := 3) hw dL_law_601 (by decide) ?_
  refine g_iadd hw dL_law_602 ?_
  obtain ⟨hi130, h⟩ := h
  refine g_sciald (n := (l4_121 + 3).toNatClampNeg) hw hv dL_law_603 hi130 rfl ?_
  refine g_aload_n hw 0 dL_law_604 rfl ?_
  refine g_iload hw 4 dL_law_605 rfl ?_
  refine g_iconst (v := 4) hw dL_law_607 (by decide) ?_
  refine g_iadd hw dL_law_608 ?_
  obtain ⟨hi131, h⟩ := h
  refine g_sciald (n := (l4_121 + 4).toNatClampNeg) hw hv dL_law_609 hi131 rfl ?_
  obtain ⟨hk132, h⟩ := h
  refine sX0_97 hw rfl dL_law_610 rfl (gK2 hkf) hk132 h (fun r134 M133 h => ?_)
  refine g_istore hw (lv2 := [(0, .ref (gA G (gBig + b))), (1, .ref (gA G 16)), (2, .ref (gA G 268)), (3, .ref (gA G l3_13)), (4, .int l4_121), (5, .int r127), (6, .int r134)]) [1, 2, 3, 4, 5, 6, 0] dL_law_613 rfl rfl ?_
  refine g_aload_n hw 2 dL_law_615 rfl ?_
  obtain ⟨hk135, h⟩ := h
  refine sX0_98 hw rfl dL_law_616 rfl (gK2 hkf) hk135 h (fun r137 M136 h => ?_)
  refine g_iload hw 5 dL_law_619 rfl ?_
  refine g_icmp_eq (tgt := 626) hw dL_law_621 (by decide) (fun hb138 => ?_) (fun hb138 => ?_)
  · have h := gT h hb138
    refine g_iload hw 5 dL_law_626 rfl ?_
    refine g_if_ne (tgt := 643) hw dL_law_628 (by decide) (fun hb139 => ?_) (fun hb139 => ?_)
    · have h := gF h hb139
      refine g_sub hw (lv2 := [(0, .ref (gA G (gBig + b))), (1, .ref (gA G 16)), (2, .ref (gA G 268)), (3, .ref (gA G l3_13)), (4, .int l4_121)]) [0, 1, 2, 3, 4] rfl ?_
      exact wL_law_b643 hw hkf hv hR23 h
    · have h := gT h hb139
      refine g_aload_n hw 3 dL_law_631 rfl ?_
      refine g_iconst (v := 0) hw dL_law_632 (by decide) ?_
      obtain ⟨hk141, h⟩ := h
      obtain ⟨hi142, h⟩ := h
      refine g_lald (n := 0) hw dL_law_633 hk141 hi142 rfl ?_
      refine g_iload hw 6 dL_law_634 rfl ?_
      refine g_i2l hw dL_law_636 ?_
      refine g_lcmp hw dL_law_637 ?_
      refine g_if_eq (tgt := 643) hw dL_law_638 (by decide) (fun hb143 => ?_) (fun hb143 => ?_)
      · have h := gT h hb143
        refine g_sub hw (lv2 := [(0, .ref (gA G (gBig + b))), (1, .ref (gA G 16)), (2, .ref (gA G 268)), (3, .ref (gA G l3_13)), (4, .int l4_121)]) [0, 1, 2, 3, 4] rfl ?_
        exact wL_law_b643 hw hkf hv hR23 h
      · have h := gF h hb143
        refine g_sub hw (lv2 := []) [] rfl ?_
        exact hK641_23 M136 h
  · have h := gF h hb138
    refine g_sub hw (lv2 := []) [] rfl ?_
    exact hK624_23 M136 h
def fL_law_b734 (L : Nat) (xs : Nat → Int32) (R23 : Int32 → gM → Prop) (l3_13 : Nat) (l4_163 : Int32) (M : gM) (Q : Int32 → gM → Prop) : Prop :=
  fL_law_b2724 L xs R23 l3_13 l4_163 M Q
theorem wL_law_b734 {kf : Nat} {G : gG} {w : gM → Nat → List (Nat × Value) → List Value → Prop} {Q : Int32 → gM → Prop} (hw : gX yL_law cL_law 8 (Option.some FieldType.boolean) [] kf G (gQi Q) gE0 w) {L : Nat} {xs : Nat → Int32} {b : Nat} (hkf : 1017 ≤ kf) (hv : gScr G b L xs) {R23 : Int32 → gM → Prop} {l3_13 : Nat} {l4_163 : Int32} {M : gM} (hR23 : ∀ (v0 : Int32) (M : gM), R23 v0 M → w M 23 [(0, .ref (gA G (gBig + b))), (1, .ref (gA G 16)), (2, .ref (gA G 268)), (3, .ref (gA G l3_13)), (4, .int v0)] []) (h : fL_law_b734 L xs R23 l3_13 l4_163 M Q) : w M 734 [(0, .ref (gA G (gBig + b))), (1, .ref (gA G 16)), (2, .ref (gA G 268)), (3, .ref (gA G l3_13)), (4, .int l4_163)] [] := by
  unfold fL_law_b734 at h
  refine g_goto (tgt := 2724) hw dL_law_734 (by decide) ?_
  exact wL_law_b2724 hw hkf hv hR23 h
def fL_law_b646 (L : Nat) (xs : Nat → Int32) (R23 : Int32 → gM → Prop) (K716_23 : gM → Prop) (K732_23 : gM → Prop) (l3_13 : Nat) (l4_144 : Int32) (M : gM) (Q : Int32 → gM → Prop) : Prop :=
  vp_in (l4_144 + 1) L ∧ vp_in (l4_144 + 2) L ∧ vp_in (l4_144 + 3) L ∧ vp_in (l4_144 + 4) L ∧ fX0_river (xs ((l4_144 + 1).toNatClampNeg)) (xs ((l4_144 + 2).toNatClampNeg)) (xs ((l4_144 + 3).toNatClampNeg)) (xs ((l4_144 + 4).toNatClampNeg)) l3_13 M (fun r150 M149 => vp_in (l4_144 + 1) L ∧ vp_in (l4_144 + 2) L ∧ vp_in (l4_144 + 3) L ∧ vp_in (l4_144 + 4) L ∧ gk M149 268 = 7 ∧ fX7_river (xs ((l4_144 + 1).toNatClampNeg)) (xs ((l4_144 + 2).toNatClampNeg)) (xs ((l4_144 + 3).toNatClampNeg)) (xs ((l4_144 + 4).toNatClampNeg)) M149 (fun r157 M156 => gk M156 268 = 7 ∧ fX7_thrown M156 (fun r160 M159 => (if r160 = r150 then (if r150 = 0 then gk M159 l3_13 = 41 ∧ vp_in 0 (gl M159 l3_13) ∧ (if (lg_cmp (gL M159 l3_13 0) r157) = 0 then fL_law_b734 L xs R23 l3_13 l4_144 M159 Q else K732_23 M159) else fL_law_b734 L xs R23 l3_13 l4_144 M159 Q) else K716_23 M159))))
theorem wL_law_b646 {kf : Nat} {G : gG} {w : gM → Nat → List (Nat × Value) → List Value → Prop} {Q : Int32 → gM → Prop} (hw : gX yL_law cL_law 8 (Option.some FieldType.boolean) [] kf G (gQi Q) gE0 w) {L : Nat} {xs : Nat → Int32} {b : Nat} (hkf : 1017 ≤ kf) (hv : gScr G b L xs) {R23 : Int32 → gM → Prop} {K716_23 : gM → Prop} {K732_23 : gM → Prop} {l3_13 : Nat} {l4_144 : Int32} {M : gM} (hR23 : ∀ (v0 : Int32) (M : gM), R23 v0 M → w M 23 [(0, .ref (gA G (gBig + b))), (1, .ref (gA G 16)), (2, .ref (gA G 268)), (3, .ref (gA G l3_13)), (4, .int v0)] []) (hK716_23 : ∀  (M : gM), K716_23 M → w M 716 [] []) (hK732_23 : ∀  (M : gM), K732_23 M → w M 732 [] []) (h : fL_law_b646 L xs R23 K716_23 K732_23 l3_13 l4_144 M Q) : w M 646 [(0, .ref (gA G (gBig + b))), (1, .ref (gA G 16)), (2, .ref (gA G 268)), (3, .ref (gA G l3_13)), (4, .int l4_144)] [] := by
  unfold fL_law_b646 at h
  refine g_aload_n hw 1 dL_law_646 rfl ?_
  refine g_aload_n hw 0 dL_law_647 rfl ?_
  refine g_iload hw 4 dL_law_648 rfl ?_
  refine g_iconst (v := 1) hw dL_law_650 (by decide) ?_
  refine g_iadd hw dL_law_651 ?_
  obtain ⟨hi145, h⟩ := h
  refine g_sciald (n := (l4_144 + 1).toNatClampNeg) hw hv dL_law_652 hi145 rfl ?_
  refine g_aload_n hw 0 dL_law_653 rfl ?_
  refine g_iload hw 4 dL_law_654 rfl ?_
  refine g_iconst (v := 2) hw dL_law_656 (by decide) ?_
  refine g_iadd hw dL_law_657 ?_
  obtain ⟨hi146, h⟩ := h
  refine g_sciald (n := (l4_144 + 2).toNatClampNeg) hw hv dL_law_658 hi146 rfl ?_
  refine g_aload_n hw 0 dL_law_659 rfl ?_
  refine g_iload hw 4 dL_law_660 rfl ?_
  refine g_iconst (v := 3) hw dL_law_662 (by decide) ?_
  refine g_iadd hw dL_law_663 ?_
  obtain ⟨hi147, h⟩ := h
  refine g_sciald (n := (l4_144 + 3).toNatClampNeg) hw hv dL_law_664 hi147 rfl ?_
  refine g_aload_n hw 0 dL_law_665 rfl ?_
  refine g_iload hw 4 dL_law_666 rfl ?_
  refine g_iconst (v := 4) hw dL_law_668 (by decide) ?_
  refine g_iadd hw dL_law_669 ?_
  obtain ⟨hi148, h⟩ := h
  refine g_sciald (n := (l4_144 + 4).toNatClampNeg) hw hv dL_law_670 hi148 rfl ?_
  refine g_aload_n hw 3 dL_law_671 rfl ?_
  refine sX0_102 hw rfl dL_law_672 rfl (gK2 hkf) h (fun r150 M149 h => ?_)
  refine g_istore hw (lv2 := [(0, .ref (gA G (gBig + b))), (1, .ref (gA G 16)), (2, .ref (gA G 268)), (3, .ref (gA G l3_13)), (4, .int l4_144), (5, .int r150)]) [1, 2, 3, 4, 5, 0] dL_law_675 rfl rfl ?_
  refine g_aload_n hw 2 dL_law_677 rfl ?_
  refine g_aload_n hw 0 dL_law_678 rfl ?_
  refine g_iload hw 4 dL_law_679 rfl ?_
  refine g_iconst (v := 1) hw dL_law_681 (by decide) ?_
  refine g_iadd hw dL_law_682 ?_
  obtain ⟨hi151, h⟩ := h
  refine g_sciald (n := (l4_144 + 1).toNatClampNeg) hw hv dL_law_683 hi151 rfl ?_
  refine g_aload_n hw 0 dL_law_684 rfl ?_
  refine g_iload hw 4 dL_law_685 rfl ?_
  refine g_iconst (v := 2) hw dL_law_687 (by decide) ?_
  refine g_iadd hw dL_law_688 ?_
  obtain ⟨hi152, h⟩ := h
  refine g_sciald (n := (l4_144 + 2).toNatClampNeg) hw hv dL_law_689 hi152 rfl ?_
  refine g_aload_n hw 0 dL_law_690 rfl ?_
  refine g_iload hw 4 dL_law_691 rfl ?_
  refine g_iconst (v := 3) hw dL_law_693 (by decide) ?_
  refine g_iadd hw dL_law_694 ?_
  obtain ⟨hi153, h⟩ := h
  refine g_sciald (n := (l4_144 + 3).toNatClampNeg) hw hv dL_law_695 hi153 rfl ?_
  refine g_aload_n hw 0 dL_law_696 rfl ?_
  refine g_iload hw 4 dL_law_697 rfl ?_
  refine g_iconst (v := 4) hw dL_law_699 (by decide) ?_
  refine g_iadd hw dL_law_700 ?_
  obtain ⟨hi154, h⟩ := h
  refine g_sciald (n := (l4_144 + 4).toNatClampNeg) hw hv dL_law_701 hi154 rfl ?_
  obtain ⟨hk155, h⟩ := h
  refine sX0_104 hw rfl dL_law_702 rfl (gK2 hkf) hk155 h (fun r157 M156 h => ?_)
  refine g_lstore hw (lv2 := [(0, .ref (gA G (gBig + b))), (1, .ref (gA G 16)), (2, .ref (gA G 268)), (3, .ref (gA G l3_13)), (4, .int l4_144), (5, .int r150), (6, .long r157)]) [1, 2, 3, 4, 5, 6, 0] dL_law_705 rfl rfl ?_
  refine g_aload_n hw 2 dL_law_707 rfl ?_
  obtain ⟨hk158, h⟩ := h
  refine sX0_98 hw rfl dL_law_708 rfl (gK2 hkf) hk158 h (fun r160 M159 h => ?_)
  refine g_iload hw 5 dL_law_711 rfl ?_
  refine g_icmp_eq (tgt := 718) hw dL_law_713 (by decide) (fun hb161 => ?_) (fun hb161 => ?_)
  · have h := gT h hb161
    refine g_iload hw 5 dL_law_718 rfl ?_
    refine g_if_ne (tgt := 734) hw dL_law_720 (by decide) (fun hb162 => ?_) (fun hb162 => ?_)
    · have h := gF h hb162
      refine g_sub hw (lv2 := [(0, .ref (gA G (gBig + b))), (1, .ref (gA G 16)), (2, .ref (gA G 268)), (3, .ref (gA G l3_13)), (4, .int l4_144)]) [0, 1, 2, 3, 4] rfl ?_
      exact wL_law_b734 hw hkf hv hR23 h
    · have h := gT h hb162
      refine g_aload_n hw 3 dL_law_723 rfl ?_
      refine g_iconst (v := 0) hw dL_law_724 (by decide) ?_
      obtain ⟨hk164, h⟩ := h
      obtain ⟨hi165, h⟩ := h
      refine g_lald (n := 0) hw dL_law_725 hk164 hi165 rfl ?_
      refine g_lload hw 6 dL_law_726 rfl ?_
      refine g_lcmp hw dL_law_728 ?_
      refine g_if_eq (tgt := 734) hw dL_law_729 (by decide) (fun hb166 => ?_) (fun hb166 => ?_)
      · have h := gT h hb166
        refine g_sub hw (lv2 := [(0, .ref (gA G (gBig + b))), (1, .ref (gA G 16)), (2, .ref (gA G 268)), (3, .ref (gA G l3_13)), (4, .int l4_144)]) [0, 1, 2, 3, 4] rfl ?_
        exact wL_law_b734 hw hkf hv hR23 h
      · have h := gF h hb166
        refine g_sub hw (lv2 := []) [] rfl ?_
        exact hK732_23 M159 h
  · have h := gF h hb161
    refine g_sub hw (lv2 := []) [] rfl ?_
    exact hK716_23 M159 h
def fL_law_b825 (L : Nat) (xs : Nat → Int32) (R23 : Int32 → gM → Prop) (l3_13 : Nat) (l4_186 : Int32) (M : gM) (Q : Int32 → gM → Prop) : Prop :=
  fL_law_b2724 L xs R23 l3_13 l4_186 M Q
theorem wL_law_b825 {kf : Nat} {G : gG} {w : gM → Nat → List (Nat × Value) → List Value → Prop} {Q : Int32 → gM → Prop} (hw : gX yL_law cL_law 8 (Option.some FieldType.boolean) [] kf G (gQi Q) gE0 w) {L : Nat} {xs : Nat → Int32} {b : Nat} (hkf : 1017 ≤ kf) (hv : gScr G b L xs) {R23 : Int32 → gM → Prop} {l3_13 : Nat} {l4_186 : Int32} {M : gM} (hR23 : ∀ (v0 : Int32) (M : gM), R23 v0 M → w M 23 [(0, .ref (gA G (gBig + b))), (1, .ref (gA G 16)), (2, .ref (gA G 268)), (3, .ref (gA G l3_13)), (4, .int v0)] []) (h : fL_law_b825 L xs R23 l3_13 l4_186 M Q) : w M 825 [(0, .ref (gA G (gBig + b))), (1, .ref (gA G 16)), (2, .ref (gA G 268)), (3, .ref (gA G l3_13)), (4, .int l4_186)] [] := by
  unfold fL_law_b825 at h
  refine g_goto (tgt := 2724) hw dL_law_825 (by decide) ?_
  exact wL_law_b2724 hw hkf hv hR23 h
def fL_law_b737 (L : Nat) (xs : Nat → Int32) (R23 : Int32 → gM → Prop) (K807_23 : gM → Prop) (K823_23 : gM → Prop) (l3_13 : Nat) (l4_167 : Int32) (M : gM) (Q : Int32 → gM → Prop) : Prop :=
  vp_in (l4_167 + 1) L ∧ vp_in (l4_167 + 2) L ∧ vp_in (l4_167 + 3) L ∧ vp_in (l4_167 + 4) L ∧ fX0_part (xs ((l4_167 + 1).toNatClampNeg)) (xs ((l4_167 + 2).toNatClampNeg)) (xs ((l4_167 + 3).toNatClampNeg)) (xs ((l4_167 + 4).toNatClampNeg)) l3_13 M (fun r173 M172 => vp_in (l4_167 + 1) L ∧ vp_in (l4_167 + 2) L ∧ vp_in (l4_167 + 3) L ∧ vp_in (l4_167 + 4) L ∧ gk M172 268 = 7 ∧ fX7_part (xs ((l4_167 + 1).toNatClampNeg)) (xs ((l4_167 + 2).toNatClampNeg)) (xs ((l4_167 + 3).toNatClampNeg)) (xs ((l4_167 + 4).toNatClampNeg)) M172 (fun r180 M179 => gk M179 268 = 7 ∧ fX7_thrown M179 (fun r183 M182 => (if r183 = r173 then (if r173 = 0 then gk M182 l3_13 = 41 ∧ vp_in 0 (gl M182 l3_13) ∧ (if (lg_cmp (gL M182 l3_13 0) r180) = 0 then fL_law_b825 L xs R23 l3_13 l4_167 M182 Q else K823_23 M182) else fL_law_b825 L xs R23 l3_13 l4_167 M182 Q) else K807_23 M182))))
theorem wL_law_b737 {kf : Nat} {G : gG} {w : gM → Nat → List (Nat × Value) → List Value → Prop} {Q : Int32 → gM → Prop} (hw : gX yL_law cL_law 8 (Option.some FieldType.boolean) [] kf G (gQi Q) gE0 w) {L : Nat} {xs : Nat → Int32} {b : Nat} (hkf : 1017 ≤ kf) (hv : gScr G b L xs) {R23 : Int32 → gM → Prop} {K807_23 : gM → Prop} {K823_23 : gM → Prop} {l3_13 : Nat} {l4_167 : Int32} {M : gM} (hR23 : ∀ (v0 : Int32) (M : gM), R23 v0 M → w M 23 [(0, .ref (gA G (gBig + b))), (1, .ref (gA G 16)), (2, .ref (gA G 268)), (3, .ref (gA G l3_13)), (4, .int v0)] []) (hK807_23 : ∀  (M : gM), K807_23 M → w M 807 [] []) (hK823_23 : ∀  (M : gM), K823_23 M → w M 823 [] []) (h : fL_law_b737 L xs R23 K807_23 K823_23 l3_13 l4_167 M Q) : w M 737 [(0, .ref (gA G (gBig + b))), (1, .ref (gA G 16)), (2, .ref (gA G 268)), (3, .ref (gA G l3_13)), (4, .int l4_167)] [] := by
  unfold fL_law_b737 at h
  refine g_aload_n hw 1 dL_law_737 rfl ?_
  refine g_aload_n hw 0 dL_law_738 rfl ?_
  refine g_iload hw 4 dL_law_739 rfl ?_
  refine g_iconst (v := 1) hw dL_law_741 (by decide) ?_
  refine g_iadd hw dL_law_742 ?_
  obtain ⟨hi168, h⟩ := h
  refine g_sciald (n := (l4_167 + 1).toNatClampNeg) hw hv dL_law_743 hi168 rfl ?_
  refine g_aload_n hw 0 dL_law_744 rfl ?_
  refine g_iload hw 4 dL_law_745 rfl ?_
  refine g_iconst (v := 2) hw dL_law_747 (by decide) ?_
  refine g_iadd hw dL_law_748 ?_
  obtain ⟨hi169, h⟩ := h
  refine g_sciald (n := (l4_167 + 2).toNatClampNeg) hw hv dL_law_749 hi169 rfl ?_
  refine g_aload_n hw 0 dL_law_750 rfl ?_
  refine g_iload hw 4 dL_law_751 rfl ?_
  refine g_iconst (v := 3) hw dL_law_753 (by decide) ?_
  refine g_iadd hw dL_law_754 ?_
  obtain ⟨hi170, h⟩ := h
  refine g_sciald (n := (l4_167 + 3).toNatClampNeg) hw hv dL_law_755 hi170 rfl ?_
  refine g_aload_n hw 0 dL_law_756 rfl ?_
  refine g_iload hw 4 dL_law_757 rfl ?_
  refine g_iconst (v := 4) hw dL_law_759 (by decide) ?_
  refine g_iadd hw dL_law_760 ?_
  obtain ⟨hi171, h⟩ := h
  refine g_sciald (n := (l4_167 + 4).toNatClampNeg) hw hv dL_law_761 hi171 rfl ?_
  refine g_aload_n hw 3 dL_law_762 rfl ?_
  refine sX0_105 hw rfl dL_law_763 rfl (gK2 hkf) h (fun r173 M172 h => ?_)
  refine g_istore hw (lv2 := [(0, .ref (gA G (gBig + b))), (1, .ref (gA G 16)), (2, .ref (gA G 268)), (3, .ref (gA G l3_13)), (4, .int l4_167), (5, .int r173)]) [1, 2, 3, 4, 5, 0] dL_law_766 rfl rfl ?_
  refine g_aload_n hw 2 dL_law_768 rfl ?_
  refine g_aload_n hw 0 dL_law_769 rfl ?_
  refine g_iload hw 4 dL_law_770 rfl ?_
  refine g_iconst (v := 1) hw dL_law_772 (by decide) ?_
  refine g_iadd hw dL_law_773 ?_
  obtain ⟨hi174, h⟩ := h
  refine g_sciald (n := (l4_167 + 1).toNatClampNeg) hw hv dL_law_774 hi174 rfl ?_
  refine g_aload_n hw 0 dL_law_775 rfl ?_
  refine g_iload hw 4 dL_law_776 rfl ?_
  refine g_iconst (v := 2) hw dL_law_778 (by decide) ?_
  refine g_iadd hw dL_law_779 ?_
  obtain ⟨hi175, h⟩ := h
  refine g_sciald (n := (l4_167 + 2).toNatClampNeg) hw hv dL_law_780 hi175 rfl ?_
  refine g_aload_n hw 0 dL_law_781 rfl ?_
  refine g_iload hw 4 dL_law_782 rfl ?_
  refine g_iconst (v := 3) hw dL_law_784 (by decide) ?_
  refine g_iadd hw dL_law_785 ?_
  obtain ⟨hi176, h⟩ := h
  refine g_sciald (n := (l4_167 + 3).toNatClampNeg) hw hv dL_law_786 hi176 rfl ?_
  refine g_aload_n hw 0 dL_law_787 rfl ?_
  refine g_iload hw 4 dL_law_788 rfl ?_
  refine g_iconst (v := 4) hw dL_law_790 (by decide) ?_
  refine g_iadd hw dL_law_791 ?_
  obtain ⟨hi177, h⟩ := h
  refine g_sciald (n := (l4_167 + 4).toNatClampNeg) hw hv dL_law_792 hi177 rfl ?_
  obtain ⟨hk178, h⟩ := h
  refine sX0_107 hw rfl dL_law_793 rfl (gK2 hkf) hk178 h (fun r180 M179 h => ?_)
  refine g_lstore hw (lv2 := [(0, .ref (gA G (gBig + b))), (1, .ref (gA G 16)), (2, .ref (gA G 268)), (3, .ref (gA G l3_13)), (4, .int l4_167), (5, .int r173), (6, .long r180)]) [1, 2, 3, 4, 5, 6, 0] dL_law_796 rfl rfl ?_
  refine g_aload_n hw 2 dL_law_798 rfl ?_
  obtain ⟨hk181, h⟩ := h
  refine sX0_98 hw rfl dL_law_799 rfl (gK2 hkf) hk181 h (fun r183 M182 h => ?_)
  refine g_iload hw 5 dL_law_802 rfl ?_
  refine g_icmp_eq (tgt := 809) hw dL_law_804 (by decide) (fun hb184 => ?_) (fun hb184 => ?_)
  · have h := gT h hb184
    refine g_iload hw 5 dL_law_809 rfl ?_
    refine g_if_ne (tgt := 825) hw dL_law_811 (by decide) (fun hb185 => ?_) (fun hb185 => ?_)
    · have h := gF h hb185
      refine g_sub hw (lv2 := [(0, .ref (gA G (gBig + b))), (1, .ref (gA G 16)), (2, .ref (gA G 268)), (3, .ref (gA G l3_13)), (4, .int l4_167)]) [0, 1, 2, 3, 4] rfl ?_
      exact wL_law_b825 hw hkf hv hR23 h
    · have h := gT h hb185
      refine g_aload_n hw 3 dL_law_814 rfl ?_
      refine g_iconst (v := 0) hw dL_law_815 (by decide) ?_
      obtain ⟨hk187, h⟩ := h
      obtain ⟨hi188, h⟩ := h
      refine g_lald (n := 0) hw dL_law_816 hk187 hi188 rfl ?_
      refine g_lload hw 6 dL_law_817 rfl ?_
      refine g_lcmp hw dL_law_819 ?_
      refine g_if_eq (tgt := 825) hw dL_law_820 (by decide) (fun hb189 => ?_) (fun hb189 => ?_)
      · have h := gT h hb189
        refine g_sub hw (lv2 := [(0, .ref (gA G (gBig + b))), (1, .ref (gA G 16)), (2, .ref (gA G 268)), (3, .ref (gA G l3_13)), (4, .int l4_167)]) [0, 1, 2, 3, 4] rfl ?_
        exact wL_law_b825 hw hkf hv hR23 h
      · have h := gF h hb189
        refine g_sub hw (lv2 := []) [] rfl ?_
        exact hK823_23 M182 h
  · have h := gF h hb184
    refine g_sub hw (lv2 := []) [] rfl ?_
    exact hK807_23 M182 h
def fL_law_b904 (L : Nat) (xs : Nat → Int32) (R23 : Int32 → gM → Prop) (l3_13 : Nat) (l4_207 : Int32) (M : gM) (Q : Int32 → gM → Prop) : Prop :=
  fL_law_b2724 L xs R23 l3_13 l4_207 M Q
theorem wL_law_b904 {kf : Nat} {G : gG} {w : gM → Nat → List (Nat × Value) → List Value → Prop} {Q : Int32 → gM → Prop} (hw : gX yL_law cL_law 8 (Option.some FieldType.boolean) [] kf G (gQi Q) gE0 w) {L : Nat} {xs : Nat → Int32} {b : Nat} (hkf : 1017 ≤ kf) (hv : gScr G b L xs) {R23 : Int32 → gM → Prop} {l3_13 : Nat} {l4_207 : Int32} {M : gM} (hR23 : ∀ (v0 : Int32) (M : gM), R23 v0 M → w M 23 [(0, .ref (gA G (gBig + b))), (1, .ref (gA G 16)), (2, .ref (gA G 268)), (3, .ref (gA G l3_13)), (4, .int v0)] []) (h : fL_law_b904 L xs R23 l3_13 l4_207 M Q) : w M 904 [(0, .ref (gA G (gBig + b))), (1, .ref (gA G 16)), (2, .ref (gA G 268)), (3, .ref (gA G l3_13)), (4, .int l4_207)] [] := by
  unfold fL_law_b904 at h
  refine g_goto (tgt := 2724) hw dL_law_904 (by decide) ?_
  exact wL_law_b2724 hw hkf hv hR23 h
def fL_law_b828 (L : Nat) (xs : Nat → Int32) (R23 : Int32 → gM → Prop) (K886_23 : gM → Prop) (K902_23 : gM → Prop) (l3_13 : Nat) (l4_190 : Int32) (M : gM) (Q : Int32 → gM → Prop) : Prop :=
  vp_in (l4_190 + 1) L ∧ vp_in (l4_190 + 2) L ∧ vp_in (l4_190 + 3) L ∧ fX0_bounds (xs ((l4_190 + 1).toNatClampNeg)) (xs ((l4_190 + 2).toNatClampNeg)) (xs ((l4_190 + 3).toNatClampNeg)) l3_13 M (fun r195 M194 => vp_in (l4_190 + 1) L ∧ vp_in (l4_190 + 2) L ∧ vp_in (l4_190 + 3) L ∧ gk M194 268 = 7 ∧ fX7_bounds (xs ((l4_190 + 1).toNatClampNeg)) (xs ((l4_190 + 2).toNatClampNeg)) (xs ((l4_190 + 3).toNatClampNeg)) M194 (fun r201 M200 => gk M200 268 = 7 ∧ fX7_thrown M200 (fun r204 M203 => (if r204 = r195 then (if r195 = 0 then gk M203 l3_13 = 41 ∧ vp_in 0 (gl M203 l3_13) ∧ (if (lg_cmp (gL M203 l3_13 0) r201) = 0 then fL_law_b904 L xs R23 l3_13 l4_190 M203 Q else K902_23 M203) else fL_law_b904 L xs R23 l3_13 l4_190 M203 Q) else K886_23 M203))))
theorem wL_law_b828 {kf : Nat} {G : gG} {w : gM → Nat → List (Nat × Value) → List Value → Prop} {Q : Int32 → gM → Prop} (hw : gX yL_law cL_law 8 (Option.some FieldType.boolean) [] kf G (gQi Q) gE0 w) {L : Nat} {xs : Nat → Int32} {b : Nat} (hkf : 1017 ≤ kf) (hv : gScr G b L xs) {R23 : Int32 → gM → Prop} {K886_23 : gM → Prop} {K902_23 : gM → Prop} {l3_13 : Nat} {l4_190 : Int32} {M : gM} (hR23 : ∀ (v0 : Int32) (M : gM), R23 v0 M → w M 23 [(0, .ref (gA G (gBig + b))), (1, .ref (gA G 16)), (2, .ref (gA G 268)), (3, .ref (gA G l3_13)), (4, .int v0)] []) (hK886_23 : ∀  (M : gM), K886_23 M → w M 886 [] []) (hK902_23 : ∀  (M : gM), K902_23 M → w M 902 [] []) (h : fL_law_b828 L xs R23 K886_23 K902_23 l3_13 l4_190 M Q) : w M 828 [(0, .ref (gA G (gBig + b))), (1, .ref (gA G 16)), (2, .ref (gA G 268)), (3, .ref (gA G l3_13)), (4, .int l4_190)] [] := by
  unfold fL_law_b828 at h
  refine g_aload_n hw 1 dL_law_828 rfl ?_
  refine g_aload_n hw 0 dL_law_829 rfl ?_
  refine g_iload hw 4 dL_law_830 rfl ?_
  refine g_iconst (v := 1) hw dL_law_832 (by decide) ?_
  refine g_iadd hw dL_law_833 ?_
  obtain ⟨hi191, h⟩ := h
  refine g_sciald (n := (l4_190 + 1).toNatClampNeg) hw hv dL_law_834 hi191 rfl ?_
  refine g_aload_n hw 0 dL_law_835 rfl ?_
  refine g_iload hw 4 dL_law_836 rfl ?_
  refine g_iconst (v := 2) hw dL_law_838 (by decide) ?_
  refine g_iadd hw dL_law_839 ?_
  obtain ⟨hi192, h⟩ := h
  refine g_sciald (n := (l4_190 + 2).toNatClampNeg) hw hv dL_law_840 hi192 rfl ?_
  refine g_aload_n hw 0 dL_law_841 rfl ?_
  refine g_iload hw 4 dL_law_842 rfl ?_
  refine g_iconst (v := 3) hw dL_law_844 (by decide) ?_
  refine g_iadd hw dL_law_845 ?_
  obtain ⟨hi193, h⟩ := h
  refine g_sciald (n := (l4_190 + 3).toNatClampNeg) hw hv dL_law_846 hi193 rfl ?_
  refine g_aload_n hw 3 dL_law_847 rfl ?_
  refine sX0_108 hw rfl dL_law_848 rfl (gK2 hkf) h (fun r195 M194 h => ?_)
  refine g_istore hw (lv2 := [(0, .ref (gA G (gBig + b))), (1, .ref (gA G 16)), (2, .ref (gA G 268)), (3, .ref (gA G l3_13)), (4, .int l4_190), (5, .int r195)]) [1, 2, 3, 4, 5, 0] dL_law_851 rfl rfl ?_
  refine g_aload_n hw 2 dL_law_853 rfl ?_
  refine g_aload_n hw 0 dL_law_854 rfl ?_
  refine g_iload hw 4 dL_law_855 rfl ?_
  refine g_iconst (v := 1) hw dL_law_857 (by decide) ?_
  refine g_iadd hw dL_law_858 ?_
  obtain ⟨hi196, h⟩ := h
  refine g_sciald (n := (l4_190 + 1).toNatClampNeg) hw hv dL_law_859 hi196 rfl ?_
  refine g_aload_n hw 0 dL_law_860 rfl ?_
  refine g_iload hw 4 dL_law_861 rfl ?_
  refine g_iconst (v := 2) hw dL_law_863 (by decide) ?_
  refine g_iadd hw dL_law_864 ?_
  obtain ⟨hi197, h⟩ := h
  refine g_sciald (n := (l4_190 + 2).toNatClampNeg) hw hv dL_law_865 hi197 rfl ?_
  refine g_aload_n hw 0 dL_law_866 rfl ?_
  refine g_iload hw 4 dL_law_867 rfl ?_
  refine g_iconst (v := 3) hw dL_law_869 (by decide) ?_
  refine g_iadd hw dL_law_870 ?_
  obtain ⟨hi198, h⟩ := h
  refine g_sciald (n := (l4_190 + 3).toNatClampNeg) hw hv dL_law_871 hi198 rfl ?_
  obtain ⟨hk199, h⟩ := h
  refine sX0_111 hw rfl dL_law_872 rfl (gK2 hkf) hk199 h (fun r201 M200 h => ?_)
  refine g_lstore hw (lv2 := [(0, .ref (gA G (gBig + b))), (1, .ref (gA G 16)), (2, .ref (gA G 268)), (3, .ref (gA G l3_13)), (4, .int l4_190), (5, .int r195), (6, .long r201)]) [1, 2, 3, 4, 5, 6, 0] dL_law_875 rfl rfl ?_
  refine g_aload_n hw 2 dL_law_877 rfl ?_
  obtain ⟨hk202, h⟩ := h
  refine sX0_98 hw rfl dL_law_878 rfl (gK2 hkf) hk202 h (fun r204 M203 h => ?_)
  refine g_iload hw 5 dL_law_881 rfl ?_
  refine g_icmp_eq (tgt := 888) hw dL_law_883 (by decide) (fun hb205 => ?_) (fun hb205 => ?_)
  · have h := gT h hb205
    refine g_iload hw 5 dL_law_888 rfl ?_
    refine g_if_ne (tgt := 904) hw dL_law_890 (by decide) (fun hb206 => ?_) (fun hb206 => ?_)
    · have h := gF h hb206
      refine g_sub hw (lv2 := [(0, .ref (gA G (gBig + b))), (1, .ref (gA G 16)), (2, .ref (gA G 268)), (3, .ref (gA G l3_13)), (4, .int l4_190)]) [0, 1, 2, 3, 4] rfl ?_
      exact wL_law_b904 hw hkf hv hR23 h
    · have h := gT h hb206
      refine g_aload_n hw 3 dL_law_893 rfl ?_
      refine g_iconst (v := 0) hw dL_law_894 (by decide) ?_
      obtain ⟨hk208, h⟩ := h
      obtain ⟨hi209, h⟩ := h
      refine g_lald (n := 0) hw dL_law_895 hk208 hi209 rfl ?_
      refine g_lload hw 6 dL_law_896 rfl ?_
      refine g_lcmp hw dL_law_898 ?_
      refine g_if_eq (tgt := 904) hw dL_law_899 (by decide) (fun hb210 => ?_) (fun hb210 => ?_)
      · have h := gT h hb210
        refine g_sub hw (lv2 := [(0, .ref (gA G (gBig + b))), (1, .ref (gA G 16)), (2, .ref (gA G 268)), (3, .ref (gA G l3_13)), (4, .int l4_190)]) [0, 1, 2, 3, 4] rfl ?_
        exact wL_law_b904 hw hkf hv hR23 h
      · have h := gF h hb210
        refine g_sub hw (lv2 := []) [] rfl ?_
        exact hK902_23 M203 h
  · have h := gF h hb205
    refine g_sub hw (lv2 := []) [] rfl ?_
    exact hK886_23 M203 h
def fL_law_b907 (L : Nat) (xs : Nat → Int32) (R23 : Int32 → gM → Prop) (K942_23 : gM → Prop) (l3_13 : Nat) (l4_211 : Int32) (M : gM) (Q : Int32 → gM → Prop) : Prop :=
  vp_in (l4_211 + 1) L ∧ vp_in (l4_211 + 2) L ∧ gk M 16 = 1 ∧ fX1_swings (xs ((l4_211 + 1).toNatClampNeg)) (xs ((l4_211 + 2).toNatClampNeg)) M (fun r216 M215 => vp_in (l4_211 + 1) L ∧ vp_in (l4_211 + 2) L ∧ gk M215 268 = 7 ∧ fX7_swings (xs ((l4_211 + 1).toNatClampNeg)) (xs ((l4_211 + 2).toNatClampNeg)) M215 (fun r221 M220 => (if r216 = r221 then fL_law_b2724 L xs R23 l3_13 l4_211 M220 Q else K942_23 M220)))
theorem wL_law_b907 {kf : Nat} {G : gG} {w : gM → Nat → List (Nat × Value) → List Value → Prop} {Q : Int32 → gM → Prop} (hw : gX yL_law cL_law 8 (Option.some FieldType.boolean) [] kf G (gQi Q) gE0 w) {L : Nat} {xs : Nat → Int32} {b : Nat} (hkf : 1017 ≤ kf) (hv : gScr G b L xs) {R23 : Int32 → gM → Prop} {K942_23 : gM → Prop} {l3_13 : Nat} {l4_211 : Int32} {M : gM} (hR23 : ∀ (v0 : Int32) (M : gM), R23 v0 M → w M 23 [(0, .ref (gA G (gBig + b))), (1, .ref (gA G 16)), (2, .ref (gA G 268)), (3, .ref (gA G l3_13)), (4, .int v0)] []) (hK942_23 : ∀  (M : gM), K942_23 M → w M 942 [] []) (h : fL_law_b907 L xs R23 K942_23 l3_13 l4_211 M Q) : w M 907 [(0, .ref (gA G (gBig + b))), (1, .ref (gA G 16)), (2, .ref (gA G 268)), (3, .ref (gA G l3_13)), (4, .int l4_211)] [] := by
  unfold fL_law_b907 at h
  refine g_aload_n hw 1 dL_law_907 rfl ?_
  refine g_aload_n hw 0 dL_law_908 rfl ?_
  refine g_iload hw 4 dL_law_909 rfl ?_
  refine g_iconst (v := 1) hw dL_law_911 (by decide) ?_
  refine g_iadd hw dL_law_912 ?_
  obtain ⟨hi212, h⟩ := h
  refine g_sciald (n := (l4_211 + 1).toNatClampNeg) hw hv dL_law_913 hi212 rfl ?_
  refine g_aload_n hw 0 dL_law_914 rfl ?_
  refine g_iload hw 4 dL_law_915 rfl ?_
  refine g_iconst (v := 2) hw dL_law_917 (by decide) ?_
  refine g_iadd hw dL_law_918 ?_
  obtain ⟨hi213, h⟩ := h
  refine g_sciald (n := (l4_211 + 2).toNatClampNeg) hw hv dL_law_919 hi213 rfl ?_
  obtain ⟨hk214, h⟩ := h
  refine sX0_112 hw rfl dL_law_920 rfl (gK2 hkf) hk214 h (fun r216 M215 h => ?_)
  refine g_aload_n hw 2 dL_law_923 rfl ?_
  refine g_aload_n hw 0 dL_law_924 rfl ?_
  refine g_iload hw 4 dL_law_925 rfl ?_
  refine g_iconst (v := 1) hw dL_law_927 (by decide) ?_
  refine g_iadd hw dL_law_928 ?_
  obtain ⟨hi217, h⟩ := h
  refine g_sciald (n := (l4_211 + 1).toNatClampNeg) hw hv dL_law_929 hi217 rfl ?_
  refine g_aload_n hw 0 dL_law_930 rfl ?_
  refine g_iload hw 4 dL_law_931 rfl ?_
  refine g_iconst (v := 2) hw dL_law_933 (by decide) ?_
  refine g_iadd hw dL_law_934 ?_
  obtain ⟨hi218, h⟩ := h
  refine g_sciald (n := (l4_211 + 2).toNatClampNeg) hw hv dL_law_935 hi218 rfl ?_
  obtain ⟨hk219, h⟩ := h
  refine sX0_115 hw rfl dL_law_936 rfl (gK2 hkf) hk219 h (fun r221 M220 h => ?_)
  refine g_icmp_eq (tgt := 2724) hw dL_law_939 (by decide) (fun hb222 => ?_) (fun hb222 => ?_)
  · have h := gT h hb222
    exact wL_law_b2724 hw hkf hv hR23 h
  · have h := gF h hb222
    refine g_sub hw (lv2 := []) [] rfl ?_
    exact hK942_23 M220 h
def fL_law_b944 (L : Nat) (xs : Nat → Int32) (R23 : Int32 → gM → Prop) (K979_23 : gM → Prop) (l3_13 : Nat) (l4_223 : Int32) (M : gM) (Q : Int32 → gM → Prop) : Prop :=
  vp_in (l4_223 + 1) L ∧ vp_in (l4_223 + 2) L ∧ gk M 16 = 1 ∧ fX1_next (xs ((l4_223 + 1).toNatClampNeg)) (xs ((l4_223 + 2).toNatClampNeg)) M (fun r228 M227 => vp_in (l4_223 + 1) L ∧ vp_in (l4_223 + 2) L ∧ gk M227 268 = 7 ∧ fX7_next (xs ((l4_223 + 1).toNatClampNeg)) (xs ((l4_223 + 2).toNatClampNeg)) M227 (fun r233 M232 => (if r228 = r233 then fL_law_b2724 L xs R23 l3_13 l4_223 M232 Q else K979_23 M232)))
theorem wL_law_b944 {kf : Nat} {G : gG} {w : gM → Nat → List (Nat × Value) → List Value → Prop} {Q : Int32 → gM → Prop} (hw : gX yL_law cL_law 8 (Option.some FieldType.boolean) [] kf G (gQi Q) gE0 w) {L : Nat} {xs : Nat → Int32} {b : Nat} (hkf : 1017 ≤ kf) (hv : gScr G b L xs) {R23 : Int32 → gM → Prop} {K979_23 : gM → Prop} {l3_13 : Nat} {l4_223 : Int32} {M : gM} (hR23 : ∀ (v0 : Int32) (M : gM), R23 v0 M → w M 23 [(0, .ref (gA G (gBig + b))), (1, .ref (gA G 16)), (2, .ref (gA G 268)), (3, .ref (gA G l3_13)), (4, .int v0)] []) (hK979_23 : ∀  (M : gM), K979_23 M → w M 979 [] []) (h : fL_law_b944 L xs R23 K979_23 l3_13 l4_223 M Q) : w M 944 [(0, .ref (gA G (gBig + b))), (1, .ref (gA G 16)), (2, .ref (gA G 268)), (3, .ref (gA G l3_13)), (4, .int l4_223)] [] := by
  unfold fL_law_b944 at h
  refine g_aload_n hw 1 dL_law_944 rfl ?_
  refine g_aload_n hw 0 dL_law_945 rfl ?_
  refine g_iload hw 4 dL_law_946 rfl ?_
  refine g_iconst (v := 1) hw dL_law_948 (by decide) ?_
  refine g_iadd hw dL_law_949 ?_
  obtain ⟨hi224, h⟩ := h
  refine g_sciald (n := (l4_223 + 1).toNatClampNeg) hw hv dL_law_950 hi224 rfl ?_
  refine g_aload_n hw 0 dL_law_951 rfl ?_
  refine g_iload hw 4 dL_law_952 rfl ?_
  refine g_iconst (v := 2) hw dL_law_954 (by decide) ?_
  refine g_iadd hw dL_law_955 ?_
  obtain ⟨hi225, h⟩ := h
  refine g_sciald (n := (l4_223 + 2).toNatClampNeg) hw hv dL_law_956 hi225 rfl ?_
  obtain ⟨hk226, h⟩ := h
  refine sX0_116 hw rfl dL_law_957 rfl (gK2 hkf) hk226 h (fun r228 M227 h => ?_)
  refine g_aload_n hw 2 dL_law_960 rfl ?_
  refine g_aload_n hw 0 dL_law_961 rfl ?_
  refine g_iload hw 4 dL_law_962 rfl ?_
  refine g_iconst (v := 1) hw dL_law_964 (by decide) ?_
  refine g_iadd hw dL_law_965 ?_
  obtain ⟨hi229, h⟩ := h
  refine g_sciald (n := (l4_223 + 1).toNatClampNeg) hw hv dL_law_966 hi229 rfl ?_
  refine g_aload_n hw 0 dL_law_967 rfl ?_
  refine g_iload hw 4 dL_law_968 rfl ?_
  refine g_iconst (v := 2) hw dL_law_970 (by decide) ?_
  refine g_iadd hw dL_law_971 ?_
  obtain ⟨hi230, h⟩ := h
  refine g_sciald (n := (l4_223 + 2).toNatClampNeg) hw hv dL_law_972 hi230 rfl ?_
  obtain ⟨hk231, h⟩ := h
  refine sX0_119 hw rfl dL_law_973 rfl (gK2 hkf) hk231 h (fun r233 M232 h => ?_)
  refine g_icmp_eq (tgt := 2724) hw dL_law_976 (by decide) (fun hb234 => ?_) (fun hb234 => ?_)
  · have h := gT h hb234
    exact wL_law_b2724 hw hkf hv hR23 h
  · have h := gF h hb234
    refine g_sub hw (lv2 := []) [] rfl ?_
    exact hK979_23 M232 h
def fL_law_b1085 (L : Nat) (xs : Nat → Int32) (R23 : Int32 → gM → Prop) (l3_13 : Nat) (l4_265 : Int32) (M : gM) (Q : Int32 → gM → Prop) : Prop :=
  fL_law_b2724 L xs R23 l3_13 l4_265 M Q
theorem wL_law_b1085 {kf : Nat} {G : gG} {w : gM → Nat → List (Nat × Value) → List Value → Prop} {Q : Int32 → gM → Prop} (hw : gX yL_law cL_law 8 (Option.some FieldType.boolean) [] kf G (gQi Q) gE0 w) {L : Nat} {xs : Nat → Int32} {b : Nat} (hkf : 1017 ≤ kf) (hv : gScr G b L xs) {R23 : Int32 → gM → Prop} {l3_13 : Nat} {l4_265 : Int32} {M : gM} (hR23 : ∀ (v0 : Int32) (M : gM), R23 v0 M → w M 23 [(0, .ref (gA G (gBig + b))), (1, .ref (gA G 16)), (2, .ref (gA G 268)), (3, .ref (gA G l3_13)), (4, .int v0)] []) (h : fL_law_b1085 L xs R23 l3_13 l4_265 M Q) : w M 1085 [(0, .ref (gA G (gBig + b))), (1, .ref (gA G 16)), (2, .ref (gA G 268)), (3, .ref (gA G l3_13)), (4, .int l4_265)] [] := by
  unfold fL_law_b1085 at h
  refine g_goto (tgt := 2724) hw dL_law_1085 (by decide) ?_
  exact wL_law_b2724 hw hkf hv hR23 h
def fL_law_b1047 (L : Nat) (xs : Nat → Int32) (R23 : Int32 → gM → Prop) (K1067_23 : gM → Prop) (K1083_23 : gM → Prop) (l3_13 : Nat) (l4_251 : Int32) (l5_252 : Int32) (s1_253 : Int32) (s2_254 : Int32) (s3_255 : Int32) (M : gM) (Q : Int32 → gM → Prop) : Prop :=
  vp_in (l4_251 + 4) L ∧ gk M 268 = 7 ∧ fX7_sheets s1_253 s2_254 s3_255 (xs ((l4_251 + 4).toNatClampNeg)) M (fun r259 M258 => gk M258 268 = 7 ∧ fX7_thrown M258 (fun r262 M261 => (if r262 = l5_252 then (if l5_252 = 0 then gk M261 l3_13 = 41 ∧ vp_in 0 (gl M261 l3_13) ∧ (if (lg_cmp (gL M261 l3_13 0) r259) = 0 then fL_law_b1085 L xs R23 l3_13 l4_251 M261 Q else K1083_23 M261) else fL_law_b1085 L xs R23 l3_13 l4_251 M261 Q) else K1067_23 M261)))
theorem wL_law_b1047 {kf : Nat} {G : gG} {w : gM → Nat → List (Nat × Value) → List Value → Prop} {Q : Int32 → gM → Prop} (hw : gX yL_law cL_law 8 (Option.some FieldType.boolean) [] kf G (gQi Q) gE0 w) {L : Nat} {xs : Nat → Int32} {b : Nat} (hkf : 1017 ≤ kf) (hv : gScr G b L xs) {R23 : Int32 → gM → Prop} {K1067_23 : gM → Prop} {K1083_23 : gM → Prop} {l3_13 : Nat} {l4_251 : Int32} {l5_252 : Int32} {s1_253 : Int32} {s2_254 : Int32} {s3_255 : Int32} {M : gM} (hR23 : ∀ (v0 : Int32) (M : gM), R23 v0 M → w M 23 [(0, .ref (gA G (gBig + b))), (1, .ref (gA G 16)), (2, .ref (gA G 268)), (3, .ref (gA G l3_13)), (4, .int v0)] []) (hK1067_23 : ∀  (M : gM), K1067_23 M → w M 1067 [] []) (hK1083_23 : ∀  (M : gM), K1083_23 M → w M 1083 [] []) (h : fL_law_b1047 L xs R23 K1067_23 K1083_23 l3_13 l4_251 l5_252 s1_253 s2_254 s3_255 M Q) : w M 1047 [(0, .ref (gA G (gBig + b))), (1, .ref (gA G 16)), (2, .ref (gA G 268)), (3, .ref (gA G l3_13)), (4, .int l4_251), (5, .int l5_252)] [.int s3_255, .int s2_254, .int s1_253, .ref (gA G 268)] := by
  unfold fL_law_b1047 at h
  refine g_aload_n hw 0 dL_law_1047 rfl ?_
  refine g_iload hw 4 dL_law_1048 rfl ?_
  refine g_iconst (v := 4) hw dL_law_1050 (by decide) ?_
  refine g_iadd hw dL_law_1051 ?_
  obtain ⟨hi256, h⟩ := h
  refine g_sciald (n := (l4_251 + 4).toNatClampNeg) hw hv dL_law_1052 hi256 rfl ?_
  obtain ⟨hk257, h⟩ := h
  refine sX0_123 hw rfl dL_law_1053 rfl (gK2 hkf) hk257 h (fun r259 M258 h => ?_)
  refine g_lstore hw (lv2 := [(0, .ref (gA G (gBig + b))), (1, .ref (gA G 16)), (2, .ref (gA G 268)), (3, .ref (gA G l3_13)), (4, .int l4_251), (5, .int l5_252), (6, .long r259)]) [1, 2, 3, 4, 5, 6, 0] dL_law_1056 rfl rfl ?_
  refine g_aload_n hw 2 dL_law_1058 rfl ?_
  obtain ⟨hk260, h⟩ := h
  refine sX0_98 hw rfl dL_law_1059 rfl (gK2 hkf) hk260 h (fun r262 M261 h => ?_)
  refine g_iload hw 5 dL_law_1062 rfl ?_
  refine g_icmp_eq (tgt := 1069) hw dL_law_1064 (by decide) (fun hb263 => ?_) (fun hb263 => ?_)
  · have h := gT h hb263
    refine g_iload hw 5 dL_law_1069 rfl ?_
    refine g_if_ne (tgt := 1085) hw dL_law_1071 (by decide) (fun hb264 => ?_) (fun hb264 => ?_)
    · have h := gF h hb264
      refine g_sub hw (lv2 := [(0, .ref (gA G (gBig + b))), (1, .ref (gA G 16)), (2, .ref (gA G 268)), (3, .ref (gA G l3_13)), (4, .int l4_251)]) [0, 1, 2, 3, 4] rfl ?_
      exact wL_law_b1085 hw hkf hv hR23 h
    · have h := gT h hb264
      refine g_aload_n hw 3 dL_law_1074 rfl ?_
      refine g_iconst (v := 0) hw dL_law_1075 (by decide) ?_
      obtain ⟨hk266, h⟩ := h
      obtain ⟨hi267, h⟩ := h
      refine g_lald (n := 0) hw dL_law_1076 hk266 hi267 rfl ?_
      refine g_lload hw 6 dL_law_1077 rfl ?_
      refine g_lcmp hw dL_law_1079 ?_
      refine g_if_eq (tgt := 1085) hw dL_law_1080 (by decide) (fun hb268 => ?_) (fun hb268 => ?_)
      · have h := gT h hb268
        refine g_sub hw (lv2 := [(0, .ref (gA G (gBig + b))), (1, .ref (gA G 16)), (2, .ref (gA G 268)), (3, .ref (gA G l3_13)), (4, .int l4_251)]) [0, 1, 2, 3, 4] rfl ?_
        exact wL_law_b1085 hw hkf hv hR23 h
      · have h := gF h hb268
        refine g_sub hw (lv2 := []) [] rfl ?_
        exact hK1083_23 M261 h
  · have h := gF h hb263
    refine g_sub hw (lv2 := []) [] rfl ?_
    exact hK1067_23 M261 h
def fL_law_b1008 (L : Nat) (xs : Nat → Int32) (R23 : Int32 → gM → Prop) (K1067_23 : gM → Prop) (K1083_23 : gM → Prop) (l3_13 : Nat) (l4_240 : Int32) (s1_241 : Int32) (s2_242 : Int32) (s3_243 : Int32) (M : gM) (Q : Int32 → gM → Prop) : Prop :=
  vp_in (l4_240 + 4) L ∧ fX0_sheets s1_241 s2_242 s3_243 (xs ((l4_240 + 4).toNatClampNeg)) l3_13 M (fun r246 M245 => vp_in (l4_240 + 1) L ∧ vp_in (l4_240 + 2) L ∧ vp_in (l4_240 + 3) L ∧ (if (xs ((l4_240 + 3).toNatClampNeg)) = 0 then fL_law_b1047 L xs R23 K1067_23 K1083_23 l3_13 l4_240 r246 (xs ((l4_240 + 1).toNatClampNeg)) (xs ((l4_240 + 2).toNatClampNeg)) 0 M245 Q else fL_law_b1047 L xs R23 K1067_23 K1083_23 l3_13 l4_240 r246 (xs ((l4_240 + 1).toNatClampNeg)) (xs ((l4_240 + 2).toNatClampNeg)) 1 M245 Q))
theorem wL_law_b1008 {kf : Nat} {G : gG} {w : gM → Nat → List (Nat × Value) → List Value → Prop} {Q : Int32 → gM → Prop} (hw : gX yL_law cL_law 8 (Option.some FieldType.boolean) [] kf G (gQi Q) gE0 w) {L : Nat} {xs : Nat → Int32} {b : Nat} (hkf : 1017 ≤ kf) (hv : gScr G b L xs) {R23 : Int32 → gM → Prop} {K1067_23 : gM → Prop} {K1083_23 : gM → Prop} {l3_13 : Nat} {l4_240 : Int32} {s1_241 : Int32} {s2_242 : Int32} {s3_243 : Int32} {M : gM} (hR23 : ∀ (v0 : Int32) (M : gM), R23 v0 M → w M 23 [(0, .ref (gA G (gBig + b))), (1, .ref (gA G 16)), (2, .ref (gA G 268)), (3, .ref (gA G l3_13)), (4, .int v0)] []) (hK1067_23 : ∀  (M : gM), K1067_23 M → w M 1067 [] []) (hK1083_23 : ∀  (M : gM), K1083_23 M → w M 1083 [] []) (h : fL_law_b1008 L xs R23 K1067_23 K1083_23 l3_13 l4_240 s1_241 s2_242 s3_243 M Q) : w M 1008 [(0, .ref (gA G (gBig + b))), (1, .ref (gA G 16)), (2, .ref (gA G 268)), (3, .ref (gA G l3_13)), (4, .int l4_240)] [.int s3_243, .int s2_242, .int s1_241, .ref (gA G 16)] := by
  unfold fL_law_b1008 at h
  refine g_aload_n hw 0 dL_law_1008 rfl ?_
  refine g_iload hw 4 dL_law_1009 rfl ?_
  refine g_iconst (v := 4) hw dL_law_1011 (by decide) ?_
  refine g_iadd hw dL_law_1012 ?_
  obtain ⟨hi244, h⟩ := h
  refine g_sciald (n := (l4_240 + 4).toNatClampNeg) hw hv dL_law_1013 hi244 rfl ?_
  refine g_aload_n hw 3 dL_law_1014 rfl ?_
  refine sX0_120 hw rfl dL_law_1015 rfl (gK2 hkf) h (fun r246 M245 h => ?_)
  refine g_istore hw (lv2 := [(0, .ref (gA G (gBig + b))), (1, .ref (gA G 16)), (2, .ref (gA G 268)), (3, .ref (gA G l3_13)), (4, .int l4_240), (5, .int r246)]) [1, 2, 3, 4, 5, 0] dL_law_1018 rfl rfl ?_
  refine g_aload_n hw 2 dL_law_1020 rfl ?_
  refine g_aload_n hw 0 dL_law_1021 rfl ?_
  refine g_iload hw 4 dL_law_1022 rfl ?_
  refine g_iconst (v := 1) hw dL_law_1024 (by decide) ?_
  refine g_iadd hw dL_law_1025 ?_
  obtain ⟨hi247, h⟩ := h
  refine g_sciald (n := (l4_240 + 1).toNatClampNeg) hw hv dL_law_1026 hi247 rfl ?_
  refine g_aload_n hw 0 dL_law_1027 rfl ?_
  refine g_iload hw 4 dL_law_1028 rfl ?_
  refine g_iconst (v := 2) hw dL_law_1030 (by decide) ?_
  refine g_iadd hw dL_law_1031 ?_
  obtain ⟨hi248, h⟩ := h
  refine g_sciald (n := (l4_240 + 2).toNatClampNeg) hw hv dL_law_1032 hi248 rfl ?_
  refine g_aload_n hw 0 dL_law_1033 rfl ?_
  refine g_iload hw 4 dL_law_1034 rfl ?_
  refine g_iconst (v := 3) hw dL_law_1036 (by decide) ?_
  refine g_iadd hw dL_law_1037 ?_
  obtain ⟨hi249, h⟩ := h
  refine g_sciald (n := (l4_240 + 3).toNatClampNeg) hw hv dL_law_1038 hi249 rfl ?_
  refine g_if_eq (tgt := 1046) hw dL_law_1039 (by decide) (fun hb250 => ?_) (fun hb250 => ?_)
  · have h := gT h hb250
    refine g_iconst (v := 0) hw dL_law_1046 (by decide) ?_
    exact wL_law_b1047 hw hkf hv hR23 hK1067_23 hK1083_23 h
  · have h := gF h hb250
    refine g_iconst (v := 1) hw dL_law_1042 (by decide) ?_
    refine g_goto (tgt := 1047) hw dL_law_1043 (by decide) ?_
    exact wL_law_b1047 hw hkf hv hR23 hK1067_23 hK1083_23 h
def fL_law_b981 (L : Nat) (xs : Nat → Int32) (R23 : Int32 → gM → Prop) (K1067_23 : gM → Prop) (K1083_23 : gM → Prop) (l3_13 : Nat) (l4_235 : Int32) (M : gM) (Q : Int32 → gM → Prop) : Prop :=
  vp_in (l4_235 + 1) L ∧ vp_in (l4_235 + 2) L ∧ vp_in (l4_235 + 3) L ∧ (if (xs ((l4_235 + 3).toNatClampNeg)) = 0 then fL_law_b1008 L xs R23 K1067_23 K1083_23 l3_13 l4_235 (xs ((l4_235 + 1).toNatClampNeg)) (xs ((l4_235 + 2).toNatClampNeg)) 0 M Q else fL_law_b1008 L xs R23 K1067_23 K1083_23 l3_13 l4_235 (xs ((l4_235 + 1).toNatClampNeg)) (xs ((l4_235 + 2).toNatClampNeg)) 1 M Q)
theorem wL_law_b981 {kf : Nat} {G : gG} {w : gM → Nat → List (Nat × Value) → List Value → Prop} {Q : Int32 → gM → Prop} (hw : gX yL_law cL_law 8 (Option.some FieldType.boolean) [] kf G (gQi Q) gE0 w) {L : Nat} {xs : Nat → Int32} {b : Nat} (hkf : 1017 ≤ kf) (hv : gScr G b L xs) {R23 : Int32 → gM → Prop} {K1067_23 : gM → Prop} {K1083_23 : gM → Prop} {l3_13 : Nat} {l4_235 : Int32} {M : gM} (hR23 : ∀ (v0 : Int32) (M : gM), R23 v0 M → w M 23 [(0, .ref (gA G (gBig + b))), (1, .ref (gA G 16)), (2, .ref (gA G 268)), (3, .ref (gA G l3_13)), (4, .int v0)] []) (hK1067_23 : ∀  (M : gM), K1067_23 M → w M 1067 [] []) (hK1083_23 : ∀  (M : gM), K1083_23 M → w M 1083 [] []) (h : fL_law_b981 L xs R23 K1067_23 K1083_23 l3_13 l4_235 M Q) : w M 981 [(0, .ref (gA G (gBig + b))), (1, .ref (gA G 16)), (2, .ref (gA G 268)), (3, .ref (gA G l3_13)), (4, .int l4_235)] [] := by
  unfold fL_law_b981 at h
  refine g_aload_n hw 1 dL_law_981 rfl ?_
  refine g_aload_n hw 0 dL_law_982 rfl ?_
  refine g_iload hw 4 dL_law_983 rfl ?_
  refine g_iconst (v := 1) hw dL_law_985 (by decide) ?_
  refine g_iadd hw dL_law_986 ?_
  obtain ⟨hi236, h⟩ := h
  refine g_sciald (n := (l4_235 + 1).toNatClampNeg) hw hv dL_law_987 hi236 rfl ?_
  refine g_aload_n hw 0 dL_law_988 rfl ?_
  refine g_iload hw 4 dL_law_989 rfl ?_
  refine g_iconst (v := 2) hw dL_law_991 (by decide) ?_
  refine g_iadd hw dL_law_992 ?_
  obtain ⟨hi237, h⟩ := h
  refine g_sciald (n := (l4_235 + 2).toNatClampNeg) hw hv dL_law_993 hi237 rfl ?_
  refine g_aload_n hw 0 dL_law_994 rfl ?_
  refine g_iload hw 4 dL_law_995 rfl ?_
  refine g_iconst (v := 3) hw dL_law_997 (by decide) ?_
  refine g_iadd hw dL_law_998 ?_
  obtain ⟨hi238, h⟩ := h
  refine g_sciald (n := (l4_235 + 3).toNatClampNeg) hw hv dL_law_999 hi238 rfl ?_
  refine g_if_eq (tgt := 1007) hw dL_law_1000 (by decide) (fun hb239 => ?_) (fun hb239 => ?_)
  · have h := gT h hb239
    refine g_iconst (v := 0) hw dL_law_1007 (by decide) ?_
    exact wL_law_b1008 hw hkf hv hR23 hK1067_23 hK1083_23 h
  · have h := gF h hb239
    refine g_iconst (v := 1) hw dL_law_1003 (by decide) ?_
    refine g_goto (tgt := 1008) hw dL_law_1004 (by decide) ?_
    exact wL_law_b1008 hw hkf hv hR23 hK1067_23 hK1083_23 h
def fL_law_b1176 (L : Nat) (xs : Nat → Int32) (R23 : Int32 → gM → Prop) (l3_13 : Nat) (l4_288 : Int32) (M : gM) (Q : Int32 → gM → Prop) : Prop :=
  fL_law_b2724 L xs R23 l3_13 l4_288 M Q
theorem wL_law_b1176 {kf : Nat} {G : gG} {w : gM → Nat → List (Nat × Value) → List Value → Prop} {Q : Int32 → gM → Prop} (hw : gX yL_law cL_law 8 (Option.some FieldType.boolean) [] kf G (gQi Q) gE0 w) {L : Nat} {xs : Nat → Int32} {b : Nat} (hkf : 1017 ≤ kf) (hv : gScr G b L xs) {R23 : Int32 → gM → Prop} {l3_13 : Nat} {l4_288 : Int32} {M : gM} (hR23 : ∀ (v0 : Int32) (M : gM), R23 v0 M → w M 23 [(0, .ref (gA G (gBig + b))), (1, .ref (gA G 16)), (2, .ref (gA G 268)), (3, .ref (gA G l3_13)), (4, .int v0)] []) (h : fL_law_b1176 L xs R23 l3_13 l4_288 M Q) : w M 1176 [(0, .ref (gA G (gBig + b))), (1, .ref (gA G 16)), (2, .ref (gA G 268)), (3, .ref (gA G l3_13)), (4, .int l4_288)] [] := by
  unfold fL_law_b1176 at h
  refine g_goto (tgt := 2724) hw dL_law_1176 (by decide) ?_
  exact wL_law_b2724 hw hkf hv hR23 h
def fL_law_b1088 (L : Nat) (xs : Nat → Int32) (R23 : Int32 → gM → Prop) (K1158_23 : gM → Prop) (K1174_23 : gM → Prop) (l3_13 : Nat) (l4_269 : Int32) (M : gM) (Q : Int32 → gM → Prop) : Prop :=
  vp_in (l4_269 + 1) L ∧ vp_in (l4_269 + 2) L ∧ vp_in (l4_269 + 3) L ∧ vp_in (l4_269 + 4) L ∧ fX0_choosing (xs ((l4_269 + 1).toNatClampNeg)) (xs ((l4_269 + 2).toNatClampNeg)) (xs ((l4_269 + 3).toNatClampNeg)) (xs ((l4_269 + 4).toNatClampNeg)) l3_13 M (fun r275 M274 => vp_in (l4_269 + 1) L ∧ vp_in (l4_269 + 2) L ∧ vp_in (l4_269 + 3) L ∧ vp_in (l4_269 + 4) L ∧ gk M274 268 = 7 ∧ fX7_choosing (xs ((l4_269 + 1).toNatClampNeg)) (xs ((l4_269 + 2).toNatClampNeg)) (xs ((l4_269 + 3).toNatClampNeg)) (xs ((l4_269 + 4).toNatClampNeg)) M274 (fun r282 M281 => gk M281 268 = 7 ∧ fX7_thrown M281 (fun r285 M284 => (if r285 = r275 then (if r275 = 0 then gk M284 l3_13 = 41 ∧ vp_in 0 (gl M284 l3_13) ∧ (if (lg_cmp (gL M284 l3_13 0) r282) = 0 then fL_law_b1176 L xs R23 l3_13 l4_269 M284 Q else K1174_23 M284) else fL_law_b1176 L xs R23 l3_13 l4_269 M284 Q) else K1158_23 M284))))
theorem wL_law_b1088 {kf : Nat} {G : gG} {w : gM → Nat → List (Nat × Value) → List Value → Prop} {Q : Int32 → gM → Prop} (hw : gX yL_law cL_law 8 (Option.some FieldType.boolean) [] kf G (gQi Q) gE0 w) {L : Nat} {xs : Nat → Int32} {b : Nat} (hkf : 1017 ≤ kf) (hv : gScr G b L xs) {R23 : Int32 → gM → Prop} {K1158_23 : gM → Prop} {K1174_23 : gM → Prop} {l3_13 : Nat} {l4_269 : Int32} {M : gM} (hR23 : ∀ (v0 : Int32) (M : gM), R23 v0 M → w M 23 [(0, .ref (gA G (gBig + b))), (1, .ref (gA G 16)), (2, .ref (gA G 268)), (3, .ref (gA G l3_13)), (4, .int v0)] []) (hK1158_23 : ∀  (M : gM), K1158_23 M → w M 1158 [] []) (hK1174_23 : ∀  (M : gM), K1174_23 M → w M 1174 [] []) (h : fL_law_b1088 L xs R23 K1158_23 K1174_23 l3_13 l4_269 M Q) : w M 1088 [(0, .ref (gA G (gBig + b))), (1, .ref (gA G 16)), (2, .ref (gA G 268)), (3, .ref (gA G l3_13)), (4, .int l4_269)] [] := by
  unfold fL_law_b1088 at h
  refine g_aload_n hw 1 dL_law_1088 rfl ?_
  refine g_aload_n hw 0 dL_law_1089 rfl ?_
  refine g_iload hw 4 dL_law_1090 rfl ?_
  refine g_iconst (v := 1) hw dL_law_1092 (by decide) ?_
  refine g_iadd hw dL_law_1093 ?_
  obtain ⟨hi270, h⟩ := h
  refine g_sciald (n := (l4_269 + 1).toNatClampNeg) hw hv dL_law_1094 hi270 rfl ?_
  refine g_aload_n hw 0 dL_law_1095 rfl ?_
  refine g_iload hw 4 dL_law_1096 rfl ?_
  refine g_iconst (v := 2) hw dL_law_1098 (by decide) ?_
  refine g_iadd hw dL_law_1099 ?_
  obtain ⟨hi271, h⟩ := h
  refine g_sciald (n := (l4_269 + 2).toNatClampNeg) hw hv dL_law_1100 hi271 rfl ?_
  refine g_aload_n hw 0 dL_law_1101 rfl ?_
  refine g_iload hw 4 dL_law_1102 rfl ?_
  refine g_iconst (v := 3) hw dL_law_1104 (by decide) ?_
  refine g_iadd hw dL_law_1105 ?_
  obtain ⟨hi272, h⟩ := h
  refine g_sciald (n := (l4_269 + 3).toNatClampNeg) hw hv dL_law_1106 hi272 rfl ?_
  refine g_aload_n hw 0 dL_law_1107 rfl ?_
  refine g_iload hw 4 dL_law_1108 rfl ?_
  refine g_iconst (v := 4) hw dL_law_1110 (by decide) ?_
  refine g_iadd hw dL_law_1111 ?_
  obtain ⟨hi273, h⟩ := h
  refine g_sciald (n := (l4_269 + 4).toNatClampNeg) hw hv dL_law_1112 hi273 rfl ?_
  refine g_aload_n hw 3 dL_law_1113 rfl ?_
  refine sX0_124 hw rfl dL_law_1114 rfl (gK2 hkf) h (fun r275 M274 h => ?_)
  refine g_istore hw (lv2 := [(0, .ref (gA G (gBig + b))), (1, .ref (gA G 16)), (2, .ref (gA G 268)), (3, .ref (gA G l3_13)), (4, .int l4_269), (5, .int r275)]) [1, 2, 3, 4, 5, 0] dL_law_1117 rfl rfl ?_
  refine g_aload_n hw 2 dL_law_1119 rfl ?_
  refine g_aload_n hw 0 dL_law_1120 rfl ?_
  refine g_iload hw 4 dL_law_1121 rfl ?_
  refine g_iconst (v := 1) hw dL_law_1123 (by decide) ?_
  refine g_iadd hw dL_law_1124 ?_
  obtain ⟨hi276, h⟩ := h
  refine g_sciald (n := (l4_269 + 1).toNatClampNeg) hw hv dL_law_1125 hi276 rfl ?_
  refine g_aload_n hw 0 dL_law_1126 rfl ?_
  refine g_iload hw 4 dL_law_1127 rfl ?_
  refine g_iconst (v := 2) hw dL_law_1129 (by decide) ?_
  refine g_iadd hw dL_law_1130 ?_
  obtain ⟨hi277, h⟩ := h
  refine g_sciald (n := (l4_269 + 2).toNatClampNeg) hw hv dL_law_1131 hi277 rfl ?_
  refine g_aload_n hw 0 dL_law_1132 rfl ?_
  refine g_iload hw 4 dL_law_1133 rfl ?_
  refine g_iconst (v := 3) hw dL_law_1135 (by decide) ?_
  refine g_iadd hw dL_law_1136 ?_
  obtain ⟨hi278, h⟩ := h
  refine g_sciald (n := (l4_269 + 3).toNatClampNeg) hw hv dL_law_1137 hi278 rfl ?_
  refine g_aload_n hw 0 dL_law_1138 rfl ?_
  refine g_iload hw 4 dL_law_1139 rfl ?_
  refine g_iconst (v := 4) hw dL_law_1141 (by decide) ?_
  refine g_iadd hw dL_law_1142 ?_
  obtain ⟨hi279, h⟩ := h
  refine g_sciald (n := (l4_269 + 4).toNatClampNeg) hw hv dL_law_1143 hi279 rfl ?_
  obtain ⟨hk280, h⟩ := h
  refine sX0_126 hw rfl dL_law_1144 rfl (gK2 hkf) hk280 h (fun r282 M281 h => ?_)
  refine g_lstore hw (lv2 := [(0, .ref (gA G (gBig + b))), (1, .ref (gA G 16)), (2, .ref (gA G 268)), (3, .ref (gA G l3_13)), (4, .int l4_269), (5, .int r275), (6, .long r282)]) [1, 2, 3, 4, 5, 6, 0] dL_law_1147 rfl rfl ?_
  refine g_aload_n hw 2 dL_law_1149 rfl ?_
  obtain ⟨hk283, h⟩ := h
  refine sX0_98 hw rfl dL_law_1150 rfl (gK2 hkf) hk283 h (fun r285 M284 h => ?_)
  refine g_iload hw 5 dL_law_1153 rfl ?_
  refine g_icmp_eq (tgt := 1160) hw dL_law_1155 (by decide) (fun hb286 => ?_) (fun hb286 => ?_)
  · have h := gT h hb286
    refine g_iload hw 5 dL_law_1160 rfl ?_
    refine g_if_ne (tgt := 1176) hw dL_law_1162 (by decide) (fun hb287 => ?_) (fun hb287 => ?_)
    · have h := gF h hb287
      refine g_sub hw (lv2 := [(0, .ref (gA G (gBig + b))), (1, .ref (gA G 16)), (2, .ref (gA G 268)), (3, .ref (gA G l3_13)), (4, .int l4_269)]) [0, 1, 2, 3, 4] rfl ?_
      exact wL_law_b1176 hw hkf hv hR23 h
    · have h := gT h hb287
      refine g_aload_n hw 3 dL_law_1165 rfl ?_
      refine g_iconst (v := 0) hw dL_law_1166 (by decide) ?_
      obtain ⟨hk289, h⟩ := h
      obtain ⟨hi290, h⟩ := h
      refine g_lald (n := 0) hw dL_law_1167 hk289 hi290 rfl ?_
      refine g_lload hw 6 dL_law_1168 rfl ?_
      refine g_lcmp hw dL_law_1170 ?_
      refine g_if_eq (tgt := 1176) hw dL_law_1171 (by decide) (fun hb291 => ?_) (fun hb291 => ?_)
      · have h := gT h hb291
        refine g_sub hw (lv2 := [(0, .ref (gA G (gBig + b))), (1, .ref (gA G 16)), (2, .ref (gA G 268)), (3, .ref (gA G l3_13)), (4, .int l4_269)]) [0, 1, 2, 3, 4] rfl ?_
        exact wL_law_b1176 hw hkf hv hR23 h
      · have h := gF h hb291
        refine g_sub hw (lv2 := []) [] rfl ?_
        exact hK1174_23 M284 h
  · have h := gF h hb286
    refine g_sub hw (lv2 := []) [] rfl ?_
    exact hK1158_23 M284 h
def fL_law_b1179 (L : Nat) (xs : Nat → Int32) (R23 : Int32 → gM → Prop) (K1227_23 : gM → Prop) (l3_13 : Nat) (l4_292 : Int32) (M : gM) (Q : Int32 → gM → Prop) : Prop :=
  vp_in (l4_292 + 1) L ∧ vp_in (l4_292 + 2) L ∧ vp_in (l4_292 + 3) L ∧ gk M 16 = 1 ∧ fX1_odds (xs ((l4_292 + 1).toNatClampNeg)) (xs ((l4_292 + 2).toNatClampNeg)) (xs ((l4_292 + 3).toNatClampNeg)) M (fun r298 M297 => vp_in (l4_292 + 1) L ∧ vp_in (l4_292 + 2) L ∧ vp_in (l4_292 + 3) L ∧ gk M297 268 = 7 ∧ fX7_odds (xs ((l4_292 + 1).toNatClampNeg)) (xs ((l4_292 + 2).toNatClampNeg)) (xs ((l4_292 + 3).toNatClampNeg)) M297 (fun r304 M303 => (if (lg_cmp r298 r304) = 0 then fL_law_b2724 L xs R23 l3_13 l4_292 M303 Q else K1227_23 M303)))
theorem wL_law_b1179 {kf : Nat} {G : gG} {w : gM → Nat → List (Nat × Value) → List Value → Prop} {Q : Int32 → gM → Prop} (hw : gX yL_law cL_law 8 (Option.some FieldType.boolean) [] kf G (gQi Q) gE0 w) {L : Nat} {xs : Nat → Int32} {b : Nat} (hkf : 1017 ≤ kf) (hv : gScr G b L xs) {R23 : Int32 → gM → Prop} {K1227_23 : gM → Prop} {l3_13 : Nat} {l4_292 : Int32} {M : gM} (hR23 : ∀ (v0 : Int32) (M : gM), R23 v0 M → w M 23 [(0, .ref (gA G (gBig + b))), (1, .ref (gA G 16)), (2, .ref (gA G 268)), (3, .ref (gA G l3_13)), (4, .int v0)] []) (hK1227_23 : ∀  (M : gM), K1227_23 M → w M 1227 [] []) (h : fL_law_b1179 L xs R23 K1227_23 l3_13 l4_292 M Q) : w M 1179 [(0, .ref (gA G (gBig + b))), (1, .ref (gA G 16)), (2, .ref (gA G 268)), (3, .ref (gA G l3_13)), (4, .int l4_292)] [] := by
  unfold fL_law_b1179 at h
  refine g_aload_n hw 1 dL_law_1179 rfl ?_
  refine g_aload_n hw 0 dL_law_1180 rfl ?_
  refine g_iload hw 4 dL_law_1181 rfl ?_
  refine g_iconst (v := 1) hw dL_law_1183 (by decide) ?_
  refine g_iadd hw dL_law_1184 ?_
  obtain ⟨hi293, h⟩ := h
  refine g_sciald (n := (l4_292 + 1).toNatClampNeg) hw hv dL_law_1185 hi293 rfl ?_
  refine g_aload_n hw 0 dL_law_1186 rfl ?_
  refine g_iload hw 4 dL_law_1187 rfl ?_
  refine g_iconst (v := 2) hw dL_law_1189 (by decide) ?_
  refine g_iadd hw dL_law_1190 ?_
  obtain ⟨hi294, h⟩ := h
  refine g_sciald (n := (l4_292 + 2).toNatClampNeg) hw hv dL_law_1191 hi294 rfl ?_
  refine g_aload_n hw 0 dL_law_1192 rfl ?_
  refine g_iload hw 4 dL_law_1193 rfl ?_
  refine g_iconst (v := 3) hw dL_law_1195 (by decide) ?_
  refine g_iadd hw dL_law_1196 ?_
  obtain ⟨hi295, h⟩ := h
  refine g_sciald (n := (l4_292 + 3).toNatClampNeg) hw hv dL_law_1197 hi295 rfl ?_
  obtain ⟨hk296, h⟩ := h
  refine sX0_127 hw rfl dL_law_1198 rfl (gK2 hkf) hk296 h (fun r298 M297 h => ?_)
  refine g_aload_n hw 2 dL_law_1201 rfl ?_
  refine g_aload_n hw 0 dL_law_1202 rfl ?_
  refine g_iload hw 4 dL_law_1203 rfl ?_
  refine g_iconst (v := 1) hw dL_law_1205 (by decide) ?_
  refine g_iadd hw dL_law_1206 ?_
  obtain ⟨hi299, h⟩ := h
  refine g_sciald (n := (l4_292 + 1).toNatClampNeg) hw hv dL_law_1207 hi299 rfl ?_
  refine g_aload_n hw 0 dL_law_1208 rfl ?_
  refine g_iload hw 4 dL_law_1209 rfl ?_
  refine g_iconst (v := 2) hw dL_law_1211 (by decide) ?_
  refine g_iadd hw dL_law_1212 ?_
  obtain ⟨hi300, h⟩ := h
  refine g_sciald (n := (l4_292 + 2).toNatClampNeg) hw hv dL_law_1213 hi300 rfl ?_
  refine g_aload_n hw 0 dL_law_1214 rfl ?_
  refine g_iload hw 4 dL_law_1215 rfl ?_
  refine g_iconst (v := 3) hw dL_law_1217 (by decide) ?_
  refine g_iadd hw dL_law_1218 ?_
  obtain ⟨hi301, h⟩ := h
  refine g_sciald (n := (l4_292 + 3).toNatClampNeg) hw hv dL_law_1219 hi301 rfl ?_
  obtain ⟨hk302, h⟩ := h
  refine sX0_130 hw rfl dL_law_1220 rfl (gK2 hkf) hk302 h (fun r304 M303 h => ?_)
  refine g_lcmp hw dL_law_1223 ?_
  refine g_if_eq (tgt := 2724) hw dL_law_1224 (by decide) (fun hb305 => ?_) (fun hb305 => ?_)
  · have h := gT h hb305
    exact wL_law_b2724 hw hkf hv hR23 h
  · have h := gF h hb305
    refine g_sub hw (lv2 := []) [] rfl ?_
    exact hK1227_23 M303 h
def fL_law_b1305 (L : Nat) (xs : Nat → Int32) (R23 : Int32 → gM → Prop) (l3_13 : Nat) (l4_323 : Int32) (M : gM) (Q : Int32 → gM → Prop) : Prop :=
  fL_law_b2724 L xs R23 l3_13 l4_323 M Q
theorem wL_law_b1305 {kf : Nat} {G : gG} {w : gM → Nat → List (Nat × Value) → List Value → Prop} {Q : Int32 → gM → Prop} (hw : gX yL_law cL_law 8 (Option.some FieldType.boolean) [] kf G (gQi Q) gE0 w) {L : Nat} {xs : Nat → Int32} {b : Nat} (hkf : 1017 ≤ kf) (hv : gScr G b L xs) {R23 : Int32 → gM → Prop} {l3_13 : Nat} {l4_323 : Int32} {M : gM} (hR23 : ∀ (v0 : Int32) (M : gM), R23 v0 M → w M 23 [(0, .ref (gA G (gBig + b))), (1, .ref (gA G 16)), (2, .ref (gA G 268)), (3, .ref (gA G l3_13)), (4, .int v0)] []) (h : fL_law_b1305 L xs R23 l3_13 l4_323 M Q) : w M 1305 [(0, .ref (gA G (gBig + b))), (1, .ref (gA G 16)), (2, .ref (gA G 268)), (3, .ref (gA G l3_13)), (4, .int l4_323)] [] := by
  unfold fL_law_b1305 at h
  refine g_goto (tgt := 2724) hw dL_law_1305 (by decide) ?_
  exact wL_law_b2724 hw hkf hv hR23 h
def fL_law_b1229 (L : Nat) (xs : Nat → Int32) (R23 : Int32 → gM → Prop) (K1287_23 : gM → Prop) (K1303_23 : gM → Prop) (l3_13 : Nat) (l4_306 : Int32) (M : gM) (Q : Int32 → gM → Prop) : Prop :=
  vp_in (l4_306 + 1) L ∧ vp_in (l4_306 + 2) L ∧ vp_in (l4_306 + 3) L ∧ fX0_beside (xs ((l4_306 + 1).toNatClampNeg)) (xs ((l4_306 + 2).toNatClampNeg)) (xs ((l4_306 + 3).toNatClampNeg)) l3_13 M (fun r311 M310 => vp_in (l4_306 + 1) L ∧ vp_in (l4_306 + 2) L ∧ vp_in (l4_306 + 3) L ∧ gk M310 268 = 7 ∧ fX7_beside (xs ((l4_306 + 1).toNatClampNeg)) (xs ((l4_306 + 2).toNatClampNeg)) (xs ((l4_306 + 3).toNatClampNeg)) M310 (fun r317 M316 => gk M316 268 = 7 ∧ fX7_thrown M316 (fun r320 M319 => (if r320 = r311 then (if r311 = 0 then gk M319 l3_13 = 41 ∧ vp_in 0 (gl M319 l3_13) ∧ (if (lg_cmp (gL M319 l3_13 0) r317) = 0 then fL_law_b1305 L xs R23 l3_13 l4_306 M319 Q else K1303_23 M319) else fL_law_b1305 L xs R23 l3_13 l4_306 M319 Q) else K1287_23 M319))))
theorem wL_law_b1229 {kf : Nat} {G : gG} {w : gM → Nat → List (Nat × Value) → List Value → Prop} {Q : Int32 → gM → Prop} (hw : gX yL_law cL_law 8 (Option.some FieldType.boolean) [] kf G (gQi Q) gE0 w) {L : Nat} {xs : Nat → Int32} {b : Nat} (hkf : 1017 ≤ kf) (hv : gScr G b L xs) {R23 : Int32 → gM → Prop} {K1287_23 : gM → Prop} {K1303_23 : gM → Prop} {l3_13 : Nat} {l4_306 : Int32} {M : gM} (hR23 : ∀ (v0 : Int32) (M : gM), R23 v0 M → w M 23 [(0, .ref (gA G (gBig + b))), (1, .ref (gA G 16)), (2, .ref (gA G 268)), (3, .ref (gA G l3_13)), (4, .int v0)] []) (hK1287_23 : ∀  (M : gM), K1287_23 M → w M 1287 [] []) (hK1303_23 : ∀  (M : gM), K1303_23 M → w M 1303 [] []) (h : fL_law_b1229 L xs R23 K1287_23 K1303_23 l3_13 l4_306 M Q) : w M 1229 [(0, .ref (gA G (gBig + b))), (1, .ref (gA G 16)), (2, .ref (gA G 268)), (3, .ref (gA G l3_13)), (4, .int l4_306)] [] := by
  unfold fL_law_b1229 at h
  refine g_aload_n hw 1 dL_law_1229 rfl ?_
  refine g_aload_n hw 0 dL_law_1230 rfl ?_
  refine g_iload hw 4 dL_law_1231 rfl ?_
  refine g_iconst (v := 1) hw dL_law_1233 (by decide) ?_
  refine g_iadd hw dL_law_1234 ?_
  obtain ⟨hi307, h⟩ := h
  refine g_sciald (n := (l4_306 + 1).toNatClampNeg) hw hv dL_law_1235 hi307 rfl ?_
  refine g_aload_n hw 0 dL_law_1236 rfl ?_
  refine g_iload hw 4 dL_law_1237 rfl ?_
  refine g_iconst (v := 2) hw dL_law_1239 (by decide) ?_
  refine g_iadd hw dL_law_1240 ?_
  obtain ⟨hi308, h⟩ := h
  refine g_sciald (n := (l4_306 + 2).toNatClampNeg) hw hv dL_law_1241 hi308 rfl ?_
  refine g_aload_n hw 0 dL_law_1242 rfl ?_
  refine g_iload hw 4 dL_law_1243 rfl ?_
  refine g_iconst (v := 3) hw dL_law_1245 (by decide) ?_
  refine g_iadd hw dL_law_1246 ?_
  obtain ⟨hi309, h⟩ := h
  refine g_sciald (n := (l4_306 + 3).toNatClampNeg) hw hv dL_law_1247 hi309 rfl ?_
  refine g_aload_n hw 3 dL_law_1248 rfl ?_
  refine sX0_131 hw rfl dL_law_1249 rfl (gK2 hkf) h (fun r311 M310 h => ?_)
  refine g_istore hw (lv2 := [(0, .ref (gA G (gBig + b))), (1, .ref (gA G 16)), (2, .ref (gA G 268)), (3, .ref (gA G l3_13)), (4, .int l4_306), (5, .int r311)]) [1, 2, 3, 4, 5, 0] dL_law_1252 rfl rfl ?_
  refine g_aload_n hw 2 dL_law_1254 rfl ?_
  refine g_aload_n hw 0 dL_law_1255 rfl ?_
  refine g_iload hw 4 dL_law_1256 rfl ?_
  refine g_iconst (v := 1) hw dL_law_1258 (by decide) ?_
  refine g_iadd hw dL_law_1259 ?_
  obtain ⟨hi312, h⟩ := h
  refine g_sciald (n := (l4_306 + 1).toNatClampNeg) hw hv dL_law_1260 hi312 rfl ?_
  refine g_aload_n hw 0 dL_law_1261 rfl ?_
  refine g_iload hw 4 dL_law_1262 rfl ?_
  refine g_iconst (v := 2) hw dL_law_1264 (by decide) ?_
  refine g_iadd hw dL_law_1265 ?_
  obtain ⟨hi313, h⟩ := h
  refine g_sciald (n := (l4_306 + 2).toNatClampNeg) hw hv dL_law_1266 hi313 rfl ?_
  refine g_aload_n hw 0 dL_law_1267 rfl ?_
  refine g_iload hw 4 dL_law_1268 rfl ?_
  refine g_iconst (v := 3) hw dL_law_1270 (by decide) ?_
  refine g_iadd hw dL_law_1271 ?_
  obtain ⟨hi314, h⟩ := h
  refine g_sciald (n := (l4_306 + 3).toNatClampNeg) hw hv dL_law_1272 hi314 rfl ?_
  obtain ⟨hk315, h⟩ := h
  refine sX0_133 hw rfl dL_law_1273 rfl (gK2 hkf) hk315 h (fun r317 M316 h => ?_)
  refine g_lstore hw (lv2 := [(0, .ref (gA G (gBig + b))), (1, .ref (gA G 16)), (2, .ref (gA G 268)), (3, .ref (gA G l3_13)), (4, .int l4_306), (5, .int r311), (6, .long r317)]) [1, 2, 3, 4, 5, 6, 0] dL_law_1276 rfl rfl ?_
  refine g_aload_n hw 2 dL_law_1278 rfl ?_
  obtain ⟨hk318, h⟩ := h
  refine sX0_98 hw rfl dL_law_1279 rfl (gK2 hkf) hk318 h (fun r320 M319 h => ?_)
  refine g_iload hw 5 dL_law_1282 rfl ?_
  refine g_icmp_eq (tgt := 1289) hw dL_law_1284 (by decide) (fun hb321 => ?_) (fun hb321 => ?_)
  · have h := gT h hb321
    refine g_iload hw 5 dL_law_1289 rfl ?_
    refine g_if_ne (tgt := 1305) hw dL_law_1291 (by decide) (fun hb322 => ?_) (fun hb322 => ?_)
    · have h := gF h hb322
      refine g_sub hw (lv2 := [(0, .ref (gA G (gBig + b))), (1, .ref (gA G 16)), (2, .ref (gA G 268)), (3, .ref (gA G l3_13)), (4, .int l4_306)]) [0, 1, 2, 3, 4] rfl ?_
      exact wL_law_b1305 hw hkf hv hR23 h
    · have h := gT h hb322
      refine g_aload_n hw 3 dL_law_1294 rfl ?_
      refine g_iconst (v := 0) hw dL_law_1295 (by decide) ?_
      obtain ⟨hk324, h⟩ := h
      obtain ⟨hi325, h⟩ := h
      refine g_lald (n := 0) hw dL_law_1296 hk324 hi325 rfl ?_
      refine g_lload hw 6 dL_law_1297 rfl ?_
      refine g_lcmp hw dL_law_1299 ?_
      refine g_if_eq (tgt := 1305) hw dL_law_1300 (by decide) (fun hb326 => ?_) (fun hb326 => ?_)
      · have h := gT h hb326
        refine g_sub hw (lv2 := [(0, .ref (gA G (gBig + b))), (1, .ref (gA G 16)), (2, .ref (gA G 268)), (3, .ref (gA G l3_13)), (4, .int l4_306)]) [0, 1, 2, 3, 4] rfl ?_
        exact wL_law_b1305 hw hkf hv hR23 h
      · have h := gF h hb326
        refine g_sub hw (lv2 := []) [] rfl ?_
        exact hK1303_23 M319 h
  · have h := gF h hb321
    refine g_sub hw (lv2 := []) [] rfl ?_
    exact hK1287_23 M319 h
def fL_law_b1308 (L : Nat) (xs : Nat → Int32) (R23 : Int32 → gM → Prop) (K1344_23 : gM → Prop) (l3_13 : Nat) (l4_327 : Int32) (M : gM) (Q : Int32 → gM → Prop) : Prop :=
  vp_in (l4_327 + 1) L ∧ vp_in (l4_327 + 2) L ∧ gk M 16 = 1 ∧ fX1_alike (xs ((l4_327 + 1).toNatClampNeg)) (xs ((l4_327 + 2).toNatClampNeg)) M (fun r332 M331 => vp_in (l4_327 + 1) L ∧ vp_in (l4_327 + 2) L ∧ gk M331 268 = 7 ∧ fX7_alike (xs ((l4_327 + 1).toNatClampNeg)) (xs ((l4_327 + 2).toNatClampNeg)) M331 (fun r337 M336 => (if (lg_cmp r332 r337) = 0 then fL_law_b2724 L xs R23 l3_13 l4_327 M336 Q else K1344_23 M336)))
theorem wL_law_b1308 {kf : Nat} {G : gG} {w : gM → Nat → List (Nat × Value) → List Value → Prop} {Q : Int32 → gM → Prop} (hw : gX yL_law cL_law 8 (Option.some FieldType.boolean) [] kf G (gQi Q) gE0 w) {L : Nat} {xs : Nat → Int32} {b : Nat} (hkf : 1017 ≤ kf) (hv : gScr G b L xs) {R23 : Int32 → gM → Prop} {K1344_23 : gM → Prop} {l3_13 : Nat} {l4_327 : Int32} {M : gM} (hR23 : ∀ (v0 : Int32) (M : gM), R23 v0 M → w M 23 [(0, .ref (gA G (gBig + b))), (1, .ref (gA G 16)), (2, .ref (gA G 268)), (3, .ref (gA G l3_13)), (4, .int v0)] []) (hK1344_23 : ∀  (M : gM), K1344_23 M → w M 1344 [] []) (h : fL_law_b1308 L xs R23 K1344_23 l3_13 l4_327 M Q) : w M 1308 [(0, .ref (gA G (gBig + b))), (1, .ref (gA G 16)), (2, .ref (gA G 268)), (3, .ref (gA G l3_13)), (4, .int l4_327)] [] := by
  unfold fL_law_b1308 at h
  refine g_aload_n hw 1 dL_law_1308 rfl ?_
  refine g_aload_n hw 0 dL_law_1309 rfl ?_
  refine g_iload hw 4 dL_law_1310 rfl ?_
  refine g_iconst (v := 1) hw dL_law_1312 (by decide) ?_
  refine g_iadd hw dL_law_1313 ?_
  obtain ⟨hi328, h⟩ := h
  refine g_sciald (n := (l4_327 + 1).toNatClampNeg) hw hv dL_law_1314 hi328 rfl ?_
  refine g_aload_n hw 0 dL_law_1315 rfl ?_
  refine g_iload hw 4 dL_law_1316 rfl ?_
  refine g_iconst (v := 2) hw dL_law_1318 (by decide) ?_
  refine g_iadd hw dL_law_1319 ?_
  obtain ⟨hi329, h⟩ := h
  refine g_sciald (n := (l4_327 + 2).toNatClampNeg) hw hv dL_law_1320 hi329 rfl ?_
  obtain ⟨hk330, h⟩ := h
  refine sX0_134 hw rfl dL_law_1321 rfl (gK2 hkf) hk330 h (fun r332 M331 h => ?_)
  refine g_aload_n hw 2 dL_law_1324 rfl ?_
  refine g_aload_n hw 0 dL_law_1325 rfl ?_
  refine g_iload hw 4 dL_law_1326 rfl ?_
  refine g_iconst (v := 1) hw dL_law_1328 (by decide) ?_
  refine g_iadd hw dL_law_1329 ?_
  obtain ⟨hi333, h⟩ := h
  refine g_sciald (n := (l4_327 + 1).toNatClampNeg) hw hv dL_law_1330 hi333 rfl ?_
  refine g_aload_n hw 0 dL_law_1331 rfl ?_
  refine g_iload hw 4 dL_law_1332 rfl ?_
  refine g_iconst (v := 2) hw dL_law_1334 (by decide) ?_
  refine g_iadd hw dL_law_1335 ?_
  obtain ⟨hi334, h⟩ := h
  refine g_sciald (n := (l4_327 + 2).toNatClampNeg) hw hv dL_law_1336 hi334 rfl ?_
  obtain ⟨hk335, h⟩ := h
  refine sX0_137 hw rfl dL_law_1337 rfl (gK2 hkf) hk335 h (fun r337 M336 h => ?_)
  refine g_lcmp hw dL_law_1340 ?_
  refine g_if_eq (tgt := 2724) hw dL_law_1341 (by decide) (fun hb338 => ?_) (fun hb338 => ?_)
  · have h := gT h hb338
    exact wL_law_b2724 hw hkf hv hR23 h
  · have h := gF h hb338
    refine g_sub hw (lv2 := []) [] rfl ?_
    exact hK1344_23 M336 h
def fL_law_b1434 (L : Nat) (xs : Nat → Int32) (R23 : Int32 → gM → Prop) (l3_13 : Nat) (l4_358 : Int32) (M : gM) (Q : Int32 → gM → Prop) : Prop :=
  fL_law_b2724 L xs R23 l3_13 l4_358 M Q
theorem wL_law_b1434 {kf : Nat} {G : gG} {w : gM → Nat → List (Nat × Value) → List Value → Prop} {Q : Int32 → gM → Prop} (hw : gX yL_law cL_law 8 (Option.some FieldType.boolean) [] kf G (gQi Q) gE0 w) {L : Nat} {xs : Nat → Int32} {b : Nat} (hkf : 1017 ≤ kf) (hv : gScr G b L xs) {R23 : Int32 → gM → Prop} {l3_13 : Nat} {l4_358 : Int32} {M : gM} (hR23 : ∀ (v0 : Int32) (M : gM), R23 v0 M → w M 23 [(0, .ref (gA G (gBig + b))), (1, .ref (gA G 16)), (2, .ref (gA G 268)), (3, .ref (gA G l3_13)), (4, .int v0)] []) (h : fL_law_b1434 L xs R23 l3_13 l4_358 M Q) : w M 1434 [(0, .ref (gA G (gBig + b))), (1, .ref (gA G 16)), (2, .ref (gA G 268)), (3, .ref (gA G l3_13)), (4, .int l4_358)] [] := by
  unfold fL_law_b1434 at h
  refine g_goto (tgt := 2724) hw dL_law_1434 (by decide) ?_
  exact wL_law_b2724 hw hkf hv hR23 h
def fL_law_b1346 (L : Nat) (xs : Nat → Int32) (R23 : Int32 → gM → Prop) (K1416_23 : gM → Prop) (K1432_23 : gM → Prop) (l3_13 : Nat) (l4_339 : Int32) (M : gM) (Q : Int32 → gM → Prop) : Prop :=
  vp_in (l4_339 + 1) L ∧ vp_in (l4_339 + 2) L ∧ vp_in (l4_339 + 3) L ∧ vp_in (l4_339 + 4) L ∧ fX0_apart (xs ((l4_339 + 1).toNatClampNeg)) (xs ((l4_339 + 2).toNatClampNeg)) (xs ((l4_339 + 3).toNatClampNeg)) (xs ((l4_339 + 4).toNatClampNeg)) l3_13 M (fun r345 M344 => vp_in (l4_339 + 1) L ∧ vp_in (l4_339 + 2) L ∧ vp_in (l4_339 + 3) L ∧ vp_in (l4_339 + 4) L ∧ gk M344 268 = 7 ∧ fX7_apart (xs ((l4_339 + 1).toNatClampNeg)) (xs ((l4_339 + 2).toNatClampNeg)) (xs ((l4_339 + 3).toNatClampNeg)) (xs ((l4_339 + 4).toNatClampNeg)) M344 (fun r352 M351 => gk M351 268 = 7 ∧ fX7_thrown M351 (fun r355 M354 => (if r355 = r345 then (if r345 = 0 then gk M354 l3_13 = 41 ∧ vp_in 0 (gl M354 l3_13) ∧ (if (lg_cmp (gL M354 l3_13 0) r352) = 0 then fL_law_b1434 L xs R23 l3_13 l4_339 M354 Q else K1432_23 M354) else fL_law_b1434 L xs R23 l3_13 l4_339 M354 Q) else K1416_23 M354))))
theorem wL_law_b1346 {kf : Nat} {G : gG} {w : gM → Nat → List (Nat × Value) → List Value → Prop} {Q : Int32 → gM → Prop} (hw : gX yL_law cL_law 8 (Option.some FieldType.boolean) [] kf G (gQi Q) gE0 w) {L : Nat} {xs : Nat → Int32} {b : Nat} (hkf : 1017 ≤ kf) (hv : gScr G b L xs) {R23 : Int32 → gM → Prop} {K1416_23 : gM → Prop} {K1432_23 : gM → Prop} {l3_13 : Nat} {l4_339 : Int32} {M : gM} (hR23 : ∀ (v0 : Int32) (M : gM), R23 v0 M → w M 23 [(0, .ref (gA G (gBig + b))), (1, .ref (gA G 16)), (2, .ref (gA G 268)), (3, .ref (gA G l3_13)), (4, .int v0)] []) (hK1416_23 : ∀  (M : gM), K1416_23 M → w M 1416 [] []) (hK1432_23 : ∀  (M : gM), K1432_23 M → w M 1432 [] []) (h : fL_law_b1346 L xs R23 K1416_23 K1432_23 l3_13 l4_339 M Q) : w M 1346 [(0, .ref (gA G (gBig + b))), (1, .ref (gA G 16)), (2, .ref (gA G 268)), (3, .ref (gA G l3_13)), (4, .int l4_339)] [] := by
  unfold fL_law_b1346 at h
  refine g_aload_n hw 1 dL_law_1346 rfl ?_
  refine g_aload_n hw 0 dL_law_1347 rfl ?_
  refine g_iload hw 4 dL_law_1348 rfl ?_
  refine g_iconst (v := 1) hw dL_law_1350 (by decide) ?_
  refine g_iadd hw dL_law_1351 ?_
  obtain ⟨hi340, h⟩ := h
  refine g_sciald (n := (l4_339 + 1).toNatClampNeg) hw hv dL_law_1352 hi340 rfl ?_
  refine g_aload_n hw 0 dL_law_1353 rfl ?_
  refine g_iload hw 4 dL_law_1354 rfl ?_
  refine g_iconst (v := 2) hw dL_law_1356 (by decide) ?_
  refine g_iadd hw dL_law_1357 ?_
  obtain ⟨hi341, h⟩ := h
  refine g_sciald (n := (l4_339 + 2).toNatClampNeg) hw hv dL_law_1358 hi341 rfl ?_
  refine g_aload_n hw 0 dL_law_1359 rfl ?_
  refine g_iload hw 4 dL_law_1360 rfl ?_
  refine g_iconst (v := 3) hw dL_law_1362 (by decide) ?_
  refine g_iadd hw dL_law_1363 ?_
  obtain ⟨hi342, h⟩ := h
  refine g_sciald (n := (l4_339 + 3).toNatClampNeg) hw hv dL_law_1364 hi342 rfl ?_
  refine g_aload_n hw 0 dL_law_1365 rfl ?_
  refine g_iload hw 4 dL_law_1366 rfl ?_
  refine g_iconst (v := 4) hw dL_law_1368 (by decide) ?_
  refine g_iadd hw dL_law_1369 ?_
  obtain ⟨hi343, h⟩ := h
  refine g_sciald (n := (l4_339 + 4).toNatClampNeg) hw hv dL_law_1370 hi343 rfl ?_
  refine g_aload_n hw 3 dL_law_1371 rfl ?_
  refine sX0_138 hw rfl dL_law_1372 rfl (gK2 hkf) h (fun r345 M344 h => ?_)
  refine g_istore hw (lv2 := [(0, .ref (gA G (gBig + b))), (1, .ref (gA G 16)), (2, .ref (gA G 268)), (3, .ref (gA G l3_13)), (4, .int l4_339), (5, .int r345)]) [1, 2, 3, 4, 5, 0] dL_law_1375 rfl rfl ?_
  refine g_aload_n hw 2 dL_law_1377 rfl ?_
  refine g_aload_n hw 0 dL_law_1378 rfl ?_
  refine g_iload hw 4 dL_law_1379 rfl ?_
  refine g_iconst (v := 1) hw dL_law_1381 (by decide) ?_
  refine g_iadd hw dL_law_1382 ?_
  obtain ⟨hi346, h⟩ := h
  refine g_sciald (n := (l4_339 + 1).toNatClampNeg) hw hv dL_law_1383 hi346 rfl ?_
  refine g_aload_n hw 0 dL_law_1384 rfl ?_
  refine g_iload hw 4 dL_law_1385 rfl ?_
  refine g_iconst (v := 2) hw dL_law_1387 (by decide) ?_
  refine g_iadd hw dL_law_1388 ?_
  obtain ⟨hi347, h⟩ := h
  refine g_sciald (n := (l4_339 + 2).toNatClampNeg) hw hv dL_law_1389 hi347 rfl ?_
  refine g_aload_n hw 0 dL_law_1390 rfl ?_
  refine g_iload hw 4 dL_law_1391 rfl ?_
  refine g_iconst (v := 3) hw dL_law_1393 (by decide) ?_
  refine g_iadd hw dL_law_1394 ?_
  obtain ⟨hi348, h⟩ := h
  refine g_sciald (n := (l4_339 + 3).toNatClampNeg) hw hv dL_law_1395 hi348 rfl ?_
  refine g_aload_n hw 0 dL_law_1396 rfl ?_
  refine g_iload hw 4 dL_law_1397 rfl ?_
  refine g_iconst (v := 4) hw dL_law_1399 (by decide) ?_
  refine g_iadd hw dL_law_1400 ?_
  obtain ⟨hi349, h⟩ := h
  refine g_sciald (n := (l4_339 + 4).toNatClampNeg) hw hv dL_law_1401 hi349 rfl ?_
  obtain ⟨hk350, h⟩ := h
  refine sX0_140 hw rfl dL_law_1402 rfl (gK2 hkf) hk350 h (fun r352 M351 h => ?_)
  refine g_lstore hw (lv2 := [(0, .ref (gA G (gBig + b))), (1, .ref (gA G 16)), (2, .ref (gA G 268)), (3, .ref (gA G l3_13)), (4, .int l4_339), (5, .int r345), (6, .long r352)]) [1, 2, 3, 4, 5, 6, 0] dL_law_1405 rfl rfl ?_
  refine g_aload_n hw 2 dL_law_1407 rfl ?_
  obtain ⟨hk353, h⟩ := h
  refine sX0_98 hw rfl dL_law_1408 rfl (gK2 hkf) hk353 h (fun r355 M354 h => ?_)
  refine g_iload hw 5 dL_law_1411 rfl ?_
  refine g_icmp_eq (tgt := 1418) hw dL_law_1413 (by decide) (fun hb356 => ?_) (fun hb356 => ?_)
  · have h := gT h hb356
    refine g_iload hw 5 dL_law_1418 rfl ?_
    refine g_if_ne (tgt := 1434) hw dL_law_1420 (by decide) (fun hb357 => ?_) (fun hb357 => ?_)
    · have h := gF h hb357
      refine g_sub hw (lv2 := [(0, .ref (gA G (gBig + b))), (1, .ref (gA G 16)), (2, .ref (gA G 268)), (3, .ref (gA G l3_13)), (4, .int l4_339)]) [0, 1, 2, 3, 4] rfl ?_
      exact wL_law_b1434 hw hkf hv hR23 h
    · have h := gT h hb357
      refine g_aload_n hw 3 dL_law_1423 rfl ?_
      refine g_iconst (v := 0) hw dL_law_1424 (by decide) ?_
      obtain ⟨hk359, h⟩ := h
      obtain ⟨hi360, h⟩ := h
      refine g_lald (n := 0) hw dL_law_1425 hk359 hi360 rfl ?_
      refine g_lload hw 6 dL_law_1426 rfl ?_
      refine g_lcmp hw dL_law_1428 ?_
      refine g_if_eq (tgt := 1434) hw dL_law_1429 (by decide) (fun hb361 => ?_) (fun hb361 => ?_)
      · have h := gT h hb361
        refine g_sub hw (lv2 := [(0, .ref (gA G (gBig + b))), (1, .ref (gA G 16)), (2, .ref (gA G 268)), (3, .ref (gA G l3_13)), (4, .int l4_339)]) [0, 1, 2, 3, 4] rfl ?_
        exact wL_law_b1434 hw hkf hv hR23 h
      · have h := gF h hb361
        refine g_sub hw (lv2 := []) [] rfl ?_
        exact hK1432_23 M354 h
  · have h := gF h hb356
    refine g_sub hw (lv2 := []) [] rfl ?_
    exact hK1416_23 M354 h
def fL_law_b1437 (L : Nat) (xs : Nat → Int32) (R23 : Int32 → gM → Prop) (K1582_23 : gM → Prop) (l3_13 : Nat) (l4_362 : Int32) (M : gM) (Q : Int32 → gM → Prop) : Prop :=
  vp_in (l4_362 + 1) L ∧ vp_in (l4_362 + 2) L ∧ vp_in (l4_362 + 3) L ∧ vp_in (l4_362 + 4) L ∧ vp_in (l4_362 + 5) L ∧ vp_in (l4_362 + 6) L ∧ gk M 16 = 1 ∧ fX1_feed ((((xs ((l4_362 + 1).toNatClampNeg)).toInt64) <<< ((32 : Int32).toInt64 &&& 63)) ||| (((xs ((l4_362 + 2).toNatClampNeg)).toInt64) &&& 4294967295)) ((((xs ((l4_362 + 3).toNatClampNeg)).toInt64) <<< ((32 : Int32).toInt64 &&& 63)) ||| (((xs ((l4_362 + 4).toNatClampNeg)).toInt64) &&& 4294967295)) ((((xs ((l4_362 + 5).toNatClampNeg)).toInt64) <<< ((32 : Int32).toInt64 &&& 63)) ||| (((xs ((l4_362 + 6).toNatClampNeg)).toInt64) &&& 4294967295)) M (fun r371 M370 => vp_in (l4_362 + 1) L ∧ vp_in (l4_362 + 2) L ∧ vp_in (l4_362 + 3) L ∧ vp_in (l4_362 + 4) L ∧ vp_in (l4_362 + 5) L ∧ vp_in (l4_362 + 6) L ∧ gk M370 268 = 7 ∧ fX7_feed ((((xs ((l4_362 + 1).toNatClampNeg)).toInt64) <<< ((32 : Int32).toInt64 &&& 63)) ||| (((xs ((l4_362 + 2).toNatClampNeg)).toInt64) &&& 4294967295)) ((((xs ((l4_362 + 3).toNatClampNeg)).toInt64) <<< ((32 : Int32).toInt64 &&& 63)) ||| (((xs ((l4_362 + 4).toNatClampNeg)).toInt64) &&& 4294967295)) ((((xs ((l4_362 + 5).toNatClampNeg)).toInt64) <<< ((32 : Int32).toInt64 &&& 63)) ||| (((xs ((l4_362 + 6).toNatClampNeg)).toInt64) &&& 4294967295)) M370 (fun r380 M379 => (if r371 = r380 then fL_law_b2724 L xs R23 l3_13 l4_362 M379 Q else K1582_23 M379)))
theorem wL_law_b1437 {kf : Nat} {G : gG} {w : gM → Nat → List (Nat × Value) → List Value → Prop} {Q : Int32 → gM → Prop} (hw : gX yL_law cL_law 8 (Option.some FieldType.boolean) [] kf G (gQi Q) gE0 w) {L : Nat} {xs : Nat → Int32} {b : Nat} (hkf : 1017 ≤ kf) (hv : gScr G b L xs) {R23 : Int32 → gM → Prop} {K1582_23 : gM → Prop} {l3_13 : Nat} {l4_362 : Int32} {M : gM} (hR23 : ∀ (v0 : Int32) (M : gM), R23 v0 M → w M 23 [(0, .ref (gA G (gBig + b))), (1, .ref (gA G 16)), (2, .ref (gA G 268)), (3, .ref (gA G l3_13)), (4, .int v0)] []) (hK1582_23 : ∀  (M : gM), K1582_23 M → w M 1582 [] []) (h : fL_law_b1437 L xs R23 K1582_23 l3_13 l4_362 M Q) : w M 1437 [(0, .ref (gA G (gBig + b))), (1, .ref (gA G 16)), (2, .ref (gA G 268)), (3, .ref (gA G l3_13)), (4, .int l4_362)] [] := by
  unfold fL_law_b1437 at h
  refine g_aload_n hw 1 dL_law_1437 rfl ?_
  refine g_aload_n hw 0 dL_law_1438 rfl ?_
  refine g_iload hw 4 dL_law_1439 rfl ?_
  refine g_iconst (v := 1) hw dL_law_1441 (by decide) ?_
  refine g_iadd hw dL_law_1442 ?_
  obtain ⟨hi363, h⟩ := h
  refine g_sciald (n := (l4_362 + 1).toNatClampNeg) hw hv dL_law_1443 hi363 rfl ?_
  refine g_i2l hw dL_law_1444 ?_
  refine g_bipush (v := 32) hw dL_law_1445 (by decide) ?_
  refine g_lshl hw dL_law_1447 ?_
  refine g_aload_n hw 0 dL_law_1448 rfl ?_
  refine g_iload hw 4 dL_law_1449 rfl ?_
  refine g_iconst (v := 2) hw dL_law_1451 (by decide) ?_
  refine g_iadd hw dL_law_1452 ?_
  obtain ⟨hi364, h⟩ := h
  refine g_sciald (n := (l4_362 + 2).toNatClampNeg) hw hv dL_law_1453 hi364 rfl ?_
  refine g_i2l hw dL_law_1454 ?_
  refine g_ldc2 hw dL_law_1455 q1762 ?_
  refine g_land hw dL_law_1458 ?_
  refine g_lor hw dL_law_1459 ?_
  refine g_aload_n hw 0 dL_law_1460 rfl ?_
  refine g_iload hw 4 dL_law_1461 rfl ?_
  refine g_iconst (v := 3) hw dL_law_1463 (by decide) ?_
  refine g_iadd hw dL_law_1464 ?_
  obtain ⟨hi365, h⟩ := h
  refine g_sciald (n := (l4_362 + 3).toNatClampNeg) hw hv dL_law_1465 hi365 rfl ?_
  refine g_i2l hw dL_law_1466 ?_
  refine g_bipush (v := 32) hw dL_law_1467 (by decide) ?_
  refine g_lshl hw dL_law_1469 ?_
  refine g_aload_n hw 0 dL_law_1470 rfl ?_
  refine g_iload hw 4 dL_law_1471 rfl ?_
  refine g_iconst (v := 4) hw dL_law_1473 (by decide) ?_
  refine g_iadd hw dL_law_1474 ?_
  obtain ⟨hi366, h⟩ := h
  refine g_sciald (n := (l4_362 + 4).toNatClampNeg) hw hv dL_law_1475 hi366 rfl ?_
  refine g_i2l hw dL_law_1476 ?_
  refine g_ldc2 hw dL_law_1477 q1762 ?_
  refine g_land hw dL_law_1480 ?_
  refine g_lor hw dL_law_1481 ?_
  refine g_aload_n hw 0 dL_law_1482 rfl ?_
  refine g_iload hw 4 dL_law_1483 rfl ?_
  refine g_iconst (v := 5) hw dL_law_1485 (by decide) ?_
  refine g_iadd hw dL_law_1486 ?_
  obtain ⟨hi367, h⟩ := h
  refine g_sciald (n := (l4_362 + 5).toNatClampNeg) hw hv dL_law_1487 hi367 rfl ?_
  refine g_i2l hw dL_law_1488 ?_
  refine g_bipush (v := 32) hw dL_law_1489 (by decide) ?_
  refine g_lshl hw dL_law_1491 ?_
  refine g_aload_n hw 0 dL_law_1492 rfl ?_
  refine g_iload hw 4 dL_law_1493 rfl ?_
  refine g_bipush (v := 6) hw dL_law_1495 (by decide) ?_
  refine g_iadd hw dL_law_1497 ?_
  obtain ⟨hi368, h⟩ := h
  refine g_sciald (n := (l4_362 + 6).toNatClampNeg) hw hv dL_law_1498 hi368 rfl ?_
  refine g_i2l hw dL_law_1499 ?_
  refine g_ldc2 hw dL_law_1500 q1762 ?_
  refine g_land hw dL_law_1503 ?_
  refine g_lor hw dL_law_1504 ?_
  obtain ⟨hk369, h⟩ := h
  refine sX0_143 hw rfl dL_law_1505 rfl (gK2 hkf) hk369 h (fun r371 M370 h => ?_)
  refine g_aload_n hw 2 dL_law_1508 rfl ?_
  refine g_aload_n hw 0 dL_law_1509 rfl ?_
  refine g_iload hw 4 dL_law_1510 rfl ?_
  refine g_iconst (v := 1) hw dL_law_1512 (by decide) ?_
  refine g_iadd hw dL_law_1513 ?_
  obtain ⟨hi372, h⟩ := h
  refine g_sciald (n := (l4_362 + 1).toNatClampNeg) hw hv dL_law_1514 hi372 rfl ?_
  refine g_i2l hw dL_law_1515 ?_
  refine g_bipush (v := 32) hw dL_law_1516 (by decide) ?_
  refine g_lshl hw dL_law_1518 ?_
  refine g_aload_n hw 0 dL_law_1519 rfl ?_
  refine g_iload hw 4 dL_law_1520 rfl ?_
  refine g_iconst (v := 2) hw dL_law_1522 (by decide) ?_
  refine g_iadd hw dL_law_1523 ?_
  obtain ⟨hi373, h⟩ := h
  refine g_sciald (n := (l4_362 + 2).toNatClampNeg) hw hv dL_law_1524 hi373 rfl ?_
  refine g_i2l hw dL_law_1525 ?_
  refine g_ldc2 hw dL_law_1526 q1762 ?_
  refine g_land hw dL_law_1529 ?_
  refine g_lor hw dL_law_1530 ?_
  refine g_aload_n hw 0 dL_law_1531 rfl ?_
  refine g_iload hw 4 dL_law_1532 rfl ?_
  refine g_iconst (v := 3) hw dL_law_1534 (by decide) ?_
  refine g_iadd hw dL_law_1535 ?_
  obtain ⟨hi374, h⟩ := h
  refine g_sciald (n := (l4_362 + 3).toNatClampNeg) hw hv dL_law_1536 hi374 rfl ?_
  refine g_i2l hw dL_law_1537 ?_
  refine g_bipush (v := 32) hw dL_law_1538 (by decide) ?_
  refine g_lshl hw dL_law_1540 ?_
  refine g_aload_n hw 0 dL_law_1541 rfl ?_
  refine g_iload hw 4 dL_law_1542 rfl ?_
  refine g_iconst (v := 4) hw dL_law_1544 (by decide) ?_
  refine g_iadd hw dL_law_1545 ?_
  obtain ⟨hi375, h⟩ := h
  refine g_sciald (n := (l4_362 + 4).toNatClampNeg) hw hv dL_law_1546 hi375 rfl ?_
  refine g_i2l hw dL_law_1547 ?_
  refine g_ldc2 hw dL_law_1548 q1762 ?_
  refine g_land hw dL_law_1551 ?_
  refine g_lor hw dL_law_1552 ?_
  refine g_aload_n hw 0 dL_law_1553 rfl ?_
  refine g_iload hw 4 dL_law_1554 rfl ?_
  refine g_iconst (v := 5) hw dL_law_1556 (by decide) ?_
  refine g_iadd hw dL_law_1557 ?_
  obtain ⟨hi376, h⟩ := h
  refine g_sciald (n := (l4_362 + 5).toNatClampNeg) hw hv dL_law_1558 hi376 rfl ?_
  refine g_i2l hw dL_law_1559 ?_
  refine g_bipush (v := 32) hw dL_law_1560 (by decide) ?_
  refine g_lshl hw dL_law_1562 ?_
  refine g_aload_n hw 0 dL_law_1563 rfl ?_
  refine g_iload hw 4 dL_law_1564 rfl ?_
  refine g_bipush (v := 6) hw dL_law_1566 (by decide) ?_
  refine g_iadd hw dL_law_1568 ?_
  obtain ⟨hi377, h⟩ := h
  refine g_sciald (n := (l4_362 + 6).toNatClampNeg) hw hv dL_law_1569 hi377 rfl ?_
  refine g_i2l hw dL_law_1570 ?_
  refine g_ldc2 hw dL_law_1571 q1762 ?_
  refine g_land hw dL_law_1574 ?_
  refine g_lor hw dL_law_1575 ?_
  obtain ⟨hk378, h⟩ := h
  refine sX0_147 hw rfl dL_law_1576 rfl (gK2 hkf) hk378 h (fun r380 M379 h => ?_)
  refine g_icmp_eq (tgt := 2724) hw dL_law_1579 (by decide) (fun hb381 => ?_) (fun hb381 => ?_)
  · have h := gT h hb381
    exact wL_law_b2724 hw hkf hv hR23 h
  · have h := gF h hb381
    refine g_sub hw (lv2 := []) [] rfl ?_
    exact hK1582_23 M379 h
def fL_law_b1584 (L : Nat) (xs : Nat → Int32) (R23 : Int32 → gM → Prop) (K1607_23 : gM → Prop) (l3_13 : Nat) (l4_382 : Int32) (M : gM) (Q : Int32 → gM → Prop) : Prop :=
  vp_in (l4_382 + 1) L ∧ gk M 16 = 1 ∧ fX1_law (xs ((l4_382 + 1).toNatClampNeg)) M (fun r386 M385 => vp_in (l4_382 + 1) L ∧ gk M385 268 = 7 ∧ fX7_law (xs ((l4_382 + 1).toNatClampNeg)) M385 (fun r390 M389 => (if r386 = r390 then fL_law_b2724 L xs R23 l3_13 l4_382 M389 Q else K1607_23 M389)))
theorem wL_law_b1584 {kf : Nat} {G : gG} {w : gM → Nat → List (Nat × Value) → List Value → Prop} {Q : Int32 → gM → Prop} (hw : gX yL_law cL_law 8 (Option.some FieldType.boolean) [] kf G (gQi Q) gE0 w) {L : Nat} {xs : Nat → Int32} {b : Nat} (hkf : 1017 ≤ kf) (hv : gScr G b L xs) {R23 : Int32 → gM → Prop} {K1607_23 : gM → Prop} {l3_13 : Nat} {l4_382 : Int32} {M : gM} (hR23 : ∀ (v0 : Int32) (M : gM), R23 v0 M → w M 23 [(0, .ref (gA G (gBig + b))), (1, .ref (gA G 16)), (2, .ref (gA G 268)), (3, .ref (gA G l3_13)), (4, .int v0)] []) (hK1607_23 : ∀  (M : gM), K1607_23 M → w M 1607 [] []) (h : fL_law_b1584 L xs R23 K1607_23 l3_13 l4_382 M Q) : w M 1584 [(0, .ref (gA G (gBig + b))), (1, .ref (gA G 16)), (2, .ref (gA G 268)), (3, .ref (gA G l3_13)), (4, .int l4_382)] [] := by
  unfold fL_law_b1584 at h
  refine g_aload_n hw 1 dL_law_1584 rfl ?_
  refine g_aload_n hw 0 dL_law_1585 rfl ?_
  refine g_iload hw 4 dL_law_1586 rfl ?_
  refine g_iconst (v := 1) hw dL_law_1588 (by decide) ?_
  refine g_iadd hw dL_law_1589 ?_
  obtain ⟨hi383, h⟩ := h
  refine g_sciald (n := (l4_382 + 1).toNatClampNeg) hw hv dL_law_1590 hi383 rfl ?_
  obtain ⟨hk384, h⟩ := h
  refine sX0_148 hw rfl dL_law_1591 rfl (gK2 hkf) hk384 h (fun r386 M385 h => ?_)
  refine g_aload_n hw 2 dL_law_1594 rfl ?_
  refine g_aload_n hw 0 dL_law_1595 rfl ?_
  refine g_iload hw 4 dL_law_1596 rfl ?_
  refine g_iconst (v := 1) hw dL_law_1598 (by decide) ?_
  refine g_iadd hw dL_law_1599 ?_
  obtain ⟨hi387, h⟩ := h
  refine g_sciald (n := (l4_382 + 1).toNatClampNeg) hw hv dL_law_1600 hi387 rfl ?_
  obtain ⟨hk388, h⟩ := h
  refine sX0_152 hw rfl dL_law_1601 rfl (gK2 hkf) hk388 h (fun r390 M389 h => ?_)
  refine g_icmp_eq (tgt := 2724) hw dL_law_1604 (by decide) (fun hb391 => ?_) (fun hb391 => ?_)
  · have h := gT h hb391
    exact wL_law_b2724 hw hkf hv hR23 h
  · have h := gF h hb391
    refine g_sub hw (lv2 := []) [] rfl ?_
    exact hK1607_23 M389 h
def fL_law_b1609 (L : Nat) (xs : Nat → Int32) (R23 : Int32 → gM → Prop) (K1668_23 : gM → Prop) (l3_13 : Nat) (l4_392 : Int32) (M : gM) (Q : Int32 → gM → Prop) : Prop :=
  vp_in (l4_392 + 1) L ∧ vp_in (l4_392 + 2) L ∧ vp_in (l4_392 + 3) L ∧ vp_in (l4_392 + 4) L ∧ gk M 16 = 1 ∧ fX1_world (xs ((l4_392 + 1).toNatClampNeg)) (xs ((l4_392 + 2).toNatClampNeg)) (xs ((l4_392 + 3).toNatClampNeg)) (xs ((l4_392 + 4).toNatClampNeg)) M (fun r399 M398 => vp_in (l4_392 + 1) L ∧ vp_in (l4_392 + 2) L ∧ vp_in (l4_392 + 3) L ∧ vp_in (l4_392 + 4) L ∧ gk M398 268 = 7 ∧ fX7_world (xs ((l4_392 + 1).toNatClampNeg)) (xs ((l4_392 + 2).toNatClampNeg)) (xs ((l4_392 + 3).toNatClampNeg)) (xs ((l4_392 + 4).toNatClampNeg)) M398 (fun r406 M405 => (if r399 = r406 then fL_law_b2724 L xs R23 l3_13 l4_392 M405 Q else K1668_23 M405)))
theorem wL_law_b1609 {kf : Nat} {G : gG} {w : gM → Nat → List (Nat × Value) → List Value → Prop} {Q : Int32 → gM → Prop} (hw : gX yL_law cL_law 8 (Option.some FieldType.boolean) [] kf G (gQi Q) gE0 w) {L : Nat} {xs : Nat → Int32} {b : Nat} (hkf : 1017 ≤ kf) (hv : gScr G b L xs) {R23 : Int32 → gM → Prop} {K1668_23 : gM → Prop} {l3_13 : Nat} {l4_392 : Int32} {M : gM} (hR23 : ∀ (v0 : Int32) (M : gM), R23 v0 M → w M 23 [(0, .ref (gA G (gBig + b))), (1, .ref (gA G 16)), (2, .ref (gA G 268)), (3, .ref (gA G l3_13)), (4, .int v0)] []) (hK1668_23 : ∀  (M : gM), K1668_23 M → w M 1668 [] []) (h : fL_law_b1609 L xs R23 K1668_23 l3_13 l4_392 M Q) : w M 1609 [(0, .ref (gA G (gBig + b))), (1, .ref (gA G 16)), (2, .ref (gA G 268)), (3, .ref (gA G l3_13)), (4, .int l4_392)] [] := by
  unfold fL_law_b1609 at h
  refine g_aload_n hw 1 dL_law_1609 rfl ?_
  refine g_aload_n hw 0 dL_law_1610 rfl ?_
  refine g_iload hw 4 dL_law_1611 rfl ?_
  refine g_iconst (v := 1) hw dL_law_1613 (by decide) ?_
  refine g_iadd hw dL_law_1614 ?_
  obtain ⟨hi393, h⟩ := h
  refine g_sciald (n := (l4_392 + 1).toNatClampNeg) hw hv dL_law_1615 hi393 rfl ?_
  refine g_aload_n hw 0 dL_law_1616 rfl ?_
  refine g_iload hw 4 dL_law_1617 rfl ?_
  refine g_iconst (v := 2) hw dL_law_1619 (by decide) ?_
  refine g_iadd hw dL_law_1620 ?_
  obtain ⟨hi394, h⟩ := h
  refine g_sciald (n := (l4_392 + 2).toNatClampNeg) hw hv dL_law_1621 hi394 rfl ?_
  refine g_aload_n hw 0 dL_law_1622 rfl ?_
  refine g_iload hw 4 dL_law_1623 rfl ?_
  refine g_iconst (v := 3) hw dL_law_1625 (by decide) ?_
  refine g_iadd hw dL_law_1626 ?_
  obtain ⟨hi395, h⟩ := h
  refine g_sciald (n := (l4_392 + 3).toNatClampNeg) hw hv dL_law_1627 hi395 rfl ?_
  refine g_aload_n hw 0 dL_law_1628 rfl ?_
  refine g_iload hw 4 dL_law_1629 rfl ?_
  refine g_iconst (v := 4) hw dL_law_1631 (by decide) ?_
  refine g_iadd hw dL_law_1632 ?_
  obtain ⟨hi396, h⟩ := h
  refine g_sciald (n := (l4_392 + 4).toNatClampNeg) hw hv dL_law_1633 hi396 rfl ?_
  obtain ⟨hk397, h⟩ := h
  refine sX0_153 hw rfl dL_law_1634 rfl (gK2 hkf) hk397 h (fun r399 M398 h => ?_)
  refine g_aload_n hw 2 dL_law_1637 rfl ?_
  refine g_aload_n hw 0 dL_law_1638 rfl ?_
  refine g_iload hw 4 dL_law_1639 rfl ?_
  refine g_iconst (v := 1) hw dL_law_1641 (by decide) ?_
  refine g_iadd hw dL_law_1642 ?_
  obtain ⟨hi400, h⟩ := h
  refine g_sciald (n := (l4_392 + 1).toNatClampNeg) hw hv dL_law_1643 hi400 rfl ?_
  refine g_aload_n hw 0 dL_law_1644 rfl ?_
  refine g_iload hw 4 dL_law_1645 rfl ?_
  refine g_iconst (v := 2) hw dL_law_1647 (by decide) ?_
  refine g_iadd hw dL_law_1648 ?_
  obtain ⟨hi401, h⟩ := h
  refine g_sciald (n := (l4_392 + 2).toNatClampNeg) hw hv dL_law_1649 hi401 rfl ?_
  refine g_aload_n hw 0 dL_law_1650 rfl ?_
  refine g_iload hw 4 dL_law_1651 rfl ?_
  refine g_iconst (v := 3) hw dL_law_1653 (by decide) ?_
  refine g_iadd hw dL_law_1654 ?_
  obtain ⟨hi402, h⟩ := h
  refine g_sciald (n := (l4_392 + 3).toNatClampNeg) hw hv dL_law_1655 hi402 rfl ?_
  refine g_aload_n hw 0 dL_law_1656 rfl ?_
  refine g_iload hw 4 dL_law_1657 rfl ?_
  refine g_iconst (v := 4) hw dL_law_1659 (by decide) ?_
  refine g_iadd hw dL_law_1660 ?_
  obtain ⟨hi403, h⟩ := h
  refine g_sciald (n := (l4_392 + 4).toNatClampNeg) hw hv dL_law_1661 hi403 rfl ?_
  obtain ⟨hk404, h⟩ := h
  refine sX0_156 hw rfl dL_law_1662 rfl (gK2 hkf) hk404 h (fun r406 M405 h => ?_)
  refine g_icmp_eq (tgt := 2724) hw dL_law_1665 (by decide) (fun hb407 => ?_) (fun hb407 => ?_)
  · have h := gT h hb407
    exact wL_law_b2724 hw hkf hv hR23 h
  · have h := gF h hb407
    refine g_sub hw (lv2 := []) [] rfl ?_
    exact hK1668_23 M405 h
def fL_law_b1670 (L : Nat) (xs : Nat → Int32) (R23 : Int32 → gM → Prop) (K1706_23 : gM → Prop) (l3_13 : Nat) (l4_408 : Int32) (M : gM) (Q : Int32 → gM → Prop) : Prop :=
  vp_in (l4_408 + 1) L ∧ vp_in (l4_408 + 2) L ∧ gk M 16 = 1 ∧ fX1_fits (xs ((l4_408 + 1).toNatClampNeg)) (xs ((l4_408 + 2).toNatClampNeg)) M (fun r413 M412 => vp_in (l4_408 + 1) L ∧ vp_in (l4_408 + 2) L ∧ gk M412 268 = 7 ∧ fX7_fits (xs ((l4_408 + 1).toNatClampNeg)) (xs ((l4_408 + 2).toNatClampNeg)) M412 (fun r418 M417 => (if (lg_cmp r413 r418) = 0 then fL_law_b2724 L xs R23 l3_13 l4_408 M417 Q else K1706_23 M417)))
theorem wL_law_b1670 {kf : Nat} {G : gG} {w : gM → Nat → List (Nat × Value) → List Value → Prop} {Q : Int32 → gM → Prop} (hw : gX yL_law cL_law 8 (Option.some FieldType.boolean) [] kf G (gQi Q) gE0 w) {L : Nat} {xs : Nat → Int32} {b : Nat} (hkf : 1017 ≤ kf) (hv : gScr G b L xs) {R23 : Int32 → gM → Prop} {K1706_23 : gM → Prop} {l3_13 : Nat} {l4_408 : Int32} {M : gM} (hR23 : ∀ (v0 : Int32) (M : gM), R23 v0 M → w M 23 [(0, .ref (gA G (gBig + b))), (1, .ref (gA G 16)), (2, .ref (gA G 268)), (3, .ref (gA G l3_13)), (4, .int v0)] []) (hK1706_23 : ∀  (M : gM), K1706_23 M → w M 1706 [] []) (h : fL_law_b1670 L xs R23 K1706_23 l3_13 l4_408 M Q) : w M 1670 [(0, .ref (gA G (gBig + b))), (1, .ref (gA G 16)), (2, .ref (gA G 268)), (3, .ref (gA G l3_13)), (4, .int l4_408)] [] := by
  unfold fL_law_b1670 at h
  refine g_aload_n hw 1 dL_law_1670 rfl ?_
  refine g_aload_n hw 0 dL_law_1671 rfl ?_
  refine g_iload hw 4 dL_law_1672 rfl ?_
  refine g_iconst (v := 1) hw dL_law_1674 (by decide) ?_
  refine g_iadd hw dL_law_1675 ?_
  obtain ⟨hi409, h⟩ := h
  refine g_sciald (n := (l4_408 + 1).toNatClampNeg) hw hv dL_law_1676 hi409 rfl ?_
  refine g_aload_n hw 0 dL_law_1677 rfl ?_
  refine g_iload hw 4 dL_law_1678 rfl ?_
  refine g_iconst (v := 2) hw dL_law_1680 (by decide) ?_
  refine g_iadd hw dL_law_1681 ?_
  obtain ⟨hi410, h⟩ := h
  refine g_sciald (n := (l4_408 + 2).toNatClampNeg) hw hv dL_law_1682 hi410 rfl ?_
  obtain ⟨hk411, h⟩ := h
  refine sX0_157 hw rfl dL_law_1683 rfl (gK2 hkf) hk411 h (fun r413 M412 h => ?_)
  refine g_aload_n hw 2 dL_law_1686 rfl ?_
  refine g_aload_n hw 0 dL_law_1687 rfl ?_
  refine g_iload hw 4 dL_law_1688 rfl ?_
  refine g_iconst (v := 1) hw dL_law_1690 (by decide) ?_
  refine g_iadd hw dL_law_1691 ?_
  obtain ⟨hi414, h⟩ := h
  refine g_sciald (n := (l4_408 + 1).toNatClampNeg) hw hv dL_law_1692 hi414 rfl ?_
  refine g_aload_n hw 0 dL_law_1693 rfl ?_
  refine g_iload hw 4 dL_law_1694 rfl ?_
  refine g_iconst (v := 2) hw dL_law_1696 (by decide) ?_
  refine g_iadd hw dL_law_1697 ?_
  obtain ⟨hi415, h⟩ := h
  refine g_sciald (n := (l4_408 + 2).toNatClampNeg) hw hv dL_law_1698 hi415 rfl ?_
  obtain ⟨hk416, h⟩ := h
  refine sX0_160 hw rfl dL_law_1699 rfl (gK2 hkf) hk416 h (fun r418 M417 h => ?_)
  refine g_lcmp hw dL_law_1702 ?_
  refine g_if_eq (tgt := 2724) hw dL_law_1703 (by decide) (fun hb419 => ?_) (fun hb419 => ?_)
  · have h := gT h hb419
    exact wL_law_b2724 hw hkf hv hR23 h
  · have h := gF h hb419
    refine g_sub hw (lv2 := []) [] rfl ?_
    exact hK1706_23 M417 h
def fL_law_b1708 (L : Nat) (xs : Nat → Int32) (R23 : Int32 → gM → Prop) (K1731_23 : gM → Prop) (l3_13 : Nat) (l4_420 : Int32) (M : gM) (Q : Int32 → gM → Prop) : Prop :=
  vp_in (l4_420 + 1) L ∧ gk M 16 = 1 ∧ fX1_best (xs ((l4_420 + 1).toNatClampNeg)) M (fun r424 M423 => vp_in (l4_420 + 1) L ∧ gk M423 268 = 7 ∧ fX7_best (xs ((l4_420 + 1).toNatClampNeg)) M423 (fun r428 M427 => (if r424 = r428 then fL_law_b2724 L xs R23 l3_13 l4_420 M427 Q else K1731_23 M427)))
theorem wL_law_b1708 {kf : Nat} {G : gG} {w : gM → Nat → List (Nat × Value) → List Value → Prop} {Q : Int32 → gM → Prop} (hw : gX yL_law cL_law 8 (Option.some FieldType.boolean) [] kf G (gQi Q) gE0 w) {L : Nat} {xs : Nat → Int32} {b : Nat} (hkf : 1017 ≤ kf) (hv : gScr G b L xs) {R23 : Int32 → gM → Prop} {K1731_23 : gM → Prop} {l3_13 : Nat} {l4_420 : Int32} {M : gM} (hR23 : ∀ (v0 : Int32) (M : gM), R23 v0 M → w M 23 [(0, .ref (gA G (gBig + b))), (1, .ref (gA G 16)), (2, .ref (gA G 268)), (3, .ref (gA G l3_13)), (4, .int v0)] []) (hK1731_23 : ∀  (M : gM), K1731_23 M → w M 1731 [] []) (h : fL_law_b1708 L xs R23 K1731_23 l3_13 l4_420 M Q) : w M 1708 [(0, .ref (gA G (gBig + b))), (1, .ref (gA G 16)), (2, .ref (gA G 268)), (3, .ref (gA G l3_13)), (4, .int l4_420)] [] := by
  unfold fL_law_b1708 at h
  refine g_aload_n hw 1 dL_law_1708 rfl ?_
  refine g_aload_n hw 0 dL_law_1709 rfl ?_
  refine g_iload hw 4 dL_law_1710 rfl ?_
  refine g_iconst (v := 1) hw dL_law_1712 (by decide) ?_
  refine g_iadd hw dL_law_1713 ?_
  obtain ⟨hi421, h⟩ := h
  refine g_sciald (n := (l4_420 + 1).toNatClampNeg) hw hv dL_law_1714 hi421 rfl ?_
  obtain ⟨hk422, h⟩ := h
  refine sX0_161 hw rfl dL_law_1715 rfl (gK2 hkf) hk422 h (fun r424 M423 h => ?_)
  refine g_aload_n hw 2 dL_law_1718 rfl ?_
  refine g_aload_n hw 0 dL_law_1719 rfl ?_
  refine g_iload hw 4 dL_law_1720 rfl ?_
  refine g_iconst (v := 1) hw dL_law_1722 (by decide) ?_
  refine g_iadd hw dL_law_1723 ?_
  obtain ⟨hi425, h⟩ := h
  refine g_sciald (n := (l4_420 + 1).toNatClampNeg) hw hv dL_law_1724 hi425 rfl ?_
  obtain ⟨hk426, h⟩ := h
  refine sX0_164 hw rfl dL_law_1725 rfl (gK2 hkf) hk426 h (fun r428 M427 h => ?_)
  refine g_icmp_eq (tgt := 2724) hw dL_law_1728 (by decide) (fun hb429 => ?_) (fun hb429 => ?_)
  · have h := gT h hb429
    exact wL_law_b2724 hw hkf hv hR23 h
  · have h := gF h hb429
    refine g_sub hw (lv2 := []) [] rfl ?_
    exact hK1731_23 M427 h
def fL_law_b1733 (L : Nat) (xs : Nat → Int32) (R23 : Int32 → gM → Prop) (K1804_23 : gM → Prop) (l3_13 : Nat) (l4_430 : Int32) (M : gM) (Q : Int32 → gM → Prop) : Prop :=
  vp_in (l4_430 + 1) L ∧ vp_in (l4_430 + 2) L ∧ vp_in (l4_430 + 3) L ∧ vp_in (l4_430 + 4) L ∧ vp_in (l4_430 + 5) L ∧ gk M 16 = 1 ∧ fX1_rivers_2 (xs ((l4_430 + 1).toNatClampNeg)) (xs ((l4_430 + 2).toNatClampNeg)) (xs ((l4_430 + 3).toNatClampNeg)) (xs ((l4_430 + 4).toNatClampNeg)) (xs ((l4_430 + 5).toNatClampNeg)) M (fun r438 M437 => vp_in (l4_430 + 1) L ∧ vp_in (l4_430 + 2) L ∧ vp_in (l4_430 + 3) L ∧ vp_in (l4_430 + 4) L ∧ vp_in (l4_430 + 5) L ∧ gk M437 268 = 7 ∧ fX7_rivers (xs ((l4_430 + 1).toNatClampNeg)) (xs ((l4_430 + 2).toNatClampNeg)) (xs ((l4_430 + 3).toNatClampNeg)) (xs ((l4_430 + 4).toNatClampNeg)) (xs ((l4_430 + 5).toNatClampNeg)) M437 (fun r446 M445 => (if r438 = r446 then fL_law_b2724 L xs R23 l3_13 l4_430 M445 Q else K1804_23 M445)))
theorem wL_law_b1733 {kf : Nat} {G : gG} {w : gM → Nat → List (Nat × Value) → List Value → Prop} {Q : Int32 → gM → Prop} (hw : gX yL_law cL_law 8 (Option.some FieldType.boolean) [] kf G (gQi Q) gE0 w) {L : Nat} {xs : Nat → Int32} {b : Nat} (hkf : 1017 ≤ kf) (hv : gScr G b L xs) {R23 : Int32 → gM → Prop} {K1804_23 : gM → Prop} {l3_13 : Nat} {l4_430 : Int32} {M : gM} (hR23 : ∀ (v0 : Int32) (M : gM), R23 v0 M → w M 23 [(0, .ref (gA G (gBig + b))), (1, .ref (gA G 16)), (2, .ref (gA G 268)), (3, .ref (gA G l3_13)), (4, .int v0)] []) (hK1804_23 : ∀  (M : gM), K1804_23 M → w M 1804 [] []) (h : fL_law_b1733 L xs R23 K1804_23 l3_13 l4_430 M Q) : w M 1733 [(0, .ref (gA G (gBig + b))), (1, .ref (gA G 16)), (2, .ref (gA G 268)), (3, .ref (gA G l3_13)), (4, .int l4_430)] [] := by
  unfold fL_law_b1733 at h
  refine g_aload_n hw 1 dL_law_1733 rfl ?_
  refine g_aload_n hw 0 dL_law_1734 rfl ?_
  refine g_iload hw 4 dL_law_1735 rfl ?_
  refine g_iconst (v := 1) hw dL_law_1737 (by decide) ?_
  refine g_iadd hw dL_law_1738 ?_
  obtain ⟨hi431, h⟩ := h
  refine g_sciald (n := (l4_430 + 1).toNatClampNeg) hw hv dL_law_1739 hi431 rfl ?_
  refine g_aload_n hw 0 dL_law_1740 rfl ?_
  refine g_iload hw 4 dL_law_1741 rfl ?_
  refine g_iconst (v := 2) hw dL_law_1743 (by decide) ?_
  refine g_iadd hw dL_law_1744 ?_
  obtain ⟨hi432, h⟩ := h
  refine g_sciald (n := (l4_430 + 2).toNatClampNeg) hw hv dL_law_1745 hi432 rfl ?_
  refine g_aload_n hw 0 dL_law_1746 rfl ?_
  refine g_iload hw 4 dL_law_1747 rfl ?_
  refine g_iconst (v := 3) hw dL_law_1749 (by decide) ?_
  refine g_iadd hw dL_law_1750 ?_
  obtain ⟨hi433, h⟩ := h
  refine g_sciald (n := (l4_430 + 3).toNatClampNeg) hw hv dL_law_1751 hi433 rfl ?_
  refine g_aload_n hw 0 dL_law_1752 rfl ?_
  refine g_iload hw 4 dL_law_1753 rfl ?_
  refine g_iconst (v := 4) hw dL_law_1755 (by decide) ?_
  refine g_iadd hw dL_law_1756 ?_
  obtain ⟨hi434, h⟩ := h
  refine g_sciald (n := (l4_430 + 4).toNatClampNeg) hw hv dL_law_1757 hi434 rfl ?_
  refine g_aload_n hw 0 dL_law_1758 rfl ?_
  refine g_iload hw 4 dL_law_1759 rfl ?_
  refine g_iconst (v := 5) hw dL_law_1761 (by decide) ?_
  refine g_iadd hw dL_law_1762 ?_
  obtain ⟨hi435, h⟩ := h
  refine g_sciald (n := (l4_430 + 5).toNatClampNeg) hw hv dL_law_1763 hi435 rfl ?_
  obtain ⟨hk436, h⟩ := h
  refine sX0_165 hw rfl dL_law_1764 rfl (gK2 hkf) hk436 h (fun r438 M437 h => ?_)
  refine g_aload_n hw 2 dL_law_1767 rfl ?_
  refine g_aload_n hw 0 dL_law_1768 rfl ?_
  refine g_iload hw 4 dL_law_1769 rfl ?_
  refine g_iconst (v := 1) hw dL_law_1771 (by decide) ?_
  refine g_iadd hw dL_law_1772 ?_
  obtain ⟨hi439, h⟩ := h
  refine g_sciald (n := (l4_430 + 1).toNatClampNeg) hw hv dL_law_1773 hi439 rfl ?_
  refine g_aload_n hw 0 dL_law_1774 rfl ?_
  refine g_iload hw 4 dL_law_1775 rfl ?_
  refine g_iconst (v := 2) hw dL_law_1777 (by decide) ?_
  refine g_iadd hw dL_law_1778 ?_
  obtain ⟨hi440, h⟩ := h
  refine g_sciald (n := (l4_430 + 2).toNatClampNeg) hw hv dL_law_1779 hi440 rfl ?_
  refine g_aload_n hw 0 dL_law_1780 rfl ?_
  refine g_iload hw 4 dL_law_1781 rfl ?_
  refine g_iconst (v := 3) hw dL_law_1783 (by decide) ?_
  refine g_iadd hw dL_law_1784 ?_
  obtain ⟨hi441, h⟩ := h
  refine g_sciald (n := (l4_430 + 3).toNatClampNeg) hw hv dL_law_1785 hi441 rfl ?_
  refine g_aload_n hw 0 dL_law_1786 rfl ?_
  refine g_iload hw 4 dL_law_1787 rfl ?_
  refine g_iconst (v := 4) hw dL_law_1789 (by decide) ?_
  refine g_iadd hw dL_law_1790 ?_
  obtain ⟨hi442, h⟩ := h
  refine g_sciald (n := (l4_430 + 4).toNatClampNeg) hw hv dL_law_1791 hi442 rfl ?_
  refine g_aload_n hw 0 dL_law_1792 rfl ?_
  refine g_iload hw 4 dL_law_1793 rfl ?_
  refine g_iconst (v := 5) hw dL_law_1795 (by decide) ?_
  refine g_iadd hw dL_law_1796 ?_
  obtain ⟨hi443, h⟩ := h
  refine g_sciald (n := (l4_430 + 5).toNatClampNeg) hw hv dL_law_1797 hi443 rfl ?_
  obtain ⟨hk444, h⟩ := h
  refine sX0_169 hw rfl dL_law_1798 rfl (gK2 hkf) hk444 h (fun r446 M445 h => ?_)
  refine g_icmp_eq (tgt := 2724) hw dL_law_1801 (by decide) (fun hb447 => ?_) (fun hb447 => ?_)
  · have h := gT h hb447
    exact wL_law_b2724 hw hkf hv hR23 h
  · have h := gF h hb447
    refine g_sub hw (lv2 := []) [] rfl ?_
    exact hK1804_23 M445 h
def fL_law_b1863 (L : Nat) (xs : Nat → Int32) (R23 : Int32 → gM → Prop) (K1869_23 : gM → Prop) (l3_13 : Nat) (l4_464 : Int32) (s0_465 : Int32) (s2_466 : Int32) (s3_467 : Int32) (s4_468 : Int32) (M : gM) (Q : Int32 → gM → Prop) : Prop :=
  gk M 268 = 7 ∧ fX7_other s2_466 s3_467 s4_468 M (fun r471 M470 => (if s0_465 = r471 then fL_law_b2724 L xs R23 l3_13 l4_464 M470 Q else K1869_23 M470))
theorem wL_law_b1863 {kf : Nat} {G : gG} {w : gM → Nat → List (Nat × Value) → List Value → Prop} {Q : Int32 → gM → Prop} (hw : gX yL_law cL_law 8 (Option.some FieldType.boolean) [] kf G (gQi Q) gE0 w) {L : Nat} {xs : Nat → Int32} {b : Nat} (hkf : 1017 ≤ kf) (hv : gScr G b L xs) {R23 : Int32 → gM → Prop} {K1869_23 : gM → Prop} {l3_13 : Nat} {l4_464 : Int32} {s0_465 : Int32} {s2_466 : Int32} {s3_467 : Int32} {s4_468 : Int32} {M : gM} (hR23 : ∀ (v0 : Int32) (M : gM), R23 v0 M → w M 23 [(0, .ref (gA G (gBig + b))), (1, .ref (gA G 16)), (2, .ref (gA G 268)), (3, .ref (gA G l3_13)), (4, .int v0)] []) (hK1869_23 : ∀  (M : gM), K1869_23 M → w M 1869 [] []) (h : fL_law_b1863 L xs R23 K1869_23 l3_13 l4_464 s0_465 s2_466 s3_467 s4_468 M Q) : w M 1863 [(0, .ref (gA G (gBig + b))), (1, .ref (gA G 16)), (2, .ref (gA G 268)), (3, .ref (gA G l3_13)), (4, .int l4_464)] [.int s4_468, .int s3_467, .int s2_466, .ref (gA G 268), .int s0_465] := by
  unfold fL_law_b1863 at h
  obtain ⟨hk469, h⟩ := h
  refine sX0_174 hw rfl dL_law_1863 rfl (gK2 hkf) hk469 h (fun r471 M470 h => ?_)
  refine g_icmp_eq (tgt := 2724) hw dL_law_1866 (by decide) (fun hb472 => ?_) (fun hb472 => ?_)
  · have h := gT h hb472
    exact wL_law_b2724 hw hkf hv hR23 h
  · have h := gF h hb472
    refine g_sub hw (lv2 := []) [] rfl ?_
    exact hK1869_23 M470 h
def fL_law_b1833 (L : Nat) (xs : Nat → Int32) (R23 : Int32 → gM → Prop) (K1869_23 : gM → Prop) (l3_13 : Nat) (l4_453 : Int32) (s1_454 : Int32) (s2_455 : Int32) (s3_456 : Int32) (M : gM) (Q : Int32 → gM → Prop) : Prop :=
  gk M 16 = 1 ∧ fX1_other s1_454 s2_455 s3_456 M (fun r459 M458 => vp_in (l4_453 + 1) L ∧ vp_in (l4_453 + 2) L ∧ vp_in (l4_453 + 3) L ∧ (if (xs ((l4_453 + 3).toNatClampNeg)) = 0 then fL_law_b1863 L xs R23 K1869_23 l3_13 l4_453 r459 (xs ((l4_453 + 1).toNatClampNeg)) (xs ((l4_453 + 2).toNatClampNeg)) 0 M458 Q else fL_law_b1863 L xs R23 K1869_23 l3_13 l4_453 r459 (xs ((l4_453 + 1).toNatClampNeg)) (xs ((l4_453 + 2).toNatClampNeg)) 1 M458 Q))
theorem wL_law_b1833 {kf : Nat} {G : gG} {w : gM → Nat → List (Nat × Value) → List Value → Prop} {Q : Int32 → gM → Prop} (hw : gX yL_law cL_law 8 (Option.some FieldType.boolean) [] kf G (gQi Q) gE0 w) {L : Nat} {xs : Nat → Int32} {b : Nat} (hkf : 1017 ≤ kf) (hv : gScr G b L xs) {R23 : Int32 → gM → Prop} {K1869_23 : gM → Prop} {l3_13 : Nat} {l4_453 : Int32} {s1_454 : Int32} {s2_455 : Int32} {s3_456 : Int32} {M : gM} (hR23 : ∀ (v0 : Int32) (M : gM), R23 v0 M → w M 23 [(0, .ref (gA G (gBig + b))), (1, .ref (gA G 16)), (2, .ref (gA G 268)), (3, .ref (gA G l3_13)), (4, .int v0)] []) (hK1869_23 : ∀  (M : gM), K1869_23 M → w M 1869 [] []) (h : fL_law_b1833 L xs R23 K1869_23 l3_13 l4_453 s1_454 s2_455 s3_456 M Q) : w M 1833 [(0, .ref (gA G (gBig + b))), (1, .ref (gA G 16)), (2, .ref (gA G 268)), (3, .ref (gA G l3_13)), (4, .int l4_453)] [.int s3_456, .int s2_455, .int s1_454, .ref (gA G 16)] := by
  unfold fL_law_b1833 at h
  obtain ⟨hk457, h⟩ := h
  refine sX0_170 hw rfl dL_law_1833 rfl (gK2 hkf) hk457 h (fun r459 M458 h => ?_)
  refine g_aload_n hw 2 dL_law_1836 rfl ?_
  refine g_aload_n hw 0 dL_law_1837 rfl ?_
  refine g_iload hw 4 dL_law_1838 rfl ?_
  refine g_iconst (v := 1) hw dL_law_1840 (by decide) ?_
  refine g_iadd hw dL_law_1841 ?_
  obtain ⟨hi460, h⟩ := h
  refine g_sciald (n := (l4_453 + 1).toNatClampNeg) hw hv dL_law_1842 hi460 rfl ?_
  refine g_aload_n hw 0 dL_law_1843 rfl ?_
  refine g_iload hw 4 dL_law_1844 rfl ?_
  refine g_iconst (v := 2) hw dL_law_1846 (by decide) ?_
  refine g_iadd hw dL_law_1847 ?_
  obtain ⟨hi461, h⟩ := h
  refine g_sciald (n := (l4_453 + 2).toNatClampNeg) hw hv dL_law_1848 hi461 rfl ?_
  refine g_aload_n hw 0 dL_law_1849 rfl ?_
  refine g_iload hw 4 dL_law_1850 rfl ?_
  refine g_iconst (v := 3) hw dL_law_1852 (by decide) ?_
  refine g_iadd hw dL_law_1853 ?_
  obtain ⟨hi462, h⟩ := h
  refine g_sciald (n := (l4_453 + 3).toNatClampNeg) hw hv dL_law_1854 hi462 rfl ?_
  refine g_if_eq (tgt := 1862) hw dL_law_1855 (by decide) (fun hb463 => ?_) (fun hb463 => ?_)
  · have h := gT h hb463
    refine g_iconst (v := 0) hw dL_law_1862 (by decide) ?_
    exact wL_law_b1863 hw hkf hv hR23 hK1869_23 h
  · have h := gF h hb463
    refine g_iconst (v := 1) hw dL_law_1858 (by decide) ?_
    refine g_goto (tgt := 1863) hw dL_law_1859 (by decide) ?_
    exact wL_law_b1863 hw hkf hv hR23 hK1869_23 h
def fL_law_b1806 (L : Nat) (xs : Nat → Int32) (R23 : Int32 → gM → Prop) (K1869_23 : gM → Prop) (l3_13 : Nat) (l4_448 : Int32) (M : gM) (Q : Int32 → gM → Prop) : Prop :=
  vp_in (l4_448 + 1) L ∧ vp_in (l4_448 + 2) L ∧ vp_in (l4_448 + 3) L ∧ (if (xs ((l4_448 + 3).toNatClampNeg)) = 0 then fL_law_b1833 L xs R23 K1869_23 l3_13 l4_448 (xs ((l4_448 + 1).toNatClampNeg)) (xs ((l4_448 + 2).toNatClampNeg)) 0 M Q else fL_law_b1833 L xs R23 K1869_23 l3_13 l4_448 (xs ((l4_448 + 1).toNatClampNeg)) (xs ((l4_448 + 2).toNatClampNeg)) 1 M Q)
theorem wL_law_b1806 {kf : Nat} {G : gG} {w : gM → Nat → List (Nat × Value) → List Value → Prop} {Q : Int32 → gM → Prop} (hw : gX yL_law cL_law 8 (Option.some FieldType.boolean) [] kf G (gQi Q) gE0 w) {L : Nat} {xs : Nat → Int32} {b : Nat} (hkf : 1017 ≤ kf) (hv : gScr G b L xs) {R23 : Int32 → gM → Prop} {K1869_23 : gM → Prop} {l3_13 : Nat} {l4_448 : Int32} {M : gM} (hR23 : ∀ (v0 : Int32) (M : gM), R23 v0 M → w M 23 [(0, .ref (gA G (gBig + b))), (1, .ref (gA G 16)), (2, .ref (gA G 268)), (3, .ref (gA G l3_13)), (4, .int v0)] []) (hK1869_23 : ∀  (M : gM), K1869_23 M → w M 1869 [] []) (h : fL_law_b1806 L xs R23 K1869_23 l3_13 l4_448 M Q) : w M 1806 [(0, .ref (gA G (gBig + b))), (1, .ref (gA G 16)), (2, .ref (gA G 268)), (3, .ref (gA G l3_13)), (4, .int l4_448)] [] := by
  unfold fL_law_b1806 at h
  refine g_aload_n hw 1 dL_law_1806 rfl ?_
  refine g_aload_n hw 0 dL_law_1807 rfl ?_
  refine g_iload hw 4 dL_law_1808 rfl ?_
  refine g_iconst (v := 1) hw dL_law_1810 (by decide) ?_
  refine g_iadd hw dL_law_1811 ?_
  obtain ⟨hi449, h⟩ := h
  refine g_sciald (n := (l4_448 + 1).toNatClampNeg) hw hv dL_law_1812 hi449 rfl ?_
  refine g_aload_n hw 0 dL_law_1813 rfl ?_
  refine g_iload hw 4 dL_law_1814 rfl ?_
  refine g_iconst (v := 2) hw dL_law_1816 (by decide) ?_
  refine g_iadd hw dL_law_1817 ?_
  obtain ⟨hi450, h⟩ := h
  refine g_sciald (n := (l4_448 + 2).toNatClampNeg) hw hv dL_law_1818 hi450 rfl ?_
  refine g_aload_n hw 0 dL_law_1819 rfl ?_
  refine g_iload hw 4 dL_law_1820 rfl ?_
  refine g_iconst (v := 3) hw dL_law_1822 (by decide) ?_
  refine g_iadd hw dL_law_1823 ?_
  obtain ⟨hi451, h⟩ := h
  refine g_sciald (n := (l4_448 + 3).toNatClampNeg) hw hv dL_law_1824 hi451 rfl ?_
  refine g_if_eq (tgt := 1832) hw dL_law_1825 (by decide) (fun hb452 => ?_) (fun hb452 => ?_)
  · have h := gT h hb452
    refine g_iconst (v := 0) hw dL_law_1832 (by decide) ?_
    exact wL_law_b1833 hw hkf hv hR23 hK1869_23 h
  · have h := gF h hb452
    refine g_iconst (v := 1) hw dL_law_1828 (by decide) ?_
    refine g_goto (tgt := 1833) hw dL_law_1829 (by decide) ?_
    exact wL_law_b1833 hw hkf hv hR23 hK1869_23 h
def fL_law_b1951 (L : Nat) (xs : Nat → Int32) (R23 : Int32 → gM → Prop) (l3_13 : Nat) (l4_495 : Int32) (M : gM) (Q : Int32 → gM → Prop) : Prop :=
  fL_law_b2724 L xs R23 l3_13 l4_495 M Q
theorem wL_law_b1951 {kf : Nat} {G : gG} {w : gM → Nat → List (Nat × Value) → List Value → Prop} {Q : Int32 → gM → Prop} (hw : gX yL_law cL_law 8 (Option.some FieldType.boolean) [] kf G (gQi Q) gE0 w) {L : Nat} {xs : Nat → Int32} {b : Nat} (hkf : 1017 ≤ kf) (hv : gScr G b L xs) {R23 : Int32 → gM → Prop} {l3_13 : Nat} {l4_495 : Int32} {M : gM} (hR23 : ∀ (v0 : Int32) (M : gM), R23 v0 M → w M 23 [(0, .ref (gA G (gBig + b))), (1, .ref (gA G 16)), (2, .ref (gA G 268)), (3, .ref (gA G l3_13)), (4, .int v0)] []) (h : fL_law_b1951 L xs R23 l3_13 l4_495 M Q) : w M 1951 [(0, .ref (gA G (gBig + b))), (1, .ref (gA G 16)), (2, .ref (gA G 268)), (3, .ref (gA G l3_13)), (4, .int l4_495)] [] := by
  unfold fL_law_b1951 at h
  refine g_goto (tgt := 2724) hw dL_law_1951 (by decide) ?_
  exact wL_law_b2724 hw hkf hv hR23 h
def fL_law_b1913 (L : Nat) (xs : Nat → Int32) (R23 : Int32 → gM → Prop) (K1933_23 : gM → Prop) (K1949_23 : gM → Prop) (l3_13 : Nat) (l4_483 : Int32) (l5_484 : Int32) (s1_485 : Int32) (M : gM) (Q : Int32 → gM → Prop) : Prop :=
  vp_in (l4_483 + 2) L ∧ gk M 268 = 7 ∧ fX7_others s1_485 (xs ((l4_483 + 2).toNatClampNeg)) M (fun r489 M488 => gk M488 268 = 7 ∧ fX7_thrown M488 (fun r492 M491 => (if r492 = l5_484 then (if l5_484 = 0 then gk M491 l3_13 = 41 ∧ vp_in 0 (gl M491 l3_13) ∧ (if (lg_cmp (gL M491 l3_13 0) r489) = 0 then fL_law_b1951 L xs R23 l3_13 l4_483 M491 Q else K1949_23 M491) else fL_law_b1951 L xs R23 l3_13 l4_483 M491 Q) else K1933_23 M491)))
theorem wL_law_b1913 {kf : Nat} {G : gG} {w : gM → Nat → List (Nat × Value) → List Value → Prop} {Q : Int32 → gM → Prop} (hw : gX yL_law cL_law 8 (Option.some FieldType.boolean) [] kf G (gQi Q) gE0 w) {L : Nat} {xs : Nat → Int32} {b : Nat} (hkf : 1017 ≤ kf) (hv : gScr G b L xs) {R23 : Int32 → gM → Prop} {K1933_23 : gM → Prop} {K1949_23 : gM → Prop} {l3_13 : Nat} {l4_483 : Int32} {l5_484 : Int32} {s1_485 : Int32} {M : gM} (hR23 : ∀ (v0 : Int32) (M : gM), R23 v0 M → w M 23 [(0, .ref (gA G (gBig + b))), (1, .ref (gA G 16)), (2, .ref (gA G 268)), (3, .ref (gA G l3_13)), (4, .int v0)] []) (hK1933_23 : ∀  (M : gM), K1933_23 M → w M 1933 [] []) (hK1949_23 : ∀  (M : gM), K1949_23 M → w M 1949 [] []) (h : fL_law_b1913 L xs R23 K1933_23 K1949_23 l3_13 l4_483 l5_484 s1_485 M Q) : w M 1913 [(0, .ref (gA G (gBig + b))), (1, .ref (gA G 16)), (2, .ref (gA G 268)), (3, .ref (gA G l3_13)), (4, .int l4_483), (5, .int l5_484)] [.int s1_485, .ref (gA G 268)] := by
  unfold fL_law_b1913 at h
  refine g_aload_n hw 0 dL_law_1913 rfl ?_
  refine g_iload hw 4 dL_law_1914 rfl ?_
  refine g_iconst (v := 2) hw dL_law_1916 (by decide) ?_
  refine g_iadd hw dL_law_1917 ?_
  obtain ⟨hi486, h⟩ := h
  refine g_sciald (n := (l4_483 + 2).toNatClampNeg) hw hv dL_law_1918 hi486 rfl ?_
  obtain ⟨hk487, h⟩ := h
  refine sX0_178 hw rfl dL_law_1919 rfl (gK2 hkf) hk487 h (fun r489 M488 h => ?_)
  refine g_lstore hw (lv2 := [(0, .ref (gA G (gBig + b))), (1, .ref (gA G 16)), (2, .ref (gA G 268)), (3, .ref (gA G l3_13)), (4, .int l4_483), (5, .int l5_484), (6, .long r489)]) [1, 2, 3, 4, 5, 6, 0] dL_law_1922 rfl rfl ?_
  refine g_aload_n hw 2 dL_law_1924 rfl ?_
  obtain ⟨hk490, h⟩ := h
  refine sX0_98 hw rfl dL_law_1925 rfl (gK2 hkf) hk490 h (fun r492 M491 h => ?_)
  refine g_iload hw 5 dL_law_1928 rfl ?_
  refine g_icmp_eq (tgt := 1935) hw dL_law_1930 (by decide) (fun hb493 => ?_) (fun hb493 => ?_)
  · have h := gT h hb493
    refine g_iload hw 5 dL_law_1935 rfl ?_
    refine g_if_ne (tgt := 1951) hw dL_law_1937 (by decide) (fun hb494 => ?_) (fun hb494 => ?_)
    · have h := gF h hb494
      refine g_sub hw (lv2 := [(0, .ref (gA G (gBig + b))), (1, .ref (gA G 16)), (2, .ref (gA G 268)), (3, .ref (gA G l3_13)), (4, .int l4_483)]) [0, 1, 2, 3, 4] rfl ?_
      exact wL_law_b1951 hw hkf hv hR23 h
    · have h := gT h hb494
      refine g_aload_n hw 3 dL_law_1940 rfl ?_
      refine g_iconst (v := 0) hw dL_law_1941 (by decide) ?_
      obtain ⟨hk496, h⟩ := h
      obtain ⟨hi497, h⟩ := h
      refine g_lald (n := 0) hw dL_law_1942 hk496 hi497 rfl ?_
      refine g_lload hw 6 dL_law_1943 rfl ?_
      refine g_lcmp hw dL_law_1945 ?_
      refine g_if_eq (tgt := 1951) hw dL_law_1946 (by decide) (fun hb498 => ?_) (fun hb498 => ?_)
      · have h := gT h hb498
        refine g_sub hw (lv2 := [(0, .ref (gA G (gBig + b))), (1, .ref (gA G 16)), (2, .ref (gA G 268)), (3, .ref (gA G l3_13)), (4, .int l4_483)]) [0, 1, 2, 3, 4] rfl ?_
        exact wL_law_b1951 hw hkf hv hR23 h
      · have h := gF h hb498
        refine g_sub hw (lv2 := []) [] rfl ?_
        exact hK1949_23 M491 h
  · have h := gF h hb493
    refine g_sub hw (lv2 := []) [] rfl ?_
    exact hK1933_23 M491 h
def fL_law_b1886 (L : Nat) (xs : Nat → Int32) (R23 : Int32 → gM → Prop) (K1933_23 : gM → Prop) (K1949_23 : gM → Prop) (l3_13 : Nat) (l4_476 : Int32) (s1_477 : Int32) (M : gM) (Q : Int32 → gM → Prop) : Prop :=
  vp_in (l4_476 + 2) L ∧ fX0_others s1_477 (xs ((l4_476 + 2).toNatClampNeg)) l3_13 M (fun r480 M479 => vp_in (l4_476 + 1) L ∧ (if (xs ((l4_476 + 1).toNatClampNeg)) = 0 then fL_law_b1913 L xs R23 K1933_23 K1949_23 l3_13 l4_476 r480 0 M479 Q else fL_law_b1913 L xs R23 K1933_23 K1949_23 l3_13 l4_476 r480 1 M479 Q))
theorem wL_law_b1886 {kf : Nat} {G : gG} {w : gM → Nat → List (Nat × Value) → List Value → Prop} {Q : Int32 → gM → Prop} (hw : gX yL_law cL_law 8 (Option.some FieldType.boolean) [] kf G (gQi Q) gE0 w) {L : Nat} {xs : Nat → Int32} {b : Nat} (hkf : 1017 ≤ kf) (hv : gScr G b L xs) {R23 : Int32 → gM → Prop} {K1933_23 : gM → Prop} {K1949_23 : gM → Prop} {l3_13 : Nat} {l4_476 : Int32} {s1_477 : Int32} {M : gM} (hR23 : ∀ (v0 : Int32) (M : gM), R23 v0 M → w M 23 [(0, .ref (gA G (gBig + b))), (1, .ref (gA G 16)), (2, .ref (gA G 268)), (3, .ref (gA G l3_13)), (4, .int v0)] []) (hK1933_23 : ∀  (M : gM), K1933_23 M → w M 1933 [] []) (hK1949_23 : ∀  (M : gM), K1949_23 M → w M 1949 [] []) (h : fL_law_b1886 L xs R23 K1933_23 K1949_23 l3_13 l4_476 s1_477 M Q) : w M 1886 [(0, .ref (gA G (gBig + b))), (1, .ref (gA G 16)), (2, .ref (gA G 268)), (3, .ref (gA G l3_13)), (4, .int l4_476)] [.int s1_477, .ref (gA G 16)] := by
  unfold fL_law_b1886 at h
  refine g_aload_n hw 0 dL_law_1886 rfl ?_
  refine g_iload hw 4 dL_law_1887 rfl ?_
  refine g_iconst (v := 2) hw dL_law_1889 (by decide) ?_
  refine g_iadd hw dL_law_1890 ?_
  obtain ⟨hi478, h⟩ := h
  refine g_sciald (n := (l4_476 + 2).toNatClampNeg) hw hv dL_law_1891 hi478 rfl ?_
  refine g_aload_n hw 3 dL_law_1892 rfl ?_
  refine sX0_175 hw rfl dL_law_1893 rfl (gK2 hkf) h (fun r480 M479 h => ?_)
  refine g_istore hw (lv2 := [(0, .ref (gA G (gBig + b))), (1, .ref (gA G 16)), (2, .ref (gA G 268)), (3, .ref (gA G l3_13)), (4, .int l4_476), (5, .int r480)]) [1, 2, 3, 4, 5, 0] dL_law_1896 rfl rfl ?_
  refine g_aload_n hw 2 dL_law_1898 rfl ?_
  refine g_aload_n hw 0 dL_law_1899 rfl ?_
  refine g_iload hw 4 dL_law_1900 rfl ?_
  refine g_iconst (v := 1) hw dL_law_1902 (by decide) ?_
  refine g_iadd hw dL_law_1903 ?_
  obtain ⟨hi481, h⟩ := h
  refine g_sciald (n := (l4_476 + 1).toNatClampNeg) hw hv dL_law_1904 hi481 rfl ?_
  refine g_if_eq (tgt := 1912) hw dL_law_1905 (by decide) (fun hb482 => ?_) (fun hb482 => ?_)
  · have h := gT h hb482
    refine g_iconst (v := 0) hw dL_law_1912 (by decide) ?_
    exact wL_law_b1913 hw hkf hv hR23 hK1933_23 hK1949_23 h
  · have h := gF h hb482
    refine g_iconst (v := 1) hw dL_law_1908 (by decide) ?_
    refine g_goto (tgt := 1913) hw dL_law_1909 (by decide) ?_
    exact wL_law_b1913 hw hkf hv hR23 hK1933_23 hK1949_23 h
def fL_law_b1871 (L : Nat) (xs : Nat → Int32) (R23 : Int32 → gM → Prop) (K1933_23 : gM → Prop) (K1949_23 : gM → Prop) (l3_13 : Nat) (l4_473 : Int32) (M : gM) (Q : Int32 → gM → Prop) : Prop :=
  vp_in (l4_473 + 1) L ∧ (if (xs ((l4_473 + 1).toNatClampNeg)) = 0 then fL_law_b1886 L xs R23 K1933_23 K1949_23 l3_13 l4_473 0 M Q else fL_law_b1886 L xs R23 K1933_23 K1949_23 l3_13 l4_473 1 M Q)
theorem wL_law_b1871 {kf : Nat} {G : gG} {w : gM → Nat → List (Nat × Value) → List Value → Prop} {Q : Int32 → gM → Prop} (hw : gX yL_law cL_law 8 (Option.some FieldType.boolean) [] kf G (gQi Q) gE0 w) {L : Nat} {xs : Nat → Int32} {b : Nat} (hkf : 1017 ≤ kf) (hv : gScr G b L xs) {R23 : Int32 → gM → Prop} {K1933_23 : gM → Prop} {K1949_23 : gM → Prop} {l3_13 : Nat} {l4_473 : Int32} {M : gM} (hR23 : ∀ (v0 : Int32) (M : gM), R23 v0 M → w M 23 [(0, .ref (gA G (gBig + b))), (1, .ref (gA G 16)), (2, .ref (gA G 268)), (3, .ref (gA G l3_13)), (4, .int v0)] []) (hK1933_23 : ∀  (M : gM), K1933_23 M → w M 1933 [] []) (hK1949_23 : ∀  (M : gM), K1949_23 M → w M 1949 [] []) (h : fL_law_b1871 L xs R23 K1933_23 K1949_23 l3_13 l4_473 M Q) : w M 1871 [(0, .ref (gA G (gBig + b))), (1, .ref (gA G 16)), (2, .ref (gA G 268)), (3, .ref (gA G l3_13)), (4, .int l4_473)] [] := by
  unfold fL_law_b1871 at h
  refine g_aload_n hw 1 dL_law_1871 rfl ?_
  refine g_aload_n hw 0 dL_law_1872 rfl ?_
  refine g_iload hw 4 dL_law_1873 rfl ?_
  refine g_iconst (v := 1) hw dL_law_1875 (by decide) ?_
  refine g_iadd hw dL_law_1876 ?_
  obtain ⟨hi474, h⟩ := h
  refine g_sciald (n := (l4_473 + 1).toNatClampNeg) hw hv dL_law_1877 hi474 rfl ?_
  refine g_if_eq (tgt := 1885) hw dL_law_1878 (by decide) (fun hb475 => ?_) (fun hb475 => ?_)
  · have h := gT h hb475
    refine g_iconst (v := 0) hw dL_law_1885 (by decide) ?_
    exact wL_law_b1886 hw hkf hv hR23 hK1933_23 hK1949_23 h
  · have h := gF h hb475
    refine g_iconst (v := 1) hw dL_law_1881 (by decide) ?_
    refine g_goto (tgt := 1886) hw dL_law_1882 (by decide) ?_
    exact wL_law_b1886 hw hkf hv hR23 hK1933_23 hK1949_23 h
def fL_law_b1954 (L : Nat) (xs : Nat → Int32) (R23 : Int32 → gM → Prop) (K1977_23 : gM → Prop) (l3_13 : Nat) (l4_499 : Int32) (M : gM) (Q : Int32 → gM → Prop) : Prop :=
  vp_in (l4_499 + 1) L ∧ gk M 16 = 1 ∧ fX1_drawer (xs ((l4_499 + 1).toNatClampNeg)) M (fun r503 M502 => vp_in (l4_499 + 1) L ∧ gk M502 268 = 7 ∧ fX7_drawer (xs ((l4_499 + 1).toNatClampNeg)) M502 (fun r507 M506 => (if r503 = r507 then fL_law_b2724 L xs R23 l3_13 l4_499 M506 Q else K1977_23 M506)))
theorem wL_law_b1954 {kf : Nat} {G : gG} {w : gM → Nat → List (Nat × Value) → List Value → Prop} {Q : Int32 → gM → Prop} (hw : gX yL_law cL_law 8 (Option.some FieldType.boolean) [] kf G (gQi Q) gE0 w) {L : Nat} {xs : Nat → Int32} {b : Nat} (hkf : 1017 ≤ kf) (hv : gScr G b L xs) {R23 : Int32 → gM → Prop} {K1977_23 : gM → Prop} {l3_13 : Nat} {l4_499 : Int32} {M : gM} (hR23 : ∀ (v0 : Int32) (M : gM), R23 v0 M → w M 23 [(0, .ref (gA G (gBig + b))), (1, .ref (gA G 16)), (2, .ref (gA G 268)), (3, .ref (gA G l3_13)), (4, .int v0)] []) (hK1977_23 : ∀  (M : gM), K1977_23 M → w M 1977 [] []) (h : fL_law_b1954 L xs R23 K1977_23 l3_13 l4_499 M Q) : w M 1954 [(0, .ref (gA G (gBig + b))), (1, .ref (gA G 16)), (2, .ref (gA G 268)), (3, .ref (gA G l3_13)), (4, .int l4_499)] [] := by
  unfold fL_law_b1954 at h
  refine g_aload_n hw 1 dL_law_1954 rfl ?_
  refine g_aload_n hw 0 dL_law_1955 rfl ?_
  refine g_iload hw 4 dL_law_1956 rfl ?_
  refine g_iconst (v := 1) hw dL_law_1958 (by decide) ?_
  refine g_iadd hw dL_law_1959 ?_
  obtain ⟨hi500, h⟩ := h
  refine g_sciald (n := (l4_499 + 1).toNatClampNeg) hw hv dL_law_1960 hi500 rfl ?_
  obtain ⟨hk501, h⟩ := h
  refine sX0_179 hw rfl dL_law_1961 rfl (gK2 hkf) hk501 h (fun r503 M502 h => ?_)
  refine g_aload_n hw 2 dL_law_1964 rfl ?_
  refine g_aload_n hw 0 dL_law_1965 rfl ?_
  refine g_iload hw 4 dL_law_1966 rfl ?_
  refine g_iconst (v := 1) hw dL_law_1968 (by decide) ?_
  refine g_iadd hw dL_law_1969 ?_
  obtain ⟨hi504, h⟩ := h
  refine g_sciald (n := (l4_499 + 1).toNatClampNeg) hw hv dL_law_1970 hi504 rfl ?_
  obtain ⟨hk505, h⟩ := h
  refine sX0_182 hw rfl dL_law_1971 rfl (gK2 hkf) hk505 h (fun r507 M506 h => ?_)
  refine g_icmp_eq (tgt := 2724) hw dL_law_1974 (by decide) (fun hb508 => ?_) (fun hb508 => ?_)
  · have h := gT h hb508
    exact wL_law_b2724 hw hkf hv hR23 h
  · have h := gF h hb508
    refine g_sub hw (lv2 := []) [] rfl ?_
    exact hK1977_23 M506 h
def fL_law_b1979 (L : Nat) (xs : Nat → Int32) (R23 : Int32 → gM → Prop) (K2002_23 : gM → Prop) (l3_13 : Nat) (l4_509 : Int32) (M : gM) (Q : Int32 → gM → Prop) : Prop :=
  vp_in (l4_509 + 1) L ∧ gk M 16 = 1 ∧ fX1_writer (xs ((l4_509 + 1).toNatClampNeg)) M (fun r513 M512 => vp_in (l4_509 + 1) L ∧ gk M512 268 = 7 ∧ fX7_writer (xs ((l4_509 + 1).toNatClampNeg)) M512 (fun r517 M516 => (if r513 = r517 then fL_law_b2724 L xs R23 l3_13 l4_509 M516 Q else K2002_23 M516)))
theorem wL_law_b1979 {kf : Nat} {G : gG} {w : gM → Nat → List (Nat × Value) → List Value → Prop} {Q : Int32 → gM → Prop} (hw : gX yL_law cL_law 8 (Option.some FieldType.boolean) [] kf G (gQi Q) gE0 w) {L : Nat} {xs : Nat → Int32} {b : Nat} (hkf : 1017 ≤ kf) (hv : gScr G b L xs) {R23 : Int32 → gM → Prop} {K2002_23 : gM → Prop} {l3_13 : Nat} {l4_509 : Int32} {M : gM} (hR23 : ∀ (v0 : Int32) (M : gM), R23 v0 M → w M 23 [(0, .ref (gA G (gBig + b))), (1, .ref (gA G 16)), (2, .ref (gA G 268)), (3, .ref (gA G l3_13)), (4, .int v0)] []) (hK2002_23 : ∀  (M : gM), K2002_23 M → w M 2002 [] []) (h : fL_law_b1979 L xs R23 K2002_23 l3_13 l4_509 M Q) : w M 1979 [(0, .ref (gA G (gBig + b))), (1, .ref (gA G 16)), (2, .ref (gA G 268)), (3, .ref (gA G l3_13)), (4, .int l4_509)] [] := by
  unfold fL_law_b1979 at h
  refine g_aload_n hw 1 dL_law_1979 rfl ?_
  refine g_aload_n hw 0 dL_law_1980 rfl ?_
  refine g_iload hw 4 dL_law_1981 rfl ?_
  refine g_iconst (v := 1) hw dL_law_1983 (by decide) ?_
  refine g_iadd hw dL_law_1984 ?_
  obtain ⟨hi510, h⟩ := h
  refine g_sciald (n := (l4_509 + 1).toNatClampNeg) hw hv dL_law_1985 hi510 rfl ?_
  obtain ⟨hk511, h⟩ := h
  refine sX0_183 hw rfl dL_law_1986 rfl (gK2 hkf) hk511 h (fun r513 M512 h => ?_)
  refine g_aload_n hw 2 dL_law_1989 rfl ?_
  refine g_aload_n hw 0 dL_law_1990 rfl ?_
  refine g_iload hw 4 dL_law_1991 rfl ?_
  refine g_iconst (v := 1) hw dL_law_1993 (by decide) ?_
  refine g_iadd hw dL_law_1994 ?_
  obtain ⟨hi514, h⟩ := h
  refine g_sciald (n := (l4_509 + 1).toNatClampNeg) hw hv dL_law_1995 hi514 rfl ?_
  obtain ⟨hk515, h⟩ := h
  refine sX0_186 hw rfl dL_law_1996 rfl (gK2 hkf) hk515 h (fun r517 M516 h => ?_)
  refine g_icmp_eq (tgt := 2724) hw dL_law_1999 (by decide) (fun hb518 => ?_) (fun hb518 => ?_)
  · have h := gT h hb518
    exact wL_law_b2724 hw hkf hv hR23 h
  · have h := gF h hb518
    refine g_sub hw (lv2 := []) [] rfl ?_
    exact hK2002_23 M516 h
def fL_law_b2004 (L : Nat) (xs : Nat → Int32) (R23 : Int32 → gM → Prop) (K2039_23 : gM → Prop) (l3_13 : Nat) (l4_519 : Int32) (M : gM) (Q : Int32 → gM → Prop) : Prop :=
  vp_in (l4_519 + 1) L ∧ vp_in (l4_519 + 2) L ∧ gk M 16 = 1 ∧ fX1_takes (xs ((l4_519 + 1).toNatClampNeg)) (xs ((l4_519 + 2).toNatClampNeg)) M (fun r524 M523 => vp_in (l4_519 + 1) L ∧ vp_in (l4_519 + 2) L ∧ gk M523 268 = 7 ∧ fX7_takes (xs ((l4_519 + 1).toNatClampNeg)) (xs ((l4_519 + 2).toNatClampNeg)) M523 (fun r529 M528 => (if r524 = r529 then fL_law_b2724 L xs R23 l3_13 l4_519 M528 Q else K2039_23 M528)))
theorem wL_law_b2004 {kf : Nat} {G : gG} {w : gM → Nat → List (Nat × Value) → List Value → Prop} {Q : Int32 → gM → Prop} (hw : gX yL_law cL_law 8 (Option.some FieldType.boolean) [] kf G (gQi Q) gE0 w) {L : Nat} {xs : Nat → Int32} {b : Nat} (hkf : 1017 ≤ kf) (hv : gScr G b L xs) {R23 : Int32 → gM → Prop} {K2039_23 : gM → Prop} {l3_13 : Nat} {l4_519 : Int32} {M : gM} (hR23 : ∀ (v0 : Int32) (M : gM), R23 v0 M → w M 23 [(0, .ref (gA G (gBig + b))), (1, .ref (gA G 16)), (2, .ref (gA G 268)), (3, .ref (gA G l3_13)), (4, .int v0)] []) (hK2039_23 : ∀  (M : gM), K2039_23 M → w M 2039 [] []) (h : fL_law_b2004 L xs R23 K2039_23 l3_13 l4_519 M Q) : w M 2004 [(0, .ref (gA G (gBig + b))), (1, .ref (gA G 16)), (2, .ref (gA G 268)), (3, .ref (gA G l3_13)), (4, .int l4_519)] [] := by
  unfold fL_law_b2004 at h
  refine g_aload_n hw 1 dL_law_2004 rfl ?_
  refine g_aload_n hw 0 dL_law_2005 rfl ?_
  refine g_iload hw 4 dL_law_2006 rfl ?_
  refine g_iconst (v := 1) hw dL_law_2008 (by decide) ?_
  refine g_iadd hw dL_law_2009 ?_
  obtain ⟨hi520, h⟩ := h
  refine g_sciald (n := (l4_519 + 1).toNatClampNeg) hw hv dL_law_2010 hi520 rfl ?_
  refine g_aload_n hw 0 dL_law_2011 rfl ?_
  refine g_iload hw 4 dL_law_2012 rfl ?_
  refine g_iconst (v := 2) hw dL_law_2014 (by decide) ?_
  refine g_iadd hw dL_law_2015 ?_
  obtain ⟨hi521, h⟩ := h
  refine g_sciald (n := (l4_519 + 2).toNatClampNeg) hw hv dL_law_2016 hi521 rfl ?_
  obtain ⟨hk522, h⟩ := h
  refine sX0_187 hw rfl dL_law_2017 rfl (gK2 hkf) hk522 h (fun r524 M523 h => ?_)
  refine g_aload_n hw 2 dL_law_2020 rfl ?_
  refine g_aload_n hw 0 dL_law_2021 rfl ?_
  refine g_iload hw 4 dL_law_2022 rfl ?_
  refine g_iconst (v := 1) hw dL_law_2024 (by decide) ?_
  refine g_iadd hw dL_law_2025 ?_
  obtain ⟨hi525, h⟩ := h
  refine g_sciald (n := (l4_519 + 1).toNatClampNeg) hw hv dL_law_2026 hi525 rfl ?_
  refine g_aload_n hw 0 dL_law_2027 rfl ?_
  refine g_iload hw 4 dL_law_2028 rfl ?_
  refine g_iconst (v := 2) hw dL_law_2030 (by decide) ?_
  refine g_iadd hw dL_law_2031 ?_
  obtain ⟨hi526, h⟩ := h
  refine g_sciald (n := (l4_519 + 2).toNatClampNeg) hw hv dL_law_2032 hi526 rfl ?_
  obtain ⟨hk527, h⟩ := h
  refine sX0_190 hw rfl dL_law_2033 rfl (gK2 hkf) hk527 h (fun r529 M528 h => ?_)
  refine g_icmp_eq (tgt := 2724) hw dL_law_2036 (by decide) (fun hb530 => ?_) (fun hb530 => ?_)
  · have h := gT h hb530
    exact wL_law_b2724 hw hkf hv hR23 h
  · have h := gF h hb530
    refine g_sub hw (lv2 := []) [] rfl ?_
    exact hK2039_23 M528 h
def fL_law_b2105 (L : Nat) (xs : Nat → Int32) (R23 : Int32 → gM → Prop) (l3_13 : Nat) (l4_546 : Int32) (M : gM) (Q : Int32 → gM → Prop) : Prop :=
  fL_law_b2724 L xs R23 l3_13 l4_546 M Q
theorem wL_law_b2105 {kf : Nat} {G : gG} {w : gM → Nat → List (Nat × Value) → List Value → Prop} {Q : Int32 → gM → Prop} (hw : gX yL_law cL_law 8 (Option.some FieldType.boolean) [] kf G (gQi Q) gE0 w) {L : Nat} {xs : Nat → Int32} {b : Nat} (hkf : 1017 ≤ kf) (hv : gScr G b L xs) {R23 : Int32 → gM → Prop} {l3_13 : Nat} {l4_546 : Int32} {M : gM} (hR23 : ∀ (v0 : Int32) (M : gM), R23 v0 M → w M 23 [(0, .ref (gA G (gBig + b))), (1, .ref (gA G 16)), (2, .ref (gA G 268)), (3, .ref (gA G l3_13)), (4, .int v0)] []) (h : fL_law_b2105 L xs R23 l3_13 l4_546 M Q) : w M 2105 [(0, .ref (gA G (gBig + b))), (1, .ref (gA G 16)), (2, .ref (gA G 268)), (3, .ref (gA G l3_13)), (4, .int l4_546)] [] := by
  unfold fL_law_b2105 at h
  refine g_goto (tgt := 2724) hw dL_law_2105 (by decide) ?_
  exact wL_law_b2724 hw hkf hv hR23 h
def fL_law_b2041 (L : Nat) (xs : Nat → Int32) (R23 : Int32 → gM → Prop) (K2087_23 : gM → Prop) (K2103_23 : gM → Prop) (l3_13 : Nat) (l4_531 : Int32) (M : gM) (Q : Int32 → gM → Prop) : Prop :=
  vp_in (l4_531 + 1) L ∧ vp_in (l4_531 + 2) L ∧ fX0_writes (xs ((l4_531 + 1).toNatClampNeg)) (xs ((l4_531 + 2).toNatClampNeg)) l3_13 M (fun r535 M534 => vp_in (l4_531 + 1) L ∧ vp_in (l4_531 + 2) L ∧ gk M534 268 = 7 ∧ fX7_writes (xs ((l4_531 + 1).toNatClampNeg)) (xs ((l4_531 + 2).toNatClampNeg)) M534 (fun r540 M539 => gk M539 268 = 7 ∧ fX7_thrown M539 (fun r543 M542 => (if r543 = r535 then (if r535 = 0 then gk M542 l3_13 = 41 ∧ vp_in 0 (gl M542 l3_13) ∧ (if (lg_cmp (gL M542 l3_13 0) r540) = 0 then fL_law_b2105 L xs R23 l3_13 l4_531 M542 Q else K2103_23 M542) else fL_law_b2105 L xs R23 l3_13 l4_531 M542 Q) else K2087_23 M542))))
theorem wL_law_b2041 {kf : Nat} {G : gG} {w : gM → Nat → List (Nat × Value) → List Value → Prop} {Q : Int32 → gM → Prop} (hw : gX yL_law cL_law 8 (Option.some FieldType.boolean) [] kf G (gQi Q) gE0 w) {L : Nat} {xs : Nat → Int32} {b : Nat} (hkf : 1017 ≤ kf) (hv : gScr G b L xs) {R23 : Int32 → gM → Prop} {K2087_23 : gM → Prop} {K2103_23 : gM → Prop} {l3_13 : Nat} {l4_531 : Int32} {M : gM} (hR23 : ∀ (v0 : Int32) (M : gM), R23 v0 M → w M 23 [(0, .ref (gA G (gBig + b))), (1, .ref (gA G 16)), (2, .ref (gA G 268)), (3, .ref (gA G l3_13)), (4, .int v0)] []) (hK2087_23 : ∀  (M : gM), K2087_23 M → w M 2087 [] []) (hK2103_23 : ∀  (M : gM), K2103_23 M → w M 2103 [] []) (h : fL_law_b2041 L xs R23 K2087_23 K2103_23 l3_13 l4_531 M Q) : w M 2041 [(0, .ref (gA G (gBig + b))), (1, .ref (gA G 16)), (2, .ref (gA G 268)), (3, .ref (gA G l3_13)), (4, .int l4_531)] [] := by
  unfold fL_law_b2041 at h
  refine g_aload_n hw 1 dL_law_2041 rfl ?_
  refine g_aload_n hw 0 dL_law_2042 rfl ?_
  refine g_iload hw 4 dL_law_2043 rfl ?_
  refine g_iconst (v := 1) hw dL_law_2045 (by decide) ?_
  refine g_iadd hw dL_law_2046 ?_
  obtain ⟨hi532, h⟩ := h
  refine g_sciald (n := (l4_531 + 1).toNatClampNeg) hw hv dL_law_2047 hi532 rfl ?_
  refine g_aload_n hw 0 dL_law_2048 rfl ?_
  refine g_iload hw 4 dL_law_2049 rfl ?_
  refine g_iconst (v := 2) hw dL_law_2051 (by decide) ?_
  refine g_iadd hw dL_law_2052 ?_
  obtain ⟨hi533, h⟩ := h
  refine g_sciald (n := (l4_531 + 2).toNatClampNeg) hw hv dL_law_2053 hi533 rfl ?_
  refine g_aload_n hw 3 dL_law_2054 rfl ?_
  refine sX0_191 hw rfl dL_law_2055 rfl (gK2 hkf) h (fun r535 M534 h => ?_)
  refine g_istore hw (lv2 := [(0, .ref (gA G (gBig + b))), (1, .ref (gA G 16)), (2, .ref (gA G 268)), (3, .ref (gA G l3_13)), (4, .int l4_531), (5, .int r535)]) [1, 2, 3, 4, 5, 0] dL_law_2058 rfl rfl ?_
  refine g_aload_n hw 2 dL_law_2060 rfl ?_
  refine g_aload_n hw 0 dL_law_2061 rfl ?_
  refine g_iload hw 4 dL_law_2062 rfl ?_
  refine g_iconst (v := 1) hw dL_law_2064 (by decide) ?_
  refine g_iadd hw dL_law_2065 ?_
  obtain ⟨hi536, h⟩ := h
  refine g_sciald (n := (l4_531 + 1).toNatClampNeg) hw hv dL_law_2066 hi536 rfl ?_
  refine g_aload_n hw 0 dL_law_2067 rfl ?_
  refine g_iload hw 4 dL_law_2068 rfl ?_
  refine g_iconst (v := 2) hw dL_law_2070 (by decide) ?_
  refine g_iadd hw dL_law_2071 ?_
  obtain ⟨hi537, h⟩ := h
  refine g_sciald (n := (l4_531 + 2).toNatClampNeg) hw hv dL_law_2072 hi537 rfl ?_
  obtain ⟨hk538, h⟩ := h
  refine sX0_194 hw rfl dL_law_2073 rfl (gK2 hkf) hk538 h (fun r540 M539 h => ?_)
  refine g_lstore hw (lv2 := [(0, .ref (gA G (gBig + b))), (1, .ref (gA G 16)), (2, .ref (gA G 268)), (3, .ref (gA G l3_13)), (4, .int l4_531), (5, .int r535), (6, .long r540)]) [1, 2, 3, 4, 5, 6, 0] dL_law_2076 rfl rfl ?_
  refine g_aload_n hw 2 dL_law_2078 rfl ?_
  obtain ⟨hk541, h⟩ := h
  refine sX0_98 hw rfl dL_law_2079 rfl (gK2 hkf) hk541 h (fun r543 M542 h => ?_)
  refine g_iload hw 5 dL_law_2082 rfl ?_
  refine g_icmp_eq (tgt := 2089) hw dL_law_2084 (by decide) (fun hb544 => ?_) (fun hb544 => ?_)
  · have h := gT h hb544
    refine g_iload hw 5 dL_law_2089 rfl ?_
    refine g_if_ne (tgt := 2105) hw dL_law_2091 (by decide) (fun hb545 => ?_) (fun hb545 => ?_)
    · have h := gF h hb545
      refine g_sub hw (lv2 := [(0, .ref (gA G (gBig + b))), (1, .ref (gA G 16)), (2, .ref (gA G 268)), (3, .ref (gA G l3_13)), (4, .int l4_531)]) [0, 1, 2, 3, 4] rfl ?_
      exact wL_law_b2105 hw hkf hv hR23 h
    · have h := gT h hb545
      refine g_aload_n hw 3 dL_law_2094 rfl ?_
      refine g_iconst (v := 0) hw dL_law_2095 (by decide) ?_
      obtain ⟨hk547, h⟩ := h
      obtain ⟨hi548, h⟩ := h
      refine g_lald (n := 0) hw dL_law_2096 hk547 hi548 rfl ?_
      refine g_lload hw 6 dL_law_2097 rfl ?_
      refine g_lcmp hw dL_law_2099 ?_
      refine g_if_eq (tgt := 2105) hw dL_law_2100 (by decide) (fun hb549 => ?_) (fun hb549 => ?_)
      · have h := gT h hb549
        refine g_sub hw (lv2 := [(0, .ref (gA G (gBig + b))), (1, .ref (gA G 16)), (2, .ref (gA G 268)), (3, .ref (gA G l3_13)), (4, .int l4_531)]) [0, 1, 2, 3, 4] rfl ?_
        exact wL_law_b2105 hw hkf hv hR23 h
      · have h := gF h hb549
        refine g_sub hw (lv2 := []) [] rfl ?_
        exact hK2103_23 M542 h
  · have h := gF h hb544
    refine g_sub hw (lv2 := []) [] rfl ?_
    exact hK2087_23 M542 h
def fL_law_b2160 (L : Nat) (xs : Nat → Int32) (R23 : Int32 → gM → Prop) (l3_13 : Nat) (l4_563 : Int32) (M : gM) (Q : Int32 → gM → Prop) : Prop :=
  fL_law_b2724 L xs R23 l3_13 l4_563 M Q
theorem wL_law_b2160 {kf : Nat} {G : gG} {w : gM → Nat → List (Nat × Value) → List Value → Prop} {Q : Int32 → gM → Prop} (hw : gX yL_law cL_law 8 (Option.some FieldType.boolean) [] kf G (gQi Q) gE0 w) {L : Nat} {xs : Nat → Int32} {b : Nat} (hkf : 1017 ≤ kf) (hv : gScr G b L xs) {R23 : Int32 → gM → Prop} {l3_13 : Nat} {l4_563 : Int32} {M : gM} (hR23 : ∀ (v0 : Int32) (M : gM), R23 v0 M → w M 23 [(0, .ref (gA G (gBig + b))), (1, .ref (gA G 16)), (2, .ref (gA G 268)), (3, .ref (gA G l3_13)), (4, .int v0)] []) (h : fL_law_b2160 L xs R23 l3_13 l4_563 M Q) : w M 2160 [(0, .ref (gA G (gBig + b))), (1, .ref (gA G 16)), (2, .ref (gA G 268)), (3, .ref (gA G l3_13)), (4, .int l4_563)] [] := by
  unfold fL_law_b2160 at h
  refine g_goto (tgt := 2724) hw dL_law_2160 (by decide) ?_
  exact wL_law_b2724 hw hkf hv hR23 h
def fL_law_b2108 (L : Nat) (xs : Nat → Int32) (R23 : Int32 → gM → Prop) (K2142_23 : gM → Prop) (K2158_23 : gM → Prop) (l3_13 : Nat) (l4_550 : Int32) (M : gM) (Q : Int32 → gM → Prop) : Prop :=
  vp_in (l4_550 + 1) L ∧ fX0_forks (xs ((l4_550 + 1).toNatClampNeg)) l3_13 M (fun r553 M552 => vp_in (l4_550 + 1) L ∧ gk M552 268 = 7 ∧ fX7_forks (xs ((l4_550 + 1).toNatClampNeg)) M552 (fun r557 M556 => gk M556 268 = 7 ∧ fX7_thrown M556 (fun r560 M559 => (if r560 = r553 then (if r553 = 0 then gk M559 l3_13 = 41 ∧ vp_in 0 (gl M559 l3_13) ∧ (if (lg_cmp (gL M559 l3_13 0) r557) = 0 then fL_law_b2160 L xs R23 l3_13 l4_550 M559 Q else K2158_23 M559) else fL_law_b2160 L xs R23 l3_13 l4_550 M559 Q) else K2142_23 M559))))
theorem wL_law_b2108 {kf : Nat} {G : gG} {w : gM → Nat → List (Nat × Value) → List Value → Prop} {Q : Int32 → gM → Prop} (hw : gX yL_law cL_law 8 (Option.some FieldType.boolean) [] kf G (gQi Q) gE0 w) {L : Nat} {xs : Nat → Int32} {b : Nat} (hkf : 1017 ≤ kf) (hv : gScr G b L xs) {R23 : Int32 → gM → Prop} {K2142_23 : gM → Prop} {K2158_23 : gM → Prop} {l3_13 : Nat} {l4_550 : Int32} {M : gM} (hR23 : ∀ (v0 : Int32) (M : gM), R23 v0 M → w M 23 [(0, .ref (gA G (gBig + b))), (1, .ref (gA G 16)), (2, .ref (gA G 268)), (3, .ref (gA G l3_13)), (4, .int v0)] []) (hK2142_23 : ∀  (M : gM), K2142_23 M → w M 2142 [] []) (hK2158_23 : ∀  (M : gM), K2158_23 M → w M 2158 [] []) (h : fL_law_b2108 L xs R23 K2142_23 K2158_23 l3_13 l4_550 M Q) : w M 2108 [(0, .ref (gA G (gBig + b))), (1, .ref (gA G 16)), (2, .ref (gA G 268)), (3, .ref (gA G l3_13)), (4, .int l4_550)] [] := by
  unfold fL_law_b2108 at h
  refine g_aload_n hw 1 dL_law_2108 rfl ?_
  refine g_aload_n hw 0 dL_law_2109 rfl ?_
  refine g_iload hw 4 dL_law_2110 rfl ?_
  refine g_iconst (v := 1) hw dL_law_2112 (by decide) ?_
  refine g_iadd hw dL_law_2113 ?_
  obtain ⟨hi551, h⟩ := h
  refine g_sciald (n := (l4_550 + 1).toNatClampNeg) hw hv dL_law_2114 hi551 rfl ?_
  refine g_aload_n hw 3 dL_law_2115 rfl ?_
  refine sX0_195 hw rfl dL_law_2116 rfl (gK2 hkf) h (fun r553 M552 h => ?_)
  refine g_istore hw (lv2 := [(0, .ref (gA G (gBig + b))), (1, .ref (gA G 16)), (2, .ref (gA G 268)), (3, .ref (gA G l3_13)), (4, .int l4_550), (5, .int r553)]) [1, 2, 3, 4, 5, 0] dL_law_2119 rfl rfl ?_
  refine g_aload_n hw 2 dL_law_2121 rfl ?_
  refine g_aload_n hw 0 dL_law_2122 rfl ?_
  refine g_iload hw 4 dL_law_2123 rfl ?_
  refine g_iconst (v := 1) hw dL_law_2125 (by decide) ?_
  refine g_iadd hw dL_law_2126 ?_
  obtain ⟨hi554, h⟩ := h
  refine g_sciald (n := (l4_550 + 1).toNatClampNeg) hw hv dL_law_2127 hi554 rfl ?_
  obtain ⟨hk555, h⟩ := h
  refine sX0_198 hw rfl dL_law_2128 rfl (gK2 hkf) hk555 h (fun r557 M556 h => ?_)
  refine g_lstore hw (lv2 := [(0, .ref (gA G (gBig + b))), (1, .ref (gA G 16)), (2, .ref (gA G 268)), (3, .ref (gA G l3_13)), (4, .int l4_550), (5, .int r553), (6, .long r557)]) [1, 2, 3, 4, 5, 6, 0] dL_law_2131 rfl rfl ?_
  refine g_aload_n hw 2 dL_law_2133 rfl ?_
  obtain ⟨hk558, h⟩ := h
  refine sX0_98 hw rfl dL_law_2134 rfl (gK2 hkf) hk558 h (fun r560 M559 h => ?_)
  refine g_iload hw 5 dL_law_2137 rfl ?_
  refine g_icmp_eq (tgt := 2144) hw dL_law_2139 (by decide) (fun hb561 => ?_) (fun hb561 => ?_)
  · have h := gT h hb561
    refine g_iload hw 5 dL_law_2144 rfl ?_
    refine g_if_ne (tgt := 2160) hw dL_law_2146 (by decide) (fun hb562 => ?_) (fun hb562 => ?_)
    · have h := gF h hb562
      refine g_sub hw (lv2 := [(0, .ref (gA G (gBig + b))), (1, .ref (gA G 16)), (2, .ref (gA G 268)), (3, .ref (gA G l3_13)), (4, .int l4_550)]) [0, 1, 2, 3, 4] rfl ?_
      exact wL_law_b2160 hw hkf hv hR23 h
    · have h := gT h hb562
      refine g_aload_n hw 3 dL_law_2149 rfl ?_
      refine g_iconst (v := 0) hw dL_law_2150 (by decide) ?_
      obtain ⟨hk564, h⟩ := h
      obtain ⟨hi565, h⟩ := h
      refine g_lald (n := 0) hw dL_law_2151 hk564 hi565 rfl ?_
      refine g_lload hw 6 dL_law_2152 rfl ?_
      refine g_lcmp hw dL_law_2154 ?_
      refine g_if_eq (tgt := 2160) hw dL_law_2155 (by decide) (fun hb566 => ?_) (fun hb566 => ?_)
      · have h := gT h hb566
        refine g_sub hw (lv2 := [(0, .ref (gA G (gBig + b))), (1, .ref (gA G 16)), (2, .ref (gA G 268)), (3, .ref (gA G l3_13)), (4, .int l4_550)]) [0, 1, 2, 3, 4] rfl ?_
        exact wL_law_b2160 hw hkf hv hR23 h
      · have h := gF h hb566
        refine g_sub hw (lv2 := []) [] rfl ?_
        exact hK2158_23 M559 h
  · have h := gF h hb561
    refine g_sub hw (lv2 := []) [] rfl ?_
    exact hK2142_23 M559 h
def fL_law_b2163 (L : Nat) (xs : Nat → Int32) (R23 : Int32 → gM → Prop) (K2222_23 : gM → Prop) (l3_13 : Nat) (l4_567 : Int32) (M : gM) (Q : Int32 → gM → Prop) : Prop :=
  vp_in (l4_567 + 1) L ∧ vp_in (l4_567 + 2) L ∧ vp_in (l4_567 + 3) L ∧ vp_in (l4_567 + 4) L ∧ gk M 16 = 1 ∧ fX1_book (xs ((l4_567 + 1).toNatClampNeg)) (xs ((l4_567 + 2).toNatClampNeg)) (xs ((l4_567 + 3).toNatClampNeg)) (xs ((l4_567 + 4).toNatClampNeg)) M (fun r574 M573 => vp_in (l4_567 + 1) L ∧ vp_in (l4_567 + 2) L ∧ vp_in (l4_567 + 3) L ∧ vp_in (l4_567 + 4) L ∧ gk M573 268 = 7 ∧ fX7_book (xs ((l4_567 + 1).toNatClampNeg)) (xs ((l4_567 + 2).toNatClampNeg)) (xs ((l4_567 + 3).toNatClampNeg)) (xs ((l4_567 + 4).toNatClampNeg)) M573 (fun r581 M580 => (if r574 = r581 then fL_law_b2724 L xs R23 l3_13 l4_567 M580 Q else K2222_23 M580)))
theorem wL_law_b2163 {kf : Nat} {G : gG} {w : gM → Nat → List (Nat × Value) → List Value → Prop} {Q : Int32 → gM → Prop} (hw : gX yL_law cL_law 8 (Option.some FieldType.boolean) [] kf G (gQi Q) gE0 w) {L : Nat} {xs : Nat → Int32} {b : Nat} (hkf : 1017 ≤ kf) (hv : gScr G b L xs) {R23 : Int32 → gM → Prop} {K2222_23 : gM → Prop} {l3_13 : Nat} {l4_567 : Int32} {M : gM} (hR23 : ∀ (v0 : Int32) (M : gM), R23 v0 M → w M 23 [(0, .ref (gA G (gBig + b))), (1, .ref (gA G 16)), (2, .ref (gA G 268)), (3, .ref (gA G l3_13)), (4, .int v0)] []) (hK2222_23 : ∀  (M : gM), K2222_23 M → w M 2222 [] []) (h : fL_law_b2163 L xs R23 K2222_23 l3_13 l4_567 M Q) : w M 2163 [(0, .ref (gA G (gBig + b))), (1, .ref (gA G 16)), (2, .ref (gA G 268)), (3, .ref (gA G l3_13)), (4, .int l4_567)] [] := by
  unfold fL_law_b2163 at h
  refine g_aload_n hw 1 dL_law_2163 rfl ?_
  refine g_aload_n hw 0 dL_law_2164 rfl ?_
  refine g_iload hw 4 dL_law_2165 rfl ?_
  refine g_iconst (v := 1) hw dL_law_2167 (by decide) ?_
  refine g_iadd hw dL_law_2168 ?_
  obtain ⟨hi568, h⟩ := h
  refine g_sciald (n := (l4_567 + 1).toNatClampNeg) hw hv dL_law_2169 hi568 rfl ?_
  refine g_aload_n hw 0 dL_law_2170 rfl ?_
  refine g_iload hw 4 dL_law_2171 rfl ?_
  refine g_iconst (v := 2) hw dL_law_2173 (by decide) ?_
  refine g_iadd hw dL_law_2174 ?_
  obtain ⟨hi569, h⟩ := h
  refine g_sciald (n := (l4_567 + 2).toNatClampNeg) hw hv dL_law_2175 hi569 rfl ?_
  refine g_aload_n hw 0 dL_law_2176 rfl ?_
  refine g_iload hw 4 dL_law_2177 rfl ?_
  refine g_iconst (v := 3) hw dL_law_2179 (by decide) ?_
  refine g_iadd hw dL_law_2180 ?_
  obtain ⟨hi570, h⟩ := h
  refine g_sciald (n := (l4_567 + 3).toNatClampNeg) hw hv dL_law_2181 hi570 rfl ?_
  refine g_aload_n hw 0 dL_law_2182 rfl ?_
  refine g_iload hw 4 dL_law_2183 rfl ?_
  refine g_iconst (v := 4) hw dL_law_2185 (by decide) ?_
  refine g_iadd hw dL_law_2186 ?_
  obtain ⟨hi571, h⟩ := h
  refine g_sciald (n := (l4_567 + 4).toNatClampNeg) hw hv dL_law_2187 hi571 rfl ?_
  obtain ⟨hk572, h⟩ := h
  refine sX0_199 hw rfl dL_law_2188 rfl (gK2 hkf) hk572 h (fun r574 M573 h => ?_)
  refine g_aload_n hw 2 dL_law_2191 rfl ?_
  refine g_aload_n hw 0 dL_law_2192 rfl ?_
  refine g_iload hw 4 dL_law_2193 rfl ?_
  refine g_iconst (v := 1) hw dL_law_2195 (by decide) ?_
  refine g_iadd hw dL_law_2196 ?_
  obtain ⟨hi575, h⟩ := h
  refine g_sciald (n := (l4_567 + 1).toNatClampNeg) hw hv dL_law_2197 hi575 rfl ?_
  refine g_aload_n hw 0 dL_law_2198 rfl ?_
  refine g_iload hw 4 dL_law_2199 rfl ?_
  refine g_iconst (v := 2) hw dL_law_2201 (by decide) ?_
  refine g_iadd hw dL_law_2202 ?_
  obtain ⟨hi576, h⟩ := h
  refine g_sciald (n := (l4_567 + 2).toNatClampNeg) hw hv dL_law_2203 hi576 rfl ?_
  refine g_aload_n hw 0 dL_law_2204 rfl ?_
  refine g_iload hw 4 dL_law_2205 rfl ?_
  refine g_iconst (v := 3) hw dL_law_2207 (by decide) ?_
  refine g_iadd hw dL_law_2208 ?_
  obtain ⟨hi577, h⟩ := h
  refine g_sciald (n := (l4_567 + 3).toNatClampNeg) hw hv dL_law_2209 hi577 rfl ?_
  refine g_aload_n hw 0 dL_law_2210 rfl ?_
  refine g_iload hw 4 dL_law_2211 rfl ?_
  refine g_iconst (v := 4) hw dL_law_2213 (by decide) ?_
  refine g_iadd hw dL_law_2214 ?_
  obtain ⟨hi578, h⟩ := h
  refine g_sciald (n := (l4_567 + 4).toNatClampNeg) hw hv dL_law_2215 hi578 rfl ?_
  obtain ⟨hk579, h⟩ := h
  refine sX0_202 hw rfl dL_law_2216 rfl (gK2 hkf) hk579 h (fun r581 M580 h => ?_)
  refine g_icmp_eq (tgt := 2724) hw dL_law_2219 (by decide) (fun hb582 => ?_) (fun hb582 => ?_)
  · have h := gT h hb582
    exact wL_law_b2724 hw hkf hv hR23 h
  · have h := gF h hb582
    refine g_sub hw (lv2 := []) [] rfl ?_
    exact hK2222_23 M580 h
def fL_law_b2300 (L : Nat) (xs : Nat → Int32) (R23 : Int32 → gM → Prop) (l3_13 : Nat) (l4_600 : Int32) (M : gM) (Q : Int32 → gM → Prop) : Prop :=
  fL_law_b2724 L xs R23 l3_13 l4_600 M Q
theorem wL_law_b2300 {kf : Nat} {G : gG} {w : gM → Nat → List (Nat × Value) → List Value → Prop} {Q : Int32 → gM → Prop} (hw : gX yL_law cL_law 8 (Option.some FieldType.boolean) [] kf G (gQi Q) gE0 w) {L : Nat} {xs : Nat → Int32} {b : Nat} (hkf : 1017 ≤ kf) (hv : gScr G b L xs) {R23 : Int32 → gM → Prop} {l3_13 : Nat} {l4_600 : Int32} {M : gM} (hR23 : ∀ (v0 : Int32) (M : gM), R23 v0 M → w M 23 [(0, .ref (gA G (gBig + b))), (1, .ref (gA G 16)), (2, .ref (gA G 268)), (3, .ref (gA G l3_13)), (4, .int v0)] []) (h : fL_law_b2300 L xs R23 l3_13 l4_600 M Q) : w M 2300 [(0, .ref (gA G (gBig + b))), (1, .ref (gA G 16)), (2, .ref (gA G 268)), (3, .ref (gA G l3_13)), (4, .int l4_600)] [] := by
  unfold fL_law_b2300 at h
  refine g_goto (tgt := 2724) hw dL_law_2300 (by decide) ?_
  exact wL_law_b2724 hw hkf hv hR23 h
def fL_law_b2224 (L : Nat) (xs : Nat → Int32) (R23 : Int32 → gM → Prop) (K2282_23 : gM → Prop) (K2298_23 : gM → Prop) (l3_13 : Nat) (l4_583 : Int32) (M : gM) (Q : Int32 → gM → Prop) : Prop :=
  vp_in (l4_583 + 1) L ∧ vp_in (l4_583 + 2) L ∧ vp_in (l4_583 + 3) L ∧ fX0_booked (xs ((l4_583 + 1).toNatClampNeg)) (xs ((l4_583 + 2).toNatClampNeg)) (xs ((l4_583 + 3).toNatClampNeg)) l3_13 M (fun r588 M587 => vp_in (l4_583 + 1) L ∧ vp_in (l4_583 + 2) L ∧ vp_in (l4_583 + 3) L ∧ gk M587 268 = 7 ∧ fX7_booked (xs ((l4_583 + 1).toNatClampNeg)) (xs ((l4_583 + 2).toNatClampNeg)) (xs ((l4_583 + 3).toNatClampNeg)) M587 (fun r594 M593 => gk M593 268 = 7 ∧ fX7_thrown M593 (fun r597 M596 => (if r597 = r588 then (if r588 = 0 then gk M596 l3_13 = 41 ∧ vp_in 0 (gl M596 l3_13) ∧ (if (lg_cmp (gL M596 l3_13 0) r594) = 0 then fL_law_b2300 L xs R23 l3_13 l4_583 M596 Q else K2298_23 M596) else fL_law_b2300 L xs R23 l3_13 l4_583 M596 Q) else K2282_23 M596))))
theorem wL_law_b2224 {kf : Nat} {G : gG} {w : gM → Nat → List (Nat × Value) → List Value → Prop} {Q : Int32 → gM → Prop} (hw : gX yL_law cL_law 8 (Option.some FieldType.boolean) [] kf G (gQi Q) gE0 w) {L : Nat} {xs : Nat → Int32} {b : Nat} (hkf : 1017 ≤ kf) (hv : gScr G b L xs) {R23 : Int32 → gM → Prop} {K2282_23 : gM → Prop} {K2298_23 : gM → Prop} {l3_13 : Nat} {l4_583 : Int32} {M : gM} (hR23 : ∀ (v0 : Int32) (M : gM), R23 v0 M → w M 23 [(0, .ref (gA G (gBig + b))), (1, .ref (gA G 16)), (2, .ref (gA G 268)), (3, .ref (gA G l3_13)), (4, .int v0)] []) (hK2282_23 : ∀  (M : gM), K2282_23 M → w M 2282 [] []) (hK2298_23 : ∀  (M : gM), K2298_23 M → w M 2298 [] []) (h : fL_law_b2224 L xs R23 K2282_23 K2298_23 l3_13 l4_583 M Q) : w M 2224 [(0, .ref (gA G (gBig + b))), (1, .ref (gA G 16)), (2, .ref (gA G 268)), (3, .ref (gA G l3_13)), (4, .int l4_583)] [] := by
  unfold fL_law_b2224 at h
  refine g_aload_n hw 1 dL_law_2224 rfl ?_
  refine g_aload_n hw 0 dL_law_2225 rfl ?_
  refine g_iload hw 4 dL_law_2226 rfl ?_
  refine g_iconst (v := 1) hw dL_law_2228 (by decide) ?_
  refine g_iadd hw dL_law_2229 ?_
  obtain ⟨hi584, h⟩ := h
  refine g_sciald (n := (l4_583 + 1).toNatClampNeg) hw hv dL_law_2230 hi584 rfl ?_
  refine g_aload_n hw 0 dL_law_2231 rfl ?_
  refine g_iload hw 4 dL_law_2232 rfl ?_
  refine g_iconst (v := 2) hw dL_law_2234 (by decide) ?_
  refine g_iadd hw dL_law_2235 ?_
  obtain ⟨hi585, h⟩ := h
  refine g_sciald (n := (l4_583 + 2).toNatClampNeg) hw hv dL_law_2236 hi585 rfl ?_
  refine g_aload_n hw 0 dL_law_2237 rfl ?_
  refine g_iload hw 4 dL_law_2238 rfl ?_
  refine g_iconst (v := 3) hw dL_law_2240 (by decide) ?_
  refine g_iadd hw dL_law_2241 ?_
  obtain ⟨hi586, h⟩ := h
  refine g_sciald (n := (l4_583 + 3).toNatClampNeg) hw hv dL_law_2242 hi586 rfl ?_
  refine g_aload_n hw 3 dL_law_2243 rfl ?_
  refine sX0_203 hw rfl dL_law_2244 rfl (gK2 hkf) h (fun r588 M587 h => ?_)
  refine g_istore hw (lv2 := [(0, .ref (gA G (gBig + b))), (1, .ref (gA G 16)), (2, .ref (gA G 268)), (3, .ref (gA G l3_13)), (4, .int l4_583), (5, .int r588)]) [1, 2, 3, 4, 5, 0] dL_law_2247 rfl rfl ?_
  refine g_aload_n hw 2 dL_law_2249 rfl ?_
  refine g_aload_n hw 0 dL_law_2250 rfl ?_
  refine g_iload hw 4 dL_law_2251 rfl ?_
  refine g_iconst (v := 1) hw dL_law_2253 (by decide) ?_
  refine g_iadd hw dL_law_2254 ?_
  obtain ⟨hi589, h⟩ := h
  refine g_sciald (n := (l4_583 + 1).toNatClampNeg) hw hv dL_law_2255 hi589 rfl ?_
  refine g_aload_n hw 0 dL_law_2256 rfl ?_
  refine g_iload hw 4 dL_law_2257 rfl ?_
  refine g_iconst (v := 2) hw dL_law_2259 (by decide) ?_
  refine g_iadd hw dL_law_2260 ?_
  obtain ⟨hi590, h⟩ := h
  refine g_sciald (n := (l4_583 + 2).toNatClampNeg) hw hv dL_law_2261 hi590 rfl ?_
  refine g_aload_n hw 0 dL_law_2262 rfl ?_
  refine g_iload hw 4 dL_law_2263 rfl ?_
  refine g_iconst (v := 3) hw dL_law_2265 (by decide) ?_
  refine g_iadd hw dL_law_2266 ?_
  obtain ⟨hi591, h⟩ := h
  refine g_sciald (n := (l4_583 + 3).toNatClampNeg) hw hv dL_law_2267 hi591 rfl ?_
  obtain ⟨hk592, h⟩ := h
  refine sX0_205 hw rfl dL_law_2268 rfl (gK2 hkf) hk592 h (fun r594 M593 h => ?_)
  refine g_lstore hw (lv2 := [(0, .ref (gA G (gBig + b))), (1, .ref (gA G 16)), (2, .ref (gA G 268)), (3, .ref (gA G l3_13)), (4, .int l4_583), (5, .int r588), (6, .long r594)]) [1, 2, 3, 4, 5, 6, 0] dL_law_2271 rfl rfl ?_
  refine g_aload_n hw 2 dL_law_2273 rfl ?_
  obtain ⟨hk595, h⟩ := h
  refine sX0_98 hw rfl dL_law_2274 rfl (gK2 hkf) hk595 h (fun r597 M596 h => ?_)
  refine g_iload hw 5 dL_law_2277 rfl ?_
  refine g_icmp_eq (tgt := 2284) hw dL_law_2279 (by decide) (fun hb598 => ?_) (fun hb598 => ?_)
  · have h := gT h hb598
    refine g_iload hw 5 dL_law_2284 rfl ?_
    refine g_if_ne (tgt := 2300) hw dL_law_2286 (by decide) (fun hb599 => ?_) (fun hb599 => ?_)
    · have h := gF h hb599
      refine g_sub hw (lv2 := [(0, .ref (gA G (gBig + b))), (1, .ref (gA G 16)), (2, .ref (gA G 268)), (3, .ref (gA G l3_13)), (4, .int l4_583)]) [0, 1, 2, 3, 4] rfl ?_
      exact wL_law_b2300 hw hkf hv hR23 h
    · have h := gT h hb599
      refine g_aload_n hw 3 dL_law_2289 rfl ?_
      refine g_iconst (v := 0) hw dL_law_2290 (by decide) ?_
      obtain ⟨hk601, h⟩ := h
      obtain ⟨hi602, h⟩ := h
      refine g_lald (n := 0) hw dL_law_2291 hk601 hi602 rfl ?_
      refine g_lload hw 6 dL_law_2292 rfl ?_
      refine g_lcmp hw dL_law_2294 ?_
      refine g_if_eq (tgt := 2300) hw dL_law_2295 (by decide) (fun hb603 => ?_) (fun hb603 => ?_)
      · have h := gT h hb603
        refine g_sub hw (lv2 := [(0, .ref (gA G (gBig + b))), (1, .ref (gA G 16)), (2, .ref (gA G 268)), (3, .ref (gA G l3_13)), (4, .int l4_583)]) [0, 1, 2, 3, 4] rfl ?_
        exact wL_law_b2300 hw hkf hv hR23 h
      · have h := gF h hb603
        refine g_sub hw (lv2 := []) [] rfl ?_
        exact hK2298_23 M596 h
  · have h := gF h hb598
    refine g_sub hw (lv2 := []) [] rfl ?_
    exact hK2282_23 M596 h
def fL_law_b2391 (L : Nat) (xs : Nat → Int32) (R23 : Int32 → gM → Prop) (l3_13 : Nat) (l4_623 : Int32) (M : gM) (Q : Int32 → gM → Prop) : Prop :=
  fL_law_b2724 L xs R23 l3_13 l4_623 M Q
theorem wL_law_b2391 {kf : Nat} {G : gG} {w : gM → Nat → List (Nat × Value) → List Value → Prop} {Q : Int32 → gM → Prop} (hw : gX yL_law cL_law 8 (Option.some FieldType.boolean) [] kf G (gQi Q) gE0 w) {L : Nat} {xs : Nat → Int32} {b : Nat} (hkf : 1017 ≤ kf) (hv : gScr G b L xs) {R23 : Int32 → gM → Prop} {l3_13 : Nat} {l4_623 : Int32} {M : gM} (hR23 : ∀ (v0 : Int32) (M : gM), R23 v0 M → w M 23 [(0, .ref (gA G (gBig + b))), (1, .ref (gA G 16)), (2, .ref (gA G 268)), (3, .ref (gA G l3_13)), (4, .int v0)] []) (h : fL_law_b2391 L xs R23 l3_13 l4_623 M Q) : w M 2391 [(0, .ref (gA G (gBig + b))), (1, .ref (gA G 16)), (2, .ref (gA G 268)), (3, .ref (gA G l3_13)), (4, .int l4_623)] [] := by
  unfold fL_law_b2391 at h
  refine g_goto (tgt := 2724) hw dL_law_2391 (by decide) ?_
  exact wL_law_b2724 hw hkf hv hR23 h
def fL_law_b2303 (L : Nat) (xs : Nat → Int32) (R23 : Int32 → gM → Prop) (K2373_23 : gM → Prop) (K2389_23 : gM → Prop) (l3_13 : Nat) (l4_604 : Int32) (M : gM) (Q : Int32 → gM → Prop) : Prop :=
  vp_in (l4_604 + 1) L ∧ vp_in (l4_604 + 2) L ∧ vp_in (l4_604 + 3) L ∧ vp_in (l4_604 + 4) L ∧ fX0_closes (xs ((l4_604 + 1).toNatClampNeg)) (xs ((l4_604 + 2).toNatClampNeg)) (xs ((l4_604 + 3).toNatClampNeg)) (xs ((l4_604 + 4).toNatClampNeg)) l3_13 M (fun r610 M609 => vp_in (l4_604 + 1) L ∧ vp_in (l4_604 + 2) L ∧ vp_in (l4_604 + 3) L ∧ vp_in (l4_604 + 4) L ∧ gk M609 268 = 7 ∧ fX7_closes (xs ((l4_604 + 1).toNatClampNeg)) (xs ((l4_604 + 2).toNatClampNeg)) (xs ((l4_604 + 3).toNatClampNeg)) (xs ((l4_604 + 4).toNatClampNeg)) M609 (fun r617 M616 => gk M616 268 = 7 ∧ fX7_thrown M616 (fun r620 M619 => (if r620 = r610 then (if r610 = 0 then gk M619 l3_13 = 41 ∧ vp_in 0 (gl M619 l3_13) ∧ (if (lg_cmp (gL M619 l3_13 0) r617) = 0 then fL_law_b2391 L xs R23 l3_13 l4_604 M619 Q else K2389_23 M619) else fL_law_b2391 L xs R23 l3_13 l4_604 M619 Q) else K2373_23 M619))))
theorem wL_law_b2303 {kf : Nat} {G : gG} {w : gM → Nat → List (Nat × Value) → List Value → Prop} {Q : Int32 → gM → Prop} (hw : gX yL_law cL_law 8 (Option.some FieldType.boolean) [] kf G (gQi Q) gE0 w) {L : Nat} {xs : Nat → Int32} {b : Nat} (hkf : 1017 ≤ kf) (hv : gScr G b L xs) {R23 : Int32 → gM → Prop} {K2373_23 : gM → Prop} {K2389_23 : gM → Prop} {l3_13 : Nat} {l4_604 : Int32} {M : gM} (hR23 : ∀ (v0 : Int32) (M : gM), R23 v0 M → w M 23 [(0, .ref (gA G (gBig + b))), (1, .ref (gA G 16)), (2, .ref (gA G 268)), (3, .ref (gA G l3_13)), (4, .int v0)] []) (hK2373_23 : ∀  (M : gM), K2373_23 M → w M 2373 [] []) (hK2389_23 : ∀  (M : gM), K2389_23 M → w M 2389 [] []) (h : fL_law_b2303 L xs R23 K2373_23 K2389_23 l3_13 l4_604 M Q) : w M 2303 [(0, .ref (gA G (gBig + b))), (1, .ref (gA G 16)), (2, .ref (gA G 268)), (3, .ref (gA G l3_13)), (4, .int l4_604)] [] := by
  unfold fL_law_b2303 at h
  refine g_aload_n hw 1 dL_law_2303 rfl ?_
  refine g_aload_n hw 0 dL_law_2304 rfl ?_
  refine g_iload hw 4 dL_law_2305 rfl ?_
  refine g_iconst (v := 1) hw dL_law_2307 (by decide) ?_
  refine g_iadd hw dL_law_2308 ?_
  obtain ⟨hi605, h⟩ := h
  refine g_sciald (n := (l4_604 + 1).toNatClampNeg) hw hv dL_law_2309 hi605 rfl ?_
  refine g_aload_n hw 0 dL_law_2310 rfl ?_
  refine g_iload hw 4 dL_law_2311 rfl ?_
  refine g_iconst (v := 2) hw dL_law_2313 (by decide) ?_
  refine g_iadd hw dL_law_2314 ?_
  obtain ⟨hi606, h⟩ := h
  refine g_sciald (n := (l4_604 + 2).toNatClampNeg) hw hv dL_law_2315 hi606 rfl ?_
  refine g_aload_n hw 0 dL_law_2316 rfl ?_
  refine g_iload hw 4 dL_law_2317 rfl ?_
  refine g_iconst (v := 3) hw dL_law_2319 (by decide) ?_
  refine g_iadd hw dL_law_2320 ?_
  obtain ⟨hi607, h⟩ := h
  refine g_sciald (n := (l4_604 + 3).toNatClampNeg) hw hv dL_law_2321 hi607 rfl ?_
  refine g_aload_n hw 0 dL_law_2322 rfl ?_
  refine g_iload hw 4 dL_law_2323 rfl ?_
  refine g_iconst (v := 4) hw dL_law_2325 (by decide) ?_
  refine g_iadd hw dL_law_2326 ?_
  obtain ⟨hi608, h⟩ := h
  refine g_sciald (n := (l4_604 + 4).toNatClampNeg) hw hv dL_law_2327 hi608 rfl ?_
  refine g_aload_n hw 3 dL_law_2328 rfl ?_
  refine sX0_206 hw rfl dL_law_2329 rfl (gK2 hkf) h (fun r610 M609 h => ?_)
  refine g_istore hw (lv2 := [(0, .ref (gA G (gBig + b))), (1, .ref (gA G 16)), (2, .ref (gA G 268)), (3, .ref (gA G l3_13)), (4, .int l4_604), (5, .int r610)]) [1, 2, 3, 4, 5, 0] dL_law_2332 rfl rfl ?_
  refine g_aload_n hw 2 dL_law_2334 rfl ?_
  refine g_aload_n hw 0 dL_law_2335 rfl ?_
  refine g_iload hw 4 dL_law_2336 rfl ?_
  refine g_iconst (v := 1) hw dL_law_2338 (by decide) ?_
  refine g_iadd hw dL_law_2339 ?_
  obtain ⟨hi611, h⟩ := h
  refine g_sciald (n := (l4_604 + 1).toNatClampNeg) hw hv dL_law_2340 hi611 rfl ?_
  refine g_aload_n hw 0 dL_law_2341 rfl ?_
  refine g_iload hw 4 dL_law_2342 rfl ?_
  refine g_iconst (v := 2) hw dL_law_2344 (by decide) ?_
  refine g_iadd hw dL_law_2345 ?_
  obtain ⟨hi612, h⟩ := h
  refine g_sciald (n := (l4_604 + 2).toNatClampNeg) hw hv dL_law_2346 hi612 rfl ?_
  refine g_aload_n hw 0 dL_law_2347 rfl ?_
  refine g_iload hw 4 dL_law_2348 rfl ?_
  refine g_iconst (v := 3) hw dL_law_2350 (by decide) ?_
  refine g_iadd hw dL_law_2351 ?_
  obtain ⟨hi613, h⟩ := h
  refine g_sciald (n := (l4_604 + 3).toNatClampNeg) hw hv dL_law_2352 hi613 rfl ?_
  refine g_aload_n hw 0 dL_law_2353 rfl ?_
  refine g_iload hw 4 dL_law_2354 rfl ?_
  refine g_iconst (v := 4) hw dL_law_2356 (by decide) ?_
  refine g_iadd hw dL_law_2357 ?_
  obtain ⟨hi614, h⟩ := h
  refine g_sciald (n := (l4_604 + 4).toNatClampNeg) hw hv dL_law_2358 hi614 rfl ?_
  obtain ⟨hk615, h⟩ := h
  refine sX0_208 hw rfl dL_law_2359 rfl (gK2 hkf) hk615 h (fun r617 M616 h => ?_)
  refine g_lstore hw (lv2 := [(0, .ref (gA G (gBig + b))), (1, .ref (gA G 16)), (2, .ref (gA G 268)), (3, .ref (gA G l3_13)), (4, .int l4_604), (5, .int r610), (6, .long r617)]) [1, 2, 3, 4, 5, 6, 0] dL_law_2362 rfl rfl ?_
  refine g_aload_n hw 2 dL_law_2364 rfl ?_
  obtain ⟨hk618, h⟩ := h
  refine sX0_98 hw rfl dL_law_2365 rfl (gK2 hkf) hk618 h (fun r620 M619 h => ?_)
  refine g_iload hw 5 dL_law_2368 rfl ?_
  refine g_icmp_eq (tgt := 2375) hw dL_law_2370 (by decide) (fun hb621 => ?_) (fun hb621 => ?_)
  · have h := gT h hb621
    refine g_iload hw 5 dL_law_2375 rfl ?_
    refine g_if_ne (tgt := 2391) hw dL_law_2377 (by decide) (fun hb622 => ?_) (fun hb622 => ?_)
    · have h := gF h hb622
      refine g_sub hw (lv2 := [(0, .ref (gA G (gBig + b))), (1, .ref (gA G 16)), (2, .ref (gA G 268)), (3, .ref (gA G l3_13)), (4, .int l4_604)]) [0, 1, 2, 3, 4] rfl ?_
      exact wL_law_b2391 hw hkf hv hR23 h
    · have h := gT h hb622
      refine g_aload_n hw 3 dL_law_2380 rfl ?_
      refine g_iconst (v := 0) hw dL_law_2381 (by decide) ?_
      obtain ⟨hk624, h⟩ := h
      obtain ⟨hi625, h⟩ := h
      refine g_lald (n := 0) hw dL_law_2382 hk624 hi625 rfl ?_
      refine g_lload hw 6 dL_law_2383 rfl ?_
      refine g_lcmp hw dL_law_2385 ?_
      refine g_if_eq (tgt := 2391) hw dL_law_2386 (by decide) (fun hb626 => ?_) (fun hb626 => ?_)
      · have h := gT h hb626
        refine g_sub hw (lv2 := [(0, .ref (gA G (gBig + b))), (1, .ref (gA G 16)), (2, .ref (gA G 268)), (3, .ref (gA G l3_13)), (4, .int l4_604)]) [0, 1, 2, 3, 4] rfl ?_
        exact wL_law_b2391 hw hkf hv hR23 h
      · have h := gF h hb626
        refine g_sub hw (lv2 := []) [] rfl ?_
        exact hK2389_23 M619 h
  · have h := gF h hb621
    refine g_sub hw (lv2 := []) [] rfl ?_
    exact hK2373_23 M619 h
def fL_law_b2394 (L : Nat) (xs : Nat → Int32) (R23 : Int32 → gM → Prop) (K2454_23 : gM → Prop) (l3_13 : Nat) (l4_627 : Int32) (M : gM) (Q : Int32 → gM → Prop) : Prop :=
  vp_in (l4_627 + 1) L ∧ vp_in (l4_627 + 2) L ∧ vp_in (l4_627 + 3) L ∧ vp_in (l4_627 + 4) L ∧ gk M 16 = 1 ∧ fX1_lots (xs ((l4_627 + 1).toNatClampNeg)) (xs ((l4_627 + 2).toNatClampNeg)) (xs ((l4_627 + 3).toNatClampNeg)) (xs ((l4_627 + 4).toNatClampNeg)) M (fun r634 M633 => vp_in (l4_627 + 1) L ∧ vp_in (l4_627 + 2) L ∧ vp_in (l4_627 + 3) L ∧ vp_in (l4_627 + 4) L ∧ gk M633 268 = 7 ∧ fX7_lots (xs ((l4_627 + 1).toNatClampNeg)) (xs ((l4_627 + 2).toNatClampNeg)) (xs ((l4_627 + 3).toNatClampNeg)) (xs ((l4_627 + 4).toNatClampNeg)) M633 (fun r641 M640 => (if (lg_cmp r634 r641) = 0 then fL_law_b2724 L xs R23 l3_13 l4_627 M640 Q else K2454_23 M640)))
theorem wL_law_b2394 {kf : Nat} {G : gG} {w : gM → Nat → List (Nat × Value) → List Value → Prop} {Q : Int32 → gM → Prop} (hw : gX yL_law cL_law 8 (Option.some FieldType.boolean) [] kf G (gQi Q) gE0 w) {L : Nat} {xs : Nat → Int32} {b : Nat} (hkf : 1017 ≤ kf) (hv : gScr G b L xs) {R23 : Int32 → gM → Prop} {K2454_23 : gM → Prop} {l3_13 : Nat} {l4_627 : Int32} {M : gM} (hR23 : ∀ (v0 : Int32) (M : gM), R23 v0 M → w M 23 [(0, .ref (gA G (gBig + b))), (1, .ref (gA G 16)), (2, .ref (gA G 268)), (3, .ref (gA G l3_13)), (4, .int v0)] []) (hK2454_23 : ∀  (M : gM), K2454_23 M → w M 2454 [] []) (h : fL_law_b2394 L xs R23 K2454_23 l3_13 l4_627 M Q) : w M 2394 [(0, .ref (gA G (gBig + b))), (1, .ref (gA G 16)), (2, .ref (gA G 268)), (3, .ref (gA G l3_13)), (4, .int l4_627)] [] := by
  unfold fL_law_b2394 at h
  refine g_aload_n hw 1 dL_law_2394 rfl ?_
  refine g_aload_n hw 0 dL_law_2395 rfl ?_
  refine g_iload hw 4 dL_law_2396 rfl ?_
  refine g_iconst (v := 1) hw dL_law_2398 (by decide) ?_
  refine g_iadd hw dL_law_2399 ?_
  obtain ⟨hi628, h⟩ := h
  refine g_sciald (n := (l4_627 + 1).toNatClampNeg) hw hv dL_law_2400 hi628 rfl ?_
  refine g_aload_n hw 0 dL_law_2401 rfl ?_
  refine g_iload hw 4 dL_law_2402 rfl ?_
  refine g_iconst (v := 2) hw dL_law_2404 (by decide) ?_
  refine g_iadd hw dL_law_2405 ?_
  obtain ⟨hi629, h⟩ := h
  refine g_sciald (n := (l4_627 + 2).toNatClampNeg) hw hv dL_law_2406 hi629 rfl ?_
  refine g_aload_n hw 0 dL_law_2407 rfl ?_
  refine g_iload hw 4 dL_law_2408 rfl ?_
  refine g_iconst (v := 3) hw dL_law_2410 (by decide) ?_
  refine g_iadd hw dL_law_2411 ?_
  obtain ⟨hi630, h⟩ := h
  refine g_sciald (n := (l4_627 + 3).toNatClampNeg) hw hv dL_law_2412 hi630 rfl ?_
  refine g_aload_n hw 0 dL_law_2413 rfl ?_
  refine g_iload hw 4 dL_law_2414 rfl ?_
  refine g_iconst (v := 4) hw dL_law_2416 (by decide) ?_
  refine g_iadd hw dL_law_2417 ?_
  obtain ⟨hi631, h⟩ := h
  refine g_sciald (n := (l4_627 + 4).toNatClampNeg) hw hv dL_law_2418 hi631 rfl ?_
  obtain ⟨hk632, h⟩ := h
  refine sX0_209 hw rfl dL_law_2419 rfl (gK2 hkf) hk632 h (fun r634 M633 h => ?_)
  refine g_aload_n hw 2 dL_law_2422 rfl ?_
  refine g_aload_n hw 0 dL_law_2423 rfl ?_
  refine g_iload hw 4 dL_law_2424 rfl ?_
  refine g_iconst (v := 1) hw dL_law_2426 (by decide) ?_
  refine g_iadd hw dL_law_2427 ?_
  obtain ⟨hi635, h⟩ := h
  refine g_sciald (n := (l4_627 + 1).toNatClampNeg) hw hv dL_law_2428 hi635 rfl ?_
  refine g_aload_n hw 0 dL_law_2429 rfl ?_
  refine g_iload hw 4 dL_law_2430 rfl ?_
  refine g_iconst (v := 2) hw dL_law_2432 (by decide) ?_
  refine g_iadd hw dL_law_2433 ?_
  obtain ⟨hi636, h⟩ := h
  refine g_sciald (n := (l4_627 + 2).toNatClampNeg) hw hv dL_law_2434 hi636 rfl ?_
  refine g_aload_n hw 0 dL_law_2435 rfl ?_
  refine g_iload hw 4 dL_law_2436 rfl ?_
  refine g_iconst (v := 3) hw dL_law_2438 (by decide) ?_
  refine g_iadd hw dL_law_2439 ?_
  obtain ⟨hi637, h⟩ := h
  refine g_sciald (n := (l4_627 + 3).toNatClampNeg) hw hv dL_law_2440 hi637 rfl ?_
  refine g_aload_n hw 0 dL_law_2441 rfl ?_
  refine g_iload hw 4 dL_law_2442 rfl ?_
  refine g_iconst (v := 4) hw dL_law_2444 (by decide) ?_
  refine g_iadd hw dL_law_2445 ?_
  obtain ⟨hi638, h⟩ := h
  refine g_sciald (n := (l4_627 + 4).toNatClampNeg) hw hv dL_law_2446 hi638 rfl ?_
  obtain ⟨hk639, h⟩ := h
  refine sX0_212 hw rfl dL_law_2447 rfl (gK2 hkf) hk639 h (fun r641 M640 h => ?_)
  refine g_lcmp hw dL_law_2450 ?_
  refine g_if_eq (tgt := 2724) hw dL_law_2451 (by decide) (fun hb642 => ?_) (fun hb642 => ?_)
  · have h := gT h hb642
    exact wL_law_b2724 hw hkf hv hR23 h
  · have h := gF h hb642
    refine g_sub hw (lv2 := []) [] rfl ?_
    exact hK2454_23 M640 h
def fL_law_b2456 (L : Nat) (xs : Nat → Int32) (R23 : Int32 → gM → Prop) (K2503_23 : gM → Prop) (l3_13 : Nat) (l4_643 : Int32) (M : gM) (Q : Int32 → gM → Prop) : Prop :=
  vp_in (l4_643 + 1) L ∧ vp_in (l4_643 + 2) L ∧ vp_in (l4_643 + 3) L ∧ gk M 16 = 1 ∧ fX1_needed (xs ((l4_643 + 1).toNatClampNeg)) (xs ((l4_643 + 2).toNatClampNeg)) (xs ((l4_643 + 3).toNatClampNeg)) M (fun r649 M648 => vp_in (l4_643 + 1) L ∧ vp_in (l4_643 + 2) L ∧ vp_in (l4_643 + 3) L ∧ gk M648 268 = 7 ∧ fX7_needed (xs ((l4_643 + 1).toNatClampNeg)) (xs ((l4_643 + 2).toNatClampNeg)) (xs ((l4_643 + 3).toNatClampNeg)) M648 (fun r655 M654 => (if r649 = r655 then fL_law_b2724 L xs R23 l3_13 l4_643 M654 Q else K2503_23 M654)))
theorem wL_law_b2456 {kf : Nat} {G : gG} {w : gM → Nat → List (Nat × Value) → List Value → Prop} {Q : Int32 → gM → Prop} (hw : gX yL_law cL_law 8 (Option.some FieldType.boolean) [] kf G (gQi Q) gE0 w) {L : Nat} {xs : Nat → Int32} {b : Nat} (hkf : 1017 ≤ kf) (hv : gScr G b L xs) {R23 : Int32 → gM → Prop} {K2503_23 : gM → Prop} {l3_13 : Nat} {l4_643 : Int32} {M : gM} (hR23 : ∀ (v0 : Int32) (M : gM), R23 v0 M → w M 23 [(0, .ref (gA G (gBig + b))), (1, .ref (gA G 16)), (2, .ref (gA G 268)), (3, .ref (gA G l3_13)), (4, .int v0)] []) (hK2503_23 : ∀  (M : gM), K2503_23 M → w M 2503 [] []) (h : fL_law_b2456 L xs R23 K2503_23 l3_13 l4_643 M Q) : w M 2456 [(0, .ref (gA G (gBig + b))), (1, .ref (gA G 16)), (2, .ref (gA G 268)), (3, .ref (gA G l3_13)), (4, .int l4_643)] [] := by
  unfold fL_law_b2456 at h
  refine g_aload_n hw 1 dL_law_2456 rfl ?_
  refine g_aload_n hw 0 dL_law_2457 rfl ?_
  refine g_iload hw 4 dL_law_2458 rfl ?_
  refine g_iconst (v := 1) hw dL_law_2460 (by decide) ?_
  refine g_iadd hw dL_law_2461 ?_
  obtain ⟨hi644, h⟩ := h
  refine g_sciald (n := (l4_643 + 1).toNatClampNeg) hw hv dL_law_2462 hi644 rfl ?_
  refine g_aload_n hw 0 dL_law_2463 rfl ?_
  refine g_iload hw 4 dL_law_2464 rfl ?_
  refine g_iconst (v := 2) hw dL_law_2466 (by decide) ?_
  refine g_iadd hw dL_law_2467 ?_
  obtain ⟨hi645, h⟩ := h
  refine g_sciald (n := (l4_643 + 2).toNatClampNeg) hw hv dL_law_2468 hi645 rfl ?_
  refine g_aload_n hw 0 dL_law_2469 rfl ?_
  refine g_iload hw 4 dL_law_2470 rfl ?_
  refine g_iconst (v := 3) hw dL_law_2472 (by decide) ?_
  refine g_iadd hw dL_law_2473 ?_
  obtain ⟨hi646, h⟩ := h
  refine g_sciald (n := (l4_643 + 3).toNatClampNeg) hw hv dL_law_2474 hi646 rfl ?_
  obtain ⟨hk647, h⟩ := h
  refine sX0_213 hw rfl dL_law_2475 rfl (gK2 hkf) hk647 h (fun r649 M648 h => ?_)
  refine g_aload_n hw 2 dL_law_2478 rfl ?_
  refine g_aload_n hw 0 dL_law_2479 rfl ?_
  refine g_iload hw 4 dL_law_2480 rfl ?_
  refine g_iconst (v := 1) hw dL_law_2482 (by decide) ?_
  refine g_iadd hw dL_law_2483 ?_
  obtain ⟨hi650, h⟩ := h
  refine g_sciald (n := (l4_643 + 1).toNatClampNeg) hw hv dL_law_2484 hi650 rfl ?_
  refine g_aload_n hw 0 dL_law_2485 rfl ?_
  refine g_iload hw 4 dL_law_2486 rfl ?_
  refine g_iconst (v := 2) hw dL_law_2488 (by decide) ?_
  refine g_iadd hw dL_law_2489 ?_
  obtain ⟨hi651, h⟩ := h
  refine g_sciald (n := (l4_643 + 2).toNatClampNeg) hw hv dL_law_2490 hi651 rfl ?_
  refine g_aload_n hw 0 dL_law_2491 rfl ?_
  refine g_iload hw 4 dL_law_2492 rfl ?_
  refine g_iconst (v := 3) hw dL_law_2494 (by decide) ?_
  refine g_iadd hw dL_law_2495 ?_
  obtain ⟨hi652, h⟩ := h
  refine g_sciald (n := (l4_643 + 3).toNatClampNeg) hw hv dL_law_2496 hi652 rfl ?_
  obtain ⟨hk653, h⟩ := h
  refine sX0_217 hw rfl dL_law_2497 rfl (gK2 hkf) hk653 h (fun r655 M654 h => ?_)
  refine g_icmp_eq (tgt := 2724) hw dL_law_2500 (by decide) (fun hb656 => ?_) (fun hb656 => ?_)
  · have h := gT h hb656
    exact wL_law_b2724 hw hkf hv hR23 h
  · have h := gF h hb656
    refine g_sub hw (lv2 := []) [] rfl ?_
    exact hK2503_23 M654 h
def fL_law_b2505 (L : Nat) (xs : Nat → Int32) (R23 : Int32 → gM → Prop) (K2540_23 : gM → Prop) (l3_13 : Nat) (l4_657 : Int32) (M : gM) (Q : Int32 → gM → Prop) : Prop :=
  vp_in (l4_657 + 1) L ∧ vp_in (l4_657 + 2) L ∧ gk M 16 = 1 ∧ fX1_slips (xs ((l4_657 + 1).toNatClampNeg)) (xs ((l4_657 + 2).toNatClampNeg)) M (fun r662 M661 => vp_in (l4_657 + 1) L ∧ vp_in (l4_657 + 2) L ∧ gk M661 268 = 7 ∧ fX7_slips (xs ((l4_657 + 1).toNatClampNeg)) (xs ((l4_657 + 2).toNatClampNeg)) M661 (fun r667 M666 => (if r662 = r667 then fL_law_b2724 L xs R23 l3_13 l4_657 M666 Q else K2540_23 M666)))
theorem wL_law_b2505 {kf : Nat} {G : gG} {w : gM → Nat → List (Nat × Value) → List Value → Prop} {Q : Int32 → gM → Prop} (hw : gX yL_law cL_law 8 (Option.some FieldType.boolean) [] kf G (gQi Q) gE0 w) {L : Nat} {xs : Nat → Int32} {b : Nat} (hkf : 1017 ≤ kf) (hv : gScr G b L xs) {R23 : Int32 → gM → Prop} {K2540_23 : gM → Prop} {l3_13 : Nat} {l4_657 : Int32} {M : gM} (hR23 : ∀ (v0 : Int32) (M : gM), R23 v0 M → w M 23 [(0, .ref (gA G (gBig + b))), (1, .ref (gA G 16)), (2, .ref (gA G 268)), (3, .ref (gA G l3_13)), (4, .int v0)] []) (hK2540_23 : ∀  (M : gM), K2540_23 M → w M 2540 [] []) (h : fL_law_b2505 L xs R23 K2540_23 l3_13 l4_657 M Q) : w M 2505 [(0, .ref (gA G (gBig + b))), (1, .ref (gA G 16)), (2, .ref (gA G 268)), (3, .ref (gA G l3_13)), (4, .int l4_657)] [] := by
  unfold fL_law_b2505 at h
  refine g_aload_n hw 1 dL_law_2505 rfl ?_
  refine g_aload_n hw 0 dL_law_2506 rfl ?_
  refine g_iload hw 4 dL_law_2507 rfl ?_
  refine g_iconst (v := 1) hw dL_law_2509 (by decide) ?_
  refine g_iadd hw dL_law_2510 ?_
  obtain ⟨hi658, h⟩ := h
  refine g_sciald (n := (l4_657 + 1).toNatClampNeg) hw hv dL_law_2511 hi658 rfl ?_
  refine g_aload_n hw 0 dL_law_2512 rfl ?_
  refine g_iload hw 4 dL_law_2513 rfl ?_
  refine g_iconst (v := 2) hw dL_law_2515 (by decide) ?_
  refine g_iadd hw dL_law_2516 ?_
  obtain ⟨hi659, h⟩ := h
  refine g_sciald (n := (l4_657 + 2).toNatClampNeg) hw hv dL_law_2517 hi659 rfl ?_
  obtain ⟨hk660, h⟩ := h
  refine sX0_218 hw rfl dL_law_2518 rfl (gK2 hkf) hk660 h (fun r662 M661 h => ?_)
  refine g_aload_n hw 2 dL_law_2521 rfl ?_
  refine g_aload_n hw 0 dL_law_2522 rfl ?_
  refine g_iload hw 4 dL_law_2523 rfl ?_
  refine g_iconst (v := 1) hw dL_law_2525 (by decide) ?_
  refine g_iadd hw dL_law_2526 ?_
  obtain ⟨hi663, h⟩ := h
  refine g_sciald (n := (l4_657 + 1).toNatClampNeg) hw hv dL_law_2527 hi663 rfl ?_
  refine g_aload_n hw 0 dL_law_2528 rfl ?_
  refine g_iload hw 4 dL_law_2529 rfl ?_
  refine g_iconst (v := 2) hw dL_law_2531 (by decide) ?_
  refine g_iadd hw dL_law_2532 ?_
  obtain ⟨hi664, h⟩ := h
  refine g_sciald (n := (l4_657 + 2).toNatClampNeg) hw hv dL_law_2533 hi664 rfl ?_
  obtain ⟨hk665, h⟩ := h
  refine sX0_221 hw rfl dL_law_2534 rfl (gK2 hkf) hk665 h (fun r667 M666 h => ?_)
  refine g_icmp_eq (tgt := 2724) hw dL_law_2537 (by decide) (fun hb668 => ?_) (fun hb668 => ?_)
  · have h := gT h hb668
    exact wL_law_b2724 hw hkf hv hR23 h
  · have h := gF h hb668
    refine g_sub hw (lv2 := []) [] rfl ?_
    exact hK2540_23 M666 h
def fL_law_b2618 (L : Nat) (xs : Nat → Int32) (R23 : Int32 → gM → Prop) (l3_13 : Nat) (l4_686 : Int32) (M : gM) (Q : Int32 → gM → Prop) : Prop :=
  fL_law_b2724 L xs R23 l3_13 l4_686 M Q
theorem wL_law_b2618 {kf : Nat} {G : gG} {w : gM → Nat → List (Nat × Value) → List Value → Prop} {Q : Int32 → gM → Prop} (hw : gX yL_law cL_law 8 (Option.some FieldType.boolean) [] kf G (gQi Q) gE0 w) {L : Nat} {xs : Nat → Int32} {b : Nat} (hkf : 1017 ≤ kf) (hv : gScr G b L xs) {R23 : Int32 → gM → Prop} {l3_13 : Nat} {l4_686 : Int32} {M : gM} (hR23 : ∀ (v0 : Int32) (M : gM), R23 v0 M → w M 23 [(0, .ref (gA G (gBig + b))), (1, .ref (gA G 16)), (2, .ref (gA G 268)), (3, .ref (gA G l3_13)), (4, .int v0)] []) (h : fL_law_b2618 L xs R23 l3_13 l4_686 M Q) : w M 2618 [(0, .ref (gA G (gBig + b))), (1, .ref (gA G 16)), (2, .ref (gA G 268)), (3, .ref (gA G l3_13)), (4, .int l4_686)] [] := by
  unfold fL_law_b2618 at h
  refine g_goto (tgt := 2724) hw dL_law_2618 (by decide) ?_
  exact wL_law_b2724 hw hkf hv hR23 h
def fL_law_b2542 (L : Nat) (xs : Nat → Int32) (R23 : Int32 → gM → Prop) (K2600_23 : gM → Prop) (K2616_23 : gM → Prop) (l3_13 : Nat) (l4_669 : Int32) (M : gM) (Q : Int32 → gM → Prop) : Prop :=
  vp_in (l4_669 + 1) L ∧ vp_in (l4_669 + 2) L ∧ vp_in (l4_669 + 3) L ∧ fX0_mixed (xs ((l4_669 + 1).toNatClampNeg)) (xs ((l4_669 + 2).toNatClampNeg)) (xs ((l4_669 + 3).toNatClampNeg)) l3_13 M (fun r674 M673 => vp_in (l4_669 + 1) L ∧ vp_in (l4_669 + 2) L ∧ vp_in (l4_669 + 3) L ∧ gk M673 268 = 7 ∧ fX7_mixed (xs ((l4_669 + 1).toNatClampNeg)) (xs ((l4_669 + 2).toNatClampNeg)) (xs ((l4_669 + 3).toNatClampNeg)) M673 (fun r680 M679 => gk M679 268 = 7 ∧ fX7_thrown M679 (fun r683 M682 => (if r683 = r674 then (if r674 = 0 then gk M682 l3_13 = 41 ∧ vp_in 0 (gl M682 l3_13) ∧ (if (lg_cmp (gL M682 l3_13 0) r680) = 0 then fL_law_b2618 L xs R23 l3_13 l4_669 M682 Q else K2616_23 M682) else fL_law_b2618 L xs R23 l3_13 l4_669 M682 Q) else K2600_23 M682))))
theorem wL_law_b2542 {kf : Nat} {G : gG} {w : gM → Nat → List (Nat × Value) → List Value → Prop} {Q : Int32 → gM → Prop} (hw : gX yL_law cL_law 8 (Option.some FieldType.boolean) [] kf G (gQi Q) gE0 w) {L : Nat} {xs : Nat → Int32} {b : Nat} (hkf : 1017 ≤ kf) (hv : gScr G b L xs) {R23 : Int32 → gM → Prop} {K2600_23 : gM → Prop} {K2616_23 : gM → Prop} {l3_13 : Nat} {l4_669 : Int32} {M : gM} (hR23 : ∀ (v0 : Int32) (M : gM), R23 v0 M → w M 23 [(0, .ref (gA G (gBig + b))), (1, .ref (gA G 16)), (2, .ref (gA G 268)), (3, .ref (gA G l3_13)), (4, .int v0)] []) (hK2600_23 : ∀  (M : gM), K2600_23 M → w M 2600 [] []) (hK2616_23 : ∀  (M : gM), K2616_23 M → w M 2616 [] []) (h : fL_law_b2542 L xs R23 K2600_23 K2616_23 l3_13 l4_669 M Q) : w M 2542 [(0, .ref (gA G (gBig + b))), (1, .ref (gA G 16)), (2, .ref (gA G 268)), (3, .ref (gA G l3_13)), (4, .int l4_669)] [] := by
  unfold fL_law_b2542 at h
  refine g_aload_n hw 1 dL_law_2542 rfl ?_
  refine g_aload_n hw 0 dL_law_2543 rfl ?_
  refine g_iload hw 4 dL_law_2544 rfl ?_
  refine g_iconst (v := 1) hw dL_law_2546 (by decide) ?_
  refine g_iadd hw dL_law_2547 ?_
  obtain ⟨hi670, h⟩ := h
  refine g_sciald (n := (l4_669 + 1).toNatClampNeg) hw hv dL_law_2548 hi670 rfl ?_
  refine g_aload_n hw 0 dL_law_2549 rfl ?_
  refine g_iload hw 4 dL_law_2550 rfl ?_
  refine g_iconst (v := 2) hw dL_law_2552 (by decide) ?_
  refine g_iadd hw dL_law_2553 ?_
  obtain ⟨hi671, h⟩ := h
  refine g_sciald (n := (l4_669 + 2).toNatClampNeg) hw hv dL_law_2554 hi671 rfl ?_
  refine g_aload_n hw 0 dL_law_2555 rfl ?_
  refine g_iload hw 4 dL_law_2556 rfl ?_
  refine g_iconst (v := 3) hw dL_law_2558 (by decide) ?_
  refine g_iadd hw dL_law_2559 ?_
  obtain ⟨hi672, h⟩ := h
  refine g_sciald (n := (l4_669 + 3).toNatClampNeg) hw hv dL_law_2560 hi672 rfl ?_
  refine g_aload_n hw 3 dL_law_2561 rfl ?_
  refine sX0_222 hw rfl dL_law_2562 rfl (gK2 hkf) h (fun r674 M673 h => ?_)
  refine g_istore hw (lv2 := [(0, .ref (gA G (gBig + b))), (1, .ref (gA G 16)), (2, .ref (gA G 268)), (3, .ref (gA G l3_13)), (4, .int l4_669), (5, .int r674)]) [1, 2, 3, 4, 5, 0] dL_law_2565 rfl rfl ?_
  refine g_aload_n hw 2 dL_law_2567 rfl ?_
  refine g_aload_n hw 0 dL_law_2568 rfl ?_
  refine g_iload hw 4 dL_law_2569 rfl ?_
  refine g_iconst (v := 1) hw dL_law_2571 (by decide) ?_
  refine g_iadd hw dL_law_2572 ?_
  obtain ⟨hi675, h⟩ := h
  refine g_sciald (n := (l4_669 + 1).toNatClampNeg) hw hv dL_law_2573 hi675 rfl ?_
  refine g_aload_n hw 0 dL_law_2574 rfl ?_
  refine g_iload hw 4 dL_law_2575 rfl ?_
  refine g_iconst (v := 2) hw dL_law_2577 (by decide) ?_
  refine g_iadd hw dL_law_2578 ?_
  obtain ⟨hi676, h⟩ := h
  refine g_sciald (n := (l4_669 + 2).toNatClampNeg) hw hv dL_law_2579 hi676 rfl ?_
  refine g_aload_n hw 0 dL_law_2580 rfl ?_
  refine g_iload hw 4 dL_law_2581 rfl ?_
  refine g_iconst (v := 3) hw dL_law_2583 (by decide) ?_
  refine g_iadd hw dL_law_2584 ?_
  obtain ⟨hi677, h⟩ := h
  refine g_sciald (n := (l4_669 + 3).toNatClampNeg) hw hv dL_law_2585 hi677 rfl ?_
  obtain ⟨hk678, h⟩ := h
  refine sX0_224 hw rfl dL_law_2586 rfl (gK2 hkf) hk678 h (fun r680 M679 h => ?_)
  refine g_lstore hw (lv2 := [(0, .ref (gA G (gBig + b))), (1, .ref (gA G 16)), (2, .ref (gA G 268)), (3, .ref (gA G l3_13)), (4, .int l4_669), (5, .int r674), (6, .long r680)]) [1, 2, 3, 4, 5, 6, 0] dL_law_2589 rfl rfl ?_
  refine g_aload_n hw 2 dL_law_2591 rfl ?_
  obtain ⟨hk681, h⟩ := h
  refine sX0_98 hw rfl dL_law_2592 rfl (gK2 hkf) hk681 h (fun r683 M682 h => ?_)
  refine g_iload hw 5 dL_law_2595 rfl ?_
  refine g_icmp_eq (tgt := 2602) hw dL_law_2597 (by decide) (fun hb684 => ?_) (fun hb684 => ?_)
  · have h := gT h hb684
    refine g_iload hw 5 dL_law_2602 rfl ?_
    refine g_if_ne (tgt := 2618) hw dL_law_2604 (by decide) (fun hb685 => ?_) (fun hb685 => ?_)
    · have h := gF h hb685
      refine g_sub hw (lv2 := [(0, .ref (gA G (gBig + b))), (1, .ref (gA G 16)), (2, .ref (gA G 268)), (3, .ref (gA G l3_13)), (4, .int l4_669)]) [0, 1, 2, 3, 4] rfl ?_
      exact wL_law_b2618 hw hkf hv hR23 h
    · have h := gT h hb685
      refine g_aload_n hw 3 dL_law_2607 rfl ?_
      refine g_iconst (v := 0) hw dL_law_2608 (by decide) ?_
      obtain ⟨hk687, h⟩ := h
      obtain ⟨hi688, h⟩ := h
      refine g_lald (n := 0) hw dL_law_2609 hk687 hi688 rfl ?_
      refine g_lload hw 6 dL_law_2610 rfl ?_
      refine g_lcmp hw dL_law_2612 ?_
      refine g_if_eq (tgt := 2618) hw dL_law_2613 (by decide) (fun hb689 => ?_) (fun hb689 => ?_)
      · have h := gT h hb689
        refine g_sub hw (lv2 := [(0, .ref (gA G (gBig + b))), (1, .ref (gA G 16)), (2, .ref (gA G 268)), (3, .ref (gA G l3_13)), (4, .int l4_669)]) [0, 1, 2, 3, 4] rfl ?_
        exact wL_law_b2618 hw hkf hv hR23 h
      · have h := gF h hb689
        refine g_sub hw (lv2 := []) [] rfl ?_
        exact hK2616_23 M682 h
  · have h := gF h hb684
    refine g_sub hw (lv2 := []) [] rfl ?_
    exact hK2600_23 M682 h
def fL_law_b2621 (L : Nat) (xs : Nat → Int32) (R23 : Int32 → gM → Prop) (K2644_23 : gM → Prop) (l3_13 : Nat) (l4_690 : Int32) (M : gM) (Q : Int32 → gM → Prop) : Prop :=
  vp_in (l4_690 + 1) L ∧ gk M 16 = 1 ∧ fX1_where (xs ((l4_690 + 1).toNatClampNeg)) M (fun r694 M693 => vp_in (l4_690 + 1) L ∧ gk M693 268 = 7 ∧ fX7_where (xs ((l4_690 + 1).toNatClampNeg)) M693 (fun r698 M697 => (if r694 = r698 then fL_law_b2724 L xs R23 l3_13 l4_690 M697 Q else K2644_23 M697)))
theorem wL_law_b2621 {kf : Nat} {G : gG} {w : gM → Nat → List (Nat × Value) → List Value → Prop} {Q : Int32 → gM → Prop} (hw : gX yL_law cL_law 8 (Option.some FieldType.boolean) [] kf G (gQi Q) gE0 w) {L : Nat} {xs : Nat → Int32} {b : Nat} (hkf : 1017 ≤ kf) (hv : gScr G b L xs) {R23 : Int32 → gM → Prop} {K2644_23 : gM → Prop} {l3_13 : Nat} {l4_690 : Int32} {M : gM} (hR23 : ∀ (v0 : Int32) (M : gM), R23 v0 M → w M 23 [(0, .ref (gA G (gBig + b))), (1, .ref (gA G 16)), (2, .ref (gA G 268)), (3, .ref (gA G l3_13)), (4, .int v0)] []) (hK2644_23 : ∀  (M : gM), K2644_23 M → w M 2644 [] []) (h : fL_law_b2621 L xs R23 K2644_23 l3_13 l4_690 M Q) : w M 2621 [(0, .ref (gA G (gBig + b))), (1, .ref (gA G 16)), (2, .ref (gA G 268)), (3, .ref (gA G l3_13)), (4, .int l4_690)] [] := by
  unfold fL_law_b2621 at h
  refine g_aload_n hw 1 dL_law_2621 rfl ?_
  refine g_aload_n hw 0 dL_law_2622 rfl ?_
  refine g_iload hw 4 dL_law_2623 rfl ?_
  refine g_iconst (v := 1) hw dL_law_2625 (by decide) ?_
  refine g_iadd hw dL_law_2626 ?_
  obtain ⟨hi691, h⟩ := h
  refine g_sciald (n := (l4_690 + 1).toNatClampNeg) hw hv dL_law_2627 hi691 rfl ?_
  obtain ⟨hk692, h⟩ := h
  refine sX0_225 hw rfl dL_law_2628 rfl (gK2 hkf) hk692 h (fun r694 M693 h => ?_)
  refine g_aload_n hw 2 dL_law_2631 rfl ?_
  refine g_aload_n hw 0 dL_law_2632 rfl ?_
  refine g_iload hw 4 dL_law_2633 rfl ?_
  refine g_iconst (v := 1) hw dL_law_2635 (by decide) ?_
  refine g_iadd hw dL_law_2636 ?_
  obtain ⟨hi695, h⟩ := h
  refine g_sciald (n := (l4_690 + 1).toNatClampNeg) hw hv dL_law_2637 hi695 rfl ?_
  obtain ⟨hk696, h⟩ := h
  refine sX0_228 hw rfl dL_law_2638 rfl (gK2 hkf) hk696 h (fun r698 M697 h => ?_)
  refine g_icmp_eq (tgt := 2724) hw dL_law_2641 (by decide) (fun hb699 => ?_) (fun hb699 => ?_)
  · have h := gT h hb699
    exact wL_law_b2724 hw hkf hv hR23 h
  · have h := gF h hb699
    refine g_sub hw (lv2 := []) [] rfl ?_
    exact hK2644_23 M697 h
def fL_law_b2691 (L : Nat) (xs : Nat → Int32) (R23 : Int32 → gM → Prop) (K2697_23 : gM → Prop) (l3_13 : Nat) (l4_713 : Int32) (s0_714 : Int32) (s2_715 : Int32) (s3_716 : Int32) (M : gM) (Q : Int32 → gM → Prop) : Prop :=
  gk M 268 = 7 ∧ fX7_mark s2_715 s3_716 M (fun r719 M718 => (if s0_714 = r719 then fL_law_b2724 L xs R23 l3_13 l4_713 M718 Q else K2697_23 M718))
theorem wL_law_b2691 {kf : Nat} {G : gG} {w : gM → Nat → List (Nat × Value) → List Value → Prop} {Q : Int32 → gM → Prop} (hw : gX yL_law cL_law 8 (Option.some FieldType.boolean) [] kf G (gQi Q) gE0 w) {L : Nat} {xs : Nat → Int32} {b : Nat} (hkf : 1017 ≤ kf) (hv : gScr G b L xs) {R23 : Int32 → gM → Prop} {K2697_23 : gM → Prop} {l3_13 : Nat} {l4_713 : Int32} {s0_714 : Int32} {s2_715 : Int32} {s3_716 : Int32} {M : gM} (hR23 : ∀ (v0 : Int32) (M : gM), R23 v0 M → w M 23 [(0, .ref (gA G (gBig + b))), (1, .ref (gA G 16)), (2, .ref (gA G 268)), (3, .ref (gA G l3_13)), (4, .int v0)] []) (hK2697_23 : ∀  (M : gM), K2697_23 M → w M 2697 [] []) (h : fL_law_b2691 L xs R23 K2697_23 l3_13 l4_713 s0_714 s2_715 s3_716 M Q) : w M 2691 [(0, .ref (gA G (gBig + b))), (1, .ref (gA G 16)), (2, .ref (gA G 268)), (3, .ref (gA G l3_13)), (4, .int l4_713)] [.int s3_716, .int s2_715, .ref (gA G 268), .int s0_714] := by
  unfold fL_law_b2691 at h
  obtain ⟨hk717, h⟩ := h
  refine sX0_233 hw rfl dL_law_2691 rfl (gK2 hkf) hk717 h (fun r719 M718 h => ?_)
  refine g_icmp_eq (tgt := 2724) hw dL_law_2694 (by decide) (fun hb720 => ?_) (fun hb720 => ?_)
  · have h := gT h hb720
    exact wL_law_b2724 hw hkf hv hR23 h
  · have h := gF h hb720
    refine g_sub hw (lv2 := []) [] rfl ?_
    exact hK2697_23 M718 h
def fL_law_b2667 (L : Nat) (xs : Nat → Int32) (R23 : Int32 → gM → Prop) (K2697_23 : gM → Prop) (l3_13 : Nat) (l4_704 : Int32) (s1_705 : Int32) (s2_706 : Int32) (M : gM) (Q : Int32 → gM → Prop) : Prop :=
  gk M 16 = 1 ∧ fX1_mark s1_705 s2_706 M (fun r709 M708 => vp_in (l4_704 + 1) L ∧ vp_in (l4_704 + 2) L ∧ (if (xs ((l4_704 + 2).toNatClampNeg)) = 0 then fL_law_b2691 L xs R23 K2697_23 l3_13 l4_704 r709 (xs ((l4_704 + 1).toNatClampNeg)) 0 M708 Q else fL_law_b2691 L xs R23 K2697_23 l3_13 l4_704 r709 (xs ((l4_704 + 1).toNatClampNeg)) 1 M708 Q))
theorem wL_law_b2667 {kf : Nat} {G : gG} {w : gM → Nat → List (Nat × Value) → List Value → Prop} {Q : Int32 → gM → Prop} (hw : gX yL_law cL_law 8 (Option.some FieldType.boolean) [] kf G (gQi Q) gE0 w) {L : Nat} {xs : Nat → Int32} {b : Nat} (hkf : 1017 ≤ kf) (hv : gScr G b L xs) {R23 : Int32 → gM → Prop} {K2697_23 : gM → Prop} {l3_13 : Nat} {l4_704 : Int32} {s1_705 : Int32} {s2_706 : Int32} {M : gM} (hR23 : ∀ (v0 : Int32) (M : gM), R23 v0 M → w M 23 [(0, .ref (gA G (gBig + b))), (1, .ref (gA G 16)), (2, .ref (gA G 268)), (3, .ref (gA G l3_13)), (4, .int v0)] []) (hK2697_23 : ∀  (M : gM), K2697_23 M → w M 2697 [] []) (h : fL_law_b2667 L xs R23 K2697_23 l3_13 l4_704 s1_705 s2_706 M Q) : w M 2667 [(0, .ref (gA G (gBig + b))), (1, .ref (gA G 16)), (2, .ref (gA G 268)), (3, .ref (gA G l3_13)), (4, .int l4_704)] [.int s2_706, .int s1_705, .ref (gA G 16)] := by
  unfold fL_law_b2667 at h
  obtain ⟨hk707, h⟩ := h
  refine sX0_229 hw rfl dL_law_2667 rfl (gK2 hkf) hk707 h (fun r709 M708 h => ?_)
  refine g_aload_n hw 2 dL_law_2670 rfl ?_
  refine g_aload_n hw 0 dL_law_2671 rfl ?_
  refine g_iload hw 4 dL_law_2672 rfl ?_
  refine g_iconst (v := 1) hw dL_law_2674 (by decide) ?_
  refine g_iadd hw dL_law_2675 ?_
  obtain ⟨hi710, h⟩ := h
  refine g_sciald (n := (l4_704 + 1).toNatClampNeg) hw hv dL_law_2676 hi710 rfl ?_
  refine g_aload_n hw 0 dL_law_2677 rfl ?_
  refine g_iload hw 4 dL_law_2678 rfl ?_
  refine g_iconst (v := 2) hw dL_law_2680 (by decide) ?_
  refine g_iadd hw dL_law_2681 ?_
  obtain ⟨hi711, h⟩ := h
  refine g_sciald (n := (l4_704 + 2).toNatClampNeg) hw hv dL_law_2682 hi711 rfl ?_
  refine g_if_eq (tgt := 2690) hw dL_law_2683 (by decide) (fun hb712 => ?_) (fun hb712 => ?_)
  · have h := gT h hb712
    refine g_iconst (v := 0) hw dL_law_2690 (by decide) ?_
    exact wL_law_b2691 hw hkf hv hR23 hK2697_23 h
  · have h := gF h hb712
    refine g_iconst (v := 1) hw dL_law_2686 (by decide) ?_
    refine g_goto (tgt := 2691) hw dL_law_2687 (by decide) ?_
    exact wL_law_b2691 hw hkf hv hR23 hK2697_23 h
def fL_law_b2646 (L : Nat) (xs : Nat → Int32) (R23 : Int32 → gM → Prop) (K2697_23 : gM → Prop) (l3_13 : Nat) (l4_700 : Int32) (M : gM) (Q : Int32 → gM → Prop) : Prop :=
  vp_in (l4_700 + 1) L ∧ vp_in (l4_700 + 2) L ∧ (if (xs ((l4_700 + 2).toNatClampNeg)) = 0 then fL_law_b2667 L xs R23 K2697_23 l3_13 l4_700 (xs ((l4_700 + 1).toNatClampNeg)) 0 M Q else fL_law_b2667 L xs R23 K2697_23 l3_13 l4_700 (xs ((l4_700 + 1).toNatClampNeg)) 1 M Q)
theorem wL_law_b2646 {kf : Nat} {G : gG} {w : gM → Nat → List (Nat × Value) → List Value → Prop} {Q : Int32 → gM → Prop} (hw : gX yL_law cL_law 8 (Option.some FieldType.boolean) [] kf G (gQi Q) gE0 w) {L : Nat} {xs : Nat → Int32} {b : Nat} (hkf : 1017 ≤ kf) (hv : gScr G b L xs) {R23 : Int32 → gM → Prop} {K2697_23 : gM → Prop} {l3_13 : Nat} {l4_700 : Int32} {M : gM} (hR23 : ∀ (v0 : Int32) (M : gM), R23 v0 M → w M 23 [(0, .ref (gA G (gBig + b))), (1, .ref (gA G 16)), (2, .ref (gA G 268)), (3, .ref (gA G l3_13)), (4, .int v0)] []) (hK2697_23 : ∀  (M : gM), K2697_23 M → w M 2697 [] []) (h : fL_law_b2646 L xs R23 K2697_23 l3_13 l4_700 M Q) : w M 2646 [(0, .ref (gA G (gBig + b))), (1, .ref (gA G 16)), (2, .ref (gA G 268)), (3, .ref (gA G l3_13)), (4, .int l4_700)] [] := by
  unfold fL_law_b2646 at h
  refine g_aload_n hw 1 dL_law_2646 rfl ?_
  refine g_aload_n hw 0 dL_law_2647 rfl ?_
  refine g_iload hw 4 dL_law_2648 rfl ?_
  refine g_iconst (v := 1) hw dL_law_2650 (by decide) ?_
  refine g_iadd hw dL_law_2651 ?_
  obtain ⟨hi701, h⟩ := h
  refine g_sciald (n := (l4_700 + 1).toNatClampNeg) hw hv dL_law_2652 hi701 rfl ?_
  refine g_aload_n hw 0 dL_law_2653 rfl ?_
  refine g_iload hw 4 dL_law_2654 rfl ?_
  refine g_iconst (v := 2) hw dL_law_2656 (by decide) ?_
  refine g_iadd hw dL_law_2657 ?_
  obtain ⟨hi702, h⟩ := h
  refine g_sciald (n := (l4_700 + 2).toNatClampNeg) hw hv dL_law_2658 hi702 rfl ?_
  refine g_if_eq (tgt := 2666) hw dL_law_2659 (by decide) (fun hb703 => ?_) (fun hb703 => ?_)
  · have h := gT h hb703
    refine g_iconst (v := 0) hw dL_law_2666 (by decide) ?_
    exact wL_law_b2667 hw hkf hv hR23 hK2697_23 h
  · have h := gF h hb703
    refine g_iconst (v := 1) hw dL_law_2662 (by decide) ?_
    refine g_goto (tgt := 2667) hw dL_law_2663 (by decide) ?_
    exact wL_law_b2667 hw hkf hv hR23 hK2697_23 h
def fL_law_b2699 (L : Nat) (xs : Nat → Int32) (R23 : Int32 → gM → Prop) (K2722_23 : gM → Prop) (l3_13 : Nat) (l4_721 : Int32) (M : gM) (Q : Int32 → gM → Prop) : Prop :=
  vp_in (l4_721 + 1) L ∧ gk M 16 = 1 ∧ fX1_count (xs ((l4_721 + 1).toNatClampNeg)) M (fun r725 M724 => vp_in (l4_721 + 1) L ∧ gk M724 268 = 7 ∧ fX7_count (xs ((l4_721 + 1).toNatClampNeg)) M724 (fun r729 M728 => (if r725 = r729 then fL_law_b2724 L xs R23 l3_13 l4_721 M728 Q else K2722_23 M728)))
theorem wL_law_b2699 {kf : Nat} {G : gG} {w : gM → Nat → List (Nat × Value) → List Value → Prop} {Q : Int32 → gM → Prop} (hw : gX yL_law cL_law 8 (Option.some FieldType.boolean) [] kf G (gQi Q) gE0 w) {L : Nat} {xs : Nat → Int32} {b : Nat} (hkf : 1017 ≤ kf) (hv : gScr G b L xs) {R23 : Int32 → gM → Prop} {K2722_23 : gM → Prop} {l3_13 : Nat} {l4_721 : Int32} {M : gM} (hR23 : ∀ (v0 : Int32) (M : gM), R23 v0 M → w M 23 [(0, .ref (gA G (gBig + b))), (1, .ref (gA G 16)), (2, .ref (gA G 268)), (3, .ref (gA G l3_13)), (4, .int v0)] []) (hK2722_23 : ∀  (M : gM), K2722_23 M → w M 2722 [] []) (h : fL_law_b2699 L xs R23 K2722_23 l3_13 l4_721 M Q) : w M 2699 [(0, .ref (gA G (gBig + b))), (1, .ref (gA G 16)), (2, .ref (gA G 268)), (3, .ref (gA G l3_13)), (4, .int l4_721)] [] := by
  unfold fL_law_b2699 at h
  refine g_aload_n hw 1 dL_law_2699 rfl ?_
  refine g_aload_n hw 0 dL_law_2700 rfl ?_
  refine g_iload hw 4 dL_law_2701 rfl ?_
  refine g_iconst (v := 1) hw dL_law_2703 (by decide) ?_
  refine g_iadd hw dL_law_2704 ?_
  obtain ⟨hi722, h⟩ := h
  refine g_sciald (n := (l4_721 + 1).toNatClampNeg) hw hv dL_law_2705 hi722 rfl ?_
  obtain ⟨hk723, h⟩ := h
  refine sX0_234 hw rfl dL_law_2706 rfl (gK2 hkf) hk723 h (fun r725 M724 h => ?_)
  refine g_aload_n hw 2 dL_law_2709 rfl ?_
  refine g_aload_n hw 0 dL_law_2710 rfl ?_
  refine g_iload hw 4 dL_law_2711 rfl ?_
  refine g_iconst (v := 1) hw dL_law_2713 (by decide) ?_
  refine g_iadd hw dL_law_2714 ?_
  obtain ⟨hi726, h⟩ := h
  refine g_sciald (n := (l4_721 + 1).toNatClampNeg) hw hv dL_law_2715 hi726 rfl ?_
  obtain ⟨hk727, h⟩ := h
  refine sX0_237 hw rfl dL_law_2716 rfl (gK2 hkf) hk727 h (fun r729 M728 h => ?_)
  refine g_icmp_eq (tgt := 2724) hw dL_law_2719 (by decide) (fun hb730 => ?_) (fun hb730 => ?_)
  · have h := gT h hb730
    exact wL_law_b2724 hw hkf hv hR23 h
  · have h := gF h hb730
    refine g_sub hw (lv2 := []) [] rfl ?_
    exact hK2722_23 M728 h
def fL_law_L23s (L : Nat) (xs : Nat → Int32) (R23 : Int32 → gM → Prop) (K307_23 : gM → Prop) (K368_23 : gM → Prop) (K429_23 : gM → Prop) (K454_23 : gM → Prop) (K515_23 : gM → Prop) (K552_23 : gM → Prop) (K624_23 : gM → Prop) (K641_23 : gM → Prop) (K716_23 : gM → Prop) (K732_23 : gM → Prop) (K807_23 : gM → Prop) (K823_23 : gM → Prop) (K886_23 : gM → Prop) (K902_23 : gM → Prop) (K942_23 : gM → Prop) (K979_23 : gM → Prop) (K1067_23 : gM → Prop) (K1083_23 : gM → Prop) (K1158_23 : gM → Prop) (K1174_23 : gM → Prop) (K1227_23 : gM → Prop) (K1287_23 : gM → Prop) (K1303_23 : gM → Prop) (K1344_23 : gM → Prop) (K1416_23 : gM → Prop) (K1432_23 : gM → Prop) (K1582_23 : gM → Prop) (K1607_23 : gM → Prop) (K1668_23 : gM → Prop) (K1706_23 : gM → Prop) (K1731_23 : gM → Prop) (K1804_23 : gM → Prop) (K1869_23 : gM → Prop) (K1933_23 : gM → Prop) (K1949_23 : gM → Prop) (K1977_23 : gM → Prop) (K2002_23 : gM → Prop) (K2039_23 : gM → Prop) (K2087_23 : gM → Prop) (K2103_23 : gM → Prop) (K2142_23 : gM → Prop) (K2158_23 : gM → Prop) (K2222_23 : gM → Prop) (K2282_23 : gM → Prop) (K2298_23 : gM → Prop) (K2373_23 : gM → Prop) (K2389_23 : gM → Prop) (K2454_23 : gM → Prop) (K2503_23 : gM → Prop) (K2540_23 : gM → Prop) (K2600_23 : gM → Prop) (K2616_23 : gM → Prop) (K2644_23 : gM → Prop) (K2697_23 : gM → Prop) (K2722_23 : gM → Prop) (K2730_23 : gM → Prop) (l3_13 : Nat) (l4_14 : Int32) (M : gM) (Q : Int32 → gM → Prop) : Prop :=
  (if ((nI L) - 7) < l4_14 then K2730_23 M else vp_in l4_14 L ∧ (if ((xs l4_14.toNatClampNeg) &&& 63) = 0 then fL_law_b220 L xs R23 K307_23 l3_13 l4_14 M Q else (if ((xs l4_14.toNatClampNeg) &&& 63) = 1 then fL_law_b309 L xs R23 K368_23 l3_13 l4_14 M Q else (if ((xs l4_14.toNatClampNeg) &&& 63) = 2 then fL_law_b370 L xs R23 K429_23 l3_13 l4_14 M Q else (if ((xs l4_14.toNatClampNeg) &&& 63) = 3 then fL_law_b431 L xs R23 K454_23 l3_13 l4_14 M Q else (if ((xs l4_14.toNatClampNeg) &&& 63) = 4 then fL_law_b456 L xs R23 K515_23 l3_13 l4_14 M Q else (if ((xs l4_14.toNatClampNeg) &&& 63) = 5 then fL_law_b517 L xs R23 K552_23 l3_13 l4_14 M Q else (if ((xs l4_14.toNatClampNeg) &&& 63) = 6 then fL_law_b554 L xs R23 K624_23 K641_23 l3_13 l4_14 M Q else (if ((xs l4_14.toNatClampNeg) &&& 63) = 7 then fL_law_b646 L xs R23 K716_23 K732_23 l3_13 l4_14 M Q else (if ((xs l4_14.toNatClampNeg) &&& 63) = 8 then fL_law_b737 L xs R23 K807_23 K823_23 l3_13 l4_14 M Q else (if ((xs l4_14.toNatClampNeg) &&& 63) = 9 then fL_law_b828 L xs R23 K886_23 K902_23 l3_13 l4_14 M Q else (if ((xs l4_14.toNatClampNeg) &&& 63) = 10 then fL_law_b907 L xs R23 K942_23 l3_13 l4_14 M Q else (if ((xs l4_14.toNatClampNeg) &&& 63) = 11 then fL_law_b944 L xs R23 K979_23 l3_13 l4_14 M Q else (if ((xs l4_14.toNatClampNeg) &&& 63) = 12 then fL_law_b981 L xs R23 K1067_23 K1083_23 l3_13 l4_14 M Q else (if ((xs l4_14.toNatClampNeg) &&& 63) = 13 then fL_law_b1088 L xs R23 K1158_23 K1174_23 l3_13 l4_14 M Q else (if ((xs l4_14.toNatClampNeg) &&& 63) = 14 then fL_law_b1179 L xs R23 K1227_23 l3_13 l4_14 M Q else (if ((xs l4_14.toNatClampNeg) &&& 63) = 15 then fL_law_b1229 L xs R23 K1287_23 K1303_23 l3_13 l4_14 M Q else (if ((xs l4_14.toNatClampNeg) &&& 63) = 16 then fL_law_b1308 L xs R23 K1344_23 l3_13 l4_14 M Q else (if ((xs l4_14.toNatClampNeg) &&& 63) = 17 then fL_law_b1346 L xs R23 K1416_23 K1432_23 l3_13 l4_14 M Q else (if ((xs l4_14.toNatClampNeg) &&& 63) = 18 then fL_law_b1437 L xs R23 K1582_23 l3_13 l4_14 M Q else (if ((xs l4_14.toNatClampNeg) &&& 63) = 19 then fL_law_b1584 L xs R23 K1607_23 l3_13 l4_14 M Q else (if ((xs l4_14.toNatClampNeg) &&& 63) = 20 then fL_law_b1609 L xs R23 K1668_23 l3_13 l4_14 M Q else (if ((xs l4_14.toNatClampNeg) &&& 63) = 21 then fL_law_b1670 L xs R23 K1706_23 l3_13 l4_14 M Q else (if ((xs l4_14.toNatClampNeg) &&& 63) = 22 then fL_law_b1708 L xs R23 K1731_23 l3_13 l4_14 M Q else (if ((xs l4_14.toNatClampNeg) &&& 63) = 23 then fL_law_b1733 L xs R23 K1804_23 l3_13 l4_14 M Q else (if ((xs l4_14.toNatClampNeg) &&& 63) = 24 then fL_law_b1806 L xs R23 K1869_23 l3_13 l4_14 M Q else (if ((xs l4_14.toNatClampNeg) &&& 63) = 25 then fL_law_b1871 L xs R23 K1933_23 K1949_23 l3_13 l4_14 M Q else (if ((xs l4_14.toNatClampNeg) &&& 63) = 26 then fL_law_b1954 L xs R23 K1977_23 l3_13 l4_14 M Q else (if ((xs l4_14.toNatClampNeg) &&& 63) = 27 then fL_law_b1979 L xs R23 K2002_23 l3_13 l4_14 M Q else (if ((xs l4_14.toNatClampNeg) &&& 63) = 28 then fL_law_b2004 L xs R23 K2039_23 l3_13 l4_14 M Q else (if ((xs l4_14.toNatClampNeg) &&& 63) = 29 then fL_law_b2041 L xs R23 K2087_23 K2103_23 l3_13 l4_14 M Q else (if ((xs l4_14.toNatClampNeg) &&& 63) = 30 then fL_law_b2108 L xs R23 K2142_23 K2158_23 l3_13 l4_14 M Q else (if ((xs l4_14.toNatClampNeg) &&& 63) = 31 then fL_law_b2163 L xs R23 K2222_23 l3_13 l4_14 M Q else (if ((xs l4_14.toNatClampNeg) &&& 63) = 32 then fL_law_b2224 L xs R23 K2282_23 K2298_23 l3_13 l4_14 M Q else (if ((xs l4_14.toNatClampNeg) &&& 63) = 33 then fL_law_b2303 L xs R23 K2373_23 K2389_23 l3_13 l4_14 M Q else (if ((xs l4_14.toNatClampNeg) &&& 63) = 34 then fL_law_b2394 L xs R23 K2454_23 l3_13 l4_14 M Q else (if ((xs l4_14.toNatClampNeg) &&& 63) = 35 then fL_law_b2456 L xs R23 K2503_23 l3_13 l4_14 M Q else (if ((xs l4_14.toNatClampNeg) &&& 63) = 36 then fL_law_b2505 L xs R23 K2540_23 l3_13 l4_14 M Q else (if ((xs l4_14.toNatClampNeg) &&& 63) = 37 then fL_law_b2542 L xs R23 K2600_23 K2616_23 l3_13 l4_14 M Q else (if ((xs l4_14.toNatClampNeg) &&& 63) = 38 then fL_law_b2621 L xs R23 K2644_23 l3_13 l4_14 M Q else (if ((xs l4_14.toNatClampNeg) &&& 63) = 39 then fL_law_b2646 L xs R23 K2697_23 l3_13 l4_14 M Q else (if ((xs l4_14.toNatClampNeg) &&& 63) = 40 then fL_law_b2699 L xs R23 K2722_23 l3_13 l4_14 M Q else fL_law_b2724 L xs R23 l3_13 l4_14 M Q))))))))))))))))))))))))))))))))))))))))))
def fL_law_L23 (L : Nat) (xs : Nat → Int32) (K307_23 : gM → Prop) (K368_23 : gM → Prop) (K429_23 : gM → Prop) (K454_23 : gM → Prop) (K515_23 : gM → Prop) (K552_23 : gM → Prop) (K624_23 : gM → Prop) (K641_23 : gM → Prop) (K716_23 : gM → Prop) (K732_23 : gM → Prop) (K807_23 : gM → Prop) (K823_23 : gM → Prop) (K886_23 : gM → Prop) (K902_23 : gM → Prop) (K942_23 : gM → Prop) (K979_23 : gM → Prop) (K1067_23 : gM → Prop) (K1083_23 : gM → Prop) (K1158_23 : gM → Prop) (K1174_23 : gM → Prop) (K1227_23 : gM → Prop) (K1287_23 : gM → Prop) (K1303_23 : gM → Prop) (K1344_23 : gM → Prop) (K1416_23 : gM → Prop) (K1432_23 : gM → Prop) (K1582_23 : gM → Prop) (K1607_23 : gM → Prop) (K1668_23 : gM → Prop) (K1706_23 : gM → Prop) (K1731_23 : gM → Prop) (K1804_23 : gM → Prop) (K1869_23 : gM → Prop) (K1933_23 : gM → Prop) (K1949_23 : gM → Prop) (K1977_23 : gM → Prop) (K2002_23 : gM → Prop) (K2039_23 : gM → Prop) (K2087_23 : gM → Prop) (K2103_23 : gM → Prop) (K2142_23 : gM → Prop) (K2158_23 : gM → Prop) (K2222_23 : gM → Prop) (K2282_23 : gM → Prop) (K2298_23 : gM → Prop) (K2373_23 : gM → Prop) (K2389_23 : gM → Prop) (K2454_23 : gM → Prop) (K2503_23 : gM → Prop) (K2540_23 : gM → Prop) (K2600_23 : gM → Prop) (K2616_23 : gM → Prop) (K2644_23 : gM → Prop) (K2697_23 : gM → Prop) (K2722_23 : gM → Prop) (K2730_23 : gM → Prop) (l3_13 : Nat) (Q : Int32 → gM → Prop) : Nat → Int32 → gM → Prop
  | 0 => fun _ _ => False
  | n + 1 => fun l4_14 M => fL_law_L23s L xs (fL_law_L23 L xs K307_23 K368_23 K429_23 K454_23 K515_23 K552_23 K624_23 K641_23 K716_23 K732_23 K807_23 K823_23 K886_23 K902_23 K942_23 K979_23 K1067_23 K1083_23 K1158_23 K1174_23 K1227_23 K1287_23 K1303_23 K1344_23 K1416_23 K1432_23 K1582_23 K1607_23 K1668_23 K1706_23 K1731_23 K1804_23 K1869_23 K1933_23 K1949_23 K1977_23 K2002_23 K2039_23 K2087_23 K2103_23 K2142_23 K2158_23 K2222_23 K2282_23 K2298_23 K2373_23 K2389_23 K2454_23 K2503_23 K2540_23 K2600_23 K2616_23 K2644_23 K2697_23 K2722_23 K2730_23 l3_13 Q n) K307_23 K368_23 K429_23 K454_23 K515_23 K552_23 K624_23 K641_23 K716_23 K732_23 K807_23 K823_23 K886_23 K902_23 K942_23 K979_23 K1067_23 K1083_23 K1158_23 K1174_23 K1227_23 K1287_23 K1303_23 K1344_23 K1416_23 K1432_23 K1582_23 K1607_23 K1668_23 K1706_23 K1731_23 K1804_23 K1869_23 K1933_23 K1949_23 K1977_23 K2002_23 K2039_23 K2087_23 K2103_23 K2142_23 K2158_23 K2222_23 K2282_23 K2298_23 K2373_23 K2389_23 K2454_23 K2503_23 K2540_23 K2600_23 K2616_23 K2644_23 K2697_23 K2722_23 K2730_23 l3_13 l4_14 M Q
theorem wL_law_L23s {kf : Nat} {G : gG} {w : gM → Nat → List (Nat × Value) → List Value → Prop} {Q : Int32 → gM → Prop} (hw : gX yL_law cL_law 8 (Option.some FieldType.boolean) [] kf G (gQi Q) gE0 w) {L : Nat} {xs : Nat → Int32} {b : Nat} (hkf : 1017 ≤ kf) (hv : gScr G b L xs) {R23 : Int32 → gM → Prop} {K307_23 : gM → Prop} {K368_23 : gM → Prop} {K429_23 : gM → Prop} {K454_23 : gM → Prop} {K515_23 : gM → Prop} {K552_23 : gM → Prop} {K624_23 : gM → Prop} {K641_23 : gM → Prop} {K716_23 : gM → Prop} {K732_23 : gM → Prop} {K807_23 : gM → Prop} {K823_23 : gM → Prop} {K886_23 : gM → Prop} {K902_23 : gM → Prop} {K942_23 : gM → Prop} {K979_23 : gM → Prop} {K1067_23 : gM → Prop} {K1083_23 : gM → Prop} {K1158_23 : gM → Prop} {K1174_23 : gM → Prop} {K1227_23 : gM → Prop} {K1287_23 : gM → Prop} {K1303_23 : gM → Prop} {K1344_23 : gM → Prop} {K1416_23 : gM → Prop} {K1432_23 : gM → Prop} {K1582_23 : gM → Prop} {K1607_23 : gM → Prop} {K1668_23 : gM → Prop} {K1706_23 : gM → Prop} {K1731_23 : gM → Prop} {K1804_23 : gM → Prop} {K1869_23 : gM → Prop} {K1933_23 : gM → Prop} {K1949_23 : gM → Prop} {K1977_23 : gM → Prop} {K2002_23 : gM → Prop} {K2039_23 : gM → Prop} {K2087_23 : gM → Prop} {K2103_23 : gM → Prop} {K2142_23 : gM → Prop} {K2158_23 : gM → Prop} {K2222_23 : gM → Prop} {K2282_23 : gM → Prop} {K2298_23 : gM → Prop} {K2373_23 : gM → Prop} {K2389_23 : gM → Prop} {K2454_23 : gM → Prop} {K2503_23 : gM → Prop} {K2540_23 : gM → Prop} {K2600_23 : gM → Prop} {K2616_23 : gM → Prop} {K2644_23 : gM → Prop} {K2697_23 : gM → Prop} {K2722_23 : gM → Prop} {K2730_23 : gM → Prop} {l3_13 : Nat} {l4_14 : Int32} {M : gM} (hR23 : ∀ (v0 : Int32) (M : gM), R23 v0 M → w M 23 [(0, .ref (gA G (gBig + b))), (1, .ref (gA G 16)), (2, .ref (gA G 268)), (3, .ref (gA G l3_13)), (4, .int v0)] []) (hK307_23 : ∀  (M : gM), K307_23 M → w M 307 [] []) (hK368_23 : ∀  (M : gM), K368_23 M → w M 368 [] []) (hK429_23 : ∀  (M : gM), K429_23 M → w M 429 [] []) (hK454_23 : ∀  (M : gM), K454_23 M → w M 454 [] []) (hK515_23 : ∀  (M : gM), K515_23 M → w M 515 [] []) (hK552_23 : ∀  (M : gM), K552_23 M → w M 552 [] []) (hK624_23 : ∀  (M : gM), K624_23 M → w M 624 [] []) (hK641_23 : ∀  (M : gM), K641_23 M → w M 641 [] []) (hK716_23 : ∀  (M : gM), K716_23 M → w M 716 [] []) (hK732_23 : ∀  (M : gM), K732_23 M → w M 732 [] []) (hK807_23 : ∀  (M : gM), K807_23 M → w M 807 [] []) (hK823_23 : ∀  (M : gM), K823_23 M → w M 823 [] []) (hK886_23 : ∀  (M : gM), K886_23 M → w M 886 [] []) (hK902_23 : ∀  (M : gM), K902_23 M → w M 902 [] []) (hK942_23 : ∀  (M : gM), K942_23 M → w M 942 [] []) (hK979_23 : ∀  (M : gM), K979_23 M → w M 979 [] []) (hK1067_23 : ∀  (M : gM), K1067_23 M → w M 1067 [] []) (hK1083_23 : ∀  (M : gM), K1083_23 M → w M 1083 [] []) (hK1158_23 : ∀  (M : gM), K1158_23 M → w M 1158 [] []) (hK1174_23 : ∀  (M : gM), K1174_23 M → w M 1174 [] []) (hK1227_23 : ∀  (M : gM), K1227_23 M → w M 1227 [] []) (hK1287_23 : ∀  (M : gM), K1287_23 M → w M 1287 [] []) (hK1303_23 : ∀  (M : gM), K1303_23 M → w M 1303 [] []) (hK1344_23 : ∀  (M : gM), K1344_23 M → w M 1344 [] []) (hK1416_23 : ∀  (M : gM), K1416_23 M → w M 1416 [] []) (hK1432_23 : ∀  (M : gM), K1432_23 M → w M 1432 [] []) (hK1582_23 : ∀  (M : gM), K1582_23 M → w M 1582 [] []) (hK1607_23 : ∀  (M : gM), K1607_23 M → w M 1607 [] []) (hK1668_23 : ∀  (M : gM), K1668_23 M → w M 1668 [] []) (hK1706_23 : ∀  (M : gM), K1706_23 M → w M 1706 [] []) (hK1731_23 : ∀  (M : gM), K1731_23 M → w M 1731 [] []) (hK1804_23 : ∀  (M : gM), K1804_23 M → w M 1804 [] []) (hK1869_23 : ∀  (M : gM), K1869_23 M → w M 1869 [] []) (hK1933_23 : ∀  (M : gM), K1933_23 M → w M 1933 [] []) (hK1949_23 : ∀  (M : gM), K1949_23 M → w M 1949 [] []) (hK1977_23 : ∀  (M : gM), K1977_23 M → w M 1977 [] []) (hK2002_23 : ∀  (M : gM), K2002_23 M → w M 2002 [] []) (hK2039_23 : ∀  (M : gM), K2039_23 M → w M 2039 [] []) (hK2087_23 : ∀  (M : gM), K2087_23 M → w M 2087 [] []) (hK2103_23 : ∀  (M : gM), K2103_23 M → w M 2103 [] []) (hK2142_23 : ∀  (M : gM), K2142_23 M → w M 2142 [] []) (hK2158_23 : ∀  (M : gM), K2158_23 M → w M 2158 [] []) (hK2222_23 : ∀  (M : gM), K2222_23 M → w M 2222 [] []) (hK2282_23 : ∀  (M : gM), K2282_23 M → w M 2282 [] []) (hK2298_23 : ∀  (M : gM), K2298_23 M → w M 2298 [] []) (hK2373_23 : ∀  (M : gM), K2373_23 M → w M 2373 [] []) (hK2389_23 : ∀  (M : gM), K2389_23 M → w M 2389 [] []) (hK2454_23 : ∀  (M : gM), K2454_23 M → w M 2454 [] []) (hK2503_23 : ∀  (M : gM), K2503_23 M → w M 2503 [] []) (hK2540_23 : ∀  (M : gM), K2540_23 M → w M 2540 [] []) (hK2600_23 : ∀  (M : gM), K2600_23 M → w M 2600 [] []) (hK2616_23 : ∀  (M : gM), K2616_23 M → w M 2616 [] []) (hK2644_23 : ∀  (M : gM), K2644_23 M → w M 2644 [] []) (hK2697_23 : ∀  (M : gM), K2697_23 M → w M 2697 [] []) (hK2722_23 : ∀  (M : gM), K2722_23 M → w M 2722 [] []) (hK2730_23 : ∀  (M : gM), K2730_23 M → w M 2730 [] []) (h : fL_law_L23s L xs R23 K307_23 K368_23 K429_23 K454_23 K515_23 K552_23 K624_23 K641_23 K716_23 K732_23 K807_23 K823_23 K886_23 K902_23 K942_23 K979_23 K1067_23 K1083_23 K1158_23 K1174_23 K1227_23 K1287_23 K1303_23 K1344_23 K1416_23 K1432_23 K1582_23 K1607_23 K1668_23 K1706_23 K1731_23 K1804_23 K1869_23 K1933_23 K1949_23 K1977_23 K2002_23 K2039_23 K2087_23 K2103_23 K2142_23 K2158_23 K2222_23 K2282_23 K2298_23 K2373_23 K2389_23 K2454_23 K2503_23 K2540_23 K2600_23 K2616_23 K2644_23 K2697_23 K2722_23 K2730_23 l3_13 l4_14 M Q) : w M 23 [(0, .ref (gA G (gBig + b))), (1, .ref (gA G 16)), (2, .ref (gA G 268)), (3, .ref (gA G l3_13)), (4, .int l4_14)] [] := by
  unfold fL_law_L23s at h
  refine g_iload hw 4 dL_law_23 rfl ?_
  refine g_aload_n hw 0 dL_law_25 rfl ?_
  refine g_sclen hw hv dL_law_26 ?_
  refine g_bipush (v := 7) hw dL_law_27 (by decide) ?_
  refine g_isub hw dL_law_29 ?_
  refine g_icmp_gt (tgt := 2730) hw dL_law_30 (by decide) (fun hb15 => ?_) (fun hb15 => ?_)
  · have h := gT h hb15
    refine g_sub hw (lv2 := []) [] rfl ?_
    exact hK2730_23 M h
  · have h := gF h hb15
    refine g_aload_n hw 0 dL_law_33 rfl ?_
    refine g_iload hw 4 dL_law_34 rfl ?_
    obtain ⟨hi16, h⟩ := h
    refine g_sciald (n := l4_14.toNatClampNeg) hw hv dL_law_36 hi16 rfl ?_
    refine g_bipush (v := 63) hw dL_law_37 (by decide) ?_
    refine g_iand hw dL_law_39 ?_
    by_cases hb731 : ((xs l4_14.toNatClampNeg) &&& 63) = 0
    · have h := gT h hb731
      refine g_tabIn (tgt := 220) hw dL_law_40 (by rw [hb731]; decide) (by rw [hb731]; decide) (by rw [hb731] <;> rfl) (by decide) ?_
      exact wL_law_b220 hw hkf hv hR23 hK307_23 h
    · have h := gF h hb731
      by_cases hb732 : ((xs l4_14.toNatClampNeg) &&& 63) = 1
      · have h := gT h hb732
        refine g_tabIn (tgt := 309) hw dL_law_40 (by rw [hb732]; decide) (by rw [hb732]; decide) (by rw [hb732] <;> rfl) (by decide) ?_
        exact wL_law_b309 hw hkf hv hR23 hK368_23 h
      · have h := gF h hb732
        by_cases hb733 : ((xs l4_14.toNatClampNeg) &&& 63) = 2
        · have h := gT h hb733
          refine g_tabIn (tgt := 370) hw dL_law_40 (by rw [hb733]; decide) (by rw [hb733]; decide) (by rw [hb733] <;> rfl) (by decide) ?_
          exact wL_law_b370 hw hkf hv hR23 hK429_23 h
        · have h := gF h hb733
          by_cases hb734 : ((xs l4_14.toNatClampNeg) &&& 63) = 3
          · have h := gT h hb734
            refine g_tabIn (tgt := 431) hw dL_law_40 (by rw [hb734]; decide) (by rw [hb734]; decide) (by rw [hb734] <;> rfl) (by decide) ?_
            exact wL_law_b431 hw hkf hv hR23 hK454_23 h
          · have h := gF h hb734
            by_cases hb735 : ((xs l4_14.toNatClampNeg) &&& 63) = 4
            · have h := gT h hb735
              refine g_tabIn (tgt := 456) hw dL_law_40 (by rw [hb735]; decide) (by rw [hb735]; decide) (by rw [hb735] <;> rfl) (by decide) ?_
              exact wL_law_b456 hw hkf hv hR23 hK515_23 h
            · have h := gF h hb735
              by_cases hb736 : ((xs l4_14.toNatClampNeg) &&& 63) = 5
              · have h := gT h hb736
                refine g_tabIn (tgt := 517) hw dL_law_40 (by rw [hb736]; decide) (by rw [hb736]; decide) (by rw [hb736] <;> rfl) (by decide) ?_
                exact wL_law_b517 hw hkf hv hR23 hK552_23 h
              · have h := gF h hb736
                by_cases hb737 : ((xs l4_14.toNatClampNeg) &&& 63) = 6
                · have h := gT h hb737
                  refine g_tabIn (tgt := 554) hw dL_law_40 (by rw [hb737]; decide) (by rw [hb737]; decide) (by rw [hb737] <;> rfl) (by decide) ?_
                  exact wL_law_b554 hw hkf hv hR23 hK624_23 hK641_23 h
                · have h := gF h hb737
                  by_cases hb738 : ((xs l4_14.toNatClampNeg) &&& 63) = 7
                  · have h := gT h hb738
                    refine g_tabIn (tgt := 646) hw dL_law_40 (by rw [hb738]; decide) (by rw [hb738]; decide) (by rw [hb738] <;> rfl) (by decide) ?_
                    exact wL_law_b646 hw hkf hv hR23 hK716_23 hK732_23 h
                  · have h := gF h hb738
                    by_cases hb739 : ((xs l4_14.toNatClampNeg) &&& 63) = 8
                    · have h := gT h hb739
                      refine g_tabIn (tgt := 737) hw dL_law_40 (by rw [hb739]; decide) (by rw [hb739]; decide) (by rw [hb739] <;> rfl) (by decide) ?_
                      exact wL_law_b737 hw hkf hv hR23 hK807_23 hK823_23 h
                    · have h := gF h hb739
                      by_cases hb740 : ((xs l4_14.toNatClampNeg) &&& 63) = 9
                      · have h := gT h hb740
                        refine g_tabIn (tgt := 828) hw dL_law_40 (by rw [hb740]; decide) (by rw [hb740]; decide) (by rw [hb740] <;> rfl) (by decide) ?_
                        exact wL_law_b828 hw hkf hv hR23 hK886_23 hK902_23 h
                      · have h := gF h hb740
                        by_cases hb741 : ((xs l4_14.toNatClampNeg) &&& 63) = 10
                        · have h := gT h hb741
                          refine g_tabIn (tgt := 907) hw dL_law_40 (by rw [hb741]; decide) (by rw [hb741]; decide) (by rw [hb741] <;> rfl) (by decide) ?_
                          exact wL_law_b907 hw hkf hv hR23 hK942_23 h
                        · have h := gF h hb741
                          by_cases hb742 : ((xs l4_14.toNatClampNeg) &&& 63) = 11
                          · have h := gT h hb742
                            refine g_tabIn (tgt := 944) hw dL_law_40 (by rw [hb742]; decide) (by rw [hb742]; decide) (by rw [hb742] <;> rfl) (by decide) ?_
                            exact wL_law_b944 hw hkf hv hR23 hK979_23 h
                          · have h := gF h hb742
                            by_cases hb743 : ((xs l4_14.toNatClampNeg) &&& 63) = 12
                            · have h := gT h hb743
                              refine g_tabIn (tgt := 981) hw dL_law_40 (by rw [hb743]; decide) (by rw [hb743]; decide) (by rw [hb743] <;> rfl) (by decide) ?_
                              exact wL_law_b981 hw hkf hv hR23 hK1067_23 hK1083_23 h
                            · have h := gF h hb743
                              by_cases hb744 : ((xs l4_14.toNatClampNeg) &&& 63) = 13
                              · have h := gT h hb744
                                refine g_tabIn (tgt := 1088) hw dL_law_40 (by rw [hb744]; decide) (by rw [hb744]; decide) (by rw [hb744] <;> rfl) (by decide) ?_
                                exact wL_law_b1088 hw hkf hv hR23 hK1158_23 hK1174_23 h
                              · have h := gF h hb744
                                by_cases hb745 : ((xs l4_14.toNatClampNeg) &&& 63) = 14
                                · have h := gT h hb745
                                  refine g_tabIn (tgt := 1179) hw dL_law_40 (by rw [hb745]; decide) (by rw [hb745]; decide) (by rw [hb745] <;> rfl) (by decide) ?_
                                  exact wL_law_b1179 hw hkf hv hR23 hK1227_23 h
                                · have h := gF h hb745
                                  by_cases hb746 : ((xs l4_14.toNatClampNeg) &&& 63) = 15
                                  · have h := gT h hb746
                                    refine g_tabIn (tgt := 1229) hw dL_law_40 (by rw [hb746]; decide) (by rw [hb746]; decide) (by rw [hb746] <;> rfl) (by decide) ?_
                                    exact wL_law_b1229 hw hkf hv hR23 hK1287_23 hK1303_23 h
                                  · have h := gF h hb746
                                    by_cases hb747 : ((xs l4_14.toNatClampNeg) &&& 63) = 16
                                    · have h := gT h hb747
                                      refine g_tabIn (tgt := 1308) hw dL_law_40 (by rw [hb747]; decide) (by rw [hb747]; decide) (by rw [hb747] <;> rfl) (by decide) ?_
                                      exact wL_law_b1308 hw hkf hv hR23 hK1344_23 h
                                    · have h := gF h hb747
                                      by_cases hb748 : ((xs l4_14.toNatClampNeg) &&& 63) = 17
                                      · have h := gT h hb748
                                        refine g_tabIn (tgt := 1346) hw dL_law_40 (by rw [hb748]; decide) (by rw [hb748]; decide) (by rw [hb748] <;> rfl) (by decide) ?_
                                        exact wL_law_b1346 hw hkf hv hR23 hK1416_23 hK1432_23 h
                                      · have h := gF h hb748
                                        by_cases hb749 : ((xs l4_14.toNatClampNeg) &&& 63) = 18
                                        · have h := gT h hb749
                                          refine g_tabIn (tgt := 1437) hw dL_law_40 (by rw [hb749]; decide) (by rw [hb749]; decide) (by rw [hb749] <;> rfl) (by decide) ?_
                                          exact wL_law_b1437 hw hkf hv hR23 hK1582_23 h
                                        · have h := gF h hb749
                                          by_cases hb750 : ((xs l4_14.toNatClampNeg) &&& 63) = 19
                                          · have h := gT h hb750
                                            refine g_tabIn (tgt := 1584) hw dL_law_40 (by rw [hb750]; decide) (by rw [hb750]; decide) (by rw [hb750] <;> rfl) (by decide) ?_
                                            exact wL_law_b1584 hw hkf hv hR23 hK1607_23 h
                                          · have h := gF h hb750
                                            by_cases hb751 : ((xs l4_14.toNatClampNeg) &&& 63) = 20
                                            · have h := gT h hb751
                                              refine g_tabIn (tgt := 1609) hw dL_law_40 (by rw [hb751]; decide) (by rw [hb751]; decide) (by rw [hb751] <;> rfl) (by decide) ?_
                                              exact wL_law_b1609 hw hkf hv hR23 hK1668_23 h
                                            · have h := gF h hb751
                                              by_cases hb752 : ((xs l4_14.toNatClampNeg) &&& 63) = 21
                                              · have h := gT h hb752
                                                refine g_tabIn (tgt := 1670) hw dL_law_40 (by rw [hb752]; decide) (by rw [hb752]; decide) (by rw [hb752] <;> rfl) (by decide) ?_
                                                exact wL_law_b1670 hw hkf hv hR23 hK1706_23 h
                                              · have h := gF h hb752
                                                by_cases hb753 : ((xs l4_14.toNatClampNeg) &&& 63) = 22
                                                · have h := gT h hb753
                                                  refine g_tabIn (tgt := 1708) hw dL_law_40 (by rw [hb753]; decide) (by rw [hb753]; decide) (by rw [hb753] <;> rfl) (by decide) ?_
                                                  exact wL_law_b1708 hw hkf hv hR23 hK1731_23 h
                                                · have h := gF h hb753
                                                  by_cases hb754 : ((xs l4_14.toNatClampNeg) &&& 63) = 23
                                                  · have h := gT h hb754
                                                    refine g_tabIn (tgt := 1733) hw dL_law_40 (by rw [hb754]; decide) (by rw [hb754]; decide) (by rw [hb754] <;> rfl) (by decide) ?_
                                                    exact wL_law_b1733 hw hkf hv hR23 hK1804_23 h
                                                  · have h := gF h hb754
                                                    by_cases hb755 : ((xs l4_14.toNatClampNeg) &&& 63) = 24
                                                    · have h := gT h hb755
                                                      refine g_tabIn (tgt := 1806) hw dL_law_40 (by rw [hb755]; decide) (by rw [hb755]; decide) (by rw [hb755] <;> rfl) (by decide) ?_
                                                      exact wL_law_b1806 hw hkf hv hR23 hK1869_23 h
                                                    · have h := gF h hb755
                                                      by_cases hb756 : ((xs l4_14.toNatClampNeg) &&& 63) = 25
                                                      · have h := gT h hb756
                                                        refine g_tabIn (tgt := 1871) hw dL_law_40 (by rw [hb756]; decide) (by rw [hb756]; decide) (by rw [hb756] <;> rfl) (by decide) ?_
                                                        exact wL_law_b1871 hw hkf hv hR23 hK1933_23 hK1949_23 h
                                                      · have h := gF h hb756
                                                        by_cases hb757 : ((xs l4_14.toNatClampNeg) &&& 63) = 26
                                                        · have h := gT h hb757
                                                          refine g_tabIn (tgt := 1954) hw dL_law_40 (by rw [hb757]; decide) (by rw [hb757]; decide) (by rw [hb757] <;> rfl) (by decide) ?_
                                                          exact wL_law_b1954 hw hkf hv hR23 hK1977_23 h
                                                        · have h := gF h hb757
                                                          by_cases hb758 : ((xs l4_14.toNatClampNeg) &&& 63) = 27
                                                          · have h := gT h hb758
                                                            refine g_tabIn (tgt := 1979) hw dL_law_40 (by rw [hb758]; decide) (by rw [hb758]; decide) (by rw [hb758] <;> rfl) (by decide) ?_
                                                            exact wL_law_b1979 hw hkf hv hR23 hK2002_23 h
                                                          · have h := gF h hb758
                                                            by_cases hb759 : ((xs l4_14.toNatClampNeg) &&& 63) = 28
                                                            · have h := gT h hb759
                                                              refine g_tabIn (tgt := 2004) hw dL_law_40 (by rw [hb759]; decide) (by rw [hb759]; decide) (by rw [hb759] <;> rfl) (by decide) ?_
                                                              exact wL_law_b2004 hw hkf hv hR23 hK2039_23 h
                                                            · have h := gF h hb759
                                                              by_cases hb760 : ((xs l4_14.toNatClampNeg) &&& 63) = 29
                                                              · have h := gT h hb760
                                                                refine g_tabIn (tgt := 2041) hw dL_law_40 (by rw [hb760]; decide) (by rw [hb760]; decide) (by rw [hb760] <;> rfl) (by decide) ?_
                                                                exact wL_law_b2041 hw hkf hv hR23 hK2087_23 hK2103_23 h
                                                              · have h := gF h hb760
                                                                by_cases hb761 : ((xs l4_14.toNatClampNeg) &&& 63) = 30
                                                                · have h := gT h hb761
                                                                  refine g_tabIn (tgt := 2108) hw dL_law_40 (by rw [hb761]; decide) (by rw [hb761]; decide) (by rw [hb761] <;> rfl) (by decide) ?_
                                                                  exact wL_law_b2108 hw hkf hv hR23 hK2142_23 hK2158_23 h
                                                                · have h := gF h hb761
                                                                  by_cases hb762 : ((xs l4_14.toNatClampNeg) &&& 63) = 31
                                                                  · have h := gT h hb762
                                                                    refine g_tabIn (tgt := 2163) hw dL_law_40 (by rw [hb762]; decide) (by rw [hb762]; decide) (by rw [hb762] <;> rfl) (by decide) ?_
                                                                    exact wL_law_b2163 hw hkf hv hR23 hK2222_23 h
                                                                  · have h := gF h hb762
                                                                    by_cases hb763 : ((xs l4_14.toNatClampNeg) &&& 63) = 32
                                                                    · have h := gT h hb763
                                                                      refine g_tabIn (tgt := 2224) hw dL_law_40 (by rw [hb763]; decide) (by rw [hb763]; decide) (by rw [hb763] <;> rfl) (by decide) ?_
                                                                      exact wL_law_b2224 hw hkf hv hR23 hK2282_23 hK2298_23 h
                                                                    · have h := gF h hb763
                                                                      by_cases hb764 : ((xs l4_14.toNatClampNeg) &&& 63) = 33
                                                                      · have h := gT h hb764
                                                                        refine g_tabIn (tgt := 2303) hw dL_law_40 (by rw [hb764]; decide) (by rw [hb764]; decide) (by rw [hb764] <;> rfl) (by decide) ?_
                                                                        exact wL_law_b2303 hw hkf hv hR23 hK2373_23 hK2389_23 h
                                                                      · have h := gF h hb764
                                                                        by_cases hb765 : ((xs l4_14.toNatClampNeg) &&& 63) = 34
                                                                        · have h := gT h hb765
                                                                          refine g_tabIn (tgt := 2394) hw dL_law_40 (by rw [hb765]; decide) (by rw [hb765]; decide) (by rw [hb765] <;> rfl) (by decide) ?_
                                                                          exact wL_law_b2394 hw hkf hv hR23 hK2454_23 h
                                                                        · have h := gF h hb765
                                                                          by_cases hb766 : ((xs l4_14.toNatClampNeg) &&& 63) = 35
                                                                          · have h := gT h hb766
                                                                            refine g_tabIn (tgt := 2456) hw dL_law_40 (by rw [hb766]; decide) (by rw [hb766]; decide) (by rw [hb766] <;> rfl) (by decide) ?_
                                                                            exact wL_law_b2456 hw hkf hv hR23 hK2503_23 h
                                                                          · have h := gF h hb766
                                                                            by_cases hb767 : ((xs l4_14.toNatClampNeg) &&& 63) = 36
                                                                            · have h := gT h hb767
                                                                              refine g_tabIn (tgt := 2505) hw dL_law_40 (by rw [hb767]; decide) (by rw [hb767]; decide) (by rw [hb767] <;> rfl) (by decide) ?_
                                                                              exact wL_law_b2505 hw hkf hv hR23 hK2540_23 h
                                                                            · have h := gF h hb767
                                                                              by_cases hb768 : ((xs l4_14.toNatClampNeg) &&& 63) = 37
                                                                              · have h := gT h hb768
                                                                                refine g_tabIn (tgt := 2542) hw dL_law_40 (by rw [hb768]; decide) (by rw [hb768]; decide) (by rw [hb768] <;> rfl) (by decide) ?_
                                                                                exact wL_law_b2542 hw hkf hv hR23 hK2600_23 hK2616_23 h
                                                                              · have h := gF h hb768
                                                                                by_cases hb769 : ((xs l4_14.toNatClampNeg) &&& 63) = 38
                                                                                · have h := gT h hb769
                                                                                  refine g_tabIn (tgt := 2621) hw dL_law_40 (by rw [hb769]; decide) (by rw [hb769]; decide) (by rw [hb769] <;> rfl) (by decide) ?_
                                                                                  exact wL_law_b2621 hw hkf hv hR23 hK2644_23 h
                                                                                · have h := gF h hb769
                                                                                  by_cases hb770 : ((xs l4_14.toNatClampNeg) &&& 63) = 39
                                                                                  · have h := gT h hb770
                                                                                    refine g_tabIn (tgt := 2646) hw dL_law_40 (by rw [hb770]; decide) (by rw [hb770]; decide) (by rw [hb770] <;> rfl) (by decide) ?_
                                                                                    exact wL_law_b2646 hw hkf hv hR23 hK2697_23 h
                                                                                  · have h := gF h hb770
                                                                                    by_cases hb771 : ((xs l4_14.toNatClampNeg) &&& 63) = 40
                                                                                    · have h := gT h hb771
                                                                                      refine g_tabIn (tgt := 2699) hw dL_law_40 (by rw [hb771]; decide) (by rw [hb771]; decide) (by rw [hb771] <;> rfl) (by decide) ?_
                                                                                      exact wL_law_b2699 hw hkf hv hR23 hK2722_23 h
                                                                                    · have h := gF h hb771
                                                                                      refine g_tabOut (tgt := 2724) hw dL_law_40 (by have z0 := gNeI (k := 0) hb731 rfl; have z1 := gNeI (k := 1) hb732 rfl; have z2 := gNeI (k := 2) hb733 rfl; have z3 := gNeI (k := 3) hb734 rfl; have z4 := gNeI (k := 4) hb735 rfl; have z5 := gNeI (k := 5) hb736 rfl; have z6 := gNeI (k := 6) hb737 rfl; have z7 := gNeI (k := 7) hb738 rfl; have z8 := gNeI (k := 8) hb739 rfl; have z9 := gNeI (k := 9) hb740 rfl; have z10 := gNeI (k := 10) hb741 rfl; have z11 := gNeI (k := 11) hb742 rfl; have z12 := gNeI (k := 12) hb743 rfl; have z13 := gNeI (k := 13) hb744 rfl; have z14 := gNeI (k := 14) hb745 rfl; have z15 := gNeI (k := 15) hb746 rfl; have z16 := gNeI (k := 16) hb747 rfl; have z17 := gNeI (k := 17) hb748 rfl; have z18 := gNeI (k := 18) hb749 rfl; have z19 := gNeI (k := 19) hb750 rfl; have z20 := gNeI (k := 20) hb751 rfl; have z21 := gNeI (k := 21) hb752 rfl; have z22 := gNeI (k := 22) hb753 rfl; have z23 := gNeI (k := 23) hb754 rfl; have z24 := gNeI (k := 24) hb755 rfl; have z25 := gNeI (k := 25) hb756 rfl; have z26 := gNeI (k := 26) hb757 rfl; have z27 := gNeI (k := 27) hb758 rfl; have z28 := gNeI (k := 28) hb759 rfl; have z29 := gNeI (k := 29) hb760 rfl; have z30 := gNeI (k := 30) hb761 rfl; have z31 := gNeI (k := 31) hb762 rfl; have z32 := gNeI (k := 32) hb763 rfl; have z33 := gNeI (k := 33) hb764 rfl; have z34 := gNeI (k := 34) hb765 rfl; have z35 := gNeI (k := 35) hb766 rfl; have z36 := gNeI (k := 36) hb767 rfl; have z37 := gNeI (k := 37) hb768 rfl; have z38 := gNeI (k := 38) hb769 rfl; have z39 := gNeI (k := 39) hb770 rfl; have z40 := gNeI (k := 40) hb771 rfl; omega) (by decide) ?_
                                                                                      exact wL_law_b2724 hw hkf hv hR23 h
theorem wL_law_L23 {kf : Nat} {G : gG} {w : gM → Nat → List (Nat × Value) → List Value → Prop} {Q : Int32 → gM → Prop} (hw : gX yL_law cL_law 8 (Option.some FieldType.boolean) [] kf G (gQi Q) gE0 w) {L : Nat} {xs : Nat → Int32} {b : Nat} (hkf : 1017 ≤ kf) (hv : gScr G b L xs) {K307_23 : gM → Prop} {K368_23 : gM → Prop} {K429_23 : gM → Prop} {K454_23 : gM → Prop} {K515_23 : gM → Prop} {K552_23 : gM → Prop} {K624_23 : gM → Prop} {K641_23 : gM → Prop} {K716_23 : gM → Prop} {K732_23 : gM → Prop} {K807_23 : gM → Prop} {K823_23 : gM → Prop} {K886_23 : gM → Prop} {K902_23 : gM → Prop} {K942_23 : gM → Prop} {K979_23 : gM → Prop} {K1067_23 : gM → Prop} {K1083_23 : gM → Prop} {K1158_23 : gM → Prop} {K1174_23 : gM → Prop} {K1227_23 : gM → Prop} {K1287_23 : gM → Prop} {K1303_23 : gM → Prop} {K1344_23 : gM → Prop} {K1416_23 : gM → Prop} {K1432_23 : gM → Prop} {K1582_23 : gM → Prop} {K1607_23 : gM → Prop} {K1668_23 : gM → Prop} {K1706_23 : gM → Prop} {K1731_23 : gM → Prop} {K1804_23 : gM → Prop} {K1869_23 : gM → Prop} {K1933_23 : gM → Prop} {K1949_23 : gM → Prop} {K1977_23 : gM → Prop} {K2002_23 : gM → Prop} {K2039_23 : gM → Prop} {K2087_23 : gM → Prop} {K2103_23 : gM → Prop} {K2142_23 : gM → Prop} {K2158_23 : gM → Prop} {K2222_23 : gM → Prop} {K2282_23 : gM → Prop} {K2298_23 : gM → Prop} {K2373_23 : gM → Prop} {K2389_23 : gM → Prop} {K2454_23 : gM → Prop} {K2503_23 : gM → Prop} {K2540_23 : gM → Prop} {K2600_23 : gM → Prop} {K2616_23 : gM → Prop} {K2644_23 : gM → Prop} {K2697_23 : gM → Prop} {K2722_23 : gM → Prop} {K2730_23 : gM → Prop} {l3_13 : Nat} (hK307_23 : ∀  (M : gM), K307_23 M → w M 307 [] []) (hK368_23 : ∀  (M : gM), K368_23 M → w M 368 [] []) (hK429_23 : ∀  (M : gM), K429_23 M → w M 429 [] []) (hK454_23 : ∀  (M : gM), K454_23 M → w M 454 [] []) (hK515_23 : ∀  (M : gM), K515_23 M → w M 515 [] []) (hK552_23 : ∀  (M : gM), K552_23 M → w M 552 [] []) (hK624_23 : ∀  (M : gM), K624_23 M → w M 624 [] []) (hK641_23 : ∀  (M : gM), K641_23 M → w M 641 [] []) (hK716_23 : ∀  (M : gM), K716_23 M → w M 716 [] []) (hK732_23 : ∀  (M : gM), K732_23 M → w M 732 [] []) (hK807_23 : ∀  (M : gM), K807_23 M → w M 807 [] []) (hK823_23 : ∀  (M : gM), K823_23 M → w M 823 [] []) (hK886_23 : ∀  (M : gM), K886_23 M → w M 886 [] []) (hK902_23 : ∀  (M : gM), K902_23 M → w M 902 [] []) (hK942_23 : ∀  (M : gM), K942_23 M → w M 942 [] []) (hK979_23 : ∀  (M : gM), K979_23 M → w M 979 [] []) (hK1067_23 : ∀  (M : gM), K1067_23 M → w M 1067 [] []) (hK1083_23 : ∀  (M : gM), K1083_23 M → w M 1083 [] []) (hK1158_23 : ∀  (M : gM), K1158_23 M → w M 1158 [] []) (hK1174_23 : ∀  (M : gM), K1174_23 M → w M 1174 [] []) (hK1227_23 : ∀  (M : gM), K1227_23 M → w M 1227 [] []) (hK1287_23 : ∀  (M : gM), K1287_23 M → w M 1287 [] []) (hK1303_23 : ∀  (M : gM), K1303_23 M → w M 1303 [] []) (hK1344_23 : ∀  (M : gM), K1344_23 M → w M 1344 [] []) (hK1416_23 : ∀  (M : gM), K1416_23 M → w M 1416 [] []) (hK1432_23 : ∀  (M : gM), K1432_23 M → w M 1432 [] []) (hK1582_23 : ∀  (M : gM), K1582_23 M → w M 1582 [] []) (hK1607_23 : ∀  (M : gM), K1607_23 M → w M 1607 [] []) (hK1668_23 : ∀  (M : gM), K1668_23 M → w M 1668 [] []) (hK1706_23 : ∀  (M : gM), K1706_23 M → w M 1706 [] []) (hK1731_23 : ∀  (M : gM), K1731_23 M → w M 1731 [] []) (hK1804_23 : ∀  (M : gM), K1804_23 M → w M 1804 [] []) (hK1869_23 : ∀  (M : gM), K1869_23 M → w M 1869 [] []) (hK1933_23 : ∀  (M : gM), K1933_23 M → w M 1933 [] []) (hK1949_23 : ∀  (M : gM), K1949_23 M → w M 1949 [] []) (hK1977_23 : ∀  (M : gM), K1977_23 M → w M 1977 [] []) (hK2002_23 : ∀  (M : gM), K2002_23 M → w M 2002 [] []) (hK2039_23 : ∀  (M : gM), K2039_23 M → w M 2039 [] []) (hK2087_23 : ∀  (M : gM), K2087_23 M → w M 2087 [] []) (hK2103_23 : ∀  (M : gM), K2103_23 M → w M 2103 [] []) (hK2142_23 : ∀  (M : gM), K2142_23 M → w M 2142 [] []) (hK2158_23 : ∀  (M : gM), K2158_23 M → w M 2158 [] []) (hK2222_23 : ∀  (M : gM), K2222_23 M → w M 2222 [] []) (hK2282_23 : ∀  (M : gM), K2282_23 M → w M 2282 [] []) (hK2298_23 : ∀  (M : gM), K2298_23 M → w M 2298 [] []) (hK2373_23 : ∀  (M : gM), K2373_23 M → w M 2373 [] []) (hK2389_23 : ∀  (M : gM), K2389_23 M → w M 2389 [] []) (hK2454_23 : ∀  (M : gM), K2454_23 M → w M 2454 [] []) (hK2503_23 : ∀  (M : gM), K2503_23 M → w M 2503 [] []) (hK2540_23 : ∀  (M : gM), K2540_23 M → w M 2540 [] []) (hK2600_23 : ∀  (M : gM), K2600_23 M → w M 2600 [] []) (hK2616_23 : ∀  (M : gM), K2616_23 M → w M 2616 [] []) (hK2644_23 : ∀  (M : gM), K2644_23 M → w M 2644 [] []) (hK2697_23 : ∀  (M : gM), K2697_23 M → w M 2697 [] []) (hK2722_23 : ∀  (M : gM), K2722_23 M → w M 2722 [] []) (hK2730_23 : ∀  (M : gM), K2730_23 M → w M 2730 [] []) : ∀ (n : Nat) (l4_14 : Int32) (M : gM), fL_law_L23 L xs K307_23 K368_23 K429_23 K454_23 K515_23 K552_23 K624_23 K641_23 K716_23 K732_23 K807_23 K823_23 K886_23 K902_23 K942_23 K979_23 K1067_23 K1083_23 K1158_23 K1174_23 K1227_23 K1287_23 K1303_23 K1344_23 K1416_23 K1432_23 K1582_23 K1607_23 K1668_23 K1706_23 K1731_23 K1804_23 K1869_23 K1933_23 K1949_23 K1977_23 K2002_23 K2039_23 K2087_23 K2103_23 K2142_23 K2158_23 K2222_23 K2282_23 K2298_23 K2373_23 K2389_23 K2454_23 K2503_23 K2540_23 K2600_23 K2616_23 K2644_23 K2697_23 K2722_23 K2730_23 l3_13 Q n l4_14 M → w M 23 [(0, .ref (gA G (gBig + b))), (1, .ref (gA G 16)), (2, .ref (gA G 268)), (3, .ref (gA G l3_13)), (4, .int l4_14)] [] := by
  intro n
  induction n with
  | zero => intro l4_14 M h; exact h.elim
  | succ n ih => intro l4_14 M h; exact wL_law_L23s hw hkf hv ih hK307_23 hK368_23 hK429_23 hK454_23 hK515_23 hK552_23 hK624_23 hK641_23 hK716_23 hK732_23 hK807_23 hK823_23 hK886_23 hK902_23 hK942_23 hK979_23 hK1067_23 hK1083_23 hK1158_23 hK1174_23 hK1227_23 hK1287_23 hK1303_23 hK1344_23 hK1416_23 hK1432_23 hK1582_23 hK1607_23 hK1668_23 hK1706_23 hK1731_23 hK1804_23 hK1869_23 hK1933_23 hK1949_23 hK1977_23 hK2002_23 hK2039_23 hK2087_23 hK2103_23 hK2142_23 hK2158_23 hK2222_23 hK2282_23 hK2298_23 hK2373_23 hK2389_23 hK2454_23 hK2503_23 hK2540_23 hK2600_23 hK2616_23 hK2644_23 hK2697_23 hK2722_23 hK2730_23 h
def fL_law (L : Nat) (xs : Nat → Int32) (M : gM) (Q : Int32 → gM → Prop) : Prop :=
  gn M < gLC ∧ gs M + 28 ≤ gLS ∧ ((gn M) = 16) ∧ fX1_init (gnew M 1 0 28) (fun M4 => gn M4 < gLC ∧ gs M4 + 58 ≤ gLS ∧ ((gn M4) = 268) ∧ fX7_init (gnew M4 7 0 58) (fun M9 => gn M9 < gLC ∧ gs M9 + 1 ≤ gLS ∧ ∃ n, fL_law_L23 L xs (fun M772 => Q 0 M772) (fun M773 => Q 0 M773) (fun M774 => Q 0 M774) (fun M775 => Q 0 M775) (fun M776 => Q 0 M776) (fun M777 => Q 0 M777) (fun M778 => Q 0 M778) (fun M779 => Q 0 M779) (fun M780 => Q 0 M780) (fun M781 => Q 0 M781) (fun M782 => Q 0 M782) (fun M783 => Q 0 M783) (fun M784 => Q 0 M784) (fun M785 => Q 0 M785) (fun M786 => Q 0 M786) (fun M787 => Q 0 M787) (fun M788 => Q 0 M788) (fun M789 => Q 0 M789) (fun M790 => Q 0 M790) (fun M791 => Q 0 M791) (fun M792 => Q 0 M792) (fun M793 => Q 0 M793) (fun M794 => Q 0 M794) (fun M795 => Q 0 M795) (fun M796 => Q 0 M796) (fun M797 => Q 0 M797) (fun M798 => Q 0 M798) (fun M799 => Q 0 M799) (fun M800 => Q 0 M800) (fun M801 => Q 0 M801) (fun M802 => Q 0 M802) (fun M803 => Q 0 M803) (fun M804 => Q 0 M804) (fun M805 => Q 0 M805) (fun M806 => Q 0 M806) (fun M807 => Q 0 M807) (fun M808 => Q 0 M808) (fun M809 => Q 0 M809) (fun M810 => Q 0 M810) (fun M811 => Q 0 M811) (fun M812 => Q 0 M812) (fun M813 => Q 0 M813) (fun M814 => Q 0 M814) (fun M815 => Q 0 M815) (fun M816 => Q 0 M816) (fun M817 => Q 0 M817) (fun M818 => Q 0 M818) (fun M819 => Q 0 M819) (fun M820 => Q 0 M820) (fun M821 => Q 0 M821) (fun M822 => Q 0 M822) (fun M823 => Q 0 M823) (fun M824 => Q 0 M824) (fun M825 => Q 0 M825) (fun M826 => Q 0 M826) (fun M827 => Q 1 M827) (gn M9) Q n 0 (gnew M9 41 1 1)))
theorem wL_law {kf : Nat} {G : gG} {w : gM → Nat → List (Nat × Value) → List Value → Prop} {Q : Int32 → gM → Prop} (hw : gX yL_law cL_law 8 (Option.some FieldType.boolean) [] kf G (gQi Q) gE0 w) {L : Nat} {xs : Nat → Int32} {b : Nat} (hkf : 1017 ≤ kf) (hv : gScr G b L xs) {M : gM} (h : fL_law L xs M Q) : w M 0 [(0, .ref (gA G (gBig + b)))] [] := by
  unfold fL_law at h
  obtain ⟨hc1, h⟩ := h
  obtain ⟨hc2, h⟩ := h
  refine g_new (C := RX1) (T := TX1) (N := 28) (ci := 0) hw in_X1 tyX1 tyX1_ok rfl rfl (by decide) dL_law_0 q123 q124 q98 hc1 hc2 ?_
  refine g_dup hw dL_law_3 rfl ?_
  obtain ⟨hr3, h⟩ := h
  rw [hr3]
  refine sX0_60 hw rfl dL_law_4 rfl (gK2 hkf) h (fun M4 h => ?_)
  refine g_astore_n hw (lv2 := [(0, .ref (gA G (gBig + b))), (1, .ref (gA G 16))]) [1, 0] dL_law_7 rfl rfl ?_
  obtain ⟨hc6, h⟩ := h
  obtain ⟨hc7, h⟩ := h
  refine g_new (C := RX7) (T := TX7) (N := 58) (ci := 6) hw in_X7 tyX7 tyX7_ok rfl rfl (by decide) dL_law_8 q1123 q1121 q104 hc6 hc7 ?_
  refine g_dup hw dL_law_11 rfl ?_
  obtain ⟨hr8, h⟩ := h
  rw [hr8]
  refine sX0_63 hw rfl dL_law_12 rfl (gK2 hkf) h (fun M9 h => ?_)
  refine g_astore_n hw (lv2 := [(0, .ref (gA G (gBig + b))), (1, .ref (gA G 16)), (2, .ref (gA G 268))]) [1, 2, 0] dL_law_15 rfl rfl ?_
  refine g_iconst (v := 1) hw dL_law_16 (by decide) ?_
  obtain ⟨hc11, h⟩ := h
  obtain ⟨hc12, h⟩ := h
  refine g_newa (N := 1) hw 1 dL_law_17 q1331 rfl (by decide) rfl (by decide) rfl (by decide) hc11 hc12 ?_
  refine g_astore_n hw (lv2 := [(0, .ref (gA G (gBig + b))), (1, .ref (gA G 16)), (2, .ref (gA G 268)), (3, .ref (gA G (gn M9)))]) [1, 2, 3, 0] dL_law_19 rfl rfl ?_
  refine g_iconst (v := 0) hw dL_law_20 (by decide) ?_
  refine g_istore hw (lv2 := [(0, .ref (gA G (gBig + b))), (1, .ref (gA G 16)), (2, .ref (gA G 268)), (3, .ref (gA G (gn M9))), (4, .int 0)]) [1, 2, 3, 4, 0] dL_law_21 rfl rfl ?_
  obtain ⟨n9, h⟩ := h
  refine wL_law_L23 hw hkf hv (fun M772 h => ?_) (fun M773 h => ?_) (fun M774 h => ?_) (fun M775 h => ?_) (fun M776 h => ?_) (fun M777 h => ?_) (fun M778 h => ?_) (fun M779 h => ?_) (fun M780 h => ?_) (fun M781 h => ?_) (fun M782 h => ?_) (fun M783 h => ?_) (fun M784 h => ?_) (fun M785 h => ?_) (fun M786 h => ?_) (fun M787 h => ?_) (fun M788 h => ?_) (fun M789 h => ?_) (fun M790 h => ?_) (fun M791 h => ?_) (fun M792 h => ?_) (fun M793 h => ?_) (fun M794 h => ?_) (fun M795 h => ?_) (fun M796 h => ?_) (fun M797 h => ?_) (fun M798 h => ?_) (fun M799 h => ?_) (fun M800 h => ?_) (fun M801 h => ?_) (fun M802 h => ?_) (fun M803 h => ?_) (fun M804 h => ?_) (fun M805 h => ?_) (fun M806 h => ?_) (fun M807 h => ?_) (fun M808 h => ?_) (fun M809 h => ?_) (fun M810 h => ?_) (fun M811 h => ?_) (fun M812 h => ?_) (fun M813 h => ?_) (fun M814 h => ?_) (fun M815 h => ?_) (fun M816 h => ?_) (fun M817 h => ?_) (fun M818 h => ?_) (fun M819 h => ?_) (fun M820 h => ?_) (fun M821 h => ?_) (fun M822 h => ?_) (fun M823 h => ?_) (fun M824 h => ?_) (fun M825 h => ?_) (fun M826 h => ?_) (fun M827 h => ?_) n9 0 (gnew M9 41 1 1) h
  · refine g_iconst (v := 0) hw dL_law_307 (by decide) ?_
    exact g_iret hw dL_law_308 (by decide +kernel) ⟨_, rfl, h⟩
  · refine g_iconst (v := 0) hw dL_law_368 (by decide) ?_
    exact g_iret hw dL_law_369 (by decide +kernel) ⟨_, rfl, h⟩
  · refine g_iconst (v := 0) hw dL_law_429 (by decide) ?_
    exact g_iret hw dL_law_430 (by decide +kernel) ⟨_, rfl, h⟩
  · refine g_iconst (v := 0) hw dL_law_454 (by decide) ?_
    exact g_iret hw dL_law_455 (by decide +kernel) ⟨_, rfl, h⟩
  · refine g_iconst (v := 0) hw dL_law_515 (by decide) ?_
    exact g_iret hw dL_law_516 (by decide +kernel) ⟨_, rfl, h⟩
  · refine g_iconst (v := 0) hw dL_law_552 (by decide) ?_
    exact g_iret hw dL_law_553 (by decide +kernel) ⟨_, rfl, h⟩
  · refine g_iconst (v := 0) hw dL_law_624 (by decide) ?_
    exact g_iret hw dL_law_625 (by decide +kernel) ⟨_, rfl, h⟩
  · refine g_iconst (v := 0) hw dL_law_641 (by decide) ?_
    exact g_iret hw dL_law_642 (by decide +kernel) ⟨_, rfl, h⟩
  · refine g_iconst (v := 0) hw dL_law_716 (by decide) ?_
    exact g_iret hw dL_law_717 (by decide +kernel) ⟨_, rfl, h⟩
  · refine g_iconst (v := 0) hw dL_law_732 (by decide) ?_
    exact g_iret hw dL_law_733 (by decide +kernel) ⟨_, rfl, h⟩
  · refine g_iconst (v := 0) hw dL_law_807 (by decide) ?_
    exact g_iret hw dL_law_808 (by decide +kernel) ⟨_, rfl, h⟩
  · refine g_iconst (v := 0) hw dL_law_823 (by decide) ?_
    exact g_iret hw dL_law_824 (by decide +kernel) ⟨_, rfl, h⟩
  · refine g_iconst (v := 0) hw dL_law_886 (by decide) ?_
    exact g_iret hw dL_law_887 (by decide +kernel) ⟨_, rfl, h⟩
  · refine g_iconst (v := 0) hw dL_law_902 (by decide) ?_
    exact g_iret hw dL_law_903 (by decide +kernel) ⟨_, rfl, h⟩
  · refine g_iconst (v := 0) hw dL_law_942 (by decide) ?_
    exact g_iret hw dL_law_943 (by decide +kernel) ⟨_, rfl, h⟩
  · refine g_iconst (v := 0) hw dL_law_979 (by decide) ?_
    exact g_iret hw dL_law_980 (by decide +kernel) ⟨_, rfl, h⟩
  · refine g_iconst (v := 0) hw dL_law_1067 (by decide) ?_
    exact g_iret hw dL_law_1068 (by decide +kernel) ⟨_, rfl, h⟩
  · refine g_iconst (v := 0) hw dL_law_1083 (by decide) ?_
    exact g_iret hw dL_law_1084 (by decide +kernel) ⟨_, rfl, h⟩
  · refine g_iconst (v := 0) hw dL_law_1158 (by decide) ?_
    exact g_iret hw dL_law_1159 (by decide +kernel) ⟨_, rfl, h⟩
  · refine g_iconst (v := 0) hw dL_law_1174 (by decide) ?_
    exact g_iret hw dL_law_1175 (by decide +kernel) ⟨_, rfl, h⟩
  · refine g_iconst (v := 0) hw dL_law_1227 (by decide) ?_
    exact g_iret hw dL_law_1228 (by decide +kernel) ⟨_, rfl, h⟩
  · refine g_iconst (v := 0) hw dL_law_1287 (by decide) ?_
    exact g_iret hw dL_law_1288 (by decide +kernel) ⟨_, rfl, h⟩
  · refine g_iconst (v := 0) hw dL_law_1303 (by decide) ?_
    exact g_iret hw dL_law_1304 (by decide +kernel) ⟨_, rfl, h⟩
  · refine g_iconst (v := 0) hw dL_law_1344 (by decide) ?_
    exact g_iret hw dL_law_1345 (by decide +kernel) ⟨_, rfl, h⟩
  · refine g_iconst (v := 0) hw dL_law_1416 (by decide) ?_
    exact g_iret hw dL_law_1417 (by decide +kernel) ⟨_, rfl, h⟩
  · refine g_iconst (v := 0) hw dL_law_1432 (by decide) ?_
    exact g_iret hw dL_law_1433 (by decide +kernel) ⟨_, rfl, h⟩
  · refine g_iconst (v := 0) hw dL_law_1582 (by decide) ?_
    exact g_iret hw dL_law_1583 (by decide +kernel) ⟨_, rfl, h⟩
  · refine g_iconst (v := 0) hw dL_law_1607 (by decide) ?_
    exact g_iret hw dL_law_1608 (by decide +kernel) ⟨_, rfl, h⟩
  · refine g_iconst (v := 0) hw dL_law_1668 (by decide) ?_
    exact g_iret hw dL_law_1669 (by decide +kernel) ⟨_, rfl, h⟩
  · refine g_iconst (v := 0) hw dL_law_1706 (by decide) ?_
    exact g_iret hw dL_law_1707 (by decide +kernel) ⟨_, rfl, h⟩
  · refine g_iconst (v := 0) hw dL_law_1731 (by decide) ?_
    exact g_iret hw dL_law_1732 (by decide +kernel) ⟨_, rfl, h⟩
  · refine g_iconst (v := 0) hw dL_law_1804 (by decide) ?_
    exact g_iret hw dL_law_1805 (by decide +kernel) ⟨_, rfl, h⟩
  · refine g_iconst (v := 0) hw dL_law_1869 (by decide) ?_
    exact g_iret hw dL_law_1870 (by decide +kernel) ⟨_, rfl, h⟩
  · refine g_iconst (v := 0) hw dL_law_1933 (by decide) ?_
    exact g_iret hw dL_law_1934 (by decide +kernel) ⟨_, rfl, h⟩
  · refine g_iconst (v := 0) hw dL_law_1949 (by decide) ?_
    exact g_iret hw dL_law_1950 (by decide +kernel) ⟨_, rfl, h⟩
  · refine g_iconst (v := 0) hw dL_law_1977 (by decide) ?_
    exact g_iret hw dL_law_1978 (by decide +kernel) ⟨_, rfl, h⟩
  · refine g_iconst (v := 0) hw dL_law_2002 (by decide) ?_
    exact g_iret hw dL_law_2003 (by decide +kernel) ⟨_, rfl, h⟩
  · refine g_iconst (v := 0) hw dL_law_2039 (by decide) ?_
    exact g_iret hw dL_law_2040 (by decide +kernel) ⟨_, rfl, h⟩
  · refine g_iconst (v := 0) hw dL_law_2087 (by decide) ?_
    exact g_iret hw dL_law_2088 (by decide +kernel) ⟨_, rfl, h⟩
  · refine g_iconst (v := 0) hw dL_law_2103 (by decide) ?_
    exact g_iret hw dL_law_2104 (by decide +kernel) ⟨_, rfl, h⟩
  · refine g_iconst (v := 0) hw dL_law_2142 (by decide) ?_
    exact g_iret hw dL_law_2143 (by decide +kernel) ⟨_, rfl, h⟩
  · refine g_iconst (v := 0) hw dL_law_2158 (by decide) ?_
    exact g_iret hw dL_law_2159 (by decide +kernel) ⟨_, rfl, h⟩
  · refine g_iconst (v := 0) hw dL_law_2222 (by decide) ?_
    exact g_iret hw dL_law_2223 (by decide +kernel) ⟨_, rfl, h⟩
  · refine g_iconst (v := 0) hw dL_law_2282 (by decide) ?_
    exact g_iret hw dL_law_2283 (by decide +kernel) ⟨_, rfl, h⟩
  · refine g_iconst (v := 0) hw dL_law_2298 (by decide) ?_
    exact g_iret hw dL_law_2299 (by decide +kernel) ⟨_, rfl, h⟩
  · refine g_iconst (v := 0) hw dL_law_2373 (by decide) ?_
    exact g_iret hw dL_law_2374 (by decide +kernel) ⟨_, rfl, h⟩
  · refine g_iconst (v := 0) hw dL_law_2389 (by decide) ?_
    exact g_iret hw dL_law_2390 (by decide +kernel) ⟨_, rfl, h⟩
  · refine g_iconst (v := 0) hw dL_law_2454 (by decide) ?_
    exact g_iret hw dL_law_2455 (by decide +kernel) ⟨_, rfl, h⟩
  · refine g_iconst (v := 0) hw dL_law_2503 (by decide) ?_
    exact g_iret hw dL_law_2504 (by decide +kernel) ⟨_, rfl, h⟩
  · refine g_iconst (v := 0) hw dL_law_2540 (by decide) ?_
    exact g_iret hw dL_law_2541 (by decide +kernel) ⟨_, rfl, h⟩
  · refine g_iconst (v := 0) hw dL_law_2600 (by decide) ?_
    exact g_iret hw dL_law_2601 (by decide +kernel) ⟨_, rfl, h⟩
  · refine g_iconst (v := 0) hw dL_law_2616 (by decide) ?_
    exact g_iret hw dL_law_2617 (by decide +kernel) ⟨_, rfl, h⟩
  · refine g_iconst (v := 0) hw dL_law_2644 (by decide) ?_
    exact g_iret hw dL_law_2645 (by decide +kernel) ⟨_, rfl, h⟩
  · refine g_iconst (v := 0) hw dL_law_2697 (by decide) ?_
    exact g_iret hw dL_law_2698 (by decide +kernel) ⟨_, rfl, h⟩
  · refine g_iconst (v := 0) hw dL_law_2722 (by decide) ?_
    exact g_iret hw dL_law_2723 (by decide +kernel) ⟨_, rfl, h⟩
  · refine g_iconst (v := 1) hw dL_law_2730 (by decide) ?_
    exact g_iret hw dL_law_2731 (by decide +kernel) ⟨_, rfl, h⟩
