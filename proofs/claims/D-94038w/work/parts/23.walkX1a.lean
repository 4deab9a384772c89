set_option maxRecDepth 100000
theorem pfX1_21 {y0 : MethodName} {cc : ByteArray} {nL : Nat} {ret : Option FieldType} {hh : List (Nat × Nat × Nat × Nat)} {kf : Nat} {G : gG} {Qv : Option Value → gM → Prop} {E : String → Nat → gM → Prop} {w : gM → Nat → List (Nat × Value) → List Value → Prop} {M : gM} {pc : Nat} {lv : List (Nat × Value)} {rest : List Value} (hw : gX y0 cc nL ret hh kf G Qv E w) (hy : y0.cls = RX1) (hyn : y0.name = "<init>") {c : Nat} {q : Option Nat} (d : decode cc pc = .ok (.putfield 21, 3)) (hk : gk M c = 1) (kk : w (gsR M c 0 q) (pc + 3) lv rest) : w M pc lv (va_rf (q.map (gA G)) :: .ref (gA G c) :: rest) := by
  obtain ⟨cls9, nm9, ds9⟩ := y0
  subst hy
  exact g_putC (C := RX1) (T := TX1) (N := 28) (ci := 0) hw in_X1 tyX1 tyX1_ok nmX1 rfl 0 (by decide) (Or.inl ⟨q272, Or.inr ⟨rfl, hyn, rfl⟩⟩) (by cases q <;> rfl) (by cases q <;> rfl) (gOne_R M c 0 q) (by show va_rf ((gR (gsR M c 0 q) c 0).map (gA G)) = _; rw [gR_sR, if_pos ⟨rfl, rfl⟩]) d hk kk
theorem pfX1_27 {y0 : MethodName} {cc : ByteArray} {nL : Nat} {ret : Option FieldType} {hh : List (Nat × Nat × Nat × Nat)} {kf : Nat} {G : gG} {Qv : Option Value → gM → Prop} {E : String → Nat → gM → Prop} {w : gM → Nat → List (Nat × Value) → List Value → Prop} {M : gM} {pc : Nat} {lv : List (Nat × Value)} {rest : List Value} (hw : gX y0 cc nL ret hh kf G Qv E w) (hy : y0.cls = RX1) (hyn : y0.name = "<init>") {c : Nat} {q : Option Nat} (d : decode cc pc = .ok (.putfield 27, 3)) (hk : gk M c = 1) (kk : w (gsR M c 1 q) (pc + 3) lv rest) : w M pc lv (va_rf (q.map (gA G)) :: .ref (gA G c) :: rest) := by
  obtain ⟨cls9, nm9, ds9⟩ := y0
  subst hy
  exact g_putC (C := RX1) (T := TX1) (N := 28) (ci := 0) hw in_X1 tyX1 tyX1_ok nmX1 rfl 1 (by decide) (Or.inl ⟨q273, Or.inr ⟨rfl, hyn, rfl⟩⟩) (by cases q <;> rfl) (by cases q <;> rfl) (gOne_R M c 1 q) (by show va_rf ((gR (gsR M c 1 q) c 1).map (gA G)) = _; rw [gR_sR, if_pos ⟨rfl, rfl⟩]) d hk kk
theorem pfX1_30 {y0 : MethodName} {cc : ByteArray} {nL : Nat} {ret : Option FieldType} {hh : List (Nat × Nat × Nat × Nat)} {kf : Nat} {G : gG} {Qv : Option Value → gM → Prop} {E : String → Nat → gM → Prop} {w : gM → Nat → List (Nat × Value) → List Value → Prop} {M : gM} {pc : Nat} {lv : List (Nat × Value)} {rest : List Value} (hw : gX y0 cc nL ret hh kf G Qv E w) (hy : y0.cls = RX1) (hyn : y0.name = "<init>") {c : Nat} {q : Option Nat} (d : decode cc pc = .ok (.putfield 30, 3)) (hk : gk M c = 1) (kk : w (gsR M c 2 q) (pc + 3) lv rest) : w M pc lv (va_rf (q.map (gA G)) :: .ref (gA G c) :: rest) := by
  obtain ⟨cls9, nm9, ds9⟩ := y0
  subst hy
  exact g_putC (C := RX1) (T := TX1) (N := 28) (ci := 0) hw in_X1 tyX1 tyX1_ok nmX1 rfl 2 (by decide) (Or.inl ⟨q274, Or.inr ⟨rfl, hyn, rfl⟩⟩) (by cases q <;> rfl) (by cases q <;> rfl) (gOne_R M c 2 q) (by show va_rf ((gR (gsR M c 2 q) c 2).map (gA G)) = _; rw [gR_sR, if_pos ⟨rfl, rfl⟩]) d hk kk
theorem pfX1_33 {y0 : MethodName} {cc : ByteArray} {nL : Nat} {ret : Option FieldType} {hh : List (Nat × Nat × Nat × Nat)} {kf : Nat} {G : gG} {Qv : Option Value → gM → Prop} {E : String → Nat → gM → Prop} {w : gM → Nat → List (Nat × Value) → List Value → Prop} {M : gM} {pc : Nat} {lv : List (Nat × Value)} {rest : List Value} (hw : gX y0 cc nL ret hh kf G Qv E w) (hy : y0.cls = RX1) (hyn : y0.name = "<init>") {c : Nat} {q : Option Nat} (d : decode cc pc = .ok (.putfield 33, 3)) (hk : gk M c = 1) (kk : w (gsR M c 3 q) (pc + 3) lv rest) : w M pc lv (va_rf (q.map (gA G)) :: .ref (gA G c) :: rest) := by
  obtain ⟨cls9, nm9, ds9⟩ := y0
  subst hy
  exact g_putC (C := RX1) (T := TX1) (N := 28) (ci := 0) hw in_X1 tyX1 tyX1_ok nmX1 rfl 3 (by decide) (Or.inl ⟨q275, Or.inr ⟨rfl, hyn, rfl⟩⟩) (by cases q <;> rfl) (by cases q <;> rfl) (gOne_R M c 3 q) (by show va_rf ((gR (gsR M c 3 q) c 3).map (gA G)) = _; rw [gR_sR, if_pos ⟨rfl, rfl⟩]) d hk kk
theorem sX1_39 {y0 : MethodName} {cc : ByteArray} {nL : Nat} {ret : Option FieldType} {hh : List (Nat × Nat × Nat × Nat)} {kf : Nat} {G : gG} {Qv : Option Value → gM → Prop} {E : String → Nat → gM → Prop} {w : gM → Nat → List (Nat × Value) → List Value → Prop} {M : gM} {pc : Nat} {lv : List (Nat × Value)} {rest : List Value} (hw : gX y0 cc nL ret hh kf G Qv E w) (hy : y0.cls = RX1)  {Q : gM → Prop} (d : decode cc pc = .ok (.invokespecial 39, 3)) (hrest : Nat.ble ((rest.map Value.category).sum) 8 = true) (hk : 1 + 1 ≤ kf) (h : fX2_init M Q) (kk : ∀ M1, Q M1 → w M1 (pc + 3) lv rest) : w M pc lv (.ref (gA G 25) :: rest) := by
  obtain ⟨cls9, nm9, ds9⟩ := y0
  subst hy
  exact g_callI hw [] (nA := 0) rfl d (Or.inr ⟨_, q137⟩) q138 q99 q139 (by decide +kernel) rfl rfl hrest rfl (by omega : kf - 1 + 1 ≤ kf) (mX2_init (kf := kf - 1) (by omega) G M Q h) (fun _ _ _ q => q.elim) (fun v M1 h => by obtain ⟨rfl, h⟩ := h; exact kk M1 h)
theorem pfX1_40 {y0 : MethodName} {cc : ByteArray} {nL : Nat} {ret : Option FieldType} {hh : List (Nat × Nat × Nat × Nat)} {kf : Nat} {G : gG} {Qv : Option Value → gM → Prop} {E : String → Nat → gM → Prop} {w : gM → Nat → List (Nat × Value) → List Value → Prop} {M : gM} {pc : Nat} {lv : List (Nat × Value)} {rest : List Value} (hw : gX y0 cc nL ret hh kf G Qv E w) (hy : y0.cls = RX1) (hyn : y0.name = "<init>") {c : Nat} {q : Option Nat} (d : decode cc pc = .ok (.putfield 40, 3)) (hk : gk M c = 1) (kk : w (gsR M c 4 q) (pc + 3) lv rest) : w M pc lv (va_rf (q.map (gA G)) :: .ref (gA G c) :: rest) := by
  obtain ⟨cls9, nm9, ds9⟩ := y0
  subst hy
  exact g_putC (C := RX1) (T := TX1) (N := 28) (ci := 0) hw in_X1 tyX1 tyX1_ok nmX1 rfl 4 (by decide) (Or.inl ⟨q276, Or.inr ⟨rfl, hyn, rfl⟩⟩) (by cases q <;> rfl) (by cases q <;> rfl) (gOne_R M c 4 q) (by show va_rf ((gR (gsR M c 4 q) c 4).map (gA G)) = _; rw [gR_sR, if_pos ⟨rfl, rfl⟩]) d hk kk
theorem pfX1_46 {y0 : MethodName} {cc : ByteArray} {nL : Nat} {ret : Option FieldType} {hh : List (Nat × Nat × Nat × Nat)} {kf : Nat} {G : gG} {Qv : Option Value → gM → Prop} {E : String → Nat → gM → Prop} {w : gM → Nat → List (Nat × Value) → List Value → Prop} {M : gM} {pc : Nat} {lv : List (Nat × Value)} {rest : List Value} (hw : gX y0 cc nL ret hh kf G Qv E w) (hy : y0.cls = RX1) (hyn : y0.name = "<init>") {c : Nat} {q : Option Nat} (d : decode cc pc = .ok (.putfield 46, 3)) (hk : gk M c = 1) (kk : w (gsR M c 5 q) (pc + 3) lv rest) : w M pc lv (va_rf (q.map (gA G)) :: .ref (gA G c) :: rest) := by
  obtain ⟨cls9, nm9, ds9⟩ := y0
  subst hy
  exact g_putC (C := RX1) (T := TX1) (N := 28) (ci := 0) hw in_X1 tyX1 tyX1_ok nmX1 rfl 5 (by decide) (Or.inl ⟨q277, Or.inr ⟨rfl, hyn, rfl⟩⟩) (by cases q <;> rfl) (by cases q <;> rfl) (gOne_R M c 5 q) (by show va_rf ((gR (gsR M c 5 q) c 5).map (gA G)) = _; rw [gR_sR, if_pos ⟨rfl, rfl⟩]) d hk kk
theorem pfX1_52 {y0 : MethodName} {cc : ByteArray} {nL : Nat} {ret : Option FieldType} {hh : List (Nat × Nat × Nat × Nat)} {kf : Nat} {G : gG} {Qv : Option Value → gM → Prop} {E : String → Nat → gM → Prop} {w : gM → Nat → List (Nat × Value) → List Value → Prop} {M : gM} {pc : Nat} {lv : List (Nat × Value)} {rest : List Value} (hw : gX y0 cc nL ret hh kf G Qv E w) (hy : y0.cls = RX1) (hyn : y0.name = "<init>") {c : Nat} {q : Option Nat} (d : decode cc pc = .ok (.putfield 52, 3)) (hk : gk M c = 1) (kk : w (gsR M c 6 q) (pc + 3) lv rest) : w M pc lv (va_rf (q.map (gA G)) :: .ref (gA G c) :: rest) := by
  obtain ⟨cls9, nm9, ds9⟩ := y0
  subst hy
  exact g_putC (C := RX1) (T := TX1) (N := 28) (ci := 0) hw in_X1 tyX1 tyX1_ok nmX1 rfl 6 (by decide) (Or.inl ⟨q278, Or.inr ⟨rfl, hyn, rfl⟩⟩) (by cases q <;> rfl) (by cases q <;> rfl) (gOne_R M c 6 q) (by show va_rf ((gR (gsR M c 6 q) c 6).map (gA G)) = _; rw [gR_sR, if_pos ⟨rfl, rfl⟩]) d hk kk
theorem pfX1_56 {y0 : MethodName} {cc : ByteArray} {nL : Nat} {ret : Option FieldType} {hh : List (Nat × Nat × Nat × Nat)} {kf : Nat} {G : gG} {Qv : Option Value → gM → Prop} {E : String → Nat → gM → Prop} {w : gM → Nat → List (Nat × Value) → List Value → Prop} {M : gM} {pc : Nat} {lv : List (Nat × Value)} {rest : List Value} (hw : gX y0 cc nL ret hh kf G Qv E w) (hy : y0.cls = RX1) {c : Nat} {x : Int32} (d : decode cc pc = .ok (.putfield 56, 3)) (hk : gk M c = 1) (kk : w (gsI M c 8 x) (pc + 3) lv rest) : w M pc lv (.int x :: .ref (gA G c) :: rest) := by
  obtain ⟨cls9, nm9, ds9⟩ := y0
  subst hy
  exact g_putC (C := RX1) (T := TX1) (N := 28) (ci := 0) hw in_X1 tyX1 tyX1_ok nmX1 rfl 8 (by decide) (Or.inl ⟨q280, Or.inl rfl⟩) rfl rfl (gOne_I M c 8 x) (by show Value.int (gI (gsI M c 8 x) c 8) = _; rw [gI_sI, if_pos ⟨rfl, rfl⟩]) d hk kk
theorem pfX1_60 {y0 : MethodName} {cc : ByteArray} {nL : Nat} {ret : Option FieldType} {hh : List (Nat × Nat × Nat × Nat)} {kf : Nat} {G : gG} {Qv : Option Value → gM → Prop} {E : String → Nat → gM → Prop} {w : gM → Nat → List (Nat × Value) → List Value → Prop} {M : gM} {pc : Nat} {lv : List (Nat × Value)} {rest : List Value} (hw : gX y0 cc nL ret hh kf G Qv E w) (hy : y0.cls = RX1) {c : Nat} {x : Int32} (d : decode cc pc = .ok (.putfield 60, 3)) (hk : gk M c = 1) (kk : w (gsI M c 9 x) (pc + 3) lv rest) : w M pc lv (.int x :: .ref (gA G c) :: rest) := by
  obtain ⟨cls9, nm9, ds9⟩ := y0
  subst hy
  exact g_putC (C := RX1) (T := TX1) (N := 28) (ci := 0) hw in_X1 tyX1 tyX1_ok nmX1 rfl 9 (by decide) (Or.inl ⟨q281, Or.inl rfl⟩) rfl rfl (gOne_I M c 9 x) (by show Value.int (gI (gsI M c 9 x) c 9) = _; rw [gI_sI, if_pos ⟨rfl, rfl⟩]) d hk kk
theorem sX1_65 {y0 : MethodName} {cc : ByteArray} {nL : Nat} {ret : Option FieldType} {hh : List (Nat × Nat × Nat × Nat)} {kf : Nat} {G : gG} {Qv : Option Value → gM → Prop} {E : String → Nat → gM → Prop} {w : gM → Nat → List (Nat × Value) → List Value → Prop} {M : gM} {pc : Nat} {lv : List (Nat × Value)} {rest : List Value} (hw : gX y0 cc nL ret hh kf G Qv E w) (hy : y0.cls = RX1) {c0 : Nat} {Q : gM → Prop} (d : decode cc pc = .ok (.invokespecial 65, 3)) (hrest : Nat.ble ((rest.map Value.category).sum) 8 = true) (hk : 1 + 1 ≤ kf) (h : fX3_init c0 M Q) (kk : ∀ M1, Q M1 → w M1 (pc + 3) lv rest) : w M pc lv (.ref (gA G c0) :: rest) := by
  obtain ⟨cls9, nm9, ds9⟩ := y0
  subst hy
  exact g_callI hw [] (nA := 0) rfl d (Or.inr ⟨_, q174⟩) q175 q100 q176 (by decide +kernel) rfl rfl hrest rfl (by omega : kf - 1 + 1 ≤ kf) (mX3_init (kf := kf - 1) (by omega) G c0 M Q h) (fun _ _ _ q => q.elim) (fun v M1 h => by obtain ⟨rfl, h⟩ := h; exact kk M1 h)
theorem pfX1_66 {y0 : MethodName} {cc : ByteArray} {nL : Nat} {ret : Option FieldType} {hh : List (Nat × Nat × Nat × Nat)} {kf : Nat} {G : gG} {Qv : Option Value → gM → Prop} {E : String → Nat → gM → Prop} {w : gM → Nat → List (Nat × Value) → List Value → Prop} {M : gM} {pc : Nat} {lv : List (Nat × Value)} {rest : List Value} (hw : gX y0 cc nL ret hh kf G Qv E w) (hy : y0.cls = RX1) (hyn : y0.name = "<init>") {c : Nat} {q : Option Nat} (d : decode cc pc = .ok (.putfield 66, 3)) (hk : gk M c = 1) (kk : w (gsR M c 10 q) (pc + 3) lv rest) : w M pc lv (va_rf (q.map (gA G)) :: .ref (gA G c) :: rest) := by
  obtain ⟨cls9, nm9, ds9⟩ := y0
  subst hy
  exact g_putC (C := RX1) (T := TX1) (N := 28) (ci := 0) hw in_X1 tyX1 tyX1_ok nmX1 rfl 10 (by decide) (Or.inl ⟨q282, Or.inr ⟨rfl, hyn, rfl⟩⟩) (by cases q <;> rfl) (by cases q <;> rfl) (gOne_R M c 10 q) (by show va_rf ((gR (gsR M c 10 q) c 10).map (gA G)) = _; rw [gR_sR, if_pos ⟨rfl, rfl⟩]) d hk kk
theorem pfX1_70 {y0 : MethodName} {cc : ByteArray} {nL : Nat} {ret : Option FieldType} {hh : List (Nat × Nat × Nat × Nat)} {kf : Nat} {G : gG} {Qv : Option Value → gM → Prop} {E : String → Nat → gM → Prop} {w : gM → Nat → List (Nat × Value) → List Value → Prop} {M : gM} {pc : Nat} {lv : List (Nat × Value)} {rest : List Value} (hw : gX y0 cc nL ret hh kf G Qv E w) (hy : y0.cls = RX1) (hyn : y0.name = "<init>") {c : Nat} {q : Option Nat} (d : decode cc pc = .ok (.putfield 70, 3)) (hk : gk M c = 1) (kk : w (gsR M c 11 q) (pc + 3) lv rest) : w M pc lv (va_rf (q.map (gA G)) :: .ref (gA G c) :: rest) := by
  obtain ⟨cls9, nm9, ds9⟩ := y0
  subst hy
  exact g_putC (C := RX1) (T := TX1) (N := 28) (ci := 0) hw in_X1 tyX1 tyX1_ok nmX1 rfl 11 (by decide) (Or.inl ⟨q283, Or.inr ⟨rfl, hyn, rfl⟩⟩) (by cases q <;> rfl) (by cases q <;> rfl) (gOne_R M c 11 q) (by show va_rf ((gR (gsR M c 11 q) c 11).map (gA G)) = _; rw [gR_sR, if_pos ⟨rfl, rfl⟩]) d hk kk
theorem pfX1_73 {y0 : MethodName} {cc : ByteArray} {nL : Nat} {ret : Option FieldType} {hh : List (Nat × Nat × Nat × Nat)} {kf : Nat} {G : gG} {Qv : Option Value → gM → Prop} {E : String → Nat → gM → Prop} {w : gM → Nat → List (Nat × Value) → List Value → Prop} {M : gM} {pc : Nat} {lv : List (Nat × Value)} {rest : List Value} (hw : gX y0 cc nL ret hh kf G Qv E w) (hy : y0.cls = RX1) (hyn : y0.name = "<init>") {c : Nat} {q : Option Nat} (d : decode cc pc = .ok (.putfield 73, 3)) (hk : gk M c = 1) (kk : w (gsR M c 12 q) (pc + 3) lv rest) : w M pc lv (va_rf (q.map (gA G)) :: .ref (gA G c) :: rest) := by
  obtain ⟨cls9, nm9, ds9⟩ := y0
  subst hy
  exact g_putC (C := RX1) (T := TX1) (N := 28) (ci := 0) hw in_X1 tyX1 tyX1_ok nmX1 rfl 12 (by decide) (Or.inl ⟨q284, Or.inr ⟨rfl, hyn, rfl⟩⟩) (by cases q <;> rfl) (by cases q <;> rfl) (gOne_R M c 12 q) (by show va_rf ((gR (gsR M c 12 q) c 12).map (gA G)) = _; rw [gR_sR, if_pos ⟨rfl, rfl⟩]) d hk kk
theorem pfX1_77 {y0 : MethodName} {cc : ByteArray} {nL : Nat} {ret : Option FieldType} {hh : List (Nat × Nat × Nat × Nat)} {kf : Nat} {G : gG} {Qv : Option Value → gM → Prop} {E : String → Nat → gM → Prop} {w : gM → Nat → List (Nat × Value) → List Value → Prop} {M : gM} {pc : Nat} {lv : List (Nat × Value)} {rest : List Value} (hw : gX y0 cc nL ret hh kf G Qv E w) (hy : y0.cls = RX1) (hyn : y0.name = "<init>") {c : Nat} {q : Option Nat} (d : decode cc pc = .ok (.putfield 77, 3)) (hk : gk M c = 1) (kk : w (gsR M c 16 q) (pc + 3) lv rest) : w M pc lv (va_rf (q.map (gA G)) :: .ref (gA G c) :: rest) := by
  obtain ⟨cls9, nm9, ds9⟩ := y0
  subst hy
  exact g_putC (C := RX1) (T := TX1) (N := 28) (ci := 0) hw in_X1 tyX1 tyX1_ok nmX1 rfl 16 (by decide) (Or.inl ⟨q288, Or.inr ⟨rfl, hyn, rfl⟩⟩) (by cases q <;> rfl) (by cases q <;> rfl) (gOne_R M c 16 q) (by show va_rf ((gR (gsR M c 16 q) c 16).map (gA G)) = _; rw [gR_sR, if_pos ⟨rfl, rfl⟩]) d hk kk
theorem pfX1_80 {y0 : MethodName} {cc : ByteArray} {nL : Nat} {ret : Option FieldType} {hh : List (Nat × Nat × Nat × Nat)} {kf : Nat} {G : gG} {Qv : Option Value → gM → Prop} {E : String → Nat → gM → Prop} {w : gM → Nat → List (Nat × Value) → List Value → Prop} {M : gM} {pc : Nat} {lv : List (Nat × Value)} {rest : List Value} (hw : gX y0 cc nL ret hh kf G Qv E w) (hy : y0.cls = RX1) (hyn : y0.name = "<init>") {c : Nat} {q : Option Nat} (d : decode cc pc = .ok (.putfield 80, 3)) (hk : gk M c = 1) (kk : w (gsR M c 17 q) (pc + 3) lv rest) : w M pc lv (va_rf (q.map (gA G)) :: .ref (gA G c) :: rest) := by
  obtain ⟨cls9, nm9, ds9⟩ := y0
  subst hy
  exact g_putC (C := RX1) (T := TX1) (N := 28) (ci := 0) hw in_X1 tyX1 tyX1_ok nmX1 rfl 17 (by decide) (Or.inl ⟨q289, Or.inr ⟨rfl, hyn, rfl⟩⟩) (by cases q <;> rfl) (by cases q <;> rfl) (gOne_R M c 17 q) (by show va_rf ((gR (gsR M c 17 q) c 17).map (gA G)) = _; rw [gR_sR, if_pos ⟨rfl, rfl⟩]) d hk kk
theorem pfX1_83 {y0 : MethodName} {cc : ByteArray} {nL : Nat} {ret : Option FieldType} {hh : List (Nat × Nat × Nat × Nat)} {kf : Nat} {G : gG} {Qv : Option Value → gM → Prop} {E : String → Nat → gM → Prop} {w : gM → Nat → List (Nat × Value) → List Value → Prop} {M : gM} {pc : Nat} {lv : List (Nat × Value)} {rest : List Value} (hw : gX y0 cc nL ret hh kf G Qv E w) (hy : y0.cls = RX1) (hyn : y0.name = "<init>") {c : Nat} {q : Option Nat} (d : decode cc pc = .ok (.putfield 83, 3)) (hk : gk M c = 1) (kk : w (gsR M c 18 q) (pc + 3) lv rest) : w M pc lv (va_rf (q.map (gA G)) :: .ref (gA G c) :: rest) := by
  obtain ⟨cls9, nm9, ds9⟩ := y0
  subst hy
  exact g_putC (C := RX1) (T := TX1) (N := 28) (ci := 0) hw in_X1 tyX1 tyX1_ok nmX1 rfl 18 (by decide) (Or.inl ⟨q290, Or.inr ⟨rfl, hyn, rfl⟩⟩) (by cases q <;> rfl) (by cases q <;> rfl) (gOne_R M c 18 q) (by show va_rf ((gR (gsR M c 18 q) c 18).map (gA G)) = _; rw [gR_sR, if_pos ⟨rfl, rfl⟩]) d hk kk
theorem pfX1_86 {y0 : MethodName} {cc : ByteArray} {nL : Nat} {ret : Option FieldType} {hh : List (Nat × Nat × Nat × Nat)} {kf : Nat} {G : gG} {Qv : Option Value → gM → Prop} {E : String → Nat → gM → Prop} {w : gM → Nat → List (Nat × Value) → List Value → Prop} {M : gM} {pc : Nat} {lv : List (Nat × Value)} {rest : List Value} (hw : gX y0 cc nL ret hh kf G Qv E w) (hy : y0.cls = RX1) (hyn : y0.name = "<init>") {c : Nat} {q : Option Nat} (d : decode cc pc = .ok (.putfield 86, 3)) (hk : gk M c = 1) (kk : w (gsR M c 19 q) (pc + 3) lv rest) : w M pc lv (va_rf (q.map (gA G)) :: .ref (gA G c) :: rest) := by
  obtain ⟨cls9, nm9, ds9⟩ := y0
  subst hy
  exact g_putC (C := RX1) (T := TX1) (N := 28) (ci := 0) hw in_X1 tyX1 tyX1_ok nmX1 rfl 19 (by decide) (Or.inl ⟨q291, Or.inr ⟨rfl, hyn, rfl⟩⟩) (by cases q <;> rfl) (by cases q <;> rfl) (gOne_R M c 19 q) (by show va_rf ((gR (gsR M c 19 q) c 19).map (gA G)) = _; rw [gR_sR, if_pos ⟨rfl, rfl⟩]) d hk kk
theorem pfX1_89 {y0 : MethodName} {cc : ByteArray} {nL : Nat} {ret : Option FieldType} {hh : List (Nat × Nat × Nat × Nat)} {kf : Nat} {G : gG} {Qv : Option Value → gM → Prop} {E : String → Nat → gM → Prop} {w : gM → Nat → List (Nat × Value) → List Value → Prop} {M : gM} {pc : Nat} {lv : List (Nat × Value)} {rest : List Value} (hw : gX y0 cc nL ret hh kf G Qv E w) (hy : y0.cls = RX1) (hyn : y0.name = "<init>") {c : Nat} {q : Option Nat} (d : decode cc pc = .ok (.putfield 89, 3)) (hk : gk M c = 1) (kk : w (gsR M c 20 q) (pc + 3) lv rest) : w M pc lv (va_rf (q.map (gA G)) :: .ref (gA G c) :: rest) := by
  obtain ⟨cls9, nm9, ds9⟩ := y0
  subst hy
  exact g_putC (C := RX1) (T := TX1) (N := 28) (ci := 0) hw in_X1 tyX1 tyX1_ok nmX1 rfl 20 (by decide) (Or.inl ⟨q292, Or.inr ⟨rfl, hyn, rfl⟩⟩) (by cases q <;> rfl) (by cases q <;> rfl) (gOne_R M c 20 q) (by show va_rf ((gR (gsR M c 20 q) c 20).map (gA G)) = _; rw [gR_sR, if_pos ⟨rfl, rfl⟩]) d hk kk
theorem pfX1_92 {y0 : MethodName} {cc : ByteArray} {nL : Nat} {ret : Option FieldType} {hh : List (Nat × Nat × Nat × Nat)} {kf : Nat} {G : gG} {Qv : Option Value → gM → Prop} {E : String → Nat → gM → Prop} {w : gM → Nat → List (Nat × Value) → List Value → Prop} {M : gM} {pc : Nat} {lv : List (Nat × Value)} {rest : List Value} (hw : gX y0 cc nL ret hh kf G Qv E w) (hy : y0.cls = RX1) (hyn : y0.name = "<init>") {c : Nat} {q : Option Nat} (d : decode cc pc = .ok (.putfield 92, 3)) (hk : gk M c = 1) (kk : w (gsR M c 21 q) (pc + 3) lv rest) : w M pc lv (va_rf (q.map (gA G)) :: .ref (gA G c) :: rest) := by
  obtain ⟨cls9, nm9, ds9⟩ := y0
  subst hy
  exact g_putC (C := RX1) (T := TX1) (N := 28) (ci := 0) hw in_X1 tyX1 tyX1_ok nmX1 rfl 21 (by decide) (Or.inl ⟨q293, Or.inr ⟨rfl, hyn, rfl⟩⟩) (by cases q <;> rfl) (by cases q <;> rfl) (gOne_R M c 21 q) (by show va_rf ((gR (gsR M c 21 q) c 21).map (gA G)) = _; rw [gR_sR, if_pos ⟨rfl, rfl⟩]) d hk kk
theorem pfX1_96 {y0 : MethodName} {cc : ByteArray} {nL : Nat} {ret : Option FieldType} {hh : List (Nat × Nat × Nat × Nat)} {kf : Nat} {G : gG} {Qv : Option Value → gM → Prop} {E : String → Nat → gM → Prop} {w : gM → Nat → List (Nat × Value) → List Value → Prop} {M : gM} {pc : Nat} {lv : List (Nat × Value)} {rest : List Value} (hw : gX y0 cc nL ret hh kf G Qv E w) (hy : y0.cls = RX1) (hyn : y0.name = "<init>") {c : Nat} {q : Option Nat} (d : decode cc pc = .ok (.putfield 96, 3)) (hk : gk M c = 1) (kk : w (gsR M c 23 q) (pc + 3) lv rest) : w M pc lv (va_rf (q.map (gA G)) :: .ref (gA G c) :: rest) := by
  obtain ⟨cls9, nm9, ds9⟩ := y0
  subst hy
  exact g_putC (C := RX1) (T := TX1) (N := 28) (ci := 0) hw in_X1 tyX1 tyX1_ok nmX1 rfl 23 (by decide) (Or.inl ⟨q295, Or.inr ⟨rfl, hyn, rfl⟩⟩) (by cases q <;> rfl) (by cases q <;> rfl) (gOne_R M c 23 q) (by show va_rf ((gR (gsR M c 23 q) c 23).map (gA G)) = _; rw [gR_sR, if_pos ⟨rfl, rfl⟩]) d hk kk
theorem pfX1_99 {y0 : MethodName} {cc : ByteArray} {nL : Nat} {ret : Option FieldType} {hh : List (Nat × Nat × Nat × Nat)} {kf : Nat} {G : gG} {Qv : Option Value → gM → Prop} {E : String → Nat → gM → Prop} {w : gM → Nat → List (Nat × Value) → List Value → Prop} {M : gM} {pc : Nat} {lv : List (Nat × Value)} {rest : List Value} (hw : gX y0 cc nL ret hh kf G Qv E w) (hy : y0.cls = RX1) (hyn : y0.name = "<init>") {c : Nat} {q : Option Nat} (d : decode cc pc = .ok (.putfield 99, 3)) (hk : gk M c = 1) (kk : w (gsR M c 24 q) (pc + 3) lv rest) : w M pc lv (va_rf (q.map (gA G)) :: .ref (gA G c) :: rest) := by
  obtain ⟨cls9, nm9, ds9⟩ := y0
  subst hy
  exact g_putC (C := RX1) (T := TX1) (N := 28) (ci := 0) hw in_X1 tyX1 tyX1_ok nmX1 rfl 24 (by decide) (Or.inl ⟨q296, Or.inr ⟨rfl, hyn, rfl⟩⟩) (by cases q <;> rfl) (by cases q <;> rfl) (gOne_R M c 24 q) (by show va_rf ((gR (gsR M c 24 q) c 24).map (gA G)) = _; rw [gR_sR, if_pos ⟨rfl, rfl⟩]) d hk kk
theorem pfX1_103 {y0 : MethodName} {cc : ByteArray} {nL : Nat} {ret : Option FieldType} {hh : List (Nat × Nat × Nat × Nat)} {kf : Nat} {G : gG} {Qv : Option Value → gM → Prop} {E : String → Nat → gM → Prop} {w : gM → Nat → List (Nat × Value) → List Value → Prop} {M : gM} {pc : Nat} {lv : List (Nat × Value)} {rest : List Value} (hw : gX y0 cc nL ret hh kf G Qv E w) (hy : y0.cls = RX1) (hyn : y0.name = "<init>") {c : Nat} {q : Option Nat} (d : decode cc pc = .ok (.putfield 103, 3)) (hk : gk M c = 1) (kk : w (gsR M c 27 q) (pc + 3) lv rest) : w M pc lv (va_rf (q.map (gA G)) :: .ref (gA G c) :: rest) := by
  obtain ⟨cls9, nm9, ds9⟩ := y0
  subst hy
  exact g_putC (C := RX1) (T := TX1) (N := 28) (ci := 0) hw in_X1 tyX1 tyX1_ok nmX1 rfl 27 (by decide) (Or.inl ⟨q299, Or.inr ⟨rfl, hyn, rfl⟩⟩) (by cases q <;> rfl) (by cases q <;> rfl) (gOne_R M c 27 q) (by show va_rf ((gR (gsR M c 27 q) c 27).map (gA G)) = _; rw [gR_sR, if_pos ⟨rfl, rfl⟩]) d hk kk
theorem gfX1_21 {y0 : MethodName} {cc : ByteArray} {nL : Nat} {ret : Option FieldType} {hh : List (Nat × Nat × Nat × Nat)} {kf : Nat} {G : gG} {Qv : Option Value → gM → Prop} {E : String → Nat → gM → Prop} {w : gM → Nat → List (Nat × Value) → List Value → Prop} {M : gM} {pc : Nat} {lv : List (Nat × Value)} {rest : List Value} (hw : gX y0 cc nL ret hh kf G Qv E w) (hy : y0.cls = RX1) {c : Nat} {q : Option Nat} (d : decode cc pc = .ok (.getfield 21, 3)) (hk : gk M c = 1) (hq : gR M c 0 = q) (kk : w M (pc + 3) lv (va_rf (q.map (gA G)) :: rest)) : w M pc lv (.ref (gA G c) :: rest) := by
  obtain ⟨cls9, nm9, ds9⟩ := y0
  subst hy
  subst hq
  exact g_getC (C := RX1) (T := TX1) (N := 28) (ci := 0) hw in_X1 rfl 0 (by decide) (Or.inl q272) rfl d hk kk
theorem sX1_106 {y0 : MethodName} {cc : ByteArray} {nL : Nat} {ret : Option FieldType} {hh : List (Nat × Nat × Nat × Nat)} {kf : Nat} {G : gG} {Qv : Option Value → gM → Prop} {E : String → Nat → gM → Prop} {w : gM → Nat → List (Nat × Value) → List Value → Prop} {M : gM} {pc : Nat} {lv : List (Nat × Value)} {rest : List Value} (hw : gX y0 cc nL ret hh kf G Qv E w) (hy : y0.cls = RX1) {c0 : Nat} {Q : gM → Prop} (d : decode cc pc = .ok (.invokespecial 106, 3)) (hrest : Nat.ble ((rest.map Value.category).sum) 8 = true) (hk : 1 + 1 ≤ kf) (h : fX4_init c0 M Q) (kk : ∀ M1, Q M1 → w M1 (pc + 3) lv rest) : w M pc lv (.ref (gA G c0) :: rest) := by
  obtain ⟨cls9, nm9, ds9⟩ := y0
  subst hy
  exact g_callI hw [] (nA := 0) rfl d (Or.inl q189) q190 q101 q191 (by decide +kernel) rfl rfl hrest rfl (by omega : kf - 1 + 1 ≤ kf) (mX4_init (kf := kf - 1) (by omega) G c0 M Q h) (fun _ _ _ q => q.elim) (fun v M1 h => by obtain ⟨rfl, h⟩ := h; exact kk M1 h)
theorem gfX1_46 {y0 : MethodName} {cc : ByteArray} {nL : Nat} {ret : Option FieldType} {hh : List (Nat × Nat × Nat × Nat)} {kf : Nat} {G : gG} {Qv : Option Value → gM → Prop} {E : String → Nat → gM → Prop} {w : gM → Nat → List (Nat × Value) → List Value → Prop} {M : gM} {pc : Nat} {lv : List (Nat × Value)} {rest : List Value} (hw : gX y0 cc nL ret hh kf G Qv E w) (hy : y0.cls = RX1) {c : Nat} {q : Option Nat} (d : decode cc pc = .ok (.getfield 46, 3)) (hk : gk M c = 1) (hq : gR M c 5 = q) (kk : w M (pc + 3) lv (va_rf (q.map (gA G)) :: rest)) : w M pc lv (.ref (gA G c) :: rest) := by
  obtain ⟨cls9, nm9, ds9⟩ := y0
  subst hy
  subst hq
  exact g_getC (C := RX1) (T := TX1) (N := 28) (ci := 0) hw in_X1 rfl 5 (by decide) (Or.inl q277) rfl d hk kk
theorem sX1_107 {y0 : MethodName} {cc : ByteArray} {nL : Nat} {ret : Option FieldType} {hh : List (Nat × Nat × Nat × Nat)} {kf : Nat} {G : gG} {Qv : Option Value → gM → Prop} {E : String → Nat → gM → Prop} {w : gM → Nat → List (Nat × Value) → List Value → Prop} {M : gM} {pc : Nat} {lv : List (Nat × Value)} {rest : List Value} (hw : gX y0 cc nL ret hh kf G Qv E w) (hy : y0.cls = RX1) {c0 : Nat} {Q : gM → Prop} (d : decode cc pc = .ok (.invokespecial 107, 3)) (hrest : Nat.ble ((rest.map Value.category).sum) 8 = true) (hk : 1 + 1 ≤ kf) (h : fX5_init c0 M Q) (kk : ∀ M1, Q M1 → w M1 (pc + 3) lv rest) : w M pc lv (.ref (gA G c0) :: rest) := by
  obtain ⟨cls9, nm9, ds9⟩ := y0
  subst hy
  exact g_callI hw [] (nA := 0) rfl d (Or.inr ⟨_, q236⟩) q237 q102 q238 (by decide +kernel) rfl rfl hrest rfl (by omega : kf - 1 + 1 ≤ kf) (mX5_init (kf := kf - 1) (by omega) G c0 M Q h) (fun _ _ _ q => q.elim) (fun v M1 h => by obtain ⟨rfl, h⟩ := h; exact kk M1 h)
theorem gfX1_52 {y0 : MethodName} {cc : ByteArray} {nL : Nat} {ret : Option FieldType} {hh : List (Nat × Nat × Nat × Nat)} {kf : Nat} {G : gG} {Qv : Option Value → gM → Prop} {E : String → Nat → gM → Prop} {w : gM → Nat → List (Nat × Value) → List Value → Prop} {M : gM} {pc : Nat} {lv : List (Nat × Value)} {rest : List Value} (hw : gX y0 cc nL ret hh kf G Qv E w) (hy : y0.cls = RX1) {c : Nat} {q : Option Nat} (d : decode cc pc = .ok (.getfield 52, 3)) (hk : gk M c = 1) (hq : gR M c 6 = q) (kk : w M (pc + 3) lv (va_rf (q.map (gA G)) :: rest)) : w M pc lv (.ref (gA G c) :: rest) := by
  obtain ⟨cls9, nm9, ds9⟩ := y0
  subst hy
  subst hq
  exact g_getC (C := RX1) (T := TX1) (N := 28) (ci := 0) hw in_X1 rfl 6 (by decide) (Or.inl q278) rfl d hk kk
theorem sX1_108 {y0 : MethodName} {cc : ByteArray} {nL : Nat} {ret : Option FieldType} {hh : List (Nat × Nat × Nat × Nat)} {kf : Nat} {G : gG} {Qv : Option Value → gM → Prop} {E : String → Nat → gM → Prop} {w : gM → Nat → List (Nat × Value) → List Value → Prop} {M : gM} {pc : Nat} {lv : List (Nat × Value)} {rest : List Value} (hw : gX y0 cc nL ret hh kf G Qv E w) (hy : y0.cls = RX1) {c0 : Nat} {Q : gM → Prop} (d : decode cc pc = .ok (.invokespecial 108, 3)) (hrest : Nat.ble ((rest.map Value.category).sum) 8 = true) (hk : 1 + 1 ≤ kf) (h : fX6_init c0 M Q) (kk : ∀ M1, Q M1 → w M1 (pc + 3) lv rest) : w M pc lv (.ref (gA G c0) :: rest) := by
  obtain ⟨cls9, nm9, ds9⟩ := y0
  subst hy
  exact g_callI hw [] (nA := 0) rfl d (Or.inr ⟨_, q249⟩) q250 q103 q251 (by decide +kernel) rfl rfl hrest rfl (by omega : kf - 1 + 1 ≤ kf) (mX6_init (kf := kf - 1) (by omega) G c0 M Q h) (fun _ _ _ q => q.elim) (fun v M1 h => by obtain ⟨rfl, h⟩ := h; exact kk M1 h)
def fX1_init_L193s (R193 : Int32 → gM → Prop) (K218_193 : gM → Prop) (l1_65 : Int32) (M : gM) (Q : gM → Prop) : Prop :=
  (if 24 ≤ l1_65 then K218_193 M else gk M 16 = 1 ∧ gdr (gR M 16 0) (fun a68 => gn M < gLC ∧ gs M + 11 ≤ gLS ∧ fX4_init (gn M) (gnew M 4 0 11) (fun M72 => gk M72 a68 = 44 ∧ vp_in l1_65 (gl M72 a68) ∧ gk M72 (gn M) = 4 ∧ R193 (l1_65 + 1) (gsR M72 a68 l1_65.toNatClampNeg (some (gn M))))))
def fX1_init_L193 (K218_193 : gM → Prop) (Q : gM → Prop) : Nat → Int32 → gM → Prop
  | 0 => fun _ _ => False
  | n + 1 => fun l1_65 M => fX1_init_L193s (fX1_init_L193 K218_193 Q n) K218_193 l1_65 M Q
theorem wX1_init_L193s {kf : Nat} {G : gG} {w : gM → Nat → List (Nat × Value) → List Value → Prop} {Q : gM → Prop} (hw : gX yX1_init cX1_init 2 (Option.none : Option FieldType) [] kf G (gQv Q) gE0 w) (hkf : 2 ≤ kf) {R193 : Int32 → gM → Prop} {K218_193 : gM → Prop} {l1_65 : Int32} {M : gM} (hR193 : ∀ (v0 : Int32) (M : gM), R193 v0 M → w M 193 [(0, .ref (gA G 16)), (1, .int v0)] []) (hK218_193 : ∀  (M : gM), K218_193 M → w M 218 [(0, .ref (gA G 16))] []) (h : fX1_init_L193s R193 K218_193 l1_65 M Q) : w M 193 [(0, .ref (gA G 16)), (1, .int l1_65)] [] := by
  unfold fX1_init_L193s at h
  refine g_iload_n hw 1 dX1_init_193 rfl ?_
  refine g_bipush (v := 24) hw dX1_init_194 (by decide) ?_
  refine g_icmp_ge (tgt := 218) hw dX1_init_196 (by decide) (fun hb66 => ?_) (fun hb66 => ?_)
  · have h := gT h hb66
    refine g_sub hw (lv2 := [(0, .ref (gA G 16))]) [0] rfl ?_
    exact hK218_193 M h
  · have h := gF h hb66
    refine g_aload_n hw 0 dX1_init_199 rfl ?_
    obtain ⟨hk67, h⟩ := h
    obtain ⟨a68, e69, h⟩ := h
    refine gfX1_21 (q := some a68) hw rfl dX1_init_200 hk67 e69 ?_
    refine g_iload_n hw 1 dX1_init_203 rfl ?_
    obtain ⟨hc70, h⟩ := h
    obtain ⟨hc71, h⟩ := h
    refine g_new (C := RX4) (T := TX4) (N := 11) (ci := 3) hw in_X4 tyX4 tyX4_ok rfl rfl (by decide) dX1_init_204 q131 q188 q101 hc70 hc71 ?_
    refine g_dup hw dX1_init_207 rfl ?_
    refine sX1_106 hw rfl dX1_init_208 rfl (gK2 hkf) h (fun M72 h => ?_)
    obtain ⟨hk74, h⟩ := h
    obtain ⟨hi75, h⟩ := h
    obtain ⟨hk76, h⟩ := h
    refine g_aast (n := l1_65.toNatClampNeg) (ci := 3) hw 4 dX1_init_211 ⟨rfl, rfl⟩ rfl hk74 hi75 rfl rfl hk76 (Or.inl rfl) ?_
    refine g_iinc hw (lv2 := [(0, .ref (gA G 16)), (1, .int (l1_65 + 1))]) 1 [1, 0] dX1_init_212 rfl (by decide) rfl rfl ?_
    refine g_goto (tgt := 193) hw dX1_init_215 (by decide) ?_
    exact hR193 (l1_65 + 1) (gsR M72 a68 l1_65.toNatClampNeg (some (gn M))) h
theorem wX1_init_L193 {kf : Nat} {G : gG} {w : gM → Nat → List (Nat × Value) → List Value → Prop} {Q : gM → Prop} (hw : gX yX1_init cX1_init 2 (Option.none : Option FieldType) [] kf G (gQv Q) gE0 w) (hkf : 2 ≤ kf) {K218_193 : gM → Prop} (hK218_193 : ∀  (M : gM), K218_193 M → w M 218 [(0, .ref (gA G 16))] []) : ∀ (n : Nat) (l1_65 : Int32) (M : gM), fX1_init_L193 K218_193 Q n l1_65 M → w M 193 [(0, .ref (gA G 16)), (1, .int l1_65)] [] := by
  intro n
  induction n with
  | zero => intro l1_65 M h; exact h.elim
  | succ n ih => intro l1_65 M h; exact wX1_init_L193s hw hkf ih hK218_193 h
def fX1_init_L220s (R220 : Int32 → gM → Prop) (K244_220 : gM → Prop) (l1_78 : Int32) (M : gM) (Q : gM → Prop) : Prop :=
  (if 4 ≤ l1_78 then K244_220 M else gk M 16 = 1 ∧ gdr (gR M 16 5) (fun a81 => gn M < gLC ∧ gs M + 1 ≤ gLS ∧ fX5_init (gn M) (gnew M 5 0 1) (fun M85 => gk M85 a81 = 45 ∧ vp_in l1_78 (gl M85 a81) ∧ gk M85 (gn M) = 5 ∧ R220 (l1_78 + 1) (gsR M85 a81 l1_78.toNatClampNeg (some (gn M))))))
def fX1_init_L220 (K244_220 : gM → Prop) (Q : gM → Prop) : Nat → Int32 → gM → Prop
  | 0 => fun _ _ => False
  | n + 1 => fun l1_78 M => fX1_init_L220s (fX1_init_L220 K244_220 Q n) K244_220 l1_78 M Q
theorem wX1_init_L220s {kf : Nat} {G : gG} {w : gM → Nat → List (Nat × Value) → List Value → Prop} {Q : gM → Prop} (hw : gX yX1_init cX1_init 2 (Option.none : Option FieldType) [] kf G (gQv Q) gE0 w) (hkf : 2 ≤ kf) {R220 : Int32 → gM → Prop} {K244_220 : gM → Prop} {l1_78 : Int32} {M : gM} (hR220 : ∀ (v0 : Int32) (M : gM), R220 v0 M → w M 220 [(0, .ref (gA G 16)), (1, .int v0)] []) (hK244_220 : ∀  (M : gM), K244_220 M → w M 244 [(0, .ref (gA G 16))] []) (h : fX1_init_L220s R220 K244_220 l1_78 M Q) : w M 220 [(0, .ref (gA G 16)), (1, .int l1_78)] [] := by
  unfold fX1_init_L220s at h
  refine g_iload_n hw 1 dX1_init_220 rfl ?_
  refine g_iconst (v := 4) hw dX1_init_221 (by decide) ?_
  refine g_icmp_ge (tgt := 244) hw dX1_init_222 (by decide) (fun hb79 => ?_) (fun hb79 => ?_)
  · have h := gT h hb79
    refine g_sub hw (lv2 := [(0, .ref (gA G 16))]) [0] rfl ?_
    exact hK244_220 M h
  · have h := gF h hb79
    refine g_aload_n hw 0 dX1_init_225 rfl ?_
    obtain ⟨hk80, h⟩ := h
    obtain ⟨a81, e82, h⟩ := h
    refine gfX1_46 (q := some a81) hw rfl dX1_init_226 hk80 e82 ?_
    refine g_iload_n hw 1 dX1_init_229 rfl ?_
    obtain ⟨hc83, h⟩ := h
    obtain ⟨hc84, h⟩ := h
    refine g_new (C := RX5) (T := TX5) (N := 1) (ci := 4) hw in_X5 tyX5 tyX5_ok rfl rfl (by decide) dX1_init_230 q168 q235 q102 hc83 hc84 ?_
    refine g_dup hw dX1_init_233 rfl ?_
    refine sX1_107 hw rfl dX1_init_234 rfl (gK2 hkf) h (fun M85 h => ?_)
    obtain ⟨hk87, h⟩ := h
    obtain ⟨hi88, h⟩ := h
    obtain ⟨hk89, h⟩ := h
    refine g_aast (n := l1_78.toNatClampNeg) (ci := 4) hw 5 dX1_init_237 ⟨rfl, rfl⟩ rfl hk87 hi88 rfl rfl hk89 (Or.inl rfl) ?_
    refine g_iinc hw (lv2 := [(0, .ref (gA G 16)), (1, .int (l1_78 + 1))]) 1 [1, 0] dX1_init_238 rfl (by decide) rfl rfl ?_
    refine g_goto (tgt := 220) hw dX1_init_241 (by decide) ?_
    exact hR220 (l1_78 + 1) (gsR M85 a81 l1_78.toNatClampNeg (some (gn M))) h
theorem wX1_init_L220 {kf : Nat} {G : gG} {w : gM → Nat → List (Nat × Value) → List Value → Prop} {Q : gM → Prop} (hw : gX yX1_init cX1_init 2 (Option.none : Option FieldType) [] kf G (gQv Q) gE0 w) (hkf : 2 ≤ kf) {K244_220 : gM → Prop} (hK244_220 : ∀  (M : gM), K244_220 M → w M 244 [(0, .ref (gA G 16))] []) : ∀ (n : Nat) (l1_78 : Int32) (M : gM), fX1_init_L220 K244_220 Q n l1_78 M → w M 220 [(0, .ref (gA G 16)), (1, .int l1_78)] [] := by
  intro n
  induction n with
  | zero => intro l1_78 M h; exact h.elim
  | succ n ih => intro l1_78 M h; exact wX1_init_L220s hw hkf ih hK244_220 h
def fX1_init_L246s (R246 : Int32 → gM → Prop) (K270_246 : gM → Prop) (l1_91 : Int32) (M : gM) (Q : gM → Prop) : Prop :=
  (if 4 ≤ l1_91 then K270_246 M else gk M 16 = 1 ∧ gdr (gR M 16 6) (fun a94 => gn M < gLC ∧ gs M + 4 ≤ gLS ∧ fX6_init (gn M) (gnew M 6 0 4) (fun M98 => gk M98 a94 = 46 ∧ vp_in l1_91 (gl M98 a94) ∧ gk M98 (gn M) = 6 ∧ R246 (l1_91 + 1) (gsR M98 a94 l1_91.toNatClampNeg (some (gn M))))))
def fX1_init_L246 (K270_246 : gM → Prop) (Q : gM → Prop) : Nat → Int32 → gM → Prop
  | 0 => fun _ _ => False
  | n + 1 => fun l1_91 M => fX1_init_L246s (fX1_init_L246 K270_246 Q n) K270_246 l1_91 M Q
theorem wX1_init_L246s {kf : Nat} {G : gG} {w : gM → Nat → List (Nat × Value) → List Value → Prop} {Q : gM → Prop} (hw : gX yX1_init cX1_init 2 (Option.none : Option FieldType) [] kf G (gQv Q) gE0 w) (hkf : 2 ≤ kf) {R246 : Int32 → gM → Prop} {K270_246 : gM → Prop} {l1_91 : Int32} {M : gM} (hR246 : ∀ (v0 : Int32) (M : gM), R246 v0 M → w M 246 [(0, .ref (gA G 16)), (1, .int v0)] []) (hK270_246 : ∀  (M : gM), K270_246 M → w M 270 [] []) (h : fX1_init_L246s R246 K270_246 l1_91 M Q) : w M 246 [(0, .ref (gA G 16)), (1, .int l1_91)] [] := by
  unfold fX1_init_L246s at h
  refine g_iload_n hw 1 dX1_init_246 rfl ?_
  refine g_iconst (v := 4) hw dX1_init_247 (by decide) ?_
  refine g_icmp_ge (tgt := 270) hw dX1_init_248 (by decide) (fun hb92 => ?_) (fun hb92 => ?_)
  · have h := gT h hb92
    refine g_sub hw (lv2 := []) [] rfl ?_
    exact hK270_246 M h
  · have h := gF h hb92
    refine g_aload_n hw 0 dX1_init_251 rfl ?_
    obtain ⟨hk93, h⟩ := h
    obtain ⟨a94, e95, h⟩ := h
    refine gfX1_52 (q := some a94) hw rfl dX1_init_252 hk93 e95 ?_
    refine g_iload_n hw 1 dX1_init_255 rfl ?_
    obtain ⟨hc96, h⟩ := h
    obtain ⟨hc97, h⟩ := h
    refine g_new (C := RX6) (T := TX6) (N := 4) (ci := 5) hw in_X6 tyX6 tyX6_ok rfl rfl (by decide) dX1_init_256 q170 q248 q103 hc96 hc97 ?_
    refine g_dup hw dX1_init_259 rfl ?_
    refine sX1_108 hw rfl dX1_init_260 rfl (gK2 hkf) h (fun M98 h => ?_)
    obtain ⟨hk100, h⟩ := h
    obtain ⟨hi101, h⟩ := h
    obtain ⟨hk102, h⟩ := h
    refine g_aast (n := l1_91.toNatClampNeg) (ci := 5) hw 6 dX1_init_263 ⟨rfl, rfl⟩ rfl hk100 hi101 rfl rfl hk102 (Or.inl rfl) ?_
    refine g_iinc hw (lv2 := [(0, .ref (gA G 16)), (1, .int (l1_91 + 1))]) 1 [1, 0] dX1_init_264 rfl (by decide) rfl rfl ?_
    refine g_goto (tgt := 246) hw dX1_init_267 (by decide) ?_
    exact hR246 (l1_91 + 1) (gsR M98 a94 l1_91.toNatClampNeg (some (gn M))) h
theorem wX1_init_L246 {kf : Nat} {G : gG} {w : gM → Nat → List (Nat × Value) → List Value → Prop} {Q : gM → Prop} (hw : gX yX1_init cX1_init 2 (Option.none : Option FieldType) [] kf G (gQv Q) gE0 w) (hkf : 2 ≤ kf) {K270_246 : gM → Prop} (hK270_246 : ∀  (M : gM), K270_246 M → w M 270 [] []) : ∀ (n : Nat) (l1_91 : Int32) (M : gM), fX1_init_L246 K270_246 Q n l1_91 M → w M 246 [(0, .ref (gA G 16)), (1, .int l1_91)] [] := by
  intro n
  induction n with
  | zero => intro l1_91 M h; exact h.elim
  | succ n ih => intro l1_91 M h; exact wX1_init_L246s hw hkf ih hK270_246 h
def fX1_init_b175  (M : gM) (Q : gM → Prop) : Prop :=
  gn M < gLC ∧ gs M + 9 ≤ gLS ∧ gk (gnew M 40 9 9) 16 = 1 ∧ gn (gsR (gnew M 40 9 9) 16 24 (some (gn M))) < gLC ∧ gs (gsR (gnew M 40 9 9) 16 24 (some (gn M))) + 4 ≤ gLS ∧ gk (gnew (gsR (gnew M 40 9 9) 16 24 (some (gn M))) 48 4 4) 16 = 1 ∧ ∃ n, fX1_init_L193 (fun M77 => ∃ n, fX1_init_L220 (fun M90 => ∃ n, fX1_init_L246 (fun M103 => Q M103) Q n 0 M90) Q n 0 M77) Q n 0 (gsR (gnew (gsR (gnew M 40 9 9) 16 24 (some (gn M))) 48 4 4) 16 27 (some (gn (gsR (gnew M 40 9 9) 16 24 (some (gn M))))))
theorem wX1_init_b175 {kf : Nat} {G : gG} {w : gM → Nat → List (Nat × Value) → List Value → Prop} {Q : gM → Prop} (hw : gX yX1_init cX1_init 2 (Option.none : Option FieldType) [] kf G (gQv Q) gE0 w) (hkf : 2 ≤ kf)   {M : gM}  (h : fX1_init_b175 M Q) : w M 175 [(0, .ref (gA G 16))] [] := by
  unfold fX1_init_b175 at h
  refine g_aload_n hw 0 dX1_init_175 rfl ?_
  refine g_bipush (v := 9) hw dX1_init_176 (by decide) ?_
  obtain ⟨hc59, h⟩ := h
  obtain ⟨hc60, h⟩ := h
  refine g_newa (N := 9) hw 0 dX1_init_178 q166 rfl (by decide) rfl (by decide) rfl (by decide) hc59 hc60 ?_
  obtain ⟨hk61, h⟩ := h
  refine pfX1_99 (q := some (gn M)) hw rfl rfl dX1_init_180 hk61 ?_
  refine g_aload_n hw 0 dX1_init_183 rfl ?_
  refine g_iconst (v := 4) hw dX1_init_184 (by decide) ?_
  obtain ⟨hc62, h⟩ := h
  obtain ⟨hc63, h⟩ := h
  refine g_anewA (N := 4) hw dX1_init_185 q187 q134 (by decide) (by decide) (by decide) hc62 hc63 ?_
  obtain ⟨hk64, h⟩ := h
  refine pfX1_103 (q := some (gn (gsR (gnew M 40 9 9) 16 24 (some (gn M))))) hw rfl rfl dX1_init_188 hk64 ?_
  refine g_iconst (v := 0) hw dX1_init_191 (by decide) ?_
  refine g_istore_n hw (lv2 := [(0, .ref (gA G 16)), (1, .int 0)]) [1, 0] dX1_init_192 rfl rfl ?_
  obtain ⟨n9, h⟩ := h
  refine wX1_init_L193 hw hkf (fun M77 h => ?_) n9 0 (gsR (gnew (gsR (gnew M 40 9 9) 16 24 (some (gn M))) 48 4 4) 16 27 (some (gn (gsR (gnew M 40 9 9) 16 24 (some (gn M)))))) h
  refine g_iconst (v := 0) hw dX1_init_218 (by decide) ?_
  refine g_istore_n hw (lv2 := [(0, .ref (gA G 16)), (1, .int 0)]) [1, 0] dX1_init_219 rfl rfl ?_
  obtain ⟨n9, h⟩ := h
  refine wX1_init_L220 hw hkf (fun M90 h => ?_) n9 0 M77 h
  refine g_iconst (v := 0) hw dX1_init_244 (by decide) ?_
  refine g_istore_n hw (lv2 := [(0, .ref (gA G 16)), (1, .int 0)]) [1, 0] dX1_init_245 rfl rfl ?_
  obtain ⟨n9, h⟩ := h
  refine wX1_init_L246 hw hkf (fun M103 h => ?_) n9 0 M90 h
  exact g_vret hw dX1_init_270 ⟨rfl, h⟩
def fX1_init_b151  (M : gM) (Q : gM → Prop) : Prop :=
  gn M < gLC ∧ gs M + 20 ≤ gLS ∧ gk (gnew M 40 20 20) 16 = 1 ∧ gn (gsR (gnew M 40 20 20) 16 20 (some (gn M))) < gLC ∧ gs (gsR (gnew M 40 20 20) 16 20 (some (gn M))) + 20 ≤ gLS ∧ gk (gnew (gsR (gnew M 40 20 20) 16 20 (some (gn M))) 43 20 20) 16 = 1 ∧ gn (gsR (gnew (gsR (gnew M 40 20 20) 16 20 (some (gn M))) 43 20 20) 16 21 (some (gn (gsR (gnew M 40 20 20) 16 20 (some (gn M)))))) < gLC ∧ gs (gsR (gnew (gsR (gnew M 40 20 20) 16 20 (some (gn M))) 43 20 20) 16 21 (some (gn (gsR (gnew M 40 20 20) 16 20 (some (gn M)))))) + 9 ≤ gLS ∧ gk (gnew (gsR (gnew (gsR (gnew M 40 20 20) 16 20 (some (gn M))) 43 20 20) 16 21 (some (gn (gsR (gnew M 40 20 20) 16 20 (some (gn M)))))) 40 9 9) 16 = 1 ∧ fX1_init_b175 (gsR (gnew (gsR (gnew (gsR (gnew M 40 20 20) 16 20 (some (gn M))) 43 20 20) 16 21 (some (gn (gsR (gnew M 40 20 20) 16 20 (some (gn M)))))) 40 9 9) 16 23 (some (gn (gsR (gnew (gsR (gnew M 40 20 20) 16 20 (some (gn M))) 43 20 20) 16 21 (some (gn (gsR (gnew M 40 20 20) 16 20 (some (gn M))))))))) Q
theorem wX1_init_b151 {kf : Nat} {G : gG} {w : gM → Nat → List (Nat × Value) → List Value → Prop} {Q : gM → Prop} (hw : gX yX1_init cX1_init 2 (Option.none : Option FieldType) [] kf G (gQv Q) gE0 w) (hkf : 2 ≤ kf)   {M : gM}  (h : fX1_init_b151 M Q) : w M 151 [(0, .ref (gA G 16))] [] := by
  unfold fX1_init_b151 at h
  refine g_aload_n hw 0 dX1_init_151 rfl ?_
  refine g_bipush (v := 20) hw dX1_init_152 (by decide) ?_
  obtain ⟨hc50, h⟩ := h
  obtain ⟨hc51, h⟩ := h
  refine g_newa (N := 20) hw 0 dX1_init_154 q166 rfl (by decide) rfl (by decide) rfl (by decide) hc50 hc51 ?_
  obtain ⟨hk52, h⟩ := h
  refine pfX1_89 (q := some (gn M)) hw rfl rfl dX1_init_156 hk52 ?_
  refine g_aload_n hw 0 dX1_init_159 rfl ?_
  refine g_bipush (v := 20) hw dX1_init_160 (by decide) ?_
  obtain ⟨hc53, h⟩ := h
  obtain ⟨hc54, h⟩ := h
  refine g_newa (N := 20) hw 3 dX1_init_162 q234 rfl (by decide) rfl (by decide) rfl (by decide) hc53 hc54 ?_
  obtain ⟨hk55, h⟩ := h
  refine pfX1_92 (q := some (gn (gsR (gnew M 40 20 20) 16 20 (some (gn M))))) hw rfl rfl dX1_init_164 hk55 ?_
  refine g_aload_n hw 0 dX1_init_167 rfl ?_
  refine g_bipush (v := 9) hw dX1_init_168 (by decide) ?_
  obtain ⟨hc56, h⟩ := h
  obtain ⟨hc57, h⟩ := h
  refine g_newa (N := 9) hw 0 dX1_init_170 q166 rfl (by decide) rfl (by decide) rfl (by decide) hc56 hc57 ?_
  obtain ⟨hk58, h⟩ := h
  refine pfX1_96 (q := some (gn (gsR (gnew (gsR (gnew M 40 20 20) 16 20 (some (gn M))) 43 20 20) 16 21 (some (gn (gsR (gnew M 40 20 20) 16 20 (some (gn M)))))))) hw rfl rfl dX1_init_172 hk58 ?_
  exact wX1_init_b175 hw hkf h
def fX1_init_b123  (M : gM) (Q : gM → Prop) : Prop :=
  gn M + 24 < gLC ∧ gs M + (24 + 24 * 12) ≤ gLS ∧ gk (gmulti M 24 12) 16 = 1 ∧ gn (gsR (gmulti M 24 12) 16 17 (some (gn M))) < gLC ∧ gs (gsR (gmulti M 24 12) 16 17 (some (gn M))) + 10 ≤ gLS ∧ gk (gnew (gsR (gmulti M 24 12) 16 17 (some (gn M))) 40 10 10) 16 = 1 ∧ gn (gsR (gnew (gsR (gmulti M 24 12) 16 17 (some (gn M))) 40 10 10) 16 18 (some (gn (gsR (gmulti M 24 12) 16 17 (some (gn M)))))) < gLC ∧ gs (gsR (gnew (gsR (gmulti M 24 12) 16 17 (some (gn M))) 40 10 10) 16 18 (some (gn (gsR (gmulti M 24 12) 16 17 (some (gn M)))))) + 20 ≤ gLS ∧ gk (gnew (gsR (gnew (gsR (gmulti M 24 12) 16 17 (some (gn M))) 40 10 10) 16 18 (some (gn (gsR (gmulti M 24 12) 16 17 (some (gn M)))))) 40 20 20) 16 = 1 ∧ fX1_init_b151 (gsR (gnew (gsR (gnew (gsR (gmulti M 24 12) 16 17 (some (gn M))) 40 10 10) 16 18 (some (gn (gsR (gmulti M 24 12) 16 17 (some (gn M)))))) 40 20 20) 16 19 (some (gn (gsR (gnew (gsR (gmulti M 24 12) 16 17 (some (gn M))) 40 10 10) 16 18 (some (gn (gsR (gmulti M 24 12) 16 17 (some (gn M))))))))) Q
theorem wX1_init_b123 {kf : Nat} {G : gG} {w : gM → Nat → List (Nat × Value) → List Value → Prop} {Q : gM → Prop} (hw : gX yX1_init cX1_init 2 (Option.none : Option FieldType) [] kf G (gQv Q) gE0 w) (hkf : 2 ≤ kf)   {M : gM}  (h : fX1_init_b123 M Q) : w M 123 [(0, .ref (gA G 16))] [] := by
  unfold fX1_init_b123 at h
  refine g_aload_n hw 0 dX1_init_123 rfl ?_
  refine g_bipush (v := 24) hw dX1_init_124 (by decide) ?_
  refine g_bipush (v := 12) hw dX1_init_126 (by decide) ?_
  obtain ⟨hc41, h⟩ := h
  obtain ⟨hc42, h⟩ := h
  refine g_multi (n := 24) (k := 12) hw dX1_init_128 q133 q134 q166 (by decide) (by decide) rfl rfl (by decide) (by decide) hc41 hc42 ?_
  obtain ⟨hk43, h⟩ := h
  refine pfX1_80 (q := some (gn M)) hw rfl rfl dX1_init_132 hk43 ?_
  refine g_aload_n hw 0 dX1_init_135 rfl ?_
  refine g_bipush (v := 10) hw dX1_init_136 (by decide) ?_
  obtain ⟨hc44, h⟩ := h
  obtain ⟨hc45, h⟩ := h
  refine g_newa (N := 10) hw 0 dX1_init_138 q166 rfl (by decide) rfl (by decide) rfl (by decide) hc44 hc45 ?_
  obtain ⟨hk46, h⟩ := h
  refine pfX1_83 (q := some (gn (gsR (gmulti M 24 12) 16 17 (some (gn M))))) hw rfl rfl dX1_init_140 hk46 ?_
  refine g_aload_n hw 0 dX1_init_143 rfl ?_
  refine g_bipush (v := 20) hw dX1_init_144 (by decide) ?_
  obtain ⟨hc47, h⟩ := h
  obtain ⟨hc48, h⟩ := h
  refine g_newa (N := 20) hw 0 dX1_init_146 q166 rfl (by decide) rfl (by decide) rfl (by decide) hc47 hc48 ?_
  obtain ⟨hk49, h⟩ := h
  refine pfX1_86 (q := some (gn (gsR (gnew (gsR (gmulti M 24 12) 16 17 (some (gn M))) 40 10 10) 16 18 (some (gn (gsR (gmulti M 24 12) 16 17 (some (gn M)))))))) hw rfl rfl dX1_init_148 hk49 ?_
  exact wX1_init_b151 hw hkf h
def fX1_init_b81  (M : gM) (Q : gM → Prop) : Prop :=
  gn M < gLC ∧ gs M + 2 ≤ gLS ∧ fX3_init (gn M) (gnew M 3 0 2) (fun M27 => gk M27 16 = 1 ∧ gn (gsR M27 16 10 (some (gn M))) < gLC ∧ gs (gsR M27 16 10 (some (gn M))) + 2 ≤ gLS ∧ fX3_init (gn (gsR M27 16 10 (some (gn M)))) (gnew (gsR M27 16 10 (some (gn M))) 3 0 2) (fun M32 => gk M32 16 = 1 ∧ gn (gsR M32 16 11 (some (gn (gsR M27 16 10 (some (gn M)))))) < gLC ∧ gs (gsR M32 16 11 (some (gn (gsR M27 16 10 (some (gn M)))))) + 24 ≤ gLS ∧ gk (gnew (gsR M32 16 11 (some (gn (gsR M27 16 10 (some (gn M)))))) 40 24 24) 16 = 1 ∧ gn (gsR (gnew (gsR M32 16 11 (some (gn (gsR M27 16 10 (some (gn M)))))) 40 24 24) 16 12 (some (gn (gsR M32 16 11 (some (gn (gsR M27 16 10 (some (gn M))))))))) + 24 < gLC ∧ gs (gsR (gnew (gsR M32 16 11 (some (gn (gsR M27 16 10 (some (gn M)))))) 40 24 24) 16 12 (some (gn (gsR M32 16 11 (some (gn (gsR M27 16 10 (some (gn M))))))))) + (24 + 24 * 12) ≤ gLS ∧ gk (gmulti (gsR (gnew (gsR M32 16 11 (some (gn (gsR M27 16 10 (some (gn M)))))) 40 24 24) 16 12 (some (gn (gsR M32 16 11 (some (gn (gsR M27 16 10 (some (gn M))))))))) 24 12) 16 = 1 ∧ fX1_init_b123 (gsR (gmulti (gsR (gnew (gsR M32 16 11 (some (gn (gsR M27 16 10 (some (gn M)))))) 40 24 24) 16 12 (some (gn (gsR M32 16 11 (some (gn (gsR M27 16 10 (some (gn M))))))))) 24 12) 16 16 (some (gn (gsR (gnew (gsR M32 16 11 (some (gn (gsR M27 16 10 (some (gn M)))))) 40 24 24) 16 12 (some (gn (gsR M32 16 11 (some (gn (gsR M27 16 10 (some (gn M)))))))))))) Q))
theorem wX1_init_b81 {kf : Nat} {G : gG} {w : gM → Nat → List (Nat × Value) → List Value → Prop} {Q : gM → Prop} (hw : gX yX1_init cX1_init 2 (Option.none : Option FieldType) [] kf G (gQv Q) gE0 w) (hkf : 2 ≤ kf)   {M : gM}  (h : fX1_init_b81 M Q) : w M 81 [(0, .ref (gA G 16))] [] := by
  unfold fX1_init_b81 at h
  refine g_aload_n hw 0 dX1_init_81 rfl ?_
  obtain ⟨hc25, h⟩ := h
  obtain ⟨hc26, h⟩ := h
  refine g_new (C := RX3) (T := TX3) (N := 2) (ci := 2) hw in_X3 tyX3 tyX3_ok rfl rfl (by decide) dX1_init_82 q172 q173 q100 hc25 hc26 ?_
  refine g_dup hw dX1_init_85 rfl ?_
  refine sX1_65 hw rfl dX1_init_86 rfl (gK2 hkf) h (fun M27 h => ?_)
  obtain ⟨hk29, h⟩ := h
  refine pfX1_66 (q := some (gn M)) hw rfl rfl dX1_init_89 hk29 ?_
  refine g_aload_n hw 0 dX1_init_92 rfl ?_
  obtain ⟨hc30, h⟩ := h
  obtain ⟨hc31, h⟩ := h
  refine g_new (C := RX3) (T := TX3) (N := 2) (ci := 2) hw in_X3 tyX3 tyX3_ok rfl rfl (by decide) dX1_init_93 q172 q173 q100 hc30 hc31 ?_
  refine g_dup hw dX1_init_96 rfl ?_
  refine sX1_65 hw rfl dX1_init_97 rfl (gK2 hkf) h (fun M32 h => ?_)
  obtain ⟨hk34, h⟩ := h
  refine pfX1_70 (q := some (gn (gsR M27 16 10 (some (gn M))))) hw rfl rfl dX1_init_100 hk34 ?_
  refine g_aload_n hw 0 dX1_init_103 rfl ?_
  refine g_bipush (v := 24) hw dX1_init_104 (by decide) ?_
  obtain ⟨hc35, h⟩ := h
  obtain ⟨hc36, h⟩ := h
  refine g_newa (N := 24) hw 0 dX1_init_106 q166 rfl (by decide) rfl (by decide) rfl (by decide) hc35 hc36 ?_
  obtain ⟨hk37, h⟩ := h
  refine pfX1_73 (q := some (gn (gsR M32 16 11 (some (gn (gsR M27 16 10 (some (gn M)))))))) hw rfl rfl dX1_init_108 hk37 ?_
  refine g_aload_n hw 0 dX1_init_111 rfl ?_
  refine g_bipush (v := 24) hw dX1_init_112 (by decide) ?_
  refine g_bipush (v := 12) hw dX1_init_114 (by decide) ?_
  obtain ⟨hc38, h⟩ := h
  obtain ⟨hc39, h⟩ := h
  refine g_multi (n := 24) (k := 12) hw dX1_init_116 q133 q134 q166 (by decide) (by decide) rfl rfl (by decide) (by decide) hc38 hc39 ?_
  obtain ⟨hk40, h⟩ := h
  refine pfX1_77 (q := some (gn (gsR (gnew (gsR M32 16 11 (some (gn (gsR M27 16 10 (some (gn M)))))) 40 24 24) 16 12 (some (gn (gsR M32 16 11 (some (gn (gsR M27 16 10 (some (gn M))))))))))) hw rfl rfl dX1_init_120 hk40 ?_
  exact wX1_init_b123 hw hkf h
def fX1_init_b35  (M : gM) (Q : gM → Prop) : Prop :=
  gn M < gLC ∧ gs M + 1000 ≤ gLS ∧ gk (gnew M 42 1000 1000) 16 = 1 ∧ gn (gsR (gnew M 42 1000 1000) 16 3 (some (gn M))) < gLC ∧ gs (gsR (gnew M 42 1000 1000) 16 3 (some (gn M))) + 8 ≤ gLS ∧ ((gn (gsR (gnew M 42 1000 1000) 16 3 (some (gn M)))) = 25) ∧ fX2_init (gnew (gsR (gnew M 42 1000 1000) 16 3 (some (gn M))) 2 0 8) (fun M16 => gk M16 16 = 1 ∧ gn (gsR M16 16 4 (some 25)) < gLC ∧ gs (gsR M16 16 4 (some 25)) + 4 ≤ gLS ∧ gk (gnew (gsR M16 16 4 (some 25)) 45 4 4) 16 = 1 ∧ gn (gsR (gnew (gsR M16 16 4 (some 25)) 45 4 4) 16 5 (some (gn (gsR M16 16 4 (some 25))))) < gLC ∧ gs (gsR (gnew (gsR M16 16 4 (some 25)) 45 4 4) 16 5 (some (gn (gsR M16 16 4 (some 25))))) + 4 ≤ gLS ∧ gk (gnew (gsR (gnew (gsR M16 16 4 (some 25)) 45 4 4) 16 5 (some (gn (gsR M16 16 4 (some 25))))) 46 4 4) 16 = 1 ∧ fX1_init_b81 (gsI (gsI (gsR (gnew (gsR (gnew (gsR M16 16 4 (some 25)) 45 4 4) 16 5 (some (gn (gsR M16 16 4 (some 25))))) 46 4 4) 16 6 (some (gn (gsR (gnew (gsR M16 16 4 (some 25)) 45 4 4) 16 5 (some (gn (gsR M16 16 4 (some 25)))))))) 16 8 5) 16 9 5) Q)
theorem wX1_init_b35 {kf : Nat} {G : gG} {w : gM → Nat → List (Nat × Value) → List Value → Prop} {Q : gM → Prop} (hw : gX yX1_init cX1_init 2 (Option.none : Option FieldType) [] kf G (gQv Q) gE0 w) (hkf : 2 ≤ kf)   {M : gM}  (h : fX1_init_b35 M Q) : w M 35 [(0, .ref (gA G 16))] [] := by
  unfold fX1_init_b35 at h
  refine g_aload_n hw 0 dX1_init_35 rfl ?_
  refine g_sipush (v := 1000) hw dX1_init_36 (by decide) ?_
  obtain ⟨hc10, h⟩ := h
  obtain ⟨hc11, h⟩ := h
  refine g_newa (N := 1000) hw 2 dX1_init_39 q167 rfl (by decide) rfl (by decide) rfl (by decide) hc10 hc11 ?_
  obtain ⟨hk12, h⟩ := h
  refine pfX1_33 (q := some (gn M)) hw rfl rfl dX1_init_41 hk12 ?_
  refine g_aload_n hw 0 dX1_init_44 rfl ?_
  obtain ⟨hc13, h⟩ := h
  obtain ⟨hc14, h⟩ := h
  refine g_new (C := RX2) (T := TX2) (N := 8) (ci := 1) hw in_X2 tyX2 tyX2_ok rfl rfl (by decide) dX1_init_45 q135 q136 q99 hc13 hc14 ?_
  refine g_dup hw dX1_init_48 rfl ?_
  obtain ⟨hr15, h⟩ := h
  rw [hr15]
  refine sX1_39 hw rfl dX1_init_49 rfl (gK2 hkf) h (fun M16 h => ?_)
  obtain ⟨hk18, h⟩ := h
  refine pfX1_40 (q := some 25) hw rfl rfl dX1_init_52 hk18 ?_
  refine g_aload_n hw 0 dX1_init_55 rfl ?_
  refine g_iconst (v := 4) hw dX1_init_56 (by decide) ?_
  obtain ⟨hc19, h⟩ := h
  obtain ⟨hc20, h⟩ := h
  refine g_anew (C := "RiverWage$Law") (N := 4) hw 5 dX1_init_57 q168 q169 rfl rfl (by decide) (by decide) (by decide) hc19 hc20 ?_
  obtain ⟨hk21, h⟩ := h
  refine pfX1_46 (q := some (gn (gsR M16 16 4 (some 25)))) hw rfl rfl dX1_init_60 hk21 ?_
  refine g_aload_n hw 0 dX1_init_63 rfl ?_
  refine g_iconst (v := 4) hw dX1_init_64 (by decide) ?_
  obtain ⟨hc22, h⟩ := h
  obtain ⟨hc23, h⟩ := h
  refine g_anew (C := "RiverWage$Writer") (N := 4) hw 6 dX1_init_65 q170 q171 rfl rfl (by decide) (by decide) (by decide) hc22 hc23 ?_
  obtain ⟨hk24, h⟩ := h
  refine pfX1_52 (q := some (gn (gsR (gnew (gsR M16 16 4 (some 25)) 45 4 4) 16 5 (some (gn (gsR M16 16 4 (some 25))))))) hw rfl rfl dX1_init_68 hk24 ?_
  refine g_aload_n hw 0 dX1_init_71 rfl ?_
  refine g_iconst (v := 5) hw dX1_init_72 (by decide) ?_
  refine pfX1_56 hw rfl dX1_init_73 hk24 ?_
  refine g_aload_n hw 0 dX1_init_76 rfl ?_
  refine g_iconst (v := 5) hw dX1_init_77 (by decide) ?_
  refine pfX1_60 hw rfl dX1_init_78 hk24 ?_
  exact wX1_init_b81 hw hkf h
def fX1_init  (M : gM) (Q : gM → Prop) : Prop :=
  gn M < gLC ∧ gs M + 24 ≤ gLS ∧ gk (gnew M 44 24 24) 16 = 1 ∧ gn (gsR (gnew M 44 24 24) 16 0 (some (gn M))) + 2 < gLC ∧ gs (gsR (gnew M 44 24 24) 16 0 (some (gn M))) + (2 + 2 * 12) ≤ gLS ∧ gk (gmulti (gsR (gnew M 44 24 24) 16 0 (some (gn M))) 2 12) 16 = 1 ∧ gn (gsR (gmulti (gsR (gnew M 44 24 24) 16 0 (some (gn M))) 2 12) 16 1 (some (gn (gsR (gnew M 44 24 24) 16 0 (some (gn M)))))) + 2 < gLC ∧ gs (gsR (gmulti (gsR (gnew M 44 24 24) 16 0 (some (gn M))) 2 12) 16 1 (some (gn (gsR (gnew M 44 24 24) 16 0 (some (gn M)))))) + (2 + 2 * 12) ≤ gLS ∧ gk (gmulti (gsR (gmulti (gsR (gnew M 44 24 24) 16 0 (some (gn M))) 2 12) 16 1 (some (gn (gsR (gnew M 44 24 24) 16 0 (some (gn M)))))) 2 12) 16 = 1 ∧ fX1_init_b35 (gsR (gmulti (gsR (gmulti (gsR (gnew M 44 24 24) 16 0 (some (gn M))) 2 12) 16 1 (some (gn (gsR (gnew M 44 24 24) 16 0 (some (gn M)))))) 2 12) 16 2 (some (gn (gsR (gmulti (gsR (gnew M 44 24 24) 16 0 (some (gn M))) 2 12) 16 1 (some (gn (gsR (gnew M 44 24 24) 16 0 (some (gn M))))))))) Q
theorem mX1_init {kf : Nat} (hkf : 2 ≤ kf) (G : gG)  (M : gM) (Q : gM → Prop) (h : fX1_init M Q) : gMet yX1_init cX1_init 2 (Option.none : Option FieldType) kf G M [.ref (gA G 16)] (gQv Q) gE0 := by
  refine g_intro (lv := [(0, .ref (gA G 16))]) (by decide) rfl rfl (fun w hw => ?_)
  unfold fX1_init at h
  refine g_aload_n hw 0 dX1_init_0 rfl ?_
  refine g_objInit hw dX1_init_1 q128 q129 q130 rfl (gK1 hkf) ?_
  refine g_aload_n hw 0 dX1_init_4 rfl ?_
  refine g_bipush (v := 24) hw dX1_init_5 (by decide) ?_
  obtain ⟨hc1, h⟩ := h
  obtain ⟨hc2, h⟩ := h
  refine g_anew (C := "RiverWage$Kitchen") (N := 24) hw 4 dX1_init_7 q131 q132 rfl rfl (by decide) (by decide) (by decide) hc1 hc2 ?_
  obtain ⟨hk3, h⟩ := h
  refine pfX1_21 (q := some (gn M)) hw rfl rfl dX1_init_10 hk3 ?_
  refine g_aload_n hw 0 dX1_init_13 rfl ?_
  refine g_iconst (v := 2) hw dX1_init_14 (by decide) ?_
  refine g_bipush (v := 12) hw dX1_init_15 (by decide) ?_
  obtain ⟨hc4, h⟩ := h
  obtain ⟨hc5, h⟩ := h
  refine g_multi (n := 2) (k := 12) hw dX1_init_17 q133 q134 q166 (by decide) (by decide) rfl rfl (by decide) (by decide) hc4 hc5 ?_
  obtain ⟨hk6, h⟩ := h
  refine pfX1_27 (q := some (gn (gsR (gnew M 44 24 24) 16 0 (some (gn M))))) hw rfl rfl dX1_init_21 hk6 ?_
  refine g_aload_n hw 0 dX1_init_24 rfl ?_
  refine g_iconst (v := 2) hw dX1_init_25 (by decide) ?_
  refine g_bipush (v := 12) hw dX1_init_26 (by decide) ?_
  obtain ⟨hc7, h⟩ := h
  obtain ⟨hc8, h⟩ := h
  refine g_multi (n := 2) (k := 12) hw dX1_init_28 q133 q134 q166 (by decide) (by decide) rfl rfl (by decide) (by decide) hc7 hc8 ?_
  obtain ⟨hk9, h⟩ := h
  refine pfX1_30 (q := some (gn (gsR (gmulti (gsR (gnew M 44 24 24) 16 0 (some (gn M))) 2 12) 16 1 (some (gn (gsR (gnew M 44 24 24) 16 0 (some (gn M)))))))) hw rfl rfl dX1_init_32 hk9 ?_
  exact wX1_init_b35 hw hkf h
def fX1_in_b14  (M : gM) (Q : Int32 → gM → Prop) : Prop :=
  Q 0 M
theorem wX1_in_b14 {kf : Nat} {G : gG} {w : gM → Nat → List (Nat × Value) → List Value → Prop} {Q : Int32 → gM → Prop} (hw : gX yX1_in cX1_in 3 (Option.some FieldType.boolean) [] kf G (gQi Q) gE0 w) (hkf : 1 ≤ kf)   {M : gM}  (h : fX1_in_b14 M Q) : w M 14 [] [] := by
  unfold fX1_in_b14 at h
  refine g_iconst (v := 0) hw dX1_in_14 (by decide) ?_
  exact g_iret hw dX1_in_15 (by decide +kernel) ⟨_, rfl, h⟩
def fX1_in (p1 : Int32) (p2 : Int32) (p3 : Int32) (M : gM) (Q : Int32 → gM → Prop) : Prop :=
  (if p1 < p2 then fX1_in_b14 M Q else (if p3 < p1 then fX1_in_b14 M Q else Q 1 M))
theorem mX1_in {kf : Nat} (hkf : 1 ≤ kf) (G : gG) (p1 : Int32) (p2 : Int32) (p3 : Int32) (M : gM) (Q : Int32 → gM → Prop) (h : fX1_in p1 p2 p3 M Q) : gMet yX1_in cX1_in 3 (Option.some FieldType.boolean) kf G M [.int p1, .int p2, .int p3] (gQi Q) gE0 := by
  refine g_intro (lv := [(0, .int p1), (1, .int p2), (2, .int p3)]) (by decide) rfl rfl (fun w hw => ?_)
  unfold fX1_in at h
  refine g_iload_n hw 0 dX1_in_0 rfl ?_
  refine g_iload_n hw 1 dX1_in_1 rfl ?_
  refine g_icmp_lt (tgt := 14) hw dX1_in_2 (by decide) (fun hb1 => ?_) (fun hb1 => ?_)
  · have h := gT h hb1
    refine g_sub hw (lv2 := []) [] rfl ?_
    exact wX1_in_b14 hw hkf h
  · have h := gF h hb1
    refine g_iload_n hw 0 dX1_in_5 rfl ?_
    refine g_iload_n hw 2 dX1_in_6 rfl ?_
    refine g_icmp_gt (tgt := 14) hw dX1_in_7 (by decide) (fun hb2 => ?_) (fun hb2 => ?_)
    · have h := gT h hb2
      refine g_sub hw (lv2 := []) [] rfl ?_
      exact wX1_in_b14 hw hkf h
    · have h := gF h hb2
      refine g_iconst (v := 1) hw dX1_in_10 (by decide) ?_
      refine g_goto (tgt := 15) hw dX1_in_11 (by decide) ?_
      exact g_iret hw dX1_in_15 (by decide +kernel) ⟨_, rfl, h⟩
theorem sX1_112 {y0 : MethodName} {cc : ByteArray} {nL : Nat} {ret : Option FieldType} {hh : List (Nat × Nat × Nat × Nat)} {kf : Nat} {G : gG} {Qv : Option Value → gM → Prop} {E : String → Nat → gM → Prop} {w : gM → Nat → List (Nat × Value) → List Value → Prop} {M : gM} {pc : Nat} {lv : List (Nat × Value)} {rest : List Value} (hw : gX y0 cc nL ret hh kf G Qv E w) (hy : y0.cls = RX1) {p1 : Int32} {p2 : Int32} {p3 : Int32} {Q : Int32 → gM → Prop} (d : decode cc pc = .ok (.invokestatic 112, 3)) (hrest : Nat.ble ((rest.map Value.category).sum) 8 = true) (hk : 1 + 1 ≤ kf) (h : fX1_in p1 p2 p3 M Q) (kk : ∀ r M1, Q r M1 → w M1 (pc + 3) lv (.int r :: rest)) : w M pc lv (.int p3 :: .int p2 :: .int p1 :: rest) := by
  obtain ⟨cls9, nm9, ds9⟩ := y0
  subst hy
  exact g_callS hw [.int p1, .int p2, .int p3] (nA := 3) rfl d q361 q362 q98 q363 (by decide +kernel) rfl hrest rfl (by omega : kf - 1 + 1 ≤ kf) (mX1_in (kf := kf - 1) (by omega) G p1 p2 p3 M Q h) (fun _ _ _ q => q.elim) (fun v M1 h => by obtain ⟨r, rfl, h⟩ := h; exact kk r M1 h)
theorem pfX1_116 {y0 : MethodName} {cc : ByteArray} {nL : Nat} {ret : Option FieldType} {hh : List (Nat × Nat × Nat × Nat)} {kf : Nat} {G : gG} {Qv : Option Value → gM → Prop} {E : String → Nat → gM → Prop} {w : gM → Nat → List (Nat × Value) → List Value → Prop} {M : gM} {pc : Nat} {lv : List (Nat × Value)} {rest : List Value} (hw : gX y0 cc nL ret hh kf G Qv E w) (hy : y0.cls = RX1) {c : Nat} {x : Int32} (d : decode cc pc = .ok (.putfield 116, 3)) (hk : gk M c = 4) (hx : x = 0 ∨ x = 1) (kk : w (gsI M c 3 x) (pc + 3) lv rest) : w M pc lv (.int x :: .ref (gA G c) :: rest) := by
  obtain ⟨cls9, nm9, ds9⟩ := y0
  subst hy
  exact g_putC (C := RX4) (T := TX4) (N := 11) (ci := 3) hw in_X4 tyX4 tyX4_ok nmX4 rfl 3 (by decide) (Or.inr ⟨rfl, _, q197⟩) (gBool hx) (gBoolF hx) (gOne_I M c 3 x) (by show Value.int (gI (gsI M c 3 x) c 3) = _; rw [gI_sI, if_pos ⟨rfl, rfl⟩]) d hk kk
theorem pfX1_124 {y0 : MethodName} {cc : ByteArray} {nL : Nat} {ret : Option FieldType} {hh : List (Nat × Nat × Nat × Nat)} {kf : Nat} {G : gG} {Qv : Option Value → gM → Prop} {E : String → Nat → gM → Prop} {w : gM → Nat → List (Nat × Value) → List Value → Prop} {M : gM} {pc : Nat} {lv : List (Nat × Value)} {rest : List Value} (hw : gX y0 cc nL ret hh kf G Qv E w) (hy : y0.cls = RX1) {c : Nat} {x : Int32} (d : decode cc pc = .ok (.putfield 124, 3)) (hk : gk M c = 4) (kk : w (gsI M c 0 x) (pc + 3) lv rest) : w M pc lv (.int x :: .ref (gA G c) :: rest) := by
  obtain ⟨cls9, nm9, ds9⟩ := y0
  subst hy
  exact g_putC (C := RX4) (T := TX4) (N := 11) (ci := 3) hw in_X4 tyX4 tyX4_ok nmX4 rfl 0 (by decide) (Or.inr ⟨rfl, _, q193⟩) rfl rfl (gOne_I M c 0 x) (by show Value.int (gI (gsI M c 0 x) c 0) = _; rw [gI_sI, if_pos ⟨rfl, rfl⟩]) d hk kk
theorem pfX1_127 {y0 : MethodName} {cc : ByteArray} {nL : Nat} {ret : Option FieldType} {hh : List (Nat × Nat × Nat × Nat)} {kf : Nat} {G : gG} {Qv : Option Value → gM → Prop} {E : String → Nat → gM → Prop} {w : gM → Nat → List (Nat × Value) → List Value → Prop} {M : gM} {pc : Nat} {lv : List (Nat × Value)} {rest : List Value} (hw : gX y0 cc nL ret hh kf G Qv E w) (hy : y0.cls = RX1) {c : Nat} {x : Int32} (d : decode cc pc = .ok (.putfield 127, 3)) (hk : gk M c = 4) (kk : w (gsI M c 1 x) (pc + 3) lv rest) : w M pc lv (.int x :: .ref (gA G c) :: rest) := by
  obtain ⟨cls9, nm9, ds9⟩ := y0
  subst hy
  exact g_putC (C := RX4) (T := TX4) (N := 11) (ci := 3) hw in_X4 tyX4 tyX4_ok nmX4 rfl 1 (by decide) (Or.inr ⟨rfl, _, q194⟩) rfl rfl (gOne_I M c 1 x) (by show Value.int (gI (gsI M c 1 x) c 1) = _; rw [gI_sI, if_pos ⟨rfl, rfl⟩]) d hk kk
theorem pfX1_130 {y0 : MethodName} {cc : ByteArray} {nL : Nat} {ret : Option FieldType} {hh : List (Nat × Nat × Nat × Nat)} {kf : Nat} {G : gG} {Qv : Option Value → gM → Prop} {E : String → Nat → gM → Prop} {w : gM → Nat → List (Nat × Value) → List Value → Prop} {M : gM} {pc : Nat} {lv : List (Nat × Value)} {rest : List Value} (hw : gX y0 cc nL ret hh kf G Qv E w) (hy : y0.cls = RX1) {c : Nat} {x : Int32} (d : decode cc pc = .ok (.putfield 130, 3)) (hk : gk M c = 4) (kk : w (gsI M c 2 x) (pc + 3) lv rest) : w M pc lv (.int x :: .ref (gA G c) :: rest) := by
  obtain ⟨cls9, nm9, ds9⟩ := y0
  subst hy
  exact g_putC (C := RX4) (T := TX4) (N := 11) (ci := 3) hw in_X4 tyX4 tyX4_ok nmX4 rfl 2 (by decide) (Or.inr ⟨rfl, _, q195⟩) rfl rfl (gOne_I M c 2 x) (by show Value.int (gI (gsI M c 2 x) c 2) = _; rw [gI_sI, if_pos ⟨rfl, rfl⟩]) d hk kk
theorem pfX1_133 {y0 : MethodName} {cc : ByteArray} {nL : Nat} {ret : Option FieldType} {hh : List (Nat × Nat × Nat × Nat)} {kf : Nat} {G : gG} {Qv : Option Value → gM → Prop} {E : String → Nat → gM → Prop} {w : gM → Nat → List (Nat × Value) → List Value → Prop} {M : gM} {pc : Nat} {lv : List (Nat × Value)} {rest : List Value} (hw : gX y0 cc nL ret hh kf G Qv E w) (hy : y0.cls = RX1) {c : Nat} {x : Int32} (d : decode cc pc = .ok (.putfield 133, 3)) (hk : gk M c = 4) (hx : x = 0 ∨ x = 1) (kk : w (gsI M c 4 x) (pc + 3) lv rest) : w M pc lv (.int x :: .ref (gA G c) :: rest) := by
  obtain ⟨cls9, nm9, ds9⟩ := y0
  subst hy
  exact g_putC (C := RX4) (T := TX4) (N := 11) (ci := 3) hw in_X4 tyX4 tyX4_ok nmX4 rfl 4 (by decide) (Or.inr ⟨rfl, _, q198⟩) (gBool hx) (gBoolF hx) (gOne_I M c 4 x) (by show Value.int (gI (gsI M c 4 x) c 4) = _; rw [gI_sI, if_pos ⟨rfl, rfl⟩]) d hk kk
def fX1_kitchen (p1 : Int32) (p2 : Int32) (p3 : Int32) (p4 : Int32) (p5 : Int32) (M : gM) (Q : Int32 → gM → Prop) : Prop :=
  fX1_in p1 0 23 M (fun r2 M1 => (if r2 = 0 then Q 0 M1 else fX1_in p2 0 1 M1 (fun r5 M4 => (if r5 = 0 then Q 0 M4 else fX1_in p3 0 999 M4 (fun r8 M7 => (if r8 = 0 then Q 0 M7 else fX1_in p4 0 99 M7 (fun r11 M10 => (if r11 = 0 then Q 0 M10 else gk M10 16 = 1 ∧ gdr (gR M10 16 0) (fun a14 => gk M10 a14 = 44 ∧ vp_in p1 (gl M10 a14) ∧ gdr (gR M10 a14 p1.toNatClampNeg) (fun a18 => gk M10 a18 = 4 ∧ (p5 = 0 ∨ p5 = 1) ∧ Q 1 (gsI (gsI (gsI (gsI (gsI M10 a18 3 1) a18 0 p2) a18 1 p3) a18 2 p4) a18 4 p5)))))))))))
theorem mX1_kitchen {kf : Nat} (hkf : 2 ≤ kf) (G : gG) (p1 : Int32) (p2 : Int32) (p3 : Int32) (p4 : Int32) (p5 : Int32) (M : gM) (Q : Int32 → gM → Prop) (h : fX1_kitchen p1 p2 p3 p4 p5 M Q) : gMet yX1_kitchen cX1_kitchen 7 (Option.some FieldType.boolean) kf G M [.ref (gA G 16), .int p1, .int p2, .int p3, .int p4, .int p5] (gQi Q) gE0 := by
  refine g_intro (lv := [(0, .ref (gA G 16)), (1, .int p1), (2, .int p2), (3, .int p3), (4, .int p4), (5, .int p5)]) (by decide) rfl rfl (fun w hw => ?_)
  unfold fX1_kitchen at h
  refine g_iload_n hw 1 dX1_kitchen_0 rfl ?_
  refine g_iconst (v := 0) hw dX1_kitchen_1 (by decide) ?_
  refine g_bipush (v := 23) hw dX1_kitchen_2 (by decide) ?_
  refine sX1_112 hw rfl dX1_kitchen_4 rfl (gK2 hkf) h (fun r2 M1 h => ?_)
  refine g_if_eq (tgt := 41) hw dX1_kitchen_7 (by decide) (fun hb3 => ?_) (fun hb3 => ?_)
  · have h := gT h hb3
    refine g_iconst (v := 0) hw dX1_kitchen_41 (by decide) ?_
    exact g_iret hw dX1_kitchen_42 (by decide +kernel) ⟨_, rfl, h⟩
  · have h := gF h hb3
    refine g_iload_n hw 2 dX1_kitchen_10 rfl ?_
    refine g_iconst (v := 0) hw dX1_kitchen_11 (by decide) ?_
    refine g_iconst (v := 1) hw dX1_kitchen_12 (by decide) ?_
    refine sX1_112 hw rfl dX1_kitchen_13 rfl (gK2 hkf) h (fun r5 M4 h => ?_)
    refine g_if_eq (tgt := 41) hw dX1_kitchen_16 (by decide) (fun hb6 => ?_) (fun hb6 => ?_)
    · have h := gT h hb6
      refine g_iconst (v := 0) hw dX1_kitchen_41 (by decide) ?_
      exact g_iret hw dX1_kitchen_42 (by decide +kernel) ⟨_, rfl, h⟩
    · have h := gF h hb6
      refine g_iload_n hw 3 dX1_kitchen_19 rfl ?_
      refine g_iconst (v := 0) hw dX1_kitchen_20 (by decide) ?_
      refine g_sipush (v := 999) hw dX1_kitchen_21 (by decide) ?_
      refine sX1_112 hw rfl dX1_kitchen_24 rfl (gK2 hkf) h (fun r8 M7 h => ?_)
      refine g_if_eq (tgt := 41) hw dX1_kitchen_27 (by decide) (fun hb9 => ?_) (fun hb9 => ?_)
      · have h := gT h hb9
        refine g_iconst (v := 0) hw dX1_kitchen_41 (by decide) ?_
        exact g_iret hw dX1_kitchen_42 (by decide +kernel) ⟨_, rfl, h⟩
      · have h := gF h hb9
        refine g_iload hw 4 dX1_kitchen_30 rfl ?_
        refine g_iconst (v := 0) hw dX1_kitchen_32 (by decide) ?_
        refine g_bipush (v := 99) hw dX1_kitchen_33 (by decide) ?_
        refine sX1_112 hw rfl dX1_kitchen_35 rfl (gK2 hkf) h (fun r11 M10 h => ?_)
        refine g_if_ne (tgt := 43) hw dX1_kitchen_38 (by decide) (fun hb12 => ?_) (fun hb12 => ?_)
        · have h := gF h hb12
          refine g_aload_n hw 0 dX1_kitchen_43 rfl ?_
          obtain ⟨hk13, h⟩ := h
          obtain ⟨a14, e15, h⟩ := h
          refine gfX1_21 (q := some a14) hw rfl dX1_kitchen_44 hk13 e15 ?_
          refine g_iload_n hw 1 dX1_kitchen_47 rfl ?_
          obtain ⟨hk16, h⟩ := h
          obtain ⟨hi17, h⟩ := h
          obtain ⟨a18, e19, h⟩ := h
          refine g_aaldS (n := p1.toNatClampNeg) hw 4 dX1_kitchen_48 ⟨rfl, rfl⟩ hk16 hi17 rfl e19 ?_
          refine g_astore hw (lv2 := [(2, .int p2), (3, .int p3), (4, .int p4), (5, .int p5), (6, .ref (gA G a18))]) [3, 4, 5, 6, 0] dX1_kitchen_49 rfl rfl ?_
          refine g_aload hw 4 dX1_kitchen_51 rfl ?_
          refine g_iconst (v := 1) hw dX1_kitchen_53 (by decide) ?_
          obtain ⟨hk20, h⟩ := h
          refine pfX1_116 hw rfl dX1_kitchen_54 hk20 (by decide) ?_
          refine g_aload hw 4 dX1_kitchen_57 rfl ?_
          refine g_iload_n hw 0 dX1_kitchen_59 rfl ?_
          refine pfX1_124 hw rfl dX1_kitchen_60 hk20 ?_
          refine g_aload hw 4 dX1_kitchen_63 rfl ?_
          refine g_iload_n hw 1 dX1_kitchen_65 rfl ?_
          refine pfX1_127 hw rfl dX1_kitchen_66 hk20 ?_
          refine g_aload hw 4 dX1_kitchen_69 rfl ?_
          refine g_iload hw 2 dX1_kitchen_71 rfl ?_
          refine pfX1_130 hw rfl dX1_kitchen_73 hk20 ?_
          refine g_aload hw 4 dX1_kitchen_76 rfl ?_
          refine g_iload hw 3 dX1_kitchen_78 rfl ?_
          obtain ⟨hc21, h⟩ := h
          refine pfX1_133 hw rfl dX1_kitchen_80 hk20 hc21 ?_
          refine g_iconst (v := 1) hw dX1_kitchen_83 (by decide) ?_
          exact g_iret hw dX1_kitchen_84 (by decide +kernel) ⟨_, rfl, h⟩
        · have h := gT h hb12
          refine g_iconst (v := 0) hw dX1_kitchen_41 (by decide) ?_
          exact g_iret hw dX1_kitchen_42 (by decide +kernel) ⟨_, rfl, h⟩
theorem gfX1_116 {y0 : MethodName} {cc : ByteArray} {nL : Nat} {ret : Option FieldType} {hh : List (Nat × Nat × Nat × Nat)} {kf : Nat} {G : gG} {Qv : Option Value → gM → Prop} {E : String → Nat → gM → Prop} {w : gM → Nat → List (Nat × Value) → List Value → Prop} {M : gM} {pc : Nat} {lv : List (Nat × Value)} {rest : List Value} (hw : gX y0 cc nL ret hh kf G Qv E w) (hy : y0.cls = RX1) {c : Nat} (d : decode cc pc = .ok (.getfield 116, 3)) (hk : gk M c = 4) (kk : w M (pc + 3) lv (.int (gI M c 3) :: rest)) : w M pc lv (.ref (gA G c) :: rest) := by
  obtain ⟨cls9, nm9, ds9⟩ := y0
  subst hy
  exact g_getC (C := RX4) (T := TX4) (N := 11) (ci := 3) hw in_X4 rfl 3 (by decide) (Or.inr ⟨_, q197⟩) rfl d hk kk
def fX1_isKitchen_b26  (M : gM) (Q : Int32 → gM → Prop) : Prop :=
  Q 0 M
theorem wX1_isKitchen_b26 {kf : Nat} {G : gG} {w : gM → Nat → List (Nat × Value) → List Value → Prop} {Q : Int32 → gM → Prop} (hw : gX yX1_isKitchen cX1_isKitchen 2 (Option.some FieldType.boolean) [] kf G (gQi Q) gE0 w) (hkf : 2 ≤ kf)   {M : gM}  (h : fX1_isKitchen_b26 M Q) : w M 26 [] [] := by
  unfold fX1_isKitchen_b26 at h
  refine g_iconst (v := 0) hw dX1_isKitchen_26 (by decide) ?_
  exact g_iret hw dX1_isKitchen_27 (by decide +kernel) ⟨_, rfl, h⟩
def fX1_isKitchen (p1 : Int32) (M : gM) (Q : Int32 → gM → Prop) : Prop :=
  fX1_in p1 0 23 M (fun r2 M1 => (if r2 = 0 then fX1_isKitchen_b26 M1 Q else gk M1 16 = 1 ∧ gdr (gR M1 16 0) (fun a5 => gk M1 a5 = 44 ∧ vp_in p1 (gl M1 a5) ∧ gdr (gR M1 a5 p1.toNatClampNeg) (fun a9 => gk M1 a9 = 4 ∧ (if (gI M1 a9 3) = 0 then fX1_isKitchen_b26 M1 Q else Q 1 M1)))))
theorem mX1_isKitchen {kf : Nat} (hkf : 2 ≤ kf) (G : gG) (p1 : Int32) (M : gM) (Q : Int32 → gM → Prop) (h : fX1_isKitchen p1 M Q) : gMet yX1_isKitchen cX1_isKitchen 2 (Option.some FieldType.boolean) kf G M [.ref (gA G 16), .int p1] (gQi Q) gE0 := by
  refine g_intro (lv := [(0, .ref (gA G 16)), (1, .int p1)]) (by decide) rfl rfl (fun w hw => ?_)
  unfold fX1_isKitchen at h
  refine g_iload_n hw 1 dX1_isKitchen_0 rfl ?_
  refine g_iconst (v := 0) hw dX1_isKitchen_1 (by decide) ?_
  refine g_bipush (v := 23) hw dX1_isKitchen_2 (by decide) ?_
  refine sX1_112 hw rfl dX1_isKitchen_4 rfl (gK2 hkf) h (fun r2 M1 h => ?_)
  refine g_if_eq (tgt := 26) hw dX1_isKitchen_7 (by decide) (fun hb3 => ?_) (fun hb3 => ?_)
  · have h := gT h hb3
    refine g_sub hw (lv2 := []) [] rfl ?_
    exact wX1_isKitchen_b26 hw hkf h
  · have h := gF h hb3
    refine g_aload_n hw 0 dX1_isKitchen_10 rfl ?_
    obtain ⟨hk4, h⟩ := h
    obtain ⟨a5, e6, h⟩ := h
    refine gfX1_21 (q := some a5) hw rfl dX1_isKitchen_11 hk4 e6 ?_
    refine g_iload_n hw 1 dX1_isKitchen_14 rfl ?_
    obtain ⟨hk7, h⟩ := h
    obtain ⟨hi8, h⟩ := h
    obtain ⟨a9, e10, h⟩ := h
    refine g_aaldS (n := p1.toNatClampNeg) hw 4 dX1_isKitchen_15 ⟨rfl, rfl⟩ hk7 hi8 rfl e10 ?_
    obtain ⟨hk11, h⟩ := h
    refine gfX1_116 hw rfl dX1_isKitchen_16 hk11 ?_
    refine g_if_eq (tgt := 26) hw dX1_isKitchen_19 (by decide) (fun hb12 => ?_) (fun hb12 => ?_)
    · have h := gT h hb12
      refine g_sub hw (lv2 := []) [] rfl ?_
      exact wX1_isKitchen_b26 hw hkf h
    · have h := gF h hb12
      refine g_iconst (v := 1) hw dX1_isKitchen_22 (by decide) ?_
      refine g_goto (tgt := 27) hw dX1_isKitchen_23 (by decide) ?_
      exact g_iret hw dX1_isKitchen_27 (by decide +kernel) ⟨_, rfl, h⟩
def fX1_isMonth (p1 : Int32) (M : gM) (Q : Int32 → gM → Prop) : Prop :=
  fX1_in p1 0 11 M (fun r2 M1 => (r2 = 0 ∨ r2 = 1) ∧ Q r2 M1)
theorem mX1_isMonth {kf : Nat} (hkf : 2 ≤ kf) (G : gG) (p1 : Int32) (M : gM) (Q : Int32 → gM → Prop) (h : fX1_isMonth p1 M Q) : gMet yX1_isMonth cX1_isMonth 1 (Option.some FieldType.boolean) kf G M [.int p1] (gQi Q) gE0 := by
  refine g_intro (lv := [(0, .int p1)]) (by decide) rfl rfl (fun w hw => ?_)
  unfold fX1_isMonth at h
  refine g_iload_n hw 0 dX1_isMonth_0 rfl ?_
  refine g_iconst (v := 0) hw dX1_isMonth_1 (by decide) ?_
  refine g_bipush (v := 11) hw dX1_isMonth_2 (by decide) ?_
  refine sX1_112 hw rfl dX1_isMonth_4 rfl (gK2 hkf) h (fun r2 M1 h => ?_)
  obtain ⟨hc3, h⟩ := h
  exact g_iret hw dX1_isMonth_7 (gBool hc3) ⟨_, rfl, h⟩
theorem sX1_136 {y0 : MethodName} {cc : ByteArray} {nL : Nat} {ret : Option FieldType} {hh : List (Nat × Nat × Nat × Nat)} {kf : Nat} {G : gG} {Qv : Option Value → gM → Prop} {E : String → Nat → gM → Prop} {w : gM → Nat → List (Nat × Value) → List Value → Prop} {M : gM} {pc : Nat} {lv : List (Nat × Value)} {rest : List Value} (hw : gX y0 cc nL ret hh kf G Qv E w) (hy : y0.cls = RX1) {p1 : Int32} {Q : Int32 → gM → Prop} (d : decode cc pc = .ok (.invokevirtual 136, 3)) (hrest : Nat.ble ((rest.map Value.category).sum) 8 = true) (hk : 2 + 1 ≤ kf) (hkd : gk M 16 = 1) (h : fX1_isKitchen p1 M Q) (kk : ∀ r M1, Q r M1 → w M1 (pc + 3) lv (.int r :: rest)) : w M pc lv (.int p1 :: .ref (gA G 16) :: rest) := by
  obtain ⟨cls9, nm9, ds9⟩ := y0
  subst hy
  exact g_callV (r := (RX1, TX1, 28)) (ci := 0) hw [.int p1] (nA := 1) rfl d q368 q370 qs0 q98 q371 (by decide +kernel) rfl rfl hrest rfl (by omega : kf - 1 + 1 ≤ kf) hkd (mX1_isKitchen (kf := kf - 1) (by omega) G p1 M Q h) (fun _ _ _ q => q.elim) (fun v M1 h => by obtain ⟨r, rfl, h⟩ := h; exact kk r M1 h)
theorem sX1_120 {y0 : MethodName} {cc : ByteArray} {nL : Nat} {ret : Option FieldType} {hh : List (Nat × Nat × Nat × Nat)} {kf : Nat} {G : gG} {Qv : Option Value → gM → Prop} {E : String → Nat → gM → Prop} {w : gM → Nat → List (Nat × Value) → List Value → Prop} {M : gM} {pc : Nat} {lv : List (Nat × Value)} {rest : List Value} (hw : gX y0 cc nL ret hh kf G Qv E w) (hy : y0.cls = RX1) {p1 : Int32} {Q : Int32 → gM → Prop} (d : decode cc pc = .ok (.invokestatic 120, 3)) (hrest : Nat.ble ((rest.map Value.category).sum) 8 = true) (hk : 2 + 1 ≤ kf) (h : fX1_isMonth p1 M Q) (kk : ∀ r M1, Q r M1 → w M1 (pc + 3) lv (.int r :: rest)) : w M pc lv (.int p1 :: rest) := by
  obtain ⟨cls9, nm9, ds9⟩ := y0
  subst hy
  exact g_callS hw [.int p1] (nA := 1) rfl d q372 q373 q98 q374 (by decide +kernel) rfl hrest rfl (by omega : kf - 1 + 1 ≤ kf) (mX1_isMonth (kf := kf - 1) (by omega) G p1 M Q h) (fun _ _ _ q => q.elim) (fun v M1 h => by obtain ⟨r, rfl, h⟩ := h; exact kk r M1 h)
theorem gfX1_139 {y0 : MethodName} {cc : ByteArray} {nL : Nat} {ret : Option FieldType} {hh : List (Nat × Nat × Nat × Nat)} {kf : Nat} {G : gG} {Qv : Option Value → gM → Prop} {E : String → Nat → gM → Prop} {w : gM → Nat → List (Nat × Value) → List Value → Prop} {M : gM} {pc : Nat} {lv : List (Nat × Value)} {rest : List Value} (hw : gX y0 cc nL ret hh kf G Qv E w) (hy : y0.cls = RX1) {c : Nat} {q : Option Nat} (d : decode cc pc = .ok (.getfield 139, 3)) (hk : gk M c = 4) (hq : gR M c 5 = q) (kk : w M (pc + 3) lv (va_rf (q.map (gA G)) :: rest)) : w M pc lv (.ref (gA G c) :: rest) := by
  obtain ⟨cls9, nm9, ds9⟩ := y0
  subst hy
  subst hq
  exact g_getC (C := RX4) (T := TX4) (N := 11) (ci := 3) hw in_X4 rfl 5 (by decide) (Or.inr ⟨_, q200⟩) rfl d hk kk
theorem gfX1_142 {y0 : MethodName} {cc : ByteArray} {nL : Nat} {ret : Option FieldType} {hh : List (Nat × Nat × Nat × Nat)} {kf : Nat} {G : gG} {Qv : Option Value → gM → Prop} {E : String → Nat → gM → Prop} {w : gM → Nat → List (Nat × Value) → List Value → Prop} {M : gM} {pc : Nat} {lv : List (Nat × Value)} {rest : List Value} (hw : gX y0 cc nL ret hh kf G Qv E w) (hy : y0.cls = RX1) {c : Nat} {q : Option Nat} (d : decode cc pc = .ok (.getfield 142, 3)) (hk : gk M c = 4) (hq : gR M c 6 = q) (kk : w M (pc + 3) lv (va_rf (q.map (gA G)) :: rest)) : w M pc lv (.ref (gA G c) :: rest) := by
  obtain ⟨cls9, nm9, ds9⟩ := y0
  subst hy
  subst hq
  exact g_getC (C := RX4) (T := TX4) (N := 11) (ci := 3) hw in_X4 rfl 6 (by decide) (Or.inr ⟨_, q202⟩) rfl d hk kk
theorem sX1_145 {y0 : MethodName} {cc : ByteArray} {nL : Nat} {ret : Option FieldType} {hh : List (Nat × Nat × Nat × Nat)} {kf : Nat} {G : gG} {Qv : Option Value → gM → Prop} {E : String → Nat → gM → Prop} {w : gM → Nat → List (Nat × Value) → List Value → Prop} {M : gM} {pc : Nat} {lv : List (Nat × Value)} {rest : List Value} (hw : gX y0 cc nL ret hh kf G Qv E w) (hy : y0.cls = RX1) {p1 : Int32} {p2 : Int32} {Q : Int32 → gM → Prop} (d : decode cc pc = .ok (.invokestatic 145, 3)) (hrest : Nat.ble ((rest.map Value.category).sum) 8 = true) (hk : 1 + 1 ≤ kf) (h : fJ0_max p1 p2 M Q) (kk : ∀ r M1, Q r M1 → w M1 (pc + 3) lv (.int r :: rest)) : w M pc lv (.int p2 :: .int p1 :: rest) := by
  obtain ⟨cls9, nm9, ds9⟩ := y0
  subst hy
  exact g_callS hw [.int p1, .int p2] (nA := 2) rfl d q375 q376 q105 q377 (by decide +kernel) rfl hrest rfl (by omega : kf - 1 + 1 ≤ kf) (mJ0_max (kf := kf - 1) (by omega) G p1 p2 M Q h) (fun _ _ _ q => q.elim) (fun v M1 h => by obtain ⟨r, rfl, h⟩ := h; exact kk r M1 h)
def fX1_call_b84 (l2_31 : Int32) (l4_32 : Int32) (l5_33 : Nat) (s0_34 : Nat) (s1_35 : Int32) (s2_36 : Int32) (M : gM) (Q : Int32 → gM → Prop) : Prop :=
  gk M s0_34 = 40 ∧ vp_in s1_35 (gl M s0_34) ∧ gk (gsI M s0_34 s1_35.toNatClampNeg s2_36) l5_33 = 4 ∧ gdr (gR (gsI M s0_34 s1_35.toNatClampNeg s2_36) l5_33 6) (fun a40 => fJ0_max 0 l4_32 (gsI M s0_34 s1_35.toNatClampNeg s2_36) (fun r43 M42 => gk M42 a40 = 40 ∧ vp_in l2_31 (gl M42 a40) ∧ Q 1 (gsI M42 a40 l2_31.toNatClampNeg r43)))
theorem wX1_call_b84 {kf : Nat} {G : gG} {w : gM → Nat → List (Nat × Value) → List Value → Prop} {Q : Int32 → gM → Prop} (hw : gX yX1_call cX1_call 6 (Option.some FieldType.boolean) [] kf G (gQi Q) gE0 w) (hkf : 3 ≤ kf)  {l2_31 : Int32} {l4_32 : Int32} {l5_33 : Nat} {s0_34 : Nat} {s1_35 : Int32} {s2_36 : Int32} {M : gM}  (h : fX1_call_b84 l2_31 l4_32 l5_33 s0_34 s1_35 s2_36 M Q) : w M 84 [(2, .int l2_31), (4, .int l4_32), (5, .ref (gA G l5_33))] [.int s2_36, .int s1_35, .ref (gA G s0_34)] := by
  unfold fX1_call_b84 at h
  obtain ⟨hk37, h⟩ := h
  obtain ⟨hi38, h⟩ := h
  refine g_iast (n := s1_35.toNatClampNeg) hw dX1_call_84 hk37 hi38 rfl ?_
  refine g_aload hw 2 dX1_call_85 rfl ?_
  obtain ⟨hk39, h⟩ := h
  obtain ⟨a40, e41, h⟩ := h
  refine gfX1_142 (q := some a40) hw rfl dX1_call_87 hk39 e41 ?_
  refine g_iload_n hw 0 dX1_call_90 rfl ?_
  refine g_iconst (v := 0) hw dX1_call_91 (by decide) ?_
  refine g_iload hw 1 dX1_call_92 rfl ?_
  refine sX1_145 hw rfl dX1_call_94 rfl (gK2 hkf) h (fun r43 M42 h => ?_)
  obtain ⟨hk44, h⟩ := h
  obtain ⟨hi45, h⟩ := h
  refine g_iast (n := l2_31.toNatClampNeg) hw dX1_call_97 hk44 hi45 rfl ?_
  refine g_iconst (v := 1) hw dX1_call_98 (by decide) ?_
  exact g_iret hw dX1_call_99 (by decide +kernel) ⟨_, rfl, h⟩
def fX1_call_b49 (l1_15 : Int32) (l2_16 : Int32) (l3_17 : Int32) (l4_18 : Int32) (M : gM) (Q : Int32 → gM → Prop) : Prop :=
  gk M 16 = 1 ∧ gdr (gR M 16 0) (fun a20 => gk M a20 = 44 ∧ vp_in l1_15 (gl M a20) ∧ gdr (gR M a20 l1_15.toNatClampNeg) (fun a24 => gk M a24 = 4 ∧ gdr (gR M a24 5) (fun a27 => (if l3_17 = (-1) then fX1_call_b84 l2_16 l4_18 a24 a27 l2_16 (-2) M Q else (if l4_18 = (-1) then fX1_call_b84 l2_16 l4_18 a24 a27 l2_16 (-1) M Q else fX1_call_b84 l2_16 l4_18 a24 a27 l2_16 l3_17 M Q)))))
theorem wX1_call_b49 {kf : Nat} {G : gG} {w : gM → Nat → List (Nat × Value) → List Value → Prop} {Q : Int32 → gM → Prop} (hw : gX yX1_call cX1_call 6 (Option.some FieldType.boolean) [] kf G (gQi Q) gE0 w) (hkf : 3 ≤ kf)  {l1_15 : Int32} {l2_16 : Int32} {l3_17 : Int32} {l4_18 : Int32} {M : gM}  (h : fX1_call_b49 l1_15 l2_16 l3_17 l4_18 M Q) : w M 49 [(0, .ref (gA G 16)), (1, .int l1_15), (2, .int l2_16), (3, .int l3_17), (4, .int l4_18)] [] := by
  unfold fX1_call_b49 at h
  refine g_aload_n hw 0 dX1_call_49 rfl ?_
  obtain ⟨hk19, h⟩ := h
  obtain ⟨a20, e21, h⟩ := h
  refine gfX1_21 (q := some a20) hw rfl dX1_call_50 hk19 e21 ?_
  refine g_iload_n hw 1 dX1_call_53 rfl ?_
  obtain ⟨hk22, h⟩ := h
  obtain ⟨hi23, h⟩ := h
  obtain ⟨a24, e25, h⟩ := h
  refine g_aaldS (n := l1_15.toNatClampNeg) hw 4 dX1_call_54 ⟨rfl, rfl⟩ hk22 hi23 rfl e25 ?_
  refine g_astore hw (lv2 := [(2, .int l2_16), (3, .int l3_17), (4, .int l4_18), (5, .ref (gA G a24))]) [3, 4, 5, 0] dX1_call_55 rfl rfl ?_
  refine g_aload hw 3 dX1_call_57 rfl ?_
  obtain ⟨hk26, h⟩ := h
  obtain ⟨a27, e28, h⟩ := h
  refine gfX1_139 (q := some a27) hw rfl dX1_call_59 hk26 e28 ?_
  refine g_iload_n hw 0 dX1_call_62 rfl ?_
  refine g_iload_n hw 1 dX1_call_63 rfl ?_
  refine g_iconst (v := (-1)) hw dX1_call_64 (by decide) ?_
  refine g_icmp_ne (tgt := 73) hw dX1_call_65 (by decide) (fun hb29 => ?_) (fun hb29 => ?_)
  · have h := gF h hb29
    refine g_iload hw 2 dX1_call_73 rfl ?_
    refine g_iconst (v := (-1)) hw dX1_call_75 (by decide) ?_
    refine g_icmp_ne (tgt := 83) hw dX1_call_76 (by decide) (fun hb30 => ?_) (fun hb30 => ?_)
    · have h := gF h hb30
      refine g_iload_n hw 1 dX1_call_83 rfl ?_
      refine g_sub hw (lv2 := [(2, .int l2_16), (4, .int l4_18), (5, .ref (gA G a24))]) [0, 2, 3] rfl ?_
      exact wX1_call_b84 hw hkf h
    · have h := gT h hb30
      refine g_iconst (v := (-1)) hw dX1_call_79 (by decide) ?_
      refine g_goto (tgt := 84) hw dX1_call_80 (by decide) ?_
      refine g_sub hw (lv2 := [(2, .int l2_16), (4, .int l4_18), (5, .ref (gA G a24))]) [0, 2, 3] rfl ?_
      exact wX1_call_b84 hw hkf h
  · have h := gT h hb29
    refine g_bipush (v := (-2)) hw dX1_call_68 (by decide) ?_
    refine g_goto (tgt := 84) hw dX1_call_70 (by decide) ?_
    refine g_sub hw (lv2 := [(2, .int l2_16), (4, .int l4_18), (5, .ref (gA G a24))]) [0, 2, 3] rfl ?_
    exact wX1_call_b84 hw hkf h
def fX1_call (p1 : Int32) (p2 : Int32) (p3 : Int32) (p4 : Int32) (M : gM) (Q : Int32 → gM → Prop) : Prop :=
  gk M 16 = 1 ∧ fX1_isKitchen p1 M (fun r3 M2 => (if r3 = 0 then Q 0 M2 else fX1_isMonth p2 M2 (fun r6 M5 => (if r6 = 0 then Q 0 M5 else fX1_in p3 (-1) 99 M5 (fun r9 M8 => (if r9 = 0 then Q 0 M8 else fX1_in p4 (-1) 99 M8 (fun r12 M11 => (if r12 = 0 then Q 0 M11 else (if p3 = (-1) then (if p4 = (-1) then fX1_call_b49 p1 p2 p3 p4 M11 Q else Q 0 M11) else fX1_call_b49 p1 p2 p3 p4 M11 Q)))))))))
theorem mX1_call {kf : Nat} (hkf : 3 ≤ kf) (G : gG) (p1 : Int32) (p2 : Int32) (p3 : Int32) (p4 : Int32) (M : gM) (Q : Int32 → gM → Prop) (h : fX1_call p1 p2 p3 p4 M Q) : gMet yX1_call cX1_call 6 (Option.some FieldType.boolean) kf G M [.ref (gA G 16), .int p1, .int p2, .int p3, .int p4] (gQi Q) gE0 := by
  refine g_intro (lv := [(0, .ref (gA G 16)), (1, .int p1), (2, .int p2), (3, .int p3), (4, .int p4)]) (by decide) rfl rfl (fun w hw => ?_)
  unfold fX1_call at h
  refine g_aload_n hw 0 dX1_call_0 rfl ?_
  refine g_iload_n hw 1 dX1_call_1 rfl ?_
  obtain ⟨hk1, h⟩ := h
  refine sX1_136 hw rfl dX1_call_2 rfl (gK2 hkf) hk1 h (fun r3 M2 h => ?_)
  refine g_if_eq (tgt := 47) hw dX1_call_5 (by decide) (fun hb4 => ?_) (fun hb4 => ?_)
  · have h := gT h hb4
    refine g_iconst (v := 0) hw dX1_call_47 (by decide) ?_
    exact g_iret hw dX1_call_48 (by decide +kernel) ⟨_, rfl, h⟩
  · have h := gF h hb4
    refine g_iload_n hw 2 dX1_call_8 rfl ?_
    refine sX1_120 hw rfl dX1_call_9 rfl (gK2 hkf) h (fun r6 M5 h => ?_)
    refine g_if_eq (tgt := 47) hw dX1_call_12 (by decide) (fun hb7 => ?_) (fun hb7 => ?_)
    · have h := gT h hb7
      refine g_iconst (v := 0) hw dX1_call_47 (by decide) ?_
      exact g_iret hw dX1_call_48 (by decide +kernel) ⟨_, rfl, h⟩
    · have h := gF h hb7
      refine g_iload_n hw 3 dX1_call_15 rfl ?_
      refine g_iconst (v := (-1)) hw dX1_call_16 (by decide) ?_
      refine g_bipush (v := 99) hw dX1_call_17 (by decide) ?_
      refine sX1_112 hw rfl dX1_call_19 rfl (gK2 hkf) h (fun r9 M8 h => ?_)
      refine g_if_eq (tgt := 47) hw dX1_call_22 (by decide) (fun hb10 => ?_) (fun hb10 => ?_)
      · have h := gT h hb10
        refine g_iconst (v := 0) hw dX1_call_47 (by decide) ?_
        exact g_iret hw dX1_call_48 (by decide +kernel) ⟨_, rfl, h⟩
      · have h := gF h hb10
        refine g_iload hw 4 dX1_call_25 rfl ?_
        refine g_iconst (v := (-1)) hw dX1_call_27 (by decide) ?_
        refine g_bipush (v := 99) hw dX1_call_28 (by decide) ?_
        refine sX1_112 hw rfl dX1_call_30 rfl (gK2 hkf) h (fun r12 M11 h => ?_)
        refine g_if_eq (tgt := 47) hw dX1_call_33 (by decide) (fun hb13 => ?_) (fun hb13 => ?_)
        · have h := gT h hb13
          refine g_iconst (v := 0) hw dX1_call_47 (by decide) ?_
          exact g_iret hw dX1_call_48 (by decide +kernel) ⟨_, rfl, h⟩
        · have h := gF h hb13
          refine g_iload_n hw 3 dX1_call_36 rfl ?_
          refine g_iconst (v := (-1)) hw dX1_call_37 (by decide) ?_
          refine g_icmp_ne (tgt := 49) hw dX1_call_38 (by decide) (fun hb14 => ?_) (fun hb14 => ?_)
          · have h := gF h hb14
            exact wX1_call_b49 hw hkf h
          · have h := gT h hb14
            refine g_iload hw 4 dX1_call_41 rfl ?_
            refine g_iconst (v := (-1)) hw dX1_call_43 (by decide) ?_
            refine g_icmp_eq (tgt := 49) hw dX1_call_44 (by decide) (fun hb46 => ?_) (fun hb46 => ?_)
            · have h := gT h hb46
              exact wX1_call_b49 hw hkf h
            · have h := gF h hb46
              refine g_iconst (v := 0) hw dX1_call_47 (by decide) ?_
              exact g_iret hw dX1_call_48 (by decide +kernel) ⟨_, rfl, h⟩
theorem gfX1_149 {y0 : MethodName} {cc : ByteArray} {nL : Nat} {ret : Option FieldType} {hh : List (Nat × Nat × Nat × Nat)} {kf : Nat} {G : gG} {Qv : Option Value → gM → Prop} {E : String → Nat → gM → Prop} {w : gM → Nat → List (Nat × Value) → List Value → Prop} {M : gM} {pc : Nat} {lv : List (Nat × Value)} {rest : List Value} (hw : gX y0 cc nL ret hh kf G Qv E w) (hy : y0.cls = RX1) {c : Nat} {q : Option Nat} (d : decode cc pc = .ok (.getfield 149, 3)) (hk : gk M c = 4) (hq : gR M c 7 = q) (kk : w M (pc + 3) lv (va_rf (q.map (gA G)) :: rest)) : w M pc lv (.ref (gA G c) :: rest) := by
  obtain ⟨cls9, nm9, ds9⟩ := y0
  subst hy
  subst hq
  exact g_getC (C := RX4) (T := TX4) (N := 11) (ci := 3) hw in_X4 rfl 7 (by decide) (Or.inr ⟨_, q204⟩) rfl d hk kk
theorem gfX1_152 {y0 : MethodName} {cc : ByteArray} {nL : Nat} {ret : Option FieldType} {hh : List (Nat × Nat × Nat × Nat)} {kf : Nat} {G : gG} {Qv : Option Value → gM → Prop} {E : String → Nat → gM → Prop} {w : gM → Nat → List (Nat × Value) → List Value → Prop} {M : gM} {pc : Nat} {lv : List (Nat × Value)} {rest : List Value} (hw : gX y0 cc nL ret hh kf G Qv E w) (hy : y0.cls = RX1) {c : Nat} {q : Option Nat} (d : decode cc pc = .ok (.getfield 152, 3)) (hk : gk M c = 4) (hq : gR M c 8 = q) (kk : w M (pc + 3) lv (va_rf (q.map (gA G)) :: rest)) : w M pc lv (.ref (gA G c) :: rest) := by
  obtain ⟨cls9, nm9, ds9⟩ := y0
  subst hy
  subst hq
  exact g_getC (C := RX4) (T := TX4) (N := 11) (ci := 3) hw in_X4 rfl 8 (by decide) (Or.inr ⟨_, q206⟩) rfl d hk kk
def fX1_sheet (p1 : Int32) (p2 : Int32) (p3 : Int32) (p4 : Int32) (M : gM) (Q : Int32 → gM → Prop) : Prop :=
  gk M 16 = 1 ∧ fX1_isKitchen p1 M (fun r3 M2 => (if r3 = 0 then Q 0 M2 else fX1_isMonth p2 M2 (fun r6 M5 => (if r6 = 0 then Q 0 M5 else fX1_in p3 0 99 M5 (fun r9 M8 => (if r9 = 0 then Q 0 M8 else fX1_in p4 0 99 M8 (fun r12 M11 => (if r12 = 0 then Q 0 M11 else gk M11 16 = 1 ∧ gdr (gR M11 16 0) (fun a15 => gk M11 a15 = 44 ∧ vp_in p1 (gl M11 a15) ∧ gdr (gR M11 a15 p1.toNatClampNeg) (fun a19 => gk M11 a19 = 4 ∧ gdr (gR M11 a19 7) (fun a22 => gk M11 a22 = 40 ∧ vp_in p2 (gl M11 a22) ∧ gdr (gR (gsI M11 a22 p2.toNatClampNeg p3) 16 0) (fun a26 => gk (gsI M11 a22 p2.toNatClampNeg p3) a26 = 44 ∧ vp_in p1 (gl (gsI M11 a22 p2.toNatClampNeg p3) a26) ∧ gdr (gR (gsI M11 a22 p2.toNatClampNeg p3) a26 p1.toNatClampNeg) (fun a30 => gk (gsI M11 a22 p2.toNatClampNeg p3) a30 = 4 ∧ gdr (gR (gsI M11 a22 p2.toNatClampNeg p3) a30 8) (fun a33 => gk (gsI M11 a22 p2.toNatClampNeg p3) a33 = 40 ∧ vp_in p2 (gl (gsI M11 a22 p2.toNatClampNeg p3) a33) ∧ Q 1 (gsI (gsI M11 a22 p2.toNatClampNeg p3) a33 p2.toNatClampNeg p4)))))))))))))))
theorem mX1_sheet {kf : Nat} (hkf : 3 ≤ kf) (G : gG) (p1 : Int32) (p2 : Int32) (p3 : Int32) (p4 : Int32) (M : gM) (Q : Int32 → gM → Prop) (h : fX1_sheet p1 p2 p3 p4 M Q) : gMet yX1_sheet cX1_sheet 5 (Option.some FieldType.boolean) kf G M [.ref (gA G 16), .int p1, .int p2, .int p3, .int p4] (gQi Q) gE0 := by
  refine g_intro (lv := [(0, .ref (gA G 16)), (1, .int p1), (2, .int p2), (3, .int p3), (4, .int p4)]) (by decide) rfl rfl (fun w hw => ?_)
  unfold fX1_sheet at h
  refine g_aload_n hw 0 dX1_sheet_0 rfl ?_
  refine g_iload_n hw 1 dX1_sheet_1 rfl ?_
  obtain ⟨hk1, h⟩ := h
  refine sX1_136 hw rfl dX1_sheet_2 rfl (gK2 hkf) hk1 h (fun r3 M2 h => ?_)
  refine g_if_eq (tgt := 36) hw dX1_sheet_5 (by decide) (fun hb4 => ?_) (fun hb4 => ?_)
  · have h := gT h hb4
    refine g_iconst (v := 0) hw dX1_sheet_36 (by decide) ?_
    exact g_iret hw dX1_sheet_37 (by decide +kernel) ⟨_, rfl, h⟩
  · have h := gF h hb4
    refine g_iload_n hw 2 dX1_sheet_8 rfl ?_
    refine sX1_120 hw rfl dX1_sheet_9 rfl (gK2 hkf) h (fun r6 M5 h => ?_)
    refine g_if_eq (tgt := 36) hw dX1_sheet_12 (by decide) (fun hb7 => ?_) (fun hb7 => ?_)
    · have h := gT h hb7
      refine g_iconst (v := 0) hw dX1_sheet_36 (by decide) ?_
      exact g_iret hw dX1_sheet_37 (by decide +kernel) ⟨_, rfl, h⟩
    · have h := gF h hb7
      refine g_iload_n hw 3 dX1_sheet_15 rfl ?_
      refine g_iconst (v := 0) hw dX1_sheet_16 (by decide) ?_
      refine g_bipush (v := 99) hw dX1_sheet_17 (by decide) ?_
      refine sX1_112 hw rfl dX1_sheet_19 rfl (gK2 hkf) h (fun r9 M8 h => ?_)
      refine g_if_eq (tgt := 36) hw dX1_sheet_22 (by decide) (fun hb10 => ?_) (fun hb10 => ?_)
      · have h := gT h hb10
        refine g_iconst (v := 0) hw dX1_sheet_36 (by decide) ?_
        exact g_iret hw dX1_sheet_37 (by decide +kernel) ⟨_, rfl, h⟩
      · have h := gF h hb10
        refine g_iload hw 4 dX1_sheet_25 rfl ?_
        refine g_iconst (v := 0) hw dX1_sheet_27 (by decide) ?_
        refine g_bipush (v := 99) hw dX1_sheet_28 (by decide) ?_
        refine sX1_112 hw rfl dX1_sheet_30 rfl (gK2 hkf) h (fun r12 M11 h => ?_)
        refine g_if_ne (tgt := 38) hw dX1_sheet_33 (by decide) (fun hb13 => ?_) (fun hb13 => ?_)
        · have h := gF h hb13
          refine g_aload_n hw 0 dX1_sheet_38 rfl ?_
          obtain ⟨hk14, h⟩ := h
          obtain ⟨a15, e16, h⟩ := h
          refine gfX1_21 (q := some a15) hw rfl dX1_sheet_39 hk14 e16 ?_
          refine g_iload_n hw 1 dX1_sheet_42 rfl ?_
          obtain ⟨hk17, h⟩ := h
          obtain ⟨hi18, h⟩ := h
          obtain ⟨a19, e20, h⟩ := h
          refine g_aaldS (n := p1.toNatClampNeg) hw 4 dX1_sheet_43 ⟨rfl, rfl⟩ hk17 hi18 rfl e20 ?_
          obtain ⟨hk21, h⟩ := h
          obtain ⟨a22, e23, h⟩ := h
          refine gfX1_149 (q := some a22) hw rfl dX1_sheet_44 hk21 e23 ?_
          refine g_iload_n hw 2 dX1_sheet_47 rfl ?_
          refine g_iload_n hw 3 dX1_sheet_48 rfl ?_
          obtain ⟨hk24, h⟩ := h
          obtain ⟨hi25, h⟩ := h
          refine g_iast (n := p2.toNatClampNeg) hw dX1_sheet_49 hk24 hi25 rfl ?_
          refine g_aload_n hw 0 dX1_sheet_50 rfl ?_
          obtain ⟨a26, e27, h⟩ := h
          refine gfX1_21 (q := some a26) hw rfl dX1_sheet_51 hk14 e27 ?_
          refine g_iload_n hw 1 dX1_sheet_54 rfl ?_
          obtain ⟨hk28, h⟩ := h
          obtain ⟨hi29, h⟩ := h
          obtain ⟨a30, e31, h⟩ := h
          refine g_aaldS (n := p1.toNatClampNeg) hw 4 dX1_sheet_55 ⟨rfl, rfl⟩ hk28 hi29 rfl e31 ?_
          obtain ⟨hk32, h⟩ := h
          obtain ⟨a33, e34, h⟩ := h
          refine gfX1_152 (q := some a33) hw rfl dX1_sheet_56 hk32 e34 ?_
          refine g_iload_n hw 2 dX1_sheet_59 rfl ?_
          refine g_iload hw 4 dX1_sheet_60 rfl ?_
          obtain ⟨hk35, h⟩ := h
          obtain ⟨hi36, h⟩ := h
          refine g_iast (n := p2.toNatClampNeg) hw dX1_sheet_62 hk35 hi36 rfl ?_
          refine g_iconst (v := 1) hw dX1_sheet_63 (by decide) ?_
          exact g_iret hw dX1_sheet_64 (by decide +kernel) ⟨_, rfl, h⟩
        · have h := gT h hb13
          refine g_iconst (v := 0) hw dX1_sheet_36 (by decide) ?_
          exact g_iret hw dX1_sheet_37 (by decide +kernel) ⟨_, rfl, h⟩
def fX1_tenths (p1 : Int32) (M : gM) (Q : Int32 → gM → Prop) : Prop :=
  fX1_in p1 0 10 M (fun r2 M1 => (if r2 = 0 then Q 0 M1 else gk M1 16 = 1 ∧ Q 1 (gsI (gsI M1 16 8 p1) 16 9 p1)))
theorem mX1_tenths {kf : Nat} (hkf : 2 ≤ kf) (G : gG) (p1 : Int32) (M : gM) (Q : Int32 → gM → Prop) (h : fX1_tenths p1 M Q) : gMet yX1_tenths cX1_tenths 2 (Option.some FieldType.boolean) kf G M [.ref (gA G 16), .int p1] (gQi Q) gE0 := by
  refine g_intro (lv := [(0, .ref (gA G 16)), (1, .int p1)]) (by decide) rfl rfl (fun w hw => ?_)
  unfold fX1_tenths at h
  refine g_iload_n hw 1 dX1_tenths_0 rfl ?_
  refine g_iconst (v := 0) hw dX1_tenths_1 (by decide) ?_
  refine g_bipush (v := 10) hw dX1_tenths_2 (by decide) ?_
  refine sX1_112 hw rfl dX1_tenths_4 rfl (gK2 hkf) h (fun r2 M1 h => ?_)
  refine g_if_ne (tgt := 12) hw dX1_tenths_7 (by decide) (fun hb3 => ?_) (fun hb3 => ?_)
  · have h := gF h hb3
    refine g_aload_n hw 0 dX1_tenths_12 rfl ?_
    refine g_iload_n hw 1 dX1_tenths_13 rfl ?_
    obtain ⟨hk4, h⟩ := h
    refine pfX1_56 hw rfl dX1_tenths_14 hk4 ?_
    refine g_aload_n hw 0 dX1_tenths_17 rfl ?_
    refine g_iload_n hw 1 dX1_tenths_18 rfl ?_
    refine pfX1_60 hw rfl dX1_tenths_19 hk4 ?_
    refine g_iconst (v := 1) hw dX1_tenths_22 (by decide) ?_
    exact g_iret hw dX1_tenths_23 (by decide +kernel) ⟨_, rfl, h⟩
  · have h := gT h hb3
    refine g_iconst (v := 0) hw dX1_tenths_10 (by decide) ?_
    exact g_iret hw dX1_tenths_11 (by decide +kernel) ⟨_, rfl, h⟩
theorem gfX1_27 {y0 : MethodName} {cc : ByteArray} {nL : Nat} {ret : Option FieldType} {hh : List (Nat × Nat × Nat × Nat)} {kf : Nat} {G : gG} {Qv : Option Value → gM → Prop} {E : String → Nat → gM → Prop} {w : gM → Nat → List (Nat × Value) → List Value → Prop} {M : gM} {pc : Nat} {lv : List (Nat × Value)} {rest : List Value} (hw : gX y0 cc nL ret hh kf G Qv E w) (hy : y0.cls = RX1) {c : Nat} {q : Option Nat} (d : decode cc pc = .ok (.getfield 27, 3)) (hk : gk M c = 1) (hq : gR M c 1 = q) (kk : w M (pc + 3) lv (va_rf (q.map (gA G)) :: rest)) : w M pc lv (.ref (gA G c) :: rest) := by
  obtain ⟨cls9, nm9, ds9⟩ := y0
  subst hy
  subst hq
  exact g_getC (C := RX1) (T := TX1) (N := 28) (ci := 0) hw in_X1 rfl 1 (by decide) (Or.inl q273) rfl d hk kk
theorem gfX1_30 {y0 : MethodName} {cc : ByteArray} {nL : Nat} {ret : Option FieldType} {hh : List (Nat × Nat × Nat × Nat)} {kf : Nat} {G : gG} {Qv : Option Value → gM → Prop} {E : String → Nat → gM → Prop} {w : gM → Nat → List (Nat × Value) → List Value → Prop} {M : gM} {pc : Nat} {lv : List (Nat × Value)} {rest : List Value} (hw : gX y0 cc nL ret hh kf G Qv E w) (hy : y0.cls = RX1) {c : Nat} {q : Option Nat} (d : decode cc pc = .ok (.getfield 30, 3)) (hk : gk M c = 1) (hq : gR M c 2 = q) (kk : w M (pc + 3) lv (va_rf (q.map (gA G)) :: rest)) : w M pc lv (.ref (gA G c) :: rest) := by
  obtain ⟨cls9, nm9, ds9⟩ := y0
  subst hy
  subst hq
  exact g_getC (C := RX1) (T := TX1) (N := 28) (ci := 0) hw in_X1 rfl 2 (by decide) (Or.inl q274) rfl d hk kk
def fX1_floor_L44s (R44 : Int32 → gM → Prop) (K78_44 : gM → Prop) (l1_13 : Int32) (l3_14 : Int32) (l4_15 : Int32) (l5_16 : Int32) (M : gM) (Q : Int32 → gM → Prop) : Prop :=
  (if 12 ≤ l5_16 then K78_44 M else gk M 16 = 1 ∧ gdr (gR M 16 1) (fun a19 => gk M a19 = 48 ∧ vp_in l1_13 (gl M a19) ∧ gdr (gR M a19 l1_13.toNatClampNeg) (fun a23 => gk M a23 = 40 ∧ vp_in l5_16 (gl M a23) ∧ gdr (gR (gsI M a23 l5_16.toNatClampNeg l3_14) 16 2) (fun a27 => gk (gsI M a23 l5_16.toNatClampNeg l3_14) a27 = 48 ∧ vp_in l1_13 (gl (gsI M a23 l5_16.toNatClampNeg l3_14) a27) ∧ gdr (gR (gsI M a23 l5_16.toNatClampNeg l3_14) a27 l1_13.toNatClampNeg) (fun a31 => gk (gsI M a23 l5_16.toNatClampNeg l3_14) a31 = 40 ∧ vp_in l5_16 (gl (gsI M a23 l5_16.toNatClampNeg l3_14) a31) ∧ R44 (l5_16 + 1) (gsI (gsI M a23 l5_16.toNatClampNeg l3_14) a31 l5_16.toNatClampNeg l4_15))))))
def fX1_floor_L44 (K78_44 : gM → Prop) (l1_13 : Int32) (l3_14 : Int32) (l4_15 : Int32) (Q : Int32 → gM → Prop) : Nat → Int32 → gM → Prop
  | 0 => fun _ _ => False
  | n + 1 => fun l5_16 M => fX1_floor_L44s (fX1_floor_L44 K78_44 l1_13 l3_14 l4_15 Q n) K78_44 l1_13 l3_14 l4_15 l5_16 M Q
theorem wX1_floor_L44s {kf : Nat} {G : gG} {w : gM → Nat → List (Nat × Value) → List Value → Prop} {Q : Int32 → gM → Prop} (hw : gX yX1_floor cX1_floor 6 (Option.some FieldType.boolean) [] kf G (gQi Q) gE0 w) (hkf : 3 ≤ kf) {R44 : Int32 → gM → Prop} {K78_44 : gM → Prop} {l1_13 : Int32} {l3_14 : Int32} {l4_15 : Int32} {l5_16 : Int32} {M : gM} (hR44 : ∀ (v0 : Int32) (M : gM), R44 v0 M → w M 44 [(0, .ref (gA G 16)), (1, .int l1_13), (3, .int l3_14), (4, .int l4_15), (5, .int v0)] []) (hK78_44 : ∀  (M : gM), K78_44 M → w M 78 [] []) (h : fX1_floor_L44s R44 K78_44 l1_13 l3_14 l4_15 l5_16 M Q) : w M 44 [(0, .ref (gA G 16)), (1, .int l1_13), (3, .int l3_14), (4, .int l4_15), (5, .int l5_16)] [] := by
  unfold fX1_floor_L44s at h
  refine g_iload hw 4 dX1_floor_44 rfl ?_
  refine g_bipush (v := 12) hw dX1_floor_46 (by decide) ?_
  refine g_icmp_ge (tgt := 78) hw dX1_floor_48 (by decide) (fun hb17 => ?_) (fun hb17 => ?_)
  · have h := gT h hb17
    refine g_sub hw (lv2 := []) [] rfl ?_
    exact hK78_44 M h
  · have h := gF h hb17
    refine g_aload_n hw 0 dX1_floor_51 rfl ?_
    obtain ⟨hk18, h⟩ := h
    obtain ⟨a19, e20, h⟩ := h
    refine gfX1_27 (q := some a19) hw rfl dX1_floor_52 hk18 e20 ?_
    refine g_iload_n hw 1 dX1_floor_55 rfl ?_
    obtain ⟨hk21, h⟩ := h
    obtain ⟨hi22, h⟩ := h
    obtain ⟨a23, e24, h⟩ := h
    refine g_aaldS (n := l1_13.toNatClampNeg) hw 8 dX1_floor_56 ⟨rfl, rfl⟩ hk21 hi22 rfl e24 ?_
    refine g_iload hw 4 dX1_floor_57 rfl ?_
    refine g_iload_n hw 2 dX1_floor_59 rfl ?_
    obtain ⟨hk25, h⟩ := h
    obtain ⟨hi26, h⟩ := h
    refine g_iast (n := l5_16.toNatClampNeg) hw dX1_floor_60 hk25 hi26 rfl ?_
    refine g_aload_n hw 0 dX1_floor_61 rfl ?_
    obtain ⟨a27, e28, h⟩ := h
    refine gfX1_30 (q := some a27) hw rfl dX1_floor_62 hk18 e28 ?_
    refine g_iload_n hw 1 dX1_floor_65 rfl ?_
    obtain ⟨hk29, h⟩ := h
    obtain ⟨hi30, h⟩ := h
    obtain ⟨a31, e32, h⟩ := h
    refine g_aaldS (n := l1_13.toNatClampNeg) hw 8 dX1_floor_66 ⟨rfl, rfl⟩ hk29 hi30 rfl e32 ?_
    refine g_iload hw 4 dX1_floor_67 rfl ?_
    refine g_iload hw 3 dX1_floor_69 rfl ?_
    obtain ⟨hk33, h⟩ := h
    obtain ⟨hi34, h⟩ := h
    refine g_iast (n := l5_16.toNatClampNeg) hw dX1_floor_71 hk33 hi34 rfl ?_
    refine g_iinc hw (lv2 := [(0, .ref (gA G 16)), (1, .int l1_13), (3, .int l3_14), (4, .int l4_15), (5, .int (l5_16 + 1))]) 4 [1, 2, 3, 4, 0] dX1_floor_72 rfl (by decide) rfl rfl ?_
    refine g_goto (tgt := 44) hw dX1_floor_75 (by decide) ?_
    exact hR44 (l5_16 + 1) (gsI (gsI M a23 l5_16.toNatClampNeg l3_14) a31 l5_16.toNatClampNeg l4_15) h
theorem wX1_floor_L44 {kf : Nat} {G : gG} {w : gM → Nat → List (Nat × Value) → List Value → Prop} {Q : Int32 → gM → Prop} (hw : gX yX1_floor cX1_floor 6 (Option.some FieldType.boolean) [] kf G (gQi Q) gE0 w) (hkf : 3 ≤ kf) {K78_44 : gM → Prop} {l1_13 : Int32} {l3_14 : Int32} {l4_15 : Int32} (hK78_44 : ∀  (M : gM), K78_44 M → w M 78 [] []) : ∀ (n : Nat) (l5_16 : Int32) (M : gM), fX1_floor_L44 K78_44 l1_13 l3_14 l4_15 Q n l5_16 M → w M 44 [(0, .ref (gA G 16)), (1, .int l1_13), (3, .int l3_14), (4, .int l4_15), (5, .int l5_16)] [] := by
  intro n
  induction n with
  | zero => intro l5_16 M h; exact h.elim
  | succ n ih => intro l5_16 M h; exact wX1_floor_L44s hw hkf ih hK78_44 h
def fX1_floor (p1 : Int32) (p2 : Int32) (p3 : Int32) (p4 : Int32) (M : gM) (Q : Int32 → gM → Prop) : Prop :=
  fX1_in p1 0 1 M (fun r2 M1 => (if r2 = 0 then Q 0 M1 else fX1_isMonth p2 M1 (fun r5 M4 => (if r5 = 0 then Q 0 M4 else fX1_in p3 0 999 M4 (fun r8 M7 => (if r8 = 0 then Q 0 M7 else fX1_in p4 (-99) 99 M7 (fun r11 M10 => (if r11 = 0 then Q 0 M10 else ∃ n, fX1_floor_L44 (fun M35 => Q 1 M35) p1 p3 p4 Q n p2 M10))))))))
theorem mX1_floor {kf : Nat} (hkf : 3 ≤ kf) (G : gG) (p1 : Int32) (p2 : Int32) (p3 : Int32) (p4 : Int32) (M : gM) (Q : Int32 → gM → Prop) (h : fX1_floor p1 p2 p3 p4 M Q) : gMet yX1_floor cX1_floor 6 (Option.some FieldType.boolean) kf G M [.ref (gA G 16), .int p1, .int p2, .int p3, .int p4] (gQi Q) gE0 := by
  refine g_intro (lv := [(0, .ref (gA G 16)), (1, .int p1), (2, .int p2), (3, .int p3), (4, .int p4)]) (by decide) rfl rfl (fun w hw => ?_)
  unfold fX1_floor at h
  refine g_iload_n hw 1 dX1_floor_0 rfl ?_
  refine g_iconst (v := 0) hw dX1_floor_1 (by decide) ?_
  refine g_iconst (v := 1) hw dX1_floor_2 (by decide) ?_
  refine sX1_112 hw rfl dX1_floor_3 rfl (gK2 hkf) h (fun r2 M1 h => ?_)
  refine g_if_eq (tgt := 39) hw dX1_floor_6 (by decide) (fun hb3 => ?_) (fun hb3 => ?_)
  · have h := gT h hb3
    refine g_iconst (v := 0) hw dX1_floor_39 (by decide) ?_
    exact g_iret hw dX1_floor_40 (by decide +kernel) ⟨_, rfl, h⟩
  · have h := gF h hb3
    refine g_iload_n hw 2 dX1_floor_9 rfl ?_
    refine sX1_120 hw rfl dX1_floor_10 rfl (gK2 hkf) h (fun r5 M4 h => ?_)
    refine g_if_eq (tgt := 39) hw dX1_floor_13 (by decide) (fun hb6 => ?_) (fun hb6 => ?_)
    · have h := gT h hb6
      refine g_iconst (v := 0) hw dX1_floor_39 (by decide) ?_
      exact g_iret hw dX1_floor_40 (by decide +kernel) ⟨_, rfl, h⟩
    · have h := gF h hb6
      refine g_iload_n hw 3 dX1_floor_16 rfl ?_
      refine g_iconst (v := 0) hw dX1_floor_17 (by decide) ?_
      refine g_sipush (v := 999) hw dX1_floor_18 (by decide) ?_
      refine sX1_112 hw rfl dX1_floor_21 rfl (gK2 hkf) h (fun r8 M7 h => ?_)
      refine g_if_eq (tgt := 39) hw dX1_floor_24 (by decide) (fun hb9 => ?_) (fun hb9 => ?_)
      · have h := gT h hb9
        refine g_iconst (v := 0) hw dX1_floor_39 (by decide) ?_
        exact g_iret hw dX1_floor_40 (by decide +kernel) ⟨_, rfl, h⟩
      · have h := gF h hb9
        refine g_iload hw 4 dX1_floor_27 rfl ?_
        refine g_bipush (v := (-99)) hw dX1_floor_29 (by decide) ?_
        refine g_bipush (v := 99) hw dX1_floor_31 (by decide) ?_
        refine sX1_112 hw rfl dX1_floor_33 rfl (gK2 hkf) h (fun r11 M10 h => ?_)
        refine g_if_ne (tgt := 41) hw dX1_floor_36 (by decide) (fun hb12 => ?_) (fun hb12 => ?_)
        · have h := gF h hb12
          refine g_iload_n hw 2 dX1_floor_41 rfl ?_
          refine g_istore hw (lv2 := [(0, .ref (gA G 16)), (1, .int p1), (3, .int p3), (4, .int p4), (5, .int p2)]) [1, 2, 4, 5, 0] dX1_floor_42 rfl rfl ?_
          obtain ⟨n9, h⟩ := h
          refine wX1_floor_L44 hw hkf (fun M35 h => ?_) n9 p2 M10 h
          refine g_iconst (v := 1) hw dX1_floor_78 (by decide) ?_
          exact g_iret hw dX1_floor_79 (by decide +kernel) ⟨_, rfl, h⟩
        · have h := gT h hb12
          refine g_iconst (v := 0) hw dX1_floor_39 (by decide) ?_
          exact g_iret hw dX1_floor_40 (by decide +kernel) ⟨_, rfl, h⟩
theorem gfX1_60 {y0 : MethodName} {cc : ByteArray} {nL : Nat} {ret : Option FieldType} {hh : List (Nat × Nat × Nat × Nat)} {kf : Nat} {G : gG} {Qv : Option Value → gM → Prop} {E : String → Nat → gM → Prop} {w : gM → Nat → List (Nat × Value) → List Value → Prop} {M : gM} {pc : Nat} {lv : List (Nat × Value)} {rest : List Value} (hw : gX y0 cc nL ret hh kf G Qv E w) (hy : y0.cls = RX1) {c : Nat} (d : decode cc pc = .ok (.getfield 60, 3)) (hk : gk M c = 1) (kk : w M (pc + 3) lv (.int (gI M c 9) :: rest)) : w M pc lv (.ref (gA G c) :: rest) := by
  obtain ⟨cls9, nm9, ds9⟩ := y0
  subst hy
  exact g_getC (C := RX1) (T := TX1) (N := 28) (ci := 0) hw in_X1 rfl 9 (by decide) (Or.inl q281) rfl d hk kk
def fX1_handsOf_2 (p1 : Int32) (p2 : Int32) (M : gM) (Q : Int32 → gM → Prop) : Prop :=
  (if 0 ≤ p1 then gk M 16 = 1 ∧ Q ((10 * p1) + ((gI M 16 9) * p2)) M else Q 0 M)
theorem mX1_handsOf_2 {kf : Nat} (hkf : 1 ≤ kf) (G : gG) (p1 : Int32) (p2 : Int32) (M : gM) (Q : Int32 → gM → Prop) (h : fX1_handsOf_2 p1 p2 M Q) : gMet yX1_handsOf_2 cX1_handsOf_2 3 (Option.some FieldType.int) kf G M [.ref (gA G 16), .int p1, .int p2] (gQi Q) gE0 := by
  refine g_intro (lv := [(0, .ref (gA G 16)), (1, .int p1), (2, .int p2)]) (by decide) rfl rfl (fun w hw => ?_)
  unfold fX1_handsOf_2 at h
  refine g_iload_n hw 1 dX1_handsOf_2_0 rfl ?_
  refine g_if_ge (tgt := 8) hw dX1_handsOf_2_1 (by decide) (fun hb1 => ?_) (fun hb1 => ?_)
  · have h := gT h hb1
    refine g_bipush (v := 10) hw dX1_handsOf_2_8 (by decide) ?_
    refine g_iload_n hw 1 dX1_handsOf_2_10 rfl ?_
    refine g_imul hw dX1_handsOf_2_11 ?_
    refine g_aload_n hw 0 dX1_handsOf_2_12 rfl ?_
    obtain ⟨hk2, h⟩ := h
    refine gfX1_60 hw rfl dX1_handsOf_2_13 hk2 ?_
    refine g_iload_n hw 2 dX1_handsOf_2_16 rfl ?_
    refine g_imul hw dX1_handsOf_2_17 ?_
    refine g_iadd hw dX1_handsOf_2_18 ?_
    exact g_iret hw dX1_handsOf_2_19 rfl ⟨_, rfl, h⟩
  · have h := gF h hb1
    refine g_iconst (v := 0) hw dX1_handsOf_2_4 (by decide) ?_
    refine g_goto (tgt := 19) hw dX1_handsOf_2_5 (by decide) ?_
    exact g_iret hw dX1_handsOf_2_19 rfl ⟨_, rfl, h⟩
theorem sX1_155 {y0 : MethodName} {cc : ByteArray} {nL : Nat} {ret : Option FieldType} {hh : List (Nat × Nat × Nat × Nat)} {kf : Nat} {G : gG} {Qv : Option Value → gM → Prop} {E : String → Nat → gM → Prop} {w : gM → Nat → List (Nat × Value) → List Value → Prop} {M : gM} {pc : Nat} {lv : List (Nat × Value)} {rest : List Value} (hw : gX y0 cc nL ret hh kf G Qv E w) (hy : y0.cls = RX1) {p1 : Int32} {p2 : Int32} {Q : Int32 → gM → Prop} (d : decode cc pc = .ok (.invokevirtual 155, 3)) (hrest : Nat.ble ((rest.map Value.category).sum) 8 = true) (hk : 1 + 1 ≤ kf) (hkd : gk M 16 = 1) (h : fX1_handsOf_2 p1 p2 M Q) (kk : ∀ r M1, Q r M1 → w M1 (pc + 3) lv (.int r :: rest)) : w M pc lv (.int p2 :: .int p1 :: .ref (gA G 16) :: rest) := by
  obtain ⟨cls9, nm9, ds9⟩ := y0
  subst hy
  exact g_callV (r := (RX1, TX1, 28)) (ci := 0) hw [.int p1, .int p2] (nA := 2) rfl d q402 q404 qs2 q98 q405 (by decide +kernel) rfl rfl hrest rfl (by omega : kf - 1 + 1 ≤ kf) hkd (mX1_handsOf_2 (kf := kf - 1) (by omega) G p1 p2 M Q h) (fun _ _ _ q => q.elim) (fun v M1 h => by obtain ⟨r, rfl, h⟩ := h; exact kk r M1 h)
def fX1_handsOf (p1 : Nat) (p2 : Int32) (M : gM) (Q : Int32 → gM → Prop) : Prop :=
  gk M p1 = 4 ∧ gdr (gR M p1 5) (fun a2 => gk M a2 = 40 ∧ vp_in p2 (gl M a2) ∧ gdr (gR M p1 6) (fun a6 => gk M a6 = 40 ∧ vp_in p2 (gl M a6) ∧ gk M 16 = 1 ∧ fX1_handsOf_2 (gI M a2 p2.toNatClampNeg) (gI M a6 p2.toNatClampNeg) M (fun r12 M11 => Q r12 M11)))
theorem mX1_handsOf {kf : Nat} (hkf : 2 ≤ kf) (G : gG) (p1 : Nat) (p2 : Int32) (M : gM) (Q : Int32 → gM → Prop) (h : fX1_handsOf p1 p2 M Q) : gMet yX1_handsOf cX1_handsOf 3 (Option.some FieldType.int) kf G M [.ref (gA G 16), .ref (gA G p1), .int p2] (gQi Q) gE0 := by
  refine g_intro (lv := [(0, .ref (gA G 16)), (1, .ref (gA G p1)), (2, .int p2)]) (by decide) rfl rfl (fun w hw => ?_)
  unfold fX1_handsOf at h
  refine g_aload_n hw 0 dX1_handsOf_0 rfl ?_
  refine g_aload_n hw 1 dX1_handsOf_1 rfl ?_
  obtain ⟨hk1, h⟩ := h
  obtain ⟨a2, e3, h⟩ := h
  refine gfX1_139 (q := some a2) hw rfl dX1_handsOf_2 hk1 e3 ?_
  refine g_iload_n hw 2 dX1_handsOf_5 rfl ?_
  obtain ⟨hk4, h⟩ := h
  obtain ⟨hi5, h⟩ := h
  refine g_iald (n := p2.toNatClampNeg) hw dX1_handsOf_6 hk4 hi5 rfl ?_
  refine g_aload_n hw 1 dX1_handsOf_7 rfl ?_
  obtain ⟨a6, e7, h⟩ := h
  refine gfX1_142 (q := some a6) hw rfl dX1_handsOf_8 hk1 e7 ?_
  refine g_iload_n hw 2 dX1_handsOf_11 rfl ?_
  obtain ⟨hk8, h⟩ := h
  obtain ⟨hi9, h⟩ := h
  refine g_iald (n := p2.toNatClampNeg) hw dX1_handsOf_12 hk8 hi9 rfl ?_
  obtain ⟨hk10, h⟩ := h
  refine sX1_155 hw rfl dX1_handsOf_13 rfl (gK2 hkf) hk10 h (fun r12 M11 h => ?_)
  exact g_iret hw dX1_handsOf_16 rfl ⟨_, rfl, h⟩
theorem sX1_158 {y0 : MethodName} {cc : ByteArray} {nL : Nat} {ret : Option FieldType} {hh : List (Nat × Nat × Nat × Nat)} {kf : Nat} {G : gG} {Qv : Option Value → gM → Prop} {E : String → Nat → gM → Prop} {w : gM → Nat → List (Nat × Value) → List Value → Prop} {M : gM} {pc : Nat} {lv : List (Nat × Value)} {rest : List Value} (hw : gX y0 cc nL ret hh kf G Qv E w) (hy : y0.cls = RX1) {c0 : Nat} {p1 : Int32} {Q : Int32 → gM → Prop} (d : decode cc pc = .ok (.invokevirtual 158, 3)) (hrest : Nat.ble ((rest.map Value.category).sum) 8 = true) (hk : 1 + 1 ≤ kf) (hkd : gk M c0 = 4) (h : fX4_isSilent c0 p1 M Q) (kk : ∀ r M1, Q r M1 → w M1 (pc + 3) lv (.int r :: rest)) : w M pc lv (.int p1 :: .ref (gA G c0) :: rest) := by
  obtain ⟨cls9, nm9, ds9⟩ := y0
  subst hy
  exact g_callV (r := (RX4, TX4, 11)) (ci := 3) hw [.int p1] (nA := 1) rfl d q394 q395 q396 q101 q397 (by decide +kernel) rfl rfl hrest rfl (by omega : kf - 1 + 1 ≤ kf) hkd (mX4_isSilent (kf := kf - 1) (by omega) G c0 p1 M Q h) (fun _ _ _ q => q.elim) (fun v M1 h => by obtain ⟨r, rfl, h⟩ := h; exact kk r M1 h)
theorem sX1_161 {y0 : MethodName} {cc : ByteArray} {nL : Nat} {ret : Option FieldType} {hh : List (Nat × Nat × Nat × Nat)} {kf : Nat} {G : gG} {Qv : Option Value → gM → Prop} {E : String → Nat → gM → Prop} {w : gM → Nat → List (Nat × Value) → List Value → Prop} {M : gM} {pc : Nat} {lv : List (Nat × Value)} {rest : List Value} (hw : gX y0 cc nL ret hh kf G Qv E w) (hy : y0.cls = RX1) {p1 : Nat} {p2 : Int32} {Q : Int32 → gM → Prop} (d : decode cc pc = .ok (.invokevirtual 161, 3)) (hrest : Nat.ble ((rest.map Value.category).sum) 8 = true) (hk : 2 + 1 ≤ kf) (hkd : gk M 16 = 1) (h : fX1_handsOf p1 p2 M Q) (kk : ∀ r M1, Q r M1 → w M1 (pc + 3) lv (.int r :: rest)) : w M pc lv (.int p2 :: .ref (gA G p1) :: .ref (gA G 16) :: rest) := by
  obtain ⟨cls9, nm9, ds9⟩ := y0
  subst hy
  exact g_callV (r := (RX1, TX1, 28)) (ci := 0) hw [.ref (gA G p1), .int p2] (nA := 2) rfl d q398 q400 qs1 q98 q401 (by decide +kernel) rfl rfl hrest rfl (by omega : kf - 1 + 1 ≤ kf) hkd (mX1_handsOf (kf := kf - 1) (by omega) G p1 p2 M Q h) (fun _ _ _ q => q.elim) (fun v M1 h => by obtain ⟨r, rfl, h⟩ := h; exact kk r M1 h)
def fX1_hands_b28  (M : gM) (Q : Int32 → gM → Prop) : Prop :=
  Q (-1) M
theorem wX1_hands_b28 {kf : Nat} {G : gG} {w : gM → Nat → List (Nat × Value) → List Value → Prop} {Q : Int32 → gM → Prop} (hw : gX yX1_hands cX1_hands 3 (Option.some FieldType.int) [] kf G (gQi Q) gE0 w) (hkf : 3 ≤ kf)   {M : gM}  (h : fX1_hands_b28 M Q) : w M 28 [] [] := by
  unfold fX1_hands_b28 at h
  refine g_iconst (v := (-1)) hw dX1_hands_28 (by decide) ?_
  refine g_goto (tgt := 43) hw dX1_hands_29 (by decide) ?_
  exact g_iret hw dX1_hands_43 rfl ⟨_, rfl, h⟩
def fX1_hands (p1 : Int32) (p2 : Int32) (M : gM) (Q : Int32 → gM → Prop) : Prop :=
  gk M 16 = 1 ∧ fX1_isKitchen p1 M (fun r3 M2 => (if r3 = 0 then fX1_hands_b28 M2 Q else fX1_isMonth p2 M2 (fun r6 M5 => (if r6 = 0 then fX1_hands_b28 M5 Q else gk M5 16 = 1 ∧ gdr (gR M5 16 0) (fun a9 => gk M5 a9 = 44 ∧ vp_in p1 (gl M5 a9) ∧ gdr (gR M5 a9 p1.toNatClampNeg) (fun a13 => gk M5 a13 = 4 ∧ fX4_isSilent a13 p2 M5 (fun r17 M16 => (if r17 = 0 then gk M16 16 = 1 ∧ gdr (gR M16 16 0) (fun a20 => gk M16 a20 = 44 ∧ vp_in p1 (gl M16 a20) ∧ gdr (gR M16 a20 p1.toNatClampNeg) (fun a24 => fX1_handsOf a24 p2 M16 (fun r27 M26 => Q r27 M26))) else fX1_hands_b28 M16 Q))))))))
theorem mX1_hands {kf : Nat} (hkf : 3 ≤ kf) (G : gG) (p1 : Int32) (p2 : Int32) (M : gM) (Q : Int32 → gM → Prop) (h : fX1_hands p1 p2 M Q) : gMet yX1_hands cX1_hands 3 (Option.some FieldType.int) kf G M [.ref (gA G 16), .int p1, .int p2] (gQi Q) gE0 := by
  refine g_intro (lv := [(0, .ref (gA G 16)), (1, .int p1), (2, .int p2)]) (by decide) rfl rfl (fun w hw => ?_)
  unfold fX1_hands at h
  refine g_aload_n hw 0 dX1_hands_0 rfl ?_
  refine g_iload_n hw 1 dX1_hands_1 rfl ?_
  obtain ⟨hk1, h⟩ := h
  refine sX1_136 hw rfl dX1_hands_2 rfl (gK2 hkf) hk1 h (fun r3 M2 h => ?_)
  refine g_if_eq (tgt := 28) hw dX1_hands_5 (by decide) (fun hb4 => ?_) (fun hb4 => ?_)
  · have h := gT h hb4
    refine g_sub hw (lv2 := []) [] rfl ?_
    exact wX1_hands_b28 hw hkf h
  · have h := gF h hb4
    refine g_iload_n hw 2 dX1_hands_8 rfl ?_
    refine sX1_120 hw rfl dX1_hands_9 rfl (gK2 hkf) h (fun r6 M5 h => ?_)
    refine g_if_eq (tgt := 28) hw dX1_hands_12 (by decide) (fun hb7 => ?_) (fun hb7 => ?_)
    · have h := gT h hb7
      refine g_sub hw (lv2 := []) [] rfl ?_
      exact wX1_hands_b28 hw hkf h
    · have h := gF h hb7
      refine g_aload_n hw 0 dX1_hands_15 rfl ?_
      obtain ⟨hk8, h⟩ := h
      obtain ⟨a9, e10, h⟩ := h
      refine gfX1_21 (q := some a9) hw rfl dX1_hands_16 hk8 e10 ?_
      refine g_iload_n hw 1 dX1_hands_19 rfl ?_
      obtain ⟨hk11, h⟩ := h
      obtain ⟨hi12, h⟩ := h
      obtain ⟨a13, e14, h⟩ := h
      refine g_aaldS (n := p1.toNatClampNeg) hw 4 dX1_hands_20 ⟨rfl, rfl⟩ hk11 hi12 rfl e14 ?_
      refine g_iload_n hw 2 dX1_hands_21 rfl ?_
      obtain ⟨hk15, h⟩ := h
      refine sX1_158 hw rfl dX1_hands_22 rfl (gK2 hkf) hk15 h (fun r17 M16 h => ?_)
      refine g_if_eq (tgt := 32) hw dX1_hands_25 (by decide) (fun hb18 => ?_) (fun hb18 => ?_)
      · have h := gT h hb18
        refine g_aload_n hw 0 dX1_hands_32 rfl ?_
        refine g_aload_n hw 0 dX1_hands_33 rfl ?_
        obtain ⟨hk19, h⟩ := h
        obtain ⟨a20, e21, h⟩ := h
        refine gfX1_21 (q := some a20) hw rfl dX1_hands_34 hk19 e21 ?_
        refine g_iload_n hw 1 dX1_hands_37 rfl ?_
        obtain ⟨hk22, h⟩ := h
        obtain ⟨hi23, h⟩ := h
        obtain ⟨a24, e25, h⟩ := h
        refine g_aaldS (n := p1.toNatClampNeg) hw 4 dX1_hands_38 ⟨rfl, rfl⟩ hk22 hi23 rfl e25 ?_
        refine g_iload_n hw 2 dX1_hands_39 rfl ?_
        refine sX1_161 hw rfl dX1_hands_40 rfl (gK2 hkf) hk19 h (fun r27 M26 h => ?_)
        exact g_iret hw dX1_hands_43 rfl ⟨_, rfl, h⟩
      · have h := gF h hb18
        refine g_sub hw (lv2 := []) [] rfl ?_
        exact wX1_hands_b28 hw hkf h
def fX1_areMonths_b23  (M : gM) (Q : Int32 → gM → Prop) : Prop :=
  Q 0 M
theorem wX1_areMonths_b23 {kf : Nat} {G : gG} {w : gM → Nat → List (Nat × Value) → List Value → Prop} {Q : Int32 → gM → Prop} (hw : gX yX1_areMonths cX1_areMonths 2 (Option.some FieldType.boolean) [] kf G (gQi Q) gE0 w) (hkf : 3 ≤ kf)   {M : gM}  (h : fX1_areMonths_b23 M Q) : w M 23 [] [] := by
  unfold fX1_areMonths_b23 at h
  refine g_iconst (v := 0) hw dX1_areMonths_23 (by decide) ?_
  exact g_iret hw dX1_areMonths_24 (by decide +kernel) ⟨_, rfl, h⟩
def fX1_areMonths (p1 : Int32) (p2 : Int32) (M : gM) (Q : Int32 → gM → Prop) : Prop :=
  fX1_isMonth p1 M (fun r2 M1 => (if r2 = 0 then fX1_areMonths_b23 M1 Q else fX1_isMonth p2 M1 (fun r5 M4 => (if r5 = 0 then fX1_areMonths_b23 M4 Q else (if p2 = p1 then fX1_areMonths_b23 M4 Q else Q 1 M4)))))
theorem mX1_areMonths {kf : Nat} (hkf : 3 ≤ kf) (G : gG) (p1 : Int32) (p2 : Int32) (M : gM) (Q : Int32 → gM → Prop) (h : fX1_areMonths p1 p2 M Q) : gMet yX1_areMonths cX1_areMonths 2 (Option.some FieldType.boolean) kf G M [.int p1, .int p2] (gQi Q) gE0 := by
  refine g_intro (lv := [(0, .int p1), (1, .int p2)]) (by decide) rfl rfl (fun w hw => ?_)
  unfold fX1_areMonths at h
  refine g_iload_n hw 0 dX1_areMonths_0 rfl ?_
  refine sX1_120 hw rfl dX1_areMonths_1 rfl (gK2 hkf) h (fun r2 M1 h => ?_)
  refine g_if_eq (tgt := 23) hw dX1_areMonths_4 (by decide) (fun hb3 => ?_) (fun hb3 => ?_)
  · have h := gT h hb3
    refine g_sub hw (lv2 := []) [] rfl ?_
    exact wX1_areMonths_b23 hw hkf h
  · have h := gF h hb3
    refine g_iload_n hw 1 dX1_areMonths_7 rfl ?_
    refine sX1_120 hw rfl dX1_areMonths_8 rfl (gK2 hkf) h (fun r5 M4 h => ?_)
    refine g_if_eq (tgt := 23) hw dX1_areMonths_11 (by decide) (fun hb6 => ?_) (fun hb6 => ?_)
    · have h := gT h hb6
      refine g_sub hw (lv2 := []) [] rfl ?_
      exact wX1_areMonths_b23 hw hkf h
    · have h := gF h hb6
      refine g_iload_n hw 1 dX1_areMonths_14 rfl ?_
      refine g_iload_n hw 0 dX1_areMonths_15 rfl ?_
      refine g_icmp_eq (tgt := 23) hw dX1_areMonths_16 (by decide) (fun hb7 => ?_) (fun hb7 => ?_)
      · have h := gT h hb7
        refine g_sub hw (lv2 := []) [] rfl ?_
        exact wX1_areMonths_b23 hw hkf h
      · have h := gF h hb7
        refine g_iconst (v := 1) hw dX1_areMonths_19 (by decide) ?_
        refine g_goto (tgt := 24) hw dX1_areMonths_20 (by decide) ?_
        exact g_iret hw dX1_areMonths_24 (by decide +kernel) ⟨_, rfl, h⟩
theorem gfX1_66 {y0 : MethodName} {cc : ByteArray} {nL : Nat} {ret : Option FieldType} {hh : List (Nat × Nat × Nat × Nat)} {kf : Nat} {G : gG} {Qv : Option Value → gM → Prop} {E : String → Nat → gM → Prop} {w : gM → Nat → List (Nat × Value) → List Value → Prop} {M : gM} {pc : Nat} {lv : List (Nat × Value)} {rest : List Value} (hw : gX y0 cc nL ret hh kf G Qv E w) (hy : y0.cls = RX1) {c : Nat} {q : Option Nat} (d : decode cc pc = .ok (.getfield 66, 3)) (hk : gk M c = 1) (hq : gR M c 10 = q) (kk : w M (pc + 3) lv (va_rf (q.map (gA G)) :: rest)) : w M pc lv (.ref (gA G c) :: rest) := by
  obtain ⟨cls9, nm9, ds9⟩ := y0
  subst hy
  subst hq
  exact g_getC (C := RX1) (T := TX1) (N := 28) (ci := 0) hw in_X1 rfl 10 (by decide) (Or.inl q282) rfl d hk kk
theorem sX1_179 {y0 : MethodName} {cc : ByteArray} {nL : Nat} {ret : Option FieldType} {hh : List (Nat × Nat × Nat × Nat)} {kf : Nat} {G : gG} {Qv : Option Value → gM → Prop} {E : String → Nat → gM → Prop} {w : gM → Nat → List (Nat × Value) → List Value → Prop} {M : gM} {pc : Nat} {lv : List (Nat × Value)} {rest : List Value} (hw : gX y0 cc nL ret hh kf G Qv E w) (hy : y0.cls = RX1) {c0 : Nat} {Q : gM → Prop} (d : decode cc pc = .ok (.invokevirtual 179, 3)) (hrest : Nat.ble ((rest.map Value.category).sum) 8 = true) (hk : 1 + 1 ≤ kf) (hkd : gk M c0 = 3) (h : fX3_begin c0 M Q) (kk : ∀ M1, Q M1 → w M1 (pc + 3) lv rest) : w M pc lv (.ref (gA G c0) :: rest) := by
  obtain ⟨cls9, nm9, ds9⟩ := y0
  subst hy
  exact g_callV (r := (RX3, TX3, 2)) (ci := 2) hw [] (nA := 0) rfl d q421 q422 q423 q100 q424 (by decide +kernel) rfl rfl hrest rfl (by omega : kf - 1 + 1 ≤ kf) hkd (mX3_begin (kf := kf - 1) (by omega) G c0 M Q h) (fun _ _ _ q => q.elim) (fun v M1 h => by obtain ⟨rfl, h⟩ := h; exact kk M1 h)
theorem gfX1_70 {y0 : MethodName} {cc : ByteArray} {nL : Nat} {ret : Option FieldType} {hh : List (Nat × Nat × Nat × Nat)} {kf : Nat} {G : gG} {Qv : Option Value → gM → Prop} {E : String → Nat → gM → Prop} {w : gM → Nat → List (Nat × Value) → List Value → Prop} {M : gM} {pc : Nat} {lv : List (Nat × Value)} {rest : List Value} (hw : gX y0 cc nL ret hh kf G Qv E w) (hy : y0.cls = RX1) {c : Nat} {q : Option Nat} (d : decode cc pc = .ok (.getfield 70, 3)) (hk : gk M c = 1) (hq : gR M c 11 = q) (kk : w M (pc + 3) lv (va_rf (q.map (gA G)) :: rest)) : w M pc lv (.ref (gA G c) :: rest) := by
  obtain ⟨cls9, nm9, ds9⟩ := y0
  subst hy
  subst hq
  exact g_getC (C := RX1) (T := TX1) (N := 28) (ci := 0) hw in_X1 rfl 11 (by decide) (Or.inl q283) rfl d hk kk
def fX1_begins  (M : gM) (Q : gM → Prop) : Prop :=
  gk M 16 = 1 ∧ gdr (gR M 16 10) (fun a2 => gk M a2 = 3 ∧ fX3_begin a2 M (fun M5 => gk M5 16 = 1 ∧ gdr (gR M5 16 11) (fun a8 => gk M5 a8 = 3 ∧ fX3_begin a8 M5 (fun M11 => Q M11))))
theorem mX1_begins {kf : Nat} (hkf : 2 ≤ kf) (G : gG)  (M : gM) (Q : gM → Prop) (h : fX1_begins M Q) : gMet yX1_begins cX1_begins 1 (Option.none : Option FieldType) kf G M [.ref (gA G 16)] (gQv Q) gE0 := by
  refine g_intro (lv := [(0, .ref (gA G 16))]) (by decide) rfl rfl (fun w hw => ?_)
  unfold fX1_begins at h
  refine g_aload_n hw 0 dX1_begins_0 rfl ?_
  obtain ⟨hk1, h⟩ := h
  obtain ⟨a2, e3, h⟩ := h
  refine gfX1_66 (q := some a2) hw rfl dX1_begins_1 hk1 e3 ?_
  obtain ⟨hk4, h⟩ := h
  refine sX1_179 hw rfl dX1_begins_4 rfl (gK2 hkf) hk4 h (fun M5 h => ?_)
  refine g_aload_n hw 0 dX1_begins_7 rfl ?_
  obtain ⟨hk7, h⟩ := h
  obtain ⟨a8, e9, h⟩ := h
  refine gfX1_70 (q := some a8) hw rfl dX1_begins_8 hk7 e9 ?_
  obtain ⟨hk10, h⟩ := h
  refine sX1_179 hw rfl dX1_begins_11 rfl (gK2 hkf) hk10 h (fun M11 h => ?_)
  exact g_vret hw dX1_begins_14 ⟨rfl, h⟩
def fX1_of (p1 : Int32) (M : gM) (Q : Nat → gM → Prop) : Prop :=
  (if p1 = 0 then gk M 16 = 1 ∧ gdr (gR M 16 10) (fun a6 => Q a6 M) else gk M 16 = 1 ∧ gdr (gR M 16 11) (fun a3 => Q a3 M))
theorem mX1_of {kf : Nat} (hkf : 1 ≤ kf) (G : gG) (p1 : Int32) (M : gM) (Q : Nat → gM → Prop) (h : fX1_of p1 M Q) : gMet yX1_of cX1_of 2 (Option.some (FieldType.object "RiverWage$Mean")) kf G M [.ref (gA G 16), .int p1] (gQr G Q) gE0 := by
  refine g_intro (lv := [(0, .ref (gA G 16)), (1, .int p1)]) (by decide) rfl rfl (fun w hw => ?_)
  unfold fX1_of at h
  refine g_iload_n hw 1 dX1_of_0 rfl ?_
  refine g_if_ne (tgt := 11) hw dX1_of_1 (by decide) (fun hb1 => ?_) (fun hb1 => ?_)
  · have h := gF h hb1
    refine g_aload_n hw 0 dX1_of_11 rfl ?_
    obtain ⟨hk2, h⟩ := h
    obtain ⟨a3, e4, h⟩ := h
    refine gfX1_70 (q := some a3) hw rfl dX1_of_12 hk2 e4 ?_
    exact g_aret hw dX1_of_15 ⟨_, rfl, h⟩
  · have h := gT h hb1
    refine g_aload_n hw 0 dX1_of_4 rfl ?_
    obtain ⟨hk5, h⟩ := h
    obtain ⟨a6, e7, h⟩ := h
    refine gfX1_66 (q := some a6) hw rfl dX1_of_5 hk5 e7 ?_
    refine g_goto (tgt := 15) hw dX1_of_8 (by decide) ?_
    exact g_aret hw dX1_of_15 ⟨_, rfl, h⟩
theorem gfX1_130 {y0 : MethodName} {cc : ByteArray} {nL : Nat} {ret : Option FieldType} {hh : List (Nat × Nat × Nat × Nat)} {kf : Nat} {G : gG} {Qv : Option Value → gM → Prop} {E : String → Nat → gM → Prop} {w : gM → Nat → List (Nat × Value) → List Value → Prop} {M : gM} {pc : Nat} {lv : List (Nat × Value)} {rest : List Value} (hw : gX y0 cc nL ret hh kf G Qv E w) (hy : y0.cls = RX1) {c : Nat} (d : decode cc pc = .ok (.getfield 130, 3)) (hk : gk M c = 4) (kk : w M (pc + 3) lv (.int (gI M c 2) :: rest)) : w M pc lv (.ref (gA G c) :: rest) := by
  obtain ⟨cls9, nm9, ds9⟩ := y0
  subst hy
  exact g_getC (C := RX4) (T := TX4) (N := 11) (ci := 3) hw in_X4 rfl 2 (by decide) (Or.inr ⟨_, q195⟩) rfl d hk kk
def fX1_may (p1 : Nat) (p2 : Int32) (p3 : Int32) (M : gM) (Q : Int32 → gM → Prop) : Prop :=
  gk M p1 = 4 ∧ fX4_isSilent p1 p2 M (fun r3 M2 => (if r3 = 0 then gk M2 16 = 1 ∧ fX1_handsOf p1 p2 M2 (fun r9 M8 => Q r9 M8) else (if p3 = 0 then Q 0 M2 else gk M2 p1 = 4 ∧ Q (10 * (gI M2 p1 2)) M2)))
theorem mX1_may {kf : Nat} (hkf : 3 ≤ kf) (G : gG) (p1 : Nat) (p2 : Int32) (p3 : Int32) (M : gM) (Q : Int32 → gM → Prop) (h : fX1_may p1 p2 p3 M Q) : gMet yX1_may cX1_may 4 (Option.some FieldType.int) kf G M [.ref (gA G 16), .ref (gA G p1), .int p2, .int p3] (gQi Q) gE0 := by
  refine g_intro (lv := [(0, .ref (gA G 16)), (1, .ref (gA G p1)), (2, .int p2), (3, .int p3)]) (by decide) rfl rfl (fun w hw => ?_)
  unfold fX1_may at h
  refine g_aload_n hw 1 dX1_may_0 rfl ?_
  refine g_iload_n hw 2 dX1_may_1 rfl ?_
  obtain ⟨hk1, h⟩ := h
  refine sX1_158 hw rfl dX1_may_2 rfl (gK2 hkf) hk1 h (fun r3 M2 h => ?_)
  refine g_if_ne (tgt := 17) hw dX1_may_5 (by decide) (fun hb4 => ?_) (fun hb4 => ?_)
  · have h := gF h hb4
    refine g_iload_n hw 3 dX1_may_17 rfl ?_
    refine g_if_eq (tgt := 31) hw dX1_may_18 (by decide) (fun hb5 => ?_) (fun hb5 => ?_)
    · have h := gT h hb5
      refine g_iconst (v := 0) hw dX1_may_31 (by decide) ?_
      exact g_iret hw dX1_may_32 rfl ⟨_, rfl, h⟩
    · have h := gF h hb5
      refine g_bipush (v := 10) hw dX1_may_21 (by decide) ?_
      refine g_aload_n hw 1 dX1_may_23 rfl ?_
      obtain ⟨hk6, h⟩ := h
      refine gfX1_130 hw rfl dX1_may_24 hk6 ?_
      refine g_imul hw dX1_may_27 ?_
      refine g_goto (tgt := 32) hw dX1_may_28 (by decide) ?_
      exact g_iret hw dX1_may_32 rfl ⟨_, rfl, h⟩
  · have h := gT h hb4
    refine g_aload_n hw 0 dX1_may_8 rfl ?_
    refine g_aload_n hw 1 dX1_may_9 rfl ?_
    refine g_iload_n hw 2 dX1_may_10 rfl ?_
    obtain ⟨hk7, h⟩ := h
    refine sX1_161 hw rfl dX1_may_11 rfl (gK2 hkf) hk7 h (fun r9 M8 h => ?_)
    refine g_goto (tgt := 32) hw dX1_may_14 (by decide) ?_
    exact g_iret hw dX1_may_32 rfl ⟨_, rfl, h⟩
theorem gfX1_182 {y0 : MethodName} {cc : ByteArray} {nL : Nat} {ret : Option FieldType} {hh : List (Nat × Nat × Nat × Nat)} {kf : Nat} {G : gG} {Qv : Option Value → gM → Prop} {E : String → Nat → gM → Prop} {w : gM → Nat → List (Nat × Value) → List Value → Prop} {M : gM} {pc : Nat} {lv : List (Nat × Value)} {rest : List Value} (hw : gX y0 cc nL ret hh kf G Qv E w) (hy : y0.cls = RX1) {c : Nat} (d : decode cc pc = .ok (.getfield 182, 3)) (hk : gk M c = 3) (kk : w M (pc + 3) lv (.int (gI M c 1) :: rest)) : w M pc lv (.ref (gA G c) :: rest) := by
  obtain ⟨cls9, nm9, ds9⟩ := y0
  subst hy
  exact g_getC (C := RX3) (T := TX3) (N := 2) (ci := 2) hw in_X3 rfl 1 (by decide) (Or.inr ⟨_, q181⟩) rfl d hk kk
def fX1_isThere_b24  (M : gM) (Q : Int32 → gM → Prop) : Prop :=
  Q 0 M
theorem wX1_isThere_b24 {kf : Nat} {G : gG} {w : gM → Nat → List (Nat × Value) → List Value → Prop} {Q : Int32 → gM → Prop} (hw : gX yX1_isThere cX1_isThere 1 (Option.some FieldType.boolean) [] kf G (gQi Q) gE0 w) (hkf : 1 ≤ kf)   {M : gM}  (h : fX1_isThere_b24 M Q) : w M 24 [] [] := by
  unfold fX1_isThere_b24 at h
  refine g_iconst (v := 0) hw dX1_isThere_24 (by decide) ?_
  exact g_iret hw dX1_isThere_25 (by decide +kernel) ⟨_, rfl, h⟩
def fX1_isThere  (M : gM) (Q : Int32 → gM → Prop) : Prop :=
  gk M 16 = 1 ∧ gdr (gR M 16 10) (fun a2 => gk M a2 = 3 ∧ (if (gI M a2 1) ≤ 0 then fX1_isThere_b24 M Q else gdr (gR M 16 11) (fun a6 => gk M a6 = 3 ∧ (if (gI M a6 1) ≤ 0 then fX1_isThere_b24 M Q else Q 1 M))))
theorem mX1_isThere {kf : Nat} (hkf : 1 ≤ kf) (G : gG)  (M : gM) (Q : Int32 → gM → Prop) (h : fX1_isThere M Q) : gMet yX1_isThere cX1_isThere 1 (Option.some FieldType.boolean) kf G M [.ref (gA G 16)] (gQi Q) gE0 := by
  refine g_intro (lv := [(0, .ref (gA G 16))]) (by decide) rfl rfl (fun w hw => ?_)
  unfold fX1_isThere at h
  refine g_aload_n hw 0 dX1_isThere_0 rfl ?_
  obtain ⟨hk1, h⟩ := h
  obtain ⟨a2, e3, h⟩ := h
  refine gfX1_66 (q := some a2) hw rfl dX1_isThere_1 hk1 e3 ?_
  obtain ⟨hk4, h⟩ := h
  refine gfX1_182 hw rfl dX1_isThere_4 hk4 ?_
  refine g_if_le (tgt := 24) hw dX1_isThere_7 (by decide) (fun hb5 => ?_) (fun hb5 => ?_)
  · have h := gT h hb5
    refine g_sub hw (lv2 := []) [] rfl ?_
    exact wX1_isThere_b24 hw hkf h
  · have h := gF h hb5
    refine g_aload_n hw 0 dX1_isThere_10 rfl ?_
    obtain ⟨a6, e7, h⟩ := h
    refine gfX1_70 (q := some a6) hw rfl dX1_isThere_11 hk1 e7 ?_
    obtain ⟨hk8, h⟩ := h
    refine gfX1_182 hw rfl dX1_isThere_14 hk8 ?_
    refine g_if_le (tgt := 24) hw dX1_isThere_17 (by decide) (fun hb9 => ?_) (fun hb9 => ?_)
    · have h := gT h hb9
      refine g_sub hw (lv2 := []) [] rfl ?_
      exact wX1_isThere_b24 hw hkf h
    · have h := gF h hb9
      refine g_iconst (v := 1) hw dX1_isThere_20 (by decide) ?_
      refine g_goto (tgt := 25) hw dX1_isThere_21 (by decide) ?_
      exact g_iret hw dX1_isThere_25 (by decide +kernel) ⟨_, rfl, h⟩
theorem sX1_189 {y0 : MethodName} {cc : ByteArray} {nL : Nat} {ret : Option FieldType} {hh : List (Nat × Nat × Nat × Nat)} {kf : Nat} {G : gG} {Qv : Option Value → gM → Prop} {E : String → Nat → gM → Prop} {w : gM → Nat → List (Nat × Value) → List Value → Prop} {M : gM} {pc : Nat} {lv : List (Nat × Value)} {rest : List Value} (hw : gX y0 cc nL ret hh kf G Qv E w) (hy : y0.cls = RX1)  {Q : gM → Prop} (d : decode cc pc = .ok (.invokevirtual 189, 3)) (hrest : Nat.ble ((rest.map Value.category).sum) 8 = true) (hk : 2 + 1 ≤ kf) (hkd : gk M 16 = 1) (h : fX1_begins M Q) (kk : ∀ M1, Q M1 → w M1 (pc + 3) lv rest) : w M pc lv (.ref (gA G 16) :: rest) := by
  obtain ⟨cls9, nm9, ds9⟩ := y0
  subst hy
  exact g_callV (r := (RX1, TX1, 28)) (ci := 0) hw [] (nA := 0) rfl d q417 q419 qs4 q98 q420 (by decide +kernel) rfl rfl hrest rfl (by omega : kf - 1 + 1 ≤ kf) hkd (mX1_begins (kf := kf - 1) (by omega) G M Q h) (fun _ _ _ q => q.elim) (fun v M1 h => by obtain ⟨rfl, h⟩ := h; exact kk M1 h)
theorem gfX1_124 {y0 : MethodName} {cc : ByteArray} {nL : Nat} {ret : Option FieldType} {hh : List (Nat × Nat × Nat × Nat)} {kf : Nat} {G : gG} {Qv : Option Value → gM → Prop} {E : String → Nat → gM → Prop} {w : gM → Nat → List (Nat × Value) → List Value → Prop} {M : gM} {pc : Nat} {lv : List (Nat × Value)} {rest : List Value} (hw : gX y0 cc nL ret hh kf G Qv E w) (hy : y0.cls = RX1) {c : Nat} (d : decode cc pc = .ok (.getfield 124, 3)) (hk : gk M c = 4) (kk : w M (pc + 3) lv (.int (gI M c 0) :: rest)) : w M pc lv (.ref (gA G c) :: rest) := by
  obtain ⟨cls9, nm9, ds9⟩ := y0
  subst hy
  exact g_getC (C := RX4) (T := TX4) (N := 11) (ci := 3) hw in_X4 rfl 0 (by decide) (Or.inr ⟨_, q193⟩) rfl d hk kk
theorem sX1_192 {y0 : MethodName} {cc : ByteArray} {nL : Nat} {ret : Option FieldType} {hh : List (Nat × Nat × Nat × Nat)} {kf : Nat} {G : gG} {Qv : Option Value → gM → Prop} {E : String → Nat → gM → Prop} {w : gM → Nat → List (Nat × Value) → List Value → Prop} {M : gM} {pc : Nat} {lv : List (Nat × Value)} {rest : List Value} (hw : gX y0 cc nL ret hh kf G Qv E w) (hy : y0.cls = RX1) {p1 : Int32} {Q : Nat → gM → Prop} (d : decode cc pc = .ok (.invokevirtual 192, 3)) (hrest : Nat.ble ((rest.map Value.category).sum) 8 = true) (hk : 1 + 1 ≤ kf) (hkd : gk M 16 = 1) (h : fX1_of p1 M Q) (kk : ∀ r M1, Q r M1 → w M1 (pc + 3) lv (.ref (gA G r) :: rest)) : w M pc lv (.int p1 :: .ref (gA G 16) :: rest) := by
  obtain ⟨cls9, nm9, ds9⟩ := y0
  subst hy
  exact g_callV (r := (RX1, TX1, 28)) (ci := 0) hw [.int p1] (nA := 1) rfl d q425 q427 qs5 q98 q428 (by decide +kernel) rfl rfl hrest rfl (by omega : kf - 1 + 1 ≤ kf) hkd (mX1_of (kf := kf - 1) (by omega) G p1 M Q h) (fun _ _ _ q => q.elim) (fun v M1 h => by obtain ⟨r, rfl, h⟩ := h; exact kk r M1 h)
theorem sX1_222 {y0 : MethodName} {cc : ByteArray} {nL : Nat} {ret : Option FieldType} {hh : List (Nat × Nat × Nat × Nat)} {kf : Nat} {G : gG} {Qv : Option Value → gM → Prop} {E : String → Nat → gM → Prop} {w : gM → Nat → List (Nat × Value) → List Value → Prop} {M : gM} {pc : Nat} {lv : List (Nat × Value)} {rest : List Value} (hw : gX y0 cc nL ret hh kf G Qv E w) (hy : y0.cls = RX1) {p1 : Nat} {p2 : Int32} {p3 : Int32} {Q : Int32 → gM → Prop} (d : decode cc pc = .ok (.invokevirtual 222, 3)) (hrest : Nat.ble ((rest.map Value.category).sum) 8 = true) (hk : 3 + 1 ≤ kf) (hkd : gk M 16 = 1) (h : fX1_may p1 p2 p3 M Q) (kk : ∀ r M1, Q r M1 → w M1 (pc + 3) lv (.int r :: rest)) : w M pc lv (.int p3 :: .int p2 :: .ref (gA G p1) :: .ref (gA G 16) :: rest) := by
  obtain ⟨cls9, nm9, ds9⟩ := y0
  subst hy
  exact g_callV (r := (RX1, TX1, 28)) (ci := 0) hw [.ref (gA G p1), .int p2, .int p3] (nA := 3) rfl d q429 q431 qs6 q98 q432 (by decide +kernel) rfl rfl hrest rfl (by omega : kf - 1 + 1 ≤ kf) hkd (mX1_may (kf := kf - 1) (by omega) G p1 p2 p3 M Q h) (fun _ _ _ q => q.elim) (fun v M1 h => by obtain ⟨r, rfl, h⟩ := h; exact kk r M1 h)
theorem sX1_196 {y0 : MethodName} {cc : ByteArray} {nL : Nat} {ret : Option FieldType} {hh : List (Nat × Nat × Nat × Nat)} {kf : Nat} {G : gG} {Qv : Option Value → gM → Prop} {E : String → Nat → gM → Prop} {w : gM → Nat → List (Nat × Value) → List Value → Prop} {M : gM} {pc : Nat} {lv : List (Nat × Value)} {rest : List Value} (hw : gX y0 cc nL ret hh kf G Qv E w) (hy : y0.cls = RX1) {c0 : Nat} {p1 : Int64} {Q : gM → Prop} (d : decode cc pc = .ok (.invokevirtual 196, 3)) (hrest : Nat.ble ((rest.map Value.category).sum) 8 = true) (hk : 1 + 1 ≤ kf) (hkd : gk M c0 = 3) (h : fX3_adds c0 p1 M Q) (kk : ∀ M1, Q M1 → w M1 (pc + 3) lv rest) : w M pc lv (.long p1 :: .ref (gA G c0) :: rest) := by
  obtain ⟨cls9, nm9, ds9⟩ := y0
  subst hy
  exact g_callV (r := (RX3, TX3, 2)) (ci := 2) hw [.long p1] (nA := 1) rfl d q433 q434 q435 q100 q436 (by decide +kernel) rfl rfl hrest rfl (by omega : kf - 1 + 1 ≤ kf) hkd (mX3_adds (kf := kf - 1) (by omega) G c0 p1 M Q h) (fun _ _ _ q => q.elim) (fun v M1 h => by obtain ⟨rfl, h⟩ := h; exact kk M1 h)
theorem sX1_200 {y0 : MethodName} {cc : ByteArray} {nL : Nat} {ret : Option FieldType} {hh : List (Nat × Nat × Nat × Nat)} {kf : Nat} {G : gG} {Qv : Option Value → gM → Prop} {E : String → Nat → gM → Prop} {w : gM → Nat → List (Nat × Value) → List Value → Prop} {M : gM} {pc : Nat} {lv : List (Nat × Value)} {rest : List Value} (hw : gX y0 cc nL ret hh kf G Qv E w) (hy : y0.cls = RX1)  {Q : Int32 → gM → Prop} (d : decode cc pc = .ok (.invokevirtual 200, 3)) (hrest : Nat.ble ((rest.map Value.category).sum) 8 = true) (hk : 1 + 1 ≤ kf) (hkd : gk M 16 = 1) (h : fX1_isThere M Q) (kk : ∀ r M1, Q r M1 → w M1 (pc + 3) lv (.int r :: rest)) : w M pc lv (.ref (gA G 16) :: rest) := by
  obtain ⟨cls9, nm9, ds9⟩ := y0
  subst hy
  exact g_callV (r := (RX1, TX1, 28)) (ci := 0) hw [] (nA := 0) rfl d q437 q439 qs7 q98 q440 (by decide +kernel) rfl rfl hrest rfl (by omega : kf - 1 + 1 ≤ kf) hkd (mX1_isThere (kf := kf - 1) (by omega) G M Q h) (fun _ _ _ q => q.elim) (fun v M1 h => by obtain ⟨r, rfl, h⟩ := h; exact kk r M1 h)
def fX1_ends_b98 (R7 : Int32 → gM → Prop) (l1_4 : Int32) (l2_5 : Int32) (l3_6 : Int32) (l4_47 : Int32) (M : gM) (Q : Int32 → gM → Prop) : Prop :=
  R7 (l4_47 + 1) M
theorem wX1_ends_b98 {kf : Nat} {G : gG} {w : gM → Nat → List (Nat × Value) → List Value → Prop} {Q : Int32 → gM → Prop} (hw : gX yX1_ends cX1_ends 7 (Option.some FieldType.boolean) [] kf G (gQi Q) gE0 w) (hkf : 4 ≤ kf) {R7 : Int32 → gM → Prop} {l1_4 : Int32} {l2_5 : Int32} {l3_6 : Int32} {l4_47 : Int32} {M : gM} (hR7 : ∀ (v0 : Int32) (M : gM), R7 v0 M → w M 7 [(0, .ref (gA G 16)), (1, .int l1_4), (2, .int l2_5), (3, .int l3_6), (4, .int v0)] []) (h : fX1_ends_b98 R7 l1_4 l2_5 l3_6 l4_47 M Q) : w M 98 [(0, .ref (gA G 16)), (1, .int l1_4), (2, .int l2_5), (3, .int l3_6), (4, .int l4_47)] [] := by
  unfold fX1_ends_b98 at h
  refine g_iinc hw (lv2 := [(0, .ref (gA G 16)), (1, .int l1_4), (2, .int l2_5), (3, .int l3_6), (4, .int (l4_47 + 1))]) 4 [1, 2, 3, 4, 0] dX1_ends_98 rfl (by decide) rfl rfl ?_
  refine g_goto (tgt := 7) hw dX1_ends_101 (by decide) ?_
  exact hR7 (l4_47 + 1) M h
def fX1_ends_b90 (R7 : Int32 → gM → Prop) (l1_4 : Int32) (l2_5 : Int32) (l3_6 : Int32) (l4_35 : Int32) (s0_36 : Nat) (s1_37 : Int32) (s3_38 : Nat) (s4_39 : Int32) (s5_40 : Int32) (M : gM) (Q : Int32 → gM → Prop) : Prop :=
  gk M 16 = 1 ∧ fX1_may s3_38 s4_39 s5_40 M (fun r43 M42 => gk M42 s0_36 = 3 ∧ fX3_adds s0_36 ((s1_37 - r43).toInt64) M42 (fun M45 => fX1_ends_b98 R7 l1_4 l2_5 l3_6 l4_35 M45 Q))
theorem wX1_ends_b90 {kf : Nat} {G : gG} {w : gM → Nat → List (Nat × Value) → List Value → Prop} {Q : Int32 → gM → Prop} (hw : gX yX1_ends cX1_ends 7 (Option.some FieldType.boolean) [] kf G (gQi Q) gE0 w) (hkf : 4 ≤ kf) {R7 : Int32 → gM → Prop} {l1_4 : Int32} {l2_5 : Int32} {l3_6 : Int32} {l4_35 : Int32} {s0_36 : Nat} {s1_37 : Int32} {s3_38 : Nat} {s4_39 : Int32} {s5_40 : Int32} {M : gM} (hR7 : ∀ (v0 : Int32) (M : gM), R7 v0 M → w M 7 [(0, .ref (gA G 16)), (1, .int l1_4), (2, .int l2_5), (3, .int l3_6), (4, .int v0)] []) (h : fX1_ends_b90 R7 l1_4 l2_5 l3_6 l4_35 s0_36 s1_37 s3_38 s4_39 s5_40 M Q) : w M 90 [(0, .ref (gA G 16)), (1, .int l1_4), (2, .int l2_5), (3, .int l3_6), (4, .int l4_35)] [.int s5_40, .int s4_39, .ref (gA G s3_38), .ref (gA G 16), .int s1_37, .ref (gA G s0_36)] := by
  unfold fX1_ends_b90 at h
  obtain ⟨hk41, h⟩ := h
  refine sX1_222 hw rfl dX1_ends_90 rfl (gK2 hkf) hk41 h (fun r43 M42 h => ?_)
  refine g_isub hw dX1_ends_93 ?_
  refine g_i2l hw dX1_ends_94 ?_
  obtain ⟨hk44, h⟩ := h
  refine sX1_196 hw rfl dX1_ends_95 rfl (gK2 hkf) hk44 h (fun M45 h => ?_)
  exact wX1_ends_b98 hw hkf hR7 h
def fX1_ends_b56 (R7 : Int32 → gM → Prop) (l1_4 : Int32) (l2_5 : Int32) (l3_6 : Int32) (l4_24 : Int32) (l5_25 : Nat) (s0_26 : Int32) (M : gM) (Q : Int32 → gM → Prop) : Prop :=
  gk M l5_25 = 4 ∧ gk M 16 = 1 ∧ fX1_of (gI M l5_25 0) M (fun r30 M29 => gk M29 16 = 1 ∧ fX1_may l5_25 l2_5 s0_26 M29 (fun r33 M32 => (if s0_26 = 0 then fX1_ends_b90 R7 l1_4 l2_5 l3_6 l4_24 r30 r33 l5_25 l1_4 1 M32 Q else fX1_ends_b90 R7 l1_4 l2_5 l3_6 l4_24 r30 r33 l5_25 l1_4 0 M32 Q)))
theorem wX1_ends_b56 {kf : Nat} {G : gG} {w : gM → Nat → List (Nat × Value) → List Value → Prop} {Q : Int32 → gM → Prop} (hw : gX yX1_ends cX1_ends 7 (Option.some FieldType.boolean) [] kf G (gQi Q) gE0 w) (hkf : 4 ≤ kf) {R7 : Int32 → gM → Prop} {l1_4 : Int32} {l2_5 : Int32} {l3_6 : Int32} {l4_24 : Int32} {l5_25 : Nat} {s0_26 : Int32} {M : gM} (hR7 : ∀ (v0 : Int32) (M : gM), R7 v0 M → w M 7 [(0, .ref (gA G 16)), (1, .int l1_4), (2, .int l2_5), (3, .int l3_6), (4, .int v0)] []) (h : fX1_ends_b56 R7 l1_4 l2_5 l3_6 l4_24 l5_25 s0_26 M Q) : w M 56 [(0, .ref (gA G 16)), (1, .int l1_4), (2, .int l2_5), (3, .int l3_6), (4, .int l4_24), (5, .ref (gA G l5_25))] [.int s0_26] := by
  unfold fX1_ends_b56 at h
  refine g_istore hw (lv2 := [(0, .ref (gA G 16)), (1, .int l1_4), (2, .int l2_5), (3, .int l3_6), (4, .int l4_24), (5, .ref (gA G l5_25)), (6, .int s0_26)]) [1, 2, 3, 4, 5, 6, 0] dX1_ends_56 rfl rfl ?_
  refine g_aload_n hw 0 dX1_ends_58 rfl ?_
  refine g_aload hw 5 dX1_ends_59 rfl ?_
  obtain ⟨hk27, h⟩ := h
  refine gfX1_124 hw rfl dX1_ends_61 hk27 ?_
  obtain ⟨hk28, h⟩ := h
  refine sX1_192 hw rfl dX1_ends_64 rfl (gK2 hkf) hk28 h (fun r30 M29 h => ?_)
  refine g_aload_n hw 0 dX1_ends_67 rfl ?_
  refine g_aload hw 5 dX1_ends_68 rfl ?_
  refine g_iload_n hw 2 dX1_ends_70 rfl ?_
  refine g_iload hw 6 dX1_ends_71 rfl ?_
  obtain ⟨hk31, h⟩ := h
  refine sX1_222 hw rfl dX1_ends_73 rfl (gK2 hkf) hk31 h (fun r33 M32 h => ?_)
  refine g_aload_n hw 0 dX1_ends_76 rfl ?_
  refine g_aload hw 5 dX1_ends_77 rfl ?_
  refine g_iload_n hw 1 dX1_ends_79 rfl ?_
  refine g_iload hw 6 dX1_ends_80 rfl ?_
  refine g_if_ne (tgt := 89) hw dX1_ends_82 (by decide) (fun hb34 => ?_) (fun hb34 => ?_)
  · have h := gF h hb34
    refine g_iconst (v := 0) hw dX1_ends_89 (by decide) ?_
    refine g_sub hw (lv2 := [(0, .ref (gA G 16)), (1, .int l1_4), (2, .int l2_5), (3, .int l3_6), (4, .int l4_24)]) [0, 1, 2, 3, 4] rfl ?_
    exact wX1_ends_b90 hw hkf hR7 h
  · have h := gT h hb34
    refine g_iconst (v := 1) hw dX1_ends_85 (by decide) ?_
    refine g_goto (tgt := 90) hw dX1_ends_86 (by decide) ?_
    refine g_sub hw (lv2 := [(0, .ref (gA G 16)), (1, .int l1_4), (2, .int l2_5), (3, .int l3_6), (4, .int l4_24)]) [0, 1, 2, 3, 4] rfl ?_
    exact wX1_ends_b90 hw hkf hR7 h
def fX1_ends_b48 (R7 : Int32 → gM → Prop) (l1_4 : Int32) (l2_5 : Int32) (l3_6 : Int32) (l4_19 : Int32) (l5_20 : Nat) (s0_21 : Int32) (s1_22 : Int32) (M : gM) (Q : Int32 → gM → Prop) : Prop :=
  (if s0_21 = s1_22 then fX1_ends_b56 R7 l1_4 l2_5 l3_6 l4_19 l5_20 1 M Q else fX1_ends_b56 R7 l1_4 l2_5 l3_6 l4_19 l5_20 0 M Q)
theorem wX1_ends_b48 {kf : Nat} {G : gG} {w : gM → Nat → List (Nat × Value) → List Value → Prop} {Q : Int32 → gM → Prop} (hw : gX yX1_ends cX1_ends 7 (Option.some FieldType.boolean) [] kf G (gQi Q) gE0 w) (hkf : 4 ≤ kf) {R7 : Int32 → gM → Prop} {l1_4 : Int32} {l2_5 : Int32} {l3_6 : Int32} {l4_19 : Int32} {l5_20 : Nat} {s0_21 : Int32} {s1_22 : Int32} {M : gM} (hR7 : ∀ (v0 : Int32) (M : gM), R7 v0 M → w M 7 [(0, .ref (gA G 16)), (1, .int l1_4), (2, .int l2_5), (3, .int l3_6), (4, .int v0)] []) (h : fX1_ends_b48 R7 l1_4 l2_5 l3_6 l4_19 l5_20 s0_21 s1_22 M Q) : w M 48 [(0, .ref (gA G 16)), (1, .int l1_4), (2, .int l2_5), (3, .int l3_6), (4, .int l4_19), (5, .ref (gA G l5_20))] [.int s1_22, .int s0_21] := by
  unfold fX1_ends_b48 at h
  refine g_icmp_ne (tgt := 55) hw dX1_ends_48 (by decide) (fun hb23 => ?_) (fun hb23 => ?_)
  · have h := gF h hb23
    refine g_iconst (v := 0) hw dX1_ends_55 (by decide) ?_
    exact wX1_ends_b56 hw hkf hR7 h
  · have h := gT h hb23
    refine g_iconst (v := 1) hw dX1_ends_51 (by decide) ?_
    refine g_goto (tgt := 56) hw dX1_ends_52 (by decide) ?_
    exact wX1_ends_b56 hw hkf hR7 h
def fX1_ends_L7s (R7 : Int32 → gM → Prop) (K104_7 : gM → Prop) (l1_4 : Int32) (l2_5 : Int32) (l3_6 : Int32) (l4_7 : Int32) (M : gM) (Q : Int32 → gM → Prop) : Prop :=
  (if 24 ≤ l4_7 then K104_7 M else gk M 16 = 1 ∧ gdr (gR M 16 0) (fun a10 => gk M a10 = 44 ∧ vp_in l4_7 (gl M a10) ∧ gdr (gR M a10 l4_7.toNatClampNeg) (fun a14 => gk M a14 = 4 ∧ (if (gI M a14 3) = 0 then fX1_ends_b98 R7 l1_4 l2_5 l3_6 l4_7 M Q else (if (gI M a14 0) = 0 then fX1_ends_b48 R7 l1_4 l2_5 l3_6 l4_7 a14 l3_6 1 M Q else fX1_ends_b48 R7 l1_4 l2_5 l3_6 l4_7 a14 l3_6 0 M Q)))))
def fX1_ends_L7 (K104_7 : gM → Prop) (l1_4 : Int32) (l2_5 : Int32) (l3_6 : Int32) (Q : Int32 → gM → Prop) : Nat → Int32 → gM → Prop
  | 0 => fun _ _ => False
  | n + 1 => fun l4_7 M => fX1_ends_L7s (fX1_ends_L7 K104_7 l1_4 l2_5 l3_6 Q n) K104_7 l1_4 l2_5 l3_6 l4_7 M Q
theorem wX1_ends_L7s {kf : Nat} {G : gG} {w : gM → Nat → List (Nat × Value) → List Value → Prop} {Q : Int32 → gM → Prop} (hw : gX yX1_ends cX1_ends 7 (Option.some FieldType.boolean) [] kf G (gQi Q) gE0 w) (hkf : 4 ≤ kf) {R7 : Int32 → gM → Prop} {K104_7 : gM → Prop} {l1_4 : Int32} {l2_5 : Int32} {l3_6 : Int32} {l4_7 : Int32} {M : gM} (hR7 : ∀ (v0 : Int32) (M : gM), R7 v0 M → w M 7 [(0, .ref (gA G 16)), (1, .int l1_4), (2, .int l2_5), (3, .int l3_6), (4, .int v0)] []) (hK104_7 : ∀  (M : gM), K104_7 M → w M 104 [(0, .ref (gA G 16))] []) (h : fX1_ends_L7s R7 K104_7 l1_4 l2_5 l3_6 l4_7 M Q) : w M 7 [(0, .ref (gA G 16)), (1, .int l1_4), (2, .int l2_5), (3, .int l3_6), (4, .int l4_7)] [] := by
  unfold fX1_ends_L7s at h
  refine g_iload hw 4 dX1_ends_7 rfl ?_
  refine g_bipush (v := 24) hw dX1_ends_9 (by decide) ?_
  refine g_icmp_ge (tgt := 104) hw dX1_ends_11 (by decide) (fun hb8 => ?_) (fun hb8 => ?_)
  · have h := gT h hb8
    refine g_sub hw (lv2 := [(0, .ref (gA G 16))]) [0] rfl ?_
    exact hK104_7 M h
  · have h := gF h hb8
    refine g_aload_n hw 0 dX1_ends_14 rfl ?_
    obtain ⟨hk9, h⟩ := h
    obtain ⟨a10, e11, h⟩ := h
    refine gfX1_21 (q := some a10) hw rfl dX1_ends_15 hk9 e11 ?_
    refine g_iload hw 4 dX1_ends_18 rfl ?_
    obtain ⟨hk12, h⟩ := h
    obtain ⟨hi13, h⟩ := h
    obtain ⟨a14, e15, h⟩ := h
    refine g_aaldS (n := l4_7.toNatClampNeg) hw 4 dX1_ends_20 ⟨rfl, rfl⟩ hk12 hi13 rfl e15 ?_
    refine g_astore hw (lv2 := [(0, .ref (gA G 16)), (1, .int l1_4), (2, .int l2_5), (3, .int l3_6), (4, .int l4_7), (5, .ref (gA G a14))]) [1, 2, 3, 4, 5, 0] dX1_ends_21 rfl rfl ?_
    refine g_aload hw 5 dX1_ends_23 rfl ?_
    obtain ⟨hk16, h⟩ := h
    refine gfX1_116 hw rfl dX1_ends_25 hk16 ?_
    refine g_if_ne (tgt := 34) hw dX1_ends_28 (by decide) (fun hb17 => ?_) (fun hb17 => ?_)
    · have h := gF h hb17
      refine g_iload_n hw 3 dX1_ends_34 rfl ?_
      refine g_aload hw 5 dX1_ends_35 rfl ?_
      refine gfX1_124 hw rfl dX1_ends_37 hk16 ?_
      refine g_if_ne (tgt := 47) hw dX1_ends_40 (by decide) (fun hb18 => ?_) (fun hb18 => ?_)
      · have h := gF h hb18
        refine g_iconst (v := 0) hw dX1_ends_47 (by decide) ?_
        exact wX1_ends_b48 hw hkf hR7 h
      · have h := gT h hb18
        refine g_iconst (v := 1) hw dX1_ends_43 (by decide) ?_
        refine g_goto (tgt := 48) hw dX1_ends_44 (by decide) ?_
        exact wX1_ends_b48 hw hkf hR7 h
    · have h := gT h hb17
      refine g_goto (tgt := 98) hw dX1_ends_31 (by decide) ?_
      refine g_sub hw (lv2 := [(0, .ref (gA G 16)), (1, .int l1_4), (2, .int l2_5), (3, .int l3_6), (4, .int l4_7)]) [0, 1, 2, 3, 4] rfl ?_
      exact wX1_ends_b98 hw hkf hR7 h
theorem wX1_ends_L7 {kf : Nat} {G : gG} {w : gM → Nat → List (Nat × Value) → List Value → Prop} {Q : Int32 → gM → Prop} (hw : gX yX1_ends cX1_ends 7 (Option.some FieldType.boolean) [] kf G (gQi Q) gE0 w) (hkf : 4 ≤ kf) {K104_7 : gM → Prop} {l1_4 : Int32} {l2_5 : Int32} {l3_6 : Int32} (hK104_7 : ∀  (M : gM), K104_7 M → w M 104 [(0, .ref (gA G 16))] []) : ∀ (n : Nat) (l4_7 : Int32) (M : gM), fX1_ends_L7 K104_7 l1_4 l2_5 l3_6 Q n l4_7 M → w M 7 [(0, .ref (gA G 16)), (1, .int l1_4), (2, .int l2_5), (3, .int l3_6), (4, .int l4_7)] [] := by
  intro n
  induction n with
  | zero => intro l4_7 M h; exact h.elim
  | succ n ih => intro l4_7 M h; exact wX1_ends_L7s hw hkf ih hK104_7 h
def fX1_ends (p1 : Int32) (p2 : Int32) (p3 : Int32) (M : gM) (Q : Int32 → gM → Prop) : Prop :=
  gk M 16 = 1 ∧ fX1_begins M (fun M2 => ∃ n, fX1_ends_L7 (fun M48 => gk M48 16 = 1 ∧ fX1_isThere M48 (fun r51 M50 => (r51 = 0 ∨ r51 = 1) ∧ Q r51 M50)) p1 p2 p3 Q n 0 M2)
theorem mX1_ends {kf : Nat} (hkf : 4 ≤ kf) (G : gG) (p1 : Int32) (p2 : Int32) (p3 : Int32) (M : gM) (Q : Int32 → gM → Prop) (h : fX1_ends p1 p2 p3 M Q) : gMet yX1_ends cX1_ends 7 (Option.some FieldType.boolean) kf G M [.ref (gA G 16), .int p1, .int p2, .int p3] (gQi Q) gE0 := by
  refine g_intro (lv := [(0, .ref (gA G 16)), (1, .int p1), (2, .int p2), (3, .int p3)]) (by decide) rfl rfl (fun w hw => ?_)
  unfold fX1_ends at h
  refine g_aload_n hw 0 dX1_ends_0 rfl ?_
  obtain ⟨hk1, h⟩ := h
  refine sX1_189 hw rfl dX1_ends_1 rfl (gK2 hkf) hk1 h (fun M2 h => ?_)
  refine g_iconst (v := 0) hw dX1_ends_4 (by decide) ?_
  refine g_istore hw (lv2 := [(0, .ref (gA G 16)), (1, .int p1), (2, .int p2), (3, .int p3), (4, .int 0)]) [1, 2, 3, 4, 0] dX1_ends_5 rfl rfl ?_
  obtain ⟨n9, h⟩ := h
  refine wX1_ends_L7 hw hkf (fun M48 h => ?_) n9 0 M2 h
  refine g_aload_n hw 0 dX1_ends_104 rfl ?_
  obtain ⟨hk49, h⟩ := h
  refine sX1_200 hw rfl dX1_ends_105 rfl (gK2 hkf) hk49 h (fun r51 M50 h => ?_)
  obtain ⟨hc52, h⟩ := h
  exact g_iret hw dX1_ends_108 (gBool hc52) ⟨_, rfl, h⟩
theorem gfX1_185 {y0 : MethodName} {cc : ByteArray} {nL : Nat} {ret : Option FieldType} {hh : List (Nat × Nat × Nat × Nat)} {kf : Nat} {G : gG} {Qv : Option Value → gM → Prop} {E : String → Nat → gM → Prop} {w : gM → Nat → List (Nat × Value) → List Value → Prop} {M : gM} {pc : Nat} {lv : List (Nat × Value)} {rest : List Value} (hw : gX y0 cc nL ret hh kf G Qv E w) (hy : y0.cls = RX1) {c : Nat} (d : decode cc pc = .ok (.getfield 185, 3)) (hk : gk M c = 3) (kk : w M (pc + 3) lv (.long (gL M c 0) :: rest)) : w M pc lv (.ref (gA G c) :: rest) := by
  obtain ⟨cls9, nm9, ds9⟩ := y0
  subst hy
  exact g_getC (C := RX3) (T := TX3) (N := 2) (ci := 2) hw in_X3 rfl 0 (by decide) (Or.inr ⟨_, q179⟩) rfl d hk kk
def fX1_above  (M : gM) (Q : Int64 → gM → Prop) : Prop :=
  gk M 16 = 1 ∧ gdr (gR M 16 10) (fun a2 => gk M a2 = 3 ∧ gdr (gR M 16 11) (fun a5 => gk M a5 = 3 ∧ gdr (gR M 16 11) (fun a8 => gk M a8 = 3 ∧ gdr (gR M 16 10) (fun a11 => gk M a11 = 3 ∧ Q (((gL M a2 0) * ((gI M a5 1).toInt64)) - ((gL M a8 0) * ((gI M a11 1).toInt64))) M))))
theorem mX1_above {kf : Nat} (hkf : 1 ≤ kf) (G : gG)  (M : gM) (Q : Int64 → gM → Prop) (h : fX1_above M Q) : gMet yX1_above cX1_above 1 (Option.some FieldType.long) kf G M [.ref (gA G 16)] (gQl Q) gE0 := by
  refine g_intro (lv := [(0, .ref (gA G 16))]) (by decide) rfl rfl (fun w hw => ?_)
  unfold fX1_above at h
  refine g_aload_n hw 0 dX1_above_0 rfl ?_
  obtain ⟨hk1, h⟩ := h
  obtain ⟨a2, e3, h⟩ := h
  refine gfX1_66 (q := some a2) hw rfl dX1_above_1 hk1 e3 ?_
  obtain ⟨hk4, h⟩ := h
  refine gfX1_185 hw rfl dX1_above_4 hk4 ?_
  refine g_aload_n hw 0 dX1_above_7 rfl ?_
  obtain ⟨a5, e6, h⟩ := h
  refine gfX1_70 (q := some a5) hw rfl dX1_above_8 hk1 e6 ?_
  obtain ⟨hk7, h⟩ := h
  refine gfX1_182 hw rfl dX1_above_11 hk7 ?_
  refine g_i2l hw dX1_above_14 ?_
  refine g_lmul hw dX1_above_15 ?_
  refine g_aload_n hw 0 dX1_above_16 rfl ?_
  obtain ⟨a8, e9, h⟩ := h
  refine gfX1_70 (q := some a8) hw rfl dX1_above_17 hk1 e9 ?_
  obtain ⟨hk10, h⟩ := h
  refine gfX1_185 hw rfl dX1_above_20 hk10 ?_
  refine g_aload_n hw 0 dX1_above_23 rfl ?_
  obtain ⟨a11, e12, h⟩ := h
  refine gfX1_66 (q := some a11) hw rfl dX1_above_24 hk1 e12 ?_
  obtain ⟨hk13, h⟩ := h
  refine gfX1_182 hw rfl dX1_above_27 hk13 ?_
  refine g_i2l hw dX1_above_30 ?_
  refine g_lmul hw dX1_above_31 ?_
  refine g_lsub hw dX1_above_32 ?_
  exact g_lret hw dX1_above_33 ⟨_, rfl, h⟩
theorem sX1_164 {y0 : MethodName} {cc : ByteArray} {nL : Nat} {ret : Option FieldType} {hh : List (Nat × Nat × Nat × Nat)} {kf : Nat} {G : gG} {Qv : Option Value → gM → Prop} {E : String → Nat → gM → Prop} {w : gM → Nat → List (Nat × Value) → List Value → Prop} {M : gM} {pc : Nat} {lv : List (Nat × Value)} {rest : List Value} (hw : gX y0 cc nL ret hh kf G Qv E w) (hy : y0.cls = RX1) {p1 : Int32} {p2 : Int32} {Q : Int32 → gM → Prop} (d : decode cc pc = .ok (.invokestatic 164, 3)) (hrest : Nat.ble ((rest.map Value.category).sum) 8 = true) (hk : 3 + 1 ≤ kf) (h : fX1_areMonths p1 p2 M Q) (kk : ∀ r M1, Q r M1 → w M1 (pc + 3) lv (.int r :: rest)) : w M pc lv (.int p2 :: .int p1 :: rest) := by
  obtain ⟨cls9, nm9, ds9⟩ := y0
  subst hy
  exact g_callS hw [.int p1, .int p2] (nA := 2) rfl d q410 q411 q98 q412 (by decide +kernel) rfl hrest rfl (by omega : kf - 1 + 1 ≤ kf) (mX1_areMonths (kf := kf - 1) (by omega) G p1 p2 M Q h) (fun _ _ _ q => q.elim) (fun v M1 h => by obtain ⟨r, rfl, h⟩ := h; exact kk r M1 h)
theorem sX1_226 {y0 : MethodName} {cc : ByteArray} {nL : Nat} {ret : Option FieldType} {hh : List (Nat × Nat × Nat × Nat)} {kf : Nat} {G : gG} {Qv : Option Value → gM → Prop} {E : String → Nat → gM → Prop} {w : gM → Nat → List (Nat × Value) → List Value → Prop} {M : gM} {pc : Nat} {lv : List (Nat × Value)} {rest : List Value} (hw : gX y0 cc nL ret hh kf G Qv E w) (hy : y0.cls = RX1) {p1 : Int32} {p2 : Int32} {p3 : Int32} {Q : Int32 → gM → Prop} (d : decode cc pc = .ok (.invokevirtual 226, 3)) (hrest : Nat.ble ((rest.map Value.category).sum) 8 = true) (hk : 4 + 1 ≤ kf) (hkd : gk M 16 = 1) (h : fX1_ends p1 p2 p3 M Q) (kk : ∀ r M1, Q r M1 → w M1 (pc + 3) lv (.int r :: rest)) : w M pc lv (.int p3 :: .int p2 :: .int p1 :: .ref (gA G 16) :: rest) := by
  obtain ⟨cls9, nm9, ds9⟩ := y0
  subst hy
  exact g_callV (r := (RX1, TX1, 28)) (ci := 0) hw [.int p1, .int p2, .int p3] (nA := 3) rfl d q413 q415 qs3 q98 q416 (by decide +kernel) rfl rfl hrest rfl (by omega : kf - 1 + 1 ≤ kf) hkd (mX1_ends (kf := kf - 1) (by omega) G p1 p2 p3 M Q h) (fun _ _ _ q => q.elim) (fun v M1 h => by obtain ⟨r, rfl, h⟩ := h; exact kk r M1 h)
theorem sX1_211 {y0 : MethodName} {cc : ByteArray} {nL : Nat} {ret : Option FieldType} {hh : List (Nat × Nat × Nat × Nat)} {kf : Nat} {G : gG} {Qv : Option Value → gM → Prop} {E : String → Nat → gM → Prop} {w : gM → Nat → List (Nat × Value) → List Value → Prop} {M : gM} {pc : Nat} {lv : List (Nat × Value)} {rest : List Value} (hw : gX y0 cc nL ret hh kf G Qv E w) (hy : y0.cls = RX1)  {Q : Int64 → gM → Prop} (d : decode cc pc = .ok (.invokevirtual 211, 3)) (hrest : Nat.ble ((rest.map Value.category).sum) 8 = true) (hk : 1 + 1 ≤ kf) (hkd : gk M 16 = 1) (h : fX1_above M Q) (kk : ∀ r M1, Q r M1 → w M1 (pc + 3) lv (.long r :: rest)) : w M pc lv (.ref (gA G 16) :: rest) := by
  obtain ⟨cls9, nm9, ds9⟩ := y0
  subst hy
  exact g_callV (r := (RX1, TX1, 28)) (ci := 0) hw [] (nA := 0) rfl d q441 q443 qs8 q98 q444 (by decide +kernel) rfl rfl hrest rfl (by omega : kf - 1 + 1 ≤ kf) hkd (mX1_above (kf := kf - 1) (by omega) G M Q h) (fun _ _ _ q => q.elim) (fun v M1 h => by obtain ⟨r, rfl, h⟩ := h; exact kk r M1 h)
def fX1_swings_b60  (M : gM) (Q : Int32 → gM → Prop) : Prop :=
  Q 0 M
theorem wX1_swings_b60 {kf : Nat} {G : gG} {w : gM → Nat → List (Nat × Value) → List Value → Prop} {Q : Int32 → gM → Prop} (hw : gX yX1_swings cX1_swings 4 (Option.some FieldType.int) [] kf G (gQi Q) gE0 w) (hkf : 5 ≤ kf)   {M : gM}  (h : fX1_swings_b60 M Q) : w M 60 [] [] := by
  unfold fX1_swings_b60 at h
  refine g_iconst (v := 0) hw dX1_swings_60 (by decide) ?_
  exact g_iret hw dX1_swings_61 rfl ⟨_, rfl, h⟩
def fX1_swings_b34 (l1_12 : Int32) (l2_13 : Int32) (s0_14 : Int32) (M : gM) (Q : Int32 → gM → Prop) : Prop :=
  gk M 16 = 1 ∧ fX1_ends l1_12 l2_13 1 M (fun r17 M16 => (if s0_14 = 0 then fX1_swings_b60 M16 Q else gk M16 16 = 1 ∧ fX1_above M16 (fun r21 M20 => (if (lg_cmp r21 0) < 0 then fX1_swings_b60 M20 Q else Q 1 M20))))
theorem wX1_swings_b34 {kf : Nat} {G : gG} {w : gM → Nat → List (Nat × Value) → List Value → Prop} {Q : Int32 → gM → Prop} (hw : gX yX1_swings cX1_swings 4 (Option.some FieldType.int) [] kf G (gQi Q) gE0 w) (hkf : 5 ≤ kf)  {l1_12 : Int32} {l2_13 : Int32} {s0_14 : Int32} {M : gM}  (h : fX1_swings_b34 l1_12 l2_13 s0_14 M Q) : w M 34 [(0, .ref (gA G 16)), (1, .int l1_12), (2, .int l2_13)] [.int s0_14] := by
  unfold fX1_swings_b34 at h
  refine g_istore_n hw (lv2 := [(0, .ref (gA G 16)), (1, .int l1_12), (2, .int l2_13), (3, .int s0_14)]) [1, 2, 3, 0] dX1_swings_34 rfl rfl ?_
  refine g_aload_n hw 0 dX1_swings_35 rfl ?_
  refine g_iload_n hw 1 dX1_swings_36 rfl ?_
  refine g_iload_n hw 2 dX1_swings_37 rfl ?_
  refine g_iconst (v := 1) hw dX1_swings_38 (by decide) ?_
  obtain ⟨hk15, h⟩ := h
  refine sX1_226 hw rfl dX1_swings_39 rfl (gK2 hkf) hk15 h (fun r17 M16 h => ?_)
  refine g_pop hw dX1_swings_42 rfl ?_
  refine g_iload_n hw 3 dX1_swings_43 rfl ?_
  refine g_if_eq (tgt := 60) hw dX1_swings_44 (by decide) (fun hb18 => ?_) (fun hb18 => ?_)
  · have h := gT h hb18
    refine g_sub hw (lv2 := []) [] rfl ?_
    exact wX1_swings_b60 hw hkf h
  · have h := gF h hb18
    refine g_aload_n hw 0 dX1_swings_47 rfl ?_
    obtain ⟨hk19, h⟩ := h
    refine sX1_211 hw rfl dX1_swings_48 rfl (gK2 hkf) hk19 h (fun r21 M20 h => ?_)
    refine g_lconst (v := 0) hw dX1_swings_51 (by decide) ?_
    refine g_lcmp hw dX1_swings_52 ?_
    refine g_if_lt (tgt := 60) hw dX1_swings_53 (by decide) (fun hb22 => ?_) (fun hb22 => ?_)
    · have h := gT h hb22
      refine g_sub hw (lv2 := []) [] rfl ?_
      exact wX1_swings_b60 hw hkf h
    · have h := gF h hb22
      refine g_iconst (v := 1) hw dX1_swings_56 (by decide) ?_
      refine g_goto (tgt := 61) hw dX1_swings_57 (by decide) ?_
      exact g_iret hw dX1_swings_61 rfl ⟨_, rfl, h⟩
def fX1_swings (p1 : Int32) (p2 : Int32) (M : gM) (Q : Int32 → gM → Prop) : Prop :=
  fX1_areMonths p1 p2 M (fun r2 M1 => (if r2 = 0 then Q (-1) M1 else gk M1 16 = 1 ∧ fX1_ends p1 p2 0 M1 (fun r6 M5 => (if r6 = 0 then Q (-1) M5 else gk M5 16 = 1 ∧ fX1_above M5 (fun r10 M9 => (if 0 < (lg_cmp r10 0) then fX1_swings_b34 p1 p2 0 M9 Q else fX1_swings_b34 p1 p2 1 M9 Q))))))
theorem mX1_swings {kf : Nat} (hkf : 5 ≤ kf) (G : gG) (p1 : Int32) (p2 : Int32) (M : gM) (Q : Int32 → gM → Prop) (h : fX1_swings p1 p2 M Q) : gMet yX1_swings cX1_swings 4 (Option.some FieldType.int) kf G M [.ref (gA G 16), .int p1, .int p2] (gQi Q) gE0 := by
  refine g_intro (lv := [(0, .ref (gA G 16)), (1, .int p1), (2, .int p2)]) (by decide) rfl rfl (fun w hw => ?_)
  unfold fX1_swings at h
  refine g_iload_n hw 1 dX1_swings_0 rfl ?_
  refine g_iload_n hw 2 dX1_swings_1 rfl ?_
  refine sX1_164 hw rfl dX1_swings_2 rfl (gK2 hkf) h (fun r2 M1 h => ?_)
  refine g_if_eq (tgt := 18) hw dX1_swings_5 (by decide) (fun hb3 => ?_) (fun hb3 => ?_)
  · have h := gT h hb3
    refine g_iconst (v := (-1)) hw dX1_swings_18 (by decide) ?_
    exact g_iret hw dX1_swings_19 rfl ⟨_, rfl, h⟩
  · have h := gF h hb3
    refine g_aload_n hw 0 dX1_swings_8 rfl ?_
    refine g_iload_n hw 1 dX1_swings_9 rfl ?_
    refine g_iload_n hw 2 dX1_swings_10 rfl ?_
    refine g_iconst (v := 0) hw dX1_swings_11 (by decide) ?_
    obtain ⟨hk4, h⟩ := h
    refine sX1_226 hw rfl dX1_swings_12 rfl (gK2 hkf) hk4 h (fun r6 M5 h => ?_)
    refine g_if_ne (tgt := 20) hw dX1_swings_15 (by decide) (fun hb7 => ?_) (fun hb7 => ?_)
    · have h := gF h hb7
      refine g_aload_n hw 0 dX1_swings_20 rfl ?_
      obtain ⟨hk8, h⟩ := h
      refine sX1_211 hw rfl dX1_swings_21 rfl (gK2 hkf) hk8 h (fun r10 M9 h => ?_)
      refine g_lconst (v := 0) hw dX1_swings_24 (by decide) ?_
      refine g_lcmp hw dX1_swings_25 ?_
      refine g_if_gt (tgt := 33) hw dX1_swings_26 (by decide) (fun hb11 => ?_) (fun hb11 => ?_)
      · have h := gT h hb11
        refine g_iconst (v := 0) hw dX1_swings_33 (by decide) ?_
        exact wX1_swings_b34 hw hkf h
      · have h := gF h hb11
        refine g_iconst (v := 1) hw dX1_swings_29 (by decide) ?_
        refine g_goto (tgt := 34) hw dX1_swings_30 (by decide) ?_
        exact wX1_swings_b34 hw hkf h
    · have h := gT h hb7
      refine g_iconst (v := (-1)) hw dX1_swings_18 (by decide) ?_
      exact g_iret hw dX1_swings_19 rfl ⟨_, rfl, h⟩
def fX1_next_b162 (R28 : Int32 → Int32 → Int32 → gM → Prop) (l1_8 : Int32) (l2_9 : Int32) (l3_50 : Int32) (l4_51 : Int32) (l5_52 : Int32) (M : gM) (Q : Int32 → gM → Prop) : Prop :=
  R28 l3_50 l4_51 (l5_52 + 1) M
theorem wX1_next_b162 {kf : Nat} {G : gG} {w : gM → Nat → List (Nat × Value) → List Value → Prop} {Q : Int32 → gM → Prop} (hw : gX yX1_next cX1_next 8 (Option.some FieldType.int) [] kf G (gQi Q) gE0 w) (hkf : 5 ≤ kf) {R28 : Int32 → Int32 → Int32 → gM → Prop} {l1_8 : Int32} {l2_9 : Int32} {l3_50 : Int32} {l4_51 : Int32} {l5_52 : Int32} {M : gM} (hR28 : ∀ (v0 : Int32) (v1 : Int32) (v2 : Int32) (M : gM), R28 v0 v1 v2 M → w M 28 [(0, .ref (gA G 16)), (1, .int l1_8), (2, .int l2_9), (3, .int v0), (4, .int v1), (5, .int v2)] []) (h : fX1_next_b162 R28 l1_8 l2_9 l3_50 l4_51 l5_52 M Q) : w M 162 [(0, .ref (gA G 16)), (1, .int l1_8), (2, .int l2_9), (3, .int l3_50), (4, .int l4_51), (5, .int l5_52)] [] := by
  unfold fX1_next_b162 at h
  refine g_iinc hw (lv2 := [(0, .ref (gA G 16)), (1, .int l1_8), (2, .int l2_9), (3, .int l3_50), (4, .int l4_51), (5, .int (l5_52 + 1))]) 5 [1, 2, 3, 4, 5, 0] dX1_next_162 rfl (by decide) rfl rfl ?_
  refine g_goto (tgt := 28) hw dX1_next_165 (by decide) ?_
  exact hR28 l3_50 l4_51 (l5_52 + 1) M h
def fX1_next_b155 (R28 : Int32 → Int32 → Int32 → gM → Prop) (l1_8 : Int32) (l2_9 : Int32) (l5_48 : Int32) (l7_49 : Int32) (M : gM) (Q : Int32 → gM → Prop) : Prop :=
  fX1_next_b162 R28 l1_8 l2_9 l5_48 l7_49 l5_48 M Q
theorem wX1_next_b155 {kf : Nat} {G : gG} {w : gM → Nat → List (Nat × Value) → List Value → Prop} {Q : Int32 → gM → Prop} (hw : gX yX1_next cX1_next 8 (Option.some FieldType.int) [] kf G (gQi Q) gE0 w) (hkf : 5 ≤ kf) {R28 : Int32 → Int32 → Int32 → gM → Prop} {l1_8 : Int32} {l2_9 : Int32} {l5_48 : Int32} {l7_49 : Int32} {M : gM} (hR28 : ∀ (v0 : Int32) (v1 : Int32) (v2 : Int32) (M : gM), R28 v0 v1 v2 M → w M 28 [(0, .ref (gA G 16)), (1, .int l1_8), (2, .int l2_9), (3, .int v0), (4, .int v1), (5, .int v2)] []) (h : fX1_next_b155 R28 l1_8 l2_9 l5_48 l7_49 M Q) : w M 155 [(0, .ref (gA G 16)), (1, .int l1_8), (2, .int l2_9), (5, .int l5_48), (7, .int l7_49)] [] := by
  unfold fX1_next_b155 at h
  refine g_iload hw 3 dX1_next_155 rfl ?_
  refine g_istore_n hw (lv2 := [(0, .ref (gA G 16)), (1, .int l1_8), (2, .int l2_9), (3, .int l5_48), (5, .int l5_48), (7, .int l7_49)]) [1, 2, 3, 0, 4, 5] dX1_next_157 rfl rfl ?_
  refine g_iload hw 5 dX1_next_158 rfl ?_
  refine g_istore hw (lv2 := [(0, .ref (gA G 16)), (1, .int l1_8), (2, .int l2_9), (3, .int l5_48), (4, .int l7_49), (5, .int l5_48)]) [1, 2, 3, 4, 0, 5] dX1_next_160 rfl rfl ?_
  exact wX1_next_b162 hw hkf hR28 h
def fX1_next_b85 (R28 : Int32 → Int32 → Int32 → gM → Prop) (l1_8 : Int32) (l2_9 : Int32) (l3_41 : Int32) (l4_42 : Int32) (l5_43 : Int32) (l6_44 : Nat) (s0_45 : Int32) (M : gM) (Q : Int32 → gM → Prop) : Prop :=
  (if s0_45 = 0 then fX1_next_b162 R28 l1_8 l2_9 l3_41 l4_42 l5_43 M Q else (if l3_41 < 0 then fX1_next_b155 R28 l1_8 l2_9 l5_43 s0_45 M Q else gk M l6_44 = 4 ∧ gk M 16 = 1 ∧ gdr (gR M 16 0) (fun a55 => gk M a55 = 44 ∧ vp_in l3_41 (gl M a55) ∧ gdr (gR M a55 l3_41.toNatClampNeg) (fun a59 => gk M a59 = 4 ∧ fX1_of (gI M a59 0) M (fun r63 M62 => gk M62 r63 = 3 ∧ gk M62 16 = 1 ∧ gdr (gR M62 16 0) (fun a66 => gk M62 a66 = 44 ∧ vp_in l3_41 (gl M62 a66) ∧ gdr (gR M62 a66 l3_41.toNatClampNeg) (fun a70 => gk M62 a70 = 4 ∧ gk M62 l6_44 = 4 ∧ fX1_of (gI M62 l6_44 0) M62 (fun r75 M74 => gk M74 r75 = 3 ∧ (if (((gI M62 a70 2) * l4_42) * (gI M74 r75 1)) < (((gI M l6_44 2) * s0_45) * (gI M62 r63 1)) then fX1_next_b155 R28 l1_8 l2_9 l5_43 s0_45 M74 Q else fX1_next_b162 R28 l1_8 l2_9 l3_41 l4_42 l5_43 M74 Q)))))))))
theorem wX1_next_b85 {kf : Nat} {G : gG} {w : gM → Nat → List (Nat × Value) → List Value → Prop} {Q : Int32 → gM → Prop} (hw : gX yX1_next cX1_next 8 (Option.some FieldType.int) [] kf G (gQi Q) gE0 w) (hkf : 5 ≤ kf) {R28 : Int32 → Int32 → Int32 → gM → Prop} {l1_8 : Int32} {l2_9 : Int32} {l3_41 : Int32} {l4_42 : Int32} {l5_43 : Int32} {l6_44 : Nat} {s0_45 : Int32} {M : gM} (hR28 : ∀ (v0 : Int32) (v1 : Int32) (v2 : Int32) (M : gM), R28 v0 v1 v2 M → w M 28 [(0, .ref (gA G 16)), (1, .int l1_8), (2, .int l2_9), (3, .int v0), (4, .int v1), (5, .int v2)] []) (h : fX1_next_b85 R28 l1_8 l2_9 l3_41 l4_42 l5_43 l6_44 s0_45 M Q) : w M 85 [(0, .ref (gA G 16)), (1, .int l1_8), (2, .int l2_9), (3, .int l3_41), (4, .int l4_42), (5, .int l5_43), (6, .ref (gA G l6_44))] [.int s0_45] := by
  unfold fX1_next_b85 at h
  refine g_istore hw (lv2 := [(0, .ref (gA G 16)), (1, .int l1_8), (2, .int l2_9), (3, .int l3_41), (4, .int l4_42), (5, .int l5_43), (6, .ref (gA G l6_44)), (7, .int s0_45)]) [1, 2, 3, 4, 5, 6, 7, 0] dX1_next_85 rfl rfl ?_
  refine g_iload hw 7 dX1_next_87 rfl ?_
  refine g_if_ne (tgt := 95) hw dX1_next_89 (by decide) (fun hb46 => ?_) (fun hb46 => ?_)
  · have h := gF h hb46
    refine g_iload_n hw 3 dX1_next_95 rfl ?_
    refine g_if_lt (tgt := 155) hw dX1_next_96 (by decide) (fun hb47 => ?_) (fun hb47 => ?_)
    · have h := gT h hb47
      refine g_sub hw (lv2 := [(0, .ref (gA G 16)), (1, .int l1_8), (2, .int l2_9), (5, .int l5_43), (7, .int s0_45)]) [0, 1, 2, 5, 7] rfl ?_
      exact wX1_next_b155 hw hkf hR28 h
    · have h := gF h hb47
      refine g_aload hw 6 dX1_next_99 rfl ?_
      obtain ⟨hk53, h⟩ := h
      refine gfX1_130 hw rfl dX1_next_101 hk53 ?_
      refine g_iload hw 7 dX1_next_104 rfl ?_
      refine g_imul hw dX1_next_106 ?_
      refine g_aload_n hw 0 dX1_next_107 rfl ?_
      refine g_aload_n hw 0 dX1_next_108 rfl ?_
      obtain ⟨hk54, h⟩ := h
      obtain ⟨a55, e56, h⟩ := h
      refine gfX1_21 (q := some a55) hw rfl dX1_next_109 hk54 e56 ?_
      refine g_iload_n hw 3 dX1_next_112 rfl ?_
      obtain ⟨hk57, h⟩ := h
      obtain ⟨hi58, h⟩ := h
      obtain ⟨a59, e60, h⟩ := h
      refine g_aaldS (n := l3_41.toNatClampNeg) hw 4 dX1_next_113 ⟨rfl, rfl⟩ hk57 hi58 rfl e60 ?_
      obtain ⟨hk61, h⟩ := h
      refine gfX1_124 hw rfl dX1_next_114 hk61 ?_
      refine sX1_192 hw rfl dX1_next_117 rfl (gK2 hkf) hk54 h (fun r63 M62 h => ?_)
      obtain ⟨hk64, h⟩ := h
      refine gfX1_182 hw rfl dX1_next_120 hk64 ?_
      refine g_imul hw dX1_next_123 ?_
      refine g_aload_n hw 0 dX1_next_124 rfl ?_
      obtain ⟨hk65, h⟩ := h
      obtain ⟨a66, e67, h⟩ := h
      refine gfX1_21 (q := some a66) hw rfl dX1_next_125 hk65 e67 ?_
      refine g_iload_n hw 3 dX1_next_128 rfl ?_
      obtain ⟨hk68, h⟩ := h
      obtain ⟨hi69, h⟩ := h
      obtain ⟨a70, e71, h⟩ := h
      refine g_aaldS (n := l3_41.toNatClampNeg) hw 4 dX1_next_129 ⟨rfl, rfl⟩ hk68 hi69 rfl e71 ?_
      obtain ⟨hk72, h⟩ := h
      refine gfX1_130 hw rfl dX1_next_130 hk72 ?_
      refine g_iload hw 4 dX1_next_133 rfl ?_
      refine g_imul hw dX1_next_135 ?_
      refine g_aload_n hw 0 dX1_next_136 rfl ?_
      refine g_aload hw 6 dX1_next_137 rfl ?_
      obtain ⟨hk73, h⟩ := h
      refine gfX1_124 hw rfl dX1_next_139 hk73 ?_
      refine sX1_192 hw rfl dX1_next_142 rfl (gK2 hkf) hk65 h (fun r75 M74 h => ?_)
      obtain ⟨hk76, h⟩ := h
      refine gfX1_182 hw rfl dX1_next_145 hk76 ?_
      refine g_imul hw dX1_next_148 ?_
      refine g_icmp_gt (tgt := 155) hw dX1_next_149 (by decide) (fun hb77 => ?_) (fun hb77 => ?_)
      · have h := gT h hb77
        refine g_sub hw (lv2 := [(0, .ref (gA G 16)), (1, .int l1_8), (2, .int l2_9), (5, .int l5_43), (7, .int s0_45)]) [0, 1, 2, 5, 7] rfl ?_
        exact wX1_next_b155 hw hkf hR28 h
      · have h := gF h hb77
        refine g_goto (tgt := 162) hw dX1_next_152 (by decide) ?_
        refine g_sub hw (lv2 := [(0, .ref (gA G 16)), (1, .int l1_8), (2, .int l2_9), (3, .int l3_41), (4, .int l4_42), (5, .int l5_43)]) [0, 1, 2, 3, 4, 5] rfl ?_
        exact wX1_next_b162 hw hkf hR28 h
  · have h := gT h hb46
    refine g_goto (tgt := 162) hw dX1_next_92 (by decide) ?_
    refine g_sub hw (lv2 := [(0, .ref (gA G 16)), (1, .int l1_8), (2, .int l2_9), (3, .int l3_41), (4, .int l4_42), (5, .int l5_43)]) [0, 1, 2, 3, 4, 5] rfl ?_
    exact wX1_next_b162 hw hkf hR28 h
def fX1_next_b84 (R28 : Int32 → Int32 → Int32 → gM → Prop) (l1_8 : Int32) (l2_9 : Int32) (l3_35 : Int32) (l4_36 : Int32) (l5_37 : Int32) (l6_38 : Nat) (s0_39 : Int32) (s1_40 : Int32) (M : gM) (Q : Int32 → gM → Prop) : Prop :=
  fX1_next_b85 R28 l1_8 l2_9 l3_35 l4_36 l5_37 l6_38 (s0_39 + s1_40) M Q
theorem wX1_next_b84 {kf : Nat} {G : gG} {w : gM → Nat → List (Nat × Value) → List Value → Prop} {Q : Int32 → gM → Prop} (hw : gX yX1_next cX1_next 8 (Option.some FieldType.int) [] kf G (gQi Q) gE0 w) (hkf : 5 ≤ kf) {R28 : Int32 → Int32 → Int32 → gM → Prop} {l1_8 : Int32} {l2_9 : Int32} {l3_35 : Int32} {l4_36 : Int32} {l5_37 : Int32} {l6_38 : Nat} {s0_39 : Int32} {s1_40 : Int32} {M : gM} (hR28 : ∀ (v0 : Int32) (v1 : Int32) (v2 : Int32) (M : gM), R28 v0 v1 v2 M → w M 28 [(0, .ref (gA G 16)), (1, .int l1_8), (2, .int l2_9), (3, .int v0), (4, .int v1), (5, .int v2)] []) (h : fX1_next_b84 R28 l1_8 l2_9 l3_35 l4_36 l5_37 l6_38 s0_39 s1_40 M Q) : w M 84 [(0, .ref (gA G 16)), (1, .int l1_8), (2, .int l2_9), (3, .int l3_35), (4, .int l4_36), (5, .int l5_37), (6, .ref (gA G l6_38))] [.int s1_40, .int s0_39] := by
  unfold fX1_next_b84 at h
  refine g_iadd hw dX1_next_84 ?_
  exact wX1_next_b85 hw hkf hR28 h
def fX1_next_b70 (R28 : Int32 → Int32 → Int32 → gM → Prop) (l1_8 : Int32) (l2_9 : Int32) (l3_26 : Int32) (l4_27 : Int32) (l5_28 : Int32) (l6_29 : Nat) (s0_30 : Int32) (M : gM) (Q : Int32 → gM → Prop) : Prop :=
  gk M l6_29 = 4 ∧ fX4_isSilent l6_29 l2_9 M (fun r33 M32 => (if r33 = 0 then fX1_next_b84 R28 l1_8 l2_9 l3_26 l4_27 l5_28 l6_29 s0_30 0 M32 Q else fX1_next_b84 R28 l1_8 l2_9 l3_26 l4_27 l5_28 l6_29 s0_30 1 M32 Q))
theorem wX1_next_b70 {kf : Nat} {G : gG} {w : gM → Nat → List (Nat × Value) → List Value → Prop} {Q : Int32 → gM → Prop} (hw : gX yX1_next cX1_next 8 (Option.some FieldType.int) [] kf G (gQi Q) gE0 w) (hkf : 5 ≤ kf) {R28 : Int32 → Int32 → Int32 → gM → Prop} {l1_8 : Int32} {l2_9 : Int32} {l3_26 : Int32} {l4_27 : Int32} {l5_28 : Int32} {l6_29 : Nat} {s0_30 : Int32} {M : gM} (hR28 : ∀ (v0 : Int32) (v1 : Int32) (v2 : Int32) (M : gM), R28 v0 v1 v2 M → w M 28 [(0, .ref (gA G 16)), (1, .int l1_8), (2, .int l2_9), (3, .int v0), (4, .int v1), (5, .int v2)] []) (h : fX1_next_b70 R28 l1_8 l2_9 l3_26 l4_27 l5_28 l6_29 s0_30 M Q) : w M 70 [(0, .ref (gA G 16)), (1, .int l1_8), (2, .int l2_9), (3, .int l3_26), (4, .int l4_27), (5, .int l5_28), (6, .ref (gA G l6_29))] [.int s0_30] := by
  unfold fX1_next_b70 at h
  refine g_aload hw 6 dX1_next_70 rfl ?_
  refine g_iload_n hw 2 dX1_next_72 rfl ?_
  obtain ⟨hk31, h⟩ := h
  refine sX1_158 hw rfl dX1_next_73 rfl (gK2 hkf) hk31 h (fun r33 M32 h => ?_)
  refine g_if_eq (tgt := 83) hw dX1_next_76 (by decide) (fun hb34 => ?_) (fun hb34 => ?_)
  · have h := gT h hb34
    refine g_iconst (v := 0) hw dX1_next_83 (by decide) ?_
    exact wX1_next_b84 hw hkf hR28 h
  · have h := gF h hb34
    refine g_iconst (v := 1) hw dX1_next_79 (by decide) ?_
    refine g_goto (tgt := 84) hw dX1_next_80 (by decide) ?_
    exact wX1_next_b84 hw hkf hR28 h
def fX1_next_L28s (R28 : Int32 → Int32 → Int32 → gM → Prop) (K168_28 : Int32 → gM → Prop) (l1_8 : Int32) (l2_9 : Int32) (l3_10 : Int32) (l4_11 : Int32) (l5_12 : Int32) (M : gM) (Q : Int32 → gM → Prop) : Prop :=
  (if 24 ≤ l5_12 then K168_28 l3_10 M else gk M 16 = 1 ∧ gdr (gR M 16 0) (fun a15 => gk M a15 = 44 ∧ vp_in l5_12 (gl M a15) ∧ gdr (gR M a15 l5_12.toNatClampNeg) (fun a19 => gk M a19 = 4 ∧ (if (gI M a19 3) = 0 then fX1_next_b85 R28 l1_8 l2_9 l3_10 l4_11 l5_12 a19 0 M Q else fX4_isSilent a19 l1_8 M (fun r24 M23 => (if r24 = 0 then fX1_next_b70 R28 l1_8 l2_9 l3_10 l4_11 l5_12 a19 0 M23 Q else fX1_next_b70 R28 l1_8 l2_9 l3_10 l4_11 l5_12 a19 1 M23 Q))))))
def fX1_next_L28 (K168_28 : Int32 → gM → Prop) (l1_8 : Int32) (l2_9 : Int32) (Q : Int32 → gM → Prop) : Nat → Int32 → Int32 → Int32 → gM → Prop
  | 0 => fun _ _ _ _ => False
  | n + 1 => fun l3_10 l4_11 l5_12 M => fX1_next_L28s (fX1_next_L28 K168_28 l1_8 l2_9 Q n) K168_28 l1_8 l2_9 l3_10 l4_11 l5_12 M Q
theorem wX1_next_L28s {kf : Nat} {G : gG} {w : gM → Nat → List (Nat × Value) → List Value → Prop} {Q : Int32 → gM → Prop} (hw : gX yX1_next cX1_next 8 (Option.some FieldType.int) [] kf G (gQi Q) gE0 w) (hkf : 5 ≤ kf) {R28 : Int32 → Int32 → Int32 → gM → Prop} {K168_28 : Int32 → gM → Prop} {l1_8 : Int32} {l2_9 : Int32} {l3_10 : Int32} {l4_11 : Int32} {l5_12 : Int32} {M : gM} (hR28 : ∀ (v0 : Int32) (v1 : Int32) (v2 : Int32) (M : gM), R28 v0 v1 v2 M → w M 28 [(0, .ref (gA G 16)), (1, .int l1_8), (2, .int l2_9), (3, .int v0), (4, .int v1), (5, .int v2)] []) (hK168_28 : ∀ (v0 : Int32) (M : gM), K168_28 v0 M → w M 168 [(3, .int v0)] []) (h : fX1_next_L28s R28 K168_28 l1_8 l2_9 l3_10 l4_11 l5_12 M Q) : w M 28 [(0, .ref (gA G 16)), (1, .int l1_8), (2, .int l2_9), (3, .int l3_10), (4, .int l4_11), (5, .int l5_12)] [] := by
  unfold fX1_next_L28s at h
  refine g_iload hw 5 dX1_next_28 rfl ?_
  refine g_bipush (v := 24) hw dX1_next_30 (by decide) ?_
  refine g_icmp_ge (tgt := 168) hw dX1_next_32 (by decide) (fun hb13 => ?_) (fun hb13 => ?_)
  · have h := gT h hb13
    refine g_sub hw (lv2 := [(3, .int l3_10)]) [3] rfl ?_
    exact hK168_28 l3_10 M h
  · have h := gF h hb13
    refine g_aload_n hw 0 dX1_next_35 rfl ?_
    obtain ⟨hk14, h⟩ := h
    obtain ⟨a15, e16, h⟩ := h
    refine gfX1_21 (q := some a15) hw rfl dX1_next_36 hk14 e16 ?_
    refine g_iload hw 5 dX1_next_39 rfl ?_
    obtain ⟨hk17, h⟩ := h
    obtain ⟨hi18, h⟩ := h
    obtain ⟨a19, e20, h⟩ := h
    refine g_aaldS (n := l5_12.toNatClampNeg) hw 4 dX1_next_41 ⟨rfl, rfl⟩ hk17 hi18 rfl e20 ?_
    refine g_astore hw (lv2 := [(0, .ref (gA G 16)), (1, .int l1_8), (2, .int l2_9), (3, .int l3_10), (4, .int l4_11), (5, .int l5_12), (6, .ref (gA G a19))]) [1, 2, 3, 4, 5, 6, 0] dX1_next_42 rfl rfl ?_
    refine g_aload hw 6 dX1_next_44 rfl ?_
    obtain ⟨hk21, h⟩ := h
    refine gfX1_116 hw rfl dX1_next_46 hk21 ?_
    refine g_if_ne (tgt := 56) hw dX1_next_49 (by decide) (fun hb22 => ?_) (fun hb22 => ?_)
    · have h := gF h hb22
      refine g_aload hw 6 dX1_next_56 rfl ?_
      refine g_iload_n hw 1 dX1_next_58 rfl ?_
      refine sX1_158 hw rfl dX1_next_59 rfl (gK2 hkf) hk21 h (fun r24 M23 h => ?_)
      refine g_if_eq (tgt := 69) hw dX1_next_62 (by decide) (fun hb25 => ?_) (fun hb25 => ?_)
      · have h := gT h hb25
        refine g_iconst (v := 0) hw dX1_next_69 (by decide) ?_
        exact wX1_next_b70 hw hkf hR28 h
      · have h := gF h hb25
        refine g_iconst (v := 1) hw dX1_next_65 (by decide) ?_
        refine g_goto (tgt := 70) hw dX1_next_66 (by decide) ?_
        exact wX1_next_b70 hw hkf hR28 h
    · have h := gT h hb22
      refine g_iconst (v := 0) hw dX1_next_52 (by decide) ?_
      refine g_goto (tgt := 85) hw dX1_next_53 (by decide) ?_
      exact wX1_next_b85 hw hkf hR28 h
theorem wX1_next_L28 {kf : Nat} {G : gG} {w : gM → Nat → List (Nat × Value) → List Value → Prop} {Q : Int32 → gM → Prop} (hw : gX yX1_next cX1_next 8 (Option.some FieldType.int) [] kf G (gQi Q) gE0 w) (hkf : 5 ≤ kf) {K168_28 : Int32 → gM → Prop} {l1_8 : Int32} {l2_9 : Int32} (hK168_28 : ∀ (v0 : Int32) (M : gM), K168_28 v0 M → w M 168 [(3, .int v0)] []) : ∀ (n : Nat) (l3_10 : Int32) (l4_11 : Int32) (l5_12 : Int32) (M : gM), fX1_next_L28 K168_28 l1_8 l2_9 Q n l3_10 l4_11 l5_12 M → w M 28 [(0, .ref (gA G 16)), (1, .int l1_8), (2, .int l2_9), (3, .int l3_10), (4, .int l4_11), (5, .int l5_12)] [] := by
  intro n
  induction n with
  | zero => intro l3_10 l4_11 l5_12 M h; exact h.elim
  | succ n ih => intro l3_10 l4_11 l5_12 M h; exact wX1_next_L28s hw hkf ih hK168_28 h
def fX1_next (p1 : Int32) (p2 : Int32) (M : gM) (Q : Int32 → gM → Prop) : Prop :=
  fX1_areMonths p1 p2 M (fun r2 M1 => (if r2 = 0 then Q (-1) M1 else gk M1 16 = 1 ∧ fX1_ends p1 p2 0 M1 (fun r6 M5 => (if r6 = 0 then Q (-1) M5 else ∃ n, fX1_next_L28 (fun l3_78 M79 => Q l3_78 M79) p1 p2 Q n (-1) 0 0 M5))))
theorem mX1_next {kf : Nat} (hkf : 5 ≤ kf) (G : gG) (p1 : Int32) (p2 : Int32) (M : gM) (Q : Int32 → gM → Prop) (h : fX1_next p1 p2 M Q) : gMet yX1_next cX1_next 8 (Option.some FieldType.int) kf G M [.ref (gA G 16), .int p1, .int p2] (gQi Q) gE0 := by
  refine g_intro (lv := [(0, .ref (gA G 16)), (1, .int p1), (2, .int p2)]) (by decide) rfl rfl (fun w hw => ?_)
  unfold fX1_next at h
  refine g_iload_n hw 1 dX1_next_0 rfl ?_
  refine g_iload_n hw 2 dX1_next_1 rfl ?_
  refine sX1_164 hw rfl dX1_next_2 rfl (gK2 hkf) h (fun r2 M1 h => ?_)
  refine g_if_eq (tgt := 18) hw dX1_next_5 (by decide) (fun hb3 => ?_) (fun hb3 => ?_)
  · have h := gT h hb3
    refine g_iconst (v := (-1)) hw dX1_next_18 (by decide) ?_
    exact g_iret hw dX1_next_19 rfl ⟨_, rfl, h⟩
  · have h := gF h hb3
    refine g_aload_n hw 0 dX1_next_8 rfl ?_
    refine g_iload_n hw 1 dX1_next_9 rfl ?_
    refine g_iload_n hw 2 dX1_next_10 rfl ?_
    refine g_iconst (v := 0) hw dX1_next_11 (by decide) ?_
    obtain ⟨hk4, h⟩ := h
    refine sX1_226 hw rfl dX1_next_12 rfl (gK2 hkf) hk4 h (fun r6 M5 h => ?_)
    refine g_if_ne (tgt := 20) hw dX1_next_15 (by decide) (fun hb7 => ?_) (fun hb7 => ?_)
    · have h := gF h hb7
      refine g_iconst (v := (-1)) hw dX1_next_20 (by decide) ?_
      refine g_istore_n hw (lv2 := [(0, .ref (gA G 16)), (1, .int p1), (2, .int p2), (3, .int (-1))]) [1, 2, 3, 0] dX1_next_21 rfl rfl ?_
      refine g_iconst (v := 0) hw dX1_next_22 (by decide) ?_
      refine g_istore hw (lv2 := [(0, .ref (gA G 16)), (1, .int p1), (2, .int p2), (3, .int (-1)), (4, .int 0)]) [1, 2, 3, 4, 0] dX1_next_23 rfl rfl ?_
      refine g_iconst (v := 0) hw dX1_next_25 (by decide) ?_
      refine g_istore hw (lv2 := [(0, .ref (gA G 16)), (1, .int p1), (2, .int p2), (3, .int (-1)), (4, .int 0), (5, .int 0)]) [1, 2, 3, 4, 5, 0] dX1_next_26 rfl rfl ?_
      obtain ⟨n9, h⟩ := h
      refine wX1_next_L28 hw hkf (fun l3_78 M79 h => ?_) n9 (-1) 0 0 M5 h
      refine g_iload_n hw 0 dX1_next_168 rfl ?_
      exact g_iret hw dX1_next_169 rfl ⟨_, rfl, h⟩
    · have h := gT h hb7
      refine g_iconst (v := (-1)) hw dX1_next_18 (by decide) ?_
      exact g_iret hw dX1_next_19 rfl ⟨_, rfl, h⟩
def fX1_change (p1 : Nat) (p2 : Int32) (p3 : Int32) (M : gM) (Q : Int32 → gM → Prop) : Prop :=
  gk M 16 = 1 ∧ fX1_handsOf p1 p3 M (fun r3 M2 => gk M2 16 = 1 ∧ fX1_handsOf p1 p2 M2 (fun r6 M5 => Q (r3 - r6) M5))
theorem mX1_change {kf : Nat} (hkf : 3 ≤ kf) (G : gG) (p1 : Nat) (p2 : Int32) (p3 : Int32) (M : gM) (Q : Int32 → gM → Prop) (h : fX1_change p1 p2 p3 M Q) : gMet yX1_change cX1_change 4 (Option.some FieldType.int) kf G M [.ref (gA G 16), .ref (gA G p1), .int p2, .int p3] (gQi Q) gE0 := by
  refine g_intro (lv := [(0, .ref (gA G 16)), (1, .ref (gA G p1)), (2, .int p2), (3, .int p3)]) (by decide) rfl rfl (fun w hw => ?_)
  unfold fX1_change at h
  refine g_aload_n hw 0 dX1_change_0 rfl ?_
  refine g_aload_n hw 1 dX1_change_1 rfl ?_
  refine g_iload_n hw 3 dX1_change_2 rfl ?_
  obtain ⟨hk1, h⟩ := h
  refine sX1_161 hw rfl dX1_change_3 rfl (gK2 hkf) hk1 h (fun r3 M2 h => ?_)
  refine g_aload_n hw 0 dX1_change_6 rfl ?_
  refine g_aload_n hw 1 dX1_change_7 rfl ?_
  refine g_iload_n hw 2 dX1_change_8 rfl ?_
  obtain ⟨hk4, h⟩ := h
  refine sX1_161 hw rfl dX1_change_9 rfl (gK2 hkf) hk4 h (fun r6 M5 h => ?_)
  refine g_isub hw dX1_change_12 ?_
  exact g_iret hw dX1_change_13 rfl ⟨_, rfl, h⟩
theorem sX1_172 {y0 : MethodName} {cc : ByteArray} {nL : Nat} {ret : Option FieldType} {hh : List (Nat × Nat × Nat × Nat)} {kf : Nat} {G : gG} {Qv : Option Value → gM → Prop} {E : String → Nat → gM → Prop} {w : gM → Nat → List (Nat × Value) → List Value → Prop} {M : gM} {pc : Nat} {lv : List (Nat × Value)} {rest : List Value} (hw : gX y0 cc nL ret hh kf G Qv E w) (hy : y0.cls = RX1) {c0 : Nat} {p1 : Int32} {p2 : Int32} {Q : Int32 → gM → Prop} (d : decode cc pc = .ok (.invokevirtual 172, 3)) (hrest : Nat.ble ((rest.map Value.category).sum) 8 = true) (hk : 2 + 1 ≤ kf) (hkd : gk M c0 = 4) (h : fX4_isCounted c0 p1 p2 M Q) (kk : ∀ r M1, Q r M1 → w M1 (pc + 3) lv (.int r :: rest)) : w M pc lv (.int p2 :: .int p1 :: .ref (gA G c0) :: rest) := by
  obtain ⟨cls9, nm9, ds9⟩ := y0
  subst hy
  exact g_callV (r := (RX4, TX4, 11)) (ci := 3) hw [.int p1, .int p2] (nA := 2) rfl d q457 q458 q459 q101 q460 (by decide +kernel) rfl rfl hrest rfl (by omega : kf - 1 + 1 ≤ kf) hkd (mX4_isCounted (kf := kf - 1) (by omega) G c0 p1 p2 M Q h) (fun _ _ _ q => q.elim) (fun v M1 h => by obtain ⟨r, rfl, h⟩ := h; exact kk r M1 h)
theorem sX1_175 {y0 : MethodName} {cc : ByteArray} {nL : Nat} {ret : Option FieldType} {hh : List (Nat × Nat × Nat × Nat)} {kf : Nat} {G : gG} {Qv : Option Value → gM → Prop} {E : String → Nat → gM → Prop} {w : gM → Nat → List (Nat × Value) → List Value → Prop} {M : gM} {pc : Nat} {lv : List (Nat × Value)} {rest : List Value} (hw : gX y0 cc nL ret hh kf G Qv E w) (hy : y0.cls = RX1) {p1 : Nat} {p2 : Int32} {p3 : Int32} {Q : Int32 → gM → Prop} (d : decode cc pc = .ok (.invokevirtual 175, 3)) (hrest : Nat.ble ((rest.map Value.category).sum) 8 = true) (hk : 3 + 1 ≤ kf) (hkd : gk M 16 = 1) (h : fX1_change p1 p2 p3 M Q) (kk : ∀ r M1, Q r M1 → w M1 (pc + 3) lv (.int r :: rest)) : w M pc lv (.int p3 :: .int p2 :: .ref (gA G p1) :: .ref (gA G 16) :: rest) := by
  obtain ⟨cls9, nm9, ds9⟩ := y0
  subst hy
  exact g_callV (r := (RX1, TX1, 28)) (ci := 0) hw [.ref (gA G p1), .int p2, .int p3] (nA := 3) rfl d q462 q464 qs10 q98 q465 (by decide +kernel) rfl rfl hrest rfl (by omega : kf - 1 + 1 ≤ kf) hkd (mX1_change (kf := kf - 1) (by omega) G p1 p2 p3 M Q h) (fun _ _ _ q => q.elim) (fun v M1 h => by obtain ⟨r, rfl, h⟩ := h; exact kk r M1 h)
def fX1_rivers_b66 (R7 : Int32 → gM → Prop) (l1_4 : Int32) (l2_5 : Int32) (l3_6 : Int32) (l4_10 : Int32) (M : gM) (Q : Int32 → gM → Prop) : Prop :=
  R7 (l4_10 + 1) M
theorem wX1_rivers_b66 {kf : Nat} {G : gG} {w : gM → Nat → List (Nat × Value) → List Value → Prop} {Q : Int32 → gM → Prop} (hw : gX yX1_rivers cX1_rivers 5 (Option.some FieldType.boolean) [] kf G (gQi Q) gE0 w) (hkf : 4 ≤ kf) {R7 : Int32 → gM → Prop} {l1_4 : Int32} {l2_5 : Int32} {l3_6 : Int32} {l4_10 : Int32} {M : gM} (hR7 : ∀ (v0 : Int32) (M : gM), R7 v0 M → w M 7 [(0, .ref (gA G 16)), (1, .int l1_4), (2, .int l2_5), (3, .int l3_6), (4, .int v0)] []) (h : fX1_rivers_b66 R7 l1_4 l2_5 l3_6 l4_10 M Q) : w M 66 [(0, .ref (gA G 16)), (1, .int l1_4), (2, .int l2_5), (3, .int l3_6), (4, .int l4_10)] [] := by
  unfold fX1_rivers_b66 at h
  refine g_iinc hw (lv2 := [(0, .ref (gA G 16)), (1, .int l1_4), (2, .int l2_5), (3, .int l3_6), (4, .int (l4_10 + 1))]) 4 [1, 2, 3, 4, 0] dX1_rivers_66 rfl (by decide) rfl rfl ?_
  refine g_goto (tgt := 7) hw dX1_rivers_69 (by decide) ?_
  exact hR7 (l4_10 + 1) M h
def fX1_rivers_L7s (R7 : Int32 → gM → Prop) (K72_7 : gM → Prop) (l1_4 : Int32) (l2_5 : Int32) (l3_6 : Int32) (l4_7 : Int32) (M : gM) (Q : Int32 → gM → Prop) : Prop :=
  (if 24 ≤ l4_7 then K72_7 M else (if l4_7 = l3_6 then fX1_rivers_b66 R7 l1_4 l2_5 l3_6 l4_7 M Q else gk M 16 = 1 ∧ gdr (gR M 16 0) (fun a12 => gk M a12 = 44 ∧ vp_in l4_7 (gl M a12) ∧ gdr (gR M a12 l4_7.toNatClampNeg) (fun a16 => gk M a16 = 4 ∧ fX4_isCounted a16 l1_4 l2_5 M (fun r20 M19 => (if r20 = 0 then fX1_rivers_b66 R7 l1_4 l2_5 l3_6 l4_7 M19 Q else gk M19 16 = 1 ∧ gdr (gR M19 16 0) (fun a23 => gk M19 a23 = 44 ∧ vp_in l4_7 (gl M19 a23) ∧ gdr (gR M19 a23 l4_7.toNatClampNeg) (fun a27 => gk M19 a27 = 4 ∧ fX1_of (gI M19 a27 0) M19 (fun r31 M30 => gk M30 16 = 1 ∧ gdr (gR M30 16 0) (fun a33 => gk M30 a33 = 44 ∧ vp_in l4_7 (gl M30 a33) ∧ gdr (gR M30 a33 l4_7.toNatClampNeg) (fun a37 => fX1_change a37 l1_4 l2_5 M30 (fun r40 M39 => gk M39 r31 = 3 ∧ fX3_adds r31 r40.toInt64 M39 (fun M42 => fX1_rivers_b66 R7 l1_4 l2_5 l3_6 l4_7 M42 Q)))))))))))))
def fX1_rivers_L7 (K72_7 : gM → Prop) (l1_4 : Int32) (l2_5 : Int32) (l3_6 : Int32) (Q : Int32 → gM → Prop) : Nat → Int32 → gM → Prop
  | 0 => fun _ _ => False
  | n + 1 => fun l4_7 M => fX1_rivers_L7s (fX1_rivers_L7 K72_7 l1_4 l2_5 l3_6 Q n) K72_7 l1_4 l2_5 l3_6 l4_7 M Q
theorem wX1_rivers_L7s {kf : Nat} {G : gG} {w : gM → Nat → List (Nat × Value) → List Value → Prop} {Q : Int32 → gM → Prop} (hw : gX yX1_rivers cX1_rivers 5 (Option.some FieldType.boolean) [] kf G (gQi Q) gE0 w) (hkf : 4 ≤ kf) {R7 : Int32 → gM → Prop} {K72_7 : gM → Prop} {l1_4 : Int32} {l2_5 : Int32} {l3_6 : Int32} {l4_7 : Int32} {M : gM} (hR7 : ∀ (v0 : Int32) (M : gM), R7 v0 M → w M 7 [(0, .ref (gA G 16)), (1, .int l1_4), (2, .int l2_5), (3, .int l3_6), (4, .int v0)] []) (hK72_7 : ∀  (M : gM), K72_7 M → w M 72 [(0, .ref (gA G 16))] []) (h : fX1_rivers_L7s R7 K72_7 l1_4 l2_5 l3_6 l4_7 M Q) : w M 7 [(0, .ref (gA G 16)), (1, .int l1_4), (2, .int l2_5), (3, .int l3_6), (4, .int l4_7)] [] := by
  unfold fX1_rivers_L7s at h
  refine g_iload hw 4 dX1_rivers_7 rfl ?_
  refine g_bipush (v := 24) hw dX1_rivers_9 (by decide) ?_
  refine g_icmp_ge (tgt := 72) hw dX1_rivers_11 (by decide) (fun hb8 => ?_) (fun hb8 => ?_)
  · have h := gT h hb8
    refine g_sub hw (lv2 := [(0, .ref (gA G 16))]) [0] rfl ?_
    exact hK72_7 M h
  · have h := gF h hb8
    refine g_iload hw 4 dX1_rivers_14 rfl ?_
    refine g_iload_n hw 3 dX1_rivers_16 rfl ?_
    refine g_icmp_eq (tgt := 66) hw dX1_rivers_17 (by decide) (fun hb9 => ?_) (fun hb9 => ?_)
    · have h := gT h hb9
      exact wX1_rivers_b66 hw hkf hR7 h
    · have h := gF h hb9
      refine g_aload_n hw 0 dX1_rivers_20 rfl ?_
      obtain ⟨hk11, h⟩ := h
      obtain ⟨a12, e13, h⟩ := h
      refine gfX1_21 (q := some a12) hw rfl dX1_rivers_21 hk11 e13 ?_
      refine g_iload hw 4 dX1_rivers_24 rfl ?_
      obtain ⟨hk14, h⟩ := h
      obtain ⟨hi15, h⟩ := h
      obtain ⟨a16, e17, h⟩ := h
      refine g_aaldS (n := l4_7.toNatClampNeg) hw 4 dX1_rivers_26 ⟨rfl, rfl⟩ hk14 hi15 rfl e17 ?_
      refine g_iload_n hw 1 dX1_rivers_27 rfl ?_
      refine g_iload_n hw 2 dX1_rivers_28 rfl ?_
      obtain ⟨hk18, h⟩ := h
      refine sX1_172 hw rfl dX1_rivers_29 rfl (gK2 hkf) hk18 h (fun r20 M19 h => ?_)
      refine g_if_eq (tgt := 66) hw dX1_rivers_32 (by decide) (fun hb21 => ?_) (fun hb21 => ?_)
      · have h := gT h hb21
        exact wX1_rivers_b66 hw hkf hR7 h
      · have h := gF h hb21
        refine g_aload_n hw 0 dX1_rivers_35 rfl ?_
        refine g_aload_n hw 0 dX1_rivers_36 rfl ?_
        obtain ⟨hk22, h⟩ := h
        obtain ⟨a23, e24, h⟩ := h
        refine gfX1_21 (q := some a23) hw rfl dX1_rivers_37 hk22 e24 ?_
        refine g_iload hw 4 dX1_rivers_40 rfl ?_
        obtain ⟨hk25, h⟩ := h
        obtain ⟨hi26, h⟩ := h
        obtain ⟨a27, e28, h⟩ := h
        refine g_aaldS (n := l4_7.toNatClampNeg) hw 4 dX1_rivers_42 ⟨rfl, rfl⟩ hk25 hi26 rfl e28 ?_
        obtain ⟨hk29, h⟩ := h
        refine gfX1_124 hw rfl dX1_rivers_43 hk29 ?_
        refine sX1_192 hw rfl dX1_rivers_46 rfl (gK2 hkf) hk22 h (fun r31 M30 h => ?_)
        refine g_aload_n hw 0 dX1_rivers_49 rfl ?_
        refine g_aload_n hw 0 dX1_rivers_50 rfl ?_
        obtain ⟨hk32, h⟩ := h
        obtain ⟨a33, e34, h⟩ := h
        refine gfX1_21 (q := some a33) hw rfl dX1_rivers_51 hk32 e34 ?_
        refine g_iload hw 4 dX1_rivers_54 rfl ?_
        obtain ⟨hk35, h⟩ := h
        obtain ⟨hi36, h⟩ := h
        obtain ⟨a37, e38, h⟩ := h
        refine g_aaldS (n := l4_7.toNatClampNeg) hw 4 dX1_rivers_56 ⟨rfl, rfl⟩ hk35 hi36 rfl e38 ?_
        refine g_iload_n hw 1 dX1_rivers_57 rfl ?_
        refine g_iload_n hw 2 dX1_rivers_58 rfl ?_
        refine sX1_175 hw rfl dX1_rivers_59 rfl (gK2 hkf) hk32 h (fun r40 M39 h => ?_)
        refine g_i2l hw dX1_rivers_62 ?_
        obtain ⟨hk41, h⟩ := h
        refine sX1_196 hw rfl dX1_rivers_63 rfl (gK2 hkf) hk41 h (fun M42 h => ?_)
        exact wX1_rivers_b66 hw hkf hR7 h
theorem wX1_rivers_L7 {kf : Nat} {G : gG} {w : gM → Nat → List (Nat × Value) → List Value → Prop} {Q : Int32 → gM → Prop} (hw : gX yX1_rivers cX1_rivers 5 (Option.some FieldType.boolean) [] kf G (gQi Q) gE0 w) (hkf : 4 ≤ kf) {K72_7 : gM → Prop} {l1_4 : Int32} {l2_5 : Int32} {l3_6 : Int32} (hK72_7 : ∀  (M : gM), K72_7 M → w M 72 [(0, .ref (gA G 16))] []) : ∀ (n : Nat) (l4_7 : Int32) (M : gM), fX1_rivers_L7 K72_7 l1_4 l2_5 l3_6 Q n l4_7 M → w M 7 [(0, .ref (gA G 16)), (1, .int l1_4), (2, .int l2_5), (3, .int l3_6), (4, .int l4_7)] [] := by
  intro n
  induction n with
  | zero => intro l4_7 M h; exact h.elim
  | succ n ih => intro l4_7 M h; exact wX1_rivers_L7s hw hkf ih hK72_7 h
def fX1_rivers (p1 : Int32) (p2 : Int32) (p3 : Int32) (M : gM) (Q : Int32 → gM → Prop) : Prop :=
  gk M 16 = 1 ∧ fX1_begins M (fun M2 => ∃ n, fX1_rivers_L7 (fun M44 => gk M44 16 = 1 ∧ fX1_isThere M44 (fun r47 M46 => (r47 = 0 ∨ r47 = 1) ∧ Q r47 M46)) p1 p2 p3 Q n 0 M2)
theorem mX1_rivers {kf : Nat} (hkf : 4 ≤ kf) (G : gG) (p1 : Int32) (p2 : Int32) (p3 : Int32) (M : gM) (Q : Int32 → gM → Prop) (h : fX1_rivers p1 p2 p3 M Q) : gMet yX1_rivers cX1_rivers 5 (Option.some FieldType.boolean) kf G M [.ref (gA G 16), .int p1, .int p2, .int p3] (gQi Q) gE0 := by
  refine g_intro (lv := [(0, .ref (gA G 16)), (1, .int p1), (2, .int p2), (3, .int p3)]) (by decide) rfl rfl (fun w hw => ?_)
  unfold fX1_rivers at h
  refine g_aload_n hw 0 dX1_rivers_0 rfl ?_
  obtain ⟨hk1, h⟩ := h
  refine sX1_189 hw rfl dX1_rivers_1 rfl (gK2 hkf) hk1 h (fun M2 h => ?_)
  refine g_iconst (v := 0) hw dX1_rivers_4 (by decide) ?_
  refine g_istore hw (lv2 := [(0, .ref (gA G 16)), (1, .int p1), (2, .int p2), (3, .int p3), (4, .int 0)]) [1, 2, 3, 4, 0] dX1_rivers_5 rfl rfl ?_
  obtain ⟨n9, h⟩ := h
  refine wX1_rivers_L7 hw hkf (fun M44 h => ?_) n9 0 M2 h
  refine g_aload_n hw 0 dX1_rivers_72 rfl ?_
  obtain ⟨hk45, h⟩ := h
  refine sX1_200 hw rfl dX1_rivers_73 rfl (gK2 hkf) hk45 h (fun r47 M46 h => ?_)
  obtain ⟨hc48, h⟩ := h
  exact g_iret hw dX1_rivers_76 (gBool hc48) ⟨_, rfl, h⟩
theorem gfX1_73 {y0 : MethodName} {cc : ByteArray} {nL : Nat} {ret : Option FieldType} {hh : List (Nat × Nat × Nat × Nat)} {kf : Nat} {G : gG} {Qv : Option Value → gM → Prop} {E : String → Nat → gM → Prop} {w : gM → Nat → List (Nat × Value) → List Value → Prop} {M : gM} {pc : Nat} {lv : List (Nat × Value)} {rest : List Value} (hw : gX y0 cc nL ret hh kf G Qv E w) (hy : y0.cls = RX1) {c : Nat} {q : Option Nat} (d : decode cc pc = .ok (.getfield 73, 3)) (hk : gk M c = 1) (hq : gR M c 12 = q) (kk : w M (pc + 3) lv (va_rf (q.map (gA G)) :: rest)) : w M pc lv (.ref (gA G c) :: rest) := by
  obtain ⟨cls9, nm9, ds9⟩ := y0
  subst hy
  subst hq
  exact g_getC (C := RX1) (T := TX1) (N := 28) (ci := 0) hw in_X1 rfl 12 (by decide) (Or.inl q284) rfl d hk kk
theorem sX1_246P {y0 : MethodName} {cc : ByteArray} {nL : Nat} {ret : Option FieldType} {hh : List (Nat × Nat × Nat × Nat)} {kf : Nat} {G : gG} {Qv : Option Value → gM → Prop} {E : String → Nat → gM → Prop} {w : gM → Nat → List (Nat × Value) → List Value → Prop} {M : gM} {pc : Nat} {lv : List (Nat × Value)} {rest : List Value} (hw : gX y0 cc nL ret hh kf G Qv E w) (hy : y0.cls = RX1) {p1 : Int32} {p2 : Int32} {p3 : Int64} {p4 : Int32} {p5 : Int32} {p6 : Int64} {Q : gM → Prop} (d : decode cc pc = .ok (.invokevirtual 246, 3)) (hrest : Nat.ble ((rest.map Value.category).sum) 8 = true) {v : Nat} {P : Int32 → Int32 → Int64 → Int32 → Int32 → Int64 → gM → (gM → Prop) → Prop} {j : Nat} (hk : v + (j + 1) ≤ kf) (hv : 1 ≤ v) (hP : ∀ (kf : Nat) (p1 : Int32) (p2 : Int32) (p3 : Int64) (p4 : Int32) (p5 : Int32) (p6 : Int64) (M : gM) (Q : gM → Prop), v ≤ kf → P p1 p2 p3 p4 p5 p6 M Q → gMet yX1_deals cX1_deals 10 (Option.none : Option FieldType) kf G M [.ref (gA G 16), .int p1, .int p2, .long p3, .int p4, .int p5, .long p6] (gQv Q) gE0) (hkd : gk M 16 = 1) (h : P p1 p2 p3 p4 p5 p6 M Q) (kk : ∀ M1, Q M1 → w M1 (pc + 3) lv rest) : w M pc lv (.long p6 :: .int p5 :: .int p4 :: .long p3 :: .int p2 :: .int p1 :: .ref (gA G 16) :: rest) := by
  obtain ⟨cls9, nm9, ds9⟩ := y0
  subst hy
  exact g_callV (r := (RX1, TX1, 28)) (ci := 0) hw [.int p1, .int p2, .long p3, .int p4, .int p5, .long p6] (nA := 6) rfl d q470 q472 qs11 q98 q473 (by decide +kernel) rfl rfl hrest rfl (by omega : kf - 1 + 1 ≤ kf) hkd (hP (kf - 1) p1 p2 p3 p4 p5 p6 M Q (by omega) h) (fun _ _ _ q => q.elim) (fun v M1 h => by obtain ⟨rfl, h⟩ := h; exact kk M1 h)
theorem gfX1_237 {y0 : MethodName} {cc : ByteArray} {nL : Nat} {ret : Option FieldType} {hh : List (Nat × Nat × Nat × Nat)} {kf : Nat} {G : gG} {Qv : Option Value → gM → Prop} {E : String → Nat → gM → Prop} {w : gM → Nat → List (Nat × Value) → List Value → Prop} {M : gM} {pc : Nat} {lv : List (Nat × Value)} {rest : List Value} (hw : gX y0 cc nL ret hh kf G Qv E w) (hy : y0.cls = RX1) {c : Nat} (d : decode cc pc = .ok (.getfield 237, 3)) (hk : gk M c = 1) (kk : w M (pc + 3) lv (.int (gI M c 15) :: rest)) : w M pc lv (.ref (gA G c) :: rest) := by
  obtain ⟨cls9, nm9, ds9⟩ := y0
  subst hy
  exact g_getC (C := RX1) (T := TX1) (N := 28) (ci := 0) hw in_X1 rfl 15 (by decide) (Or.inl q287) rfl d hk kk
theorem pfX1_237 {y0 : MethodName} {cc : ByteArray} {nL : Nat} {ret : Option FieldType} {hh : List (Nat × Nat × Nat × Nat)} {kf : Nat} {G : gG} {Qv : Option Value → gM → Prop} {E : String → Nat → gM → Prop} {w : gM → Nat → List (Nat × Value) → List Value → Prop} {M : gM} {pc : Nat} {lv : List (Nat × Value)} {rest : List Value} (hw : gX y0 cc nL ret hh kf G Qv E w) (hy : y0.cls = RX1) {c : Nat} {x : Int32} (d : decode cc pc = .ok (.putfield 237, 3)) (hk : gk M c = 1) (kk : w (gsI M c 15 x) (pc + 3) lv rest) : w M pc lv (.int x :: .ref (gA G c) :: rest) := by
  obtain ⟨cls9, nm9, ds9⟩ := y0
  subst hy
  exact g_putC (C := RX1) (T := TX1) (N := 28) (ci := 0) hw in_X1 tyX1 tyX1_ok nmX1 rfl 15 (by decide) (Or.inl ⟨q287, Or.inl rfl⟩) rfl rfl (gOne_I M c 15 x) (by show Value.int (gI (gsI M c 15 x) c 15) = _; rw [gI_sI, if_pos ⟨rfl, rfl⟩]) d hk kk
theorem sX1_7 {y0 : MethodName} {cc : ByteArray} {nL : Nat} {ret : Option FieldType} {hh : List (Nat × Nat × Nat × Nat)} {kf : Nat} {G : gG} {Qv : Option Value → gM → Prop} {E : String → Nat → gM → Prop} {w : gM → Nat → List (Nat × Value) → List Value → Prop} {M : gM} {pc : Nat} {lv : List (Nat × Value)} {rest : List Value} (hw : gX y0 cc nL ret hh kf G Qv E w) (hy : y0.cls = RX1) {p1 : Int64} {Q : Int64 → gM → Prop} (d : decode cc pc = .ok (.invokestatic 7, 3)) (hrest : Nat.ble ((rest.map Value.category).sum) 8 = true) (hk : 1 + 1 ≤ kf) (h : fJ0_abs p1 M Q) (kk : ∀ r M1, Q r M1 → w M1 (pc + 3) lv (.long r :: rest)) : w M pc lv (.long p1 :: rest) := by
  obtain ⟨cls9, nm9, ds9⟩ := y0
  subst hy
  exact g_callS hw [.long p1] (nA := 1) rfl d q467 q468 q105 q469 (by decide +kernel) rfl hrest rfl (by omega : kf - 1 + 1 ≤ kf) (mJ0_abs (kf := kf - 1) (by omega) G p1 M Q h) (fun _ _ _ q => q.elim) (fun v M1 h => by obtain ⟨r, rfl, h⟩ := h; exact kk r M1 h)
theorem gfX1_240 {y0 : MethodName} {cc : ByteArray} {nL : Nat} {ret : Option FieldType} {hh : List (Nat × Nat × Nat × Nat)} {kf : Nat} {G : gG} {Qv : Option Value → gM → Prop} {E : String → Nat → gM → Prop} {w : gM → Nat → List (Nat × Value) → List Value → Prop} {M : gM} {pc : Nat} {lv : List (Nat × Value)} {rest : List Value} (hw : gX y0 cc nL ret hh kf G Qv E w) (hy : y0.cls = RX1) {c : Nat} (d : decode cc pc = .ok (.getfield 240, 3)) (hk : gk M c = 1) (kk : w M (pc + 3) lv (.long (gL M c 14) :: rest)) : w M pc lv (.ref (gA G c) :: rest) := by
  obtain ⟨cls9, nm9, ds9⟩ := y0
  subst hy
  exact g_getC (C := RX1) (T := TX1) (N := 28) (ci := 0) hw in_X1 rfl 14 (by decide) (Or.inl q286) rfl d hk kk
theorem gfX1_243 {y0 : MethodName} {cc : ByteArray} {nL : Nat} {ret : Option FieldType} {hh : List (Nat × Nat × Nat × Nat)} {kf : Nat} {G : gG} {Qv : Option Value → gM → Prop} {E : String → Nat → gM → Prop} {w : gM → Nat → List (Nat × Value) → List Value → Prop} {M : gM} {pc : Nat} {lv : List (Nat × Value)} {rest : List Value} (hw : gX y0 cc nL ret hh kf G Qv E w) (hy : y0.cls = RX1) {c : Nat} (d : decode cc pc = .ok (.getfield 243, 3)) (hk : gk M c = 1) (kk : w M (pc + 3) lv (.long (gL M c 13) :: rest)) : w M pc lv (.ref (gA G c) :: rest) := by
  obtain ⟨cls9, nm9, ds9⟩ := y0
  subst hy
  exact g_getC (C := RX1) (T := TX1) (N := 28) (ci := 0) hw in_X1 rfl 13 (by decide) (Or.inl q285) rfl d hk kk
theorem pfX1_243 {y0 : MethodName} {cc : ByteArray} {nL : Nat} {ret : Option FieldType} {hh : List (Nat × Nat × Nat × Nat)} {kf : Nat} {G : gG} {Qv : Option Value → gM → Prop} {E : String → Nat → gM → Prop} {w : gM → Nat → List (Nat × Value) → List Value → Prop} {M : gM} {pc : Nat} {lv : List (Nat × Value)} {rest : List Value} (hw : gX y0 cc nL ret hh kf G Qv E w) (hy : y0.cls = RX1) {c : Nat} {x : Int64} (d : decode cc pc = .ok (.putfield 243, 3)) (hk : gk M c = 1) (kk : w (gsL M c 13 x) (pc + 3) lv rest) : w M pc lv (.long x :: .ref (gA G c) :: rest) := by
  obtain ⟨cls9, nm9, ds9⟩ := y0
  subst hy
  exact g_putC (C := RX1) (T := TX1) (N := 28) (ci := 0) hw in_X1 tyX1 tyX1_ok nmX1 rfl 13 (by decide) (Or.inl ⟨q285, Or.inl rfl⟩) rfl rfl (gOne_L M c 13 x) (by show Value.long (gL (gsL M c 13 x) c 13) = _; rw [gL_sL, if_pos ⟨rfl, rfl⟩]) d hk kk
def fX1_deals_L56s (P : Int32 → Int32 → Int64 → Int32 → Int32 → Int64 → gM → (gM → Prop) → Prop) (R56 : Int32 → gM → Prop) (K98_56 : gM → Prop) (l2_2 : Int32) (l3_3 : Int64) (l5_4 : Int32) (l6_5 : Int32) (l7_6 : Int64) (l9_7 : Int32) (M : gM) (Q : gM → Prop) : Prop :=
  (if (l6_5 - l2_2) < l9_7 then K98_56 M else gk M 16 = 1 ∧ gdr (gR M 16 12) (fun a10 => gk M a10 = 40 ∧ vp_in l9_7 (gl M a10) ∧ P (l9_7 + 1) (l2_2 - 1) (l3_3 + ((gI M a10 l9_7.toNatClampNeg).toInt64)) l5_4 l6_5 l7_6 M (fun M14 => R56 (l9_7 + 1) M14)))
def fX1_deals_L56 (P : Int32 → Int32 → Int64 → Int32 → Int32 → Int64 → gM → (gM → Prop) → Prop) (K98_56 : gM → Prop) (l2_2 : Int32) (l3_3 : Int64) (l5_4 : Int32) (l6_5 : Int32) (l7_6 : Int64) (Q : gM → Prop) : Nat → Int32 → gM → Prop
  | 0 => fun _ _ => False
  | n + 1 => fun l9_7 M => fX1_deals_L56s P (fX1_deals_L56 P K98_56 l2_2 l3_3 l5_4 l6_5 l7_6 Q n) K98_56 l2_2 l3_3 l5_4 l6_5 l7_6 l9_7 M Q
theorem wX1_deals_L56s {kf : Nat} {G : gG} {w : gM → Nat → List (Nat × Value) → List Value → Prop} {Q : gM → Prop} (hw : gX yX1_deals cX1_deals 10 (Option.none : Option FieldType) [] kf G (gQv Q) gE0 w) {v : Nat} {P : Int32 → Int32 → Int64 → Int32 → Int32 → Int64 → gM → (gM → Prop) → Prop} (hkf : v + 1 ≤ kf) (hv : 1 ≤ v) (hP : ∀ (kf : Nat) (p1 : Int32) (p2 : Int32) (p3 : Int64) (p4 : Int32) (p5 : Int32) (p6 : Int64) (M : gM) (Q : gM → Prop), v ≤ kf → P p1 p2 p3 p4 p5 p6 M Q → gMet yX1_deals cX1_deals 10 (Option.none : Option FieldType) kf G M [.ref (gA G 16), .int p1, .int p2, .long p3, .int p4, .int p5, .long p6] (gQv Q) gE0) {R56 : Int32 → gM → Prop} {K98_56 : gM → Prop} {l2_2 : Int32} {l3_3 : Int64} {l5_4 : Int32} {l6_5 : Int32} {l7_6 : Int64} {l9_7 : Int32} {M : gM} (hR56 : ∀ (v0 : Int32) (M : gM), R56 v0 M → w M 56 [(0, .ref (gA G 16)), (2, .int l2_2), (3, .long l3_3), (5, .int l5_4), (6, .int l6_5), (7, .long l7_6), (9, .int v0)] []) (hK98_56 : ∀  (M : gM), K98_56 M → w M 98 [] []) (h : fX1_deals_L56s P R56 K98_56 l2_2 l3_3 l5_4 l6_5 l7_6 l9_7 M Q) : w M 56 [(0, .ref (gA G 16)), (2, .int l2_2), (3, .long l3_3), (5, .int l5_4), (6, .int l6_5), (7, .long l7_6), (9, .int l9_7)] [] := by
  unfold fX1_deals_L56s at h
  refine g_iload hw 6 dX1_deals_56 rfl ?_
  refine g_iload hw 4 dX1_deals_58 rfl ?_
  refine g_iload_n hw 1 dX1_deals_60 rfl ?_
  refine g_isub hw dX1_deals_61 ?_
  refine g_icmp_gt (tgt := 98) hw dX1_deals_62 (by decide) (fun hb8 => ?_) (fun hb8 => ?_)
  · have h := gT h hb8
    refine g_sub hw (lv2 := []) [] rfl ?_
    exact hK98_56 M h
  · have h := gF h hb8
    refine g_aload_n hw 0 dX1_deals_65 rfl ?_
    refine g_iload hw 6 dX1_deals_66 rfl ?_
    refine g_iconst (v := 1) hw dX1_deals_68 (by decide) ?_
    refine g_iadd hw dX1_deals_69 ?_
    refine g_iload_n hw 1 dX1_deals_70 rfl ?_
    refine g_iconst (v := 1) hw dX1_deals_71 (by decide) ?_
    refine g_isub hw dX1_deals_72 ?_
    refine g_lload_n hw 2 dX1_deals_73 rfl ?_
    refine g_aload_n hw 0 dX1_deals_74 rfl ?_
    obtain ⟨hk9, h⟩ := h
    obtain ⟨a10, e11, h⟩ := h
    refine gfX1_73 (q := some a10) hw rfl dX1_deals_75 hk9 e11 ?_
    refine g_iload hw 6 dX1_deals_78 rfl ?_
    obtain ⟨hk12, h⟩ := h
    obtain ⟨hi13, h⟩ := h
    refine g_iald (n := l9_7.toNatClampNeg) hw dX1_deals_80 hk12 hi13 rfl ?_
    refine g_i2l hw dX1_deals_81 ?_
    refine g_ladd hw dX1_deals_82 ?_
    refine g_iload hw 3 dX1_deals_83 rfl ?_
    refine g_iload hw 4 dX1_deals_85 rfl ?_
    refine g_lload hw 5 dX1_deals_87 rfl ?_
    refine sX1_246P hw rfl dX1_deals_89 rfl hkf hv hP hk9 h (fun M14 h => ?_)
    refine g_iinc hw (lv2 := [(0, .ref (gA G 16)), (2, .int l2_2), (3, .long l3_3), (5, .int l5_4), (6, .int l6_5), (7, .long l7_6), (9, .int (l9_7 + 1))]) 6 [1, 2, 3, 4, 5, 6, 0] dX1_deals_92 rfl (by decide) rfl rfl ?_
    refine g_goto (tgt := 56) hw dX1_deals_95 (by decide) ?_
    exact hR56 (l9_7 + 1) M14 h
theorem wX1_deals_L56 {kf : Nat} {G : gG} {w : gM → Nat → List (Nat × Value) → List Value → Prop} {Q : gM → Prop} (hw : gX yX1_deals cX1_deals 10 (Option.none : Option FieldType) [] kf G (gQv Q) gE0 w) {v : Nat} {P : Int32 → Int32 → Int64 → Int32 → Int32 → Int64 → gM → (gM → Prop) → Prop} (hkf : v + 1 ≤ kf) (hv : 1 ≤ v) (hP : ∀ (kf : Nat) (p1 : Int32) (p2 : Int32) (p3 : Int64) (p4 : Int32) (p5 : Int32) (p6 : Int64) (M : gM) (Q : gM → Prop), v ≤ kf → P p1 p2 p3 p4 p5 p6 M Q → gMet yX1_deals cX1_deals 10 (Option.none : Option FieldType) kf G M [.ref (gA G 16), .int p1, .int p2, .long p3, .int p4, .int p5, .long p6] (gQv Q) gE0) {K98_56 : gM → Prop} {l2_2 : Int32} {l3_3 : Int64} {l5_4 : Int32} {l6_5 : Int32} {l7_6 : Int64} (hK98_56 : ∀  (M : gM), K98_56 M → w M 98 [] []) : ∀ (n : Nat) (l9_7 : Int32) (M : gM), fX1_deals_L56 P K98_56 l2_2 l3_3 l5_4 l6_5 l7_6 Q n l9_7 M → w M 56 [(0, .ref (gA G 16)), (2, .int l2_2), (3, .long l3_3), (5, .int l5_4), (6, .int l6_5), (7, .long l7_6), (9, .int l9_7)] [] := by
  intro n
  induction n with
  | zero => intro l9_7 M h; exact h.elim
  | succ n ih => intro l9_7 M h; exact wX1_deals_L56s hw hkf hv hP ih hK98_56 h
def fX1_deals_s (P : Int32 → Int32 → Int64 → Int32 → Int32 → Int64 → gM → (gM → Prop) → Prop) (p1 : Int32) (p2 : Int32) (p3 : Int64) (p4 : Int32) (p5 : Int32) (p6 : Int64) (M : gM) (Q : gM → Prop) : Prop :=
  (if p2 = 0 then gk M 16 = 1 ∧ fJ0_abs ((p3 * ((p5 - p4).toInt64)) - ((p6 - p3) * p4.toInt64)) (gsI M 16 15 ((gI M 16 15) + 1)) (fun r19 M18 => gk M18 16 = 1 ∧ (if (lg_cmp r19 (gL M18 16 14)) < 0 then Q M18 else Q (gsL M18 16 13 ((gL M18 16 13) + 1)))) else ∃ n, fX1_deals_L56 P (fun M16 => Q M16) p2 p3 p4 p5 p6 Q n p1 M)
theorem mX1_deals_s {kf : Nat} (G : gG) {v : Nat} {P : Int32 → Int32 → Int64 → Int32 → Int32 → Int64 → gM → (gM → Prop) → Prop} (hkf : v + 1 ≤ kf) (hv : 1 ≤ v) (hP : ∀ (kf : Nat) (p1 : Int32) (p2 : Int32) (p3 : Int64) (p4 : Int32) (p5 : Int32) (p6 : Int64) (M : gM) (Q : gM → Prop), v ≤ kf → P p1 p2 p3 p4 p5 p6 M Q → gMet yX1_deals cX1_deals 10 (Option.none : Option FieldType) kf G M [.ref (gA G 16), .int p1, .int p2, .long p3, .int p4, .int p5, .long p6] (gQv Q) gE0) (p1 : Int32) (p2 : Int32) (p3 : Int64) (p4 : Int32) (p5 : Int32) (p6 : Int64) (M : gM) (Q : gM → Prop) (h : fX1_deals_s P p1 p2 p3 p4 p5 p6 M Q) : gMet yX1_deals cX1_deals 10 (Option.none : Option FieldType) kf G M [.ref (gA G 16), .int p1, .int p2, .long p3, .int p4, .int p5, .long p6] (gQv Q) gE0 := by
  refine g_intro (lv := [(0, .ref (gA G 16)), (1, .int p1), (2, .int p2), (3, .long p3), (5, .int p4), (6, .int p5), (7, .long p6)]) (by decide) rfl rfl (fun w hw => ?_)
  unfold fX1_deals_s at h
  refine g_iload_n hw 2 dX1_deals_0 rfl ?_
  refine g_if_ne (tgt := 53) hw dX1_deals_1 (by decide) (fun hb1 => ?_) (fun hb1 => ?_)
  · have h := gF h hb1
    refine g_iload_n hw 1 dX1_deals_53 rfl ?_
    refine g_istore hw (lv2 := [(0, .ref (gA G 16)), (2, .int p2), (3, .long p3), (5, .int p4), (6, .int p5), (7, .long p6), (9, .int p1)]) [1, 3, 4, 5, 6, 7, 0] dX1_deals_54 rfl rfl ?_
    obtain ⟨n9, h⟩ := h
    refine wX1_deals_L56 hw hkf hv hP (fun M16 h => ?_) n9 p1 M h
    exact g_vret hw dX1_deals_98 ⟨rfl, h⟩
  · have h := gT h hb1
    refine g_aload_n hw 0 dX1_deals_4 rfl ?_
    refine g_dup hw dX1_deals_5 rfl ?_
    obtain ⟨hk17, h⟩ := h
    refine gfX1_237 hw rfl dX1_deals_6 hk17 ?_
    refine g_iconst (v := 1) hw dX1_deals_9 (by decide) ?_
    refine g_iadd hw dX1_deals_10 ?_
    refine pfX1_237 hw rfl dX1_deals_11 hk17 ?_
    refine g_lload_n hw 3 dX1_deals_14 rfl ?_
    refine g_iload hw 5 dX1_deals_15 rfl ?_
    refine g_iload hw 4 dX1_deals_17 rfl ?_
    refine g_isub hw dX1_deals_19 ?_
    refine g_i2l hw dX1_deals_20 ?_
    refine g_lmul hw dX1_deals_21 ?_
    refine g_lload hw 6 dX1_deals_22 rfl ?_
    refine g_lload_n hw 3 dX1_deals_24 rfl ?_
    refine g_lsub hw dX1_deals_25 ?_
    refine g_iload hw 4 dX1_deals_26 rfl ?_
    refine g_i2l hw dX1_deals_28 ?_
    refine g_lmul hw dX1_deals_29 ?_
    refine g_lsub hw dX1_deals_30 ?_
    refine sX1_7 hw rfl dX1_deals_31 rfl (by omega) h (fun r19 M18 h => ?_)
    refine g_aload_n hw 0 dX1_deals_34 rfl ?_
    obtain ⟨hk20, h⟩ := h
    refine gfX1_240 hw rfl dX1_deals_35 hk20 ?_
    refine g_lcmp hw dX1_deals_38 ?_
    refine g_if_lt (tgt := 52) hw dX1_deals_39 (by decide) (fun hb21 => ?_) (fun hb21 => ?_)
    · have h := gT h hb21
      exact g_vret hw dX1_deals_52 ⟨rfl, h⟩
    · have h := gF h hb21
      refine g_aload_n hw 0 dX1_deals_42 rfl ?_
      refine g_dup hw dX1_deals_43 rfl ?_
      refine gfX1_243 hw rfl dX1_deals_44 hk20 ?_
      refine g_lconst (v := 1) hw dX1_deals_47 (by decide) ?_
      refine g_ladd hw dX1_deals_48 ?_
      refine pfX1_243 hw rfl dX1_deals_49 hk20 ?_
      exact g_vret hw dX1_deals_52 ⟨rfl, h⟩
def fX1_deals : Nat → Int32 → Int32 → Int64 → Int32 → Int32 → Int64 → gM → (gM → Prop) → Prop
  | 0 => fun _ _ _ _ _ _ _ _ => False
  | n + 1 => fun p1 p2 p3 p4 p5 p6 M Q => fX1_deals_s (fX1_deals n) p1 p2 p3 p4 p5 p6 M Q
theorem mX1_deals (G : gG) : ∀ (n kf : Nat) (p1 : Int32) (p2 : Int32) (p3 : Int64) (p4 : Int32) (p5 : Int32) (p6 : Int64) (M : gM) (Q : gM → Prop), 1 * n + 1 ≤ kf → fX1_deals n p1 p2 p3 p4 p5 p6 M Q → gMet yX1_deals cX1_deals 10 (Option.none : Option FieldType) kf G M [.ref (gA G 16), .int p1, .int p2, .long p3, .int p4, .int p5, .long p6] (gQv Q) gE0 := by
  intro n
  induction n with
  | zero => intro kf p1 p2 p3 p4 p5 p6 M Q hk h; exact h.elim
  | succ n ih => intro kf p1 p2 p3 p4 p5 p6 M Q hk h; exact mX1_deals_s G (v := 1 * n + 1) (P := fX1_deals n) (by omega) (by omega) (fun kf p1 p2 p3 p4 p5 p6 M Q hk h => ih kf p1 p2 p3 p4 p5 p6 M Q hk h) p1 p2 p3 p4 p5 p6 M Q h
theorem sX1_1P {y0 : MethodName} {cc : ByteArray} {nL : Nat} {ret : Option FieldType} {hh : List (Nat × Nat × Nat × Nat)} {kf : Nat} {G : gG} {Qv : Option Value → gM → Prop} {E : String → Nat → gM → Prop} {w : gM → Nat → List (Nat × Value) → List Value → Prop} {M : gM} {pc : Nat} {lv : List (Nat × Value)} {rest : List Value} (hw : gX y0 cc nL ret hh kf G Qv E w) (hy : y0.cls = RX1) {p1 : Int64} {p2 : Int64} {Q : Int64 → gM → Prop} (d : decode cc pc = .ok (.invokestatic 1, 3)) (hrest : Nat.ble ((rest.map Value.category).sum) 8 = true) {v : Nat} {P : Int64 → Int64 → gM → (Int64 → gM → Prop) → Prop} {j : Nat} (hk : v + (j + 1) ≤ kf) (hv : 1 ≤ v) (hP : ∀ (kf : Nat) (p1 : Int64) (p2 : Int64) (M : gM) (Q : Int64 → gM → Prop), v ≤ kf → P p1 p2 M Q → gMet yX1_gcd cX1_gcd 4 (Option.some FieldType.long) kf G M [.long p1, .long p2] (gQl Q) gE0) (h : P p1 p2 M Q) (kk : ∀ r M1, Q r M1 → w M1 (pc + 3) lv (.long r :: rest)) : w M pc lv (.long p2 :: .long p1 :: rest) := by
  obtain ⟨cls9, nm9, ds9⟩ := y0
  subst hy
  exact g_callS hw [.long p1, .long p2] (nA := 2) rfl d q477 q478 q98 q479 (by decide +kernel) rfl hrest rfl (by omega : kf - 1 + 1 ≤ kf) (hP (kf - 1) p1 p2 M Q (by omega) h) (fun _ _ _ q => q.elim) (fun v M1 h => by obtain ⟨r, rfl, h⟩ := h; exact kk r M1 h)
def fX1_gcd_s (P : Int64 → Int64 → gM → (Int64 → gM → Prop) → Prop) (p1 : Int64) (p2 : Int64) (M : gM) (Q : Int64 → gM → Prop) : Prop :=
  (if (lg_cmp p2 0) = 0 then Q p1 M else (¬ p2 = 0) ∧ P p2 (p1 - p1 / p2 * p2) M (fun r4 M3 => Q r4 M3))
theorem mX1_gcd_s {kf : Nat} (G : gG) {v : Nat} {P : Int64 → Int64 → gM → (Int64 → gM → Prop) → Prop} (hkf : v + 1 ≤ kf) (hv : 1 ≤ v) (hP : ∀ (kf : Nat) (p1 : Int64) (p2 : Int64) (M : gM) (Q : Int64 → gM → Prop), v ≤ kf → P p1 p2 M Q → gMet yX1_gcd cX1_gcd 4 (Option.some FieldType.long) kf G M [.long p1, .long p2] (gQl Q) gE0) (p1 : Int64) (p2 : Int64) (M : gM) (Q : Int64 → gM → Prop) (h : fX1_gcd_s P p1 p2 M Q) : gMet yX1_gcd cX1_gcd 4 (Option.some FieldType.long) kf G M [.long p1, .long p2] (gQl Q) gE0 := by
  refine g_intro (lv := [(0, .long p1), (2, .long p2)]) (by decide) rfl rfl (fun w hw => ?_)
  unfold fX1_gcd_s at h
  refine g_lload_n hw 1 dX1_gcd_0 rfl ?_
  refine g_lconst (v := 0) hw dX1_gcd_1 (by decide) ?_
  refine g_lcmp hw dX1_gcd_2 ?_
  refine g_if_ne (tgt := 10) hw dX1_gcd_3 (by decide) (fun hb1 => ?_) (fun hb1 => ?_)
  · have h := gF h hb1
    refine g_lload_n hw 1 dX1_gcd_10 rfl ?_
    refine g_lload_n hw 0 dX1_gcd_11 rfl ?_
    refine g_lload_n hw 1 dX1_gcd_12 rfl ?_
    obtain ⟨hc2, h⟩ := h
    refine g_lrem hw dX1_gcd_13 hc2 ?_
    refine sX1_1P hw rfl dX1_gcd_14 rfl hkf hv hP h (fun r4 M3 h => ?_)
    exact g_lret hw dX1_gcd_17 ⟨_, rfl, h⟩
  · have h := gT h hb1
    refine g_lload_n hw 0 dX1_gcd_6 rfl ?_
    refine g_goto (tgt := 17) hw dX1_gcd_7 (by decide) ?_
    exact g_lret hw dX1_gcd_17 ⟨_, rfl, h⟩
def fX1_gcd : Nat → Int64 → Int64 → gM → (Int64 → gM → Prop) → Prop
  | 0 => fun _ _ _ _ => False
  | n + 1 => fun p1 p2 M Q => fX1_gcd_s (fX1_gcd n) p1 p2 M Q
theorem mX1_gcd (G : gG) : ∀ (n kf : Nat) (p1 : Int64) (p2 : Int64) (M : gM) (Q : Int64 → gM → Prop), 1 * n + 1 ≤ kf → fX1_gcd n p1 p2 M Q → gMet yX1_gcd cX1_gcd 4 (Option.some FieldType.long) kf G M [.long p1, .long p2] (gQl Q) gE0 := by
  intro n
  induction n with
  | zero => intro kf p1 p2 M Q hk h; exact h.elim
  | succ n ih => intro kf p1 p2 M Q hk h; exact mX1_gcd_s G (v := 1 * n + 1) (P := fX1_gcd n) (by omega) (by omega) (fun kf p1 p2 M Q hk h => ih kf p1 p2 M Q hk h) p1 p2 M Q h
theorem sX1_1 {y0 : MethodName} {cc : ByteArray} {nL : Nat} {ret : Option FieldType} {hh : List (Nat × Nat × Nat × Nat)} {kf : Nat} {G : gG} {Qv : Option Value → gM → Prop} {E : String → Nat → gM → Prop} {w : gM → Nat → List (Nat × Value) → List Value → Prop} {M : gM} {pc : Nat} {lv : List (Nat × Value)} {rest : List Value} (hw : gX y0 cc nL ret hh kf G Qv E w) (hy : y0.cls = RX1) {p1 : Int64} {p2 : Int64} {Q : Int64 → gM → Prop} (d : decode cc pc = .ok (.invokestatic 1, 3)) (hrest : Nat.ble ((rest.map Value.category).sum) 8 = true) {n : Nat} (hk : 101 + 1 ≤ kf) (hn : n ≤ 100) (h : fX1_gcd n p1 p2 M Q) (kk : ∀ r M1, Q r M1 → w M1 (pc + 3) lv (.long r :: rest)) : w M pc lv (.long p2 :: .long p1 :: rest) := by
  obtain ⟨cls9, nm9, ds9⟩ := y0
  subst hy
  exact g_callS hw [.long p1, .long p2] (nA := 2) rfl d q477 q478 q98 q479 (by decide +kernel) rfl hrest rfl (by omega : kf - 1 + 1 ≤ kf) (mX1_gcd G n (kf - 1) p1 p2 M Q (by omega) h) (fun _ _ _ q => q.elim) (fun v M1 h => by obtain ⟨r, rfl, h⟩ := h; exact kk r M1 h)
def fX1_lowest (p1 : Int64) (p2 : Int64) (p3 : Int32) (M : gM) (Q : Int64 → gM → Prop) : Prop :=
  fJ0_abs p1 M (fun r2 M1 => ∃ n9, n9 ≤ 100 ∧ fX1_gcd n9 r2 p2 M1 (fun r4 M3 => (if p3 = 0 then (¬ r4 = 0) ∧ Q (p1 / r4) M3 else (¬ r4 = 0) ∧ Q (p2 / r4) M3)))
theorem mX1_lowest {kf : Nat} (hkf : 102 ≤ kf) (G : gG) (p1 : Int64) (p2 : Int64) (p3 : Int32) (M : gM) (Q : Int64 → gM → Prop) (h : fX1_lowest p1 p2 p3 M Q) : gMet yX1_lowest cX1_lowest 7 (Option.some FieldType.long) kf G M [.long p1, .long p2, .int p3] (gQl Q) gE0 := by
  refine g_intro (lv := [(0, .long p1), (2, .long p2), (4, .int p3)]) (by decide) rfl rfl (fun w hw => ?_)
  unfold fX1_lowest at h
  refine g_lload_n hw 0 dX1_lowest_0 rfl ?_
  refine sX1_7 hw rfl dX1_lowest_1 rfl (gK2 hkf) h (fun r2 M1 h => ?_)
  refine g_lload_n hw 1 dX1_lowest_4 rfl ?_
  obtain ⟨n9, hn9, h⟩ := h
  refine sX1_1 hw rfl dX1_lowest_5 rfl (gK2 hkf) hn9 h (fun r4 M3 h => ?_)
  refine g_lstore hw (lv2 := [(0, .long p1), (2, .long p2), (4, .int p3), (5, .long r4)]) [1, 2, 3, 0] dX1_lowest_8 rfl rfl ?_
  refine g_iload hw 2 dX1_lowest_10 rfl ?_
  refine g_if_ne (tgt := 19) hw dX1_lowest_12 (by decide) (fun hb5 => ?_) (fun hb5 => ?_)
  · have h := gF h hb5
    refine g_lload_n hw 1 dX1_lowest_19 rfl ?_
    refine g_lload hw 3 dX1_lowest_20 rfl ?_
    obtain ⟨hc6, h⟩ := h
    refine g_ldiv hw dX1_lowest_22 hc6 ?_
    exact g_lret hw dX1_lowest_23 ⟨_, rfl, h⟩
  · have h := gT h hb5
    refine g_lload_n hw 0 dX1_lowest_15 rfl ?_
    refine g_goto (tgt := 20) hw dX1_lowest_16 (by decide) ?_
    refine g_lload hw 3 dX1_lowest_20 rfl ?_
    obtain ⟨hc7, h⟩ := h
    refine g_ldiv hw dX1_lowest_22 hc7 ?_
    exact g_lret hw dX1_lowest_23 ⟨_, rfl, h⟩
