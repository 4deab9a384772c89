set_option maxRecDepth 100000
def fX2_init  (M : gM) (Q : gM → Prop) : Prop :=
  Q M
theorem mX2_init {kf : Nat} (hkf : 1 ≤ kf) (G : gG)  (M : gM) (Q : gM → Prop) (h : fX2_init M Q) : gMet yX2_init cX2_init 1 (Option.none : Option FieldType) kf G M [.ref (gA G 25)] (gQv Q) gE0 := by
  refine g_intro (lv := [(0, .ref (gA G 25))]) (by decide) rfl rfl (fun w hw => ?_)
  unfold fX2_init at h
  refine g_aload_n hw 0 dX2_init_0 rfl ?_
  refine g_objInit hw dX2_init_1 q140 q129 q130 rfl (gK1 hkf) ?_
  exact g_vret hw dX2_init_4 ⟨rfl, h⟩
theorem gfX2_15 {y0 : MethodName} {cc : ByteArray} {nL : Nat} {ret : Option FieldType} {hh : List (Nat × Nat × Nat × Nat)} {kf : Nat} {G : gG} {Qv : Option Value → gM → Prop} {E : String → Nat → gM → Prop} {w : gM → Nat → List (Nat × Value) → List Value → Prop} {M : gM} {pc : Nat} {lv : List (Nat × Value)} {rest : List Value} (hw : gX y0 cc nL ret hh kf G Qv E w) (hy : y0.cls = RX2) {c : Nat} (d : decode cc pc = .ok (.getfield 15, 3)) (hk : gk M c = 2) (kk : w M (pc + 3) lv (.int (gI M c 1) :: rest)) : w M pc lv (.ref (gA G c) :: rest) := by
  obtain ⟨cls9, nm9, ds9⟩ := y0
  subst hy
  exact g_getC (C := RX2) (T := TX2) (N := 8) (ci := 1) hw in_X2 rfl 1 (by decide) (Or.inl q142) rfl d hk kk
theorem gfX2_9 {y0 : MethodName} {cc : ByteArray} {nL : Nat} {ret : Option FieldType} {hh : List (Nat × Nat × Nat × Nat)} {kf : Nat} {G : gG} {Qv : Option Value → gM → Prop} {E : String → Nat → gM → Prop} {w : gM → Nat → List (Nat × Value) → List Value → Prop} {M : gM} {pc : Nat} {lv : List (Nat × Value)} {rest : List Value} (hw : gX y0 cc nL ret hh kf G Qv E w) (hy : y0.cls = RX2) {c : Nat} {q : Option Nat} (d : decode cc pc = .ok (.getfield 9, 3)) (hk : gk M c = 2) (hq : gR M c 0 = q) (kk : w M (pc + 3) lv (va_rf (q.map (gA G)) :: rest)) : w M pc lv (.ref (gA G c) :: rest) := by
  obtain ⟨cls9, nm9, ds9⟩ := y0
  subst hy
  subst hq
  exact g_getC (C := RX2) (T := TX2) (N := 8) (ci := 1) hw in_X2 rfl 0 (by decide) (Or.inl q141) rfl d hk kk
def fX2_at (p1 : Int32) (M : gM) (Q : Int32 → gM → Prop) : Prop :=
  gk M 25 = 2 ∧ (if (gI M 25 1) ≤ p1 then Q 0 M else gdr (gR M 25 0) (fun a3 => gk M a3 = 42 ∧ vp_in p1 (gl M a3) ∧ Q (gI M a3 p1.toNatClampNeg) M))
theorem mX2_at {kf : Nat} (hkf : 1 ≤ kf) (G : gG) (p1 : Int32) (M : gM) (Q : Int32 → gM → Prop) (h : fX2_at p1 M Q) : gMet yX2_at cX2_at 2 (Option.some FieldType.int) kf G M [.ref (gA G 25), .int p1] (gQi Q) gE0 := by
  refine g_intro (lv := [(0, .ref (gA G 25)), (1, .int p1)]) (by decide) rfl rfl (fun w hw => ?_)
  unfold fX2_at at h
  refine g_iload_n hw 1 dX2_at_0 rfl ?_
  refine g_aload_n hw 0 dX2_at_1 rfl ?_
  obtain ⟨hk1, h⟩ := h
  refine gfX2_15 hw rfl dX2_at_2 hk1 ?_
  refine g_icmp_ge (tgt := 17) hw dX2_at_5 (by decide) (fun hb2 => ?_) (fun hb2 => ?_)
  · have h := gT h hb2
    refine g_iconst (v := 0) hw dX2_at_17 (by decide) ?_
    exact g_iret hw dX2_at_18 rfl ⟨_, rfl, h⟩
  · have h := gF h hb2
    refine g_aload_n hw 0 dX2_at_8 rfl ?_
    obtain ⟨a3, e4, h⟩ := h
    refine gfX2_9 (q := some a3) hw rfl dX2_at_9 hk1 e4 ?_
    refine g_iload_n hw 1 dX2_at_12 rfl ?_
    obtain ⟨hk5, h⟩ := h
    obtain ⟨hi6, h⟩ := h
    refine g_bald (n := p1.toNatClampNeg) hw dX2_at_13 hk5 hi6 rfl ?_
    refine g_goto (tgt := 18) hw dX2_at_14 (by decide) ?_
    exact g_iret hw dX2_at_18 rfl ⟨_, rfl, h⟩
def fX2_isLetter_b16  (M : gM) (Q : Int32 → gM → Prop) : Prop :=
  Q 0 M
theorem wX2_isLetter_b16 {kf : Nat} {G : gG} {w : gM → Nat → List (Nat × Value) → List Value → Prop} {Q : Int32 → gM → Prop} (hw : gX yX2_isLetter cX2_isLetter 1 (Option.some FieldType.boolean) [] kf G (gQi Q) gE0 w) (hkf : 1 ≤ kf)   {M : gM}  (h : fX2_isLetter_b16 M Q) : w M 16 [] [] := by
  unfold fX2_isLetter_b16 at h
  refine g_iconst (v := 0) hw dX2_isLetter_16 (by decide) ?_
  exact g_iret hw dX2_isLetter_17 (by decide +kernel) ⟨_, rfl, h⟩
def fX2_isLetter (p1 : Int32) (M : gM) (Q : Int32 → gM → Prop) : Prop :=
  (if p1 < 97 then fX2_isLetter_b16 M Q else (if 122 < p1 then fX2_isLetter_b16 M Q else Q 1 M))
theorem mX2_isLetter {kf : Nat} (hkf : 1 ≤ kf) (G : gG) (p1 : Int32) (M : gM) (Q : Int32 → gM → Prop) (h : fX2_isLetter p1 M Q) : gMet yX2_isLetter cX2_isLetter 1 (Option.some FieldType.boolean) kf G M [.int p1] (gQi Q) gE0 := by
  refine g_intro (lv := [(0, .int p1)]) (by decide) rfl rfl (fun w hw => ?_)
  unfold fX2_isLetter at h
  refine g_iload_n hw 0 dX2_isLetter_0 rfl ?_
  refine g_bipush (v := 97) hw dX2_isLetter_1 (by decide) ?_
  refine g_icmp_lt (tgt := 16) hw dX2_isLetter_3 (by decide) (fun hb1 => ?_) (fun hb1 => ?_)
  · have h := gT h hb1
    refine g_sub hw (lv2 := []) [] rfl ?_
    exact wX2_isLetter_b16 hw hkf h
  · have h := gF h hb1
    refine g_iload_n hw 0 dX2_isLetter_6 rfl ?_
    refine g_bipush (v := 122) hw dX2_isLetter_7 (by decide) ?_
    refine g_icmp_gt (tgt := 16) hw dX2_isLetter_9 (by decide) (fun hb2 => ?_) (fun hb2 => ?_)
    · have h := gT h hb2
      refine g_sub hw (lv2 := []) [] rfl ?_
      exact wX2_isLetter_b16 hw hkf h
    · have h := gF h hb2
      refine g_iconst (v := 1) hw dX2_isLetter_12 (by decide) ?_
      refine g_goto (tgt := 17) hw dX2_isLetter_13 (by decide) ?_
      exact g_iret hw dX2_isLetter_17 (by decide +kernel) ⟨_, rfl, h⟩
def fX2_isDigit_b16  (M : gM) (Q : Int32 → gM → Prop) : Prop :=
  Q 0 M
theorem wX2_isDigit_b16 {kf : Nat} {G : gG} {w : gM → Nat → List (Nat × Value) → List Value → Prop} {Q : Int32 → gM → Prop} (hw : gX yX2_isDigit cX2_isDigit 1 (Option.some FieldType.boolean) [] kf G (gQi Q) gE0 w) (hkf : 1 ≤ kf)   {M : gM}  (h : fX2_isDigit_b16 M Q) : w M 16 [] [] := by
  unfold fX2_isDigit_b16 at h
  refine g_iconst (v := 0) hw dX2_isDigit_16 (by decide) ?_
  exact g_iret hw dX2_isDigit_17 (by decide +kernel) ⟨_, rfl, h⟩
def fX2_isDigit (p1 : Int32) (M : gM) (Q : Int32 → gM → Prop) : Prop :=
  (if p1 < 48 then fX2_isDigit_b16 M Q else (if 57 < p1 then fX2_isDigit_b16 M Q else Q 1 M))
theorem mX2_isDigit {kf : Nat} (hkf : 1 ≤ kf) (G : gG) (p1 : Int32) (M : gM) (Q : Int32 → gM → Prop) (h : fX2_isDigit p1 M Q) : gMet yX2_isDigit cX2_isDigit 1 (Option.some FieldType.boolean) kf G M [.int p1] (gQi Q) gE0 := by
  refine g_intro (lv := [(0, .int p1)]) (by decide) rfl rfl (fun w hw => ?_)
  unfold fX2_isDigit at h
  refine g_iload_n hw 0 dX2_isDigit_0 rfl ?_
  refine g_bipush (v := 48) hw dX2_isDigit_1 (by decide) ?_
  refine g_icmp_lt (tgt := 16) hw dX2_isDigit_3 (by decide) (fun hb1 => ?_) (fun hb1 => ?_)
  · have h := gT h hb1
    refine g_sub hw (lv2 := []) [] rfl ?_
    exact wX2_isDigit_b16 hw hkf h
  · have h := gF h hb1
    refine g_iload_n hw 0 dX2_isDigit_6 rfl ?_
    refine g_bipush (v := 57) hw dX2_isDigit_7 (by decide) ?_
    refine g_icmp_gt (tgt := 16) hw dX2_isDigit_9 (by decide) (fun hb2 => ?_) (fun hb2 => ?_)
    · have h := gT h hb2
      refine g_sub hw (lv2 := []) [] rfl ?_
      exact wX2_isDigit_b16 hw hkf h
    · have h := gF h hb2
      refine g_iconst (v := 1) hw dX2_isDigit_12 (by decide) ?_
      refine g_goto (tgt := 17) hw dX2_isDigit_13 (by decide) ?_
      exact g_iret hw dX2_isDigit_17 (by decide +kernel) ⟨_, rfl, h⟩
theorem gfX2_19 {y0 : MethodName} {cc : ByteArray} {nL : Nat} {ret : Option FieldType} {hh : List (Nat × Nat × Nat × Nat)} {kf : Nat} {G : gG} {Qv : Option Value → gM → Prop} {E : String → Nat → gM → Prop} {w : gM → Nat → List (Nat × Value) → List Value → Prop} {M : gM} {pc : Nat} {lv : List (Nat × Value)} {rest : List Value} (hw : gX y0 cc nL ret hh kf G Qv E w) (hy : y0.cls = RX2) {c : Nat} (d : decode cc pc = .ok (.getfield 19, 3)) (hk : gk M c = 2) (kk : w M (pc + 3) lv (.int (gI M c 2) :: rest)) : w M pc lv (.ref (gA G c) :: rest) := by
  obtain ⟨cls9, nm9, ds9⟩ := y0
  subst hy
  exact g_getC (C := RX2) (T := TX2) (N := 8) (ci := 1) hw in_X2 rfl 2 (by decide) (Or.inl q143) rfl d hk kk
theorem pfX2_19 {y0 : MethodName} {cc : ByteArray} {nL : Nat} {ret : Option FieldType} {hh : List (Nat × Nat × Nat × Nat)} {kf : Nat} {G : gG} {Qv : Option Value → gM → Prop} {E : String → Nat → gM → Prop} {w : gM → Nat → List (Nat × Value) → List Value → Prop} {M : gM} {pc : Nat} {lv : List (Nat × Value)} {rest : List Value} (hw : gX y0 cc nL ret hh kf G Qv E w) (hy : y0.cls = RX2) {c : Nat} {x : Int32} (d : decode cc pc = .ok (.putfield 19, 3)) (hk : gk M c = 2) (kk : w (gsI M c 2 x) (pc + 3) lv rest) : w M pc lv (.int x :: .ref (gA G c) :: rest) := by
  obtain ⟨cls9, nm9, ds9⟩ := y0
  subst hy
  exact g_putC (C := RX2) (T := TX2) (N := 8) (ci := 1) hw in_X2 tyX2 tyX2_ok nmX2 rfl 2 (by decide) (Or.inl ⟨q143, Or.inl rfl⟩) rfl rfl (gOne_I M c 2 x) (by show Value.int (gI (gsI M c 2 x) c 2) = _; rw [gI_sI, if_pos ⟨rfl, rfl⟩]) d hk kk
theorem pfX2_28 {y0 : MethodName} {cc : ByteArray} {nL : Nat} {ret : Option FieldType} {hh : List (Nat × Nat × Nat × Nat)} {kf : Nat} {G : gG} {Qv : Option Value → gM → Prop} {E : String → Nat → gM → Prop} {w : gM → Nat → List (Nat × Value) → List Value → Prop} {M : gM} {pc : Nat} {lv : List (Nat × Value)} {rest : List Value} (hw : gX y0 cc nL ret hh kf G Qv E w) (hy : y0.cls = RX2) {c : Nat} {x : Int32} (d : decode cc pc = .ok (.putfield 28, 3)) (hk : gk M c = 2) (kk : w (gsI M c 4 x) (pc + 3) lv rest) : w M pc lv (.int x :: .ref (gA G c) :: rest) := by
  obtain ⟨cls9, nm9, ds9⟩ := y0
  subst hy
  exact g_putC (C := RX2) (T := TX2) (N := 8) (ci := 1) hw in_X2 tyX2 tyX2_ok nmX2 rfl 4 (by decide) (Or.inl ⟨q145, Or.inl rfl⟩) rfl rfl (gOne_I M c 4 x) (by show Value.int (gI (gsI M c 4 x) c 4) = _; rw [gI_sI, if_pos ⟨rfl, rfl⟩]) d hk kk
theorem sX2_34 {y0 : MethodName} {cc : ByteArray} {nL : Nat} {ret : Option FieldType} {hh : List (Nat × Nat × Nat × Nat)} {kf : Nat} {G : gG} {Qv : Option Value → gM → Prop} {E : String → Nat → gM → Prop} {w : gM → Nat → List (Nat × Value) → List Value → Prop} {M : gM} {pc : Nat} {lv : List (Nat × Value)} {rest : List Value} (hw : gX y0 cc nL ret hh kf G Qv E w) (hy : y0.cls = RX2) {p1 : Int32} {Q : Int32 → gM → Prop} (d : decode cc pc = .ok (.invokevirtual 34, 3)) (hrest : Nat.ble ((rest.map Value.category).sum) 8 = true) (hk : 1 + 1 ≤ kf) (hkd : gk M 25 = 2) (h : fX2_at p1 M Q) (kk : ∀ r M1, Q r M1 → w M1 (pc + 3) lv (.int r :: rest)) : w M pc lv (.int p1 :: .ref (gA G 25) :: rest) := by
  obtain ⟨cls9, nm9, ds9⟩ := y0
  subst hy
  exact g_callV (r := (RX2, TX2, 8)) (ci := 1) hw [.int p1] (nA := 1) rfl d q508 q510 qs14 q99 q511 (by decide +kernel) rfl rfl hrest rfl (by omega : kf - 1 + 1 ≤ kf) hkd (mX2_at (kf := kf - 1) (by omega) G p1 M Q h) (fun _ _ _ q => q.elim) (fun v M1 h => by obtain ⟨r, rfl, h⟩ := h; exact kk r M1 h)
theorem sX2_38 {y0 : MethodName} {cc : ByteArray} {nL : Nat} {ret : Option FieldType} {hh : List (Nat × Nat × Nat × Nat)} {kf : Nat} {G : gG} {Qv : Option Value → gM → Prop} {E : String → Nat → gM → Prop} {w : gM → Nat → List (Nat × Value) → List Value → Prop} {M : gM} {pc : Nat} {lv : List (Nat × Value)} {rest : List Value} (hw : gX y0 cc nL ret hh kf G Qv E w) (hy : y0.cls = RX2) {p1 : Int32} {Q : Int32 → gM → Prop} (d : decode cc pc = .ok (.invokestatic 38, 3)) (hrest : Nat.ble ((rest.map Value.category).sum) 8 = true) (hk : 1 + 1 ≤ kf) (h : fX2_isLetter p1 M Q) (kk : ∀ r M1, Q r M1 → w M1 (pc + 3) lv (.int r :: rest)) : w M pc lv (.int p1 :: rest) := by
  obtain ⟨cls9, nm9, ds9⟩ := y0
  subst hy
  exact g_callS hw [.int p1] (nA := 1) rfl d q512 q513 q99 q514 (by decide +kernel) rfl hrest rfl (by omega : kf - 1 + 1 ≤ kf) (mX2_isLetter (kf := kf - 1) (by omega) G p1 M Q h) (fun _ _ _ q => q.elim) (fun v M1 h => by obtain ⟨r, rfl, h⟩ := h; exact kk r M1 h)
theorem sX2_42 {y0 : MethodName} {cc : ByteArray} {nL : Nat} {ret : Option FieldType} {hh : List (Nat × Nat × Nat × Nat)} {kf : Nat} {G : gG} {Qv : Option Value → gM → Prop} {E : String → Nat → gM → Prop} {w : gM → Nat → List (Nat × Value) → List Value → Prop} {M : gM} {pc : Nat} {lv : List (Nat × Value)} {rest : List Value} (hw : gX y0 cc nL ret hh kf G Qv E w) (hy : y0.cls = RX2) {p1 : Int32} {Q : Int32 → gM → Prop} (d : decode cc pc = .ok (.invokestatic 42, 3)) (hrest : Nat.ble ((rest.map Value.category).sum) 8 = true) (hk : 1 + 1 ≤ kf) (h : fX2_isDigit p1 M Q) (kk : ∀ r M1, Q r M1 → w M1 (pc + 3) lv (.int r :: rest)) : w M pc lv (.int p1 :: rest) := by
  obtain ⟨cls9, nm9, ds9⟩ := y0
  subst hy
  exact g_callS hw [.int p1] (nA := 1) rfl d q515 q516 q99 q517 (by decide +kernel) rfl hrest rfl (by omega : kf - 1 + 1 ≤ kf) (mX2_isDigit (kf := kf - 1) (by omega) G p1 M Q h) (fun _ _ _ q => q.elim) (fun v M1 h => by obtain ⟨r, rfl, h⟩ := h; exact kk r M1 h)
theorem sX2_50 {y0 : MethodName} {cc : ByteArray} {nL : Nat} {ret : Option FieldType} {hh : List (Nat × Nat × Nat × Nat)} {kf : Nat} {G : gG} {Qv : Option Value → gM → Prop} {E : String → Nat → gM → Prop} {w : gM → Nat → List (Nat × Value) → List Value → Prop} {M : gM} {pc : Nat} {lv : List (Nat × Value)} {rest : List Value} (hw : gX y0 cc nL ret hh kf G Qv E w) (hy : y0.cls = RX2) {c0 : Nat} {p1 : Int32} {Q : Int32 → gM → Prop} (d : decode cc pc = .ok (.invokevirtual 50, 3)) (hrest : Nat.ble ((rest.map Value.category).sum) 8 = true) (hk : 4 + 1 ≤ kf) (hkd : c0 < 8) (h : fJ5_indexOf c0 p1 M Q) (kk : ∀ r M1, Q r M1 → w M1 (pc + 3) lv (.int r :: rest)) : w M pc lv (.int p1 :: .ref (gA G c0) :: rest) := by
  obtain ⟨cls9, nm9, ds9⟩ := y0
  subst hy
  exact g_callVS hw [.int p1] (nA := 1) rfl d q519 q520 q521 q110 q522 (by decide +kernel) rfl hrest rfl (by omega : kf - 1 + 1 ≤ kf) hkd (mJ5_indexOf (kf := kf - 1) (by omega) G c0 p1 M Q h) (fun _ _ _ q => q.elim) (fun v M1 h => by obtain ⟨r, rfl, h⟩ := h; exact kk r M1 h)
theorem pfX2_31 {y0 : MethodName} {cc : ByteArray} {nL : Nat} {ret : Option FieldType} {hh : List (Nat × Nat × Nat × Nat)} {kf : Nat} {G : gG} {Qv : Option Value → gM → Prop} {E : String → Nat → gM → Prop} {w : gM → Nat → List (Nat × Value) → List Value → Prop} {M : gM} {pc : Nat} {lv : List (Nat × Value)} {rest : List Value} (hw : gX y0 cc nL ret hh kf G Qv E w) (hy : y0.cls = RX2) {c : Nat} {x : Int32} (d : decode cc pc = .ok (.putfield 31, 3)) (hk : gk M c = 2) (kk : w (gsI M c 3 x) (pc + 3) lv rest) : w M pc lv (.int x :: .ref (gA G c) :: rest) := by
  obtain ⟨cls9, nm9, ds9⟩ := y0
  subst hy
  exact g_putC (C := RX2) (T := TX2) (N := 8) (ci := 1) hw in_X2 tyX2 tyX2_ok nmX2 rfl 3 (by decide) (Or.inl ⟨q144, Or.inl rfl⟩) rfl rfl (gOne_I M c 3 x) (by show Value.int (gI (gsI M c 3 x) c 3) = _; rw [gI_sI, if_pos ⟨rfl, rfl⟩]) d hk kk
theorem pfX2_45 {y0 : MethodName} {cc : ByteArray} {nL : Nat} {ret : Option FieldType} {hh : List (Nat × Nat × Nat × Nat)} {kf : Nat} {G : gG} {Qv : Option Value → gM → Prop} {E : String → Nat → gM → Prop} {w : gM → Nat → List (Nat × Value) → List Value → Prop} {M : gM} {pc : Nat} {lv : List (Nat × Value)} {rest : List Value} (hw : gX y0 cc nL ret hh kf G Qv E w) (hy : y0.cls = RX2) {c : Nat} {x : Int32} (d : decode cc pc = .ok (.putfield 45, 3)) (hk : gk M c = 2) (kk : w (gsI M c 5 x) (pc + 3) lv rest) : w M pc lv (.int x :: .ref (gA G c) :: rest) := by
  obtain ⟨cls9, nm9, ds9⟩ := y0
  subst hy
  exact g_putC (C := RX2) (T := TX2) (N := 8) (ci := 1) hw in_X2 tyX2 tyX2_ok nmX2 rfl 5 (by decide) (Or.inl ⟨q146, Or.inl rfl⟩) rfl rfl (gOne_I M c 5 x) (by show Value.int (gI (gsI M c 5 x) c 5) = _; rw [gI_sI, if_pos ⟨rfl, rfl⟩]) d hk kk
theorem gfX2_28 {y0 : MethodName} {cc : ByteArray} {nL : Nat} {ret : Option FieldType} {hh : List (Nat × Nat × Nat × Nat)} {kf : Nat} {G : gG} {Qv : Option Value → gM → Prop} {E : String → Nat → gM → Prop} {w : gM → Nat → List (Nat × Value) → List Value → Prop} {M : gM} {pc : Nat} {lv : List (Nat × Value)} {rest : List Value} (hw : gX y0 cc nL ret hh kf G Qv E w) (hy : y0.cls = RX2) {c : Nat} (d : decode cc pc = .ok (.getfield 28, 3)) (hk : gk M c = 2) (kk : w M (pc + 3) lv (.int (gI M c 4) :: rest)) : w M pc lv (.ref (gA G c) :: rest) := by
  obtain ⟨cls9, nm9, ds9⟩ := y0
  subst hy
  exact g_getC (C := RX2) (T := TX2) (N := 8) (ci := 1) hw in_X2 rfl 4 (by decide) (Or.inl q145) rfl d hk kk
theorem gfX2_45 {y0 : MethodName} {cc : ByteArray} {nL : Nat} {ret : Option FieldType} {hh : List (Nat × Nat × Nat × Nat)} {kf : Nat} {G : gG} {Qv : Option Value → gM → Prop} {E : String → Nat → gM → Prop} {w : gM → Nat → List (Nat × Value) → List Value → Prop} {M : gM} {pc : Nat} {lv : List (Nat × Value)} {rest : List Value} (hw : gX y0 cc nL ret hh kf G Qv E w) (hy : y0.cls = RX2) {c : Nat} (d : decode cc pc = .ok (.getfield 45, 3)) (hk : gk M c = 2) (kk : w M (pc + 3) lv (.int (gI M c 5) :: rest)) : w M pc lv (.ref (gA G c) :: rest) := by
  obtain ⟨cls9, nm9, ds9⟩ := y0
  subst hy
  exact g_getC (C := RX2) (T := TX2) (N := 8) (ci := 1) hw in_X2 rfl 5 (by decide) (Or.inl q146) rfl d hk kk
def fX2_next_b39 (R0 : gM → Prop) (M : gM) (Q : gM → Prop) : Prop :=
  gk M 25 = 2 ∧ R0 (gsI M 25 2 ((gI M 25 2) + 1))
theorem wX2_next_b39 {kf : Nat} {G : gG} {w : gM → Nat → List (Nat × Value) → List Value → Prop} {Q : gM → Prop} (hw : gX yX2_next cX2_next 1 (Option.none : Option FieldType) [] kf G (gQv Q) gE0 w) (hkf : 5 ≤ kf) {R0 : gM → Prop}  {M : gM} (hR0 : ∀  (M : gM), R0 M → w M 0 [(0, .ref (gA G 25))] []) (h : fX2_next_b39 R0 M Q) : w M 39 [(0, .ref (gA G 25))] [] := by
  unfold fX2_next_b39 at h
  refine g_aload_n hw 0 dX2_next_39 rfl ?_
  refine g_dup hw dX2_next_40 rfl ?_
  obtain ⟨hk8, h⟩ := h
  refine gfX2_19 hw rfl dX2_next_41 hk8 ?_
  refine g_iconst (v := 1) hw dX2_next_44 (by decide) ?_
  refine g_iadd hw dX2_next_45 ?_
  refine pfX2_19 hw rfl dX2_next_46 hk8 ?_
  refine g_goto (tgt := 0) hw dX2_next_49 (by decide) ?_
  exact hR0 (gsI M 25 2 ((gI M 25 2) + 1)) h
def fX2_next_L0s (R0 : gM → Prop) (K52_0 : gM → Prop) (M : gM) (Q : gM → Prop) : Prop :=
  gk M 25 = 2 ∧ (if (gI M 25 1) ≤ (gI M 25 2) then K52_0 M else gdr (gR M 25 0) (fun a3 => gk M a3 = 42 ∧ vp_in (gI M 25 2) (gl M a3) ∧ (if (gI M a3 ((gI M 25 2).toNatClampNeg)) = 10 then fX2_next_b39 R0 M Q else gdr (gR M 25 0) (fun a9 => gk M a9 = 42 ∧ vp_in (gI M 25 2) (gl M a9) ∧ (if (gI M a9 ((gI M 25 2).toNatClampNeg)) = 32 then fX2_next_b39 R0 M Q else K52_0 M)))))
def fX2_next_L0 (K52_0 : gM → Prop) (Q : gM → Prop) : Nat → gM → Prop
  | 0 => fun _ => False
  | n + 1 => fun M => fX2_next_L0s (fX2_next_L0 K52_0 Q n) K52_0 M Q
theorem wX2_next_L0s {kf : Nat} {G : gG} {w : gM → Nat → List (Nat × Value) → List Value → Prop} {Q : gM → Prop} (hw : gX yX2_next cX2_next 1 (Option.none : Option FieldType) [] kf G (gQv Q) gE0 w) (hkf : 5 ≤ kf) {R0 : gM → Prop} {K52_0 : gM → Prop}  {M : gM} (hR0 : ∀  (M : gM), R0 M → w M 0 [(0, .ref (gA G 25))] []) (hK52_0 : ∀  (M : gM), K52_0 M → w M 52 [(0, .ref (gA G 25))] []) (h : fX2_next_L0s R0 K52_0 M Q) : w M 0 [(0, .ref (gA G 25))] [] := by
  unfold fX2_next_L0s at h
  refine g_aload_n hw 0 dX2_next_0 rfl ?_
  obtain ⟨hk1, h⟩ := h
  refine gfX2_19 hw rfl dX2_next_1 hk1 ?_
  refine g_aload_n hw 0 dX2_next_4 rfl ?_
  refine gfX2_15 hw rfl dX2_next_5 hk1 ?_
  refine g_icmp_ge (tgt := 52) hw dX2_next_8 (by decide) (fun hb2 => ?_) (fun hb2 => ?_)
  · have h := gT h hb2
    exact hK52_0 M h
  · have h := gF h hb2
    refine g_aload_n hw 0 dX2_next_11 rfl ?_
    obtain ⟨a3, e4, h⟩ := h
    refine gfX2_9 (q := some a3) hw rfl dX2_next_12 hk1 e4 ?_
    refine g_aload_n hw 0 dX2_next_15 rfl ?_
    refine gfX2_19 hw rfl dX2_next_16 hk1 ?_
    obtain ⟨hk5, h⟩ := h
    obtain ⟨hi6, h⟩ := h
    refine g_bald (n := (gI M 25 2).toNatClampNeg) hw dX2_next_19 hk5 hi6 rfl ?_
    refine g_bipush (v := 10) hw dX2_next_20 (by decide) ?_
    refine g_icmp_eq (tgt := 39) hw dX2_next_22 (by decide) (fun hb7 => ?_) (fun hb7 => ?_)
    · have h := gT h hb7
      exact wX2_next_b39 hw hkf hR0 h
    · have h := gF h hb7
      refine g_aload_n hw 0 dX2_next_25 rfl ?_
      obtain ⟨a9, e10, h⟩ := h
      refine gfX2_9 (q := some a9) hw rfl dX2_next_26 hk1 e10 ?_
      refine g_aload_n hw 0 dX2_next_29 rfl ?_
      refine gfX2_19 hw rfl dX2_next_30 hk1 ?_
      obtain ⟨hk11, h⟩ := h
      obtain ⟨hi12, h⟩ := h
      refine g_bald (n := (gI M 25 2).toNatClampNeg) hw dX2_next_33 hk11 hi12 rfl ?_
      refine g_bipush (v := 32) hw dX2_next_34 (by decide) ?_
      refine g_icmp_ne (tgt := 52) hw dX2_next_36 (by decide) (fun hb13 => ?_) (fun hb13 => ?_)
      · have h := gF h hb13
        exact hK52_0 M h
      · have h := gT h hb13
        exact wX2_next_b39 hw hkf hR0 h
theorem wX2_next_L0 {kf : Nat} {G : gG} {w : gM → Nat → List (Nat × Value) → List Value → Prop} {Q : gM → Prop} (hw : gX yX2_next cX2_next 1 (Option.none : Option FieldType) [] kf G (gQv Q) gE0 w) (hkf : 5 ≤ kf) {K52_0 : gM → Prop} (hK52_0 : ∀  (M : gM), K52_0 M → w M 52 [(0, .ref (gA G 25))] []) : ∀ (n : Nat)  (M : gM), fX2_next_L0 K52_0 Q n M → w M 0 [(0, .ref (gA G 25))] [] := by
  intro n
  induction n with
  | zero => intro M h; exact h.elim
  | succ n ih => intro M h; exact wX2_next_L0s hw hkf ih hK52_0 h
def fX2_next_b283 (s1_35 : Int32) (M : gM) (Q : gM → Prop) : Prop :=
  gk M 25 = 2 ∧ Q (gsI (gsI M 25 3 s1_35) 25 2 ((gI (gsI M 25 3 s1_35) 25 2) + 1))
theorem wX2_next_b283 {kf : Nat} {G : gG} {w : gM → Nat → List (Nat × Value) → List Value → Prop} {Q : gM → Prop} (hw : gX yX2_next cX2_next 1 (Option.none : Option FieldType) [] kf G (gQv Q) gE0 w) (hkf : 5 ≤ kf)  {s1_35 : Int32} {M : gM}  (h : fX2_next_b283 s1_35 M Q) : w M 283 [(0, .ref (gA G 25))] [.int s1_35, .ref (gA G 25)] := by
  unfold fX2_next_b283 at h
  obtain ⟨hk36, h⟩ := h
  refine pfX2_31 hw rfl dX2_next_283 hk36 ?_
  refine g_aload_n hw 0 dX2_next_286 rfl ?_
  refine g_dup hw dX2_next_287 rfl ?_
  refine gfX2_19 hw rfl dX2_next_288 hk36 ?_
  refine g_iconst (v := 1) hw dX2_next_291 (by decide) ?_
  refine g_iadd hw dX2_next_292 ?_
  refine pfX2_19 hw rfl dX2_next_293 hk36 ?_
  exact g_vret hw dX2_next_296 ⟨rfl, h⟩
def fX2_next_b219 (R165 : gM → Prop) (s1_46 : Int32) (M : gM) (Q : gM → Prop) : Prop :=
  gk M 25 = 2 ∧ R165 (gsI (gsI M 25 5 s1_46) 25 2 ((gI (gsI M 25 5 s1_46) 25 2) + 1))
theorem wX2_next_b219 {kf : Nat} {G : gG} {w : gM → Nat → List (Nat × Value) → List Value → Prop} {Q : gM → Prop} (hw : gX yX2_next cX2_next 1 (Option.none : Option FieldType) [] kf G (gQv Q) gE0 w) (hkf : 5 ≤ kf) {R165 : gM → Prop} {s1_46 : Int32} {M : gM} (hR165 : ∀  (M : gM), R165 M → w M 165 [(0, .ref (gA G 25))] []) (h : fX2_next_b219 R165 s1_46 M Q) : w M 219 [(0, .ref (gA G 25))] [.int s1_46, .ref (gA G 25)] := by
  unfold fX2_next_b219 at h
  obtain ⟨hk47, h⟩ := h
  refine pfX2_45 hw rfl dX2_next_219 hk47 ?_
  refine g_aload_n hw 0 dX2_next_222 rfl ?_
  refine g_dup hw dX2_next_223 rfl ?_
  refine gfX2_19 hw rfl dX2_next_224 hk47 ?_
  refine g_iconst (v := 1) hw dX2_next_227 (by decide) ?_
  refine g_iadd hw dX2_next_228 ?_
  refine pfX2_19 hw rfl dX2_next_229 hk47 ?_
  refine g_goto (tgt := 165) hw dX2_next_232 (by decide) ?_
  exact hR165 (gsI (gsI M 25 5 s1_46) 25 2 ((gI (gsI M 25 5 s1_46) 25 2) + 1)) h
def fX2_next_L165s (R165 : gM → Prop) (K235_165 : gM → Prop) (M : gM) (Q : gM → Prop) : Prop :=
  gk M 25 = 2 ∧ fX2_at (gI M 25 2) M (fun r40 M39 => fX2_isDigit r40 M39 (fun r42 M41 => (if r42 = 0 then K235_165 M41 else gk M41 25 = 2 ∧ (if 4 ≤ ((gI M41 25 2) - (gI M41 25 4)) then fX2_next_b219 R165 (gI M41 25 5) M41 Q else fX2_at (gI M41 25 2) M41 (fun r49 M48 => fX2_next_b219 R165 (((10 * (gI M41 25 5)) + r49) - 48) M48 Q)))))
def fX2_next_L165 (K235_165 : gM → Prop) (Q : gM → Prop) : Nat → gM → Prop
  | 0 => fun _ => False
  | n + 1 => fun M => fX2_next_L165s (fX2_next_L165 K235_165 Q n) K235_165 M Q
theorem wX2_next_L165s {kf : Nat} {G : gG} {w : gM → Nat → List (Nat × Value) → List Value → Prop} {Q : gM → Prop} (hw : gX yX2_next cX2_next 1 (Option.none : Option FieldType) [] kf G (gQv Q) gE0 w) (hkf : 5 ≤ kf) {R165 : gM → Prop} {K235_165 : gM → Prop}  {M : gM} (hR165 : ∀  (M : gM), R165 M → w M 165 [(0, .ref (gA G 25))] []) (hK235_165 : ∀  (M : gM), K235_165 M → w M 235 [(0, .ref (gA G 25))] []) (h : fX2_next_L165s R165 K235_165 M Q) : w M 165 [(0, .ref (gA G 25))] [] := by
  unfold fX2_next_L165s at h
  refine g_aload_n hw 0 dX2_next_165 rfl ?_
  refine g_aload_n hw 0 dX2_next_166 rfl ?_
  obtain ⟨hk38, h⟩ := h
  refine gfX2_19 hw rfl dX2_next_167 hk38 ?_
  refine sX2_34 hw rfl dX2_next_170 rfl (gK2 hkf) hk38 h (fun r40 M39 h => ?_)
  refine sX2_42 hw rfl dX2_next_173 rfl (gK2 hkf) h (fun r42 M41 h => ?_)
  refine g_if_eq (tgt := 235) hw dX2_next_176 (by decide) (fun hb43 => ?_) (fun hb43 => ?_)
  · have h := gT h hb43
    exact hK235_165 M41 h
  · have h := gF h hb43
    refine g_aload_n hw 0 dX2_next_179 rfl ?_
    refine g_aload_n hw 0 dX2_next_180 rfl ?_
    obtain ⟨hk44, h⟩ := h
    refine gfX2_19 hw rfl dX2_next_181 hk44 ?_
    refine g_aload_n hw 0 dX2_next_184 rfl ?_
    refine gfX2_28 hw rfl dX2_next_185 hk44 ?_
    refine g_isub hw dX2_next_188 ?_
    refine g_iconst (v := 4) hw dX2_next_189 (by decide) ?_
    refine g_icmp_ge (tgt := 215) hw dX2_next_190 (by decide) (fun hb45 => ?_) (fun hb45 => ?_)
    · have h := gT h hb45
      refine g_aload_n hw 0 dX2_next_215 rfl ?_
      refine gfX2_45 hw rfl dX2_next_216 hk44 ?_
      exact wX2_next_b219 hw hkf hR165 h
    · have h := gF h hb45
      refine g_bipush (v := 10) hw dX2_next_193 (by decide) ?_
      refine g_aload_n hw 0 dX2_next_195 rfl ?_
      refine gfX2_45 hw rfl dX2_next_196 hk44 ?_
      refine g_imul hw dX2_next_199 ?_
      refine g_aload_n hw 0 dX2_next_200 rfl ?_
      refine g_aload_n hw 0 dX2_next_201 rfl ?_
      refine gfX2_19 hw rfl dX2_next_202 hk44 ?_
      refine sX2_34 hw rfl dX2_next_205 rfl (gK2 hkf) hk44 h (fun r49 M48 h => ?_)
      refine g_iadd hw dX2_next_208 ?_
      refine g_bipush (v := 48) hw dX2_next_209 (by decide) ?_
      refine g_isub hw dX2_next_211 ?_
      refine g_goto (tgt := 219) hw dX2_next_212 (by decide) ?_
      exact wX2_next_b219 hw hkf hR165 h
theorem wX2_next_L165 {kf : Nat} {G : gG} {w : gM → Nat → List (Nat × Value) → List Value → Prop} {Q : gM → Prop} (hw : gX yX2_next cX2_next 1 (Option.none : Option FieldType) [] kf G (gQv Q) gE0 w) (hkf : 5 ≤ kf) {K235_165 : gM → Prop} (hK235_165 : ∀  (M : gM), K235_165 M → w M 235 [(0, .ref (gA G 25))] []) : ∀ (n : Nat)  (M : gM), fX2_next_L165 K235_165 Q n M → w M 165 [(0, .ref (gA G 25))] [] := by
  intro n
  induction n with
  | zero => intro M h; exact h.elim
  | succ n ih => intro M h; exact wX2_next_L165s hw hkf ih hK235_165 h
def fX2_next_b254 (s1_53 : Int32) (M : gM) (Q : gM → Prop) : Prop :=
  gk M 25 = 2 ∧ Q (gsI M 25 3 s1_53)
theorem wX2_next_b254 {kf : Nat} {G : gG} {w : gM → Nat → List (Nat × Value) → List Value → Prop} {Q : gM → Prop} (hw : gX yX2_next cX2_next 1 (Option.none : Option FieldType) [] kf G (gQv Q) gE0 w) (hkf : 5 ≤ kf)  {s1_53 : Int32} {M : gM}  (h : fX2_next_b254 s1_53 M Q) : w M 254 [] [.int s1_53, .ref (gA G 25)] := by
  unfold fX2_next_b254 at h
  obtain ⟨hk54, h⟩ := h
  refine pfX2_31 hw rfl dX2_next_254 hk54 ?_
  refine g_goto (tgt := 296) hw dX2_next_257 (by decide) ?_
  exact g_vret hw dX2_next_296 ⟨rfl, h⟩
def fX2_next_L93s (R93 : gM → Prop) (K120_93 : gM → Prop) (M : gM) (Q : gM → Prop) : Prop :=
  gk M 25 = 2 ∧ fX2_at (gI M 25 2) M (fun r57 M56 => fX2_isLetter r57 M56 (fun r59 M58 => (if r59 = 0 then K120_93 M58 else gk M58 25 = 2 ∧ R93 (gsI M58 25 2 ((gI M58 25 2) + 1)))))
def fX2_next_L93 (K120_93 : gM → Prop) (Q : gM → Prop) : Nat → gM → Prop
  | 0 => fun _ => False
  | n + 1 => fun M => fX2_next_L93s (fX2_next_L93 K120_93 Q n) K120_93 M Q
theorem wX2_next_L93s {kf : Nat} {G : gG} {w : gM → Nat → List (Nat × Value) → List Value → Prop} {Q : gM → Prop} (hw : gX yX2_next cX2_next 1 (Option.none : Option FieldType) [] kf G (gQv Q) gE0 w) (hkf : 5 ≤ kf) {R93 : gM → Prop} {K120_93 : gM → Prop}  {M : gM} (hR93 : ∀  (M : gM), R93 M → w M 93 [(0, .ref (gA G 25))] []) (hK120_93 : ∀  (M : gM), K120_93 M → w M 120 [(0, .ref (gA G 25))] []) (h : fX2_next_L93s R93 K120_93 M Q) : w M 93 [(0, .ref (gA G 25))] [] := by
  unfold fX2_next_L93s at h
  refine g_aload_n hw 0 dX2_next_93 rfl ?_
  refine g_aload_n hw 0 dX2_next_94 rfl ?_
  obtain ⟨hk55, h⟩ := h
  refine gfX2_19 hw rfl dX2_next_95 hk55 ?_
  refine sX2_34 hw rfl dX2_next_98 rfl (gK2 hkf) hk55 h (fun r57 M56 h => ?_)
  refine sX2_38 hw rfl dX2_next_101 rfl (gK2 hkf) h (fun r59 M58 h => ?_)
  refine g_if_eq (tgt := 120) hw dX2_next_104 (by decide) (fun hb60 => ?_) (fun hb60 => ?_)
  · have h := gT h hb60
    exact hK120_93 M58 h
  · have h := gF h hb60
    refine g_aload_n hw 0 dX2_next_107 rfl ?_
    refine g_dup hw dX2_next_108 rfl ?_
    obtain ⟨hk61, h⟩ := h
    refine gfX2_19 hw rfl dX2_next_109 hk61 ?_
    refine g_iconst (v := 1) hw dX2_next_112 (by decide) ?_
    refine g_iadd hw dX2_next_113 ?_
    refine pfX2_19 hw rfl dX2_next_114 hk61 ?_
    refine g_goto (tgt := 93) hw dX2_next_117 (by decide) ?_
    exact hR93 (gsI M58 25 2 ((gI M58 25 2) + 1)) h
theorem wX2_next_L93 {kf : Nat} {G : gG} {w : gM → Nat → List (Nat × Value) → List Value → Prop} {Q : gM → Prop} (hw : gX yX2_next cX2_next 1 (Option.none : Option FieldType) [] kf G (gQv Q) gE0 w) (hkf : 5 ≤ kf) {K120_93 : gM → Prop} (hK120_93 : ∀  (M : gM), K120_93 M → w M 120 [(0, .ref (gA G 25))] []) : ∀ (n : Nat)  (M : gM), fX2_next_L93 K120_93 Q n M → w M 93 [(0, .ref (gA G 25))] [] := by
  intro n
  induction n with
  | zero => intro M h; exact h.elim
  | succ n ih => intro M h; exact wX2_next_L93s hw hkf ih hK120_93 h
def fX2_next_b140 (s1_65 : Int32) (M : gM) (Q : gM → Prop) : Prop :=
  gk M 25 = 2 ∧ Q (gsI M 25 3 s1_65)
theorem wX2_next_b140 {kf : Nat} {G : gG} {w : gM → Nat → List (Nat × Value) → List Value → Prop} {Q : gM → Prop} (hw : gX yX2_next cX2_next 1 (Option.none : Option FieldType) [] kf G (gQv Q) gE0 w) (hkf : 5 ≤ kf)  {s1_65 : Int32} {M : gM}  (h : fX2_next_b140 s1_65 M Q) : w M 140 [] [.int s1_65, .ref (gA G 25)] := by
  unfold fX2_next_b140 at h
  obtain ⟨hk66, h⟩ := h
  refine pfX2_31 hw rfl dX2_next_140 hk66 ?_
  refine g_goto (tgt := 296) hw dX2_next_143 (by decide) ?_
  exact g_vret hw dX2_next_296 ⟨rfl, h⟩
def fX2_next_b52  (M : gM) (Q : gM → Prop) : Prop :=
  gk M 25 = 2 ∧ (if (gI (gsI M 25 4 (gI M 25 2)) 25 2) = (gI (gsI M 25 4 (gI M 25 2)) 25 1) then Q (gsI (gsI M 25 4 (gI M 25 2)) 25 3 0) else fX2_at (gI (gsI M 25 4 (gI M 25 2)) 25 2) (gsI M 25 4 (gI M 25 2)) (fun r18 M17 => fX2_isLetter r18 M17 (fun r20 M19 => (if r20 = 0 then gk M19 25 = 2 ∧ fX2_at (gI M19 25 2) M19 (fun r24 M23 => fX2_isDigit r24 M23 (fun r26 M25 => (if r26 = 0 then gk M25 25 = 2 ∧ fX2_at (gI M25 25 2) M25 (fun r30 M29 => (0 < 8) ∧ fJ5_indexOf 0 ((r30.toUInt32 % 65536).toInt32) M29 (fun r33 M32 => (if r33 < 0 then fX2_next_b283 4 M32 Q else fX2_next_b283 3 M32 Q))) else gk M25 25 = 2 ∧ ∃ n, fX2_next_L165 (fun M50 => gk M50 25 = 2 ∧ (if ((gI M50 25 2) - (gI M50 25 4)) ≤ 4 then fX2_next_b254 2 M50 Q else fX2_next_b254 4 M50 Q)) Q n (gsI M25 25 5 0)))) else ∃ n, fX2_next_L93 (fun M62 => gk M62 25 = 2 ∧ (if ((gI M62 25 2) - (gI M62 25 4)) ≤ 8 then fX2_next_b140 1 M62 Q else fX2_next_b140 4 M62 Q)) Q n M19))))
theorem wX2_next_b52 {kf : Nat} {G : gG} {w : gM → Nat → List (Nat × Value) → List Value → Prop} {Q : gM → Prop} (hw : gX yX2_next cX2_next 1 (Option.none : Option FieldType) [] kf G (gQv Q) gE0 w) (hkf : 5 ≤ kf)   {M : gM}  (h : fX2_next_b52 M Q) : w M 52 [(0, .ref (gA G 25))] [] := by
  unfold fX2_next_b52 at h
  refine g_aload_n hw 0 dX2_next_52 rfl ?_
  refine g_aload_n hw 0 dX2_next_53 rfl ?_
  obtain ⟨hk15, h⟩ := h
  refine gfX2_19 hw rfl dX2_next_54 hk15 ?_
  refine pfX2_28 hw rfl dX2_next_57 hk15 ?_
  refine g_aload_n hw 0 dX2_next_60 rfl ?_
  refine gfX2_19 hw rfl dX2_next_61 hk15 ?_
  refine g_aload_n hw 0 dX2_next_64 rfl ?_
  refine gfX2_15 hw rfl dX2_next_65 hk15 ?_
  refine g_icmp_ne (tgt := 79) hw dX2_next_68 (by decide) (fun hb16 => ?_) (fun hb16 => ?_)
  · have h := gF h hb16
    refine g_aload_n hw 0 dX2_next_79 rfl ?_
    refine g_aload_n hw 0 dX2_next_80 rfl ?_
    refine gfX2_19 hw rfl dX2_next_81 hk15 ?_
    refine sX2_34 hw rfl dX2_next_84 rfl (gK2 hkf) hk15 h (fun r18 M17 h => ?_)
    refine sX2_38 hw rfl dX2_next_87 rfl (gK2 hkf) h (fun r20 M19 h => ?_)
    refine g_if_eq (tgt := 146) hw dX2_next_90 (by decide) (fun hb21 => ?_) (fun hb21 => ?_)
    · have h := gT h hb21
      refine g_aload_n hw 0 dX2_next_146 rfl ?_
      refine g_aload_n hw 0 dX2_next_147 rfl ?_
      obtain ⟨hk22, h⟩ := h
      refine gfX2_19 hw rfl dX2_next_148 hk22 ?_
      refine sX2_34 hw rfl dX2_next_151 rfl (gK2 hkf) hk22 h (fun r24 M23 h => ?_)
      refine sX2_42 hw rfl dX2_next_154 rfl (gK2 hkf) h (fun r26 M25 h => ?_)
      refine g_if_eq (tgt := 260) hw dX2_next_157 (by decide) (fun hb27 => ?_) (fun hb27 => ?_)
      · have h := gT h hb27
        refine g_aload_n hw 0 dX2_next_260 rfl ?_
        refine g_ldcS hw 0 dX2_next_261 q518 rfl ?_
        refine g_aload_n hw 0 dX2_next_263 rfl ?_
        refine g_aload_n hw 0 dX2_next_264 rfl ?_
        obtain ⟨hk28, h⟩ := h
        refine gfX2_19 hw rfl dX2_next_265 hk28 ?_
        refine sX2_34 hw rfl dX2_next_268 rfl (gK2 hkf) hk28 h (fun r30 M29 h => ?_)
        refine g_i2c hw dX2_next_271 ?_
        obtain ⟨hs31, h⟩ := h
        refine sX2_50 hw rfl dX2_next_272 rfl (gK2 hkf) hs31 h (fun r33 M32 h => ?_)
        refine g_if_lt (tgt := 282) hw dX2_next_275 (by decide) (fun hb34 => ?_) (fun hb34 => ?_)
        · have h := gT h hb34
          refine g_iconst (v := 4) hw dX2_next_282 (by decide) ?_
          exact wX2_next_b283 hw hkf h
        · have h := gF h hb34
          refine g_iconst (v := 3) hw dX2_next_278 (by decide) ?_
          refine g_goto (tgt := 283) hw dX2_next_279 (by decide) ?_
          exact wX2_next_b283 hw hkf h
      · have h := gF h hb27
        refine g_aload_n hw 0 dX2_next_160 rfl ?_
        refine g_iconst (v := 0) hw dX2_next_161 (by decide) ?_
        obtain ⟨hk37, h⟩ := h
        refine pfX2_45 hw rfl dX2_next_162 hk37 ?_
        obtain ⟨n9, h⟩ := h
        refine wX2_next_L165 hw hkf (fun M50 h => ?_) n9 (gsI M25 25 5 0) h
        refine g_aload_n hw 0 dX2_next_235 rfl ?_
        refine g_aload_n hw 0 dX2_next_236 rfl ?_
        obtain ⟨hk51, h⟩ := h
        refine gfX2_19 hw rfl dX2_next_237 hk51 ?_
        refine g_aload_n hw 0 dX2_next_240 rfl ?_
        refine gfX2_28 hw rfl dX2_next_241 hk51 ?_
        refine g_isub hw dX2_next_244 ?_
        refine g_iconst (v := 4) hw dX2_next_245 (by decide) ?_
        refine g_icmp_le (tgt := 253) hw dX2_next_246 (by decide) (fun hb52 => ?_) (fun hb52 => ?_)
        · have h := gT h hb52
          refine g_iconst (v := 2) hw dX2_next_253 (by decide) ?_
          refine g_sub hw (lv2 := []) [] rfl ?_
          exact wX2_next_b254 hw hkf h
        · have h := gF h hb52
          refine g_iconst (v := 4) hw dX2_next_249 (by decide) ?_
          refine g_goto (tgt := 254) hw dX2_next_250 (by decide) ?_
          refine g_sub hw (lv2 := []) [] rfl ?_
          exact wX2_next_b254 hw hkf h
    · have h := gF h hb21
      obtain ⟨n9, h⟩ := h
      refine wX2_next_L93 hw hkf (fun M62 h => ?_) n9 M19 h
      refine g_aload_n hw 0 dX2_next_120 rfl ?_
      refine g_aload_n hw 0 dX2_next_121 rfl ?_
      obtain ⟨hk63, h⟩ := h
      refine gfX2_19 hw rfl dX2_next_122 hk63 ?_
      refine g_aload_n hw 0 dX2_next_125 rfl ?_
      refine gfX2_28 hw rfl dX2_next_126 hk63 ?_
      refine g_isub hw dX2_next_129 ?_
      refine g_bipush (v := 8) hw dX2_next_130 (by decide) ?_
      refine g_icmp_le (tgt := 139) hw dX2_next_132 (by decide) (fun hb64 => ?_) (fun hb64 => ?_)
      · have h := gT h hb64
        refine g_iconst (v := 1) hw dX2_next_139 (by decide) ?_
        refine g_sub hw (lv2 := []) [] rfl ?_
        exact wX2_next_b140 hw hkf h
      · have h := gF h hb64
        refine g_iconst (v := 4) hw dX2_next_135 (by decide) ?_
        refine g_goto (tgt := 140) hw dX2_next_136 (by decide) ?_
        refine g_sub hw (lv2 := []) [] rfl ?_
        exact wX2_next_b140 hw hkf h
  · have h := gT h hb16
    refine g_aload_n hw 0 dX2_next_71 rfl ?_
    refine g_iconst (v := 0) hw dX2_next_72 (by decide) ?_
    refine pfX2_31 hw rfl dX2_next_73 hk15 ?_
    refine g_goto (tgt := 296) hw dX2_next_76 (by decide) ?_
    exact g_vret hw dX2_next_296 ⟨rfl, h⟩
def fX2_next  (M : gM) (Q : gM → Prop) : Prop :=
  ∃ n, fX2_next_L0 (fun M14 => fX2_next_b52 M14 Q) Q n M
theorem mX2_next {kf : Nat} (hkf : 5 ≤ kf) (G : gG)  (M : gM) (Q : gM → Prop) (h : fX2_next M Q) : gMet yX2_next cX2_next 1 (Option.none : Option FieldType) kf G M [.ref (gA G 25)] (gQv Q) gE0 := by
  refine g_intro (lv := [(0, .ref (gA G 25))]) (by decide) rfl rfl (fun w hw => ?_)
  unfold fX2_next at h
  obtain ⟨n9, h⟩ := h
  refine wX2_next_L0 hw hkf (fun M14 h => ?_) n9 M h
  exact wX2_next_b52 hw hkf h
theorem pfX2_9 {y0 : MethodName} {cc : ByteArray} {nL : Nat} {ret : Option FieldType} {hh : List (Nat × Nat × Nat × Nat)} {kf : Nat} {G : gG} {Qv : Option Value → gM → Prop} {E : String → Nat → gM → Prop} {w : gM → Nat → List (Nat × Value) → List Value → Prop} {M : gM} {pc : Nat} {lv : List (Nat × Value)} {rest : List Value} (hw : gX y0 cc nL ret hh kf G Qv E w) (hy : y0.cls = RX2) {c : Nat} {q : Option Nat} (d : decode cc pc = .ok (.putfield 9, 3)) (hk : gk M c = 2) (kk : w (gsR M c 0 q) (pc + 3) lv rest) : w M pc lv (va_rf (q.map (gA G)) :: .ref (gA G c) :: rest) := by
  obtain ⟨cls9, nm9, ds9⟩ := y0
  subst hy
  exact g_putC (C := RX2) (T := TX2) (N := 8) (ci := 1) hw in_X2 tyX2 tyX2_ok nmX2 rfl 0 (by decide) (Or.inl ⟨q141, Or.inl rfl⟩) (by cases q <;> rfl) (by cases q <;> rfl) (gOne_R M c 0 q) (by show va_rf ((gR (gsR M c 0 q) c 0).map (gA G)) = _; rw [gR_sR, if_pos ⟨rfl, rfl⟩]) d hk kk
theorem pfX2_15 {y0 : MethodName} {cc : ByteArray} {nL : Nat} {ret : Option FieldType} {hh : List (Nat × Nat × Nat × Nat)} {kf : Nat} {G : gG} {Qv : Option Value → gM → Prop} {E : String → Nat → gM → Prop} {w : gM → Nat → List (Nat × Value) → List Value → Prop} {M : gM} {pc : Nat} {lv : List (Nat × Value)} {rest : List Value} (hw : gX y0 cc nL ret hh kf G Qv E w) (hy : y0.cls = RX2) {c : Nat} {x : Int32} (d : decode cc pc = .ok (.putfield 15, 3)) (hk : gk M c = 2) (kk : w (gsI M c 1 x) (pc + 3) lv rest) : w M pc lv (.int x :: .ref (gA G c) :: rest) := by
  obtain ⟨cls9, nm9, ds9⟩ := y0
  subst hy
  exact g_putC (C := RX2) (T := TX2) (N := 8) (ci := 1) hw in_X2 tyX2 tyX2_ok nmX2 rfl 1 (by decide) (Or.inl ⟨q142, Or.inl rfl⟩) rfl rfl (gOne_I M c 1 x) (by show Value.int (gI (gsI M c 1 x) c 1) = _; rw [gI_sI, if_pos ⟨rfl, rfl⟩]) d hk kk
theorem pfX2_22 {y0 : MethodName} {cc : ByteArray} {nL : Nat} {ret : Option FieldType} {hh : List (Nat × Nat × Nat × Nat)} {kf : Nat} {G : gG} {Qv : Option Value → gM → Prop} {E : String → Nat → gM → Prop} {w : gM → Nat → List (Nat × Value) → List Value → Prop} {M : gM} {pc : Nat} {lv : List (Nat × Value)} {rest : List Value} (hw : gX y0 cc nL ret hh kf G Qv E w) (hy : y0.cls = RX2) {c : Nat} {x : Int32} (d : decode cc pc = .ok (.putfield 22, 3)) (hk : gk M c = 2) (kk : w (gsI M c 6 x) (pc + 3) lv rest) : w M pc lv (.int x :: .ref (gA G c) :: rest) := by
  obtain ⟨cls9, nm9, ds9⟩ := y0
  subst hy
  exact g_putC (C := RX2) (T := TX2) (N := 8) (ci := 1) hw in_X2 tyX2 tyX2_ok nmX2 rfl 6 (by decide) (Or.inl ⟨q147, Or.inl rfl⟩) rfl rfl (gOne_I M c 6 x) (by show Value.int (gI (gsI M c 6 x) c 6) = _; rw [gI_sI, if_pos ⟨rfl, rfl⟩]) d hk kk
theorem sX2_25 {y0 : MethodName} {cc : ByteArray} {nL : Nat} {ret : Option FieldType} {hh : List (Nat × Nat × Nat × Nat)} {kf : Nat} {G : gG} {Qv : Option Value → gM → Prop} {E : String → Nat → gM → Prop} {w : gM → Nat → List (Nat × Value) → List Value → Prop} {M : gM} {pc : Nat} {lv : List (Nat × Value)} {rest : List Value} (hw : gX y0 cc nL ret hh kf G Qv E w) (hy : y0.cls = RX2)  {Q : gM → Prop} (d : decode cc pc = .ok (.invokevirtual 25, 3)) (hrest : Nat.ble ((rest.map Value.category).sum) 8 = true) (hk : 5 + 1 ≤ kf) (hkd : gk M 25 = 2) (h : fX2_next M Q) (kk : ∀ M1, Q M1 → w M1 (pc + 3) lv rest) : w M pc lv (.ref (gA G 25) :: rest) := by
  obtain ⟨cls9, nm9, ds9⟩ := y0
  subst hy
  exact g_callV (r := (RX2, TX2, 8)) (ci := 1) hw [] (nA := 0) rfl d q504 q506 qs13 q99 q507 (by decide +kernel) rfl rfl hrest rfl (by omega : kf - 1 + 1 ≤ kf) hkd (mX2_next (kf := kf - 1) (by omega) G M Q h) (fun _ _ _ q => q.elim) (fun v M1 h => by obtain ⟨rfl, h⟩ := h; exact kk M1 h)
def fX2_begin (p1 : Nat) (p2 : Int32) (M : gM) (Q : gM → Prop) : Prop :=
  gk M 25 = 2 ∧ fX2_next (gsI (gsI (gsI (gsR M 25 0 (some p1)) 25 1 p2) 25 2 0) 25 6 0) (fun M2 => Q M2)
theorem mX2_begin {kf : Nat} (hkf : 6 ≤ kf) (G : gG) (p1 : Nat) (p2 : Int32) (M : gM) (Q : gM → Prop) (h : fX2_begin p1 p2 M Q) : gMet yX2_begin cX2_begin 3 (Option.none : Option FieldType) kf G M [.ref (gA G 25), .ref (gA G p1), .int p2] (gQv Q) gE0 := by
  refine g_intro (lv := [(0, .ref (gA G 25)), (1, .ref (gA G p1)), (2, .int p2)]) (by decide) rfl rfl (fun w hw => ?_)
  unfold fX2_begin at h
  refine g_aload_n hw 0 dX2_begin_0 rfl ?_
  refine g_aload_n hw 1 dX2_begin_1 rfl ?_
  obtain ⟨hk1, h⟩ := h
  refine pfX2_9 (q := some p1) hw rfl dX2_begin_2 hk1 ?_
  refine g_aload_n hw 0 dX2_begin_5 rfl ?_
  refine g_iload_n hw 2 dX2_begin_6 rfl ?_
  refine pfX2_15 hw rfl dX2_begin_7 hk1 ?_
  refine g_aload_n hw 0 dX2_begin_10 rfl ?_
  refine g_iconst (v := 0) hw dX2_begin_11 (by decide) ?_
  refine pfX2_19 hw rfl dX2_begin_12 hk1 ?_
  refine g_aload_n hw 0 dX2_begin_15 rfl ?_
  refine g_iconst (v := 0) hw dX2_begin_16 (by decide) ?_
  refine pfX2_22 hw rfl dX2_begin_17 hk1 ?_
  refine g_aload_n hw 0 dX2_begin_20 rfl ?_
  refine sX2_25 hw rfl dX2_begin_21 rfl (gK2 hkf) hk1 h (fun M2 h => ?_)
  exact g_vret hw dX2_begin_24 ⟨rfl, h⟩
theorem sX2_60 {y0 : MethodName} {cc : ByteArray} {nL : Nat} {ret : Option FieldType} {hh : List (Nat × Nat × Nat × Nat)} {kf : Nat} {G : gG} {Qv : Option Value → gM → Prop} {E : String → Nat → gM → Prop} {w : gM → Nat → List (Nat × Value) → List Value → Prop} {M : gM} {pc : Nat} {lv : List (Nat × Value)} {rest : List Value} (hw : gX y0 cc nL ret hh kf G Qv E w) (hy : y0.cls = RX2) {c0 : Nat} {Q : Int32 → gM → Prop} (d : decode cc pc = .ok (.invokevirtual 60, 3)) (hrest : Nat.ble ((rest.map Value.category).sum) 8 = true) (hk : 2 + 1 ≤ kf) (hkd : c0 < 8) (h : fJ5_length c0 M Q) (kk : ∀ r M1, Q r M1 → w M1 (pc + 3) lv (.int r :: rest)) : w M pc lv (.ref (gA G c0) :: rest) := by
  obtain ⟨cls9, nm9, ds9⟩ := y0
  subst hy
  exact g_callVS hw [] (nA := 0) rfl d q615 q534 q535 q110 q536 (by decide +kernel) rfl hrest rfl (by omega : kf - 1 + 1 ≤ kf) hkd (mJ5_length (kf := kf - 1) (by omega) G c0 M Q h) (fun _ _ _ q => q.elim) (fun v M1 h => by obtain ⟨r, rfl, h⟩ := h; exact kk r M1 h)
theorem gfX2_31 {y0 : MethodName} {cc : ByteArray} {nL : Nat} {ret : Option FieldType} {hh : List (Nat × Nat × Nat × Nat)} {kf : Nat} {G : gG} {Qv : Option Value → gM → Prop} {E : String → Nat → gM → Prop} {w : gM → Nat → List (Nat × Value) → List Value → Prop} {M : gM} {pc : Nat} {lv : List (Nat × Value)} {rest : List Value} (hw : gX y0 cc nL ret hh kf G Qv E w) (hy : y0.cls = RX2) {c : Nat} (d : decode cc pc = .ok (.getfield 31, 3)) (hk : gk M c = 2) (kk : w M (pc + 3) lv (.int (gI M c 3) :: rest)) : w M pc lv (.ref (gA G c) :: rest) := by
  obtain ⟨cls9, nm9, ds9⟩ := y0
  subst hy
  exact g_getC (C := RX2) (T := TX2) (N := 8) (ci := 1) hw in_X2 rfl 3 (by decide) (Or.inl q144) rfl d hk kk
theorem sX2_64 {y0 : MethodName} {cc : ByteArray} {nL : Nat} {ret : Option FieldType} {hh : List (Nat × Nat × Nat × Nat)} {kf : Nat} {G : gG} {Qv : Option Value → gM → Prop} {E : String → Nat → gM → Prop} {w : gM → Nat → List (Nat × Value) → List Value → Prop} {M : gM} {pc : Nat} {lv : List (Nat × Value)} {rest : List Value} (hw : gX y0 cc nL ret hh kf G Qv E w) (hy : y0.cls = RX2) {c0 : Nat} {p1 : Int32} {p2 : Int32} {Q : Int32 → gM → Prop} (d : decode cc pc = .ok (.invokevirtual 64, 3)) (hrest : Nat.ble ((rest.map Value.category).sum) 8 = true) (hk : 3 + 1 ≤ kf) (hkd : c0 < 8) (h : fJ5_indexOf_2 c0 p1 p2 M Q) (kk : ∀ r M1, Q r M1 → w M1 (pc + 3) lv (.int r :: rest)) : w M pc lv (.int p2 :: .int p1 :: .ref (gA G c0) :: rest) := by
  obtain ⟨cls9, nm9, ds9⟩ := y0
  subst hy
  exact g_callVS hw [.int p1, .int p2] (nA := 2) rfl d q616 q524 q525 q110 q526 (by decide +kernel) rfl hrest rfl (by omega : kf - 1 + 1 ≤ kf) hkd (mJ5_indexOf_2 (kf := kf - 1) (by omega) G c0 p1 p2 M Q h) (fun _ _ _ q => q.elim) (fun v M1 h => by obtain ⟨r, rfl, h⟩ := h; exact kk r M1 h)
theorem sX2_67 {y0 : MethodName} {cc : ByteArray} {nL : Nat} {ret : Option FieldType} {hh : List (Nat × Nat × Nat × Nat)} {kf : Nat} {G : gG} {Qv : Option Value → gM → Prop} {E : String → Nat → gM → Prop} {w : gM → Nat → List (Nat × Value) → List Value → Prop} {M : gM} {pc : Nat} {lv : List (Nat × Value)} {rest : List Value} (hw : gX y0 cc nL ret hh kf G Qv E w) (hy : y0.cls = RX2) {c0 : Nat} {p1 : Int32} {Q : Int32 → gM → Prop} (d : decode cc pc = .ok (.invokevirtual 67, 3)) (hrest : Nat.ble ((rest.map Value.category).sum) 8 = true) (hk : 2 + 1 ≤ kf) (hkd : c0 < 8) (h : fJ5_charAt c0 p1 M Q) (kk : ∀ r M1, Q r M1 → w M1 (pc + 3) lv (.int r :: rest)) : w M pc lv (.int p1 :: .ref (gA G c0) :: rest) := by
  obtain ⟨cls9, nm9, ds9⟩ := y0
  subst hy
  exact g_callVS hw [.int p1] (nA := 1) rfl d q617 q618 q619 q110 q620 (by decide +kernel) rfl hrest rfl (by omega : kf - 1 + 1 ≤ kf) hkd (mJ5_charAt (kf := kf - 1) (by omega) G c0 p1 M Q h) (fun _ _ _ q => q.elim) (fun v M1 h => by obtain ⟨r, rfl, h⟩ := h; exact kk r M1 h)
def fX2_which_b95 (R55 : Int32 → Int32 → gM → Prop) (l1_1 : Nat) (l2_19 : Int32) (l3_20 : Int32) (l4_21 : Int32) (l6_35 : Int32) (s0_36 : Int32) (M : gM) (Q : Int32 → gM → Prop) : Prop :=
  R55 s0_36 (l6_35 + 1) M
theorem wX2_which_b95 {kf : Nat} {G : gG} {w : gM → Nat → List (Nat × Value) → List Value → Prop} {Q : Int32 → gM → Prop} (hw : gX yX2_which cX2_which 7 (Option.some FieldType.int) [] kf G (gQi Q) gE0 w) (hkf : 4 ≤ kf) {R55 : Int32 → Int32 → gM → Prop} {l1_1 : Nat} {l2_19 : Int32} {l3_20 : Int32} {l4_21 : Int32} {l6_35 : Int32} {s0_36 : Int32} {M : gM} (hR55 : ∀ (v0 : Int32) (v1 : Int32) (M : gM), R55 v0 v1 M → w M 55 [(0, .ref (gA G 25)), (1, .ref (gA G l1_1)), (2, .int l2_19), (3, .int l3_20), (4, .int l4_21), (5, .int v0), (6, .int v1)] []) (h : fX2_which_b95 R55 l1_1 l2_19 l3_20 l4_21 l6_35 s0_36 M Q) : w M 95 [(0, .ref (gA G 25)), (1, .ref (gA G l1_1)), (2, .int l2_19), (3, .int l3_20), (4, .int l4_21), (6, .int l6_35)] [.int s0_36] := by
  unfold fX2_which_b95 at h
  refine g_istore hw (lv2 := [(0, .ref (gA G 25)), (1, .ref (gA G l1_1)), (2, .int l2_19), (3, .int l3_20), (4, .int l4_21), (5, .int s0_36), (6, .int l6_35)]) [1, 2, 3, 4, 5, 0, 6] dX2_which_95 rfl rfl ?_
  refine g_iinc hw (lv2 := [(0, .ref (gA G 25)), (1, .ref (gA G l1_1)), (2, .int l2_19), (3, .int l3_20), (4, .int l4_21), (5, .int s0_36), (6, .int (l6_35 + 1))]) 6 [1, 2, 3, 4, 5, 6, 0] dX2_which_97 rfl (by decide) rfl rfl ?_
  refine g_goto (tgt := 55) hw dX2_which_100 (by decide) ?_
  exact hR55 s0_36 (l6_35 + 1) M h
def fX2_which_L55s (R55 : Int32 → Int32 → gM → Prop) (K103_55 : Int32 → gM → Prop) (l1_1 : Nat) (l2_19 : Int32) (l3_20 : Int32) (l4_21 : Int32) (l5_22 : Int32) (l6_23 : Int32) (M : gM) (Q : Int32 → gM → Prop) : Prop :=
  (if l5_22 = 0 then K103_55 l5_22 M else (if l4_21 ≤ l6_23 then K103_55 l5_22 M else gk M 25 = 2 ∧ gdr (gR M 25 0) (fun a27 => gk M a27 = 42 ∧ vp_in ((gI M 25 4) + l6_23) (gl M a27) ∧ (l1_1 < 8) ∧ fJ5_charAt l1_1 (l3_20 + l6_23) M (fun r33 M32 => (if (gI M a27 (((gI M 25 4) + l6_23).toNatClampNeg)) = r33 then fX2_which_b95 R55 l1_1 l2_19 l3_20 l4_21 l6_23 1 M32 Q else fX2_which_b95 R55 l1_1 l2_19 l3_20 l4_21 l6_23 0 M32 Q)))))
def fX2_which_L55 (K103_55 : Int32 → gM → Prop) (l1_1 : Nat) (l2_19 : Int32) (l3_20 : Int32) (l4_21 : Int32) (Q : Int32 → gM → Prop) : Nat → Int32 → Int32 → gM → Prop
  | 0 => fun _ _ _ => False
  | n + 1 => fun l5_22 l6_23 M => fX2_which_L55s (fX2_which_L55 K103_55 l1_1 l2_19 l3_20 l4_21 Q n) K103_55 l1_1 l2_19 l3_20 l4_21 l5_22 l6_23 M Q
theorem wX2_which_L55s {kf : Nat} {G : gG} {w : gM → Nat → List (Nat × Value) → List Value → Prop} {Q : Int32 → gM → Prop} (hw : gX yX2_which cX2_which 7 (Option.some FieldType.int) [] kf G (gQi Q) gE0 w) (hkf : 4 ≤ kf) {R55 : Int32 → Int32 → gM → Prop} {K103_55 : Int32 → gM → Prop} {l1_1 : Nat} {l2_19 : Int32} {l3_20 : Int32} {l4_21 : Int32} {l5_22 : Int32} {l6_23 : Int32} {M : gM} (hR55 : ∀ (v0 : Int32) (v1 : Int32) (M : gM), R55 v0 v1 M → w M 55 [(0, .ref (gA G 25)), (1, .ref (gA G l1_1)), (2, .int l2_19), (3, .int l3_20), (4, .int l4_21), (5, .int v0), (6, .int v1)] []) (hK103_55 : ∀ (v0 : Int32) (M : gM), K103_55 v0 M → w M 103 [(0, .ref (gA G 25)), (1, .ref (gA G l1_1)), (2, .int l2_19), (3, .int l3_20), (4, .int l4_21), (5, .int v0)] []) (h : fX2_which_L55s R55 K103_55 l1_1 l2_19 l3_20 l4_21 l5_22 l6_23 M Q) : w M 55 [(0, .ref (gA G 25)), (1, .ref (gA G l1_1)), (2, .int l2_19), (3, .int l3_20), (4, .int l4_21), (5, .int l5_22), (6, .int l6_23)] [] := by
  unfold fX2_which_L55s at h
  refine g_iload hw 5 dX2_which_55 rfl ?_
  refine g_if_eq (tgt := 103) hw dX2_which_57 (by decide) (fun hb24 => ?_) (fun hb24 => ?_)
  · have h := gT h hb24
    refine g_sub hw (lv2 := [(0, .ref (gA G 25)), (1, .ref (gA G l1_1)), (2, .int l2_19), (3, .int l3_20), (4, .int l4_21), (5, .int l5_22)]) [0, 1, 2, 3, 4, 5] rfl ?_
    exact hK103_55 l5_22 M h
  · have h := gF h hb24
    refine g_iload hw 6 dX2_which_60 rfl ?_
    refine g_iload hw 4 dX2_which_62 rfl ?_
    refine g_icmp_ge (tgt := 103) hw dX2_which_64 (by decide) (fun hb25 => ?_) (fun hb25 => ?_)
    · have h := gT h hb25
      refine g_sub hw (lv2 := [(0, .ref (gA G 25)), (1, .ref (gA G l1_1)), (2, .int l2_19), (3, .int l3_20), (4, .int l4_21), (5, .int l5_22)]) [0, 1, 2, 3, 4, 5] rfl ?_
      exact hK103_55 l5_22 M h
    · have h := gF h hb25
      refine g_aload_n hw 0 dX2_which_67 rfl ?_
      obtain ⟨hk26, h⟩ := h
      obtain ⟨a27, e28, h⟩ := h
      refine gfX2_9 (q := some a27) hw rfl dX2_which_68 hk26 e28 ?_
      refine g_aload_n hw 0 dX2_which_71 rfl ?_
      refine gfX2_28 hw rfl dX2_which_72 hk26 ?_
      refine g_iload hw 6 dX2_which_75 rfl ?_
      refine g_iadd hw dX2_which_77 ?_
      obtain ⟨hk29, h⟩ := h
      obtain ⟨hi30, h⟩ := h
      refine g_bald (n := ((gI M 25 4) + l6_23).toNatClampNeg) hw dX2_which_78 hk29 hi30 rfl ?_
      refine g_aload_n hw 1 dX2_which_79 rfl ?_
      refine g_iload_n hw 3 dX2_which_80 rfl ?_
      refine g_iload hw 6 dX2_which_81 rfl ?_
      refine g_iadd hw dX2_which_83 ?_
      obtain ⟨hs31, h⟩ := h
      refine sX2_67 hw rfl dX2_which_84 rfl (gK2 hkf) hs31 h (fun r33 M32 h => ?_)
      refine g_icmp_ne (tgt := 94) hw dX2_which_87 (by decide) (fun hb34 => ?_) (fun hb34 => ?_)
      · have h := gF h hb34
        refine g_iconst (v := 0) hw dX2_which_94 (by decide) ?_
        refine g_sub hw (lv2 := [(0, .ref (gA G 25)), (1, .ref (gA G l1_1)), (2, .int l2_19), (3, .int l3_20), (4, .int l4_21), (6, .int l6_23)]) [0, 1, 2, 3, 4, 6] rfl ?_
        exact wX2_which_b95 hw hkf hR55 h
      · have h := gT h hb34
        refine g_iconst (v := 1) hw dX2_which_90 (by decide) ?_
        refine g_goto (tgt := 95) hw dX2_which_91 (by decide) ?_
        refine g_sub hw (lv2 := [(0, .ref (gA G 25)), (1, .ref (gA G l1_1)), (2, .int l2_19), (3, .int l3_20), (4, .int l4_21), (6, .int l6_23)]) [0, 1, 2, 3, 4, 6] rfl ?_
        exact wX2_which_b95 hw hkf hR55 h
theorem wX2_which_L55 {kf : Nat} {G : gG} {w : gM → Nat → List (Nat × Value) → List Value → Prop} {Q : Int32 → gM → Prop} (hw : gX yX2_which cX2_which 7 (Option.some FieldType.int) [] kf G (gQi Q) gE0 w) (hkf : 4 ≤ kf) {K103_55 : Int32 → gM → Prop} {l1_1 : Nat} {l2_19 : Int32} {l3_20 : Int32} {l4_21 : Int32} (hK103_55 : ∀ (v0 : Int32) (M : gM), K103_55 v0 M → w M 103 [(0, .ref (gA G 25)), (1, .ref (gA G l1_1)), (2, .int l2_19), (3, .int l3_20), (4, .int l4_21), (5, .int v0)] []) : ∀ (n : Nat) (l5_22 : Int32) (l6_23 : Int32) (M : gM), fX2_which_L55 K103_55 l1_1 l2_19 l3_20 l4_21 Q n l5_22 l6_23 M → w M 55 [(0, .ref (gA G 25)), (1, .ref (gA G l1_1)), (2, .int l2_19), (3, .int l3_20), (4, .int l4_21), (5, .int l5_22), (6, .int l6_23)] [] := by
  intro n
  induction n with
  | zero => intro l5_22 l6_23 M h; exact h.elim
  | succ n ih => intro l5_22 l6_23 M h; exact wX2_which_L55s hw hkf ih hK103_55 h
def fX2_which_b103 (R4 : Int32 → Int32 → gM → Prop) (K108_4 : Int32 → gM → Prop) (l1_1 : Nat) (l2_39 : Int32) (l3_40 : Int32) (l4_41 : Int32) (l5_42 : Int32) (M : gM) (Q : Int32 → gM → Prop) : Prop :=
  (if l5_42 = 0 then R4 (l2_39 + 1) (l3_40 + (l4_41 + 1)) M else K108_4 l2_39 M)
theorem wX2_which_b103 {kf : Nat} {G : gG} {w : gM → Nat → List (Nat × Value) → List Value → Prop} {Q : Int32 → gM → Prop} (hw : gX yX2_which cX2_which 7 (Option.some FieldType.int) [] kf G (gQi Q) gE0 w) (hkf : 4 ≤ kf) {R4 : Int32 → Int32 → gM → Prop} {K108_4 : Int32 → gM → Prop} {l1_1 : Nat} {l2_39 : Int32} {l3_40 : Int32} {l4_41 : Int32} {l5_42 : Int32} {M : gM} (hR4 : ∀ (v0 : Int32) (v1 : Int32) (M : gM), R4 v0 v1 M → w M 4 [(0, .ref (gA G 25)), (1, .ref (gA G l1_1)), (2, .int v0), (3, .int v1)] []) (hK108_4 : ∀ (v0 : Int32) (M : gM), K108_4 v0 M → w M 108 [(2, .int v0)] []) (h : fX2_which_b103 R4 K108_4 l1_1 l2_39 l3_40 l4_41 l5_42 M Q) : w M 103 [(0, .ref (gA G 25)), (1, .ref (gA G l1_1)), (2, .int l2_39), (3, .int l3_40), (4, .int l4_41), (5, .int l5_42)] [] := by
  unfold fX2_which_b103 at h
  refine g_iload hw 5 dX2_which_103 rfl ?_
  refine g_if_eq (tgt := 110) hw dX2_which_105 (by decide) (fun hb43 => ?_) (fun hb43 => ?_)
  · have h := gT h hb43
    refine g_iload_n hw 3 dX2_which_110 rfl ?_
    refine g_iload hw 4 dX2_which_111 rfl ?_
    refine g_iconst (v := 1) hw dX2_which_113 (by decide) ?_
    refine g_iadd hw dX2_which_114 ?_
    refine g_iadd hw dX2_which_115 ?_
    refine g_istore_n hw (lv2 := [(0, .ref (gA G 25)), (1, .ref (gA G l1_1)), (2, .int l2_39), (3, .int (l3_40 + (l4_41 + 1)))]) [1, 2, 3, 0] dX2_which_116 rfl rfl ?_
    refine g_iinc hw (lv2 := [(0, .ref (gA G 25)), (1, .ref (gA G l1_1)), (2, .int (l2_39 + 1)), (3, .int (l3_40 + (l4_41 + 1)))]) 2 [1, 2, 0, 3] dX2_which_117 rfl (by decide) rfl rfl ?_
    refine g_goto (tgt := 4) hw dX2_which_120 (by decide) ?_
    exact hR4 (l2_39 + 1) (l3_40 + (l4_41 + 1)) M h
  · have h := gF h hb43
    refine g_sub hw (lv2 := [(2, .int l2_39)]) [2] rfl ?_
    exact hK108_4 l2_39 M h
def fX2_which_b50 (R4 : Int32 → Int32 → gM → Prop) (K108_4 : Int32 → gM → Prop) (l1_1 : Nat) (l2_15 : Int32) (l3_16 : Int32) (l4_17 : Int32) (s0_18 : Int32) (M : gM) (Q : Int32 → gM → Prop) : Prop :=
  ∃ n, fX2_which_L55 (fun l5_37 M38 => fX2_which_b103 R4 K108_4 l1_1 l2_15 l3_16 l4_17 l5_37 M38 Q) l1_1 l2_15 l3_16 l4_17 Q n s0_18 0 M
theorem wX2_which_b50 {kf : Nat} {G : gG} {w : gM → Nat → List (Nat × Value) → List Value → Prop} {Q : Int32 → gM → Prop} (hw : gX yX2_which cX2_which 7 (Option.some FieldType.int) [] kf G (gQi Q) gE0 w) (hkf : 4 ≤ kf) {R4 : Int32 → Int32 → gM → Prop} {K108_4 : Int32 → gM → Prop} {l1_1 : Nat} {l2_15 : Int32} {l3_16 : Int32} {l4_17 : Int32} {s0_18 : Int32} {M : gM} (hR4 : ∀ (v0 : Int32) (v1 : Int32) (M : gM), R4 v0 v1 M → w M 4 [(0, .ref (gA G 25)), (1, .ref (gA G l1_1)), (2, .int v0), (3, .int v1)] []) (hK108_4 : ∀ (v0 : Int32) (M : gM), K108_4 v0 M → w M 108 [(2, .int v0)] []) (h : fX2_which_b50 R4 K108_4 l1_1 l2_15 l3_16 l4_17 s0_18 M Q) : w M 50 [(0, .ref (gA G 25)), (1, .ref (gA G l1_1)), (2, .int l2_15), (3, .int l3_16), (4, .int l4_17)] [.int s0_18] := by
  unfold fX2_which_b50 at h
  refine g_istore hw (lv2 := [(0, .ref (gA G 25)), (1, .ref (gA G l1_1)), (2, .int l2_15), (3, .int l3_16), (4, .int l4_17), (5, .int s0_18)]) [1, 2, 3, 4, 5, 0] dX2_which_50 rfl rfl ?_
  refine g_iconst (v := 0) hw dX2_which_52 (by decide) ?_
  refine g_istore hw (lv2 := [(0, .ref (gA G 25)), (1, .ref (gA G l1_1)), (2, .int l2_15), (3, .int l3_16), (4, .int l4_17), (5, .int s0_18), (6, .int 0)]) [1, 2, 3, 4, 5, 6, 0] dX2_which_53 rfl rfl ?_
  obtain ⟨n9, h⟩ := h
  refine wX2_which_L55 hw hkf (fun l5_37 M38 h => ?_) n9 s0_18 0 M h
  exact wX2_which_b103 hw hkf hR4 hK108_4 h
def fX2_which_L4s (R4 : Int32 → Int32 → gM → Prop) (K108_4 : Int32 → gM → Prop) (K123_4 : gM → Prop) (l1_1 : Nat) (l2_2 : Int32) (l3_3 : Int32) (M : gM) (Q : Int32 → gM → Prop) : Prop :=
  (l1_1 < 8) ∧ fJ5_length l1_1 M (fun r6 M5 => (if r6 ≤ l3_3 then K123_4 M5 else gk M5 25 = 2 ∧ (if (gI M5 25 3) = 1 then (l1_1 < 8) ∧ fJ5_indexOf_2 l1_1 32 l3_3 M5 (fun r12 M11 => gk M11 25 = 2 ∧ (if ((gI M11 25 2) - (gI M11 25 4)) = (r12 - l3_3) then fX2_which_b50 R4 K108_4 l1_1 l2_2 l3_3 (r12 - l3_3) 1 M11 Q else fX2_which_b50 R4 K108_4 l1_1 l2_2 l3_3 (r12 - l3_3) 0 M11 Q)) else K123_4 M5)))
def fX2_which_L4 (K108_4 : Int32 → gM → Prop) (K123_4 : gM → Prop) (l1_1 : Nat) (Q : Int32 → gM → Prop) : Nat → Int32 → Int32 → gM → Prop
  | 0 => fun _ _ _ => False
  | n + 1 => fun l2_2 l3_3 M => fX2_which_L4s (fX2_which_L4 K108_4 K123_4 l1_1 Q n) K108_4 K123_4 l1_1 l2_2 l3_3 M Q
theorem wX2_which_L4s {kf : Nat} {G : gG} {w : gM → Nat → List (Nat × Value) → List Value → Prop} {Q : Int32 → gM → Prop} (hw : gX yX2_which cX2_which 7 (Option.some FieldType.int) [] kf G (gQi Q) gE0 w) (hkf : 4 ≤ kf) {R4 : Int32 → Int32 → gM → Prop} {K108_4 : Int32 → gM → Prop} {K123_4 : gM → Prop} {l1_1 : Nat} {l2_2 : Int32} {l3_3 : Int32} {M : gM} (hR4 : ∀ (v0 : Int32) (v1 : Int32) (M : gM), R4 v0 v1 M → w M 4 [(0, .ref (gA G 25)), (1, .ref (gA G l1_1)), (2, .int v0), (3, .int v1)] []) (hK108_4 : ∀ (v0 : Int32) (M : gM), K108_4 v0 M → w M 108 [(2, .int v0)] []) (hK123_4 : ∀  (M : gM), K123_4 M → w M 123 [] []) (h : fX2_which_L4s R4 K108_4 K123_4 l1_1 l2_2 l3_3 M Q) : w M 4 [(0, .ref (gA G 25)), (1, .ref (gA G l1_1)), (2, .int l2_2), (3, .int l3_3)] [] := by
  unfold fX2_which_L4s at h
  refine g_iload_n hw 3 dX2_which_4 rfl ?_
  refine g_aload_n hw 1 dX2_which_5 rfl ?_
  obtain ⟨hs4, h⟩ := h
  refine sX2_60 hw rfl dX2_which_6 rfl (gK2 hkf) hs4 h (fun r6 M5 h => ?_)
  refine g_icmp_ge (tgt := 123) hw dX2_which_9 (by decide) (fun hb7 => ?_) (fun hb7 => ?_)
  · have h := gT h hb7
    refine g_sub hw (lv2 := []) [] rfl ?_
    exact hK123_4 M5 h
  · have h := gF h hb7
    refine g_aload_n hw 0 dX2_which_12 rfl ?_
    obtain ⟨hk8, h⟩ := h
    refine gfX2_31 hw rfl dX2_which_13 hk8 ?_
    refine g_iconst (v := 1) hw dX2_which_16 (by decide) ?_
    refine g_icmp_ne (tgt := 123) hw dX2_which_17 (by decide) (fun hb9 => ?_) (fun hb9 => ?_)
    · have h := gF h hb9
      refine g_sub hw (lv2 := []) [] rfl ?_
      exact hK123_4 M5 h
    · have h := gT h hb9
      refine g_aload_n hw 1 dX2_which_20 rfl ?_
      refine g_bipush (v := 32) hw dX2_which_21 (by decide) ?_
      refine g_iload_n hw 3 dX2_which_23 rfl ?_
      obtain ⟨hs10, h⟩ := h
      refine sX2_64 hw rfl dX2_which_24 rfl (gK2 hkf) hs10 h (fun r12 M11 h => ?_)
      refine g_iload_n hw 3 dX2_which_27 rfl ?_
      refine g_isub hw dX2_which_28 ?_
      refine g_istore hw (lv2 := [(0, .ref (gA G 25)), (1, .ref (gA G l1_1)), (2, .int l2_2), (3, .int l3_3), (4, .int (r12 - l3_3))]) [1, 2, 3, 4, 0] dX2_which_29 rfl rfl ?_
      refine g_aload_n hw 0 dX2_which_31 rfl ?_
      obtain ⟨hk13, h⟩ := h
      refine gfX2_19 hw rfl dX2_which_32 hk13 ?_
      refine g_aload_n hw 0 dX2_which_35 rfl ?_
      refine gfX2_28 hw rfl dX2_which_36 hk13 ?_
      refine g_isub hw dX2_which_39 ?_
      refine g_iload hw 4 dX2_which_40 rfl ?_
      refine g_icmp_ne (tgt := 49) hw dX2_which_42 (by decide) (fun hb14 => ?_) (fun hb14 => ?_)
      · have h := gF h hb14
        refine g_iconst (v := 0) hw dX2_which_49 (by decide) ?_
        exact wX2_which_b50 hw hkf hR4 hK108_4 h
      · have h := gT h hb14
        refine g_iconst (v := 1) hw dX2_which_45 (by decide) ?_
        refine g_goto (tgt := 50) hw dX2_which_46 (by decide) ?_
        exact wX2_which_b50 hw hkf hR4 hK108_4 h
theorem wX2_which_L4 {kf : Nat} {G : gG} {w : gM → Nat → List (Nat × Value) → List Value → Prop} {Q : Int32 → gM → Prop} (hw : gX yX2_which cX2_which 7 (Option.some FieldType.int) [] kf G (gQi Q) gE0 w) (hkf : 4 ≤ kf) {K108_4 : Int32 → gM → Prop} {K123_4 : gM → Prop} {l1_1 : Nat} (hK108_4 : ∀ (v0 : Int32) (M : gM), K108_4 v0 M → w M 108 [(2, .int v0)] []) (hK123_4 : ∀  (M : gM), K123_4 M → w M 123 [] []) : ∀ (n : Nat) (l2_2 : Int32) (l3_3 : Int32) (M : gM), fX2_which_L4 K108_4 K123_4 l1_1 Q n l2_2 l3_3 M → w M 4 [(0, .ref (gA G 25)), (1, .ref (gA G l1_1)), (2, .int l2_2), (3, .int l3_3)] [] := by
  intro n
  induction n with
  | zero => intro l2_2 l3_3 M h; exact h.elim
  | succ n ih => intro l2_2 l3_3 M h; exact wX2_which_L4s hw hkf ih hK108_4 hK123_4 h
def fX2_which (p1 : Nat) (M : gM) (Q : Int32 → gM → Prop) : Prop :=
  ∃ n, fX2_which_L4 (fun l2_44 M45 => Q l2_44 M45) (fun M46 => Q (-1) M46) p1 Q n 0 0 M
theorem mX2_which {kf : Nat} (hkf : 4 ≤ kf) (G : gG) (p1 : Nat) (M : gM) (Q : Int32 → gM → Prop) (h : fX2_which p1 M Q) : gMet yX2_which cX2_which 7 (Option.some FieldType.int) kf G M [.ref (gA G 25), .ref (gA G p1)] (gQi Q) gE0 := by
  refine g_intro (lv := [(0, .ref (gA G 25)), (1, .ref (gA G p1))]) (by decide) rfl rfl (fun w hw => ?_)
  unfold fX2_which at h
  refine g_iconst (v := 0) hw dX2_which_0 (by decide) ?_
  refine g_istore_n hw (lv2 := [(0, .ref (gA G 25)), (1, .ref (gA G p1)), (2, .int 0)]) [1, 2, 0] dX2_which_1 rfl rfl ?_
  refine g_iconst (v := 0) hw dX2_which_2 (by decide) ?_
  refine g_istore_n hw (lv2 := [(0, .ref (gA G 25)), (1, .ref (gA G p1)), (2, .int 0), (3, .int 0)]) [1, 2, 3, 0] dX2_which_3 rfl rfl ?_
  obtain ⟨n9, h⟩ := h
  refine wX2_which_L4 hw hkf (fun l2_44 M45 h => ?_) (fun M46 h => ?_) n9 0 0 M h
  · refine g_iload_n hw 0 dX2_which_108 rfl ?_
    exact g_iret hw dX2_which_109 rfl ⟨_, rfl, h⟩
  · refine g_iconst (v := (-1)) hw dX2_which_123 (by decide) ?_
    exact g_iret hw dX2_which_124 rfl ⟨_, rfl, h⟩
theorem sX2_57 {y0 : MethodName} {cc : ByteArray} {nL : Nat} {ret : Option FieldType} {hh : List (Nat × Nat × Nat × Nat)} {kf : Nat} {G : gG} {Qv : Option Value → gM → Prop} {E : String → Nat → gM → Prop} {w : gM → Nat → List (Nat × Value) → List Value → Prop} {M : gM} {pc : Nat} {lv : List (Nat × Value)} {rest : List Value} (hw : gX y0 cc nL ret hh kf G Qv E w) (hy : y0.cls = RX2) {c0 : Nat} {p1 : Int32} {p2 : Int32} {Q : gM → Prop} (d : decode cc pc = .ok (.invokespecial 57, 3)) (hrest : Nat.ble ((rest.map Value.category).sum) 8 = true) (hk : 4 + 1 ≤ kf) (h : fX8_init c0 p1 p2 M Q) (kk : ∀ M1, Q M1 → w M1 (pc + 3) lv rest) : w M pc lv (.int p2 :: .int p1 :: .ref (gA G c0) :: rest) := by
  obtain ⟨cls9, nm9, ds9⟩ := y0
  subst hy
  exact g_callI hw [.int p1, .int p2] (nA := 2) rfl d (Or.inl q681) q682 q115 q683 (by decide +kernel) rfl rfl hrest rfl (by omega : kf - 1 + 1 ≤ kf) (mX8_init (kf := kf - 1) (by omega) G c0 p1 p2 M Q h) (fun _ _ _ q => q.elim) (fun v M1 h => by obtain ⟨rfl, h⟩ := h; exact kk M1 h)
def fX2_wrong (p1 : Int32) (M : gM) (Q : Nat → gM → Prop) : Prop :=
  gn M < gLC ∧ gs M + 7 ≤ gLS ∧ gk (gnew M 8 0 7) 25 = 2 ∧ fX8_init (gn M) p1 (gI (gnew M 8 0 7) 25 4) (gnew M 8 0 7) (fun M4 => Q (gn M) M4)
theorem mX2_wrong {kf : Nat} (hkf : 5 ≤ kf) (G : gG) (p1 : Int32) (M : gM) (Q : Nat → gM → Prop) (h : fX2_wrong p1 M Q) : gMet yX2_wrong cX2_wrong 2 (Option.some (FieldType.object "RiverWage$Wrong")) kf G M [.ref (gA G 25), .int p1] (gQr G Q) gE0 := by
  refine g_intro (lv := [(0, .ref (gA G 25)), (1, .int p1)]) (by decide) rfl rfl (fun w hw => ?_)
  unfold fX2_wrong at h
  obtain ⟨hc1, h⟩ := h
  obtain ⟨hc2, h⟩ := h
  refine g_new (C := RX8) (T := TX8) (N := 7) (ci := 7) hw in_X8 tyX8 tyX8_ok rfl rfl (by decide) dX2_wrong_0 q641 q642 q115 hc1 hc2 ?_
  refine g_dup hw dX2_wrong_3 rfl ?_
  refine g_iload_n hw 1 dX2_wrong_4 rfl ?_
  refine g_aload_n hw 0 dX2_wrong_5 rfl ?_
  obtain ⟨hk3, h⟩ := h
  refine gfX2_28 hw rfl dX2_wrong_6 hk3 ?_
  refine sX2_57 hw rfl dX2_wrong_9 rfl (gK2 hkf) h (fun M4 h => ?_)
  exact g_aret hw dX2_wrong_12 ⟨_, rfl, h⟩
theorem sX2_71 {y0 : MethodName} {cc : ByteArray} {nL : Nat} {ret : Option FieldType} {hh : List (Nat × Nat × Nat × Nat)} {kf : Nat} {G : gG} {Qv : Option Value → gM → Prop} {E : String → Nat → gM → Prop} {w : gM → Nat → List (Nat × Value) → List Value → Prop} {M : gM} {pc : Nat} {lv : List (Nat × Value)} {rest : List Value} (hw : gX y0 cc nL ret hh kf G Qv E w) (hy : y0.cls = RX2) {p1 : Nat} {Q : Int32 → gM → Prop} (d : decode cc pc = .ok (.invokevirtual 71, 3)) (hrest : Nat.ble ((rest.map Value.category).sum) 8 = true) (hk : 4 + 1 ≤ kf) (hkd : gk M 25 = 2) (h : fX2_which p1 M Q) (kk : ∀ r M1, Q r M1 → w M1 (pc + 3) lv (.int r :: rest)) : w M pc lv (.ref (gA G p1) :: .ref (gA G 25) :: rest) := by
  obtain ⟨cls9, nm9, ds9⟩ := y0
  subst hy
  exact g_callV (r := (RX2, TX2, 8)) (ci := 1) hw [.ref (gA G p1)] (nA := 1) rfl d q611 q613 qs15 q99 q614 (by decide +kernel) rfl rfl hrest rfl (by omega : kf - 1 + 1 ≤ kf) hkd (mX2_which (kf := kf - 1) (by omega) G p1 M Q h) (fun _ _ _ q => q.elim) (fun v M1 h => by obtain ⟨r, rfl, h⟩ := h; exact kk r M1 h)
theorem sX2_75 {y0 : MethodName} {cc : ByteArray} {nL : Nat} {ret : Option FieldType} {hh : List (Nat × Nat × Nat × Nat)} {kf : Nat} {G : gG} {Qv : Option Value → gM → Prop} {E : String → Nat → gM → Prop} {w : gM → Nat → List (Nat × Value) → List Value → Prop} {M : gM} {pc : Nat} {lv : List (Nat × Value)} {rest : List Value} (hw : gX y0 cc nL ret hh kf G Qv E w) (hy : y0.cls = RX2) {p1 : Int32} {Q : Nat → gM → Prop} (d : decode cc pc = .ok (.invokevirtual 75, 3)) (hrest : Nat.ble ((rest.map Value.category).sum) 8 = true) (hk : 5 + 1 ≤ kf) (hkd : gk M 25 = 2) (h : fX2_wrong p1 M Q) (kk : ∀ r M1, Q r M1 → w M1 (pc + 3) lv (.ref (gA G r) :: rest)) : w M pc lv (.int p1 :: .ref (gA G 25) :: rest) := by
  obtain ⟨cls9, nm9, ds9⟩ := y0
  subst hy
  exact g_callV (r := (RX2, TX2, 8)) (ci := 1) hw [.int p1] (nA := 1) rfl d q637 q639 qs16 q99 q640 (by decide +kernel) rfl rfl hrest rfl (by omega : kf - 1 + 1 ≤ kf) hkd (mX2_wrong (kf := kf - 1) (by omega) G p1 M Q h) (fun _ _ _ q => q.elim) (fun v M1 h => by obtain ⟨r, rfl, h⟩ := h; exact kk r M1 h)
def fX2_need (p1 : Nat) (M : gM) (Q : gM → Prop) (E : Nat → gM → Prop) : Prop :=
  gk M 25 = 2 ∧ fX2_which p1 M (fun r3 M2 => (if 0 ≤ r3 then gk M2 25 = 2 ∧ fX2_next M2 (fun M6 => Q M6) else gk M2 25 = 2 ∧ fX2_wrong 1 M2 (fun r10 M9 => gk M9 r10 = 8 ∧ E r10 M9)))
theorem mX2_need {kf : Nat} (hkf : 6 ≤ kf) (G : gG) (p1 : Nat) (M : gM) (Q : gM → Prop) (E : Nat → gM → Prop) (h : fX2_need p1 M Q E) : gMet yX2_need cX2_need 2 (Option.none : Option FieldType) kf G M [.ref (gA G 25), .ref (gA G p1)] (gQv Q) (gEx "RiverWage$Wrong" E) := by
  refine g_intro (lv := [(0, .ref (gA G 25)), (1, .ref (gA G p1))]) (by decide) rfl rfl (fun w hw => ?_)
  unfold fX2_need at h
  refine g_aload_n hw 0 dX2_need_0 rfl ?_
  refine g_aload_n hw 1 dX2_need_1 rfl ?_
  obtain ⟨hk1, h⟩ := h
  refine sX2_71 hw rfl dX2_need_2 rfl (gK2 hkf) hk1 h (fun r3 M2 h => ?_)
  refine g_if_ge (tgt := 14) hw dX2_need_5 (by decide) (fun hb4 => ?_) (fun hb4 => ?_)
  · have h := gT h hb4
    refine g_aload_n hw 0 dX2_need_14 rfl ?_
    obtain ⟨hk5, h⟩ := h
    refine sX2_25 hw rfl dX2_need_15 rfl (gK2 hkf) hk5 h (fun M6 h => ?_)
    exact g_vret hw dX2_need_18 ⟨rfl, h⟩
  · have h := gF h hb4
    refine g_aload_n hw 0 dX2_need_8 rfl ?_
    refine g_iconst (v := 1) hw dX2_need_9 (by decide) ?_
    obtain ⟨hk8, h⟩ := h
    refine sX2_75 hw rfl dX2_need_10 rfl (gK2 hkf) hk8 h (fun r10 M9 h => ?_)
    obtain ⟨hk11, h⟩ := h
    exact g_athrow (ci := 7) hw rfl dX2_need_13 hk11 ⟨rfl, h⟩
def fX2_isSign_b25  (M : gM) (Q : Int32 → gM → Prop) : Prop :=
  Q 0 M
theorem wX2_isSign_b25 {kf : Nat} {G : gG} {w : gM → Nat → List (Nat × Value) → List Value → Prop} {Q : Int32 → gM → Prop} (hw : gX yX2_isSign cX2_isSign 2 (Option.some FieldType.boolean) [] kf G (gQi Q) gE0 w) (hkf : 1 ≤ kf)   {M : gM}  (h : fX2_isSign_b25 M Q) : w M 25 [] [] := by
  unfold fX2_isSign_b25 at h
  refine g_iconst (v := 0) hw dX2_isSign_25 (by decide) ?_
  exact g_iret hw dX2_isSign_26 (by decide +kernel) ⟨_, rfl, h⟩
def fX2_isSign (p1 : Int32) (M : gM) (Q : Int32 → gM → Prop) : Prop :=
  gk M 25 = 2 ∧ (if (gI M 25 3) = 3 then gdr (gR M 25 0) (fun a3 => gk M a3 = 42 ∧ vp_in (gI M 25 4) (gl M a3) ∧ (if (gI M a3 ((gI M 25 4).toNatClampNeg)) = p1 then Q 1 M else fX2_isSign_b25 M Q)) else fX2_isSign_b25 M Q)
theorem mX2_isSign {kf : Nat} (hkf : 1 ≤ kf) (G : gG) (p1 : Int32) (M : gM) (Q : Int32 → gM → Prop) (h : fX2_isSign p1 M Q) : gMet yX2_isSign cX2_isSign 2 (Option.some FieldType.boolean) kf G M [.ref (gA G 25), .int p1] (gQi Q) gE0 := by
  refine g_intro (lv := [(0, .ref (gA G 25)), (1, .int p1)]) (by decide) rfl rfl (fun w hw => ?_)
  unfold fX2_isSign at h
  refine g_aload_n hw 0 dX2_isSign_0 rfl ?_
  obtain ⟨hk1, h⟩ := h
  refine gfX2_31 hw rfl dX2_isSign_1 hk1 ?_
  refine g_iconst (v := 3) hw dX2_isSign_4 (by decide) ?_
  refine g_icmp_ne (tgt := 25) hw dX2_isSign_5 (by decide) (fun hb2 => ?_) (fun hb2 => ?_)
  · have h := gF h hb2
    refine g_sub hw (lv2 := []) [] rfl ?_
    exact wX2_isSign_b25 hw hkf h
  · have h := gT h hb2
    refine g_aload_n hw 0 dX2_isSign_8 rfl ?_
    obtain ⟨a3, e4, h⟩ := h
    refine gfX2_9 (q := some a3) hw rfl dX2_isSign_9 hk1 e4 ?_
    refine g_aload_n hw 0 dX2_isSign_12 rfl ?_
    refine gfX2_28 hw rfl dX2_isSign_13 hk1 ?_
    obtain ⟨hk5, h⟩ := h
    obtain ⟨hi6, h⟩ := h
    refine g_bald (n := (gI M 25 4).toNatClampNeg) hw dX2_isSign_16 hk5 hi6 rfl ?_
    refine g_iload_n hw 1 dX2_isSign_17 rfl ?_
    refine g_icmp_ne (tgt := 25) hw dX2_isSign_18 (by decide) (fun hb7 => ?_) (fun hb7 => ?_)
    · have h := gF h hb7
      refine g_sub hw (lv2 := []) [] rfl ?_
      exact wX2_isSign_b25 hw hkf h
    · have h := gT h hb7
      refine g_iconst (v := 1) hw dX2_isSign_21 (by decide) ?_
      refine g_goto (tgt := 26) hw dX2_isSign_22 (by decide) ?_
      exact g_iret hw dX2_isSign_26 (by decide +kernel) ⟨_, rfl, h⟩
theorem sX2_146P {y0 : MethodName} {cc : ByteArray} {nL : Nat} {ret : Option FieldType} {kf : Nat} {G : gG} {Qv : Option Value → gM → Prop} {E1 : Nat → gM → Prop} {w : gM → Nat → List (Nat × Value) → List Value → Prop} {M : gM} {pc : Nat} {lv : List (Nat × Value)} {rest : List Value} (hw : gX y0 cc nL ret [] kf G Qv (gEx "RiverWage$Wrong" E1) w) (hy : y0.cls = RX2)  {Q : Nat → gM → Prop} (d : decode cc pc = .ok (.invokevirtual 146, 3)) (hrest : Nat.ble ((rest.map Value.category).sum) 8 = true) {v : Nat} {P : gM → (Nat → gM → Prop) → (Nat → gM → Prop) → Prop} {j : Nat} (hk : v + (j + 1) ≤ kf) (hv : 6 ≤ v) (hP : ∀ (kf : Nat)  (M : gM) (Q : Nat → gM → Prop) (E : Nat → gM → Prop), v ≤ kf → P M Q E → gMet yX2_part cX2_part 5 (Option.some (FieldType.object "RiverWage$Expression")) kf G M [.ref (gA G 25)] (gQr G Q) (gEx "RiverWage$Wrong" E)) (hkd : gk M 25 = 2) (h : P M Q E1) (kk : ∀ r M1, Q r M1 → w M1 (pc + 3) lv (.ref (gA G r) :: rest)) : w M pc lv (.ref (gA G 25) :: rest) := by
  obtain ⟨cls9, nm9, ds9⟩ := y0
  subst hy
  exact g_callV (r := (RX2, TX2, 8)) (ci := 1) hw [] (nA := 0) rfl d q731 q733 qs23 q99 q734 (by decide +kernel) rfl rfl hrest rfl (by omega : kf - 1 + 1 ≤ kf) hkd (hP (kf - 1) M Q E1 (by omega) h) (fun _ _ _ q => gCat0 q) (fun v M1 h => by obtain ⟨r, rfl, h⟩ := h; exact kk r M1 h)
theorem sX2_79 {y0 : MethodName} {cc : ByteArray} {nL : Nat} {ret : Option FieldType} {hh : List (Nat × Nat × Nat × Nat)} {kf : Nat} {G : gG} {Qv : Option Value → gM → Prop} {E : String → Nat → gM → Prop} {w : gM → Nat → List (Nat × Value) → List Value → Prop} {M : gM} {pc : Nat} {lv : List (Nat × Value)} {rest : List Value} (hw : gX y0 cc nL ret hh kf G Qv E w) (hy : y0.cls = RX2) {p1 : Int32} {Q : Int32 → gM → Prop} (d : decode cc pc = .ok (.invokevirtual 79, 3)) (hrest : Nat.ble ((rest.map Value.category).sum) 8 = true) (hk : 1 + 1 ≤ kf) (hkd : gk M 25 = 2) (h : fX2_isSign p1 M Q) (kk : ∀ r M1, Q r M1 → w M1 (pc + 3) lv (.int r :: rest)) : w M pc lv (.int p1 :: .ref (gA G 25) :: rest) := by
  obtain ⟨cls9, nm9, ds9⟩ := y0
  subst hy
  exact g_callV (r := (RX2, TX2, 8)) (ci := 1) hw [.int p1] (nA := 1) rfl d q736 q738 qs24 q99 q739 (by decide +kernel) rfl rfl hrest rfl (by omega : kf - 1 + 1 ≤ kf) hkd (mX2_isSign (kf := kf - 1) (by omega) G p1 M Q h) (fun _ _ _ q => q.elim) (fun v M1 h => by obtain ⟨r, rfl, h⟩ := h; exact kk r M1 h)
theorem sX2_137 {y0 : MethodName} {cc : ByteArray} {nL : Nat} {ret : Option FieldType} {hh : List (Nat × Nat × Nat × Nat)} {kf : Nat} {G : gG} {Qv : Option Value → gM → Prop} {E : String → Nat → gM → Prop} {w : gM → Nat → List (Nat × Value) → List Value → Prop} {M : gM} {pc : Nat} {lv : List (Nat × Value)} {rest : List Value} (hw : gX y0 cc nL ret hh kf G Qv E w) (hy : y0.cls = RX2) {c0 : Nat} {p1 : Int32} {p2 : Nat} {p3 : Nat} {Q : gM → Prop} (d : decode cc pc = .ok (.invokespecial 137, 3)) (hrest : Nat.ble ((rest.map Value.category).sum) 8 = true) (hk : 2 + 1 ≤ kf) (h : fX13_init c0 p1 p2 p3 M Q) (kk : ∀ M1, Q M1 → w M1 (pc + 3) lv rest) : w M pc lv (.ref (gA G p3) :: .ref (gA G p2) :: .int p1 :: .ref (gA G c0) :: rest) := by
  obtain ⟨cls9, nm9, ds9⟩ := y0
  subst hy
  exact g_callI hw [.int p1, .ref (gA G p2), .ref (gA G p3)] (nA := 3) rfl d (Or.inl q783) q784 q120 q785 (by decide +kernel) rfl rfl hrest rfl (by omega : kf - 1 + 1 ≤ kf) (mX13_init (kf := kf - 1) (by omega) G c0 p1 p2 p3 M Q h) (fun _ _ _ q => q.elim) (fun v M1 h => by obtain ⟨rfl, h⟩ := h; exact kk M1 h)
def fX2_product_L5s (P : gM → (Nat → gM → Prop) → (Nat → gM → Prop) → Prop) (R5 : Nat → gM → Prop) (K36_5 : Nat → gM → Prop) (l1_4 : Nat) (M : gM) (Q : Nat → gM → Prop) (E : Nat → gM → Prop) : Prop :=
  gk M 25 = 2 ∧ fX2_isSign 42 M (fun r7 M6 => (if r7 = 0 then K36_5 l1_4 M6 else gk M6 25 = 2 ∧ fX2_next M6 (fun M10 => gn M10 < gLC ∧ gs M10 + 3 ≤ gLS ∧ gk (gnew M10 12 0 3) 25 = 2 ∧ P (gnew M10 12 0 3) (fun r16 M15 => fX13_init (gn M10) 42 l1_4 r16 M15 (fun M17 => R5 (gn M10) M17)) E)))
def fX2_product_L5 (P : gM → (Nat → gM → Prop) → (Nat → gM → Prop) → Prop) (K36_5 : Nat → gM → Prop) (Q : Nat → gM → Prop) (E : Nat → gM → Prop) : Nat → Nat → gM → Prop
  | 0 => fun _ _ => False
  | n + 1 => fun l1_4 M => fX2_product_L5s P (fX2_product_L5 P K36_5 Q E n) K36_5 l1_4 M Q E
theorem wX2_product_L5s {kf : Nat} {G : gG} {w : gM → Nat → List (Nat × Value) → List Value → Prop} {Q : Nat → gM → Prop} {E : Nat → gM → Prop} (hw : gX yX2_product cX2_product 2 (Option.some (FieldType.object "RiverWage$Expression")) [] kf G (gQr G Q) (gEx "RiverWage$Wrong" E) w) {v : Nat} {P : gM → (Nat → gM → Prop) → (Nat → gM → Prop) → Prop} (hkf : v + 1 ≤ kf) (hv : 6 ≤ v) (hP : ∀ (kf : Nat)  (M : gM) (Q : Nat → gM → Prop) (E : Nat → gM → Prop), v ≤ kf → P M Q E → gMet yX2_part cX2_part 5 (Option.some (FieldType.object "RiverWage$Expression")) kf G M [.ref (gA G 25)] (gQr G Q) (gEx "RiverWage$Wrong" E)) {R5 : Nat → gM → Prop} {K36_5 : Nat → gM → Prop} {l1_4 : Nat} {M : gM} (hR5 : ∀ (v0 : Nat) (M : gM), R5 v0 M → w M 5 [(0, .ref (gA G 25)), (1, .ref (gA G v0))] []) (hK36_5 : ∀ (v0 : Nat) (M : gM), K36_5 v0 M → w M 36 [(1, .ref (gA G v0))] []) (h : fX2_product_L5s P R5 K36_5 l1_4 M Q E) : w M 5 [(0, .ref (gA G 25)), (1, .ref (gA G l1_4))] [] := by
  unfold fX2_product_L5s at h
  refine g_aload_n hw 0 dX2_product_5 rfl ?_
  refine g_bipush (v := 42) hw dX2_product_6 (by decide) ?_
  obtain ⟨hk5, h⟩ := h
  refine sX2_79 hw rfl dX2_product_8 rfl (by omega) hk5 h (fun r7 M6 h => ?_)
  refine g_if_eq (tgt := 36) hw dX2_product_11 (by decide) (fun hb8 => ?_) (fun hb8 => ?_)
  · have h := gT h hb8
    refine g_sub hw (lv2 := [(1, .ref (gA G l1_4))]) [1] rfl ?_
    exact hK36_5 l1_4 M6 h
  · have h := gF h hb8
    refine g_aload_n hw 0 dX2_product_14 rfl ?_
    obtain ⟨hk9, h⟩ := h
    refine sX2_25 hw rfl dX2_product_15 rfl (by omega) hk9 h (fun M10 h => ?_)
    obtain ⟨hc12, h⟩ := h
    obtain ⟨hc13, h⟩ := h
    refine g_new (C := RX13) (T := TX13) (N := 3) (ci := 11) hw in_X13 tyX13 tyX13_ok rfl rfl (by decide) dX2_product_18 q781 q782 q120 hc12 hc13 ?_
    refine g_dup hw dX2_product_21 rfl ?_
    refine g_bipush (v := 42) hw dX2_product_22 (by decide) ?_
    refine g_aload_n hw 1 dX2_product_24 rfl ?_
    refine g_aload_n hw 0 dX2_product_25 rfl ?_
    obtain ⟨hk14, h⟩ := h
    refine sX2_146P hw rfl dX2_product_26 rfl hkf hv hP hk14 h (fun r16 M15 h => ?_)
    refine sX2_137 hw rfl dX2_product_29 rfl (by omega) h (fun M17 h => ?_)
    refine g_astore_n hw (lv2 := [(0, .ref (gA G 25)), (1, .ref (gA G (gn M10)))]) [1, 0] dX2_product_32 rfl rfl ?_
    refine g_goto (tgt := 5) hw dX2_product_33 (by decide) ?_
    exact hR5 (gn M10) M17 h
theorem wX2_product_L5 {kf : Nat} {G : gG} {w : gM → Nat → List (Nat × Value) → List Value → Prop} {Q : Nat → gM → Prop} {E : Nat → gM → Prop} (hw : gX yX2_product cX2_product 2 (Option.some (FieldType.object "RiverWage$Expression")) [] kf G (gQr G Q) (gEx "RiverWage$Wrong" E) w) {v : Nat} {P : gM → (Nat → gM → Prop) → (Nat → gM → Prop) → Prop} (hkf : v + 1 ≤ kf) (hv : 6 ≤ v) (hP : ∀ (kf : Nat)  (M : gM) (Q : Nat → gM → Prop) (E : Nat → gM → Prop), v ≤ kf → P M Q E → gMet yX2_part cX2_part 5 (Option.some (FieldType.object "RiverWage$Expression")) kf G M [.ref (gA G 25)] (gQr G Q) (gEx "RiverWage$Wrong" E)) {K36_5 : Nat → gM → Prop} (hK36_5 : ∀ (v0 : Nat) (M : gM), K36_5 v0 M → w M 36 [(1, .ref (gA G v0))] []) : ∀ (n : Nat) (l1_4 : Nat) (M : gM), fX2_product_L5 P K36_5 Q E n l1_4 M → w M 5 [(0, .ref (gA G 25)), (1, .ref (gA G l1_4))] [] := by
  intro n
  induction n with
  | zero => intro l1_4 M h; exact h.elim
  | succ n ih => intro l1_4 M h; exact wX2_product_L5s hw hkf hv hP ih hK36_5 h
def fX2_product (P : gM → (Nat → gM → Prop) → (Nat → gM → Prop) → Prop) (M : gM) (Q : Nat → gM → Prop) (E : Nat → gM → Prop) : Prop :=
  gk M 25 = 2 ∧ P M (fun r3 M2 => ∃ n, fX2_product_L5 P (fun l1_19 M20 => Q l1_19 M20) Q E n r3 M2) E
theorem mX2_product {kf : Nat} (G : gG) {v : Nat} {P : gM → (Nat → gM → Prop) → (Nat → gM → Prop) → Prop} (hkf : v + 1 ≤ kf) (hv : 6 ≤ v) (hP : ∀ (kf : Nat)  (M : gM) (Q : Nat → gM → Prop) (E : Nat → gM → Prop), v ≤ kf → P M Q E → gMet yX2_part cX2_part 5 (Option.some (FieldType.object "RiverWage$Expression")) kf G M [.ref (gA G 25)] (gQr G Q) (gEx "RiverWage$Wrong" E))  (M : gM) (Q : Nat → gM → Prop) (E : Nat → gM → Prop) (h : fX2_product P M Q E) : gMet yX2_product cX2_product 2 (Option.some (FieldType.object "RiverWage$Expression")) kf G M [.ref (gA G 25)] (gQr G Q) (gEx "RiverWage$Wrong" E) := by
  refine g_intro (lv := [(0, .ref (gA G 25))]) (by decide) rfl rfl (fun w hw => ?_)
  unfold fX2_product at h
  refine g_aload_n hw 0 dX2_product_0 rfl ?_
  obtain ⟨hk1, h⟩ := h
  refine sX2_146P hw rfl dX2_product_1 rfl hkf hv hP hk1 h (fun r3 M2 h => ?_)
  refine g_astore_n hw (lv2 := [(0, .ref (gA G 25)), (1, .ref (gA G r3))]) [1, 0] dX2_product_4 rfl rfl ?_
  obtain ⟨n9, h⟩ := h
  refine wX2_product_L5 hw hkf hv hP (fun l1_19 M20 h => ?_) n9 r3 M2 h
  refine g_aload_n hw 0 dX2_product_36 rfl ?_
  exact g_aret hw dX2_product_37 ⟨_, rfl, h⟩
theorem sX2_143P {y0 : MethodName} {cc : ByteArray} {nL : Nat} {ret : Option FieldType} {kf : Nat} {G : gG} {Qv : Option Value → gM → Prop} {E1 : Nat → gM → Prop} {w : gM → Nat → List (Nat × Value) → List Value → Prop} {M : gM} {pc : Nat} {lv : List (Nat × Value)} {rest : List Value} (hw : gX y0 cc nL ret [] kf G Qv (gEx "RiverWage$Wrong" E1) w) (hy : y0.cls = RX2)  {Q : Nat → gM → Prop} (d : decode cc pc = .ok (.invokevirtual 143, 3)) (hrest : Nat.ble ((rest.map Value.category).sum) 8 = true) {v : Nat} {P : gM → (Nat → gM → Prop) → (Nat → gM → Prop) → Prop} {j : Nat} (hk : v + (j + 2) ≤ kf) (hv : 6 ≤ v) (hP : ∀ (kf : Nat)  (M : gM) (Q : Nat → gM → Prop) (E : Nat → gM → Prop), v ≤ kf → P M Q E → gMet yX2_part cX2_part 5 (Option.some (FieldType.object "RiverWage$Expression")) kf G M [.ref (gA G 25)] (gQr G Q) (gEx "RiverWage$Wrong" E)) (hkd : gk M 25 = 2) (h : fX2_product P M Q E1) (kk : ∀ r M1, Q r M1 → w M1 (pc + 3) lv (.ref (gA G r) :: rest)) : w M pc lv (.ref (gA G 25) :: rest) := by
  obtain ⟨cls9, nm9, ds9⟩ := y0
  subst hy
  exact g_callV (r := (RX2, TX2, 8)) (ci := 1) hw [] (nA := 0) rfl d q727 q729 qs22 q99 q730 (by decide +kernel) rfl rfl hrest rfl (by omega : kf - 1 + 1 ≤ kf) hkd (mX2_product G (kf := kf - 1) (by omega) hv hP M Q E1 h) (fun _ _ _ q => gCat0 q) (fun v M1 h => by obtain ⟨r, rfl, h⟩ := h; exact kk r M1 h)
def fX2_sum_b39 (P : gM → (Nat → gM → Prop) → (Nat → gM → Prop) → Prop) (R5 : Nat → gM → Prop) (l1_14 : Nat) (s0_15 : Int32) (M : gM) (Q : Nat → gM → Prop) (E : Nat → gM → Prop) : Prop :=
  gk M 25 = 2 ∧ fX2_next M (fun M17 => gn M17 < gLC ∧ gs M17 + 3 ≤ gLS ∧ gk (gnew M17 12 0 3) 25 = 2 ∧ fX2_product P (gnew M17 12 0 3) (fun r23 M22 => fX13_init (gn M17) s0_15 l1_14 r23 M22 (fun M24 => R5 (gn M17) M24)) E)
theorem wX2_sum_b39 {kf : Nat} {G : gG} {w : gM → Nat → List (Nat × Value) → List Value → Prop} {Q : Nat → gM → Prop} {E : Nat → gM → Prop} (hw : gX yX2_sum cX2_sum 3 (Option.some (FieldType.object "RiverWage$Expression")) [] kf G (gQr G Q) (gEx "RiverWage$Wrong" E) w) {v : Nat} {P : gM → (Nat → gM → Prop) → (Nat → gM → Prop) → Prop} (hkf : v + 2 ≤ kf) (hv : 6 ≤ v) (hP : ∀ (kf : Nat)  (M : gM) (Q : Nat → gM → Prop) (E : Nat → gM → Prop), v ≤ kf → P M Q E → gMet yX2_part cX2_part 5 (Option.some (FieldType.object "RiverWage$Expression")) kf G M [.ref (gA G 25)] (gQr G Q) (gEx "RiverWage$Wrong" E)) {R5 : Nat → gM → Prop} {l1_14 : Nat} {s0_15 : Int32} {M : gM} (hR5 : ∀ (v0 : Nat) (M : gM), R5 v0 M → w M 5 [(0, .ref (gA G 25)), (1, .ref (gA G v0))] []) (h : fX2_sum_b39 P R5 l1_14 s0_15 M Q E) : w M 39 [(0, .ref (gA G 25)), (1, .ref (gA G l1_14))] [.int s0_15] := by
  unfold fX2_sum_b39 at h
  refine g_istore_n hw (lv2 := [(0, .ref (gA G 25)), (1, .ref (gA G l1_14)), (2, .int s0_15)]) [1, 2, 0] dX2_sum_39 rfl rfl ?_
  refine g_aload_n hw 0 dX2_sum_40 rfl ?_
  obtain ⟨hk16, h⟩ := h
  refine sX2_25 hw rfl dX2_sum_41 rfl (by omega) hk16 h (fun M17 h => ?_)
  obtain ⟨hc19, h⟩ := h
  obtain ⟨hc20, h⟩ := h
  refine g_new (C := RX13) (T := TX13) (N := 3) (ci := 11) hw in_X13 tyX13 tyX13_ok rfl rfl (by decide) dX2_sum_44 q781 q782 q120 hc19 hc20 ?_
  refine g_dup hw dX2_sum_47 rfl ?_
  refine g_iload_n hw 2 dX2_sum_48 rfl ?_
  refine g_aload_n hw 1 dX2_sum_49 rfl ?_
  refine g_aload_n hw 0 dX2_sum_50 rfl ?_
  obtain ⟨hk21, h⟩ := h
  refine sX2_143P hw rfl dX2_sum_51 rfl hkf hv hP hk21 h (fun r23 M22 h => ?_)
  refine sX2_137 hw rfl dX2_sum_54 rfl (by omega) h (fun M24 h => ?_)
  refine g_astore_n hw (lv2 := [(0, .ref (gA G 25)), (1, .ref (gA G (gn M17)))]) [1, 0] dX2_sum_57 rfl rfl ?_
  refine g_goto (tgt := 5) hw dX2_sum_58 (by decide) ?_
  exact hR5 (gn M17) M24 h
def fX2_sum_b23 (P : gM → (Nat → gM → Prop) → (Nat → gM → Prop) → Prop) (R5 : Nat → gM → Prop) (l1_9 : Nat) (M : gM) (Q : Nat → gM → Prop) (E : Nat → gM → Prop) : Prop :=
  gk M 25 = 2 ∧ fX2_isSign 43 M (fun r12 M11 => (if r12 = 0 then fX2_sum_b39 P R5 l1_9 45 M11 Q E else fX2_sum_b39 P R5 l1_9 43 M11 Q E))
theorem wX2_sum_b23 {kf : Nat} {G : gG} {w : gM → Nat → List (Nat × Value) → List Value → Prop} {Q : Nat → gM → Prop} {E : Nat → gM → Prop} (hw : gX yX2_sum cX2_sum 3 (Option.some (FieldType.object "RiverWage$Expression")) [] kf G (gQr G Q) (gEx "RiverWage$Wrong" E) w) {v : Nat} {P : gM → (Nat → gM → Prop) → (Nat → gM → Prop) → Prop} (hkf : v + 2 ≤ kf) (hv : 6 ≤ v) (hP : ∀ (kf : Nat)  (M : gM) (Q : Nat → gM → Prop) (E : Nat → gM → Prop), v ≤ kf → P M Q E → gMet yX2_part cX2_part 5 (Option.some (FieldType.object "RiverWage$Expression")) kf G M [.ref (gA G 25)] (gQr G Q) (gEx "RiverWage$Wrong" E)) {R5 : Nat → gM → Prop} {l1_9 : Nat} {M : gM} (hR5 : ∀ (v0 : Nat) (M : gM), R5 v0 M → w M 5 [(0, .ref (gA G 25)), (1, .ref (gA G v0))] []) (h : fX2_sum_b23 P R5 l1_9 M Q E) : w M 23 [(0, .ref (gA G 25)), (1, .ref (gA G l1_9))] [] := by
  unfold fX2_sum_b23 at h
  refine g_aload_n hw 0 dX2_sum_23 rfl ?_
  refine g_bipush (v := 43) hw dX2_sum_24 (by decide) ?_
  obtain ⟨hk10, h⟩ := h
  refine sX2_79 hw rfl dX2_sum_26 rfl (by omega) hk10 h (fun r12 M11 h => ?_)
  refine g_if_eq (tgt := 37) hw dX2_sum_29 (by decide) (fun hb13 => ?_) (fun hb13 => ?_)
  · have h := gT h hb13
    refine g_bipush (v := 45) hw dX2_sum_37 (by decide) ?_
    exact wX2_sum_b39 hw hkf hv hP hR5 h
  · have h := gF h hb13
    refine g_bipush (v := 43) hw dX2_sum_32 (by decide) ?_
    refine g_goto (tgt := 39) hw dX2_sum_34 (by decide) ?_
    exact wX2_sum_b39 hw hkf hv hP hR5 h
def fX2_sum_L5s (P : gM → (Nat → gM → Prop) → (Nat → gM → Prop) → Prop) (R5 : Nat → gM → Prop) (K61_5 : Nat → gM → Prop) (l1_4 : Nat) (M : gM) (Q : Nat → gM → Prop) (E : Nat → gM → Prop) : Prop :=
  gk M 25 = 2 ∧ fX2_isSign 43 M (fun r7 M6 => (if r7 = 0 then gk M6 25 = 2 ∧ fX2_isSign 45 M6 (fun r28 M27 => (if r28 = 0 then K61_5 l1_4 M27 else fX2_sum_b23 P R5 l1_4 M27 Q E)) else fX2_sum_b23 P R5 l1_4 M6 Q E))
def fX2_sum_L5 (P : gM → (Nat → gM → Prop) → (Nat → gM → Prop) → Prop) (K61_5 : Nat → gM → Prop) (Q : Nat → gM → Prop) (E : Nat → gM → Prop) : Nat → Nat → gM → Prop
  | 0 => fun _ _ => False
  | n + 1 => fun l1_4 M => fX2_sum_L5s P (fX2_sum_L5 P K61_5 Q E n) K61_5 l1_4 M Q E
theorem wX2_sum_L5s {kf : Nat} {G : gG} {w : gM → Nat → List (Nat × Value) → List Value → Prop} {Q : Nat → gM → Prop} {E : Nat → gM → Prop} (hw : gX yX2_sum cX2_sum 3 (Option.some (FieldType.object "RiverWage$Expression")) [] kf G (gQr G Q) (gEx "RiverWage$Wrong" E) w) {v : Nat} {P : gM → (Nat → gM → Prop) → (Nat → gM → Prop) → Prop} (hkf : v + 2 ≤ kf) (hv : 6 ≤ v) (hP : ∀ (kf : Nat)  (M : gM) (Q : Nat → gM → Prop) (E : Nat → gM → Prop), v ≤ kf → P M Q E → gMet yX2_part cX2_part 5 (Option.some (FieldType.object "RiverWage$Expression")) kf G M [.ref (gA G 25)] (gQr G Q) (gEx "RiverWage$Wrong" E)) {R5 : Nat → gM → Prop} {K61_5 : Nat → gM → Prop} {l1_4 : Nat} {M : gM} (hR5 : ∀ (v0 : Nat) (M : gM), R5 v0 M → w M 5 [(0, .ref (gA G 25)), (1, .ref (gA G v0))] []) (hK61_5 : ∀ (v0 : Nat) (M : gM), K61_5 v0 M → w M 61 [(1, .ref (gA G v0))] []) (h : fX2_sum_L5s P R5 K61_5 l1_4 M Q E) : w M 5 [(0, .ref (gA G 25)), (1, .ref (gA G l1_4))] [] := by
  unfold fX2_sum_L5s at h
  refine g_aload_n hw 0 dX2_sum_5 rfl ?_
  refine g_bipush (v := 43) hw dX2_sum_6 (by decide) ?_
  obtain ⟨hk5, h⟩ := h
  refine sX2_79 hw rfl dX2_sum_8 rfl (by omega) hk5 h (fun r7 M6 h => ?_)
  refine g_if_ne (tgt := 23) hw dX2_sum_11 (by decide) (fun hb8 => ?_) (fun hb8 => ?_)
  · have h := gF h hb8
    exact wX2_sum_b23 hw hkf hv hP hR5 h
  · have h := gT h hb8
    refine g_aload_n hw 0 dX2_sum_14 rfl ?_
    refine g_bipush (v := 45) hw dX2_sum_15 (by decide) ?_
    obtain ⟨hk26, h⟩ := h
    refine sX2_79 hw rfl dX2_sum_17 rfl (by omega) hk26 h (fun r28 M27 h => ?_)
    refine g_if_eq (tgt := 61) hw dX2_sum_20 (by decide) (fun hb29 => ?_) (fun hb29 => ?_)
    · have h := gT h hb29
      refine g_sub hw (lv2 := [(1, .ref (gA G l1_4))]) [1] rfl ?_
      exact hK61_5 l1_4 M27 h
    · have h := gF h hb29
      exact wX2_sum_b23 hw hkf hv hP hR5 h
theorem wX2_sum_L5 {kf : Nat} {G : gG} {w : gM → Nat → List (Nat × Value) → List Value → Prop} {Q : Nat → gM → Prop} {E : Nat → gM → Prop} (hw : gX yX2_sum cX2_sum 3 (Option.some (FieldType.object "RiverWage$Expression")) [] kf G (gQr G Q) (gEx "RiverWage$Wrong" E) w) {v : Nat} {P : gM → (Nat → gM → Prop) → (Nat → gM → Prop) → Prop} (hkf : v + 2 ≤ kf) (hv : 6 ≤ v) (hP : ∀ (kf : Nat)  (M : gM) (Q : Nat → gM → Prop) (E : Nat → gM → Prop), v ≤ kf → P M Q E → gMet yX2_part cX2_part 5 (Option.some (FieldType.object "RiverWage$Expression")) kf G M [.ref (gA G 25)] (gQr G Q) (gEx "RiverWage$Wrong" E)) {K61_5 : Nat → gM → Prop} (hK61_5 : ∀ (v0 : Nat) (M : gM), K61_5 v0 M → w M 61 [(1, .ref (gA G v0))] []) : ∀ (n : Nat) (l1_4 : Nat) (M : gM), fX2_sum_L5 P K61_5 Q E n l1_4 M → w M 5 [(0, .ref (gA G 25)), (1, .ref (gA G l1_4))] [] := by
  intro n
  induction n with
  | zero => intro l1_4 M h; exact h.elim
  | succ n ih => intro l1_4 M h; exact wX2_sum_L5s hw hkf hv hP ih hK61_5 h
def fX2_sum (P : gM → (Nat → gM → Prop) → (Nat → gM → Prop) → Prop) (M : gM) (Q : Nat → gM → Prop) (E : Nat → gM → Prop) : Prop :=
  gk M 25 = 2 ∧ fX2_product P M (fun r3 M2 => ∃ n, fX2_sum_L5 P (fun l1_30 M31 => Q l1_30 M31) Q E n r3 M2) E
theorem mX2_sum {kf : Nat} (G : gG) {v : Nat} {P : gM → (Nat → gM → Prop) → (Nat → gM → Prop) → Prop} (hkf : v + 2 ≤ kf) (hv : 6 ≤ v) (hP : ∀ (kf : Nat)  (M : gM) (Q : Nat → gM → Prop) (E : Nat → gM → Prop), v ≤ kf → P M Q E → gMet yX2_part cX2_part 5 (Option.some (FieldType.object "RiverWage$Expression")) kf G M [.ref (gA G 25)] (gQr G Q) (gEx "RiverWage$Wrong" E))  (M : gM) (Q : Nat → gM → Prop) (E : Nat → gM → Prop) (h : fX2_sum P M Q E) : gMet yX2_sum cX2_sum 3 (Option.some (FieldType.object "RiverWage$Expression")) kf G M [.ref (gA G 25)] (gQr G Q) (gEx "RiverWage$Wrong" E) := by
  refine g_intro (lv := [(0, .ref (gA G 25))]) (by decide) rfl rfl (fun w hw => ?_)
  unfold fX2_sum at h
  refine g_aload_n hw 0 dX2_sum_0 rfl ?_
  obtain ⟨hk1, h⟩ := h
  refine sX2_143P hw rfl dX2_sum_1 rfl hkf hv hP hk1 h (fun r3 M2 h => ?_)
  refine g_astore_n hw (lv2 := [(0, .ref (gA G 25)), (1, .ref (gA G r3))]) [1, 0] dX2_sum_4 rfl rfl ?_
  obtain ⟨n9, h⟩ := h
  refine wX2_sum_L5 hw hkf hv hP (fun l1_30 M31 h => ?_) n9 r3 M2 h
  refine g_aload_n hw 0 dX2_sum_61 rfl ?_
  exact g_aret hw dX2_sum_62 ⟨_, rfl, h⟩
theorem sX2_140P {y0 : MethodName} {cc : ByteArray} {nL : Nat} {ret : Option FieldType} {kf : Nat} {G : gG} {Qv : Option Value → gM → Prop} {E1 : Nat → gM → Prop} {w : gM → Nat → List (Nat × Value) → List Value → Prop} {M : gM} {pc : Nat} {lv : List (Nat × Value)} {rest : List Value} (hw : gX y0 cc nL ret [] kf G Qv (gEx "RiverWage$Wrong" E1) w) (hy : y0.cls = RX2)  {Q : Nat → gM → Prop} (d : decode cc pc = .ok (.invokevirtual 140, 3)) (hrest : Nat.ble ((rest.map Value.category).sum) 8 = true) {v : Nat} {P : gM → (Nat → gM → Prop) → (Nat → gM → Prop) → Prop} {j : Nat} (hk : v + (j + 3) ≤ kf) (hv : 6 ≤ v) (hP : ∀ (kf : Nat)  (M : gM) (Q : Nat → gM → Prop) (E : Nat → gM → Prop), v ≤ kf → P M Q E → gMet yX2_part cX2_part 5 (Option.some (FieldType.object "RiverWage$Expression")) kf G M [.ref (gA G 25)] (gQr G Q) (gEx "RiverWage$Wrong" E)) (hkd : gk M 25 = 2) (h : fX2_sum P M Q E1) (kk : ∀ r M1, Q r M1 → w M1 (pc + 3) lv (.ref (gA G r) :: rest)) : w M pc lv (.ref (gA G 25) :: rest) := by
  obtain ⟨cls9, nm9, ds9⟩ := y0
  subst hy
  exact g_callV (r := (RX2, TX2, 8)) (ci := 1) hw [] (nA := 0) rfl d q723 q725 qs21 q99 q726 (by decide +kernel) rfl rfl hrest rfl (by omega : kf - 1 + 1 ≤ kf) hkd (mX2_sum G (kf := kf - 1) (by omega) hv hP M Q E1 h) (fun _ _ _ q => gCat0 q) (fun v M1 h => by obtain ⟨r, rfl, h⟩ := h; exact kk r M1 h)
def fX2_test_b35 (P : gM → (Nat → gM → Prop) → (Nat → gM → Prop) → Prop) (l1_12 : Nat) (s0_13 : Int32) (M : gM) (Q : Nat → gM → Prop) (E : Nat → gM → Prop) : Prop :=
  (if s0_13 = 32 then Q l1_12 M else gk M 25 = 2 ∧ fX2_next M (fun M16 => gn M16 < gLC ∧ gs M16 + 3 ≤ gLS ∧ gk (gnew M16 12 0 3) 25 = 2 ∧ fX2_sum P (gnew M16 12 0 3) (fun r22 M21 => fX13_init (gn M16) s0_13 l1_12 r22 M21 (fun M23 => Q (gn M16) M23)) E))
theorem wX2_test_b35 {kf : Nat} {G : gG} {w : gM → Nat → List (Nat × Value) → List Value → Prop} {Q : Nat → gM → Prop} {E : Nat → gM → Prop} (hw : gX yX2_test cX2_test 3 (Option.some (FieldType.object "RiverWage$Expression")) [] kf G (gQr G Q) (gEx "RiverWage$Wrong" E) w) {v : Nat} {P : gM → (Nat → gM → Prop) → (Nat → gM → Prop) → Prop} (hkf : v + 3 ≤ kf) (hv : 6 ≤ v) (hP : ∀ (kf : Nat)  (M : gM) (Q : Nat → gM → Prop) (E : Nat → gM → Prop), v ≤ kf → P M Q E → gMet yX2_part cX2_part 5 (Option.some (FieldType.object "RiverWage$Expression")) kf G M [.ref (gA G 25)] (gQr G Q) (gEx "RiverWage$Wrong" E))  {l1_12 : Nat} {s0_13 : Int32} {M : gM}  (h : fX2_test_b35 P l1_12 s0_13 M Q E) : w M 35 [(0, .ref (gA G 25)), (1, .ref (gA G l1_12))] [.int s0_13] := by
  unfold fX2_test_b35 at h
  refine g_istore_n hw (lv2 := [(0, .ref (gA G 25)), (1, .ref (gA G l1_12)), (2, .int s0_13)]) [1, 2, 0] dX2_test_35 rfl rfl ?_
  refine g_iload_n hw 2 dX2_test_36 rfl ?_
  refine g_bipush (v := 32) hw dX2_test_37 (by decide) ?_
  refine g_icmp_ne (tgt := 44) hw dX2_test_39 (by decide) (fun hb14 => ?_) (fun hb14 => ?_)
  · have h := gF h hb14
    refine g_aload_n hw 0 dX2_test_44 rfl ?_
    obtain ⟨hk15, h⟩ := h
    refine sX2_25 hw rfl dX2_test_45 rfl (by omega) hk15 h (fun M16 h => ?_)
    obtain ⟨hc18, h⟩ := h
    obtain ⟨hc19, h⟩ := h
    refine g_new (C := RX13) (T := TX13) (N := 3) (ci := 11) hw in_X13 tyX13 tyX13_ok rfl rfl (by decide) dX2_test_48 q781 q782 q120 hc18 hc19 ?_
    refine g_dup hw dX2_test_51 rfl ?_
    refine g_iload_n hw 2 dX2_test_52 rfl ?_
    refine g_aload_n hw 1 dX2_test_53 rfl ?_
    refine g_aload_n hw 0 dX2_test_54 rfl ?_
    obtain ⟨hk20, h⟩ := h
    refine sX2_140P hw rfl dX2_test_55 rfl hkf hv hP hk20 h (fun r22 M21 h => ?_)
    refine sX2_137 hw rfl dX2_test_58 rfl (by omega) h (fun M23 h => ?_)
    exact g_aret hw dX2_test_61 ⟨_, rfl, h⟩
  · have h := gT h hb14
    refine g_aload_n hw 1 dX2_test_42 rfl ?_
    exact g_aret hw dX2_test_43 ⟨_, rfl, h⟩
def fX2_test (P : gM → (Nat → gM → Prop) → (Nat → gM → Prop) → Prop) (M : gM) (Q : Nat → gM → Prop) (E : Nat → gM → Prop) : Prop :=
  gk M 25 = 2 ∧ fX2_sum P M (fun r3 M2 => gk M2 25 = 2 ∧ fX2_isSign 60 M2 (fun r6 M5 => (if r6 = 0 then gk M5 25 = 2 ∧ fX2_isSign 61 M5 (fun r10 M9 => (if r10 = 0 then fX2_test_b35 P r3 32 M9 Q E else fX2_test_b35 P r3 61 M9 Q E)) else fX2_test_b35 P r3 60 M5 Q E))) E
theorem mX2_test {kf : Nat} (G : gG) {v : Nat} {P : gM → (Nat → gM → Prop) → (Nat → gM → Prop) → Prop} (hkf : v + 3 ≤ kf) (hv : 6 ≤ v) (hP : ∀ (kf : Nat)  (M : gM) (Q : Nat → gM → Prop) (E : Nat → gM → Prop), v ≤ kf → P M Q E → gMet yX2_part cX2_part 5 (Option.some (FieldType.object "RiverWage$Expression")) kf G M [.ref (gA G 25)] (gQr G Q) (gEx "RiverWage$Wrong" E))  (M : gM) (Q : Nat → gM → Prop) (E : Nat → gM → Prop) (h : fX2_test P M Q E) : gMet yX2_test cX2_test 3 (Option.some (FieldType.object "RiverWage$Expression")) kf G M [.ref (gA G 25)] (gQr G Q) (gEx "RiverWage$Wrong" E) := by
  refine g_intro (lv := [(0, .ref (gA G 25))]) (by decide) rfl rfl (fun w hw => ?_)
  unfold fX2_test at h
  refine g_aload_n hw 0 dX2_test_0 rfl ?_
  obtain ⟨hk1, h⟩ := h
  refine sX2_140P hw rfl dX2_test_1 rfl hkf hv hP hk1 h (fun r3 M2 h => ?_)
  refine g_astore_n hw (lv2 := [(0, .ref (gA G 25)), (1, .ref (gA G r3))]) [1, 0] dX2_test_4 rfl rfl ?_
  refine g_aload_n hw 0 dX2_test_5 rfl ?_
  refine g_bipush (v := 60) hw dX2_test_6 (by decide) ?_
  obtain ⟨hk4, h⟩ := h
  refine sX2_79 hw rfl dX2_test_8 rfl (by omega) hk4 h (fun r6 M5 h => ?_)
  refine g_if_eq (tgt := 19) hw dX2_test_11 (by decide) (fun hb7 => ?_) (fun hb7 => ?_)
  · have h := gT h hb7
    refine g_aload_n hw 0 dX2_test_19 rfl ?_
    refine g_bipush (v := 61) hw dX2_test_20 (by decide) ?_
    obtain ⟨hk8, h⟩ := h
    refine sX2_79 hw rfl dX2_test_22 rfl (by omega) hk8 h (fun r10 M9 h => ?_)
    refine g_if_eq (tgt := 33) hw dX2_test_25 (by decide) (fun hb11 => ?_) (fun hb11 => ?_)
    · have h := gT h hb11
      refine g_bipush (v := 32) hw dX2_test_33 (by decide) ?_
      exact wX2_test_b35 hw hkf hv hP h
    · have h := gF h hb11
      refine g_bipush (v := 61) hw dX2_test_28 (by decide) ?_
      refine g_goto (tgt := 35) hw dX2_test_30 (by decide) ?_
      exact wX2_test_b35 hw hkf hv hP h
  · have h := gF h hb7
    refine g_bipush (v := 60) hw dX2_test_14 (by decide) ?_
    refine g_goto (tgt := 35) hw dX2_test_16 (by decide) ?_
    exact wX2_test_b35 hw hkf hv hP h
theorem sX2_130P {y0 : MethodName} {cc : ByteArray} {nL : Nat} {ret : Option FieldType} {kf : Nat} {G : gG} {Qv : Option Value → gM → Prop} {E1 : Nat → gM → Prop} {w : gM → Nat → List (Nat × Value) → List Value → Prop} {M : gM} {pc : Nat} {lv : List (Nat × Value)} {rest : List Value} (hw : gX y0 cc nL ret [] kf G Qv (gEx "RiverWage$Wrong" E1) w) (hy : y0.cls = RX2)  {Q : Nat → gM → Prop} (d : decode cc pc = .ok (.invokevirtual 130, 3)) (hrest : Nat.ble ((rest.map Value.category).sum) 8 = true) {v : Nat} {P : gM → (Nat → gM → Prop) → (Nat → gM → Prop) → Prop} {j : Nat} (hk : v + (j + 4) ≤ kf) (hv : 6 ≤ v) (hP : ∀ (kf : Nat)  (M : gM) (Q : Nat → gM → Prop) (E : Nat → gM → Prop), v ≤ kf → P M Q E → gMet yX2_part cX2_part 5 (Option.some (FieldType.object "RiverWage$Expression")) kf G M [.ref (gA G 25)] (gQr G Q) (gEx "RiverWage$Wrong" E)) (hkd : gk M 25 = 2) (h : fX2_test P M Q E1) (kk : ∀ r M1, Q r M1 → w M1 (pc + 3) lv (.ref (gA G r) :: rest)) : w M pc lv (.ref (gA G 25) :: rest) := by
  obtain ⟨cls9, nm9, ds9⟩ := y0
  subst hy
  exact g_callV (r := (RX2, TX2, 8)) (ci := 1) hw [] (nA := 0) rfl d q719 q721 qs20 q99 q722 (by decide +kernel) rfl rfl hrest rfl (by omega : kf - 1 + 1 ≤ kf) hkd (mX2_test G (kf := kf - 1) (by omega) hv hP M Q E1 h) (fun _ _ _ q => gCat0 q) (fun v M1 h => by obtain ⟨r, rfl, h⟩ := h; exact kk r M1 h)
def fX2_expression_b37 (P : gM → (Nat → gM → Prop) → (Nat → gM → Prop) → Prop) (R5 : Nat → gM → Prop) (l1_15 : Nat) (s0_16 : Nat) (s1_17 : Nat) (s2_18 : Int32) (M : gM) (Q : Nat → gM → Prop) (E : Nat → gM → Prop) : Prop :=
  gk M 25 = 2 ∧ fX2_test P M (fun r21 M20 => fX13_init s1_17 s2_18 l1_15 r21 M20 (fun M22 => R5 s0_16 M22)) E
theorem wX2_expression_b37 {kf : Nat} {G : gG} {w : gM → Nat → List (Nat × Value) → List Value → Prop} {Q : Nat → gM → Prop} {E : Nat → gM → Prop} (hw : gX yX2_expression cX2_expression 3 (Option.some (FieldType.object "RiverWage$Expression")) [] kf G (gQr G Q) (gEx "RiverWage$Wrong" E) w) {v : Nat} {P : gM → (Nat → gM → Prop) → (Nat → gM → Prop) → Prop} (hkf : v + 4 ≤ kf) (hv : 6 ≤ v) (hP : ∀ (kf : Nat)  (M : gM) (Q : Nat → gM → Prop) (E : Nat → gM → Prop), v ≤ kf → P M Q E → gMet yX2_part cX2_part 5 (Option.some (FieldType.object "RiverWage$Expression")) kf G M [.ref (gA G 25)] (gQr G Q) (gEx "RiverWage$Wrong" E)) {R5 : Nat → gM → Prop} {l1_15 : Nat} {s0_16 : Nat} {s1_17 : Nat} {s2_18 : Int32} {M : gM} (hR5 : ∀ (v0 : Nat) (M : gM), R5 v0 M → w M 5 [(0, .ref (gA G 25)), (1, .ref (gA G v0))] []) (h : fX2_expression_b37 P R5 l1_15 s0_16 s1_17 s2_18 M Q E) : w M 37 [(0, .ref (gA G 25)), (1, .ref (gA G l1_15))] [.int s2_18, .ref (gA G s1_17), .ref (gA G s0_16)] := by
  unfold fX2_expression_b37 at h
  refine g_aload_n hw 1 dX2_expression_37 rfl ?_
  refine g_aload_n hw 0 dX2_expression_38 rfl ?_
  obtain ⟨hk19, h⟩ := h
  refine sX2_130P hw rfl dX2_expression_39 rfl hkf hv hP hk19 h (fun r21 M20 h => ?_)
  refine sX2_137 hw rfl dX2_expression_42 rfl (by omega) h (fun M22 h => ?_)
  refine g_astore_n hw (lv2 := [(0, .ref (gA G 25)), (1, .ref (gA G s0_16))]) [1, 0] dX2_expression_45 rfl rfl ?_
  refine g_goto (tgt := 5) hw dX2_expression_46 (by decide) ?_
  exact hR5 s0_16 M22 h
def fX2_expression_L5s (P : gM → (Nat → gM → Prop) → (Nat → gM → Prop) → Prop) (R5 : Nat → gM → Prop) (K16_5 : Nat → gM → Prop) (l1_4 : Nat) (M : gM) (Q : Nat → gM → Prop) (E : Nat → gM → Prop) : Prop :=
  gk M 25 = 2 ∧ fX2_which 5 M (fun r7 M6 => (if 0 ≤ r7 then gk M6 25 = 2 ∧ fX2_next M6 (fun M10 => gn M10 < gLC ∧ gs M10 + 3 ≤ gLS ∧ (if r7 = 0 then fX2_expression_b37 P R5 l1_4 (gn M10) (gn M10) 38 (gnew M10 12 0 3) Q E else fX2_expression_b37 P R5 l1_4 (gn M10) (gn M10) 124 (gnew M10 12 0 3) Q E)) else K16_5 l1_4 M6))
def fX2_expression_L5 (P : gM → (Nat → gM → Prop) → (Nat → gM → Prop) → Prop) (K16_5 : Nat → gM → Prop) (Q : Nat → gM → Prop) (E : Nat → gM → Prop) : Nat → Nat → gM → Prop
  | 0 => fun _ _ => False
  | n + 1 => fun l1_4 M => fX2_expression_L5s P (fX2_expression_L5 P K16_5 Q E n) K16_5 l1_4 M Q E
theorem wX2_expression_L5s {kf : Nat} {G : gG} {w : gM → Nat → List (Nat × Value) → List Value → Prop} {Q : Nat → gM → Prop} {E : Nat → gM → Prop} (hw : gX yX2_expression cX2_expression 3 (Option.some (FieldType.object "RiverWage$Expression")) [] kf G (gQr G Q) (gEx "RiverWage$Wrong" E) w) {v : Nat} {P : gM → (Nat → gM → Prop) → (Nat → gM → Prop) → Prop} (hkf : v + 4 ≤ kf) (hv : 6 ≤ v) (hP : ∀ (kf : Nat)  (M : gM) (Q : Nat → gM → Prop) (E : Nat → gM → Prop), v ≤ kf → P M Q E → gMet yX2_part cX2_part 5 (Option.some (FieldType.object "RiverWage$Expression")) kf G M [.ref (gA G 25)] (gQr G Q) (gEx "RiverWage$Wrong" E)) {R5 : Nat → gM → Prop} {K16_5 : Nat → gM → Prop} {l1_4 : Nat} {M : gM} (hR5 : ∀ (v0 : Nat) (M : gM), R5 v0 M → w M 5 [(0, .ref (gA G 25)), (1, .ref (gA G v0))] []) (hK16_5 : ∀ (v0 : Nat) (M : gM), K16_5 v0 M → w M 16 [(1, .ref (gA G v0))] []) (h : fX2_expression_L5s P R5 K16_5 l1_4 M Q E) : w M 5 [(0, .ref (gA G 25)), (1, .ref (gA G l1_4))] [] := by
  unfold fX2_expression_L5s at h
  refine g_aload_n hw 0 dX2_expression_5 rfl ?_
  refine g_ldcS hw 5 dX2_expression_6 q797 rfl ?_
  obtain ⟨hk5, h⟩ := h
  refine sX2_71 hw rfl dX2_expression_8 rfl (by omega) hk5 h (fun r7 M6 h => ?_)
  refine g_istore_n hw (lv2 := [(0, .ref (gA G 25)), (1, .ref (gA G l1_4)), (2, .int r7)]) [1, 2, 0] dX2_expression_11 rfl rfl ?_
  refine g_iload_n hw 2 dX2_expression_12 rfl ?_
  refine g_if_ge (tgt := 18) hw dX2_expression_13 (by decide) (fun hb8 => ?_) (fun hb8 => ?_)
  · have h := gT h hb8
    refine g_aload_n hw 0 dX2_expression_18 rfl ?_
    obtain ⟨hk9, h⟩ := h
    refine sX2_25 hw rfl dX2_expression_19 rfl (by omega) hk9 h (fun M10 h => ?_)
    obtain ⟨hc12, h⟩ := h
    obtain ⟨hc13, h⟩ := h
    refine g_new (C := RX13) (T := TX13) (N := 3) (ci := 11) hw in_X13 tyX13 tyX13_ok rfl rfl (by decide) dX2_expression_22 q781 q782 q120 hc12 hc13 ?_
    refine g_dup hw dX2_expression_25 rfl ?_
    refine g_iload_n hw 2 dX2_expression_26 rfl ?_
    refine g_if_ne (tgt := 35) hw dX2_expression_27 (by decide) (fun hb14 => ?_) (fun hb14 => ?_)
    · have h := gF h hb14
      refine g_bipush (v := 124) hw dX2_expression_35 (by decide) ?_
      refine g_sub hw (lv2 := [(0, .ref (gA G 25)), (1, .ref (gA G l1_4))]) [0, 1] rfl ?_
      exact wX2_expression_b37 hw hkf hv hP hR5 h
    · have h := gT h hb14
      refine g_bipush (v := 38) hw dX2_expression_30 (by decide) ?_
      refine g_goto (tgt := 37) hw dX2_expression_32 (by decide) ?_
      refine g_sub hw (lv2 := [(0, .ref (gA G 25)), (1, .ref (gA G l1_4))]) [0, 1] rfl ?_
      exact wX2_expression_b37 hw hkf hv hP hR5 h
  · have h := gF h hb8
    refine g_sub hw (lv2 := [(1, .ref (gA G l1_4))]) [1] rfl ?_
    exact hK16_5 l1_4 M6 h
theorem wX2_expression_L5 {kf : Nat} {G : gG} {w : gM → Nat → List (Nat × Value) → List Value → Prop} {Q : Nat → gM → Prop} {E : Nat → gM → Prop} (hw : gX yX2_expression cX2_expression 3 (Option.some (FieldType.object "RiverWage$Expression")) [] kf G (gQr G Q) (gEx "RiverWage$Wrong" E) w) {v : Nat} {P : gM → (Nat → gM → Prop) → (Nat → gM → Prop) → Prop} (hkf : v + 4 ≤ kf) (hv : 6 ≤ v) (hP : ∀ (kf : Nat)  (M : gM) (Q : Nat → gM → Prop) (E : Nat → gM → Prop), v ≤ kf → P M Q E → gMet yX2_part cX2_part 5 (Option.some (FieldType.object "RiverWage$Expression")) kf G M [.ref (gA G 25)] (gQr G Q) (gEx "RiverWage$Wrong" E)) {K16_5 : Nat → gM → Prop} (hK16_5 : ∀ (v0 : Nat) (M : gM), K16_5 v0 M → w M 16 [(1, .ref (gA G v0))] []) : ∀ (n : Nat) (l1_4 : Nat) (M : gM), fX2_expression_L5 P K16_5 Q E n l1_4 M → w M 5 [(0, .ref (gA G 25)), (1, .ref (gA G l1_4))] [] := by
  intro n
  induction n with
  | zero => intro l1_4 M h; exact h.elim
  | succ n ih => intro l1_4 M h; exact wX2_expression_L5s hw hkf hv hP ih hK16_5 h
def fX2_expression (P : gM → (Nat → gM → Prop) → (Nat → gM → Prop) → Prop) (M : gM) (Q : Nat → gM → Prop) (E : Nat → gM → Prop) : Prop :=
  gk M 25 = 2 ∧ fX2_test P M (fun r3 M2 => ∃ n, fX2_expression_L5 P (fun l1_24 M25 => Q l1_24 M25) Q E n r3 M2) E
theorem mX2_expression {kf : Nat} (G : gG) {v : Nat} {P : gM → (Nat → gM → Prop) → (Nat → gM → Prop) → Prop} (hkf : v + 4 ≤ kf) (hv : 6 ≤ v) (hP : ∀ (kf : Nat)  (M : gM) (Q : Nat → gM → Prop) (E : Nat → gM → Prop), v ≤ kf → P M Q E → gMet yX2_part cX2_part 5 (Option.some (FieldType.object "RiverWage$Expression")) kf G M [.ref (gA G 25)] (gQr G Q) (gEx "RiverWage$Wrong" E))  (M : gM) (Q : Nat → gM → Prop) (E : Nat → gM → Prop) (h : fX2_expression P M Q E) : gMet yX2_expression cX2_expression 3 (Option.some (FieldType.object "RiverWage$Expression")) kf G M [.ref (gA G 25)] (gQr G Q) (gEx "RiverWage$Wrong" E) := by
  refine g_intro (lv := [(0, .ref (gA G 25))]) (by decide) rfl rfl (fun w hw => ?_)
  unfold fX2_expression at h
  refine g_aload_n hw 0 dX2_expression_0 rfl ?_
  obtain ⟨hk1, h⟩ := h
  refine sX2_130P hw rfl dX2_expression_1 rfl hkf hv hP hk1 h (fun r3 M2 h => ?_)
  refine g_astore_n hw (lv2 := [(0, .ref (gA G 25)), (1, .ref (gA G r3))]) [1, 0] dX2_expression_4 rfl rfl ?_
  obtain ⟨n9, h⟩ := h
  refine wX2_expression_L5 hw hkf hv hP (fun l1_24 M25 h => ?_) n9 r3 M2 h
  refine g_aload_n hw 0 dX2_expression_16 rfl ?_
  exact g_aret hw dX2_expression_17 ⟨_, rfl, h⟩
def fX2_number_b30  (M : gM) (Q : Int32 → gM → Prop) (E : Nat → gM → Prop) : Prop :=
  gk M 25 = 2 ∧ fX2_wrong 4 M (fun r6 M5 => gk M5 r6 = 8 ∧ E r6 M5)
theorem wX2_number_b30 {kf : Nat} {G : gG} {w : gM → Nat → List (Nat × Value) → List Value → Prop} {Q : Int32 → gM → Prop} {E : Nat → gM → Prop} (hw : gX yX2_number cX2_number 4 (Option.some FieldType.int) [] kf G (gQi Q) (gEx "RiverWage$Wrong" E) w) (hkf : 6 ≤ kf)   {M : gM}  (h : fX2_number_b30 M Q E) : w M 30 [(0, .ref (gA G 25))] [] := by
  unfold fX2_number_b30 at h
  refine g_aload_n hw 0 dX2_number_30 rfl ?_
  refine g_iconst (v := 4) hw dX2_number_31 (by decide) ?_
  obtain ⟨hk4, h⟩ := h
  refine sX2_75 hw rfl dX2_number_32 rfl (gK2 hkf) hk4 h (fun r6 M5 h => ?_)
  obtain ⟨hk7, h⟩ := h
  exact g_athrow (ci := 7) hw rfl dX2_number_35 hk7 ⟨rfl, h⟩
def fX2_number (p1 : Int32) (p2 : Int32) (M : gM) (Q : Int32 → gM → Prop) (E : Nat → gM → Prop) : Prop :=
  gk M 25 = 2 ∧ (if (gI M 25 3) = 2 then (if (gI M 25 5) < p1 then fX2_number_b30 M Q E else (if (gI M 25 5) ≤ p2 then fX2_next M (fun M9 => Q (gI M 25 5) M9) else fX2_number_b30 M Q E)) else fX2_wrong 1 M (fun r12 M11 => gk M11 r12 = 8 ∧ E r12 M11))
theorem mX2_number {kf : Nat} (hkf : 6 ≤ kf) (G : gG) (p1 : Int32) (p2 : Int32) (M : gM) (Q : Int32 → gM → Prop) (E : Nat → gM → Prop) (h : fX2_number p1 p2 M Q E) : gMet yX2_number cX2_number 4 (Option.some FieldType.int) kf G M [.ref (gA G 25), .int p1, .int p2] (gQi Q) (gEx "RiverWage$Wrong" E) := by
  refine g_intro (lv := [(0, .ref (gA G 25)), (1, .int p1), (2, .int p2)]) (by decide) rfl rfl (fun w hw => ?_)
  unfold fX2_number at h
  refine g_aload_n hw 0 dX2_number_0 rfl ?_
  obtain ⟨hk1, h⟩ := h
  refine gfX2_31 hw rfl dX2_number_1 hk1 ?_
  refine g_iconst (v := 2) hw dX2_number_4 (by decide) ?_
  refine g_icmp_eq (tgt := 14) hw dX2_number_5 (by decide) (fun hb2 => ?_) (fun hb2 => ?_)
  · have h := gT h hb2
    refine g_aload_n hw 0 dX2_number_14 rfl ?_
    refine gfX2_45 hw rfl dX2_number_15 hk1 ?_
    refine g_iload_n hw 1 dX2_number_18 rfl ?_
    refine g_icmp_lt (tgt := 30) hw dX2_number_19 (by decide) (fun hb3 => ?_) (fun hb3 => ?_)
    · have h := gT h hb3
      refine g_sub hw (lv2 := [(0, .ref (gA G 25))]) [0] rfl ?_
      exact wX2_number_b30 hw hkf h
    · have h := gF h hb3
      refine g_aload_n hw 0 dX2_number_22 rfl ?_
      refine gfX2_45 hw rfl dX2_number_23 hk1 ?_
      refine g_iload_n hw 2 dX2_number_26 rfl ?_
      refine g_icmp_le (tgt := 36) hw dX2_number_27 (by decide) (fun hb8 => ?_) (fun hb8 => ?_)
      · have h := gT h hb8
        refine g_aload_n hw 0 dX2_number_36 rfl ?_
        refine gfX2_45 hw rfl dX2_number_37 hk1 ?_
        refine g_istore_n hw (lv2 := [(0, .ref (gA G 25)), (3, .int (gI M 25 5))]) [1, 0] dX2_number_40 rfl rfl ?_
        refine g_aload_n hw 0 dX2_number_41 rfl ?_
        refine sX2_25 hw rfl dX2_number_42 rfl (gK2 hkf) hk1 h (fun M9 h => ?_)
        refine g_iload_n hw 1 dX2_number_45 rfl ?_
        exact g_iret hw dX2_number_46 rfl ⟨_, rfl, h⟩
      · have h := gF h hb8
        refine g_sub hw (lv2 := [(0, .ref (gA G 25))]) [0] rfl ?_
        exact wX2_number_b30 hw hkf h
  · have h := gF h hb2
    refine g_aload_n hw 0 dX2_number_8 rfl ?_
    refine g_iconst (v := 1) hw dX2_number_9 (by decide) ?_
    refine sX2_75 hw rfl dX2_number_10 rfl (gK2 hkf) hk1 h (fun r12 M11 h => ?_)
    obtain ⟨hk13, h⟩ := h
    exact g_athrow (ci := 7) hw rfl dX2_number_13 hk13 ⟨rfl, h⟩
def fX2_need_2 (p1 : Int32) (M : gM) (Q : gM → Prop) (E : Nat → gM → Prop) : Prop :=
  gk M 25 = 2 ∧ fX2_isSign p1 M (fun r3 M2 => (if r3 = 0 then gk M2 25 = 2 ∧ fX2_wrong 1 M2 (fun r10 M9 => gk M9 r10 = 8 ∧ E r10 M9) else gk M2 25 = 2 ∧ fX2_next M2 (fun M6 => Q M6)))
theorem mX2_need_2 {kf : Nat} (hkf : 6 ≤ kf) (G : gG) (p1 : Int32) (M : gM) (Q : gM → Prop) (E : Nat → gM → Prop) (h : fX2_need_2 p1 M Q E) : gMet yX2_need_2 cX2_need_2 2 (Option.none : Option FieldType) kf G M [.ref (gA G 25), .int p1] (gQv Q) (gEx "RiverWage$Wrong" E) := by
  refine g_intro (lv := [(0, .ref (gA G 25)), (1, .int p1)]) (by decide) rfl rfl (fun w hw => ?_)
  unfold fX2_need_2 at h
  refine g_aload_n hw 0 dX2_need_2_0 rfl ?_
  refine g_iload_n hw 1 dX2_need_2_1 rfl ?_
  obtain ⟨hk1, h⟩ := h
  refine sX2_79 hw rfl dX2_need_2_2 rfl (gK2 hkf) hk1 h (fun r3 M2 h => ?_)
  refine g_if_ne (tgt := 14) hw dX2_need_2_5 (by decide) (fun hb4 => ?_) (fun hb4 => ?_)
  · have h := gF h hb4
    refine g_aload_n hw 0 dX2_need_2_14 rfl ?_
    obtain ⟨hk5, h⟩ := h
    refine sX2_25 hw rfl dX2_need_2_15 rfl (gK2 hkf) hk5 h (fun M6 h => ?_)
    exact g_vret hw dX2_need_2_18 ⟨rfl, h⟩
  · have h := gT h hb4
    refine g_aload_n hw 0 dX2_need_2_8 rfl ?_
    refine g_iconst (v := 1) hw dX2_need_2_9 (by decide) ?_
    obtain ⟨hk8, h⟩ := h
    refine sX2_75 hw rfl dX2_need_2_10 rfl (gK2 hkf) hk8 h (fun r10 M9 h => ?_)
    obtain ⟨hk11, h⟩ := h
    exact g_athrow (ci := 7) hw rfl dX2_need_2_13 hk11 ⟨rfl, h⟩
theorem gfX2_88 {y0 : MethodName} {cc : ByteArray} {nL : Nat} {ret : Option FieldType} {hh : List (Nat × Nat × Nat × Nat)} {kf : Nat} {G : gG} {Qv : Option Value → gM → Prop} {E : String → Nat → gM → Prop} {w : gM → Nat → List (Nat × Value) → List Value → Prop} {M : gM} {pc : Nat} {lv : List (Nat × Value)} {rest : List Value} (hw : gX y0 cc nL ret hh kf G Qv E w) (hy : y0.cls = RX2) {c : Nat} {q : Option Nat} (d : decode cc pc = .ok (.getfield 88, 3)) (hk : gk M c = 2) (hq : gR M c 7 = q) (kk : w M (pc + 3) lv (va_rf (q.map (gA G)) :: rest)) : w M pc lv (.ref (gA G c) :: rest) := by
  obtain ⟨cls9, nm9, ds9⟩ := y0
  subst hy
  subst hq
  exact g_getC (C := RX2) (T := TX2) (N := 8) (ci := 1) hw in_X2 rfl 7 (by decide) (Or.inl q148) rfl d hk kk
theorem gfX2_22 {y0 : MethodName} {cc : ByteArray} {nL : Nat} {ret : Option FieldType} {hh : List (Nat × Nat × Nat × Nat)} {kf : Nat} {G : gG} {Qv : Option Value → gM → Prop} {E : String → Nat → gM → Prop} {w : gM → Nat → List (Nat × Value) → List Value → Prop} {M : gM} {pc : Nat} {lv : List (Nat × Value)} {rest : List Value} (hw : gX y0 cc nL ret hh kf G Qv E w) (hy : y0.cls = RX2) {c : Nat} (d : decode cc pc = .ok (.getfield 22, 3)) (hk : gk M c = 2) (kk : w M (pc + 3) lv (.int (gI M c 6) :: rest)) : w M pc lv (.ref (gA G c) :: rest) := by
  obtain ⟨cls9, nm9, ds9⟩ := y0
  subst hy
  exact g_getC (C := RX2) (T := TX2) (N := 8) (ci := 1) hw in_X2 rfl 6 (by decide) (Or.inl q147) rfl d hk kk
theorem sX2_104P {y0 : MethodName} {cc : ByteArray} {nL : Nat} {ret : Option FieldType} {kf : Nat} {G : gG} {Qv : Option Value → gM → Prop} {E1 : Nat → gM → Prop} {w : gM → Nat → List (Nat × Value) → List Value → Prop} {M : gM} {pc : Nat} {lv : List (Nat × Value)} {rest : List Value} (hw : gX y0 cc nL ret [] kf G Qv (gEx "RiverWage$Wrong" E1) w) (hy : y0.cls = RX2)  {Q : Nat → gM → Prop} (d : decode cc pc = .ok (.invokevirtual 104, 3)) (hrest : Nat.ble ((rest.map Value.category).sum) 8 = true) {v : Nat} {P : gM → (Nat → gM → Prop) → (Nat → gM → Prop) → Prop} {j : Nat} (hk : v + (j + 5) ≤ kf) (hv : 6 ≤ v) (hP : ∀ (kf : Nat)  (M : gM) (Q : Nat → gM → Prop) (E : Nat → gM → Prop), v ≤ kf → P M Q E → gMet yX2_part cX2_part 5 (Option.some (FieldType.object "RiverWage$Expression")) kf G M [.ref (gA G 25)] (gQr G Q) (gEx "RiverWage$Wrong" E)) (hkd : gk M 25 = 2) (h : fX2_expression P M Q E1) (kk : ∀ r M1, Q r M1 → w M1 (pc + 3) lv (.ref (gA G r) :: rest)) : w M pc lv (.ref (gA G 25) :: rest) := by
  obtain ⟨cls9, nm9, ds9⟩ := y0
  subst hy
  exact g_callV (r := (RX2, TX2, 8)) (ci := 1) hw [] (nA := 0) rfl d q715 q717 qs19 q99 q718 (by decide +kernel) rfl rfl hrest rfl (by omega : kf - 1 + 1 ≤ kf) hkd (mX2_expression G (kf := kf - 1) (by omega) hv hP M Q E1 h) (fun _ _ _ q => gCat0 q) (fun v M1 h => by obtain ⟨r, rfl, h⟩ := h; exact kk r M1 h)
theorem sX2_108 {y0 : MethodName} {cc : ByteArray} {nL : Nat} {ret : Option FieldType} {kf : Nat} {G : gG} {Qv : Option Value → gM → Prop} {E1 : Nat → gM → Prop} {w : gM → Nat → List (Nat × Value) → List Value → Prop} {M : gM} {pc : Nat} {lv : List (Nat × Value)} {rest : List Value} (hw : gX y0 cc nL ret [] kf G Qv (gEx "RiverWage$Wrong" E1) w) (hy : y0.cls = RX2) {p1 : Int32} {Q : gM → Prop} (d : decode cc pc = .ok (.invokevirtual 108, 3)) (hrest : Nat.ble ((rest.map Value.category).sum) 8 = true) (hk : 6 + 1 ≤ kf) (hkd : gk M 25 = 2) (h : fX2_need_2 p1 M Q E1) (kk : ∀ M1, Q M1 → w M1 (pc + 3) lv rest) : w M pc lv (.int p1 :: .ref (gA G 25) :: rest) := by
  obtain ⟨cls9, nm9, ds9⟩ := y0
  subst hy
  exact g_callV (r := (RX2, TX2, 8)) (ci := 1) hw [.int p1] (nA := 1) rfl d q777 q779 qs26 q99 q780 (by decide +kernel) rfl rfl hrest rfl (by omega : kf - 1 + 1 ≤ kf) hkd (mX2_need_2 (kf := kf - 1) (by omega) G p1 M Q E1 h) (fun _ _ _ q => gCat0 q) (fun v M1 h => by obtain ⟨rfl, h⟩ := h; exact kk M1 h)
theorem sX2_161 {y0 : MethodName} {cc : ByteArray} {nL : Nat} {ret : Option FieldType} {hh : List (Nat × Nat × Nat × Nat)} {kf : Nat} {G : gG} {Qv : Option Value → gM → Prop} {E : String → Nat → gM → Prop} {w : gM → Nat → List (Nat × Value) → List Value → Prop} {M : gM} {pc : Nat} {lv : List (Nat × Value)} {rest : List Value} (hw : gX y0 cc nL ret hh kf G Qv E w) (hy : y0.cls = RX2) {c0 : Nat} {p1 : Nat} {Q : gM → Prop} (d : decode cc pc = .ok (.invokespecial 161, 3)) (hrest : Nat.ble ((rest.map Value.category).sum) 8 = true) (hk : 2 + 1 ≤ kf) (h : fX12_init c0 p1 M Q) (kk : ∀ M1, Q M1 → w M1 (pc + 3) lv rest) : w M pc lv (.ref (gA G p1) :: .ref (gA G c0) :: rest) := by
  obtain ⟨cls9, nm9, ds9⟩ := y0
  subst hy
  exact g_callI hw [.ref (gA G p1)] (nA := 1) rfl d (Or.inl q769) q770 q119 q771 (by decide +kernel) rfl rfl hrest rfl (by omega : kf - 1 + 1 ≤ kf) (mX12_init (kf := kf - 1) (by omega) G c0 p1 M Q h) (fun _ _ _ q => q.elim) (fun v M1 h => by obtain ⟨rfl, h⟩ := h; exact kk M1 h)
theorem sX2_158 {y0 : MethodName} {cc : ByteArray} {nL : Nat} {ret : Option FieldType} {hh : List (Nat × Nat × Nat × Nat)} {kf : Nat} {G : gG} {Qv : Option Value → gM → Prop} {E : String → Nat → gM → Prop} {w : gM → Nat → List (Nat × Value) → List Value → Prop} {M : gM} {pc : Nat} {lv : List (Nat × Value)} {rest : List Value} (hw : gX y0 cc nL ret hh kf G Qv E w) (hy : y0.cls = RX2) {c0 : Nat} {p1 : Int32} {Q : gM → Prop} (d : decode cc pc = .ok (.invokespecial 158, 3)) (hrest : Nat.ble ((rest.map Value.category).sum) 8 = true) (hk : 2 + 1 ≤ kf) (h : fX11_init c0 p1 M Q) (kk : ∀ M1, Q M1 → w M1 (pc + 3) lv rest) : w M pc lv (.int p1 :: .ref (gA G c0) :: rest) := by
  obtain ⟨cls9, nm9, ds9⟩ := y0
  subst hy
  exact g_callI hw [.int p1] (nA := 1) rfl d (Or.inl q759) q760 q118 q761 (by decide +kernel) rfl rfl hrest rfl (by omega : kf - 1 + 1 ≤ kf) (mX11_init (kf := kf - 1) (by omega) G c0 p1 M Q h) (fun _ _ _ q => q.elim) (fun v M1 h => by obtain ⟨rfl, h⟩ := h; exact kk M1 h)
theorem sX2_122 {y0 : MethodName} {cc : ByteArray} {nL : Nat} {ret : Option FieldType} {kf : Nat} {G : gG} {Qv : Option Value → gM → Prop} {E1 : Nat → gM → Prop} {w : gM → Nat → List (Nat × Value) → List Value → Prop} {M : gM} {pc : Nat} {lv : List (Nat × Value)} {rest : List Value} (hw : gX y0 cc nL ret [] kf G Qv (gEx "RiverWage$Wrong" E1) w) (hy : y0.cls = RX2) {p1 : Int32} {p2 : Int32} {Q : Int32 → gM → Prop} (d : decode cc pc = .ok (.invokevirtual 122, 3)) (hrest : Nat.ble ((rest.map Value.category).sum) 8 = true) (hk : 6 + 1 ≤ kf) (hkd : gk M 25 = 2) (h : fX2_number p1 p2 M Q E1) (kk : ∀ r M1, Q r M1 → w M1 (pc + 3) lv (.int r :: rest)) : w M pc lv (.int p2 :: .int p1 :: .ref (gA G 25) :: rest) := by
  obtain ⟨cls9, nm9, ds9⟩ := y0
  subst hy
  exact g_callV (r := (RX2, TX2, 8)) (ci := 1) hw [.int p1, .int p2] (nA := 2) rfl d q742 q744 qs25 q99 q745 (by decide +kernel) rfl rfl hrest rfl (by omega : kf - 1 + 1 ≤ kf) hkd (mX2_number (kf := kf - 1) (by omega) G p1 p2 M Q E1 h) (fun _ _ _ q => gCat0 q) (fun v M1 h => by obtain ⟨r, rfl, h⟩ := h; exact kk r M1 h)
theorem sX2_153 {y0 : MethodName} {cc : ByteArray} {nL : Nat} {ret : Option FieldType} {hh : List (Nat × Nat × Nat × Nat)} {kf : Nat} {G : gG} {Qv : Option Value → gM → Prop} {E : String → Nat → gM → Prop} {w : gM → Nat → List (Nat × Value) → List Value → Prop} {M : gM} {pc : Nat} {lv : List (Nat × Value)} {rest : List Value} (hw : gX y0 cc nL ret hh kf G Qv E w) (hy : y0.cls = RX2) {c0 : Nat} {p1 : Int32} {Q : gM → Prop} (d : decode cc pc = .ok (.invokespecial 153, 3)) (hrest : Nat.ble ((rest.map Value.category).sum) 8 = true) (hk : 2 + 1 ≤ kf) (h : fX10_init c0 p1 M Q) (kk : ∀ M1, Q M1 → w M1 (pc + 3) lv rest) : w M pc lv (.int p1 :: .ref (gA G c0) :: rest) := by
  obtain ⟨cls9, nm9, ds9⟩ := y0
  subst hy
  exact g_callI hw [.int p1] (nA := 1) rfl d (Or.inl q746) q747 q117 q748 (by decide +kernel) rfl rfl hrest rfl (by omega : kf - 1 + 1 ≤ kf) (mX10_init (kf := kf - 1) (by omega) G c0 p1 M Q h) (fun _ _ _ q => q.elim) (fun v M1 h => by obtain ⟨rfl, h⟩ := h; exact kk M1 h)
def fX2_part_b156 (P : gM → (Nat → gM → Prop) → (Nat → gM → Prop) → Prop) (l4_32 : Nat) (M : gM) (Q : Nat → gM → Prop) (E : Nat → gM → Prop) : Prop :=
  gk M 25 = 2 ∧ Q l4_32 (gsI M 25 6 ((gI M 25 6) - 1))
theorem wX2_part_b156 {kf : Nat} {G : gG} {w : gM → Nat → List (Nat × Value) → List Value → Prop} {Q : Nat → gM → Prop} {E : Nat → gM → Prop} (hw : gX yX2_part cX2_part 5 (Option.some (FieldType.object "RiverWage$Expression")) [] kf G (gQr G Q) (gEx "RiverWage$Wrong" E) w) {v : Nat} {P : gM → (Nat → gM → Prop) → (Nat → gM → Prop) → Prop} (hkf : v + 5 ≤ kf) (hv : 6 ≤ v) (hP : ∀ (kf : Nat)  (M : gM) (Q : Nat → gM → Prop) (E : Nat → gM → Prop), v ≤ kf → P M Q E → gMet yX2_part cX2_part 5 (Option.some (FieldType.object "RiverWage$Expression")) kf G M [.ref (gA G 25)] (gQr G Q) (gEx "RiverWage$Wrong" E))  {l4_32 : Nat} {M : gM}  (h : fX2_part_b156 P l4_32 M Q E) : w M 156 [(0, .ref (gA G 25)), (4, .ref (gA G l4_32))] [] := by
  unfold fX2_part_b156 at h
  refine g_aload_n hw 0 dX2_part_156 rfl ?_
  refine g_dup hw dX2_part_157 rfl ?_
  obtain ⟨hk33, h⟩ := h
  refine gfX2_22 hw rfl dX2_part_158 hk33 ?_
  refine g_iconst (v := 1) hw dX2_part_161 (by decide) ?_
  refine g_isub hw dX2_part_162 ?_
  refine pfX2_22 hw rfl dX2_part_163 hk33 ?_
  refine g_aload hw 1 dX2_part_166 rfl ?_
  exact g_aret hw dX2_part_168 ⟨_, rfl, h⟩
def fX2_part_b144 (P : gM → (Nat → gM → Prop) → (Nat → gM → Prop) → Prop) (l3_29 : Int32) (s0_30 : Nat) (M : gM) (Q : Nat → gM → Prop) (E : Nat → gM → Prop) : Prop :=
  (if l3_29 = 0 then fX2_part_b156 P s0_30 M Q E else gk M 25 = 2 ∧ fX2_need_2 41 M (fun M35 => fX2_part_b156 P s0_30 M35 Q E) E)
theorem wX2_part_b144 {kf : Nat} {G : gG} {w : gM → Nat → List (Nat × Value) → List Value → Prop} {Q : Nat → gM → Prop} {E : Nat → gM → Prop} (hw : gX yX2_part cX2_part 5 (Option.some (FieldType.object "RiverWage$Expression")) [] kf G (gQr G Q) (gEx "RiverWage$Wrong" E) w) {v : Nat} {P : gM → (Nat → gM → Prop) → (Nat → gM → Prop) → Prop} (hkf : v + 5 ≤ kf) (hv : 6 ≤ v) (hP : ∀ (kf : Nat)  (M : gM) (Q : Nat → gM → Prop) (E : Nat → gM → Prop), v ≤ kf → P M Q E → gMet yX2_part cX2_part 5 (Option.some (FieldType.object "RiverWage$Expression")) kf G M [.ref (gA G 25)] (gQr G Q) (gEx "RiverWage$Wrong" E))  {l3_29 : Int32} {s0_30 : Nat} {M : gM}  (h : fX2_part_b144 P l3_29 s0_30 M Q E) : w M 144 [(0, .ref (gA G 25)), (3, .int l3_29)] [.ref (gA G s0_30)] := by
  unfold fX2_part_b144 at h
  refine g_astore hw (lv2 := [(0, .ref (gA G 25)), (3, .int l3_29), (4, .ref (gA G s0_30))]) [1, 2, 0] dX2_part_144 rfl rfl ?_
  refine g_iload_n hw 1 dX2_part_146 rfl ?_
  refine g_if_eq (tgt := 156) hw dX2_part_147 (by decide) (fun hb31 => ?_) (fun hb31 => ?_)
  · have h := gT h hb31
    refine g_sub hw (lv2 := [(0, .ref (gA G 25)), (4, .ref (gA G s0_30))]) [0, 2] rfl ?_
    exact wX2_part_b156 hw hkf hv hP h
  · have h := gF h hb31
    refine g_aload_n hw 0 dX2_part_150 rfl ?_
    refine g_bipush (v := 41) hw dX2_part_151 (by decide) ?_
    obtain ⟨hk34, h⟩ := h
    refine sX2_108 hw rfl dX2_part_153 rfl (by omega) hk34 h (fun M35 h => ?_)
    refine g_sub hw (lv2 := [(0, .ref (gA G 25)), (4, .ref (gA G s0_30))]) [0, 2] rfl ?_
    exact wX2_part_b156 hw hkf hv hP h
def fX2_part_b57 (P : gM → (Nat → gM → Prop) → (Nat → gM → Prop) → Prop) (l1_16 : Int32) (l2_17 : Int32) (l3_18 : Int32) (M : gM) (Q : Nat → gM → Prop) (E : Nat → gM → Prop) : Prop :=
  gk M 25 = 2 ∧ (if (gI M 25 6) = 5 then fX2_wrong 5 M (fun r56 M55 => gk M55 r56 = 8 ∧ E r56 M55) else (if (gI M 25 3) = 2 then gn M < gLC ∧ gs M + 1 ≤ gLS ∧ gk (gnew M 9 0 1) 25 = 2 ∧ fX2_number 0 9999 (gnew M 9 0 1) (fun r52 M51 => fX10_init (gn M) r52 M51 (fun M53 => Q (gn M) M53)) E else fX2_next M (fun M22 => (if l1_16 < 0 then gk M22 25 = 2 ∧ (if l2_17 = 0 then fX2_expression P (gsI M22 25 6 ((gI M22 25 6) + 1)) (fun r28 M27 => fX2_part_b144 P l3_18 r28 M27 Q E) E else gn (gsI M22 25 6 ((gI M22 25 6) + 1)) < gLC ∧ gs (gsI M22 25 6 ((gI M22 25 6) + 1)) + 1 ≤ gLS ∧ gk (gnew (gsI M22 25 6 ((gI M22 25 6) + 1)) 11 0 1) 25 = 2 ∧ P (gnew (gsI M22 25 6 ((gI M22 25 6) + 1)) 11 0 1) (fun r41 M40 => fX12_init (gn (gsI M22 25 6 ((gI M22 25 6) + 1))) r41 M40 (fun M42 => fX2_part_b144 P l3_18 (gn (gsI M22 25 6 ((gI M22 25 6) + 1))) M42 Q E)) E) else gn M22 < gLC ∧ gs M22 + 1 ≤ gLS ∧ fX11_init (gn M22) l1_16 (gnew M22 10 0 1) (fun M46 => Q (gn M22) M46)))))
theorem wX2_part_b57 {kf : Nat} {G : gG} {w : gM → Nat → List (Nat × Value) → List Value → Prop} {Q : Nat → gM → Prop} {E : Nat → gM → Prop} (hw : gX yX2_part cX2_part 5 (Option.some (FieldType.object "RiverWage$Expression")) [] kf G (gQr G Q) (gEx "RiverWage$Wrong" E) w) {v : Nat} {P : gM → (Nat → gM → Prop) → (Nat → gM → Prop) → Prop} (hkf : v + 5 ≤ kf) (hv : 6 ≤ v) (hP : ∀ (kf : Nat)  (M : gM) (Q : Nat → gM → Prop) (E : Nat → gM → Prop), v ≤ kf → P M Q E → gMet yX2_part cX2_part 5 (Option.some (FieldType.object "RiverWage$Expression")) kf G M [.ref (gA G 25)] (gQr G Q) (gEx "RiverWage$Wrong" E))  {l1_16 : Int32} {l2_17 : Int32} {l3_18 : Int32} {M : gM}  (h : fX2_part_b57 P l1_16 l2_17 l3_18 M Q E) : w M 57 [(0, .ref (gA G 25)), (1, .int l1_16), (2, .int l2_17), (3, .int l3_18)] [] := by
  unfold fX2_part_b57 at h
  refine g_aload_n hw 0 dX2_part_57 rfl ?_
  obtain ⟨hk19, h⟩ := h
  refine gfX2_22 hw rfl dX2_part_58 hk19 ?_
  refine g_iconst (v := 5) hw dX2_part_61 (by decide) ?_
  refine g_icmp_ne (tgt := 71) hw dX2_part_62 (by decide) (fun hb20 => ?_) (fun hb20 => ?_)
  · have h := gF h hb20
    refine g_aload_n hw 0 dX2_part_71 rfl ?_
    refine gfX2_31 hw rfl dX2_part_72 hk19 ?_
    refine g_iconst (v := 2) hw dX2_part_75 (by decide) ?_
    refine g_icmp_ne (tgt := 95) hw dX2_part_76 (by decide) (fun hb21 => ?_) (fun hb21 => ?_)
    · have h := gF h hb21
      refine g_aload_n hw 0 dX2_part_95 rfl ?_
      refine sX2_25 hw rfl dX2_part_96 rfl (by omega) hk19 h (fun M22 h => ?_)
      refine g_iload_n hw 1 dX2_part_99 rfl ?_
      refine g_if_lt (tgt := 112) hw dX2_part_100 (by decide) (fun hb24 => ?_) (fun hb24 => ?_)
      · have h := gT h hb24
        refine g_aload_n hw 0 dX2_part_112 rfl ?_
        refine g_dup hw dX2_part_113 rfl ?_
        obtain ⟨hk25, h⟩ := h
        refine gfX2_22 hw rfl dX2_part_114 hk25 ?_
        refine g_iconst (v := 1) hw dX2_part_117 (by decide) ?_
        refine g_iadd hw dX2_part_118 ?_
        refine pfX2_22 hw rfl dX2_part_119 hk25 ?_
        refine g_iload_n hw 2 dX2_part_122 rfl ?_
        refine g_if_eq (tgt := 140) hw dX2_part_123 (by decide) (fun hb26 => ?_) (fun hb26 => ?_)
        · have h := gT h hb26
          refine g_aload_n hw 0 dX2_part_140 rfl ?_
          refine sX2_104P hw rfl dX2_part_141 rfl hkf hv hP hk25 h (fun r28 M27 h => ?_)
          refine g_sub hw (lv2 := [(0, .ref (gA G 25)), (3, .int l3_18)]) [0, 3] rfl ?_
          exact wX2_part_b144 hw hkf hv hP h
        · have h := gF h hb26
          obtain ⟨hc37, h⟩ := h
          obtain ⟨hc38, h⟩ := h
          refine g_new (C := RX12) (T := TX12) (N := 1) (ci := 10) hw in_X12 tyX12 tyX12_ok rfl rfl (by decide) dX2_part_126 q767 q768 q119 hc37 hc38 ?_
          refine g_dup hw dX2_part_129 rfl ?_
          refine g_aload_n hw 0 dX2_part_130 rfl ?_
          obtain ⟨hk39, h⟩ := h
          refine sX2_146P hw rfl dX2_part_131 rfl hkf hv hP hk39 h (fun r41 M40 h => ?_)
          refine sX2_161 hw rfl dX2_part_134 rfl (by omega) h (fun M42 h => ?_)
          refine g_goto (tgt := 144) hw dX2_part_137 (by decide) ?_
          refine g_sub hw (lv2 := [(0, .ref (gA G 25)), (3, .int l3_18)]) [0, 3] rfl ?_
          exact wX2_part_b144 hw hkf hv hP h
      · have h := gF h hb24
        obtain ⟨hc44, h⟩ := h
        obtain ⟨hc45, h⟩ := h
        refine g_new (C := RX11) (T := TX11) (N := 1) (ci := 9) hw in_X11 tyX11 tyX11_ok rfl rfl (by decide) dX2_part_103 q757 q758 q118 hc44 hc45 ?_
        refine g_dup hw dX2_part_106 rfl ?_
        refine g_iload_n hw 1 dX2_part_107 rfl ?_
        refine sX2_158 hw rfl dX2_part_108 rfl (by omega) h (fun M46 h => ?_)
        exact g_aret hw dX2_part_111 ⟨_, rfl, h⟩
    · have h := gT h hb21
      obtain ⟨hc48, h⟩ := h
      obtain ⟨hc49, h⟩ := h
      refine g_new (C := RX10) (T := TX10) (N := 1) (ci := 8) hw in_X10 tyX10 tyX10_ok rfl rfl (by decide) dX2_part_79 q740 q741 q117 hc48 hc49 ?_
      refine g_dup hw dX2_part_82 rfl ?_
      refine g_aload_n hw 0 dX2_part_83 rfl ?_
      refine g_iconst (v := 0) hw dX2_part_84 (by decide) ?_
      refine g_sipush (v := 9999) hw dX2_part_85 (by decide) ?_
      obtain ⟨hk50, h⟩ := h
      refine sX2_122 hw rfl dX2_part_88 rfl (by omega) hk50 h (fun r52 M51 h => ?_)
      refine sX2_153 hw rfl dX2_part_91 rfl (by omega) h (fun M53 h => ?_)
      exact g_aret hw dX2_part_94 ⟨_, rfl, h⟩
  · have h := gT h hb20
    refine g_aload_n hw 0 dX2_part_65 rfl ?_
    refine g_iconst (v := 5) hw dX2_part_66 (by decide) ?_
    refine sX2_75 hw rfl dX2_part_67 rfl (by omega) hk19 h (fun r56 M55 h => ?_)
    obtain ⟨hk57, h⟩ := h
    exact g_athrow (ci := 7) hw rfl dX2_part_70 hk57 ⟨rfl, h⟩
def fX2_part_b23 (P : gM → (Nat → gM → Prop) → (Nat → gM → Prop) → Prop) (l1_10 : Int32) (s0_11 : Int32) (M : gM) (Q : Nat → gM → Prop) (E : Nat → gM → Prop) : Prop :=
  gk M 25 = 2 ∧ fX2_isSign 40 M (fun r14 M13 => (if 0 ≤ l1_10 then fX2_part_b57 P l1_10 s0_11 r14 M13 Q E else (if s0_11 = 0 then (if r14 = 0 then gk M13 25 = 2 ∧ (if (gI M13 25 3) = 2 then fX2_part_b57 P l1_10 s0_11 r14 M13 Q E else fX2_wrong 1 M13 (fun r63 M62 => gk M62 r63 = 8 ∧ E r63 M62)) else fX2_part_b57 P l1_10 s0_11 r14 M13 Q E) else fX2_part_b57 P l1_10 s0_11 r14 M13 Q E)))
theorem wX2_part_b23 {kf : Nat} {G : gG} {w : gM → Nat → List (Nat × Value) → List Value → Prop} {Q : Nat → gM → Prop} {E : Nat → gM → Prop} (hw : gX yX2_part cX2_part 5 (Option.some (FieldType.object "RiverWage$Expression")) [] kf G (gQr G Q) (gEx "RiverWage$Wrong" E) w) {v : Nat} {P : gM → (Nat → gM → Prop) → (Nat → gM → Prop) → Prop} (hkf : v + 5 ≤ kf) (hv : 6 ≤ v) (hP : ∀ (kf : Nat)  (M : gM) (Q : Nat → gM → Prop) (E : Nat → gM → Prop), v ≤ kf → P M Q E → gMet yX2_part cX2_part 5 (Option.some (FieldType.object "RiverWage$Expression")) kf G M [.ref (gA G 25)] (gQr G Q) (gEx "RiverWage$Wrong" E))  {l1_10 : Int32} {s0_11 : Int32} {M : gM}  (h : fX2_part_b23 P l1_10 s0_11 M Q E) : w M 23 [(0, .ref (gA G 25)), (1, .int l1_10)] [.int s0_11] := by
  unfold fX2_part_b23 at h
  refine g_istore_n hw (lv2 := [(0, .ref (gA G 25)), (1, .int l1_10), (2, .int s0_11)]) [1, 2, 0] dX2_part_23 rfl rfl ?_
  refine g_aload_n hw 0 dX2_part_24 rfl ?_
  refine g_bipush (v := 40) hw dX2_part_25 (by decide) ?_
  obtain ⟨hk12, h⟩ := h
  refine sX2_79 hw rfl dX2_part_27 rfl (by omega) hk12 h (fun r14 M13 h => ?_)
  refine g_istore_n hw (lv2 := [(0, .ref (gA G 25)), (1, .int l1_10), (2, .int s0_11), (3, .int r14)]) [1, 2, 3, 0] dX2_part_30 rfl rfl ?_
  refine g_iload_n hw 1 dX2_part_31 rfl ?_
  refine g_if_ge (tgt := 57) hw dX2_part_32 (by decide) (fun hb15 => ?_) (fun hb15 => ?_)
  · have h := gT h hb15
    exact wX2_part_b57 hw hkf hv hP h
  · have h := gF h hb15
    refine g_iload_n hw 2 dX2_part_35 rfl ?_
    refine g_if_ne (tgt := 57) hw dX2_part_36 (by decide) (fun hb58 => ?_) (fun hb58 => ?_)
    · have h := gF h hb58
      exact wX2_part_b57 hw hkf hv hP h
    · have h := gT h hb58
      refine g_iload_n hw 3 dX2_part_39 rfl ?_
      refine g_if_ne (tgt := 57) hw dX2_part_40 (by decide) (fun hb59 => ?_) (fun hb59 => ?_)
      · have h := gF h hb59
        exact wX2_part_b57 hw hkf hv hP h
      · have h := gT h hb59
        refine g_aload_n hw 0 dX2_part_43 rfl ?_
        obtain ⟨hk60, h⟩ := h
        refine gfX2_31 hw rfl dX2_part_44 hk60 ?_
        refine g_iconst (v := 2) hw dX2_part_47 (by decide) ?_
        refine g_icmp_eq (tgt := 57) hw dX2_part_48 (by decide) (fun hb61 => ?_) (fun hb61 => ?_)
        · have h := gT h hb61
          exact wX2_part_b57 hw hkf hv hP h
        · have h := gF h hb61
          refine g_aload_n hw 0 dX2_part_51 rfl ?_
          refine g_iconst (v := 1) hw dX2_part_52 (by decide) ?_
          refine sX2_75 hw rfl dX2_part_53 rfl (by omega) hk60 h (fun r63 M62 h => ?_)
          obtain ⟨hk64, h⟩ := h
          exact g_athrow (ci := 7) hw rfl dX2_part_56 hk64 ⟨rfl, h⟩
def fX2_part_s (P : gM → (Nat → gM → Prop) → (Nat → gM → Prop) → Prop) (M : gM) (Q : Nat → gM → Prop) (E : Nat → gM → Prop) : Prop :=
  gk M 25 = 2 ∧ gdr (gR M 25 7) (fun a2 => fX2_which a2 M (fun r5 M4 => gk M4 25 = 2 ∧ fX2_which 4 M4 (fun r8 M7 => (if r8 < 0 then fX2_part_b23 P r5 0 M7 Q E else fX2_part_b23 P r5 1 M7 Q E))))
theorem mX2_part_s {kf : Nat} (G : gG) {v : Nat} {P : gM → (Nat → gM → Prop) → (Nat → gM → Prop) → Prop} (hkf : v + 5 ≤ kf) (hv : 6 ≤ v) (hP : ∀ (kf : Nat)  (M : gM) (Q : Nat → gM → Prop) (E : Nat → gM → Prop), v ≤ kf → P M Q E → gMet yX2_part cX2_part 5 (Option.some (FieldType.object "RiverWage$Expression")) kf G M [.ref (gA G 25)] (gQr G Q) (gEx "RiverWage$Wrong" E))  (M : gM) (Q : Nat → gM → Prop) (E : Nat → gM → Prop) (h : fX2_part_s P M Q E) : gMet yX2_part cX2_part 5 (Option.some (FieldType.object "RiverWage$Expression")) kf G M [.ref (gA G 25)] (gQr G Q) (gEx "RiverWage$Wrong" E) := by
  refine g_intro (lv := [(0, .ref (gA G 25))]) (by decide) rfl rfl (fun w hw => ?_)
  unfold fX2_part_s at h
  refine g_aload_n hw 0 dX2_part_0 rfl ?_
  refine g_aload_n hw 0 dX2_part_1 rfl ?_
  obtain ⟨hk1, h⟩ := h
  obtain ⟨a2, e3, h⟩ := h
  refine gfX2_88 (q := some a2) hw rfl dX2_part_2 hk1 e3 ?_
  refine sX2_71 hw rfl dX2_part_5 rfl (by omega) hk1 h (fun r5 M4 h => ?_)
  refine g_istore_n hw (lv2 := [(0, .ref (gA G 25)), (1, .int r5)]) [1, 0] dX2_part_8 rfl rfl ?_
  refine g_aload_n hw 0 dX2_part_9 rfl ?_
  refine g_ldcS hw 4 dX2_part_10 q735 rfl ?_
  obtain ⟨hk6, h⟩ := h
  refine sX2_71 hw rfl dX2_part_12 rfl (by omega) hk6 h (fun r8 M7 h => ?_)
  refine g_if_lt (tgt := 22) hw dX2_part_15 (by decide) (fun hb9 => ?_) (fun hb9 => ?_)
  · have h := gT h hb9
    refine g_iconst (v := 0) hw dX2_part_22 (by decide) ?_
    exact wX2_part_b23 hw hkf hv hP h
  · have h := gF h hb9
    refine g_iconst (v := 1) hw dX2_part_18 (by decide) ?_
    refine g_goto (tgt := 23) hw dX2_part_19 (by decide) ?_
    exact wX2_part_b23 hw hkf hv hP h
def fX2_part : Nat → gM → (Nat → gM → Prop) → (Nat → gM → Prop) → Prop
  | 0 => fun _ _ _ => False
  | n + 1 => fun M Q E => fX2_part_s (fX2_part n) M Q E
theorem mX2_part (G : gG) : ∀ (n kf : Nat)  (M : gM) (Q : Nat → gM → Prop) (E : Nat → gM → Prop), 5 * n + 6 ≤ kf → fX2_part n M Q E → gMet yX2_part cX2_part 5 (Option.some (FieldType.object "RiverWage$Expression")) kf G M [.ref (gA G 25)] (gQr G Q) (gEx "RiverWage$Wrong" E) := by
  intro n
  induction n with
  | zero => intro kf M Q E hk h; exact h.elim
  | succ n ih => intro kf M Q E hk h; exact mX2_part_s G (v := 5 * n + 6) (P := fX2_part n) (by omega) (by omega) (fun kf M Q E hk h => ih kf M Q E hk h) M Q E h
theorem sX2_85 {y0 : MethodName} {cc : ByteArray} {nL : Nat} {ret : Option FieldType} {hh : List (Nat × Nat × Nat × Nat)} {kf : Nat} {G : gG} {Qv : Option Value → gM → Prop} {E : String → Nat → gM → Prop} {w : gM → Nat → List (Nat × Value) → List Value → Prop} {M : gM} {pc : Nat} {lv : List (Nat × Value)} {rest : List Value} (hw : gX y0 cc nL ret hh kf G Qv E w) (hy : y0.cls = RX2) {c0 : Nat} {Q : gM → Prop} (d : decode cc pc = .ok (.invokespecial 85, 3)) (hrest : Nat.ble ((rest.map Value.category).sum) 8 = true) (hk : 1 + 1 ≤ kf) (h : fX5_init c0 M Q) (kk : ∀ M1, Q M1 → w M1 (pc + 3) lv rest) : w M pc lv (.ref (gA G c0) :: rest) := by
  obtain ⟨cls9, nm9, ds9⟩ := y0
  subst hy
  exact g_callI hw [] (nA := 0) rfl d (Or.inr ⟨_, q608⟩) q237 q102 q238 (by decide +kernel) rfl rfl hrest rfl (by omega : kf - 1 + 1 ≤ kf) (mX5_init (kf := kf - 1) (by omega) G c0 M Q h) (fun _ _ _ q => q.elim) (fun v M1 h => by obtain ⟨rfl, h⟩ := h; exact kk M1 h)
theorem pfX2_88 {y0 : MethodName} {cc : ByteArray} {nL : Nat} {ret : Option FieldType} {hh : List (Nat × Nat × Nat × Nat)} {kf : Nat} {G : gG} {Qv : Option Value → gM → Prop} {E : String → Nat → gM → Prop} {w : gM → Nat → List (Nat × Value) → List Value → Prop} {M : gM} {pc : Nat} {lv : List (Nat × Value)} {rest : List Value} (hw : gX y0 cc nL ret hh kf G Qv E w) (hy : y0.cls = RX2) {c : Nat} {q : Option Nat} (d : decode cc pc = .ok (.putfield 88, 3)) (hk : gk M c = 2) (kk : w (gsR M c 7 q) (pc + 3) lv rest) : w M pc lv (va_rf (q.map (gA G)) :: .ref (gA G c) :: rest) := by
  obtain ⟨cls9, nm9, ds9⟩ := y0
  subst hy
  exact g_putC (C := RX2) (T := TX2) (N := 8) (ci := 1) hw in_X2 tyX2 tyX2_ok nmX2 rfl 7 (by decide) (Or.inl ⟨q148, Or.inl rfl⟩) (by cases q <;> rfl) (by cases q <;> rfl) (gOne_R M c 7 q) (by show va_rf ((gR (gsR M c 7 q) c 7).map (gA G)) = _; rw [gR_sR, if_pos ⟨rfl, rfl⟩]) d hk kk
theorem gfX2_94 {y0 : MethodName} {cc : ByteArray} {nL : Nat} {ret : Option FieldType} {hh : List (Nat × Nat × Nat × Nat)} {kf : Nat} {G : gG} {Qv : Option Value → gM → Prop} {E : String → Nat → gM → Prop} {w : gM → Nat → List (Nat × Value) → List Value → Prop} {M : gM} {pc : Nat} {lv : List (Nat × Value)} {rest : List Value} (hw : gX y0 cc nL ret hh kf G Qv E w) (hy : y0.cls = RX2) {c : Nat} {q : Option Nat} (d : decode cc pc = .ok (.getfield 94, 3)) (hk : gk M c = 5) (hq : gR M c 0 = q) (kk : w M (pc + 3) lv (va_rf (q.map (gA G)) :: rest)) : w M pc lv (.ref (gA G c) :: rest) := by
  obtain ⟨cls9, nm9, ds9⟩ := y0
  subst hy
  subst hq
  exact g_getC (C := RX5) (T := TX5) (N := 1) (ci := 4) hw in_X5 rfl 0 (by decide) (Or.inr ⟨_, q243⟩) rfl d hk kk
theorem sX2_104 {y0 : MethodName} {cc : ByteArray} {nL : Nat} {ret : Option FieldType} {kf : Nat} {G : gG} {Qv : Option Value → gM → Prop} {E1 : Nat → gM → Prop} {w : gM → Nat → List (Nat × Value) → List Value → Prop} {M : gM} {pc : Nat} {lv : List (Nat × Value)} {rest : List Value} (hw : gX y0 cc nL ret [] kf G Qv (gEx "RiverWage$Wrong" E1) w) (hy : y0.cls = RX2)  {Q : Nat → gM → Prop} (d : decode cc pc = .ok (.invokevirtual 104, 3)) (hrest : Nat.ble ((rest.map Value.category).sum) 8 = true) {n : Nat} (hk : 50 + 1 ≤ kf) (hn : n ≤ 8) (hkd : gk M 25 = 2) (h : fX2_expression (fX2_part n) M Q E1) (kk : ∀ r M1, Q r M1 → w M1 (pc + 3) lv (.ref (gA G r) :: rest)) : w M pc lv (.ref (gA G 25) :: rest) := by
  obtain ⟨cls9, nm9, ds9⟩ := y0
  subst hy
  exact g_callV (r := (RX2, TX2, 8)) (ci := 1) hw [] (nA := 0) rfl d q715 q717 qs19 q99 q718 (by decide +kernel) rfl rfl hrest rfl (by omega : kf - 1 + 1 ≤ kf) hkd (mX2_expression G (kf := kf - 1) (v := 5 * n + 6) (by omega) (by omega) (fun kf M Q E hk h => mX2_part G n kf M Q E hk h) M Q E1 h) (fun _ _ _ q => gCat0 q) (fun v M1 h => by obtain ⟨r, rfl, h⟩ := h; exact kk r M1 h)
theorem sX2_100 {y0 : MethodName} {cc : ByteArray} {nL : Nat} {ret : Option FieldType} {kf : Nat} {G : gG} {Qv : Option Value → gM → Prop} {E1 : Nat → gM → Prop} {w : gM → Nat → List (Nat × Value) → List Value → Prop} {M : gM} {pc : Nat} {lv : List (Nat × Value)} {rest : List Value} (hw : gX y0 cc nL ret [] kf G Qv (gEx "RiverWage$Wrong" E1) w) (hy : y0.cls = RX2) {p1 : Nat} {Q : gM → Prop} (d : decode cc pc = .ok (.invokevirtual 100, 3)) (hrest : Nat.ble ((rest.map Value.category).sum) 8 = true) (hk : 6 + 1 ≤ kf) (hkd : gk M 25 = 2) (h : fX2_need p1 M Q E1) (kk : ∀ M1, Q M1 → w M1 (pc + 3) lv rest) : w M pc lv (.ref (gA G p1) :: .ref (gA G 25) :: rest) := by
  obtain ⟨cls9, nm9, ds9⟩ := y0
  subst hy
  exact g_callV (r := (RX2, TX2, 8)) (ci := 1) hw [.ref (gA G p1)] (nA := 1) rfl d q711 q713 qs18 q99 q714 (by decide +kernel) rfl rfl hrest rfl (by omega : kf - 1 + 1 ≤ kf) hkd (mX2_need (kf := kf - 1) (by omega) G p1 M Q E1 h) (fun _ _ _ q => gCat0 q) (fun v M1 h => by obtain ⟨rfl, h⟩ := h; exact kk M1 h)
def fX2_law_b68 (R14 : gM → Prop) (l1_6 : Nat) (l2_22 : Int32) (M : gM) (Q : Nat → gM → Prop) (E : Nat → gM → Prop) : Prop :=
  gk M l1_6 = 5 ∧ gdr (gR M l1_6 0) (fun a24 => gk M 25 = 2 ∧ ∃ n9, n9 ≤ 8 ∧ fX2_expression (fX2_part n9) M (fun r28 M27 => gk M27 a24 = 47 ∧ vp_in l2_22 (gl M27 a24) ∧ gExpr (gk M27 r28) ∧ gk (gsR M27 a24 l2_22.toNatClampNeg (some r28)) 25 = 2 ∧ fX2_need_2 59 (gsR M27 a24 l2_22.toNatClampNeg (some r28)) (fun M33 => R14 M33) E) E)
theorem wX2_law_b68 {kf : Nat} {G : gG} {w : gM → Nat → List (Nat × Value) → List Value → Prop} {Q : Nat → gM → Prop} {E : Nat → gM → Prop} (hw : gX yX2_law cX2_law 3 (Option.some (FieldType.object "RiverWage$Law")) [] kf G (gQr G Q) (gEx "RiverWage$Wrong" E) w) (hkf : 51 ≤ kf) {R14 : gM → Prop} {l1_6 : Nat} {l2_22 : Int32} {M : gM} (hR14 : ∀  (M : gM), R14 M → w M 14 [(0, .ref (gA G 25)), (1, .ref (gA G l1_6))] []) (h : fX2_law_b68 R14 l1_6 l2_22 M Q E) : w M 68 [(0, .ref (gA G 25)), (1, .ref (gA G l1_6)), (2, .int l2_22)] [] := by
  unfold fX2_law_b68 at h
  refine g_aload_n hw 1 dX2_law_68 rfl ?_
  obtain ⟨hk23, h⟩ := h
  obtain ⟨a24, e25, h⟩ := h
  refine gfX2_94 (q := some a24) hw rfl dX2_law_69 hk23 e25 ?_
  refine g_iload_n hw 2 dX2_law_72 rfl ?_
  refine g_aload_n hw 0 dX2_law_73 rfl ?_
  obtain ⟨hk26, h⟩ := h
  obtain ⟨n9, hn9, h⟩ := h
  refine sX2_104 hw rfl dX2_law_74 rfl (gK2 hkf) hn9 hk26 h (fun r28 M27 h => ?_)
  obtain ⟨hk29, h⟩ := h
  obtain ⟨hi30, h⟩ := h
  obtain ⟨hc31, h⟩ := h
  refine g_aastE (n := l2_22.toNatClampNeg) hw dX2_law_77 hk29 hi30 rfl hc31 ?_
  refine g_aload_n hw 0 dX2_law_78 rfl ?_
  refine g_bipush (v := 59) hw dX2_law_79 (by decide) ?_
  obtain ⟨hk32, h⟩ := h
  refine sX2_108 hw rfl dX2_law_81 rfl (gK2 hkf) hk32 h (fun M33 h => ?_)
  refine g_goto (tgt := 14) hw dX2_law_84 (by decide) ?_
  refine g_sub hw (lv2 := [(0, .ref (gA G 25)), (1, .ref (gA G l1_6))]) [0, 1] rfl ?_
  exact hR14 M33 h
def fX2_law_L14s (R14 : gM → Prop) (K32_14 : gM → Prop) (K47_14 : gM → Prop) (K87_14 : gM → Prop) (l1_6 : Nat) (M : gM) (Q : Nat → gM → Prop) (E : Nat → gM → Prop) : Prop :=
  gk M 25 = 2 ∧ (if (gI M 25 3) = 0 then K87_14 M else fX2_which 2 M (fun r10 M9 => (if 0 ≤ r10 then gk M9 l1_6 = 5 ∧ gdr (gR M9 l1_6 0) (fun a13 => gk M9 a13 = 47 ∧ vp_in r10 (gl M9 a13) ∧ (if (gR M9 a13 r10.toNatClampNeg) = none then gk M9 25 = 2 ∧ fX2_next M9 (fun M19 => (if r10 ≤ 1 then fX2_law_b68 R14 l1_6 r10 M19 Q E else gk M19 25 = 2 ∧ fX2_need 3 M19 (fun M36 => fX2_law_b68 R14 l1_6 r10 M36 Q E) E)) else K47_14 M9)) else K32_14 M9)))
def fX2_law_L14 (K32_14 : gM → Prop) (K47_14 : gM → Prop) (K87_14 : gM → Prop) (l1_6 : Nat) (Q : Nat → gM → Prop) (E : Nat → gM → Prop) : Nat → gM → Prop
  | 0 => fun _ => False
  | n + 1 => fun M => fX2_law_L14s (fX2_law_L14 K32_14 K47_14 K87_14 l1_6 Q E n) K32_14 K47_14 K87_14 l1_6 M Q E
theorem wX2_law_L14s {kf : Nat} {G : gG} {w : gM → Nat → List (Nat × Value) → List Value → Prop} {Q : Nat → gM → Prop} {E : Nat → gM → Prop} (hw : gX yX2_law cX2_law 3 (Option.some (FieldType.object "RiverWage$Law")) [] kf G (gQr G Q) (gEx "RiverWage$Wrong" E) w) (hkf : 51 ≤ kf) {R14 : gM → Prop} {K32_14 : gM → Prop} {K47_14 : gM → Prop} {K87_14 : gM → Prop} {l1_6 : Nat} {M : gM} (hR14 : ∀  (M : gM), R14 M → w M 14 [(0, .ref (gA G 25)), (1, .ref (gA G l1_6))] []) (hK32_14 : ∀  (M : gM), K32_14 M → w M 32 [(0, .ref (gA G 25))] []) (hK47_14 : ∀  (M : gM), K47_14 M → w M 47 [(0, .ref (gA G 25))] []) (hK87_14 : ∀  (M : gM), K87_14 M → w M 87 [(1, .ref (gA G l1_6))] []) (h : fX2_law_L14s R14 K32_14 K47_14 K87_14 l1_6 M Q E) : w M 14 [(0, .ref (gA G 25)), (1, .ref (gA G l1_6))] [] := by
  unfold fX2_law_L14s at h
  refine g_aload_n hw 0 dX2_law_14 rfl ?_
  obtain ⟨hk7, h⟩ := h
  refine gfX2_31 hw rfl dX2_law_15 hk7 ?_
  refine g_if_eq (tgt := 87) hw dX2_law_18 (by decide) (fun hb8 => ?_) (fun hb8 => ?_)
  · have h := gT h hb8
    refine g_sub hw (lv2 := [(1, .ref (gA G l1_6))]) [1] rfl ?_
    exact hK87_14 M h
  · have h := gF h hb8
    refine g_aload_n hw 0 dX2_law_21 rfl ?_
    refine g_ldcS hw 2 dX2_law_22 q610 rfl ?_
    refine sX2_71 hw rfl dX2_law_24 rfl (gK2 hkf) hk7 h (fun r10 M9 h => ?_)
    refine g_istore_n hw (lv2 := [(0, .ref (gA G 25)), (1, .ref (gA G l1_6)), (2, .int r10)]) [1, 2, 0] dX2_law_27 rfl rfl ?_
    refine g_iload_n hw 2 dX2_law_28 rfl ?_
    refine g_if_ge (tgt := 38) hw dX2_law_29 (by decide) (fun hb11 => ?_) (fun hb11 => ?_)
    · have h := gT h hb11
      refine g_aload_n hw 1 dX2_law_38 rfl ?_
      obtain ⟨hk12, h⟩ := h
      obtain ⟨a13, e14, h⟩ := h
      refine gfX2_94 (q := some a13) hw rfl dX2_law_39 hk12 e14 ?_
      refine g_iload_n hw 2 dX2_law_42 rfl ?_
      obtain ⟨hk15, h⟩ := h
      obtain ⟨hi16, h⟩ := h
      refine g_aald (n := r10.toNatClampNeg) hw 7 dX2_law_43 ⟨rfl, rfl⟩ hk15 hi16 rfl ?_
      refine g_ifnullM (tgt := 53) hw dX2_law_44 (by decide) (fun hb17 => ?_) (fun hb17 => ?_)
      · have h := gT h hb17
        refine g_aload_n hw 0 dX2_law_53 rfl ?_
        obtain ⟨hk18, h⟩ := h
        refine sX2_25 hw rfl dX2_law_54 rfl (gK2 hkf) hk18 h (fun M19 h => ?_)
        refine g_iload_n hw 2 dX2_law_57 rfl ?_
        refine g_iconst (v := 1) hw dX2_law_58 (by decide) ?_
        refine g_icmp_le (tgt := 68) hw dX2_law_59 (by decide) (fun hb21 => ?_) (fun hb21 => ?_)
        · have h := gT h hb21
          exact wX2_law_b68 hw hkf hR14 h
        · have h := gF h hb21
          refine g_aload_n hw 0 dX2_law_62 rfl ?_
          refine g_ldcS hw 3 dX2_law_63 q710 rfl ?_
          obtain ⟨hk35, h⟩ := h
          refine sX2_100 hw rfl dX2_law_65 rfl (gK2 hkf) hk35 h (fun M36 h => ?_)
          exact wX2_law_b68 hw hkf hR14 h
      · have h := gF h hb17
        refine g_sub hw (lv2 := [(0, .ref (gA G 25))]) [0] rfl ?_
        exact hK47_14 M9 h
    · have h := gF h hb11
      refine g_sub hw (lv2 := [(0, .ref (gA G 25))]) [0] rfl ?_
      exact hK32_14 M9 h
theorem wX2_law_L14 {kf : Nat} {G : gG} {w : gM → Nat → List (Nat × Value) → List Value → Prop} {Q : Nat → gM → Prop} {E : Nat → gM → Prop} (hw : gX yX2_law cX2_law 3 (Option.some (FieldType.object "RiverWage$Law")) [] kf G (gQr G Q) (gEx "RiverWage$Wrong" E) w) (hkf : 51 ≤ kf) {K32_14 : gM → Prop} {K47_14 : gM → Prop} {K87_14 : gM → Prop} {l1_6 : Nat} (hK32_14 : ∀  (M : gM), K32_14 M → w M 32 [(0, .ref (gA G 25))] []) (hK47_14 : ∀  (M : gM), K47_14 M → w M 47 [(0, .ref (gA G 25))] []) (hK87_14 : ∀  (M : gM), K87_14 M → w M 87 [(1, .ref (gA G l1_6))] []) : ∀ (n : Nat)  (M : gM), fX2_law_L14 K32_14 K47_14 K87_14 l1_6 Q E n M → w M 14 [(0, .ref (gA G 25)), (1, .ref (gA G l1_6))] [] := by
  intro n
  induction n with
  | zero => intro M h; exact h.elim
  | succ n ih => intro M h; exact wX2_law_L14s hw hkf ih hK32_14 hK47_14 hK87_14 h
def fX2_law  (M : gM) (Q : Nat → gM → Prop) (E : Nat → gM → Prop) : Prop :=
  gn M < gLC ∧ gs M + 1 ≤ gLS ∧ fX5_init (gn M) (gnew M 5 0 1) (fun M3 => gk M3 25 = 2 ∧ ∃ n, fX2_law_L14 (fun M38 => gk M38 25 = 2 ∧ fX2_wrong 1 M38 (fun r41 M40 => gk M40 r41 = 8 ∧ E r41 M40)) (fun M43 => gk M43 25 = 2 ∧ fX2_wrong 3 M43 (fun r46 M45 => gk M45 r46 = 8 ∧ E r46 M45)) (fun M48 => Q (gn M) M48) (gn M) Q E n (gsR M3 25 7 (some 1)))
theorem mX2_law {kf : Nat} (hkf : 51 ≤ kf) (G : gG)  (M : gM) (Q : Nat → gM → Prop) (E : Nat → gM → Prop) (h : fX2_law M Q E) : gMet yX2_law cX2_law 3 (Option.some (FieldType.object "RiverWage$Law")) kf G M [.ref (gA G 25)] (gQr G Q) (gEx "RiverWage$Wrong" E) := by
  refine g_intro (lv := [(0, .ref (gA G 25))]) (by decide) rfl rfl (fun w hw => ?_)
  unfold fX2_law at h
  obtain ⟨hc1, h⟩ := h
  obtain ⟨hc2, h⟩ := h
  refine g_new (C := RX5) (T := TX5) (N := 1) (ci := 4) hw in_X5 tyX5 tyX5_ok rfl rfl (by decide) dX2_law_0 q607 q235 q102 hc1 hc2 ?_
  refine g_dup hw dX2_law_3 rfl ?_
  refine sX2_85 hw rfl dX2_law_4 rfl (gK2 hkf) h (fun M3 h => ?_)
  refine g_astore_n hw (lv2 := [(0, .ref (gA G 25)), (1, .ref (gA G (gn M)))]) [1, 0] dX2_law_7 rfl rfl ?_
  refine g_aload_n hw 0 dX2_law_8 rfl ?_
  refine g_ldcS hw 1 dX2_law_9 q609 rfl ?_
  obtain ⟨hk5, h⟩ := h
  refine pfX2_88 (q := some 1) hw rfl dX2_law_11 hk5 ?_
  obtain ⟨n9, h⟩ := h
  refine wX2_law_L14 hw hkf (fun M38 h => ?_) (fun M43 h => ?_) (fun M48 h => ?_) n9 (gsR M3 25 7 (some 1)) h
  · refine g_aload_n hw 0 dX2_law_32 rfl ?_
    refine g_iconst (v := 1) hw dX2_law_33 (by decide) ?_
    obtain ⟨hk39, h⟩ := h
    refine sX2_75 hw rfl dX2_law_34 rfl (gK2 hkf) hk39 h (fun r41 M40 h => ?_)
    obtain ⟨hk42, h⟩ := h
    exact g_athrow (ci := 7) hw rfl dX2_law_37 hk42 ⟨rfl, h⟩
  · refine g_aload_n hw 0 dX2_law_47 rfl ?_
    refine g_iconst (v := 3) hw dX2_law_48 (by decide) ?_
    obtain ⟨hk44, h⟩ := h
    refine sX2_75 hw rfl dX2_law_49 rfl (gK2 hkf) hk44 h (fun r46 M45 h => ?_)
    obtain ⟨hk47, h⟩ := h
    exact g_athrow (ci := 7) hw rfl dX2_law_52 hk47 ⟨rfl, h⟩
  · refine g_aload_n hw 0 dX2_law_87 rfl ?_
    exact g_aret hw dX2_law_88 ⟨_, rfl, h⟩
theorem sX2_113 {y0 : MethodName} {cc : ByteArray} {nL : Nat} {ret : Option FieldType} {hh : List (Nat × Nat × Nat × Nat)} {kf : Nat} {G : gG} {Qv : Option Value → gM → Prop} {E : String → Nat → gM → Prop} {w : gM → Nat → List (Nat × Value) → List Value → Prop} {M : gM} {pc : Nat} {lv : List (Nat × Value)} {rest : List Value} (hw : gX y0 cc nL ret hh kf G Qv E w) (hy : y0.cls = RX2) {c0 : Nat} {Q : gM → Prop} (d : decode cc pc = .ok (.invokespecial 113, 3)) (hrest : Nat.ble ((rest.map Value.category).sum) 8 = true) (hk : 1 + 1 ≤ kf) (h : fX6_init c0 M Q) (kk : ∀ M1, Q M1 → w M1 (pc + 3) lv rest) : w M pc lv (.ref (gA G c0) :: rest) := by
  obtain ⟨cls9, nm9, ds9⟩ := y0
  subst hy
  exact g_callI hw [] (nA := 0) rfl d (Or.inr ⟨_, q887⟩) q250 q103 q251 (by decide +kernel) rfl rfl hrest rfl (by omega : kf - 1 + 1 ≤ kf) (mX6_init (kf := kf - 1) (by omega) G c0 M Q h) (fun _ _ _ q => q.elim) (fun v M1 h => by obtain ⟨rfl, h⟩ := h; exact kk M1 h)
theorem pfX2_127 {y0 : MethodName} {cc : ByteArray} {nL : Nat} {ret : Option FieldType} {hh : List (Nat × Nat × Nat × Nat)} {kf : Nat} {G : gG} {Qv : Option Value → gM → Prop} {E : String → Nat → gM → Prop} {w : gM → Nat → List (Nat × Value) → List Value → Prop} {M : gM} {pc : Nat} {lv : List (Nat × Value)} {rest : List Value} (hw : gX y0 cc nL ret hh kf G Qv E w) (hy : y0.cls = RX2) {c : Nat} {x : Int32} (d : decode cc pc = .ok (.putfield 127, 3)) (hk : gk M c = 6) (kk : w (gsI M c 3 x) (pc + 3) lv rest) : w M pc lv (.int x :: .ref (gA G c) :: rest) := by
  obtain ⟨cls9, nm9, ds9⟩ := y0
  subst hy
  exact g_putC (C := RX6) (T := TX6) (N := 4) (ci := 5) hw in_X6 tyX6 tyX6_ok nmX6 rfl 3 (by decide) (Or.inr ⟨rfl, _, q261⟩) rfl rfl (gOne_I M c 3 x) (by show Value.int (gI (gsI M c 3 x) c 3) = _; rw [gI_sI, if_pos ⟨rfl, rfl⟩]) d hk kk
theorem pfX2_126 {y0 : MethodName} {cc : ByteArray} {nL : Nat} {ret : Option FieldType} {hh : List (Nat × Nat × Nat × Nat)} {kf : Nat} {G : gG} {Qv : Option Value → gM → Prop} {E : String → Nat → gM → Prop} {w : gM → Nat → List (Nat × Value) → List Value → Prop} {M : gM} {pc : Nat} {lv : List (Nat × Value)} {rest : List Value} (hw : gX y0 cc nL ret hh kf G Qv E w) (hy : y0.cls = RX2) {c : Nat} {x : Int32} (d : decode cc pc = .ok (.putfield 126, 3)) (hk : gk M c = 6) (kk : w (gsI M c 2 x) (pc + 3) lv rest) : w M pc lv (.int x :: .ref (gA G c) :: rest) := by
  obtain ⟨cls9, nm9, ds9⟩ := y0
  subst hy
  exact g_putC (C := RX6) (T := TX6) (N := 4) (ci := 5) hw in_X6 tyX6 tyX6_ok nmX6 rfl 2 (by decide) (Or.inr ⟨rfl, _, q258⟩) rfl rfl (gOne_I M c 2 x) (by show Value.int (gI (gsI M c 2 x) c 2) = _; rw [gI_sI, if_pos ⟨rfl, rfl⟩]) d hk kk
theorem pfX2_125 {y0 : MethodName} {cc : ByteArray} {nL : Nat} {ret : Option FieldType} {hh : List (Nat × Nat × Nat × Nat)} {kf : Nat} {G : gG} {Qv : Option Value → gM → Prop} {E : String → Nat → gM → Prop} {w : gM → Nat → List (Nat × Value) → List Value → Prop} {M : gM} {pc : Nat} {lv : List (Nat × Value)} {rest : List Value} (hw : gX y0 cc nL ret hh kf G Qv E w) (hy : y0.cls = RX2) {c : Nat} {x : Int32} (d : decode cc pc = .ok (.putfield 125, 3)) (hk : gk M c = 6) (kk : w (gsI M c 1 x) (pc + 3) lv rest) : w M pc lv (.int x :: .ref (gA G c) :: rest) := by
  obtain ⟨cls9, nm9, ds9⟩ := y0
  subst hy
  exact g_putC (C := RX6) (T := TX6) (N := 4) (ci := 5) hw in_X6 tyX6 tyX6_ok nmX6 rfl 1 (by decide) (Or.inr ⟨rfl, _, q255⟩) rfl rfl (gOne_I M c 1 x) (by show Value.int (gI (gsI M c 1 x) c 1) = _; rw [gI_sI, if_pos ⟨rfl, rfl⟩]) d hk kk
theorem pfX2_118 {y0 : MethodName} {cc : ByteArray} {nL : Nat} {ret : Option FieldType} {hh : List (Nat × Nat × Nat × Nat)} {kf : Nat} {G : gG} {Qv : Option Value → gM → Prop} {E : String → Nat → gM → Prop} {w : gM → Nat → List (Nat × Value) → List Value → Prop} {M : gM} {pc : Nat} {lv : List (Nat × Value)} {rest : List Value} (hw : gX y0 cc nL ret hh kf G Qv E w) (hy : y0.cls = RX2) {c : Nat} {q : Option Nat} (d : decode cc pc = .ok (.putfield 118, 3)) (hk : gk M c = 6) (kk : w (gsR M c 0 q) (pc + 3) lv rest) : w M pc lv (va_rf (q.map (gA G)) :: .ref (gA G c) :: rest) := by
  obtain ⟨cls9, nm9, ds9⟩ := y0
  subst hy
  exact g_putC (C := RX6) (T := TX6) (N := 4) (ci := 5) hw in_X6 tyX6 tyX6_ok nmX6 rfl 0 (by decide) (Or.inr ⟨rfl, _, q253⟩) (by cases q <;> rfl) (by cases q <;> rfl) (gOne_R M c 0 q) (by show va_rf ((gR (gsR M c 0 q) c 0).map (gA G)) = _; rw [gR_sR, if_pos ⟨rfl, rfl⟩]) d hk kk
def fX2_writer_b135 (R16 : Int32 → gM → Prop) (l1_6 : Nat) (l2_24 : Int32) (M : gM) (Q : Nat → gM → Prop) (E : Nat → gM → Prop) : Prop :=
  gk M 25 = 2 ∧ fX2_need_2 59 M (fun M26 => R16 l2_24 M26) E
theorem wX2_writer_b135 {kf : Nat} {G : gG} {w : gM → Nat → List (Nat × Value) → List Value → Prop} {Q : Nat → gM → Prop} {E : Nat → gM → Prop} (hw : gX yX2_writer cX2_writer 4 (Option.some (FieldType.object "RiverWage$Writer")) [] kf G (gQr G Q) (gEx "RiverWage$Wrong" E) w) (hkf : 51 ≤ kf) {R16 : Int32 → gM → Prop} {l1_6 : Nat} {l2_24 : Int32} {M : gM} (hR16 : ∀ (v0 : Int32) (M : gM), R16 v0 M → w M 16 [(0, .ref (gA G 25)), (1, .ref (gA G l1_6)), (2, .int v0)] []) (h : fX2_writer_b135 R16 l1_6 l2_24 M Q E) : w M 135 [(0, .ref (gA G 25)), (1, .ref (gA G l1_6)), (2, .int l2_24)] [] := by
  unfold fX2_writer_b135 at h
  refine g_aload_n hw 0 dX2_writer_135 rfl ?_
  refine g_bipush (v := 59) hw dX2_writer_136 (by decide) ?_
  obtain ⟨hk25, h⟩ := h
  refine sX2_108 hw rfl dX2_writer_138 rfl (gK2 hkf) hk25 h (fun M26 h => ?_)
  refine g_goto (tgt := 16) hw dX2_writer_141 (by decide) ?_
  exact hR16 l2_24 M26 h
def fX2_writer_L16s (R16 : Int32 → gM → Prop) (K34_16 : gM → Prop) (K49_16 : gM → Prop) (K144_16 : gM → Prop) (l1_6 : Nat) (l2_7 : Int32) (M : gM) (Q : Nat → gM → Prop) (E : Nat → gM → Prop) : Prop :=
  gk M 25 = 2 ∧ (if (gI M 25 3) = 0 then K144_16 M else fX2_which 7 M (fun r11 M10 => (if 0 ≤ r11 then (if ((l2_7 >>> (r11 &&& 31)) &&& 1) = 1 then K49_16 M10 else gk M10 25 = 2 ∧ fX2_next M10 (fun M15 => (if r11 = 0 then gk M15 25 = 2 ∧ fX2_need 3 M15 (fun M37 => gk M37 25 = 2 ∧ ∃ n9, n9 ≤ 8 ∧ fX2_expression (fX2_part n9) M37 (fun r41 M40 => gk M40 l1_6 = 6 ∧ fX2_writer_b135 R16 l1_6 (l2_7 ||| (1 <<< (r11 &&& 31))) (gsR M40 l1_6 0 (some r41)) Q E) E) E else (if r11 = 1 then gk M15 25 = 2 ∧ fX2_number 0 11 M15 (fun r34 M33 => gk M33 l1_6 = 6 ∧ fX2_writer_b135 R16 l1_6 (l2_7 ||| (1 <<< (r11 &&& 31))) (gsI M33 l1_6 1 r34) Q E) E else (if r11 = 2 then gk M15 25 = 2 ∧ fX2_number 0 11 M15 (fun r30 M29 => gk M29 l1_6 = 6 ∧ fX2_writer_b135 R16 l1_6 (l2_7 ||| (1 <<< (r11 &&& 31))) (gsI M29 l1_6 2 r30) Q E) E else gk M15 25 = 2 ∧ fX2_number 0 10 M15 (fun r22 M21 => gk M21 l1_6 = 6 ∧ fX2_writer_b135 R16 l1_6 (l2_7 ||| (1 <<< (r11 &&& 31))) (gsI M21 l1_6 3 r22) Q E) E))))) else K34_16 M10)))
def fX2_writer_L16 (K34_16 : gM → Prop) (K49_16 : gM → Prop) (K144_16 : gM → Prop) (l1_6 : Nat) (Q : Nat → gM → Prop) (E : Nat → gM → Prop) : Nat → Int32 → gM → Prop
  | 0 => fun _ _ => False
  | n + 1 => fun l2_7 M => fX2_writer_L16s (fX2_writer_L16 K34_16 K49_16 K144_16 l1_6 Q E n) K34_16 K49_16 K144_16 l1_6 l2_7 M Q E
theorem wX2_writer_L16s {kf : Nat} {G : gG} {w : gM → Nat → List (Nat × Value) → List Value → Prop} {Q : Nat → gM → Prop} {E : Nat → gM → Prop} (hw : gX yX2_writer cX2_writer 4 (Option.some (FieldType.object "RiverWage$Writer")) [] kf G (gQr G Q) (gEx "RiverWage$Wrong" E) w) (hkf : 51 ≤ kf) {R16 : Int32 → gM → Prop} {K34_16 : gM → Prop} {K49_16 : gM → Prop} {K144_16 : gM → Prop} {l1_6 : Nat} {l2_7 : Int32} {M : gM} (hR16 : ∀ (v0 : Int32) (M : gM), R16 v0 M → w M 16 [(0, .ref (gA G 25)), (1, .ref (gA G l1_6)), (2, .int v0)] []) (hK34_16 : ∀  (M : gM), K34_16 M → w M 34 [(0, .ref (gA G 25))] []) (hK49_16 : ∀  (M : gM), K49_16 M → w M 49 [(0, .ref (gA G 25))] []) (hK144_16 : ∀  (M : gM), K144_16 M → w M 144 [(1, .ref (gA G l1_6))] []) (h : fX2_writer_L16s R16 K34_16 K49_16 K144_16 l1_6 l2_7 M Q E) : w M 16 [(0, .ref (gA G 25)), (1, .ref (gA G l1_6)), (2, .int l2_7)] [] := by
  unfold fX2_writer_L16s at h
  refine g_aload_n hw 0 dX2_writer_16 rfl ?_
  obtain ⟨hk8, h⟩ := h
  refine gfX2_31 hw rfl dX2_writer_17 hk8 ?_
  refine g_if_eq (tgt := 144) hw dX2_writer_20 (by decide) (fun hb9 => ?_) (fun hb9 => ?_)
  · have h := gT h hb9
    refine g_sub hw (lv2 := [(1, .ref (gA G l1_6))]) [1] rfl ?_
    exact hK144_16 M h
  · have h := gF h hb9
    refine g_aload_n hw 0 dX2_writer_23 rfl ?_
    refine g_ldcS hw 7 dX2_writer_24 q889 rfl ?_
    refine sX2_71 hw rfl dX2_writer_26 rfl (gK2 hkf) hk8 h (fun r11 M10 h => ?_)
    refine g_istore_n hw (lv2 := [(0, .ref (gA G 25)), (1, .ref (gA G l1_6)), (2, .int l2_7), (3, .int r11)]) [1, 2, 3, 0] dX2_writer_29 rfl rfl ?_
    refine g_iload_n hw 3 dX2_writer_30 rfl ?_
    refine g_if_ge (tgt := 40) hw dX2_writer_31 (by decide) (fun hb12 => ?_) (fun hb12 => ?_)
    · have h := gT h hb12
      refine g_iload_n hw 2 dX2_writer_40 rfl ?_
      refine g_iload_n hw 3 dX2_writer_41 rfl ?_
      refine g_ishr hw dX2_writer_42 ?_
      refine g_iconst (v := 1) hw dX2_writer_43 (by decide) ?_
      refine g_iand hw dX2_writer_44 ?_
      refine g_iconst (v := 1) hw dX2_writer_45 (by decide) ?_
      refine g_icmp_ne (tgt := 55) hw dX2_writer_46 (by decide) (fun hb13 => ?_) (fun hb13 => ?_)
      · have h := gF h hb13
        refine g_iload_n hw 2 dX2_writer_55 rfl ?_
        refine g_iconst (v := 1) hw dX2_writer_56 (by decide) ?_
        refine g_iload_n hw 3 dX2_writer_57 rfl ?_
        refine g_ishl hw dX2_writer_58 ?_
        refine g_ior hw dX2_writer_59 ?_
        refine g_istore_n hw (lv2 := [(0, .ref (gA G 25)), (1, .ref (gA G l1_6)), (2, .int (l2_7 ||| (1 <<< (r11 &&& 31)))), (3, .int r11)]) [1, 2, 0, 3] dX2_writer_60 rfl rfl ?_
        refine g_aload_n hw 0 dX2_writer_61 rfl ?_
        obtain ⟨hk14, h⟩ := h
        refine sX2_25 hw rfl dX2_writer_62 rfl (gK2 hkf) hk14 h (fun M15 h => ?_)
        refine g_iload_n hw 3 dX2_writer_65 rfl ?_
        refine g_if_ne (tgt := 86) hw dX2_writer_66 (by decide) (fun hb17 => ?_) (fun hb17 => ?_)
        · have h := gF h hb17
          refine g_iload_n hw 3 dX2_writer_86 rfl ?_
          refine g_iconst (v := 1) hw dX2_writer_87 (by decide) ?_
          refine g_icmp_ne (tgt := 105) hw dX2_writer_88 (by decide) (fun hb18 => ?_) (fun hb18 => ?_)
          · have h := gF h hb18
            refine g_iload_n hw 3 dX2_writer_105 rfl ?_
            refine g_iconst (v := 2) hw dX2_writer_106 (by decide) ?_
            refine g_icmp_ne (tgt := 124) hw dX2_writer_107 (by decide) (fun hb19 => ?_) (fun hb19 => ?_)
            · have h := gF h hb19
              refine g_aload_n hw 1 dX2_writer_124 rfl ?_
              refine g_aload_n hw 0 dX2_writer_125 rfl ?_
              refine g_iconst (v := 0) hw dX2_writer_126 (by decide) ?_
              refine g_bipush (v := 10) hw dX2_writer_127 (by decide) ?_
              obtain ⟨hk20, h⟩ := h
              refine sX2_122 hw rfl dX2_writer_129 rfl (gK2 hkf) hk20 h (fun r22 M21 h => ?_)
              obtain ⟨hk23, h⟩ := h
              refine pfX2_127 hw rfl dX2_writer_132 hk23 ?_
              refine g_sub hw (lv2 := [(0, .ref (gA G 25)), (1, .ref (gA G l1_6)), (2, .int (l2_7 ||| (1 <<< (r11 &&& 31))))]) [0, 1, 2] rfl ?_
              exact wX2_writer_b135 hw hkf hR16 h
            · have h := gT h hb19
              refine g_aload_n hw 1 dX2_writer_110 rfl ?_
              refine g_aload_n hw 0 dX2_writer_111 rfl ?_
              refine g_iconst (v := 0) hw dX2_writer_112 (by decide) ?_
              refine g_bipush (v := 11) hw dX2_writer_113 (by decide) ?_
              obtain ⟨hk28, h⟩ := h
              refine sX2_122 hw rfl dX2_writer_115 rfl (gK2 hkf) hk28 h (fun r30 M29 h => ?_)
              obtain ⟨hk31, h⟩ := h
              refine pfX2_126 hw rfl dX2_writer_118 hk31 ?_
              refine g_goto (tgt := 135) hw dX2_writer_121 (by decide) ?_
              refine g_sub hw (lv2 := [(0, .ref (gA G 25)), (1, .ref (gA G l1_6)), (2, .int (l2_7 ||| (1 <<< (r11 &&& 31))))]) [0, 1, 2] rfl ?_
              exact wX2_writer_b135 hw hkf hR16 h
          · have h := gT h hb18
            refine g_aload_n hw 1 dX2_writer_91 rfl ?_
            refine g_aload_n hw 0 dX2_writer_92 rfl ?_
            refine g_iconst (v := 0) hw dX2_writer_93 (by decide) ?_
            refine g_bipush (v := 11) hw dX2_writer_94 (by decide) ?_
            obtain ⟨hk32, h⟩ := h
            refine sX2_122 hw rfl dX2_writer_96 rfl (gK2 hkf) hk32 h (fun r34 M33 h => ?_)
            obtain ⟨hk35, h⟩ := h
            refine pfX2_125 hw rfl dX2_writer_99 hk35 ?_
            refine g_goto (tgt := 135) hw dX2_writer_102 (by decide) ?_
            refine g_sub hw (lv2 := [(0, .ref (gA G 25)), (1, .ref (gA G l1_6)), (2, .int (l2_7 ||| (1 <<< (r11 &&& 31))))]) [0, 1, 2] rfl ?_
            exact wX2_writer_b135 hw hkf hR16 h
        · have h := gT h hb17
          refine g_aload_n hw 0 dX2_writer_69 rfl ?_
          refine g_ldcS hw 3 dX2_writer_70 q710 rfl ?_
          obtain ⟨hk36, h⟩ := h
          refine sX2_100 hw rfl dX2_writer_72 rfl (gK2 hkf) hk36 h (fun M37 h => ?_)
          refine g_aload_n hw 1 dX2_writer_75 rfl ?_
          refine g_aload_n hw 0 dX2_writer_76 rfl ?_
          obtain ⟨hk39, h⟩ := h
          obtain ⟨n9, hn9, h⟩ := h
          refine sX2_104 hw rfl dX2_writer_77 rfl (gK2 hkf) hn9 hk39 h (fun r41 M40 h => ?_)
          obtain ⟨hk42, h⟩ := h
          refine pfX2_118 (q := some r41) hw rfl dX2_writer_80 hk42 ?_
          refine g_goto (tgt := 135) hw dX2_writer_83 (by decide) ?_
          refine g_sub hw (lv2 := [(0, .ref (gA G 25)), (1, .ref (gA G l1_6)), (2, .int (l2_7 ||| (1 <<< (r11 &&& 31))))]) [0, 1, 2] rfl ?_
          exact wX2_writer_b135 hw hkf hR16 h
      · have h := gT h hb13
        refine g_sub hw (lv2 := [(0, .ref (gA G 25))]) [0] rfl ?_
        exact hK49_16 M10 h
    · have h := gF h hb12
      refine g_sub hw (lv2 := [(0, .ref (gA G 25))]) [0] rfl ?_
      exact hK34_16 M10 h
theorem wX2_writer_L16 {kf : Nat} {G : gG} {w : gM → Nat → List (Nat × Value) → List Value → Prop} {Q : Nat → gM → Prop} {E : Nat → gM → Prop} (hw : gX yX2_writer cX2_writer 4 (Option.some (FieldType.object "RiverWage$Writer")) [] kf G (gQr G Q) (gEx "RiverWage$Wrong" E) w) (hkf : 51 ≤ kf) {K34_16 : gM → Prop} {K49_16 : gM → Prop} {K144_16 : gM → Prop} {l1_6 : Nat} (hK34_16 : ∀  (M : gM), K34_16 M → w M 34 [(0, .ref (gA G 25))] []) (hK49_16 : ∀  (M : gM), K49_16 M → w M 49 [(0, .ref (gA G 25))] []) (hK144_16 : ∀  (M : gM), K144_16 M → w M 144 [(1, .ref (gA G l1_6))] []) : ∀ (n : Nat) (l2_7 : Int32) (M : gM), fX2_writer_L16 K34_16 K49_16 K144_16 l1_6 Q E n l2_7 M → w M 16 [(0, .ref (gA G 25)), (1, .ref (gA G l1_6)), (2, .int l2_7)] [] := by
  intro n
  induction n with
  | zero => intro l2_7 M h; exact h.elim
  | succ n ih => intro l2_7 M h; exact wX2_writer_L16s hw hkf ih hK34_16 hK49_16 hK144_16 h
def fX2_writer  (M : gM) (Q : Nat → gM → Prop) (E : Nat → gM → Prop) : Prop :=
  gn M < gLC ∧ gs M + 4 ≤ gLS ∧ fX6_init (gn M) (gnew M 6 0 4) (fun M3 => gk M3 25 = 2 ∧ ∃ n, fX2_writer_L16 (fun M43 => gk M43 25 = 2 ∧ fX2_wrong 1 M43 (fun r46 M45 => gk M45 r46 = 8 ∧ E r46 M45)) (fun M48 => gk M48 25 = 2 ∧ fX2_wrong 3 M48 (fun r51 M50 => gk M50 r51 = 8 ∧ E r51 M50)) (fun M53 => Q (gn M) M53) (gn M) Q E n 0 (gsR M3 25 7 (some 6)))
theorem mX2_writer {kf : Nat} (hkf : 51 ≤ kf) (G : gG)  (M : gM) (Q : Nat → gM → Prop) (E : Nat → gM → Prop) (h : fX2_writer M Q E) : gMet yX2_writer cX2_writer 4 (Option.some (FieldType.object "RiverWage$Writer")) kf G M [.ref (gA G 25)] (gQr G Q) (gEx "RiverWage$Wrong" E) := by
  refine g_intro (lv := [(0, .ref (gA G 25))]) (by decide) rfl rfl (fun w hw => ?_)
  unfold fX2_writer at h
  obtain ⟨hc1, h⟩ := h
  obtain ⟨hc2, h⟩ := h
  refine g_new (C := RX6) (T := TX6) (N := 4) (ci := 5) hw in_X6 tyX6 tyX6_ok rfl rfl (by decide) dX2_writer_0 q886 q248 q103 hc1 hc2 ?_
  refine g_dup hw dX2_writer_3 rfl ?_
  refine sX2_113 hw rfl dX2_writer_4 rfl (gK2 hkf) h (fun M3 h => ?_)
  refine g_astore_n hw (lv2 := [(0, .ref (gA G 25)), (1, .ref (gA G (gn M)))]) [1, 0] dX2_writer_7 rfl rfl ?_
  refine g_iconst (v := 0) hw dX2_writer_8 (by decide) ?_
  refine g_istore_n hw (lv2 := [(0, .ref (gA G 25)), (1, .ref (gA G (gn M))), (2, .int 0)]) [1, 2, 0] dX2_writer_9 rfl rfl ?_
  refine g_aload_n hw 0 dX2_writer_10 rfl ?_
  refine g_ldcS hw 6 dX2_writer_11 q888 rfl ?_
  obtain ⟨hk5, h⟩ := h
  refine pfX2_88 (q := some 6) hw rfl dX2_writer_13 hk5 ?_
  obtain ⟨n9, h⟩ := h
  refine wX2_writer_L16 hw hkf (fun M43 h => ?_) (fun M48 h => ?_) (fun M53 h => ?_) n9 0 (gsR M3 25 7 (some 6)) h
  · refine g_aload_n hw 0 dX2_writer_34 rfl ?_
    refine g_iconst (v := 1) hw dX2_writer_35 (by decide) ?_
    obtain ⟨hk44, h⟩ := h
    refine sX2_75 hw rfl dX2_writer_36 rfl (gK2 hkf) hk44 h (fun r46 M45 h => ?_)
    obtain ⟨hk47, h⟩ := h
    exact g_athrow (ci := 7) hw rfl dX2_writer_39 hk47 ⟨rfl, h⟩
  · refine g_aload_n hw 0 dX2_writer_49 rfl ?_
    refine g_iconst (v := 3) hw dX2_writer_50 (by decide) ?_
    obtain ⟨hk49, h⟩ := h
    refine sX2_75 hw rfl dX2_writer_51 rfl (gK2 hkf) hk49 h (fun r51 M50 h => ?_)
    obtain ⟨hk52, h⟩ := h
    exact g_athrow (ci := 7) hw rfl dX2_writer_54 hk52 ⟨rfl, h⟩
  · refine g_aload_n hw 0 dX2_writer_144 rfl ?_
    exact g_aret hw dX2_writer_145 ⟨_, rfl, h⟩
