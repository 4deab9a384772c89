set_option maxRecDepth 100000
theorem gfX7_1 {y0 : MethodName} {cc : ByteArray} {nL : Nat} {ret : Option FieldType} {hh : List (Nat × Nat × Nat × Nat)} {kf : Nat} {G : gG} {Qv : Option Value → gM → Prop} {E : String → Nat → gM → Prop} {w : gM → Nat → List (Nat × Value) → List Value → Prop} {M : gM} {pc : Nat} {lv : List (Nat × Value)} {rest : List Value} (hw : gX y0 cc nL ret hh kf G Qv E w) (hy : y0.cls = RX7) {c : Nat} (d : decode cc pc = .ok (.getfield 1, 3)) (hk : gk M c = 7) (kk : w M (pc + 3) lv (.int (gI M c 0) :: rest)) : w M pc lv (.ref (gA G c) :: rest) := by
  obtain ⟨cls9, nm9, ds9⟩ := y0
  subst hy
  exact g_getC (C := RX7) (T := TX7) (N := 58) (ci := 6) hw in_X7 rfl 0 (by decide) (Or.inl q1156) rfl d hk kk
def fX7_thrown  (M : gM) (Q : Int32 → gM → Prop) : Prop :=
  gk M 268 = 7 ∧ Q (gI M 268 0) M
theorem mX7_thrown {kf : Nat} (hkf : 1 ≤ kf) (G : gG)  (M : gM) (Q : Int32 → gM → Prop) (h : fX7_thrown M Q) : gMet yX7_thrown cX7_thrown 1 (Option.some FieldType.int) kf G M [.ref (gA G 268)] (gQi Q) gE0 := by
  refine g_intro (lv := [(0, .ref (gA G 268))]) (by decide) rfl rfl (fun w hw => ?_)
  unfold fX7_thrown at h
  refine g_aload_n hw 0 dX7_thrown_0 rfl ?_
  obtain ⟨hk1, h⟩ := h
  refine gfX7_1 hw rfl dX7_thrown_1 hk1 ?_
  exact g_iret hw dX7_thrown_4 rfl ⟨_, rfl, h⟩
theorem gfX7_11 {y0 : MethodName} {cc : ByteArray} {nL : Nat} {ret : Option FieldType} {hh : List (Nat × Nat × Nat × Nat)} {kf : Nat} {G : gG} {Qv : Option Value → gM → Prop} {E : String → Nat → gM → Prop} {w : gM → Nat → List (Nat × Value) → List Value → Prop} {M : gM} {pc : Nat} {lv : List (Nat × Value)} {rest : List Value} (hw : gX y0 cc nL ret hh kf G Qv E w) (hy : y0.cls = RX7) {c : Nat} (d : decode cc pc = .ok (.getfield 11, 3)) (hk : gk M c = 7) (kk : w M (pc + 3) lv (.int (gI M c 2) :: rest)) : w M pc lv (.ref (gA G c) :: rest) := by
  obtain ⟨cls9, nm9, ds9⟩ := y0
  subst hy
  exact g_getC (C := RX7) (T := TX7) (N := 58) (ci := 6) hw in_X7 rfl 2 (by decide) (Or.inl q1158) rfl d hk kk
theorem gfX7_14 {y0 : MethodName} {cc : ByteArray} {nL : Nat} {ret : Option FieldType} {hh : List (Nat × Nat × Nat × Nat)} {kf : Nat} {G : gG} {Qv : Option Value → gM → Prop} {E : String → Nat → gM → Prop} {w : gM → Nat → List (Nat × Value) → List Value → Prop} {M : gM} {pc : Nat} {lv : List (Nat × Value)} {rest : List Value} (hw : gX y0 cc nL ret hh kf G Qv E w) (hy : y0.cls = RX7) {c : Nat} {q : Option Nat} (d : decode cc pc = .ok (.getfield 14, 3)) (hk : gk M c = 7) (hq : gR M c 1 = q) (kk : w M (pc + 3) lv (va_rf (q.map (gA G)) :: rest)) : w M pc lv (.ref (gA G c) :: rest) := by
  obtain ⟨cls9, nm9, ds9⟩ := y0
  subst hy
  subst hq
  exact g_getC (C := RX7) (T := TX7) (N := 58) (ci := 6) hw in_X7 rfl 1 (by decide) (Or.inl q1157) rfl d hk kk
theorem pfX7_11 {y0 : MethodName} {cc : ByteArray} {nL : Nat} {ret : Option FieldType} {hh : List (Nat × Nat × Nat × Nat)} {kf : Nat} {G : gG} {Qv : Option Value → gM → Prop} {E : String → Nat → gM → Prop} {w : gM → Nat → List (Nat × Value) → List Value → Prop} {M : gM} {pc : Nat} {lv : List (Nat × Value)} {rest : List Value} (hw : gX y0 cc nL ret hh kf G Qv E w) (hy : y0.cls = RX7) {c : Nat} {x : Int32} (d : decode cc pc = .ok (.putfield 11, 3)) (hk : gk M c = 7) (kk : w (gsI M c 2 x) (pc + 3) lv rest) : w M pc lv (.int x :: .ref (gA G c) :: rest) := by
  obtain ⟨cls9, nm9, ds9⟩ := y0
  subst hy
  exact g_putC (C := RX7) (T := TX7) (N := 58) (ci := 6) hw in_X7 tyX7 tyX7_ok nmX7 rfl 2 (by decide) (Or.inl ⟨q1158, Or.inl rfl⟩) rfl rfl (gOne_I M c 2 x) (by show Value.int (gI (gsI M c 2 x) c 2) = _; rw [gI_sI, if_pos ⟨rfl, rfl⟩]) d hk kk
def fX7_lay_b69 (R3 : Int32 → gM → Prop) (l1_1 : Int64) (l3_9 : Int32) (M : gM) (Q : gM → Prop) : Prop :=
  R3 (l3_9 + (-8)) M
theorem wX7_lay_b69 {kf : Nat} {G : gG} {w : gM → Nat → List (Nat × Value) → List Value → Prop} {Q : gM → Prop} (hw : gX yX7_lay cX7_lay 5 (Option.none : Option FieldType) [] kf G (gQv Q) gE0 w) (hkf : 1 ≤ kf) {R3 : Int32 → gM → Prop} {l1_1 : Int64} {l3_9 : Int32} {M : gM} (hR3 : ∀ (v0 : Int32) (M : gM), R3 v0 M → w M 3 [(0, .ref (gA G 268)), (1, .long l1_1), (3, .int v0)] []) (h : fX7_lay_b69 R3 l1_1 l3_9 M Q) : w M 69 [(0, .ref (gA G 268)), (1, .long l1_1), (3, .int l3_9)] [] := by
  unfold fX7_lay_b69 at h
  refine g_iinc hw (lv2 := [(0, .ref (gA G 268)), (1, .long l1_1), (3, .int (l3_9 + (-8)))]) 2 [1, 2, 0] dX7_lay_69 rfl (by decide) rfl rfl ?_
  refine g_goto (tgt := 3) hw dX7_lay_72 (by decide) ?_
  exact hR3 (l3_9 + (-8)) M h
def fX7_lay_b38 (R3 : Int32 → gM → Prop) (l1_1 : Int64) (l3_5 : Int32) (l4_6 : Int32) (M : gM) (Q : gM → Prop) : Prop :=
  gk M 268 = 7 ∧ (if 1000 ≤ (gI M 268 2) then fX7_lay_b69 R3 l1_1 l3_5 M Q else gdr (gR M 268 1) (fun a10 => gk M a10 = 40 ∧ vp_in (gI M 268 2) (gl M a10) ∧ fX7_lay_b69 R3 l1_1 l3_5 (gsI (gsI M a10 ((gI M 268 2).toNatClampNeg) l4_6) 268 2 ((gI (gsI M a10 ((gI M 268 2).toNatClampNeg) l4_6) 268 2) + 1)) Q))
theorem wX7_lay_b38 {kf : Nat} {G : gG} {w : gM → Nat → List (Nat × Value) → List Value → Prop} {Q : gM → Prop} (hw : gX yX7_lay cX7_lay 5 (Option.none : Option FieldType) [] kf G (gQv Q) gE0 w) (hkf : 1 ≤ kf) {R3 : Int32 → gM → Prop} {l1_1 : Int64} {l3_5 : Int32} {l4_6 : Int32} {M : gM} (hR3 : ∀ (v0 : Int32) (M : gM), R3 v0 M → w M 3 [(0, .ref (gA G 268)), (1, .long l1_1), (3, .int v0)] []) (h : fX7_lay_b38 R3 l1_1 l3_5 l4_6 M Q) : w M 38 [(0, .ref (gA G 268)), (1, .long l1_1), (3, .int l3_5), (4, .int l4_6)] [] := by
  unfold fX7_lay_b38 at h
  refine g_aload_n hw 0 dX7_lay_38 rfl ?_
  obtain ⟨hk7, h⟩ := h
  refine gfX7_11 hw rfl dX7_lay_39 hk7 ?_
  refine g_sipush (v := 1000) hw dX7_lay_42 (by decide) ?_
  refine g_icmp_ge (tgt := 69) hw dX7_lay_45 (by decide) (fun hb8 => ?_) (fun hb8 => ?_)
  · have h := gT h hb8
    refine g_sub hw (lv2 := [(0, .ref (gA G 268)), (1, .long l1_1), (3, .int l3_5)]) [0, 1, 2] rfl ?_
    exact wX7_lay_b69 hw hkf hR3 h
  · have h := gF h hb8
    refine g_aload_n hw 0 dX7_lay_48 rfl ?_
    obtain ⟨a10, e11, h⟩ := h
    refine gfX7_14 (q := some a10) hw rfl dX7_lay_49 hk7 e11 ?_
    refine g_aload_n hw 0 dX7_lay_52 rfl ?_
    refine gfX7_11 hw rfl dX7_lay_53 hk7 ?_
    refine g_iload hw 3 dX7_lay_56 rfl ?_
    obtain ⟨hk12, h⟩ := h
    obtain ⟨hi13, h⟩ := h
    refine g_iast (n := (gI M 268 2).toNatClampNeg) hw dX7_lay_58 hk12 hi13 rfl ?_
    refine g_aload_n hw 0 dX7_lay_59 rfl ?_
    refine g_dup hw dX7_lay_60 rfl ?_
    refine gfX7_11 hw rfl dX7_lay_61 hk7 ?_
    refine g_iconst (v := 1) hw dX7_lay_64 (by decide) ?_
    refine g_iadd hw dX7_lay_65 ?_
    refine pfX7_11 hw rfl dX7_lay_66 hk7 ?_
    refine g_sub hw (lv2 := [(0, .ref (gA G 268)), (1, .long l1_1), (3, .int l3_5)]) [0, 1, 2] rfl ?_
    exact wX7_lay_b69 hw hkf hR3 h
def fX7_lay_L3s (R3 : Int32 → gM → Prop) (K75_3 : gM → Prop) (l1_1 : Int64) (l3_2 : Int32) (M : gM) (Q : gM → Prop) : Prop :=
  (if l3_2 < 0 then K75_3 M else (if (((l1_1 >>> (l3_2.toInt64 &&& 63)).toInt32) &&& 255) = 10 then fX7_lay_b38 R3 l1_1 l3_2 (((l1_1 >>> (l3_2.toInt64 &&& 63)).toInt32) &&& 255) M Q else (if (((l1_1 >>> (l3_2.toInt64 &&& 63)).toInt32) &&& 255) < 32 then fX7_lay_b69 R3 l1_1 l3_2 M Q else (if 126 < (((l1_1 >>> (l3_2.toInt64 &&& 63)).toInt32) &&& 255) then fX7_lay_b69 R3 l1_1 l3_2 M Q else fX7_lay_b38 R3 l1_1 l3_2 (((l1_1 >>> (l3_2.toInt64 &&& 63)).toInt32) &&& 255) M Q))))
def fX7_lay_L3 (K75_3 : gM → Prop) (l1_1 : Int64) (Q : gM → Prop) : Nat → Int32 → gM → Prop
  | 0 => fun _ _ => False
  | n + 1 => fun l3_2 M => fX7_lay_L3s (fX7_lay_L3 K75_3 l1_1 Q n) K75_3 l1_1 l3_2 M Q
theorem wX7_lay_L3s {kf : Nat} {G : gG} {w : gM → Nat → List (Nat × Value) → List Value → Prop} {Q : gM → Prop} (hw : gX yX7_lay cX7_lay 5 (Option.none : Option FieldType) [] kf G (gQv Q) gE0 w) (hkf : 1 ≤ kf) {R3 : Int32 → gM → Prop} {K75_3 : gM → Prop} {l1_1 : Int64} {l3_2 : Int32} {M : gM} (hR3 : ∀ (v0 : Int32) (M : gM), R3 v0 M → w M 3 [(0, .ref (gA G 268)), (1, .long l1_1), (3, .int v0)] []) (hK75_3 : ∀  (M : gM), K75_3 M → w M 75 [] []) (h : fX7_lay_L3s R3 K75_3 l1_1 l3_2 M Q) : w M 3 [(0, .ref (gA G 268)), (1, .long l1_1), (3, .int l3_2)] [] := by
  unfold fX7_lay_L3s at h
  refine g_iload_n hw 2 dX7_lay_3 rfl ?_
  refine g_if_lt (tgt := 75) hw dX7_lay_4 (by decide) (fun hb3 => ?_) (fun hb3 => ?_)
  · have h := gT h hb3
    refine g_sub hw (lv2 := []) [] rfl ?_
    exact hK75_3 M h
  · have h := gF h hb3
    refine g_lload_n hw 1 dX7_lay_7 rfl ?_
    refine g_iload_n hw 2 dX7_lay_8 rfl ?_
    refine g_lshr hw dX7_lay_9 ?_
    refine g_l2i hw dX7_lay_10 ?_
    refine g_sipush (v := 255) hw dX7_lay_11 (by decide) ?_
    refine g_iand hw dX7_lay_14 ?_
    refine g_istore hw (lv2 := [(0, .ref (gA G 268)), (1, .long l1_1), (3, .int l3_2), (4, .int (((l1_1 >>> (l3_2.toInt64 &&& 63)).toInt32) &&& 255))]) [1, 2, 3, 0] dX7_lay_15 rfl rfl ?_
    refine g_iload hw 3 dX7_lay_17 rfl ?_
    refine g_bipush (v := 10) hw dX7_lay_19 (by decide) ?_
    refine g_icmp_eq (tgt := 38) hw dX7_lay_21 (by decide) (fun hb4 => ?_) (fun hb4 => ?_)
    · have h := gT h hb4
      exact wX7_lay_b38 hw hkf hR3 h
    · have h := gF h hb4
      refine g_iload hw 3 dX7_lay_24 rfl ?_
      refine g_bipush (v := 32) hw dX7_lay_26 (by decide) ?_
      refine g_icmp_lt (tgt := 69) hw dX7_lay_28 (by decide) (fun hb14 => ?_) (fun hb14 => ?_)
      · have h := gT h hb14
        refine g_sub hw (lv2 := [(0, .ref (gA G 268)), (1, .long l1_1), (3, .int l3_2)]) [0, 1, 2] rfl ?_
        exact wX7_lay_b69 hw hkf hR3 h
      · have h := gF h hb14
        refine g_iload hw 3 dX7_lay_31 rfl ?_
        refine g_bipush (v := 126) hw dX7_lay_33 (by decide) ?_
        refine g_icmp_gt (tgt := 69) hw dX7_lay_35 (by decide) (fun hb15 => ?_) (fun hb15 => ?_)
        · have h := gT h hb15
          refine g_sub hw (lv2 := [(0, .ref (gA G 268)), (1, .long l1_1), (3, .int l3_2)]) [0, 1, 2] rfl ?_
          exact wX7_lay_b69 hw hkf hR3 h
        · have h := gF h hb15
          exact wX7_lay_b38 hw hkf hR3 h
theorem wX7_lay_L3 {kf : Nat} {G : gG} {w : gM → Nat → List (Nat × Value) → List Value → Prop} {Q : gM → Prop} (hw : gX yX7_lay cX7_lay 5 (Option.none : Option FieldType) [] kf G (gQv Q) gE0 w) (hkf : 1 ≤ kf) {K75_3 : gM → Prop} {l1_1 : Int64} (hK75_3 : ∀  (M : gM), K75_3 M → w M 75 [] []) : ∀ (n : Nat) (l3_2 : Int32) (M : gM), fX7_lay_L3 K75_3 l1_1 Q n l3_2 M → w M 3 [(0, .ref (gA G 268)), (1, .long l1_1), (3, .int l3_2)] [] := by
  intro n
  induction n with
  | zero => intro l3_2 M h; exact h.elim
  | succ n ih => intro l3_2 M h; exact wX7_lay_L3s hw hkf ih hK75_3 h
def fX7_lay (p1 : Int64) (M : gM) (Q : gM → Prop) : Prop :=
  ∃ n, fX7_lay_L3 (fun M16 => Q M16) p1 Q n 56 M
theorem mX7_lay {kf : Nat} (hkf : 1 ≤ kf) (G : gG) (p1 : Int64) (M : gM) (Q : gM → Prop) (h : fX7_lay p1 M Q) : gMet yX7_lay cX7_lay 5 (Option.none : Option FieldType) kf G M [.ref (gA G 268), .long p1] (gQv Q) gE0 := by
  refine g_intro (lv := [(0, .ref (gA G 268)), (1, .long p1)]) (by decide) rfl rfl (fun w hw => ?_)
  unfold fX7_lay at h
  refine g_bipush (v := 56) hw dX7_lay_0 (by decide) ?_
  refine g_istore_n hw (lv2 := [(0, .ref (gA G 268)), (1, .long p1), (3, .int 56)]) [1, 2, 0] dX7_lay_2 rfl rfl ?_
  obtain ⟨n9, h⟩ := h
  refine wX7_lay_L3 hw hkf (fun M16 h => ?_) n9 56 M h
  exact g_vret hw dX7_lay_75 ⟨rfl, h⟩
theorem pfX7_1 {y0 : MethodName} {cc : ByteArray} {nL : Nat} {ret : Option FieldType} {hh : List (Nat × Nat × Nat × Nat)} {kf : Nat} {G : gG} {Qv : Option Value → gM → Prop} {E : String → Nat → gM → Prop} {w : gM → Nat → List (Nat × Value) → List Value → Prop} {M : gM} {pc : Nat} {lv : List (Nat × Value)} {rest : List Value} (hw : gX y0 cc nL ret hh kf G Qv E w) (hy : y0.cls = RX7) {c : Nat} {x : Int32} (d : decode cc pc = .ok (.putfield 1, 3)) (hk : gk M c = 7) (kk : w (gsI M c 0 x) (pc + 3) lv rest) : w M pc lv (.int x :: .ref (gA G c) :: rest) := by
  obtain ⟨cls9, nm9, ds9⟩ := y0
  subst hy
  exact g_putC (C := RX7) (T := TX7) (N := 58) (ci := 6) hw in_X7 tyX7 tyX7_ok nmX7 rfl 0 (by decide) (Or.inl ⟨q1156, Or.inl rfl⟩) rfl rfl (gOne_I M c 0 x) (by show Value.int (gI (gsI M c 0 x) c 0) = _; rw [gI_sI, if_pos ⟨rfl, rfl⟩]) d hk kk
theorem sX7_7 {y0 : MethodName} {cc : ByteArray} {nL : Nat} {ret : Option FieldType} {hh : List (Nat × Nat × Nat × Nat)} {kf : Nat} {G : gG} {Qv : Option Value → gM → Prop} {E : String → Nat → gM → Prop} {w : gM → Nat → List (Nat × Value) → List Value → Prop} {M : gM} {pc : Nat} {lv : List (Nat × Value)} {rest : List Value} (hw : gX y0 cc nL ret hh kf G Qv E w) (hy : y0.cls = RX7) {p1 : Int64} {Q : gM → Prop} (d : decode cc pc = .ok (.invokevirtual 7, 3)) (hrest : Nat.ble ((rest.map Value.category).sum) 8 = true) (hk : 1 + 1 ≤ kf) (hkd : gk M 268 = 7) (h : fX7_lay p1 M Q) (kk : ∀ M1, Q M1 → w M1 (pc + 3) lv rest) : w M pc lv (.long p1 :: .ref (gA G 268) :: rest) := by
  obtain ⟨cls9, nm9, ds9⟩ := y0
  subst hy
  exact g_callV (r := (RX7, TX7, 58)) (ci := 6) hw [.long p1] (nA := 1) rfl d q1118 q1120 qs43 q104 q1122 (by decide +kernel) rfl rfl hrest rfl (by omega : kf - 1 + 1 ≤ kf) hkd (mX7_lay (kf := kf - 1) (by omega) G p1 M Q h) (fun _ _ _ q => q.elim) (fun v M1 h => by obtain ⟨rfl, h⟩ := h; exact kk M1 h)
def fX7_feed (p1 : Int64) (p2 : Int64) (p3 : Int64) (M : gM) (Q : Int32 → gM → Prop) : Prop :=
  gk M 268 = 7 ∧ fX7_lay p1 (gsI M 268 0 0) (fun M2 => gk M2 268 = 7 ∧ fX7_lay p2 M2 (fun M5 => gk M5 268 = 7 ∧ fX7_lay p3 M5 (fun M8 => gk M8 268 = 7 ∧ Q (gI M8 268 2) M8)))
theorem mX7_feed {kf : Nat} (hkf : 2 ≤ kf) (G : gG) (p1 : Int64) (p2 : Int64) (p3 : Int64) (M : gM) (Q : Int32 → gM → Prop) (h : fX7_feed p1 p2 p3 M Q) : gMet yX7_feed cX7_feed 7 (Option.some FieldType.int) kf G M [.ref (gA G 268), .long p1, .long p2, .long p3] (gQi Q) gE0 := by
  refine g_intro (lv := [(0, .ref (gA G 268)), (1, .long p1), (3, .long p2), (5, .long p3)]) (by decide) rfl rfl (fun w hw => ?_)
  unfold fX7_feed at h
  refine g_aload_n hw 0 dX7_feed_0 rfl ?_
  refine g_iconst (v := 0) hw dX7_feed_1 (by decide) ?_
  obtain ⟨hk1, h⟩ := h
  refine pfX7_1 hw rfl dX7_feed_2 hk1 ?_
  refine g_aload_n hw 0 dX7_feed_5 rfl ?_
  refine g_lload_n hw 1 dX7_feed_6 rfl ?_
  refine sX7_7 hw rfl dX7_feed_7 rfl (gK2 hkf) hk1 h (fun M2 h => ?_)
  refine g_aload_n hw 0 dX7_feed_10 rfl ?_
  refine g_lload_n hw 2 dX7_feed_11 rfl ?_
  obtain ⟨hk4, h⟩ := h
  refine sX7_7 hw rfl dX7_feed_12 rfl (gK2 hkf) hk4 h (fun M5 h => ?_)
  refine g_aload_n hw 0 dX7_feed_15 rfl ?_
  refine g_lload hw 3 dX7_feed_16 rfl ?_
  obtain ⟨hk7, h⟩ := h
  refine sX7_7 hw rfl dX7_feed_18 rfl (gK2 hkf) hk7 h (fun M8 h => ?_)
  refine g_aload_n hw 0 dX7_feed_21 rfl ?_
  obtain ⟨hk10, h⟩ := h
  refine gfX7_11 hw rfl dX7_feed_22 hk10 ?_
  exact g_iret hw dX7_feed_25 rfl ⟨_, rfl, h⟩
theorem pfX7_14 {y0 : MethodName} {cc : ByteArray} {nL : Nat} {ret : Option FieldType} {hh : List (Nat × Nat × Nat × Nat)} {kf : Nat} {G : gG} {Qv : Option Value → gM → Prop} {E : String → Nat → gM → Prop} {w : gM → Nat → List (Nat × Value) → List Value → Prop} {M : gM} {pc : Nat} {lv : List (Nat × Value)} {rest : List Value} (hw : gX y0 cc nL ret hh kf G Qv E w) (hy : y0.cls = RX7) (hyn : y0.name = "<init>") {c : Nat} {q : Option Nat} (d : decode cc pc = .ok (.putfield 14, 3)) (hk : gk M c = 7) (kk : w (gsR M c 1 q) (pc + 3) lv rest) : w M pc lv (va_rf (q.map (gA G)) :: .ref (gA G c) :: rest) := by
  obtain ⟨cls9, nm9, ds9⟩ := y0
  subst hy
  exact g_putC (C := RX7) (T := TX7) (N := 58) (ci := 6) hw in_X7 tyX7 tyX7_ok nmX7 rfl 1 (by decide) (Or.inl ⟨q1157, Or.inr ⟨rfl, hyn, rfl⟩⟩) (by cases q <;> rfl) (by cases q <;> rfl) (gOne_R M c 1 q) (by show va_rf ((gR (gsR M c 1 q) c 1).map (gA G)) = _; rw [gR_sR, if_pos ⟨rfl, rfl⟩]) d hk kk
theorem pfX7_24 {y0 : MethodName} {cc : ByteArray} {nL : Nat} {ret : Option FieldType} {hh : List (Nat × Nat × Nat × Nat)} {kf : Nat} {G : gG} {Qv : Option Value → gM → Prop} {E : String → Nat → gM → Prop} {w : gM → Nat → List (Nat × Value) → List Value → Prop} {M : gM} {pc : Nat} {lv : List (Nat × Value)} {rest : List Value} (hw : gX y0 cc nL ret hh kf G Qv E w) (hy : y0.cls = RX7) (hyn : y0.name = "<init>") {c : Nat} {q : Option Nat} (d : decode cc pc = .ok (.putfield 24, 3)) (hk : gk M c = 7) (kk : w (gsR M c 4 q) (pc + 3) lv rest) : w M pc lv (va_rf (q.map (gA G)) :: .ref (gA G c) :: rest) := by
  obtain ⟨cls9, nm9, ds9⟩ := y0
  subst hy
  exact g_putC (C := RX7) (T := TX7) (N := 58) (ci := 6) hw in_X7 tyX7 tyX7_ok nmX7 rfl 4 (by decide) (Or.inl ⟨q1160, Or.inr ⟨rfl, hyn, rfl⟩⟩) (by cases q <;> rfl) (by cases q <;> rfl) (gOne_R M c 4 q) (by show va_rf ((gR (gsR M c 4 q) c 4).map (gA G)) = _; rw [gR_sR, if_pos ⟨rfl, rfl⟩]) d hk kk
theorem pfX7_27 {y0 : MethodName} {cc : ByteArray} {nL : Nat} {ret : Option FieldType} {hh : List (Nat × Nat × Nat × Nat)} {kf : Nat} {G : gG} {Qv : Option Value → gM → Prop} {E : String → Nat → gM → Prop} {w : gM → Nat → List (Nat × Value) → List Value → Prop} {M : gM} {pc : Nat} {lv : List (Nat × Value)} {rest : List Value} (hw : gX y0 cc nL ret hh kf G Qv E w) (hy : y0.cls = RX7) (hyn : y0.name = "<init>") {c : Nat} {q : Option Nat} (d : decode cc pc = .ok (.putfield 27, 3)) (hk : gk M c = 7) (kk : w (gsR M c 5 q) (pc + 3) lv rest) : w M pc lv (va_rf (q.map (gA G)) :: .ref (gA G c) :: rest) := by
  obtain ⟨cls9, nm9, ds9⟩ := y0
  subst hy
  exact g_putC (C := RX7) (T := TX7) (N := 58) (ci := 6) hw in_X7 tyX7 tyX7_ok nmX7 rfl 5 (by decide) (Or.inl ⟨q1161, Or.inr ⟨rfl, hyn, rfl⟩⟩) (by cases q <;> rfl) (by cases q <;> rfl) (gOne_R M c 5 q) (by show va_rf ((gR (gsR M c 5 q) c 5).map (gA G)) = _; rw [gR_sR, if_pos ⟨rfl, rfl⟩]) d hk kk
theorem pfX7_30 {y0 : MethodName} {cc : ByteArray} {nL : Nat} {ret : Option FieldType} {hh : List (Nat × Nat × Nat × Nat)} {kf : Nat} {G : gG} {Qv : Option Value → gM → Prop} {E : String → Nat → gM → Prop} {w : gM → Nat → List (Nat × Value) → List Value → Prop} {M : gM} {pc : Nat} {lv : List (Nat × Value)} {rest : List Value} (hw : gX y0 cc nL ret hh kf G Qv E w) (hy : y0.cls = RX7) (hyn : y0.name = "<init>") {c : Nat} {q : Option Nat} (d : decode cc pc = .ok (.putfield 30, 3)) (hk : gk M c = 7) (kk : w (gsR M c 6 q) (pc + 3) lv rest) : w M pc lv (va_rf (q.map (gA G)) :: .ref (gA G c) :: rest) := by
  obtain ⟨cls9, nm9, ds9⟩ := y0
  subst hy
  exact g_putC (C := RX7) (T := TX7) (N := 58) (ci := 6) hw in_X7 tyX7 tyX7_ok nmX7 rfl 6 (by decide) (Or.inl ⟨q1162, Or.inr ⟨rfl, hyn, rfl⟩⟩) (by cases q <;> rfl) (by cases q <;> rfl) (gOne_R M c 6 q) (by show va_rf ((gR (gsR M c 6 q) c 6).map (gA G)) = _; rw [gR_sR, if_pos ⟨rfl, rfl⟩]) d hk kk
theorem pfX7_90 {y0 : MethodName} {cc : ByteArray} {nL : Nat} {ret : Option FieldType} {hh : List (Nat × Nat × Nat × Nat)} {kf : Nat} {G : gG} {Qv : Option Value → gM → Prop} {E : String → Nat → gM → Prop} {w : gM → Nat → List (Nat × Value) → List Value → Prop} {M : gM} {pc : Nat} {lv : List (Nat × Value)} {rest : List Value} (hw : gX y0 cc nL ret hh kf G Qv E w) (hy : y0.cls = RX7) (hyn : y0.name = "<init>") {c : Nat} {q : Option Nat} (d : decode cc pc = .ok (.putfield 90, 3)) (hk : gk M c = 7) (kk : w (gsR M c 9 q) (pc + 3) lv rest) : w M pc lv (va_rf (q.map (gA G)) :: .ref (gA G c) :: rest) := by
  obtain ⟨cls9, nm9, ds9⟩ := y0
  subst hy
  exact g_putC (C := RX7) (T := TX7) (N := 58) (ci := 6) hw in_X7 tyX7 tyX7_ok nmX7 rfl 9 (by decide) (Or.inl ⟨q1165, Or.inr ⟨rfl, hyn, rfl⟩⟩) (by cases q <;> rfl) (by cases q <;> rfl) (gOne_R M c 9 q) (by show va_rf ((gR (gsR M c 9 q) c 9).map (gA G)) = _; rw [gR_sR, if_pos ⟨rfl, rfl⟩]) d hk kk
theorem pfX7_93 {y0 : MethodName} {cc : ByteArray} {nL : Nat} {ret : Option FieldType} {hh : List (Nat × Nat × Nat × Nat)} {kf : Nat} {G : gG} {Qv : Option Value → gM → Prop} {E : String → Nat → gM → Prop} {w : gM → Nat → List (Nat × Value) → List Value → Prop} {M : gM} {pc : Nat} {lv : List (Nat × Value)} {rest : List Value} (hw : gX y0 cc nL ret hh kf G Qv E w) (hy : y0.cls = RX7) (hyn : y0.name = "<init>") {c : Nat} {q : Option Nat} (d : decode cc pc = .ok (.putfield 93, 3)) (hk : gk M c = 7) (kk : w (gsR M c 10 q) (pc + 3) lv rest) : w M pc lv (va_rf (q.map (gA G)) :: .ref (gA G c) :: rest) := by
  obtain ⟨cls9, nm9, ds9⟩ := y0
  subst hy
  exact g_putC (C := RX7) (T := TX7) (N := 58) (ci := 6) hw in_X7 tyX7 tyX7_ok nmX7 rfl 10 (by decide) (Or.inl ⟨q1166, Or.inr ⟨rfl, hyn, rfl⟩⟩) (by cases q <;> rfl) (by cases q <;> rfl) (gOne_R M c 10 q) (by show va_rf ((gR (gsR M c 10 q) c 10).map (gA G)) = _; rw [gR_sR, if_pos ⟨rfl, rfl⟩]) d hk kk
theorem pfX7_97 {y0 : MethodName} {cc : ByteArray} {nL : Nat} {ret : Option FieldType} {hh : List (Nat × Nat × Nat × Nat)} {kf : Nat} {G : gG} {Qv : Option Value → gM → Prop} {E : String → Nat → gM → Prop} {w : gM → Nat → List (Nat × Value) → List Value → Prop} {M : gM} {pc : Nat} {lv : List (Nat × Value)} {rest : List Value} (hw : gX y0 cc nL ret hh kf G Qv E w) (hy : y0.cls = RX7) (hyn : y0.name = "<init>") {c : Nat} {q : Option Nat} (d : decode cc pc = .ok (.putfield 97, 3)) (hk : gk M c = 7) (kk : w (gsR M c 11 q) (pc + 3) lv rest) : w M pc lv (va_rf (q.map (gA G)) :: .ref (gA G c) :: rest) := by
  obtain ⟨cls9, nm9, ds9⟩ := y0
  subst hy
  exact g_putC (C := RX7) (T := TX7) (N := 58) (ci := 6) hw in_X7 tyX7 tyX7_ok nmX7 rfl 11 (by decide) (Or.inl ⟨q1167, Or.inr ⟨rfl, hyn, rfl⟩⟩) (by cases q <;> rfl) (by cases q <;> rfl) (gOne_R M c 11 q) (by show va_rf ((gR (gsR M c 11 q) c 11).map (gA G)) = _; rw [gR_sR, if_pos ⟨rfl, rfl⟩]) d hk kk
theorem pfX7_100 {y0 : MethodName} {cc : ByteArray} {nL : Nat} {ret : Option FieldType} {hh : List (Nat × Nat × Nat × Nat)} {kf : Nat} {G : gG} {Qv : Option Value → gM → Prop} {E : String → Nat → gM → Prop} {w : gM → Nat → List (Nat × Value) → List Value → Prop} {M : gM} {pc : Nat} {lv : List (Nat × Value)} {rest : List Value} (hw : gX y0 cc nL ret hh kf G Qv E w) (hy : y0.cls = RX7) (hyn : y0.name = "<init>") {c : Nat} {q : Option Nat} (d : decode cc pc = .ok (.putfield 100, 3)) (hk : gk M c = 7) (kk : w (gsR M c 12 q) (pc + 3) lv rest) : w M pc lv (va_rf (q.map (gA G)) :: .ref (gA G c) :: rest) := by
  obtain ⟨cls9, nm9, ds9⟩ := y0
  subst hy
  exact g_putC (C := RX7) (T := TX7) (N := 58) (ci := 6) hw in_X7 tyX7 tyX7_ok nmX7 rfl 12 (by decide) (Or.inl ⟨q1168, Or.inr ⟨rfl, hyn, rfl⟩⟩) (by cases q <;> rfl) (by cases q <;> rfl) (gOne_R M c 12 q) (by show va_rf ((gR (gsR M c 12 q) c 12).map (gA G)) = _; rw [gR_sR, if_pos ⟨rfl, rfl⟩]) d hk kk
theorem pfX7_103 {y0 : MethodName} {cc : ByteArray} {nL : Nat} {ret : Option FieldType} {hh : List (Nat × Nat × Nat × Nat)} {kf : Nat} {G : gG} {Qv : Option Value → gM → Prop} {E : String → Nat → gM → Prop} {w : gM → Nat → List (Nat × Value) → List Value → Prop} {M : gM} {pc : Nat} {lv : List (Nat × Value)} {rest : List Value} (hw : gX y0 cc nL ret hh kf G Qv E w) (hy : y0.cls = RX7) (hyn : y0.name = "<init>") {c : Nat} {q : Option Nat} (d : decode cc pc = .ok (.putfield 103, 3)) (hk : gk M c = 7) (kk : w (gsR M c 13 q) (pc + 3) lv rest) : w M pc lv (va_rf (q.map (gA G)) :: .ref (gA G c) :: rest) := by
  obtain ⟨cls9, nm9, ds9⟩ := y0
  subst hy
  exact g_putC (C := RX7) (T := TX7) (N := 58) (ci := 6) hw in_X7 tyX7 tyX7_ok nmX7 rfl 13 (by decide) (Or.inl ⟨q1169, Or.inr ⟨rfl, hyn, rfl⟩⟩) (by cases q <;> rfl) (by cases q <;> rfl) (gOne_R M c 13 q) (by show va_rf ((gR (gsR M c 13 q) c 13).map (gA G)) = _; rw [gR_sR, if_pos ⟨rfl, rfl⟩]) d hk kk
theorem pfX7_106 {y0 : MethodName} {cc : ByteArray} {nL : Nat} {ret : Option FieldType} {hh : List (Nat × Nat × Nat × Nat)} {kf : Nat} {G : gG} {Qv : Option Value → gM → Prop} {E : String → Nat → gM → Prop} {w : gM → Nat → List (Nat × Value) → List Value → Prop} {M : gM} {pc : Nat} {lv : List (Nat × Value)} {rest : List Value} (hw : gX y0 cc nL ret hh kf G Qv E w) (hy : y0.cls = RX7) (hyn : y0.name = "<init>") {c : Nat} {q : Option Nat} (d : decode cc pc = .ok (.putfield 106, 3)) (hk : gk M c = 7) (kk : w (gsR M c 14 q) (pc + 3) lv rest) : w M pc lv (va_rf (q.map (gA G)) :: .ref (gA G c) :: rest) := by
  obtain ⟨cls9, nm9, ds9⟩ := y0
  subst hy
  exact g_putC (C := RX7) (T := TX7) (N := 58) (ci := 6) hw in_X7 tyX7 tyX7_ok nmX7 rfl 14 (by decide) (Or.inl ⟨q1170, Or.inr ⟨rfl, hyn, rfl⟩⟩) (by cases q <;> rfl) (by cases q <;> rfl) (gOne_R M c 14 q) (by show va_rf ((gR (gsR M c 14 q) c 14).map (gA G)) = _; rw [gR_sR, if_pos ⟨rfl, rfl⟩]) d hk kk
theorem pfX7_109 {y0 : MethodName} {cc : ByteArray} {nL : Nat} {ret : Option FieldType} {hh : List (Nat × Nat × Nat × Nat)} {kf : Nat} {G : gG} {Qv : Option Value → gM → Prop} {E : String → Nat → gM → Prop} {w : gM → Nat → List (Nat × Value) → List Value → Prop} {M : gM} {pc : Nat} {lv : List (Nat × Value)} {rest : List Value} (hw : gX y0 cc nL ret hh kf G Qv E w) (hy : y0.cls = RX7) (hyn : y0.name = "<init>") {c : Nat} {q : Option Nat} (d : decode cc pc = .ok (.putfield 109, 3)) (hk : gk M c = 7) (kk : w (gsR M c 16 q) (pc + 3) lv rest) : w M pc lv (va_rf (q.map (gA G)) :: .ref (gA G c) :: rest) := by
  obtain ⟨cls9, nm9, ds9⟩ := y0
  subst hy
  exact g_putC (C := RX7) (T := TX7) (N := 58) (ci := 6) hw in_X7 tyX7 tyX7_ok nmX7 rfl 16 (by decide) (Or.inl ⟨q1172, Or.inr ⟨rfl, hyn, rfl⟩⟩) (by cases q <;> rfl) (by cases q <;> rfl) (gOne_R M c 16 q) (by show va_rf ((gR (gsR M c 16 q) c 16).map (gA G)) = _; rw [gR_sR, if_pos ⟨rfl, rfl⟩]) d hk kk
theorem pfX7_112 {y0 : MethodName} {cc : ByteArray} {nL : Nat} {ret : Option FieldType} {hh : List (Nat × Nat × Nat × Nat)} {kf : Nat} {G : gG} {Qv : Option Value → gM → Prop} {E : String → Nat → gM → Prop} {w : gM → Nat → List (Nat × Value) → List Value → Prop} {M : gM} {pc : Nat} {lv : List (Nat × Value)} {rest : List Value} (hw : gX y0 cc nL ret hh kf G Qv E w) (hy : y0.cls = RX7) (hyn : y0.name = "<init>") {c : Nat} {q : Option Nat} (d : decode cc pc = .ok (.putfield 112, 3)) (hk : gk M c = 7) (kk : w (gsR M c 17 q) (pc + 3) lv rest) : w M pc lv (va_rf (q.map (gA G)) :: .ref (gA G c) :: rest) := by
  obtain ⟨cls9, nm9, ds9⟩ := y0
  subst hy
  exact g_putC (C := RX7) (T := TX7) (N := 58) (ci := 6) hw in_X7 tyX7 tyX7_ok nmX7 rfl 17 (by decide) (Or.inl ⟨q1173, Or.inr ⟨rfl, hyn, rfl⟩⟩) (by cases q <;> rfl) (by cases q <;> rfl) (gOne_R M c 17 q) (by show va_rf ((gR (gsR M c 17 q) c 17).map (gA G)) = _; rw [gR_sR, if_pos ⟨rfl, rfl⟩]) d hk kk
theorem pfX7_115 {y0 : MethodName} {cc : ByteArray} {nL : Nat} {ret : Option FieldType} {hh : List (Nat × Nat × Nat × Nat)} {kf : Nat} {G : gG} {Qv : Option Value → gM → Prop} {E : String → Nat → gM → Prop} {w : gM → Nat → List (Nat × Value) → List Value → Prop} {M : gM} {pc : Nat} {lv : List (Nat × Value)} {rest : List Value} (hw : gX y0 cc nL ret hh kf G Qv E w) (hy : y0.cls = RX7) (hyn : y0.name = "<init>") {c : Nat} {q : Option Nat} (d : decode cc pc = .ok (.putfield 115, 3)) (hk : gk M c = 7) (kk : w (gsR M c 18 q) (pc + 3) lv rest) : w M pc lv (va_rf (q.map (gA G)) :: .ref (gA G c) :: rest) := by
  obtain ⟨cls9, nm9, ds9⟩ := y0
  subst hy
  exact g_putC (C := RX7) (T := TX7) (N := 58) (ci := 6) hw in_X7 tyX7 tyX7_ok nmX7 rfl 18 (by decide) (Or.inl ⟨q1174, Or.inr ⟨rfl, hyn, rfl⟩⟩) (by cases q <;> rfl) (by cases q <;> rfl) (gOne_R M c 18 q) (by show va_rf ((gR (gsR M c 18 q) c 18).map (gA G)) = _; rw [gR_sR, if_pos ⟨rfl, rfl⟩]) d hk kk
theorem pfX7_118 {y0 : MethodName} {cc : ByteArray} {nL : Nat} {ret : Option FieldType} {hh : List (Nat × Nat × Nat × Nat)} {kf : Nat} {G : gG} {Qv : Option Value → gM → Prop} {E : String → Nat → gM → Prop} {w : gM → Nat → List (Nat × Value) → List Value → Prop} {M : gM} {pc : Nat} {lv : List (Nat × Value)} {rest : List Value} (hw : gX y0 cc nL ret hh kf G Qv E w) (hy : y0.cls = RX7) (hyn : y0.name = "<init>") {c : Nat} {q : Option Nat} (d : decode cc pc = .ok (.putfield 118, 3)) (hk : gk M c = 7) (kk : w (gsR M c 19 q) (pc + 3) lv rest) : w M pc lv (va_rf (q.map (gA G)) :: .ref (gA G c) :: rest) := by
  obtain ⟨cls9, nm9, ds9⟩ := y0
  subst hy
  exact g_putC (C := RX7) (T := TX7) (N := 58) (ci := 6) hw in_X7 tyX7 tyX7_ok nmX7 rfl 19 (by decide) (Or.inl ⟨q1175, Or.inr ⟨rfl, hyn, rfl⟩⟩) (by cases q <;> rfl) (by cases q <;> rfl) (gOne_R M c 19 q) (by show va_rf ((gR (gsR M c 19 q) c 19).map (gA G)) = _; rw [gR_sR, if_pos ⟨rfl, rfl⟩]) d hk kk
theorem pfX7_121 {y0 : MethodName} {cc : ByteArray} {nL : Nat} {ret : Option FieldType} {hh : List (Nat × Nat × Nat × Nat)} {kf : Nat} {G : gG} {Qv : Option Value → gM → Prop} {E : String → Nat → gM → Prop} {w : gM → Nat → List (Nat × Value) → List Value → Prop} {M : gM} {pc : Nat} {lv : List (Nat × Value)} {rest : List Value} (hw : gX y0 cc nL ret hh kf G Qv E w) (hy : y0.cls = RX7) (hyn : y0.name = "<init>") {c : Nat} {q : Option Nat} (d : decode cc pc = .ok (.putfield 121, 3)) (hk : gk M c = 7) (kk : w (gsR M c 20 q) (pc + 3) lv rest) : w M pc lv (va_rf (q.map (gA G)) :: .ref (gA G c) :: rest) := by
  obtain ⟨cls9, nm9, ds9⟩ := y0
  subst hy
  exact g_putC (C := RX7) (T := TX7) (N := 58) (ci := 6) hw in_X7 tyX7 tyX7_ok nmX7 rfl 20 (by decide) (Or.inl ⟨q1176, Or.inr ⟨rfl, hyn, rfl⟩⟩) (by cases q <;> rfl) (by cases q <;> rfl) (gOne_R M c 20 q) (by show va_rf ((gR (gsR M c 20 q) c 20).map (gA G)) = _; rw [gR_sR, if_pos ⟨rfl, rfl⟩]) d hk kk
theorem pfX7_124 {y0 : MethodName} {cc : ByteArray} {nL : Nat} {ret : Option FieldType} {hh : List (Nat × Nat × Nat × Nat)} {kf : Nat} {G : gG} {Qv : Option Value → gM → Prop} {E : String → Nat → gM → Prop} {w : gM → Nat → List (Nat × Value) → List Value → Prop} {M : gM} {pc : Nat} {lv : List (Nat × Value)} {rest : List Value} (hw : gX y0 cc nL ret hh kf G Qv E w) (hy : y0.cls = RX7) (hyn : y0.name = "<init>") {c : Nat} {q : Option Nat} (d : decode cc pc = .ok (.putfield 124, 3)) (hk : gk M c = 7) (kk : w (gsR M c 21 q) (pc + 3) lv rest) : w M pc lv (va_rf (q.map (gA G)) :: .ref (gA G c) :: rest) := by
  obtain ⟨cls9, nm9, ds9⟩ := y0
  subst hy
  exact g_putC (C := RX7) (T := TX7) (N := 58) (ci := 6) hw in_X7 tyX7 tyX7_ok nmX7 rfl 21 (by decide) (Or.inl ⟨q1177, Or.inr ⟨rfl, hyn, rfl⟩⟩) (by cases q <;> rfl) (by cases q <;> rfl) (gOne_R M c 21 q) (by show va_rf ((gR (gsR M c 21 q) c 21).map (gA G)) = _; rw [gR_sR, if_pos ⟨rfl, rfl⟩]) d hk kk
theorem pfX7_127 {y0 : MethodName} {cc : ByteArray} {nL : Nat} {ret : Option FieldType} {hh : List (Nat × Nat × Nat × Nat)} {kf : Nat} {G : gG} {Qv : Option Value → gM → Prop} {E : String → Nat → gM → Prop} {w : gM → Nat → List (Nat × Value) → List Value → Prop} {M : gM} {pc : Nat} {lv : List (Nat × Value)} {rest : List Value} (hw : gX y0 cc nL ret hh kf G Qv E w) (hy : y0.cls = RX7) (hyn : y0.name = "<init>") {c : Nat} {q : Option Nat} (d : decode cc pc = .ok (.putfield 127, 3)) (hk : gk M c = 7) (kk : w (gsR M c 22 q) (pc + 3) lv rest) : w M pc lv (va_rf (q.map (gA G)) :: .ref (gA G c) :: rest) := by
  obtain ⟨cls9, nm9, ds9⟩ := y0
  subst hy
  exact g_putC (C := RX7) (T := TX7) (N := 58) (ci := 6) hw in_X7 tyX7 tyX7_ok nmX7 rfl 22 (by decide) (Or.inl ⟨q1178, Or.inr ⟨rfl, hyn, rfl⟩⟩) (by cases q <;> rfl) (by cases q <;> rfl) (gOne_R M c 22 q) (by show va_rf ((gR (gsR M c 22 q) c 22).map (gA G)) = _; rw [gR_sR, if_pos ⟨rfl, rfl⟩]) d hk kk
theorem pfX7_130 {y0 : MethodName} {cc : ByteArray} {nL : Nat} {ret : Option FieldType} {hh : List (Nat × Nat × Nat × Nat)} {kf : Nat} {G : gG} {Qv : Option Value → gM → Prop} {E : String → Nat → gM → Prop} {w : gM → Nat → List (Nat × Value) → List Value → Prop} {M : gM} {pc : Nat} {lv : List (Nat × Value)} {rest : List Value} (hw : gX y0 cc nL ret hh kf G Qv E w) (hy : y0.cls = RX7) (hyn : y0.name = "<init>") {c : Nat} {q : Option Nat} (d : decode cc pc = .ok (.putfield 130, 3)) (hk : gk M c = 7) (kk : w (gsR M c 23 q) (pc + 3) lv rest) : w M pc lv (va_rf (q.map (gA G)) :: .ref (gA G c) :: rest) := by
  obtain ⟨cls9, nm9, ds9⟩ := y0
  subst hy
  exact g_putC (C := RX7) (T := TX7) (N := 58) (ci := 6) hw in_X7 tyX7 tyX7_ok nmX7 rfl 23 (by decide) (Or.inl ⟨q1179, Or.inr ⟨rfl, hyn, rfl⟩⟩) (by cases q <;> rfl) (by cases q <;> rfl) (gOne_R M c 23 q) (by show va_rf ((gR (gsR M c 23 q) c 23).map (gA G)) = _; rw [gR_sR, if_pos ⟨rfl, rfl⟩]) d hk kk
theorem pfX7_133 {y0 : MethodName} {cc : ByteArray} {nL : Nat} {ret : Option FieldType} {hh : List (Nat × Nat × Nat × Nat)} {kf : Nat} {G : gG} {Qv : Option Value → gM → Prop} {E : String → Nat → gM → Prop} {w : gM → Nat → List (Nat × Value) → List Value → Prop} {M : gM} {pc : Nat} {lv : List (Nat × Value)} {rest : List Value} (hw : gX y0 cc nL ret hh kf G Qv E w) (hy : y0.cls = RX7) (hyn : y0.name = "<init>") {c : Nat} {q : Option Nat} (d : decode cc pc = .ok (.putfield 133, 3)) (hk : gk M c = 7) (kk : w (gsR M c 30 q) (pc + 3) lv rest) : w M pc lv (va_rf (q.map (gA G)) :: .ref (gA G c) :: rest) := by
  obtain ⟨cls9, nm9, ds9⟩ := y0
  subst hy
  exact g_putC (C := RX7) (T := TX7) (N := 58) (ci := 6) hw in_X7 tyX7 tyX7_ok nmX7 rfl 30 (by decide) (Or.inl ⟨q1186, Or.inr ⟨rfl, hyn, rfl⟩⟩) (by cases q <;> rfl) (by cases q <;> rfl) (gOne_R M c 30 q) (by show va_rf ((gR (gsR M c 30 q) c 30).map (gA G)) = _; rw [gR_sR, if_pos ⟨rfl, rfl⟩]) d hk kk
theorem pfX7_136 {y0 : MethodName} {cc : ByteArray} {nL : Nat} {ret : Option FieldType} {hh : List (Nat × Nat × Nat × Nat)} {kf : Nat} {G : gG} {Qv : Option Value → gM → Prop} {E : String → Nat → gM → Prop} {w : gM → Nat → List (Nat × Value) → List Value → Prop} {M : gM} {pc : Nat} {lv : List (Nat × Value)} {rest : List Value} (hw : gX y0 cc nL ret hh kf G Qv E w) (hy : y0.cls = RX7) (hyn : y0.name = "<init>") {c : Nat} {q : Option Nat} (d : decode cc pc = .ok (.putfield 136, 3)) (hk : gk M c = 7) (kk : w (gsR M c 31 q) (pc + 3) lv rest) : w M pc lv (va_rf (q.map (gA G)) :: .ref (gA G c) :: rest) := by
  obtain ⟨cls9, nm9, ds9⟩ := y0
  subst hy
  exact g_putC (C := RX7) (T := TX7) (N := 58) (ci := 6) hw in_X7 tyX7 tyX7_ok nmX7 rfl 31 (by decide) (Or.inl ⟨q1187, Or.inr ⟨rfl, hyn, rfl⟩⟩) (by cases q <;> rfl) (by cases q <;> rfl) (gOne_R M c 31 q) (by show va_rf ((gR (gsR M c 31 q) c 31).map (gA G)) = _; rw [gR_sR, if_pos ⟨rfl, rfl⟩]) d hk kk
theorem pfX7_139 {y0 : MethodName} {cc : ByteArray} {nL : Nat} {ret : Option FieldType} {hh : List (Nat × Nat × Nat × Nat)} {kf : Nat} {G : gG} {Qv : Option Value → gM → Prop} {E : String → Nat → gM → Prop} {w : gM → Nat → List (Nat × Value) → List Value → Prop} {M : gM} {pc : Nat} {lv : List (Nat × Value)} {rest : List Value} (hw : gX y0 cc nL ret hh kf G Qv E w) (hy : y0.cls = RX7) (hyn : y0.name = "<init>") {c : Nat} {q : Option Nat} (d : decode cc pc = .ok (.putfield 139, 3)) (hk : gk M c = 7) (kk : w (gsR M c 33 q) (pc + 3) lv rest) : w M pc lv (va_rf (q.map (gA G)) :: .ref (gA G c) :: rest) := by
  obtain ⟨cls9, nm9, ds9⟩ := y0
  subst hy
  exact g_putC (C := RX7) (T := TX7) (N := 58) (ci := 6) hw in_X7 tyX7 tyX7_ok nmX7 rfl 33 (by decide) (Or.inl ⟨q1189, Or.inr ⟨rfl, hyn, rfl⟩⟩) (by cases q <;> rfl) (by cases q <;> rfl) (gOne_R M c 33 q) (by show va_rf ((gR (gsR M c 33 q) c 33).map (gA G)) = _; rw [gR_sR, if_pos ⟨rfl, rfl⟩]) d hk kk
theorem pfX7_142 {y0 : MethodName} {cc : ByteArray} {nL : Nat} {ret : Option FieldType} {hh : List (Nat × Nat × Nat × Nat)} {kf : Nat} {G : gG} {Qv : Option Value → gM → Prop} {E : String → Nat → gM → Prop} {w : gM → Nat → List (Nat × Value) → List Value → Prop} {M : gM} {pc : Nat} {lv : List (Nat × Value)} {rest : List Value} (hw : gX y0 cc nL ret hh kf G Qv E w) (hy : y0.cls = RX7) (hyn : y0.name = "<init>") {c : Nat} {q : Option Nat} (d : decode cc pc = .ok (.putfield 142, 3)) (hk : gk M c = 7) (kk : w (gsR M c 34 q) (pc + 3) lv rest) : w M pc lv (va_rf (q.map (gA G)) :: .ref (gA G c) :: rest) := by
  obtain ⟨cls9, nm9, ds9⟩ := y0
  subst hy
  exact g_putC (C := RX7) (T := TX7) (N := 58) (ci := 6) hw in_X7 tyX7 tyX7_ok nmX7 rfl 34 (by decide) (Or.inl ⟨q1190, Or.inr ⟨rfl, hyn, rfl⟩⟩) (by cases q <;> rfl) (by cases q <;> rfl) (gOne_R M c 34 q) (by show va_rf ((gR (gsR M c 34 q) c 34).map (gA G)) = _; rw [gR_sR, if_pos ⟨rfl, rfl⟩]) d hk kk
theorem pfX7_145 {y0 : MethodName} {cc : ByteArray} {nL : Nat} {ret : Option FieldType} {hh : List (Nat × Nat × Nat × Nat)} {kf : Nat} {G : gG} {Qv : Option Value → gM → Prop} {E : String → Nat → gM → Prop} {w : gM → Nat → List (Nat × Value) → List Value → Prop} {M : gM} {pc : Nat} {lv : List (Nat × Value)} {rest : List Value} (hw : gX y0 cc nL ret hh kf G Qv E w) (hy : y0.cls = RX7) (hyn : y0.name = "<init>") {c : Nat} {q : Option Nat} (d : decode cc pc = .ok (.putfield 145, 3)) (hk : gk M c = 7) (kk : w (gsR M c 35 q) (pc + 3) lv rest) : w M pc lv (va_rf (q.map (gA G)) :: .ref (gA G c) :: rest) := by
  obtain ⟨cls9, nm9, ds9⟩ := y0
  subst hy
  exact g_putC (C := RX7) (T := TX7) (N := 58) (ci := 6) hw in_X7 tyX7 tyX7_ok nmX7 rfl 35 (by decide) (Or.inl ⟨q1191, Or.inr ⟨rfl, hyn, rfl⟩⟩) (by cases q <;> rfl) (by cases q <;> rfl) (gOne_R M c 35 q) (by show va_rf ((gR (gsR M c 35 q) c 35).map (gA G)) = _; rw [gR_sR, if_pos ⟨rfl, rfl⟩]) d hk kk
theorem pfX7_148 {y0 : MethodName} {cc : ByteArray} {nL : Nat} {ret : Option FieldType} {hh : List (Nat × Nat × Nat × Nat)} {kf : Nat} {G : gG} {Qv : Option Value → gM → Prop} {E : String → Nat → gM → Prop} {w : gM → Nat → List (Nat × Value) → List Value → Prop} {M : gM} {pc : Nat} {lv : List (Nat × Value)} {rest : List Value} (hw : gX y0 cc nL ret hh kf G Qv E w) (hy : y0.cls = RX7) (hyn : y0.name = "<init>") {c : Nat} {q : Option Nat} (d : decode cc pc = .ok (.putfield 148, 3)) (hk : gk M c = 7) (kk : w (gsR M c 36 q) (pc + 3) lv rest) : w M pc lv (va_rf (q.map (gA G)) :: .ref (gA G c) :: rest) := by
  obtain ⟨cls9, nm9, ds9⟩ := y0
  subst hy
  exact g_putC (C := RX7) (T := TX7) (N := 58) (ci := 6) hw in_X7 tyX7 tyX7_ok nmX7 rfl 36 (by decide) (Or.inl ⟨q1192, Or.inr ⟨rfl, hyn, rfl⟩⟩) (by cases q <;> rfl) (by cases q <;> rfl) (gOne_R M c 36 q) (by show va_rf ((gR (gsR M c 36 q) c 36).map (gA G)) = _; rw [gR_sR, if_pos ⟨rfl, rfl⟩]) d hk kk
theorem pfX7_151 {y0 : MethodName} {cc : ByteArray} {nL : Nat} {ret : Option FieldType} {hh : List (Nat × Nat × Nat × Nat)} {kf : Nat} {G : gG} {Qv : Option Value → gM → Prop} {E : String → Nat → gM → Prop} {w : gM → Nat → List (Nat × Value) → List Value → Prop} {M : gM} {pc : Nat} {lv : List (Nat × Value)} {rest : List Value} (hw : gX y0 cc nL ret hh kf G Qv E w) (hy : y0.cls = RX7) (hyn : y0.name = "<init>") {c : Nat} {q : Option Nat} (d : decode cc pc = .ok (.putfield 151, 3)) (hk : gk M c = 7) (kk : w (gsR M c 37 q) (pc + 3) lv rest) : w M pc lv (va_rf (q.map (gA G)) :: .ref (gA G c) :: rest) := by
  obtain ⟨cls9, nm9, ds9⟩ := y0
  subst hy
  exact g_putC (C := RX7) (T := TX7) (N := 58) (ci := 6) hw in_X7 tyX7 tyX7_ok nmX7 rfl 37 (by decide) (Or.inl ⟨q1193, Or.inr ⟨rfl, hyn, rfl⟩⟩) (by cases q <;> rfl) (by cases q <;> rfl) (gOne_R M c 37 q) (by show va_rf ((gR (gsR M c 37 q) c 37).map (gA G)) = _; rw [gR_sR, if_pos ⟨rfl, rfl⟩]) d hk kk
theorem pfX7_154 {y0 : MethodName} {cc : ByteArray} {nL : Nat} {ret : Option FieldType} {hh : List (Nat × Nat × Nat × Nat)} {kf : Nat} {G : gG} {Qv : Option Value → gM → Prop} {E : String → Nat → gM → Prop} {w : gM → Nat → List (Nat × Value) → List Value → Prop} {M : gM} {pc : Nat} {lv : List (Nat × Value)} {rest : List Value} (hw : gX y0 cc nL ret hh kf G Qv E w) (hy : y0.cls = RX7) (hyn : y0.name = "<init>") {c : Nat} {q : Option Nat} (d : decode cc pc = .ok (.putfield 154, 3)) (hk : gk M c = 7) (kk : w (gsR M c 38 q) (pc + 3) lv rest) : w M pc lv (va_rf (q.map (gA G)) :: .ref (gA G c) :: rest) := by
  obtain ⟨cls9, nm9, ds9⟩ := y0
  subst hy
  exact g_putC (C := RX7) (T := TX7) (N := 58) (ci := 6) hw in_X7 tyX7 tyX7_ok nmX7 rfl 38 (by decide) (Or.inl ⟨q1194, Or.inr ⟨rfl, hyn, rfl⟩⟩) (by cases q <;> rfl) (by cases q <;> rfl) (gOne_R M c 38 q) (by show va_rf ((gR (gsR M c 38 q) c 38).map (gA G)) = _; rw [gR_sR, if_pos ⟨rfl, rfl⟩]) d hk kk
theorem pfX7_157 {y0 : MethodName} {cc : ByteArray} {nL : Nat} {ret : Option FieldType} {hh : List (Nat × Nat × Nat × Nat)} {kf : Nat} {G : gG} {Qv : Option Value → gM → Prop} {E : String → Nat → gM → Prop} {w : gM → Nat → List (Nat × Value) → List Value → Prop} {M : gM} {pc : Nat} {lv : List (Nat × Value)} {rest : List Value} (hw : gX y0 cc nL ret hh kf G Qv E w) (hy : y0.cls = RX7) (hyn : y0.name = "<init>") {c : Nat} {q : Option Nat} (d : decode cc pc = .ok (.putfield 157, 3)) (hk : gk M c = 7) (kk : w (gsR M c 39 q) (pc + 3) lv rest) : w M pc lv (va_rf (q.map (gA G)) :: .ref (gA G c) :: rest) := by
  obtain ⟨cls9, nm9, ds9⟩ := y0
  subst hy
  exact g_putC (C := RX7) (T := TX7) (N := 58) (ci := 6) hw in_X7 tyX7 tyX7_ok nmX7 rfl 39 (by decide) (Or.inl ⟨q1195, Or.inr ⟨rfl, hyn, rfl⟩⟩) (by cases q <;> rfl) (by cases q <;> rfl) (gOne_R M c 39 q) (by show va_rf ((gR (gsR M c 39 q) c 39).map (gA G)) = _; rw [gR_sR, if_pos ⟨rfl, rfl⟩]) d hk kk
theorem pfX7_160 {y0 : MethodName} {cc : ByteArray} {nL : Nat} {ret : Option FieldType} {hh : List (Nat × Nat × Nat × Nat)} {kf : Nat} {G : gG} {Qv : Option Value → gM → Prop} {E : String → Nat → gM → Prop} {w : gM → Nat → List (Nat × Value) → List Value → Prop} {M : gM} {pc : Nat} {lv : List (Nat × Value)} {rest : List Value} (hw : gX y0 cc nL ret hh kf G Qv E w) (hy : y0.cls = RX7) (hyn : y0.name = "<init>") {c : Nat} {q : Option Nat} (d : decode cc pc = .ok (.putfield 160, 3)) (hk : gk M c = 7) (kk : w (gsR M c 40 q) (pc + 3) lv rest) : w M pc lv (va_rf (q.map (gA G)) :: .ref (gA G c) :: rest) := by
  obtain ⟨cls9, nm9, ds9⟩ := y0
  subst hy
  exact g_putC (C := RX7) (T := TX7) (N := 58) (ci := 6) hw in_X7 tyX7 tyX7_ok nmX7 rfl 40 (by decide) (Or.inl ⟨q1196, Or.inr ⟨rfl, hyn, rfl⟩⟩) (by cases q <;> rfl) (by cases q <;> rfl) (gOne_R M c 40 q) (by show va_rf ((gR (gsR M c 40 q) c 40).map (gA G)) = _; rw [gR_sR, if_pos ⟨rfl, rfl⟩]) d hk kk
theorem pfX7_163 {y0 : MethodName} {cc : ByteArray} {nL : Nat} {ret : Option FieldType} {hh : List (Nat × Nat × Nat × Nat)} {kf : Nat} {G : gG} {Qv : Option Value → gM → Prop} {E : String → Nat → gM → Prop} {w : gM → Nat → List (Nat × Value) → List Value → Prop} {M : gM} {pc : Nat} {lv : List (Nat × Value)} {rest : List Value} (hw : gX y0 cc nL ret hh kf G Qv E w) (hy : y0.cls = RX7) (hyn : y0.name = "<init>") {c : Nat} {q : Option Nat} (d : decode cc pc = .ok (.putfield 163, 3)) (hk : gk M c = 7) (kk : w (gsR M c 42 q) (pc + 3) lv rest) : w M pc lv (va_rf (q.map (gA G)) :: .ref (gA G c) :: rest) := by
  obtain ⟨cls9, nm9, ds9⟩ := y0
  subst hy
  exact g_putC (C := RX7) (T := TX7) (N := 58) (ci := 6) hw in_X7 tyX7 tyX7_ok nmX7 rfl 42 (by decide) (Or.inl ⟨q1198, Or.inr ⟨rfl, hyn, rfl⟩⟩) (by cases q <;> rfl) (by cases q <;> rfl) (gOne_R M c 42 q) (by show va_rf ((gR (gsR M c 42 q) c 42).map (gA G)) = _; rw [gR_sR, if_pos ⟨rfl, rfl⟩]) d hk kk
theorem pfX7_166 {y0 : MethodName} {cc : ByteArray} {nL : Nat} {ret : Option FieldType} {hh : List (Nat × Nat × Nat × Nat)} {kf : Nat} {G : gG} {Qv : Option Value → gM → Prop} {E : String → Nat → gM → Prop} {w : gM → Nat → List (Nat × Value) → List Value → Prop} {M : gM} {pc : Nat} {lv : List (Nat × Value)} {rest : List Value} (hw : gX y0 cc nL ret hh kf G Qv E w) (hy : y0.cls = RX7) (hyn : y0.name = "<init>") {c : Nat} {q : Option Nat} (d : decode cc pc = .ok (.putfield 166, 3)) (hk : gk M c = 7) (kk : w (gsR M c 43 q) (pc + 3) lv rest) : w M pc lv (va_rf (q.map (gA G)) :: .ref (gA G c) :: rest) := by
  obtain ⟨cls9, nm9, ds9⟩ := y0
  subst hy
  exact g_putC (C := RX7) (T := TX7) (N := 58) (ci := 6) hw in_X7 tyX7 tyX7_ok nmX7 rfl 43 (by decide) (Or.inl ⟨q1199, Or.inr ⟨rfl, hyn, rfl⟩⟩) (by cases q <;> rfl) (by cases q <;> rfl) (gOne_R M c 43 q) (by show va_rf ((gR (gsR M c 43 q) c 43).map (gA G)) = _; rw [gR_sR, if_pos ⟨rfl, rfl⟩]) d hk kk
theorem pfX7_169 {y0 : MethodName} {cc : ByteArray} {nL : Nat} {ret : Option FieldType} {hh : List (Nat × Nat × Nat × Nat)} {kf : Nat} {G : gG} {Qv : Option Value → gM → Prop} {E : String → Nat → gM → Prop} {w : gM → Nat → List (Nat × Value) → List Value → Prop} {M : gM} {pc : Nat} {lv : List (Nat × Value)} {rest : List Value} (hw : gX y0 cc nL ret hh kf G Qv E w) (hy : y0.cls = RX7) (hyn : y0.name = "<init>") {c : Nat} {q : Option Nat} (d : decode cc pc = .ok (.putfield 169, 3)) (hk : gk M c = 7) (kk : w (gsR M c 44 q) (pc + 3) lv rest) : w M pc lv (va_rf (q.map (gA G)) :: .ref (gA G c) :: rest) := by
  obtain ⟨cls9, nm9, ds9⟩ := y0
  subst hy
  exact g_putC (C := RX7) (T := TX7) (N := 58) (ci := 6) hw in_X7 tyX7 tyX7_ok nmX7 rfl 44 (by decide) (Or.inl ⟨q1200, Or.inr ⟨rfl, hyn, rfl⟩⟩) (by cases q <;> rfl) (by cases q <;> rfl) (gOne_R M c 44 q) (by show va_rf ((gR (gsR M c 44 q) c 44).map (gA G)) = _; rw [gR_sR, if_pos ⟨rfl, rfl⟩]) d hk kk
theorem pfX7_172 {y0 : MethodName} {cc : ByteArray} {nL : Nat} {ret : Option FieldType} {hh : List (Nat × Nat × Nat × Nat)} {kf : Nat} {G : gG} {Qv : Option Value → gM → Prop} {E : String → Nat → gM → Prop} {w : gM → Nat → List (Nat × Value) → List Value → Prop} {M : gM} {pc : Nat} {lv : List (Nat × Value)} {rest : List Value} (hw : gX y0 cc nL ret hh kf G Qv E w) (hy : y0.cls = RX7) (hyn : y0.name = "<init>") {c : Nat} {q : Option Nat} (d : decode cc pc = .ok (.putfield 172, 3)) (hk : gk M c = 7) (kk : w (gsR M c 46 q) (pc + 3) lv rest) : w M pc lv (va_rf (q.map (gA G)) :: .ref (gA G c) :: rest) := by
  obtain ⟨cls9, nm9, ds9⟩ := y0
  subst hy
  exact g_putC (C := RX7) (T := TX7) (N := 58) (ci := 6) hw in_X7 tyX7 tyX7_ok nmX7 rfl 46 (by decide) (Or.inl ⟨q1202, Or.inr ⟨rfl, hyn, rfl⟩⟩) (by cases q <;> rfl) (by cases q <;> rfl) (gOne_R M c 46 q) (by show va_rf ((gR (gsR M c 46 q) c 46).map (gA G)) = _; rw [gR_sR, if_pos ⟨rfl, rfl⟩]) d hk kk
theorem pfX7_175 {y0 : MethodName} {cc : ByteArray} {nL : Nat} {ret : Option FieldType} {hh : List (Nat × Nat × Nat × Nat)} {kf : Nat} {G : gG} {Qv : Option Value → gM → Prop} {E : String → Nat → gM → Prop} {w : gM → Nat → List (Nat × Value) → List Value → Prop} {M : gM} {pc : Nat} {lv : List (Nat × Value)} {rest : List Value} (hw : gX y0 cc nL ret hh kf G Qv E w) (hy : y0.cls = RX7) (hyn : y0.name = "<init>") {c : Nat} {q : Option Nat} (d : decode cc pc = .ok (.putfield 175, 3)) (hk : gk M c = 7) (kk : w (gsR M c 47 q) (pc + 3) lv rest) : w M pc lv (va_rf (q.map (gA G)) :: .ref (gA G c) :: rest) := by
  obtain ⟨cls9, nm9, ds9⟩ := y0
  subst hy
  exact g_putC (C := RX7) (T := TX7) (N := 58) (ci := 6) hw in_X7 tyX7 tyX7_ok nmX7 rfl 47 (by decide) (Or.inl ⟨q1203, Or.inr ⟨rfl, hyn, rfl⟩⟩) (by cases q <;> rfl) (by cases q <;> rfl) (gOne_R M c 47 q) (by show va_rf ((gR (gsR M c 47 q) c 47).map (gA G)) = _; rw [gR_sR, if_pos ⟨rfl, rfl⟩]) d hk kk
theorem pfX7_178 {y0 : MethodName} {cc : ByteArray} {nL : Nat} {ret : Option FieldType} {hh : List (Nat × Nat × Nat × Nat)} {kf : Nat} {G : gG} {Qv : Option Value → gM → Prop} {E : String → Nat → gM → Prop} {w : gM → Nat → List (Nat × Value) → List Value → Prop} {M : gM} {pc : Nat} {lv : List (Nat × Value)} {rest : List Value} (hw : gX y0 cc nL ret hh kf G Qv E w) (hy : y0.cls = RX7) (hyn : y0.name = "<init>") {c : Nat} {q : Option Nat} (d : decode cc pc = .ok (.putfield 178, 3)) (hk : gk M c = 7) (kk : w (gsR M c 48 q) (pc + 3) lv rest) : w M pc lv (va_rf (q.map (gA G)) :: .ref (gA G c) :: rest) := by
  obtain ⟨cls9, nm9, ds9⟩ := y0
  subst hy
  exact g_putC (C := RX7) (T := TX7) (N := 58) (ci := 6) hw in_X7 tyX7 tyX7_ok nmX7 rfl 48 (by decide) (Or.inl ⟨q1204, Or.inr ⟨rfl, hyn, rfl⟩⟩) (by cases q <;> rfl) (by cases q <;> rfl) (gOne_R M c 48 q) (by show va_rf ((gR (gsR M c 48 q) c 48).map (gA G)) = _; rw [gR_sR, if_pos ⟨rfl, rfl⟩]) d hk kk
theorem pfX7_181 {y0 : MethodName} {cc : ByteArray} {nL : Nat} {ret : Option FieldType} {hh : List (Nat × Nat × Nat × Nat)} {kf : Nat} {G : gG} {Qv : Option Value → gM → Prop} {E : String → Nat → gM → Prop} {w : gM → Nat → List (Nat × Value) → List Value → Prop} {M : gM} {pc : Nat} {lv : List (Nat × Value)} {rest : List Value} (hw : gX y0 cc nL ret hh kf G Qv E w) (hy : y0.cls = RX7) (hyn : y0.name = "<init>") {c : Nat} {q : Option Nat} (d : decode cc pc = .ok (.putfield 181, 3)) (hk : gk M c = 7) (kk : w (gsR M c 49 q) (pc + 3) lv rest) : w M pc lv (va_rf (q.map (gA G)) :: .ref (gA G c) :: rest) := by
  obtain ⟨cls9, nm9, ds9⟩ := y0
  subst hy
  exact g_putC (C := RX7) (T := TX7) (N := 58) (ci := 6) hw in_X7 tyX7 tyX7_ok nmX7 rfl 49 (by decide) (Or.inl ⟨q1205, Or.inr ⟨rfl, hyn, rfl⟩⟩) (by cases q <;> rfl) (by cases q <;> rfl) (gOne_R M c 49 q) (by show va_rf ((gR (gsR M c 49 q) c 49).map (gA G)) = _; rw [gR_sR, if_pos ⟨rfl, rfl⟩]) d hk kk
theorem pfX7_184 {y0 : MethodName} {cc : ByteArray} {nL : Nat} {ret : Option FieldType} {hh : List (Nat × Nat × Nat × Nat)} {kf : Nat} {G : gG} {Qv : Option Value → gM → Prop} {E : String → Nat → gM → Prop} {w : gM → Nat → List (Nat × Value) → List Value → Prop} {M : gM} {pc : Nat} {lv : List (Nat × Value)} {rest : List Value} (hw : gX y0 cc nL ret hh kf G Qv E w) (hy : y0.cls = RX7) (hyn : y0.name = "<init>") {c : Nat} {q : Option Nat} (d : decode cc pc = .ok (.putfield 184, 3)) (hk : gk M c = 7) (kk : w (gsR M c 50 q) (pc + 3) lv rest) : w M pc lv (va_rf (q.map (gA G)) :: .ref (gA G c) :: rest) := by
  obtain ⟨cls9, nm9, ds9⟩ := y0
  subst hy
  exact g_putC (C := RX7) (T := TX7) (N := 58) (ci := 6) hw in_X7 tyX7 tyX7_ok nmX7 rfl 50 (by decide) (Or.inl ⟨q1206, Or.inr ⟨rfl, hyn, rfl⟩⟩) (by cases q <;> rfl) (by cases q <;> rfl) (gOne_R M c 50 q) (by show va_rf ((gR (gsR M c 50 q) c 50).map (gA G)) = _; rw [gR_sR, if_pos ⟨rfl, rfl⟩]) d hk kk
theorem pfX7_187 {y0 : MethodName} {cc : ByteArray} {nL : Nat} {ret : Option FieldType} {hh : List (Nat × Nat × Nat × Nat)} {kf : Nat} {G : gG} {Qv : Option Value → gM → Prop} {E : String → Nat → gM → Prop} {w : gM → Nat → List (Nat × Value) → List Value → Prop} {M : gM} {pc : Nat} {lv : List (Nat × Value)} {rest : List Value} (hw : gX y0 cc nL ret hh kf G Qv E w) (hy : y0.cls = RX7) (hyn : y0.name = "<init>") {c : Nat} {q : Option Nat} (d : decode cc pc = .ok (.putfield 187, 3)) (hk : gk M c = 7) (kk : w (gsR M c 51 q) (pc + 3) lv rest) : w M pc lv (va_rf (q.map (gA G)) :: .ref (gA G c) :: rest) := by
  obtain ⟨cls9, nm9, ds9⟩ := y0
  subst hy
  exact g_putC (C := RX7) (T := TX7) (N := 58) (ci := 6) hw in_X7 tyX7 tyX7_ok nmX7 rfl 51 (by decide) (Or.inl ⟨q1207, Or.inr ⟨rfl, hyn, rfl⟩⟩) (by cases q <;> rfl) (by cases q <;> rfl) (gOne_R M c 51 q) (by show va_rf ((gR (gsR M c 51 q) c 51).map (gA G)) = _; rw [gR_sR, if_pos ⟨rfl, rfl⟩]) d hk kk
theorem pfX7_190 {y0 : MethodName} {cc : ByteArray} {nL : Nat} {ret : Option FieldType} {hh : List (Nat × Nat × Nat × Nat)} {kf : Nat} {G : gG} {Qv : Option Value → gM → Prop} {E : String → Nat → gM → Prop} {w : gM → Nat → List (Nat × Value) → List Value → Prop} {M : gM} {pc : Nat} {lv : List (Nat × Value)} {rest : List Value} (hw : gX y0 cc nL ret hh kf G Qv E w) (hy : y0.cls = RX7) (hyn : y0.name = "<init>") {c : Nat} {q : Option Nat} (d : decode cc pc = .ok (.putfield 190, 3)) (hk : gk M c = 7) (kk : w (gsR M c 52 q) (pc + 3) lv rest) : w M pc lv (va_rf (q.map (gA G)) :: .ref (gA G c) :: rest) := by
  obtain ⟨cls9, nm9, ds9⟩ := y0
  subst hy
  exact g_putC (C := RX7) (T := TX7) (N := 58) (ci := 6) hw in_X7 tyX7 tyX7_ok nmX7 rfl 52 (by decide) (Or.inl ⟨q1208, Or.inr ⟨rfl, hyn, rfl⟩⟩) (by cases q <;> rfl) (by cases q <;> rfl) (gOne_R M c 52 q) (by show va_rf ((gR (gsR M c 52 q) c 52).map (gA G)) = _; rw [gR_sR, if_pos ⟨rfl, rfl⟩]) d hk kk
theorem pfX7_193 {y0 : MethodName} {cc : ByteArray} {nL : Nat} {ret : Option FieldType} {hh : List (Nat × Nat × Nat × Nat)} {kf : Nat} {G : gG} {Qv : Option Value → gM → Prop} {E : String → Nat → gM → Prop} {w : gM → Nat → List (Nat × Value) → List Value → Prop} {M : gM} {pc : Nat} {lv : List (Nat × Value)} {rest : List Value} (hw : gX y0 cc nL ret hh kf G Qv E w) (hy : y0.cls = RX7) (hyn : y0.name = "<init>") {c : Nat} {q : Option Nat} (d : decode cc pc = .ok (.putfield 193, 3)) (hk : gk M c = 7) (kk : w (gsR M c 53 q) (pc + 3) lv rest) : w M pc lv (va_rf (q.map (gA G)) :: .ref (gA G c) :: rest) := by
  obtain ⟨cls9, nm9, ds9⟩ := y0
  subst hy
  exact g_putC (C := RX7) (T := TX7) (N := 58) (ci := 6) hw in_X7 tyX7 tyX7_ok nmX7 rfl 53 (by decide) (Or.inl ⟨q1209, Or.inr ⟨rfl, hyn, rfl⟩⟩) (by cases q <;> rfl) (by cases q <;> rfl) (gOne_R M c 53 q) (by show va_rf ((gR (gsR M c 53 q) c 53).map (gA G)) = _; rw [gR_sR, if_pos ⟨rfl, rfl⟩]) d hk kk
theorem pfX7_196 {y0 : MethodName} {cc : ByteArray} {nL : Nat} {ret : Option FieldType} {hh : List (Nat × Nat × Nat × Nat)} {kf : Nat} {G : gG} {Qv : Option Value → gM → Prop} {E : String → Nat → gM → Prop} {w : gM → Nat → List (Nat × Value) → List Value → Prop} {M : gM} {pc : Nat} {lv : List (Nat × Value)} {rest : List Value} (hw : gX y0 cc nL ret hh kf G Qv E w) (hy : y0.cls = RX7) (hyn : y0.name = "<init>") {c : Nat} {q : Option Nat} (d : decode cc pc = .ok (.putfield 196, 3)) (hk : gk M c = 7) (kk : w (gsR M c 54 q) (pc + 3) lv rest) : w M pc lv (va_rf (q.map (gA G)) :: .ref (gA G c) :: rest) := by
  obtain ⟨cls9, nm9, ds9⟩ := y0
  subst hy
  exact g_putC (C := RX7) (T := TX7) (N := 58) (ci := 6) hw in_X7 tyX7 tyX7_ok nmX7 rfl 54 (by decide) (Or.inl ⟨q1210, Or.inr ⟨rfl, hyn, rfl⟩⟩) (by cases q <;> rfl) (by cases q <;> rfl) (gOne_R M c 54 q) (by show va_rf ((gR (gsR M c 54 q) c 54).map (gA G)) = _; rw [gR_sR, if_pos ⟨rfl, rfl⟩]) d hk kk
theorem pfX7_199 {y0 : MethodName} {cc : ByteArray} {nL : Nat} {ret : Option FieldType} {hh : List (Nat × Nat × Nat × Nat)} {kf : Nat} {G : gG} {Qv : Option Value → gM → Prop} {E : String → Nat → gM → Prop} {w : gM → Nat → List (Nat × Value) → List Value → Prop} {M : gM} {pc : Nat} {lv : List (Nat × Value)} {rest : List Value} (hw : gX y0 cc nL ret hh kf G Qv E w) (hy : y0.cls = RX7) (hyn : y0.name = "<init>") {c : Nat} {q : Option Nat} (d : decode cc pc = .ok (.putfield 199, 3)) (hk : gk M c = 7) (kk : w (gsR M c 55 q) (pc + 3) lv rest) : w M pc lv (va_rf (q.map (gA G)) :: .ref (gA G c) :: rest) := by
  obtain ⟨cls9, nm9, ds9⟩ := y0
  subst hy
  exact g_putC (C := RX7) (T := TX7) (N := 58) (ci := 6) hw in_X7 tyX7 tyX7_ok nmX7 rfl 55 (by decide) (Or.inl ⟨q1211, Or.inr ⟨rfl, hyn, rfl⟩⟩) (by cases q <;> rfl) (by cases q <;> rfl) (gOne_R M c 55 q) (by show va_rf ((gR (gsR M c 55 q) c 55).map (gA G)) = _; rw [gR_sR, if_pos ⟨rfl, rfl⟩]) d hk kk
theorem pfX7_202 {y0 : MethodName} {cc : ByteArray} {nL : Nat} {ret : Option FieldType} {hh : List (Nat × Nat × Nat × Nat)} {kf : Nat} {G : gG} {Qv : Option Value → gM → Prop} {E : String → Nat → gM → Prop} {w : gM → Nat → List (Nat × Value) → List Value → Prop} {M : gM} {pc : Nat} {lv : List (Nat × Value)} {rest : List Value} (hw : gX y0 cc nL ret hh kf G Qv E w) (hy : y0.cls = RX7) (hyn : y0.name = "<init>") {c : Nat} {q : Option Nat} (d : decode cc pc = .ok (.putfield 202, 3)) (hk : gk M c = 7) (kk : w (gsR M c 56 q) (pc + 3) lv rest) : w M pc lv (va_rf (q.map (gA G)) :: .ref (gA G c) :: rest) := by
  obtain ⟨cls9, nm9, ds9⟩ := y0
  subst hy
  exact g_putC (C := RX7) (T := TX7) (N := 58) (ci := 6) hw in_X7 tyX7 tyX7_ok nmX7 rfl 56 (by decide) (Or.inl ⟨q1212, Or.inr ⟨rfl, hyn, rfl⟩⟩) (by cases q <;> rfl) (by cases q <;> rfl) (gOne_R M c 56 q) (by show va_rf ((gR (gsR M c 56 q) c 56).map (gA G)) = _; rw [gR_sR, if_pos ⟨rfl, rfl⟩]) d hk kk
theorem pfX7_205 {y0 : MethodName} {cc : ByteArray} {nL : Nat} {ret : Option FieldType} {hh : List (Nat × Nat × Nat × Nat)} {kf : Nat} {G : gG} {Qv : Option Value → gM → Prop} {E : String → Nat → gM → Prop} {w : gM → Nat → List (Nat × Value) → List Value → Prop} {M : gM} {pc : Nat} {lv : List (Nat × Value)} {rest : List Value} (hw : gX y0 cc nL ret hh kf G Qv E w) (hy : y0.cls = RX7) (hyn : y0.name = "<init>") {c : Nat} {q : Option Nat} (d : decode cc pc = .ok (.putfield 205, 3)) (hk : gk M c = 7) (kk : w (gsR M c 57 q) (pc + 3) lv rest) : w M pc lv (va_rf (q.map (gA G)) :: .ref (gA G c) :: rest) := by
  obtain ⟨cls9, nm9, ds9⟩ := y0
  subst hy
  exact g_putC (C := RX7) (T := TX7) (N := 58) (ci := 6) hw in_X7 tyX7 tyX7_ok nmX7 rfl 57 (by decide) (Or.inl ⟨q1213, Or.inr ⟨rfl, hyn, rfl⟩⟩) (by cases q <;> rfl) (by cases q <;> rfl) (gOne_R M c 57 q) (by show va_rf ((gR (gsR M c 57 q) c 57).map (gA G)) = _; rw [gR_sR, if_pos ⟨rfl, rfl⟩]) d hk kk
theorem pfX7_208 {y0 : MethodName} {cc : ByteArray} {nL : Nat} {ret : Option FieldType} {hh : List (Nat × Nat × Nat × Nat)} {kf : Nat} {G : gG} {Qv : Option Value → gM → Prop} {E : String → Nat → gM → Prop} {w : gM → Nat → List (Nat × Value) → List Value → Prop} {M : gM} {pc : Nat} {lv : List (Nat × Value)} {rest : List Value} (hw : gX y0 cc nL ret hh kf G Qv E w) (hy : y0.cls = RX7) {c : Nat} {x : Int32} (d : decode cc pc = .ok (.putfield 208, 3)) (hk : gk M c = 7) (kk : w (gsI M c 15 x) (pc + 3) lv rest) : w M pc lv (.int x :: .ref (gA G c) :: rest) := by
  obtain ⟨cls9, nm9, ds9⟩ := y0
  subst hy
  exact g_putC (C := RX7) (T := TX7) (N := 58) (ci := 6) hw in_X7 tyX7 tyX7_ok nmX7 rfl 15 (by decide) (Or.inl ⟨q1171, Or.inl rfl⟩) rfl rfl (gOne_I M c 15 x) (by show Value.int (gI (gsI M c 15 x) c 15) = _; rw [gI_sI, if_pos ⟨rfl, rfl⟩]) d hk kk
theorem gfX7_136 {y0 : MethodName} {cc : ByteArray} {nL : Nat} {ret : Option FieldType} {hh : List (Nat × Nat × Nat × Nat)} {kf : Nat} {G : gG} {Qv : Option Value → gM → Prop} {E : String → Nat → gM → Prop} {w : gM → Nat → List (Nat × Value) → List Value → Prop} {M : gM} {pc : Nat} {lv : List (Nat × Value)} {rest : List Value} (hw : gX y0 cc nL ret hh kf G Qv E w) (hy : y0.cls = RX7) {c : Nat} {q : Option Nat} (d : decode cc pc = .ok (.getfield 136, 3)) (hk : gk M c = 7) (hq : gR M c 31 = q) (kk : w M (pc + 3) lv (va_rf (q.map (gA G)) :: rest)) : w M pc lv (.ref (gA G c) :: rest) := by
  obtain ⟨cls9, nm9, ds9⟩ := y0
  subst hy
  subst hq
  exact g_getC (C := RX7) (T := TX7) (N := 58) (ci := 6) hw in_X7 rfl 31 (by decide) (Or.inl q1187) rfl d hk kk
theorem gfX7_172 {y0 : MethodName} {cc : ByteArray} {nL : Nat} {ret : Option FieldType} {hh : List (Nat × Nat × Nat × Nat)} {kf : Nat} {G : gG} {Qv : Option Value → gM → Prop} {E : String → Nat → gM → Prop} {w : gM → Nat → List (Nat × Value) → List Value → Prop} {M : gM} {pc : Nat} {lv : List (Nat × Value)} {rest : List Value} (hw : gX y0 cc nL ret hh kf G Qv E w) (hy : y0.cls = RX7) {c : Nat} {q : Option Nat} (d : decode cc pc = .ok (.getfield 172, 3)) (hk : gk M c = 7) (hq : gR M c 46 = q) (kk : w M (pc + 3) lv (va_rf (q.map (gA G)) :: rest)) : w M pc lv (.ref (gA G c) :: rest) := by
  obtain ⟨cls9, nm9, ds9⟩ := y0
  subst hy
  subst hq
  exact g_getC (C := RX7) (T := TX7) (N := 58) (ci := 6) hw in_X7 rfl 46 (by decide) (Or.inl q1202) rfl d hk kk
theorem gfX7_175 {y0 : MethodName} {cc : ByteArray} {nL : Nat} {ret : Option FieldType} {hh : List (Nat × Nat × Nat × Nat)} {kf : Nat} {G : gG} {Qv : Option Value → gM → Prop} {E : String → Nat → gM → Prop} {w : gM → Nat → List (Nat × Value) → List Value → Prop} {M : gM} {pc : Nat} {lv : List (Nat × Value)} {rest : List Value} (hw : gX y0 cc nL ret hh kf G Qv E w) (hy : y0.cls = RX7) {c : Nat} {q : Option Nat} (d : decode cc pc = .ok (.getfield 175, 3)) (hk : gk M c = 7) (hq : gR M c 47 = q) (kk : w M (pc + 3) lv (va_rf (q.map (gA G)) :: rest)) : w M pc lv (.ref (gA G c) :: rest) := by
  obtain ⟨cls9, nm9, ds9⟩ := y0
  subst hy
  subst hq
  exact g_getC (C := RX7) (T := TX7) (N := 58) (ci := 6) hw in_X7 rfl 47 (by decide) (Or.inl q1203) rfl d hk kk
theorem gfX7_178 {y0 : MethodName} {cc : ByteArray} {nL : Nat} {ret : Option FieldType} {hh : List (Nat × Nat × Nat × Nat)} {kf : Nat} {G : gG} {Qv : Option Value → gM → Prop} {E : String → Nat → gM → Prop} {w : gM → Nat → List (Nat × Value) → List Value → Prop} {M : gM} {pc : Nat} {lv : List (Nat × Value)} {rest : List Value} (hw : gX y0 cc nL ret hh kf G Qv E w) (hy : y0.cls = RX7) {c : Nat} {q : Option Nat} (d : decode cc pc = .ok (.getfield 178, 3)) (hk : gk M c = 7) (hq : gR M c 48 = q) (kk : w M (pc + 3) lv (va_rf (q.map (gA G)) :: rest)) : w M pc lv (.ref (gA G c) :: rest) := by
  obtain ⟨cls9, nm9, ds9⟩ := y0
  subst hy
  subst hq
  exact g_getC (C := RX7) (T := TX7) (N := 58) (ci := 6) hw in_X7 rfl 48 (by decide) (Or.inl q1204) rfl d hk kk
theorem gfX7_181 {y0 : MethodName} {cc : ByteArray} {nL : Nat} {ret : Option FieldType} {hh : List (Nat × Nat × Nat × Nat)} {kf : Nat} {G : gG} {Qv : Option Value → gM → Prop} {E : String → Nat → gM → Prop} {w : gM → Nat → List (Nat × Value) → List Value → Prop} {M : gM} {pc : Nat} {lv : List (Nat × Value)} {rest : List Value} (hw : gX y0 cc nL ret hh kf G Qv E w) (hy : y0.cls = RX7) {c : Nat} {q : Option Nat} (d : decode cc pc = .ok (.getfield 181, 3)) (hk : gk M c = 7) (hq : gR M c 49 = q) (kk : w M (pc + 3) lv (va_rf (q.map (gA G)) :: rest)) : w M pc lv (.ref (gA G c) :: rest) := by
  obtain ⟨cls9, nm9, ds9⟩ := y0
  subst hy
  subst hq
  exact g_getC (C := RX7) (T := TX7) (N := 58) (ci := 6) hw in_X7 rfl 49 (by decide) (Or.inl q1205) rfl d hk kk
def fX7_init_L604s (R604 : Int32 → gM → Prop) (K623_604 : gM → Prop) (l1_177 : Int32) (M : gM) (Q : gM → Prop) : Prop :=
  (if 20 ≤ l1_177 then K623_604 M else gk M 268 = 7 ∧ gdr (gR M 268 31) (fun a180 => gk M a180 = 40 ∧ vp_in l1_177 (gl M a180) ∧ R604 (l1_177 + 1) (gsI M a180 l1_177.toNatClampNeg (-1))))
def fX7_init_L604 (K623_604 : gM → Prop) (Q : gM → Prop) : Nat → Int32 → gM → Prop
  | 0 => fun _ _ => False
  | n + 1 => fun l1_177 M => fX7_init_L604s (fX7_init_L604 K623_604 Q n) K623_604 l1_177 M Q
theorem wX7_init_L604s {kf : Nat} {G : gG} {w : gM → Nat → List (Nat × Value) → List Value → Prop} {Q : gM → Prop} (hw : gX yX7_init cX7_init 2 (Option.none : Option FieldType) [] kf G (gQv Q) gE0 w) (hkf : 1 ≤ kf) {R604 : Int32 → gM → Prop} {K623_604 : gM → Prop} {l1_177 : Int32} {M : gM} (hR604 : ∀ (v0 : Int32) (M : gM), R604 v0 M → w M 604 [(0, .ref (gA G 268)), (1, .int v0)] []) (hK623_604 : ∀  (M : gM), K623_604 M → w M 623 [(0, .ref (gA G 268))] []) (h : fX7_init_L604s R604 K623_604 l1_177 M Q) : w M 604 [(0, .ref (gA G 268)), (1, .int l1_177)] [] := by
  unfold fX7_init_L604s at h
  refine g_iload_n hw 1 dX7_init_604 rfl ?_
  refine g_bipush (v := 20) hw dX7_init_605 (by decide) ?_
  refine g_icmp_ge (tgt := 623) hw dX7_init_607 (by decide) (fun hb178 => ?_) (fun hb178 => ?_)
  · have h := gT h hb178
    refine g_sub hw (lv2 := [(0, .ref (gA G 268))]) [0] rfl ?_
    exact hK623_604 M h
  · have h := gF h hb178
    refine g_aload_n hw 0 dX7_init_610 rfl ?_
    obtain ⟨hk179, h⟩ := h
    obtain ⟨a180, e181, h⟩ := h
    refine gfX7_136 (q := some a180) hw rfl dX7_init_611 hk179 e181 ?_
    refine g_iload_n hw 1 dX7_init_614 rfl ?_
    refine g_iconst (v := (-1)) hw dX7_init_615 (by decide) ?_
    obtain ⟨hk182, h⟩ := h
    obtain ⟨hi183, h⟩ := h
    refine g_iast (n := l1_177.toNatClampNeg) hw dX7_init_616 hk182 hi183 rfl ?_
    refine g_iinc hw (lv2 := [(0, .ref (gA G 268)), (1, .int (l1_177 + 1))]) 1 [1, 0] dX7_init_617 rfl (by decide) rfl rfl ?_
    refine g_goto (tgt := 604) hw dX7_init_620 (by decide) ?_
    exact hR604 (l1_177 + 1) (gsI M a180 l1_177.toNatClampNeg (-1)) h
theorem wX7_init_L604 {kf : Nat} {G : gG} {w : gM → Nat → List (Nat × Value) → List Value → Prop} {Q : gM → Prop} (hw : gX yX7_init cX7_init 2 (Option.none : Option FieldType) [] kf G (gQv Q) gE0 w) (hkf : 1 ≤ kf) {K623_604 : gM → Prop} (hK623_604 : ∀  (M : gM), K623_604 M → w M 623 [(0, .ref (gA G 268))] []) : ∀ (n : Nat) (l1_177 : Int32) (M : gM), fX7_init_L604 K623_604 Q n l1_177 M → w M 604 [(0, .ref (gA G 268)), (1, .int l1_177)] [] := by
  intro n
  induction n with
  | zero => intro l1_177 M h; exact h.elim
  | succ n ih => intro l1_177 M h; exact wX7_init_L604s hw hkf ih hK623_604 h
def fX7_init_L625s (R625 : Int32 → gM → Prop) (K665_625 : gM → Prop) (l1_185 : Int32) (M : gM) (Q : gM → Prop) : Prop :=
  (if 4 ≤ l1_185 then K665_625 M else gk M 268 = 7 ∧ gdr (gR M 268 46) (fun a188 => gk M a188 = 40 ∧ vp_in l1_185 (gl M a188) ∧ gdr (gR (gsI M a188 l1_185.toNatClampNeg (-1)) 268 47) (fun a192 => gk (gsI M a188 l1_185.toNatClampNeg (-1)) a192 = 40 ∧ vp_in l1_185 (gl (gsI M a188 l1_185.toNatClampNeg (-1)) a192) ∧ gdr (gR (gsI (gsI M a188 l1_185.toNatClampNeg (-1)) a192 l1_185.toNatClampNeg 0) 268 48) (fun a196 => gk (gsI (gsI M a188 l1_185.toNatClampNeg (-1)) a192 l1_185.toNatClampNeg 0) a196 = 40 ∧ vp_in l1_185 (gl (gsI (gsI M a188 l1_185.toNatClampNeg (-1)) a192 l1_185.toNatClampNeg 0) a196) ∧ gdr (gR (gsI (gsI (gsI M a188 l1_185.toNatClampNeg (-1)) a192 l1_185.toNatClampNeg 0) a196 l1_185.toNatClampNeg 11) 268 49) (fun a200 => gk (gsI (gsI (gsI M a188 l1_185.toNatClampNeg (-1)) a192 l1_185.toNatClampNeg 0) a196 l1_185.toNatClampNeg 11) a200 = 40 ∧ vp_in l1_185 (gl (gsI (gsI (gsI M a188 l1_185.toNatClampNeg (-1)) a192 l1_185.toNatClampNeg 0) a196 l1_185.toNatClampNeg 11) a200) ∧ R625 (l1_185 + 1) (gsI (gsI (gsI (gsI M a188 l1_185.toNatClampNeg (-1)) a192 l1_185.toNatClampNeg 0) a196 l1_185.toNatClampNeg 11) a200 l1_185.toNatClampNeg (-1)))))))
def fX7_init_L625 (K665_625 : gM → Prop) (Q : gM → Prop) : Nat → Int32 → gM → Prop
  | 0 => fun _ _ => False
  | n + 1 => fun l1_185 M => fX7_init_L625s (fX7_init_L625 K665_625 Q n) K665_625 l1_185 M Q
theorem wX7_init_L625s {kf : Nat} {G : gG} {w : gM → Nat → List (Nat × Value) → List Value → Prop} {Q : gM → Prop} (hw : gX yX7_init cX7_init 2 (Option.none : Option FieldType) [] kf G (gQv Q) gE0 w) (hkf : 1 ≤ kf) {R625 : Int32 → gM → Prop} {K665_625 : gM → Prop} {l1_185 : Int32} {M : gM} (hR625 : ∀ (v0 : Int32) (M : gM), R625 v0 M → w M 625 [(0, .ref (gA G 268)), (1, .int v0)] []) (hK665_625 : ∀  (M : gM), K665_625 M → w M 665 [] []) (h : fX7_init_L625s R625 K665_625 l1_185 M Q) : w M 625 [(0, .ref (gA G 268)), (1, .int l1_185)] [] := by
  unfold fX7_init_L625s at h
  refine g_iload_n hw 1 dX7_init_625 rfl ?_
  refine g_iconst (v := 4) hw dX7_init_626 (by decide) ?_
  refine g_icmp_ge (tgt := 665) hw dX7_init_627 (by decide) (fun hb186 => ?_) (fun hb186 => ?_)
  · have h := gT h hb186
    refine g_sub hw (lv2 := []) [] rfl ?_
    exact hK665_625 M h
  · have h := gF h hb186
    refine g_aload_n hw 0 dX7_init_630 rfl ?_
    obtain ⟨hk187, h⟩ := h
    obtain ⟨a188, e189, h⟩ := h
    refine gfX7_172 (q := some a188) hw rfl dX7_init_631 hk187 e189 ?_
    refine g_iload_n hw 1 dX7_init_634 rfl ?_
    refine g_iconst (v := (-1)) hw dX7_init_635 (by decide) ?_
    obtain ⟨hk190, h⟩ := h
    obtain ⟨hi191, h⟩ := h
    refine g_iast (n := l1_185.toNatClampNeg) hw dX7_init_636 hk190 hi191 rfl ?_
    refine g_aload_n hw 0 dX7_init_637 rfl ?_
    obtain ⟨a192, e193, h⟩ := h
    refine gfX7_175 (q := some a192) hw rfl dX7_init_638 hk187 e193 ?_
    refine g_iload_n hw 1 dX7_init_641 rfl ?_
    refine g_iconst (v := 0) hw dX7_init_642 (by decide) ?_
    obtain ⟨hk194, h⟩ := h
    obtain ⟨hi195, h⟩ := h
    refine g_iast (n := l1_185.toNatClampNeg) hw dX7_init_643 hk194 hi195 rfl ?_
    refine g_aload_n hw 0 dX7_init_644 rfl ?_
    obtain ⟨a196, e197, h⟩ := h
    refine gfX7_178 (q := some a196) hw rfl dX7_init_645 hk187 e197 ?_
    refine g_iload_n hw 1 dX7_init_648 rfl ?_
    refine g_bipush (v := 11) hw dX7_init_649 (by decide) ?_
    obtain ⟨hk198, h⟩ := h
    obtain ⟨hi199, h⟩ := h
    refine g_iast (n := l1_185.toNatClampNeg) hw dX7_init_651 hk198 hi199 rfl ?_
    refine g_aload_n hw 0 dX7_init_652 rfl ?_
    obtain ⟨a200, e201, h⟩ := h
    refine gfX7_181 (q := some a200) hw rfl dX7_init_653 hk187 e201 ?_
    refine g_iload_n hw 1 dX7_init_656 rfl ?_
    refine g_iconst (v := (-1)) hw dX7_init_657 (by decide) ?_
    obtain ⟨hk202, h⟩ := h
    obtain ⟨hi203, h⟩ := h
    refine g_iast (n := l1_185.toNatClampNeg) hw dX7_init_658 hk202 hi203 rfl ?_
    refine g_iinc hw (lv2 := [(0, .ref (gA G 268)), (1, .int (l1_185 + 1))]) 1 [1, 0] dX7_init_659 rfl (by decide) rfl rfl ?_
    refine g_goto (tgt := 625) hw dX7_init_662 (by decide) ?_
    exact hR625 (l1_185 + 1) (gsI (gsI (gsI (gsI M a188 l1_185.toNatClampNeg (-1)) a192 l1_185.toNatClampNeg 0) a196 l1_185.toNatClampNeg 11) a200 l1_185.toNatClampNeg (-1)) h
theorem wX7_init_L625 {kf : Nat} {G : gG} {w : gM → Nat → List (Nat × Value) → List Value → Prop} {Q : gM → Prop} (hw : gX yX7_init cX7_init 2 (Option.none : Option FieldType) [] kf G (gQv Q) gE0 w) (hkf : 1 ≤ kf) {K665_625 : gM → Prop} (hK665_625 : ∀  (M : gM), K665_625 M → w M 665 [] []) : ∀ (n : Nat) (l1_185 : Int32) (M : gM), fX7_init_L625 K665_625 Q n l1_185 M → w M 625 [(0, .ref (gA G 268)), (1, .int l1_185)] [] := by
  intro n
  induction n with
  | zero => intro l1_185 M h; exact h.elim
  | succ n ih => intro l1_185 M h; exact wX7_init_L625s hw hkf ih hK665_625 h
def fX7_init_b588  (M : gM) (Q : gM → Prop) : Prop :=
  gn M < gLC ∧ gs M + 6912 ≤ gLS ∧ gk (gnew M 40 6912 6912) 268 = 7 ∧ ∃ n, fX7_init_L604 (fun M184 => ∃ n, fX7_init_L625 (fun M204 => Q M204) Q n 0 M184) Q n 0 (gsI (gsR (gnew M 40 6912 6912) 268 57 (some (gn M))) 268 15 5)
theorem wX7_init_b588 {kf : Nat} {G : gG} {w : gM → Nat → List (Nat × Value) → List Value → Prop} {Q : gM → Prop} (hw : gX yX7_init cX7_init 2 (Option.none : Option FieldType) [] kf G (gQv Q) gE0 w) (hkf : 1 ≤ kf)   {M : gM}  (h : fX7_init_b588 M Q) : w M 588 [(0, .ref (gA G 268))] [] := by
  unfold fX7_init_b588 at h
  refine g_aload_n hw 0 dX7_init_588 rfl ?_
  refine g_sipush (v := 6912) hw dX7_init_589 (by decide) ?_
  obtain ⟨hc174, h⟩ := h
  obtain ⟨hc175, h⟩ := h
  refine g_newa (N := 6912) hw 0 dX7_init_592 q166 rfl (by decide) rfl (by decide) rfl (by decide) hc174 hc175 ?_
  obtain ⟨hk176, h⟩ := h
  refine pfX7_205 (q := some (gn M)) hw rfl rfl dX7_init_594 hk176 ?_
  refine g_aload_n hw 0 dX7_init_597 rfl ?_
  refine g_iconst (v := 5) hw dX7_init_598 (by decide) ?_
  refine pfX7_208 hw rfl dX7_init_599 hk176 ?_
  refine g_iconst (v := 0) hw dX7_init_602 (by decide) ?_
  refine g_istore_n hw (lv2 := [(0, .ref (gA G 268)), (1, .int 0)]) [1, 0] dX7_init_603 rfl rfl ?_
  obtain ⟨n9, h⟩ := h
  refine wX7_init_L604 hw hkf (fun M184 h => ?_) n9 0 (gsI (gsR (gnew M 40 6912 6912) 268 57 (some (gn M))) 268 15 5) h
  refine g_iconst (v := 0) hw dX7_init_623 (by decide) ?_
  refine g_istore_n hw (lv2 := [(0, .ref (gA G 268)), (1, .int 0)]) [1, 0] dX7_init_624 rfl rfl ?_
  obtain ⟨n9, h⟩ := h
  refine wX7_init_L625 hw hkf (fun M204 h => ?_) n9 0 M184 h
  exact g_vret hw dX7_init_665 ⟨rfl, h⟩
def fX7_init_b566  (M : gM) (Q : gM → Prop) : Prop :=
  gn M < gLC ∧ gs M + 9 ≤ gLS ∧ gk (gnew M 40 9 9) 268 = 7 ∧ gn (gsR (gnew M 40 9 9) 268 54 (some (gn M))) < gLC ∧ gs (gsR (gnew M 40 9 9) 268 54 (some (gn M))) + 4 ≤ gLS ∧ gk (gnew (gsR (gnew M 40 9 9) 268 54 (some (gn M))) 43 4 4) 268 = 7 ∧ gn (gsR (gnew (gsR (gnew M 40 9 9) 268 54 (some (gn M))) 43 4 4) 268 55 (some (gn (gsR (gnew M 40 9 9) 268 54 (some (gn M)))))) < gLC ∧ gs (gsR (gnew (gsR (gnew M 40 9 9) 268 54 (some (gn M))) 43 4 4) 268 55 (some (gn (gsR (gnew M 40 9 9) 268 54 (some (gn M)))))) + 4 ≤ gLS ∧ gk (gnew (gsR (gnew (gsR (gnew M 40 9 9) 268 54 (some (gn M))) 43 4 4) 268 55 (some (gn (gsR (gnew M 40 9 9) 268 54 (some (gn M)))))) 40 4 4) 268 = 7 ∧ fX7_init_b588 (gsR (gnew (gsR (gnew (gsR (gnew M 40 9 9) 268 54 (some (gn M))) 43 4 4) 268 55 (some (gn (gsR (gnew M 40 9 9) 268 54 (some (gn M)))))) 40 4 4) 268 56 (some (gn (gsR (gnew (gsR (gnew M 40 9 9) 268 54 (some (gn M))) 43 4 4) 268 55 (some (gn (gsR (gnew M 40 9 9) 268 54 (some (gn M))))))))) Q
theorem wX7_init_b566 {kf : Nat} {G : gG} {w : gM → Nat → List (Nat × Value) → List Value → Prop} {Q : gM → Prop} (hw : gX yX7_init cX7_init 2 (Option.none : Option FieldType) [] kf G (gQv Q) gE0 w) (hkf : 1 ≤ kf)   {M : gM}  (h : fX7_init_b566 M Q) : w M 566 [(0, .ref (gA G 268))] [] := by
  unfold fX7_init_b566 at h
  refine g_aload_n hw 0 dX7_init_566 rfl ?_
  refine g_bipush (v := 9) hw dX7_init_567 (by decide) ?_
  obtain ⟨hc165, h⟩ := h
  obtain ⟨hc166, h⟩ := h
  refine g_newa (N := 9) hw 0 dX7_init_569 q166 rfl (by decide) rfl (by decide) rfl (by decide) hc165 hc166 ?_
  obtain ⟨hk167, h⟩ := h
  refine pfX7_196 (q := some (gn M)) hw rfl rfl dX7_init_571 hk167 ?_
  refine g_aload_n hw 0 dX7_init_574 rfl ?_
  refine g_iconst (v := 4) hw dX7_init_575 (by decide) ?_
  obtain ⟨hc168, h⟩ := h
  obtain ⟨hc169, h⟩ := h
  refine g_newa (N := 4) hw 3 dX7_init_576 q234 rfl (by decide) rfl (by decide) rfl (by decide) hc168 hc169 ?_
  obtain ⟨hk170, h⟩ := h
  refine pfX7_199 (q := some (gn (gsR (gnew M 40 9 9) 268 54 (some (gn M))))) hw rfl rfl dX7_init_578 hk170 ?_
  refine g_aload_n hw 0 dX7_init_581 rfl ?_
  refine g_iconst (v := 4) hw dX7_init_582 (by decide) ?_
  obtain ⟨hc171, h⟩ := h
  obtain ⟨hc172, h⟩ := h
  refine g_newa (N := 4) hw 0 dX7_init_583 q166 rfl (by decide) rfl (by decide) rfl (by decide) hc171 hc172 ?_
  obtain ⟨hk173, h⟩ := h
  refine pfX7_202 (q := some (gn (gsR (gnew (gsR (gnew M 40 9 9) 268 54 (some (gn M))) 43 4 4) 268 55 (some (gn (gsR (gnew M 40 9 9) 268 54 (some (gn M)))))))) hw rfl rfl dX7_init_585 hk173 ?_
  exact wX7_init_b588 hw hkf h
def fX7_init_b540  (M : gM) (Q : gM → Prop) : Prop :=
  gn M < gLC ∧ gs M + 288 ≤ gLS ∧ gk (gnew M 40 288 288) 268 = 7 ∧ gn (gsR (gnew M 40 288 288) 268 51 (some (gn M))) < gLC ∧ gs (gsR (gnew M 40 288 288) 268 51 (some (gn M))) + 288 ≤ gLS ∧ gk (gnew (gsR (gnew M 40 288 288) 268 51 (some (gn M))) 40 288 288) 268 = 7 ∧ gn (gsR (gnew (gsR (gnew M 40 288 288) 268 51 (some (gn M))) 40 288 288) 268 52 (some (gn (gsR (gnew M 40 288 288) 268 51 (some (gn M)))))) < gLC ∧ gs (gsR (gnew (gsR (gnew M 40 288 288) 268 51 (some (gn M))) 40 288 288) 268 52 (some (gn (gsR (gnew M 40 288 288) 268 51 (some (gn M)))))) + 9 ≤ gLS ∧ gk (gnew (gsR (gnew (gsR (gnew M 40 288 288) 268 51 (some (gn M))) 40 288 288) 268 52 (some (gn (gsR (gnew M 40 288 288) 268 51 (some (gn M)))))) 40 9 9) 268 = 7 ∧ fX7_init_b566 (gsR (gnew (gsR (gnew (gsR (gnew M 40 288 288) 268 51 (some (gn M))) 40 288 288) 268 52 (some (gn (gsR (gnew M 40 288 288) 268 51 (some (gn M)))))) 40 9 9) 268 53 (some (gn (gsR (gnew (gsR (gnew M 40 288 288) 268 51 (some (gn M))) 40 288 288) 268 52 (some (gn (gsR (gnew M 40 288 288) 268 51 (some (gn M))))))))) Q
theorem wX7_init_b540 {kf : Nat} {G : gG} {w : gM → Nat → List (Nat × Value) → List Value → Prop} {Q : gM → Prop} (hw : gX yX7_init cX7_init 2 (Option.none : Option FieldType) [] kf G (gQv Q) gE0 w) (hkf : 1 ≤ kf)   {M : gM}  (h : fX7_init_b540 M Q) : w M 540 [(0, .ref (gA G 268))] [] := by
  unfold fX7_init_b540 at h
  refine g_aload_n hw 0 dX7_init_540 rfl ?_
  refine g_sipush (v := 288) hw dX7_init_541 (by decide) ?_
  obtain ⟨hc156, h⟩ := h
  obtain ⟨hc157, h⟩ := h
  refine g_newa (N := 288) hw 0 dX7_init_544 q166 rfl (by decide) rfl (by decide) rfl (by decide) hc156 hc157 ?_
  obtain ⟨hk158, h⟩ := h
  refine pfX7_187 (q := some (gn M)) hw rfl rfl dX7_init_546 hk158 ?_
  refine g_aload_n hw 0 dX7_init_549 rfl ?_
  refine g_sipush (v := 288) hw dX7_init_550 (by decide) ?_
  obtain ⟨hc159, h⟩ := h
  obtain ⟨hc160, h⟩ := h
  refine g_newa (N := 288) hw 0 dX7_init_553 q166 rfl (by decide) rfl (by decide) rfl (by decide) hc159 hc160 ?_
  obtain ⟨hk161, h⟩ := h
  refine pfX7_190 (q := some (gn (gsR (gnew M 40 288 288) 268 51 (some (gn M))))) hw rfl rfl dX7_init_555 hk161 ?_
  refine g_aload_n hw 0 dX7_init_558 rfl ?_
  refine g_bipush (v := 9) hw dX7_init_559 (by decide) ?_
  obtain ⟨hc162, h⟩ := h
  obtain ⟨hc163, h⟩ := h
  refine g_newa (N := 9) hw 0 dX7_init_561 q166 rfl (by decide) rfl (by decide) rfl (by decide) hc162 hc163 ?_
  obtain ⟨hk164, h⟩ := h
  refine pfX7_193 (q := some (gn (gsR (gnew (gsR (gnew M 40 288 288) 268 51 (some (gn M))) 40 288 288) 268 52 (some (gn (gsR (gnew M 40 288 288) 268 51 (some (gn M)))))))) hw rfl rfl dX7_init_563 hk164 ?_
  exact wX7_init_b566 hw hkf h
def fX7_init_b519  (M : gM) (Q : gM → Prop) : Prop :=
  gn M < gLC ∧ gs M + 4 ≤ gLS ∧ gk (gnew M 40 4 4) 268 = 7 ∧ gn (gsR (gnew M 40 4 4) 268 48 (some (gn M))) < gLC ∧ gs (gsR (gnew M 40 4 4) 268 48 (some (gn M))) + 4 ≤ gLS ∧ gk (gnew (gsR (gnew M 40 4 4) 268 48 (some (gn M))) 40 4 4) 268 = 7 ∧ gn (gsR (gnew (gsR (gnew M 40 4 4) 268 48 (some (gn M))) 40 4 4) 268 49 (some (gn (gsR (gnew M 40 4 4) 268 48 (some (gn M)))))) < gLC ∧ gs (gsR (gnew (gsR (gnew M 40 4 4) 268 48 (some (gn M))) 40 4 4) 268 49 (some (gn (gsR (gnew M 40 4 4) 268 48 (some (gn M)))))) + 4 ≤ gLS ∧ gk (gnew (gsR (gnew (gsR (gnew M 40 4 4) 268 48 (some (gn M))) 40 4 4) 268 49 (some (gn (gsR (gnew M 40 4 4) 268 48 (some (gn M)))))) 40 4 4) 268 = 7 ∧ fX7_init_b540 (gsR (gnew (gsR (gnew (gsR (gnew M 40 4 4) 268 48 (some (gn M))) 40 4 4) 268 49 (some (gn (gsR (gnew M 40 4 4) 268 48 (some (gn M)))))) 40 4 4) 268 50 (some (gn (gsR (gnew (gsR (gnew M 40 4 4) 268 48 (some (gn M))) 40 4 4) 268 49 (some (gn (gsR (gnew M 40 4 4) 268 48 (some (gn M))))))))) Q
theorem wX7_init_b519 {kf : Nat} {G : gG} {w : gM → Nat → List (Nat × Value) → List Value → Prop} {Q : gM → Prop} (hw : gX yX7_init cX7_init 2 (Option.none : Option FieldType) [] kf G (gQv Q) gE0 w) (hkf : 1 ≤ kf)   {M : gM}  (h : fX7_init_b519 M Q) : w M 519 [(0, .ref (gA G 268))] [] := by
  unfold fX7_init_b519 at h
  refine g_aload_n hw 0 dX7_init_519 rfl ?_
  refine g_iconst (v := 4) hw dX7_init_520 (by decide) ?_
  obtain ⟨hc147, h⟩ := h
  obtain ⟨hc148, h⟩ := h
  refine g_newa (N := 4) hw 0 dX7_init_521 q166 rfl (by decide) rfl (by decide) rfl (by decide) hc147 hc148 ?_
  obtain ⟨hk149, h⟩ := h
  refine pfX7_178 (q := some (gn M)) hw rfl rfl dX7_init_523 hk149 ?_
  refine g_aload_n hw 0 dX7_init_526 rfl ?_
  refine g_iconst (v := 4) hw dX7_init_527 (by decide) ?_
  obtain ⟨hc150, h⟩ := h
  obtain ⟨hc151, h⟩ := h
  refine g_newa (N := 4) hw 0 dX7_init_528 q166 rfl (by decide) rfl (by decide) rfl (by decide) hc150 hc151 ?_
  obtain ⟨hk152, h⟩ := h
  refine pfX7_181 (q := some (gn (gsR (gnew M 40 4 4) 268 48 (some (gn M))))) hw rfl rfl dX7_init_530 hk152 ?_
  refine g_aload_n hw 0 dX7_init_533 rfl ?_
  refine g_iconst (v := 4) hw dX7_init_534 (by decide) ?_
  obtain ⟨hc153, h⟩ := h
  obtain ⟨hc154, h⟩ := h
  refine g_newa (N := 4) hw 0 dX7_init_535 q166 rfl (by decide) rfl (by decide) rfl (by decide) hc153 hc154 ?_
  obtain ⟨hk155, h⟩ := h
  refine pfX7_184 (q := some (gn (gsR (gnew (gsR (gnew M 40 4 4) 268 48 (some (gn M))) 40 4 4) 268 49 (some (gn (gsR (gnew M 40 4 4) 268 48 (some (gn M)))))))) hw rfl rfl dX7_init_537 hk155 ?_
  exact wX7_init_b540 hw hkf h
def fX7_init_b497  (M : gM) (Q : gM → Prop) : Prop :=
  gn M < gLC ∧ gs M + 20 ≤ gLS ∧ gk (gnew M 43 20 20) 268 = 7 ∧ gn (gsR (gnew M 43 20 20) 268 44 (some (gn M))) < gLC ∧ gs (gsR (gnew M 43 20 20) 268 44 (some (gn M))) + 4 ≤ gLS ∧ gk (gnew (gsR (gnew M 43 20 20) 268 44 (some (gn M))) 40 4 4) 268 = 7 ∧ gn (gsR (gnew (gsR (gnew M 43 20 20) 268 44 (some (gn M))) 40 4 4) 268 46 (some (gn (gsR (gnew M 43 20 20) 268 44 (some (gn M)))))) < gLC ∧ gs (gsR (gnew (gsR (gnew M 43 20 20) 268 44 (some (gn M))) 40 4 4) 268 46 (some (gn (gsR (gnew M 43 20 20) 268 44 (some (gn M)))))) + 4 ≤ gLS ∧ gk (gnew (gsR (gnew (gsR (gnew M 43 20 20) 268 44 (some (gn M))) 40 4 4) 268 46 (some (gn (gsR (gnew M 43 20 20) 268 44 (some (gn M)))))) 40 4 4) 268 = 7 ∧ fX7_init_b519 (gsR (gnew (gsR (gnew (gsR (gnew M 43 20 20) 268 44 (some (gn M))) 40 4 4) 268 46 (some (gn (gsR (gnew M 43 20 20) 268 44 (some (gn M)))))) 40 4 4) 268 47 (some (gn (gsR (gnew (gsR (gnew M 43 20 20) 268 44 (some (gn M))) 40 4 4) 268 46 (some (gn (gsR (gnew M 43 20 20) 268 44 (some (gn M))))))))) Q
theorem wX7_init_b497 {kf : Nat} {G : gG} {w : gM → Nat → List (Nat × Value) → List Value → Prop} {Q : gM → Prop} (hw : gX yX7_init cX7_init 2 (Option.none : Option FieldType) [] kf G (gQv Q) gE0 w) (hkf : 1 ≤ kf)   {M : gM}  (h : fX7_init_b497 M Q) : w M 497 [(0, .ref (gA G 268))] [] := by
  unfold fX7_init_b497 at h
  refine g_aload_n hw 0 dX7_init_497 rfl ?_
  refine g_bipush (v := 20) hw dX7_init_498 (by decide) ?_
  obtain ⟨hc138, h⟩ := h
  obtain ⟨hc139, h⟩ := h
  refine g_newa (N := 20) hw 3 dX7_init_500 q234 rfl (by decide) rfl (by decide) rfl (by decide) hc138 hc139 ?_
  obtain ⟨hk140, h⟩ := h
  refine pfX7_169 (q := some (gn M)) hw rfl rfl dX7_init_502 hk140 ?_
  refine g_aload_n hw 0 dX7_init_505 rfl ?_
  refine g_iconst (v := 4) hw dX7_init_506 (by decide) ?_
  obtain ⟨hc141, h⟩ := h
  obtain ⟨hc142, h⟩ := h
  refine g_newa (N := 4) hw 0 dX7_init_507 q166 rfl (by decide) rfl (by decide) rfl (by decide) hc141 hc142 ?_
  obtain ⟨hk143, h⟩ := h
  refine pfX7_172 (q := some (gn (gsR (gnew M 43 20 20) 268 44 (some (gn M))))) hw rfl rfl dX7_init_509 hk143 ?_
  refine g_aload_n hw 0 dX7_init_512 rfl ?_
  refine g_iconst (v := 4) hw dX7_init_513 (by decide) ?_
  obtain ⟨hc144, h⟩ := h
  obtain ⟨hc145, h⟩ := h
  refine g_newa (N := 4) hw 0 dX7_init_514 q166 rfl (by decide) rfl (by decide) rfl (by decide) hc144 hc145 ?_
  obtain ⟨hk146, h⟩ := h
  refine pfX7_175 (q := some (gn (gsR (gnew (gsR (gnew M 43 20 20) 268 44 (some (gn M))) 40 4 4) 268 46 (some (gn (gsR (gnew M 43 20 20) 268 44 (some (gn M)))))))) hw rfl rfl dX7_init_516 hk146 ?_
  exact wX7_init_b519 hw hkf h
def fX7_init_b472  (M : gM) (Q : gM → Prop) : Prop :=
  gn M < gLC ∧ gs M + 288 ≤ gLS ∧ gk (gnew M 43 288 288) 268 = 7 ∧ gn (gsR (gnew M 43 288 288) 268 40 (some (gn M))) < gLC ∧ gs (gsR (gnew M 43 288 288) 268 40 (some (gn M))) + 20 ≤ gLS ∧ gk (gnew (gsR (gnew M 43 288 288) 268 40 (some (gn M))) 40 20 20) 268 = 7 ∧ gn (gsR (gnew (gsR (gnew M 43 288 288) 268 40 (some (gn M))) 40 20 20) 268 42 (some (gn (gsR (gnew M 43 288 288) 268 40 (some (gn M)))))) < gLC ∧ gs (gsR (gnew (gsR (gnew M 43 288 288) 268 40 (some (gn M))) 40 20 20) 268 42 (some (gn (gsR (gnew M 43 288 288) 268 40 (some (gn M)))))) + 20 ≤ gLS ∧ gk (gnew (gsR (gnew (gsR (gnew M 43 288 288) 268 40 (some (gn M))) 40 20 20) 268 42 (some (gn (gsR (gnew M 43 288 288) 268 40 (some (gn M)))))) 40 20 20) 268 = 7 ∧ fX7_init_b497 (gsR (gnew (gsR (gnew (gsR (gnew M 43 288 288) 268 40 (some (gn M))) 40 20 20) 268 42 (some (gn (gsR (gnew M 43 288 288) 268 40 (some (gn M)))))) 40 20 20) 268 43 (some (gn (gsR (gnew (gsR (gnew M 43 288 288) 268 40 (some (gn M))) 40 20 20) 268 42 (some (gn (gsR (gnew M 43 288 288) 268 40 (some (gn M))))))))) Q
theorem wX7_init_b472 {kf : Nat} {G : gG} {w : gM → Nat → List (Nat × Value) → List Value → Prop} {Q : gM → Prop} (hw : gX yX7_init cX7_init 2 (Option.none : Option FieldType) [] kf G (gQv Q) gE0 w) (hkf : 1 ≤ kf)   {M : gM}  (h : fX7_init_b472 M Q) : w M 472 [(0, .ref (gA G 268))] [] := by
  unfold fX7_init_b472 at h
  refine g_aload_n hw 0 dX7_init_472 rfl ?_
  refine g_sipush (v := 288) hw dX7_init_473 (by decide) ?_
  obtain ⟨hc129, h⟩ := h
  obtain ⟨hc130, h⟩ := h
  refine g_newa (N := 288) hw 3 dX7_init_476 q234 rfl (by decide) rfl (by decide) rfl (by decide) hc129 hc130 ?_
  obtain ⟨hk131, h⟩ := h
  refine pfX7_160 (q := some (gn M)) hw rfl rfl dX7_init_478 hk131 ?_
  refine g_aload_n hw 0 dX7_init_481 rfl ?_
  refine g_bipush (v := 20) hw dX7_init_482 (by decide) ?_
  obtain ⟨hc132, h⟩ := h
  obtain ⟨hc133, h⟩ := h
  refine g_newa (N := 20) hw 0 dX7_init_484 q166 rfl (by decide) rfl (by decide) rfl (by decide) hc132 hc133 ?_
  obtain ⟨hk134, h⟩ := h
  refine pfX7_163 (q := some (gn (gsR (gnew M 43 288 288) 268 40 (some (gn M))))) hw rfl rfl dX7_init_486 hk134 ?_
  refine g_aload_n hw 0 dX7_init_489 rfl ?_
  refine g_bipush (v := 20) hw dX7_init_490 (by decide) ?_
  obtain ⟨hc135, h⟩ := h
  obtain ⟨hc136, h⟩ := h
  refine g_newa (N := 20) hw 0 dX7_init_492 q166 rfl (by decide) rfl (by decide) rfl (by decide) hc135 hc136 ?_
  obtain ⟨hk137, h⟩ := h
  refine pfX7_166 (q := some (gn (gsR (gnew (gsR (gnew M 43 288 288) 268 40 (some (gn M))) 40 20 20) 268 42 (some (gn (gsR (gnew M 43 288 288) 268 40 (some (gn M)))))))) hw rfl rfl dX7_init_494 hk137 ?_
  exact wX7_init_b497 hw hkf h
def fX7_init_b445  (M : gM) (Q : gM → Prop) : Prop :=
  gn M < gLC ∧ gs M + 1100 ≤ gLS ∧ gk (gnew M 40 1100 1100) 268 = 7 ∧ gn (gsR (gnew M 40 1100 1100) 268 37 (some (gn M))) < gLC ∧ gs (gsR (gnew M 40 1100 1100) 268 37 (some (gn M))) + 288 ≤ gLS ∧ gk (gnew (gsR (gnew M 40 1100 1100) 268 37 (some (gn M))) 40 288 288) 268 = 7 ∧ gn (gsR (gnew (gsR (gnew M 40 1100 1100) 268 37 (some (gn M))) 40 288 288) 268 38 (some (gn (gsR (gnew M 40 1100 1100) 268 37 (some (gn M)))))) < gLC ∧ gs (gsR (gnew (gsR (gnew M 40 1100 1100) 268 37 (some (gn M))) 40 288 288) 268 38 (some (gn (gsR (gnew M 40 1100 1100) 268 37 (some (gn M)))))) + 288 ≤ gLS ∧ gk (gnew (gsR (gnew (gsR (gnew M 40 1100 1100) 268 37 (some (gn M))) 40 288 288) 268 38 (some (gn (gsR (gnew M 40 1100 1100) 268 37 (some (gn M)))))) 40 288 288) 268 = 7 ∧ fX7_init_b472 (gsR (gnew (gsR (gnew (gsR (gnew M 40 1100 1100) 268 37 (some (gn M))) 40 288 288) 268 38 (some (gn (gsR (gnew M 40 1100 1100) 268 37 (some (gn M)))))) 40 288 288) 268 39 (some (gn (gsR (gnew (gsR (gnew M 40 1100 1100) 268 37 (some (gn M))) 40 288 288) 268 38 (some (gn (gsR (gnew M 40 1100 1100) 268 37 (some (gn M))))))))) Q
theorem wX7_init_b445 {kf : Nat} {G : gG} {w : gM → Nat → List (Nat × Value) → List Value → Prop} {Q : gM → Prop} (hw : gX yX7_init cX7_init 2 (Option.none : Option FieldType) [] kf G (gQv Q) gE0 w) (hkf : 1 ≤ kf)   {M : gM}  (h : fX7_init_b445 M Q) : w M 445 [(0, .ref (gA G 268))] [] := by
  unfold fX7_init_b445 at h
  refine g_aload_n hw 0 dX7_init_445 rfl ?_
  refine g_sipush (v := 1100) hw dX7_init_446 (by decide) ?_
  obtain ⟨hc120, h⟩ := h
  obtain ⟨hc121, h⟩ := h
  refine g_newa (N := 1100) hw 0 dX7_init_449 q166 rfl (by decide) rfl (by decide) rfl (by decide) hc120 hc121 ?_
  obtain ⟨hk122, h⟩ := h
  refine pfX7_151 (q := some (gn M)) hw rfl rfl dX7_init_451 hk122 ?_
  refine g_aload_n hw 0 dX7_init_454 rfl ?_
  refine g_sipush (v := 288) hw dX7_init_455 (by decide) ?_
  obtain ⟨hc123, h⟩ := h
  obtain ⟨hc124, h⟩ := h
  refine g_newa (N := 288) hw 0 dX7_init_458 q166 rfl (by decide) rfl (by decide) rfl (by decide) hc123 hc124 ?_
  obtain ⟨hk125, h⟩ := h
  refine pfX7_154 (q := some (gn (gsR (gnew M 40 1100 1100) 268 37 (some (gn M))))) hw rfl rfl dX7_init_460 hk125 ?_
  refine g_aload_n hw 0 dX7_init_463 rfl ?_
  refine g_sipush (v := 288) hw dX7_init_464 (by decide) ?_
  obtain ⟨hc126, h⟩ := h
  obtain ⟨hc127, h⟩ := h
  refine g_newa (N := 288) hw 0 dX7_init_467 q166 rfl (by decide) rfl (by decide) rfl (by decide) hc126 hc127 ?_
  obtain ⟨hk128, h⟩ := h
  refine pfX7_157 (q := some (gn (gsR (gnew (gsR (gnew M 40 1100 1100) 268 37 (some (gn M))) 40 288 288) 268 38 (some (gn (gsR (gnew M 40 1100 1100) 268 37 (some (gn M)))))))) hw rfl rfl dX7_init_469 hk128 ?_
  exact wX7_init_b472 hw hkf h
def fX7_init_b402 (s1_108 : Nat) (M : gM) (Q : gM → Prop) : Prop :=
  gk M s1_108 = 40 ∧ vp_in 3 (gl M s1_108) ∧ vp_in 4 (gl (gsI M s1_108 3 23) s1_108) ∧ vp_in 5 (gl (gsI (gsI M s1_108 3 23) s1_108 4 24) s1_108) ∧ vp_in 6 (gl (gsI (gsI (gsI M s1_108 3 23) s1_108 4 24) s1_108 5 2) s1_108) ∧ vp_in 7 (gl (gsI (gsI (gsI (gsI M s1_108 3 23) s1_108 4 24) s1_108 5 2) s1_108 6 25) s1_108) ∧ vp_in 8 (gl (gsI (gsI (gsI (gsI (gsI M s1_108 3 23) s1_108 4 24) s1_108 5 2) s1_108 6 25) s1_108 7 26) s1_108) ∧ gk (gsI (gsI (gsI (gsI (gsI (gsI M s1_108 3 23) s1_108 4 24) s1_108 5 2) s1_108 6 25) s1_108 7 26) s1_108 8 27) 268 = 7 ∧ gn (gsR (gsI (gsI (gsI (gsI (gsI (gsI M s1_108 3 23) s1_108 4 24) s1_108 5 2) s1_108 6 25) s1_108 7 26) s1_108 8 27) 268 35 (some s1_108)) < gLC ∧ gs (gsR (gsI (gsI (gsI (gsI (gsI (gsI M s1_108 3 23) s1_108 4 24) s1_108 5 2) s1_108 6 25) s1_108 7 26) s1_108 8 27) 268 35 (some s1_108)) + 10 ≤ gLS ∧ gk (gnew (gsR (gsI (gsI (gsI (gsI (gsI (gsI M s1_108 3 23) s1_108 4 24) s1_108 5 2) s1_108 6 25) s1_108 7 26) s1_108 8 27) 268 35 (some s1_108)) 40 10 10) 268 = 7 ∧ fX7_init_b445 (gsR (gnew (gsR (gsI (gsI (gsI (gsI (gsI (gsI M s1_108 3 23) s1_108 4 24) s1_108 5 2) s1_108 6 25) s1_108 7 26) s1_108 8 27) 268 35 (some s1_108)) 40 10 10) 268 36 (some (gn (gsR (gsI (gsI (gsI (gsI (gsI (gsI M s1_108 3 23) s1_108 4 24) s1_108 5 2) s1_108 6 25) s1_108 7 26) s1_108 8 27) 268 35 (some s1_108))))) Q
theorem wX7_init_b402 {kf : Nat} {G : gG} {w : gM → Nat → List (Nat × Value) → List Value → Prop} {Q : gM → Prop} (hw : gX yX7_init cX7_init 2 (Option.none : Option FieldType) [] kf G (gQv Q) gE0 w) (hkf : 1 ≤ kf)  {s1_108 : Nat} {M : gM}  (h : fX7_init_b402 s1_108 M Q) : w M 402 [(0, .ref (gA G 268))] [.ref (gA G s1_108), .ref (gA G 268)] := by
  unfold fX7_init_b402 at h
  refine g_dup hw dX7_init_402 rfl ?_
  refine g_iconst (v := 3) hw dX7_init_403 (by decide) ?_
  refine g_bipush (v := 23) hw dX7_init_404 (by decide) ?_
  obtain ⟨hk109, h⟩ := h
  obtain ⟨hi110, h⟩ := h
  refine g_iast (n := 3) hw dX7_init_406 hk109 hi110 rfl ?_
  refine g_dup hw dX7_init_407 rfl ?_
  refine g_iconst (v := 4) hw dX7_init_408 (by decide) ?_
  refine g_bipush (v := 24) hw dX7_init_409 (by decide) ?_
  obtain ⟨hi111, h⟩ := h
  refine g_iast (n := 4) hw dX7_init_411 hk109 hi111 rfl ?_
  refine g_dup hw dX7_init_412 rfl ?_
  refine g_iconst (v := 5) hw dX7_init_413 (by decide) ?_
  refine g_iconst (v := 2) hw dX7_init_414 (by decide) ?_
  obtain ⟨hi112, h⟩ := h
  refine g_iast (n := 5) hw dX7_init_415 hk109 hi112 rfl ?_
  refine g_dup hw dX7_init_416 rfl ?_
  refine g_bipush (v := 6) hw dX7_init_417 (by decide) ?_
  refine g_bipush (v := 25) hw dX7_init_419 (by decide) ?_
  obtain ⟨hi113, h⟩ := h
  refine g_iast (n := 6) hw dX7_init_421 hk109 hi113 rfl ?_
  refine g_dup hw dX7_init_422 rfl ?_
  refine g_bipush (v := 7) hw dX7_init_423 (by decide) ?_
  refine g_bipush (v := 26) hw dX7_init_425 (by decide) ?_
  obtain ⟨hi114, h⟩ := h
  refine g_iast (n := 7) hw dX7_init_427 hk109 hi114 rfl ?_
  refine g_dup hw dX7_init_428 rfl ?_
  refine g_bipush (v := 8) hw dX7_init_429 (by decide) ?_
  refine g_bipush (v := 27) hw dX7_init_431 (by decide) ?_
  obtain ⟨hi115, h⟩ := h
  refine g_iast (n := 8) hw dX7_init_433 hk109 hi115 rfl ?_
  obtain ⟨hk116, h⟩ := h
  refine pfX7_145 (q := some s1_108) hw rfl rfl dX7_init_434 hk116 ?_
  refine g_aload_n hw 0 dX7_init_437 rfl ?_
  refine g_bipush (v := 10) hw dX7_init_438 (by decide) ?_
  obtain ⟨hc117, h⟩ := h
  obtain ⟨hc118, h⟩ := h
  refine g_newa (N := 10) hw 0 dX7_init_440 q166 rfl (by decide) rfl (by decide) rfl (by decide) hc117 hc118 ?_
  obtain ⟨hk119, h⟩ := h
  refine pfX7_148 (q := some (gn (gsR (gsI (gsI (gsI (gsI (gsI (gsI M s1_108 3 23) s1_108 4 24) s1_108 5 2) s1_108 6 25) s1_108 7 26) s1_108 8 27) 268 35 (some s1_108)))) hw rfl rfl dX7_init_442 hk119 ?_
  exact wX7_init_b445 hw hkf h
def fX7_init_b373  (M : gM) (Q : gM → Prop) : Prop :=
  gn M < gLC ∧ gs M + 9900 ≤ gLS ∧ gk (gnew M 40 9900 9900) 268 = 7 ∧ gn (gsR (gnew M 40 9900 9900) 268 34 (some (gn M))) < gLC ∧ gs (gsR (gnew M 40 9900 9900) 268 34 (some (gn M))) + 9 ≤ gLS ∧ gk (gnew (gsR (gnew M 40 9900 9900) 268 34 (some (gn M))) 40 9 9) (gn (gsR (gnew M 40 9900 9900) 268 34 (some (gn M)))) = 40 ∧ vp_in 0 (gl (gnew (gsR (gnew M 40 9900 9900) 268 34 (some (gn M))) 40 9 9) (gn (gsR (gnew M 40 9900 9900) 268 34 (some (gn M))))) ∧ vp_in 1 (gl (gsI (gnew (gsR (gnew M 40 9900 9900) 268 34 (some (gn M))) 40 9 9) (gn (gsR (gnew M 40 9900 9900) 268 34 (some (gn M)))) 0 13) (gn (gsR (gnew M 40 9900 9900) 268 34 (some (gn M))))) ∧ vp_in 2 (gl (gsI (gsI (gnew (gsR (gnew M 40 9900 9900) 268 34 (some (gn M))) 40 9 9) (gn (gsR (gnew M 40 9900 9900) 268 34 (some (gn M)))) 0 13) (gn (gsR (gnew M 40 9900 9900) 268 34 (some (gn M)))) 1 10) (gn (gsR (gnew M 40 9900 9900) 268 34 (some (gn M))))) ∧ fX7_init_b402 (gn (gsR (gnew M 40 9900 9900) 268 34 (some (gn M)))) (gsI (gsI (gsI (gnew (gsR (gnew M 40 9900 9900) 268 34 (some (gn M))) 40 9 9) (gn (gsR (gnew M 40 9900 9900) 268 34 (some (gn M)))) 0 13) (gn (gsR (gnew M 40 9900 9900) 268 34 (some (gn M)))) 1 10) (gn (gsR (gnew M 40 9900 9900) 268 34 (some (gn M)))) 2 22) Q
theorem wX7_init_b373 {kf : Nat} {G : gG} {w : gM → Nat → List (Nat × Value) → List Value → Prop} {Q : gM → Prop} (hw : gX yX7_init cX7_init 2 (Option.none : Option FieldType) [] kf G (gQv Q) gE0 w) (hkf : 1 ≤ kf)   {M : gM}  (h : fX7_init_b373 M Q) : w M 373 [(0, .ref (gA G 268))] [] := by
  unfold fX7_init_b373 at h
  refine g_aload_n hw 0 dX7_init_373 rfl ?_
  refine g_sipush (v := 9900) hw dX7_init_374 (by decide) ?_
  obtain ⟨hc99, h⟩ := h
  obtain ⟨hc100, h⟩ := h
  refine g_newa (N := 9900) hw 0 dX7_init_377 q166 rfl (by decide) rfl (by decide) rfl (by decide) hc99 hc100 ?_
  obtain ⟨hk101, h⟩ := h
  refine pfX7_142 (q := some (gn M)) hw rfl rfl dX7_init_379 hk101 ?_
  refine g_aload_n hw 0 dX7_init_382 rfl ?_
  refine g_bipush (v := 9) hw dX7_init_383 (by decide) ?_
  obtain ⟨hc102, h⟩ := h
  obtain ⟨hc103, h⟩ := h
  refine g_newa (N := 9) hw 0 dX7_init_385 q166 rfl (by decide) rfl (by decide) rfl (by decide) hc102 hc103 ?_
  refine g_dup hw dX7_init_387 rfl ?_
  refine g_iconst (v := 0) hw dX7_init_388 (by decide) ?_
  refine g_bipush (v := 13) hw dX7_init_389 (by decide) ?_
  obtain ⟨hk104, h⟩ := h
  obtain ⟨hi105, h⟩ := h
  refine g_iast (n := 0) hw dX7_init_391 hk104 hi105 rfl ?_
  refine g_dup hw dX7_init_392 rfl ?_
  refine g_iconst (v := 1) hw dX7_init_393 (by decide) ?_
  refine g_bipush (v := 10) hw dX7_init_394 (by decide) ?_
  obtain ⟨hi106, h⟩ := h
  refine g_iast (n := 1) hw dX7_init_396 hk104 hi106 rfl ?_
  refine g_dup hw dX7_init_397 rfl ?_
  refine g_iconst (v := 2) hw dX7_init_398 (by decide) ?_
  refine g_bipush (v := 22) hw dX7_init_399 (by decide) ?_
  obtain ⟨hi107, h⟩ := h
  refine g_iast (n := 2) hw dX7_init_401 hk104 hi107 rfl ?_
  exact wX7_init_b402 hw hkf h
def fX7_init_b348  (M : gM) (Q : gM → Prop) : Prop :=
  gn M < gLC ∧ gs M + 24 ≤ gLS ∧ gk (gnew M 40 24 24) 268 = 7 ∧ gn (gsR (gnew M 40 24 24) 268 30 (some (gn M))) < gLC ∧ gs (gsR (gnew M 40 24 24) 268 30 (some (gn M))) + 20 ≤ gLS ∧ gk (gnew (gsR (gnew M 40 24 24) 268 30 (some (gn M))) 40 20 20) 268 = 7 ∧ gn (gsR (gnew (gsR (gnew M 40 24 24) 268 30 (some (gn M))) 40 20 20) 268 31 (some (gn (gsR (gnew M 40 24 24) 268 30 (some (gn M)))))) < gLC ∧ gs (gsR (gnew (gsR (gnew M 40 24 24) 268 30 (some (gn M))) 40 20 20) 268 31 (some (gn (gsR (gnew M 40 24 24) 268 30 (some (gn M)))))) + 9900 ≤ gLS ∧ gk (gnew (gsR (gnew (gsR (gnew M 40 24 24) 268 30 (some (gn M))) 40 20 20) 268 31 (some (gn (gsR (gnew M 40 24 24) 268 30 (some (gn M)))))) 40 9900 9900) 268 = 7 ∧ fX7_init_b373 (gsR (gnew (gsR (gnew (gsR (gnew M 40 24 24) 268 30 (some (gn M))) 40 20 20) 268 31 (some (gn (gsR (gnew M 40 24 24) 268 30 (some (gn M)))))) 40 9900 9900) 268 33 (some (gn (gsR (gnew (gsR (gnew M 40 24 24) 268 30 (some (gn M))) 40 20 20) 268 31 (some (gn (gsR (gnew M 40 24 24) 268 30 (some (gn M))))))))) Q
theorem wX7_init_b348 {kf : Nat} {G : gG} {w : gM → Nat → List (Nat × Value) → List Value → Prop} {Q : gM → Prop} (hw : gX yX7_init cX7_init 2 (Option.none : Option FieldType) [] kf G (gQv Q) gE0 w) (hkf : 1 ≤ kf)   {M : gM}  (h : fX7_init_b348 M Q) : w M 348 [(0, .ref (gA G 268))] [] := by
  unfold fX7_init_b348 at h
  refine g_aload_n hw 0 dX7_init_348 rfl ?_
  refine g_bipush (v := 24) hw dX7_init_349 (by decide) ?_
  obtain ⟨hc90, h⟩ := h
  obtain ⟨hc91, h⟩ := h
  refine g_newa (N := 24) hw 0 dX7_init_351 q166 rfl (by decide) rfl (by decide) rfl (by decide) hc90 hc91 ?_
  obtain ⟨hk92, h⟩ := h
  refine pfX7_133 (q := some (gn M)) hw rfl rfl dX7_init_353 hk92 ?_
  refine g_aload_n hw 0 dX7_init_356 rfl ?_
  refine g_bipush (v := 20) hw dX7_init_357 (by decide) ?_
  obtain ⟨hc93, h⟩ := h
  obtain ⟨hc94, h⟩ := h
  refine g_newa (N := 20) hw 0 dX7_init_359 q166 rfl (by decide) rfl (by decide) rfl (by decide) hc93 hc94 ?_
  obtain ⟨hk95, h⟩ := h
  refine pfX7_136 (q := some (gn (gsR (gnew M 40 24 24) 268 30 (some (gn M))))) hw rfl rfl dX7_init_361 hk95 ?_
  refine g_aload_n hw 0 dX7_init_364 rfl ?_
  refine g_sipush (v := 9900) hw dX7_init_365 (by decide) ?_
  obtain ⟨hc96, h⟩ := h
  obtain ⟨hc97, h⟩ := h
  refine g_newa (N := 9900) hw 0 dX7_init_368 q166 rfl (by decide) rfl (by decide) rfl (by decide) hc96 hc97 ?_
  obtain ⟨hk98, h⟩ := h
  refine pfX7_139 (q := some (gn (gsR (gnew (gsR (gnew M 40 24 24) 268 30 (some (gn M))) 40 20 20) 268 31 (some (gn (gsR (gnew M 40 24 24) 268 30 (some (gn M)))))))) hw rfl rfl dX7_init_370 hk98 ?_
  exact wX7_init_b373 hw hkf h
def fX7_init_b321  (M : gM) (Q : gM → Prop) : Prop :=
  gn M < gLC ∧ gs M + 288 ≤ gLS ∧ gk (gnew M 40 288 288) 268 = 7 ∧ gn (gsR (gnew M 40 288 288) 268 21 (some (gn M))) < gLC ∧ gs (gsR (gnew M 40 288 288) 268 21 (some (gn M))) + 288 ≤ gLS ∧ gk (gnew (gsR (gnew M 40 288 288) 268 21 (some (gn M))) 40 288 288) 268 = 7 ∧ gn (gsR (gnew (gsR (gnew M 40 288 288) 268 21 (some (gn M))) 40 288 288) 268 22 (some (gn (gsR (gnew M 40 288 288) 268 21 (some (gn M)))))) < gLC ∧ gs (gsR (gnew (gsR (gnew M 40 288 288) 268 21 (some (gn M))) 40 288 288) 268 22 (some (gn (gsR (gnew M 40 288 288) 268 21 (some (gn M)))))) + 288 ≤ gLS ∧ gk (gnew (gsR (gnew (gsR (gnew M 40 288 288) 268 21 (some (gn M))) 40 288 288) 268 22 (some (gn (gsR (gnew M 40 288 288) 268 21 (some (gn M)))))) 40 288 288) 268 = 7 ∧ fX7_init_b348 (gsR (gnew (gsR (gnew (gsR (gnew M 40 288 288) 268 21 (some (gn M))) 40 288 288) 268 22 (some (gn (gsR (gnew M 40 288 288) 268 21 (some (gn M)))))) 40 288 288) 268 23 (some (gn (gsR (gnew (gsR (gnew M 40 288 288) 268 21 (some (gn M))) 40 288 288) 268 22 (some (gn (gsR (gnew M 40 288 288) 268 21 (some (gn M))))))))) Q
theorem wX7_init_b321 {kf : Nat} {G : gG} {w : gM → Nat → List (Nat × Value) → List Value → Prop} {Q : gM → Prop} (hw : gX yX7_init cX7_init 2 (Option.none : Option FieldType) [] kf G (gQv Q) gE0 w) (hkf : 1 ≤ kf)   {M : gM}  (h : fX7_init_b321 M Q) : w M 321 [(0, .ref (gA G 268))] [] := by
  unfold fX7_init_b321 at h
  refine g_aload_n hw 0 dX7_init_321 rfl ?_
  refine g_sipush (v := 288) hw dX7_init_322 (by decide) ?_
  obtain ⟨hc81, h⟩ := h
  obtain ⟨hc82, h⟩ := h
  refine g_newa (N := 288) hw 0 dX7_init_325 q166 rfl (by decide) rfl (by decide) rfl (by decide) hc81 hc82 ?_
  obtain ⟨hk83, h⟩ := h
  refine pfX7_124 (q := some (gn M)) hw rfl rfl dX7_init_327 hk83 ?_
  refine g_aload_n hw 0 dX7_init_330 rfl ?_
  refine g_sipush (v := 288) hw dX7_init_331 (by decide) ?_
  obtain ⟨hc84, h⟩ := h
  obtain ⟨hc85, h⟩ := h
  refine g_newa (N := 288) hw 0 dX7_init_334 q166 rfl (by decide) rfl (by decide) rfl (by decide) hc84 hc85 ?_
  obtain ⟨hk86, h⟩ := h
  refine pfX7_127 (q := some (gn (gsR (gnew M 40 288 288) 268 21 (some (gn M))))) hw rfl rfl dX7_init_336 hk86 ?_
  refine g_aload_n hw 0 dX7_init_339 rfl ?_
  refine g_sipush (v := 288) hw dX7_init_340 (by decide) ?_
  obtain ⟨hc87, h⟩ := h
  obtain ⟨hc88, h⟩ := h
  refine g_newa (N := 288) hw 0 dX7_init_343 q166 rfl (by decide) rfl (by decide) rfl (by decide) hc87 hc88 ?_
  obtain ⟨hk89, h⟩ := h
  refine pfX7_130 (q := some (gn (gsR (gnew (gsR (gnew M 40 288 288) 268 21 (some (gn M))) 40 288 288) 268 22 (some (gn (gsR (gnew M 40 288 288) 268 21 (some (gn M)))))))) hw rfl rfl dX7_init_345 hk89 ?_
  exact wX7_init_b348 hw hkf h
def fX7_init_b294  (M : gM) (Q : gM → Prop) : Prop :=
  gn M < gLC ∧ gs M + 288 ≤ gLS ∧ gk (gnew M 40 288 288) 268 = 7 ∧ gn (gsR (gnew M 40 288 288) 268 18 (some (gn M))) < gLC ∧ gs (gsR (gnew M 40 288 288) 268 18 (some (gn M))) + 288 ≤ gLS ∧ gk (gnew (gsR (gnew M 40 288 288) 268 18 (some (gn M))) 40 288 288) 268 = 7 ∧ gn (gsR (gnew (gsR (gnew M 40 288 288) 268 18 (some (gn M))) 40 288 288) 268 19 (some (gn (gsR (gnew M 40 288 288) 268 18 (some (gn M)))))) < gLC ∧ gs (gsR (gnew (gsR (gnew M 40 288 288) 268 18 (some (gn M))) 40 288 288) 268 19 (some (gn (gsR (gnew M 40 288 288) 268 18 (some (gn M)))))) + 288 ≤ gLS ∧ gk (gnew (gsR (gnew (gsR (gnew M 40 288 288) 268 18 (some (gn M))) 40 288 288) 268 19 (some (gn (gsR (gnew M 40 288 288) 268 18 (some (gn M)))))) 40 288 288) 268 = 7 ∧ fX7_init_b321 (gsR (gnew (gsR (gnew (gsR (gnew M 40 288 288) 268 18 (some (gn M))) 40 288 288) 268 19 (some (gn (gsR (gnew M 40 288 288) 268 18 (some (gn M)))))) 40 288 288) 268 20 (some (gn (gsR (gnew (gsR (gnew M 40 288 288) 268 18 (some (gn M))) 40 288 288) 268 19 (some (gn (gsR (gnew M 40 288 288) 268 18 (some (gn M))))))))) Q
theorem wX7_init_b294 {kf : Nat} {G : gG} {w : gM → Nat → List (Nat × Value) → List Value → Prop} {Q : gM → Prop} (hw : gX yX7_init cX7_init 2 (Option.none : Option FieldType) [] kf G (gQv Q) gE0 w) (hkf : 1 ≤ kf)   {M : gM}  (h : fX7_init_b294 M Q) : w M 294 [(0, .ref (gA G 268))] [] := by
  unfold fX7_init_b294 at h
  refine g_aload_n hw 0 dX7_init_294 rfl ?_
  refine g_sipush (v := 288) hw dX7_init_295 (by decide) ?_
  obtain ⟨hc72, h⟩ := h
  obtain ⟨hc73, h⟩ := h
  refine g_newa (N := 288) hw 0 dX7_init_298 q166 rfl (by decide) rfl (by decide) rfl (by decide) hc72 hc73 ?_
  obtain ⟨hk74, h⟩ := h
  refine pfX7_115 (q := some (gn M)) hw rfl rfl dX7_init_300 hk74 ?_
  refine g_aload_n hw 0 dX7_init_303 rfl ?_
  refine g_sipush (v := 288) hw dX7_init_304 (by decide) ?_
  obtain ⟨hc75, h⟩ := h
  obtain ⟨hc76, h⟩ := h
  refine g_newa (N := 288) hw 0 dX7_init_307 q166 rfl (by decide) rfl (by decide) rfl (by decide) hc75 hc76 ?_
  obtain ⟨hk77, h⟩ := h
  refine pfX7_118 (q := some (gn (gsR (gnew M 40 288 288) 268 18 (some (gn M))))) hw rfl rfl dX7_init_309 hk77 ?_
  refine g_aload_n hw 0 dX7_init_312 rfl ?_
  refine g_sipush (v := 288) hw dX7_init_313 (by decide) ?_
  obtain ⟨hc78, h⟩ := h
  obtain ⟨hc79, h⟩ := h
  refine g_newa (N := 288) hw 0 dX7_init_316 q166 rfl (by decide) rfl (by decide) rfl (by decide) hc78 hc79 ?_
  obtain ⟨hk80, h⟩ := h
  refine pfX7_121 (q := some (gn (gsR (gnew (gsR (gnew M 40 288 288) 268 18 (some (gn M))) 40 288 288) 268 19 (some (gn (gsR (gnew M 40 288 288) 268 18 (some (gn M)))))))) hw rfl rfl dX7_init_318 hk80 ?_
  exact wX7_init_b321 hw hkf h
def fX7_init_b270  (M : gM) (Q : gM → Prop) : Prop :=
  gn M < gLC ∧ gs M + 24 ≤ gLS ∧ gk (gnew M 43 24 24) 268 = 7 ∧ gn (gsR (gnew M 43 24 24) 268 14 (some (gn M))) < gLC ∧ gs (gsR (gnew M 43 24 24) 268 14 (some (gn M))) + 24 ≤ gLS ∧ gk (gnew (gsR (gnew M 43 24 24) 268 14 (some (gn M))) 40 24 24) 268 = 7 ∧ gn (gsR (gnew (gsR (gnew M 43 24 24) 268 14 (some (gn M))) 40 24 24) 268 16 (some (gn (gsR (gnew M 43 24 24) 268 14 (some (gn M)))))) < gLC ∧ gs (gsR (gnew (gsR (gnew M 43 24 24) 268 14 (some (gn M))) 40 24 24) 268 16 (some (gn (gsR (gnew M 43 24 24) 268 14 (some (gn M)))))) + 24 ≤ gLS ∧ gk (gnew (gsR (gnew (gsR (gnew M 43 24 24) 268 14 (some (gn M))) 40 24 24) 268 16 (some (gn (gsR (gnew M 43 24 24) 268 14 (some (gn M)))))) 40 24 24) 268 = 7 ∧ fX7_init_b294 (gsR (gnew (gsR (gnew (gsR (gnew M 43 24 24) 268 14 (some (gn M))) 40 24 24) 268 16 (some (gn (gsR (gnew M 43 24 24) 268 14 (some (gn M)))))) 40 24 24) 268 17 (some (gn (gsR (gnew (gsR (gnew M 43 24 24) 268 14 (some (gn M))) 40 24 24) 268 16 (some (gn (gsR (gnew M 43 24 24) 268 14 (some (gn M))))))))) Q
theorem wX7_init_b270 {kf : Nat} {G : gG} {w : gM → Nat → List (Nat × Value) → List Value → Prop} {Q : gM → Prop} (hw : gX yX7_init cX7_init 2 (Option.none : Option FieldType) [] kf G (gQv Q) gE0 w) (hkf : 1 ≤ kf)   {M : gM}  (h : fX7_init_b270 M Q) : w M 270 [(0, .ref (gA G 268))] [] := by
  unfold fX7_init_b270 at h
  refine g_aload_n hw 0 dX7_init_270 rfl ?_
  refine g_bipush (v := 24) hw dX7_init_271 (by decide) ?_
  obtain ⟨hc63, h⟩ := h
  obtain ⟨hc64, h⟩ := h
  refine g_newa (N := 24) hw 3 dX7_init_273 q234 rfl (by decide) rfl (by decide) rfl (by decide) hc63 hc64 ?_
  obtain ⟨hk65, h⟩ := h
  refine pfX7_106 (q := some (gn M)) hw rfl rfl dX7_init_275 hk65 ?_
  refine g_aload_n hw 0 dX7_init_278 rfl ?_
  refine g_bipush (v := 24) hw dX7_init_279 (by decide) ?_
  obtain ⟨hc66, h⟩ := h
  obtain ⟨hc67, h⟩ := h
  refine g_newa (N := 24) hw 0 dX7_init_281 q166 rfl (by decide) rfl (by decide) rfl (by decide) hc66 hc67 ?_
  obtain ⟨hk68, h⟩ := h
  refine pfX7_109 (q := some (gn (gsR (gnew M 43 24 24) 268 14 (some (gn M))))) hw rfl rfl dX7_init_283 hk68 ?_
  refine g_aload_n hw 0 dX7_init_286 rfl ?_
  refine g_bipush (v := 24) hw dX7_init_287 (by decide) ?_
  obtain ⟨hc69, h⟩ := h
  obtain ⟨hc70, h⟩ := h
  refine g_newa (N := 24) hw 0 dX7_init_289 q166 rfl (by decide) rfl (by decide) rfl (by decide) hc69 hc70 ?_
  obtain ⟨hk71, h⟩ := h
  refine pfX7_112 (q := some (gn (gsR (gnew (gsR (gnew M 43 24 24) 268 14 (some (gn M))) 40 24 24) 268 16 (some (gn (gsR (gnew M 43 24 24) 268 14 (some (gn M)))))))) hw rfl rfl dX7_init_291 hk71 ?_
  exact wX7_init_b294 hw hkf h
def fX7_init_b246  (M : gM) (Q : gM → Prop) : Prop :=
  gn M < gLC ∧ gs M + 24 ≤ gLS ∧ gk (gnew M 40 24 24) 268 = 7 ∧ gn (gsR (gnew M 40 24 24) 268 11 (some (gn M))) < gLC ∧ gs (gsR (gnew M 40 24 24) 268 11 (some (gn M))) + 24 ≤ gLS ∧ gk (gnew (gsR (gnew M 40 24 24) 268 11 (some (gn M))) 40 24 24) 268 = 7 ∧ gn (gsR (gnew (gsR (gnew M 40 24 24) 268 11 (some (gn M))) 40 24 24) 268 12 (some (gn (gsR (gnew M 40 24 24) 268 11 (some (gn M)))))) < gLC ∧ gs (gsR (gnew (gsR (gnew M 40 24 24) 268 11 (some (gn M))) 40 24 24) 268 12 (some (gn (gsR (gnew M 40 24 24) 268 11 (some (gn M)))))) + 24 ≤ gLS ∧ gk (gnew (gsR (gnew (gsR (gnew M 40 24 24) 268 11 (some (gn M))) 40 24 24) 268 12 (some (gn (gsR (gnew M 40 24 24) 268 11 (some (gn M)))))) 40 24 24) 268 = 7 ∧ fX7_init_b270 (gsR (gnew (gsR (gnew (gsR (gnew M 40 24 24) 268 11 (some (gn M))) 40 24 24) 268 12 (some (gn (gsR (gnew M 40 24 24) 268 11 (some (gn M)))))) 40 24 24) 268 13 (some (gn (gsR (gnew (gsR (gnew M 40 24 24) 268 11 (some (gn M))) 40 24 24) 268 12 (some (gn (gsR (gnew M 40 24 24) 268 11 (some (gn M))))))))) Q
theorem wX7_init_b246 {kf : Nat} {G : gG} {w : gM → Nat → List (Nat × Value) → List Value → Prop} {Q : gM → Prop} (hw : gX yX7_init cX7_init 2 (Option.none : Option FieldType) [] kf G (gQv Q) gE0 w) (hkf : 1 ≤ kf)   {M : gM}  (h : fX7_init_b246 M Q) : w M 246 [(0, .ref (gA G 268))] [] := by
  unfold fX7_init_b246 at h
  refine g_aload_n hw 0 dX7_init_246 rfl ?_
  refine g_bipush (v := 24) hw dX7_init_247 (by decide) ?_
  obtain ⟨hc54, h⟩ := h
  obtain ⟨hc55, h⟩ := h
  refine g_newa (N := 24) hw 0 dX7_init_249 q166 rfl (by decide) rfl (by decide) rfl (by decide) hc54 hc55 ?_
  obtain ⟨hk56, h⟩ := h
  refine pfX7_97 (q := some (gn M)) hw rfl rfl dX7_init_251 hk56 ?_
  refine g_aload_n hw 0 dX7_init_254 rfl ?_
  refine g_bipush (v := 24) hw dX7_init_255 (by decide) ?_
  obtain ⟨hc57, h⟩ := h
  obtain ⟨hc58, h⟩ := h
  refine g_newa (N := 24) hw 0 dX7_init_257 q166 rfl (by decide) rfl (by decide) rfl (by decide) hc57 hc58 ?_
  obtain ⟨hk59, h⟩ := h
  refine pfX7_100 (q := some (gn (gsR (gnew M 40 24 24) 268 11 (some (gn M))))) hw rfl rfl dX7_init_259 hk59 ?_
  refine g_aload_n hw 0 dX7_init_262 rfl ?_
  refine g_bipush (v := 24) hw dX7_init_263 (by decide) ?_
  obtain ⟨hc60, h⟩ := h
  obtain ⟨hc61, h⟩ := h
  refine g_newa (N := 24) hw 0 dX7_init_265 q166 rfl (by decide) rfl (by decide) rfl (by decide) hc60 hc61 ?_
  obtain ⟨hk62, h⟩ := h
  refine pfX7_103 (q := some (gn (gsR (gnew (gsR (gnew M 40 24 24) 268 11 (some (gn M))) 40 24 24) 268 12 (some (gn (gsR (gnew M 40 24 24) 268 11 (some (gn M)))))))) hw rfl rfl dX7_init_267 hk62 ?_
  exact wX7_init_b270 hw hkf h
def fX7_init_b214 (s1_45 : Nat) (M : gM) (Q : gM → Prop) : Prop :=
  gk M s1_45 = 41 ∧ vp_in 25 (gl M s1_45) ∧ vp_in 26 (gl (gsL M s1_45 25 4537388) s1_45) ∧ vp_in 27 (gl (gsL (gsL M s1_45 25 4537388) s1_45 26 15063274) s1_45) ∧ gk (gsL (gsL (gsL M s1_45 25 4537388) s1_45 26 15063274) s1_45 27 1010834209) 268 = 7 ∧ gn (gsR (gsL (gsL (gsL M s1_45 25 4537388) s1_45 26 15063274) s1_45 27 1010834209) 268 9 (some s1_45)) < gLC ∧ gs (gsR (gsL (gsL (gsL M s1_45 25 4537388) s1_45 26 15063274) s1_45 27 1010834209) 268 9 (some s1_45)) + 24 ≤ gLS ∧ gk (gnew (gsR (gsL (gsL (gsL M s1_45 25 4537388) s1_45 26 15063274) s1_45 27 1010834209) 268 9 (some s1_45)) 43 24 24) 268 = 7 ∧ fX7_init_b246 (gsR (gnew (gsR (gsL (gsL (gsL M s1_45 25 4537388) s1_45 26 15063274) s1_45 27 1010834209) 268 9 (some s1_45)) 43 24 24) 268 10 (some (gn (gsR (gsL (gsL (gsL M s1_45 25 4537388) s1_45 26 15063274) s1_45 27 1010834209) 268 9 (some s1_45))))) Q
theorem wX7_init_b214 {kf : Nat} {G : gG} {w : gM → Nat → List (Nat × Value) → List Value → Prop} {Q : gM → Prop} (hw : gX yX7_init cX7_init 2 (Option.none : Option FieldType) [] kf G (gQv Q) gE0 w) (hkf : 1 ≤ kf)  {s1_45 : Nat} {M : gM}  (h : fX7_init_b214 s1_45 M Q) : w M 214 [(0, .ref (gA G 268))] [.ref (gA G s1_45), .ref (gA G 268)] := by
  unfold fX7_init_b214 at h
  refine g_dup hw dX7_init_214 rfl ?_
  refine g_bipush (v := 25) hw dX7_init_215 (by decide) ?_
  refine g_ldc2 hw dX7_init_217 q1153 ?_
  obtain ⟨hk46, h⟩ := h
  obtain ⟨hi47, h⟩ := h
  refine g_last (n := 25) hw dX7_init_220 hk46 hi47 rfl ?_
  refine g_dup hw dX7_init_221 rfl ?_
  refine g_bipush (v := 26) hw dX7_init_222 (by decide) ?_
  refine g_ldc2 hw dX7_init_224 q1154 ?_
  obtain ⟨hi48, h⟩ := h
  refine g_last (n := 26) hw dX7_init_227 hk46 hi48 rfl ?_
  refine g_dup hw dX7_init_228 rfl ?_
  refine g_bipush (v := 27) hw dX7_init_229 (by decide) ?_
  refine g_ldc2 hw dX7_init_231 q1155 ?_
  obtain ⟨hi49, h⟩ := h
  refine g_last (n := 27) hw dX7_init_234 hk46 hi49 rfl ?_
  obtain ⟨hk50, h⟩ := h
  refine pfX7_90 (q := some s1_45) hw rfl rfl dX7_init_235 hk50 ?_
  refine g_aload_n hw 0 dX7_init_238 rfl ?_
  refine g_bipush (v := 24) hw dX7_init_239 (by decide) ?_
  obtain ⟨hc51, h⟩ := h
  obtain ⟨hc52, h⟩ := h
  refine g_newa (N := 24) hw 3 dX7_init_241 q234 rfl (by decide) rfl (by decide) rfl (by decide) hc51 hc52 ?_
  obtain ⟨hk53, h⟩ := h
  refine pfX7_93 (q := some (gn (gsR (gsL (gsL (gsL M s1_45 25 4537388) s1_45 26 15063274) s1_45 27 1010834209) 268 9 (some s1_45)))) hw rfl rfl dX7_init_243 hk53 ?_
  exact wX7_init_b246 hw hkf h
def fX7_init_b137 (s1_32 : Nat) (M : gM) (Q : gM → Prop) : Prop :=
  gk M s1_32 = 41 ∧ vp_in 14 (gl M s1_32) ∧ vp_in 15 (gl (gsL M s1_32 14 25143802) s1_32) ∧ vp_in 16 (gl (gsL (gsL M s1_32 14 25143802) s1_32 15 38396496) s1_32) ∧ vp_in 17 (gl (gsL (gsL (gsL M s1_32 14 25143802) s1_32 15 38396496) s1_32 16 227314) s1_32) ∧ vp_in 18 (gl (gsL (gsL (gsL (gsL M s1_32 14 25143802) s1_32 15 38396496) s1_32 16 227314) s1_32 17 31543) s1_32) ∧ vp_in 19 (gl (gsL (gsL (gsL (gsL (gsL M s1_32 14 25143802) s1_32 15 38396496) s1_32 16 227314) s1_32 17 31543) s1_32 18 1014841) s1_32) ∧ vp_in 20 (gl (gsL (gsL (gsL (gsL (gsL (gsL M s1_32 14 25143802) s1_32 15 38396496) s1_32 16 227314) s1_32 17 31543) s1_32 18 1014841) s1_32 19 329128) s1_32) ∧ vp_in 21 (gl (gsL (gsL (gsL (gsL (gsL (gsL (gsL M s1_32 14 25143802) s1_32 15 38396496) s1_32 16 227314) s1_32 17 31543) s1_32 18 1014841) s1_32 19 329128) s1_32 20 755) s1_32) ∧ vp_in 22 (gl (gsL (gsL (gsL (gsL (gsL (gsL (gsL (gsL M s1_32 14 25143802) s1_32 15 38396496) s1_32 16 227314) s1_32 17 31543) s1_32 18 1014841) s1_32 19 329128) s1_32 20 755) s1_32 21 1396986782) s1_32) ∧ vp_in 23 (gl (gsL (gsL (gsL (gsL (gsL (gsL (gsL (gsL (gsL M s1_32 14 25143802) s1_32 15 38396496) s1_32 16 227314) s1_32 17 31543) s1_32 18 1014841) s1_32 19 329128) s1_32 20 755) s1_32 21 1396986782) s1_32 22 679747) s1_32) ∧ vp_in 24 (gl (gsL (gsL (gsL (gsL (gsL (gsL (gsL (gsL (gsL (gsL M s1_32 14 25143802) s1_32 15 38396496) s1_32 16 227314) s1_32 17 31543) s1_32 18 1014841) s1_32 19 329128) s1_32 20 755) s1_32 21 1396986782) s1_32 22 679747) s1_32 23 223811164) s1_32) ∧ fX7_init_b214 s1_32 (gsL (gsL (gsL (gsL (gsL (gsL (gsL (gsL (gsL (gsL (gsL M s1_32 14 25143802) s1_32 15 38396496) s1_32 16 227314) s1_32 17 31543) s1_32 18 1014841) s1_32 19 329128) s1_32 20 755) s1_32 21 1396986782) s1_32 22 679747) s1_32 23 223811164) s1_32 24 1335017851) Q
theorem wX7_init_b137 {kf : Nat} {G : gG} {w : gM → Nat → List (Nat × Value) → List Value → Prop} {Q : gM → Prop} (hw : gX yX7_init cX7_init 2 (Option.none : Option FieldType) [] kf G (gQv Q) gE0 w) (hkf : 1 ≤ kf)  {s1_32 : Nat} {M : gM}  (h : fX7_init_b137 s1_32 M Q) : w M 137 [(0, .ref (gA G 268))] [.ref (gA G s1_32), .ref (gA G 268)] := by
  unfold fX7_init_b137 at h
  refine g_dup hw dX7_init_137 rfl ?_
  refine g_bipush (v := 14) hw dX7_init_138 (by decide) ?_
  refine g_ldc2 hw dX7_init_140 q1142 ?_
  obtain ⟨hk33, h⟩ := h
  obtain ⟨hi34, h⟩ := h
  refine g_last (n := 14) hw dX7_init_143 hk33 hi34 rfl ?_
  refine g_dup hw dX7_init_144 rfl ?_
  refine g_bipush (v := 15) hw dX7_init_145 (by decide) ?_
  refine g_ldc2 hw dX7_init_147 q1143 ?_
  obtain ⟨hi35, h⟩ := h
  refine g_last (n := 15) hw dX7_init_150 hk33 hi35 rfl ?_
  refine g_dup hw dX7_init_151 rfl ?_
  refine g_bipush (v := 16) hw dX7_init_152 (by decide) ?_
  refine g_ldc2 hw dX7_init_154 q1144 ?_
  obtain ⟨hi36, h⟩ := h
  refine g_last (n := 16) hw dX7_init_157 hk33 hi36 rfl ?_
  refine g_dup hw dX7_init_158 rfl ?_
  refine g_bipush (v := 17) hw dX7_init_159 (by decide) ?_
  refine g_ldc2 hw dX7_init_161 q1145 ?_
  obtain ⟨hi37, h⟩ := h
  refine g_last (n := 17) hw dX7_init_164 hk33 hi37 rfl ?_
  refine g_dup hw dX7_init_165 rfl ?_
  refine g_bipush (v := 18) hw dX7_init_166 (by decide) ?_
  refine g_ldc2 hw dX7_init_168 q1146 ?_
  obtain ⟨hi38, h⟩ := h
  refine g_last (n := 18) hw dX7_init_171 hk33 hi38 rfl ?_
  refine g_dup hw dX7_init_172 rfl ?_
  refine g_bipush (v := 19) hw dX7_init_173 (by decide) ?_
  refine g_ldc2 hw dX7_init_175 q1147 ?_
  obtain ⟨hi39, h⟩ := h
  refine g_last (n := 19) hw dX7_init_178 hk33 hi39 rfl ?_
  refine g_dup hw dX7_init_179 rfl ?_
  refine g_bipush (v := 20) hw dX7_init_180 (by decide) ?_
  refine g_ldc2 hw dX7_init_182 q1148 ?_
  obtain ⟨hi40, h⟩ := h
  refine g_last (n := 20) hw dX7_init_185 hk33 hi40 rfl ?_
  refine g_dup hw dX7_init_186 rfl ?_
  refine g_bipush (v := 21) hw dX7_init_187 (by decide) ?_
  refine g_ldc2 hw dX7_init_189 q1149 ?_
  obtain ⟨hi41, h⟩ := h
  refine g_last (n := 21) hw dX7_init_192 hk33 hi41 rfl ?_
  refine g_dup hw dX7_init_193 rfl ?_
  refine g_bipush (v := 22) hw dX7_init_194 (by decide) ?_
  refine g_ldc2 hw dX7_init_196 q1150 ?_
  obtain ⟨hi42, h⟩ := h
  refine g_last (n := 22) hw dX7_init_199 hk33 hi42 rfl ?_
  refine g_dup hw dX7_init_200 rfl ?_
  refine g_bipush (v := 23) hw dX7_init_201 (by decide) ?_
  refine g_ldc2 hw dX7_init_203 q1151 ?_
  obtain ⟨hi43, h⟩ := h
  refine g_last (n := 23) hw dX7_init_206 hk33 hi43 rfl ?_
  refine g_dup hw dX7_init_207 rfl ?_
  refine g_bipush (v := 24) hw dX7_init_208 (by decide) ?_
  refine g_ldc2 hw dX7_init_210 q1152 ?_
  obtain ⟨hi44, h⟩ := h
  refine g_last (n := 24) hw dX7_init_213 hk33 hi44 rfl ?_
  exact wX7_init_b214 hw hkf h
def fX7_init_b63 (s1_19 : Nat) (M : gM) (Q : gM → Prop) : Prop :=
  gk M s1_19 = 41 ∧ vp_in 3 (gl M s1_19) ∧ vp_in 4 (gl (gsL M s1_19 3 28930245) s1_19) ∧ vp_in 5 (gl (gsL (gsL M s1_19 3 28930245) s1_19 4 1176170) s1_19) ∧ vp_in 6 (gl (gsL (gsL (gsL M s1_19 3 28930245) s1_19 4 1176170) s1_19 5 1891) s1_19) ∧ vp_in 7 (gl (gsL (gsL (gsL (gsL M s1_19 3 28930245) s1_19 4 1176170) s1_19 5 1891) s1_19 6 573) s1_19) ∧ vp_in 8 (gl (gsL (gsL (gsL (gsL (gsL M s1_19 3 28930245) s1_19 4 1176170) s1_19 5 1891) s1_19 6 573) s1_19 7 19741) s1_19) ∧ vp_in 9 (gl (gsL (gsL (gsL (gsL (gsL (gsL M s1_19 3 28930245) s1_19 4 1176170) s1_19 5 1891) s1_19 6 573) s1_19 7 19741) s1_19 8 43531911) s1_19) ∧ vp_in 10 (gl (gsL (gsL (gsL (gsL (gsL (gsL (gsL M s1_19 3 28930245) s1_19 4 1176170) s1_19 5 1891) s1_19 6 573) s1_19 7 19741) s1_19 8 43531911) s1_19 9 407043) s1_19) ∧ vp_in 11 (gl (gsL (gsL (gsL (gsL (gsL (gsL (gsL (gsL M s1_19 3 28930245) s1_19 4 1176170) s1_19 5 1891) s1_19 6 573) s1_19 7 19741) s1_19 8 43531911) s1_19 9 407043) s1_19 10 1166652) s1_19) ∧ vp_in 12 (gl (gsL (gsL (gsL (gsL (gsL (gsL (gsL (gsL (gsL M s1_19 3 28930245) s1_19 4 1176170) s1_19 5 1891) s1_19 6 573) s1_19 7 19741) s1_19 8 43531911) s1_19 9 407043) s1_19 10 1166652) s1_19 11 11873910) s1_19) ∧ vp_in 13 (gl (gsL (gsL (gsL (gsL (gsL (gsL (gsL (gsL (gsL (gsL M s1_19 3 28930245) s1_19 4 1176170) s1_19 5 1891) s1_19 6 573) s1_19 7 19741) s1_19 8 43531911) s1_19 9 407043) s1_19 10 1166652) s1_19 11 11873910) s1_19 12 9636) s1_19) ∧ fX7_init_b137 s1_19 (gsL (gsL (gsL (gsL (gsL (gsL (gsL (gsL (gsL (gsL (gsL M s1_19 3 28930245) s1_19 4 1176170) s1_19 5 1891) s1_19 6 573) s1_19 7 19741) s1_19 8 43531911) s1_19 9 407043) s1_19 10 1166652) s1_19 11 11873910) s1_19 12 9636) s1_19 13 103204) Q
theorem wX7_init_b63 {kf : Nat} {G : gG} {w : gM → Nat → List (Nat × Value) → List Value → Prop} {Q : gM → Prop} (hw : gX yX7_init cX7_init 2 (Option.none : Option FieldType) [] kf G (gQv Q) gE0 w) (hkf : 1 ≤ kf)  {s1_19 : Nat} {M : gM}  (h : fX7_init_b63 s1_19 M Q) : w M 63 [(0, .ref (gA G 268))] [.ref (gA G s1_19), .ref (gA G 268)] := by
  unfold fX7_init_b63 at h
  refine g_dup hw dX7_init_63 rfl ?_
  refine g_iconst (v := 3) hw dX7_init_64 (by decide) ?_
  refine g_ldc2 hw dX7_init_65 q1131 ?_
  obtain ⟨hk20, h⟩ := h
  obtain ⟨hi21, h⟩ := h
  refine g_last (n := 3) hw dX7_init_68 hk20 hi21 rfl ?_
  refine g_dup hw dX7_init_69 rfl ?_
  refine g_iconst (v := 4) hw dX7_init_70 (by decide) ?_
  refine g_ldc2 hw dX7_init_71 q1132 ?_
  obtain ⟨hi22, h⟩ := h
  refine g_last (n := 4) hw dX7_init_74 hk20 hi22 rfl ?_
  refine g_dup hw dX7_init_75 rfl ?_
  refine g_iconst (v := 5) hw dX7_init_76 (by decide) ?_
  refine g_ldc2 hw dX7_init_77 q1133 ?_
  obtain ⟨hi23, h⟩ := h
  refine g_last (n := 5) hw dX7_init_80 hk20 hi23 rfl ?_
  refine g_dup hw dX7_init_81 rfl ?_
  refine g_bipush (v := 6) hw dX7_init_82 (by decide) ?_
  refine g_ldc2 hw dX7_init_84 q1134 ?_
  obtain ⟨hi24, h⟩ := h
  refine g_last (n := 6) hw dX7_init_87 hk20 hi24 rfl ?_
  refine g_dup hw dX7_init_88 rfl ?_
  refine g_bipush (v := 7) hw dX7_init_89 (by decide) ?_
  refine g_ldc2 hw dX7_init_91 q1135 ?_
  obtain ⟨hi25, h⟩ := h
  refine g_last (n := 7) hw dX7_init_94 hk20 hi25 rfl ?_
  refine g_dup hw dX7_init_95 rfl ?_
  refine g_bipush (v := 8) hw dX7_init_96 (by decide) ?_
  refine g_ldc2 hw dX7_init_98 q1136 ?_
  obtain ⟨hi26, h⟩ := h
  refine g_last (n := 8) hw dX7_init_101 hk20 hi26 rfl ?_
  refine g_dup hw dX7_init_102 rfl ?_
  refine g_bipush (v := 9) hw dX7_init_103 (by decide) ?_
  refine g_ldc2 hw dX7_init_105 q1137 ?_
  obtain ⟨hi27, h⟩ := h
  refine g_last (n := 9) hw dX7_init_108 hk20 hi27 rfl ?_
  refine g_dup hw dX7_init_109 rfl ?_
  refine g_bipush (v := 10) hw dX7_init_110 (by decide) ?_
  refine g_ldc2 hw dX7_init_112 q1138 ?_
  obtain ⟨hi28, h⟩ := h
  refine g_last (n := 10) hw dX7_init_115 hk20 hi28 rfl ?_
  refine g_dup hw dX7_init_116 rfl ?_
  refine g_bipush (v := 11) hw dX7_init_117 (by decide) ?_
  refine g_ldc2 hw dX7_init_119 q1139 ?_
  obtain ⟨hi29, h⟩ := h
  refine g_last (n := 11) hw dX7_init_122 hk20 hi29 rfl ?_
  refine g_dup hw dX7_init_123 rfl ?_
  refine g_bipush (v := 12) hw dX7_init_124 (by decide) ?_
  refine g_ldc2 hw dX7_init_126 q1140 ?_
  obtain ⟨hi30, h⟩ := h
  refine g_last (n := 12) hw dX7_init_129 hk20 hi30 rfl ?_
  refine g_dup hw dX7_init_130 rfl ?_
  refine g_bipush (v := 13) hw dX7_init_131 (by decide) ?_
  refine g_ldc2 hw dX7_init_133 q1141 ?_
  obtain ⟨hi31, h⟩ := h
  refine g_last (n := 13) hw dX7_init_136 hk20 hi31 rfl ?_
  exact wX7_init_b137 hw hkf h
def fX7_init_b31  (M : gM) (Q : gM → Prop) : Prop :=
  gn M < gLC ∧ gs M + 1002 ≤ gLS ∧ gk (gnew M 41 1002 1002) 268 = 7 ∧ gn (gsR (gnew M 41 1002 1002) 268 6 (some (gn M))) < gLC ∧ gs (gsR (gnew M 41 1002 1002) 268 6 (some (gn M))) + 28 ≤ gLS ∧ gk (gnew (gsR (gnew M 41 1002 1002) 268 6 (some (gn M))) 41 28 28) (gn (gsR (gnew M 41 1002 1002) 268 6 (some (gn M)))) = 41 ∧ vp_in 0 (gl (gnew (gsR (gnew M 41 1002 1002) 268 6 (some (gn M))) 41 28 28) (gn (gsR (gnew M 41 1002 1002) 268 6 (some (gn M))))) ∧ vp_in 1 (gl (gsL (gnew (gsR (gnew M 41 1002 1002) 268 6 (some (gn M))) 41 28 28) (gn (gsR (gnew M 41 1002 1002) 268 6 (some (gn M)))) 0 418216) (gn (gsR (gnew M 41 1002 1002) 268 6 (some (gn M))))) ∧ vp_in 2 (gl (gsL (gsL (gnew (gsR (gnew M 41 1002 1002) 268 6 (some (gn M))) 41 28 28) (gn (gsR (gnew M 41 1002 1002) 268 6 (some (gn M)))) 0 418216) (gn (gsR (gnew M 41 1002 1002) 268 6 (some (gn M)))) 1 812503) (gn (gsR (gnew M 41 1002 1002) 268 6 (some (gn M))))) ∧ fX7_init_b63 (gn (gsR (gnew M 41 1002 1002) 268 6 (some (gn M)))) (gsL (gsL (gsL (gnew (gsR (gnew M 41 1002 1002) 268 6 (some (gn M))) 41 28 28) (gn (gsR (gnew M 41 1002 1002) 268 6 (some (gn M)))) 0 418216) (gn (gsR (gnew M 41 1002 1002) 268 6 (some (gn M)))) 1 812503) (gn (gsR (gnew M 41 1002 1002) 268 6 (some (gn M)))) 2 974156) Q
theorem wX7_init_b31 {kf : Nat} {G : gG} {w : gM → Nat → List (Nat × Value) → List Value → Prop} {Q : gM → Prop} (hw : gX yX7_init cX7_init 2 (Option.none : Option FieldType) [] kf G (gQv Q) gE0 w) (hkf : 1 ≤ kf)   {M : gM}  (h : fX7_init_b31 M Q) : w M 31 [(0, .ref (gA G 268))] [] := by
  unfold fX7_init_b31 at h
  refine g_aload_n hw 0 dX7_init_31 rfl ?_
  refine g_sipush (v := 1002) hw dX7_init_32 (by decide) ?_
  obtain ⟨hc10, h⟩ := h
  obtain ⟨hc11, h⟩ := h
  refine g_newa (N := 1002) hw 1 dX7_init_35 q1331 rfl (by decide) rfl (by decide) rfl (by decide) hc10 hc11 ?_
  obtain ⟨hk12, h⟩ := h
  refine pfX7_30 (q := some (gn M)) hw rfl rfl dX7_init_37 hk12 ?_
  refine g_aload_n hw 0 dX7_init_40 rfl ?_
  refine g_bipush (v := 28) hw dX7_init_41 (by decide) ?_
  obtain ⟨hc13, h⟩ := h
  obtain ⟨hc14, h⟩ := h
  refine g_newa (N := 28) hw 1 dX7_init_43 q1331 rfl (by decide) rfl (by decide) rfl (by decide) hc13 hc14 ?_
  refine g_dup hw dX7_init_45 rfl ?_
  refine g_iconst (v := 0) hw dX7_init_46 (by decide) ?_
  refine g_ldc2 hw dX7_init_47 q1128 ?_
  obtain ⟨hk15, h⟩ := h
  obtain ⟨hi16, h⟩ := h
  refine g_last (n := 0) hw dX7_init_50 hk15 hi16 rfl ?_
  refine g_dup hw dX7_init_51 rfl ?_
  refine g_iconst (v := 1) hw dX7_init_52 (by decide) ?_
  refine g_ldc2 hw dX7_init_53 q1129 ?_
  obtain ⟨hi17, h⟩ := h
  refine g_last (n := 1) hw dX7_init_56 hk15 hi17 rfl ?_
  refine g_dup hw dX7_init_57 rfl ?_
  refine g_iconst (v := 2) hw dX7_init_58 (by decide) ?_
  refine g_ldc2 hw dX7_init_59 q1130 ?_
  obtain ⟨hi18, h⟩ := h
  refine g_last (n := 2) hw dX7_init_62 hk15 hi18 rfl ?_
  exact wX7_init_b63 hw hkf h
def fX7_init  (M : gM) (Q : gM → Prop) : Prop :=
  gn M < gLC ∧ gs M + 1000 ≤ gLS ∧ gk (gnew M 40 1000 1000) 268 = 7 ∧ gn (gsR (gnew M 40 1000 1000) 268 1 (some (gn M))) < gLC ∧ gs (gsR (gnew M 40 1000 1000) 268 1 (some (gn M))) + 1002 ≤ gLS ∧ gk (gnew (gsR (gnew M 40 1000 1000) 268 1 (some (gn M))) 40 1002 1002) 268 = 7 ∧ gn (gsR (gnew (gsR (gnew M 40 1000 1000) 268 1 (some (gn M))) 40 1002 1002) 268 4 (some (gn (gsR (gnew M 40 1000 1000) 268 1 (some (gn M)))))) < gLC ∧ gs (gsR (gnew (gsR (gnew M 40 1000 1000) 268 1 (some (gn M))) 40 1002 1002) 268 4 (some (gn (gsR (gnew M 40 1000 1000) 268 1 (some (gn M)))))) + 1002 ≤ gLS ∧ gk (gnew (gsR (gnew (gsR (gnew M 40 1000 1000) 268 1 (some (gn M))) 40 1002 1002) 268 4 (some (gn (gsR (gnew M 40 1000 1000) 268 1 (some (gn M)))))) 40 1002 1002) 268 = 7 ∧ fX7_init_b31 (gsR (gnew (gsR (gnew (gsR (gnew M 40 1000 1000) 268 1 (some (gn M))) 40 1002 1002) 268 4 (some (gn (gsR (gnew M 40 1000 1000) 268 1 (some (gn M)))))) 40 1002 1002) 268 5 (some (gn (gsR (gnew (gsR (gnew M 40 1000 1000) 268 1 (some (gn M))) 40 1002 1002) 268 4 (some (gn (gsR (gnew M 40 1000 1000) 268 1 (some (gn M))))))))) Q
theorem mX7_init {kf : Nat} (hkf : 1 ≤ kf) (G : gG)  (M : gM) (Q : gM → Prop) (h : fX7_init M Q) : gMet yX7_init cX7_init 2 (Option.none : Option FieldType) kf G M [.ref (gA G 268)] (gQv Q) gE0 := by
  refine g_intro (lv := [(0, .ref (gA G 268))]) (by decide) rfl rfl (fun w hw => ?_)
  unfold fX7_init at h
  refine g_aload_n hw 0 dX7_init_0 rfl ?_
  refine g_objInit hw dX7_init_1 q1127 q129 q130 rfl (gK1 hkf) ?_
  refine g_aload_n hw 0 dX7_init_4 rfl ?_
  refine g_sipush (v := 1000) hw dX7_init_5 (by decide) ?_
  obtain ⟨hc1, h⟩ := h
  obtain ⟨hc2, h⟩ := h
  refine g_newa (N := 1000) hw 0 dX7_init_8 q166 rfl (by decide) rfl (by decide) rfl (by decide) hc1 hc2 ?_
  obtain ⟨hk3, h⟩ := h
  refine pfX7_14 (q := some (gn M)) hw rfl rfl dX7_init_10 hk3 ?_
  refine g_aload_n hw 0 dX7_init_13 rfl ?_
  refine g_sipush (v := 1002) hw dX7_init_14 (by decide) ?_
  obtain ⟨hc4, h⟩ := h
  obtain ⟨hc5, h⟩ := h
  refine g_newa (N := 1002) hw 0 dX7_init_17 q166 rfl (by decide) rfl (by decide) rfl (by decide) hc4 hc5 ?_
  obtain ⟨hk6, h⟩ := h
  refine pfX7_24 (q := some (gn (gsR (gnew M 40 1000 1000) 268 1 (some (gn M))))) hw rfl rfl dX7_init_19 hk6 ?_
  refine g_aload_n hw 0 dX7_init_22 rfl ?_
  refine g_sipush (v := 1002) hw dX7_init_23 (by decide) ?_
  obtain ⟨hc7, h⟩ := h
  obtain ⟨hc8, h⟩ := h
  refine g_newa (N := 1002) hw 0 dX7_init_26 q166 rfl (by decide) rfl (by decide) rfl (by decide) hc7 hc8 ?_
  obtain ⟨hk9, h⟩ := h
  refine pfX7_27 (q := some (gn (gsR (gnew (gsR (gnew M 40 1000 1000) 268 1 (some (gn M))) 40 1002 1002) 268 4 (some (gn (gsR (gnew M 40 1000 1000) 268 1 (some (gn M)))))))) hw rfl rfl dX7_init_28 hk9 ?_
  exact wX7_init_b31 hw hkf h
def fX7_within_b14  (M : gM) (Q : Int32 → gM → Prop) : Prop :=
  Q 0 M
theorem wX7_within_b14 {kf : Nat} {G : gG} {w : gM → Nat → List (Nat × Value) → List Value → Prop} {Q : Int32 → gM → Prop} (hw : gX yX7_within cX7_within 3 (Option.some FieldType.boolean) [] kf G (gQi Q) gE0 w) (hkf : 1 ≤ kf)   {M : gM}  (h : fX7_within_b14 M Q) : w M 14 [] [] := by
  unfold fX7_within_b14 at h
  refine g_iconst (v := 0) hw dX7_within_14 (by decide) ?_
  exact g_iret hw dX7_within_15 (by decide +kernel) ⟨_, rfl, h⟩
def fX7_within (p1 : Int32) (p2 : Int32) (p3 : Int32) (M : gM) (Q : Int32 → gM → Prop) : Prop :=
  (if p1 < p2 then fX7_within_b14 M Q else (if p3 < p1 then fX7_within_b14 M Q else Q 1 M))
theorem mX7_within {kf : Nat} (hkf : 1 ≤ kf) (G : gG) (p1 : Int32) (p2 : Int32) (p3 : Int32) (M : gM) (Q : Int32 → gM → Prop) (h : fX7_within p1 p2 p3 M Q) : gMet yX7_within cX7_within 3 (Option.some FieldType.boolean) kf G M [.int p1, .int p2, .int p3] (gQi Q) gE0 := by
  refine g_intro (lv := [(0, .int p1), (1, .int p2), (2, .int p3)]) (by decide) rfl rfl (fun w hw => ?_)
  unfold fX7_within at h
  refine g_iload_n hw 0 dX7_within_0 rfl ?_
  refine g_iload_n hw 1 dX7_within_1 rfl ?_
  refine g_icmp_lt (tgt := 14) hw dX7_within_2 (by decide) (fun hb1 => ?_) (fun hb1 => ?_)
  · have h := gT h hb1
    refine g_sub hw (lv2 := []) [] rfl ?_
    exact wX7_within_b14 hw hkf h
  · have h := gF h hb1
    refine g_iload_n hw 0 dX7_within_5 rfl ?_
    refine g_iload_n hw 2 dX7_within_6 rfl ?_
    refine g_icmp_gt (tgt := 14) hw dX7_within_7 (by decide) (fun hb2 => ?_) (fun hb2 => ?_)
    · have h := gT h hb2
      refine g_sub hw (lv2 := []) [] rfl ?_
      exact wX7_within_b14 hw hkf h
    · have h := gF h hb2
      refine g_iconst (v := 1) hw dX7_within_10 (by decide) ?_
      refine g_goto (tgt := 15) hw dX7_within_11 (by decide) ?_
      exact g_iret hw dX7_within_15 (by decide +kernel) ⟨_, rfl, h⟩
theorem sX7_253 {y0 : MethodName} {cc : ByteArray} {nL : Nat} {ret : Option FieldType} {hh : List (Nat × Nat × Nat × Nat)} {kf : Nat} {G : gG} {Qv : Option Value → gM → Prop} {E : String → Nat → gM → Prop} {w : gM → Nat → List (Nat × Value) → List Value → Prop} {M : gM} {pc : Nat} {lv : List (Nat × Value)} {rest : List Value} (hw : gX y0 cc nL ret hh kf G Qv E w) (hy : y0.cls = RX7) {p1 : Int32} {p2 : Int32} {p3 : Int32} {Q : Int32 → gM → Prop} (d : decode cc pc = .ok (.invokestatic 253, 3)) (hrest : Nat.ble ((rest.map Value.category).sum) 8 = true) (hk : 1 + 1 ≤ kf) (h : fX7_within p1 p2 p3 M Q) (kk : ∀ r M1, Q r M1 → w M1 (pc + 3) lv (.int r :: rest)) : w M pc lv (.int p3 :: .int p2 :: .int p1 :: rest) := by
  obtain ⟨cls9, nm9, ds9⟩ := y0
  subst hy
  exact g_callS hw [.int p1, .int p2, .int p3] (nA := 3) rfl d q1336 q1337 q104 q1338 (by decide +kernel) rfl hrest rfl (by omega : kf - 1 + 1 ≤ kf) (mX7_within (kf := kf - 1) (by omega) G p1 p2 p3 M Q h) (fun _ _ _ q => q.elim) (fun v M1 h => by obtain ⟨r, rfl, h⟩ := h; exact kk r M1 h)
theorem gfX7_93 {y0 : MethodName} {cc : ByteArray} {nL : Nat} {ret : Option FieldType} {hh : List (Nat × Nat × Nat × Nat)} {kf : Nat} {G : gG} {Qv : Option Value → gM → Prop} {E : String → Nat → gM → Prop} {w : gM → Nat → List (Nat × Value) → List Value → Prop} {M : gM} {pc : Nat} {lv : List (Nat × Value)} {rest : List Value} (hw : gX y0 cc nL ret hh kf G Qv E w) (hy : y0.cls = RX7) {c : Nat} {q : Option Nat} (d : decode cc pc = .ok (.getfield 93, 3)) (hk : gk M c = 7) (hq : gR M c 10 = q) (kk : w M (pc + 3) lv (va_rf (q.map (gA G)) :: rest)) : w M pc lv (.ref (gA G c) :: rest) := by
  obtain ⟨cls9, nm9, ds9⟩ := y0
  subst hy
  subst hq
  exact g_getC (C := RX7) (T := TX7) (N := 58) (ci := 6) hw in_X7 rfl 10 (by decide) (Or.inl q1166) rfl d hk kk
theorem gfX7_97 {y0 : MethodName} {cc : ByteArray} {nL : Nat} {ret : Option FieldType} {hh : List (Nat × Nat × Nat × Nat)} {kf : Nat} {G : gG} {Qv : Option Value → gM → Prop} {E : String → Nat → gM → Prop} {w : gM → Nat → List (Nat × Value) → List Value → Prop} {M : gM} {pc : Nat} {lv : List (Nat × Value)} {rest : List Value} (hw : gX y0 cc nL ret hh kf G Qv E w) (hy : y0.cls = RX7) {c : Nat} {q : Option Nat} (d : decode cc pc = .ok (.getfield 97, 3)) (hk : gk M c = 7) (hq : gR M c 11 = q) (kk : w M (pc + 3) lv (va_rf (q.map (gA G)) :: rest)) : w M pc lv (.ref (gA G c) :: rest) := by
  obtain ⟨cls9, nm9, ds9⟩ := y0
  subst hy
  subst hq
  exact g_getC (C := RX7) (T := TX7) (N := 58) (ci := 6) hw in_X7 rfl 11 (by decide) (Or.inl q1167) rfl d hk kk
theorem gfX7_100 {y0 : MethodName} {cc : ByteArray} {nL : Nat} {ret : Option FieldType} {hh : List (Nat × Nat × Nat × Nat)} {kf : Nat} {G : gG} {Qv : Option Value → gM → Prop} {E : String → Nat → gM → Prop} {w : gM → Nat → List (Nat × Value) → List Value → Prop} {M : gM} {pc : Nat} {lv : List (Nat × Value)} {rest : List Value} (hw : gX y0 cc nL ret hh kf G Qv E w) (hy : y0.cls = RX7) {c : Nat} {q : Option Nat} (d : decode cc pc = .ok (.getfield 100, 3)) (hk : gk M c = 7) (hq : gR M c 12 = q) (kk : w M (pc + 3) lv (va_rf (q.map (gA G)) :: rest)) : w M pc lv (.ref (gA G c) :: rest) := by
  obtain ⟨cls9, nm9, ds9⟩ := y0
  subst hy
  subst hq
  exact g_getC (C := RX7) (T := TX7) (N := 58) (ci := 6) hw in_X7 rfl 12 (by decide) (Or.inl q1168) rfl d hk kk
theorem gfX7_103 {y0 : MethodName} {cc : ByteArray} {nL : Nat} {ret : Option FieldType} {hh : List (Nat × Nat × Nat × Nat)} {kf : Nat} {G : gG} {Qv : Option Value → gM → Prop} {E : String → Nat → gM → Prop} {w : gM → Nat → List (Nat × Value) → List Value → Prop} {M : gM} {pc : Nat} {lv : List (Nat × Value)} {rest : List Value} (hw : gX y0 cc nL ret hh kf G Qv E w) (hy : y0.cls = RX7) {c : Nat} {q : Option Nat} (d : decode cc pc = .ok (.getfield 103, 3)) (hk : gk M c = 7) (hq : gR M c 13 = q) (kk : w M (pc + 3) lv (va_rf (q.map (gA G)) :: rest)) : w M pc lv (.ref (gA G c) :: rest) := by
  obtain ⟨cls9, nm9, ds9⟩ := y0
  subst hy
  subst hq
  exact g_getC (C := RX7) (T := TX7) (N := 58) (ci := 6) hw in_X7 rfl 13 (by decide) (Or.inl q1169) rfl d hk kk
theorem gfX7_106 {y0 : MethodName} {cc : ByteArray} {nL : Nat} {ret : Option FieldType} {hh : List (Nat × Nat × Nat × Nat)} {kf : Nat} {G : gG} {Qv : Option Value → gM → Prop} {E : String → Nat → gM → Prop} {w : gM → Nat → List (Nat × Value) → List Value → Prop} {M : gM} {pc : Nat} {lv : List (Nat × Value)} {rest : List Value} (hw : gX y0 cc nL ret hh kf G Qv E w) (hy : y0.cls = RX7) {c : Nat} {q : Option Nat} (d : decode cc pc = .ok (.getfield 106, 3)) (hk : gk M c = 7) (hq : gR M c 14 = q) (kk : w M (pc + 3) lv (va_rf (q.map (gA G)) :: rest)) : w M pc lv (.ref (gA G c) :: rest) := by
  obtain ⟨cls9, nm9, ds9⟩ := y0
  subst hy
  subst hq
  exact g_getC (C := RX7) (T := TX7) (N := 58) (ci := 6) hw in_X7 rfl 14 (by decide) (Or.inl q1170) rfl d hk kk
def fX7_kitchen (p1 : Int32) (p2 : Int32) (p3 : Int32) (p4 : Int32) (p5 : Int32) (M : gM) (Q : Int32 → gM → Prop) : Prop :=
  gk M 268 = 7 ∧ fX7_within p1 0 23 (gsI M 268 0 0) (fun r3 M2 => (if r3 = 0 then Q 0 M2 else fX7_within p2 0 1 M2 (fun r6 M5 => (if r6 = 0 then Q 0 M5 else fX7_within p3 0 999 M5 (fun r9 M8 => (if r9 = 0 then Q 0 M8 else fX7_within p4 0 99 M8 (fun r12 M11 => (if r12 = 0 then Q 0 M11 else gk M11 268 = 7 ∧ gdr (gR M11 268 10) (fun a15 => gk M11 a15 = 43 ∧ vp_in p1 (gl M11 a15) ∧ gdr (gR (gsI M11 a15 p1.toNatClampNeg 1) 268 11) (fun a19 => gk (gsI M11 a15 p1.toNatClampNeg 1) a19 = 40 ∧ vp_in p1 (gl (gsI M11 a15 p1.toNatClampNeg 1) a19) ∧ gdr (gR (gsI (gsI M11 a15 p1.toNatClampNeg 1) a19 p1.toNatClampNeg p2) 268 12) (fun a23 => gk (gsI (gsI M11 a15 p1.toNatClampNeg 1) a19 p1.toNatClampNeg p2) a23 = 40 ∧ vp_in p1 (gl (gsI (gsI M11 a15 p1.toNatClampNeg 1) a19 p1.toNatClampNeg p2) a23) ∧ gdr (gR (gsI (gsI (gsI M11 a15 p1.toNatClampNeg 1) a19 p1.toNatClampNeg p2) a23 p1.toNatClampNeg p3) 268 13) (fun a27 => gk (gsI (gsI (gsI M11 a15 p1.toNatClampNeg 1) a19 p1.toNatClampNeg p2) a23 p1.toNatClampNeg p3) a27 = 40 ∧ vp_in p1 (gl (gsI (gsI (gsI M11 a15 p1.toNatClampNeg 1) a19 p1.toNatClampNeg p2) a23 p1.toNatClampNeg p3) a27) ∧ gdr (gR (gsI (gsI (gsI (gsI M11 a15 p1.toNatClampNeg 1) a19 p1.toNatClampNeg p2) a23 p1.toNatClampNeg p3) a27 p1.toNatClampNeg p4) 268 14) (fun a31 => gk (gsI (gsI (gsI (gsI M11 a15 p1.toNatClampNeg 1) a19 p1.toNatClampNeg p2) a23 p1.toNatClampNeg p3) a27 p1.toNatClampNeg p4) a31 = 43 ∧ vp_in p1 (gl (gsI (gsI (gsI (gsI M11 a15 p1.toNatClampNeg 1) a19 p1.toNatClampNeg p2) a23 p1.toNatClampNeg p3) a27 p1.toNatClampNeg p4) a31) ∧ (p5 = 0 ∨ p5 = 1) ∧ Q 1 (gsI (gsI (gsI (gsI (gsI M11 a15 p1.toNatClampNeg 1) a19 p1.toNatClampNeg p2) a23 p1.toNatClampNeg p3) a27 p1.toNatClampNeg p4) a31 p1.toNatClampNeg p5))))))))))))))
theorem mX7_kitchen {kf : Nat} (hkf : 2 ≤ kf) (G : gG) (p1 : Int32) (p2 : Int32) (p3 : Int32) (p4 : Int32) (p5 : Int32) (M : gM) (Q : Int32 → gM → Prop) (h : fX7_kitchen p1 p2 p3 p4 p5 M Q) : gMet yX7_kitchen cX7_kitchen 6 (Option.some FieldType.boolean) kf G M [.ref (gA G 268), .int p1, .int p2, .int p3, .int p4, .int p5] (gQi Q) gE0 := by
  refine g_intro (lv := [(0, .ref (gA G 268)), (1, .int p1), (2, .int p2), (3, .int p3), (4, .int p4), (5, .int p5)]) (by decide) rfl rfl (fun w hw => ?_)
  unfold fX7_kitchen at h
  refine g_aload_n hw 0 dX7_kitchen_0 rfl ?_
  refine g_iconst (v := 0) hw dX7_kitchen_1 (by decide) ?_
  obtain ⟨hk1, h⟩ := h
  refine pfX7_1 hw rfl dX7_kitchen_2 hk1 ?_
  refine g_iload_n hw 1 dX7_kitchen_5 rfl ?_
  refine g_iconst (v := 0) hw dX7_kitchen_6 (by decide) ?_
  refine g_bipush (v := 23) hw dX7_kitchen_7 (by decide) ?_
  refine sX7_253 hw rfl dX7_kitchen_9 rfl (gK2 hkf) h (fun r3 M2 h => ?_)
  refine g_if_eq (tgt := 46) hw dX7_kitchen_12 (by decide) (fun hb4 => ?_) (fun hb4 => ?_)
  · have h := gT h hb4
    refine g_iconst (v := 0) hw dX7_kitchen_46 (by decide) ?_
    exact g_iret hw dX7_kitchen_47 (by decide +kernel) ⟨_, rfl, h⟩
  · have h := gF h hb4
    refine g_iload_n hw 2 dX7_kitchen_15 rfl ?_
    refine g_iconst (v := 0) hw dX7_kitchen_16 (by decide) ?_
    refine g_iconst (v := 1) hw dX7_kitchen_17 (by decide) ?_
    refine sX7_253 hw rfl dX7_kitchen_18 rfl (gK2 hkf) h (fun r6 M5 h => ?_)
    refine g_if_eq (tgt := 46) hw dX7_kitchen_21 (by decide) (fun hb7 => ?_) (fun hb7 => ?_)
    · have h := gT h hb7
      refine g_iconst (v := 0) hw dX7_kitchen_46 (by decide) ?_
      exact g_iret hw dX7_kitchen_47 (by decide +kernel) ⟨_, rfl, h⟩
    · have h := gF h hb7
      refine g_iload_n hw 3 dX7_kitchen_24 rfl ?_
      refine g_iconst (v := 0) hw dX7_kitchen_25 (by decide) ?_
      refine g_sipush (v := 999) hw dX7_kitchen_26 (by decide) ?_
      refine sX7_253 hw rfl dX7_kitchen_29 rfl (gK2 hkf) h (fun r9 M8 h => ?_)
      refine g_if_eq (tgt := 46) hw dX7_kitchen_32 (by decide) (fun hb10 => ?_) (fun hb10 => ?_)
      · have h := gT h hb10
        refine g_iconst (v := 0) hw dX7_kitchen_46 (by decide) ?_
        exact g_iret hw dX7_kitchen_47 (by decide +kernel) ⟨_, rfl, h⟩
      · have h := gF h hb10
        refine g_iload hw 4 dX7_kitchen_35 rfl ?_
        refine g_iconst (v := 0) hw dX7_kitchen_37 (by decide) ?_
        refine g_bipush (v := 99) hw dX7_kitchen_38 (by decide) ?_
        refine sX7_253 hw rfl dX7_kitchen_40 rfl (gK2 hkf) h (fun r12 M11 h => ?_)
        refine g_if_ne (tgt := 48) hw dX7_kitchen_43 (by decide) (fun hb13 => ?_) (fun hb13 => ?_)
        · have h := gF h hb13
          refine g_aload_n hw 0 dX7_kitchen_48 rfl ?_
          obtain ⟨hk14, h⟩ := h
          obtain ⟨a15, e16, h⟩ := h
          refine gfX7_93 (q := some a15) hw rfl dX7_kitchen_49 hk14 e16 ?_
          refine g_iload_n hw 1 dX7_kitchen_52 rfl ?_
          refine g_iconst (v := 1) hw dX7_kitchen_53 (by decide) ?_
          obtain ⟨hk17, h⟩ := h
          obtain ⟨hi18, h⟩ := h
          refine g_zast (n := p1.toNatClampNeg) hw dX7_kitchen_54 hk17 hi18 rfl (by decide +kernel) ?_
          refine g_aload_n hw 0 dX7_kitchen_55 rfl ?_
          obtain ⟨a19, e20, h⟩ := h
          refine gfX7_97 (q := some a19) hw rfl dX7_kitchen_56 hk14 e20 ?_
          refine g_iload_n hw 1 dX7_kitchen_59 rfl ?_
          refine g_iload_n hw 2 dX7_kitchen_60 rfl ?_
          obtain ⟨hk21, h⟩ := h
          obtain ⟨hi22, h⟩ := h
          refine g_iast (n := p1.toNatClampNeg) hw dX7_kitchen_61 hk21 hi22 rfl ?_
          refine g_aload_n hw 0 dX7_kitchen_62 rfl ?_
          obtain ⟨a23, e24, h⟩ := h
          refine gfX7_100 (q := some a23) hw rfl dX7_kitchen_63 hk14 e24 ?_
          refine g_iload_n hw 1 dX7_kitchen_66 rfl ?_
          refine g_iload_n hw 3 dX7_kitchen_67 rfl ?_
          obtain ⟨hk25, h⟩ := h
          obtain ⟨hi26, h⟩ := h
          refine g_iast (n := p1.toNatClampNeg) hw dX7_kitchen_68 hk25 hi26 rfl ?_
          refine g_aload_n hw 0 dX7_kitchen_69 rfl ?_
          obtain ⟨a27, e28, h⟩ := h
          refine gfX7_103 (q := some a27) hw rfl dX7_kitchen_70 hk14 e28 ?_
          refine g_iload_n hw 1 dX7_kitchen_73 rfl ?_
          refine g_iload hw 4 dX7_kitchen_74 rfl ?_
          obtain ⟨hk29, h⟩ := h
          obtain ⟨hi30, h⟩ := h
          refine g_iast (n := p1.toNatClampNeg) hw dX7_kitchen_76 hk29 hi30 rfl ?_
          refine g_aload_n hw 0 dX7_kitchen_77 rfl ?_
          obtain ⟨a31, e32, h⟩ := h
          refine gfX7_106 (q := some a31) hw rfl dX7_kitchen_78 hk14 e32 ?_
          refine g_iload_n hw 1 dX7_kitchen_81 rfl ?_
          refine g_iload hw 5 dX7_kitchen_82 rfl ?_
          obtain ⟨hk33, h⟩ := h
          obtain ⟨hi34, h⟩ := h
          obtain ⟨hc35, h⟩ := h
          refine g_zast (n := p1.toNatClampNeg) hw dX7_kitchen_84 hk33 hi34 rfl (gBool hc35) ?_
          refine g_iconst (v := 1) hw dX7_kitchen_85 (by decide) ?_
          exact g_iret hw dX7_kitchen_86 (by decide +kernel) ⟨_, rfl, h⟩
        · have h := gT h hb13
          refine g_iconst (v := 0) hw dX7_kitchen_46 (by decide) ?_
          exact g_iret hw dX7_kitchen_47 (by decide +kernel) ⟨_, rfl, h⟩
def fX7_isKitchen_b23  (M : gM) (Q : Int32 → gM → Prop) : Prop :=
  Q 0 M
theorem wX7_isKitchen_b23 {kf : Nat} {G : gG} {w : gM → Nat → List (Nat × Value) → List Value → Prop} {Q : Int32 → gM → Prop} (hw : gX yX7_isKitchen cX7_isKitchen 2 (Option.some FieldType.boolean) [] kf G (gQi Q) gE0 w) (hkf : 2 ≤ kf)   {M : gM}  (h : fX7_isKitchen_b23 M Q) : w M 23 [] [] := by
  unfold fX7_isKitchen_b23 at h
  refine g_iconst (v := 0) hw dX7_isKitchen_23 (by decide) ?_
  exact g_iret hw dX7_isKitchen_24 (by decide +kernel) ⟨_, rfl, h⟩
def fX7_isKitchen (p1 : Int32) (M : gM) (Q : Int32 → gM → Prop) : Prop :=
  fX7_within p1 0 23 M (fun r2 M1 => (if r2 = 0 then fX7_isKitchen_b23 M1 Q else gk M1 268 = 7 ∧ gdr (gR M1 268 10) (fun a5 => gk M1 a5 = 43 ∧ vp_in p1 (gl M1 a5) ∧ (if (gI M1 a5 p1.toNatClampNeg) = 0 then fX7_isKitchen_b23 M1 Q else Q 1 M1))))
theorem mX7_isKitchen {kf : Nat} (hkf : 2 ≤ kf) (G : gG) (p1 : Int32) (M : gM) (Q : Int32 → gM → Prop) (h : fX7_isKitchen p1 M Q) : gMet yX7_isKitchen cX7_isKitchen 2 (Option.some FieldType.boolean) kf G M [.ref (gA G 268), .int p1] (gQi Q) gE0 := by
  refine g_intro (lv := [(0, .ref (gA G 268)), (1, .int p1)]) (by decide) rfl rfl (fun w hw => ?_)
  unfold fX7_isKitchen at h
  refine g_iload_n hw 1 dX7_isKitchen_0 rfl ?_
  refine g_iconst (v := 0) hw dX7_isKitchen_1 (by decide) ?_
  refine g_bipush (v := 23) hw dX7_isKitchen_2 (by decide) ?_
  refine sX7_253 hw rfl dX7_isKitchen_4 rfl (gK2 hkf) h (fun r2 M1 h => ?_)
  refine g_if_eq (tgt := 23) hw dX7_isKitchen_7 (by decide) (fun hb3 => ?_) (fun hb3 => ?_)
  · have h := gT h hb3
    refine g_sub hw (lv2 := []) [] rfl ?_
    exact wX7_isKitchen_b23 hw hkf h
  · have h := gF h hb3
    refine g_aload_n hw 0 dX7_isKitchen_10 rfl ?_
    obtain ⟨hk4, h⟩ := h
    obtain ⟨a5, e6, h⟩ := h
    refine gfX7_93 (q := some a5) hw rfl dX7_isKitchen_11 hk4 e6 ?_
    refine g_iload_n hw 1 dX7_isKitchen_14 rfl ?_
    obtain ⟨hk7, h⟩ := h
    obtain ⟨hi8, h⟩ := h
    refine g_zald (n := p1.toNatClampNeg) hw dX7_isKitchen_15 hk7 hi8 rfl ?_
    refine g_if_eq (tgt := 23) hw dX7_isKitchen_16 (by decide) (fun hb9 => ?_) (fun hb9 => ?_)
    · have h := gT h hb9
      refine g_sub hw (lv2 := []) [] rfl ?_
      exact wX7_isKitchen_b23 hw hkf h
    · have h := gF h hb9
      refine g_iconst (v := 1) hw dX7_isKitchen_19 (by decide) ?_
      refine g_goto (tgt := 24) hw dX7_isKitchen_20 (by decide) ?_
      exact g_iret hw dX7_isKitchen_24 (by decide +kernel) ⟨_, rfl, h⟩
def fX7_isMonth (p1 : Int32) (M : gM) (Q : Int32 → gM → Prop) : Prop :=
  fX7_within p1 0 11 M (fun r2 M1 => (r2 = 0 ∨ r2 = 1) ∧ Q r2 M1)
theorem mX7_isMonth {kf : Nat} (hkf : 2 ≤ kf) (G : gG) (p1 : Int32) (M : gM) (Q : Int32 → gM → Prop) (h : fX7_isMonth p1 M Q) : gMet yX7_isMonth cX7_isMonth 1 (Option.some FieldType.boolean) kf G M [.int p1] (gQi Q) gE0 := by
  refine g_intro (lv := [(0, .int p1)]) (by decide) rfl rfl (fun w hw => ?_)
  unfold fX7_isMonth at h
  refine g_iload_n hw 0 dX7_isMonth_0 rfl ?_
  refine g_iconst (v := 0) hw dX7_isMonth_1 (by decide) ?_
  refine g_bipush (v := 11) hw dX7_isMonth_2 (by decide) ?_
  refine sX7_253 hw rfl dX7_isMonth_4 rfl (gK2 hkf) h (fun r2 M1 h => ?_)
  obtain ⟨hc3, h⟩ := h
  exact g_iret hw dX7_isMonth_7 (gBool hc3) ⟨_, rfl, h⟩
theorem sX7_257 {y0 : MethodName} {cc : ByteArray} {nL : Nat} {ret : Option FieldType} {hh : List (Nat × Nat × Nat × Nat)} {kf : Nat} {G : gG} {Qv : Option Value → gM → Prop} {E : String → Nat → gM → Prop} {w : gM → Nat → List (Nat × Value) → List Value → Prop} {M : gM} {pc : Nat} {lv : List (Nat × Value)} {rest : List Value} (hw : gX y0 cc nL ret hh kf G Qv E w) (hy : y0.cls = RX7) {p1 : Int32} {Q : Int32 → gM → Prop} (d : decode cc pc = .ok (.invokevirtual 257, 3)) (hrest : Nat.ble ((rest.map Value.category).sum) 8 = true) (hk : 2 + 1 ≤ kf) (hkd : gk M 268 = 7) (h : fX7_isKitchen p1 M Q) (kk : ∀ r M1, Q r M1 → w M1 (pc + 3) lv (.int r :: rest)) : w M pc lv (.int p1 :: .ref (gA G 268) :: rest) := by
  obtain ⟨cls9, nm9, ds9⟩ := y0
  subst hy
  exact g_callV (r := (RX7, TX7, 58)) (ci := 6) hw [.int p1] (nA := 1) rfl d q1343 q1345 qs44 q104 q1346 (by decide +kernel) rfl rfl hrest rfl (by omega : kf - 1 + 1 ≤ kf) hkd (mX7_isKitchen (kf := kf - 1) (by omega) G p1 M Q h) (fun _ _ _ q => q.elim) (fun v M1 h => by obtain ⟨r, rfl, h⟩ := h; exact kk r M1 h)
theorem sX7_260 {y0 : MethodName} {cc : ByteArray} {nL : Nat} {ret : Option FieldType} {hh : List (Nat × Nat × Nat × Nat)} {kf : Nat} {G : gG} {Qv : Option Value → gM → Prop} {E : String → Nat → gM → Prop} {w : gM → Nat → List (Nat × Value) → List Value → Prop} {M : gM} {pc : Nat} {lv : List (Nat × Value)} {rest : List Value} (hw : gX y0 cc nL ret hh kf G Qv E w) (hy : y0.cls = RX7) {p1 : Int32} {Q : Int32 → gM → Prop} (d : decode cc pc = .ok (.invokestatic 260, 3)) (hrest : Nat.ble ((rest.map Value.category).sum) 8 = true) (hk : 2 + 1 ≤ kf) (h : fX7_isMonth p1 M Q) (kk : ∀ r M1, Q r M1 → w M1 (pc + 3) lv (.int r :: rest)) : w M pc lv (.int p1 :: rest) := by
  obtain ⟨cls9, nm9, ds9⟩ := y0
  subst hy
  exact g_callS hw [.int p1] (nA := 1) rfl d q1347 q1348 q104 q1349 (by decide +kernel) rfl hrest rfl (by omega : kf - 1 + 1 ≤ kf) (mX7_isMonth (kf := kf - 1) (by omega) G p1 M Q h) (fun _ _ _ q => q.elim) (fun v M1 h => by obtain ⟨r, rfl, h⟩ := h; exact kk r M1 h)
theorem gfX7_115 {y0 : MethodName} {cc : ByteArray} {nL : Nat} {ret : Option FieldType} {hh : List (Nat × Nat × Nat × Nat)} {kf : Nat} {G : gG} {Qv : Option Value → gM → Prop} {E : String → Nat → gM → Prop} {w : gM → Nat → List (Nat × Value) → List Value → Prop} {M : gM} {pc : Nat} {lv : List (Nat × Value)} {rest : List Value} (hw : gX y0 cc nL ret hh kf G Qv E w) (hy : y0.cls = RX7) {c : Nat} {q : Option Nat} (d : decode cc pc = .ok (.getfield 115, 3)) (hk : gk M c = 7) (hq : gR M c 18 = q) (kk : w M (pc + 3) lv (va_rf (q.map (gA G)) :: rest)) : w M pc lv (.ref (gA G c) :: rest) := by
  obtain ⟨cls9, nm9, ds9⟩ := y0
  subst hy
  subst hq
  exact g_getC (C := RX7) (T := TX7) (N := 58) (ci := 6) hw in_X7 rfl 18 (by decide) (Or.inl q1174) rfl d hk kk
theorem gfX7_118 {y0 : MethodName} {cc : ByteArray} {nL : Nat} {ret : Option FieldType} {hh : List (Nat × Nat × Nat × Nat)} {kf : Nat} {G : gG} {Qv : Option Value → gM → Prop} {E : String → Nat → gM → Prop} {w : gM → Nat → List (Nat × Value) → List Value → Prop} {M : gM} {pc : Nat} {lv : List (Nat × Value)} {rest : List Value} (hw : gX y0 cc nL ret hh kf G Qv E w) (hy : y0.cls = RX7) {c : Nat} {q : Option Nat} (d : decode cc pc = .ok (.getfield 118, 3)) (hk : gk M c = 7) (hq : gR M c 19 = q) (kk : w M (pc + 3) lv (va_rf (q.map (gA G)) :: rest)) : w M pc lv (.ref (gA G c) :: rest) := by
  obtain ⟨cls9, nm9, ds9⟩ := y0
  subst hy
  subst hq
  exact g_getC (C := RX7) (T := TX7) (N := 58) (ci := 6) hw in_X7 rfl 19 (by decide) (Or.inl q1175) rfl d hk kk
theorem gfX7_121 {y0 : MethodName} {cc : ByteArray} {nL : Nat} {ret : Option FieldType} {hh : List (Nat × Nat × Nat × Nat)} {kf : Nat} {G : gG} {Qv : Option Value → gM → Prop} {E : String → Nat → gM → Prop} {w : gM → Nat → List (Nat × Value) → List Value → Prop} {M : gM} {pc : Nat} {lv : List (Nat × Value)} {rest : List Value} (hw : gX y0 cc nL ret hh kf G Qv E w) (hy : y0.cls = RX7) {c : Nat} {q : Option Nat} (d : decode cc pc = .ok (.getfield 121, 3)) (hk : gk M c = 7) (hq : gR M c 20 = q) (kk : w M (pc + 3) lv (va_rf (q.map (gA G)) :: rest)) : w M pc lv (.ref (gA G c) :: rest) := by
  obtain ⟨cls9, nm9, ds9⟩ := y0
  subst hy
  subst hq
  exact g_getC (C := RX7) (T := TX7) (N := 58) (ci := 6) hw in_X7 rfl 20 (by decide) (Or.inl q1176) rfl d hk kk
def fX7_call_b168 (s0_77 : Nat) (s1_78 : Int32) (M : gM) (Q : Int32 → gM → Prop) : Prop :=
  gk M s0_77 = 40 ∧ vp_in s1_78 (gl M s0_77) ∧ Q 1 (gsI M s0_77 s1_78.toNatClampNeg 0)
theorem wX7_call_b168 {kf : Nat} {G : gG} {w : gM → Nat → List (Nat × Value) → List Value → Prop} {Q : Int32 → gM → Prop} (hw : gX yX7_call cX7_call 8 (Option.some FieldType.boolean) [] kf G (gQi Q) gE0 w) (hkf : 3 ≤ kf)  {s0_77 : Nat} {s1_78 : Int32} {M : gM}  (h : fX7_call_b168 s0_77 s1_78 M Q) : w M 168 [] [.int s1_78, .ref (gA G s0_77)] := by
  unfold fX7_call_b168 at h
  refine g_iconst (v := 0) hw dX7_call_168 (by decide) ?_
  refine g_goto (tgt := 174) hw dX7_call_169 (by decide) ?_
  obtain ⟨hk79, h⟩ := h
  obtain ⟨hi80, h⟩ := h
  refine g_iast (n := s1_78.toNatClampNeg) hw dX7_call_174 hk79 hi80 rfl ?_
  refine g_iconst (v := 1) hw dX7_call_175 (by decide) ?_
  exact g_iret hw dX7_call_176 (by decide +kernel) ⟨_, rfl, h⟩
def fX7_call_b151 (l4_64 : Int32) (l5_65 : Int32) (l6_66 : Int32) (l7_67 : Int32) (s0_68 : Nat) (s1_69 : Int32) (s2_70 : Int32) (M : gM) (Q : Int32 → gM → Prop) : Prop :=
  gk M s0_68 = 40 ∧ vp_in s1_69 (gl M s0_68) ∧ gk (gsI M s0_68 s1_69.toNatClampNeg s2_70) 268 = 7 ∧ gdr (gR (gsI M s0_68 s1_69.toNatClampNeg s2_70) 268 20) (fun a74 => (if l5_65 = 0 then (if l6_66 = 0 then gk (gsI M s0_68 s1_69.toNatClampNeg s2_70) a74 = 40 ∧ vp_in l7_67 (gl (gsI M s0_68 s1_69.toNatClampNeg s2_70) a74) ∧ Q 1 (gsI (gsI M s0_68 s1_69.toNatClampNeg s2_70) a74 l7_67.toNatClampNeg l4_64) else fX7_call_b168 a74 l7_67 (gsI M s0_68 s1_69.toNatClampNeg s2_70) Q) else fX7_call_b168 a74 l7_67 (gsI M s0_68 s1_69.toNatClampNeg s2_70) Q))
theorem wX7_call_b151 {kf : Nat} {G : gG} {w : gM → Nat → List (Nat × Value) → List Value → Prop} {Q : Int32 → gM → Prop} (hw : gX yX7_call cX7_call 8 (Option.some FieldType.boolean) [] kf G (gQi Q) gE0 w) (hkf : 3 ≤ kf)  {l4_64 : Int32} {l5_65 : Int32} {l6_66 : Int32} {l7_67 : Int32} {s0_68 : Nat} {s1_69 : Int32} {s2_70 : Int32} {M : gM}  (h : fX7_call_b151 l4_64 l5_65 l6_66 l7_67 s0_68 s1_69 s2_70 M Q) : w M 151 [(0, .ref (gA G 268)), (4, .int l4_64), (5, .int l5_65), (6, .int l6_66), (7, .int l7_67)] [.int s2_70, .int s1_69, .ref (gA G s0_68)] := by
  unfold fX7_call_b151 at h
  obtain ⟨hk71, h⟩ := h
  obtain ⟨hi72, h⟩ := h
  refine g_iast (n := s1_69.toNatClampNeg) hw dX7_call_151 hk71 hi72 rfl ?_
  refine g_aload_n hw 0 dX7_call_152 rfl ?_
  obtain ⟨hk73, h⟩ := h
  obtain ⟨a74, e75, h⟩ := h
  refine gfX7_121 (q := some a74) hw rfl dX7_call_153 hk73 e75 ?_
  refine g_iload hw 4 dX7_call_156 rfl ?_
  refine g_iload hw 2 dX7_call_158 rfl ?_
  refine g_if_ne (tgt := 168) hw dX7_call_160 (by decide) (fun hb76 => ?_) (fun hb76 => ?_)
  · have h := gF h hb76
    refine g_sub hw (lv2 := []) [] rfl ?_
    exact wX7_call_b168 hw hkf h
  · have h := gT h hb76
    refine g_iload hw 3 dX7_call_163 rfl ?_
    refine g_if_eq (tgt := 172) hw dX7_call_165 (by decide) (fun hb81 => ?_) (fun hb81 => ?_)
    · have h := gT h hb81
      refine g_iload hw 1 dX7_call_172 rfl ?_
      obtain ⟨hk82, h⟩ := h
      obtain ⟨hi83, h⟩ := h
      refine g_iast (n := l7_67.toNatClampNeg) hw dX7_call_174 hk82 hi83 rfl ?_
      refine g_iconst (v := 1) hw dX7_call_175 (by decide) ?_
      exact g_iret hw dX7_call_176 (by decide +kernel) ⟨_, rfl, h⟩
    · have h := gF h hb81
      refine g_sub hw (lv2 := []) [] rfl ?_
      exact wX7_call_b168 hw hkf h
def fX7_call_b146 (l4_58 : Int32) (l5_59 : Int32) (l6_60 : Int32) (l7_61 : Int32) (s0_62 : Nat) (s1_63 : Int32) (M : gM) (Q : Int32 → gM → Prop) : Prop :=
  fX7_call_b151 l4_58 l5_59 l6_60 l7_61 s0_62 s1_63 0 M Q
theorem wX7_call_b146 {kf : Nat} {G : gG} {w : gM → Nat → List (Nat × Value) → List Value → Prop} {Q : Int32 → gM → Prop} (hw : gX yX7_call cX7_call 8 (Option.some FieldType.boolean) [] kf G (gQi Q) gE0 w) (hkf : 3 ≤ kf)  {l4_58 : Int32} {l5_59 : Int32} {l6_60 : Int32} {l7_61 : Int32} {s0_62 : Nat} {s1_63 : Int32} {M : gM}  (h : fX7_call_b146 l4_58 l5_59 l6_60 l7_61 s0_62 s1_63 M Q) : w M 146 [(0, .ref (gA G 268)), (4, .int l4_58), (5, .int l5_59), (6, .int l6_60), (7, .int l7_61)] [.int s1_63, .ref (gA G s0_62)] := by
  unfold fX7_call_b146 at h
  refine g_iconst (v := 0) hw dX7_call_146 (by decide) ?_
  refine g_goto (tgt := 151) hw dX7_call_147 (by decide) ?_
  exact wX7_call_b151 hw hkf h
def fX7_call_b129 (l3_44 : Int32) (l4_45 : Int32) (l5_46 : Int32) (l6_47 : Int32) (l7_48 : Int32) (s0_49 : Nat) (s1_50 : Int32) (s2_51 : Int32) (M : gM) (Q : Int32 → gM → Prop) : Prop :=
  gk M s0_49 = 40 ∧ vp_in s1_50 (gl M s0_49) ∧ gk (gsI M s0_49 s1_50.toNatClampNeg s2_51) 268 = 7 ∧ gdr (gR (gsI M s0_49 s1_50.toNatClampNeg s2_51) 268 19) (fun a55 => (if l5_46 = 0 then (if l6_47 = 0 then fX7_call_b151 l4_45 l5_46 l6_47 l7_48 a55 l7_48 l3_44 (gsI M s0_49 s1_50.toNatClampNeg s2_51) Q else fX7_call_b146 l4_45 l5_46 l6_47 l7_48 a55 l7_48 (gsI M s0_49 s1_50.toNatClampNeg s2_51) Q) else fX7_call_b146 l4_45 l5_46 l6_47 l7_48 a55 l7_48 (gsI M s0_49 s1_50.toNatClampNeg s2_51) Q))
theorem wX7_call_b129 {kf : Nat} {G : gG} {w : gM → Nat → List (Nat × Value) → List Value → Prop} {Q : Int32 → gM → Prop} (hw : gX yX7_call cX7_call 8 (Option.some FieldType.boolean) [] kf G (gQi Q) gE0 w) (hkf : 3 ≤ kf)  {l3_44 : Int32} {l4_45 : Int32} {l5_46 : Int32} {l6_47 : Int32} {l7_48 : Int32} {s0_49 : Nat} {s1_50 : Int32} {s2_51 : Int32} {M : gM}  (h : fX7_call_b129 l3_44 l4_45 l5_46 l6_47 l7_48 s0_49 s1_50 s2_51 M Q) : w M 129 [(0, .ref (gA G 268)), (3, .int l3_44), (4, .int l4_45), (5, .int l5_46), (6, .int l6_47), (7, .int l7_48)] [.int s2_51, .int s1_50, .ref (gA G s0_49)] := by
  unfold fX7_call_b129 at h
  obtain ⟨hk52, h⟩ := h
  obtain ⟨hi53, h⟩ := h
  refine g_iast (n := s1_50.toNatClampNeg) hw dX7_call_129 hk52 hi53 rfl ?_
  refine g_aload_n hw 0 dX7_call_130 rfl ?_
  obtain ⟨hk54, h⟩ := h
  obtain ⟨a55, e56, h⟩ := h
  refine gfX7_118 (q := some a55) hw rfl dX7_call_131 hk54 e56 ?_
  refine g_iload hw 5 dX7_call_134 rfl ?_
  refine g_iload hw 3 dX7_call_136 rfl ?_
  refine g_if_ne (tgt := 146) hw dX7_call_138 (by decide) (fun hb57 => ?_) (fun hb57 => ?_)
  · have h := gF h hb57
    refine g_sub hw (lv2 := [(0, .ref (gA G 268)), (4, .int l4_45), (5, .int l5_46), (6, .int l6_47), (7, .int l7_48)]) [0, 2, 3, 4, 5] rfl ?_
    exact wX7_call_b146 hw hkf h
  · have h := gT h hb57
    refine g_iload hw 4 dX7_call_141 rfl ?_
    refine g_if_eq (tgt := 150) hw dX7_call_143 (by decide) (fun hb84 => ?_) (fun hb84 => ?_)
    · have h := gT h hb84
      refine g_iload_n hw 1 dX7_call_150 rfl ?_
      refine g_sub hw (lv2 := [(0, .ref (gA G 268)), (4, .int l4_45), (5, .int l5_46), (6, .int l6_47), (7, .int l7_48)]) [0, 2, 3, 4, 5] rfl ?_
      exact wX7_call_b151 hw hkf h
    · have h := gF h hb84
      refine g_sub hw (lv2 := [(0, .ref (gA G 268)), (4, .int l4_45), (5, .int l5_46), (6, .int l6_47), (7, .int l7_48)]) [0, 2, 3, 4, 5] rfl ?_
      exact wX7_call_b146 hw hkf h
def fX7_call_b96 (l1_33 : Int32) (l2_34 : Int32) (l3_35 : Int32) (l4_36 : Int32) (l5_37 : Int32) (l6_38 : Int32) (M : gM) (Q : Int32 → gM → Prop) : Prop :=
  gk M 268 = 7 ∧ gdr (gR M 268 18) (fun a40 => (if l5_37 = 0 then (if l6_38 = 0 then fX7_call_b129 l3_35 l4_36 l5_37 l6_38 ((12 * l1_33) + l2_34) a40 ((12 * l1_33) + l2_34) 1 M Q else fX7_call_b129 l3_35 l4_36 l5_37 l6_38 ((12 * l1_33) + l2_34) a40 ((12 * l1_33) + l2_34) 0 M Q) else fX7_call_b129 l3_35 l4_36 l5_37 l6_38 ((12 * l1_33) + l2_34) a40 ((12 * l1_33) + l2_34) 2 M Q))
theorem wX7_call_b96 {kf : Nat} {G : gG} {w : gM → Nat → List (Nat × Value) → List Value → Prop} {Q : Int32 → gM → Prop} (hw : gX yX7_call cX7_call 8 (Option.some FieldType.boolean) [] kf G (gQi Q) gE0 w) (hkf : 3 ≤ kf)  {l1_33 : Int32} {l2_34 : Int32} {l3_35 : Int32} {l4_36 : Int32} {l5_37 : Int32} {l6_38 : Int32} {M : gM}  (h : fX7_call_b96 l1_33 l2_34 l3_35 l4_36 l5_37 l6_38 M Q) : w M 96 [(0, .ref (gA G 268)), (1, .int l1_33), (2, .int l2_34), (3, .int l3_35), (4, .int l4_36), (5, .int l5_37), (6, .int l6_38)] [] := by
  unfold fX7_call_b96 at h
  refine g_bipush (v := 12) hw dX7_call_96 (by decide) ?_
  refine g_iload_n hw 1 dX7_call_98 rfl ?_
  refine g_imul hw dX7_call_99 ?_
  refine g_iload_n hw 2 dX7_call_100 rfl ?_
  refine g_iadd hw dX7_call_101 ?_
  refine g_istore hw (lv2 := [(0, .ref (gA G 268)), (3, .int l3_35), (4, .int l4_36), (5, .int l5_37), (6, .int l6_38), (7, .int ((12 * l1_33) + l2_34))]) [1, 4, 5, 6, 7, 0] dX7_call_102 rfl rfl ?_
  refine g_aload_n hw 0 dX7_call_104 rfl ?_
  obtain ⟨hk39, h⟩ := h
  obtain ⟨a40, e41, h⟩ := h
  refine gfX7_115 (q := some a40) hw rfl dX7_call_105 hk39 e41 ?_
  refine g_iload hw 5 dX7_call_108 rfl ?_
  refine g_iload hw 3 dX7_call_110 rfl ?_
  refine g_if_eq (tgt := 119) hw dX7_call_112 (by decide) (fun hb42 => ?_) (fun hb42 => ?_)
  · have h := gT h hb42
    refine g_iload hw 4 dX7_call_119 rfl ?_
    refine g_if_eq (tgt := 128) hw dX7_call_121 (by decide) (fun hb43 => ?_) (fun hb43 => ?_)
    · have h := gT h hb43
      refine g_iconst (v := 1) hw dX7_call_128 (by decide) ?_
      exact wX7_call_b129 hw hkf h
    · have h := gF h hb43
      refine g_iconst (v := 0) hw dX7_call_124 (by decide) ?_
      refine g_goto (tgt := 129) hw dX7_call_125 (by decide) ?_
      exact wX7_call_b129 hw hkf h
  · have h := gF h hb42
    refine g_iconst (v := 2) hw dX7_call_115 (by decide) ?_
    refine g_goto (tgt := 129) hw dX7_call_116 (by decide) ?_
    exact wX7_call_b129 hw hkf h
def fX7_call_b61 (l1_26 : Int32) (l2_27 : Int32) (l3_28 : Int32) (l4_29 : Int32) (l5_30 : Int32) (s0_31 : Int32) (M : gM) (Q : Int32 → gM → Prop) : Prop :=
  (if l5_30 = 0 then (if s0_31 = 0 then fX7_within l3_28 0 99 M (fun r87 M86 => (if r87 = 0 then Q 0 M86 else fX7_within l4_29 0 99 M86 (fun r90 M89 => (if r90 = 0 then Q 0 M89 else fX7_call_b96 l1_26 l2_27 l3_28 l4_29 l5_30 s0_31 M89 Q)))) else fX7_call_b96 l1_26 l2_27 l3_28 l4_29 l5_30 s0_31 M Q) else fX7_call_b96 l1_26 l2_27 l3_28 l4_29 l5_30 s0_31 M Q)
theorem wX7_call_b61 {kf : Nat} {G : gG} {w : gM → Nat → List (Nat × Value) → List Value → Prop} {Q : Int32 → gM → Prop} (hw : gX yX7_call cX7_call 8 (Option.some FieldType.boolean) [] kf G (gQi Q) gE0 w) (hkf : 3 ≤ kf)  {l1_26 : Int32} {l2_27 : Int32} {l3_28 : Int32} {l4_29 : Int32} {l5_30 : Int32} {s0_31 : Int32} {M : gM}  (h : fX7_call_b61 l1_26 l2_27 l3_28 l4_29 l5_30 s0_31 M Q) : w M 61 [(0, .ref (gA G 268)), (1, .int l1_26), (2, .int l2_27), (3, .int l3_28), (4, .int l4_29), (5, .int l5_30)] [.int s0_31] := by
  unfold fX7_call_b61 at h
  refine g_istore hw (lv2 := [(0, .ref (gA G 268)), (1, .int l1_26), (2, .int l2_27), (3, .int l3_28), (4, .int l4_29), (5, .int l5_30), (6, .int s0_31)]) [1, 2, 3, 4, 5, 6, 0] dX7_call_61 rfl rfl ?_
  refine g_iload hw 5 dX7_call_63 rfl ?_
  refine g_if_ne (tgt := 96) hw dX7_call_65 (by decide) (fun hb32 => ?_) (fun hb32 => ?_)
  · have h := gF h hb32
    exact wX7_call_b96 hw hkf h
  · have h := gT h hb32
    refine g_iload hw 6 dX7_call_68 rfl ?_
    refine g_if_ne (tgt := 96) hw dX7_call_70 (by decide) (fun hb85 => ?_) (fun hb85 => ?_)
    · have h := gF h hb85
      exact wX7_call_b96 hw hkf h
    · have h := gT h hb85
      refine g_iload_n hw 3 dX7_call_73 rfl ?_
      refine g_iconst (v := 0) hw dX7_call_74 (by decide) ?_
      refine g_bipush (v := 99) hw dX7_call_75 (by decide) ?_
      refine sX7_253 hw rfl dX7_call_77 rfl (gK2 hkf) h (fun r87 M86 h => ?_)
      refine g_if_eq (tgt := 94) hw dX7_call_80 (by decide) (fun hb88 => ?_) (fun hb88 => ?_)
      · have h := gT h hb88
        refine g_iconst (v := 0) hw dX7_call_94 (by decide) ?_
        exact g_iret hw dX7_call_95 (by decide +kernel) ⟨_, rfl, h⟩
      · have h := gF h hb88
        refine g_iload hw 4 dX7_call_83 rfl ?_
        refine g_iconst (v := 0) hw dX7_call_85 (by decide) ?_
        refine g_bipush (v := 99) hw dX7_call_86 (by decide) ?_
        refine sX7_253 hw rfl dX7_call_88 rfl (gK2 hkf) h (fun r90 M89 h => ?_)
        refine g_if_ne (tgt := 96) hw dX7_call_91 (by decide) (fun hb91 => ?_) (fun hb91 => ?_)
        · have h := gF h hb91
          exact wX7_call_b96 hw hkf h
        · have h := gT h hb91
          refine g_iconst (v := 0) hw dX7_call_94 (by decide) ?_
          exact g_iret hw dX7_call_95 (by decide +kernel) ⟨_, rfl, h⟩
def fX7_call_b60 (l1_21 : Int32) (l2_22 : Int32) (l3_23 : Int32) (l4_24 : Int32) (l5_25 : Int32) (M : gM) (Q : Int32 → gM → Prop) : Prop :=
  fX7_call_b61 l1_21 l2_22 l3_23 l4_24 l5_25 0 M Q
theorem wX7_call_b60 {kf : Nat} {G : gG} {w : gM → Nat → List (Nat × Value) → List Value → Prop} {Q : Int32 → gM → Prop} (hw : gX yX7_call cX7_call 8 (Option.some FieldType.boolean) [] kf G (gQi Q) gE0 w) (hkf : 3 ≤ kf)  {l1_21 : Int32} {l2_22 : Int32} {l3_23 : Int32} {l4_24 : Int32} {l5_25 : Int32} {M : gM}  (h : fX7_call_b60 l1_21 l2_22 l3_23 l4_24 l5_25 M Q) : w M 60 [(0, .ref (gA G 268)), (1, .int l1_21), (2, .int l2_22), (3, .int l3_23), (4, .int l4_24), (5, .int l5_25)] [] := by
  unfold fX7_call_b60 at h
  refine g_iconst (v := 0) hw dX7_call_60 (by decide) ?_
  exact wX7_call_b61 hw hkf h
def fX7_call_b38 (l1_13 : Int32) (l2_14 : Int32) (l3_15 : Int32) (l4_16 : Int32) (s0_17 : Int32) (M : gM) (Q : Int32 → gM → Prop) : Prop :=
  fX7_within l3_15 0 99 M (fun r19 M18 => (if r19 = 0 then fX7_call_b60 l1_13 l2_14 l3_15 l4_16 s0_17 M18 Q else (if l4_16 = (-1) then fX7_call_b61 l1_13 l2_14 l3_15 l4_16 s0_17 1 M18 Q else fX7_call_b60 l1_13 l2_14 l3_15 l4_16 s0_17 M18 Q)))
theorem wX7_call_b38 {kf : Nat} {G : gG} {w : gM → Nat → List (Nat × Value) → List Value → Prop} {Q : Int32 → gM → Prop} (hw : gX yX7_call cX7_call 8 (Option.some FieldType.boolean) [] kf G (gQi Q) gE0 w) (hkf : 3 ≤ kf)  {l1_13 : Int32} {l2_14 : Int32} {l3_15 : Int32} {l4_16 : Int32} {s0_17 : Int32} {M : gM}  (h : fX7_call_b38 l1_13 l2_14 l3_15 l4_16 s0_17 M Q) : w M 38 [(0, .ref (gA G 268)), (1, .int l1_13), (2, .int l2_14), (3, .int l3_15), (4, .int l4_16)] [.int s0_17] := by
  unfold fX7_call_b38 at h
  refine g_istore hw (lv2 := [(0, .ref (gA G 268)), (1, .int l1_13), (2, .int l2_14), (3, .int l3_15), (4, .int l4_16), (5, .int s0_17)]) [1, 2, 3, 4, 5, 0] dX7_call_38 rfl rfl ?_
  refine g_iload_n hw 3 dX7_call_40 rfl ?_
  refine g_iconst (v := 0) hw dX7_call_41 (by decide) ?_
  refine g_bipush (v := 99) hw dX7_call_42 (by decide) ?_
  refine sX7_253 hw rfl dX7_call_44 rfl (gK2 hkf) h (fun r19 M18 h => ?_)
  refine g_if_eq (tgt := 60) hw dX7_call_47 (by decide) (fun hb20 => ?_) (fun hb20 => ?_)
  · have h := gT h hb20
    exact wX7_call_b60 hw hkf h
  · have h := gF h hb20
    refine g_iload hw 4 dX7_call_50 rfl ?_
    refine g_iconst (v := (-1)) hw dX7_call_52 (by decide) ?_
    refine g_icmp_ne (tgt := 60) hw dX7_call_53 (by decide) (fun hb92 => ?_) (fun hb92 => ?_)
    · have h := gF h hb92
      exact wX7_call_b60 hw hkf h
    · have h := gT h hb92
      refine g_iconst (v := 1) hw dX7_call_56 (by decide) ?_
      refine g_goto (tgt := 61) hw dX7_call_57 (by decide) ?_
      exact wX7_call_b61 hw hkf h
def fX7_call_b37 (l1_9 : Int32) (l2_10 : Int32) (l3_11 : Int32) (l4_12 : Int32) (M : gM) (Q : Int32 → gM → Prop) : Prop :=
  fX7_call_b38 l1_9 l2_10 l3_11 l4_12 0 M Q
theorem wX7_call_b37 {kf : Nat} {G : gG} {w : gM → Nat → List (Nat × Value) → List Value → Prop} {Q : Int32 → gM → Prop} (hw : gX yX7_call cX7_call 8 (Option.some FieldType.boolean) [] kf G (gQi Q) gE0 w) (hkf : 3 ≤ kf)  {l1_9 : Int32} {l2_10 : Int32} {l3_11 : Int32} {l4_12 : Int32} {M : gM}  (h : fX7_call_b37 l1_9 l2_10 l3_11 l4_12 M Q) : w M 37 [(0, .ref (gA G 268)), (1, .int l1_9), (2, .int l2_10), (3, .int l3_11), (4, .int l4_12)] [] := by
  unfold fX7_call_b37 at h
  refine g_iconst (v := 0) hw dX7_call_37 (by decide) ?_
  exact wX7_call_b38 hw hkf h
def fX7_call (p1 : Int32) (p2 : Int32) (p3 : Int32) (p4 : Int32) (M : gM) (Q : Int32 → gM → Prop) : Prop :=
  gk M 268 = 7 ∧ fX7_isKitchen p1 (gsI M 268 0 0) (fun r3 M2 => (if r3 = 0 then Q 0 M2 else fX7_isMonth p2 M2 (fun r6 M5 => (if r6 = 0 then Q 0 M5 else (if p3 = (-1) then (if p4 = (-1) then fX7_call_b38 p1 p2 p3 p4 1 M5 Q else fX7_call_b37 p1 p2 p3 p4 M5 Q) else fX7_call_b37 p1 p2 p3 p4 M5 Q)))))
theorem mX7_call {kf : Nat} (hkf : 3 ≤ kf) (G : gG) (p1 : Int32) (p2 : Int32) (p3 : Int32) (p4 : Int32) (M : gM) (Q : Int32 → gM → Prop) (h : fX7_call p1 p2 p3 p4 M Q) : gMet yX7_call cX7_call 8 (Option.some FieldType.boolean) kf G M [.ref (gA G 268), .int p1, .int p2, .int p3, .int p4] (gQi Q) gE0 := by
  refine g_intro (lv := [(0, .ref (gA G 268)), (1, .int p1), (2, .int p2), (3, .int p3), (4, .int p4)]) (by decide) rfl rfl (fun w hw => ?_)
  unfold fX7_call at h
  refine g_aload_n hw 0 dX7_call_0 rfl ?_
  refine g_iconst (v := 0) hw dX7_call_1 (by decide) ?_
  obtain ⟨hk1, h⟩ := h
  refine pfX7_1 hw rfl dX7_call_2 hk1 ?_
  refine g_aload_n hw 0 dX7_call_5 rfl ?_
  refine g_iload_n hw 1 dX7_call_6 rfl ?_
  refine sX7_257 hw rfl dX7_call_7 rfl (gK2 hkf) hk1 h (fun r3 M2 h => ?_)
  refine g_if_eq (tgt := 20) hw dX7_call_10 (by decide) (fun hb4 => ?_) (fun hb4 => ?_)
  · have h := gT h hb4
    refine g_iconst (v := 0) hw dX7_call_20 (by decide) ?_
    exact g_iret hw dX7_call_21 (by decide +kernel) ⟨_, rfl, h⟩
  · have h := gF h hb4
    refine g_iload_n hw 2 dX7_call_13 rfl ?_
    refine sX7_260 hw rfl dX7_call_14 rfl (gK2 hkf) h (fun r6 M5 h => ?_)
    refine g_if_ne (tgt := 22) hw dX7_call_17 (by decide) (fun hb7 => ?_) (fun hb7 => ?_)
    · have h := gF h hb7
      refine g_iload_n hw 3 dX7_call_22 rfl ?_
      refine g_iconst (v := (-1)) hw dX7_call_23 (by decide) ?_
      refine g_icmp_ne (tgt := 37) hw dX7_call_24 (by decide) (fun hb8 => ?_) (fun hb8 => ?_)
      · have h := gF h hb8
        exact wX7_call_b37 hw hkf h
      · have h := gT h hb8
        refine g_iload hw 4 dX7_call_27 rfl ?_
        refine g_iconst (v := (-1)) hw dX7_call_29 (by decide) ?_
        refine g_icmp_ne (tgt := 37) hw dX7_call_30 (by decide) (fun hb93 => ?_) (fun hb93 => ?_)
        · have h := gF h hb93
          exact wX7_call_b37 hw hkf h
        · have h := gT h hb93
          refine g_iconst (v := 1) hw dX7_call_33 (by decide) ?_
          refine g_goto (tgt := 38) hw dX7_call_34 (by decide) ?_
          exact wX7_call_b38 hw hkf h
    · have h := gT h hb7
      refine g_iconst (v := 0) hw dX7_call_20 (by decide) ?_
      exact g_iret hw dX7_call_21 (by decide +kernel) ⟨_, rfl, h⟩
theorem gfX7_124 {y0 : MethodName} {cc : ByteArray} {nL : Nat} {ret : Option FieldType} {hh : List (Nat × Nat × Nat × Nat)} {kf : Nat} {G : gG} {Qv : Option Value → gM → Prop} {E : String → Nat → gM → Prop} {w : gM → Nat → List (Nat × Value) → List Value → Prop} {M : gM} {pc : Nat} {lv : List (Nat × Value)} {rest : List Value} (hw : gX y0 cc nL ret hh kf G Qv E w) (hy : y0.cls = RX7) {c : Nat} {q : Option Nat} (d : decode cc pc = .ok (.getfield 124, 3)) (hk : gk M c = 7) (hq : gR M c 21 = q) (kk : w M (pc + 3) lv (va_rf (q.map (gA G)) :: rest)) : w M pc lv (.ref (gA G c) :: rest) := by
  obtain ⟨cls9, nm9, ds9⟩ := y0
  subst hy
  subst hq
  exact g_getC (C := RX7) (T := TX7) (N := 58) (ci := 6) hw in_X7 rfl 21 (by decide) (Or.inl q1177) rfl d hk kk
theorem gfX7_127 {y0 : MethodName} {cc : ByteArray} {nL : Nat} {ret : Option FieldType} {hh : List (Nat × Nat × Nat × Nat)} {kf : Nat} {G : gG} {Qv : Option Value → gM → Prop} {E : String → Nat → gM → Prop} {w : gM → Nat → List (Nat × Value) → List Value → Prop} {M : gM} {pc : Nat} {lv : List (Nat × Value)} {rest : List Value} (hw : gX y0 cc nL ret hh kf G Qv E w) (hy : y0.cls = RX7) {c : Nat} {q : Option Nat} (d : decode cc pc = .ok (.getfield 127, 3)) (hk : gk M c = 7) (hq : gR M c 22 = q) (kk : w M (pc + 3) lv (va_rf (q.map (gA G)) :: rest)) : w M pc lv (.ref (gA G c) :: rest) := by
  obtain ⟨cls9, nm9, ds9⟩ := y0
  subst hy
  subst hq
  exact g_getC (C := RX7) (T := TX7) (N := 58) (ci := 6) hw in_X7 rfl 22 (by decide) (Or.inl q1178) rfl d hk kk
theorem gfX7_130 {y0 : MethodName} {cc : ByteArray} {nL : Nat} {ret : Option FieldType} {hh : List (Nat × Nat × Nat × Nat)} {kf : Nat} {G : gG} {Qv : Option Value → gM → Prop} {E : String → Nat → gM → Prop} {w : gM → Nat → List (Nat × Value) → List Value → Prop} {M : gM} {pc : Nat} {lv : List (Nat × Value)} {rest : List Value} (hw : gX y0 cc nL ret hh kf G Qv E w) (hy : y0.cls = RX7) {c : Nat} {q : Option Nat} (d : decode cc pc = .ok (.getfield 130, 3)) (hk : gk M c = 7) (hq : gR M c 23 = q) (kk : w M (pc + 3) lv (va_rf (q.map (gA G)) :: rest)) : w M pc lv (.ref (gA G c) :: rest) := by
  obtain ⟨cls9, nm9, ds9⟩ := y0
  subst hy
  subst hq
  exact g_getC (C := RX7) (T := TX7) (N := 58) (ci := 6) hw in_X7 rfl 23 (by decide) (Or.inl q1179) rfl d hk kk
def fX7_sheet (p1 : Int32) (p2 : Int32) (p3 : Int32) (p4 : Int32) (M : gM) (Q : Int32 → gM → Prop) : Prop :=
  gk M 268 = 7 ∧ fX7_isKitchen p1 (gsI M 268 0 0) (fun r3 M2 => (if r3 = 0 then Q 0 M2 else fX7_isMonth p2 M2 (fun r6 M5 => (if r6 = 0 then Q 0 M5 else fX7_within p3 0 99 M5 (fun r9 M8 => (if r9 = 0 then Q 0 M8 else fX7_within p4 0 99 M8 (fun r12 M11 => (if r12 = 0 then Q 0 M11 else gk M11 268 = 7 ∧ gdr (gR M11 268 21) (fun a15 => gk M11 a15 = 40 ∧ vp_in ((12 * p1) + p2) (gl M11 a15) ∧ gdr (gR (gsI M11 a15 (((12 * p1) + p2).toNatClampNeg) 1) 268 22) (fun a19 => gk (gsI M11 a15 (((12 * p1) + p2).toNatClampNeg) 1) a19 = 40 ∧ vp_in ((12 * p1) + p2) (gl (gsI M11 a15 (((12 * p1) + p2).toNatClampNeg) 1) a19) ∧ gdr (gR (gsI (gsI M11 a15 (((12 * p1) + p2).toNatClampNeg) 1) a19 (((12 * p1) + p2).toNatClampNeg) p3) 268 23) (fun a23 => gk (gsI (gsI M11 a15 (((12 * p1) + p2).toNatClampNeg) 1) a19 (((12 * p1) + p2).toNatClampNeg) p3) a23 = 40 ∧ vp_in ((12 * p1) + p2) (gl (gsI (gsI M11 a15 (((12 * p1) + p2).toNatClampNeg) 1) a19 (((12 * p1) + p2).toNatClampNeg) p3) a23) ∧ Q 1 (gsI (gsI (gsI M11 a15 (((12 * p1) + p2).toNatClampNeg) 1) a19 (((12 * p1) + p2).toNatClampNeg) p3) a23 (((12 * p1) + p2).toNatClampNeg) p4))))))))))))
theorem mX7_sheet {kf : Nat} (hkf : 3 ≤ kf) (G : gG) (p1 : Int32) (p2 : Int32) (p3 : Int32) (p4 : Int32) (M : gM) (Q : Int32 → gM → Prop) (h : fX7_sheet p1 p2 p3 p4 M Q) : gMet yX7_sheet cX7_sheet 6 (Option.some FieldType.boolean) kf G M [.ref (gA G 268), .int p1, .int p2, .int p3, .int p4] (gQi Q) gE0 := by
  refine g_intro (lv := [(0, .ref (gA G 268)), (1, .int p1), (2, .int p2), (3, .int p3), (4, .int p4)]) (by decide) rfl rfl (fun w hw => ?_)
  unfold fX7_sheet at h
  refine g_aload_n hw 0 dX7_sheet_0 rfl ?_
  refine g_iconst (v := 0) hw dX7_sheet_1 (by decide) ?_
  obtain ⟨hk1, h⟩ := h
  refine pfX7_1 hw rfl dX7_sheet_2 hk1 ?_
  refine g_aload_n hw 0 dX7_sheet_5 rfl ?_
  refine g_iload_n hw 1 dX7_sheet_6 rfl ?_
  refine sX7_257 hw rfl dX7_sheet_7 rfl (gK2 hkf) hk1 h (fun r3 M2 h => ?_)
  refine g_if_eq (tgt := 41) hw dX7_sheet_10 (by decide) (fun hb4 => ?_) (fun hb4 => ?_)
  · have h := gT h hb4
    refine g_iconst (v := 0) hw dX7_sheet_41 (by decide) ?_
    exact g_iret hw dX7_sheet_42 (by decide +kernel) ⟨_, rfl, h⟩
  · have h := gF h hb4
    refine g_iload_n hw 2 dX7_sheet_13 rfl ?_
    refine sX7_260 hw rfl dX7_sheet_14 rfl (gK2 hkf) h (fun r6 M5 h => ?_)
    refine g_if_eq (tgt := 41) hw dX7_sheet_17 (by decide) (fun hb7 => ?_) (fun hb7 => ?_)
    · have h := gT h hb7
      refine g_iconst (v := 0) hw dX7_sheet_41 (by decide) ?_
      exact g_iret hw dX7_sheet_42 (by decide +kernel) ⟨_, rfl, h⟩
    · have h := gF h hb7
      refine g_iload_n hw 3 dX7_sheet_20 rfl ?_
      refine g_iconst (v := 0) hw dX7_sheet_21 (by decide) ?_
      refine g_bipush (v := 99) hw dX7_sheet_22 (by decide) ?_
      refine sX7_253 hw rfl dX7_sheet_24 rfl (gK2 hkf) h (fun r9 M8 h => ?_)
      refine g_if_eq (tgt := 41) hw dX7_sheet_27 (by decide) (fun hb10 => ?_) (fun hb10 => ?_)
      · have h := gT h hb10
        refine g_iconst (v := 0) hw dX7_sheet_41 (by decide) ?_
        exact g_iret hw dX7_sheet_42 (by decide +kernel) ⟨_, rfl, h⟩
      · have h := gF h hb10
        refine g_iload hw 4 dX7_sheet_30 rfl ?_
        refine g_iconst (v := 0) hw dX7_sheet_32 (by decide) ?_
        refine g_bipush (v := 99) hw dX7_sheet_33 (by decide) ?_
        refine sX7_253 hw rfl dX7_sheet_35 rfl (gK2 hkf) h (fun r12 M11 h => ?_)
        refine g_if_ne (tgt := 43) hw dX7_sheet_38 (by decide) (fun hb13 => ?_) (fun hb13 => ?_)
        · have h := gF h hb13
          refine g_bipush (v := 12) hw dX7_sheet_43 (by decide) ?_
          refine g_iload_n hw 1 dX7_sheet_45 rfl ?_
          refine g_imul hw dX7_sheet_46 ?_
          refine g_iload_n hw 2 dX7_sheet_47 rfl ?_
          refine g_iadd hw dX7_sheet_48 ?_
          refine g_istore hw (lv2 := [(0, .ref (gA G 268)), (3, .int p3), (4, .int p4), (5, .int ((12 * p1) + p2))]) [1, 4, 5, 0] dX7_sheet_49 rfl rfl ?_
          refine g_aload_n hw 0 dX7_sheet_51 rfl ?_
          obtain ⟨hk14, h⟩ := h
          obtain ⟨a15, e16, h⟩ := h
          refine gfX7_124 (q := some a15) hw rfl dX7_sheet_52 hk14 e16 ?_
          refine g_iload hw 3 dX7_sheet_55 rfl ?_
          refine g_iconst (v := 1) hw dX7_sheet_57 (by decide) ?_
          obtain ⟨hk17, h⟩ := h
          obtain ⟨hi18, h⟩ := h
          refine g_iast (n := ((12 * p1) + p2).toNatClampNeg) hw dX7_sheet_58 hk17 hi18 rfl ?_
          refine g_aload_n hw 0 dX7_sheet_59 rfl ?_
          obtain ⟨a19, e20, h⟩ := h
          refine gfX7_127 (q := some a19) hw rfl dX7_sheet_60 hk14 e20 ?_
          refine g_iload hw 3 dX7_sheet_63 rfl ?_
          refine g_iload_n hw 1 dX7_sheet_65 rfl ?_
          obtain ⟨hk21, h⟩ := h
          obtain ⟨hi22, h⟩ := h
          refine g_iast (n := ((12 * p1) + p2).toNatClampNeg) hw dX7_sheet_66 hk21 hi22 rfl ?_
          refine g_aload_n hw 0 dX7_sheet_67 rfl ?_
          obtain ⟨a23, e24, h⟩ := h
          refine gfX7_130 (q := some a23) hw rfl dX7_sheet_68 hk14 e24 ?_
          refine g_iload hw 3 dX7_sheet_71 rfl ?_
          refine g_iload hw 2 dX7_sheet_73 rfl ?_
          obtain ⟨hk25, h⟩ := h
          obtain ⟨hi26, h⟩ := h
          refine g_iast (n := ((12 * p1) + p2).toNatClampNeg) hw dX7_sheet_75 hk25 hi26 rfl ?_
          refine g_iconst (v := 1) hw dX7_sheet_76 (by decide) ?_
          exact g_iret hw dX7_sheet_77 (by decide +kernel) ⟨_, rfl, h⟩
        · have h := gT h hb13
          refine g_iconst (v := 0) hw dX7_sheet_41 (by decide) ?_
          exact g_iret hw dX7_sheet_42 (by decide +kernel) ⟨_, rfl, h⟩
def fX7_tenths (p1 : Int32) (M : gM) (Q : Int32 → gM → Prop) : Prop :=
  gk M 268 = 7 ∧ fX7_within p1 0 10 (gsI M 268 0 0) (fun r3 M2 => (if r3 = 0 then Q 0 M2 else gk M2 268 = 7 ∧ Q 1 (gsI M2 268 15 p1)))
theorem mX7_tenths {kf : Nat} (hkf : 2 ≤ kf) (G : gG) (p1 : Int32) (M : gM) (Q : Int32 → gM → Prop) (h : fX7_tenths p1 M Q) : gMet yX7_tenths cX7_tenths 2 (Option.some FieldType.boolean) kf G M [.ref (gA G 268), .int p1] (gQi Q) gE0 := by
  refine g_intro (lv := [(0, .ref (gA G 268)), (1, .int p1)]) (by decide) rfl rfl (fun w hw => ?_)
  unfold fX7_tenths at h
  refine g_aload_n hw 0 dX7_tenths_0 rfl ?_
  refine g_iconst (v := 0) hw dX7_tenths_1 (by decide) ?_
  obtain ⟨hk1, h⟩ := h
  refine pfX7_1 hw rfl dX7_tenths_2 hk1 ?_
  refine g_iload_n hw 1 dX7_tenths_5 rfl ?_
  refine g_iconst (v := 0) hw dX7_tenths_6 (by decide) ?_
  refine g_bipush (v := 10) hw dX7_tenths_7 (by decide) ?_
  refine sX7_253 hw rfl dX7_tenths_9 rfl (gK2 hkf) h (fun r3 M2 h => ?_)
  refine g_if_ne (tgt := 17) hw dX7_tenths_12 (by decide) (fun hb4 => ?_) (fun hb4 => ?_)
  · have h := gF h hb4
    refine g_aload_n hw 0 dX7_tenths_17 rfl ?_
    refine g_iload_n hw 1 dX7_tenths_18 rfl ?_
    obtain ⟨hk5, h⟩ := h
    refine pfX7_208 hw rfl dX7_tenths_19 hk5 ?_
    refine g_iconst (v := 1) hw dX7_tenths_22 (by decide) ?_
    exact g_iret hw dX7_tenths_23 (by decide +kernel) ⟨_, rfl, h⟩
  · have h := gT h hb4
    refine g_iconst (v := 0) hw dX7_tenths_15 (by decide) ?_
    exact g_iret hw dX7_tenths_16 (by decide +kernel) ⟨_, rfl, h⟩
theorem gfX7_109 {y0 : MethodName} {cc : ByteArray} {nL : Nat} {ret : Option FieldType} {hh : List (Nat × Nat × Nat × Nat)} {kf : Nat} {G : gG} {Qv : Option Value → gM → Prop} {E : String → Nat → gM → Prop} {w : gM → Nat → List (Nat × Value) → List Value → Prop} {M : gM} {pc : Nat} {lv : List (Nat × Value)} {rest : List Value} (hw : gX y0 cc nL ret hh kf G Qv E w) (hy : y0.cls = RX7) {c : Nat} {q : Option Nat} (d : decode cc pc = .ok (.getfield 109, 3)) (hk : gk M c = 7) (hq : gR M c 16 = q) (kk : w M (pc + 3) lv (va_rf (q.map (gA G)) :: rest)) : w M pc lv (.ref (gA G c) :: rest) := by
  obtain ⟨cls9, nm9, ds9⟩ := y0
  subst hy
  subst hq
  exact g_getC (C := RX7) (T := TX7) (N := 58) (ci := 6) hw in_X7 rfl 16 (by decide) (Or.inl q1172) rfl d hk kk
theorem gfX7_112 {y0 : MethodName} {cc : ByteArray} {nL : Nat} {ret : Option FieldType} {hh : List (Nat × Nat × Nat × Nat)} {kf : Nat} {G : gG} {Qv : Option Value → gM → Prop} {E : String → Nat → gM → Prop} {w : gM → Nat → List (Nat × Value) → List Value → Prop} {M : gM} {pc : Nat} {lv : List (Nat × Value)} {rest : List Value} (hw : gX y0 cc nL ret hh kf G Qv E w) (hy : y0.cls = RX7) {c : Nat} {q : Option Nat} (d : decode cc pc = .ok (.getfield 112, 3)) (hk : gk M c = 7) (hq : gR M c 17 = q) (kk : w M (pc + 3) lv (va_rf (q.map (gA G)) :: rest)) : w M pc lv (.ref (gA G c) :: rest) := by
  obtain ⟨cls9, nm9, ds9⟩ := y0
  subst hy
  subst hq
  exact g_getC (C := RX7) (T := TX7) (N := 58) (ci := 6) hw in_X7 rfl 17 (by decide) (Or.inl q1173) rfl d hk kk
def fX7_floor_L49s (R49 : Int32 → gM → Prop) (K89_49 : gM → Prop) (l1_14 : Int32) (l3_15 : Int32) (l4_16 : Int32) (l5_17 : Int32) (M : gM) (Q : Int32 → gM → Prop) : Prop :=
  (if 12 ≤ l5_17 then K89_49 M else gk M 268 = 7 ∧ gdr (gR M 268 16) (fun a20 => gk M a20 = 40 ∧ vp_in ((12 * l1_14) + l5_17) (gl M a20) ∧ gdr (gR (gsI M a20 (((12 * l1_14) + l5_17).toNatClampNeg) l3_15) 268 17) (fun a24 => gk (gsI M a20 (((12 * l1_14) + l5_17).toNatClampNeg) l3_15) a24 = 40 ∧ vp_in ((12 * l1_14) + l5_17) (gl (gsI M a20 (((12 * l1_14) + l5_17).toNatClampNeg) l3_15) a24) ∧ R49 (l5_17 + 1) (gsI (gsI M a20 (((12 * l1_14) + l5_17).toNatClampNeg) l3_15) a24 (((12 * l1_14) + l5_17).toNatClampNeg) l4_16))))
def fX7_floor_L49 (K89_49 : gM → Prop) (l1_14 : Int32) (l3_15 : Int32) (l4_16 : Int32) (Q : Int32 → gM → Prop) : Nat → Int32 → gM → Prop
  | 0 => fun _ _ => False
  | n + 1 => fun l5_17 M => fX7_floor_L49s (fX7_floor_L49 K89_49 l1_14 l3_15 l4_16 Q n) K89_49 l1_14 l3_15 l4_16 l5_17 M Q
theorem wX7_floor_L49s {kf : Nat} {G : gG} {w : gM → Nat → List (Nat × Value) → List Value → Prop} {Q : Int32 → gM → Prop} (hw : gX yX7_floor cX7_floor 6 (Option.some FieldType.boolean) [] kf G (gQi Q) gE0 w) (hkf : 3 ≤ kf) {R49 : Int32 → gM → Prop} {K89_49 : gM → Prop} {l1_14 : Int32} {l3_15 : Int32} {l4_16 : Int32} {l5_17 : Int32} {M : gM} (hR49 : ∀ (v0 : Int32) (M : gM), R49 v0 M → w M 49 [(0, .ref (gA G 268)), (1, .int l1_14), (3, .int l3_15), (4, .int l4_16), (5, .int v0)] []) (hK89_49 : ∀  (M : gM), K89_49 M → w M 89 [] []) (h : fX7_floor_L49s R49 K89_49 l1_14 l3_15 l4_16 l5_17 M Q) : w M 49 [(0, .ref (gA G 268)), (1, .int l1_14), (3, .int l3_15), (4, .int l4_16), (5, .int l5_17)] [] := by
  unfold fX7_floor_L49s at h
  refine g_iload hw 4 dX7_floor_49 rfl ?_
  refine g_bipush (v := 12) hw dX7_floor_51 (by decide) ?_
  refine g_icmp_ge (tgt := 89) hw dX7_floor_53 (by decide) (fun hb18 => ?_) (fun hb18 => ?_)
  · have h := gT h hb18
    refine g_sub hw (lv2 := []) [] rfl ?_
    exact hK89_49 M h
  · have h := gF h hb18
    refine g_aload_n hw 0 dX7_floor_56 rfl ?_
    obtain ⟨hk19, h⟩ := h
    obtain ⟨a20, e21, h⟩ := h
    refine gfX7_109 (q := some a20) hw rfl dX7_floor_57 hk19 e21 ?_
    refine g_bipush (v := 12) hw dX7_floor_60 (by decide) ?_
    refine g_iload_n hw 1 dX7_floor_62 rfl ?_
    refine g_imul hw dX7_floor_63 ?_
    refine g_iload hw 4 dX7_floor_64 rfl ?_
    refine g_iadd hw dX7_floor_66 ?_
    refine g_iload_n hw 2 dX7_floor_67 rfl ?_
    obtain ⟨hk22, h⟩ := h
    obtain ⟨hi23, h⟩ := h
    refine g_iast (n := ((12 * l1_14) + l5_17).toNatClampNeg) hw dX7_floor_68 hk22 hi23 rfl ?_
    refine g_aload_n hw 0 dX7_floor_69 rfl ?_
    obtain ⟨a24, e25, h⟩ := h
    refine gfX7_112 (q := some a24) hw rfl dX7_floor_70 hk19 e25 ?_
    refine g_bipush (v := 12) hw dX7_floor_73 (by decide) ?_
    refine g_iload_n hw 1 dX7_floor_75 rfl ?_
    refine g_imul hw dX7_floor_76 ?_
    refine g_iload hw 4 dX7_floor_77 rfl ?_
    refine g_iadd hw dX7_floor_79 ?_
    refine g_iload hw 3 dX7_floor_80 rfl ?_
    obtain ⟨hk26, h⟩ := h
    obtain ⟨hi27, h⟩ := h
    refine g_iast (n := ((12 * l1_14) + l5_17).toNatClampNeg) hw dX7_floor_82 hk26 hi27 rfl ?_
    refine g_iinc hw (lv2 := [(0, .ref (gA G 268)), (1, .int l1_14), (3, .int l3_15), (4, .int l4_16), (5, .int (l5_17 + 1))]) 4 [1, 2, 3, 4, 0] dX7_floor_83 rfl (by decide) rfl rfl ?_
    refine g_goto (tgt := 49) hw dX7_floor_86 (by decide) ?_
    exact hR49 (l5_17 + 1) (gsI (gsI M a20 (((12 * l1_14) + l5_17).toNatClampNeg) l3_15) a24 (((12 * l1_14) + l5_17).toNatClampNeg) l4_16) h
theorem wX7_floor_L49 {kf : Nat} {G : gG} {w : gM → Nat → List (Nat × Value) → List Value → Prop} {Q : Int32 → gM → Prop} (hw : gX yX7_floor cX7_floor 6 (Option.some FieldType.boolean) [] kf G (gQi Q) gE0 w) (hkf : 3 ≤ kf) {K89_49 : gM → Prop} {l1_14 : Int32} {l3_15 : Int32} {l4_16 : Int32} (hK89_49 : ∀  (M : gM), K89_49 M → w M 89 [] []) : ∀ (n : Nat) (l5_17 : Int32) (M : gM), fX7_floor_L49 K89_49 l1_14 l3_15 l4_16 Q n l5_17 M → w M 49 [(0, .ref (gA G 268)), (1, .int l1_14), (3, .int l3_15), (4, .int l4_16), (5, .int l5_17)] [] := by
  intro n
  induction n with
  | zero => intro l5_17 M h; exact h.elim
  | succ n ih => intro l5_17 M h; exact wX7_floor_L49s hw hkf ih hK89_49 h
def fX7_floor (p1 : Int32) (p2 : Int32) (p3 : Int32) (p4 : Int32) (M : gM) (Q : Int32 → gM → Prop) : Prop :=
  gk M 268 = 7 ∧ fX7_within p1 0 1 (gsI M 268 0 0) (fun r3 M2 => (if r3 = 0 then Q 0 M2 else fX7_isMonth p2 M2 (fun r6 M5 => (if r6 = 0 then Q 0 M5 else fX7_within p3 0 999 M5 (fun r9 M8 => (if r9 = 0 then Q 0 M8 else fX7_within p4 (-99) 99 M8 (fun r12 M11 => (if r12 = 0 then Q 0 M11 else ∃ n, fX7_floor_L49 (fun M28 => Q 1 M28) p1 p3 p4 Q n p2 M11))))))))
theorem mX7_floor {kf : Nat} (hkf : 3 ≤ kf) (G : gG) (p1 : Int32) (p2 : Int32) (p3 : Int32) (p4 : Int32) (M : gM) (Q : Int32 → gM → Prop) (h : fX7_floor p1 p2 p3 p4 M Q) : gMet yX7_floor cX7_floor 6 (Option.some FieldType.boolean) kf G M [.ref (gA G 268), .int p1, .int p2, .int p3, .int p4] (gQi Q) gE0 := by
  refine g_intro (lv := [(0, .ref (gA G 268)), (1, .int p1), (2, .int p2), (3, .int p3), (4, .int p4)]) (by decide) rfl rfl (fun w hw => ?_)
  unfold fX7_floor at h
  refine g_aload_n hw 0 dX7_floor_0 rfl ?_
  refine g_iconst (v := 0) hw dX7_floor_1 (by decide) ?_
  obtain ⟨hk1, h⟩ := h
  refine pfX7_1 hw rfl dX7_floor_2 hk1 ?_
  refine g_iload_n hw 1 dX7_floor_5 rfl ?_
  refine g_iconst (v := 0) hw dX7_floor_6 (by decide) ?_
  refine g_iconst (v := 1) hw dX7_floor_7 (by decide) ?_
  refine sX7_253 hw rfl dX7_floor_8 rfl (gK2 hkf) h (fun r3 M2 h => ?_)
  refine g_if_eq (tgt := 44) hw dX7_floor_11 (by decide) (fun hb4 => ?_) (fun hb4 => ?_)
  · have h := gT h hb4
    refine g_iconst (v := 0) hw dX7_floor_44 (by decide) ?_
    exact g_iret hw dX7_floor_45 (by decide +kernel) ⟨_, rfl, h⟩
  · have h := gF h hb4
    refine g_iload_n hw 2 dX7_floor_14 rfl ?_
    refine sX7_260 hw rfl dX7_floor_15 rfl (gK2 hkf) h (fun r6 M5 h => ?_)
    refine g_if_eq (tgt := 44) hw dX7_floor_18 (by decide) (fun hb7 => ?_) (fun hb7 => ?_)
    · have h := gT h hb7
      refine g_iconst (v := 0) hw dX7_floor_44 (by decide) ?_
      exact g_iret hw dX7_floor_45 (by decide +kernel) ⟨_, rfl, h⟩
    · have h := gF h hb7
      refine g_iload_n hw 3 dX7_floor_21 rfl ?_
      refine g_iconst (v := 0) hw dX7_floor_22 (by decide) ?_
      refine g_sipush (v := 999) hw dX7_floor_23 (by decide) ?_
      refine sX7_253 hw rfl dX7_floor_26 rfl (gK2 hkf) h (fun r9 M8 h => ?_)
      refine g_if_eq (tgt := 44) hw dX7_floor_29 (by decide) (fun hb10 => ?_) (fun hb10 => ?_)
      · have h := gT h hb10
        refine g_iconst (v := 0) hw dX7_floor_44 (by decide) ?_
        exact g_iret hw dX7_floor_45 (by decide +kernel) ⟨_, rfl, h⟩
      · have h := gF h hb10
        refine g_iload hw 4 dX7_floor_32 rfl ?_
        refine g_bipush (v := (-99)) hw dX7_floor_34 (by decide) ?_
        refine g_bipush (v := 99) hw dX7_floor_36 (by decide) ?_
        refine sX7_253 hw rfl dX7_floor_38 rfl (gK2 hkf) h (fun r12 M11 h => ?_)
        refine g_if_ne (tgt := 46) hw dX7_floor_41 (by decide) (fun hb13 => ?_) (fun hb13 => ?_)
        · have h := gF h hb13
          refine g_iload_n hw 2 dX7_floor_46 rfl ?_
          refine g_istore hw (lv2 := [(0, .ref (gA G 268)), (1, .int p1), (3, .int p3), (4, .int p4), (5, .int p2)]) [1, 2, 4, 5, 0] dX7_floor_47 rfl rfl ?_
          obtain ⟨n9, h⟩ := h
          refine wX7_floor_L49 hw hkf (fun M28 h => ?_) n9 p2 M11 h
          refine g_iconst (v := 1) hw dX7_floor_89 (by decide) ?_
          exact g_iret hw dX7_floor_90 (by decide +kernel) ⟨_, rfl, h⟩
        · have h := gT h hb13
          refine g_iconst (v := 0) hw dX7_floor_44 (by decide) ?_
          exact g_iret hw dX7_floor_45 (by decide +kernel) ⟨_, rfl, h⟩
theorem gfX7_208 {y0 : MethodName} {cc : ByteArray} {nL : Nat} {ret : Option FieldType} {hh : List (Nat × Nat × Nat × Nat)} {kf : Nat} {G : gG} {Qv : Option Value → gM → Prop} {E : String → Nat → gM → Prop} {w : gM → Nat → List (Nat × Value) → List Value → Prop} {M : gM} {pc : Nat} {lv : List (Nat × Value)} {rest : List Value} (hw : gX y0 cc nL ret hh kf G Qv E w) (hy : y0.cls = RX7) {c : Nat} (d : decode cc pc = .ok (.getfield 208, 3)) (hk : gk M c = 7) (kk : w M (pc + 3) lv (.int (gI M c 15) :: rest)) : w M pc lv (.ref (gA G c) :: rest) := by
  obtain ⟨cls9, nm9, ds9⟩ := y0
  subst hy
  exact g_getC (C := RX7) (T := TX7) (N := 58) (ci := 6) hw in_X7 rfl 15 (by decide) (Or.inl q1171) rfl d hk kk
def fX7_handsBy (p1 : Int32) (p2 : Int32) (M : gM) (Q : Int32 → gM → Prop) : Prop :=
  gk M 268 = 7 ∧ Q ((10 * p1) + ((gI M 268 15) * p2)) M
theorem mX7_handsBy {kf : Nat} (hkf : 1 ≤ kf) (G : gG) (p1 : Int32) (p2 : Int32) (M : gM) (Q : Int32 → gM → Prop) (h : fX7_handsBy p1 p2 M Q) : gMet yX7_handsBy cX7_handsBy 3 (Option.some FieldType.int) kf G M [.ref (gA G 268), .int p1, .int p2] (gQi Q) gE0 := by
  refine g_intro (lv := [(0, .ref (gA G 268)), (1, .int p1), (2, .int p2)]) (by decide) rfl rfl (fun w hw => ?_)
  unfold fX7_handsBy at h
  refine g_bipush (v := 10) hw dX7_handsBy_0 (by decide) ?_
  refine g_iload_n hw 1 dX7_handsBy_2 rfl ?_
  refine g_imul hw dX7_handsBy_3 ?_
  refine g_aload_n hw 0 dX7_handsBy_4 rfl ?_
  obtain ⟨hk1, h⟩ := h
  refine gfX7_208 hw rfl dX7_handsBy_5 hk1 ?_
  refine g_iload_n hw 2 dX7_handsBy_8 rfl ?_
  refine g_imul hw dX7_handsBy_9 ?_
  refine g_iadd hw dX7_handsBy_10 ?_
  exact g_iret hw dX7_handsBy_11 rfl ⟨_, rfl, h⟩
theorem sX7_263 {y0 : MethodName} {cc : ByteArray} {nL : Nat} {ret : Option FieldType} {hh : List (Nat × Nat × Nat × Nat)} {kf : Nat} {G : gG} {Qv : Option Value → gM → Prop} {E : String → Nat → gM → Prop} {w : gM → Nat → List (Nat × Value) → List Value → Prop} {M : gM} {pc : Nat} {lv : List (Nat × Value)} {rest : List Value} (hw : gX y0 cc nL ret hh kf G Qv E w) (hy : y0.cls = RX7) {p1 : Int32} {p2 : Int32} {Q : Int32 → gM → Prop} (d : decode cc pc = .ok (.invokevirtual 263, 3)) (hrest : Nat.ble ((rest.map Value.category).sum) 8 = true) (hk : 1 + 1 ≤ kf) (hkd : gk M 268 = 7) (h : fX7_handsBy p1 p2 M Q) (kk : ∀ r M1, Q r M1 → w M1 (pc + 3) lv (.int r :: rest)) : w M pc lv (.int p2 :: .int p1 :: .ref (gA G 268) :: rest) := by
  obtain ⟨cls9, nm9, ds9⟩ := y0
  subst hy
  exact g_callV (r := (RX7, TX7, 58)) (ci := 6) hw [.int p1, .int p2] (nA := 2) rfl d q1370 q1372 qs46 q104 q1373 (by decide +kernel) rfl rfl hrest rfl (by omega : kf - 1 + 1 ≤ kf) hkd (mX7_handsBy (kf := kf - 1) (by omega) G p1 p2 M Q h) (fun _ _ _ q => q.elim) (fun v M1 h => by obtain ⟨r, rfl, h⟩ := h; exact kk r M1 h)
def fX7_handsOf (p1 : Int32) (p2 : Int32) (M : gM) (Q : Int32 → gM → Prop) : Prop :=
  gk M 268 = 7 ∧ gdr (gR M 268 19) (fun a2 => gk M a2 = 40 ∧ vp_in ((12 * p1) + p2) (gl M a2) ∧ gdr (gR M 268 20) (fun a6 => gk M a6 = 40 ∧ vp_in ((12 * p1) + p2) (gl M a6) ∧ fX7_handsBy (gI M a2 (((12 * p1) + p2).toNatClampNeg)) (gI M a6 (((12 * p1) + p2).toNatClampNeg)) M (fun r11 M10 => Q r11 M10)))
theorem mX7_handsOf {kf : Nat} (hkf : 2 ≤ kf) (G : gG) (p1 : Int32) (p2 : Int32) (M : gM) (Q : Int32 → gM → Prop) (h : fX7_handsOf p1 p2 M Q) : gMet yX7_handsOf cX7_handsOf 3 (Option.some FieldType.int) kf G M [.ref (gA G 268), .int p1, .int p2] (gQi Q) gE0 := by
  refine g_intro (lv := [(0, .ref (gA G 268)), (1, .int p1), (2, .int p2)]) (by decide) rfl rfl (fun w hw => ?_)
  unfold fX7_handsOf at h
  refine g_aload_n hw 0 dX7_handsOf_0 rfl ?_
  refine g_aload_n hw 0 dX7_handsOf_1 rfl ?_
  obtain ⟨hk1, h⟩ := h
  obtain ⟨a2, e3, h⟩ := h
  refine gfX7_118 (q := some a2) hw rfl dX7_handsOf_2 hk1 e3 ?_
  refine g_bipush (v := 12) hw dX7_handsOf_5 (by decide) ?_
  refine g_iload_n hw 1 dX7_handsOf_7 rfl ?_
  refine g_imul hw dX7_handsOf_8 ?_
  refine g_iload_n hw 2 dX7_handsOf_9 rfl ?_
  refine g_iadd hw dX7_handsOf_10 ?_
  obtain ⟨hk4, h⟩ := h
  obtain ⟨hi5, h⟩ := h
  refine g_iald (n := ((12 * p1) + p2).toNatClampNeg) hw dX7_handsOf_11 hk4 hi5 rfl ?_
  refine g_aload_n hw 0 dX7_handsOf_12 rfl ?_
  obtain ⟨a6, e7, h⟩ := h
  refine gfX7_121 (q := some a6) hw rfl dX7_handsOf_13 hk1 e7 ?_
  refine g_bipush (v := 12) hw dX7_handsOf_16 (by decide) ?_
  refine g_iload_n hw 1 dX7_handsOf_18 rfl ?_
  refine g_imul hw dX7_handsOf_19 ?_
  refine g_iload_n hw 2 dX7_handsOf_20 rfl ?_
  refine g_iadd hw dX7_handsOf_21 ?_
  obtain ⟨hk8, h⟩ := h
  obtain ⟨hi9, h⟩ := h
  refine g_iald (n := ((12 * p1) + p2).toNatClampNeg) hw dX7_handsOf_22 hk8 hi9 rfl ?_
  refine sX7_263 hw rfl dX7_handsOf_23 rfl (gK2 hkf) hk1 h (fun r11 M10 h => ?_)
  exact g_iret hw dX7_handsOf_26 rfl ⟨_, rfl, h⟩
theorem sX7_267 {y0 : MethodName} {cc : ByteArray} {nL : Nat} {ret : Option FieldType} {hh : List (Nat × Nat × Nat × Nat)} {kf : Nat} {G : gG} {Qv : Option Value → gM → Prop} {E : String → Nat → gM → Prop} {w : gM → Nat → List (Nat × Value) → List Value → Prop} {M : gM} {pc : Nat} {lv : List (Nat × Value)} {rest : List Value} (hw : gX y0 cc nL ret hh kf G Qv E w) (hy : y0.cls = RX7) {p1 : Int32} {p2 : Int32} {Q : Int32 → gM → Prop} (d : decode cc pc = .ok (.invokevirtual 267, 3)) (hrest : Nat.ble ((rest.map Value.category).sum) 8 = true) (hk : 2 + 1 ≤ kf) (hkd : gk M 268 = 7) (h : fX7_handsOf p1 p2 M Q) (kk : ∀ r M1, Q r M1 → w M1 (pc + 3) lv (.int r :: rest)) : w M pc lv (.int p2 :: .int p1 :: .ref (gA G 268) :: rest) := by
  obtain ⟨cls9, nm9, ds9⟩ := y0
  subst hy
  exact g_callV (r := (RX7, TX7, 58)) (ci := 6) hw [.int p1, .int p2] (nA := 2) rfl d q1366 q1368 qs45 q104 q1369 (by decide +kernel) rfl rfl hrest rfl (by omega : kf - 1 + 1 ≤ kf) hkd (mX7_handsOf (kf := kf - 1) (by omega) G p1 p2 M Q h) (fun _ _ _ q => q.elim) (fun v M1 h => by obtain ⟨r, rfl, h⟩ := h; exact kk r M1 h)
def fX7_hands_b43  (M : gM) (Q : Int32 → gM → Prop) : Prop :=
  Q (-1) M
theorem wX7_hands_b43 {kf : Nat} {G : gG} {w : gM → Nat → List (Nat × Value) → List Value → Prop} {Q : Int32 → gM → Prop} (hw : gX yX7_hands cX7_hands 3 (Option.some FieldType.int) [] kf G (gQi Q) gE0 w) (hkf : 3 ≤ kf)   {M : gM}  (h : fX7_hands_b43 M Q) : w M 43 [] [] := by
  unfold fX7_hands_b43 at h
  refine g_iconst (v := (-1)) hw dX7_hands_43 (by decide) ?_
  exact g_iret hw dX7_hands_44 rfl ⟨_, rfl, h⟩
def fX7_hands (p1 : Int32) (p2 : Int32) (M : gM) (Q : Int32 → gM → Prop) : Prop :=
  gk M 268 = 7 ∧ fX7_isKitchen p1 (gsI M 268 0 0) (fun r3 M2 => (if r3 = 0 then fX7_hands_b43 M2 Q else fX7_isMonth p2 M2 (fun r6 M5 => (if r6 = 0 then fX7_hands_b43 M5 Q else gk M5 268 = 7 ∧ gdr (gR M5 268 18) (fun a9 => gk M5 a9 = 40 ∧ vp_in ((12 * p1) + p2) (gl M5 a9) ∧ (if (gI M5 a9 (((12 * p1) + p2).toNatClampNeg)) = 0 then fX7_hands_b43 M5 Q else fX7_handsOf p1 p2 M5 (fun r15 M14 => Q r15 M14)))))))
theorem mX7_hands {kf : Nat} (hkf : 3 ≤ kf) (G : gG) (p1 : Int32) (p2 : Int32) (M : gM) (Q : Int32 → gM → Prop) (h : fX7_hands p1 p2 M Q) : gMet yX7_hands cX7_hands 3 (Option.some FieldType.int) kf G M [.ref (gA G 268), .int p1, .int p2] (gQi Q) gE0 := by
  refine g_intro (lv := [(0, .ref (gA G 268)), (1, .int p1), (2, .int p2)]) (by decide) rfl rfl (fun w hw => ?_)
  unfold fX7_hands at h
  refine g_aload_n hw 0 dX7_hands_0 rfl ?_
  refine g_iconst (v := 0) hw dX7_hands_1 (by decide) ?_
  obtain ⟨hk1, h⟩ := h
  refine pfX7_1 hw rfl dX7_hands_2 hk1 ?_
  refine g_aload_n hw 0 dX7_hands_5 rfl ?_
  refine g_iload_n hw 1 dX7_hands_6 rfl ?_
  refine sX7_257 hw rfl dX7_hands_7 rfl (gK2 hkf) hk1 h (fun r3 M2 h => ?_)
  refine g_if_eq (tgt := 43) hw dX7_hands_10 (by decide) (fun hb4 => ?_) (fun hb4 => ?_)
  · have h := gT h hb4
    refine g_sub hw (lv2 := []) [] rfl ?_
    exact wX7_hands_b43 hw hkf h
  · have h := gF h hb4
    refine g_iload_n hw 2 dX7_hands_13 rfl ?_
    refine sX7_260 hw rfl dX7_hands_14 rfl (gK2 hkf) h (fun r6 M5 h => ?_)
    refine g_if_eq (tgt := 43) hw dX7_hands_17 (by decide) (fun hb7 => ?_) (fun hb7 => ?_)
    · have h := gT h hb7
      refine g_sub hw (lv2 := []) [] rfl ?_
      exact wX7_hands_b43 hw hkf h
    · have h := gF h hb7
      refine g_aload_n hw 0 dX7_hands_20 rfl ?_
      obtain ⟨hk8, h⟩ := h
      obtain ⟨a9, e10, h⟩ := h
      refine gfX7_115 (q := some a9) hw rfl dX7_hands_21 hk8 e10 ?_
      refine g_bipush (v := 12) hw dX7_hands_24 (by decide) ?_
      refine g_iload_n hw 1 dX7_hands_26 rfl ?_
      refine g_imul hw dX7_hands_27 ?_
      refine g_iload_n hw 2 dX7_hands_28 rfl ?_
      refine g_iadd hw dX7_hands_29 ?_
      obtain ⟨hk11, h⟩ := h
      obtain ⟨hi12, h⟩ := h
      refine g_iald (n := ((12 * p1) + p2).toNatClampNeg) hw dX7_hands_30 hk11 hi12 rfl ?_
      refine g_if_eq (tgt := 43) hw dX7_hands_31 (by decide) (fun hb13 => ?_) (fun hb13 => ?_)
      · have h := gT h hb13
        refine g_sub hw (lv2 := []) [] rfl ?_
        exact wX7_hands_b43 hw hkf h
      · have h := gF h hb13
        refine g_aload_n hw 0 dX7_hands_34 rfl ?_
        refine g_iload_n hw 1 dX7_hands_35 rfl ?_
        refine g_iload_n hw 2 dX7_hands_36 rfl ?_
        refine sX7_267 hw rfl dX7_hands_37 rfl (gK2 hkf) hk8 h (fun r15 M14 h => ?_)
        refine g_goto (tgt := 44) hw dX7_hands_40 (by decide) ?_
        exact g_iret hw dX7_hands_44 rfl ⟨_, rfl, h⟩
def fX7_areMonths_b23  (M : gM) (Q : Int32 → gM → Prop) : Prop :=
  Q 0 M
theorem wX7_areMonths_b23 {kf : Nat} {G : gG} {w : gM → Nat → List (Nat × Value) → List Value → Prop} {Q : Int32 → gM → Prop} (hw : gX yX7_areMonths cX7_areMonths 2 (Option.some FieldType.boolean) [] kf G (gQi Q) gE0 w) (hkf : 3 ≤ kf)   {M : gM}  (h : fX7_areMonths_b23 M Q) : w M 23 [] [] := by
  unfold fX7_areMonths_b23 at h
  refine g_iconst (v := 0) hw dX7_areMonths_23 (by decide) ?_
  exact g_iret hw dX7_areMonths_24 (by decide +kernel) ⟨_, rfl, h⟩
def fX7_areMonths (p1 : Int32) (p2 : Int32) (M : gM) (Q : Int32 → gM → Prop) : Prop :=
  fX7_isMonth p1 M (fun r2 M1 => (if r2 = 0 then fX7_areMonths_b23 M1 Q else fX7_isMonth p2 M1 (fun r5 M4 => (if r5 = 0 then fX7_areMonths_b23 M4 Q else (if p1 = p2 then fX7_areMonths_b23 M4 Q else Q 1 M4)))))
theorem mX7_areMonths {kf : Nat} (hkf : 3 ≤ kf) (G : gG) (p1 : Int32) (p2 : Int32) (M : gM) (Q : Int32 → gM → Prop) (h : fX7_areMonths p1 p2 M Q) : gMet yX7_areMonths cX7_areMonths 2 (Option.some FieldType.boolean) kf G M [.int p1, .int p2] (gQi Q) gE0 := by
  refine g_intro (lv := [(0, .int p1), (1, .int p2)]) (by decide) rfl rfl (fun w hw => ?_)
  unfold fX7_areMonths at h
  refine g_iload_n hw 0 dX7_areMonths_0 rfl ?_
  refine sX7_260 hw rfl dX7_areMonths_1 rfl (gK2 hkf) h (fun r2 M1 h => ?_)
  refine g_if_eq (tgt := 23) hw dX7_areMonths_4 (by decide) (fun hb3 => ?_) (fun hb3 => ?_)
  · have h := gT h hb3
    refine g_sub hw (lv2 := []) [] rfl ?_
    exact wX7_areMonths_b23 hw hkf h
  · have h := gF h hb3
    refine g_iload_n hw 1 dX7_areMonths_7 rfl ?_
    refine sX7_260 hw rfl dX7_areMonths_8 rfl (gK2 hkf) h (fun r5 M4 h => ?_)
    refine g_if_eq (tgt := 23) hw dX7_areMonths_11 (by decide) (fun hb6 => ?_) (fun hb6 => ?_)
    · have h := gT h hb6
      refine g_sub hw (lv2 := []) [] rfl ?_
      exact wX7_areMonths_b23 hw hkf h
    · have h := gF h hb6
      refine g_iload_n hw 0 dX7_areMonths_14 rfl ?_
      refine g_iload_n hw 1 dX7_areMonths_15 rfl ?_
      refine g_icmp_eq (tgt := 23) hw dX7_areMonths_16 (by decide) (fun hb7 => ?_) (fun hb7 => ?_)
      · have h := gT h hb7
        refine g_sub hw (lv2 := []) [] rfl ?_
        exact wX7_areMonths_b23 hw hkf h
      · have h := gF h hb7
        refine g_iconst (v := 1) hw dX7_areMonths_19 (by decide) ?_
        refine g_goto (tgt := 24) hw dX7_areMonths_20 (by decide) ?_
        exact g_iret hw dX7_areMonths_24 (by decide +kernel) ⟨_, rfl, h⟩
def fX7_isCounted_b41  (M : gM) (Q : Int32 → gM → Prop) : Prop :=
  Q 0 M
theorem wX7_isCounted_b41 {kf : Nat} {G : gG} {w : gM → Nat → List (Nat × Value) → List Value → Prop} {Q : Int32 → gM → Prop} (hw : gX yX7_isCounted cX7_isCounted 4 (Option.some FieldType.boolean) [] kf G (gQi Q) gE0 w) (hkf : 1 ≤ kf)   {M : gM}  (h : fX7_isCounted_b41 M Q) : w M 41 [] [] := by
  unfold fX7_isCounted_b41 at h
  refine g_iconst (v := 0) hw dX7_isCounted_41 (by decide) ?_
  exact g_iret hw dX7_isCounted_42 (by decide +kernel) ⟨_, rfl, h⟩
def fX7_isCounted (p1 : Int32) (p2 : Int32) (p3 : Int32) (M : gM) (Q : Int32 → gM → Prop) : Prop :=
  gk M 268 = 7 ∧ gdr (gR M 268 10) (fun a2 => gk M a2 = 43 ∧ vp_in p1 (gl M a2) ∧ (if (gI M a2 p1.toNatClampNeg) = 0 then fX7_isCounted_b41 M Q else gdr (gR M 268 18) (fun a7 => gk M a7 = 40 ∧ vp_in ((12 * p1) + p2) (gl M a7) ∧ (if (gI M a7 (((12 * p1) + p2).toNatClampNeg)) = 0 then fX7_isCounted_b41 M Q else gdr (gR M 268 18) (fun a12 => gk M a12 = 40 ∧ vp_in ((12 * p1) + p3) (gl M a12) ∧ (if (gI M a12 (((12 * p1) + p3).toNatClampNeg)) = 0 then fX7_isCounted_b41 M Q else Q 1 M))))))
theorem mX7_isCounted {kf : Nat} (hkf : 1 ≤ kf) (G : gG) (p1 : Int32) (p2 : Int32) (p3 : Int32) (M : gM) (Q : Int32 → gM → Prop) (h : fX7_isCounted p1 p2 p3 M Q) : gMet yX7_isCounted cX7_isCounted 4 (Option.some FieldType.boolean) kf G M [.ref (gA G 268), .int p1, .int p2, .int p3] (gQi Q) gE0 := by
  refine g_intro (lv := [(0, .ref (gA G 268)), (1, .int p1), (2, .int p2), (3, .int p3)]) (by decide) rfl rfl (fun w hw => ?_)
  unfold fX7_isCounted at h
  refine g_aload_n hw 0 dX7_isCounted_0 rfl ?_
  obtain ⟨hk1, h⟩ := h
  obtain ⟨a2, e3, h⟩ := h
  refine gfX7_93 (q := some a2) hw rfl dX7_isCounted_1 hk1 e3 ?_
  refine g_iload_n hw 1 dX7_isCounted_4 rfl ?_
  obtain ⟨hk4, h⟩ := h
  obtain ⟨hi5, h⟩ := h
  refine g_zald (n := p1.toNatClampNeg) hw dX7_isCounted_5 hk4 hi5 rfl ?_
  refine g_if_eq (tgt := 41) hw dX7_isCounted_6 (by decide) (fun hb6 => ?_) (fun hb6 => ?_)
  · have h := gT h hb6
    refine g_sub hw (lv2 := []) [] rfl ?_
    exact wX7_isCounted_b41 hw hkf h
  · have h := gF h hb6
    refine g_aload_n hw 0 dX7_isCounted_9 rfl ?_
    obtain ⟨a7, e8, h⟩ := h
    refine gfX7_115 (q := some a7) hw rfl dX7_isCounted_10 hk1 e8 ?_
    refine g_bipush (v := 12) hw dX7_isCounted_13 (by decide) ?_
    refine g_iload_n hw 1 dX7_isCounted_15 rfl ?_
    refine g_imul hw dX7_isCounted_16 ?_
    refine g_iload_n hw 2 dX7_isCounted_17 rfl ?_
    refine g_iadd hw dX7_isCounted_18 ?_
    obtain ⟨hk9, h⟩ := h
    obtain ⟨hi10, h⟩ := h
    refine g_iald (n := ((12 * p1) + p2).toNatClampNeg) hw dX7_isCounted_19 hk9 hi10 rfl ?_
    refine g_if_eq (tgt := 41) hw dX7_isCounted_20 (by decide) (fun hb11 => ?_) (fun hb11 => ?_)
    · have h := gT h hb11
      refine g_sub hw (lv2 := []) [] rfl ?_
      exact wX7_isCounted_b41 hw hkf h
    · have h := gF h hb11
      refine g_aload_n hw 0 dX7_isCounted_23 rfl ?_
      obtain ⟨a12, e13, h⟩ := h
      refine gfX7_115 (q := some a12) hw rfl dX7_isCounted_24 hk1 e13 ?_
      refine g_bipush (v := 12) hw dX7_isCounted_27 (by decide) ?_
      refine g_iload_n hw 1 dX7_isCounted_29 rfl ?_
      refine g_imul hw dX7_isCounted_30 ?_
      refine g_iload_n hw 3 dX7_isCounted_31 rfl ?_
      refine g_iadd hw dX7_isCounted_32 ?_
      obtain ⟨hk14, h⟩ := h
      obtain ⟨hi15, h⟩ := h
      refine g_iald (n := ((12 * p1) + p3).toNatClampNeg) hw dX7_isCounted_33 hk14 hi15 rfl ?_
      refine g_if_eq (tgt := 41) hw dX7_isCounted_34 (by decide) (fun hb16 => ?_) (fun hb16 => ?_)
      · have h := gT h hb16
        refine g_sub hw (lv2 := []) [] rfl ?_
        exact wX7_isCounted_b41 hw hkf h
      · have h := gF h hb16
        refine g_iconst (v := 1) hw dX7_isCounted_37 (by decide) ?_
        refine g_goto (tgt := 42) hw dX7_isCounted_38 (by decide) ?_
        exact g_iret hw dX7_isCounted_42 (by decide +kernel) ⟨_, rfl, h⟩
def fX7_changeOf (p1 : Int32) (p2 : Int32) (p3 : Int32) (M : gM) (Q : Int32 → gM → Prop) : Prop :=
  gk M 268 = 7 ∧ fX7_handsOf p1 p3 M (fun r3 M2 => gk M2 268 = 7 ∧ fX7_handsOf p1 p2 M2 (fun r6 M5 => Q (r3 - r6) M5))
theorem mX7_changeOf {kf : Nat} (hkf : 3 ≤ kf) (G : gG) (p1 : Int32) (p2 : Int32) (p3 : Int32) (M : gM) (Q : Int32 → gM → Prop) (h : fX7_changeOf p1 p2 p3 M Q) : gMet yX7_changeOf cX7_changeOf 4 (Option.some FieldType.int) kf G M [.ref (gA G 268), .int p1, .int p2, .int p3] (gQi Q) gE0 := by
  refine g_intro (lv := [(0, .ref (gA G 268)), (1, .int p1), (2, .int p2), (3, .int p3)]) (by decide) rfl rfl (fun w hw => ?_)
  unfold fX7_changeOf at h
  refine g_aload_n hw 0 dX7_changeOf_0 rfl ?_
  refine g_iload_n hw 1 dX7_changeOf_1 rfl ?_
  refine g_iload_n hw 3 dX7_changeOf_2 rfl ?_
  obtain ⟨hk1, h⟩ := h
  refine sX7_267 hw rfl dX7_changeOf_3 rfl (gK2 hkf) hk1 h (fun r3 M2 h => ?_)
  refine g_aload_n hw 0 dX7_changeOf_6 rfl ?_
  refine g_iload_n hw 1 dX7_changeOf_7 rfl ?_
  refine g_iload_n hw 2 dX7_changeOf_8 rfl ?_
  obtain ⟨hk4, h⟩ := h
  refine sX7_267 hw rfl dX7_changeOf_9 rfl (gK2 hkf) hk4 h (fun r6 M5 h => ?_)
  refine g_isub hw dX7_changeOf_12 ?_
  exact g_iret hw dX7_changeOf_13 rfl ⟨_, rfl, h⟩
theorem sX7_277 {y0 : MethodName} {cc : ByteArray} {nL : Nat} {ret : Option FieldType} {hh : List (Nat × Nat × Nat × Nat)} {kf : Nat} {G : gG} {Qv : Option Value → gM → Prop} {E : String → Nat → gM → Prop} {w : gM → Nat → List (Nat × Value) → List Value → Prop} {M : gM} {pc : Nat} {lv : List (Nat × Value)} {rest : List Value} (hw : gX y0 cc nL ret hh kf G Qv E w) (hy : y0.cls = RX7) {p1 : Int32} {p2 : Int32} {p3 : Int32} {Q : Int32 → gM → Prop} (d : decode cc pc = .ok (.invokevirtual 277, 3)) (hrest : Nat.ble ((rest.map Value.category).sum) 8 = true) (hk : 3 + 1 ≤ kf) (hkd : gk M 268 = 7) (h : fX7_changeOf p1 p2 p3 M Q) (kk : ∀ r M1, Q r M1 → w M1 (pc + 3) lv (.int r :: rest)) : w M pc lv (.int p3 :: .int p2 :: .int p1 :: .ref (gA G 268) :: rest) := by
  obtain ⟨cls9, nm9, ds9⟩ := y0
  subst hy
  exact g_callV (r := (RX7, TX7, 58)) (ci := 6) hw [.int p1, .int p2, .int p3] (nA := 3) rfl d q1385 q1387 qs48 q104 q1388 (by decide +kernel) rfl rfl hrest rfl (by omega : kf - 1 + 1 ≤ kf) hkd (mX7_changeOf (kf := kf - 1) (by omega) G p1 p2 p3 M Q h) (fun _ _ _ q => q.elim) (fun v M1 h => by obtain ⟨r, rfl, h⟩ := h; exact kk r M1 h)
theorem sX7_274 {y0 : MethodName} {cc : ByteArray} {nL : Nat} {ret : Option FieldType} {hh : List (Nat × Nat × Nat × Nat)} {kf : Nat} {G : gG} {Qv : Option Value → gM → Prop} {E : String → Nat → gM → Prop} {w : gM → Nat → List (Nat × Value) → List Value → Prop} {M : gM} {pc : Nat} {lv : List (Nat × Value)} {rest : List Value} (hw : gX y0 cc nL ret hh kf G Qv E w) (hy : y0.cls = RX7) {p1 : Int32} {p2 : Int32} {p3 : Int32} {Q : Int32 → gM → Prop} (d : decode cc pc = .ok (.invokevirtual 274, 3)) (hrest : Nat.ble ((rest.map Value.category).sum) 8 = true) (hk : 1 + 1 ≤ kf) (hkd : gk M 268 = 7) (h : fX7_isCounted p1 p2 p3 M Q) (kk : ∀ r M1, Q r M1 → w M1 (pc + 3) lv (.int r :: rest)) : w M pc lv (.int p3 :: .int p2 :: .int p1 :: .ref (gA G 268) :: rest) := by
  obtain ⟨cls9, nm9, ds9⟩ := y0
  subst hy
  exact g_callV (r := (RX7, TX7, 58)) (ci := 6) hw [.int p1, .int p2, .int p3] (nA := 3) rfl d q1381 q1383 qs47 q104 q1384 (by decide +kernel) rfl rfl hrest rfl (by omega : kf - 1 + 1 ≤ kf) hkd (mX7_isCounted (kf := kf - 1) (by omega) G p1 p2 p3 M Q h) (fun _ _ _ q => q.elim) (fun v M1 h => by obtain ⟨r, rfl, h⟩ := h; exact kk r M1 h)
theorem sX7_270 {y0 : MethodName} {cc : ByteArray} {nL : Nat} {ret : Option FieldType} {hh : List (Nat × Nat × Nat × Nat)} {kf : Nat} {G : gG} {Qv : Option Value → gM → Prop} {E : String → Nat → gM → Prop} {w : gM → Nat → List (Nat × Value) → List Value → Prop} {M : gM} {pc : Nat} {lv : List (Nat × Value)} {rest : List Value} (hw : gX y0 cc nL ret hh kf G Qv E w) (hy : y0.cls = RX7) {p1 : Int32} {p2 : Int32} {Q : Int32 → gM → Prop} (d : decode cc pc = .ok (.invokestatic 270, 3)) (hrest : Nat.ble ((rest.map Value.category).sum) 8 = true) (hk : 3 + 1 ≤ kf) (h : fX7_areMonths p1 p2 M Q) (kk : ∀ r M1, Q r M1 → w M1 (pc + 3) lv (.int r :: rest)) : w M pc lv (.int p2 :: .int p1 :: rest) := by
  obtain ⟨cls9, nm9, ds9⟩ := y0
  subst hy
  exact g_callS hw [.int p1, .int p2] (nA := 2) rfl d q1378 q1379 q104 q1380 (by decide +kernel) rfl hrest rfl (by omega : kf - 1 + 1 ≤ kf) (mX7_areMonths (kf := kf - 1) (by omega) G p1 p2 M Q h) (fun _ _ _ q => q.elim) (fun v M1 h => by obtain ⟨r, rfl, h⟩ := h; exact kk r M1 h)
def fX7_bank_b269 (R51 : Int32 → Int32 → gM → Prop) (l1_15 : Int32) (l2_16 : Int32) (l3_17 : Int32) (l4_18 : Int32) (l5_72 : Int32) (l6_73 : Int32) (M : gM) (Q : Int32 → gM → Prop) : Prop :=
  R51 l5_72 (l6_73 + 1) M
theorem wX7_bank_b269 {kf : Nat} {G : gG} {w : gM → Nat → List (Nat × Value) → List Value → Prop} {Q : Int32 → gM → Prop} (hw : gX yX7_bank cX7_bank 11 (Option.some FieldType.int) [] kf G (gQi Q) gE0 w) (hkf : 4 ≤ kf) {R51 : Int32 → Int32 → gM → Prop} {l1_15 : Int32} {l2_16 : Int32} {l3_17 : Int32} {l4_18 : Int32} {l5_72 : Int32} {l6_73 : Int32} {M : gM} (hR51 : ∀ (v0 : Int32) (v1 : Int32) (M : gM), R51 v0 v1 M → w M 51 [(0, .ref (gA G 268)), (1, .int l1_15), (2, .int l2_16), (3, .int l3_17), (4, .int l4_18), (5, .int v0), (6, .int v1)] []) (h : fX7_bank_b269 R51 l1_15 l2_16 l3_17 l4_18 l5_72 l6_73 M Q) : w M 269 [(0, .ref (gA G 268)), (1, .int l1_15), (2, .int l2_16), (3, .int l3_17), (4, .int l4_18), (5, .int l5_72), (6, .int l6_73)] [] := by
  unfold fX7_bank_b269 at h
  refine g_iinc hw (lv2 := [(0, .ref (gA G 268)), (1, .int l1_15), (2, .int l2_16), (3, .int l3_17), (4, .int l4_18), (5, .int l5_72), (6, .int (l6_73 + 1))]) 6 [1, 2, 3, 4, 5, 6, 0] dX7_bank_269 rfl (by decide) rfl rfl ?_
  refine g_goto (tgt := 51) hw dX7_bank_272 (by decide) ?_
  exact hR51 l5_72 (l6_73 + 1) M h
def fX7_bank_b266 (R51 : Int32 → Int32 → gM → Prop) (l1_15 : Int32) (l2_16 : Int32) (l3_17 : Int32) (l4_18 : Int32) (l6_69 : Int32) (s0_70 : Int32) (s1_71 : Int32) (M : gM) (Q : Int32 → gM → Prop) : Prop :=
  fX7_bank_b269 R51 l1_15 l2_16 l3_17 l4_18 (s0_70 + s1_71) l6_69 M Q
theorem wX7_bank_b266 {kf : Nat} {G : gG} {w : gM → Nat → List (Nat × Value) → List Value → Prop} {Q : Int32 → gM → Prop} (hw : gX yX7_bank cX7_bank 11 (Option.some FieldType.int) [] kf G (gQi Q) gE0 w) (hkf : 4 ≤ kf) {R51 : Int32 → Int32 → gM → Prop} {l1_15 : Int32} {l2_16 : Int32} {l3_17 : Int32} {l4_18 : Int32} {l6_69 : Int32} {s0_70 : Int32} {s1_71 : Int32} {M : gM} (hR51 : ∀ (v0 : Int32) (v1 : Int32) (M : gM), R51 v0 v1 M → w M 51 [(0, .ref (gA G 268)), (1, .int l1_15), (2, .int l2_16), (3, .int l3_17), (4, .int l4_18), (5, .int v0), (6, .int v1)] []) (h : fX7_bank_b266 R51 l1_15 l2_16 l3_17 l4_18 l6_69 s0_70 s1_71 M Q) : w M 266 [(0, .ref (gA G 268)), (1, .int l1_15), (2, .int l2_16), (3, .int l3_17), (4, .int l4_18), (6, .int l6_69)] [.int s1_71, .int s0_70] := by
  unfold fX7_bank_b266 at h
  refine g_iadd hw dX7_bank_266 ?_
  refine g_istore hw (lv2 := [(0, .ref (gA G 268)), (1, .int l1_15), (2, .int l2_16), (3, .int l3_17), (4, .int l4_18), (5, .int (s0_70 + s1_71)), (6, .int l6_69)]) [1, 2, 3, 4, 5, 0, 6] dX7_bank_267 rfl rfl ?_
  exact wX7_bank_b269 hw hkf hR51 h
def fX7_bank_b265 (R51 : Int32 → Int32 → gM → Prop) (l1_15 : Int32) (l2_16 : Int32) (l3_17 : Int32) (l4_18 : Int32) (l6_67 : Int32) (s0_68 : Int32) (M : gM) (Q : Int32 → gM → Prop) : Prop :=
  fX7_bank_b266 R51 l1_15 l2_16 l3_17 l4_18 l6_67 s0_68 0 M Q
theorem wX7_bank_b265 {kf : Nat} {G : gG} {w : gM → Nat → List (Nat × Value) → List Value → Prop} {Q : Int32 → gM → Prop} (hw : gX yX7_bank cX7_bank 11 (Option.some FieldType.int) [] kf G (gQi Q) gE0 w) (hkf : 4 ≤ kf) {R51 : Int32 → Int32 → gM → Prop} {l1_15 : Int32} {l2_16 : Int32} {l3_17 : Int32} {l4_18 : Int32} {l6_67 : Int32} {s0_68 : Int32} {M : gM} (hR51 : ∀ (v0 : Int32) (v1 : Int32) (M : gM), R51 v0 v1 M → w M 51 [(0, .ref (gA G 268)), (1, .int l1_15), (2, .int l2_16), (3, .int l3_17), (4, .int l4_18), (5, .int v0), (6, .int v1)] []) (h : fX7_bank_b265 R51 l1_15 l2_16 l3_17 l4_18 l6_67 s0_68 M Q) : w M 265 [(0, .ref (gA G 268)), (1, .int l1_15), (2, .int l2_16), (3, .int l3_17), (4, .int l4_18), (6, .int l6_67)] [.int s0_68] := by
  unfold fX7_bank_b265 at h
  refine g_iconst (v := 0) hw dX7_bank_265 (by decide) ?_
  exact wX7_bank_b266 hw hkf hR51 h
def fX7_bank_b261 (R51 : Int32 → Int32 → gM → Prop) (l1_15 : Int32) (l2_16 : Int32) (l3_17 : Int32) (l4_18 : Int32) (l6_77 : Int32) (s0_78 : Int32) (M : gM) (Q : Int32 → gM → Prop) : Prop :=
  fX7_bank_b266 R51 l1_15 l2_16 l3_17 l4_18 l6_77 s0_78 1 M Q
theorem wX7_bank_b261 {kf : Nat} {G : gG} {w : gM → Nat → List (Nat × Value) → List Value → Prop} {Q : Int32 → gM → Prop} (hw : gX yX7_bank cX7_bank 11 (Option.some FieldType.int) [] kf G (gQi Q) gE0 w) (hkf : 4 ≤ kf) {R51 : Int32 → Int32 → gM → Prop} {l1_15 : Int32} {l2_16 : Int32} {l3_17 : Int32} {l4_18 : Int32} {l6_77 : Int32} {s0_78 : Int32} {M : gM} (hR51 : ∀ (v0 : Int32) (v1 : Int32) (M : gM), R51 v0 v1 M → w M 51 [(0, .ref (gA G 268)), (1, .int l1_15), (2, .int l2_16), (3, .int l3_17), (4, .int l4_18), (5, .int v0), (6, .int v1)] []) (h : fX7_bank_b261 R51 l1_15 l2_16 l3_17 l4_18 l6_77 s0_78 M Q) : w M 261 [(0, .ref (gA G 268)), (1, .int l1_15), (2, .int l2_16), (3, .int l3_17), (4, .int l4_18), (6, .int l6_77)] [.int s0_78] := by
  unfold fX7_bank_b261 at h
  refine g_iconst (v := 1) hw dX7_bank_261 (by decide) ?_
  refine g_goto (tgt := 266) hw dX7_bank_262 (by decide) ?_
  exact wX7_bank_b266 hw hkf hR51 h
def fX7_bank_b219 (R51 : Int32 → Int32 → gM → Prop) (l1_15 : Int32) (l2_16 : Int32) (l3_17 : Int32) (l4_18 : Int32) (l6_84 : Int32) (s0_85 : Int32) (s1_86 : Int32) (M : gM) (Q : Int32 → gM → Prop) : Prop :=
  fX7_bank_b269 R51 l1_15 l2_16 l3_17 l4_18 (s0_85 + s1_86) l6_84 M Q
theorem wX7_bank_b219 {kf : Nat} {G : gG} {w : gM → Nat → List (Nat × Value) → List Value → Prop} {Q : Int32 → gM → Prop} (hw : gX yX7_bank cX7_bank 11 (Option.some FieldType.int) [] kf G (gQi Q) gE0 w) (hkf : 4 ≤ kf) {R51 : Int32 → Int32 → gM → Prop} {l1_15 : Int32} {l2_16 : Int32} {l3_17 : Int32} {l4_18 : Int32} {l6_84 : Int32} {s0_85 : Int32} {s1_86 : Int32} {M : gM} (hR51 : ∀ (v0 : Int32) (v1 : Int32) (M : gM), R51 v0 v1 M → w M 51 [(0, .ref (gA G 268)), (1, .int l1_15), (2, .int l2_16), (3, .int l3_17), (4, .int l4_18), (5, .int v0), (6, .int v1)] []) (h : fX7_bank_b219 R51 l1_15 l2_16 l3_17 l4_18 l6_84 s0_85 s1_86 M Q) : w M 219 [(0, .ref (gA G 268)), (1, .int l1_15), (2, .int l2_16), (3, .int l3_17), (4, .int l4_18), (6, .int l6_84)] [.int s1_86, .int s0_85] := by
  unfold fX7_bank_b219 at h
  refine g_iadd hw dX7_bank_219 ?_
  refine g_istore hw (lv2 := [(0, .ref (gA G 268)), (1, .int l1_15), (2, .int l2_16), (3, .int l3_17), (4, .int l4_18), (5, .int (s0_85 + s1_86)), (6, .int l6_84)]) [1, 2, 3, 4, 5, 0, 6] dX7_bank_220 rfl rfl ?_
  refine g_goto (tgt := 269) hw dX7_bank_222 (by decide) ?_
  exact wX7_bank_b269 hw hkf hR51 h
def fX7_bank_b218 (R51 : Int32 → Int32 → gM → Prop) (l1_15 : Int32) (l2_16 : Int32) (l3_17 : Int32) (l4_18 : Int32) (l6_82 : Int32) (s0_83 : Int32) (M : gM) (Q : Int32 → gM → Prop) : Prop :=
  fX7_bank_b219 R51 l1_15 l2_16 l3_17 l4_18 l6_82 s0_83 0 M Q
theorem wX7_bank_b218 {kf : Nat} {G : gG} {w : gM → Nat → List (Nat × Value) → List Value → Prop} {Q : Int32 → gM → Prop} (hw : gX yX7_bank cX7_bank 11 (Option.some FieldType.int) [] kf G (gQi Q) gE0 w) (hkf : 4 ≤ kf) {R51 : Int32 → Int32 → gM → Prop} {l1_15 : Int32} {l2_16 : Int32} {l3_17 : Int32} {l4_18 : Int32} {l6_82 : Int32} {s0_83 : Int32} {M : gM} (hR51 : ∀ (v0 : Int32) (v1 : Int32) (M : gM), R51 v0 v1 M → w M 51 [(0, .ref (gA G 268)), (1, .int l1_15), (2, .int l2_16), (3, .int l3_17), (4, .int l4_18), (5, .int v0), (6, .int v1)] []) (h : fX7_bank_b218 R51 l1_15 l2_16 l3_17 l4_18 l6_82 s0_83 M Q) : w M 218 [(0, .ref (gA G 268)), (1, .int l1_15), (2, .int l2_16), (3, .int l3_17), (4, .int l4_18), (6, .int l6_82)] [.int s0_83] := by
  unfold fX7_bank_b218 at h
  refine g_iconst (v := 0) hw dX7_bank_218 (by decide) ?_
  exact wX7_bank_b219 hw hkf hR51 h
def fX7_bank_b211 (R51 : Int32 → Int32 → gM → Prop) (l1_15 : Int32) (l2_16 : Int32) (l3_17 : Int32) (l4_18 : Int32) (l6_88 : Int32) (s0_89 : Int32) (s1_90 : Int32) (s2_91 : Int32) (M : gM) (Q : Int32 → gM → Prop) : Prop :=
  (if s1_90 = s2_91 then fX7_bank_b219 R51 l1_15 l2_16 l3_17 l4_18 l6_88 s0_89 1 M Q else fX7_bank_b218 R51 l1_15 l2_16 l3_17 l4_18 l6_88 s0_89 M Q)
theorem wX7_bank_b211 {kf : Nat} {G : gG} {w : gM → Nat → List (Nat × Value) → List Value → Prop} {Q : Int32 → gM → Prop} (hw : gX yX7_bank cX7_bank 11 (Option.some FieldType.int) [] kf G (gQi Q) gE0 w) (hkf : 4 ≤ kf) {R51 : Int32 → Int32 → gM → Prop} {l1_15 : Int32} {l2_16 : Int32} {l3_17 : Int32} {l4_18 : Int32} {l6_88 : Int32} {s0_89 : Int32} {s1_90 : Int32} {s2_91 : Int32} {M : gM} (hR51 : ∀ (v0 : Int32) (v1 : Int32) (M : gM), R51 v0 v1 M → w M 51 [(0, .ref (gA G 268)), (1, .int l1_15), (2, .int l2_16), (3, .int l3_17), (4, .int l4_18), (5, .int v0), (6, .int v1)] []) (h : fX7_bank_b211 R51 l1_15 l2_16 l3_17 l4_18 l6_88 s0_89 s1_90 s2_91 M Q) : w M 211 [(0, .ref (gA G 268)), (1, .int l1_15), (2, .int l2_16), (3, .int l3_17), (4, .int l4_18), (6, .int l6_88)] [.int s2_91, .int s1_90, .int s0_89] := by
  unfold fX7_bank_b211 at h
  refine g_icmp_ne (tgt := 218) hw dX7_bank_211 (by decide) (fun hb92 => ?_) (fun hb92 => ?_)
  · have h := gF h hb92
    exact wX7_bank_b218 hw hkf hR51 h
  · have h := gT h hb92
    refine g_iconst (v := 1) hw dX7_bank_214 (by decide) ?_
    refine g_goto (tgt := 219) hw dX7_bank_215 (by decide) ?_
    exact wX7_bank_b219 hw hkf hR51 h
def fX7_bank_b180 (R51 : Int32 → Int32 → gM → Prop) (l1_15 : Int32) (l2_16 : Int32) (l3_17 : Int32) (l4_18 : Int32) (l6_94 : Int32) (s0_95 : Int32) (s1_96 : Int32) (M : gM) (Q : Int32 → gM → Prop) : Prop :=
  fX7_bank_b269 R51 l1_15 l2_16 l3_17 l4_18 (s0_95 + s1_96) l6_94 M Q
theorem wX7_bank_b180 {kf : Nat} {G : gG} {w : gM → Nat → List (Nat × Value) → List Value → Prop} {Q : Int32 → gM → Prop} (hw : gX yX7_bank cX7_bank 11 (Option.some FieldType.int) [] kf G (gQi Q) gE0 w) (hkf : 4 ≤ kf) {R51 : Int32 → Int32 → gM → Prop} {l1_15 : Int32} {l2_16 : Int32} {l3_17 : Int32} {l4_18 : Int32} {l6_94 : Int32} {s0_95 : Int32} {s1_96 : Int32} {M : gM} (hR51 : ∀ (v0 : Int32) (v1 : Int32) (M : gM), R51 v0 v1 M → w M 51 [(0, .ref (gA G 268)), (1, .int l1_15), (2, .int l2_16), (3, .int l3_17), (4, .int l4_18), (5, .int v0), (6, .int v1)] []) (h : fX7_bank_b180 R51 l1_15 l2_16 l3_17 l4_18 l6_94 s0_95 s1_96 M Q) : w M 180 [(0, .ref (gA G 268)), (1, .int l1_15), (2, .int l2_16), (3, .int l3_17), (4, .int l4_18), (6, .int l6_94)] [.int s1_96, .int s0_95] := by
  unfold fX7_bank_b180 at h
  refine g_iadd hw dX7_bank_180 ?_
  refine g_istore hw (lv2 := [(0, .ref (gA G 268)), (1, .int l1_15), (2, .int l2_16), (3, .int l3_17), (4, .int l4_18), (5, .int (s0_95 + s1_96)), (6, .int l6_94)]) [1, 2, 3, 4, 5, 0, 6] dX7_bank_181 rfl rfl ?_
  refine g_goto (tgt := 269) hw dX7_bank_183 (by decide) ?_
  exact wX7_bank_b269 hw hkf hR51 h
def fX7_bank_b153 (R51 : Int32 → Int32 → gM → Prop) (l1_15 : Int32) (l2_16 : Int32) (l3_17 : Int32) (l4_18 : Int32) (l5_58 : Int32) (l6_59 : Int32) (l7_60 : Int32) (l8_61 : Int32) (l9_62 : Int32) (s0_63 : Int32) (M : gM) (Q : Int32 → gM → Prop) : Prop :=
  (if l4_18 = 4 then (if l8_61 = 0 then fX7_bank_b180 R51 l1_15 l2_16 l3_17 l4_18 l6_59 l5_58 0 M Q else gk M 268 = 7 ∧ fX7_changeOf l6_59 l2_16 l3_17 M (fun r99 M98 => fX7_bank_b180 R51 l1_15 l2_16 l3_17 l4_18 l6_59 l5_58 r99 M98 Q)) else (if 2 ≤ l4_18 then (if l8_61 = 0 then fX7_bank_b265 R51 l1_15 l2_16 l3_17 l4_18 l6_59 l5_58 M Q else (if l4_18 = 2 then (if s0_63 = 0 then fX7_bank_b265 R51 l1_15 l2_16 l3_17 l4_18 l6_59 l5_58 M Q else (if l9_62 = 0 then fX7_bank_b261 R51 l1_15 l2_16 l3_17 l4_18 l6_59 l5_58 M Q else fX7_bank_b265 R51 l1_15 l2_16 l3_17 l4_18 l6_59 l5_58 M Q)) else (if l9_62 = 0 then fX7_bank_b265 R51 l1_15 l2_16 l3_17 l4_18 l6_59 l5_58 M Q else (if s0_63 = 0 then fX7_bank_b261 R51 l1_15 l2_16 l3_17 l4_18 l6_59 l5_58 M Q else fX7_bank_b265 R51 l1_15 l2_16 l3_17 l4_18 l6_59 l5_58 M Q)))) else (if l7_60 = 0 then fX7_bank_b218 R51 l1_15 l2_16 l3_17 l4_18 l6_59 l5_58 M Q else (if l4_18 = 0 then fX7_bank_b211 R51 l1_15 l2_16 l3_17 l4_18 l6_59 l5_58 l8_61 1 M Q else fX7_bank_b211 R51 l1_15 l2_16 l3_17 l4_18 l6_59 l5_58 l8_61 0 M Q))))
theorem wX7_bank_b153 {kf : Nat} {G : gG} {w : gM → Nat → List (Nat × Value) → List Value → Prop} {Q : Int32 → gM → Prop} (hw : gX yX7_bank cX7_bank 11 (Option.some FieldType.int) [] kf G (gQi Q) gE0 w) (hkf : 4 ≤ kf) {R51 : Int32 → Int32 → gM → Prop} {l1_15 : Int32} {l2_16 : Int32} {l3_17 : Int32} {l4_18 : Int32} {l5_58 : Int32} {l6_59 : Int32} {l7_60 : Int32} {l8_61 : Int32} {l9_62 : Int32} {s0_63 : Int32} {M : gM} (hR51 : ∀ (v0 : Int32) (v1 : Int32) (M : gM), R51 v0 v1 M → w M 51 [(0, .ref (gA G 268)), (1, .int l1_15), (2, .int l2_16), (3, .int l3_17), (4, .int l4_18), (5, .int v0), (6, .int v1)] []) (h : fX7_bank_b153 R51 l1_15 l2_16 l3_17 l4_18 l5_58 l6_59 l7_60 l8_61 l9_62 s0_63 M Q) : w M 153 [(0, .ref (gA G 268)), (1, .int l1_15), (2, .int l2_16), (3, .int l3_17), (4, .int l4_18), (5, .int l5_58), (6, .int l6_59), (7, .int l7_60), (8, .int l8_61), (9, .int l9_62)] [.int s0_63] := by
  unfold fX7_bank_b153 at h
  refine g_istore hw (lv2 := [(0, .ref (gA G 268)), (1, .int l1_15), (2, .int l2_16), (3, .int l3_17), (4, .int l4_18), (5, .int l5_58), (6, .int l6_59), (7, .int l7_60), (8, .int l8_61), (9, .int l9_62), (10, .int s0_63)]) [1, 2, 3, 4, 5, 6, 7, 8, 9, 10, 0] dX7_bank_153 rfl rfl ?_
  refine g_iload hw 4 dX7_bank_155 rfl ?_
  refine g_iconst (v := 4) hw dX7_bank_157 (by decide) ?_
  refine g_icmp_ne (tgt := 186) hw dX7_bank_158 (by decide) (fun hb64 => ?_) (fun hb64 => ?_)
  · have h := gF h hb64
    refine g_iload hw 4 dX7_bank_186 rfl ?_
    refine g_iconst (v := 2) hw dX7_bank_188 (by decide) ?_
    refine g_icmp_ge (tgt := 225) hw dX7_bank_189 (by decide) (fun hb65 => ?_) (fun hb65 => ?_)
    · have h := gT h hb65
      refine g_iload hw 5 dX7_bank_225 rfl ?_
      refine g_iload hw 8 dX7_bank_227 rfl ?_
      refine g_if_eq (tgt := 265) hw dX7_bank_229 (by decide) (fun hb66 => ?_) (fun hb66 => ?_)
      · have h := gT h hb66
        refine g_sub hw (lv2 := [(0, .ref (gA G 268)), (1, .int l1_15), (2, .int l2_16), (3, .int l3_17), (4, .int l4_18), (6, .int l6_59)]) [0, 1, 2, 3, 4, 6] rfl ?_
        exact wX7_bank_b265 hw hkf hR51 h
      · have h := gF h hb66
        refine g_iload hw 4 dX7_bank_232 rfl ?_
        refine g_iconst (v := 2) hw dX7_bank_234 (by decide) ?_
        refine g_icmp_ne (tgt := 251) hw dX7_bank_235 (by decide) (fun hb74 => ?_) (fun hb74 => ?_)
        · have h := gF h hb74
          refine g_iload hw 9 dX7_bank_251 rfl ?_
          refine g_if_eq (tgt := 265) hw dX7_bank_253 (by decide) (fun hb75 => ?_) (fun hb75 => ?_)
          · have h := gT h hb75
            refine g_sub hw (lv2 := [(0, .ref (gA G 268)), (1, .int l1_15), (2, .int l2_16), (3, .int l3_17), (4, .int l4_18), (6, .int l6_59)]) [0, 1, 2, 3, 4, 6] rfl ?_
            exact wX7_bank_b265 hw hkf hR51 h
          · have h := gF h hb75
            refine g_iload hw 10 dX7_bank_256 rfl ?_
            refine g_if_ne (tgt := 265) hw dX7_bank_258 (by decide) (fun hb76 => ?_) (fun hb76 => ?_)
            · have h := gF h hb76
              refine g_sub hw (lv2 := [(0, .ref (gA G 268)), (1, .int l1_15), (2, .int l2_16), (3, .int l3_17), (4, .int l4_18), (6, .int l6_59)]) [0, 1, 2, 3, 4, 6] rfl ?_
              exact wX7_bank_b265 hw hkf hR51 h
            · have h := gT h hb76
              refine g_sub hw (lv2 := [(0, .ref (gA G 268)), (1, .int l1_15), (2, .int l2_16), (3, .int l3_17), (4, .int l4_18), (6, .int l6_59)]) [0, 1, 2, 3, 4, 6] rfl ?_
              exact wX7_bank_b261 hw hkf hR51 h
        · have h := gT h hb74
          refine g_iload hw 10 dX7_bank_238 rfl ?_
          refine g_if_eq (tgt := 265) hw dX7_bank_240 (by decide) (fun hb79 => ?_) (fun hb79 => ?_)
          · have h := gT h hb79
            refine g_sub hw (lv2 := [(0, .ref (gA G 268)), (1, .int l1_15), (2, .int l2_16), (3, .int l3_17), (4, .int l4_18), (6, .int l6_59)]) [0, 1, 2, 3, 4, 6] rfl ?_
            exact wX7_bank_b265 hw hkf hR51 h
          · have h := gF h hb79
            refine g_iload hw 9 dX7_bank_243 rfl ?_
            refine g_if_ne (tgt := 265) hw dX7_bank_245 (by decide) (fun hb80 => ?_) (fun hb80 => ?_)
            · have h := gF h hb80
              refine g_sub hw (lv2 := [(0, .ref (gA G 268)), (1, .int l1_15), (2, .int l2_16), (3, .int l3_17), (4, .int l4_18), (6, .int l6_59)]) [0, 1, 2, 3, 4, 6] rfl ?_
              exact wX7_bank_b265 hw hkf hR51 h
            · have h := gT h hb80
              refine g_goto (tgt := 261) hw dX7_bank_248 (by decide) ?_
              refine g_sub hw (lv2 := [(0, .ref (gA G 268)), (1, .int l1_15), (2, .int l2_16), (3, .int l3_17), (4, .int l4_18), (6, .int l6_59)]) [0, 1, 2, 3, 4, 6] rfl ?_
              exact wX7_bank_b261 hw hkf hR51 h
    · have h := gF h hb65
      refine g_iload hw 5 dX7_bank_192 rfl ?_
      refine g_iload hw 7 dX7_bank_194 rfl ?_
      refine g_if_eq (tgt := 218) hw dX7_bank_196 (by decide) (fun hb81 => ?_) (fun hb81 => ?_)
      · have h := gT h hb81
        refine g_sub hw (lv2 := [(0, .ref (gA G 268)), (1, .int l1_15), (2, .int l2_16), (3, .int l3_17), (4, .int l4_18), (6, .int l6_59)]) [0, 1, 2, 3, 4, 6] rfl ?_
        exact wX7_bank_b218 hw hkf hR51 h
      · have h := gF h hb81
        refine g_iload hw 8 dX7_bank_199 rfl ?_
        refine g_iload hw 4 dX7_bank_201 rfl ?_
        refine g_if_ne (tgt := 210) hw dX7_bank_203 (by decide) (fun hb87 => ?_) (fun hb87 => ?_)
        · have h := gF h hb87
          refine g_iconst (v := 0) hw dX7_bank_210 (by decide) ?_
          refine g_sub hw (lv2 := [(0, .ref (gA G 268)), (1, .int l1_15), (2, .int l2_16), (3, .int l3_17), (4, .int l4_18), (6, .int l6_59)]) [0, 1, 2, 3, 4, 6] rfl ?_
          exact wX7_bank_b211 hw hkf hR51 h
        · have h := gT h hb87
          refine g_iconst (v := 1) hw dX7_bank_206 (by decide) ?_
          refine g_goto (tgt := 211) hw dX7_bank_207 (by decide) ?_
          refine g_sub hw (lv2 := [(0, .ref (gA G 268)), (1, .int l1_15), (2, .int l2_16), (3, .int l3_17), (4, .int l4_18), (6, .int l6_59)]) [0, 1, 2, 3, 4, 6] rfl ?_
          exact wX7_bank_b211 hw hkf hR51 h
  · have h := gT h hb64
    refine g_iload hw 5 dX7_bank_161 rfl ?_
    refine g_iload hw 8 dX7_bank_163 rfl ?_
    refine g_if_eq (tgt := 179) hw dX7_bank_165 (by decide) (fun hb93 => ?_) (fun hb93 => ?_)
    · have h := gT h hb93
      refine g_iconst (v := 0) hw dX7_bank_179 (by decide) ?_
      refine g_sub hw (lv2 := [(0, .ref (gA G 268)), (1, .int l1_15), (2, .int l2_16), (3, .int l3_17), (4, .int l4_18), (6, .int l6_59)]) [0, 1, 2, 3, 4, 6] rfl ?_
      exact wX7_bank_b180 hw hkf hR51 h
    · have h := gF h hb93
      refine g_aload_n hw 0 dX7_bank_168 rfl ?_
      refine g_iload hw 6 dX7_bank_169 rfl ?_
      refine g_iload_n hw 2 dX7_bank_171 rfl ?_
      refine g_iload_n hw 3 dX7_bank_172 rfl ?_
      obtain ⟨hk97, h⟩ := h
      refine sX7_277 hw rfl dX7_bank_173 rfl (gK2 hkf) hk97 h (fun r99 M98 h => ?_)
      refine g_goto (tgt := 180) hw dX7_bank_176 (by decide) ?_
      refine g_sub hw (lv2 := [(0, .ref (gA G 268)), (1, .int l1_15), (2, .int l2_16), (3, .int l3_17), (4, .int l4_18), (6, .int l6_59)]) [0, 1, 2, 3, 4, 6] rfl ?_
      exact wX7_bank_b180 hw hkf hR51 h
def fX7_bank_b130 (R51 : Int32 → Int32 → gM → Prop) (l1_15 : Int32) (l2_16 : Int32) (l3_17 : Int32) (l4_18 : Int32) (l5_47 : Int32) (l6_48 : Int32) (l7_49 : Int32) (l8_50 : Int32) (s0_51 : Int32) (M : gM) (Q : Int32 → gM → Prop) : Prop :=
  gk M 268 = 7 ∧ gdr (gR M 268 18) (fun a53 => gk M a53 = 40 ∧ vp_in ((12 * l6_48) + l3_17) (gl M a53) ∧ (if (gI M a53 (((12 * l6_48) + l3_17).toNatClampNeg)) = 2 then fX7_bank_b153 R51 l1_15 l2_16 l3_17 l4_18 l5_47 l6_48 l7_49 l8_50 s0_51 1 M Q else fX7_bank_b153 R51 l1_15 l2_16 l3_17 l4_18 l5_47 l6_48 l7_49 l8_50 s0_51 0 M Q))
theorem wX7_bank_b130 {kf : Nat} {G : gG} {w : gM → Nat → List (Nat × Value) → List Value → Prop} {Q : Int32 → gM → Prop} (hw : gX yX7_bank cX7_bank 11 (Option.some FieldType.int) [] kf G (gQi Q) gE0 w) (hkf : 4 ≤ kf) {R51 : Int32 → Int32 → gM → Prop} {l1_15 : Int32} {l2_16 : Int32} {l3_17 : Int32} {l4_18 : Int32} {l5_47 : Int32} {l6_48 : Int32} {l7_49 : Int32} {l8_50 : Int32} {s0_51 : Int32} {M : gM} (hR51 : ∀ (v0 : Int32) (v1 : Int32) (M : gM), R51 v0 v1 M → w M 51 [(0, .ref (gA G 268)), (1, .int l1_15), (2, .int l2_16), (3, .int l3_17), (4, .int l4_18), (5, .int v0), (6, .int v1)] []) (h : fX7_bank_b130 R51 l1_15 l2_16 l3_17 l4_18 l5_47 l6_48 l7_49 l8_50 s0_51 M Q) : w M 130 [(0, .ref (gA G 268)), (1, .int l1_15), (2, .int l2_16), (3, .int l3_17), (4, .int l4_18), (5, .int l5_47), (6, .int l6_48), (7, .int l7_49), (8, .int l8_50)] [.int s0_51] := by
  unfold fX7_bank_b130 at h
  refine g_istore hw (lv2 := [(0, .ref (gA G 268)), (1, .int l1_15), (2, .int l2_16), (3, .int l3_17), (4, .int l4_18), (5, .int l5_47), (6, .int l6_48), (7, .int l7_49), (8, .int l8_50), (9, .int s0_51)]) [1, 2, 3, 4, 5, 6, 7, 8, 9, 0] dX7_bank_130 rfl rfl ?_
  refine g_aload_n hw 0 dX7_bank_132 rfl ?_
  obtain ⟨hk52, h⟩ := h
  obtain ⟨a53, e54, h⟩ := h
  refine gfX7_115 (q := some a53) hw rfl dX7_bank_133 hk52 e54 ?_
  refine g_bipush (v := 12) hw dX7_bank_136 (by decide) ?_
  refine g_iload hw 6 dX7_bank_138 rfl ?_
  refine g_imul hw dX7_bank_140 ?_
  refine g_iload_n hw 3 dX7_bank_141 rfl ?_
  refine g_iadd hw dX7_bank_142 ?_
  obtain ⟨hk55, h⟩ := h
  obtain ⟨hi56, h⟩ := h
  refine g_iald (n := ((12 * l6_48) + l3_17).toNatClampNeg) hw dX7_bank_143 hk55 hi56 rfl ?_
  refine g_iconst (v := 2) hw dX7_bank_144 (by decide) ?_
  refine g_icmp_ne (tgt := 152) hw dX7_bank_145 (by decide) (fun hb57 => ?_) (fun hb57 => ?_)
  · have h := gF h hb57
    refine g_iconst (v := 0) hw dX7_bank_152 (by decide) ?_
    exact wX7_bank_b153 hw hkf hR51 h
  · have h := gT h hb57
    refine g_iconst (v := 1) hw dX7_bank_148 (by decide) ?_
    refine g_goto (tgt := 153) hw dX7_bank_149 (by decide) ?_
    exact wX7_bank_b153 hw hkf hR51 h
def fX7_bank_b107 (R51 : Int32 → Int32 → gM → Prop) (l1_15 : Int32) (l2_16 : Int32) (l3_17 : Int32) (l4_18 : Int32) (l5_37 : Int32) (l6_38 : Int32) (l7_39 : Int32) (s0_40 : Int32) (M : gM) (Q : Int32 → gM → Prop) : Prop :=
  gk M 268 = 7 ∧ gdr (gR M 268 18) (fun a42 => gk M a42 = 40 ∧ vp_in ((12 * l6_38) + l2_16) (gl M a42) ∧ (if (gI M a42 (((12 * l6_38) + l2_16).toNatClampNeg)) = 2 then fX7_bank_b130 R51 l1_15 l2_16 l3_17 l4_18 l5_37 l6_38 l7_39 s0_40 1 M Q else fX7_bank_b130 R51 l1_15 l2_16 l3_17 l4_18 l5_37 l6_38 l7_39 s0_40 0 M Q))
theorem wX7_bank_b107 {kf : Nat} {G : gG} {w : gM → Nat → List (Nat × Value) → List Value → Prop} {Q : Int32 → gM → Prop} (hw : gX yX7_bank cX7_bank 11 (Option.some FieldType.int) [] kf G (gQi Q) gE0 w) (hkf : 4 ≤ kf) {R51 : Int32 → Int32 → gM → Prop} {l1_15 : Int32} {l2_16 : Int32} {l3_17 : Int32} {l4_18 : Int32} {l5_37 : Int32} {l6_38 : Int32} {l7_39 : Int32} {s0_40 : Int32} {M : gM} (hR51 : ∀ (v0 : Int32) (v1 : Int32) (M : gM), R51 v0 v1 M → w M 51 [(0, .ref (gA G 268)), (1, .int l1_15), (2, .int l2_16), (3, .int l3_17), (4, .int l4_18), (5, .int v0), (6, .int v1)] []) (h : fX7_bank_b107 R51 l1_15 l2_16 l3_17 l4_18 l5_37 l6_38 l7_39 s0_40 M Q) : w M 107 [(0, .ref (gA G 268)), (1, .int l1_15), (2, .int l2_16), (3, .int l3_17), (4, .int l4_18), (5, .int l5_37), (6, .int l6_38), (7, .int l7_39)] [.int s0_40] := by
  unfold fX7_bank_b107 at h
  refine g_istore hw (lv2 := [(0, .ref (gA G 268)), (1, .int l1_15), (2, .int l2_16), (3, .int l3_17), (4, .int l4_18), (5, .int l5_37), (6, .int l6_38), (7, .int l7_39), (8, .int s0_40)]) [1, 2, 3, 4, 5, 6, 7, 8, 0] dX7_bank_107 rfl rfl ?_
  refine g_aload_n hw 0 dX7_bank_109 rfl ?_
  obtain ⟨hk41, h⟩ := h
  obtain ⟨a42, e43, h⟩ := h
  refine gfX7_115 (q := some a42) hw rfl dX7_bank_110 hk41 e43 ?_
  refine g_bipush (v := 12) hw dX7_bank_113 (by decide) ?_
  refine g_iload hw 6 dX7_bank_115 rfl ?_
  refine g_imul hw dX7_bank_117 ?_
  refine g_iload_n hw 2 dX7_bank_118 rfl ?_
  refine g_iadd hw dX7_bank_119 ?_
  obtain ⟨hk44, h⟩ := h
  obtain ⟨hi45, h⟩ := h
  refine g_iald (n := ((12 * l6_38) + l2_16).toNatClampNeg) hw dX7_bank_120 hk44 hi45 rfl ?_
  refine g_iconst (v := 2) hw dX7_bank_121 (by decide) ?_
  refine g_icmp_ne (tgt := 129) hw dX7_bank_122 (by decide) (fun hb46 => ?_) (fun hb46 => ?_)
  · have h := gF h hb46
    refine g_iconst (v := 0) hw dX7_bank_129 (by decide) ?_
    exact wX7_bank_b130 hw hkf hR51 h
  · have h := gT h hb46
    refine g_iconst (v := 1) hw dX7_bank_125 (by decide) ?_
    refine g_goto (tgt := 130) hw dX7_bank_126 (by decide) ?_
    exact wX7_bank_b130 hw hkf hR51 h
def fX7_bank_b106 (R51 : Int32 → Int32 → gM → Prop) (l1_15 : Int32) (l2_16 : Int32) (l3_17 : Int32) (l4_18 : Int32) (l5_34 : Int32) (l6_35 : Int32) (l7_36 : Int32) (M : gM) (Q : Int32 → gM → Prop) : Prop :=
  fX7_bank_b107 R51 l1_15 l2_16 l3_17 l4_18 l5_34 l6_35 l7_36 0 M Q
theorem wX7_bank_b106 {kf : Nat} {G : gG} {w : gM → Nat → List (Nat × Value) → List Value → Prop} {Q : Int32 → gM → Prop} (hw : gX yX7_bank cX7_bank 11 (Option.some FieldType.int) [] kf G (gQi Q) gE0 w) (hkf : 4 ≤ kf) {R51 : Int32 → Int32 → gM → Prop} {l1_15 : Int32} {l2_16 : Int32} {l3_17 : Int32} {l4_18 : Int32} {l5_34 : Int32} {l6_35 : Int32} {l7_36 : Int32} {M : gM} (hR51 : ∀ (v0 : Int32) (v1 : Int32) (M : gM), R51 v0 v1 M → w M 51 [(0, .ref (gA G 268)), (1, .int l1_15), (2, .int l2_16), (3, .int l3_17), (4, .int l4_18), (5, .int v0), (6, .int v1)] []) (h : fX7_bank_b106 R51 l1_15 l2_16 l3_17 l4_18 l5_34 l6_35 l7_36 M Q) : w M 106 [(0, .ref (gA G 268)), (1, .int l1_15), (2, .int l2_16), (3, .int l3_17), (4, .int l4_18), (5, .int l5_34), (6, .int l6_35), (7, .int l7_36)] [] := by
  unfold fX7_bank_b106 at h
  refine g_iconst (v := 0) hw dX7_bank_106 (by decide) ?_
  exact wX7_bank_b107 hw hkf hR51 h
def fX7_bank_b84 (R51 : Int32 → Int32 → gM → Prop) (l1_15 : Int32) (l2_16 : Int32) (l3_17 : Int32) (l4_18 : Int32) (l5_30 : Int32) (l6_31 : Int32) (s0_32 : Int32) (M : gM) (Q : Int32 → gM → Prop) : Prop :=
  (if s0_32 = 0 then fX7_bank_b106 R51 l1_15 l2_16 l3_17 l4_18 l5_30 l6_31 s0_32 M Q else gk M 268 = 7 ∧ fX7_isCounted l6_31 l2_16 l3_17 M (fun r102 M101 => (if r102 = 0 then fX7_bank_b106 R51 l1_15 l2_16 l3_17 l4_18 l5_30 l6_31 s0_32 M101 Q else fX7_bank_b107 R51 l1_15 l2_16 l3_17 l4_18 l5_30 l6_31 s0_32 1 M101 Q)))
theorem wX7_bank_b84 {kf : Nat} {G : gG} {w : gM → Nat → List (Nat × Value) → List Value → Prop} {Q : Int32 → gM → Prop} (hw : gX yX7_bank cX7_bank 11 (Option.some FieldType.int) [] kf G (gQi Q) gE0 w) (hkf : 4 ≤ kf) {R51 : Int32 → Int32 → gM → Prop} {l1_15 : Int32} {l2_16 : Int32} {l3_17 : Int32} {l4_18 : Int32} {l5_30 : Int32} {l6_31 : Int32} {s0_32 : Int32} {M : gM} (hR51 : ∀ (v0 : Int32) (v1 : Int32) (M : gM), R51 v0 v1 M → w M 51 [(0, .ref (gA G 268)), (1, .int l1_15), (2, .int l2_16), (3, .int l3_17), (4, .int l4_18), (5, .int v0), (6, .int v1)] []) (h : fX7_bank_b84 R51 l1_15 l2_16 l3_17 l4_18 l5_30 l6_31 s0_32 M Q) : w M 84 [(0, .ref (gA G 268)), (1, .int l1_15), (2, .int l2_16), (3, .int l3_17), (4, .int l4_18), (5, .int l5_30), (6, .int l6_31)] [.int s0_32] := by
  unfold fX7_bank_b84 at h
  refine g_istore hw (lv2 := [(0, .ref (gA G 268)), (1, .int l1_15), (2, .int l2_16), (3, .int l3_17), (4, .int l4_18), (5, .int l5_30), (6, .int l6_31), (7, .int s0_32)]) [1, 2, 3, 4, 5, 6, 7, 0] dX7_bank_84 rfl rfl ?_
  refine g_iload hw 7 dX7_bank_86 rfl ?_
  refine g_if_eq (tgt := 106) hw dX7_bank_88 (by decide) (fun hb33 => ?_) (fun hb33 => ?_)
  · have h := gT h hb33
    exact wX7_bank_b106 hw hkf hR51 h
  · have h := gF h hb33
    refine g_aload_n hw 0 dX7_bank_91 rfl ?_
    refine g_iload hw 6 dX7_bank_92 rfl ?_
    refine g_iload_n hw 2 dX7_bank_94 rfl ?_
    refine g_iload_n hw 3 dX7_bank_95 rfl ?_
    obtain ⟨hk100, h⟩ := h
    refine sX7_274 hw rfl dX7_bank_96 rfl (gK2 hkf) hk100 h (fun r102 M101 h => ?_)
    refine g_if_eq (tgt := 106) hw dX7_bank_99 (by decide) (fun hb103 => ?_) (fun hb103 => ?_)
    · have h := gT h hb103
      exact wX7_bank_b106 hw hkf hR51 h
    · have h := gF h hb103
      refine g_iconst (v := 1) hw dX7_bank_102 (by decide) ?_
      refine g_goto (tgt := 107) hw dX7_bank_103 (by decide) ?_
      exact wX7_bank_b107 hw hkf hR51 h
def fX7_bank_b83 (R51 : Int32 → Int32 → gM → Prop) (l1_15 : Int32) (l2_16 : Int32) (l3_17 : Int32) (l4_18 : Int32) (l5_28 : Int32) (l6_29 : Int32) (M : gM) (Q : Int32 → gM → Prop) : Prop :=
  fX7_bank_b84 R51 l1_15 l2_16 l3_17 l4_18 l5_28 l6_29 0 M Q
theorem wX7_bank_b83 {kf : Nat} {G : gG} {w : gM → Nat → List (Nat × Value) → List Value → Prop} {Q : Int32 → gM → Prop} (hw : gX yX7_bank cX7_bank 11 (Option.some FieldType.int) [] kf G (gQi Q) gE0 w) (hkf : 4 ≤ kf) {R51 : Int32 → Int32 → gM → Prop} {l1_15 : Int32} {l2_16 : Int32} {l3_17 : Int32} {l4_18 : Int32} {l5_28 : Int32} {l6_29 : Int32} {M : gM} (hR51 : ∀ (v0 : Int32) (v1 : Int32) (M : gM), R51 v0 v1 M → w M 51 [(0, .ref (gA G 268)), (1, .int l1_15), (2, .int l2_16), (3, .int l3_17), (4, .int l4_18), (5, .int v0), (6, .int v1)] []) (h : fX7_bank_b83 R51 l1_15 l2_16 l3_17 l4_18 l5_28 l6_29 M Q) : w M 83 [(0, .ref (gA G 268)), (1, .int l1_15), (2, .int l2_16), (3, .int l3_17), (4, .int l4_18), (5, .int l5_28), (6, .int l6_29)] [] := by
  unfold fX7_bank_b83 at h
  refine g_iconst (v := 0) hw dX7_bank_83 (by decide) ?_
  exact wX7_bank_b84 hw hkf hR51 h
def fX7_bank_L51s (R51 : Int32 → Int32 → gM → Prop) (K275_51 : Int32 → gM → Prop) (l1_15 : Int32) (l2_16 : Int32) (l3_17 : Int32) (l4_18 : Int32) (l5_19 : Int32) (l6_20 : Int32) (M : gM) (Q : Int32 → gM → Prop) : Prop :=
  (if 24 ≤ l6_20 then K275_51 l5_19 M else gk M 268 = 7 ∧ gdr (gR M 268 10) (fun a23 => gk M a23 = 43 ∧ vp_in l6_20 (gl M a23) ∧ (if (gI M a23 l6_20.toNatClampNeg) = 0 then fX7_bank_b83 R51 l1_15 l2_16 l3_17 l4_18 l5_19 l6_20 M Q else gdr (gR M 268 11) (fun a104 => gk M a104 = 40 ∧ vp_in l6_20 (gl M a104) ∧ (if (gI M a104 l6_20.toNatClampNeg) = l1_15 then fX7_bank_b84 R51 l1_15 l2_16 l3_17 l4_18 l5_19 l6_20 1 M Q else fX7_bank_b83 R51 l1_15 l2_16 l3_17 l4_18 l5_19 l6_20 M Q)))))
def fX7_bank_L51 (K275_51 : Int32 → gM → Prop) (l1_15 : Int32) (l2_16 : Int32) (l3_17 : Int32) (l4_18 : Int32) (Q : Int32 → gM → Prop) : Nat → Int32 → Int32 → gM → Prop
  | 0 => fun _ _ _ => False
  | n + 1 => fun l5_19 l6_20 M => fX7_bank_L51s (fX7_bank_L51 K275_51 l1_15 l2_16 l3_17 l4_18 Q n) K275_51 l1_15 l2_16 l3_17 l4_18 l5_19 l6_20 M Q
theorem wX7_bank_L51s {kf : Nat} {G : gG} {w : gM → Nat → List (Nat × Value) → List Value → Prop} {Q : Int32 → gM → Prop} (hw : gX yX7_bank cX7_bank 11 (Option.some FieldType.int) [] kf G (gQi Q) gE0 w) (hkf : 4 ≤ kf) {R51 : Int32 → Int32 → gM → Prop} {K275_51 : Int32 → gM → Prop} {l1_15 : Int32} {l2_16 : Int32} {l3_17 : Int32} {l4_18 : Int32} {l5_19 : Int32} {l6_20 : Int32} {M : gM} (hR51 : ∀ (v0 : Int32) (v1 : Int32) (M : gM), R51 v0 v1 M → w M 51 [(0, .ref (gA G 268)), (1, .int l1_15), (2, .int l2_16), (3, .int l3_17), (4, .int l4_18), (5, .int v0), (6, .int v1)] []) (hK275_51 : ∀ (v0 : Int32) (M : gM), K275_51 v0 M → w M 275 [(5, .int v0)] []) (h : fX7_bank_L51s R51 K275_51 l1_15 l2_16 l3_17 l4_18 l5_19 l6_20 M Q) : w M 51 [(0, .ref (gA G 268)), (1, .int l1_15), (2, .int l2_16), (3, .int l3_17), (4, .int l4_18), (5, .int l5_19), (6, .int l6_20)] [] := by
  unfold fX7_bank_L51s at h
  refine g_iload hw 6 dX7_bank_51 rfl ?_
  refine g_bipush (v := 24) hw dX7_bank_53 (by decide) ?_
  refine g_icmp_ge (tgt := 275) hw dX7_bank_55 (by decide) (fun hb21 => ?_) (fun hb21 => ?_)
  · have h := gT h hb21
    refine g_sub hw (lv2 := [(5, .int l5_19)]) [5] rfl ?_
    exact hK275_51 l5_19 M h
  · have h := gF h hb21
    refine g_aload_n hw 0 dX7_bank_58 rfl ?_
    obtain ⟨hk22, h⟩ := h
    obtain ⟨a23, e24, h⟩ := h
    refine gfX7_93 (q := some a23) hw rfl dX7_bank_59 hk22 e24 ?_
    refine g_iload hw 6 dX7_bank_62 rfl ?_
    obtain ⟨hk25, h⟩ := h
    obtain ⟨hi26, h⟩ := h
    refine g_zald (n := l6_20.toNatClampNeg) hw dX7_bank_64 hk25 hi26 rfl ?_
    refine g_if_eq (tgt := 83) hw dX7_bank_65 (by decide) (fun hb27 => ?_) (fun hb27 => ?_)
    · have h := gT h hb27
      exact wX7_bank_b83 hw hkf hR51 h
    · have h := gF h hb27
      refine g_aload_n hw 0 dX7_bank_68 rfl ?_
      obtain ⟨a104, e105, h⟩ := h
      refine gfX7_97 (q := some a104) hw rfl dX7_bank_69 hk22 e105 ?_
      refine g_iload hw 6 dX7_bank_72 rfl ?_
      obtain ⟨hk106, h⟩ := h
      obtain ⟨hi107, h⟩ := h
      refine g_iald (n := l6_20.toNatClampNeg) hw dX7_bank_74 hk106 hi107 rfl ?_
      refine g_iload_n hw 1 dX7_bank_75 rfl ?_
      refine g_icmp_ne (tgt := 83) hw dX7_bank_76 (by decide) (fun hb108 => ?_) (fun hb108 => ?_)
      · have h := gF h hb108
        exact wX7_bank_b83 hw hkf hR51 h
      · have h := gT h hb108
        refine g_iconst (v := 1) hw dX7_bank_79 (by decide) ?_
        refine g_goto (tgt := 84) hw dX7_bank_80 (by decide) ?_
        exact wX7_bank_b84 hw hkf hR51 h
theorem wX7_bank_L51 {kf : Nat} {G : gG} {w : gM → Nat → List (Nat × Value) → List Value → Prop} {Q : Int32 → gM → Prop} (hw : gX yX7_bank cX7_bank 11 (Option.some FieldType.int) [] kf G (gQi Q) gE0 w) (hkf : 4 ≤ kf) {K275_51 : Int32 → gM → Prop} {l1_15 : Int32} {l2_16 : Int32} {l3_17 : Int32} {l4_18 : Int32} (hK275_51 : ∀ (v0 : Int32) (M : gM), K275_51 v0 M → w M 275 [(5, .int v0)] []) : ∀ (n : Nat) (l5_19 : Int32) (l6_20 : Int32) (M : gM), fX7_bank_L51 K275_51 l1_15 l2_16 l3_17 l4_18 Q n l5_19 l6_20 M → w M 51 [(0, .ref (gA G 268)), (1, .int l1_15), (2, .int l2_16), (3, .int l3_17), (4, .int l4_18), (5, .int l5_19), (6, .int l6_20)] [] := by
  intro n
  induction n with
  | zero => intro l5_19 l6_20 M h; exact h.elim
  | succ n ih => intro l5_19 l6_20 M h; exact wX7_bank_L51s hw hkf ih hK275_51 h
def fX7_bank_b33 (l1_8 : Int32) (l2_9 : Int32) (l3_10 : Int32) (l4_11 : Int32) (s1_12 : Int32) (M : gM) (Q : Int32 → gM → Prop) : Prop :=
  gk M 268 = 7 ∧ (if (gI (gsI M 268 0 s1_12) 268 0) ≤ 0 then ∃ n, fX7_bank_L51 (fun l5_109 M110 => Q l5_109 M110) l1_8 l2_9 l3_10 l4_11 Q n 0 0 (gsI M 268 0 s1_12) else Q 0 (gsI M 268 0 s1_12))
theorem wX7_bank_b33 {kf : Nat} {G : gG} {w : gM → Nat → List (Nat × Value) → List Value → Prop} {Q : Int32 → gM → Prop} (hw : gX yX7_bank cX7_bank 11 (Option.some FieldType.int) [] kf G (gQi Q) gE0 w) (hkf : 4 ≤ kf)  {l1_8 : Int32} {l2_9 : Int32} {l3_10 : Int32} {l4_11 : Int32} {s1_12 : Int32} {M : gM}  (h : fX7_bank_b33 l1_8 l2_9 l3_10 l4_11 s1_12 M Q) : w M 33 [(0, .ref (gA G 268)), (1, .int l1_8), (2, .int l2_9), (3, .int l3_10), (4, .int l4_11)] [.int s1_12, .ref (gA G 268)] := by
  unfold fX7_bank_b33 at h
  obtain ⟨hk13, h⟩ := h
  refine pfX7_1 hw rfl dX7_bank_33 hk13 ?_
  refine g_aload_n hw 0 dX7_bank_36 rfl ?_
  refine gfX7_1 hw rfl dX7_bank_37 hk13 ?_
  refine g_if_le (tgt := 45) hw dX7_bank_40 (by decide) (fun hb14 => ?_) (fun hb14 => ?_)
  · have h := gT h hb14
    refine g_iconst (v := 0) hw dX7_bank_45 (by decide) ?_
    refine g_istore hw (lv2 := [(0, .ref (gA G 268)), (1, .int l1_8), (2, .int l2_9), (3, .int l3_10), (4, .int l4_11), (5, .int 0)]) [1, 2, 3, 4, 5, 0] dX7_bank_46 rfl rfl ?_
    refine g_iconst (v := 0) hw dX7_bank_48 (by decide) ?_
    refine g_istore hw (lv2 := [(0, .ref (gA G 268)), (1, .int l1_8), (2, .int l2_9), (3, .int l3_10), (4, .int l4_11), (5, .int 0), (6, .int 0)]) [1, 2, 3, 4, 5, 6, 0] dX7_bank_49 rfl rfl ?_
    obtain ⟨n9, h⟩ := h
    refine wX7_bank_L51 hw hkf (fun l5_109 M110 h => ?_) n9 0 0 (gsI M 268 0 s1_12) h
    refine g_iload hw 0 dX7_bank_275 rfl ?_
    exact g_iret hw dX7_bank_277 rfl ⟨_, rfl, h⟩
  · have h := gF h hb14
    refine g_iconst (v := 0) hw dX7_bank_43 (by decide) ?_
    exact g_iret hw dX7_bank_44 rfl ⟨_, rfl, h⟩
def fX7_bank_b32 (l1_4 : Int32) (l2_5 : Int32) (l3_6 : Int32) (l4_7 : Int32) (M : gM) (Q : Int32 → gM → Prop) : Prop :=
  fX7_bank_b33 l1_4 l2_5 l3_6 l4_7 1 M Q
theorem wX7_bank_b32 {kf : Nat} {G : gG} {w : gM → Nat → List (Nat × Value) → List Value → Prop} {Q : Int32 → gM → Prop} (hw : gX yX7_bank cX7_bank 11 (Option.some FieldType.int) [] kf G (gQi Q) gE0 w) (hkf : 4 ≤ kf)  {l1_4 : Int32} {l2_5 : Int32} {l3_6 : Int32} {l4_7 : Int32} {M : gM}  (h : fX7_bank_b32 l1_4 l2_5 l3_6 l4_7 M Q) : w M 32 [(0, .ref (gA G 268)), (1, .int l1_4), (2, .int l2_5), (3, .int l3_6), (4, .int l4_7)] [.ref (gA G 268)] := by
  unfold fX7_bank_b32 at h
  refine g_iconst (v := 1) hw dX7_bank_32 (by decide) ?_
  exact wX7_bank_b33 hw hkf h
def fX7_bank (p1 : Int32) (p2 : Int32) (p3 : Int32) (p4 : Int32) (M : gM) (Q : Int32 → gM → Prop) : Prop :=
  fX7_within p1 0 1 M (fun r2 M1 => (if r2 = 0 then fX7_bank_b32 p1 p2 p3 p4 M1 Q else fX7_areMonths p2 p3 M1 (fun r112 M111 => (if r112 = 0 then fX7_bank_b32 p1 p2 p3 p4 M111 Q else fX7_within p4 0 4 M111 (fun r115 M114 => (if r115 = 0 then fX7_bank_b32 p1 p2 p3 p4 M114 Q else fX7_bank_b33 p1 p2 p3 p4 0 M114 Q))))))
theorem mX7_bank {kf : Nat} (hkf : 4 ≤ kf) (G : gG) (p1 : Int32) (p2 : Int32) (p3 : Int32) (p4 : Int32) (M : gM) (Q : Int32 → gM → Prop) (h : fX7_bank p1 p2 p3 p4 M Q) : gMet yX7_bank cX7_bank 11 (Option.some FieldType.int) kf G M [.ref (gA G 268), .int p1, .int p2, .int p3, .int p4] (gQi Q) gE0 := by
  refine g_intro (lv := [(0, .ref (gA G 268)), (1, .int p1), (2, .int p2), (3, .int p3), (4, .int p4)]) (by decide) rfl rfl (fun w hw => ?_)
  unfold fX7_bank at h
  refine g_aload_n hw 0 dX7_bank_0 rfl ?_
  refine g_iload_n hw 1 dX7_bank_1 rfl ?_
  refine g_iconst (v := 0) hw dX7_bank_2 (by decide) ?_
  refine g_iconst (v := 1) hw dX7_bank_3 (by decide) ?_
  refine sX7_253 hw rfl dX7_bank_4 rfl (gK2 hkf) h (fun r2 M1 h => ?_)
  refine g_if_eq (tgt := 32) hw dX7_bank_7 (by decide) (fun hb3 => ?_) (fun hb3 => ?_)
  · have h := gT h hb3
    exact wX7_bank_b32 hw hkf h
  · have h := gF h hb3
    refine g_iload_n hw 2 dX7_bank_10 rfl ?_
    refine g_iload_n hw 3 dX7_bank_11 rfl ?_
    refine sX7_270 hw rfl dX7_bank_12 rfl (gK2 hkf) h (fun r112 M111 h => ?_)
    refine g_if_eq (tgt := 32) hw dX7_bank_15 (by decide) (fun hb113 => ?_) (fun hb113 => ?_)
    · have h := gT h hb113
      exact wX7_bank_b32 hw hkf h
    · have h := gF h hb113
      refine g_iload hw 4 dX7_bank_18 rfl ?_
      refine g_iconst (v := 0) hw dX7_bank_20 (by decide) ?_
      refine g_iconst (v := 4) hw dX7_bank_21 (by decide) ?_
      refine sX7_253 hw rfl dX7_bank_22 rfl (gK2 hkf) h (fun r115 M114 h => ?_)
      refine g_if_eq (tgt := 32) hw dX7_bank_25 (by decide) (fun hb116 => ?_) (fun hb116 => ?_)
      · have h := gT h hb116
        exact wX7_bank_b32 hw hkf h
      · have h := gF h hb116
        refine g_iconst (v := 0) hw dX7_bank_28 (by decide) ?_
        refine g_goto (tgt := 33) hw dX7_bank_29 (by decide) ?_
        exact wX7_bank_b33 hw hkf h
def fX7_isWhat (p1 : Int32) (M : gM) (Q : Int32 → gM → Prop) : Prop :=
  fX7_within p1 0 1 M (fun r2 M1 => (r2 = 0 ∨ r2 = 1) ∧ Q r2 M1)
theorem mX7_isWhat {kf : Nat} (hkf : 2 ≤ kf) (G : gG) (p1 : Int32) (M : gM) (Q : Int32 → gM → Prop) (h : fX7_isWhat p1 M Q) : gMet yX7_isWhat cX7_isWhat 1 (Option.some FieldType.boolean) kf G M [.int p1] (gQi Q) gE0 := by
  refine g_intro (lv := [(0, .int p1)]) (by decide) rfl rfl (fun w hw => ?_)
  unfold fX7_isWhat at h
  refine g_iload_n hw 0 dX7_isWhat_0 rfl ?_
  refine g_iconst (v := 0) hw dX7_isWhat_1 (by decide) ?_
  refine g_iconst (v := 1) hw dX7_isWhat_2 (by decide) ?_
  refine sX7_253 hw rfl dX7_isWhat_3 rfl (gK2 hkf) h (fun r2 M1 h => ?_)
  obtain ⟨hc3, h⟩ := h
  exact g_iret hw dX7_isWhat_6 (gBool hc3) ⟨_, rfl, h⟩
theorem pfX7_292 {y0 : MethodName} {cc : ByteArray} {nL : Nat} {ret : Option FieldType} {hh : List (Nat × Nat × Nat × Nat)} {kf : Nat} {G : gG} {Qv : Option Value → gM → Prop} {E : String → Nat → gM → Prop} {w : gM → Nat → List (Nat × Value) → List Value → Prop} {M : gM} {pc : Nat} {lv : List (Nat × Value)} {rest : List Value} (hw : gX y0 cc nL ret hh kf G Qv E w) (hy : y0.cls = RX7) {c : Nat} {x : Int64} (d : decode cc pc = .ok (.putfield 292, 3)) (hk : gk M c = 7) (kk : w (gsL M c 26 x) (pc + 3) lv rest) : w M pc lv (.long x :: .ref (gA G c) :: rest) := by
  obtain ⟨cls9, nm9, ds9⟩ := y0
  subst hy
  exact g_putC (C := RX7) (T := TX7) (N := 58) (ci := 6) hw in_X7 tyX7 tyX7_ok nmX7 rfl 26 (by decide) (Or.inl ⟨q1182, Or.inl rfl⟩) rfl rfl (gOne_L M c 26 x) (by show Value.long (gL (gsL M c 26 x) c 26) = _; rw [gL_sL, if_pos ⟨rfl, rfl⟩]) d hk kk
theorem pfX7_295 {y0 : MethodName} {cc : ByteArray} {nL : Nat} {ret : Option FieldType} {hh : List (Nat × Nat × Nat × Nat)} {kf : Nat} {G : gG} {Qv : Option Value → gM → Prop} {E : String → Nat → gM → Prop} {w : gM → Nat → List (Nat × Value) → List Value → Prop} {M : gM} {pc : Nat} {lv : List (Nat × Value)} {rest : List Value} (hw : gX y0 cc nL ret hh kf G Qv E w) (hy : y0.cls = RX7) {c : Nat} {x : Int64} (d : decode cc pc = .ok (.putfield 295, 3)) (hk : gk M c = 7) (kk : w (gsL M c 27 x) (pc + 3) lv rest) : w M pc lv (.long x :: .ref (gA G c) :: rest) := by
  obtain ⟨cls9, nm9, ds9⟩ := y0
  subst hy
  exact g_putC (C := RX7) (T := TX7) (N := 58) (ci := 6) hw in_X7 tyX7 tyX7_ok nmX7 rfl 27 (by decide) (Or.inl ⟨q1183, Or.inl rfl⟩) rfl rfl (gOne_L M c 27 x) (by show Value.long (gL (gsL M c 27 x) c 27) = _; rw [gL_sL, if_pos ⟨rfl, rfl⟩]) d hk kk
theorem pfX7_298 {y0 : MethodName} {cc : ByteArray} {nL : Nat} {ret : Option FieldType} {hh : List (Nat × Nat × Nat × Nat)} {kf : Nat} {G : gG} {Qv : Option Value → gM → Prop} {E : String → Nat → gM → Prop} {w : gM → Nat → List (Nat × Value) → List Value → Prop} {M : gM} {pc : Nat} {lv : List (Nat × Value)} {rest : List Value} (hw : gX y0 cc nL ret hh kf G Qv E w) (hy : y0.cls = RX7) {c : Nat} {x : Int64} (d : decode cc pc = .ok (.putfield 298, 3)) (hk : gk M c = 7) (kk : w (gsL M c 28 x) (pc + 3) lv rest) : w M pc lv (.long x :: .ref (gA G c) :: rest) := by
  obtain ⟨cls9, nm9, ds9⟩ := y0
  subst hy
  exact g_putC (C := RX7) (T := TX7) (N := 58) (ci := 6) hw in_X7 tyX7 tyX7_ok nmX7 rfl 28 (by decide) (Or.inl ⟨q1184, Or.inl rfl⟩) rfl rfl (gOne_L M c 28 x) (by show Value.long (gL (gsL M c 28 x) c 28) = _; rw [gL_sL, if_pos ⟨rfl, rfl⟩]) d hk kk
theorem pfX7_301 {y0 : MethodName} {cc : ByteArray} {nL : Nat} {ret : Option FieldType} {hh : List (Nat × Nat × Nat × Nat)} {kf : Nat} {G : gG} {Qv : Option Value → gM → Prop} {E : String → Nat → gM → Prop} {w : gM → Nat → List (Nat × Value) → List Value → Prop} {M : gM} {pc : Nat} {lv : List (Nat × Value)} {rest : List Value} (hw : gX y0 cc nL ret hh kf G Qv E w) (hy : y0.cls = RX7) {c : Nat} {x : Int64} (d : decode cc pc = .ok (.putfield 301, 3)) (hk : gk M c = 7) (kk : w (gsL M c 29 x) (pc + 3) lv rest) : w M pc lv (.long x :: .ref (gA G c) :: rest) := by
  obtain ⟨cls9, nm9, ds9⟩ := y0
  subst hy
  exact g_putC (C := RX7) (T := TX7) (N := 58) (ci := 6) hw in_X7 tyX7 tyX7_ok nmX7 rfl 29 (by decide) (Or.inl ⟨q1185, Or.inl rfl⟩) rfl rfl (gOne_L M c 29 x) (by show Value.long (gL (gsL M c 29 x) c 29) = _; rw [gL_sL, if_pos ⟨rfl, rfl⟩]) d hk kk
def fX7_beginsSums  (M : gM) (Q : gM → Prop) : Prop :=
  gk M 268 = 7 ∧ Q (gsL (gsL (gsL (gsL M 268 26 0) 268 27 0) 268 28 0) 268 29 0)
theorem mX7_beginsSums {kf : Nat} (hkf : 1 ≤ kf) (G : gG)  (M : gM) (Q : gM → Prop) (h : fX7_beginsSums M Q) : gMet yX7_beginsSums cX7_beginsSums 1 (Option.none : Option FieldType) kf G M [.ref (gA G 268)] (gQv Q) gE0 := by
  refine g_intro (lv := [(0, .ref (gA G 268))]) (by decide) rfl rfl (fun w hw => ?_)
  unfold fX7_beginsSums at h
  refine g_aload_n hw 0 dX7_beginsSums_0 rfl ?_
  refine g_lconst (v := 0) hw dX7_beginsSums_1 (by decide) ?_
  obtain ⟨hk1, h⟩ := h
  refine pfX7_292 hw rfl dX7_beginsSums_2 hk1 ?_
  refine g_aload_n hw 0 dX7_beginsSums_5 rfl ?_
  refine g_lconst (v := 0) hw dX7_beginsSums_6 (by decide) ?_
  refine pfX7_295 hw rfl dX7_beginsSums_7 hk1 ?_
  refine g_aload_n hw 0 dX7_beginsSums_10 rfl ?_
  refine g_lconst (v := 0) hw dX7_beginsSums_11 (by decide) ?_
  refine pfX7_298 hw rfl dX7_beginsSums_12 hk1 ?_
  refine g_aload_n hw 0 dX7_beginsSums_15 rfl ?_
  refine g_lconst (v := 0) hw dX7_beginsSums_16 (by decide) ?_
  refine pfX7_301 hw rfl dX7_beginsSums_17 hk1 ?_
  exact g_vret hw dX7_beginsSums_20 ⟨rfl, h⟩
theorem gfX7_292 {y0 : MethodName} {cc : ByteArray} {nL : Nat} {ret : Option FieldType} {hh : List (Nat × Nat × Nat × Nat)} {kf : Nat} {G : gG} {Qv : Option Value → gM → Prop} {E : String → Nat → gM → Prop} {w : gM → Nat → List (Nat × Value) → List Value → Prop} {M : gM} {pc : Nat} {lv : List (Nat × Value)} {rest : List Value} (hw : gX y0 cc nL ret hh kf G Qv E w) (hy : y0.cls = RX7) {c : Nat} (d : decode cc pc = .ok (.getfield 292, 3)) (hk : gk M c = 7) (kk : w M (pc + 3) lv (.long (gL M c 26) :: rest)) : w M pc lv (.ref (gA G c) :: rest) := by
  obtain ⟨cls9, nm9, ds9⟩ := y0
  subst hy
  exact g_getC (C := RX7) (T := TX7) (N := 58) (ci := 6) hw in_X7 rfl 26 (by decide) (Or.inl q1182) rfl d hk kk
theorem gfX7_295 {y0 : MethodName} {cc : ByteArray} {nL : Nat} {ret : Option FieldType} {hh : List (Nat × Nat × Nat × Nat)} {kf : Nat} {G : gG} {Qv : Option Value → gM → Prop} {E : String → Nat → gM → Prop} {w : gM → Nat → List (Nat × Value) → List Value → Prop} {M : gM} {pc : Nat} {lv : List (Nat × Value)} {rest : List Value} (hw : gX y0 cc nL ret hh kf G Qv E w) (hy : y0.cls = RX7) {c : Nat} (d : decode cc pc = .ok (.getfield 295, 3)) (hk : gk M c = 7) (kk : w M (pc + 3) lv (.long (gL M c 27) :: rest)) : w M pc lv (.ref (gA G c) :: rest) := by
  obtain ⟨cls9, nm9, ds9⟩ := y0
  subst hy
  exact g_getC (C := RX7) (T := TX7) (N := 58) (ci := 6) hw in_X7 rfl 27 (by decide) (Or.inl q1183) rfl d hk kk
theorem gfX7_298 {y0 : MethodName} {cc : ByteArray} {nL : Nat} {ret : Option FieldType} {hh : List (Nat × Nat × Nat × Nat)} {kf : Nat} {G : gG} {Qv : Option Value → gM → Prop} {E : String → Nat → gM → Prop} {w : gM → Nat → List (Nat × Value) → List Value → Prop} {M : gM} {pc : Nat} {lv : List (Nat × Value)} {rest : List Value} (hw : gX y0 cc nL ret hh kf G Qv E w) (hy : y0.cls = RX7) {c : Nat} (d : decode cc pc = .ok (.getfield 298, 3)) (hk : gk M c = 7) (kk : w M (pc + 3) lv (.long (gL M c 28) :: rest)) : w M pc lv (.ref (gA G c) :: rest) := by
  obtain ⟨cls9, nm9, ds9⟩ := y0
  subst hy
  exact g_getC (C := RX7) (T := TX7) (N := 58) (ci := 6) hw in_X7 rfl 28 (by decide) (Or.inl q1184) rfl d hk kk
theorem gfX7_301 {y0 : MethodName} {cc : ByteArray} {nL : Nat} {ret : Option FieldType} {hh : List (Nat × Nat × Nat × Nat)} {kf : Nat} {G : gG} {Qv : Option Value → gM → Prop} {E : String → Nat → gM → Prop} {w : gM → Nat → List (Nat × Value) → List Value → Prop} {M : gM} {pc : Nat} {lv : List (Nat × Value)} {rest : List Value} (hw : gX y0 cc nL ret hh kf G Qv E w) (hy : y0.cls = RX7) {c : Nat} (d : decode cc pc = .ok (.getfield 301, 3)) (hk : gk M c = 7) (kk : w M (pc + 3) lv (.long (gL M c 29) :: rest)) : w M pc lv (.ref (gA G c) :: rest) := by
  obtain ⟨cls9, nm9, ds9⟩ := y0
  subst hy
  exact g_getC (C := RX7) (T := TX7) (N := 58) (ci := 6) hw in_X7 rfl 29 (by decide) (Or.inl q1185) rfl d hk kk
def fX7_adds_b50 (l1_15 : Int32) (s1_16 : Int64) (s2_17 : Int64) (M : gM) (Q : gM → Prop) : Prop :=
  gk M 268 = 7 ∧ (if l1_15 = 0 then Q (gsL (gsL M 268 28 (s1_16 + s2_17)) 268 29 ((gL (gsL M 268 28 (s1_16 + s2_17)) 268 29) + 1)) else Q (gsL (gsL M 268 28 (s1_16 + s2_17)) 268 29 ((gL (gsL M 268 28 (s1_16 + s2_17)) 268 29) + 0)))
theorem wX7_adds_b50 {kf : Nat} {G : gG} {w : gM → Nat → List (Nat × Value) → List Value → Prop} {Q : gM → Prop} (hw : gX yX7_adds cX7_adds 4 (Option.none : Option FieldType) [] kf G (gQv Q) gE0 w) (hkf : 1 ≤ kf)  {l1_15 : Int32} {s1_16 : Int64} {s2_17 : Int64} {M : gM}  (h : fX7_adds_b50 l1_15 s1_16 s2_17 M Q) : w M 50 [(0, .ref (gA G 268)), (1, .int l1_15)] [.long s2_17, .long s1_16, .ref (gA G 268)] := by
  unfold fX7_adds_b50 at h
  refine g_ladd hw dX7_adds_50 ?_
  obtain ⟨hk18, h⟩ := h
  refine pfX7_298 hw rfl dX7_adds_51 hk18 ?_
  refine g_aload_n hw 0 dX7_adds_54 rfl ?_
  refine g_dup hw dX7_adds_55 rfl ?_
  refine gfX7_301 hw rfl dX7_adds_56 hk18 ?_
  refine g_iload_n hw 1 dX7_adds_59 rfl ?_
  refine g_if_eq (tgt := 67) hw dX7_adds_60 (by decide) (fun hb19 => ?_) (fun hb19 => ?_)
  · have h := gT h hb19
    refine g_lconst (v := 1) hw dX7_adds_67 (by decide) ?_
    refine g_ladd hw dX7_adds_68 ?_
    refine pfX7_301 hw rfl dX7_adds_69 hk18 ?_
    exact g_vret hw dX7_adds_72 ⟨rfl, h⟩
  · have h := gF h hb19
    refine g_lconst (v := 0) hw dX7_adds_63 (by decide) ?_
    refine g_goto (tgt := 68) hw dX7_adds_64 (by decide) ?_
    refine g_ladd hw dX7_adds_68 ?_
    refine pfX7_301 hw rfl dX7_adds_69 hk18 ?_
    exact g_vret hw dX7_adds_72 ⟨rfl, h⟩
def fX7_adds_b32 (l1_9 : Int32) (l2_10 : Int64) (s1_11 : Int64) (s2_12 : Int64) (M : gM) (Q : gM → Prop) : Prop :=
  gk M 268 = 7 ∧ (if l1_9 = 0 then fX7_adds_b50 l1_9 (gL (gsL M 268 27 (s1_11 + s2_12)) 268 28) l2_10 (gsL M 268 27 (s1_11 + s2_12)) Q else fX7_adds_b50 l1_9 (gL (gsL M 268 27 (s1_11 + s2_12)) 268 28) 0 (gsL M 268 27 (s1_11 + s2_12)) Q)
theorem wX7_adds_b32 {kf : Nat} {G : gG} {w : gM → Nat → List (Nat × Value) → List Value → Prop} {Q : gM → Prop} (hw : gX yX7_adds cX7_adds 4 (Option.none : Option FieldType) [] kf G (gQv Q) gE0 w) (hkf : 1 ≤ kf)  {l1_9 : Int32} {l2_10 : Int64} {s1_11 : Int64} {s2_12 : Int64} {M : gM}  (h : fX7_adds_b32 l1_9 l2_10 s1_11 s2_12 M Q) : w M 32 [(0, .ref (gA G 268)), (1, .int l1_9), (2, .long l2_10)] [.long s2_12, .long s1_11, .ref (gA G 268)] := by
  unfold fX7_adds_b32 at h
  refine g_ladd hw dX7_adds_32 ?_
  obtain ⟨hk13, h⟩ := h
  refine pfX7_295 hw rfl dX7_adds_33 hk13 ?_
  refine g_aload_n hw 0 dX7_adds_36 rfl ?_
  refine g_dup hw dX7_adds_37 rfl ?_
  refine gfX7_298 hw rfl dX7_adds_38 hk13 ?_
  refine g_iload_n hw 1 dX7_adds_41 rfl ?_
  refine g_if_eq (tgt := 49) hw dX7_adds_42 (by decide) (fun hb14 => ?_) (fun hb14 => ?_)
  · have h := gT h hb14
    refine g_lload_n hw 2 dX7_adds_49 rfl ?_
    refine g_sub hw (lv2 := [(0, .ref (gA G 268)), (1, .int l1_9)]) [0, 1] rfl ?_
    exact wX7_adds_b50 hw hkf h
  · have h := gF h hb14
    refine g_lconst (v := 0) hw dX7_adds_45 (by decide) ?_
    refine g_goto (tgt := 50) hw dX7_adds_46 (by decide) ?_
    refine g_sub hw (lv2 := [(0, .ref (gA G 268)), (1, .int l1_9)]) [0, 1] rfl ?_
    exact wX7_adds_b50 hw hkf h
def fX7_adds_b14 (l1_3 : Int32) (l2_4 : Int64) (s1_5 : Int64) (s2_6 : Int64) (M : gM) (Q : gM → Prop) : Prop :=
  gk M 268 = 7 ∧ (if l1_3 = 0 then fX7_adds_b32 l1_3 l2_4 (gL (gsL M 268 26 (s1_5 + s2_6)) 268 27) 0 (gsL M 268 26 (s1_5 + s2_6)) Q else fX7_adds_b32 l1_3 l2_4 (gL (gsL M 268 26 (s1_5 + s2_6)) 268 27) 1 (gsL M 268 26 (s1_5 + s2_6)) Q)
theorem wX7_adds_b14 {kf : Nat} {G : gG} {w : gM → Nat → List (Nat × Value) → List Value → Prop} {Q : gM → Prop} (hw : gX yX7_adds cX7_adds 4 (Option.none : Option FieldType) [] kf G (gQv Q) gE0 w) (hkf : 1 ≤ kf)  {l1_3 : Int32} {l2_4 : Int64} {s1_5 : Int64} {s2_6 : Int64} {M : gM}  (h : fX7_adds_b14 l1_3 l2_4 s1_5 s2_6 M Q) : w M 14 [(0, .ref (gA G 268)), (1, .int l1_3), (2, .long l2_4)] [.long s2_6, .long s1_5, .ref (gA G 268)] := by
  unfold fX7_adds_b14 at h
  refine g_ladd hw dX7_adds_14 ?_
  obtain ⟨hk7, h⟩ := h
  refine pfX7_292 hw rfl dX7_adds_15 hk7 ?_
  refine g_aload_n hw 0 dX7_adds_18 rfl ?_
  refine g_dup hw dX7_adds_19 rfl ?_
  refine gfX7_295 hw rfl dX7_adds_20 hk7 ?_
  refine g_iload_n hw 1 dX7_adds_23 rfl ?_
  refine g_if_eq (tgt := 31) hw dX7_adds_24 (by decide) (fun hb8 => ?_) (fun hb8 => ?_)
  · have h := gT h hb8
    refine g_lconst (v := 0) hw dX7_adds_31 (by decide) ?_
    exact wX7_adds_b32 hw hkf h
  · have h := gF h hb8
    refine g_lconst (v := 1) hw dX7_adds_27 (by decide) ?_
    refine g_goto (tgt := 32) hw dX7_adds_28 (by decide) ?_
    exact wX7_adds_b32 hw hkf h
def fX7_adds (p1 : Int32) (p2 : Int64) (M : gM) (Q : gM → Prop) : Prop :=
  gk M 268 = 7 ∧ (if p1 = 0 then fX7_adds_b14 p1 p2 (gL M 268 26) 0 M Q else fX7_adds_b14 p1 p2 (gL M 268 26) p2 M Q)
theorem mX7_adds {kf : Nat} (hkf : 1 ≤ kf) (G : gG) (p1 : Int32) (p2 : Int64) (M : gM) (Q : gM → Prop) (h : fX7_adds p1 p2 M Q) : gMet yX7_adds cX7_adds 4 (Option.none : Option FieldType) kf G M [.ref (gA G 268), .int p1, .long p2] (gQv Q) gE0 := by
  refine g_intro (lv := [(0, .ref (gA G 268)), (1, .int p1), (2, .long p2)]) (by decide) rfl rfl (fun w hw => ?_)
  unfold fX7_adds at h
  refine g_aload_n hw 0 dX7_adds_0 rfl ?_
  refine g_dup hw dX7_adds_1 rfl ?_
  obtain ⟨hk1, h⟩ := h
  refine gfX7_292 hw rfl dX7_adds_2 hk1 ?_
  refine g_iload_n hw 1 dX7_adds_5 rfl ?_
  refine g_if_eq (tgt := 13) hw dX7_adds_6 (by decide) (fun hb2 => ?_) (fun hb2 => ?_)
  · have h := gT h hb2
    refine g_lconst (v := 0) hw dX7_adds_13 (by decide) ?_
    exact wX7_adds_b14 hw hkf h
  · have h := gF h hb2
    refine g_lload_n hw 2 dX7_adds_9 rfl ?_
    refine g_goto (tgt := 14) hw dX7_adds_10 (by decide) ?_
    exact wX7_adds_b14 hw hkf h
theorem pfX7_281 {y0 : MethodName} {cc : ByteArray} {nL : Nat} {ret : Option FieldType} {hh : List (Nat × Nat × Nat × Nat)} {kf : Nat} {G : gG} {Qv : Option Value → gM → Prop} {E : String → Nat → gM → Prop} {w : gM → Nat → List (Nat × Value) → List Value → Prop} {M : gM} {pc : Nat} {lv : List (Nat × Value)} {rest : List Value} (hw : gX y0 cc nL ret hh kf G Qv E w) (hy : y0.cls = RX7) {c : Nat} {x : Int64} (d : decode cc pc = .ok (.putfield 281, 3)) (hk : gk M c = 7) (kk : w (gsL M c 24 x) (pc + 3) lv rest) : w M pc lv (.long x :: .ref (gA G c) :: rest) := by
  obtain ⟨cls9, nm9, ds9⟩ := y0
  subst hy
  exact g_putC (C := RX7) (T := TX7) (N := 58) (ci := 6) hw in_X7 tyX7 tyX7_ok nmX7 rfl 24 (by decide) (Or.inl ⟨q1180, Or.inl rfl⟩) rfl rfl (gOne_L M c 24 x) (by show Value.long (gL (gsL M c 24 x) c 24) = _; rw [gL_sL, if_pos ⟨rfl, rfl⟩]) d hk kk
theorem pfX7_285 {y0 : MethodName} {cc : ByteArray} {nL : Nat} {ret : Option FieldType} {hh : List (Nat × Nat × Nat × Nat)} {kf : Nat} {G : gG} {Qv : Option Value → gM → Prop} {E : String → Nat → gM → Prop} {w : gM → Nat → List (Nat × Value) → List Value → Prop} {M : gM} {pc : Nat} {lv : List (Nat × Value)} {rest : List Value} (hw : gX y0 cc nL ret hh kf G Qv E w) (hy : y0.cls = RX7) {c : Nat} {x : Int64} (d : decode cc pc = .ok (.putfield 285, 3)) (hk : gk M c = 7) (kk : w (gsL M c 25 x) (pc + 3) lv rest) : w M pc lv (.long x :: .ref (gA G c) :: rest) := by
  obtain ⟨cls9, nm9, ds9⟩ := y0
  subst hy
  exact g_putC (C := RX7) (T := TX7) (N := 58) (ci := 6) hw in_X7 tyX7 tyX7_ok nmX7 rfl 25 (by decide) (Or.inl ⟨q1181, Or.inl rfl⟩) rfl rfl (gOne_L M c 25 x) (by show Value.long (gL (gsL M c 25 x) c 25) = _; rw [gL_sL, if_pos ⟨rfl, rfl⟩]) d hk kk
theorem gfX7_285 {y0 : MethodName} {cc : ByteArray} {nL : Nat} {ret : Option FieldType} {hh : List (Nat × Nat × Nat × Nat)} {kf : Nat} {G : gG} {Qv : Option Value → gM → Prop} {E : String → Nat → gM → Prop} {w : gM → Nat → List (Nat × Value) → List Value → Prop} {M : gM} {pc : Nat} {lv : List (Nat × Value)} {rest : List Value} (hw : gX y0 cc nL ret hh kf G Qv E w) (hy : y0.cls = RX7) {c : Nat} (d : decode cc pc = .ok (.getfield 285, 3)) (hk : gk M c = 7) (kk : w M (pc + 3) lv (.long (gL M c 25) :: rest)) : w M pc lv (.ref (gA G c) :: rest) := by
  obtain ⟨cls9, nm9, ds9⟩ := y0
  subst hy
  exact g_getC (C := RX7) (T := TX7) (N := 58) (ci := 6) hw in_X7 rfl 25 (by decide) (Or.inl q1181) rfl d hk kk
def fX7_differs_b36  (M : gM) (Q : Int32 → gM → Prop) : Prop :=
  gk M 268 = 7 ∧ (if (lg_cmp (gL M 268 25) 0) ≤ 0 then Q 0 M else Q 1 M)
theorem wX7_differs_b36 {kf : Nat} {G : gG} {w : gM → Nat → List (Nat × Value) → List Value → Prop} {Q : Int32 → gM → Prop} (hw : gX yX7_differs cX7_differs 1 (Option.some FieldType.boolean) [] kf G (gQi Q) gE0 w) (hkf : 1 ≤ kf)   {M : gM}  (h : fX7_differs_b36 M Q) : w M 36 [(0, .ref (gA G 268))] [] := by
  unfold fX7_differs_b36 at h
  refine g_aload_n hw 0 dX7_differs_36 rfl ?_
  obtain ⟨hk2, h⟩ := h
  refine gfX7_285 hw rfl dX7_differs_37 hk2 ?_
  refine g_lconst (v := 0) hw dX7_differs_40 (by decide) ?_
  refine g_lcmp hw dX7_differs_41 ?_
  refine g_if_le (tgt := 49) hw dX7_differs_42 (by decide) (fun hb3 => ?_) (fun hb3 => ?_)
  · have h := gT h hb3
    refine g_iconst (v := 0) hw dX7_differs_49 (by decide) ?_
    exact g_iret hw dX7_differs_50 (by decide +kernel) ⟨_, rfl, h⟩
  · have h := gF h hb3
    refine g_iconst (v := 1) hw dX7_differs_45 (by decide) ?_
    refine g_goto (tgt := 50) hw dX7_differs_46 (by decide) ?_
    exact g_iret hw dX7_differs_50 (by decide +kernel) ⟨_, rfl, h⟩
def fX7_differs  (M : gM) (Q : Int32 → gM → Prop) : Prop :=
  gk M 268 = 7 ∧ fX7_differs_b36 (gsL (gsL M 268 24 (((gL M 268 26) * (gL M 268 29)) - ((gL M 268 28) * (gL M 268 27)))) 268 25 ((gL (gsL M 268 24 (((gL M 268 26) * (gL M 268 29)) - ((gL M 268 28) * (gL M 268 27)))) 268 27) * (gL (gsL M 268 24 (((gL M 268 26) * (gL M 268 29)) - ((gL M 268 28) * (gL M 268 27)))) 268 29))) Q
theorem mX7_differs {kf : Nat} (hkf : 1 ≤ kf) (G : gG)  (M : gM) (Q : Int32 → gM → Prop) (h : fX7_differs M Q) : gMet yX7_differs cX7_differs 1 (Option.some FieldType.boolean) kf G M [.ref (gA G 268)] (gQi Q) gE0 := by
  refine g_intro (lv := [(0, .ref (gA G 268))]) (by decide) rfl rfl (fun w hw => ?_)
  unfold fX7_differs at h
  refine g_aload_n hw 0 dX7_differs_0 rfl ?_
  refine g_aload_n hw 0 dX7_differs_1 rfl ?_
  obtain ⟨hk1, h⟩ := h
  refine gfX7_292 hw rfl dX7_differs_2 hk1 ?_
  refine g_aload_n hw 0 dX7_differs_5 rfl ?_
  refine gfX7_301 hw rfl dX7_differs_6 hk1 ?_
  refine g_lmul hw dX7_differs_9 ?_
  refine g_aload_n hw 0 dX7_differs_10 rfl ?_
  refine gfX7_298 hw rfl dX7_differs_11 hk1 ?_
  refine g_aload_n hw 0 dX7_differs_14 rfl ?_
  refine gfX7_295 hw rfl dX7_differs_15 hk1 ?_
  refine g_lmul hw dX7_differs_18 ?_
  refine g_lsub hw dX7_differs_19 ?_
  refine pfX7_281 hw rfl dX7_differs_20 hk1 ?_
  refine g_aload_n hw 0 dX7_differs_23 rfl ?_
  refine g_aload_n hw 0 dX7_differs_24 rfl ?_
  refine gfX7_295 hw rfl dX7_differs_25 hk1 ?_
  refine g_aload_n hw 0 dX7_differs_28 rfl ?_
  refine gfX7_301 hw rfl dX7_differs_29 hk1 ?_
  refine g_lmul hw dX7_differs_32 ?_
  refine pfX7_285 hw rfl dX7_differs_33 hk1 ?_
  exact wX7_differs_b36 hw hkf h
theorem sX7_304 {y0 : MethodName} {cc : ByteArray} {nL : Nat} {ret : Option FieldType} {hh : List (Nat × Nat × Nat × Nat)} {kf : Nat} {G : gG} {Qv : Option Value → gM → Prop} {E : String → Nat → gM → Prop} {w : gM → Nat → List (Nat × Value) → List Value → Prop} {M : gM} {pc : Nat} {lv : List (Nat × Value)} {rest : List Value} (hw : gX y0 cc nL ret hh kf G Qv E w) (hy : y0.cls = RX7)  {Q : gM → Prop} (d : decode cc pc = .ok (.invokevirtual 304, 3)) (hrest : Nat.ble ((rest.map Value.category).sum) 8 = true) (hk : 1 + 1 ≤ kf) (hkd : gk M 268 = 7) (h : fX7_beginsSums M Q) (kk : ∀ M1, Q M1 → w M1 (pc + 3) lv rest) : w M pc lv (.ref (gA G 268) :: rest) := by
  obtain ⟨cls9, nm9, ds9⟩ := y0
  subst hy
  exact g_callV (r := (RX7, TX7, 58)) (ci := 6) hw [] (nA := 0) rfl d q1400 q1402 qs50 q104 q1403 (by decide +kernel) rfl rfl hrest rfl (by omega : kf - 1 + 1 ≤ kf) hkd (mX7_beginsSums (kf := kf - 1) (by omega) G M Q h) (fun _ _ _ q => q.elim) (fun v M1 h => by obtain ⟨rfl, h⟩ := h; exact kk M1 h)
theorem sX7_307 {y0 : MethodName} {cc : ByteArray} {nL : Nat} {ret : Option FieldType} {hh : List (Nat × Nat × Nat × Nat)} {kf : Nat} {G : gG} {Qv : Option Value → gM → Prop} {E : String → Nat → gM → Prop} {w : gM → Nat → List (Nat × Value) → List Value → Prop} {M : gM} {pc : Nat} {lv : List (Nat × Value)} {rest : List Value} (hw : gX y0 cc nL ret hh kf G Qv E w) (hy : y0.cls = RX7) {p1 : Int32} {p2 : Int64} {Q : gM → Prop} (d : decode cc pc = .ok (.invokevirtual 307, 3)) (hrest : Nat.ble ((rest.map Value.category).sum) 8 = true) (hk : 1 + 1 ≤ kf) (hkd : gk M 268 = 7) (h : fX7_adds p1 p2 M Q) (kk : ∀ M1, Q M1 → w M1 (pc + 3) lv rest) : w M pc lv (.long p2 :: .int p1 :: .ref (gA G 268) :: rest) := by
  obtain ⟨cls9, nm9, ds9⟩ := y0
  subst hy
  exact g_callV (r := (RX7, TX7, 58)) (ci := 6) hw [.int p1, .long p2] (nA := 2) rfl d q1404 q1406 qs51 q104 q1407 (by decide +kernel) rfl rfl hrest rfl (by omega : kf - 1 + 1 ≤ kf) hkd (mX7_adds (kf := kf - 1) (by omega) G p1 p2 M Q h) (fun _ _ _ q => q.elim) (fun v M1 h => by obtain ⟨rfl, h⟩ := h; exact kk M1 h)
theorem sX7_311 {y0 : MethodName} {cc : ByteArray} {nL : Nat} {ret : Option FieldType} {hh : List (Nat × Nat × Nat × Nat)} {kf : Nat} {G : gG} {Qv : Option Value → gM → Prop} {E : String → Nat → gM → Prop} {w : gM → Nat → List (Nat × Value) → List Value → Prop} {M : gM} {pc : Nat} {lv : List (Nat × Value)} {rest : List Value} (hw : gX y0 cc nL ret hh kf G Qv E w) (hy : y0.cls = RX7)  {Q : Int32 → gM → Prop} (d : decode cc pc = .ok (.invokevirtual 311, 3)) (hrest : Nat.ble ((rest.map Value.category).sum) 8 = true) (hk : 1 + 1 ≤ kf) (hkd : gk M 268 = 7) (h : fX7_differs M Q) (kk : ∀ r M1, Q r M1 → w M1 (pc + 3) lv (.int r :: rest)) : w M pc lv (.ref (gA G 268) :: rest) := by
  obtain ⟨cls9, nm9, ds9⟩ := y0
  subst hy
  exact g_callV (r := (RX7, TX7, 58)) (ci := 6) hw [] (nA := 0) rfl d q1408 q1410 qs52 q104 q1411 (by decide +kernel) rfl rfl hrest rfl (by omega : kf - 1 + 1 ≤ kf) hkd (mX7_differs (kf := kf - 1) (by omega) G M Q h) (fun _ _ _ q => q.elim) (fun v M1 h => by obtain ⟨r, rfl, h⟩ := h; exact kk r M1 h)
def fX7_findRiver_b59 (R7 : Int32 → gM → Prop) (l1_4 : Int32) (l2_5 : Int32) (l3_6 : Int32) (l4_10 : Int32) (M : gM) (Q : Int32 → gM → Prop) : Prop :=
  R7 (l4_10 + 1) M
theorem wX7_findRiver_b59 {kf : Nat} {G : gG} {w : gM → Nat → List (Nat × Value) → List Value → Prop} {Q : Int32 → gM → Prop} (hw : gX yX7_findRiver cX7_findRiver 5 (Option.some FieldType.boolean) [] kf G (gQi Q) gE0 w) (hkf : 4 ≤ kf) {R7 : Int32 → gM → Prop} {l1_4 : Int32} {l2_5 : Int32} {l3_6 : Int32} {l4_10 : Int32} {M : gM} (hR7 : ∀ (v0 : Int32) (M : gM), R7 v0 M → w M 7 [(0, .ref (gA G 268)), (1, .int l1_4), (2, .int l2_5), (3, .int l3_6), (4, .int v0)] []) (h : fX7_findRiver_b59 R7 l1_4 l2_5 l3_6 l4_10 M Q) : w M 59 [(0, .ref (gA G 268)), (1, .int l1_4), (2, .int l2_5), (3, .int l3_6), (4, .int l4_10)] [] := by
  unfold fX7_findRiver_b59 at h
  refine g_iinc hw (lv2 := [(0, .ref (gA G 268)), (1, .int l1_4), (2, .int l2_5), (3, .int l3_6), (4, .int (l4_10 + 1))]) 4 [1, 2, 3, 4, 0] dX7_findRiver_59 rfl (by decide) rfl rfl ?_
  refine g_goto (tgt := 7) hw dX7_findRiver_62 (by decide) ?_
  exact hR7 (l4_10 + 1) M h
def fX7_findRiver_b47 (R7 : Int32 → gM → Prop) (l1_4 : Int32) (l2_5 : Int32) (l3_6 : Int32) (l4_21 : Int32) (s1_22 : Int32) (M : gM) (Q : Int32 → gM → Prop) : Prop :=
  gk M 268 = 7 ∧ fX7_changeOf l4_21 l1_4 l2_5 M (fun r25 M24 => gk M24 268 = 7 ∧ fX7_adds s1_22 r25.toInt64 M24 (fun M27 => fX7_findRiver_b59 R7 l1_4 l2_5 l3_6 l4_21 M27 Q))
theorem wX7_findRiver_b47 {kf : Nat} {G : gG} {w : gM → Nat → List (Nat × Value) → List Value → Prop} {Q : Int32 → gM → Prop} (hw : gX yX7_findRiver cX7_findRiver 5 (Option.some FieldType.boolean) [] kf G (gQi Q) gE0 w) (hkf : 4 ≤ kf) {R7 : Int32 → gM → Prop} {l1_4 : Int32} {l2_5 : Int32} {l3_6 : Int32} {l4_21 : Int32} {s1_22 : Int32} {M : gM} (hR7 : ∀ (v0 : Int32) (M : gM), R7 v0 M → w M 7 [(0, .ref (gA G 268)), (1, .int l1_4), (2, .int l2_5), (3, .int l3_6), (4, .int v0)] []) (h : fX7_findRiver_b47 R7 l1_4 l2_5 l3_6 l4_21 s1_22 M Q) : w M 47 [(0, .ref (gA G 268)), (1, .int l1_4), (2, .int l2_5), (3, .int l3_6), (4, .int l4_21)] [.int s1_22, .ref (gA G 268)] := by
  unfold fX7_findRiver_b47 at h
  refine g_aload_n hw 0 dX7_findRiver_47 rfl ?_
  refine g_iload hw 4 dX7_findRiver_48 rfl ?_
  refine g_iload_n hw 1 dX7_findRiver_50 rfl ?_
  refine g_iload_n hw 2 dX7_findRiver_51 rfl ?_
  obtain ⟨hk23, h⟩ := h
  refine sX7_277 hw rfl dX7_findRiver_52 rfl (gK2 hkf) hk23 h (fun r25 M24 h => ?_)
  refine g_i2l hw dX7_findRiver_55 ?_
  obtain ⟨hk26, h⟩ := h
  refine sX7_307 hw rfl dX7_findRiver_56 rfl (gK2 hkf) hk26 h (fun M27 h => ?_)
  exact wX7_findRiver_b59 hw hkf hR7 h
def fX7_findRiver_L7s (R7 : Int32 → gM → Prop) (K65_7 : gM → Prop) (l1_4 : Int32) (l2_5 : Int32) (l3_6 : Int32) (l4_7 : Int32) (M : gM) (Q : Int32 → gM → Prop) : Prop :=
  (if 24 ≤ l4_7 then K65_7 M else (if l4_7 = l3_6 then fX7_findRiver_b59 R7 l1_4 l2_5 l3_6 l4_7 M Q else gk M 268 = 7 ∧ fX7_isCounted l4_7 l1_4 l2_5 M (fun r13 M12 => (if r13 = 0 then fX7_findRiver_b59 R7 l1_4 l2_5 l3_6 l4_7 M12 Q else gk M12 268 = 7 ∧ gdr (gR M12 268 11) (fun a16 => gk M12 a16 = 40 ∧ vp_in l4_7 (gl M12 a16) ∧ (if (gI M12 a16 l4_7.toNatClampNeg) = 0 then fX7_findRiver_b47 R7 l1_4 l2_5 l3_6 l4_7 1 M12 Q else fX7_findRiver_b47 R7 l1_4 l2_5 l3_6 l4_7 0 M12 Q))))))
def fX7_findRiver_L7 (K65_7 : gM → Prop) (l1_4 : Int32) (l2_5 : Int32) (l3_6 : Int32) (Q : Int32 → gM → Prop) : Nat → Int32 → gM → Prop
  | 0 => fun _ _ => False
  | n + 1 => fun l4_7 M => fX7_findRiver_L7s (fX7_findRiver_L7 K65_7 l1_4 l2_5 l3_6 Q n) K65_7 l1_4 l2_5 l3_6 l4_7 M Q
theorem wX7_findRiver_L7s {kf : Nat} {G : gG} {w : gM → Nat → List (Nat × Value) → List Value → Prop} {Q : Int32 → gM → Prop} (hw : gX yX7_findRiver cX7_findRiver 5 (Option.some FieldType.boolean) [] kf G (gQi Q) gE0 w) (hkf : 4 ≤ kf) {R7 : Int32 → gM → Prop} {K65_7 : gM → Prop} {l1_4 : Int32} {l2_5 : Int32} {l3_6 : Int32} {l4_7 : Int32} {M : gM} (hR7 : ∀ (v0 : Int32) (M : gM), R7 v0 M → w M 7 [(0, .ref (gA G 268)), (1, .int l1_4), (2, .int l2_5), (3, .int l3_6), (4, .int v0)] []) (hK65_7 : ∀  (M : gM), K65_7 M → w M 65 [(0, .ref (gA G 268))] []) (h : fX7_findRiver_L7s R7 K65_7 l1_4 l2_5 l3_6 l4_7 M Q) : w M 7 [(0, .ref (gA G 268)), (1, .int l1_4), (2, .int l2_5), (3, .int l3_6), (4, .int l4_7)] [] := by
  unfold fX7_findRiver_L7s at h
  refine g_iload hw 4 dX7_findRiver_7 rfl ?_
  refine g_bipush (v := 24) hw dX7_findRiver_9 (by decide) ?_
  refine g_icmp_ge (tgt := 65) hw dX7_findRiver_11 (by decide) (fun hb8 => ?_) (fun hb8 => ?_)
  · have h := gT h hb8
    refine g_sub hw (lv2 := [(0, .ref (gA G 268))]) [0] rfl ?_
    exact hK65_7 M h
  · have h := gF h hb8
    refine g_iload hw 4 dX7_findRiver_14 rfl ?_
    refine g_iload_n hw 3 dX7_findRiver_16 rfl ?_
    refine g_icmp_eq (tgt := 59) hw dX7_findRiver_17 (by decide) (fun hb9 => ?_) (fun hb9 => ?_)
    · have h := gT h hb9
      exact wX7_findRiver_b59 hw hkf hR7 h
    · have h := gF h hb9
      refine g_aload_n hw 0 dX7_findRiver_20 rfl ?_
      refine g_iload hw 4 dX7_findRiver_21 rfl ?_
      refine g_iload_n hw 1 dX7_findRiver_23 rfl ?_
      refine g_iload_n hw 2 dX7_findRiver_24 rfl ?_
      obtain ⟨hk11, h⟩ := h
      refine sX7_274 hw rfl dX7_findRiver_25 rfl (gK2 hkf) hk11 h (fun r13 M12 h => ?_)
      refine g_if_eq (tgt := 59) hw dX7_findRiver_28 (by decide) (fun hb14 => ?_) (fun hb14 => ?_)
      · have h := gT h hb14
        exact wX7_findRiver_b59 hw hkf hR7 h
      · have h := gF h hb14
        refine g_aload_n hw 0 dX7_findRiver_31 rfl ?_
        refine g_aload_n hw 0 dX7_findRiver_32 rfl ?_
        obtain ⟨hk15, h⟩ := h
        obtain ⟨a16, e17, h⟩ := h
        refine gfX7_97 (q := some a16) hw rfl dX7_findRiver_33 hk15 e17 ?_
        refine g_iload hw 4 dX7_findRiver_36 rfl ?_
        obtain ⟨hk18, h⟩ := h
        obtain ⟨hi19, h⟩ := h
        refine g_iald (n := l4_7.toNatClampNeg) hw dX7_findRiver_38 hk18 hi19 rfl ?_
        refine g_if_ne (tgt := 46) hw dX7_findRiver_39 (by decide) (fun hb20 => ?_) (fun hb20 => ?_)
        · have h := gF h hb20
          refine g_iconst (v := 0) hw dX7_findRiver_46 (by decide) ?_
          exact wX7_findRiver_b47 hw hkf hR7 h
        · have h := gT h hb20
          refine g_iconst (v := 1) hw dX7_findRiver_42 (by decide) ?_
          refine g_goto (tgt := 47) hw dX7_findRiver_43 (by decide) ?_
          exact wX7_findRiver_b47 hw hkf hR7 h
theorem wX7_findRiver_L7 {kf : Nat} {G : gG} {w : gM → Nat → List (Nat × Value) → List Value → Prop} {Q : Int32 → gM → Prop} (hw : gX yX7_findRiver cX7_findRiver 5 (Option.some FieldType.boolean) [] kf G (gQi Q) gE0 w) (hkf : 4 ≤ kf) {K65_7 : gM → Prop} {l1_4 : Int32} {l2_5 : Int32} {l3_6 : Int32} (hK65_7 : ∀  (M : gM), K65_7 M → w M 65 [(0, .ref (gA G 268))] []) : ∀ (n : Nat) (l4_7 : Int32) (M : gM), fX7_findRiver_L7 K65_7 l1_4 l2_5 l3_6 Q n l4_7 M → w M 7 [(0, .ref (gA G 268)), (1, .int l1_4), (2, .int l2_5), (3, .int l3_6), (4, .int l4_7)] [] := by
  intro n
  induction n with
  | zero => intro l4_7 M h; exact h.elim
  | succ n ih => intro l4_7 M h; exact wX7_findRiver_L7s hw hkf ih hK65_7 h
def fX7_findRiver (p1 : Int32) (p2 : Int32) (p3 : Int32) (M : gM) (Q : Int32 → gM → Prop) : Prop :=
  gk M 268 = 7 ∧ fX7_beginsSums M (fun M2 => ∃ n, fX7_findRiver_L7 (fun M29 => gk M29 268 = 7 ∧ fX7_differs M29 (fun r32 M31 => (r32 = 0 ∨ r32 = 1) ∧ Q r32 M31)) p1 p2 p3 Q n 0 M2)
theorem mX7_findRiver {kf : Nat} (hkf : 4 ≤ kf) (G : gG) (p1 : Int32) (p2 : Int32) (p3 : Int32) (M : gM) (Q : Int32 → gM → Prop) (h : fX7_findRiver p1 p2 p3 M Q) : gMet yX7_findRiver cX7_findRiver 5 (Option.some FieldType.boolean) kf G M [.ref (gA G 268), .int p1, .int p2, .int p3] (gQi Q) gE0 := by
  refine g_intro (lv := [(0, .ref (gA G 268)), (1, .int p1), (2, .int p2), (3, .int p3)]) (by decide) rfl rfl (fun w hw => ?_)
  unfold fX7_findRiver at h
  refine g_aload_n hw 0 dX7_findRiver_0 rfl ?_
  obtain ⟨hk1, h⟩ := h
  refine sX7_304 hw rfl dX7_findRiver_1 rfl (gK2 hkf) hk1 h (fun M2 h => ?_)
  refine g_iconst (v := 0) hw dX7_findRiver_4 (by decide) ?_
  refine g_istore hw (lv2 := [(0, .ref (gA G 268)), (1, .int p1), (2, .int p2), (3, .int p3), (4, .int 0)]) [1, 2, 3, 4, 0] dX7_findRiver_5 rfl rfl ?_
  obtain ⟨n9, h⟩ := h
  refine wX7_findRiver_L7 hw hkf (fun M29 h => ?_) n9 0 M2 h
  refine g_aload_n hw 0 dX7_findRiver_65 rfl ?_
  obtain ⟨hk30, h⟩ := h
  refine sX7_311 hw rfl dX7_findRiver_66 rfl (gK2 hkf) hk30 h (fun r32 M31 h => ?_)
  obtain ⟨hc33, h⟩ := h
  exact g_iret hw dX7_findRiver_69 (gBool hc33) ⟨_, rfl, h⟩
def fX7_common_L28s (R28 : Int64 → Int64 → gM → Prop) (K53_28 : Int64 → gM → Prop) (l4_7 : Int64) (l6_8 : Int64) (M : gM) (Q : Int64 → gM → Prop) : Prop :=
  (if (lg_cmp l6_8 0) = 0 then K53_28 l4_7 M else (¬ l6_8 = 0) ∧ R28 l6_8 (l4_7 - l4_7 / l6_8 * l6_8) M)
def fX7_common_L28 (K53_28 : Int64 → gM → Prop) (Q : Int64 → gM → Prop) : Nat → Int64 → Int64 → gM → Prop
  | 0 => fun _ _ _ => False
  | n + 1 => fun l4_7 l6_8 M => fX7_common_L28s (fX7_common_L28 K53_28 Q n) K53_28 l4_7 l6_8 M Q
theorem wX7_common_L28s {kf : Nat} {G : gG} {w : gM → Nat → List (Nat × Value) → List Value → Prop} {Q : Int64 → gM → Prop} (hw : gX yX7_common cX7_common 10 (Option.some FieldType.long) [] kf G (gQl Q) gE0 w) (hkf : 1 ≤ kf) {R28 : Int64 → Int64 → gM → Prop} {K53_28 : Int64 → gM → Prop} {l4_7 : Int64} {l6_8 : Int64} {M : gM} (hR28 : ∀ (v0 : Int64) (v1 : Int64) (M : gM), R28 v0 v1 M → w M 28 [(4, .long v0), (6, .long v1)] []) (hK53_28 : ∀ (v0 : Int64) (M : gM), K53_28 v0 M → w M 53 [(4, .long v0)] []) (h : fX7_common_L28s R28 K53_28 l4_7 l6_8 M Q) : w M 28 [(4, .long l4_7), (6, .long l6_8)] [] := by
  unfold fX7_common_L28s at h
  refine g_lload hw 1 dX7_common_28 rfl ?_
  refine g_lconst (v := 0) hw dX7_common_30 (by decide) ?_
  refine g_lcmp hw dX7_common_31 ?_
  refine g_if_eq (tgt := 53) hw dX7_common_32 (by decide) (fun hb9 => ?_) (fun hb9 => ?_)
  · have h := gT h hb9
    refine g_sub hw (lv2 := [(4, .long l4_7)]) [0] rfl ?_
    exact hK53_28 l4_7 M h
  · have h := gF h hb9
    refine g_lload hw 0 dX7_common_35 rfl ?_
    refine g_lload hw 1 dX7_common_37 rfl ?_
    obtain ⟨hc10, h⟩ := h
    refine g_lrem hw dX7_common_39 hc10 ?_
    refine g_lstore hw (lv2 := [(6, .long l6_8), (8, .long (l4_7 - l4_7 / l6_8 * l6_8))]) [2, 0] dX7_common_40 rfl rfl ?_
    refine g_lload hw 0 dX7_common_42 rfl ?_
    refine g_lstore hw (lv2 := [(4, .long l6_8), (8, .long (l4_7 - l4_7 / l6_8 * l6_8))]) [0, 2] dX7_common_44 rfl rfl ?_
    refine g_lload hw 1 dX7_common_46 rfl ?_
    refine g_lstore hw (lv2 := [(4, .long l6_8), (6, .long (l4_7 - l4_7 / l6_8 * l6_8))]) [1, 0] dX7_common_48 rfl rfl ?_
    refine g_goto (tgt := 28) hw dX7_common_50 (by decide) ?_
    exact hR28 l6_8 (l4_7 - l4_7 / l6_8 * l6_8) M h
theorem wX7_common_L28 {kf : Nat} {G : gG} {w : gM → Nat → List (Nat × Value) → List Value → Prop} {Q : Int64 → gM → Prop} (hw : gX yX7_common cX7_common 10 (Option.some FieldType.long) [] kf G (gQl Q) gE0 w) (hkf : 1 ≤ kf) {K53_28 : Int64 → gM → Prop} (hK53_28 : ∀ (v0 : Int64) (M : gM), K53_28 v0 M → w M 53 [(4, .long v0)] []) : ∀ (n : Nat) (l4_7 : Int64) (l6_8 : Int64) (M : gM), fX7_common_L28 K53_28 Q n l4_7 l6_8 M → w M 28 [(4, .long l4_7), (6, .long l6_8)] [] := by
  intro n
  induction n with
  | zero => intro l4_7 l6_8 M h; exact h.elim
  | succ n ih => intro l4_7 l6_8 M h; exact wX7_common_L28s hw hkf ih hK53_28 h
def fX7_common_b26 (l4_5 : Int64) (s0_6 : Int64) (M : gM) (Q : Int64 → gM → Prop) : Prop :=
  ∃ n, fX7_common_L28 (fun l4_11 M12 => Q l4_11 M12) Q n l4_5 s0_6 M
theorem wX7_common_b26 {kf : Nat} {G : gG} {w : gM → Nat → List (Nat × Value) → List Value → Prop} {Q : Int64 → gM → Prop} (hw : gX yX7_common cX7_common 10 (Option.some FieldType.long) [] kf G (gQl Q) gE0 w) (hkf : 1 ≤ kf)  {l4_5 : Int64} {s0_6 : Int64} {M : gM}  (h : fX7_common_b26 l4_5 s0_6 M Q) : w M 26 [(4, .long l4_5)] [.long s0_6] := by
  unfold fX7_common_b26 at h
  refine g_lstore hw (lv2 := [(4, .long l4_5), (6, .long s0_6)]) [1, 0] dX7_common_26 rfl rfl ?_
  obtain ⟨n9, h⟩ := h
  refine wX7_common_L28 hw hkf (fun l4_11 M12 h => ?_) n9 l4_5 s0_6 M h
  refine g_lload hw 0 dX7_common_53 rfl ?_
  exact g_lret hw dX7_common_55 ⟨_, rfl, h⟩
def fX7_common_b12 (l2_2 : Int64) (s0_3 : Int64) (M : gM) (Q : Int64 → gM → Prop) : Prop :=
  (if 0 ≤ (lg_cmp l2_2 0) then fX7_common_b26 s0_3 l2_2 M Q else fX7_common_b26 s0_3 (-l2_2) M Q)
theorem wX7_common_b12 {kf : Nat} {G : gG} {w : gM → Nat → List (Nat × Value) → List Value → Prop} {Q : Int64 → gM → Prop} (hw : gX yX7_common cX7_common 10 (Option.some FieldType.long) [] kf G (gQl Q) gE0 w) (hkf : 1 ≤ kf)  {l2_2 : Int64} {s0_3 : Int64} {M : gM}  (h : fX7_common_b12 l2_2 s0_3 M Q) : w M 12 [(2, .long l2_2)] [.long s0_3] := by
  unfold fX7_common_b12 at h
  refine g_lstore hw (lv2 := [(2, .long l2_2), (4, .long s0_3)]) [1, 0] dX7_common_12 rfl rfl ?_
  refine g_lload_n hw 0 dX7_common_14 rfl ?_
  refine g_lconst (v := 0) hw dX7_common_15 (by decide) ?_
  refine g_lcmp hw dX7_common_16 ?_
  refine g_if_ge (tgt := 25) hw dX7_common_17 (by decide) (fun hb4 => ?_) (fun hb4 => ?_)
  · have h := gT h hb4
    refine g_lload_n hw 0 dX7_common_25 rfl ?_
    refine g_sub hw (lv2 := [(4, .long s0_3)]) [1] rfl ?_
    exact wX7_common_b26 hw hkf h
  · have h := gF h hb4
    refine g_lload_n hw 0 dX7_common_20 rfl ?_
    refine g_lneg hw dX7_common_21 ?_
    refine g_goto (tgt := 26) hw dX7_common_22 (by decide) ?_
    refine g_sub hw (lv2 := [(4, .long s0_3)]) [1] rfl ?_
    exact wX7_common_b26 hw hkf h
def fX7_common (p1 : Int64) (p2 : Int64) (M : gM) (Q : Int64 → gM → Prop) : Prop :=
  (if 0 ≤ (lg_cmp p1 0) then fX7_common_b12 p2 p1 M Q else fX7_common_b12 p2 (-p1) M Q)
theorem mX7_common {kf : Nat} (hkf : 1 ≤ kf) (G : gG) (p1 : Int64) (p2 : Int64) (M : gM) (Q : Int64 → gM → Prop) (h : fX7_common p1 p2 M Q) : gMet yX7_common cX7_common 10 (Option.some FieldType.long) kf G M [.long p1, .long p2] (gQl Q) gE0 := by
  refine g_intro (lv := [(0, .long p1), (2, .long p2)]) (by decide) rfl rfl (fun w hw => ?_)
  unfold fX7_common at h
  refine g_lload_n hw 0 dX7_common_0 rfl ?_
  refine g_lconst (v := 0) hw dX7_common_1 (by decide) ?_
  refine g_lcmp hw dX7_common_2 ?_
  refine g_if_ge (tgt := 11) hw dX7_common_3 (by decide) (fun hb1 => ?_) (fun hb1 => ?_)
  · have h := gT h hb1
    refine g_lload_n hw 0 dX7_common_11 rfl ?_
    refine g_sub hw (lv2 := [(2, .long p2)]) [1] rfl ?_
    exact wX7_common_b12 hw hkf h
  · have h := gF h hb1
    refine g_lload_n hw 0 dX7_common_6 rfl ?_
    refine g_lneg hw dX7_common_7 ?_
    refine g_goto (tgt := 12) hw dX7_common_8 (by decide) ?_
    refine g_sub hw (lv2 := [(2, .long p2)]) [1] rfl ?_
    exact wX7_common_b12 hw hkf h
theorem gfX7_281 {y0 : MethodName} {cc : ByteArray} {nL : Nat} {ret : Option FieldType} {hh : List (Nat × Nat × Nat × Nat)} {kf : Nat} {G : gG} {Qv : Option Value → gM → Prop} {E : String → Nat → gM → Prop} {w : gM → Nat → List (Nat × Value) → List Value → Prop} {M : gM} {pc : Nat} {lv : List (Nat × Value)} {rest : List Value} (hw : gX y0 cc nL ret hh kf G Qv E w) (hy : y0.cls = RX7) {c : Nat} (d : decode cc pc = .ok (.getfield 281, 3)) (hk : gk M c = 7) (kk : w M (pc + 3) lv (.long (gL M c 24) :: rest)) : w M pc lv (.ref (gA G c) :: rest) := by
  obtain ⟨cls9, nm9, ds9⟩ := y0
  subst hy
  exact g_getC (C := RX7) (T := TX7) (N := 58) (ci := 6) hw in_X7 rfl 24 (by decide) (Or.inl q1180) rfl d hk kk
theorem sX7_288 {y0 : MethodName} {cc : ByteArray} {nL : Nat} {ret : Option FieldType} {hh : List (Nat × Nat × Nat × Nat)} {kf : Nat} {G : gG} {Qv : Option Value → gM → Prop} {E : String → Nat → gM → Prop} {w : gM → Nat → List (Nat × Value) → List Value → Prop} {M : gM} {pc : Nat} {lv : List (Nat × Value)} {rest : List Value} (hw : gX y0 cc nL ret hh kf G Qv E w) (hy : y0.cls = RX7) {p1 : Int64} {p2 : Int64} {Q : Int64 → gM → Prop} (d : decode cc pc = .ok (.invokestatic 288, 3)) (hrest : Nat.ble ((rest.map Value.category).sum) 8 = true) (hk : 1 + 1 ≤ kf) (h : fX7_common p1 p2 M Q) (kk : ∀ r M1, Q r M1 → w M1 (pc + 3) lv (.long r :: rest)) : w M pc lv (.long p2 :: .long p1 :: rest) := by
  obtain ⟨cls9, nm9, ds9⟩ := y0
  subst hy
  exact g_callS hw [.long p1, .long p2] (nA := 2) rfl d q1416 q1417 q104 q1418 (by decide +kernel) rfl hrest rfl (by omega : kf - 1 + 1 ≤ kf) (mX7_common (kf := kf - 1) (by omega) G p1 p2 M Q h) (fun _ _ _ q => q.elim) (fun v M1 h => by obtain ⟨r, rfl, h⟩ := h; exact kk r M1 h)
def fX7_lowest (p1 : Int32) (M : gM) (Q : Int64 → gM → Prop) : Prop :=
  gk M 268 = 7 ∧ fX7_common (gL M 268 24) (gL M 268 25) M (fun r3 M2 => (if p1 = 0 then gk M2 268 = 7 ∧ (¬ r3 = 0) ∧ Q ((gL M2 268 24) / r3) M2 else gk M2 268 = 7 ∧ (¬ r3 = 0) ∧ Q ((gL M2 268 25) / r3) M2))
theorem mX7_lowest {kf : Nat} (hkf : 2 ≤ kf) (G : gG) (p1 : Int32) (M : gM) (Q : Int64 → gM → Prop) (h : fX7_lowest p1 M Q) : gMet yX7_lowest cX7_lowest 4 (Option.some FieldType.long) kf G M [.ref (gA G 268), .int p1] (gQl Q) gE0 := by
  refine g_intro (lv := [(0, .ref (gA G 268)), (1, .int p1)]) (by decide) rfl rfl (fun w hw => ?_)
  unfold fX7_lowest at h
  refine g_aload_n hw 0 dX7_lowest_0 rfl ?_
  obtain ⟨hk1, h⟩ := h
  refine gfX7_281 hw rfl dX7_lowest_1 hk1 ?_
  refine g_aload_n hw 0 dX7_lowest_4 rfl ?_
  refine gfX7_285 hw rfl dX7_lowest_5 hk1 ?_
  refine sX7_288 hw rfl dX7_lowest_8 rfl (gK2 hkf) h (fun r3 M2 h => ?_)
  refine g_lstore_n hw (lv2 := [(0, .ref (gA G 268)), (1, .int p1), (2, .long r3)]) [1, 2, 0] dX7_lowest_11 rfl rfl ?_
  refine g_iload_n hw 1 dX7_lowest_12 rfl ?_
  refine g_if_ne (tgt := 25) hw dX7_lowest_13 (by decide) (fun hb4 => ?_) (fun hb4 => ?_)
  · have h := gF h hb4
    refine g_aload_n hw 0 dX7_lowest_25 rfl ?_
    obtain ⟨hk5, h⟩ := h
    refine gfX7_285 hw rfl dX7_lowest_26 hk5 ?_
    refine g_lload_n hw 2 dX7_lowest_29 rfl ?_
    obtain ⟨hc6, h⟩ := h
    refine g_ldiv hw dX7_lowest_30 hc6 ?_
    exact g_lret hw dX7_lowest_31 ⟨_, rfl, h⟩
  · have h := gT h hb4
    refine g_aload_n hw 0 dX7_lowest_16 rfl ?_
    obtain ⟨hk7, h⟩ := h
    refine gfX7_281 hw rfl dX7_lowest_17 hk7 ?_
    refine g_lload_n hw 2 dX7_lowest_20 rfl ?_
    obtain ⟨hc8, h⟩ := h
    refine g_ldiv hw dX7_lowest_21 hc8 ?_
    refine g_goto (tgt := 31) hw dX7_lowest_22 (by decide) ?_
    exact g_lret hw dX7_lowest_31 ⟨_, rfl, h⟩
theorem sX7_321 {y0 : MethodName} {cc : ByteArray} {nL : Nat} {ret : Option FieldType} {hh : List (Nat × Nat × Nat × Nat)} {kf : Nat} {G : gG} {Qv : Option Value → gM → Prop} {E : String → Nat → gM → Prop} {w : gM → Nat → List (Nat × Value) → List Value → Prop} {M : gM} {pc : Nat} {lv : List (Nat × Value)} {rest : List Value} (hw : gX y0 cc nL ret hh kf G Qv E w) (hy : y0.cls = RX7) {p1 : Int32} {Q : Int64 → gM → Prop} (d : decode cc pc = .ok (.invokevirtual 321, 3)) (hrest : Nat.ble ((rest.map Value.category).sum) 8 = true) (hk : 2 + 1 ≤ kf) (hkd : gk M 268 = 7) (h : fX7_lowest p1 M Q) (kk : ∀ r M1, Q r M1 → w M1 (pc + 3) lv (.long r :: rest)) : w M pc lv (.int p1 :: .ref (gA G 268) :: rest) := by
  obtain ⟨cls9, nm9, ds9⟩ := y0
  subst hy
  exact g_callV (r := (RX7, TX7, 58)) (ci := 6) hw [.int p1] (nA := 1) rfl d q1412 q1414 qs53 q104 q1415 (by decide +kernel) rfl rfl hrest rfl (by omega : kf - 1 + 1 ≤ kf) hkd (mX7_lowest (kf := kf - 1) (by omega) G p1 M Q h) (fun _ _ _ q => q.elim) (fun v M1 h => by obtain ⟨r, rfl, h⟩ := h; exact kk r M1 h)
theorem sX7_315 {y0 : MethodName} {cc : ByteArray} {nL : Nat} {ret : Option FieldType} {hh : List (Nat × Nat × Nat × Nat)} {kf : Nat} {G : gG} {Qv : Option Value → gM → Prop} {E : String → Nat → gM → Prop} {w : gM → Nat → List (Nat × Value) → List Value → Prop} {M : gM} {pc : Nat} {lv : List (Nat × Value)} {rest : List Value} (hw : gX y0 cc nL ret hh kf G Qv E w) (hy : y0.cls = RX7) {p1 : Int32} {Q : Int32 → gM → Prop} (d : decode cc pc = .ok (.invokestatic 315, 3)) (hrest : Nat.ble ((rest.map Value.category).sum) 8 = true) (hk : 2 + 1 ≤ kf) (h : fX7_isWhat p1 M Q) (kk : ∀ r M1, Q r M1 → w M1 (pc + 3) lv (.int r :: rest)) : w M pc lv (.int p1 :: rest) := by
  obtain ⟨cls9, nm9, ds9⟩ := y0
  subst hy
  exact g_callS hw [.int p1] (nA := 1) rfl d q1393 q1394 q104 q1395 (by decide +kernel) rfl hrest rfl (by omega : kf - 1 + 1 ≤ kf) (mX7_isWhat (kf := kf - 1) (by omega) G p1 M Q h) (fun _ _ _ q => q.elim) (fun v M1 h => by obtain ⟨r, rfl, h⟩ := h; exact kk r M1 h)
theorem sX7_318 {y0 : MethodName} {cc : ByteArray} {nL : Nat} {ret : Option FieldType} {hh : List (Nat × Nat × Nat × Nat)} {kf : Nat} {G : gG} {Qv : Option Value → gM → Prop} {E : String → Nat → gM → Prop} {w : gM → Nat → List (Nat × Value) → List Value → Prop} {M : gM} {pc : Nat} {lv : List (Nat × Value)} {rest : List Value} (hw : gX y0 cc nL ret hh kf G Qv E w) (hy : y0.cls = RX7) {p1 : Int32} {p2 : Int32} {p3 : Int32} {Q : Int32 → gM → Prop} (d : decode cc pc = .ok (.invokevirtual 318, 3)) (hrest : Nat.ble ((rest.map Value.category).sum) 8 = true) (hk : 4 + 1 ≤ kf) (hkd : gk M 268 = 7) (h : fX7_findRiver p1 p2 p3 M Q) (kk : ∀ r M1, Q r M1 → w M1 (pc + 3) lv (.int r :: rest)) : w M pc lv (.int p3 :: .int p2 :: .int p1 :: .ref (gA G 268) :: rest) := by
  obtain ⟨cls9, nm9, ds9⟩ := y0
  subst hy
  exact g_callV (r := (RX7, TX7, 58)) (ci := 6) hw [.int p1, .int p2, .int p3] (nA := 3) rfl d q1396 q1398 qs49 q104 q1399 (by decide +kernel) rfl rfl hrest rfl (by omega : kf - 1 + 1 ≤ kf) hkd (mX7_findRiver (kf := kf - 1) (by omega) G p1 p2 p3 M Q h) (fun _ _ _ q => q.elim) (fun v M1 h => by obtain ⟨r, rfl, h⟩ := h; exact kk r M1 h)
def fX7_river_b45 (l4_5 : Int32) (s1_6 : Int32) (M : gM) (Q : Int64 → gM → Prop) : Prop :=
  gk M 268 = 7 ∧ (if (gI (gsI M 268 0 s1_6) 268 0) ≤ 0 then fX7_lowest l4_5 (gsI M 268 0 s1_6) (fun r10 M9 => Q r10 M9) else Q 0 (gsI M 268 0 s1_6))
theorem wX7_river_b45 {kf : Nat} {G : gG} {w : gM → Nat → List (Nat × Value) → List Value → Prop} {Q : Int64 → gM → Prop} (hw : gX yX7_river cX7_river 5 (Option.some FieldType.long) [] kf G (gQl Q) gE0 w) (hkf : 5 ≤ kf)  {l4_5 : Int32} {s1_6 : Int32} {M : gM}  (h : fX7_river_b45 l4_5 s1_6 M Q) : w M 45 [(0, .ref (gA G 268)), (4, .int l4_5)] [.int s1_6, .ref (gA G 268)] := by
  unfold fX7_river_b45 at h
  obtain ⟨hk7, h⟩ := h
  refine pfX7_1 hw rfl dX7_river_45 hk7 ?_
  refine g_aload_n hw 0 dX7_river_48 rfl ?_
  refine gfX7_1 hw rfl dX7_river_49 hk7 ?_
  refine g_if_le (tgt := 59) hw dX7_river_52 (by decide) (fun hb8 => ?_) (fun hb8 => ?_)
  · have h := gT h hb8
    refine g_aload_n hw 0 dX7_river_59 rfl ?_
    refine g_iload hw 1 dX7_river_60 rfl ?_
    refine sX7_321 hw rfl dX7_river_62 rfl (gK2 hkf) hk7 h (fun r10 M9 h => ?_)
    exact g_lret hw dX7_river_65 ⟨_, rfl, h⟩
  · have h := gF h hb8
    refine g_lconst (v := 0) hw dX7_river_55 (by decide) ?_
    refine g_goto (tgt := 65) hw dX7_river_56 (by decide) ?_
    exact g_lret hw dX7_river_65 ⟨_, rfl, h⟩
def fX7_river_b44 (l4_4 : Int32) (M : gM) (Q : Int64 → gM → Prop) : Prop :=
  fX7_river_b45 l4_4 1 M Q
theorem wX7_river_b44 {kf : Nat} {G : gG} {w : gM → Nat → List (Nat × Value) → List Value → Prop} {Q : Int64 → gM → Prop} (hw : gX yX7_river cX7_river 5 (Option.some FieldType.long) [] kf G (gQl Q) gE0 w) (hkf : 5 ≤ kf)  {l4_4 : Int32} {M : gM}  (h : fX7_river_b44 l4_4 M Q) : w M 44 [(0, .ref (gA G 268)), (4, .int l4_4)] [.ref (gA G 268)] := by
  unfold fX7_river_b44 at h
  refine g_iconst (v := 1) hw dX7_river_44 (by decide) ?_
  exact wX7_river_b45 hw hkf h
def fX7_river_b22 (l1_12 : Int32) (l2_13 : Int32) (l3_14 : Int32) (l4_15 : Int32) (M : gM) (Q : Int64 → gM → Prop) : Prop :=
  fX7_isWhat l4_15 M (fun r17 M16 => (if r17 = 0 then fX7_river_b44 l4_15 M16 Q else gk M16 268 = 7 ∧ fX7_findRiver l1_12 l2_13 l3_14 M16 (fun r21 M20 => (if r21 = 0 then fX7_river_b44 l4_15 M20 Q else fX7_river_b45 l4_15 0 M20 Q))))
theorem wX7_river_b22 {kf : Nat} {G : gG} {w : gM → Nat → List (Nat × Value) → List Value → Prop} {Q : Int64 → gM → Prop} (hw : gX yX7_river cX7_river 5 (Option.some FieldType.long) [] kf G (gQl Q) gE0 w) (hkf : 5 ≤ kf)  {l1_12 : Int32} {l2_13 : Int32} {l3_14 : Int32} {l4_15 : Int32} {M : gM}  (h : fX7_river_b22 l1_12 l2_13 l3_14 l4_15 M Q) : w M 22 [(0, .ref (gA G 268)), (1, .int l1_12), (2, .int l2_13), (3, .int l3_14), (4, .int l4_15)] [.ref (gA G 268)] := by
  unfold fX7_river_b22 at h
  refine g_iload hw 4 dX7_river_22 rfl ?_
  refine sX7_315 hw rfl dX7_river_24 rfl (gK2 hkf) h (fun r17 M16 h => ?_)
  refine g_if_eq (tgt := 44) hw dX7_river_27 (by decide) (fun hb18 => ?_) (fun hb18 => ?_)
  · have h := gT h hb18
    refine g_sub hw (lv2 := [(0, .ref (gA G 268)), (4, .int l4_15)]) [0, 4] rfl ?_
    exact wX7_river_b44 hw hkf h
  · have h := gF h hb18
    refine g_aload_n hw 0 dX7_river_30 rfl ?_
    refine g_iload_n hw 1 dX7_river_31 rfl ?_
    refine g_iload_n hw 2 dX7_river_32 rfl ?_
    refine g_iload_n hw 3 dX7_river_33 rfl ?_
    obtain ⟨hk19, h⟩ := h
    refine sX7_318 hw rfl dX7_river_34 rfl (gK2 hkf) hk19 h (fun r21 M20 h => ?_)
    refine g_if_eq (tgt := 44) hw dX7_river_37 (by decide) (fun hb22 => ?_) (fun hb22 => ?_)
    · have h := gT h hb22
      refine g_sub hw (lv2 := [(0, .ref (gA G 268)), (4, .int l4_15)]) [0, 4] rfl ?_
      exact wX7_river_b44 hw hkf h
    · have h := gF h hb22
      refine g_iconst (v := 0) hw dX7_river_40 (by decide) ?_
      refine g_goto (tgt := 45) hw dX7_river_41 (by decide) ?_
      refine g_sub hw (lv2 := [(0, .ref (gA G 268)), (4, .int l4_15)]) [0, 4] rfl ?_
      exact wX7_river_b45 hw hkf h
def fX7_river (p1 : Int32) (p2 : Int32) (p3 : Int32) (p4 : Int32) (M : gM) (Q : Int64 → gM → Prop) : Prop :=
  fX7_areMonths p1 p2 M (fun r2 M1 => (if r2 = 0 then fX7_river_b44 p4 M1 Q else (if p3 = (-1) then fX7_river_b22 p1 p2 p3 p4 M1 Q else gk M1 268 = 7 ∧ fX7_isKitchen p3 M1 (fun r25 M24 => (if r25 = 0 then fX7_river_b44 p4 M24 Q else fX7_river_b22 p1 p2 p3 p4 M24 Q)))))
theorem mX7_river {kf : Nat} (hkf : 5 ≤ kf) (G : gG) (p1 : Int32) (p2 : Int32) (p3 : Int32) (p4 : Int32) (M : gM) (Q : Int64 → gM → Prop) (h : fX7_river p1 p2 p3 p4 M Q) : gMet yX7_river cX7_river 5 (Option.some FieldType.long) kf G M [.ref (gA G 268), .int p1, .int p2, .int p3, .int p4] (gQl Q) gE0 := by
  refine g_intro (lv := [(0, .ref (gA G 268)), (1, .int p1), (2, .int p2), (3, .int p3), (4, .int p4)]) (by decide) rfl rfl (fun w hw => ?_)
  unfold fX7_river at h
  refine g_aload_n hw 0 dX7_river_0 rfl ?_
  refine g_iload_n hw 1 dX7_river_1 rfl ?_
  refine g_iload_n hw 2 dX7_river_2 rfl ?_
  refine sX7_270 hw rfl dX7_river_3 rfl (gK2 hkf) h (fun r2 M1 h => ?_)
  refine g_if_eq (tgt := 44) hw dX7_river_6 (by decide) (fun hb3 => ?_) (fun hb3 => ?_)
  · have h := gT h hb3
    refine g_sub hw (lv2 := [(0, .ref (gA G 268)), (4, .int p4)]) [0, 4] rfl ?_
    exact wX7_river_b44 hw hkf h
  · have h := gF h hb3
    refine g_iload_n hw 3 dX7_river_9 rfl ?_
    refine g_iconst (v := (-1)) hw dX7_river_10 (by decide) ?_
    refine g_icmp_eq (tgt := 22) hw dX7_river_11 (by decide) (fun hb11 => ?_) (fun hb11 => ?_)
    · have h := gT h hb11
      exact wX7_river_b22 hw hkf h
    · have h := gF h hb11
      refine g_aload_n hw 0 dX7_river_14 rfl ?_
      refine g_iload_n hw 3 dX7_river_15 rfl ?_
      obtain ⟨hk23, h⟩ := h
      refine sX7_257 hw rfl dX7_river_16 rfl (gK2 hkf) hk23 h (fun r25 M24 h => ?_)
      refine g_if_eq (tgt := 44) hw dX7_river_19 (by decide) (fun hb26 => ?_) (fun hb26 => ?_)
      · have h := gT h hb26
        refine g_sub hw (lv2 := [(0, .ref (gA G 268)), (4, .int p4)]) [0, 4] rfl ?_
        exact wX7_river_b44 hw hkf h
      · have h := gF h hb26
        exact wX7_river_b22 hw hkf h
def fX7_part_b130 (l4_24 : Int32) (M : gM) (Q : Int64 → gM → Prop) : Prop :=
  gk M 268 = 7 ∧ fX7_lowest l4_24 M (fun r27 M26 => Q r27 M26)
theorem wX7_part_b130 {kf : Nat} {G : gG} {w : gM → Nat → List (Nat × Value) → List Value → Prop} {Q : Int64 → gM → Prop} (hw : gX yX7_part cX7_part 9 (Option.some FieldType.long) [] kf G (gQl Q) gE0 w) (hkf : 5 ≤ kf)  {l4_24 : Int32} {M : gM}  (h : fX7_part_b130 l4_24 M Q) : w M 130 [(0, .ref (gA G 268)), (4, .int l4_24)] [] := by
  unfold fX7_part_b130 at h
  refine g_aload_n hw 0 dX7_part_130 rfl ?_
  refine g_iload hw 1 dX7_part_131 rfl ?_
  obtain ⟨hk25, h⟩ := h
  refine sX7_321 hw rfl dX7_part_133 rfl (gK2 hkf) hk25 h (fun r27 M26 h => ?_)
  exact g_lret hw dX7_part_136 ⟨_, rfl, h⟩
def fX7_part_b88 (l4_18 : Int32) (l5_19 : Int64) (l7_20 : Int64) (s1_21 : Int32) (M : gM) (Q : Int64 → gM → Prop) : Prop :=
  gk M 268 = 7 ∧ (if (gI (gsI M 268 0 s1_21) 268 0) ≤ 0 then fX7_part_b130 l4_18 (gsL (gsL (gsI M 268 0 s1_21) 268 24 ((l5_19 * (gL (gsI M 268 0 s1_21) 268 25)) - ((gL (gsI M 268 0 s1_21) 268 24) * l7_20))) 268 25 (l7_20 * (gL (gsL (gsI M 268 0 s1_21) 268 24 ((l5_19 * (gL (gsI M 268 0 s1_21) 268 25)) - ((gL (gsI M 268 0 s1_21) 268 24) * l7_20))) 268 25))) Q else Q 0 (gsI M 268 0 s1_21))
theorem wX7_part_b88 {kf : Nat} {G : gG} {w : gM → Nat → List (Nat × Value) → List Value → Prop} {Q : Int64 → gM → Prop} (hw : gX yX7_part cX7_part 9 (Option.some FieldType.long) [] kf G (gQl Q) gE0 w) (hkf : 5 ≤ kf)  {l4_18 : Int32} {l5_19 : Int64} {l7_20 : Int64} {s1_21 : Int32} {M : gM}  (h : fX7_part_b88 l4_18 l5_19 l7_20 s1_21 M Q) : w M 88 [(0, .ref (gA G 268)), (4, .int l4_18), (5, .long l5_19), (7, .long l7_20)] [.int s1_21, .ref (gA G 268)] := by
  unfold fX7_part_b88 at h
  obtain ⟨hk22, h⟩ := h
  refine pfX7_1 hw rfl dX7_part_88 hk22 ?_
  refine g_aload_n hw 0 dX7_part_91 rfl ?_
  refine gfX7_1 hw rfl dX7_part_92 hk22 ?_
  refine g_if_le (tgt := 100) hw dX7_part_95 (by decide) (fun hb23 => ?_) (fun hb23 => ?_)
  · have h := gT h hb23
    refine g_aload_n hw 0 dX7_part_100 rfl ?_
    refine g_lload hw 2 dX7_part_101 rfl ?_
    refine g_aload_n hw 0 dX7_part_103 rfl ?_
    refine gfX7_285 hw rfl dX7_part_104 hk22 ?_
    refine g_lmul hw dX7_part_107 ?_
    refine g_aload_n hw 0 dX7_part_108 rfl ?_
    refine gfX7_281 hw rfl dX7_part_109 hk22 ?_
    refine g_lload hw 3 dX7_part_112 rfl ?_
    refine g_lmul hw dX7_part_114 ?_
    refine g_lsub hw dX7_part_115 ?_
    refine pfX7_281 hw rfl dX7_part_116 hk22 ?_
    refine g_aload_n hw 0 dX7_part_119 rfl ?_
    refine g_lload hw 3 dX7_part_120 rfl ?_
    refine g_aload_n hw 0 dX7_part_122 rfl ?_
    refine gfX7_285 hw rfl dX7_part_123 hk22 ?_
    refine g_lmul hw dX7_part_126 ?_
    refine pfX7_285 hw rfl dX7_part_127 hk22 ?_
    refine g_sub hw (lv2 := [(0, .ref (gA G 268)), (4, .int l4_18)]) [0, 1] rfl ?_
    exact wX7_part_b130 hw hkf h
  · have h := gF h hb23
    refine g_lconst (v := 0) hw dX7_part_98 (by decide) ?_
    exact g_lret hw dX7_part_99 ⟨_, rfl, h⟩
def fX7_part_b83 (l4_15 : Int32) (l5_16 : Int64) (l7_17 : Int64) (M : gM) (Q : Int64 → gM → Prop) : Prop :=
  fX7_part_b88 l4_15 l5_16 l7_17 1 M Q
theorem wX7_part_b83 {kf : Nat} {G : gG} {w : gM → Nat → List (Nat × Value) → List Value → Prop} {Q : Int64 → gM → Prop} (hw : gX yX7_part cX7_part 9 (Option.some FieldType.long) [] kf G (gQl Q) gE0 w) (hkf : 5 ≤ kf)  {l4_15 : Int32} {l5_16 : Int64} {l7_17 : Int64} {M : gM}  (h : fX7_part_b83 l4_15 l5_16 l7_17 M Q) : w M 83 [(0, .ref (gA G 268)), (4, .int l4_15), (5, .long l5_16), (7, .long l7_17)] [.ref (gA G 268)] := by
  unfold fX7_part_b83 at h
  refine g_iconst (v := 1) hw dX7_part_83 (by decide) ?_
  refine g_goto (tgt := 88) hw dX7_part_84 (by decide) ?_
  exact wX7_part_b88 hw hkf h
def fX7_part_b50 (l1_8 : Int32) (l2_9 : Int32) (l3_10 : Int32) (l4_11 : Int32) (s1_12 : Int32) (M : gM) (Q : Int64 → gM → Prop) : Prop :=
  gk M 268 = 7 ∧ (if 0 < (gI (gsI M 268 0 s1_12) 268 0) then fX7_part_b83 l4_11 (gL (gsI M 268 0 s1_12) 268 24) (gL (gsI M 268 0 s1_12) 268 25) (gsI M 268 0 s1_12) Q else fX7_findRiver l1_8 l2_9 l3_10 (gsI M 268 0 s1_12) (fun r29 M28 => (if r29 = 0 then fX7_part_b83 l4_11 (gL (gsI M 268 0 s1_12) 268 24) (gL (gsI M 268 0 s1_12) 268 25) M28 Q else fX7_part_b88 l4_11 (gL (gsI M 268 0 s1_12) 268 24) (gL (gsI M 268 0 s1_12) 268 25) 0 M28 Q)))
theorem wX7_part_b50 {kf : Nat} {G : gG} {w : gM → Nat → List (Nat × Value) → List Value → Prop} {Q : Int64 → gM → Prop} (hw : gX yX7_part cX7_part 9 (Option.some FieldType.long) [] kf G (gQl Q) gE0 w) (hkf : 5 ≤ kf)  {l1_8 : Int32} {l2_9 : Int32} {l3_10 : Int32} {l4_11 : Int32} {s1_12 : Int32} {M : gM}  (h : fX7_part_b50 l1_8 l2_9 l3_10 l4_11 s1_12 M Q) : w M 50 [(0, .ref (gA G 268)), (1, .int l1_8), (2, .int l2_9), (3, .int l3_10), (4, .int l4_11)] [.int s1_12, .ref (gA G 268)] := by
  unfold fX7_part_b50 at h
  obtain ⟨hk13, h⟩ := h
  refine pfX7_1 hw rfl dX7_part_50 hk13 ?_
  refine g_aload_n hw 0 dX7_part_53 rfl ?_
  refine gfX7_281 hw rfl dX7_part_54 hk13 ?_
  refine g_lstore hw (lv2 := [(0, .ref (gA G 268)), (1, .int l1_8), (2, .int l2_9), (3, .int l3_10), (4, .int l4_11), (5, .long (gL (gsI M 268 0 s1_12) 268 24))]) [1, 2, 3, 4, 5, 0] dX7_part_57 rfl rfl ?_
  refine g_aload_n hw 0 dX7_part_59 rfl ?_
  refine gfX7_285 hw rfl dX7_part_60 hk13 ?_
  refine g_lstore hw (lv2 := [(0, .ref (gA G 268)), (1, .int l1_8), (2, .int l2_9), (3, .int l3_10), (4, .int l4_11), (5, .long (gL (gsI M 268 0 s1_12) 268 24)), (7, .long (gL (gsI M 268 0 s1_12) 268 25))]) [1, 2, 3, 4, 5, 6, 0] dX7_part_63 rfl rfl ?_
  refine g_aload_n hw 0 dX7_part_65 rfl ?_
  refine g_aload_n hw 0 dX7_part_66 rfl ?_
  refine gfX7_1 hw rfl dX7_part_67 hk13 ?_
  refine g_if_gt (tgt := 83) hw dX7_part_70 (by decide) (fun hb14 => ?_) (fun hb14 => ?_)
  · have h := gT h hb14
    refine g_sub hw (lv2 := [(0, .ref (gA G 268)), (4, .int l4_11), (5, .long (gL (gsI M 268 0 s1_12) 268 24)), (7, .long (gL (gsI M 268 0 s1_12) 268 25))]) [0, 4, 5, 6] rfl ?_
    exact wX7_part_b83 hw hkf h
  · have h := gF h hb14
    refine g_aload_n hw 0 dX7_part_73 rfl ?_
    refine g_iload_n hw 1 dX7_part_74 rfl ?_
    refine g_iload_n hw 2 dX7_part_75 rfl ?_
    refine g_iload_n hw 3 dX7_part_76 rfl ?_
    refine sX7_318 hw rfl dX7_part_77 rfl (gK2 hkf) hk13 h (fun r29 M28 h => ?_)
    refine g_if_ne (tgt := 87) hw dX7_part_80 (by decide) (fun hb30 => ?_) (fun hb30 => ?_)
    · have h := gF h hb30
      refine g_iconst (v := 0) hw dX7_part_87 (by decide) ?_
      refine g_sub hw (lv2 := [(0, .ref (gA G 268)), (4, .int l4_11), (5, .long (gL (gsI M 268 0 s1_12) 268 24)), (7, .long (gL (gsI M 268 0 s1_12) 268 25))]) [0, 4, 5, 6] rfl ?_
      exact wX7_part_b88 hw hkf h
    · have h := gT h hb30
      refine g_sub hw (lv2 := [(0, .ref (gA G 268)), (4, .int l4_11), (5, .long (gL (gsI M 268 0 s1_12) 268 24)), (7, .long (gL (gsI M 268 0 s1_12) 268 25))]) [0, 4, 5, 6] rfl ?_
      exact wX7_part_b83 hw hkf h
def fX7_part_b49 (l1_4 : Int32) (l2_5 : Int32) (l3_6 : Int32) (l4_7 : Int32) (M : gM) (Q : Int64 → gM → Prop) : Prop :=
  fX7_part_b50 l1_4 l2_5 l3_6 l4_7 1 M Q
theorem wX7_part_b49 {kf : Nat} {G : gG} {w : gM → Nat → List (Nat × Value) → List Value → Prop} {Q : Int64 → gM → Prop} (hw : gX yX7_part cX7_part 9 (Option.some FieldType.long) [] kf G (gQl Q) gE0 w) (hkf : 5 ≤ kf)  {l1_4 : Int32} {l2_5 : Int32} {l3_6 : Int32} {l4_7 : Int32} {M : gM}  (h : fX7_part_b49 l1_4 l2_5 l3_6 l4_7 M Q) : w M 49 [(0, .ref (gA G 268)), (1, .int l1_4), (2, .int l2_5), (3, .int l3_6), (4, .int l4_7)] [.ref (gA G 268)] := by
  unfold fX7_part_b49 at h
  refine g_iconst (v := 1) hw dX7_part_49 (by decide) ?_
  exact wX7_part_b50 hw hkf h
def fX7_part (p1 : Int32) (p2 : Int32) (p3 : Int32) (p4 : Int32) (M : gM) (Q : Int64 → gM → Prop) : Prop :=
  fX7_areMonths p1 p2 M (fun r2 M1 => (if r2 = 0 then fX7_part_b49 p1 p2 p3 p4 M1 Q else gk M1 268 = 7 ∧ fX7_isKitchen p3 M1 (fun r33 M32 => (if r33 = 0 then fX7_part_b49 p1 p2 p3 p4 M32 Q else gk M32 268 = 7 ∧ fX7_isCounted p3 p1 p2 M32 (fun r37 M36 => (if r37 = 0 then fX7_part_b49 p1 p2 p3 p4 M36 Q else fX7_isWhat p4 M36 (fun r40 M39 => (if r40 = 0 then fX7_part_b49 p1 p2 p3 p4 M39 Q else gk M39 268 = 7 ∧ fX7_findRiver p1 p2 (-1) M39 (fun r44 M43 => (if r44 = 0 then fX7_part_b49 p1 p2 p3 p4 M43 Q else fX7_part_b50 p1 p2 p3 p4 0 M43 Q))))))))))
theorem mX7_part {kf : Nat} (hkf : 5 ≤ kf) (G : gG) (p1 : Int32) (p2 : Int32) (p3 : Int32) (p4 : Int32) (M : gM) (Q : Int64 → gM → Prop) (h : fX7_part p1 p2 p3 p4 M Q) : gMet yX7_part cX7_part 9 (Option.some FieldType.long) kf G M [.ref (gA G 268), .int p1, .int p2, .int p3, .int p4] (gQl Q) gE0 := by
  refine g_intro (lv := [(0, .ref (gA G 268)), (1, .int p1), (2, .int p2), (3, .int p3), (4, .int p4)]) (by decide) rfl rfl (fun w hw => ?_)
  unfold fX7_part at h
  refine g_aload_n hw 0 dX7_part_0 rfl ?_
  refine g_iload_n hw 1 dX7_part_1 rfl ?_
  refine g_iload_n hw 2 dX7_part_2 rfl ?_
  refine sX7_270 hw rfl dX7_part_3 rfl (gK2 hkf) h (fun r2 M1 h => ?_)
  refine g_if_eq (tgt := 49) hw dX7_part_6 (by decide) (fun hb3 => ?_) (fun hb3 => ?_)
  · have h := gT h hb3
    exact wX7_part_b49 hw hkf h
  · have h := gF h hb3
    refine g_aload_n hw 0 dX7_part_9 rfl ?_
    refine g_iload_n hw 3 dX7_part_10 rfl ?_
    obtain ⟨hk31, h⟩ := h
    refine sX7_257 hw rfl dX7_part_11 rfl (gK2 hkf) hk31 h (fun r33 M32 h => ?_)
    refine g_if_eq (tgt := 49) hw dX7_part_14 (by decide) (fun hb34 => ?_) (fun hb34 => ?_)
    · have h := gT h hb34
      exact wX7_part_b49 hw hkf h
    · have h := gF h hb34
      refine g_aload_n hw 0 dX7_part_17 rfl ?_
      refine g_iload_n hw 3 dX7_part_18 rfl ?_
      refine g_iload_n hw 1 dX7_part_19 rfl ?_
      refine g_iload_n hw 2 dX7_part_20 rfl ?_
      obtain ⟨hk35, h⟩ := h
      refine sX7_274 hw rfl dX7_part_21 rfl (gK2 hkf) hk35 h (fun r37 M36 h => ?_)
      refine g_if_eq (tgt := 49) hw dX7_part_24 (by decide) (fun hb38 => ?_) (fun hb38 => ?_)
      · have h := gT h hb38
        exact wX7_part_b49 hw hkf h
      · have h := gF h hb38
        refine g_iload hw 4 dX7_part_27 rfl ?_
        refine sX7_315 hw rfl dX7_part_29 rfl (gK2 hkf) h (fun r40 M39 h => ?_)
        refine g_if_eq (tgt := 49) hw dX7_part_32 (by decide) (fun hb41 => ?_) (fun hb41 => ?_)
        · have h := gT h hb41
          exact wX7_part_b49 hw hkf h
        · have h := gF h hb41
          refine g_aload_n hw 0 dX7_part_35 rfl ?_
          refine g_iload_n hw 1 dX7_part_36 rfl ?_
          refine g_iload_n hw 2 dX7_part_37 rfl ?_
          refine g_iconst (v := (-1)) hw dX7_part_38 (by decide) ?_
          obtain ⟨hk42, h⟩ := h
          refine sX7_318 hw rfl dX7_part_39 rfl (gK2 hkf) hk42 h (fun r44 M43 h => ?_)
          refine g_if_eq (tgt := 49) hw dX7_part_42 (by decide) (fun hb45 => ?_) (fun hb45 => ?_)
          · have h := gT h hb45
            exact wX7_part_b49 hw hkf h
          · have h := gF h hb45
            refine g_iconst (v := 0) hw dX7_part_45 (by decide) ?_
            refine g_goto (tgt := 50) hw dX7_part_46 (by decide) ?_
            exact wX7_part_b50 hw hkf h
