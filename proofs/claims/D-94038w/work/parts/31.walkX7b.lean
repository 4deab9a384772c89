set_option maxRecDepth 100000
def fX7_mayChange_b88 (s0_26 : Int32) (s1_27 : Int32) (M : gM) (Q : Int32 → gM → Prop) : Prop :=
  Q (s0_26 - s1_27) M
theorem wX7_mayChange_b88 {kf : Nat} {G : gG} {w : gM → Nat → List (Nat × Value) → List Value → Prop} {Q : Int32 → gM → Prop} (hw : gX yX7_mayChange cX7_mayChange 6 (Option.some FieldType.int) [] kf G (gQi Q) gE0 w) (hkf : 3 ≤ kf)  {s0_26 : Int32} {s1_27 : Int32} {M : gM}  (h : fX7_mayChange_b88 s0_26 s1_27 M Q) : w M 88 [] [.int s1_27, .int s0_26] := by
  unfold fX7_mayChange_b88 at h
  refine g_isub hw dX7_mayChange_88 ?_
  refine g_istore hw (lv2 := [(5, .int (s0_26 - s1_27))]) [0] dX7_mayChange_89 rfl rfl ?_
  refine g_goto (tgt := 105) hw dX7_mayChange_91 (by decide) ?_
  refine g_iload hw 0 dX7_mayChange_105 rfl ?_
  exact g_iret hw dX7_mayChange_107 rfl ⟨_, rfl, h⟩
def fX7_mayChange_b54 (l1_9 : Int32) (l2_10 : Int32) (l4_11 : Int32) (l5_12 : Int32) (M : gM) (Q : Int32 → gM → Prop) : Prop :=
  gk M 268 = 7 ∧ gdr (gR M 268 18) (fun a14 => gk M a14 = 40 ∧ vp_in ((12 * l1_9) + l2_10) (gl M a14) ∧ (if (gI M a14 (((12 * l1_9) + l2_10).toNatClampNeg)) = 0 then (if l4_11 ≤ 0 then gdr (gR M 268 13) (fun a22 => gk M a22 = 40 ∧ vp_in l1_9 (gl M a22) ∧ fX7_mayChange_b88 l5_12 (10 * (gI M a22 l1_9.toNatClampNeg)) M Q) else fX7_mayChange_b88 l5_12 0 M Q) else fX7_handsOf l1_9 l2_10 M (fun r20 M19 => Q (l5_12 - r20) M19)))
theorem wX7_mayChange_b54 {kf : Nat} {G : gG} {w : gM → Nat → List (Nat × Value) → List Value → Prop} {Q : Int32 → gM → Prop} (hw : gX yX7_mayChange cX7_mayChange 6 (Option.some FieldType.int) [] kf G (gQi Q) gE0 w) (hkf : 3 ≤ kf)  {l1_9 : Int32} {l2_10 : Int32} {l4_11 : Int32} {l5_12 : Int32} {M : gM}  (h : fX7_mayChange_b54 l1_9 l2_10 l4_11 l5_12 M Q) : w M 54 [(0, .ref (gA G 268)), (1, .int l1_9), (2, .int l2_10), (4, .int l4_11), (5, .int l5_12)] [] := by
  unfold fX7_mayChange_b54 at h
  refine g_aload_n hw 0 dX7_mayChange_54 rfl ?_
  obtain ⟨hk13, h⟩ := h
  obtain ⟨a14, e15, h⟩ := h
  refine gfX7_115 (q := some a14) hw rfl dX7_mayChange_55 hk13 e15 ?_
  refine g_bipush (v := 12) hw dX7_mayChange_58 (by decide) ?_
  refine g_iload_n hw 1 dX7_mayChange_60 rfl ?_
  refine g_imul hw dX7_mayChange_61 ?_
  refine g_iload_n hw 2 dX7_mayChange_62 rfl ?_
  refine g_iadd hw dX7_mayChange_63 ?_
  obtain ⟨hk16, h⟩ := h
  obtain ⟨hi17, h⟩ := h
  refine g_iald (n := ((12 * l1_9) + l2_10).toNatClampNeg) hw dX7_mayChange_64 hk16 hi17 rfl ?_
  refine g_if_ne (tgt := 94) hw dX7_mayChange_65 (by decide) (fun hb18 => ?_) (fun hb18 => ?_)
  · have h := gF h hb18
    refine g_iload hw 4 dX7_mayChange_94 rfl ?_
    refine g_aload_n hw 0 dX7_mayChange_96 rfl ?_
    refine g_iload_n hw 1 dX7_mayChange_97 rfl ?_
    refine g_iload_n hw 2 dX7_mayChange_98 rfl ?_
    refine sX7_267 hw rfl dX7_mayChange_99 rfl (gK2 hkf) hk13 h (fun r20 M19 h => ?_)
    refine g_isub hw dX7_mayChange_102 ?_
    refine g_istore hw (lv2 := [(5, .int (l5_12 - r20))]) [0] dX7_mayChange_103 rfl rfl ?_
    refine g_iload hw 0 dX7_mayChange_105 rfl ?_
    exact g_iret hw dX7_mayChange_107 rfl ⟨_, rfl, h⟩
  · have h := gT h hb18
    refine g_iload hw 4 dX7_mayChange_68 rfl ?_
    refine g_iload hw 3 dX7_mayChange_70 rfl ?_
    refine g_if_le (tgt := 79) hw dX7_mayChange_72 (by decide) (fun hb21 => ?_) (fun hb21 => ?_)
    · have h := gT h hb21
      refine g_bipush (v := 10) hw dX7_mayChange_79 (by decide) ?_
      refine g_aload_n hw 0 dX7_mayChange_81 rfl ?_
      obtain ⟨a22, e23, h⟩ := h
      refine gfX7_103 (q := some a22) hw rfl dX7_mayChange_82 hk13 e23 ?_
      refine g_iload_n hw 1 dX7_mayChange_85 rfl ?_
      obtain ⟨hk24, h⟩ := h
      obtain ⟨hi25, h⟩ := h
      refine g_iald (n := l1_9.toNatClampNeg) hw dX7_mayChange_86 hk24 hi25 rfl ?_
      refine g_imul hw dX7_mayChange_87 ?_
      refine g_sub hw (lv2 := []) [] rfl ?_
      exact wX7_mayChange_b88 hw hkf h
    · have h := gF h hb21
      refine g_iconst (v := 0) hw dX7_mayChange_75 (by decide) ?_
      refine g_goto (tgt := 88) hw dX7_mayChange_76 (by decide) ?_
      refine g_sub hw (lv2 := []) [] rfl ?_
      exact wX7_mayChange_b88 hw hkf h
def fX7_mayChange_b37 (l1_29 : Int32) (l2_30 : Int32) (l4_31 : Int32) (s0_32 : Int32) (s1_33 : Int32) (M : gM) (Q : Int32 → gM → Prop) : Prop :=
  fX7_mayChange_b54 l1_29 l2_30 l4_31 (s0_32 + s1_33) M Q
theorem wX7_mayChange_b37 {kf : Nat} {G : gG} {w : gM → Nat → List (Nat × Value) → List Value → Prop} {Q : Int32 → gM → Prop} (hw : gX yX7_mayChange cX7_mayChange 6 (Option.some FieldType.int) [] kf G (gQi Q) gE0 w) (hkf : 3 ≤ kf)  {l1_29 : Int32} {l2_30 : Int32} {l4_31 : Int32} {s0_32 : Int32} {s1_33 : Int32} {M : gM}  (h : fX7_mayChange_b37 l1_29 l2_30 l4_31 s0_32 s1_33 M Q) : w M 37 [(0, .ref (gA G 268)), (1, .int l1_29), (2, .int l2_30), (4, .int l4_31)] [.int s1_33, .int s0_32] := by
  unfold fX7_mayChange_b37 at h
  refine g_iadd hw dX7_mayChange_37 ?_
  refine g_istore hw (lv2 := [(0, .ref (gA G 268)), (1, .int l1_29), (2, .int l2_30), (4, .int l4_31), (5, .int (s0_32 + s1_33))]) [1, 2, 3, 4, 0] dX7_mayChange_38 rfl rfl ?_
  refine g_goto (tgt := 54) hw dX7_mayChange_40 (by decide) ?_
  exact wX7_mayChange_b54 hw hkf h
def fX7_mayChange (p1 : Int32) (p2 : Int32) (p3 : Int32) (p4 : Int32) (M : gM) (Q : Int32 → gM → Prop) : Prop :=
  gk M 268 = 7 ∧ gdr (gR M 268 18) (fun a2 => gk M a2 = 40 ∧ vp_in ((12 * p1) + p3) (gl M a2) ∧ (if (gI M a2 (((12 * p1) + p3).toNatClampNeg)) = 0 then (if p4 ≤ 0 then fX7_mayChange_b37 p1 p2 p4 0 0 M Q else gdr (gR M 268 13) (fun a34 => gk M a34 = 40 ∧ vp_in p1 (gl M a34) ∧ fX7_mayChange_b37 p1 p2 p4 0 (10 * (gI M a34 p1.toNatClampNeg)) M Q)) else fX7_handsOf p1 p3 M (fun r8 M7 => fX7_mayChange_b54 p1 p2 p4 (0 + r8) M7 Q)))
theorem mX7_mayChange {kf : Nat} (hkf : 3 ≤ kf) (G : gG) (p1 : Int32) (p2 : Int32) (p3 : Int32) (p4 : Int32) (M : gM) (Q : Int32 → gM → Prop) (h : fX7_mayChange p1 p2 p3 p4 M Q) : gMet yX7_mayChange cX7_mayChange 6 (Option.some FieldType.int) kf G M [.ref (gA G 268), .int p1, .int p2, .int p3, .int p4] (gQi Q) gE0 := by
  refine g_intro (lv := [(0, .ref (gA G 268)), (1, .int p1), (2, .int p2), (3, .int p3), (4, .int p4)]) (by decide) rfl rfl (fun w hw => ?_)
  unfold fX7_mayChange at h
  refine g_iconst (v := 0) hw dX7_mayChange_0 (by decide) ?_
  refine g_istore hw (lv2 := [(0, .ref (gA G 268)), (1, .int p1), (2, .int p2), (3, .int p3), (4, .int p4), (5, .int 0)]) [1, 2, 3, 4, 5, 0] dX7_mayChange_1 rfl rfl ?_
  refine g_aload_n hw 0 dX7_mayChange_3 rfl ?_
  obtain ⟨hk1, h⟩ := h
  obtain ⟨a2, e3, h⟩ := h
  refine gfX7_115 (q := some a2) hw rfl dX7_mayChange_4 hk1 e3 ?_
  refine g_bipush (v := 12) hw dX7_mayChange_7 (by decide) ?_
  refine g_iload_n hw 1 dX7_mayChange_9 rfl ?_
  refine g_imul hw dX7_mayChange_10 ?_
  refine g_iload_n hw 3 dX7_mayChange_11 rfl ?_
  refine g_iadd hw dX7_mayChange_12 ?_
  obtain ⟨hk4, h⟩ := h
  obtain ⟨hi5, h⟩ := h
  refine g_iald (n := ((12 * p1) + p3).toNatClampNeg) hw dX7_mayChange_13 hk4 hi5 rfl ?_
  refine g_if_ne (tgt := 43) hw dX7_mayChange_14 (by decide) (fun hb6 => ?_) (fun hb6 => ?_)
  · have h := gF h hb6
    refine g_iload hw 5 dX7_mayChange_43 rfl ?_
    refine g_aload_n hw 0 dX7_mayChange_45 rfl ?_
    refine g_iload_n hw 1 dX7_mayChange_46 rfl ?_
    refine g_iload_n hw 3 dX7_mayChange_47 rfl ?_
    refine sX7_267 hw rfl dX7_mayChange_48 rfl (gK2 hkf) hk1 h (fun r8 M7 h => ?_)
    refine g_iadd hw dX7_mayChange_51 ?_
    refine g_istore hw (lv2 := [(0, .ref (gA G 268)), (1, .int p1), (2, .int p2), (4, .int p4), (5, .int (0 + r8))]) [1, 2, 3, 5, 0] dX7_mayChange_52 rfl rfl ?_
    exact wX7_mayChange_b54 hw hkf h
  · have h := gT h hb6
    refine g_iload hw 5 dX7_mayChange_17 rfl ?_
    refine g_iload hw 4 dX7_mayChange_19 rfl ?_
    refine g_if_le (tgt := 36) hw dX7_mayChange_21 (by decide) (fun hb28 => ?_) (fun hb28 => ?_)
    · have h := gT h hb28
      refine g_iconst (v := 0) hw dX7_mayChange_36 (by decide) ?_
      refine g_sub hw (lv2 := [(0, .ref (gA G 268)), (1, .int p1), (2, .int p2), (4, .int p4)]) [0, 1, 2, 4] rfl ?_
      exact wX7_mayChange_b37 hw hkf h
    · have h := gF h hb28
      refine g_bipush (v := 10) hw dX7_mayChange_24 (by decide) ?_
      refine g_aload_n hw 0 dX7_mayChange_26 rfl ?_
      obtain ⟨a34, e35, h⟩ := h
      refine gfX7_103 (q := some a34) hw rfl dX7_mayChange_27 hk1 e35 ?_
      refine g_iload_n hw 1 dX7_mayChange_30 rfl ?_
      obtain ⟨hk36, h⟩ := h
      obtain ⟨hi37, h⟩ := h
      refine g_iald (n := p1.toNatClampNeg) hw dX7_mayChange_31 hk36 hi37 rfl ?_
      refine g_imul hw dX7_mayChange_32 ?_
      refine g_goto (tgt := 37) hw dX7_mayChange_33 (by decide) ?_
      refine g_sub hw (lv2 := [(0, .ref (gA G 268)), (1, .int p1), (2, .int p2), (4, .int p4)]) [0, 1, 2, 4] rfl ?_
      exact wX7_mayChange_b37 hw hkf h
theorem sX7_325 {y0 : MethodName} {cc : ByteArray} {nL : Nat} {ret : Option FieldType} {hh : List (Nat × Nat × Nat × Nat)} {kf : Nat} {G : gG} {Qv : Option Value → gM → Prop} {E : String → Nat → gM → Prop} {w : gM → Nat → List (Nat × Value) → List Value → Prop} {M : gM} {pc : Nat} {lv : List (Nat × Value)} {rest : List Value} (hw : gX y0 cc nL ret hh kf G Qv E w) (hy : y0.cls = RX7) {p1 : Int32} {p2 : Int32} {p3 : Int32} {p4 : Int32} {Q : Int32 → gM → Prop} (d : decode cc pc = .ok (.invokevirtual 325, 3)) (hrest : Nat.ble ((rest.map Value.category).sum) 8 = true) (hk : 3 + 1 ≤ kf) (hkd : gk M 268 = 7) (h : fX7_mayChange p1 p2 p3 p4 M Q) (kk : ∀ r M1, Q r M1 → w M1 (pc + 3) lv (.int r :: rest)) : w M pc lv (.int p4 :: .int p3 :: .int p2 :: .int p1 :: .ref (gA G 268) :: rest) := by
  obtain ⟨cls9, nm9, ds9⟩ := y0
  subst hy
  exact g_callV (r := (RX7, TX7, 58)) (ci := 6) hw [.int p1, .int p2, .int p3, .int p4] (nA := 4) rfl d q1431 q1433 qs55 q104 q1434 (by decide +kernel) rfl rfl hrest rfl (by omega : kf - 1 + 1 ≤ kf) hkd (mX7_mayChange (kf := kf - 1) (by omega) G p1 p2 p3 p4 M Q h) (fun _ _ _ q => q.elim) (fun v M1 h => by obtain ⟨r, rfl, h⟩ := h; exact kk r M1 h)
def fX7_findBound_b68 (R7 : Int32 → gM → Prop) (l1_4 : Int32) (l2_5 : Int32) (l3_6 : Int32) (l4_15 : Int32) (M : gM) (Q : Int32 → gM → Prop) : Prop :=
  R7 (l4_15 + 1) M
theorem wX7_findBound_b68 {kf : Nat} {G : gG} {w : gM → Nat → List (Nat × Value) → List Value → Prop} {Q : Int32 → gM → Prop} (hw : gX yX7_findBound cX7_findBound 5 (Option.some FieldType.boolean) [] kf G (gQi Q) gE0 w) (hkf : 4 ≤ kf) {R7 : Int32 → gM → Prop} {l1_4 : Int32} {l2_5 : Int32} {l3_6 : Int32} {l4_15 : Int32} {M : gM} (hR7 : ∀ (v0 : Int32) (M : gM), R7 v0 M → w M 7 [(0, .ref (gA G 268)), (1, .int l1_4), (2, .int l2_5), (3, .int l3_6), (4, .int v0)] []) (h : fX7_findBound_b68 R7 l1_4 l2_5 l3_6 l4_15 M Q) : w M 68 [(0, .ref (gA G 268)), (1, .int l1_4), (2, .int l2_5), (3, .int l3_6), (4, .int l4_15)] [] := by
  unfold fX7_findBound_b68 at h
  refine g_iinc hw (lv2 := [(0, .ref (gA G 268)), (1, .int l1_4), (2, .int l2_5), (3, .int l3_6), (4, .int (l4_15 + 1))]) 4 [1, 2, 3, 4, 0] dX7_findBound_68 rfl (by decide) rfl rfl ?_
  refine g_goto (tgt := 7) hw dX7_findBound_71 (by decide) ?_
  exact hR7 (l4_15 + 1) M h
def fX7_findBound_b61 (R7 : Int32 → gM → Prop) (l1_4 : Int32) (l2_5 : Int32) (l3_6 : Int32) (l4_29 : Int32) (s1_30 : Int32) (s3_31 : Int32) (s4_32 : Int32) (s5_33 : Int32) (s6_34 : Int32) (M : gM) (Q : Int32 → gM → Prop) : Prop :=
  gk M 268 = 7 ∧ fX7_mayChange s3_31 s4_32 s5_33 s6_34 M (fun r37 M36 => gk M36 268 = 7 ∧ fX7_adds s1_30 r37.toInt64 M36 (fun M39 => fX7_findBound_b68 R7 l1_4 l2_5 l3_6 l4_29 M39 Q))
theorem wX7_findBound_b61 {kf : Nat} {G : gG} {w : gM → Nat → List (Nat × Value) → List Value → Prop} {Q : Int32 → gM → Prop} (hw : gX yX7_findBound cX7_findBound 5 (Option.some FieldType.boolean) [] kf G (gQi Q) gE0 w) (hkf : 4 ≤ kf) {R7 : Int32 → gM → Prop} {l1_4 : Int32} {l2_5 : Int32} {l3_6 : Int32} {l4_29 : Int32} {s1_30 : Int32} {s3_31 : Int32} {s4_32 : Int32} {s5_33 : Int32} {s6_34 : Int32} {M : gM} (hR7 : ∀ (v0 : Int32) (M : gM), R7 v0 M → w M 7 [(0, .ref (gA G 268)), (1, .int l1_4), (2, .int l2_5), (3, .int l3_6), (4, .int v0)] []) (h : fX7_findBound_b61 R7 l1_4 l2_5 l3_6 l4_29 s1_30 s3_31 s4_32 s5_33 s6_34 M Q) : w M 61 [(0, .ref (gA G 268)), (1, .int l1_4), (2, .int l2_5), (3, .int l3_6), (4, .int l4_29)] [.int s6_34, .int s5_33, .int s4_32, .int s3_31, .ref (gA G 268), .int s1_30, .ref (gA G 268)] := by
  unfold fX7_findBound_b61 at h
  obtain ⟨hk35, h⟩ := h
  refine sX7_325 hw rfl dX7_findBound_61 rfl (gK2 hkf) hk35 h (fun r37 M36 h => ?_)
  refine g_i2l hw dX7_findBound_64 ?_
  obtain ⟨hk38, h⟩ := h
  refine sX7_307 hw rfl dX7_findBound_65 rfl (gK2 hkf) hk38 h (fun M39 h => ?_)
  exact wX7_findBound_b68 hw hkf hR7 h
def fX7_findBound_b40 (R7 : Int32 → gM → Prop) (l1_4 : Int32) (l2_5 : Int32) (l3_6 : Int32) (l4_21 : Int32) (s1_22 : Int32) (M : gM) (Q : Int32 → gM → Prop) : Prop :=
  gk M 268 = 7 ∧ gdr (gR M 268 11) (fun a24 => gk M a24 = 40 ∧ vp_in l4_21 (gl M a24) ∧ (if (gI M a24 l4_21.toNatClampNeg) = 0 then fX7_findBound_b61 R7 l1_4 l2_5 l3_6 l4_21 s1_22 l4_21 l1_4 l2_5 l3_6 M Q else fX7_findBound_b61 R7 l1_4 l2_5 l3_6 l4_21 s1_22 l4_21 l1_4 l2_5 (-l3_6) M Q))
theorem wX7_findBound_b40 {kf : Nat} {G : gG} {w : gM → Nat → List (Nat × Value) → List Value → Prop} {Q : Int32 → gM → Prop} (hw : gX yX7_findBound cX7_findBound 5 (Option.some FieldType.boolean) [] kf G (gQi Q) gE0 w) (hkf : 4 ≤ kf) {R7 : Int32 → gM → Prop} {l1_4 : Int32} {l2_5 : Int32} {l3_6 : Int32} {l4_21 : Int32} {s1_22 : Int32} {M : gM} (hR7 : ∀ (v0 : Int32) (M : gM), R7 v0 M → w M 7 [(0, .ref (gA G 268)), (1, .int l1_4), (2, .int l2_5), (3, .int l3_6), (4, .int v0)] []) (h : fX7_findBound_b40 R7 l1_4 l2_5 l3_6 l4_21 s1_22 M Q) : w M 40 [(0, .ref (gA G 268)), (1, .int l1_4), (2, .int l2_5), (3, .int l3_6), (4, .int l4_21)] [.int s1_22, .ref (gA G 268)] := by
  unfold fX7_findBound_b40 at h
  refine g_aload_n hw 0 dX7_findBound_40 rfl ?_
  refine g_iload hw 4 dX7_findBound_41 rfl ?_
  refine g_iload_n hw 1 dX7_findBound_43 rfl ?_
  refine g_iload_n hw 2 dX7_findBound_44 rfl ?_
  refine g_aload_n hw 0 dX7_findBound_45 rfl ?_
  obtain ⟨hk23, h⟩ := h
  obtain ⟨a24, e25, h⟩ := h
  refine gfX7_97 (q := some a24) hw rfl dX7_findBound_46 hk23 e25 ?_
  refine g_iload hw 4 dX7_findBound_49 rfl ?_
  obtain ⟨hk26, h⟩ := h
  obtain ⟨hi27, h⟩ := h
  refine g_iald (n := l4_21.toNatClampNeg) hw dX7_findBound_51 hk26 hi27 rfl ?_
  refine g_if_ne (tgt := 59) hw dX7_findBound_52 (by decide) (fun hb28 => ?_) (fun hb28 => ?_)
  · have h := gF h hb28
    refine g_iload_n hw 3 dX7_findBound_59 rfl ?_
    refine g_ineg hw dX7_findBound_60 ?_
    exact wX7_findBound_b61 hw hkf hR7 h
  · have h := gT h hb28
    refine g_iload_n hw 3 dX7_findBound_55 rfl ?_
    refine g_goto (tgt := 61) hw dX7_findBound_56 (by decide) ?_
    exact wX7_findBound_b61 hw hkf hR7 h
def fX7_findBound_L7s (R7 : Int32 → gM → Prop) (K74_7 : gM → Prop) (l1_4 : Int32) (l2_5 : Int32) (l3_6 : Int32) (l4_7 : Int32) (M : gM) (Q : Int32 → gM → Prop) : Prop :=
  (if 24 ≤ l4_7 then K74_7 M else gk M 268 = 7 ∧ gdr (gR M 268 10) (fun a10 => gk M a10 = 43 ∧ vp_in l4_7 (gl M a10) ∧ (if (gI M a10 l4_7.toNatClampNeg) = 0 then fX7_findBound_b68 R7 l1_4 l2_5 l3_6 l4_7 M Q else gdr (gR M 268 11) (fun a16 => gk M a16 = 40 ∧ vp_in l4_7 (gl M a16) ∧ (if (gI M a16 l4_7.toNatClampNeg) = 0 then fX7_findBound_b40 R7 l1_4 l2_5 l3_6 l4_7 1 M Q else fX7_findBound_b40 R7 l1_4 l2_5 l3_6 l4_7 0 M Q)))))
def fX7_findBound_L7 (K74_7 : gM → Prop) (l1_4 : Int32) (l2_5 : Int32) (l3_6 : Int32) (Q : Int32 → gM → Prop) : Nat → Int32 → gM → Prop
  | 0 => fun _ _ => False
  | n + 1 => fun l4_7 M => fX7_findBound_L7s (fX7_findBound_L7 K74_7 l1_4 l2_5 l3_6 Q n) K74_7 l1_4 l2_5 l3_6 l4_7 M Q
theorem wX7_findBound_L7s {kf : Nat} {G : gG} {w : gM → Nat → List (Nat × Value) → List Value → Prop} {Q : Int32 → gM → Prop} (hw : gX yX7_findBound cX7_findBound 5 (Option.some FieldType.boolean) [] kf G (gQi Q) gE0 w) (hkf : 4 ≤ kf) {R7 : Int32 → gM → Prop} {K74_7 : gM → Prop} {l1_4 : Int32} {l2_5 : Int32} {l3_6 : Int32} {l4_7 : Int32} {M : gM} (hR7 : ∀ (v0 : Int32) (M : gM), R7 v0 M → w M 7 [(0, .ref (gA G 268)), (1, .int l1_4), (2, .int l2_5), (3, .int l3_6), (4, .int v0)] []) (hK74_7 : ∀  (M : gM), K74_7 M → w M 74 [(0, .ref (gA G 268))] []) (h : fX7_findBound_L7s R7 K74_7 l1_4 l2_5 l3_6 l4_7 M Q) : w M 7 [(0, .ref (gA G 268)), (1, .int l1_4), (2, .int l2_5), (3, .int l3_6), (4, .int l4_7)] [] := by
  unfold fX7_findBound_L7s at h
  refine g_iload hw 4 dX7_findBound_7 rfl ?_
  refine g_bipush (v := 24) hw dX7_findBound_9 (by decide) ?_
  refine g_icmp_ge (tgt := 74) hw dX7_findBound_11 (by decide) (fun hb8 => ?_) (fun hb8 => ?_)
  · have h := gT h hb8
    refine g_sub hw (lv2 := [(0, .ref (gA G 268))]) [0] rfl ?_
    exact hK74_7 M h
  · have h := gF h hb8
    refine g_aload_n hw 0 dX7_findBound_14 rfl ?_
    obtain ⟨hk9, h⟩ := h
    obtain ⟨a10, e11, h⟩ := h
    refine gfX7_93 (q := some a10) hw rfl dX7_findBound_15 hk9 e11 ?_
    refine g_iload hw 4 dX7_findBound_18 rfl ?_
    obtain ⟨hk12, h⟩ := h
    obtain ⟨hi13, h⟩ := h
    refine g_zald (n := l4_7.toNatClampNeg) hw dX7_findBound_20 hk12 hi13 rfl ?_
    refine g_if_eq (tgt := 68) hw dX7_findBound_21 (by decide) (fun hb14 => ?_) (fun hb14 => ?_)
    · have h := gT h hb14
      exact wX7_findBound_b68 hw hkf hR7 h
    · have h := gF h hb14
      refine g_aload_n hw 0 dX7_findBound_24 rfl ?_
      refine g_aload_n hw 0 dX7_findBound_25 rfl ?_
      obtain ⟨a16, e17, h⟩ := h
      refine gfX7_97 (q := some a16) hw rfl dX7_findBound_26 hk9 e17 ?_
      refine g_iload hw 4 dX7_findBound_29 rfl ?_
      obtain ⟨hk18, h⟩ := h
      obtain ⟨hi19, h⟩ := h
      refine g_iald (n := l4_7.toNatClampNeg) hw dX7_findBound_31 hk18 hi19 rfl ?_
      refine g_if_ne (tgt := 39) hw dX7_findBound_32 (by decide) (fun hb20 => ?_) (fun hb20 => ?_)
      · have h := gF h hb20
        refine g_iconst (v := 0) hw dX7_findBound_39 (by decide) ?_
        exact wX7_findBound_b40 hw hkf hR7 h
      · have h := gT h hb20
        refine g_iconst (v := 1) hw dX7_findBound_35 (by decide) ?_
        refine g_goto (tgt := 40) hw dX7_findBound_36 (by decide) ?_
        exact wX7_findBound_b40 hw hkf hR7 h
theorem wX7_findBound_L7 {kf : Nat} {G : gG} {w : gM → Nat → List (Nat × Value) → List Value → Prop} {Q : Int32 → gM → Prop} (hw : gX yX7_findBound cX7_findBound 5 (Option.some FieldType.boolean) [] kf G (gQi Q) gE0 w) (hkf : 4 ≤ kf) {K74_7 : gM → Prop} {l1_4 : Int32} {l2_5 : Int32} {l3_6 : Int32} (hK74_7 : ∀  (M : gM), K74_7 M → w M 74 [(0, .ref (gA G 268))] []) : ∀ (n : Nat) (l4_7 : Int32) (M : gM), fX7_findBound_L7 K74_7 l1_4 l2_5 l3_6 Q n l4_7 M → w M 7 [(0, .ref (gA G 268)), (1, .int l1_4), (2, .int l2_5), (3, .int l3_6), (4, .int l4_7)] [] := by
  intro n
  induction n with
  | zero => intro l4_7 M h; exact h.elim
  | succ n ih => intro l4_7 M h; exact wX7_findBound_L7s hw hkf ih hK74_7 h
def fX7_findBound (p1 : Int32) (p2 : Int32) (p3 : Int32) (M : gM) (Q : Int32 → gM → Prop) : Prop :=
  gk M 268 = 7 ∧ fX7_beginsSums M (fun M2 => ∃ n, fX7_findBound_L7 (fun M41 => gk M41 268 = 7 ∧ fX7_differs M41 (fun r44 M43 => (r44 = 0 ∨ r44 = 1) ∧ Q r44 M43)) p1 p2 p3 Q n 0 M2)
theorem mX7_findBound {kf : Nat} (hkf : 4 ≤ kf) (G : gG) (p1 : Int32) (p2 : Int32) (p3 : Int32) (M : gM) (Q : Int32 → gM → Prop) (h : fX7_findBound p1 p2 p3 M Q) : gMet yX7_findBound cX7_findBound 5 (Option.some FieldType.boolean) kf G M [.ref (gA G 268), .int p1, .int p2, .int p3] (gQi Q) gE0 := by
  refine g_intro (lv := [(0, .ref (gA G 268)), (1, .int p1), (2, .int p2), (3, .int p3)]) (by decide) rfl rfl (fun w hw => ?_)
  unfold fX7_findBound at h
  refine g_aload_n hw 0 dX7_findBound_0 rfl ?_
  obtain ⟨hk1, h⟩ := h
  refine sX7_304 hw rfl dX7_findBound_1 rfl (gK2 hkf) hk1 h (fun M2 h => ?_)
  refine g_iconst (v := 0) hw dX7_findBound_4 (by decide) ?_
  refine g_istore hw (lv2 := [(0, .ref (gA G 268)), (1, .int p1), (2, .int p2), (3, .int p3), (4, .int 0)]) [1, 2, 3, 4, 0] dX7_findBound_5 rfl rfl ?_
  obtain ⟨n9, h⟩ := h
  refine wX7_findBound_L7 hw hkf (fun M41 h => ?_) n9 0 M2 h
  refine g_aload_n hw 0 dX7_findBound_74 rfl ?_
  obtain ⟨hk42, h⟩ := h
  refine sX7_311 hw rfl dX7_findBound_75 rfl (gK2 hkf) hk42 h (fun r44 M43 h => ?_)
  obtain ⟨hc45, h⟩ := h
  exact g_iret hw dX7_findBound_78 (gBool hc45) ⟨_, rfl, h⟩
theorem sX7_329 {y0 : MethodName} {cc : ByteArray} {nL : Nat} {ret : Option FieldType} {hh : List (Nat × Nat × Nat × Nat)} {kf : Nat} {G : gG} {Qv : Option Value → gM → Prop} {E : String → Nat → gM → Prop} {w : gM → Nat → List (Nat × Value) → List Value → Prop} {M : gM} {pc : Nat} {lv : List (Nat × Value)} {rest : List Value} (hw : gX y0 cc nL ret hh kf G Qv E w) (hy : y0.cls = RX7) {p1 : Int32} {p2 : Int32} {p3 : Int32} {Q : Int32 → gM → Prop} (d : decode cc pc = .ok (.invokevirtual 329, 3)) (hrest : Nat.ble ((rest.map Value.category).sum) 8 = true) (hk : 4 + 1 ≤ kf) (hkd : gk M 268 = 7) (h : fX7_findBound p1 p2 p3 M Q) (kk : ∀ r M1, Q r M1 → w M1 (pc + 3) lv (.int r :: rest)) : w M pc lv (.int p3 :: .int p2 :: .int p1 :: .ref (gA G 268) :: rest) := by
  obtain ⟨cls9, nm9, ds9⟩ := y0
  subst hy
  exact g_callV (r := (RX7, TX7, 58)) (ci := 6) hw [.int p1, .int p2, .int p3] (nA := 3) rfl d q1427 q1429 qs54 q104 q1430 (by decide +kernel) rfl rfl hrest rfl (by omega : kf - 1 + 1 ≤ kf) hkd (mX7_findBound (kf := kf - 1) (by omega) G p1 p2 p3 M Q h) (fun _ _ _ q => q.elim) (fun v M1 h => by obtain ⟨r, rfl, h⟩ := h; exact kk r M1 h)
def fX7_bounds_b42 (l3_5 : Int32) (s1_6 : Int32) (M : gM) (Q : Int64 → gM → Prop) : Prop :=
  gk M 268 = 7 ∧ (if (gI (gsI M 268 0 s1_6) 268 0) ≤ 0 then fX7_lowest (l3_5 - l3_5 / 2 * 2) (gsI M 268 0 s1_6) (fun r10 M9 => Q r10 M9) else Q 0 (gsI M 268 0 s1_6))
theorem wX7_bounds_b42 {kf : Nat} {G : gG} {w : gM → Nat → List (Nat × Value) → List Value → Prop} {Q : Int64 → gM → Prop} (hw : gX yX7_bounds cX7_bounds 4 (Option.some FieldType.long) [] kf G (gQl Q) gE0 w) (hkf : 5 ≤ kf)  {l3_5 : Int32} {s1_6 : Int32} {M : gM}  (h : fX7_bounds_b42 l3_5 s1_6 M Q) : w M 42 [(0, .ref (gA G 268)), (3, .int l3_5)] [.int s1_6, .ref (gA G 268)] := by
  unfold fX7_bounds_b42 at h
  obtain ⟨hk7, h⟩ := h
  refine pfX7_1 hw rfl dX7_bounds_42 hk7 ?_
  refine g_aload_n hw 0 dX7_bounds_45 rfl ?_
  refine gfX7_1 hw rfl dX7_bounds_46 hk7 ?_
  refine g_if_le (tgt := 56) hw dX7_bounds_49 (by decide) (fun hb8 => ?_) (fun hb8 => ?_)
  · have h := gT h hb8
    refine g_aload_n hw 0 dX7_bounds_56 rfl ?_
    refine g_iload_n hw 1 dX7_bounds_57 rfl ?_
    refine g_iconst (v := 2) hw dX7_bounds_58 (by decide) ?_
    refine g_irem hw dX7_bounds_59 (by decide) ?_
    refine sX7_321 hw rfl dX7_bounds_60 rfl (gK2 hkf) hk7 h (fun r10 M9 h => ?_)
    exact g_lret hw dX7_bounds_63 ⟨_, rfl, h⟩
  · have h := gF h hb8
    refine g_lconst (v := 0) hw dX7_bounds_52 (by decide) ?_
    refine g_goto (tgt := 63) hw dX7_bounds_53 (by decide) ?_
    exact g_lret hw dX7_bounds_63 ⟨_, rfl, h⟩
def fX7_bounds_b41 (l3_4 : Int32) (M : gM) (Q : Int64 → gM → Prop) : Prop :=
  fX7_bounds_b42 l3_4 1 M Q
theorem wX7_bounds_b41 {kf : Nat} {G : gG} {w : gM → Nat → List (Nat × Value) → List Value → Prop} {Q : Int64 → gM → Prop} (hw : gX yX7_bounds cX7_bounds 4 (Option.some FieldType.long) [] kf G (gQl Q) gE0 w) (hkf : 5 ≤ kf)  {l3_4 : Int32} {M : gM}  (h : fX7_bounds_b41 l3_4 M Q) : w M 41 [(0, .ref (gA G 268)), (3, .int l3_4)] [.ref (gA G 268)] := by
  unfold fX7_bounds_b41 at h
  refine g_iconst (v := 1) hw dX7_bounds_41 (by decide) ?_
  exact wX7_bounds_b42 hw hkf h
def fX7_bounds_b31 (l3_15 : Int32) (s2_16 : Int32) (s3_17 : Int32) (s4_18 : Int32) (M : gM) (Q : Int64 → gM → Prop) : Prop :=
  gk M 268 = 7 ∧ fX7_findBound s2_16 s3_17 s4_18 M (fun r21 M20 => (if r21 = 0 then fX7_bounds_b41 l3_15 M20 Q else fX7_bounds_b42 l3_15 0 M20 Q))
theorem wX7_bounds_b31 {kf : Nat} {G : gG} {w : gM → Nat → List (Nat × Value) → List Value → Prop} {Q : Int64 → gM → Prop} (hw : gX yX7_bounds cX7_bounds 4 (Option.some FieldType.long) [] kf G (gQl Q) gE0 w) (hkf : 5 ≤ kf)  {l3_15 : Int32} {s2_16 : Int32} {s3_17 : Int32} {s4_18 : Int32} {M : gM}  (h : fX7_bounds_b31 l3_15 s2_16 s3_17 s4_18 M Q) : w M 31 [(0, .ref (gA G 268)), (3, .int l3_15)] [.int s4_18, .int s3_17, .int s2_16, .ref (gA G 268), .ref (gA G 268)] := by
  unfold fX7_bounds_b31 at h
  obtain ⟨hk19, h⟩ := h
  refine sX7_329 hw rfl dX7_bounds_31 rfl (gK2 hkf) hk19 h (fun r21 M20 h => ?_)
  refine g_if_eq (tgt := 41) hw dX7_bounds_34 (by decide) (fun hb22 => ?_) (fun hb22 => ?_)
  · have h := gT h hb22
    exact wX7_bounds_b41 hw hkf h
  · have h := gF h hb22
    refine g_iconst (v := 0) hw dX7_bounds_37 (by decide) ?_
    refine g_goto (tgt := 42) hw dX7_bounds_38 (by decide) ?_
    exact wX7_bounds_b42 hw hkf h
def fX7_bounds (p1 : Int32) (p2 : Int32) (p3 : Int32) (M : gM) (Q : Int64 → gM → Prop) : Prop :=
  fX7_areMonths p1 p2 M (fun r2 M1 => (if r2 = 0 then fX7_bounds_b41 p3 M1 Q else fX7_within p3 0 3 M1 (fun r12 M11 => (if r12 = 0 then fX7_bounds_b41 p3 M11 Q else (if 2 ≤ p3 then fX7_bounds_b31 p3 p1 p2 1 M11 Q else fX7_bounds_b31 p3 p1 p2 (-1) M11 Q)))))
theorem mX7_bounds {kf : Nat} (hkf : 5 ≤ kf) (G : gG) (p1 : Int32) (p2 : Int32) (p3 : Int32) (M : gM) (Q : Int64 → gM → Prop) (h : fX7_bounds p1 p2 p3 M Q) : gMet yX7_bounds cX7_bounds 4 (Option.some FieldType.long) kf G M [.ref (gA G 268), .int p1, .int p2, .int p3] (gQl Q) gE0 := by
  refine g_intro (lv := [(0, .ref (gA G 268)), (1, .int p1), (2, .int p2), (3, .int p3)]) (by decide) rfl rfl (fun w hw => ?_)
  unfold fX7_bounds at h
  refine g_aload_n hw 0 dX7_bounds_0 rfl ?_
  refine g_iload_n hw 1 dX7_bounds_1 rfl ?_
  refine g_iload_n hw 2 dX7_bounds_2 rfl ?_
  refine sX7_270 hw rfl dX7_bounds_3 rfl (gK2 hkf) h (fun r2 M1 h => ?_)
  refine g_if_eq (tgt := 41) hw dX7_bounds_6 (by decide) (fun hb3 => ?_) (fun hb3 => ?_)
  · have h := gT h hb3
    refine g_sub hw (lv2 := [(0, .ref (gA G 268)), (3, .int p3)]) [0, 3] rfl ?_
    exact wX7_bounds_b41 hw hkf h
  · have h := gF h hb3
    refine g_iload_n hw 3 dX7_bounds_9 rfl ?_
    refine g_iconst (v := 0) hw dX7_bounds_10 (by decide) ?_
    refine g_iconst (v := 3) hw dX7_bounds_11 (by decide) ?_
    refine sX7_253 hw rfl dX7_bounds_12 rfl (gK2 hkf) h (fun r12 M11 h => ?_)
    refine g_if_eq (tgt := 41) hw dX7_bounds_15 (by decide) (fun hb13 => ?_) (fun hb13 => ?_)
    · have h := gT h hb13
      refine g_sub hw (lv2 := [(0, .ref (gA G 268)), (3, .int p3)]) [0, 3] rfl ?_
      exact wX7_bounds_b41 hw hkf h
    · have h := gF h hb13
      refine g_aload_n hw 0 dX7_bounds_18 rfl ?_
      refine g_iload_n hw 1 dX7_bounds_19 rfl ?_
      refine g_iload_n hw 2 dX7_bounds_20 rfl ?_
      refine g_iload_n hw 3 dX7_bounds_21 rfl ?_
      refine g_iconst (v := 2) hw dX7_bounds_22 (by decide) ?_
      refine g_icmp_ge (tgt := 30) hw dX7_bounds_23 (by decide) (fun hb14 => ?_) (fun hb14 => ?_)
      · have h := gT h hb14
        refine g_iconst (v := 1) hw dX7_bounds_30 (by decide) ?_
        refine g_sub hw (lv2 := [(0, .ref (gA G 268)), (3, .int p3)]) [0, 3] rfl ?_
        exact wX7_bounds_b31 hw hkf h
      · have h := gF h hb14
        refine g_iconst (v := (-1)) hw dX7_bounds_26 (by decide) ?_
        refine g_goto (tgt := 31) hw dX7_bounds_27 (by decide) ?_
        refine g_sub hw (lv2 := [(0, .ref (gA G 268)), (3, .int p3)]) [0, 3] rfl ?_
        exact wX7_bounds_b31 hw hkf h
def fX7_swings_b65  (M : gM) (Q : Int32 → gM → Prop) : Prop :=
  Q 0 M
theorem wX7_swings_b65 {kf : Nat} {G : gG} {w : gM → Nat → List (Nat × Value) → List Value → Prop} {Q : Int32 → gM → Prop} (hw : gX yX7_swings cX7_swings 4 (Option.some FieldType.int) [] kf G (gQi Q) gE0 w) (hkf : 5 ≤ kf)   {M : gM}  (h : fX7_swings_b65 M Q) : w M 65 [] [] := by
  unfold fX7_swings_b65 at h
  refine g_iconst (v := 0) hw dX7_swings_65 (by decide) ?_
  exact g_iret hw dX7_swings_66 rfl ⟨_, rfl, h⟩
def fX7_swings_b39 (l1_11 : Int32) (l2_12 : Int32) (s0_13 : Int32) (M : gM) (Q : Int32 → gM → Prop) : Prop :=
  gk M 268 = 7 ∧ fX7_findBound l1_11 l2_12 1 M (fun r16 M15 => (if s0_13 = 0 then fX7_swings_b65 M15 Q else gk M15 268 = 7 ∧ (if (lg_cmp (gL M15 268 24) 0) < 0 then fX7_swings_b65 M15 Q else Q 1 M15)))
theorem wX7_swings_b39 {kf : Nat} {G : gG} {w : gM → Nat → List (Nat × Value) → List Value → Prop} {Q : Int32 → gM → Prop} (hw : gX yX7_swings cX7_swings 4 (Option.some FieldType.int) [] kf G (gQi Q) gE0 w) (hkf : 5 ≤ kf)  {l1_11 : Int32} {l2_12 : Int32} {s0_13 : Int32} {M : gM}  (h : fX7_swings_b39 l1_11 l2_12 s0_13 M Q) : w M 39 [(0, .ref (gA G 268)), (1, .int l1_11), (2, .int l2_12)] [.int s0_13] := by
  unfold fX7_swings_b39 at h
  refine g_istore_n hw (lv2 := [(0, .ref (gA G 268)), (1, .int l1_11), (2, .int l2_12), (3, .int s0_13)]) [1, 2, 3, 0] dX7_swings_39 rfl rfl ?_
  refine g_aload_n hw 0 dX7_swings_40 rfl ?_
  refine g_iload_n hw 1 dX7_swings_41 rfl ?_
  refine g_iload_n hw 2 dX7_swings_42 rfl ?_
  refine g_iconst (v := 1) hw dX7_swings_43 (by decide) ?_
  obtain ⟨hk14, h⟩ := h
  refine sX7_329 hw rfl dX7_swings_44 rfl (gK2 hkf) hk14 h (fun r16 M15 h => ?_)
  refine g_pop hw dX7_swings_47 rfl ?_
  refine g_iload_n hw 3 dX7_swings_48 rfl ?_
  refine g_if_eq (tgt := 65) hw dX7_swings_49 (by decide) (fun hb17 => ?_) (fun hb17 => ?_)
  · have h := gT h hb17
    refine g_sub hw (lv2 := []) [] rfl ?_
    exact wX7_swings_b65 hw hkf h
  · have h := gF h hb17
    refine g_aload_n hw 0 dX7_swings_52 rfl ?_
    obtain ⟨hk18, h⟩ := h
    refine gfX7_281 hw rfl dX7_swings_53 hk18 ?_
    refine g_lconst (v := 0) hw dX7_swings_56 (by decide) ?_
    refine g_lcmp hw dX7_swings_57 ?_
    refine g_if_lt (tgt := 65) hw dX7_swings_58 (by decide) (fun hb19 => ?_) (fun hb19 => ?_)
    · have h := gT h hb19
      refine g_sub hw (lv2 := []) [] rfl ?_
      exact wX7_swings_b65 hw hkf h
    · have h := gF h hb19
      refine g_iconst (v := 1) hw dX7_swings_61 (by decide) ?_
      refine g_goto (tgt := 66) hw dX7_swings_62 (by decide) ?_
      exact g_iret hw dX7_swings_66 rfl ⟨_, rfl, h⟩
def fX7_swings (p1 : Int32) (p2 : Int32) (M : gM) (Q : Int32 → gM → Prop) : Prop :=
  gk M 268 = 7 ∧ fX7_areMonths p1 p2 (gsI M 268 0 0) (fun r3 M2 => (if r3 = 0 then Q (-1) M2 else gk M2 268 = 7 ∧ fX7_findBound p1 p2 (-1) M2 (fun r7 M6 => (if r7 = 0 then Q (-1) M6 else gk M6 268 = 7 ∧ (if 0 < (lg_cmp (gL M6 268 24) 0) then fX7_swings_b39 p1 p2 0 M6 Q else fX7_swings_b39 p1 p2 1 M6 Q)))))
theorem mX7_swings {kf : Nat} (hkf : 5 ≤ kf) (G : gG) (p1 : Int32) (p2 : Int32) (M : gM) (Q : Int32 → gM → Prop) (h : fX7_swings p1 p2 M Q) : gMet yX7_swings cX7_swings 4 (Option.some FieldType.int) kf G M [.ref (gA G 268), .int p1, .int p2] (gQi Q) gE0 := by
  refine g_intro (lv := [(0, .ref (gA G 268)), (1, .int p1), (2, .int p2)]) (by decide) rfl rfl (fun w hw => ?_)
  unfold fX7_swings at h
  refine g_aload_n hw 0 dX7_swings_0 rfl ?_
  refine g_iconst (v := 0) hw dX7_swings_1 (by decide) ?_
  obtain ⟨hk1, h⟩ := h
  refine pfX7_1 hw rfl dX7_swings_2 hk1 ?_
  refine g_iload_n hw 1 dX7_swings_5 rfl ?_
  refine g_iload_n hw 2 dX7_swings_6 rfl ?_
  refine sX7_270 hw rfl dX7_swings_7 rfl (gK2 hkf) h (fun r3 M2 h => ?_)
  refine g_if_eq (tgt := 23) hw dX7_swings_10 (by decide) (fun hb4 => ?_) (fun hb4 => ?_)
  · have h := gT h hb4
    refine g_iconst (v := (-1)) hw dX7_swings_23 (by decide) ?_
    exact g_iret hw dX7_swings_24 rfl ⟨_, rfl, h⟩
  · have h := gF h hb4
    refine g_aload_n hw 0 dX7_swings_13 rfl ?_
    refine g_iload_n hw 1 dX7_swings_14 rfl ?_
    refine g_iload_n hw 2 dX7_swings_15 rfl ?_
    refine g_iconst (v := (-1)) hw dX7_swings_16 (by decide) ?_
    obtain ⟨hk5, h⟩ := h
    refine sX7_329 hw rfl dX7_swings_17 rfl (gK2 hkf) hk5 h (fun r7 M6 h => ?_)
    refine g_if_ne (tgt := 25) hw dX7_swings_20 (by decide) (fun hb8 => ?_) (fun hb8 => ?_)
    · have h := gF h hb8
      refine g_aload_n hw 0 dX7_swings_25 rfl ?_
      obtain ⟨hk9, h⟩ := h
      refine gfX7_281 hw rfl dX7_swings_26 hk9 ?_
      refine g_lconst (v := 0) hw dX7_swings_29 (by decide) ?_
      refine g_lcmp hw dX7_swings_30 ?_
      refine g_if_gt (tgt := 38) hw dX7_swings_31 (by decide) (fun hb10 => ?_) (fun hb10 => ?_)
      · have h := gT h hb10
        refine g_iconst (v := 0) hw dX7_swings_38 (by decide) ?_
        exact wX7_swings_b39 hw hkf h
      · have h := gF h hb10
        refine g_iconst (v := 1) hw dX7_swings_34 (by decide) ?_
        refine g_goto (tgt := 39) hw dX7_swings_35 (by decide) ?_
        exact wX7_swings_b39 hw hkf h
    · have h := gT h hb8
      refine g_iconst (v := (-1)) hw dX7_swings_23 (by decide) ?_
      exact g_iret hw dX7_swings_24 rfl ⟨_, rfl, h⟩
def fX7_next_b173 (R36 : Int32 → Int64 → Int64 → Int32 → gM → Prop) (l1_9 : Int32) (l2_10 : Int32) (l3_22 : Int32) (l4_23 : Int64) (l6_24 : Int64) (l8_25 : Int32) (M : gM) (Q : Int32 → gM → Prop) : Prop :=
  R36 l3_22 l4_23 l6_24 (l8_25 + 1) M
theorem wX7_next_b173 {kf : Nat} {G : gG} {w : gM → Nat → List (Nat × Value) → List Value → Prop} {Q : Int32 → gM → Prop} (hw : gX yX7_next cX7_next 14 (Option.some FieldType.int) [] kf G (gQi Q) gE0 w) (hkf : 5 ≤ kf) {R36 : Int32 → Int64 → Int64 → Int32 → gM → Prop} {l1_9 : Int32} {l2_10 : Int32} {l3_22 : Int32} {l4_23 : Int64} {l6_24 : Int64} {l8_25 : Int32} {M : gM} (hR36 : ∀ (v0 : Int32) (v1 : Int64) (v2 : Int64) (v3 : Int32) (M : gM), R36 v0 v1 v2 v3 M → w M 36 [(0, .ref (gA G 268)), (1, .int l1_9), (2, .int l2_10), (3, .int v0), (4, .long v1), (6, .long v2), (8, .int v3)] []) (h : fX7_next_b173 R36 l1_9 l2_10 l3_22 l4_23 l6_24 l8_25 M Q) : w M 173 [(0, .ref (gA G 268)), (1, .int l1_9), (2, .int l2_10), (3, .int l3_22), (4, .long l4_23), (6, .long l6_24), (8, .int l8_25)] [] := by
  unfold fX7_next_b173 at h
  refine g_iinc hw (lv2 := [(0, .ref (gA G 268)), (1, .int l1_9), (2, .int l2_10), (3, .int l3_22), (4, .long l4_23), (6, .long l6_24), (8, .int (l8_25 + 1))]) 6 [1, 2, 3, 4, 5, 6, 0] dX7_next_173 rfl (by decide) rfl rfl ?_
  refine g_goto (tgt := 36) hw dX7_next_176 (by decide) ?_
  exact hR36 l3_22 l4_23 l6_24 (l8_25 + 1) M h
def fX7_next_b162 (R36 : Int32 → Int64 → Int64 → Int32 → gM → Prop) (l1_9 : Int32) (l2_10 : Int32) (l8_69 : Int32) (l10_70 : Int64) (l12_71 : Int64) (M : gM) (Q : Int32 → gM → Prop) : Prop :=
  fX7_next_b173 R36 l1_9 l2_10 l8_69 l10_70 l12_71 l8_69 M Q
theorem wX7_next_b162 {kf : Nat} {G : gG} {w : gM → Nat → List (Nat × Value) → List Value → Prop} {Q : Int32 → gM → Prop} (hw : gX yX7_next cX7_next 14 (Option.some FieldType.int) [] kf G (gQi Q) gE0 w) (hkf : 5 ≤ kf) {R36 : Int32 → Int64 → Int64 → Int32 → gM → Prop} {l1_9 : Int32} {l2_10 : Int32} {l8_69 : Int32} {l10_70 : Int64} {l12_71 : Int64} {M : gM} (hR36 : ∀ (v0 : Int32) (v1 : Int64) (v2 : Int64) (v3 : Int32) (M : gM), R36 v0 v1 v2 v3 M → w M 36 [(0, .ref (gA G 268)), (1, .int l1_9), (2, .int l2_10), (3, .int v0), (4, .long v1), (6, .long v2), (8, .int v3)] []) (h : fX7_next_b162 R36 l1_9 l2_10 l8_69 l10_70 l12_71 M Q) : w M 162 [(0, .ref (gA G 268)), (1, .int l1_9), (2, .int l2_10), (8, .int l8_69), (10, .long l10_70), (12, .long l12_71)] [] := by
  unfold fX7_next_b162 at h
  refine g_iload hw 3 dX7_next_162 rfl ?_
  refine g_istore_n hw (lv2 := [(0, .ref (gA G 268)), (1, .int l1_9), (2, .int l2_10), (3, .int l8_69), (8, .int l8_69), (10, .long l10_70), (12, .long l12_71)]) [1, 2, 3, 0, 4, 5, 6] dX7_next_164 rfl rfl ?_
  refine g_lload hw 5 dX7_next_165 rfl ?_
  refine g_lstore hw (lv2 := [(0, .ref (gA G 268)), (1, .int l1_9), (2, .int l2_10), (3, .int l8_69), (4, .long l10_70), (8, .int l8_69), (12, .long l12_71)]) [1, 2, 3, 4, 0, 5, 7] dX7_next_167 rfl rfl ?_
  refine g_lload hw 6 dX7_next_169 rfl ?_
  refine g_lstore hw (lv2 := [(0, .ref (gA G 268)), (1, .int l1_9), (2, .int l2_10), (3, .int l8_69), (4, .long l10_70), (6, .long l12_71), (8, .int l8_69)]) [1, 2, 3, 4, 5, 0, 6] dX7_next_171 rfl rfl ?_
  exact wX7_next_b173 hw hkf hR36 h
def fX7_next_b142 (R36 : Int32 → Int64 → Int64 → Int32 → gM → Prop) (l1_9 : Int32) (l2_10 : Int32) (l3_62 : Int32) (l4_63 : Int64) (l6_64 : Int64) (l8_65 : Int32) (l10_66 : Int64) (s0_67 : Int64) (M : gM) (Q : Int32 → gM → Prop) : Prop :=
  (if l3_62 < 0 then fX7_next_b162 R36 l1_9 l2_10 l8_65 l10_66 s0_67 M Q else (if (lg_cmp (l10_66 * l6_64) (l4_63 * s0_67)) ≤ 0 then fX7_next_b173 R36 l1_9 l2_10 l3_62 l4_63 l6_64 l8_65 M Q else fX7_next_b162 R36 l1_9 l2_10 l8_65 l10_66 s0_67 M Q))
theorem wX7_next_b142 {kf : Nat} {G : gG} {w : gM → Nat → List (Nat × Value) → List Value → Prop} {Q : Int32 → gM → Prop} (hw : gX yX7_next cX7_next 14 (Option.some FieldType.int) [] kf G (gQi Q) gE0 w) (hkf : 5 ≤ kf) {R36 : Int32 → Int64 → Int64 → Int32 → gM → Prop} {l1_9 : Int32} {l2_10 : Int32} {l3_62 : Int32} {l4_63 : Int64} {l6_64 : Int64} {l8_65 : Int32} {l10_66 : Int64} {s0_67 : Int64} {M : gM} (hR36 : ∀ (v0 : Int32) (v1 : Int64) (v2 : Int64) (v3 : Int32) (M : gM), R36 v0 v1 v2 v3 M → w M 36 [(0, .ref (gA G 268)), (1, .int l1_9), (2, .int l2_10), (3, .int v0), (4, .long v1), (6, .long v2), (8, .int v3)] []) (h : fX7_next_b142 R36 l1_9 l2_10 l3_62 l4_63 l6_64 l8_65 l10_66 s0_67 M Q) : w M 142 [(0, .ref (gA G 268)), (1, .int l1_9), (2, .int l2_10), (3, .int l3_62), (4, .long l4_63), (6, .long l6_64), (8, .int l8_65), (10, .long l10_66)] [.long s0_67] := by
  unfold fX7_next_b142 at h
  refine g_lstore hw (lv2 := [(0, .ref (gA G 268)), (1, .int l1_9), (2, .int l2_10), (3, .int l3_62), (4, .long l4_63), (6, .long l6_64), (8, .int l8_65), (10, .long l10_66), (12, .long s0_67)]) [1, 2, 3, 4, 5, 6, 7, 8, 0] dX7_next_142 rfl rfl ?_
  refine g_iload_n hw 3 dX7_next_144 rfl ?_
  refine g_if_lt (tgt := 162) hw dX7_next_145 (by decide) (fun hb68 => ?_) (fun hb68 => ?_)
  · have h := gT h hb68
    refine g_sub hw (lv2 := [(0, .ref (gA G 268)), (1, .int l1_9), (2, .int l2_10), (8, .int l8_65), (10, .long l10_66), (12, .long s0_67)]) [0, 1, 2, 6, 7, 8] rfl ?_
    exact wX7_next_b162 hw hkf hR36 h
  · have h := gF h hb68
    refine g_lload hw 7 dX7_next_148 rfl ?_
    refine g_lload hw 5 dX7_next_150 rfl ?_
    refine g_lmul hw dX7_next_152 ?_
    refine g_lload hw 4 dX7_next_153 rfl ?_
    refine g_lload hw 8 dX7_next_155 rfl ?_
    refine g_lmul hw dX7_next_157 ?_
    refine g_lcmp hw dX7_next_158 ?_
    refine g_if_le (tgt := 173) hw dX7_next_159 (by decide) (fun hb72 => ?_) (fun hb72 => ?_)
    · have h := gT h hb72
      refine g_sub hw (lv2 := [(0, .ref (gA G 268)), (1, .int l1_9), (2, .int l2_10), (3, .int l3_62), (4, .long l4_63), (6, .long l6_64), (8, .int l8_65)]) [0, 1, 2, 3, 4, 5, 6] rfl ?_
      exact wX7_next_b173 hw hkf hR36 h
    · have h := gF h hb72
      refine g_sub hw (lv2 := [(0, .ref (gA G 268)), (1, .int l1_9), (2, .int l2_10), (8, .int l8_65), (10, .long l10_66), (12, .long s0_67)]) [0, 1, 2, 6, 7, 8] rfl ?_
      exact wX7_next_b162 hw hkf hR36 h
def fX7_next_b104 (R36 : Int32 → Int64 → Int64 → Int32 → gM → Prop) (l1_9 : Int32) (l2_10 : Int32) (l3_46 : Int32) (l4_47 : Int64) (l6_48 : Int64) (l8_49 : Int32) (s0_50 : Int32) (s1_51 : Int32) (M : gM) (Q : Int32 → gM → Prop) : Prop :=
  gk M 268 = 7 ∧ gdr (gR M 268 13) (fun a53 => gk M a53 = 40 ∧ vp_in l8_49 (gl M a53) ∧ gdr (gR M 268 11) (fun a57 => gk M a57 = 40 ∧ vp_in l8_49 (gl M a57) ∧ (if (gI M a57 l8_49.toNatClampNeg) = 0 then fX7_next_b142 R36 l1_9 l2_10 l3_46 l4_47 l6_48 l8_49 (((gI M a53 l8_49.toNatClampNeg).toInt64) * ((s0_50 + s1_51).toInt64)) (gL M 268 27) M Q else fX7_next_b142 R36 l1_9 l2_10 l3_46 l4_47 l6_48 l8_49 (((gI M a53 l8_49.toNatClampNeg).toInt64) * ((s0_50 + s1_51).toInt64)) (gL M 268 29) M Q)))
theorem wX7_next_b104 {kf : Nat} {G : gG} {w : gM → Nat → List (Nat × Value) → List Value → Prop} {Q : Int32 → gM → Prop} (hw : gX yX7_next cX7_next 14 (Option.some FieldType.int) [] kf G (gQi Q) gE0 w) (hkf : 5 ≤ kf) {R36 : Int32 → Int64 → Int64 → Int32 → gM → Prop} {l1_9 : Int32} {l2_10 : Int32} {l3_46 : Int32} {l4_47 : Int64} {l6_48 : Int64} {l8_49 : Int32} {s0_50 : Int32} {s1_51 : Int32} {M : gM} (hR36 : ∀ (v0 : Int32) (v1 : Int64) (v2 : Int64) (v3 : Int32) (M : gM), R36 v0 v1 v2 v3 M → w M 36 [(0, .ref (gA G 268)), (1, .int l1_9), (2, .int l2_10), (3, .int v0), (4, .long v1), (6, .long v2), (8, .int v3)] []) (h : fX7_next_b104 R36 l1_9 l2_10 l3_46 l4_47 l6_48 l8_49 s0_50 s1_51 M Q) : w M 104 [(0, .ref (gA G 268)), (1, .int l1_9), (2, .int l2_10), (3, .int l3_46), (4, .long l4_47), (6, .long l6_48), (8, .int l8_49)] [.int s1_51, .int s0_50] := by
  unfold fX7_next_b104 at h
  refine g_iadd hw dX7_next_104 ?_
  refine g_istore hw (lv2 := [(0, .ref (gA G 268)), (1, .int l1_9), (2, .int l2_10), (3, .int l3_46), (4, .long l4_47), (6, .long l6_48), (8, .int l8_49), (9, .int (s0_50 + s1_51))]) [1, 2, 3, 4, 5, 6, 7, 0] dX7_next_105 rfl rfl ?_
  refine g_aload_n hw 0 dX7_next_107 rfl ?_
  obtain ⟨hk52, h⟩ := h
  obtain ⟨a53, e54, h⟩ := h
  refine gfX7_103 (q := some a53) hw rfl dX7_next_108 hk52 e54 ?_
  refine g_iload hw 6 dX7_next_111 rfl ?_
  obtain ⟨hk55, h⟩ := h
  obtain ⟨hi56, h⟩ := h
  refine g_iald (n := l8_49.toNatClampNeg) hw dX7_next_113 hk55 hi56 rfl ?_
  refine g_i2l hw dX7_next_114 ?_
  refine g_iload hw 7 dX7_next_115 rfl ?_
  refine g_i2l hw dX7_next_117 ?_
  refine g_lmul hw dX7_next_118 ?_
  refine g_lstore hw (lv2 := [(0, .ref (gA G 268)), (1, .int l1_9), (2, .int l2_10), (3, .int l3_46), (4, .long l4_47), (6, .long l6_48), (8, .int l8_49), (10, .long (((gI M a53 l8_49.toNatClampNeg).toInt64) * ((s0_50 + s1_51).toInt64)))]) [1, 2, 3, 4, 5, 6, 7, 0] dX7_next_119 rfl rfl ?_
  refine g_aload_n hw 0 dX7_next_121 rfl ?_
  obtain ⟨a57, e58, h⟩ := h
  refine gfX7_97 (q := some a57) hw rfl dX7_next_122 hk52 e58 ?_
  refine g_iload hw 6 dX7_next_125 rfl ?_
  obtain ⟨hk59, h⟩ := h
  obtain ⟨hi60, h⟩ := h
  refine g_iald (n := l8_49.toNatClampNeg) hw dX7_next_127 hk59 hi60 rfl ?_
  refine g_if_ne (tgt := 138) hw dX7_next_128 (by decide) (fun hb61 => ?_) (fun hb61 => ?_)
  · have h := gF h hb61
    refine g_aload_n hw 0 dX7_next_138 rfl ?_
    refine gfX7_301 hw rfl dX7_next_139 hk52 ?_
    exact wX7_next_b142 hw hkf hR36 h
  · have h := gT h hb61
    refine g_aload_n hw 0 dX7_next_131 rfl ?_
    refine gfX7_295 hw rfl dX7_next_132 hk52 ?_
    refine g_goto (tgt := 142) hw dX7_next_135 (by decide) ?_
    exact wX7_next_b142 hw hkf hR36 h
def fX7_next_b84 (R36 : Int32 → Int64 → Int64 → Int32 → gM → Prop) (l1_9 : Int32) (l2_10 : Int32) (l3_35 : Int32) (l4_36 : Int64) (l6_37 : Int64) (l8_38 : Int32) (s0_39 : Int32) (M : gM) (Q : Int32 → gM → Prop) : Prop :=
  gk M 268 = 7 ∧ gdr (gR M 268 18) (fun a41 => gk M a41 = 40 ∧ vp_in ((12 * l8_38) + l2_10) (gl M a41) ∧ (if (gI M a41 (((12 * l8_38) + l2_10).toNatClampNeg)) = 0 then fX7_next_b104 R36 l1_9 l2_10 l3_35 l4_36 l6_37 l8_38 s0_39 1 M Q else fX7_next_b104 R36 l1_9 l2_10 l3_35 l4_36 l6_37 l8_38 s0_39 0 M Q))
theorem wX7_next_b84 {kf : Nat} {G : gG} {w : gM → Nat → List (Nat × Value) → List Value → Prop} {Q : Int32 → gM → Prop} (hw : gX yX7_next cX7_next 14 (Option.some FieldType.int) [] kf G (gQi Q) gE0 w) (hkf : 5 ≤ kf) {R36 : Int32 → Int64 → Int64 → Int32 → gM → Prop} {l1_9 : Int32} {l2_10 : Int32} {l3_35 : Int32} {l4_36 : Int64} {l6_37 : Int64} {l8_38 : Int32} {s0_39 : Int32} {M : gM} (hR36 : ∀ (v0 : Int32) (v1 : Int64) (v2 : Int64) (v3 : Int32) (M : gM), R36 v0 v1 v2 v3 M → w M 36 [(0, .ref (gA G 268)), (1, .int l1_9), (2, .int l2_10), (3, .int v0), (4, .long v1), (6, .long v2), (8, .int v3)] []) (h : fX7_next_b84 R36 l1_9 l2_10 l3_35 l4_36 l6_37 l8_38 s0_39 M Q) : w M 84 [(0, .ref (gA G 268)), (1, .int l1_9), (2, .int l2_10), (3, .int l3_35), (4, .long l4_36), (6, .long l6_37), (8, .int l8_38)] [.int s0_39] := by
  unfold fX7_next_b84 at h
  refine g_aload_n hw 0 dX7_next_84 rfl ?_
  obtain ⟨hk40, h⟩ := h
  obtain ⟨a41, e42, h⟩ := h
  refine gfX7_115 (q := some a41) hw rfl dX7_next_85 hk40 e42 ?_
  refine g_bipush (v := 12) hw dX7_next_88 (by decide) ?_
  refine g_iload hw 6 dX7_next_90 rfl ?_
  refine g_imul hw dX7_next_92 ?_
  refine g_iload_n hw 2 dX7_next_93 rfl ?_
  refine g_iadd hw dX7_next_94 ?_
  obtain ⟨hk43, h⟩ := h
  obtain ⟨hi44, h⟩ := h
  refine g_iald (n := ((12 * l8_38) + l2_10).toNatClampNeg) hw dX7_next_95 hk43 hi44 rfl ?_
  refine g_if_ne (tgt := 103) hw dX7_next_96 (by decide) (fun hb45 => ?_) (fun hb45 => ?_)
  · have h := gF h hb45
    refine g_iconst (v := 0) hw dX7_next_103 (by decide) ?_
    exact wX7_next_b104 hw hkf hR36 h
  · have h := gT h hb45
    refine g_iconst (v := 1) hw dX7_next_99 (by decide) ?_
    refine g_goto (tgt := 104) hw dX7_next_100 (by decide) ?_
    exact wX7_next_b104 hw hkf hR36 h
def fX7_next_L36s (R36 : Int32 → Int64 → Int64 → Int32 → gM → Prop) (K179_36 : Int32 → gM → Prop) (l1_9 : Int32) (l2_10 : Int32) (l3_11 : Int32) (l4_12 : Int64) (l6_13 : Int64) (l8_14 : Int32) (M : gM) (Q : Int32 → gM → Prop) : Prop :=
  (if 24 ≤ l8_14 then K179_36 l3_11 M else gk M 268 = 7 ∧ gdr (gR M 268 10) (fun a17 => gk M a17 = 43 ∧ vp_in l8_14 (gl M a17) ∧ (if (gI M a17 l8_14.toNatClampNeg) = 0 then fX7_next_b173 R36 l1_9 l2_10 l3_11 l4_12 l6_13 l8_14 M Q else fX7_isCounted l8_14 l1_9 l2_10 M (fun r27 M26 => (if r27 = 0 then gk M26 268 = 7 ∧ gdr (gR M26 268 18) (fun a30 => gk M26 a30 = 40 ∧ vp_in ((12 * l8_14) + l1_9) (gl M26 a30) ∧ (if (gI M26 a30 (((12 * l8_14) + l1_9).toNatClampNeg)) = 0 then fX7_next_b84 R36 l1_9 l2_10 l3_11 l4_12 l6_13 l8_14 1 M26 Q else fX7_next_b84 R36 l1_9 l2_10 l3_11 l4_12 l6_13 l8_14 0 M26 Q)) else fX7_next_b173 R36 l1_9 l2_10 l3_11 l4_12 l6_13 l8_14 M26 Q)))))
def fX7_next_L36 (K179_36 : Int32 → gM → Prop) (l1_9 : Int32) (l2_10 : Int32) (Q : Int32 → gM → Prop) : Nat → Int32 → Int64 → Int64 → Int32 → gM → Prop
  | 0 => fun _ _ _ _ _ => False
  | n + 1 => fun l3_11 l4_12 l6_13 l8_14 M => fX7_next_L36s (fX7_next_L36 K179_36 l1_9 l2_10 Q n) K179_36 l1_9 l2_10 l3_11 l4_12 l6_13 l8_14 M Q
theorem wX7_next_L36s {kf : Nat} {G : gG} {w : gM → Nat → List (Nat × Value) → List Value → Prop} {Q : Int32 → gM → Prop} (hw : gX yX7_next cX7_next 14 (Option.some FieldType.int) [] kf G (gQi Q) gE0 w) (hkf : 5 ≤ kf) {R36 : Int32 → Int64 → Int64 → Int32 → gM → Prop} {K179_36 : Int32 → gM → Prop} {l1_9 : Int32} {l2_10 : Int32} {l3_11 : Int32} {l4_12 : Int64} {l6_13 : Int64} {l8_14 : Int32} {M : gM} (hR36 : ∀ (v0 : Int32) (v1 : Int64) (v2 : Int64) (v3 : Int32) (M : gM), R36 v0 v1 v2 v3 M → w M 36 [(0, .ref (gA G 268)), (1, .int l1_9), (2, .int l2_10), (3, .int v0), (4, .long v1), (6, .long v2), (8, .int v3)] []) (hK179_36 : ∀ (v0 : Int32) (M : gM), K179_36 v0 M → w M 179 [(3, .int v0)] []) (h : fX7_next_L36s R36 K179_36 l1_9 l2_10 l3_11 l4_12 l6_13 l8_14 M Q) : w M 36 [(0, .ref (gA G 268)), (1, .int l1_9), (2, .int l2_10), (3, .int l3_11), (4, .long l4_12), (6, .long l6_13), (8, .int l8_14)] [] := by
  unfold fX7_next_L36s at h
  refine g_iload hw 6 dX7_next_36 rfl ?_
  refine g_bipush (v := 24) hw dX7_next_38 (by decide) ?_
  refine g_icmp_ge (tgt := 179) hw dX7_next_40 (by decide) (fun hb15 => ?_) (fun hb15 => ?_)
  · have h := gT h hb15
    refine g_sub hw (lv2 := [(3, .int l3_11)]) [3] rfl ?_
    exact hK179_36 l3_11 M h
  · have h := gF h hb15
    refine g_aload_n hw 0 dX7_next_43 rfl ?_
    obtain ⟨hk16, h⟩ := h
    obtain ⟨a17, e18, h⟩ := h
    refine gfX7_93 (q := some a17) hw rfl dX7_next_44 hk16 e18 ?_
    refine g_iload hw 6 dX7_next_47 rfl ?_
    obtain ⟨hk19, h⟩ := h
    obtain ⟨hi20, h⟩ := h
    refine g_zald (n := l8_14.toNatClampNeg) hw dX7_next_49 hk19 hi20 rfl ?_
    refine g_if_eq (tgt := 173) hw dX7_next_50 (by decide) (fun hb21 => ?_) (fun hb21 => ?_)
    · have h := gT h hb21
      exact wX7_next_b173 hw hkf hR36 h
    · have h := gF h hb21
      refine g_aload_n hw 0 dX7_next_53 rfl ?_
      refine g_iload hw 6 dX7_next_54 rfl ?_
      refine g_iload_n hw 1 dX7_next_56 rfl ?_
      refine g_iload_n hw 2 dX7_next_57 rfl ?_
      refine sX7_274 hw rfl dX7_next_58 rfl (gK2 hkf) hk16 h (fun r27 M26 h => ?_)
      refine g_if_ne (tgt := 173) hw dX7_next_61 (by decide) (fun hb28 => ?_) (fun hb28 => ?_)
      · have h := gF h hb28
        exact wX7_next_b173 hw hkf hR36 h
      · have h := gT h hb28
        refine g_aload_n hw 0 dX7_next_64 rfl ?_
        obtain ⟨hk29, h⟩ := h
        obtain ⟨a30, e31, h⟩ := h
        refine gfX7_115 (q := some a30) hw rfl dX7_next_65 hk29 e31 ?_
        refine g_bipush (v := 12) hw dX7_next_68 (by decide) ?_
        refine g_iload hw 6 dX7_next_70 rfl ?_
        refine g_imul hw dX7_next_72 ?_
        refine g_iload_n hw 1 dX7_next_73 rfl ?_
        refine g_iadd hw dX7_next_74 ?_
        obtain ⟨hk32, h⟩ := h
        obtain ⟨hi33, h⟩ := h
        refine g_iald (n := ((12 * l8_14) + l1_9).toNatClampNeg) hw dX7_next_75 hk32 hi33 rfl ?_
        refine g_if_ne (tgt := 83) hw dX7_next_76 (by decide) (fun hb34 => ?_) (fun hb34 => ?_)
        · have h := gF h hb34
          refine g_iconst (v := 0) hw dX7_next_83 (by decide) ?_
          exact wX7_next_b84 hw hkf hR36 h
        · have h := gT h hb34
          refine g_iconst (v := 1) hw dX7_next_79 (by decide) ?_
          refine g_goto (tgt := 84) hw dX7_next_80 (by decide) ?_
          exact wX7_next_b84 hw hkf hR36 h
theorem wX7_next_L36 {kf : Nat} {G : gG} {w : gM → Nat → List (Nat × Value) → List Value → Prop} {Q : Int32 → gM → Prop} (hw : gX yX7_next cX7_next 14 (Option.some FieldType.int) [] kf G (gQi Q) gE0 w) (hkf : 5 ≤ kf) {K179_36 : Int32 → gM → Prop} {l1_9 : Int32} {l2_10 : Int32} (hK179_36 : ∀ (v0 : Int32) (M : gM), K179_36 v0 M → w M 179 [(3, .int v0)] []) : ∀ (n : Nat) (l3_11 : Int32) (l4_12 : Int64) (l6_13 : Int64) (l8_14 : Int32) (M : gM), fX7_next_L36 K179_36 l1_9 l2_10 Q n l3_11 l4_12 l6_13 l8_14 M → w M 36 [(0, .ref (gA G 268)), (1, .int l1_9), (2, .int l2_10), (3, .int l3_11), (4, .long l4_12), (6, .long l6_13), (8, .int l8_14)] [] := by
  intro n
  induction n with
  | zero => intro l3_11 l4_12 l6_13 l8_14 M h; exact h.elim
  | succ n ih => intro l3_11 l4_12 l6_13 l8_14 M h; exact wX7_next_L36s hw hkf ih hK179_36 h
def fX7_next (p1 : Int32) (p2 : Int32) (M : gM) (Q : Int32 → gM → Prop) : Prop :=
  gk M 268 = 7 ∧ fX7_areMonths p1 p2 (gsI M 268 0 0) (fun r3 M2 => (if r3 = 0 then Q (-1) M2 else gk M2 268 = 7 ∧ fX7_findBound p1 p2 1 M2 (fun r7 M6 => (if r7 = 0 then Q (-1) M6 else ∃ n, fX7_next_L36 (fun l3_73 M74 => Q l3_73 M74) p1 p2 Q n (-1) 0 1 0 M6))))
theorem mX7_next {kf : Nat} (hkf : 5 ≤ kf) (G : gG) (p1 : Int32) (p2 : Int32) (M : gM) (Q : Int32 → gM → Prop) (h : fX7_next p1 p2 M Q) : gMet yX7_next cX7_next 14 (Option.some FieldType.int) kf G M [.ref (gA G 268), .int p1, .int p2] (gQi Q) gE0 := by
  refine g_intro (lv := [(0, .ref (gA G 268)), (1, .int p1), (2, .int p2)]) (by decide) rfl rfl (fun w hw => ?_)
  unfold fX7_next at h
  refine g_aload_n hw 0 dX7_next_0 rfl ?_
  refine g_iconst (v := 0) hw dX7_next_1 (by decide) ?_
  obtain ⟨hk1, h⟩ := h
  refine pfX7_1 hw rfl dX7_next_2 hk1 ?_
  refine g_iload_n hw 1 dX7_next_5 rfl ?_
  refine g_iload_n hw 2 dX7_next_6 rfl ?_
  refine sX7_270 hw rfl dX7_next_7 rfl (gK2 hkf) h (fun r3 M2 h => ?_)
  refine g_if_eq (tgt := 23) hw dX7_next_10 (by decide) (fun hb4 => ?_) (fun hb4 => ?_)
  · have h := gT h hb4
    refine g_iconst (v := (-1)) hw dX7_next_23 (by decide) ?_
    exact g_iret hw dX7_next_24 rfl ⟨_, rfl, h⟩
  · have h := gF h hb4
    refine g_aload_n hw 0 dX7_next_13 rfl ?_
    refine g_iload_n hw 1 dX7_next_14 rfl ?_
    refine g_iload_n hw 2 dX7_next_15 rfl ?_
    refine g_iconst (v := 1) hw dX7_next_16 (by decide) ?_
    obtain ⟨hk5, h⟩ := h
    refine sX7_329 hw rfl dX7_next_17 rfl (gK2 hkf) hk5 h (fun r7 M6 h => ?_)
    refine g_if_ne (tgt := 25) hw dX7_next_20 (by decide) (fun hb8 => ?_) (fun hb8 => ?_)
    · have h := gF h hb8
      refine g_iconst (v := (-1)) hw dX7_next_25 (by decide) ?_
      refine g_istore_n hw (lv2 := [(0, .ref (gA G 268)), (1, .int p1), (2, .int p2), (3, .int (-1))]) [1, 2, 3, 0] dX7_next_26 rfl rfl ?_
      refine g_lconst (v := 0) hw dX7_next_27 (by decide) ?_
      refine g_lstore hw (lv2 := [(0, .ref (gA G 268)), (1, .int p1), (2, .int p2), (3, .int (-1)), (4, .long 0)]) [1, 2, 3, 4, 0] dX7_next_28 rfl rfl ?_
      refine g_lconst (v := 1) hw dX7_next_30 (by decide) ?_
      refine g_lstore hw (lv2 := [(0, .ref (gA G 268)), (1, .int p1), (2, .int p2), (3, .int (-1)), (4, .long 0), (6, .long 1)]) [1, 2, 3, 4, 5, 0] dX7_next_31 rfl rfl ?_
      refine g_iconst (v := 0) hw dX7_next_33 (by decide) ?_
      refine g_istore hw (lv2 := [(0, .ref (gA G 268)), (1, .int p1), (2, .int p2), (3, .int (-1)), (4, .long 0), (6, .long 1), (8, .int 0)]) [1, 2, 3, 4, 5, 6, 0] dX7_next_34 rfl rfl ?_
      obtain ⟨n9, h⟩ := h
      refine wX7_next_L36 hw hkf (fun l3_73 M74 h => ?_) n9 (-1) 0 1 0 M6 h
      refine g_iload_n hw 0 dX7_next_179 rfl ?_
      exact g_iret hw dX7_next_180 rfl ⟨_, rfl, h⟩
    · have h := gT h hb8
      refine g_iconst (v := (-1)) hw dX7_next_23 (by decide) ?_
      exact g_iret hw dX7_next_24 rfl ⟨_, rfl, h⟩
def fX7_sheets_b169 (R41 : Int32 → gM → Prop) (l1_17 : Int32) (l2_18 : Int32) (l3_19 : Int32) (l4_20 : Int32) (l5_29 : Int32) (M : gM) (Q : Int64 → gM → Prop) : Prop :=
  R41 (l5_29 + 1) M
theorem wX7_sheets_b169 {kf : Nat} {G : gG} {w : gM → Nat → List (Nat × Value) → List Value → Prop} {Q : Int64 → gM → Prop} (hw : gX yX7_sheets cX7_sheets 8 (Option.some FieldType.long) [] kf G (gQl Q) gE0 w) (hkf : 4 ≤ kf) {R41 : Int32 → gM → Prop} {l1_17 : Int32} {l2_18 : Int32} {l3_19 : Int32} {l4_20 : Int32} {l5_29 : Int32} {M : gM} (hR41 : ∀ (v0 : Int32) (M : gM), R41 v0 M → w M 41 [(0, .ref (gA G 268)), (1, .int l1_17), (2, .int l2_18), (3, .int l3_19), (4, .int l4_20), (5, .int v0)] []) (h : fX7_sheets_b169 R41 l1_17 l2_18 l3_19 l4_20 l5_29 M Q) : w M 169 [(0, .ref (gA G 268)), (1, .int l1_17), (2, .int l2_18), (3, .int l3_19), (4, .int l4_20), (5, .int l5_29)] [] := by
  unfold fX7_sheets_b169 at h
  refine g_iinc hw (lv2 := [(0, .ref (gA G 268)), (1, .int l1_17), (2, .int l2_18), (3, .int l3_19), (4, .int l4_20), (5, .int (l5_29 + 1))]) 5 [1, 2, 3, 4, 5, 0] dX7_sheets_169 rfl (by decide) rfl rfl ?_
  refine g_goto (tgt := 41) hw dX7_sheets_172 (by decide) ?_
  exact hR41 (l5_29 + 1) M h
def fX7_sheets_b128 (R41 : Int32 → gM → Prop) (l1_17 : Int32) (l2_18 : Int32) (l3_19 : Int32) (l4_20 : Int32) (l5_50 : Int32) (l6_51 : Int32) (l7_52 : Int32) (s1_53 : Int32) (M : gM) (Q : Int64 → gM → Prop) : Prop :=
  gk M 268 = 7 ∧ gdr (gR M 268 22) (fun a55 => gk M a55 = 40 ∧ vp_in l7_52 (gl M a55) ∧ gdr (gR M 268 23) (fun a59 => gk M a59 = 40 ∧ vp_in l7_52 (gl M a59) ∧ fX7_handsBy (gI M a55 l7_52.toNatClampNeg) (gI M a59 l7_52.toNatClampNeg) M (fun r64 M63 => gk M63 268 = 7 ∧ gdr (gR M63 268 22) (fun a66 => gk M63 a66 = 40 ∧ vp_in l6_51 (gl M63 a66) ∧ gdr (gR M63 268 23) (fun a70 => gk M63 a70 = 40 ∧ vp_in l6_51 (gl M63 a70) ∧ fX7_handsBy (gI M63 a66 l6_51.toNatClampNeg) (gI M63 a70 l6_51.toNatClampNeg) M63 (fun r75 M74 => gk M74 268 = 7 ∧ fX7_adds s1_53 ((r64 - r75).toInt64) M74 (fun M77 => fX7_sheets_b169 R41 l1_17 l2_18 l3_19 l4_20 l5_50 M77 Q)))))))
theorem wX7_sheets_b128 {kf : Nat} {G : gG} {w : gM → Nat → List (Nat × Value) → List Value → Prop} {Q : Int64 → gM → Prop} (hw : gX yX7_sheets cX7_sheets 8 (Option.some FieldType.long) [] kf G (gQl Q) gE0 w) (hkf : 4 ≤ kf) {R41 : Int32 → gM → Prop} {l1_17 : Int32} {l2_18 : Int32} {l3_19 : Int32} {l4_20 : Int32} {l5_50 : Int32} {l6_51 : Int32} {l7_52 : Int32} {s1_53 : Int32} {M : gM} (hR41 : ∀ (v0 : Int32) (M : gM), R41 v0 M → w M 41 [(0, .ref (gA G 268)), (1, .int l1_17), (2, .int l2_18), (3, .int l3_19), (4, .int l4_20), (5, .int v0)] []) (h : fX7_sheets_b128 R41 l1_17 l2_18 l3_19 l4_20 l5_50 l6_51 l7_52 s1_53 M Q) : w M 128 [(0, .ref (gA G 268)), (1, .int l1_17), (2, .int l2_18), (3, .int l3_19), (4, .int l4_20), (5, .int l5_50), (6, .int l6_51), (7, .int l7_52)] [.int s1_53, .ref (gA G 268)] := by
  unfold fX7_sheets_b128 at h
  refine g_aload_n hw 0 dX7_sheets_128 rfl ?_
  refine g_aload_n hw 0 dX7_sheets_129 rfl ?_
  obtain ⟨hk54, h⟩ := h
  obtain ⟨a55, e56, h⟩ := h
  refine gfX7_127 (q := some a55) hw rfl dX7_sheets_130 hk54 e56 ?_
  refine g_iload hw 7 dX7_sheets_133 rfl ?_
  obtain ⟨hk57, h⟩ := h
  obtain ⟨hi58, h⟩ := h
  refine g_iald (n := l7_52.toNatClampNeg) hw dX7_sheets_135 hk57 hi58 rfl ?_
  refine g_aload_n hw 0 dX7_sheets_136 rfl ?_
  obtain ⟨a59, e60, h⟩ := h
  refine gfX7_130 (q := some a59) hw rfl dX7_sheets_137 hk54 e60 ?_
  refine g_iload hw 7 dX7_sheets_140 rfl ?_
  obtain ⟨hk61, h⟩ := h
  obtain ⟨hi62, h⟩ := h
  refine g_iald (n := l7_52.toNatClampNeg) hw dX7_sheets_142 hk61 hi62 rfl ?_
  refine sX7_263 hw rfl dX7_sheets_143 rfl (gK2 hkf) hk54 h (fun r64 M63 h => ?_)
  refine g_aload_n hw 0 dX7_sheets_146 rfl ?_
  refine g_aload_n hw 0 dX7_sheets_147 rfl ?_
  obtain ⟨hk65, h⟩ := h
  obtain ⟨a66, e67, h⟩ := h
  refine gfX7_127 (q := some a66) hw rfl dX7_sheets_148 hk65 e67 ?_
  refine g_iload hw 6 dX7_sheets_151 rfl ?_
  obtain ⟨hk68, h⟩ := h
  obtain ⟨hi69, h⟩ := h
  refine g_iald (n := l6_51.toNatClampNeg) hw dX7_sheets_153 hk68 hi69 rfl ?_
  refine g_aload_n hw 0 dX7_sheets_154 rfl ?_
  obtain ⟨a70, e71, h⟩ := h
  refine gfX7_130 (q := some a70) hw rfl dX7_sheets_155 hk65 e71 ?_
  refine g_iload hw 6 dX7_sheets_158 rfl ?_
  obtain ⟨hk72, h⟩ := h
  obtain ⟨hi73, h⟩ := h
  refine g_iald (n := l6_51.toNatClampNeg) hw dX7_sheets_160 hk72 hi73 rfl ?_
  refine sX7_263 hw rfl dX7_sheets_161 rfl (gK2 hkf) hk65 h (fun r75 M74 h => ?_)
  refine g_isub hw dX7_sheets_164 ?_
  refine g_i2l hw dX7_sheets_165 ?_
  obtain ⟨hk76, h⟩ := h
  refine sX7_307 hw rfl dX7_sheets_166 rfl (gK2 hkf) hk76 h (fun M77 h => ?_)
  refine g_sub hw (lv2 := [(0, .ref (gA G 268)), (1, .int l1_17), (2, .int l2_18), (3, .int l3_19), (4, .int l4_20), (5, .int l5_50)]) [0, 1, 2, 3, 4, 5] rfl ?_
  exact wX7_sheets_b169 hw hkf hR41 h
def fX7_sheets_b90 (R41 : Int32 → gM → Prop) (l1_17 : Int32) (l2_18 : Int32) (l3_19 : Int32) (l4_20 : Int32) (l5_31 : Int32) (l6_32 : Int32) (l7_33 : Int32) (M : gM) (Q : Int64 → gM → Prop) : Prop :=
  gk M 268 = 7 ∧ gdr (gR M 268 21) (fun a35 => gk M a35 = 40 ∧ vp_in l6_32 (gl M a35) ∧ (if (gI M a35 l6_32.toNatClampNeg) = 1 then gdr (gR M 268 21) (fun a40 => gk M a40 = 40 ∧ vp_in l7_33 (gl M a40) ∧ (if (gI M a40 l7_33.toNatClampNeg) = 1 then gdr (gR M 268 11) (fun a45 => gk M a45 = 40 ∧ vp_in l5_31 (gl M a45) ∧ (if (gI M a45 l5_31.toNatClampNeg) = 0 then fX7_sheets_b128 R41 l1_17 l2_18 l3_19 l4_20 l5_31 l6_32 l7_33 1 M Q else fX7_sheets_b128 R41 l1_17 l2_18 l3_19 l4_20 l5_31 l6_32 l7_33 0 M Q)) else fX7_sheets_b169 R41 l1_17 l2_18 l3_19 l4_20 l5_31 M Q)) else fX7_sheets_b169 R41 l1_17 l2_18 l3_19 l4_20 l5_31 M Q))
theorem wX7_sheets_b90 {kf : Nat} {G : gG} {w : gM → Nat → List (Nat × Value) → List Value → Prop} {Q : Int64 → gM → Prop} (hw : gX yX7_sheets cX7_sheets 8 (Option.some FieldType.long) [] kf G (gQl Q) gE0 w) (hkf : 4 ≤ kf) {R41 : Int32 → gM → Prop} {l1_17 : Int32} {l2_18 : Int32} {l3_19 : Int32} {l4_20 : Int32} {l5_31 : Int32} {l6_32 : Int32} {l7_33 : Int32} {M : gM} (hR41 : ∀ (v0 : Int32) (M : gM), R41 v0 M → w M 41 [(0, .ref (gA G 268)), (1, .int l1_17), (2, .int l2_18), (3, .int l3_19), (4, .int l4_20), (5, .int v0)] []) (h : fX7_sheets_b90 R41 l1_17 l2_18 l3_19 l4_20 l5_31 l6_32 l7_33 M Q) : w M 90 [(0, .ref (gA G 268)), (1, .int l1_17), (2, .int l2_18), (3, .int l3_19), (4, .int l4_20), (5, .int l5_31), (6, .int l6_32), (7, .int l7_33)] [] := by
  unfold fX7_sheets_b90 at h
  refine g_aload_n hw 0 dX7_sheets_90 rfl ?_
  obtain ⟨hk34, h⟩ := h
  obtain ⟨a35, e36, h⟩ := h
  refine gfX7_124 (q := some a35) hw rfl dX7_sheets_91 hk34 e36 ?_
  refine g_iload hw 6 dX7_sheets_94 rfl ?_
  obtain ⟨hk37, h⟩ := h
  obtain ⟨hi38, h⟩ := h
  refine g_iald (n := l6_32.toNatClampNeg) hw dX7_sheets_96 hk37 hi38 rfl ?_
  refine g_iconst (v := 1) hw dX7_sheets_97 (by decide) ?_
  refine g_icmp_ne (tgt := 169) hw dX7_sheets_98 (by decide) (fun hb39 => ?_) (fun hb39 => ?_)
  · have h := gF h hb39
    refine g_sub hw (lv2 := [(0, .ref (gA G 268)), (1, .int l1_17), (2, .int l2_18), (3, .int l3_19), (4, .int l4_20), (5, .int l5_31)]) [0, 1, 2, 3, 4, 5] rfl ?_
    exact wX7_sheets_b169 hw hkf hR41 h
  · have h := gT h hb39
    refine g_aload_n hw 0 dX7_sheets_101 rfl ?_
    obtain ⟨a40, e41, h⟩ := h
    refine gfX7_124 (q := some a40) hw rfl dX7_sheets_102 hk34 e41 ?_
    refine g_iload hw 7 dX7_sheets_105 rfl ?_
    obtain ⟨hk42, h⟩ := h
    obtain ⟨hi43, h⟩ := h
    refine g_iald (n := l7_33.toNatClampNeg) hw dX7_sheets_107 hk42 hi43 rfl ?_
    refine g_iconst (v := 1) hw dX7_sheets_108 (by decide) ?_
    refine g_icmp_ne (tgt := 169) hw dX7_sheets_109 (by decide) (fun hb44 => ?_) (fun hb44 => ?_)
    · have h := gF h hb44
      refine g_sub hw (lv2 := [(0, .ref (gA G 268)), (1, .int l1_17), (2, .int l2_18), (3, .int l3_19), (4, .int l4_20), (5, .int l5_31)]) [0, 1, 2, 3, 4, 5] rfl ?_
      exact wX7_sheets_b169 hw hkf hR41 h
    · have h := gT h hb44
      refine g_aload_n hw 0 dX7_sheets_112 rfl ?_
      refine g_aload_n hw 0 dX7_sheets_113 rfl ?_
      obtain ⟨a45, e46, h⟩ := h
      refine gfX7_97 (q := some a45) hw rfl dX7_sheets_114 hk34 e46 ?_
      refine g_iload hw 5 dX7_sheets_117 rfl ?_
      obtain ⟨hk47, h⟩ := h
      obtain ⟨hi48, h⟩ := h
      refine g_iald (n := l5_31.toNatClampNeg) hw dX7_sheets_119 hk47 hi48 rfl ?_
      refine g_if_ne (tgt := 127) hw dX7_sheets_120 (by decide) (fun hb49 => ?_) (fun hb49 => ?_)
      · have h := gF h hb49
        refine g_iconst (v := 0) hw dX7_sheets_127 (by decide) ?_
        exact wX7_sheets_b128 hw hkf hR41 h
      · have h := gT h hb49
        refine g_iconst (v := 1) hw dX7_sheets_123 (by decide) ?_
        refine g_goto (tgt := 128) hw dX7_sheets_124 (by decide) ?_
        exact wX7_sheets_b128 hw hkf hR41 h
def fX7_sheets_L41s (R41 : Int32 → gM → Prop) (K175_41 : gM → Prop) (l1_17 : Int32) (l2_18 : Int32) (l3_19 : Int32) (l4_20 : Int32) (l5_21 : Int32) (M : gM) (Q : Int64 → gM → Prop) : Prop :=
  (if 24 ≤ l5_21 then K175_41 M else gk M 268 = 7 ∧ gdr (gR M 268 10) (fun a24 => gk M a24 = 43 ∧ vp_in l5_21 (gl M a24) ∧ (if (gI M a24 l5_21.toNatClampNeg) = 0 then fX7_sheets_b169 R41 l1_17 l2_18 l3_19 l4_20 l5_21 M Q else (if l3_19 = 0 then fX7_sheets_b90 R41 l1_17 l2_18 l3_19 l4_20 l5_21 ((12 * l5_21) + l1_17) ((12 * l5_21) + l2_18) M Q else gdr (gR M 268 14) (fun a79 => gk M a79 = 43 ∧ vp_in l5_21 (gl M a79) ∧ (if (gI M a79 l5_21.toNatClampNeg) = 0 then fX7_sheets_b169 R41 l1_17 l2_18 l3_19 l4_20 l5_21 M Q else fX7_sheets_b90 R41 l1_17 l2_18 l3_19 l4_20 l5_21 ((12 * l5_21) + l1_17) ((12 * l5_21) + l2_18) M Q))))))
def fX7_sheets_L41 (K175_41 : gM → Prop) (l1_17 : Int32) (l2_18 : Int32) (l3_19 : Int32) (l4_20 : Int32) (Q : Int64 → gM → Prop) : Nat → Int32 → gM → Prop
  | 0 => fun _ _ => False
  | n + 1 => fun l5_21 M => fX7_sheets_L41s (fX7_sheets_L41 K175_41 l1_17 l2_18 l3_19 l4_20 Q n) K175_41 l1_17 l2_18 l3_19 l4_20 l5_21 M Q
theorem wX7_sheets_L41s {kf : Nat} {G : gG} {w : gM → Nat → List (Nat × Value) → List Value → Prop} {Q : Int64 → gM → Prop} (hw : gX yX7_sheets cX7_sheets 8 (Option.some FieldType.long) [] kf G (gQl Q) gE0 w) (hkf : 4 ≤ kf) {R41 : Int32 → gM → Prop} {K175_41 : gM → Prop} {l1_17 : Int32} {l2_18 : Int32} {l3_19 : Int32} {l4_20 : Int32} {l5_21 : Int32} {M : gM} (hR41 : ∀ (v0 : Int32) (M : gM), R41 v0 M → w M 41 [(0, .ref (gA G 268)), (1, .int l1_17), (2, .int l2_18), (3, .int l3_19), (4, .int l4_20), (5, .int v0)] []) (hK175_41 : ∀  (M : gM), K175_41 M → w M 175 [(0, .ref (gA G 268)), (4, .int l4_20)] []) (h : fX7_sheets_L41s R41 K175_41 l1_17 l2_18 l3_19 l4_20 l5_21 M Q) : w M 41 [(0, .ref (gA G 268)), (1, .int l1_17), (2, .int l2_18), (3, .int l3_19), (4, .int l4_20), (5, .int l5_21)] [] := by
  unfold fX7_sheets_L41s at h
  refine g_iload hw 5 dX7_sheets_41 rfl ?_
  refine g_bipush (v := 24) hw dX7_sheets_43 (by decide) ?_
  refine g_icmp_ge (tgt := 175) hw dX7_sheets_45 (by decide) (fun hb22 => ?_) (fun hb22 => ?_)
  · have h := gT h hb22
    refine g_sub hw (lv2 := [(0, .ref (gA G 268)), (4, .int l4_20)]) [0, 4] rfl ?_
    exact hK175_41 M h
  · have h := gF h hb22
    refine g_bipush (v := 12) hw dX7_sheets_48 (by decide) ?_
    refine g_iload hw 5 dX7_sheets_50 rfl ?_
    refine g_imul hw dX7_sheets_52 ?_
    refine g_iload_n hw 1 dX7_sheets_53 rfl ?_
    refine g_iadd hw dX7_sheets_54 ?_
    refine g_istore hw (lv2 := [(0, .ref (gA G 268)), (1, .int l1_17), (2, .int l2_18), (3, .int l3_19), (4, .int l4_20), (5, .int l5_21), (6, .int ((12 * l5_21) + l1_17))]) [1, 2, 3, 4, 5, 6, 0] dX7_sheets_55 rfl rfl ?_
    refine g_bipush (v := 12) hw dX7_sheets_57 (by decide) ?_
    refine g_iload hw 5 dX7_sheets_59 rfl ?_
    refine g_imul hw dX7_sheets_61 ?_
    refine g_iload_n hw 2 dX7_sheets_62 rfl ?_
    refine g_iadd hw dX7_sheets_63 ?_
    refine g_istore hw (lv2 := [(0, .ref (gA G 268)), (1, .int l1_17), (2, .int l2_18), (3, .int l3_19), (4, .int l4_20), (5, .int l5_21), (6, .int ((12 * l5_21) + l1_17)), (7, .int ((12 * l5_21) + l2_18))]) [1, 2, 3, 4, 5, 6, 7, 0] dX7_sheets_64 rfl rfl ?_
    refine g_aload_n hw 0 dX7_sheets_66 rfl ?_
    obtain ⟨hk23, h⟩ := h
    obtain ⟨a24, e25, h⟩ := h
    refine gfX7_93 (q := some a24) hw rfl dX7_sheets_67 hk23 e25 ?_
    refine g_iload hw 5 dX7_sheets_70 rfl ?_
    obtain ⟨hk26, h⟩ := h
    obtain ⟨hi27, h⟩ := h
    refine g_zald (n := l5_21.toNatClampNeg) hw dX7_sheets_72 hk26 hi27 rfl ?_
    refine g_if_eq (tgt := 169) hw dX7_sheets_73 (by decide) (fun hb28 => ?_) (fun hb28 => ?_)
    · have h := gT h hb28
      refine g_sub hw (lv2 := [(0, .ref (gA G 268)), (1, .int l1_17), (2, .int l2_18), (3, .int l3_19), (4, .int l4_20), (5, .int l5_21)]) [0, 1, 2, 3, 4, 5] rfl ?_
      exact wX7_sheets_b169 hw hkf hR41 h
    · have h := gF h hb28
      refine g_iload_n hw 3 dX7_sheets_76 rfl ?_
      refine g_if_eq (tgt := 90) hw dX7_sheets_77 (by decide) (fun hb30 => ?_) (fun hb30 => ?_)
      · have h := gT h hb30
        exact wX7_sheets_b90 hw hkf hR41 h
      · have h := gF h hb30
        refine g_aload_n hw 0 dX7_sheets_80 rfl ?_
        obtain ⟨a79, e80, h⟩ := h
        refine gfX7_106 (q := some a79) hw rfl dX7_sheets_81 hk23 e80 ?_
        refine g_iload hw 5 dX7_sheets_84 rfl ?_
        obtain ⟨hk81, h⟩ := h
        obtain ⟨hi82, h⟩ := h
        refine g_zald (n := l5_21.toNatClampNeg) hw dX7_sheets_86 hk81 hi82 rfl ?_
        refine g_if_eq (tgt := 169) hw dX7_sheets_87 (by decide) (fun hb83 => ?_) (fun hb83 => ?_)
        · have h := gT h hb83
          refine g_sub hw (lv2 := [(0, .ref (gA G 268)), (1, .int l1_17), (2, .int l2_18), (3, .int l3_19), (4, .int l4_20), (5, .int l5_21)]) [0, 1, 2, 3, 4, 5] rfl ?_
          exact wX7_sheets_b169 hw hkf hR41 h
        · have h := gF h hb83
          exact wX7_sheets_b90 hw hkf hR41 h
theorem wX7_sheets_L41 {kf : Nat} {G : gG} {w : gM → Nat → List (Nat × Value) → List Value → Prop} {Q : Int64 → gM → Prop} (hw : gX yX7_sheets cX7_sheets 8 (Option.some FieldType.long) [] kf G (gQl Q) gE0 w) (hkf : 4 ≤ kf) {K175_41 : gM → Prop} {l1_17 : Int32} {l2_18 : Int32} {l3_19 : Int32} {l4_20 : Int32} (hK175_41 : ∀  (M : gM), K175_41 M → w M 175 [(0, .ref (gA G 268)), (4, .int l4_20)] []) : ∀ (n : Nat) (l5_21 : Int32) (M : gM), fX7_sheets_L41 K175_41 l1_17 l2_18 l3_19 l4_20 Q n l5_21 M → w M 41 [(0, .ref (gA G 268)), (1, .int l1_17), (2, .int l2_18), (3, .int l3_19), (4, .int l4_20), (5, .int l5_21)] [] := by
  intro n
  induction n with
  | zero => intro l5_21 M h; exact h.elim
  | succ n ih => intro l5_21 M h; exact wX7_sheets_L41s hw hkf ih hK175_41 h
def fX7_sheets_b188 (l4_89 : Int32) (s1_90 : Int32) (M : gM) (Q : Int64 → gM → Prop) : Prop :=
  gk M 268 = 7 ∧ (if (gI (gsI M 268 0 s1_90) 268 0) ≤ 0 then fX7_lowest l4_89 (gsI M 268 0 s1_90) (fun r94 M93 => Q r94 M93) else Q 0 (gsI M 268 0 s1_90))
theorem wX7_sheets_b188 {kf : Nat} {G : gG} {w : gM → Nat → List (Nat × Value) → List Value → Prop} {Q : Int64 → gM → Prop} (hw : gX yX7_sheets cX7_sheets 8 (Option.some FieldType.long) [] kf G (gQl Q) gE0 w) (hkf : 4 ≤ kf)  {l4_89 : Int32} {s1_90 : Int32} {M : gM}  (h : fX7_sheets_b188 l4_89 s1_90 M Q) : w M 188 [(0, .ref (gA G 268)), (4, .int l4_89)] [.int s1_90, .ref (gA G 268)] := by
  unfold fX7_sheets_b188 at h
  obtain ⟨hk91, h⟩ := h
  refine pfX7_1 hw rfl dX7_sheets_188 hk91 ?_
  refine g_aload_n hw 0 dX7_sheets_191 rfl ?_
  refine gfX7_1 hw rfl dX7_sheets_192 hk91 ?_
  refine g_if_le (tgt := 202) hw dX7_sheets_195 (by decide) (fun hb92 => ?_) (fun hb92 => ?_)
  · have h := gT h hb92
    refine g_aload_n hw 0 dX7_sheets_202 rfl ?_
    refine g_iload hw 1 dX7_sheets_203 rfl ?_
    refine sX7_321 hw rfl dX7_sheets_205 rfl (gK2 hkf) hk91 h (fun r94 M93 h => ?_)
    exact g_lret hw dX7_sheets_208 ⟨_, rfl, h⟩
  · have h := gF h hb92
    refine g_lconst (v := 0) hw dX7_sheets_198 (by decide) ?_
    refine g_goto (tgt := 208) hw dX7_sheets_199 (by decide) ?_
    exact g_lret hw dX7_sheets_208 ⟨_, rfl, h⟩
def fX7_sheets_b22 (l1_8 : Int32) (l2_9 : Int32) (l3_10 : Int32) (l4_11 : Int32) (s1_12 : Int32) (M : gM) (Q : Int64 → gM → Prop) : Prop :=
  gk M 268 = 7 ∧ (if (gI (gsI M 268 0 s1_12) 268 0) ≤ 0 then fX7_beginsSums (gsI M 268 0 s1_12) (fun M15 => ∃ n, fX7_sheets_L41 (fun M84 => gk M84 268 = 7 ∧ fX7_differs M84 (fun r87 M86 => (if r87 = 0 then fX7_sheets_b188 l4_11 1 M86 Q else fX7_sheets_b188 l4_11 0 M86 Q))) l1_8 l2_9 l3_10 l4_11 Q n 0 M15) else Q 0 (gsI M 268 0 s1_12))
theorem wX7_sheets_b22 {kf : Nat} {G : gG} {w : gM → Nat → List (Nat × Value) → List Value → Prop} {Q : Int64 → gM → Prop} (hw : gX yX7_sheets cX7_sheets 8 (Option.some FieldType.long) [] kf G (gQl Q) gE0 w) (hkf : 4 ≤ kf)  {l1_8 : Int32} {l2_9 : Int32} {l3_10 : Int32} {l4_11 : Int32} {s1_12 : Int32} {M : gM}  (h : fX7_sheets_b22 l1_8 l2_9 l3_10 l4_11 s1_12 M Q) : w M 22 [(0, .ref (gA G 268)), (1, .int l1_8), (2, .int l2_9), (3, .int l3_10), (4, .int l4_11)] [.int s1_12, .ref (gA G 268)] := by
  unfold fX7_sheets_b22 at h
  obtain ⟨hk13, h⟩ := h
  refine pfX7_1 hw rfl dX7_sheets_22 hk13 ?_
  refine g_aload_n hw 0 dX7_sheets_25 rfl ?_
  refine gfX7_1 hw rfl dX7_sheets_26 hk13 ?_
  refine g_if_le (tgt := 34) hw dX7_sheets_29 (by decide) (fun hb14 => ?_) (fun hb14 => ?_)
  · have h := gT h hb14
    refine g_aload_n hw 0 dX7_sheets_34 rfl ?_
    refine sX7_304 hw rfl dX7_sheets_35 rfl (gK2 hkf) hk13 h (fun M15 h => ?_)
    refine g_iconst (v := 0) hw dX7_sheets_38 (by decide) ?_
    refine g_istore hw (lv2 := [(0, .ref (gA G 268)), (1, .int l1_8), (2, .int l2_9), (3, .int l3_10), (4, .int l4_11), (5, .int 0)]) [1, 2, 3, 4, 5, 0] dX7_sheets_39 rfl rfl ?_
    obtain ⟨n9, h⟩ := h
    refine wX7_sheets_L41 hw hkf (fun M84 h => ?_) n9 0 M15 h
    refine g_aload_n hw 0 dX7_sheets_175 rfl ?_
    refine g_aload_n hw 0 dX7_sheets_176 rfl ?_
    obtain ⟨hk85, h⟩ := h
    refine sX7_311 hw rfl dX7_sheets_177 rfl (gK2 hkf) hk85 h (fun r87 M86 h => ?_)
    refine g_if_eq (tgt := 187) hw dX7_sheets_180 (by decide) (fun hb88 => ?_) (fun hb88 => ?_)
    · have h := gT h hb88
      refine g_iconst (v := 1) hw dX7_sheets_187 (by decide) ?_
      exact wX7_sheets_b188 hw hkf h
    · have h := gF h hb88
      refine g_iconst (v := 0) hw dX7_sheets_183 (by decide) ?_
      refine g_goto (tgt := 188) hw dX7_sheets_184 (by decide) ?_
      exact wX7_sheets_b188 hw hkf h
  · have h := gF h hb14
    refine g_lconst (v := 0) hw dX7_sheets_32 (by decide) ?_
    exact g_lret hw dX7_sheets_33 ⟨_, rfl, h⟩
def fX7_sheets_b21 (l1_4 : Int32) (l2_5 : Int32) (l3_6 : Int32) (l4_7 : Int32) (M : gM) (Q : Int64 → gM → Prop) : Prop :=
  fX7_sheets_b22 l1_4 l2_5 l3_6 l4_7 1 M Q
theorem wX7_sheets_b21 {kf : Nat} {G : gG} {w : gM → Nat → List (Nat × Value) → List Value → Prop} {Q : Int64 → gM → Prop} (hw : gX yX7_sheets cX7_sheets 8 (Option.some FieldType.long) [] kf G (gQl Q) gE0 w) (hkf : 4 ≤ kf)  {l1_4 : Int32} {l2_5 : Int32} {l3_6 : Int32} {l4_7 : Int32} {M : gM}  (h : fX7_sheets_b21 l1_4 l2_5 l3_6 l4_7 M Q) : w M 21 [(0, .ref (gA G 268)), (1, .int l1_4), (2, .int l2_5), (3, .int l3_6), (4, .int l4_7)] [.ref (gA G 268)] := by
  unfold fX7_sheets_b21 at h
  refine g_iconst (v := 1) hw dX7_sheets_21 (by decide) ?_
  exact wX7_sheets_b22 hw hkf h
def fX7_sheets (p1 : Int32) (p2 : Int32) (p3 : Int32) (p4 : Int32) (M : gM) (Q : Int64 → gM → Prop) : Prop :=
  fX7_areMonths p1 p2 M (fun r2 M1 => (if r2 = 0 then fX7_sheets_b21 p1 p2 p3 p4 M1 Q else fX7_isWhat p4 M1 (fun r96 M95 => (if r96 = 0 then fX7_sheets_b21 p1 p2 p3 p4 M95 Q else fX7_sheets_b22 p1 p2 p3 p4 0 M95 Q))))
theorem mX7_sheets {kf : Nat} (hkf : 4 ≤ kf) (G : gG) (p1 : Int32) (p2 : Int32) (p3 : Int32) (p4 : Int32) (M : gM) (Q : Int64 → gM → Prop) (h : fX7_sheets p1 p2 p3 p4 M Q) : gMet yX7_sheets cX7_sheets 8 (Option.some FieldType.long) kf G M [.ref (gA G 268), .int p1, .int p2, .int p3, .int p4] (gQl Q) gE0 := by
  refine g_intro (lv := [(0, .ref (gA G 268)), (1, .int p1), (2, .int p2), (3, .int p3), (4, .int p4)]) (by decide) rfl rfl (fun w hw => ?_)
  unfold fX7_sheets at h
  refine g_aload_n hw 0 dX7_sheets_0 rfl ?_
  refine g_iload_n hw 1 dX7_sheets_1 rfl ?_
  refine g_iload_n hw 2 dX7_sheets_2 rfl ?_
  refine sX7_270 hw rfl dX7_sheets_3 rfl (gK2 hkf) h (fun r2 M1 h => ?_)
  refine g_if_eq (tgt := 21) hw dX7_sheets_6 (by decide) (fun hb3 => ?_) (fun hb3 => ?_)
  · have h := gT h hb3
    exact wX7_sheets_b21 hw hkf h
  · have h := gF h hb3
    refine g_iload hw 4 dX7_sheets_9 rfl ?_
    refine sX7_315 hw rfl dX7_sheets_11 rfl (gK2 hkf) h (fun r96 M95 h => ?_)
    refine g_if_eq (tgt := 21) hw dX7_sheets_14 (by decide) (fun hb97 => ?_) (fun hb97 => ?_)
    · have h := gT h hb97
      exact wX7_sheets_b21 hw hkf h
    · have h := gF h hb97
      refine g_iconst (v := 0) hw dX7_sheets_17 (by decide) ?_
      refine g_goto (tgt := 22) hw dX7_sheets_18 (by decide) ?_
      exact wX7_sheets_b22 hw hkf h
theorem gfX7_133 {y0 : MethodName} {cc : ByteArray} {nL : Nat} {ret : Option FieldType} {hh : List (Nat × Nat × Nat × Nat)} {kf : Nat} {G : gG} {Qv : Option Value → gM → Prop} {E : String → Nat → gM → Prop} {w : gM → Nat → List (Nat × Value) → List Value → Prop} {M : gM} {pc : Nat} {lv : List (Nat × Value)} {rest : List Value} (hw : gX y0 cc nL ret hh kf G Qv E w) (hy : y0.cls = RX7) {c : Nat} {q : Option Nat} (d : decode cc pc = .ok (.getfield 133, 3)) (hk : gk M c = 7) (hq : gR M c 30 = q) (kk : w M (pc + 3) lv (va_rf (q.map (gA G)) :: rest)) : w M pc lv (.ref (gA G c) :: rest) := by
  obtain ⟨cls9, nm9, ds9⟩ := y0
  subst hy
  subst hq
  exact g_getC (C := RX7) (T := TX7) (N := 58) (ci := 6) hw in_X7 rfl 30 (by decide) (Or.inl q1186) rfl d hk kk
def fX7_sumOf_b105 (R6 : Int32 → Int32 → gM → Prop) (l1_1 : Int32) (l2_2 : Int32) (l3_3 : Int32) (l4_4 : Int32) (l5_5 : Int32) (l6_13 : Int32) (l7_14 : Int32) (M : gM) (Q : Int64 → gM → Prop) : Prop :=
  R6 l6_13 (l7_14 + 1) M
theorem wX7_sumOf_b105 {kf : Nat} {G : gG} {w : gM → Nat → List (Nat × Value) → List Value → Prop} {Q : Int64 → gM → Prop} (hw : gX yX7_sumOf cX7_sumOf 10 (Option.some FieldType.long) [] kf G (gQl Q) gE0 w) (hkf : 4 ≤ kf) {R6 : Int32 → Int32 → gM → Prop} {l1_1 : Int32} {l2_2 : Int32} {l3_3 : Int32} {l4_4 : Int32} {l5_5 : Int32} {l6_13 : Int32} {l7_14 : Int32} {M : gM} (hR6 : ∀ (v0 : Int32) (v1 : Int32) (M : gM), R6 v0 v1 M → w M 6 [(0, .ref (gA G 268)), (1, .int l1_1), (2, .int l2_2), (3, .int l3_3), (4, .int l4_4), (5, .int l5_5), (6, .int v0), (7, .int v1)] []) (h : fX7_sumOf_b105 R6 l1_1 l2_2 l3_3 l4_4 l5_5 l6_13 l7_14 M Q) : w M 105 [(0, .ref (gA G 268)), (1, .int l1_1), (2, .int l2_2), (3, .int l3_3), (4, .int l4_4), (5, .int l5_5), (6, .int l6_13), (7, .int l7_14)] [] := by
  unfold fX7_sumOf_b105 at h
  refine g_iinc hw (lv2 := [(0, .ref (gA G 268)), (1, .int l1_1), (2, .int l2_2), (3, .int l3_3), (4, .int l4_4), (5, .int l5_5), (6, .int l6_13), (7, .int (l7_14 + 1))]) 7 [1, 2, 3, 4, 5, 6, 7, 0] dX7_sumOf_105 rfl (by decide) rfl rfl ?_
  refine g_goto (tgt := 6) hw dX7_sumOf_108 (by decide) ?_
  exact hR6 l6_13 (l7_14 + 1) M h
def fX7_sumOf_L52s (R52 : Int32 → gM → Prop) (K93_52 : Int32 → gM → Prop) (l1_1 : Int32) (l2_2 : Int32) (l3_3 : Int32) (l4_4 : Int32) (l5_5 : Int32) (l6_23 : Int32) (l7_24 : Int32) (l8_25 : Int32) (l9_26 : Int32) (M : gM) (Q : Int64 → gM → Prop) : Prop :=
  (if l9_26 ≤ 0 then K93_52 l9_26 M else gk M 268 = 7 ∧ gdr (gR M 268 30) (fun a29 => gk M a29 = 40 ∧ vp_in (l9_26 - 1) (gl M a29) ∧ (if (gI M a29 ((l9_26 - 1).toNatClampNeg)) ≤ l8_25 then K93_52 l9_26 M else gdr (gR M 268 30) (fun a34 => gdr (gR M 268 30) (fun a36 => gk M a36 = 40 ∧ vp_in (l9_26 - 1) (gl M a36) ∧ gk M a34 = 40 ∧ vp_in l9_26 (gl M a34) ∧ R52 (l9_26 + (-1)) (gsI M a34 l9_26.toNatClampNeg (gI M a36 ((l9_26 - 1).toNatClampNeg))))))))
def fX7_sumOf_L52 (K93_52 : Int32 → gM → Prop) (l1_1 : Int32) (l2_2 : Int32) (l3_3 : Int32) (l4_4 : Int32) (l5_5 : Int32) (l6_23 : Int32) (l7_24 : Int32) (l8_25 : Int32) (Q : Int64 → gM → Prop) : Nat → Int32 → gM → Prop
  | 0 => fun _ _ => False
  | n + 1 => fun l9_26 M => fX7_sumOf_L52s (fX7_sumOf_L52 K93_52 l1_1 l2_2 l3_3 l4_4 l5_5 l6_23 l7_24 l8_25 Q n) K93_52 l1_1 l2_2 l3_3 l4_4 l5_5 l6_23 l7_24 l8_25 l9_26 M Q
theorem wX7_sumOf_L52s {kf : Nat} {G : gG} {w : gM → Nat → List (Nat × Value) → List Value → Prop} {Q : Int64 → gM → Prop} (hw : gX yX7_sumOf cX7_sumOf 10 (Option.some FieldType.long) [] kf G (gQl Q) gE0 w) (hkf : 4 ≤ kf) {R52 : Int32 → gM → Prop} {K93_52 : Int32 → gM → Prop} {l1_1 : Int32} {l2_2 : Int32} {l3_3 : Int32} {l4_4 : Int32} {l5_5 : Int32} {l6_23 : Int32} {l7_24 : Int32} {l8_25 : Int32} {l9_26 : Int32} {M : gM} (hR52 : ∀ (v0 : Int32) (M : gM), R52 v0 M → w M 52 [(0, .ref (gA G 268)), (1, .int l1_1), (2, .int l2_2), (3, .int l3_3), (4, .int l4_4), (5, .int l5_5), (6, .int l6_23), (7, .int l7_24), (8, .int l8_25), (9, .int v0)] []) (hK93_52 : ∀ (v0 : Int32) (M : gM), K93_52 v0 M → w M 93 [(0, .ref (gA G 268)), (1, .int l1_1), (2, .int l2_2), (3, .int l3_3), (4, .int l4_4), (5, .int l5_5), (6, .int l6_23), (7, .int l7_24), (8, .int l8_25), (9, .int v0)] []) (h : fX7_sumOf_L52s R52 K93_52 l1_1 l2_2 l3_3 l4_4 l5_5 l6_23 l7_24 l8_25 l9_26 M Q) : w M 52 [(0, .ref (gA G 268)), (1, .int l1_1), (2, .int l2_2), (3, .int l3_3), (4, .int l4_4), (5, .int l5_5), (6, .int l6_23), (7, .int l7_24), (8, .int l8_25), (9, .int l9_26)] [] := by
  unfold fX7_sumOf_L52s at h
  refine g_iload hw 9 dX7_sumOf_52 rfl ?_
  refine g_if_le (tgt := 93) hw dX7_sumOf_54 (by decide) (fun hb27 => ?_) (fun hb27 => ?_)
  · have h := gT h hb27
    exact hK93_52 l9_26 M h
  · have h := gF h hb27
    refine g_aload_n hw 0 dX7_sumOf_57 rfl ?_
    obtain ⟨hk28, h⟩ := h
    obtain ⟨a29, e30, h⟩ := h
    refine gfX7_133 (q := some a29) hw rfl dX7_sumOf_58 hk28 e30 ?_
    refine g_iload hw 9 dX7_sumOf_61 rfl ?_
    refine g_iconst (v := 1) hw dX7_sumOf_63 (by decide) ?_
    refine g_isub hw dX7_sumOf_64 ?_
    obtain ⟨hk31, h⟩ := h
    obtain ⟨hi32, h⟩ := h
    refine g_iald (n := (l9_26 - 1).toNatClampNeg) hw dX7_sumOf_65 hk31 hi32 rfl ?_
    refine g_iload hw 8 dX7_sumOf_66 rfl ?_
    refine g_icmp_le (tgt := 93) hw dX7_sumOf_68 (by decide) (fun hb33 => ?_) (fun hb33 => ?_)
    · have h := gT h hb33
      exact hK93_52 l9_26 M h
    · have h := gF h hb33
      refine g_aload_n hw 0 dX7_sumOf_71 rfl ?_
      obtain ⟨a34, e35, h⟩ := h
      refine gfX7_133 (q := some a34) hw rfl dX7_sumOf_72 hk28 e35 ?_
      refine g_iload hw 9 dX7_sumOf_75 rfl ?_
      refine g_aload_n hw 0 dX7_sumOf_77 rfl ?_
      obtain ⟨a36, e37, h⟩ := h
      refine gfX7_133 (q := some a36) hw rfl dX7_sumOf_78 hk28 e37 ?_
      refine g_iload hw 9 dX7_sumOf_81 rfl ?_
      refine g_iconst (v := 1) hw dX7_sumOf_83 (by decide) ?_
      refine g_isub hw dX7_sumOf_84 ?_
      obtain ⟨hk38, h⟩ := h
      obtain ⟨hi39, h⟩ := h
      refine g_iald (n := (l9_26 - 1).toNatClampNeg) hw dX7_sumOf_85 hk38 hi39 rfl ?_
      obtain ⟨hk40, h⟩ := h
      obtain ⟨hi41, h⟩ := h
      refine g_iast (n := l9_26.toNatClampNeg) hw dX7_sumOf_86 hk40 hi41 rfl ?_
      refine g_iinc hw (lv2 := [(0, .ref (gA G 268)), (1, .int l1_1), (2, .int l2_2), (3, .int l3_3), (4, .int l4_4), (5, .int l5_5), (6, .int l6_23), (7, .int l7_24), (8, .int l8_25), (9, .int (l9_26 + (-1)))]) 9 [1, 2, 3, 4, 5, 6, 7, 8, 9, 0] dX7_sumOf_87 rfl (by decide) rfl rfl ?_
      refine g_goto (tgt := 52) hw dX7_sumOf_90 (by decide) ?_
      exact hR52 (l9_26 + (-1)) (gsI M a34 l9_26.toNatClampNeg (gI M a36 ((l9_26 - 1).toNatClampNeg))) h
theorem wX7_sumOf_L52 {kf : Nat} {G : gG} {w : gM → Nat → List (Nat × Value) → List Value → Prop} {Q : Int64 → gM → Prop} (hw : gX yX7_sumOf cX7_sumOf 10 (Option.some FieldType.long) [] kf G (gQl Q) gE0 w) (hkf : 4 ≤ kf) {K93_52 : Int32 → gM → Prop} {l1_1 : Int32} {l2_2 : Int32} {l3_3 : Int32} {l4_4 : Int32} {l5_5 : Int32} {l6_23 : Int32} {l7_24 : Int32} {l8_25 : Int32} (hK93_52 : ∀ (v0 : Int32) (M : gM), K93_52 v0 M → w M 93 [(0, .ref (gA G 268)), (1, .int l1_1), (2, .int l2_2), (3, .int l3_3), (4, .int l4_4), (5, .int l5_5), (6, .int l6_23), (7, .int l7_24), (8, .int l8_25), (9, .int v0)] []) : ∀ (n : Nat) (l9_26 : Int32) (M : gM), fX7_sumOf_L52 K93_52 l1_1 l2_2 l3_3 l4_4 l5_5 l6_23 l7_24 l8_25 Q n l9_26 M → w M 52 [(0, .ref (gA G 268)), (1, .int l1_1), (2, .int l2_2), (3, .int l3_3), (4, .int l4_4), (5, .int l5_5), (6, .int l6_23), (7, .int l7_24), (8, .int l8_25), (9, .int l9_26)] [] := by
  intro n
  induction n with
  | zero => intro l9_26 M h; exact h.elim
  | succ n ih => intro l9_26 M h; exact wX7_sumOf_L52s hw hkf ih hK93_52 h
def fX7_sumOf_b93 (R6 : Int32 → Int32 → gM → Prop) (l1_1 : Int32) (l2_2 : Int32) (l3_3 : Int32) (l4_4 : Int32) (l5_5 : Int32) (l6_44 : Int32) (l7_45 : Int32) (l8_46 : Int32) (l9_47 : Int32) (M : gM) (Q : Int64 → gM → Prop) : Prop :=
  gk M 268 = 7 ∧ gdr (gR M 268 30) (fun a49 => gk M a49 = 40 ∧ vp_in l9_47 (gl M a49) ∧ fX7_sumOf_b105 R6 l1_1 l2_2 l3_3 l4_4 l5_5 (l6_44 + 1) l7_45 (gsI M a49 l9_47.toNatClampNeg l8_46) Q)
theorem wX7_sumOf_b93 {kf : Nat} {G : gG} {w : gM → Nat → List (Nat × Value) → List Value → Prop} {Q : Int64 → gM → Prop} (hw : gX yX7_sumOf cX7_sumOf 10 (Option.some FieldType.long) [] kf G (gQl Q) gE0 w) (hkf : 4 ≤ kf) {R6 : Int32 → Int32 → gM → Prop} {l1_1 : Int32} {l2_2 : Int32} {l3_3 : Int32} {l4_4 : Int32} {l5_5 : Int32} {l6_44 : Int32} {l7_45 : Int32} {l8_46 : Int32} {l9_47 : Int32} {M : gM} (hR6 : ∀ (v0 : Int32) (v1 : Int32) (M : gM), R6 v0 v1 M → w M 6 [(0, .ref (gA G 268)), (1, .int l1_1), (2, .int l2_2), (3, .int l3_3), (4, .int l4_4), (5, .int l5_5), (6, .int v0), (7, .int v1)] []) (h : fX7_sumOf_b93 R6 l1_1 l2_2 l3_3 l4_4 l5_5 l6_44 l7_45 l8_46 l9_47 M Q) : w M 93 [(0, .ref (gA G 268)), (1, .int l1_1), (2, .int l2_2), (3, .int l3_3), (4, .int l4_4), (5, .int l5_5), (6, .int l6_44), (7, .int l7_45), (8, .int l8_46), (9, .int l9_47)] [] := by
  unfold fX7_sumOf_b93 at h
  refine g_aload_n hw 0 dX7_sumOf_93 rfl ?_
  obtain ⟨hk48, h⟩ := h
  obtain ⟨a49, e50, h⟩ := h
  refine gfX7_133 (q := some a49) hw rfl dX7_sumOf_94 hk48 e50 ?_
  refine g_iload hw 9 dX7_sumOf_97 rfl ?_
  refine g_iload hw 8 dX7_sumOf_99 rfl ?_
  obtain ⟨hk51, h⟩ := h
  obtain ⟨hi52, h⟩ := h
  refine g_iast (n := l9_47.toNatClampNeg) hw dX7_sumOf_101 hk51 hi52 rfl ?_
  refine g_iinc hw (lv2 := [(0, .ref (gA G 268)), (1, .int l1_1), (2, .int l2_2), (3, .int l3_3), (4, .int l4_4), (5, .int l5_5), (6, .int (l6_44 + 1)), (7, .int l7_45)]) 6 [1, 2, 3, 4, 5, 6, 0, 7] dX7_sumOf_102 rfl (by decide) rfl rfl ?_
  exact wX7_sumOf_b105 hw hkf hR6 h
def fX7_sumOf_L6s (R6 : Int32 → Int32 → gM → Prop) (K111_6 : Int32 → gM → Prop) (l1_1 : Int32) (l2_2 : Int32) (l3_3 : Int32) (l4_4 : Int32) (l5_5 : Int32) (l6_6 : Int32) (l7_7 : Int32) (M : gM) (Q : Int64 → gM → Prop) : Prop :=
  (if 24 ≤ l7_7 then K111_6 l6_6 M else gk M 268 = 7 ∧ fX7_isCounted l7_7 l2_2 l3_3 M (fun r11 M10 => (if r11 = 0 then fX7_sumOf_b105 R6 l1_1 l2_2 l3_3 l4_4 l5_5 l6_6 l7_7 M10 Q else gk M10 268 = 7 ∧ gdr (gR M10 268 11) (fun a16 => gk M10 a16 = 40 ∧ vp_in l7_7 (gl M10 a16) ∧ (if (gI M10 a16 l7_7.toNatClampNeg) = l1_1 then fX7_changeOf l7_7 l2_2 l3_3 M10 (fun r22 M21 => ∃ n, fX7_sumOf_L52 (fun l9_42 M43 => fX7_sumOf_b93 R6 l1_1 l2_2 l3_3 l4_4 l5_5 l6_6 l7_7 (l5_5 * r22) l9_42 M43 Q) l1_1 l2_2 l3_3 l4_4 l5_5 l6_6 l7_7 (l5_5 * r22) Q n l6_6 M21) else fX7_sumOf_b105 R6 l1_1 l2_2 l3_3 l4_4 l5_5 l6_6 l7_7 M10 Q)))))
def fX7_sumOf_L6 (K111_6 : Int32 → gM → Prop) (l1_1 : Int32) (l2_2 : Int32) (l3_3 : Int32) (l4_4 : Int32) (l5_5 : Int32) (Q : Int64 → gM → Prop) : Nat → Int32 → Int32 → gM → Prop
  | 0 => fun _ _ _ => False
  | n + 1 => fun l6_6 l7_7 M => fX7_sumOf_L6s (fX7_sumOf_L6 K111_6 l1_1 l2_2 l3_3 l4_4 l5_5 Q n) K111_6 l1_1 l2_2 l3_3 l4_4 l5_5 l6_6 l7_7 M Q
theorem wX7_sumOf_L6s {kf : Nat} {G : gG} {w : gM → Nat → List (Nat × Value) → List Value → Prop} {Q : Int64 → gM → Prop} (hw : gX yX7_sumOf cX7_sumOf 10 (Option.some FieldType.long) [] kf G (gQl Q) gE0 w) (hkf : 4 ≤ kf) {R6 : Int32 → Int32 → gM → Prop} {K111_6 : Int32 → gM → Prop} {l1_1 : Int32} {l2_2 : Int32} {l3_3 : Int32} {l4_4 : Int32} {l5_5 : Int32} {l6_6 : Int32} {l7_7 : Int32} {M : gM} (hR6 : ∀ (v0 : Int32) (v1 : Int32) (M : gM), R6 v0 v1 M → w M 6 [(0, .ref (gA G 268)), (1, .int l1_1), (2, .int l2_2), (3, .int l3_3), (4, .int l4_4), (5, .int l5_5), (6, .int v0), (7, .int v1)] []) (hK111_6 : ∀ (v0 : Int32) (M : gM), K111_6 v0 M → w M 111 [(0, .ref (gA G 268)), (4, .int l4_4), (5, .int l5_5), (6, .int v0)] []) (h : fX7_sumOf_L6s R6 K111_6 l1_1 l2_2 l3_3 l4_4 l5_5 l6_6 l7_7 M Q) : w M 6 [(0, .ref (gA G 268)), (1, .int l1_1), (2, .int l2_2), (3, .int l3_3), (4, .int l4_4), (5, .int l5_5), (6, .int l6_6), (7, .int l7_7)] [] := by
  unfold fX7_sumOf_L6s at h
  refine g_iload hw 7 dX7_sumOf_6 rfl ?_
  refine g_bipush (v := 24) hw dX7_sumOf_8 (by decide) ?_
  refine g_icmp_ge (tgt := 111) hw dX7_sumOf_10 (by decide) (fun hb8 => ?_) (fun hb8 => ?_)
  · have h := gT h hb8
    refine g_sub hw (lv2 := [(0, .ref (gA G 268)), (4, .int l4_4), (5, .int l5_5), (6, .int l6_6)]) [0, 4, 5, 6] rfl ?_
    exact hK111_6 l6_6 M h
  · have h := gF h hb8
    refine g_aload_n hw 0 dX7_sumOf_13 rfl ?_
    refine g_iload hw 7 dX7_sumOf_14 rfl ?_
    refine g_iload_n hw 2 dX7_sumOf_16 rfl ?_
    refine g_iload_n hw 3 dX7_sumOf_17 rfl ?_
    obtain ⟨hk9, h⟩ := h
    refine sX7_274 hw rfl dX7_sumOf_18 rfl (gK2 hkf) hk9 h (fun r11 M10 h => ?_)
    refine g_if_eq (tgt := 105) hw dX7_sumOf_21 (by decide) (fun hb12 => ?_) (fun hb12 => ?_)
    · have h := gT h hb12
      exact wX7_sumOf_b105 hw hkf hR6 h
    · have h := gF h hb12
      refine g_aload_n hw 0 dX7_sumOf_24 rfl ?_
      obtain ⟨hk15, h⟩ := h
      obtain ⟨a16, e17, h⟩ := h
      refine gfX7_97 (q := some a16) hw rfl dX7_sumOf_25 hk15 e17 ?_
      refine g_iload hw 7 dX7_sumOf_28 rfl ?_
      obtain ⟨hk18, h⟩ := h
      obtain ⟨hi19, h⟩ := h
      refine g_iald (n := l7_7.toNatClampNeg) hw dX7_sumOf_30 hk18 hi19 rfl ?_
      refine g_iload_n hw 1 dX7_sumOf_31 rfl ?_
      refine g_icmp_ne (tgt := 105) hw dX7_sumOf_32 (by decide) (fun hb20 => ?_) (fun hb20 => ?_)
      · have h := gF h hb20
        exact wX7_sumOf_b105 hw hkf hR6 h
      · have h := gT h hb20
        refine g_iload hw 5 dX7_sumOf_35 rfl ?_
        refine g_aload_n hw 0 dX7_sumOf_37 rfl ?_
        refine g_iload hw 7 dX7_sumOf_38 rfl ?_
        refine g_iload_n hw 2 dX7_sumOf_40 rfl ?_
        refine g_iload_n hw 3 dX7_sumOf_41 rfl ?_
        refine sX7_277 hw rfl dX7_sumOf_42 rfl (gK2 hkf) hk15 h (fun r22 M21 h => ?_)
        refine g_imul hw dX7_sumOf_45 ?_
        refine g_istore hw (lv2 := [(0, .ref (gA G 268)), (1, .int l1_1), (2, .int l2_2), (3, .int l3_3), (4, .int l4_4), (5, .int l5_5), (6, .int l6_6), (7, .int l7_7), (8, .int (l5_5 * r22))]) [1, 2, 3, 4, 5, 6, 7, 8, 0] dX7_sumOf_46 rfl rfl ?_
        refine g_iload hw 6 dX7_sumOf_48 rfl ?_
        refine g_istore hw (lv2 := [(0, .ref (gA G 268)), (1, .int l1_1), (2, .int l2_2), (3, .int l3_3), (4, .int l4_4), (5, .int l5_5), (6, .int l6_6), (7, .int l7_7), (8, .int (l5_5 * r22)), (9, .int l6_6)]) [1, 2, 3, 4, 5, 6, 7, 8, 9, 0] dX7_sumOf_50 rfl rfl ?_
        obtain ⟨n9, h⟩ := h
        refine wX7_sumOf_L52 hw hkf (fun l9_42 M43 h => ?_) n9 l6_6 M21 h
        exact wX7_sumOf_b93 hw hkf hR6 h
theorem wX7_sumOf_L6 {kf : Nat} {G : gG} {w : gM → Nat → List (Nat × Value) → List Value → Prop} {Q : Int64 → gM → Prop} (hw : gX yX7_sumOf cX7_sumOf 10 (Option.some FieldType.long) [] kf G (gQl Q) gE0 w) (hkf : 4 ≤ kf) {K111_6 : Int32 → gM → Prop} {l1_1 : Int32} {l2_2 : Int32} {l3_3 : Int32} {l4_4 : Int32} {l5_5 : Int32} (hK111_6 : ∀ (v0 : Int32) (M : gM), K111_6 v0 M → w M 111 [(0, .ref (gA G 268)), (4, .int l4_4), (5, .int l5_5), (6, .int v0)] []) : ∀ (n : Nat) (l6_6 : Int32) (l7_7 : Int32) (M : gM), fX7_sumOf_L6 K111_6 l1_1 l2_2 l3_3 l4_4 l5_5 Q n l6_6 l7_7 M → w M 6 [(0, .ref (gA G 268)), (1, .int l1_1), (2, .int l2_2), (3, .int l3_3), (4, .int l4_4), (5, .int l5_5), (6, .int l6_6), (7, .int l7_7)] [] := by
  intro n
  induction n with
  | zero => intro l6_6 l7_7 M h; exact h.elim
  | succ n ih => intro l6_6 l7_7 M h; exact wX7_sumOf_L6s hw hkf ih hK111_6 h
def fX7_sumOf_L117s (R117 : Int64 → Int32 → gM → Prop) (K150_117 : Int64 → gM → Prop) (l4_55 : Int32) (l5_56 : Int32) (l6_57 : Int32) (l7_58 : Int64) (l9_59 : Int32) (M : gM) (Q : Int64 → gM → Prop) : Prop :=
  (if l4_55 ≤ l9_59 then K150_117 l7_58 M else (if l6_57 ≤ l9_59 then K150_117 l7_58 M else gk M 268 = 7 ∧ gdr (gR M 268 30) (fun a63 => gk M a63 = 40 ∧ vp_in l9_59 (gl M a63) ∧ R117 (l7_58 + ((gI M a63 l9_59.toNatClampNeg).toInt64)) (l9_59 + 1) M)))
def fX7_sumOf_L117 (K150_117 : Int64 → gM → Prop) (l4_55 : Int32) (l5_56 : Int32) (l6_57 : Int32) (Q : Int64 → gM → Prop) : Nat → Int64 → Int32 → gM → Prop
  | 0 => fun _ _ _ => False
  | n + 1 => fun l7_58 l9_59 M => fX7_sumOf_L117s (fX7_sumOf_L117 K150_117 l4_55 l5_56 l6_57 Q n) K150_117 l4_55 l5_56 l6_57 l7_58 l9_59 M Q
theorem wX7_sumOf_L117s {kf : Nat} {G : gG} {w : gM → Nat → List (Nat × Value) → List Value → Prop} {Q : Int64 → gM → Prop} (hw : gX yX7_sumOf cX7_sumOf 10 (Option.some FieldType.long) [] kf G (gQl Q) gE0 w) (hkf : 4 ≤ kf) {R117 : Int64 → Int32 → gM → Prop} {K150_117 : Int64 → gM → Prop} {l4_55 : Int32} {l5_56 : Int32} {l6_57 : Int32} {l7_58 : Int64} {l9_59 : Int32} {M : gM} (hR117 : ∀ (v0 : Int64) (v1 : Int32) (M : gM), R117 v0 v1 M → w M 117 [(0, .ref (gA G 268)), (4, .int l4_55), (5, .int l5_56), (6, .int l6_57), (7, .long v0), (9, .int v1)] []) (hK150_117 : ∀ (v0 : Int64) (M : gM), K150_117 v0 M → w M 150 [(5, .int l5_56), (7, .long v0)] []) (h : fX7_sumOf_L117s R117 K150_117 l4_55 l5_56 l6_57 l7_58 l9_59 M Q) : w M 117 [(0, .ref (gA G 268)), (4, .int l4_55), (5, .int l5_56), (6, .int l6_57), (7, .long l7_58), (9, .int l9_59)] [] := by
  unfold fX7_sumOf_L117s at h
  refine g_iload hw 5 dX7_sumOf_117 rfl ?_
  refine g_iload hw 1 dX7_sumOf_119 rfl ?_
  refine g_icmp_ge (tgt := 150) hw dX7_sumOf_121 (by decide) (fun hb60 => ?_) (fun hb60 => ?_)
  · have h := gT h hb60
    refine g_sub hw (lv2 := [(5, .int l5_56), (7, .long l7_58)]) [2, 4] rfl ?_
    exact hK150_117 l7_58 M h
  · have h := gF h hb60
    refine g_iload hw 5 dX7_sumOf_124 rfl ?_
    refine g_iload hw 3 dX7_sumOf_126 rfl ?_
    refine g_icmp_ge (tgt := 150) hw dX7_sumOf_128 (by decide) (fun hb61 => ?_) (fun hb61 => ?_)
    · have h := gT h hb61
      refine g_sub hw (lv2 := [(5, .int l5_56), (7, .long l7_58)]) [2, 4] rfl ?_
      exact hK150_117 l7_58 M h
    · have h := gF h hb61
      refine g_lload hw 4 dX7_sumOf_131 rfl ?_
      refine g_aload_n hw 0 dX7_sumOf_133 rfl ?_
      obtain ⟨hk62, h⟩ := h
      obtain ⟨a63, e64, h⟩ := h
      refine gfX7_133 (q := some a63) hw rfl dX7_sumOf_134 hk62 e64 ?_
      refine g_iload hw 5 dX7_sumOf_137 rfl ?_
      obtain ⟨hk65, h⟩ := h
      obtain ⟨hi66, h⟩ := h
      refine g_iald (n := l9_59.toNatClampNeg) hw dX7_sumOf_139 hk65 hi66 rfl ?_
      refine g_i2l hw dX7_sumOf_140 ?_
      refine g_ladd hw dX7_sumOf_141 ?_
      refine g_lstore hw (lv2 := [(0, .ref (gA G 268)), (4, .int l4_55), (5, .int l5_56), (6, .int l6_57), (7, .long (l7_58 + ((gI M a63 l9_59.toNatClampNeg).toInt64))), (9, .int l9_59)]) [1, 2, 3, 4, 0, 5] dX7_sumOf_142 rfl rfl ?_
      refine g_iinc hw (lv2 := [(0, .ref (gA G 268)), (4, .int l4_55), (5, .int l5_56), (6, .int l6_57), (7, .long (l7_58 + ((gI M a63 l9_59.toNatClampNeg).toInt64))), (9, .int (l9_59 + 1))]) 5 [1, 2, 3, 4, 5, 0] dX7_sumOf_144 rfl (by decide) rfl rfl ?_
      refine g_goto (tgt := 117) hw dX7_sumOf_147 (by decide) ?_
      exact hR117 (l7_58 + ((gI M a63 l9_59.toNatClampNeg).toInt64)) (l9_59 + 1) M h
theorem wX7_sumOf_L117 {kf : Nat} {G : gG} {w : gM → Nat → List (Nat × Value) → List Value → Prop} {Q : Int64 → gM → Prop} (hw : gX yX7_sumOf cX7_sumOf 10 (Option.some FieldType.long) [] kf G (gQl Q) gE0 w) (hkf : 4 ≤ kf) {K150_117 : Int64 → gM → Prop} {l4_55 : Int32} {l5_56 : Int32} {l6_57 : Int32} (hK150_117 : ∀ (v0 : Int64) (M : gM), K150_117 v0 M → w M 150 [(5, .int l5_56), (7, .long v0)] []) : ∀ (n : Nat) (l7_58 : Int64) (l9_59 : Int32) (M : gM), fX7_sumOf_L117 K150_117 l4_55 l5_56 l6_57 Q n l7_58 l9_59 M → w M 117 [(0, .ref (gA G 268)), (4, .int l4_55), (5, .int l5_56), (6, .int l6_57), (7, .long l7_58), (9, .int l9_59)] [] := by
  intro n
  induction n with
  | zero => intro l7_58 l9_59 M h; exact h.elim
  | succ n ih => intro l7_58 l9_59 M h; exact wX7_sumOf_L117s hw hkf ih hK150_117 h
def fX7_sumOf_b150 (l5_69 : Int32) (l7_70 : Int64) (M : gM) (Q : Int64 → gM → Prop) : Prop :=
  Q (l5_69.toInt64 * l7_70) M
theorem wX7_sumOf_b150 {kf : Nat} {G : gG} {w : gM → Nat → List (Nat × Value) → List Value → Prop} {Q : Int64 → gM → Prop} (hw : gX yX7_sumOf cX7_sumOf 10 (Option.some FieldType.long) [] kf G (gQl Q) gE0 w) (hkf : 4 ≤ kf)  {l5_69 : Int32} {l7_70 : Int64} {M : gM}  (h : fX7_sumOf_b150 l5_69 l7_70 M Q) : w M 150 [(5, .int l5_69), (7, .long l7_70)] [] := by
  unfold fX7_sumOf_b150 at h
  refine g_iload hw 0 dX7_sumOf_150 rfl ?_
  refine g_i2l hw dX7_sumOf_152 ?_
  refine g_lload hw 1 dX7_sumOf_153 rfl ?_
  refine g_lmul hw dX7_sumOf_155 ?_
  exact g_lret hw dX7_sumOf_156 ⟨_, rfl, h⟩
def fX7_sumOf (p1 : Int32) (p2 : Int32) (p3 : Int32) (p4 : Int32) (p5 : Int32) (M : gM) (Q : Int64 → gM → Prop) : Prop :=
  ∃ n, fX7_sumOf_L6 (fun l6_53 M54 => ∃ n, fX7_sumOf_L117 (fun l7_67 M68 => fX7_sumOf_b150 p5 l7_67 M68 Q) p4 p5 l6_53 Q n 0 0 M54) p1 p2 p3 p4 p5 Q n 0 0 M
theorem mX7_sumOf {kf : Nat} (hkf : 4 ≤ kf) (G : gG) (p1 : Int32) (p2 : Int32) (p3 : Int32) (p4 : Int32) (p5 : Int32) (M : gM) (Q : Int64 → gM → Prop) (h : fX7_sumOf p1 p2 p3 p4 p5 M Q) : gMet yX7_sumOf cX7_sumOf 10 (Option.some FieldType.long) kf G M [.ref (gA G 268), .int p1, .int p2, .int p3, .int p4, .int p5] (gQl Q) gE0 := by
  refine g_intro (lv := [(0, .ref (gA G 268)), (1, .int p1), (2, .int p2), (3, .int p3), (4, .int p4), (5, .int p5)]) (by decide) rfl rfl (fun w hw => ?_)
  unfold fX7_sumOf at h
  refine g_iconst (v := 0) hw dX7_sumOf_0 (by decide) ?_
  refine g_istore hw (lv2 := [(0, .ref (gA G 268)), (1, .int p1), (2, .int p2), (3, .int p3), (4, .int p4), (5, .int p5), (6, .int 0)]) [1, 2, 3, 4, 5, 6, 0] dX7_sumOf_1 rfl rfl ?_
  refine g_iconst (v := 0) hw dX7_sumOf_3 (by decide) ?_
  refine g_istore hw (lv2 := [(0, .ref (gA G 268)), (1, .int p1), (2, .int p2), (3, .int p3), (4, .int p4), (5, .int p5), (6, .int 0), (7, .int 0)]) [1, 2, 3, 4, 5, 6, 7, 0] dX7_sumOf_4 rfl rfl ?_
  obtain ⟨n9, h⟩ := h
  refine wX7_sumOf_L6 hw hkf (fun l6_53 M54 h => ?_) n9 0 0 M h
  refine g_lconst (v := 0) hw dX7_sumOf_111 (by decide) ?_
  refine g_lstore hw (lv2 := [(0, .ref (gA G 268)), (4, .int p4), (5, .int p5), (6, .int l6_53), (7, .long 0)]) [1, 2, 3, 4, 0] dX7_sumOf_112 rfl rfl ?_
  refine g_iconst (v := 0) hw dX7_sumOf_114 (by decide) ?_
  refine g_istore hw (lv2 := [(0, .ref (gA G 268)), (4, .int p4), (5, .int p5), (6, .int l6_53), (7, .long 0), (9, .int 0)]) [1, 2, 3, 4, 5, 0] dX7_sumOf_115 rfl rfl ?_
  obtain ⟨n9, h⟩ := h
  refine wX7_sumOf_L117 hw hkf (fun l7_67 M68 h => ?_) n9 0 0 M54 h
  exact wX7_sumOf_b150 hw hkf h
theorem sX7_332 {y0 : MethodName} {cc : ByteArray} {nL : Nat} {ret : Option FieldType} {hh : List (Nat × Nat × Nat × Nat)} {kf : Nat} {G : gG} {Qv : Option Value → gM → Prop} {E : String → Nat → gM → Prop} {w : gM → Nat → List (Nat × Value) → List Value → Prop} {M : gM} {pc : Nat} {lv : List (Nat × Value)} {rest : List Value} (hw : gX y0 cc nL ret hh kf G Qv E w) (hy : y0.cls = RX7) {p1 : Int32} {p2 : Int32} {p3 : Int32} {p4 : Int32} {p5 : Int32} {Q : Int64 → gM → Prop} (d : decode cc pc = .ok (.invokevirtual 332, 3)) (hrest : Nat.ble ((rest.map Value.category).sum) 8 = true) (hk : 4 + 1 ≤ kf) (hkd : gk M 268 = 7) (h : fX7_sumOf p1 p2 p3 p4 p5 M Q) (kk : ∀ r M1, Q r M1 → w M1 (pc + 3) lv (.long r :: rest)) : w M pc lv (.int p5 :: .int p4 :: .int p3 :: .int p2 :: .int p1 :: .ref (gA G 268) :: rest) := by
  obtain ⟨cls9, nm9, ds9⟩ := y0
  subst hy
  exact g_callV (r := (RX7, TX7, 58)) (ci := 6) hw [.int p1, .int p2, .int p3, .int p4, .int p5] (nA := 5) rfl d q1451 q1453 qs56 q104 q1454 (by decide +kernel) rfl rfl hrest rfl (by omega : kf - 1 + 1 ≤ kf) hkd (mX7_sumOf (kf := kf - 1) (by omega) G p1 p2 p3 p4 p5 M Q h) (fun _ _ _ q => q.elim) (fun v M1 h => by obtain ⟨r, rfl, h⟩ := h; exact kk r M1 h)
def fX7_choosing_b103 (l1_31 : Int32) (l2_32 : Int32) (l3_33 : Int32) (l4_34 : Int32) (s0_35 : Int32) (M : gM) (Q : Int64 → gM → Prop) : Prop :=
  gk M 268 = 7 ∧ fX7_sumOf 0 l1_31 l2_32 l3_33 s0_35 M (fun r38 M37 => gk M37 268 = 7 ∧ fX7_sumOf 1 l1_31 l2_32 l3_33 (-s0_35) M37 (fun r41 M40 => gk M40 268 = 7 ∧ fX7_lowest (l4_34 - l4_34 / 2 * 2) (gsL (gsL M40 268 24 (r38 - r41)) 268 25 l3_33.toInt64) (fun r44 M43 => Q r44 M43)))
theorem wX7_choosing_b103 {kf : Nat} {G : gG} {w : gM → Nat → List (Nat × Value) → List Value → Prop} {Q : Int64 → gM → Prop} (hw : gX yX7_choosing cX7_choosing 6 (Option.some FieldType.long) [] kf G (gQl Q) gE0 w) (hkf : 5 ≤ kf)  {l1_31 : Int32} {l2_32 : Int32} {l3_33 : Int32} {l4_34 : Int32} {s0_35 : Int32} {M : gM}  (h : fX7_choosing_b103 l1_31 l2_32 l3_33 l4_34 s0_35 M Q) : w M 103 [(0, .ref (gA G 268)), (1, .int l1_31), (2, .int l2_32), (3, .int l3_33), (4, .int l4_34)] [.int s0_35] := by
  unfold fX7_choosing_b103 at h
  refine g_istore hw (lv2 := [(0, .ref (gA G 268)), (1, .int l1_31), (2, .int l2_32), (3, .int l3_33), (4, .int l4_34), (5, .int s0_35)]) [1, 2, 3, 4, 5, 0] dX7_choosing_103 rfl rfl ?_
  refine g_aload_n hw 0 dX7_choosing_105 rfl ?_
  refine g_aload_n hw 0 dX7_choosing_106 rfl ?_
  refine g_iconst (v := 0) hw dX7_choosing_107 (by decide) ?_
  refine g_iload_n hw 1 dX7_choosing_108 rfl ?_
  refine g_iload_n hw 2 dX7_choosing_109 rfl ?_
  refine g_iload_n hw 3 dX7_choosing_110 rfl ?_
  refine g_iload hw 5 dX7_choosing_111 rfl ?_
  obtain ⟨hk36, h⟩ := h
  refine sX7_332 hw rfl dX7_choosing_113 rfl (gK2 hkf) hk36 h (fun r38 M37 h => ?_)
  refine g_aload_n hw 0 dX7_choosing_116 rfl ?_
  refine g_iconst (v := 1) hw dX7_choosing_117 (by decide) ?_
  refine g_iload_n hw 1 dX7_choosing_118 rfl ?_
  refine g_iload_n hw 2 dX7_choosing_119 rfl ?_
  refine g_iload_n hw 3 dX7_choosing_120 rfl ?_
  refine g_iload hw 5 dX7_choosing_121 rfl ?_
  refine g_ineg hw dX7_choosing_123 ?_
  obtain ⟨hk39, h⟩ := h
  refine sX7_332 hw rfl dX7_choosing_124 rfl (gK2 hkf) hk39 h (fun r41 M40 h => ?_)
  refine g_lsub hw dX7_choosing_127 ?_
  obtain ⟨hk42, h⟩ := h
  refine pfX7_281 hw rfl dX7_choosing_128 hk42 ?_
  refine g_aload_n hw 0 dX7_choosing_131 rfl ?_
  refine g_iload_n hw 3 dX7_choosing_132 rfl ?_
  refine g_i2l hw dX7_choosing_133 ?_
  refine pfX7_285 hw rfl dX7_choosing_134 hk42 ?_
  refine g_aload_n hw 0 dX7_choosing_137 rfl ?_
  refine g_iload hw 4 dX7_choosing_138 rfl ?_
  refine g_iconst (v := 2) hw dX7_choosing_140 (by decide) ?_
  refine g_irem hw dX7_choosing_141 (by decide) ?_
  refine sX7_321 hw rfl dX7_choosing_142 rfl (gK2 hkf) hk42 h (fun r44 M43 h => ?_)
  exact g_lret hw dX7_choosing_145 ⟨_, rfl, h⟩
def fX7_choosing_b80 (l1_23 : Int32) (l2_24 : Int32) (l3_25 : Int32) (l4_26 : Int32) (s1_27 : Int32) (M : gM) (Q : Int64 → gM → Prop) : Prop :=
  gk M 268 = 7 ∧ (if (gI (gsI M 268 0 s1_27) 268 0) ≤ 0 then (if 2 ≤ l4_26 then fX7_choosing_b103 l1_23 l2_24 l3_25 l4_26 (-1) (gsI M 268 0 s1_27) Q else fX7_choosing_b103 l1_23 l2_24 l3_25 l4_26 1 (gsI M 268 0 s1_27) Q) else Q 0 (gsI M 268 0 s1_27))
theorem wX7_choosing_b80 {kf : Nat} {G : gG} {w : gM → Nat → List (Nat × Value) → List Value → Prop} {Q : Int64 → gM → Prop} (hw : gX yX7_choosing cX7_choosing 6 (Option.some FieldType.long) [] kf G (gQl Q) gE0 w) (hkf : 5 ≤ kf)  {l1_23 : Int32} {l2_24 : Int32} {l3_25 : Int32} {l4_26 : Int32} {s1_27 : Int32} {M : gM}  (h : fX7_choosing_b80 l1_23 l2_24 l3_25 l4_26 s1_27 M Q) : w M 80 [(0, .ref (gA G 268)), (1, .int l1_23), (2, .int l2_24), (3, .int l3_25), (4, .int l4_26)] [.int s1_27, .ref (gA G 268)] := by
  unfold fX7_choosing_b80 at h
  obtain ⟨hk28, h⟩ := h
  refine pfX7_1 hw rfl dX7_choosing_80 hk28 ?_
  refine g_aload_n hw 0 dX7_choosing_83 rfl ?_
  refine gfX7_1 hw rfl dX7_choosing_84 hk28 ?_
  refine g_if_le (tgt := 92) hw dX7_choosing_87 (by decide) (fun hb29 => ?_) (fun hb29 => ?_)
  · have h := gT h hb29
    refine g_iload hw 4 dX7_choosing_92 rfl ?_
    refine g_iconst (v := 2) hw dX7_choosing_94 (by decide) ?_
    refine g_icmp_ge (tgt := 102) hw dX7_choosing_95 (by decide) (fun hb30 => ?_) (fun hb30 => ?_)
    · have h := gT h hb30
      refine g_iconst (v := (-1)) hw dX7_choosing_102 (by decide) ?_
      exact wX7_choosing_b103 hw hkf h
    · have h := gF h hb30
      refine g_iconst (v := 1) hw dX7_choosing_98 (by decide) ?_
      refine g_goto (tgt := 103) hw dX7_choosing_99 (by decide) ?_
      exact wX7_choosing_b103 hw hkf h
  · have h := gF h hb29
    refine g_lconst (v := 0) hw dX7_choosing_90 (by decide) ?_
    exact g_lret hw dX7_choosing_91 ⟨_, rfl, h⟩
def fX7_choosing_b75 (l1_19 : Int32) (l2_20 : Int32) (l3_21 : Int32) (l4_22 : Int32) (M : gM) (Q : Int64 → gM → Prop) : Prop :=
  fX7_choosing_b80 l1_19 l2_20 l3_21 l4_22 1 M Q
theorem wX7_choosing_b75 {kf : Nat} {G : gG} {w : gM → Nat → List (Nat × Value) → List Value → Prop} {Q : Int64 → gM → Prop} (hw : gX yX7_choosing cX7_choosing 6 (Option.some FieldType.long) [] kf G (gQl Q) gE0 w) (hkf : 5 ≤ kf)  {l1_19 : Int32} {l2_20 : Int32} {l3_21 : Int32} {l4_22 : Int32} {M : gM}  (h : fX7_choosing_b75 l1_19 l2_20 l3_21 l4_22 M Q) : w M 75 [(0, .ref (gA G 268)), (1, .int l1_19), (2, .int l2_20), (3, .int l3_21), (4, .int l4_22)] [.ref (gA G 268)] := by
  unfold fX7_choosing_b75 at h
  refine g_iconst (v := 1) hw dX7_choosing_75 (by decide) ?_
  refine g_goto (tgt := 80) hw dX7_choosing_76 (by decide) ?_
  exact wX7_choosing_b80 hw hkf h
def fX7_choosing_b34 (l1_8 : Int32) (l2_9 : Int32) (l3_10 : Int32) (l4_11 : Int32) (s1_12 : Int32) (M : gM) (Q : Int64 → gM → Prop) : Prop :=
  gk M 268 = 7 ∧ (if (gI (gsI M 268 0 s1_12) 268 0) ≤ 0 then fX7_findRiver l1_8 l2_9 (-1) (gsI M 268 0 s1_12) (fun r16 M15 => gk M15 268 = 7 ∧ (if (lg_cmp (gL M15 268 27) l3_10.toInt64) < 0 then fX7_choosing_b75 l1_8 l2_9 l3_10 l4_11 M15 Q else (if 0 ≤ (lg_cmp (gL M15 268 29) l3_10.toInt64) then fX7_choosing_b80 l1_8 l2_9 l3_10 l4_11 0 M15 Q else fX7_choosing_b75 l1_8 l2_9 l3_10 l4_11 M15 Q))) else Q 0 (gsI M 268 0 s1_12))
theorem wX7_choosing_b34 {kf : Nat} {G : gG} {w : gM → Nat → List (Nat × Value) → List Value → Prop} {Q : Int64 → gM → Prop} (hw : gX yX7_choosing cX7_choosing 6 (Option.some FieldType.long) [] kf G (gQl Q) gE0 w) (hkf : 5 ≤ kf)  {l1_8 : Int32} {l2_9 : Int32} {l3_10 : Int32} {l4_11 : Int32} {s1_12 : Int32} {M : gM}  (h : fX7_choosing_b34 l1_8 l2_9 l3_10 l4_11 s1_12 M Q) : w M 34 [(0, .ref (gA G 268)), (1, .int l1_8), (2, .int l2_9), (3, .int l3_10), (4, .int l4_11)] [.int s1_12, .ref (gA G 268)] := by
  unfold fX7_choosing_b34 at h
  obtain ⟨hk13, h⟩ := h
  refine pfX7_1 hw rfl dX7_choosing_34 hk13 ?_
  refine g_aload_n hw 0 dX7_choosing_37 rfl ?_
  refine gfX7_1 hw rfl dX7_choosing_38 hk13 ?_
  refine g_if_le (tgt := 46) hw dX7_choosing_41 (by decide) (fun hb14 => ?_) (fun hb14 => ?_)
  · have h := gT h hb14
    refine g_aload_n hw 0 dX7_choosing_46 rfl ?_
    refine g_iload_n hw 1 dX7_choosing_47 rfl ?_
    refine g_iload_n hw 2 dX7_choosing_48 rfl ?_
    refine g_iconst (v := (-1)) hw dX7_choosing_49 (by decide) ?_
    refine sX7_318 hw rfl dX7_choosing_50 rfl (gK2 hkf) hk13 h (fun r16 M15 h => ?_)
    refine g_pop hw dX7_choosing_53 rfl ?_
    refine g_aload_n hw 0 dX7_choosing_54 rfl ?_
    refine g_aload_n hw 0 dX7_choosing_55 rfl ?_
    obtain ⟨hk17, h⟩ := h
    refine gfX7_295 hw rfl dX7_choosing_56 hk17 ?_
    refine g_iload_n hw 3 dX7_choosing_59 rfl ?_
    refine g_i2l hw dX7_choosing_60 ?_
    refine g_lcmp hw dX7_choosing_61 ?_
    refine g_if_lt (tgt := 75) hw dX7_choosing_62 (by decide) (fun hb18 => ?_) (fun hb18 => ?_)
    · have h := gT h hb18
      exact wX7_choosing_b75 hw hkf h
    · have h := gF h hb18
      refine g_aload_n hw 0 dX7_choosing_65 rfl ?_
      refine gfX7_301 hw rfl dX7_choosing_66 hk17 ?_
      refine g_iload_n hw 3 dX7_choosing_69 rfl ?_
      refine g_i2l hw dX7_choosing_70 ?_
      refine g_lcmp hw dX7_choosing_71 ?_
      refine g_if_ge (tgt := 79) hw dX7_choosing_72 (by decide) (fun hb45 => ?_) (fun hb45 => ?_)
      · have h := gT h hb45
        refine g_iconst (v := 0) hw dX7_choosing_79 (by decide) ?_
        exact wX7_choosing_b80 hw hkf h
      · have h := gF h hb45
        exact wX7_choosing_b75 hw hkf h
  · have h := gF h hb14
    refine g_lconst (v := 0) hw dX7_choosing_44 (by decide) ?_
    exact g_lret hw dX7_choosing_45 ⟨_, rfl, h⟩
def fX7_choosing_b33 (l1_4 : Int32) (l2_5 : Int32) (l3_6 : Int32) (l4_7 : Int32) (M : gM) (Q : Int64 → gM → Prop) : Prop :=
  fX7_choosing_b34 l1_4 l2_5 l3_6 l4_7 1 M Q
theorem wX7_choosing_b33 {kf : Nat} {G : gG} {w : gM → Nat → List (Nat × Value) → List Value → Prop} {Q : Int64 → gM → Prop} (hw : gX yX7_choosing cX7_choosing 6 (Option.some FieldType.long) [] kf G (gQl Q) gE0 w) (hkf : 5 ≤ kf)  {l1_4 : Int32} {l2_5 : Int32} {l3_6 : Int32} {l4_7 : Int32} {M : gM}  (h : fX7_choosing_b33 l1_4 l2_5 l3_6 l4_7 M Q) : w M 33 [(0, .ref (gA G 268)), (1, .int l1_4), (2, .int l2_5), (3, .int l3_6), (4, .int l4_7)] [.ref (gA G 268)] := by
  unfold fX7_choosing_b33 at h
  refine g_iconst (v := 1) hw dX7_choosing_33 (by decide) ?_
  exact wX7_choosing_b34 hw hkf h
def fX7_choosing (p1 : Int32) (p2 : Int32) (p3 : Int32) (p4 : Int32) (M : gM) (Q : Int64 → gM → Prop) : Prop :=
  fX7_areMonths p1 p2 M (fun r2 M1 => (if r2 = 0 then fX7_choosing_b33 p1 p2 p3 p4 M1 Q else fX7_within p3 1 12 M1 (fun r47 M46 => (if r47 = 0 then fX7_choosing_b33 p1 p2 p3 p4 M46 Q else fX7_within p4 0 3 M46 (fun r50 M49 => (if r50 = 0 then fX7_choosing_b33 p1 p2 p3 p4 M49 Q else fX7_choosing_b34 p1 p2 p3 p4 0 M49 Q))))))
theorem mX7_choosing {kf : Nat} (hkf : 5 ≤ kf) (G : gG) (p1 : Int32) (p2 : Int32) (p3 : Int32) (p4 : Int32) (M : gM) (Q : Int64 → gM → Prop) (h : fX7_choosing p1 p2 p3 p4 M Q) : gMet yX7_choosing cX7_choosing 6 (Option.some FieldType.long) kf G M [.ref (gA G 268), .int p1, .int p2, .int p3, .int p4] (gQl Q) gE0 := by
  refine g_intro (lv := [(0, .ref (gA G 268)), (1, .int p1), (2, .int p2), (3, .int p3), (4, .int p4)]) (by decide) rfl rfl (fun w hw => ?_)
  unfold fX7_choosing at h
  refine g_aload_n hw 0 dX7_choosing_0 rfl ?_
  refine g_iload_n hw 1 dX7_choosing_1 rfl ?_
  refine g_iload_n hw 2 dX7_choosing_2 rfl ?_
  refine sX7_270 hw rfl dX7_choosing_3 rfl (gK2 hkf) h (fun r2 M1 h => ?_)
  refine g_if_eq (tgt := 33) hw dX7_choosing_6 (by decide) (fun hb3 => ?_) (fun hb3 => ?_)
  · have h := gT h hb3
    exact wX7_choosing_b33 hw hkf h
  · have h := gF h hb3
    refine g_iload_n hw 3 dX7_choosing_9 rfl ?_
    refine g_iconst (v := 1) hw dX7_choosing_10 (by decide) ?_
    refine g_bipush (v := 12) hw dX7_choosing_11 (by decide) ?_
    refine sX7_253 hw rfl dX7_choosing_13 rfl (gK2 hkf) h (fun r47 M46 h => ?_)
    refine g_if_eq (tgt := 33) hw dX7_choosing_16 (by decide) (fun hb48 => ?_) (fun hb48 => ?_)
    · have h := gT h hb48
      exact wX7_choosing_b33 hw hkf h
    · have h := gF h hb48
      refine g_iload hw 4 dX7_choosing_19 rfl ?_
      refine g_iconst (v := 0) hw dX7_choosing_21 (by decide) ?_
      refine g_iconst (v := 3) hw dX7_choosing_22 (by decide) ?_
      refine sX7_253 hw rfl dX7_choosing_23 rfl (gK2 hkf) h (fun r50 M49 h => ?_)
      refine g_if_eq (tgt := 33) hw dX7_choosing_26 (by decide) (fun hb51 => ?_) (fun hb51 => ?_)
      · have h := gT h hb51
        exact wX7_choosing_b33 hw hkf h
      · have h := gF h hb51
        refine g_iconst (v := 0) hw dX7_choosing_29 (by decide) ?_
        refine g_goto (tgt := 34) hw dX7_choosing_30 (by decide) ?_
        exact wX7_choosing_b34 hw hkf h
def fX7_odds_b138 (R102 : Int32 → Int32 → gM → Prop) (l1_20 : Int32) (l2_21 : Int32) (l3_22 : Int32) (l4_23 : Int64) (l6_24 : Int64) (l8_25 : Int64) (l10_26 : Int64) (l12_34 : Int32) (l13_35 : Int32) (M : gM) (Q : Int64 → gM → Prop) : Prop :=
  R102 l12_34 (l13_35 + 1) M
theorem wX7_odds_b138 {kf : Nat} {G : gG} {w : gM → Nat → List (Nat × Value) → List Value → Prop} {Q : Int64 → gM → Prop} (hw : gX yX7_odds cX7_odds 23 (Option.some FieldType.long) [] kf G (gQl Q) gE0 w) (hkf : 5 ≤ kf) {R102 : Int32 → Int32 → gM → Prop} {l1_20 : Int32} {l2_21 : Int32} {l3_22 : Int32} {l4_23 : Int64} {l6_24 : Int64} {l8_25 : Int64} {l10_26 : Int64} {l12_34 : Int32} {l13_35 : Int32} {M : gM} (hR102 : ∀ (v0 : Int32) (v1 : Int32) (M : gM), R102 v0 v1 M → w M 102 [(0, .ref (gA G 268)), (1, .int l1_20), (2, .int l2_21), (3, .int l3_22), (4, .long l4_23), (6, .long l6_24), (8, .long l8_25), (10, .long l10_26), (12, .int v0), (13, .int v1)] []) (h : fX7_odds_b138 R102 l1_20 l2_21 l3_22 l4_23 l6_24 l8_25 l10_26 l12_34 l13_35 M Q) : w M 138 [(0, .ref (gA G 268)), (1, .int l1_20), (2, .int l2_21), (3, .int l3_22), (4, .long l4_23), (6, .long l6_24), (8, .long l8_25), (10, .long l10_26), (12, .int l12_34), (13, .int l13_35)] [] := by
  unfold fX7_odds_b138 at h
  refine g_iinc hw (lv2 := [(0, .ref (gA G 268)), (1, .int l1_20), (2, .int l2_21), (3, .int l3_22), (4, .long l4_23), (6, .long l6_24), (8, .long l8_25), (10, .long l10_26), (12, .int l12_34), (13, .int (l13_35 + 1))]) 9 [1, 2, 3, 4, 5, 6, 7, 8, 9, 0] dX7_odds_138 rfl (by decide) rfl rfl ?_
  refine g_goto (tgt := 102) hw dX7_odds_141 (by decide) ?_
  exact hR102 l12_34 (l13_35 + 1) M h
def fX7_odds_L102s (R102 : Int32 → Int32 → gM → Prop) (K144_102 : Int32 → gM → Prop) (l1_20 : Int32) (l2_21 : Int32) (l3_22 : Int32) (l4_23 : Int64) (l6_24 : Int64) (l8_25 : Int64) (l10_26 : Int64) (l12_27 : Int32) (l13_28 : Int32) (M : gM) (Q : Int64 → gM → Prop) : Prop :=
  (if 24 ≤ l13_28 then K144_102 l12_27 M else gk M 268 = 7 ∧ fX7_isCounted l13_28 l1_20 l2_21 M (fun r32 M31 => (if r32 = 0 then fX7_odds_b138 R102 l1_20 l2_21 l3_22 l4_23 l6_24 l8_25 l10_26 l12_27 l13_28 M31 Q else gk M31 268 = 7 ∧ gdr (gR M31 268 30) (fun a37 => fX7_changeOf l13_28 l1_20 l2_21 M31 (fun r40 M39 => gk M39 a37 = 40 ∧ vp_in l12_27 (gl M39 a37) ∧ fX7_odds_b138 R102 l1_20 l2_21 l3_22 l4_23 l6_24 l8_25 l10_26 (l12_27 + 1) l13_28 (gsI M39 a37 l12_27.toNatClampNeg r40) Q)))))
def fX7_odds_L102 (K144_102 : Int32 → gM → Prop) (l1_20 : Int32) (l2_21 : Int32) (l3_22 : Int32) (l4_23 : Int64) (l6_24 : Int64) (l8_25 : Int64) (l10_26 : Int64) (Q : Int64 → gM → Prop) : Nat → Int32 → Int32 → gM → Prop
  | 0 => fun _ _ _ => False
  | n + 1 => fun l12_27 l13_28 M => fX7_odds_L102s (fX7_odds_L102 K144_102 l1_20 l2_21 l3_22 l4_23 l6_24 l8_25 l10_26 Q n) K144_102 l1_20 l2_21 l3_22 l4_23 l6_24 l8_25 l10_26 l12_27 l13_28 M Q
theorem wX7_odds_L102s {kf : Nat} {G : gG} {w : gM → Nat → List (Nat × Value) → List Value → Prop} {Q : Int64 → gM → Prop} (hw : gX yX7_odds cX7_odds 23 (Option.some FieldType.long) [] kf G (gQl Q) gE0 w) (hkf : 5 ≤ kf) {R102 : Int32 → Int32 → gM → Prop} {K144_102 : Int32 → gM → Prop} {l1_20 : Int32} {l2_21 : Int32} {l3_22 : Int32} {l4_23 : Int64} {l6_24 : Int64} {l8_25 : Int64} {l10_26 : Int64} {l12_27 : Int32} {l13_28 : Int32} {M : gM} (hR102 : ∀ (v0 : Int32) (v1 : Int32) (M : gM), R102 v0 v1 M → w M 102 [(0, .ref (gA G 268)), (1, .int l1_20), (2, .int l2_21), (3, .int l3_22), (4, .long l4_23), (6, .long l6_24), (8, .long l8_25), (10, .long l10_26), (12, .int v0), (13, .int v1)] []) (hK144_102 : ∀ (v0 : Int32) (M : gM), K144_102 v0 M → w M 144 [(0, .ref (gA G 268)), (3, .int l3_22), (4, .long l4_23), (6, .long l6_24), (8, .long l8_25), (10, .long l10_26), (12, .int v0)] []) (h : fX7_odds_L102s R102 K144_102 l1_20 l2_21 l3_22 l4_23 l6_24 l8_25 l10_26 l12_27 l13_28 M Q) : w M 102 [(0, .ref (gA G 268)), (1, .int l1_20), (2, .int l2_21), (3, .int l3_22), (4, .long l4_23), (6, .long l6_24), (8, .long l8_25), (10, .long l10_26), (12, .int l12_27), (13, .int l13_28)] [] := by
  unfold fX7_odds_L102s at h
  refine g_iload hw 9 dX7_odds_102 rfl ?_
  refine g_bipush (v := 24) hw dX7_odds_104 (by decide) ?_
  refine g_icmp_ge (tgt := 144) hw dX7_odds_106 (by decide) (fun hb29 => ?_) (fun hb29 => ?_)
  · have h := gT h hb29
    refine g_sub hw (lv2 := [(0, .ref (gA G 268)), (3, .int l3_22), (4, .long l4_23), (6, .long l6_24), (8, .long l8_25), (10, .long l10_26), (12, .int l12_27)]) [0, 3, 4, 5, 6, 7, 8] rfl ?_
    exact hK144_102 l12_27 M h
  · have h := gF h hb29
    refine g_aload_n hw 0 dX7_odds_109 rfl ?_
    refine g_iload hw 9 dX7_odds_110 rfl ?_
    refine g_iload_n hw 1 dX7_odds_112 rfl ?_
    refine g_iload_n hw 2 dX7_odds_113 rfl ?_
    obtain ⟨hk30, h⟩ := h
    refine sX7_274 hw rfl dX7_odds_114 rfl (gK2 hkf) hk30 h (fun r32 M31 h => ?_)
    refine g_if_eq (tgt := 138) hw dX7_odds_117 (by decide) (fun hb33 => ?_) (fun hb33 => ?_)
    · have h := gT h hb33
      exact wX7_odds_b138 hw hkf hR102 h
    · have h := gF h hb33
      refine g_aload_n hw 0 dX7_odds_120 rfl ?_
      obtain ⟨hk36, h⟩ := h
      obtain ⟨a37, e38, h⟩ := h
      refine gfX7_133 (q := some a37) hw rfl dX7_odds_121 hk36 e38 ?_
      refine g_iload hw 8 dX7_odds_124 rfl ?_
      refine g_aload_n hw 0 dX7_odds_126 rfl ?_
      refine g_iload hw 9 dX7_odds_127 rfl ?_
      refine g_iload_n hw 1 dX7_odds_129 rfl ?_
      refine g_iload_n hw 2 dX7_odds_130 rfl ?_
      refine sX7_277 hw rfl dX7_odds_131 rfl (gK2 hkf) hk36 h (fun r40 M39 h => ?_)
      obtain ⟨hk41, h⟩ := h
      obtain ⟨hi42, h⟩ := h
      refine g_iast (n := l12_27.toNatClampNeg) hw dX7_odds_134 hk41 hi42 rfl ?_
      refine g_iinc hw (lv2 := [(0, .ref (gA G 268)), (1, .int l1_20), (2, .int l2_21), (3, .int l3_22), (4, .long l4_23), (6, .long l6_24), (8, .long l8_25), (10, .long l10_26), (12, .int (l12_27 + 1)), (13, .int l13_28)]) 8 [1, 2, 3, 4, 5, 6, 7, 8, 0, 9] dX7_odds_135 rfl (by decide) rfl rfl ?_
      exact wX7_odds_b138 hw hkf hR102 h
theorem wX7_odds_L102 {kf : Nat} {G : gG} {w : gM → Nat → List (Nat × Value) → List Value → Prop} {Q : Int64 → gM → Prop} (hw : gX yX7_odds cX7_odds 23 (Option.some FieldType.long) [] kf G (gQl Q) gE0 w) (hkf : 5 ≤ kf) {K144_102 : Int32 → gM → Prop} {l1_20 : Int32} {l2_21 : Int32} {l3_22 : Int32} {l4_23 : Int64} {l6_24 : Int64} {l8_25 : Int64} {l10_26 : Int64} (hK144_102 : ∀ (v0 : Int32) (M : gM), K144_102 v0 M → w M 144 [(0, .ref (gA G 268)), (3, .int l3_22), (4, .long l4_23), (6, .long l6_24), (8, .long l8_25), (10, .long l10_26), (12, .int v0)] []) : ∀ (n : Nat) (l12_27 : Int32) (l13_28 : Int32) (M : gM), fX7_odds_L102 K144_102 l1_20 l2_21 l3_22 l4_23 l6_24 l8_25 l10_26 Q n l12_27 l13_28 M → w M 102 [(0, .ref (gA G 268)), (1, .int l1_20), (2, .int l2_21), (3, .int l3_22), (4, .long l4_23), (6, .long l6_24), (8, .long l8_25), (10, .long l10_26), (12, .int l12_27), (13, .int l13_28)] [] := by
  intro n
  induction n with
  | zero => intro l12_27 l13_28 M h; exact h.elim
  | succ n ih => intro l12_27 l13_28 M h; exact wX7_odds_L102s hw hkf ih hK144_102 h
def fX7_odds_b215 (R171 : Int32 → Int64 → Int32 → gM → Prop) (l3_45 : Int32) (l4_46 : Int64) (l6_47 : Int64) (l8_48 : Int64) (l10_49 : Int64) (l12_50 : Int32) (l13_55 : Int64) (l15_56 : Int64) (l17_57 : Int32) (l18_63 : Int32) (l21_64 : Int32) (s0_65 : Int64) (s1_66 : Int64) (M : gM) (Q : Int64 → gM → Prop) : Prop :=
  R171 l18_63 (s0_65 + s1_66) (l21_64 + 1) M
theorem wX7_odds_b215 {kf : Nat} {G : gG} {w : gM → Nat → List (Nat × Value) → List Value → Prop} {Q : Int64 → gM → Prop} (hw : gX yX7_odds cX7_odds 23 (Option.some FieldType.long) [] kf G (gQl Q) gE0 w) (hkf : 5 ≤ kf) {R171 : Int32 → Int64 → Int32 → gM → Prop} {l3_45 : Int32} {l4_46 : Int64} {l6_47 : Int64} {l8_48 : Int64} {l10_49 : Int64} {l12_50 : Int32} {l13_55 : Int64} {l15_56 : Int64} {l17_57 : Int32} {l18_63 : Int32} {l21_64 : Int32} {s0_65 : Int64} {s1_66 : Int64} {M : gM} (hR171 : ∀ (v0 : Int32) (v1 : Int64) (v2 : Int32) (M : gM), R171 v0 v1 v2 M → w M 171 [(0, .ref (gA G 268)), (3, .int l3_45), (4, .long l4_46), (6, .long l6_47), (8, .long l8_48), (10, .long l10_49), (12, .int l12_50), (13, .long l13_55), (15, .long l15_56), (17, .int l17_57), (18, .int v0), (19, .long v1), (21, .int v2)] []) (h : fX7_odds_b215 R171 l3_45 l4_46 l6_47 l8_48 l10_49 l12_50 l13_55 l15_56 l17_57 l18_63 l21_64 s0_65 s1_66 M Q) : w M 215 [(0, .ref (gA G 268)), (3, .int l3_45), (4, .long l4_46), (6, .long l6_47), (8, .long l8_48), (10, .long l10_49), (12, .int l12_50), (13, .long l13_55), (15, .long l15_56), (17, .int l17_57), (18, .int l18_63), (21, .int l21_64)] [.long s1_66, .long s0_65] := by
  unfold fX7_odds_b215 at h
  refine g_ladd hw dX7_odds_215 ?_
  refine g_lstore hw (lv2 := [(0, .ref (gA G 268)), (3, .int l3_45), (4, .long l4_46), (6, .long l6_47), (8, .long l8_48), (10, .long l10_49), (12, .int l12_50), (13, .long l13_55), (15, .long l15_56), (17, .int l17_57), (18, .int l18_63), (19, .long (s0_65 + s1_66)), (21, .int l21_64)]) [1, 2, 3, 4, 5, 6, 7, 8, 9, 10, 11, 0, 12] dX7_odds_216 rfl rfl ?_
  refine g_iinc hw (lv2 := [(0, .ref (gA G 268)), (3, .int l3_45), (4, .long l4_46), (6, .long l6_47), (8, .long l8_48), (10, .long l10_49), (12, .int l12_50), (13, .long l13_55), (15, .long l15_56), (17, .int l17_57), (18, .int l18_63), (19, .long (s0_65 + s1_66)), (21, .int (l21_64 + 1))]) 12 [1, 2, 3, 4, 5, 6, 7, 8, 9, 10, 11, 12, 0] dX7_odds_218 rfl (by decide) rfl rfl ?_
  refine g_goto (tgt := 171) hw dX7_odds_221 (by decide) ?_
  exact hR171 l18_63 (s0_65 + s1_66) (l21_64 + 1) M h
def fX7_odds_L171s (R171 : Int32 → Int64 → Int32 → gM → Prop) (K224_171 : Int32 → Int64 → gM → Prop) (l3_45 : Int32) (l4_46 : Int64) (l6_47 : Int64) (l8_48 : Int64) (l10_49 : Int64) (l12_50 : Int32) (l13_55 : Int64) (l15_56 : Int64) (l17_57 : Int32) (l18_58 : Int32) (l19_59 : Int64) (l21_60 : Int32) (M : gM) (Q : Int64 → gM → Prop) : Prop :=
  (if l12_50 ≤ l21_60 then K224_171 l18_58 l19_59 M else (if ((l17_57 >>> (l21_60 &&& 31)) &&& 1) = 1 then gk M 268 = 7 ∧ gdr (gR M 268 30) (fun a68 => gk M a68 = 40 ∧ vp_in l21_60 (gl M a68) ∧ fX7_odds_b215 R171 l3_45 l4_46 l6_47 l8_48 l10_49 l12_50 l13_55 l15_56 l17_57 (l18_58 + ((l17_57 >>> (l21_60 &&& 31)) &&& 1)) l21_60 l19_59 ((gI M a68 l21_60.toNatClampNeg).toInt64) M Q) else fX7_odds_b215 R171 l3_45 l4_46 l6_47 l8_48 l10_49 l12_50 l13_55 l15_56 l17_57 (l18_58 + ((l17_57 >>> (l21_60 &&& 31)) &&& 1)) l21_60 l19_59 0 M Q))
def fX7_odds_L171 (K224_171 : Int32 → Int64 → gM → Prop) (l3_45 : Int32) (l4_46 : Int64) (l6_47 : Int64) (l8_48 : Int64) (l10_49 : Int64) (l12_50 : Int32) (l13_55 : Int64) (l15_56 : Int64) (l17_57 : Int32) (Q : Int64 → gM → Prop) : Nat → Int32 → Int64 → Int32 → gM → Prop
  | 0 => fun _ _ _ _ => False
  | n + 1 => fun l18_58 l19_59 l21_60 M => fX7_odds_L171s (fX7_odds_L171 K224_171 l3_45 l4_46 l6_47 l8_48 l10_49 l12_50 l13_55 l15_56 l17_57 Q n) K224_171 l3_45 l4_46 l6_47 l8_48 l10_49 l12_50 l13_55 l15_56 l17_57 l18_58 l19_59 l21_60 M Q
theorem wX7_odds_L171s {kf : Nat} {G : gG} {w : gM → Nat → List (Nat × Value) → List Value → Prop} {Q : Int64 → gM → Prop} (hw : gX yX7_odds cX7_odds 23 (Option.some FieldType.long) [] kf G (gQl Q) gE0 w) (hkf : 5 ≤ kf) {R171 : Int32 → Int64 → Int32 → gM → Prop} {K224_171 : Int32 → Int64 → gM → Prop} {l3_45 : Int32} {l4_46 : Int64} {l6_47 : Int64} {l8_48 : Int64} {l10_49 : Int64} {l12_50 : Int32} {l13_55 : Int64} {l15_56 : Int64} {l17_57 : Int32} {l18_58 : Int32} {l19_59 : Int64} {l21_60 : Int32} {M : gM} (hR171 : ∀ (v0 : Int32) (v1 : Int64) (v2 : Int32) (M : gM), R171 v0 v1 v2 M → w M 171 [(0, .ref (gA G 268)), (3, .int l3_45), (4, .long l4_46), (6, .long l6_47), (8, .long l8_48), (10, .long l10_49), (12, .int l12_50), (13, .long l13_55), (15, .long l15_56), (17, .int l17_57), (18, .int v0), (19, .long v1), (21, .int v2)] []) (hK224_171 : ∀ (v0 : Int32) (v1 : Int64) (M : gM), K224_171 v0 v1 M → w M 224 [(0, .ref (gA G 268)), (3, .int l3_45), (4, .long l4_46), (6, .long l6_47), (8, .long l8_48), (10, .long l10_49), (12, .int l12_50), (13, .long l13_55), (15, .long l15_56), (17, .int l17_57), (18, .int v0), (19, .long v1)] []) (h : fX7_odds_L171s R171 K224_171 l3_45 l4_46 l6_47 l8_48 l10_49 l12_50 l13_55 l15_56 l17_57 l18_58 l19_59 l21_60 M Q) : w M 171 [(0, .ref (gA G 268)), (3, .int l3_45), (4, .long l4_46), (6, .long l6_47), (8, .long l8_48), (10, .long l10_49), (12, .int l12_50), (13, .long l13_55), (15, .long l15_56), (17, .int l17_57), (18, .int l18_58), (19, .long l19_59), (21, .int l21_60)] [] := by
  unfold fX7_odds_L171s at h
  refine g_iload hw 12 dX7_odds_171 rfl ?_
  refine g_iload hw 6 dX7_odds_173 rfl ?_
  refine g_icmp_ge (tgt := 224) hw dX7_odds_175 (by decide) (fun hb61 => ?_) (fun hb61 => ?_)
  · have h := gT h hb61
    refine g_sub hw (lv2 := [(0, .ref (gA G 268)), (3, .int l3_45), (4, .long l4_46), (6, .long l6_47), (8, .long l8_48), (10, .long l10_49), (12, .int l12_50), (13, .long l13_55), (15, .long l15_56), (17, .int l17_57), (18, .int l18_58), (19, .long l19_59)]) [0, 1, 2, 3, 4, 5, 6, 7, 8, 9, 10, 11] rfl ?_
    exact hK224_171 l18_58 l19_59 M h
  · have h := gF h hb61
    refine g_iload hw 10 dX7_odds_178 rfl ?_
    refine g_iload hw 9 dX7_odds_180 rfl ?_
    refine g_iload hw 12 dX7_odds_182 rfl ?_
    refine g_ishr hw dX7_odds_184 ?_
    refine g_iconst (v := 1) hw dX7_odds_185 (by decide) ?_
    refine g_iand hw dX7_odds_186 ?_
    refine g_iadd hw dX7_odds_187 ?_
    refine g_istore hw (lv2 := [(0, .ref (gA G 268)), (3, .int l3_45), (4, .long l4_46), (6, .long l6_47), (8, .long l8_48), (10, .long l10_49), (12, .int l12_50), (13, .long l13_55), (15, .long l15_56), (17, .int l17_57), (18, .int (l18_58 + ((l17_57 >>> (l21_60 &&& 31)) &&& 1))), (19, .long l19_59), (21, .int l21_60)]) [1, 2, 3, 4, 5, 6, 7, 8, 9, 10, 0, 11, 12] dX7_odds_188 rfl rfl ?_
    refine g_lload hw 11 dX7_odds_190 rfl ?_
    refine g_iload hw 9 dX7_odds_192 rfl ?_
    refine g_iload hw 12 dX7_odds_194 rfl ?_
    refine g_ishr hw dX7_odds_196 ?_
    refine g_iconst (v := 1) hw dX7_odds_197 (by decide) ?_
    refine g_iand hw dX7_odds_198 ?_
    refine g_iconst (v := 1) hw dX7_odds_199 (by decide) ?_
    refine g_icmp_ne (tgt := 214) hw dX7_odds_200 (by decide) (fun hb62 => ?_) (fun hb62 => ?_)
    · have h := gF h hb62
      refine g_lconst (v := 0) hw dX7_odds_214 (by decide) ?_
      refine g_sub hw (lv2 := [(0, .ref (gA G 268)), (3, .int l3_45), (4, .long l4_46), (6, .long l6_47), (8, .long l8_48), (10, .long l10_49), (12, .int l12_50), (13, .long l13_55), (15, .long l15_56), (17, .int l17_57), (18, .int (l18_58 + ((l17_57 >>> (l21_60 &&& 31)) &&& 1))), (21, .int l21_60)]) [0, 1, 2, 3, 4, 5, 6, 7, 8, 9, 10, 12] rfl ?_
      exact wX7_odds_b215 hw hkf hR171 h
    · have h := gT h hb62
      refine g_aload_n hw 0 dX7_odds_203 rfl ?_
      obtain ⟨hk67, h⟩ := h
      obtain ⟨a68, e69, h⟩ := h
      refine gfX7_133 (q := some a68) hw rfl dX7_odds_204 hk67 e69 ?_
      refine g_iload hw 12 dX7_odds_207 rfl ?_
      obtain ⟨hk70, h⟩ := h
      obtain ⟨hi71, h⟩ := h
      refine g_iald (n := l21_60.toNatClampNeg) hw dX7_odds_209 hk70 hi71 rfl ?_
      refine g_i2l hw dX7_odds_210 ?_
      refine g_goto (tgt := 215) hw dX7_odds_211 (by decide) ?_
      refine g_sub hw (lv2 := [(0, .ref (gA G 268)), (3, .int l3_45), (4, .long l4_46), (6, .long l6_47), (8, .long l8_48), (10, .long l10_49), (12, .int l12_50), (13, .long l13_55), (15, .long l15_56), (17, .int l17_57), (18, .int (l18_58 + ((l17_57 >>> (l21_60 &&& 31)) &&& 1))), (21, .int l21_60)]) [0, 1, 2, 3, 4, 5, 6, 7, 8, 9, 10, 12] rfl ?_
      exact wX7_odds_b215 hw hkf hR171 h
theorem wX7_odds_L171 {kf : Nat} {G : gG} {w : gM → Nat → List (Nat × Value) → List Value → Prop} {Q : Int64 → gM → Prop} (hw : gX yX7_odds cX7_odds 23 (Option.some FieldType.long) [] kf G (gQl Q) gE0 w) (hkf : 5 ≤ kf) {K224_171 : Int32 → Int64 → gM → Prop} {l3_45 : Int32} {l4_46 : Int64} {l6_47 : Int64} {l8_48 : Int64} {l10_49 : Int64} {l12_50 : Int32} {l13_55 : Int64} {l15_56 : Int64} {l17_57 : Int32} (hK224_171 : ∀ (v0 : Int32) (v1 : Int64) (M : gM), K224_171 v0 v1 M → w M 224 [(0, .ref (gA G 268)), (3, .int l3_45), (4, .long l4_46), (6, .long l6_47), (8, .long l8_48), (10, .long l10_49), (12, .int l12_50), (13, .long l13_55), (15, .long l15_56), (17, .int l17_57), (18, .int v0), (19, .long v1)] []) : ∀ (n : Nat) (l18_58 : Int32) (l19_59 : Int64) (l21_60 : Int32) (M : gM), fX7_odds_L171 K224_171 l3_45 l4_46 l6_47 l8_48 l10_49 l12_50 l13_55 l15_56 l17_57 Q n l18_58 l19_59 l21_60 M → w M 171 [(0, .ref (gA G 268)), (3, .int l3_45), (4, .long l4_46), (6, .long l6_47), (8, .long l8_48), (10, .long l10_49), (12, .int l12_50), (13, .long l13_55), (15, .long l15_56), (17, .int l17_57), (18, .int l18_58), (19, .long l19_59), (21, .int l21_60)] [] := by
  intro n
  induction n with
  | zero => intro l18_58 l19_59 l21_60 M h; exact h.elim
  | succ n ih => intro l18_58 l19_59 l21_60 M h; exact wX7_odds_L171s hw hkf ih hK224_171 h
def fX7_odds_b282 (R153 : Int64 → Int64 → Int32 → gM → Prop) (l3_45 : Int32) (l4_46 : Int64) (l6_47 : Int64) (l8_48 : Int64) (l10_49 : Int64) (l12_50 : Int32) (l13_76 : Int64) (l15_77 : Int64) (l17_78 : Int32) (M : gM) (Q : Int64 → gM → Prop) : Prop :=
  R153 l13_76 l15_77 (l17_78 + 1) M
theorem wX7_odds_b282 {kf : Nat} {G : gG} {w : gM → Nat → List (Nat × Value) → List Value → Prop} {Q : Int64 → gM → Prop} (hw : gX yX7_odds cX7_odds 23 (Option.some FieldType.long) [] kf G (gQl Q) gE0 w) (hkf : 5 ≤ kf) {R153 : Int64 → Int64 → Int32 → gM → Prop} {l3_45 : Int32} {l4_46 : Int64} {l6_47 : Int64} {l8_48 : Int64} {l10_49 : Int64} {l12_50 : Int32} {l13_76 : Int64} {l15_77 : Int64} {l17_78 : Int32} {M : gM} (hR153 : ∀ (v0 : Int64) (v1 : Int64) (v2 : Int32) (M : gM), R153 v0 v1 v2 M → w M 153 [(0, .ref (gA G 268)), (3, .int l3_45), (4, .long l4_46), (6, .long l6_47), (8, .long l8_48), (10, .long l10_49), (12, .int l12_50), (13, .long v0), (15, .long v1), (17, .int v2)] []) (h : fX7_odds_b282 R153 l3_45 l4_46 l6_47 l8_48 l10_49 l12_50 l13_76 l15_77 l17_78 M Q) : w M 282 [(0, .ref (gA G 268)), (3, .int l3_45), (4, .long l4_46), (6, .long l6_47), (8, .long l8_48), (10, .long l10_49), (12, .int l12_50), (13, .long l13_76), (15, .long l15_77), (17, .int l17_78)] [] := by
  unfold fX7_odds_b282 at h
  refine g_iinc hw (lv2 := [(0, .ref (gA G 268)), (3, .int l3_45), (4, .long l4_46), (6, .long l6_47), (8, .long l8_48), (10, .long l10_49), (12, .int l12_50), (13, .long l13_76), (15, .long l15_77), (17, .int (l17_78 + 1))]) 9 [1, 2, 3, 4, 5, 6, 7, 8, 9, 0] dX7_odds_282 rfl (by decide) rfl rfl ?_
  refine g_goto (tgt := 153) hw dX7_odds_285 (by decide) ?_
  exact hR153 l13_76 l15_77 (l17_78 + 1) M h
def fX7_odds_b279 (R153 : Int64 → Int64 → Int32 → gM → Prop) (l3_45 : Int32) (l4_46 : Int64) (l6_47 : Int64) (l8_48 : Int64) (l10_49 : Int64) (l12_50 : Int32) (l15_83 : Int64) (l17_84 : Int32) (s0_85 : Int64) (s1_86 : Int64) (M : gM) (Q : Int64 → gM → Prop) : Prop :=
  fX7_odds_b282 R153 l3_45 l4_46 l6_47 l8_48 l10_49 l12_50 (s0_85 + s1_86) l15_83 l17_84 M Q
theorem wX7_odds_b279 {kf : Nat} {G : gG} {w : gM → Nat → List (Nat × Value) → List Value → Prop} {Q : Int64 → gM → Prop} (hw : gX yX7_odds cX7_odds 23 (Option.some FieldType.long) [] kf G (gQl Q) gE0 w) (hkf : 5 ≤ kf) {R153 : Int64 → Int64 → Int32 → gM → Prop} {l3_45 : Int32} {l4_46 : Int64} {l6_47 : Int64} {l8_48 : Int64} {l10_49 : Int64} {l12_50 : Int32} {l15_83 : Int64} {l17_84 : Int32} {s0_85 : Int64} {s1_86 : Int64} {M : gM} (hR153 : ∀ (v0 : Int64) (v1 : Int64) (v2 : Int32) (M : gM), R153 v0 v1 v2 M → w M 153 [(0, .ref (gA G 268)), (3, .int l3_45), (4, .long l4_46), (6, .long l6_47), (8, .long l8_48), (10, .long l10_49), (12, .int l12_50), (13, .long v0), (15, .long v1), (17, .int v2)] []) (h : fX7_odds_b279 R153 l3_45 l4_46 l6_47 l8_48 l10_49 l12_50 l15_83 l17_84 s0_85 s1_86 M Q) : w M 279 [(0, .ref (gA G 268)), (3, .int l3_45), (4, .long l4_46), (6, .long l6_47), (8, .long l8_48), (10, .long l10_49), (12, .int l12_50), (15, .long l15_83), (17, .int l17_84)] [.long s1_86, .long s0_85] := by
  unfold fX7_odds_b279 at h
  refine g_ladd hw dX7_odds_279 ?_
  refine g_lstore hw (lv2 := [(0, .ref (gA G 268)), (3, .int l3_45), (4, .long l4_46), (6, .long l6_47), (8, .long l8_48), (10, .long l10_49), (12, .int l12_50), (13, .long (s0_85 + s1_86)), (15, .long l15_83), (17, .int l17_84)]) [1, 2, 3, 4, 5, 6, 7, 0, 8, 9] dX7_odds_280 rfl rfl ?_
  exact wX7_odds_b282 hw hkf hR153 h
def fX7_odds_b274 (R153 : Int64 → Int64 → Int32 → gM → Prop) (l3_45 : Int32) (l4_46 : Int64) (l6_47 : Int64) (l8_48 : Int64) (l10_49 : Int64) (l12_50 : Int32) (l15_80 : Int64) (l17_81 : Int32) (s0_82 : Int64) (M : gM) (Q : Int64 → gM → Prop) : Prop :=
  fX7_odds_b279 R153 l3_45 l4_46 l6_47 l8_48 l10_49 l12_50 l15_80 l17_81 s0_82 1 M Q
theorem wX7_odds_b274 {kf : Nat} {G : gG} {w : gM → Nat → List (Nat × Value) → List Value → Prop} {Q : Int64 → gM → Prop} (hw : gX yX7_odds cX7_odds 23 (Option.some FieldType.long) [] kf G (gQl Q) gE0 w) (hkf : 5 ≤ kf) {R153 : Int64 → Int64 → Int32 → gM → Prop} {l3_45 : Int32} {l4_46 : Int64} {l6_47 : Int64} {l8_48 : Int64} {l10_49 : Int64} {l12_50 : Int32} {l15_80 : Int64} {l17_81 : Int32} {s0_82 : Int64} {M : gM} (hR153 : ∀ (v0 : Int64) (v1 : Int64) (v2 : Int32) (M : gM), R153 v0 v1 v2 M → w M 153 [(0, .ref (gA G 268)), (3, .int l3_45), (4, .long l4_46), (6, .long l6_47), (8, .long l8_48), (10, .long l10_49), (12, .int l12_50), (13, .long v0), (15, .long v1), (17, .int v2)] []) (h : fX7_odds_b274 R153 l3_45 l4_46 l6_47 l8_48 l10_49 l12_50 l15_80 l17_81 s0_82 M Q) : w M 274 [(0, .ref (gA G 268)), (3, .int l3_45), (4, .long l4_46), (6, .long l6_47), (8, .long l8_48), (10, .long l10_49), (12, .int l12_50), (15, .long l15_80), (17, .int l17_81)] [.long s0_82] := by
  unfold fX7_odds_b274 at h
  refine g_lconst (v := 1) hw dX7_odds_274 (by decide) ?_
  refine g_goto (tgt := 279) hw dX7_odds_275 (by decide) ?_
  exact wX7_odds_b279 hw hkf hR153 h
def fX7_odds_L153s (R153 : Int64 → Int64 → Int32 → gM → Prop) (K288_153 : Int64 → Int64 → gM → Prop) (l3_45 : Int32) (l4_46 : Int64) (l6_47 : Int64) (l8_48 : Int64) (l10_49 : Int64) (l12_50 : Int32) (l13_51 : Int64) (l15_52 : Int64) (l17_53 : Int32) (M : gM) (Q : Int64 → gM → Prop) : Prop :=
  (if (1 <<< (l12_50 &&& 31)) ≤ l17_53 then K288_153 l13_51 l15_52 M else ∃ n, fX7_odds_L171 (fun l18_72 l19_73 M74 => (if (lg_cmp l18_72.toInt64 l6_47) = 0 then (if 0 ≤ (lg_cmp ((l19_73 * l8_48) - ((l10_49 - l19_73) * l6_47)) l4_46) then fX7_odds_b274 R153 l3_45 l4_46 l6_47 l8_48 l10_49 l12_50 (l15_52 + 1) l17_53 l13_51 M74 Q else (if (lg_cmp (-((l19_73 * l8_48) - ((l10_49 - l19_73) * l6_47))) l4_46) < 0 then fX7_odds_b279 R153 l3_45 l4_46 l6_47 l8_48 l10_49 l12_50 (l15_52 + 1) l17_53 l13_51 0 M74 Q else fX7_odds_b274 R153 l3_45 l4_46 l6_47 l8_48 l10_49 l12_50 (l15_52 + 1) l17_53 l13_51 M74 Q)) else fX7_odds_b282 R153 l3_45 l4_46 l6_47 l8_48 l10_49 l12_50 l13_51 l15_52 l17_53 M74 Q)) l3_45 l4_46 l6_47 l8_48 l10_49 l12_50 l13_51 l15_52 l17_53 Q n 0 0 0 M)
def fX7_odds_L153 (K288_153 : Int64 → Int64 → gM → Prop) (l3_45 : Int32) (l4_46 : Int64) (l6_47 : Int64) (l8_48 : Int64) (l10_49 : Int64) (l12_50 : Int32) (Q : Int64 → gM → Prop) : Nat → Int64 → Int64 → Int32 → gM → Prop
  | 0 => fun _ _ _ _ => False
  | n + 1 => fun l13_51 l15_52 l17_53 M => fX7_odds_L153s (fX7_odds_L153 K288_153 l3_45 l4_46 l6_47 l8_48 l10_49 l12_50 Q n) K288_153 l3_45 l4_46 l6_47 l8_48 l10_49 l12_50 l13_51 l15_52 l17_53 M Q
theorem wX7_odds_L153s {kf : Nat} {G : gG} {w : gM → Nat → List (Nat × Value) → List Value → Prop} {Q : Int64 → gM → Prop} (hw : gX yX7_odds cX7_odds 23 (Option.some FieldType.long) [] kf G (gQl Q) gE0 w) (hkf : 5 ≤ kf) {R153 : Int64 → Int64 → Int32 → gM → Prop} {K288_153 : Int64 → Int64 → gM → Prop} {l3_45 : Int32} {l4_46 : Int64} {l6_47 : Int64} {l8_48 : Int64} {l10_49 : Int64} {l12_50 : Int32} {l13_51 : Int64} {l15_52 : Int64} {l17_53 : Int32} {M : gM} (hR153 : ∀ (v0 : Int64) (v1 : Int64) (v2 : Int32) (M : gM), R153 v0 v1 v2 M → w M 153 [(0, .ref (gA G 268)), (3, .int l3_45), (4, .long l4_46), (6, .long l6_47), (8, .long l8_48), (10, .long l10_49), (12, .int l12_50), (13, .long v0), (15, .long v1), (17, .int v2)] []) (hK288_153 : ∀ (v0 : Int64) (v1 : Int64) (M : gM), K288_153 v0 v1 M → w M 288 [(0, .ref (gA G 268)), (3, .int l3_45), (13, .long v0), (15, .long v1)] []) (h : fX7_odds_L153s R153 K288_153 l3_45 l4_46 l6_47 l8_48 l10_49 l12_50 l13_51 l15_52 l17_53 M Q) : w M 153 [(0, .ref (gA G 268)), (3, .int l3_45), (4, .long l4_46), (6, .long l6_47), (8, .long l8_48), (10, .long l10_49), (12, .int l12_50), (13, .long l13_51), (15, .long l15_52), (17, .int l17_53)] [] := by
  unfold fX7_odds_L153s at h
  refine g_iload hw 9 dX7_odds_153 rfl ?_
  refine g_iconst (v := 1) hw dX7_odds_155 (by decide) ?_
  refine g_iload hw 6 dX7_odds_156 rfl ?_
  refine g_ishl hw dX7_odds_158 ?_
  refine g_icmp_ge (tgt := 288) hw dX7_odds_159 (by decide) (fun hb54 => ?_) (fun hb54 => ?_)
  · have h := gT h hb54
    refine g_sub hw (lv2 := [(0, .ref (gA G 268)), (3, .int l3_45), (13, .long l13_51), (15, .long l15_52)]) [0, 1, 7, 8] rfl ?_
    exact hK288_153 l13_51 l15_52 M h
  · have h := gF h hb54
    refine g_iconst (v := 0) hw dX7_odds_162 (by decide) ?_
    refine g_istore hw (lv2 := [(0, .ref (gA G 268)), (3, .int l3_45), (4, .long l4_46), (6, .long l6_47), (8, .long l8_48), (10, .long l10_49), (12, .int l12_50), (13, .long l13_51), (15, .long l15_52), (17, .int l17_53), (18, .int 0)]) [1, 2, 3, 4, 5, 6, 7, 8, 9, 10, 0] dX7_odds_163 rfl rfl ?_
    refine g_lconst (v := 0) hw dX7_odds_165 (by decide) ?_
    refine g_lstore hw (lv2 := [(0, .ref (gA G 268)), (3, .int l3_45), (4, .long l4_46), (6, .long l6_47), (8, .long l8_48), (10, .long l10_49), (12, .int l12_50), (13, .long l13_51), (15, .long l15_52), (17, .int l17_53), (18, .int 0), (19, .long 0)]) [1, 2, 3, 4, 5, 6, 7, 8, 9, 10, 11, 0] dX7_odds_166 rfl rfl ?_
    refine g_iconst (v := 0) hw dX7_odds_168 (by decide) ?_
    refine g_istore hw (lv2 := [(0, .ref (gA G 268)), (3, .int l3_45), (4, .long l4_46), (6, .long l6_47), (8, .long l8_48), (10, .long l10_49), (12, .int l12_50), (13, .long l13_51), (15, .long l15_52), (17, .int l17_53), (18, .int 0), (19, .long 0), (21, .int 0)]) [1, 2, 3, 4, 5, 6, 7, 8, 9, 10, 11, 12, 0] dX7_odds_169 rfl rfl ?_
    obtain ⟨n9, h⟩ := h
    refine wX7_odds_L171 hw hkf (fun l18_72 l19_73 M74 h => ?_) n9 0 0 0 M h
    refine g_iload hw 10 dX7_odds_224 rfl ?_
    refine g_i2l hw dX7_odds_226 ?_
    refine g_lload hw 3 dX7_odds_227 rfl ?_
    refine g_lcmp hw dX7_odds_229 ?_
    refine g_if_ne (tgt := 282) hw dX7_odds_230 (by decide) (fun hb75 => ?_) (fun hb75 => ?_)
    · have h := gF h hb75
      refine g_sub hw (lv2 := [(0, .ref (gA G 268)), (3, .int l3_45), (4, .long l4_46), (6, .long l6_47), (8, .long l8_48), (10, .long l10_49), (12, .int l12_50), (13, .long l13_51), (15, .long l15_52), (17, .int l17_53)]) [0, 1, 2, 3, 4, 5, 6, 7, 8, 9] rfl ?_
      exact wX7_odds_b282 hw hkf hR153 h
    · have h := gT h hb75
      refine g_lload hw 11 dX7_odds_233 rfl ?_
      refine g_lload hw 4 dX7_odds_235 rfl ?_
      refine g_lmul hw dX7_odds_237 ?_
      refine g_lload hw 5 dX7_odds_238 rfl ?_
      refine g_lload hw 11 dX7_odds_240 rfl ?_
      refine g_lsub hw dX7_odds_242 ?_
      refine g_lload hw 3 dX7_odds_243 rfl ?_
      refine g_lmul hw dX7_odds_245 ?_
      refine g_lsub hw dX7_odds_246 ?_
      refine g_lstore hw (lv2 := [(0, .ref (gA G 268)), (3, .int l3_45), (4, .long l4_46), (6, .long l6_47), (8, .long l8_48), (10, .long l10_49), (12, .int l12_50), (13, .long l13_51), (15, .long l15_52), (17, .int l17_53), (21, .long ((l19_73 * l8_48) - ((l10_49 - l19_73) * l6_47)))]) [1, 2, 3, 4, 5, 6, 7, 8, 9, 10, 0] dX7_odds_247 rfl rfl ?_
      refine g_lload hw 8 dX7_odds_249 rfl ?_
      refine g_lconst (v := 1) hw dX7_odds_251 (by decide) ?_
      refine g_ladd hw dX7_odds_252 ?_
      refine g_lstore hw (lv2 := [(0, .ref (gA G 268)), (3, .int l3_45), (4, .long l4_46), (6, .long l6_47), (8, .long l8_48), (10, .long l10_49), (12, .int l12_50), (13, .long l13_51), (15, .long (l15_52 + 1)), (17, .int l17_53), (21, .long ((l19_73 * l8_48) - ((l10_49 - l19_73) * l6_47)))]) [1, 2, 3, 4, 5, 6, 7, 8, 0, 9, 10] dX7_odds_253 rfl rfl ?_
      refine g_lload hw 7 dX7_odds_255 rfl ?_
      refine g_lload hw 10 dX7_odds_257 rfl ?_
      refine g_lload hw 2 dX7_odds_259 rfl ?_
      refine g_lcmp hw dX7_odds_261 ?_
      refine g_if_ge (tgt := 274) hw dX7_odds_262 (by decide) (fun hb79 => ?_) (fun hb79 => ?_)
      · have h := gT h hb79
        refine g_sub hw (lv2 := [(0, .ref (gA G 268)), (3, .int l3_45), (4, .long l4_46), (6, .long l6_47), (8, .long l8_48), (10, .long l10_49), (12, .int l12_50), (15, .long (l15_52 + 1)), (17, .int l17_53)]) [0, 1, 2, 3, 4, 5, 6, 8, 9] rfl ?_
        exact wX7_odds_b274 hw hkf hR153 h
      · have h := gF h hb79
        refine g_lload hw 10 dX7_odds_265 rfl ?_
        refine g_lneg hw dX7_odds_267 ?_
        refine g_lload hw 2 dX7_odds_268 rfl ?_
        refine g_lcmp hw dX7_odds_270 ?_
        refine g_if_lt (tgt := 278) hw dX7_odds_271 (by decide) (fun hb87 => ?_) (fun hb87 => ?_)
        · have h := gT h hb87
          refine g_lconst (v := 0) hw dX7_odds_278 (by decide) ?_
          refine g_sub hw (lv2 := [(0, .ref (gA G 268)), (3, .int l3_45), (4, .long l4_46), (6, .long l6_47), (8, .long l8_48), (10, .long l10_49), (12, .int l12_50), (15, .long (l15_52 + 1)), (17, .int l17_53)]) [0, 1, 2, 3, 4, 5, 6, 8, 9] rfl ?_
          exact wX7_odds_b279 hw hkf hR153 h
        · have h := gF h hb87
          refine g_sub hw (lv2 := [(0, .ref (gA G 268)), (3, .int l3_45), (4, .long l4_46), (6, .long l6_47), (8, .long l8_48), (10, .long l10_49), (12, .int l12_50), (15, .long (l15_52 + 1)), (17, .int l17_53)]) [0, 1, 2, 3, 4, 5, 6, 8, 9] rfl ?_
          exact wX7_odds_b274 hw hkf hR153 h
theorem wX7_odds_L153 {kf : Nat} {G : gG} {w : gM → Nat → List (Nat × Value) → List Value → Prop} {Q : Int64 → gM → Prop} (hw : gX yX7_odds cX7_odds 23 (Option.some FieldType.long) [] kf G (gQl Q) gE0 w) (hkf : 5 ≤ kf) {K288_153 : Int64 → Int64 → gM → Prop} {l3_45 : Int32} {l4_46 : Int64} {l6_47 : Int64} {l8_48 : Int64} {l10_49 : Int64} {l12_50 : Int32} (hK288_153 : ∀ (v0 : Int64) (v1 : Int64) (M : gM), K288_153 v0 v1 M → w M 288 [(0, .ref (gA G 268)), (3, .int l3_45), (13, .long v0), (15, .long v1)] []) : ∀ (n : Nat) (l13_51 : Int64) (l15_52 : Int64) (l17_53 : Int32) (M : gM), fX7_odds_L153 K288_153 l3_45 l4_46 l6_47 l8_48 l10_49 l12_50 Q n l13_51 l15_52 l17_53 M → w M 153 [(0, .ref (gA G 268)), (3, .int l3_45), (4, .long l4_46), (6, .long l6_47), (8, .long l8_48), (10, .long l10_49), (12, .int l12_50), (13, .long l13_51), (15, .long l15_52), (17, .int l17_53)] [] := by
  intro n
  induction n with
  | zero => intro l13_51 l15_52 l17_53 M h; exact h.elim
  | succ n ih => intro l13_51 l15_52 l17_53 M h; exact wX7_odds_L153s hw hkf ih hK288_153 h
def fX7_odds_b71 (l1_15 : Int32) (l2_16 : Int32) (l3_17 : Int32) (s0_18 : Int64) (M : gM) (Q : Int64 → gM → Prop) : Prop :=
  gk M 268 = 7 ∧ ∃ n, fX7_odds_L102 (fun l12_43 M44 => ∃ n, fX7_odds_L153 (fun l13_88 l15_89 M90 => gk M90 268 = 7 ∧ fX7_lowest l3_17 (gsL (gsL M90 268 24 l13_88) 268 25 l15_89) (fun r93 M92 => Q r93 M92)) l3_17 s0_18 (gL M 268 27) (gL M 268 29) ((gL M 268 26) + (gL M 268 28)) l12_43 Q n 0 0 0 M44) l1_15 l2_16 l3_17 s0_18 (gL M 268 27) (gL M 268 29) ((gL M 268 26) + (gL M 268 28)) Q n 0 0 M
theorem wX7_odds_b71 {kf : Nat} {G : gG} {w : gM → Nat → List (Nat × Value) → List Value → Prop} {Q : Int64 → gM → Prop} (hw : gX yX7_odds cX7_odds 23 (Option.some FieldType.long) [] kf G (gQl Q) gE0 w) (hkf : 5 ≤ kf)  {l1_15 : Int32} {l2_16 : Int32} {l3_17 : Int32} {s0_18 : Int64} {M : gM}  (h : fX7_odds_b71 l1_15 l2_16 l3_17 s0_18 M Q) : w M 71 [(0, .ref (gA G 268)), (1, .int l1_15), (2, .int l2_16), (3, .int l3_17)] [.long s0_18] := by
  unfold fX7_odds_b71 at h
  refine g_lstore hw (lv2 := [(0, .ref (gA G 268)), (1, .int l1_15), (2, .int l2_16), (3, .int l3_17), (4, .long s0_18)]) [1, 2, 3, 4, 0] dX7_odds_71 rfl rfl ?_
  refine g_aload_n hw 0 dX7_odds_73 rfl ?_
  obtain ⟨hk19, h⟩ := h
  refine gfX7_295 hw rfl dX7_odds_74 hk19 ?_
  refine g_lstore hw (lv2 := [(0, .ref (gA G 268)), (1, .int l1_15), (2, .int l2_16), (3, .int l3_17), (4, .long s0_18), (6, .long (gL M 268 27))]) [1, 2, 3, 4, 5, 0] dX7_odds_77 rfl rfl ?_
  refine g_aload_n hw 0 dX7_odds_79 rfl ?_
  refine gfX7_301 hw rfl dX7_odds_80 hk19 ?_
  refine g_lstore hw (lv2 := [(0, .ref (gA G 268)), (1, .int l1_15), (2, .int l2_16), (3, .int l3_17), (4, .long s0_18), (6, .long (gL M 268 27)), (8, .long (gL M 268 29))]) [1, 2, 3, 4, 5, 6, 0] dX7_odds_83 rfl rfl ?_
  refine g_aload_n hw 0 dX7_odds_85 rfl ?_
  refine gfX7_292 hw rfl dX7_odds_86 hk19 ?_
  refine g_aload_n hw 0 dX7_odds_89 rfl ?_
  refine gfX7_298 hw rfl dX7_odds_90 hk19 ?_
  refine g_ladd hw dX7_odds_93 ?_
  refine g_lstore hw (lv2 := [(0, .ref (gA G 268)), (1, .int l1_15), (2, .int l2_16), (3, .int l3_17), (4, .long s0_18), (6, .long (gL M 268 27)), (8, .long (gL M 268 29)), (10, .long ((gL M 268 26) + (gL M 268 28)))]) [1, 2, 3, 4, 5, 6, 7, 0] dX7_odds_94 rfl rfl ?_
  refine g_iconst (v := 0) hw dX7_odds_96 (by decide) ?_
  refine g_istore hw (lv2 := [(0, .ref (gA G 268)), (1, .int l1_15), (2, .int l2_16), (3, .int l3_17), (4, .long s0_18), (6, .long (gL M 268 27)), (8, .long (gL M 268 29)), (10, .long ((gL M 268 26) + (gL M 268 28))), (12, .int 0)]) [1, 2, 3, 4, 5, 6, 7, 8, 0] dX7_odds_97 rfl rfl ?_
  refine g_iconst (v := 0) hw dX7_odds_99 (by decide) ?_
  refine g_istore hw (lv2 := [(0, .ref (gA G 268)), (1, .int l1_15), (2, .int l2_16), (3, .int l3_17), (4, .long s0_18), (6, .long (gL M 268 27)), (8, .long (gL M 268 29)), (10, .long ((gL M 268 26) + (gL M 268 28))), (12, .int 0), (13, .int 0)]) [1, 2, 3, 4, 5, 6, 7, 8, 9, 0] dX7_odds_100 rfl rfl ?_
  obtain ⟨n9, h⟩ := h
  refine wX7_odds_L102 hw hkf (fun l12_43 M44 h => ?_) n9 0 0 M h
  refine g_lconst (v := 0) hw dX7_odds_144 (by decide) ?_
  refine g_lstore hw (lv2 := [(0, .ref (gA G 268)), (3, .int l3_17), (4, .long s0_18), (6, .long (gL M 268 27)), (8, .long (gL M 268 29)), (10, .long ((gL M 268 26) + (gL M 268 28))), (12, .int l12_43), (13, .long 0)]) [1, 2, 3, 4, 5, 6, 7, 0] dX7_odds_145 rfl rfl ?_
  refine g_lconst (v := 0) hw dX7_odds_147 (by decide) ?_
  refine g_lstore hw (lv2 := [(0, .ref (gA G 268)), (3, .int l3_17), (4, .long s0_18), (6, .long (gL M 268 27)), (8, .long (gL M 268 29)), (10, .long ((gL M 268 26) + (gL M 268 28))), (12, .int l12_43), (13, .long 0), (15, .long 0)]) [1, 2, 3, 4, 5, 6, 7, 8, 0] dX7_odds_148 rfl rfl ?_
  refine g_iconst (v := 0) hw dX7_odds_150 (by decide) ?_
  refine g_istore hw (lv2 := [(0, .ref (gA G 268)), (3, .int l3_17), (4, .long s0_18), (6, .long (gL M 268 27)), (8, .long (gL M 268 29)), (10, .long ((gL M 268 26) + (gL M 268 28))), (12, .int l12_43), (13, .long 0), (15, .long 0), (17, .int 0)]) [1, 2, 3, 4, 5, 6, 7, 8, 9, 0] dX7_odds_151 rfl rfl ?_
  obtain ⟨n9, h⟩ := h
  refine wX7_odds_L153 hw hkf (fun l13_88 l15_89 M90 h => ?_) n9 0 0 0 M44 h
  refine g_aload_n hw 0 dX7_odds_288 rfl ?_
  refine g_lload hw 2 dX7_odds_289 rfl ?_
  obtain ⟨hk91, h⟩ := h
  refine pfX7_281 hw rfl dX7_odds_291 hk91 ?_
  refine g_aload_n hw 0 dX7_odds_294 rfl ?_
  refine g_lload hw 3 dX7_odds_295 rfl ?_
  refine pfX7_285 hw rfl dX7_odds_297 hk91 ?_
  refine g_aload_n hw 0 dX7_odds_300 rfl ?_
  refine g_iload_n hw 1 dX7_odds_301 rfl ?_
  refine sX7_321 hw rfl dX7_odds_302 rfl (gK2 hkf) hk91 h (fun r93 M92 h => ?_)
  exact g_lret hw dX7_odds_305 ⟨_, rfl, h⟩
def fX7_odds (p1 : Int32) (p2 : Int32) (p3 : Int32) (M : gM) (Q : Int64 → gM → Prop) : Prop :=
  gk M 268 = 7 ∧ fX7_areMonths p1 p2 (gsI M 268 0 0) (fun r3 M2 => (if r3 = 0 then Q (-1) M2 else fX7_isWhat p3 M2 (fun r6 M5 => (if r6 = 0 then Q (-1) M5 else gk M5 268 = 7 ∧ fX7_findRiver p1 p2 (-1) M5 (fun r10 M9 => (if r10 = 0 then Q (-1) M9 else gk M9 268 = 7 ∧ (if (lg_cmp ((gL M9 268 27) + (gL M9 268 29)) 14) ≤ 0 then (if 0 ≤ (lg_cmp (gL M9 268 24) 0) then fX7_odds_b71 p1 p2 p3 (gL M9 268 24) M9 Q else fX7_odds_b71 p1 p2 p3 (-(gL M9 268 24)) M9 Q) else Q (-1) M9)))))))
theorem mX7_odds {kf : Nat} (hkf : 5 ≤ kf) (G : gG) (p1 : Int32) (p2 : Int32) (p3 : Int32) (M : gM) (Q : Int64 → gM → Prop) (h : fX7_odds p1 p2 p3 M Q) : gMet yX7_odds cX7_odds 23 (Option.some FieldType.long) kf G M [.ref (gA G 268), .int p1, .int p2, .int p3] (gQl Q) gE0 := by
  refine g_intro (lv := [(0, .ref (gA G 268)), (1, .int p1), (2, .int p2), (3, .int p3)]) (by decide) rfl rfl (fun w hw => ?_)
  unfold fX7_odds at h
  refine g_aload_n hw 0 dX7_odds_0 rfl ?_
  refine g_iconst (v := 0) hw dX7_odds_1 (by decide) ?_
  obtain ⟨hk1, h⟩ := h
  refine pfX7_1 hw rfl dX7_odds_2 hk1 ?_
  refine g_iload_n hw 1 dX7_odds_5 rfl ?_
  refine g_iload_n hw 2 dX7_odds_6 rfl ?_
  refine sX7_270 hw rfl dX7_odds_7 rfl (gK2 hkf) h (fun r3 M2 h => ?_)
  refine g_if_eq (tgt := 46) hw dX7_odds_10 (by decide) (fun hb4 => ?_) (fun hb4 => ?_)
  · have h := gT h hb4
    refine g_ldc2 hw dX7_odds_46 q1460 ?_
    exact g_lret hw dX7_odds_49 ⟨_, rfl, h⟩
  · have h := gF h hb4
    refine g_iload_n hw 3 dX7_odds_13 rfl ?_
    refine sX7_315 hw rfl dX7_odds_14 rfl (gK2 hkf) h (fun r6 M5 h => ?_)
    refine g_if_eq (tgt := 46) hw dX7_odds_17 (by decide) (fun hb7 => ?_) (fun hb7 => ?_)
    · have h := gT h hb7
      refine g_ldc2 hw dX7_odds_46 q1460 ?_
      exact g_lret hw dX7_odds_49 ⟨_, rfl, h⟩
    · have h := gF h hb7
      refine g_aload_n hw 0 dX7_odds_20 rfl ?_
      refine g_iload_n hw 1 dX7_odds_21 rfl ?_
      refine g_iload_n hw 2 dX7_odds_22 rfl ?_
      refine g_iconst (v := (-1)) hw dX7_odds_23 (by decide) ?_
      obtain ⟨hk8, h⟩ := h
      refine sX7_318 hw rfl dX7_odds_24 rfl (gK2 hkf) hk8 h (fun r10 M9 h => ?_)
      refine g_if_eq (tgt := 46) hw dX7_odds_27 (by decide) (fun hb11 => ?_) (fun hb11 => ?_)
      · have h := gT h hb11
        refine g_ldc2 hw dX7_odds_46 q1460 ?_
        exact g_lret hw dX7_odds_49 ⟨_, rfl, h⟩
      · have h := gF h hb11
        refine g_aload_n hw 0 dX7_odds_30 rfl ?_
        obtain ⟨hk12, h⟩ := h
        refine gfX7_295 hw rfl dX7_odds_31 hk12 ?_
        refine g_aload_n hw 0 dX7_odds_34 rfl ?_
        refine gfX7_301 hw rfl dX7_odds_35 hk12 ?_
        refine g_ladd hw dX7_odds_38 ?_
        refine g_ldc2 hw dX7_odds_39 q1459 ?_
        refine g_lcmp hw dX7_odds_42 ?_
        refine g_if_le (tgt := 50) hw dX7_odds_43 (by decide) (fun hb13 => ?_) (fun hb13 => ?_)
        · have h := gT h hb13
          refine g_aload_n hw 0 dX7_odds_50 rfl ?_
          refine gfX7_281 hw rfl dX7_odds_51 hk12 ?_
          refine g_lconst (v := 0) hw dX7_odds_54 (by decide) ?_
          refine g_lcmp hw dX7_odds_55 ?_
          refine g_if_ge (tgt := 67) hw dX7_odds_56 (by decide) (fun hb14 => ?_) (fun hb14 => ?_)
          · have h := gT h hb14
            refine g_aload_n hw 0 dX7_odds_67 rfl ?_
            refine gfX7_281 hw rfl dX7_odds_68 hk12 ?_
            exact wX7_odds_b71 hw hkf h
          · have h := gF h hb14
            refine g_aload_n hw 0 dX7_odds_59 rfl ?_
            refine gfX7_281 hw rfl dX7_odds_60 hk12 ?_
            refine g_lneg hw dX7_odds_63 ?_
            refine g_goto (tgt := 71) hw dX7_odds_64 (by decide) ?_
            exact wX7_odds_b71 hw hkf h
        · have h := gF h hb13
          refine g_ldc2 hw dX7_odds_46 q1460 ?_
          exact g_lret hw dX7_odds_49 ⟨_, rfl, h⟩
def fX7_beside_b102 (R40 : Int32 → gM → Prop) (l1_15 : Int32) (l2_16 : Int32) (l3_17 : Int32) (l4_24 : Int32) (M : gM) (Q : Int64 → gM → Prop) : Prop :=
  R40 (l4_24 + 1) M
theorem wX7_beside_b102 {kf : Nat} {G : gG} {w : gM → Nat → List (Nat × Value) → List Value → Prop} {Q : Int64 → gM → Prop} (hw : gX yX7_beside cX7_beside 5 (Option.some FieldType.long) [] kf G (gQl Q) gE0 w) (hkf : 4 ≤ kf) {R40 : Int32 → gM → Prop} {l1_15 : Int32} {l2_16 : Int32} {l3_17 : Int32} {l4_24 : Int32} {M : gM} (hR40 : ∀ (v0 : Int32) (M : gM), R40 v0 M → w M 40 [(0, .ref (gA G 268)), (1, .int l1_15), (2, .int l2_16), (3, .int l3_17), (4, .int v0)] []) (h : fX7_beside_b102 R40 l1_15 l2_16 l3_17 l4_24 M Q) : w M 102 [(0, .ref (gA G 268)), (1, .int l1_15), (2, .int l2_16), (3, .int l3_17), (4, .int l4_24)] [] := by
  unfold fX7_beside_b102 at h
  refine g_iinc hw (lv2 := [(0, .ref (gA G 268)), (1, .int l1_15), (2, .int l2_16), (3, .int l3_17), (4, .int (l4_24 + 1))]) 4 [1, 2, 3, 4, 0] dX7_beside_102 rfl (by decide) rfl rfl ?_
  refine g_goto (tgt := 40) hw dX7_beside_105 (by decide) ?_
  exact hR40 (l4_24 + 1) M h
def fX7_beside_b90 (R40 : Int32 → gM → Prop) (l1_15 : Int32) (l2_16 : Int32) (l3_17 : Int32) (l4_40 : Int32) (s1_41 : Int32) (M : gM) (Q : Int64 → gM → Prop) : Prop :=
  gk M 268 = 7 ∧ fX7_changeOf l4_40 l1_15 l2_16 M (fun r44 M43 => gk M43 268 = 7 ∧ fX7_adds s1_41 r44.toInt64 M43 (fun M46 => fX7_beside_b102 R40 l1_15 l2_16 l3_17 l4_40 M46 Q))
theorem wX7_beside_b90 {kf : Nat} {G : gG} {w : gM → Nat → List (Nat × Value) → List Value → Prop} {Q : Int64 → gM → Prop} (hw : gX yX7_beside cX7_beside 5 (Option.some FieldType.long) [] kf G (gQl Q) gE0 w) (hkf : 4 ≤ kf) {R40 : Int32 → gM → Prop} {l1_15 : Int32} {l2_16 : Int32} {l3_17 : Int32} {l4_40 : Int32} {s1_41 : Int32} {M : gM} (hR40 : ∀ (v0 : Int32) (M : gM), R40 v0 M → w M 40 [(0, .ref (gA G 268)), (1, .int l1_15), (2, .int l2_16), (3, .int l3_17), (4, .int v0)] []) (h : fX7_beside_b90 R40 l1_15 l2_16 l3_17 l4_40 s1_41 M Q) : w M 90 [(0, .ref (gA G 268)), (1, .int l1_15), (2, .int l2_16), (3, .int l3_17), (4, .int l4_40)] [.int s1_41, .ref (gA G 268)] := by
  unfold fX7_beside_b90 at h
  refine g_aload_n hw 0 dX7_beside_90 rfl ?_
  refine g_iload hw 4 dX7_beside_91 rfl ?_
  refine g_iload_n hw 1 dX7_beside_93 rfl ?_
  refine g_iload_n hw 2 dX7_beside_94 rfl ?_
  obtain ⟨hk42, h⟩ := h
  refine sX7_277 hw rfl dX7_beside_95 rfl (gK2 hkf) hk42 h (fun r44 M43 h => ?_)
  refine g_i2l hw dX7_beside_98 ?_
  obtain ⟨hk45, h⟩ := h
  refine sX7_307 hw rfl dX7_beside_99 rfl (gK2 hkf) hk45 h (fun M46 h => ?_)
  exact wX7_beside_b102 hw hkf hR40 h
def fX7_beside_L40s (R40 : Int32 → gM → Prop) (K108_40 : gM → Prop) (l1_15 : Int32) (l2_16 : Int32) (l3_17 : Int32) (l4_18 : Int32) (M : gM) (Q : Int64 → gM → Prop) : Prop :=
  (if 24 ≤ l4_18 then K108_40 M else gk M 268 = 7 ∧ fX7_isCounted l4_18 l1_15 l2_16 M (fun r22 M21 => (if r22 = 0 then fX7_beside_b102 R40 l1_15 l2_16 l3_17 l4_18 M21 Q else gk M21 268 = 7 ∧ gdr (gR M21 268 11) (fun a26 => gk M21 a26 = 40 ∧ vp_in l4_18 (gl M21 a26) ∧ (if (gI M21 a26 l4_18.toNatClampNeg) = 0 then gdr (gR M21 268 12) (fun a31 => gk M21 a31 = 40 ∧ vp_in l4_18 (gl M21 a31) ∧ gdr (gR M21 268 16) (fun a35 => gk M21 a35 = 40 ∧ vp_in l2_16 (gl M21 a35) ∧ (if (gI M21 a35 l2_16.toNatClampNeg) ≤ (gI M21 a31 l4_18.toNatClampNeg) then fX7_beside_b90 R40 l1_15 l2_16 l3_17 l4_18 0 M21 Q else fX7_beside_b90 R40 l1_15 l2_16 l3_17 l4_18 1 M21 Q))) else fX7_beside_b102 R40 l1_15 l2_16 l3_17 l4_18 M21 Q)))))
def fX7_beside_L40 (K108_40 : gM → Prop) (l1_15 : Int32) (l2_16 : Int32) (l3_17 : Int32) (Q : Int64 → gM → Prop) : Nat → Int32 → gM → Prop
  | 0 => fun _ _ => False
  | n + 1 => fun l4_18 M => fX7_beside_L40s (fX7_beside_L40 K108_40 l1_15 l2_16 l3_17 Q n) K108_40 l1_15 l2_16 l3_17 l4_18 M Q
theorem wX7_beside_L40s {kf : Nat} {G : gG} {w : gM → Nat → List (Nat × Value) → List Value → Prop} {Q : Int64 → gM → Prop} (hw : gX yX7_beside cX7_beside 5 (Option.some FieldType.long) [] kf G (gQl Q) gE0 w) (hkf : 4 ≤ kf) {R40 : Int32 → gM → Prop} {K108_40 : gM → Prop} {l1_15 : Int32} {l2_16 : Int32} {l3_17 : Int32} {l4_18 : Int32} {M : gM} (hR40 : ∀ (v0 : Int32) (M : gM), R40 v0 M → w M 40 [(0, .ref (gA G 268)), (1, .int l1_15), (2, .int l2_16), (3, .int l3_17), (4, .int v0)] []) (hK108_40 : ∀  (M : gM), K108_40 M → w M 108 [(0, .ref (gA G 268)), (3, .int l3_17)] []) (h : fX7_beside_L40s R40 K108_40 l1_15 l2_16 l3_17 l4_18 M Q) : w M 40 [(0, .ref (gA G 268)), (1, .int l1_15), (2, .int l2_16), (3, .int l3_17), (4, .int l4_18)] [] := by
  unfold fX7_beside_L40s at h
  refine g_iload hw 4 dX7_beside_40 rfl ?_
  refine g_bipush (v := 24) hw dX7_beside_42 (by decide) ?_
  refine g_icmp_ge (tgt := 108) hw dX7_beside_44 (by decide) (fun hb19 => ?_) (fun hb19 => ?_)
  · have h := gT h hb19
    refine g_sub hw (lv2 := [(0, .ref (gA G 268)), (3, .int l3_17)]) [0, 3] rfl ?_
    exact hK108_40 M h
  · have h := gF h hb19
    refine g_aload_n hw 0 dX7_beside_47 rfl ?_
    refine g_iload hw 4 dX7_beside_48 rfl ?_
    refine g_iload_n hw 1 dX7_beside_50 rfl ?_
    refine g_iload_n hw 2 dX7_beside_51 rfl ?_
    obtain ⟨hk20, h⟩ := h
    refine sX7_274 hw rfl dX7_beside_52 rfl (gK2 hkf) hk20 h (fun r22 M21 h => ?_)
    refine g_if_eq (tgt := 102) hw dX7_beside_55 (by decide) (fun hb23 => ?_) (fun hb23 => ?_)
    · have h := gT h hb23
      exact wX7_beside_b102 hw hkf hR40 h
    · have h := gF h hb23
      refine g_aload_n hw 0 dX7_beside_58 rfl ?_
      obtain ⟨hk25, h⟩ := h
      obtain ⟨a26, e27, h⟩ := h
      refine gfX7_97 (q := some a26) hw rfl dX7_beside_59 hk25 e27 ?_
      refine g_iload hw 4 dX7_beside_62 rfl ?_
      obtain ⟨hk28, h⟩ := h
      obtain ⟨hi29, h⟩ := h
      refine g_iald (n := l4_18.toNatClampNeg) hw dX7_beside_64 hk28 hi29 rfl ?_
      refine g_if_ne (tgt := 102) hw dX7_beside_65 (by decide) (fun hb30 => ?_) (fun hb30 => ?_)
      · have h := gF h hb30
        exact wX7_beside_b102 hw hkf hR40 h
      · have h := gT h hb30
        refine g_aload_n hw 0 dX7_beside_68 rfl ?_
        refine g_aload_n hw 0 dX7_beside_69 rfl ?_
        obtain ⟨a31, e32, h⟩ := h
        refine gfX7_100 (q := some a31) hw rfl dX7_beside_70 hk25 e32 ?_
        refine g_iload hw 4 dX7_beside_73 rfl ?_
        obtain ⟨hk33, h⟩ := h
        obtain ⟨hi34, h⟩ := h
        refine g_iald (n := l4_18.toNatClampNeg) hw dX7_beside_75 hk33 hi34 rfl ?_
        refine g_aload_n hw 0 dX7_beside_76 rfl ?_
        obtain ⟨a35, e36, h⟩ := h
        refine gfX7_109 (q := some a35) hw rfl dX7_beside_77 hk25 e36 ?_
        refine g_iload_n hw 2 dX7_beside_80 rfl ?_
        obtain ⟨hk37, h⟩ := h
        obtain ⟨hi38, h⟩ := h
        refine g_iald (n := l2_16.toNatClampNeg) hw dX7_beside_81 hk37 hi38 rfl ?_
        refine g_icmp_ge (tgt := 89) hw dX7_beside_82 (by decide) (fun hb39 => ?_) (fun hb39 => ?_)
        · have h := gT h hb39
          refine g_iconst (v := 0) hw dX7_beside_89 (by decide) ?_
          exact wX7_beside_b90 hw hkf hR40 h
        · have h := gF h hb39
          refine g_iconst (v := 1) hw dX7_beside_85 (by decide) ?_
          refine g_goto (tgt := 90) hw dX7_beside_86 (by decide) ?_
          exact wX7_beside_b90 hw hkf hR40 h
theorem wX7_beside_L40 {kf : Nat} {G : gG} {w : gM → Nat → List (Nat × Value) → List Value → Prop} {Q : Int64 → gM → Prop} (hw : gX yX7_beside cX7_beside 5 (Option.some FieldType.long) [] kf G (gQl Q) gE0 w) (hkf : 4 ≤ kf) {K108_40 : gM → Prop} {l1_15 : Int32} {l2_16 : Int32} {l3_17 : Int32} (hK108_40 : ∀  (M : gM), K108_40 M → w M 108 [(0, .ref (gA G 268)), (3, .int l3_17)] []) : ∀ (n : Nat) (l4_18 : Int32) (M : gM), fX7_beside_L40 K108_40 l1_15 l2_16 l3_17 Q n l4_18 M → w M 40 [(0, .ref (gA G 268)), (1, .int l1_15), (2, .int l2_16), (3, .int l3_17), (4, .int l4_18)] [] := by
  intro n
  induction n with
  | zero => intro l4_18 M h; exact h.elim
  | succ n ih => intro l4_18 M h; exact wX7_beside_L40s hw hkf ih hK108_40 h
def fX7_beside_b121 (l3_53 : Int32) (s1_54 : Int32) (M : gM) (Q : Int64 → gM → Prop) : Prop :=
  gk M 268 = 7 ∧ (if (gI (gsI M 268 0 s1_54) 268 0) ≤ 0 then fX7_lowest l3_53 (gsI M 268 0 s1_54) (fun r58 M57 => Q r58 M57) else Q 0 (gsI M 268 0 s1_54))
theorem wX7_beside_b121 {kf : Nat} {G : gG} {w : gM → Nat → List (Nat × Value) → List Value → Prop} {Q : Int64 → gM → Prop} (hw : gX yX7_beside cX7_beside 5 (Option.some FieldType.long) [] kf G (gQl Q) gE0 w) (hkf : 4 ≤ kf)  {l3_53 : Int32} {s1_54 : Int32} {M : gM}  (h : fX7_beside_b121 l3_53 s1_54 M Q) : w M 121 [(0, .ref (gA G 268)), (3, .int l3_53)] [.int s1_54, .ref (gA G 268)] := by
  unfold fX7_beside_b121 at h
  obtain ⟨hk55, h⟩ := h
  refine pfX7_1 hw rfl dX7_beside_121 hk55 ?_
  refine g_aload_n hw 0 dX7_beside_124 rfl ?_
  refine gfX7_1 hw rfl dX7_beside_125 hk55 ?_
  refine g_if_le (tgt := 135) hw dX7_beside_128 (by decide) (fun hb56 => ?_) (fun hb56 => ?_)
  · have h := gT h hb56
    refine g_aload_n hw 0 dX7_beside_135 rfl ?_
    refine g_iload_n hw 1 dX7_beside_136 rfl ?_
    refine sX7_321 hw rfl dX7_beside_137 rfl (gK2 hkf) hk55 h (fun r58 M57 h => ?_)
    exact g_lret hw dX7_beside_140 ⟨_, rfl, h⟩
  · have h := gF h hb56
    refine g_lconst (v := 0) hw dX7_beside_131 (by decide) ?_
    refine g_goto (tgt := 140) hw dX7_beside_132 (by decide) ?_
    exact g_lret hw dX7_beside_140 ⟨_, rfl, h⟩
def fX7_beside_b21 (l1_7 : Int32) (l2_8 : Int32) (l3_9 : Int32) (s1_10 : Int32) (M : gM) (Q : Int64 → gM → Prop) : Prop :=
  gk M 268 = 7 ∧ (if (gI (gsI M 268 0 s1_10) 268 0) ≤ 0 then fX7_beginsSums (gsI M 268 0 s1_10) (fun M13 => ∃ n, fX7_beside_L40 (fun M48 => gk M48 268 = 7 ∧ fX7_differs M48 (fun r51 M50 => (if r51 = 0 then fX7_beside_b121 l3_9 1 M50 Q else fX7_beside_b121 l3_9 0 M50 Q))) l1_7 l2_8 l3_9 Q n 0 M13) else Q 0 (gsI M 268 0 s1_10))
theorem wX7_beside_b21 {kf : Nat} {G : gG} {w : gM → Nat → List (Nat × Value) → List Value → Prop} {Q : Int64 → gM → Prop} (hw : gX yX7_beside cX7_beside 5 (Option.some FieldType.long) [] kf G (gQl Q) gE0 w) (hkf : 4 ≤ kf)  {l1_7 : Int32} {l2_8 : Int32} {l3_9 : Int32} {s1_10 : Int32} {M : gM}  (h : fX7_beside_b21 l1_7 l2_8 l3_9 s1_10 M Q) : w M 21 [(0, .ref (gA G 268)), (1, .int l1_7), (2, .int l2_8), (3, .int l3_9)] [.int s1_10, .ref (gA G 268)] := by
  unfold fX7_beside_b21 at h
  obtain ⟨hk11, h⟩ := h
  refine pfX7_1 hw rfl dX7_beside_21 hk11 ?_
  refine g_aload_n hw 0 dX7_beside_24 rfl ?_
  refine gfX7_1 hw rfl dX7_beside_25 hk11 ?_
  refine g_if_le (tgt := 33) hw dX7_beside_28 (by decide) (fun hb12 => ?_) (fun hb12 => ?_)
  · have h := gT h hb12
    refine g_aload_n hw 0 dX7_beside_33 rfl ?_
    refine sX7_304 hw rfl dX7_beside_34 rfl (gK2 hkf) hk11 h (fun M13 h => ?_)
    refine g_iconst (v := 0) hw dX7_beside_37 (by decide) ?_
    refine g_istore hw (lv2 := [(0, .ref (gA G 268)), (1, .int l1_7), (2, .int l2_8), (3, .int l3_9), (4, .int 0)]) [1, 2, 3, 4, 0] dX7_beside_38 rfl rfl ?_
    obtain ⟨n9, h⟩ := h
    refine wX7_beside_L40 hw hkf (fun M48 h => ?_) n9 0 M13 h
    refine g_aload_n hw 0 dX7_beside_108 rfl ?_
    refine g_aload_n hw 0 dX7_beside_109 rfl ?_
    obtain ⟨hk49, h⟩ := h
    refine sX7_311 hw rfl dX7_beside_110 rfl (gK2 hkf) hk49 h (fun r51 M50 h => ?_)
    refine g_if_eq (tgt := 120) hw dX7_beside_113 (by decide) (fun hb52 => ?_) (fun hb52 => ?_)
    · have h := gT h hb52
      refine g_iconst (v := 1) hw dX7_beside_120 (by decide) ?_
      exact wX7_beside_b121 hw hkf h
    · have h := gF h hb52
      refine g_iconst (v := 0) hw dX7_beside_116 (by decide) ?_
      refine g_goto (tgt := 121) hw dX7_beside_117 (by decide) ?_
      exact wX7_beside_b121 hw hkf h
  · have h := gF h hb12
    refine g_lconst (v := 0) hw dX7_beside_31 (by decide) ?_
    exact g_lret hw dX7_beside_32 ⟨_, rfl, h⟩
def fX7_beside_b20 (l1_4 : Int32) (l2_5 : Int32) (l3_6 : Int32) (M : gM) (Q : Int64 → gM → Prop) : Prop :=
  fX7_beside_b21 l1_4 l2_5 l3_6 1 M Q
theorem wX7_beside_b20 {kf : Nat} {G : gG} {w : gM → Nat → List (Nat × Value) → List Value → Prop} {Q : Int64 → gM → Prop} (hw : gX yX7_beside cX7_beside 5 (Option.some FieldType.long) [] kf G (gQl Q) gE0 w) (hkf : 4 ≤ kf)  {l1_4 : Int32} {l2_5 : Int32} {l3_6 : Int32} {M : gM}  (h : fX7_beside_b20 l1_4 l2_5 l3_6 M Q) : w M 20 [(0, .ref (gA G 268)), (1, .int l1_4), (2, .int l2_5), (3, .int l3_6)] [.ref (gA G 268)] := by
  unfold fX7_beside_b20 at h
  refine g_iconst (v := 1) hw dX7_beside_20 (by decide) ?_
  exact wX7_beside_b21 hw hkf h
def fX7_beside (p1 : Int32) (p2 : Int32) (p3 : Int32) (M : gM) (Q : Int64 → gM → Prop) : Prop :=
  fX7_areMonths p1 p2 M (fun r2 M1 => (if r2 = 0 then fX7_beside_b20 p1 p2 p3 M1 Q else fX7_isWhat p3 M1 (fun r60 M59 => (if r60 = 0 then fX7_beside_b20 p1 p2 p3 M59 Q else fX7_beside_b21 p1 p2 p3 0 M59 Q))))
theorem mX7_beside {kf : Nat} (hkf : 4 ≤ kf) (G : gG) (p1 : Int32) (p2 : Int32) (p3 : Int32) (M : gM) (Q : Int64 → gM → Prop) (h : fX7_beside p1 p2 p3 M Q) : gMet yX7_beside cX7_beside 5 (Option.some FieldType.long) kf G M [.ref (gA G 268), .int p1, .int p2, .int p3] (gQl Q) gE0 := by
  refine g_intro (lv := [(0, .ref (gA G 268)), (1, .int p1), (2, .int p2), (3, .int p3)]) (by decide) rfl rfl (fun w hw => ?_)
  unfold fX7_beside at h
  refine g_aload_n hw 0 dX7_beside_0 rfl ?_
  refine g_iload_n hw 1 dX7_beside_1 rfl ?_
  refine g_iload_n hw 2 dX7_beside_2 rfl ?_
  refine sX7_270 hw rfl dX7_beside_3 rfl (gK2 hkf) h (fun r2 M1 h => ?_)
  refine g_if_eq (tgt := 20) hw dX7_beside_6 (by decide) (fun hb3 => ?_) (fun hb3 => ?_)
  · have h := gT h hb3
    exact wX7_beside_b20 hw hkf h
  · have h := gF h hb3
    refine g_iload_n hw 3 dX7_beside_9 rfl ?_
    refine sX7_315 hw rfl dX7_beside_10 rfl (gK2 hkf) h (fun r60 M59 h => ?_)
    refine g_if_eq (tgt := 20) hw dX7_beside_13 (by decide) (fun hb61 => ?_) (fun hb61 => ?_)
    · have h := gT h hb61
      exact wX7_beside_b20 hw hkf h
    · have h := gF h hb61
      refine g_iconst (v := 0) hw dX7_beside_16 (by decide) ?_
      refine g_goto (tgt := 21) hw dX7_beside_17 (by decide) ?_
      exact wX7_beside_b21 hw hkf h
def fX7_alike_b111 (R39 : Int32 → Int64 → Int64 → Int32 → gM → Prop) (l1_8 : Int32) (l2_9 : Int32) (l3_19 : Int32) (l4_20 : Int64) (l6_21 : Int64) (l8_22 : Int32) (M : gM) (Q : Int64 → gM → Prop) : Prop :=
  R39 l3_19 l4_20 l6_21 (l8_22 + 1) M
theorem wX7_alike_b111 {kf : Nat} {G : gG} {w : gM → Nat → List (Nat × Value) → List Value → Prop} {Q : Int64 → gM → Prop} (hw : gX yX7_alike cX7_alike 11 (Option.some FieldType.long) [] kf G (gQl Q) gE0 w) (hkf : 5 ≤ kf) {R39 : Int32 → Int64 → Int64 → Int32 → gM → Prop} {l1_8 : Int32} {l2_9 : Int32} {l3_19 : Int32} {l4_20 : Int64} {l6_21 : Int64} {l8_22 : Int32} {M : gM} (hR39 : ∀ (v0 : Int32) (v1 : Int64) (v2 : Int64) (v3 : Int32) (M : gM), R39 v0 v1 v2 v3 M → w M 39 [(0, .ref (gA G 268)), (1, .int l1_8), (2, .int l2_9), (3, .int v0), (4, .long v1), (6, .long v2), (8, .int v3)] []) (h : fX7_alike_b111 R39 l1_8 l2_9 l3_19 l4_20 l6_21 l8_22 M Q) : w M 111 [(0, .ref (gA G 268)), (1, .int l1_8), (2, .int l2_9), (3, .int l3_19), (4, .long l4_20), (6, .long l6_21), (8, .int l8_22)] [] := by
  unfold fX7_alike_b111 at h
  refine g_iinc hw (lv2 := [(0, .ref (gA G 268)), (1, .int l1_8), (2, .int l2_9), (3, .int l3_19), (4, .long l4_20), (6, .long l6_21), (8, .int (l8_22 + 1))]) 6 [1, 2, 3, 4, 5, 6, 0] dX7_alike_111 rfl (by decide) rfl rfl ?_
  refine g_goto (tgt := 39) hw dX7_alike_114 (by decide) ?_
  exact hR39 l3_19 l4_20 l6_21 (l8_22 + 1) M h
def fX7_alike_b83 (R39 : Int32 → Int64 → Int64 → Int32 → gM → Prop) (l1_8 : Int32) (l2_9 : Int32) (l3_25 : Int32) (l4_26 : Int64) (l6_27 : Int64) (l8_28 : Int32) (s0_29 : Int64) (M : gM) (Q : Int64 → gM → Prop) : Prop :=
  gk M 268 = 7 ∧ (if (lg_cmp (s0_29 * l6_27) (l4_26 * (gL M 268 25))) ≤ 0 then fX7_alike_b111 R39 l1_8 l2_9 l3_25 l4_26 l6_27 l8_28 M Q else fX7_alike_b111 R39 l1_8 l2_9 l3_25 s0_29 (gL M 268 25) l8_28 M Q)
theorem wX7_alike_b83 {kf : Nat} {G : gG} {w : gM → Nat → List (Nat × Value) → List Value → Prop} {Q : Int64 → gM → Prop} (hw : gX yX7_alike cX7_alike 11 (Option.some FieldType.long) [] kf G (gQl Q) gE0 w) (hkf : 5 ≤ kf) {R39 : Int32 → Int64 → Int64 → Int32 → gM → Prop} {l1_8 : Int32} {l2_9 : Int32} {l3_25 : Int32} {l4_26 : Int64} {l6_27 : Int64} {l8_28 : Int32} {s0_29 : Int64} {M : gM} (hR39 : ∀ (v0 : Int32) (v1 : Int64) (v2 : Int64) (v3 : Int32) (M : gM), R39 v0 v1 v2 v3 M → w M 39 [(0, .ref (gA G 268)), (1, .int l1_8), (2, .int l2_9), (3, .int v0), (4, .long v1), (6, .long v2), (8, .int v3)] []) (h : fX7_alike_b83 R39 l1_8 l2_9 l3_25 l4_26 l6_27 l8_28 s0_29 M Q) : w M 83 [(0, .ref (gA G 268)), (1, .int l1_8), (2, .int l2_9), (3, .int l3_25), (4, .long l4_26), (6, .long l6_27), (8, .int l8_28)] [.long s0_29] := by
  unfold fX7_alike_b83 at h
  refine g_lstore hw (lv2 := [(0, .ref (gA G 268)), (1, .int l1_8), (2, .int l2_9), (3, .int l3_25), (4, .long l4_26), (6, .long l6_27), (8, .int l8_28), (9, .long s0_29)]) [1, 2, 3, 4, 5, 6, 7, 0] dX7_alike_83 rfl rfl ?_
  refine g_lload hw 7 dX7_alike_85 rfl ?_
  refine g_lload hw 5 dX7_alike_87 rfl ?_
  refine g_lmul hw dX7_alike_89 ?_
  refine g_lload hw 4 dX7_alike_90 rfl ?_
  refine g_aload_n hw 0 dX7_alike_92 rfl ?_
  obtain ⟨hk30, h⟩ := h
  refine gfX7_285 hw rfl dX7_alike_93 hk30 ?_
  refine g_lmul hw dX7_alike_96 ?_
  refine g_lcmp hw dX7_alike_97 ?_
  refine g_if_le (tgt := 111) hw dX7_alike_98 (by decide) (fun hb31 => ?_) (fun hb31 => ?_)
  · have h := gT h hb31
    refine g_sub hw (lv2 := [(0, .ref (gA G 268)), (1, .int l1_8), (2, .int l2_9), (3, .int l3_25), (4, .long l4_26), (6, .long l6_27), (8, .int l8_28)]) [0, 1, 2, 3, 4, 5, 6] rfl ?_
    exact wX7_alike_b111 hw hkf hR39 h
  · have h := gF h hb31
    refine g_lload hw 7 dX7_alike_101 rfl ?_
    refine g_lstore hw (lv2 := [(0, .ref (gA G 268)), (1, .int l1_8), (2, .int l2_9), (3, .int l3_25), (4, .long s0_29), (8, .int l8_28)]) [1, 2, 3, 4, 0, 6] dX7_alike_103 rfl rfl ?_
    refine g_aload_n hw 0 dX7_alike_105 rfl ?_
    refine gfX7_285 hw rfl dX7_alike_106 hk30 ?_
    refine g_lstore hw (lv2 := [(0, .ref (gA G 268)), (1, .int l1_8), (2, .int l2_9), (3, .int l3_25), (4, .long s0_29), (6, .long (gL M 268 25)), (8, .int l8_28)]) [1, 2, 3, 4, 5, 0, 6] dX7_alike_109 rfl rfl ?_
    exact wX7_alike_b111 hw hkf hR39 h
def fX7_alike_L39s (R39 : Int32 → Int64 → Int64 → Int32 → gM → Prop) (K117_39 : Int32 → Int64 → Int64 → gM → Prop) (l1_8 : Int32) (l2_9 : Int32) (l3_10 : Int32) (l4_11 : Int64) (l6_12 : Int64) (l8_13 : Int32) (M : gM) (Q : Int64 → gM → Prop) : Prop :=
  (if l1_8 ≤ l8_13 then K117_39 l3_10 l4_11 l6_12 M else gk M 268 = 7 ∧ fX7_findRiver l8_13 (l8_13 + 1) (-1) M (fun r17 M16 => (if r17 = 0 then fX7_alike_b111 R39 l1_8 l2_9 l3_10 l4_11 l6_12 l8_13 M16 Q else gk M16 268 = 7 ∧ (if 0 ≤ (lg_cmp (gL M16 268 24) 0) then fX7_alike_b83 R39 l1_8 l2_9 (l3_10 + 1) l4_11 l6_12 l8_13 (gL M16 268 24) M16 Q else fX7_alike_b83 R39 l1_8 l2_9 (l3_10 + 1) l4_11 l6_12 l8_13 (-(gL M16 268 24)) M16 Q))))
def fX7_alike_L39 (K117_39 : Int32 → Int64 → Int64 → gM → Prop) (l1_8 : Int32) (l2_9 : Int32) (Q : Int64 → gM → Prop) : Nat → Int32 → Int64 → Int64 → Int32 → gM → Prop
  | 0 => fun _ _ _ _ _ => False
  | n + 1 => fun l3_10 l4_11 l6_12 l8_13 M => fX7_alike_L39s (fX7_alike_L39 K117_39 l1_8 l2_9 Q n) K117_39 l1_8 l2_9 l3_10 l4_11 l6_12 l8_13 M Q
theorem wX7_alike_L39s {kf : Nat} {G : gG} {w : gM → Nat → List (Nat × Value) → List Value → Prop} {Q : Int64 → gM → Prop} (hw : gX yX7_alike cX7_alike 11 (Option.some FieldType.long) [] kf G (gQl Q) gE0 w) (hkf : 5 ≤ kf) {R39 : Int32 → Int64 → Int64 → Int32 → gM → Prop} {K117_39 : Int32 → Int64 → Int64 → gM → Prop} {l1_8 : Int32} {l2_9 : Int32} {l3_10 : Int32} {l4_11 : Int64} {l6_12 : Int64} {l8_13 : Int32} {M : gM} (hR39 : ∀ (v0 : Int32) (v1 : Int64) (v2 : Int64) (v3 : Int32) (M : gM), R39 v0 v1 v2 v3 M → w M 39 [(0, .ref (gA G 268)), (1, .int l1_8), (2, .int l2_9), (3, .int v0), (4, .long v1), (6, .long v2), (8, .int v3)] []) (hK117_39 : ∀ (v0 : Int32) (v1 : Int64) (v2 : Int64) (M : gM), K117_39 v0 v1 v2 M → w M 117 [(0, .ref (gA G 268)), (2, .int l2_9), (3, .int v0), (4, .long v1), (6, .long v2)] []) (h : fX7_alike_L39s R39 K117_39 l1_8 l2_9 l3_10 l4_11 l6_12 l8_13 M Q) : w M 39 [(0, .ref (gA G 268)), (1, .int l1_8), (2, .int l2_9), (3, .int l3_10), (4, .long l4_11), (6, .long l6_12), (8, .int l8_13)] [] := by
  unfold fX7_alike_L39s at h
  refine g_iload hw 6 dX7_alike_39 rfl ?_
  refine g_iload_n hw 1 dX7_alike_41 rfl ?_
  refine g_icmp_ge (tgt := 117) hw dX7_alike_42 (by decide) (fun hb14 => ?_) (fun hb14 => ?_)
  · have h := gT h hb14
    refine g_sub hw (lv2 := [(0, .ref (gA G 268)), (2, .int l2_9), (3, .int l3_10), (4, .long l4_11), (6, .long l6_12)]) [0, 2, 3, 4, 5] rfl ?_
    exact hK117_39 l3_10 l4_11 l6_12 M h
  · have h := gF h hb14
    refine g_aload_n hw 0 dX7_alike_45 rfl ?_
    refine g_iload hw 6 dX7_alike_46 rfl ?_
    refine g_iload hw 6 dX7_alike_48 rfl ?_
    refine g_iconst (v := 1) hw dX7_alike_50 (by decide) ?_
    refine g_iadd hw dX7_alike_51 ?_
    refine g_iconst (v := (-1)) hw dX7_alike_52 (by decide) ?_
    obtain ⟨hk15, h⟩ := h
    refine sX7_318 hw rfl dX7_alike_53 rfl (gK2 hkf) hk15 h (fun r17 M16 h => ?_)
    refine g_if_eq (tgt := 111) hw dX7_alike_56 (by decide) (fun hb18 => ?_) (fun hb18 => ?_)
    · have h := gT h hb18
      exact wX7_alike_b111 hw hkf hR39 h
    · have h := gF h hb18
      refine g_iinc hw (lv2 := [(0, .ref (gA G 268)), (1, .int l1_8), (2, .int l2_9), (3, .int (l3_10 + 1)), (4, .long l4_11), (6, .long l6_12), (8, .int l8_13)]) 3 [1, 2, 3, 0, 4, 5, 6] dX7_alike_59 rfl (by decide) rfl rfl ?_
      refine g_aload_n hw 0 dX7_alike_62 rfl ?_
      obtain ⟨hk23, h⟩ := h
      refine gfX7_281 hw rfl dX7_alike_63 hk23 ?_
      refine g_lconst (v := 0) hw dX7_alike_66 (by decide) ?_
      refine g_lcmp hw dX7_alike_67 ?_
      refine g_if_ge (tgt := 79) hw dX7_alike_68 (by decide) (fun hb24 => ?_) (fun hb24 => ?_)
      · have h := gT h hb24
        refine g_aload_n hw 0 dX7_alike_79 rfl ?_
        refine gfX7_281 hw rfl dX7_alike_80 hk23 ?_
        exact wX7_alike_b83 hw hkf hR39 h
      · have h := gF h hb24
        refine g_aload_n hw 0 dX7_alike_71 rfl ?_
        refine gfX7_281 hw rfl dX7_alike_72 hk23 ?_
        refine g_lneg hw dX7_alike_75 ?_
        refine g_goto (tgt := 83) hw dX7_alike_76 (by decide) ?_
        exact wX7_alike_b83 hw hkf hR39 h
theorem wX7_alike_L39 {kf : Nat} {G : gG} {w : gM → Nat → List (Nat × Value) → List Value → Prop} {Q : Int64 → gM → Prop} (hw : gX yX7_alike cX7_alike 11 (Option.some FieldType.long) [] kf G (gQl Q) gE0 w) (hkf : 5 ≤ kf) {K117_39 : Int32 → Int64 → Int64 → gM → Prop} {l1_8 : Int32} {l2_9 : Int32} (hK117_39 : ∀ (v0 : Int32) (v1 : Int64) (v2 : Int64) (M : gM), K117_39 v0 v1 v2 M → w M 117 [(0, .ref (gA G 268)), (2, .int l2_9), (3, .int v0), (4, .long v1), (6, .long v2)] []) : ∀ (n : Nat) (l3_10 : Int32) (l4_11 : Int64) (l6_12 : Int64) (l8_13 : Int32) (M : gM), fX7_alike_L39 K117_39 l1_8 l2_9 Q n l3_10 l4_11 l6_12 l8_13 M → w M 39 [(0, .ref (gA G 268)), (1, .int l1_8), (2, .int l2_9), (3, .int l3_10), (4, .long l4_11), (6, .long l6_12), (8, .int l8_13)] [] := by
  intro n
  induction n with
  | zero => intro l3_10 l4_11 l6_12 l8_13 M h; exact h.elim
  | succ n ih => intro l3_10 l4_11 l6_12 l8_13 M h; exact wX7_alike_L39s hw hkf ih hK117_39 h
def fX7_alike (p1 : Int32) (p2 : Int32) (M : gM) (Q : Int64 → gM → Prop) : Prop :=
  gk M 268 = 7 ∧ fX7_within p1 1 11 (gsI M 268 0 0) (fun r3 M2 => (if r3 = 0 then Q (-1) M2 else fX7_within p2 0 2 M2 (fun r6 M5 => (if r6 = 0 then Q (-1) M5 else ∃ n, fX7_alike_L39 (fun l3_32 l4_33 l6_34 M35 => gk M35 268 = 7 ∧ (if p2 = 0 then Q l3_32.toInt64 (gsL (gsL M35 268 24 l4_33) 268 25 l6_34) else (if l3_32 = 0 then Q (-1) (gsL (gsL M35 268 24 l4_33) 268 25 l6_34) else fX7_lowest (p2 - 1) (gsL (gsL M35 268 24 l4_33) 268 25 l6_34) (fun r40 M39 => Q r40 M39)))) p1 p2 Q n 0 0 1 0 M5))))
theorem mX7_alike {kf : Nat} (hkf : 5 ≤ kf) (G : gG) (p1 : Int32) (p2 : Int32) (M : gM) (Q : Int64 → gM → Prop) (h : fX7_alike p1 p2 M Q) : gMet yX7_alike cX7_alike 11 (Option.some FieldType.long) kf G M [.ref (gA G 268), .int p1, .int p2] (gQl Q) gE0 := by
  refine g_intro (lv := [(0, .ref (gA G 268)), (1, .int p1), (2, .int p2)]) (by decide) rfl rfl (fun w hw => ?_)
  unfold fX7_alike at h
  refine g_aload_n hw 0 dX7_alike_0 rfl ?_
  refine g_iconst (v := 0) hw dX7_alike_1 (by decide) ?_
  obtain ⟨hk1, h⟩ := h
  refine pfX7_1 hw rfl dX7_alike_2 hk1 ?_
  refine g_iload_n hw 1 dX7_alike_5 rfl ?_
  refine g_iconst (v := 1) hw dX7_alike_6 (by decide) ?_
  refine g_bipush (v := 11) hw dX7_alike_7 (by decide) ?_
  refine sX7_253 hw rfl dX7_alike_9 rfl (gK2 hkf) h (fun r3 M2 h => ?_)
  refine g_if_eq (tgt := 24) hw dX7_alike_12 (by decide) (fun hb4 => ?_) (fun hb4 => ?_)
  · have h := gT h hb4
    refine g_ldc2 hw dX7_alike_24 q1460 ?_
    exact g_lret hw dX7_alike_27 ⟨_, rfl, h⟩
  · have h := gF h hb4
    refine g_iload_n hw 2 dX7_alike_15 rfl ?_
    refine g_iconst (v := 0) hw dX7_alike_16 (by decide) ?_
    refine g_iconst (v := 2) hw dX7_alike_17 (by decide) ?_
    refine sX7_253 hw rfl dX7_alike_18 rfl (gK2 hkf) h (fun r6 M5 h => ?_)
    refine g_if_ne (tgt := 28) hw dX7_alike_21 (by decide) (fun hb7 => ?_) (fun hb7 => ?_)
    · have h := gF h hb7
      refine g_iconst (v := 0) hw dX7_alike_28 (by decide) ?_
      refine g_istore_n hw (lv2 := [(0, .ref (gA G 268)), (1, .int p1), (2, .int p2), (3, .int 0)]) [1, 2, 3, 0] dX7_alike_29 rfl rfl ?_
      refine g_lconst (v := 0) hw dX7_alike_30 (by decide) ?_
      refine g_lstore hw (lv2 := [(0, .ref (gA G 268)), (1, .int p1), (2, .int p2), (3, .int 0), (4, .long 0)]) [1, 2, 3, 4, 0] dX7_alike_31 rfl rfl ?_
      refine g_lconst (v := 1) hw dX7_alike_33 (by decide) ?_
      refine g_lstore hw (lv2 := [(0, .ref (gA G 268)), (1, .int p1), (2, .int p2), (3, .int 0), (4, .long 0), (6, .long 1)]) [1, 2, 3, 4, 5, 0] dX7_alike_34 rfl rfl ?_
      refine g_iconst (v := 0) hw dX7_alike_36 (by decide) ?_
      refine g_istore hw (lv2 := [(0, .ref (gA G 268)), (1, .int p1), (2, .int p2), (3, .int 0), (4, .long 0), (6, .long 1), (8, .int 0)]) [1, 2, 3, 4, 5, 6, 0] dX7_alike_37 rfl rfl ?_
      obtain ⟨n9, h⟩ := h
      refine wX7_alike_L39 hw hkf (fun l3_32 l4_33 l6_34 M35 h => ?_) n9 0 0 1 0 M5 h
      refine g_aload_n hw 0 dX7_alike_117 rfl ?_
      refine g_lload hw 3 dX7_alike_118 rfl ?_
      obtain ⟨hk36, h⟩ := h
      refine pfX7_281 hw rfl dX7_alike_120 hk36 ?_
      refine g_aload_n hw 0 dX7_alike_123 rfl ?_
      refine g_lload hw 4 dX7_alike_124 rfl ?_
      refine pfX7_285 hw rfl dX7_alike_126 hk36 ?_
      refine g_iload_n hw 1 dX7_alike_129 rfl ?_
      refine g_if_ne (tgt := 138) hw dX7_alike_130 (by decide) (fun hb37 => ?_) (fun hb37 => ?_)
      · have h := gF h hb37
        refine g_iload_n hw 2 dX7_alike_138 rfl ?_
        refine g_if_ne (tgt := 148) hw dX7_alike_139 (by decide) (fun hb38 => ?_) (fun hb38 => ?_)
        · have h := gF h hb38
          refine g_aload_n hw 0 dX7_alike_148 rfl ?_
          refine g_iload_n hw 1 dX7_alike_149 rfl ?_
          refine g_iconst (v := 1) hw dX7_alike_150 (by decide) ?_
          refine g_isub hw dX7_alike_151 ?_
          refine sX7_321 hw rfl dX7_alike_152 rfl (gK2 hkf) hk36 h (fun r40 M39 h => ?_)
          exact g_lret hw dX7_alike_155 ⟨_, rfl, h⟩
        · have h := gT h hb38
          refine g_ldc2 hw dX7_alike_142 q1460 ?_
          refine g_goto (tgt := 155) hw dX7_alike_145 (by decide) ?_
          exact g_lret hw dX7_alike_155 ⟨_, rfl, h⟩
      · have h := gT h hb37
        refine g_iload_n hw 2 dX7_alike_133 rfl ?_
        refine g_i2l hw dX7_alike_134 ?_
        refine g_goto (tgt := 155) hw dX7_alike_135 (by decide) ?_
        exact g_lret hw dX7_alike_155 ⟨_, rfl, h⟩
    · have h := gT h hb7
      refine g_ldc2 hw dX7_alike_24 q1460 ?_
      exact g_lret hw dX7_alike_27 ⟨_, rfl, h⟩
def fX7_apart_b43 (l1_8 : Int32) (l2_9 : Int32) (l3_10 : Int32) (l4_11 : Int32) (s1_12 : Int32) (M : gM) (Q : Int64 → gM → Prop) : Prop :=
  gk M 268 = 7 ∧ (if (gI (gsI M 268 0 s1_12) 268 0) ≤ 0 then fX7_lowest l4_11 (gsL (gsI M 268 0 s1_12) 268 24 ((gL (gsI M 268 0 s1_12) 268 24) - ((l3_10.toInt64 * ((l2_9 - l1_8).toInt64)) * (gL (gsI M 268 0 s1_12) 268 25)))) (fun r16 M15 => Q r16 M15) else Q 0 (gsI M 268 0 s1_12))
theorem wX7_apart_b43 {kf : Nat} {G : gG} {w : gM → Nat → List (Nat × Value) → List Value → Prop} {Q : Int64 → gM → Prop} (hw : gX yX7_apart cX7_apart 5 (Option.some FieldType.long) [] kf G (gQl Q) gE0 w) (hkf : 5 ≤ kf)  {l1_8 : Int32} {l2_9 : Int32} {l3_10 : Int32} {l4_11 : Int32} {s1_12 : Int32} {M : gM}  (h : fX7_apart_b43 l1_8 l2_9 l3_10 l4_11 s1_12 M Q) : w M 43 [(0, .ref (gA G 268)), (1, .int l1_8), (2, .int l2_9), (3, .int l3_10), (4, .int l4_11)] [.int s1_12, .ref (gA G 268)] := by
  unfold fX7_apart_b43 at h
  obtain ⟨hk13, h⟩ := h
  refine pfX7_1 hw rfl dX7_apart_43 hk13 ?_
  refine g_aload_n hw 0 dX7_apart_46 rfl ?_
  refine gfX7_1 hw rfl dX7_apart_47 hk13 ?_
  refine g_if_le (tgt := 55) hw dX7_apart_50 (by decide) (fun hb14 => ?_) (fun hb14 => ?_)
  · have h := gT h hb14
    refine g_aload_n hw 0 dX7_apart_55 rfl ?_
    refine g_dup hw dX7_apart_56 rfl ?_
    refine gfX7_281 hw rfl dX7_apart_57 hk13 ?_
    refine g_iload_n hw 3 dX7_apart_60 rfl ?_
    refine g_i2l hw dX7_apart_61 ?_
    refine g_iload_n hw 2 dX7_apart_62 rfl ?_
    refine g_iload_n hw 1 dX7_apart_63 rfl ?_
    refine g_isub hw dX7_apart_64 ?_
    refine g_i2l hw dX7_apart_65 ?_
    refine g_lmul hw dX7_apart_66 ?_
    refine g_aload_n hw 0 dX7_apart_67 rfl ?_
    refine gfX7_285 hw rfl dX7_apart_68 hk13 ?_
    refine g_lmul hw dX7_apart_71 ?_
    refine g_lsub hw dX7_apart_72 ?_
    refine pfX7_281 hw rfl dX7_apart_73 hk13 ?_
    refine g_aload_n hw 0 dX7_apart_76 rfl ?_
    refine g_iload hw 4 dX7_apart_77 rfl ?_
    refine sX7_321 hw rfl dX7_apart_79 rfl (gK2 hkf) hk13 h (fun r16 M15 h => ?_)
    exact g_lret hw dX7_apart_82 ⟨_, rfl, h⟩
  · have h := gF h hb14
    refine g_lconst (v := 0) hw dX7_apart_53 (by decide) ?_
    exact g_lret hw dX7_apart_54 ⟨_, rfl, h⟩
def fX7_apart_b42 (l1_4 : Int32) (l2_5 : Int32) (l3_6 : Int32) (l4_7 : Int32) (M : gM) (Q : Int64 → gM → Prop) : Prop :=
  fX7_apart_b43 l1_4 l2_5 l3_6 l4_7 1 M Q
theorem wX7_apart_b42 {kf : Nat} {G : gG} {w : gM → Nat → List (Nat × Value) → List Value → Prop} {Q : Int64 → gM → Prop} (hw : gX yX7_apart cX7_apart 5 (Option.some FieldType.long) [] kf G (gQl Q) gE0 w) (hkf : 5 ≤ kf)  {l1_4 : Int32} {l2_5 : Int32} {l3_6 : Int32} {l4_7 : Int32} {M : gM}  (h : fX7_apart_b42 l1_4 l2_5 l3_6 l4_7 M Q) : w M 42 [(0, .ref (gA G 268)), (1, .int l1_4), (2, .int l2_5), (3, .int l3_6), (4, .int l4_7)] [.ref (gA G 268)] := by
  unfold fX7_apart_b42 at h
  refine g_iconst (v := 1) hw dX7_apart_42 (by decide) ?_
  exact wX7_apart_b43 hw hkf h
def fX7_apart (p1 : Int32) (p2 : Int32) (p3 : Int32) (p4 : Int32) (M : gM) (Q : Int64 → gM → Prop) : Prop :=
  fX7_areMonths p1 p2 M (fun r2 M1 => (if r2 = 0 then fX7_apart_b42 p1 p2 p3 p4 M1 Q else fX7_within p3 (-99) 99 M1 (fun r18 M17 => (if r18 = 0 then fX7_apart_b42 p1 p2 p3 p4 M17 Q else fX7_isWhat p4 M17 (fun r21 M20 => (if r21 = 0 then fX7_apart_b42 p1 p2 p3 p4 M20 Q else gk M20 268 = 7 ∧ fX7_findRiver p1 p2 (-1) M20 (fun r25 M24 => (if r25 = 0 then fX7_apart_b42 p1 p2 p3 p4 M24 Q else fX7_apart_b43 p1 p2 p3 p4 0 M24 Q))))))))
theorem mX7_apart {kf : Nat} (hkf : 5 ≤ kf) (G : gG) (p1 : Int32) (p2 : Int32) (p3 : Int32) (p4 : Int32) (M : gM) (Q : Int64 → gM → Prop) (h : fX7_apart p1 p2 p3 p4 M Q) : gMet yX7_apart cX7_apart 5 (Option.some FieldType.long) kf G M [.ref (gA G 268), .int p1, .int p2, .int p3, .int p4] (gQl Q) gE0 := by
  refine g_intro (lv := [(0, .ref (gA G 268)), (1, .int p1), (2, .int p2), (3, .int p3), (4, .int p4)]) (by decide) rfl rfl (fun w hw => ?_)
  unfold fX7_apart at h
  refine g_aload_n hw 0 dX7_apart_0 rfl ?_
  refine g_iload_n hw 1 dX7_apart_1 rfl ?_
  refine g_iload_n hw 2 dX7_apart_2 rfl ?_
  refine sX7_270 hw rfl dX7_apart_3 rfl (gK2 hkf) h (fun r2 M1 h => ?_)
  refine g_if_eq (tgt := 42) hw dX7_apart_6 (by decide) (fun hb3 => ?_) (fun hb3 => ?_)
  · have h := gT h hb3
    exact wX7_apart_b42 hw hkf h
  · have h := gF h hb3
    refine g_iload_n hw 3 dX7_apart_9 rfl ?_
    refine g_bipush (v := (-99)) hw dX7_apart_10 (by decide) ?_
    refine g_bipush (v := 99) hw dX7_apart_12 (by decide) ?_
    refine sX7_253 hw rfl dX7_apart_14 rfl (gK2 hkf) h (fun r18 M17 h => ?_)
    refine g_if_eq (tgt := 42) hw dX7_apart_17 (by decide) (fun hb19 => ?_) (fun hb19 => ?_)
    · have h := gT h hb19
      exact wX7_apart_b42 hw hkf h
    · have h := gF h hb19
      refine g_iload hw 4 dX7_apart_20 rfl ?_
      refine sX7_315 hw rfl dX7_apart_22 rfl (gK2 hkf) h (fun r21 M20 h => ?_)
      refine g_if_eq (tgt := 42) hw dX7_apart_25 (by decide) (fun hb22 => ?_) (fun hb22 => ?_)
      · have h := gT h hb22
        exact wX7_apart_b42 hw hkf h
      · have h := gF h hb22
        refine g_aload_n hw 0 dX7_apart_28 rfl ?_
        refine g_iload_n hw 1 dX7_apart_29 rfl ?_
        refine g_iload_n hw 2 dX7_apart_30 rfl ?_
        refine g_iconst (v := (-1)) hw dX7_apart_31 (by decide) ?_
        obtain ⟨hk23, h⟩ := h
        refine sX7_318 hw rfl dX7_apart_32 rfl (gK2 hkf) hk23 h (fun r25 M24 h => ?_)
        refine g_if_eq (tgt := 42) hw dX7_apart_35 (by decide) (fun hb26 => ?_) (fun hb26 => ?_)
        · have h := gT h hb26
          exact wX7_apart_b42 hw hkf h
        · have h := gF h hb26
          refine g_iconst (v := 0) hw dX7_apart_38 (by decide) ?_
          refine g_goto (tgt := 43) hw dX7_apart_39 (by decide) ?_
          exact wX7_apart_b43 hw hkf h
def fX7_isLetter_b16  (M : gM) (Q : Int32 → gM → Prop) : Prop :=
  Q 0 M
theorem wX7_isLetter_b16 {kf : Nat} {G : gG} {w : gM → Nat → List (Nat × Value) → List Value → Prop} {Q : Int32 → gM → Prop} (hw : gX yX7_isLetter cX7_isLetter 1 (Option.some FieldType.boolean) [] kf G (gQi Q) gE0 w) (hkf : 1 ≤ kf)   {M : gM}  (h : fX7_isLetter_b16 M Q) : w M 16 [] [] := by
  unfold fX7_isLetter_b16 at h
  refine g_iconst (v := 0) hw dX7_isLetter_16 (by decide) ?_
  exact g_iret hw dX7_isLetter_17 (by decide +kernel) ⟨_, rfl, h⟩
def fX7_isLetter (p1 : Int32) (M : gM) (Q : Int32 → gM → Prop) : Prop :=
  (if p1 < 97 then fX7_isLetter_b16 M Q else (if 122 < p1 then fX7_isLetter_b16 M Q else Q 1 M))
theorem mX7_isLetter {kf : Nat} (hkf : 1 ≤ kf) (G : gG) (p1 : Int32) (M : gM) (Q : Int32 → gM → Prop) (h : fX7_isLetter p1 M Q) : gMet yX7_isLetter cX7_isLetter 1 (Option.some FieldType.boolean) kf G M [.int p1] (gQi Q) gE0 := by
  refine g_intro (lv := [(0, .int p1)]) (by decide) rfl rfl (fun w hw => ?_)
  unfold fX7_isLetter at h
  refine g_iload_n hw 0 dX7_isLetter_0 rfl ?_
  refine g_bipush (v := 97) hw dX7_isLetter_1 (by decide) ?_
  refine g_icmp_lt (tgt := 16) hw dX7_isLetter_3 (by decide) (fun hb1 => ?_) (fun hb1 => ?_)
  · have h := gT h hb1
    refine g_sub hw (lv2 := []) [] rfl ?_
    exact wX7_isLetter_b16 hw hkf h
  · have h := gF h hb1
    refine g_iload_n hw 0 dX7_isLetter_6 rfl ?_
    refine g_bipush (v := 122) hw dX7_isLetter_7 (by decide) ?_
    refine g_icmp_gt (tgt := 16) hw dX7_isLetter_9 (by decide) (fun hb2 => ?_) (fun hb2 => ?_)
    · have h := gT h hb2
      refine g_sub hw (lv2 := []) [] rfl ?_
      exact wX7_isLetter_b16 hw hkf h
    · have h := gF h hb2
      refine g_iconst (v := 1) hw dX7_isLetter_12 (by decide) ?_
      refine g_goto (tgt := 17) hw dX7_isLetter_13 (by decide) ?_
      exact g_iret hw dX7_isLetter_17 (by decide +kernel) ⟨_, rfl, h⟩
theorem sX7_211 {y0 : MethodName} {cc : ByteArray} {nL : Nat} {ret : Option FieldType} {hh : List (Nat × Nat × Nat × Nat)} {kf : Nat} {G : gG} {Qv : Option Value → gM → Prop} {E : String → Nat → gM → Prop} {w : gM → Nat → List (Nat × Value) → List Value → Prop} {M : gM} {pc : Nat} {lv : List (Nat × Value)} {rest : List Value} (hw : gX y0 cc nL ret hh kf G Qv E w) (hy : y0.cls = RX7) {p1 : Int32} {Q : Int32 → gM → Prop} (d : decode cc pc = .ok (.invokestatic 211, 3)) (hrest : Nat.ble ((rest.map Value.category).sum) 8 = true) (hk : 1 + 1 ≤ kf) (h : fX7_isLetter p1 M Q) (kk : ∀ r M1, Q r M1 → w M1 (pc + 3) lv (.int r :: rest)) : w M pc lv (.int p1 :: rest) := by
  obtain ⟨cls9, nm9, ds9⟩ := y0
  subst hy
  exact g_callS hw [.int p1] (nA := 1) rfl d q1481 q1482 q104 q1483 (by decide +kernel) rfl hrest rfl (by omega : kf - 1 + 1 ≤ kf) (mX7_isLetter (kf := kf - 1) (by omega) G p1 M Q h) (fun _ _ _ q => q.elim) (fun v M1 h => by obtain ⟨r, rfl, h⟩ := h; exact kk r M1 h)
def fX7_rank (p1 : Int32) (M : gM) (Q : Int32 → gM → Prop) : Prop :=
  fX7_isLetter p1 M (fun r2 M1 => (if r2 = 0 then Q (p1 - 21) M1 else Q (p1 - 96) M1))
theorem mX7_rank {kf : Nat} (hkf : 2 ≤ kf) (G : gG) (p1 : Int32) (M : gM) (Q : Int32 → gM → Prop) (h : fX7_rank p1 M Q) : gMet yX7_rank cX7_rank 1 (Option.some FieldType.int) kf G M [.int p1] (gQi Q) gE0 := by
  refine g_intro (lv := [(0, .int p1)]) (by decide) rfl rfl (fun w hw => ?_)
  unfold fX7_rank at h
  refine g_iload_n hw 0 dX7_rank_0 rfl ?_
  refine sX7_211 hw rfl dX7_rank_1 rfl (gK2 hkf) h (fun r2 M1 h => ?_)
  refine g_if_eq (tgt := 14) hw dX7_rank_4 (by decide) (fun hb3 => ?_) (fun hb3 => ?_)
  · have h := gT h hb3
    refine g_iload_n hw 0 dX7_rank_14 rfl ?_
    refine g_bipush (v := 21) hw dX7_rank_15 (by decide) ?_
    refine g_isub hw dX7_rank_17 ?_
    exact g_iret hw dX7_rank_18 rfl ⟨_, rfl, h⟩
  · have h := gF h hb3
    refine g_iload_n hw 0 dX7_rank_7 rfl ?_
    refine g_bipush (v := 96) hw dX7_rank_8 (by decide) ?_
    refine g_isub hw dX7_rank_10 ?_
    refine g_goto (tgt := 18) hw dX7_rank_11 (by decide) ?_
    exact g_iret hw dX7_rank_18 rfl ⟨_, rfl, h⟩
def fX7_isDigit_b16  (M : gM) (Q : Int32 → gM → Prop) : Prop :=
  Q 0 M
theorem wX7_isDigit_b16 {kf : Nat} {G : gG} {w : gM → Nat → List (Nat × Value) → List Value → Prop} {Q : Int32 → gM → Prop} (hw : gX yX7_isDigit cX7_isDigit 1 (Option.some FieldType.boolean) [] kf G (gQi Q) gE0 w) (hkf : 1 ≤ kf)   {M : gM}  (h : fX7_isDigit_b16 M Q) : w M 16 [] [] := by
  unfold fX7_isDigit_b16 at h
  refine g_iconst (v := 0) hw dX7_isDigit_16 (by decide) ?_
  exact g_iret hw dX7_isDigit_17 (by decide +kernel) ⟨_, rfl, h⟩
def fX7_isDigit (p1 : Int32) (M : gM) (Q : Int32 → gM → Prop) : Prop :=
  (if p1 < 48 then fX7_isDigit_b16 M Q else (if 57 < p1 then fX7_isDigit_b16 M Q else Q 1 M))
theorem mX7_isDigit {kf : Nat} (hkf : 1 ≤ kf) (G : gG) (p1 : Int32) (M : gM) (Q : Int32 → gM → Prop) (h : fX7_isDigit p1 M Q) : gMet yX7_isDigit cX7_isDigit 1 (Option.some FieldType.boolean) kf G M [.int p1] (gQi Q) gE0 := by
  refine g_intro (lv := [(0, .int p1)]) (by decide) rfl rfl (fun w hw => ?_)
  unfold fX7_isDigit at h
  refine g_iload_n hw 0 dX7_isDigit_0 rfl ?_
  refine g_bipush (v := 48) hw dX7_isDigit_1 (by decide) ?_
  refine g_icmp_lt (tgt := 16) hw dX7_isDigit_3 (by decide) (fun hb1 => ?_) (fun hb1 => ?_)
  · have h := gT h hb1
    refine g_sub hw (lv2 := []) [] rfl ?_
    exact wX7_isDigit_b16 hw hkf h
  · have h := gF h hb1
    refine g_iload_n hw 0 dX7_isDigit_6 rfl ?_
    refine g_bipush (v := 57) hw dX7_isDigit_7 (by decide) ?_
    refine g_icmp_gt (tgt := 16) hw dX7_isDigit_9 (by decide) (fun hb2 => ?_) (fun hb2 => ?_)
    · have h := gT h hb2
      refine g_sub hw (lv2 := []) [] rfl ?_
      exact wX7_isDigit_b16 hw hkf h
    · have h := gF h hb2
      refine g_iconst (v := 1) hw dX7_isDigit_12 (by decide) ?_
      refine g_goto (tgt := 17) hw dX7_isDigit_13 (by decide) ?_
      exact g_iret hw dX7_isDigit_17 (by decide +kernel) ⟨_, rfl, h⟩
def fX7_isSignOf_b48  (M : gM) (Q : Int32 → gM → Prop) : Prop :=
  Q 1 M
theorem wX7_isSignOf_b48 {kf : Nat} {G : gG} {w : gM → Nat → List (Nat × Value) → List Value → Prop} {Q : Int32 → gM → Prop} (hw : gX yX7_isSignOf cX7_isSignOf 1 (Option.some FieldType.boolean) [] kf G (gQi Q) gE0 w) (hkf : 1 ≤ kf)   {M : gM}  (h : fX7_isSignOf_b48 M Q) : w M 48 [] [] := by
  unfold fX7_isSignOf_b48 at h
  refine g_iconst (v := 1) hw dX7_isSignOf_48 (by decide) ?_
  refine g_goto (tgt := 53) hw dX7_isSignOf_49 (by decide) ?_
  exact g_iret hw dX7_isSignOf_53 (by decide +kernel) ⟨_, rfl, h⟩
def fX7_isSignOf (p1 : Int32) (M : gM) (Q : Int32 → gM → Prop) : Prop :=
  (if p1 = 40 then fX7_isSignOf_b48 M Q else (if p1 = 41 then fX7_isSignOf_b48 M Q else (if p1 = 59 then fX7_isSignOf_b48 M Q else (if p1 = 61 then fX7_isSignOf_b48 M Q else (if p1 = 60 then fX7_isSignOf_b48 M Q else (if p1 = 43 then fX7_isSignOf_b48 M Q else (if p1 = 45 then fX7_isSignOf_b48 M Q else (if p1 = 42 then fX7_isSignOf_b48 M Q else Q 0 M))))))))
theorem mX7_isSignOf {kf : Nat} (hkf : 1 ≤ kf) (G : gG) (p1 : Int32) (M : gM) (Q : Int32 → gM → Prop) (h : fX7_isSignOf p1 M Q) : gMet yX7_isSignOf cX7_isSignOf 1 (Option.some FieldType.boolean) kf G M [.int p1] (gQi Q) gE0 := by
  refine g_intro (lv := [(0, .int p1)]) (by decide) rfl rfl (fun w hw => ?_)
  unfold fX7_isSignOf at h
  refine g_iload_n hw 0 dX7_isSignOf_0 rfl ?_
  refine g_bipush (v := 40) hw dX7_isSignOf_1 (by decide) ?_
  refine g_icmp_eq (tgt := 48) hw dX7_isSignOf_3 (by decide) (fun hb1 => ?_) (fun hb1 => ?_)
  · have h := gT h hb1
    refine g_sub hw (lv2 := []) [] rfl ?_
    exact wX7_isSignOf_b48 hw hkf h
  · have h := gF h hb1
    refine g_iload_n hw 0 dX7_isSignOf_6 rfl ?_
    refine g_bipush (v := 41) hw dX7_isSignOf_7 (by decide) ?_
    refine g_icmp_eq (tgt := 48) hw dX7_isSignOf_9 (by decide) (fun hb2 => ?_) (fun hb2 => ?_)
    · have h := gT h hb2
      refine g_sub hw (lv2 := []) [] rfl ?_
      exact wX7_isSignOf_b48 hw hkf h
    · have h := gF h hb2
      refine g_iload_n hw 0 dX7_isSignOf_12 rfl ?_
      refine g_bipush (v := 59) hw dX7_isSignOf_13 (by decide) ?_
      refine g_icmp_eq (tgt := 48) hw dX7_isSignOf_15 (by decide) (fun hb3 => ?_) (fun hb3 => ?_)
      · have h := gT h hb3
        refine g_sub hw (lv2 := []) [] rfl ?_
        exact wX7_isSignOf_b48 hw hkf h
      · have h := gF h hb3
        refine g_iload_n hw 0 dX7_isSignOf_18 rfl ?_
        refine g_bipush (v := 61) hw dX7_isSignOf_19 (by decide) ?_
        refine g_icmp_eq (tgt := 48) hw dX7_isSignOf_21 (by decide) (fun hb4 => ?_) (fun hb4 => ?_)
        · have h := gT h hb4
          refine g_sub hw (lv2 := []) [] rfl ?_
          exact wX7_isSignOf_b48 hw hkf h
        · have h := gF h hb4
          refine g_iload_n hw 0 dX7_isSignOf_24 rfl ?_
          refine g_bipush (v := 60) hw dX7_isSignOf_25 (by decide) ?_
          refine g_icmp_eq (tgt := 48) hw dX7_isSignOf_27 (by decide) (fun hb5 => ?_) (fun hb5 => ?_)
          · have h := gT h hb5
            refine g_sub hw (lv2 := []) [] rfl ?_
            exact wX7_isSignOf_b48 hw hkf h
          · have h := gF h hb5
            refine g_iload_n hw 0 dX7_isSignOf_30 rfl ?_
            refine g_bipush (v := 43) hw dX7_isSignOf_31 (by decide) ?_
            refine g_icmp_eq (tgt := 48) hw dX7_isSignOf_33 (by decide) (fun hb6 => ?_) (fun hb6 => ?_)
            · have h := gT h hb6
              refine g_sub hw (lv2 := []) [] rfl ?_
              exact wX7_isSignOf_b48 hw hkf h
            · have h := gF h hb6
              refine g_iload_n hw 0 dX7_isSignOf_36 rfl ?_
              refine g_bipush (v := 45) hw dX7_isSignOf_37 (by decide) ?_
              refine g_icmp_eq (tgt := 48) hw dX7_isSignOf_39 (by decide) (fun hb7 => ?_) (fun hb7 => ?_)
              · have h := gT h hb7
                refine g_sub hw (lv2 := []) [] rfl ?_
                exact wX7_isSignOf_b48 hw hkf h
              · have h := gF h hb7
                refine g_iload_n hw 0 dX7_isSignOf_42 rfl ?_
                refine g_bipush (v := 42) hw dX7_isSignOf_43 (by decide) ?_
                refine g_icmp_ne (tgt := 52) hw dX7_isSignOf_45 (by decide) (fun hb8 => ?_) (fun hb8 => ?_)
                · have h := gF h hb8
                  refine g_iconst (v := 0) hw dX7_isSignOf_52 (by decide) ?_
                  exact g_iret hw dX7_isSignOf_53 (by decide +kernel) ⟨_, rfl, h⟩
                · have h := gT h hb8
                  refine g_sub hw (lv2 := []) [] rfl ?_
                  exact wX7_isSignOf_b48 hw hkf h
theorem pfX7_215 {y0 : MethodName} {cc : ByteArray} {nL : Nat} {ret : Option FieldType} {hh : List (Nat × Nat × Nat × Nat)} {kf : Nat} {G : gG} {Qv : Option Value → gM → Prop} {E : String → Nat → gM → Prop} {w : gM → Nat → List (Nat × Value) → List Value → Prop} {M : gM} {pc : Nat} {lv : List (Nat × Value)} {rest : List Value} (hw : gX y0 cc nL ret hh kf G Qv E w) (hy : y0.cls = RX7) {c : Nat} {x : Int32} (d : decode cc pc = .ok (.putfield 215, 3)) (hk : gk M c = 7) (kk : w (gsI M c 3 x) (pc + 3) lv rest) : w M pc lv (.int x :: .ref (gA G c) :: rest) := by
  obtain ⟨cls9, nm9, ds9⟩ := y0
  subst hy
  exact g_putC (C := RX7) (T := TX7) (N := 58) (ci := 6) hw in_X7 tyX7 tyX7_ok nmX7 rfl 3 (by decide) (Or.inl ⟨q1159, Or.inl rfl⟩) rfl rfl (gOne_I M c 3 x) (by show Value.int (gI (gsI M c 3 x) c 3) = _; rw [gI_sI, if_pos ⟨rfl, rfl⟩]) d hk kk
theorem gfX7_215 {y0 : MethodName} {cc : ByteArray} {nL : Nat} {ret : Option FieldType} {hh : List (Nat × Nat × Nat × Nat)} {kf : Nat} {G : gG} {Qv : Option Value → gM → Prop} {E : String → Nat → gM → Prop} {w : gM → Nat → List (Nat × Value) → List Value → Prop} {M : gM} {pc : Nat} {lv : List (Nat × Value)} {rest : List Value} (hw : gX y0 cc nL ret hh kf G Qv E w) (hy : y0.cls = RX7) {c : Nat} (d : decode cc pc = .ok (.getfield 215, 3)) (hk : gk M c = 7) (kk : w M (pc + 3) lv (.int (gI M c 3) :: rest)) : w M pc lv (.ref (gA G c) :: rest) := by
  obtain ⟨cls9, nm9, ds9⟩ := y0
  subst hy
  exact g_getC (C := RX7) (T := TX7) (N := 58) (ci := 6) hw in_X7 rfl 3 (by decide) (Or.inl q1159) rfl d hk kk
theorem gfX7_27 {y0 : MethodName} {cc : ByteArray} {nL : Nat} {ret : Option FieldType} {hh : List (Nat × Nat × Nat × Nat)} {kf : Nat} {G : gG} {Qv : Option Value → gM → Prop} {E : String → Nat → gM → Prop} {w : gM → Nat → List (Nat × Value) → List Value → Prop} {M : gM} {pc : Nat} {lv : List (Nat × Value)} {rest : List Value} (hw : gX y0 cc nL ret hh kf G Qv E w) (hy : y0.cls = RX7) {c : Nat} {q : Option Nat} (d : decode cc pc = .ok (.getfield 27, 3)) (hk : gk M c = 7) (hq : gR M c 5 = q) (kk : w M (pc + 3) lv (va_rf (q.map (gA G)) :: rest)) : w M pc lv (.ref (gA G c) :: rest) := by
  obtain ⟨cls9, nm9, ds9⟩ := y0
  subst hy
  subst hq
  exact g_getC (C := RX7) (T := TX7) (N := 58) (ci := 6) hw in_X7 rfl 5 (by decide) (Or.inl q1161) rfl d hk kk
theorem sX7_224 {y0 : MethodName} {cc : ByteArray} {nL : Nat} {ret : Option FieldType} {hh : List (Nat × Nat × Nat × Nat)} {kf : Nat} {G : gG} {Qv : Option Value → gM → Prop} {E : String → Nat → gM → Prop} {w : gM → Nat → List (Nat × Value) → List Value → Prop} {M : gM} {pc : Nat} {lv : List (Nat × Value)} {rest : List Value} (hw : gX y0 cc nL ret hh kf G Qv E w) (hy : y0.cls = RX7) {p1 : Int32} {Q : Int32 → gM → Prop} (d : decode cc pc = .ok (.invokestatic 224, 3)) (hrest : Nat.ble ((rest.map Value.category).sum) 8 = true) (hk : 1 + 1 ≤ kf) (h : fX7_isDigit p1 M Q) (kk : ∀ r M1, Q r M1 → w M1 (pc + 3) lv (.int r :: rest)) : w M pc lv (.int p1 :: rest) := by
  obtain ⟨cls9, nm9, ds9⟩ := y0
  subst hy
  exact g_callS hw [.int p1] (nA := 1) rfl d q1488 q1489 q104 q1490 (by decide +kernel) rfl hrest rfl (by omega : kf - 1 + 1 ≤ kf) (mX7_isDigit (kf := kf - 1) (by omega) G p1 M Q h) (fun _ _ _ q => q.elim) (fun v M1 h => by obtain ⟨r, rfl, h⟩ := h; exact kk r M1 h)
theorem gfX7_24 {y0 : MethodName} {cc : ByteArray} {nL : Nat} {ret : Option FieldType} {hh : List (Nat × Nat × Nat × Nat)} {kf : Nat} {G : gG} {Qv : Option Value → gM → Prop} {E : String → Nat → gM → Prop} {w : gM → Nat → List (Nat × Value) → List Value → Prop} {M : gM} {pc : Nat} {lv : List (Nat × Value)} {rest : List Value} (hw : gX y0 cc nL ret hh kf G Qv E w) (hy : y0.cls = RX7) {c : Nat} {q : Option Nat} (d : decode cc pc = .ok (.getfield 24, 3)) (hk : gk M c = 7) (hq : gR M c 4 = q) (kk : w M (pc + 3) lv (va_rf (q.map (gA G)) :: rest)) : w M pc lv (.ref (gA G c) :: rest) := by
  obtain ⟨cls9, nm9, ds9⟩ := y0
  subst hy
  subst hq
  exact g_getC (C := RX7) (T := TX7) (N := 58) (ci := 6) hw in_X7 rfl 4 (by decide) (Or.inl q1160) rfl d hk kk
theorem sX7_231 {y0 : MethodName} {cc : ByteArray} {nL : Nat} {ret : Option FieldType} {hh : List (Nat × Nat × Nat × Nat)} {kf : Nat} {G : gG} {Qv : Option Value → gM → Prop} {E : String → Nat → gM → Prop} {w : gM → Nat → List (Nat × Value) → List Value → Prop} {M : gM} {pc : Nat} {lv : List (Nat × Value)} {rest : List Value} (hw : gX y0 cc nL ret hh kf G Qv E w) (hy : y0.cls = RX7) {p1 : Int32} {Q : Int32 → gM → Prop} (d : decode cc pc = .ok (.invokestatic 231, 3)) (hrest : Nat.ble ((rest.map Value.category).sum) 8 = true) (hk : 1 + 1 ≤ kf) (h : fX7_isSignOf p1 M Q) (kk : ∀ r M1, Q r M1 → w M1 (pc + 3) lv (.int r :: rest)) : w M pc lv (.int p1 :: rest) := by
  obtain ⟨cls9, nm9, ds9⟩ := y0
  subst hy
  exact g_callS hw [.int p1] (nA := 1) rfl d q1493 q1494 q104 q1495 (by decide +kernel) rfl hrest rfl (by omega : kf - 1 + 1 ≤ kf) (mX7_isSignOf (kf := kf - 1) (by omega) G p1 M Q h) (fun _ _ _ q => q.elim) (fun v M1 h => by obtain ⟨r, rfl, h⟩ := h; exact kk r M1 h)
theorem gfX7_30 {y0 : MethodName} {cc : ByteArray} {nL : Nat} {ret : Option FieldType} {hh : List (Nat × Nat × Nat × Nat)} {kf : Nat} {G : gG} {Qv : Option Value → gM → Prop} {E : String → Nat → gM → Prop} {w : gM → Nat → List (Nat × Value) → List Value → Prop} {M : gM} {pc : Nat} {lv : List (Nat × Value)} {rest : List Value} (hw : gX y0 cc nL ret hh kf G Qv E w) (hy : y0.cls = RX7) {c : Nat} {q : Option Nat} (d : decode cc pc = .ok (.getfield 30, 3)) (hk : gk M c = 7) (hq : gR M c 6 = q) (kk : w M (pc + 3) lv (va_rf (q.map (gA G)) :: rest)) : w M pc lv (.ref (gA G c) :: rest) := by
  obtain ⟨cls9, nm9, ds9⟩ := y0
  subst hy
  subst hq
  exact g_getC (C := RX7) (T := TX7) (N := 58) (ci := 6) hw in_X7 rfl 6 (by decide) (Or.inl q1162) rfl d hk kk
theorem sX7_220 {y0 : MethodName} {cc : ByteArray} {nL : Nat} {ret : Option FieldType} {hh : List (Nat × Nat × Nat × Nat)} {kf : Nat} {G : gG} {Qv : Option Value → gM → Prop} {E : String → Nat → gM → Prop} {w : gM → Nat → List (Nat × Value) → List Value → Prop} {M : gM} {pc : Nat} {lv : List (Nat × Value)} {rest : List Value} (hw : gX y0 cc nL ret hh kf G Qv E w) (hy : y0.cls = RX7) {p1 : Int32} {Q : Int32 → gM → Prop} (d : decode cc pc = .ok (.invokestatic 220, 3)) (hrest : Nat.ble ((rest.map Value.category).sum) 8 = true) (hk : 2 + 1 ≤ kf) (h : fX7_rank p1 M Q) (kk : ∀ r M1, Q r M1 → w M1 (pc + 3) lv (.int r :: rest)) : w M pc lv (.int p1 :: rest) := by
  obtain ⟨cls9, nm9, ds9⟩ := y0
  subst hy
  exact g_callS hw [.int p1] (nA := 1) rfl d q1485 q1486 q104 q1487 (by decide +kernel) rfl hrest rfl (by omega : kf - 1 + 1 ≤ kf) (mX7_rank (kf := kf - 1) (by omega) G p1 M Q h) (fun _ _ _ q => q.elim) (fun v M1 h => by obtain ⟨r, rfl, h⟩ := h; exact kk r M1 h)
theorem pfX7_234 {y0 : MethodName} {cc : ByteArray} {nL : Nat} {ret : Option FieldType} {hh : List (Nat × Nat × Nat × Nat)} {kf : Nat} {G : gG} {Qv : Option Value → gM → Prop} {E : String → Nat → gM → Prop} {w : gM → Nat → List (Nat × Value) → List Value → Prop} {M : gM} {pc : Nat} {lv : List (Nat × Value)} {rest : List Value} (hw : gX y0 cc nL ret hh kf G Qv E w) (hy : y0.cls = RX7) {c : Nat} {x : Int32} (d : decode cc pc = .ok (.putfield 234, 3)) (hk : gk M c = 7) (kk : w (gsI M c 7 x) (pc + 3) lv rest) : w M pc lv (.int x :: .ref (gA G c) :: rest) := by
  obtain ⟨cls9, nm9, ds9⟩ := y0
  subst hy
  exact g_putC (C := RX7) (T := TX7) (N := 58) (ci := 6) hw in_X7 tyX7 tyX7_ok nmX7 rfl 7 (by decide) (Or.inl ⟨q1163, Or.inl rfl⟩) rfl rfl (gOne_I M c 7 x) (by show Value.int (gI (gsI M c 7 x) c 7) = _; rw [gI_sI, if_pos ⟨rfl, rfl⟩]) d hk kk
theorem pfX7_237 {y0 : MethodName} {cc : ByteArray} {nL : Nat} {ret : Option FieldType} {hh : List (Nat × Nat × Nat × Nat)} {kf : Nat} {G : gG} {Qv : Option Value → gM → Prop} {E : String → Nat → gM → Prop} {w : gM → Nat → List (Nat × Value) → List Value → Prop} {M : gM} {pc : Nat} {lv : List (Nat × Value)} {rest : List Value} (hw : gX y0 cc nL ret hh kf G Qv E w) (hy : y0.cls = RX7) {c : Nat} {x : Int32} (d : decode cc pc = .ok (.putfield 237, 3)) (hk : gk M c = 7) (kk : w (gsI M c 8 x) (pc + 3) lv rest) : w M pc lv (.int x :: .ref (gA G c) :: rest) := by
  obtain ⟨cls9, nm9, ds9⟩ := y0
  subst hy
  exact g_putC (C := RX7) (T := TX7) (N := 58) (ci := 6) hw in_X7 tyX7 tyX7_ok nmX7 rfl 8 (by decide) (Or.inl ⟨q1164, Or.inl rfl⟩) rfl rfl (gOne_I M c 8 x) (by show Value.int (gI (gsI M c 8 x) c 8) = _; rw [gI_sI, if_pos ⟨rfl, rfl⟩]) d hk kk
def fX7_cutAll_b44 (R17 : Int32 → Int32 → gM → Prop) (l1_11 : Int32) (l2_12 : Int32) (M : gM) (Q : gM → Prop) : Prop :=
  R17 l1_11 (l2_12 + 1) M
theorem wX7_cutAll_b44 {kf : Nat} {G : gG} {w : gM → Nat → List (Nat × Value) → List Value → Prop} {Q : gM → Prop} (hw : gX yX7_cutAll cX7_cutAll 7 (Option.none : Option FieldType) [] kf G (gQv Q) gE0 w) (hkf : 3 ≤ kf) {R17 : Int32 → Int32 → gM → Prop} {l1_11 : Int32} {l2_12 : Int32} {M : gM} (hR17 : ∀ (v0 : Int32) (v1 : Int32) (M : gM), R17 v0 v1 M → w M 17 [(0, .ref (gA G 268)), (1, .int v0), (2, .int v1)] []) (h : fX7_cutAll_b44 R17 l1_11 l2_12 M Q) : w M 44 [(0, .ref (gA G 268)), (1, .int l1_11), (2, .int l2_12)] [] := by
  unfold fX7_cutAll_b44 at h
  refine g_iinc hw (lv2 := [(0, .ref (gA G 268)), (1, .int l1_11), (2, .int (l2_12 + 1))]) 2 [1, 2, 0] dX7_cutAll_44 rfl (by decide) rfl rfl ?_
  refine g_goto (tgt := 17) hw dX7_cutAll_47 (by decide) ?_
  exact hR17 l1_11 (l2_12 + 1) M h
def fX7_cutAll_b265 (R17 : Int32 → Int32 → gM → Prop) (l1_38 : Int32) (l2_39 : Int32) (l5_40 : Int64) (M : gM) (Q : gM → Prop) : Prop :=
  gk M 268 = 7 ∧ gdr (gR M 268 6) (fun a42 => gk M a42 = 41 ∧ vp_in l1_38 (gl M a42) ∧ R17 (l1_38 + 1) l2_39 (gsL M a42 l1_38.toNatClampNeg l5_40))
theorem wX7_cutAll_b265 {kf : Nat} {G : gG} {w : gM → Nat → List (Nat × Value) → List Value → Prop} {Q : gM → Prop} (hw : gX yX7_cutAll cX7_cutAll 7 (Option.none : Option FieldType) [] kf G (gQv Q) gE0 w) (hkf : 3 ≤ kf) {R17 : Int32 → Int32 → gM → Prop} {l1_38 : Int32} {l2_39 : Int32} {l5_40 : Int64} {M : gM} (hR17 : ∀ (v0 : Int32) (v1 : Int32) (M : gM), R17 v0 v1 M → w M 17 [(0, .ref (gA G 268)), (1, .int v0), (2, .int v1)] []) (h : fX7_cutAll_b265 R17 l1_38 l2_39 l5_40 M Q) : w M 265 [(0, .ref (gA G 268)), (1, .int l1_38), (2, .int l2_39), (5, .long l5_40)] [] := by
  unfold fX7_cutAll_b265 at h
  refine g_aload_n hw 0 dX7_cutAll_265 rfl ?_
  obtain ⟨hk41, h⟩ := h
  obtain ⟨a42, e43, h⟩ := h
  refine gfX7_30 (q := some a42) hw rfl dX7_cutAll_266 hk41 e43 ?_
  refine g_iload_n hw 1 dX7_cutAll_269 rfl ?_
  refine g_lload hw 3 dX7_cutAll_270 rfl ?_
  obtain ⟨hk44, h⟩ := h
  obtain ⟨hi45, h⟩ := h
  refine g_last (n := l1_38.toNatClampNeg) hw dX7_cutAll_272 hk44 hi45 rfl ?_
  refine g_iinc hw (lv2 := [(0, .ref (gA G 268)), (1, .int (l1_38 + 1)), (2, .int l2_39)]) 1 [1, 0, 2] dX7_cutAll_273 rfl (by decide) rfl rfl ?_
  refine g_goto (tgt := 17) hw dX7_cutAll_276 (by decide) ?_
  exact hR17 (l1_38 + 1) l2_39 (gsL M a42 l1_38.toNatClampNeg l5_40) h
def fX7_cutAll_b261 (R17 : Int32 → Int32 → gM → Prop) (l1_30 : Int32) (l2_31 : Int32) (l5_32 : Int64) (s0_33 : Nat) (s1_34 : Int32) (s2_35 : Int32) (M : gM) (Q : gM → Prop) : Prop :=
  gk M s0_33 = 40 ∧ vp_in s1_34 (gl M s0_33) ∧ fX7_cutAll_b265 R17 l1_30 (l2_31 + 1) l5_32 (gsI M s0_33 s1_34.toNatClampNeg s2_35) Q
theorem wX7_cutAll_b261 {kf : Nat} {G : gG} {w : gM → Nat → List (Nat × Value) → List Value → Prop} {Q : gM → Prop} (hw : gX yX7_cutAll cX7_cutAll 7 (Option.none : Option FieldType) [] kf G (gQv Q) gE0 w) (hkf : 3 ≤ kf) {R17 : Int32 → Int32 → gM → Prop} {l1_30 : Int32} {l2_31 : Int32} {l5_32 : Int64} {s0_33 : Nat} {s1_34 : Int32} {s2_35 : Int32} {M : gM} (hR17 : ∀ (v0 : Int32) (v1 : Int32) (M : gM), R17 v0 v1 M → w M 17 [(0, .ref (gA G 268)), (1, .int v0), (2, .int v1)] []) (h : fX7_cutAll_b261 R17 l1_30 l2_31 l5_32 s0_33 s1_34 s2_35 M Q) : w M 261 [(0, .ref (gA G 268)), (1, .int l1_30), (2, .int l2_31), (5, .long l5_32)] [.int s2_35, .int s1_34, .ref (gA G s0_33)] := by
  unfold fX7_cutAll_b261 at h
  obtain ⟨hk36, h⟩ := h
  obtain ⟨hi37, h⟩ := h
  refine g_iast (n := s1_34.toNatClampNeg) hw dX7_cutAll_261 hk36 hi37 rfl ?_
  refine g_iinc hw (lv2 := [(0, .ref (gA G 268)), (1, .int l1_30), (2, .int (l2_31 + 1)), (5, .long l5_32)]) 2 [1, 2, 0, 3] dX7_cutAll_262 rfl (by decide) rfl rfl ?_
  exact wX7_cutAll_b265 hw hkf hR17 h
def fX7_cutAll_b210 (R159 : Int32 → Int64 → gM → Prop) (l1_46 : Int32) (l2_60 : Int32) (l4_47 : Int32) (s0_61 : Int64) (M : gM) (Q : gM → Prop) : Prop :=
  R159 (l2_60 + 1) s0_61 M
theorem wX7_cutAll_b210 {kf : Nat} {G : gG} {w : gM → Nat → List (Nat × Value) → List Value → Prop} {Q : gM → Prop} (hw : gX yX7_cutAll cX7_cutAll 7 (Option.none : Option FieldType) [] kf G (gQv Q) gE0 w) (hkf : 3 ≤ kf) {R159 : Int32 → Int64 → gM → Prop} {l1_46 : Int32} {l2_60 : Int32} {l4_47 : Int32} {s0_61 : Int64} {M : gM} (hR159 : ∀ (v0 : Int32) (v1 : Int64) (M : gM), R159 v0 v1 M → w M 159 [(0, .ref (gA G 268)), (1, .int l1_46), (2, .int v0), (4, .int l4_47), (5, .long v1)] []) (h : fX7_cutAll_b210 R159 l1_46 l2_60 l4_47 s0_61 M Q) : w M 210 [(0, .ref (gA G 268)), (1, .int l1_46), (2, .int l2_60), (4, .int l4_47)] [.long s0_61] := by
  unfold fX7_cutAll_b210 at h
  refine g_lstore hw (lv2 := [(0, .ref (gA G 268)), (1, .int l1_46), (2, .int l2_60), (4, .int l4_47), (5, .long s0_61)]) [1, 2, 3, 4, 0] dX7_cutAll_210 rfl rfl ?_
  refine g_iinc hw (lv2 := [(0, .ref (gA G 268)), (1, .int l1_46), (2, .int (l2_60 + 1)), (4, .int l4_47), (5, .long s0_61)]) 2 [1, 2, 0, 3, 4] dX7_cutAll_212 rfl (by decide) rfl rfl ?_
  refine g_goto (tgt := 159) hw dX7_cutAll_215 (by decide) ?_
  exact hR159 (l2_60 + 1) s0_61 M h
def fX7_cutAll_L159s (R159 : Int32 → Int64 → gM → Prop) (K218_159 : Int32 → Int64 → gM → Prop) (l1_46 : Int32) (l4_47 : Int32) (l2_48 : Int32) (l5_49 : Int64) (M : gM) (Q : gM → Prop) : Prop :=
  gk M 268 = 7 ∧ (if (gI M 268 3) ≤ l2_48 then K218_159 l2_48 l5_49 M else gdr (gR M 268 1) (fun a52 => gk M a52 = 40 ∧ vp_in l2_48 (gl M a52) ∧ fX7_isDigit (gI M a52 l2_48.toNatClampNeg) M (fun r57 M56 => (if r57 = 0 then K218_159 l2_48 l5_49 M56 else (if 4 ≤ (l2_48 - l4_47) then fX7_cutAll_b210 R159 l1_46 l2_48 l4_47 l5_49 M56 Q else gk M56 268 = 7 ∧ gdr (gR M56 268 1) (fun a63 => gk M56 a63 = 40 ∧ vp_in l2_48 (gl M56 a63) ∧ fX7_cutAll_b210 R159 l1_46 l2_48 l4_47 (((10 * l5_49) + ((gI M56 a63 l2_48.toNatClampNeg).toInt64)) - 48) M56 Q))))))
def fX7_cutAll_L159 (K218_159 : Int32 → Int64 → gM → Prop) (l1_46 : Int32) (l4_47 : Int32) (Q : gM → Prop) : Nat → Int32 → Int64 → gM → Prop
  | 0 => fun _ _ _ => False
  | n + 1 => fun l2_48 l5_49 M => fX7_cutAll_L159s (fX7_cutAll_L159 K218_159 l1_46 l4_47 Q n) K218_159 l1_46 l4_47 l2_48 l5_49 M Q
theorem wX7_cutAll_L159s {kf : Nat} {G : gG} {w : gM → Nat → List (Nat × Value) → List Value → Prop} {Q : gM → Prop} (hw : gX yX7_cutAll cX7_cutAll 7 (Option.none : Option FieldType) [] kf G (gQv Q) gE0 w) (hkf : 3 ≤ kf) {R159 : Int32 → Int64 → gM → Prop} {K218_159 : Int32 → Int64 → gM → Prop} {l1_46 : Int32} {l4_47 : Int32} {l2_48 : Int32} {l5_49 : Int64} {M : gM} (hR159 : ∀ (v0 : Int32) (v1 : Int64) (M : gM), R159 v0 v1 M → w M 159 [(0, .ref (gA G 268)), (1, .int l1_46), (2, .int v0), (4, .int l4_47), (5, .long v1)] []) (hK218_159 : ∀ (v0 : Int32) (v1 : Int64) (M : gM), K218_159 v0 v1 M → w M 218 [(0, .ref (gA G 268)), (1, .int l1_46), (2, .int v0), (4, .int l4_47), (5, .long v1)] []) (h : fX7_cutAll_L159s R159 K218_159 l1_46 l4_47 l2_48 l5_49 M Q) : w M 159 [(0, .ref (gA G 268)), (1, .int l1_46), (2, .int l2_48), (4, .int l4_47), (5, .long l5_49)] [] := by
  unfold fX7_cutAll_L159s at h
  refine g_iload_n hw 2 dX7_cutAll_159 rfl ?_
  refine g_aload_n hw 0 dX7_cutAll_160 rfl ?_
  obtain ⟨hk50, h⟩ := h
  refine gfX7_215 hw rfl dX7_cutAll_161 hk50 ?_
  refine g_icmp_ge (tgt := 218) hw dX7_cutAll_164 (by decide) (fun hb51 => ?_) (fun hb51 => ?_)
  · have h := gT h hb51
    exact hK218_159 l2_48 l5_49 M h
  · have h := gF h hb51
    refine g_aload_n hw 0 dX7_cutAll_167 rfl ?_
    obtain ⟨a52, e53, h⟩ := h
    refine gfX7_14 (q := some a52) hw rfl dX7_cutAll_168 hk50 e53 ?_
    refine g_iload_n hw 2 dX7_cutAll_171 rfl ?_
    obtain ⟨hk54, h⟩ := h
    obtain ⟨hi55, h⟩ := h
    refine g_iald (n := l2_48.toNatClampNeg) hw dX7_cutAll_172 hk54 hi55 rfl ?_
    refine sX7_224 hw rfl dX7_cutAll_173 rfl (gK2 hkf) h (fun r57 M56 h => ?_)
    refine g_if_eq (tgt := 218) hw dX7_cutAll_176 (by decide) (fun hb58 => ?_) (fun hb58 => ?_)
    · have h := gT h hb58
      exact hK218_159 l2_48 l5_49 M56 h
    · have h := gF h hb58
      refine g_iload_n hw 2 dX7_cutAll_179 rfl ?_
      refine g_iload hw 3 dX7_cutAll_180 rfl ?_
      refine g_isub hw dX7_cutAll_182 ?_
      refine g_iconst (v := 4) hw dX7_cutAll_183 (by decide) ?_
      refine g_icmp_ge (tgt := 208) hw dX7_cutAll_184 (by decide) (fun hb59 => ?_) (fun hb59 => ?_)
      · have h := gT h hb59
        refine g_lload hw 4 dX7_cutAll_208 rfl ?_
        refine g_sub hw (lv2 := [(0, .ref (gA G 268)), (1, .int l1_46), (2, .int l2_48), (4, .int l4_47)]) [0, 1, 2, 3] rfl ?_
        exact wX7_cutAll_b210 hw hkf hR159 h
      · have h := gF h hb59
        refine g_ldc2 hw dX7_cutAll_187 q1491 ?_
        refine g_lload hw 4 dX7_cutAll_190 rfl ?_
        refine g_lmul hw dX7_cutAll_192 ?_
        refine g_aload_n hw 0 dX7_cutAll_193 rfl ?_
        obtain ⟨hk62, h⟩ := h
        obtain ⟨a63, e64, h⟩ := h
        refine gfX7_14 (q := some a63) hw rfl dX7_cutAll_194 hk62 e64 ?_
        refine g_iload_n hw 2 dX7_cutAll_197 rfl ?_
        obtain ⟨hk65, h⟩ := h
        obtain ⟨hi66, h⟩ := h
        refine g_iald (n := l2_48.toNatClampNeg) hw dX7_cutAll_198 hk65 hi66 rfl ?_
        refine g_i2l hw dX7_cutAll_199 ?_
        refine g_ladd hw dX7_cutAll_200 ?_
        refine g_ldc2 hw dX7_cutAll_201 q1492 ?_
        refine g_lsub hw dX7_cutAll_204 ?_
        refine g_goto (tgt := 210) hw dX7_cutAll_205 (by decide) ?_
        refine g_sub hw (lv2 := [(0, .ref (gA G 268)), (1, .int l1_46), (2, .int l2_48), (4, .int l4_47)]) [0, 1, 2, 3] rfl ?_
        exact wX7_cutAll_b210 hw hkf hR159 h
theorem wX7_cutAll_L159 {kf : Nat} {G : gG} {w : gM → Nat → List (Nat × Value) → List Value → Prop} {Q : gM → Prop} (hw : gX yX7_cutAll cX7_cutAll 7 (Option.none : Option FieldType) [] kf G (gQv Q) gE0 w) (hkf : 3 ≤ kf) {K218_159 : Int32 → Int64 → gM → Prop} {l1_46 : Int32} {l4_47 : Int32} (hK218_159 : ∀ (v0 : Int32) (v1 : Int64) (M : gM), K218_159 v0 v1 M → w M 218 [(0, .ref (gA G 268)), (1, .int l1_46), (2, .int v0), (4, .int l4_47), (5, .long v1)] []) : ∀ (n : Nat) (l2_48 : Int32) (l5_49 : Int64) (M : gM), fX7_cutAll_L159 K218_159 l1_46 l4_47 Q n l2_48 l5_49 M → w M 159 [(0, .ref (gA G 268)), (1, .int l1_46), (2, .int l2_48), (4, .int l4_47), (5, .long l5_49)] [] := by
  intro n
  induction n with
  | zero => intro l2_48 l5_49 M h; exact h.elim
  | succ n ih => intro l2_48 l5_49 M h; exact wX7_cutAll_L159s hw hkf ih hK218_159 h
def fX7_cutAll_b236 (R17 : Int32 → Int32 → gM → Prop) (l1_78 : Int32) (l2_79 : Int32) (l5_80 : Int64) (s0_81 : Nat) (s1_82 : Int32) (s2_83 : Int32) (M : gM) (Q : gM → Prop) : Prop :=
  gk M s0_81 = 40 ∧ vp_in s1_82 (gl M s0_81) ∧ fX7_cutAll_b265 R17 l1_78 l2_79 l5_80 (gsI M s0_81 s1_82.toNatClampNeg s2_83) Q
theorem wX7_cutAll_b236 {kf : Nat} {G : gG} {w : gM → Nat → List (Nat × Value) → List Value → Prop} {Q : gM → Prop} (hw : gX yX7_cutAll cX7_cutAll 7 (Option.none : Option FieldType) [] kf G (gQv Q) gE0 w) (hkf : 3 ≤ kf) {R17 : Int32 → Int32 → gM → Prop} {l1_78 : Int32} {l2_79 : Int32} {l5_80 : Int64} {s0_81 : Nat} {s1_82 : Int32} {s2_83 : Int32} {M : gM} (hR17 : ∀ (v0 : Int32) (v1 : Int32) (M : gM), R17 v0 v1 M → w M 17 [(0, .ref (gA G 268)), (1, .int v0), (2, .int v1)] []) (h : fX7_cutAll_b236 R17 l1_78 l2_79 l5_80 s0_81 s1_82 s2_83 M Q) : w M 236 [(0, .ref (gA G 268)), (1, .int l1_78), (2, .int l2_79), (5, .long l5_80)] [.int s2_83, .int s1_82, .ref (gA G s0_81)] := by
  unfold fX7_cutAll_b236 at h
  obtain ⟨hk84, h⟩ := h
  obtain ⟨hi85, h⟩ := h
  refine g_iast (n := s1_82.toNatClampNeg) hw dX7_cutAll_236 hk84 hi85 rfl ?_
  refine g_goto (tgt := 265) hw dX7_cutAll_237 (by decide) ?_
  exact wX7_cutAll_b265 hw hkf hR17 h
def fX7_cutAll_b218 (R17 : Int32 → Int32 → gM → Prop) (l1_70 : Int32) (l2_71 : Int32) (l4_72 : Int32) (l5_73 : Int64) (M : gM) (Q : gM → Prop) : Prop :=
  gk M 268 = 7 ∧ gdr (gR M 268 4) (fun a75 => (if (l2_71 - l4_72) ≤ 4 then fX7_cutAll_b236 R17 l1_70 l2_71 l5_73 a75 l1_70 2 M Q else fX7_cutAll_b236 R17 l1_70 l2_71 l5_73 a75 l1_70 4 M Q))
theorem wX7_cutAll_b218 {kf : Nat} {G : gG} {w : gM → Nat → List (Nat × Value) → List Value → Prop} {Q : gM → Prop} (hw : gX yX7_cutAll cX7_cutAll 7 (Option.none : Option FieldType) [] kf G (gQv Q) gE0 w) (hkf : 3 ≤ kf) {R17 : Int32 → Int32 → gM → Prop} {l1_70 : Int32} {l2_71 : Int32} {l4_72 : Int32} {l5_73 : Int64} {M : gM} (hR17 : ∀ (v0 : Int32) (v1 : Int32) (M : gM), R17 v0 v1 M → w M 17 [(0, .ref (gA G 268)), (1, .int v0), (2, .int v1)] []) (h : fX7_cutAll_b218 R17 l1_70 l2_71 l4_72 l5_73 M Q) : w M 218 [(0, .ref (gA G 268)), (1, .int l1_70), (2, .int l2_71), (4, .int l4_72), (5, .long l5_73)] [] := by
  unfold fX7_cutAll_b218 at h
  refine g_aload_n hw 0 dX7_cutAll_218 rfl ?_
  obtain ⟨hk74, h⟩ := h
  obtain ⟨a75, e76, h⟩ := h
  refine gfX7_24 (q := some a75) hw rfl dX7_cutAll_219 hk74 e76 ?_
  refine g_iload_n hw 1 dX7_cutAll_222 rfl ?_
  refine g_iload_n hw 2 dX7_cutAll_223 rfl ?_
  refine g_iload hw 3 dX7_cutAll_224 rfl ?_
  refine g_isub hw dX7_cutAll_226 ?_
  refine g_iconst (v := 4) hw dX7_cutAll_227 (by decide) ?_
  refine g_icmp_le (tgt := 235) hw dX7_cutAll_228 (by decide) (fun hb77 => ?_) (fun hb77 => ?_)
  · have h := gT h hb77
    refine g_iconst (v := 2) hw dX7_cutAll_235 (by decide) ?_
    refine g_sub hw (lv2 := [(0, .ref (gA G 268)), (1, .int l1_70), (2, .int l2_71), (5, .long l5_73)]) [0, 1, 2, 4] rfl ?_
    exact wX7_cutAll_b236 hw hkf hR17 h
  · have h := gF h hb77
    refine g_iconst (v := 4) hw dX7_cutAll_231 (by decide) ?_
    refine g_goto (tgt := 236) hw dX7_cutAll_232 (by decide) ?_
    refine g_sub hw (lv2 := [(0, .ref (gA G 268)), (1, .int l1_70), (2, .int l2_71), (5, .long l5_73)]) [0, 1, 2, 4] rfl ?_
    exact wX7_cutAll_b236 hw hkf hR17 h
def fX7_cutAll_b121 (R70 : Int32 → Int64 → gM → Prop) (l1_86 : Int32) (l2_100 : Int32) (l4_87 : Int32) (s0_101 : Int64) (M : gM) (Q : gM → Prop) : Prop :=
  R70 (l2_100 + 1) s0_101 M
theorem wX7_cutAll_b121 {kf : Nat} {G : gG} {w : gM → Nat → List (Nat × Value) → List Value → Prop} {Q : gM → Prop} (hw : gX yX7_cutAll cX7_cutAll 7 (Option.none : Option FieldType) [] kf G (gQv Q) gE0 w) (hkf : 3 ≤ kf) {R70 : Int32 → Int64 → gM → Prop} {l1_86 : Int32} {l2_100 : Int32} {l4_87 : Int32} {s0_101 : Int64} {M : gM} (hR70 : ∀ (v0 : Int32) (v1 : Int64) (M : gM), R70 v0 v1 M → w M 70 [(0, .ref (gA G 268)), (1, .int l1_86), (2, .int v0), (4, .int l4_87), (5, .long v1)] []) (h : fX7_cutAll_b121 R70 l1_86 l2_100 l4_87 s0_101 M Q) : w M 121 [(0, .ref (gA G 268)), (1, .int l1_86), (2, .int l2_100), (4, .int l4_87)] [.long s0_101] := by
  unfold fX7_cutAll_b121 at h
  refine g_lstore hw (lv2 := [(0, .ref (gA G 268)), (1, .int l1_86), (2, .int l2_100), (4, .int l4_87), (5, .long s0_101)]) [1, 2, 3, 4, 0] dX7_cutAll_121 rfl rfl ?_
  refine g_iinc hw (lv2 := [(0, .ref (gA G 268)), (1, .int l1_86), (2, .int (l2_100 + 1)), (4, .int l4_87), (5, .long s0_101)]) 2 [1, 2, 0, 3, 4] dX7_cutAll_123 rfl (by decide) rfl rfl ?_
  refine g_goto (tgt := 70) hw dX7_cutAll_126 (by decide) ?_
  exact hR70 (l2_100 + 1) s0_101 M h
def fX7_cutAll_L70s (R70 : Int32 → Int64 → gM → Prop) (K129_70 : Int32 → Int64 → gM → Prop) (l1_86 : Int32) (l4_87 : Int32) (l2_88 : Int32) (l5_89 : Int64) (M : gM) (Q : gM → Prop) : Prop :=
  gk M 268 = 7 ∧ (if (gI M 268 3) ≤ l2_88 then K129_70 l2_88 l5_89 M else gdr (gR M 268 1) (fun a92 => gk M a92 = 40 ∧ vp_in l2_88 (gl M a92) ∧ fX7_isLetter (gI M a92 l2_88.toNatClampNeg) M (fun r97 M96 => (if r97 = 0 then K129_70 l2_88 l5_89 M96 else (if 8 ≤ (l2_88 - l4_87) then fX7_cutAll_b121 R70 l1_86 l2_88 l4_87 l5_89 M96 Q else gk M96 268 = 7 ∧ gdr (gR M96 268 1) (fun a103 => gk M96 a103 = 40 ∧ vp_in l2_88 (gl M96 a103) ∧ fX7_rank (gI M96 a103 l2_88.toNatClampNeg) M96 (fun r108 M107 => fX7_cutAll_b121 R70 l1_86 l2_88 l4_87 ((37 * l5_89) + r108.toInt64) M107 Q)))))))
def fX7_cutAll_L70 (K129_70 : Int32 → Int64 → gM → Prop) (l1_86 : Int32) (l4_87 : Int32) (Q : gM → Prop) : Nat → Int32 → Int64 → gM → Prop
  | 0 => fun _ _ _ => False
  | n + 1 => fun l2_88 l5_89 M => fX7_cutAll_L70s (fX7_cutAll_L70 K129_70 l1_86 l4_87 Q n) K129_70 l1_86 l4_87 l2_88 l5_89 M Q
theorem wX7_cutAll_L70s {kf : Nat} {G : gG} {w : gM → Nat → List (Nat × Value) → List Value → Prop} {Q : gM → Prop} (hw : gX yX7_cutAll cX7_cutAll 7 (Option.none : Option FieldType) [] kf G (gQv Q) gE0 w) (hkf : 3 ≤ kf) {R70 : Int32 → Int64 → gM → Prop} {K129_70 : Int32 → Int64 → gM → Prop} {l1_86 : Int32} {l4_87 : Int32} {l2_88 : Int32} {l5_89 : Int64} {M : gM} (hR70 : ∀ (v0 : Int32) (v1 : Int64) (M : gM), R70 v0 v1 M → w M 70 [(0, .ref (gA G 268)), (1, .int l1_86), (2, .int v0), (4, .int l4_87), (5, .long v1)] []) (hK129_70 : ∀ (v0 : Int32) (v1 : Int64) (M : gM), K129_70 v0 v1 M → w M 129 [(0, .ref (gA G 268)), (1, .int l1_86), (2, .int v0), (4, .int l4_87), (5, .long v1)] []) (h : fX7_cutAll_L70s R70 K129_70 l1_86 l4_87 l2_88 l5_89 M Q) : w M 70 [(0, .ref (gA G 268)), (1, .int l1_86), (2, .int l2_88), (4, .int l4_87), (5, .long l5_89)] [] := by
  unfold fX7_cutAll_L70s at h
  refine g_iload_n hw 2 dX7_cutAll_70 rfl ?_
  refine g_aload_n hw 0 dX7_cutAll_71 rfl ?_
  obtain ⟨hk90, h⟩ := h
  refine gfX7_215 hw rfl dX7_cutAll_72 hk90 ?_
  refine g_icmp_ge (tgt := 129) hw dX7_cutAll_75 (by decide) (fun hb91 => ?_) (fun hb91 => ?_)
  · have h := gT h hb91
    exact hK129_70 l2_88 l5_89 M h
  · have h := gF h hb91
    refine g_aload_n hw 0 dX7_cutAll_78 rfl ?_
    obtain ⟨a92, e93, h⟩ := h
    refine gfX7_14 (q := some a92) hw rfl dX7_cutAll_79 hk90 e93 ?_
    refine g_iload_n hw 2 dX7_cutAll_82 rfl ?_
    obtain ⟨hk94, h⟩ := h
    obtain ⟨hi95, h⟩ := h
    refine g_iald (n := l2_88.toNatClampNeg) hw dX7_cutAll_83 hk94 hi95 rfl ?_
    refine sX7_211 hw rfl dX7_cutAll_84 rfl (gK2 hkf) h (fun r97 M96 h => ?_)
    refine g_if_eq (tgt := 129) hw dX7_cutAll_87 (by decide) (fun hb98 => ?_) (fun hb98 => ?_)
    · have h := gT h hb98
      exact hK129_70 l2_88 l5_89 M96 h
    · have h := gF h hb98
      refine g_iload_n hw 2 dX7_cutAll_90 rfl ?_
      refine g_iload hw 3 dX7_cutAll_91 rfl ?_
      refine g_isub hw dX7_cutAll_93 ?_
      refine g_bipush (v := 8) hw dX7_cutAll_94 (by decide) ?_
      refine g_icmp_ge (tgt := 119) hw dX7_cutAll_96 (by decide) (fun hb99 => ?_) (fun hb99 => ?_)
      · have h := gT h hb99
        refine g_lload hw 4 dX7_cutAll_119 rfl ?_
        refine g_sub hw (lv2 := [(0, .ref (gA G 268)), (1, .int l1_86), (2, .int l2_88), (4, .int l4_87)]) [0, 1, 2, 3] rfl ?_
        exact wX7_cutAll_b121 hw hkf hR70 h
      · have h := gF h hb99
        refine g_ldc2 hw dX7_cutAll_99 q1484 ?_
        refine g_lload hw 4 dX7_cutAll_102 rfl ?_
        refine g_lmul hw dX7_cutAll_104 ?_
        refine g_aload_n hw 0 dX7_cutAll_105 rfl ?_
        obtain ⟨hk102, h⟩ := h
        obtain ⟨a103, e104, h⟩ := h
        refine gfX7_14 (q := some a103) hw rfl dX7_cutAll_106 hk102 e104 ?_
        refine g_iload_n hw 2 dX7_cutAll_109 rfl ?_
        obtain ⟨hk105, h⟩ := h
        obtain ⟨hi106, h⟩ := h
        refine g_iald (n := l2_88.toNatClampNeg) hw dX7_cutAll_110 hk105 hi106 rfl ?_
        refine sX7_220 hw rfl dX7_cutAll_111 rfl (gK2 hkf) h (fun r108 M107 h => ?_)
        refine g_i2l hw dX7_cutAll_114 ?_
        refine g_ladd hw dX7_cutAll_115 ?_
        refine g_goto (tgt := 121) hw dX7_cutAll_116 (by decide) ?_
        refine g_sub hw (lv2 := [(0, .ref (gA G 268)), (1, .int l1_86), (2, .int l2_88), (4, .int l4_87)]) [0, 1, 2, 3] rfl ?_
        exact wX7_cutAll_b121 hw hkf hR70 h
theorem wX7_cutAll_L70 {kf : Nat} {G : gG} {w : gM → Nat → List (Nat × Value) → List Value → Prop} {Q : gM → Prop} (hw : gX yX7_cutAll cX7_cutAll 7 (Option.none : Option FieldType) [] kf G (gQv Q) gE0 w) (hkf : 3 ≤ kf) {K129_70 : Int32 → Int64 → gM → Prop} {l1_86 : Int32} {l4_87 : Int32} (hK129_70 : ∀ (v0 : Int32) (v1 : Int64) (M : gM), K129_70 v0 v1 M → w M 129 [(0, .ref (gA G 268)), (1, .int l1_86), (2, .int v0), (4, .int l4_87), (5, .long v1)] []) : ∀ (n : Nat) (l2_88 : Int32) (l5_89 : Int64) (M : gM), fX7_cutAll_L70 K129_70 l1_86 l4_87 Q n l2_88 l5_89 M → w M 70 [(0, .ref (gA G 268)), (1, .int l1_86), (2, .int l2_88), (4, .int l4_87), (5, .long l5_89)] [] := by
  intro n
  induction n with
  | zero => intro l2_88 l5_89 M h; exact h.elim
  | succ n ih => intro l2_88 l5_89 M h; exact wX7_cutAll_L70s hw hkf ih hK129_70 h
def fX7_cutAll_b148 (R17 : Int32 → Int32 → gM → Prop) (l1_120 : Int32) (l2_121 : Int32) (l5_122 : Int64) (s0_123 : Nat) (s1_124 : Int32) (s2_125 : Int32) (M : gM) (Q : gM → Prop) : Prop :=
  gk M s0_123 = 40 ∧ vp_in s1_124 (gl M s0_123) ∧ fX7_cutAll_b265 R17 l1_120 l2_121 l5_122 (gsI M s0_123 s1_124.toNatClampNeg s2_125) Q
theorem wX7_cutAll_b148 {kf : Nat} {G : gG} {w : gM → Nat → List (Nat × Value) → List Value → Prop} {Q : gM → Prop} (hw : gX yX7_cutAll cX7_cutAll 7 (Option.none : Option FieldType) [] kf G (gQv Q) gE0 w) (hkf : 3 ≤ kf) {R17 : Int32 → Int32 → gM → Prop} {l1_120 : Int32} {l2_121 : Int32} {l5_122 : Int64} {s0_123 : Nat} {s1_124 : Int32} {s2_125 : Int32} {M : gM} (hR17 : ∀ (v0 : Int32) (v1 : Int32) (M : gM), R17 v0 v1 M → w M 17 [(0, .ref (gA G 268)), (1, .int v0), (2, .int v1)] []) (h : fX7_cutAll_b148 R17 l1_120 l2_121 l5_122 s0_123 s1_124 s2_125 M Q) : w M 148 [(0, .ref (gA G 268)), (1, .int l1_120), (2, .int l2_121), (5, .long l5_122)] [.int s2_125, .int s1_124, .ref (gA G s0_123)] := by
  unfold fX7_cutAll_b148 at h
  obtain ⟨hk126, h⟩ := h
  obtain ⟨hi127, h⟩ := h
  refine g_iast (n := s1_124.toNatClampNeg) hw dX7_cutAll_148 hk126 hi127 rfl ?_
  refine g_goto (tgt := 265) hw dX7_cutAll_149 (by decide) ?_
  exact wX7_cutAll_b265 hw hkf hR17 h
def fX7_cutAll_b129 (R17 : Int32 → Int32 → gM → Prop) (l1_112 : Int32) (l2_113 : Int32) (l4_114 : Int32) (l5_115 : Int64) (M : gM) (Q : gM → Prop) : Prop :=
  gk M 268 = 7 ∧ gdr (gR M 268 4) (fun a117 => (if (l2_113 - l4_114) ≤ 8 then fX7_cutAll_b148 R17 l1_112 l2_113 l5_115 a117 l1_112 1 M Q else fX7_cutAll_b148 R17 l1_112 l2_113 l5_115 a117 l1_112 4 M Q))
theorem wX7_cutAll_b129 {kf : Nat} {G : gG} {w : gM → Nat → List (Nat × Value) → List Value → Prop} {Q : gM → Prop} (hw : gX yX7_cutAll cX7_cutAll 7 (Option.none : Option FieldType) [] kf G (gQv Q) gE0 w) (hkf : 3 ≤ kf) {R17 : Int32 → Int32 → gM → Prop} {l1_112 : Int32} {l2_113 : Int32} {l4_114 : Int32} {l5_115 : Int64} {M : gM} (hR17 : ∀ (v0 : Int32) (v1 : Int32) (M : gM), R17 v0 v1 M → w M 17 [(0, .ref (gA G 268)), (1, .int v0), (2, .int v1)] []) (h : fX7_cutAll_b129 R17 l1_112 l2_113 l4_114 l5_115 M Q) : w M 129 [(0, .ref (gA G 268)), (1, .int l1_112), (2, .int l2_113), (4, .int l4_114), (5, .long l5_115)] [] := by
  unfold fX7_cutAll_b129 at h
  refine g_aload_n hw 0 dX7_cutAll_129 rfl ?_
  obtain ⟨hk116, h⟩ := h
  obtain ⟨a117, e118, h⟩ := h
  refine gfX7_24 (q := some a117) hw rfl dX7_cutAll_130 hk116 e118 ?_
  refine g_iload_n hw 1 dX7_cutAll_133 rfl ?_
  refine g_iload_n hw 2 dX7_cutAll_134 rfl ?_
  refine g_iload hw 3 dX7_cutAll_135 rfl ?_
  refine g_isub hw dX7_cutAll_137 ?_
  refine g_bipush (v := 8) hw dX7_cutAll_138 (by decide) ?_
  refine g_icmp_le (tgt := 147) hw dX7_cutAll_140 (by decide) (fun hb119 => ?_) (fun hb119 => ?_)
  · have h := gT h hb119
    refine g_iconst (v := 1) hw dX7_cutAll_147 (by decide) ?_
    refine g_sub hw (lv2 := [(0, .ref (gA G 268)), (1, .int l1_112), (2, .int l2_113), (5, .long l5_115)]) [0, 1, 2, 4] rfl ?_
    exact wX7_cutAll_b148 hw hkf hR17 h
  · have h := gF h hb119
    refine g_iconst (v := 4) hw dX7_cutAll_143 (by decide) ?_
    refine g_goto (tgt := 148) hw dX7_cutAll_144 (by decide) ?_
    refine g_sub hw (lv2 := [(0, .ref (gA G 268)), (1, .int l1_112), (2, .int l2_113), (5, .long l5_115)]) [0, 1, 2, 4] rfl ?_
    exact wX7_cutAll_b148 hw hkf hR17 h
def fX7_cutAll_L17s (R17 : Int32 → Int32 → gM → Prop) (K279_17 : Int32 → gM → Prop) (l1_2 : Int32) (l2_3 : Int32) (M : gM) (Q : gM → Prop) : Prop :=
  gk M 268 = 7 ∧ (if (gI M 268 3) ≤ l2_3 then K279_17 l1_2 M else gdr (gR M 268 1) (fun a6 => gk M a6 = 40 ∧ vp_in l2_3 (gl M a6) ∧ (if (gI M a6 l2_3.toNatClampNeg) = 10 then fX7_cutAll_b44 R17 l1_2 l2_3 M Q else (if (gI M a6 l2_3.toNatClampNeg) = 32 then fX7_cutAll_b44 R17 l1_2 l2_3 M Q else gdr (gR M 268 5) (fun a14 => gk M a14 = 40 ∧ vp_in l1_2 (gl M a14) ∧ fX7_isLetter (gI M a6 l2_3.toNatClampNeg) (gsI M a14 l1_2.toNatClampNeg l2_3) (fun r19 M18 => (if r19 = 0 then fX7_isDigit (gI M a6 l2_3.toNatClampNeg) M18 (fun r22 M21 => (if r22 = 0 then gk M21 268 = 7 ∧ gdr (gR M21 268 4) (fun a25 => fX7_isSignOf (gI M a6 l2_3.toNatClampNeg) M21 (fun r28 M27 => (if r28 = 0 then fX7_cutAll_b261 R17 l1_2 l2_3 ((gI M a6 l2_3.toNatClampNeg).toInt64) a25 l1_2 4 M27 Q else fX7_cutAll_b261 R17 l1_2 l2_3 ((gI M a6 l2_3.toNatClampNeg).toInt64) a25 l1_2 3 M27 Q))) else ∃ n, fX7_cutAll_L159 (fun l2_67 l5_68 M69 => fX7_cutAll_b218 R17 l1_2 l2_67 l2_3 l5_68 M69 Q) l1_2 l2_3 Q n l2_3 0 M21)) else ∃ n, fX7_cutAll_L70 (fun l2_109 l5_110 M111 => fX7_cutAll_b129 R17 l1_2 l2_109 l2_3 l5_110 M111 Q) l1_2 l2_3 Q n l2_3 0 M18)))))))
def fX7_cutAll_L17 (K279_17 : Int32 → gM → Prop) (Q : gM → Prop) : Nat → Int32 → Int32 → gM → Prop
  | 0 => fun _ _ _ => False
  | n + 1 => fun l1_2 l2_3 M => fX7_cutAll_L17s (fX7_cutAll_L17 K279_17 Q n) K279_17 l1_2 l2_3 M Q
theorem wX7_cutAll_L17s {kf : Nat} {G : gG} {w : gM → Nat → List (Nat × Value) → List Value → Prop} {Q : gM → Prop} (hw : gX yX7_cutAll cX7_cutAll 7 (Option.none : Option FieldType) [] kf G (gQv Q) gE0 w) (hkf : 3 ≤ kf) {R17 : Int32 → Int32 → gM → Prop} {K279_17 : Int32 → gM → Prop} {l1_2 : Int32} {l2_3 : Int32} {M : gM} (hR17 : ∀ (v0 : Int32) (v1 : Int32) (M : gM), R17 v0 v1 M → w M 17 [(0, .ref (gA G 268)), (1, .int v0), (2, .int v1)] []) (hK279_17 : ∀ (v0 : Int32) (M : gM), K279_17 v0 M → w M 279 [(0, .ref (gA G 268)), (1, .int v0)] []) (h : fX7_cutAll_L17s R17 K279_17 l1_2 l2_3 M Q) : w M 17 [(0, .ref (gA G 268)), (1, .int l1_2), (2, .int l2_3)] [] := by
  unfold fX7_cutAll_L17s at h
  refine g_iload_n hw 2 dX7_cutAll_17 rfl ?_
  refine g_aload_n hw 0 dX7_cutAll_18 rfl ?_
  obtain ⟨hk4, h⟩ := h
  refine gfX7_215 hw rfl dX7_cutAll_19 hk4 ?_
  refine g_icmp_ge (tgt := 279) hw dX7_cutAll_22 (by decide) (fun hb5 => ?_) (fun hb5 => ?_)
  · have h := gT h hb5
    refine g_sub hw (lv2 := [(0, .ref (gA G 268)), (1, .int l1_2)]) [0, 1] rfl ?_
    exact hK279_17 l1_2 M h
  · have h := gF h hb5
    refine g_aload_n hw 0 dX7_cutAll_25 rfl ?_
    obtain ⟨a6, e7, h⟩ := h
    refine gfX7_14 (q := some a6) hw rfl dX7_cutAll_26 hk4 e7 ?_
    refine g_iload_n hw 2 dX7_cutAll_29 rfl ?_
    obtain ⟨hk8, h⟩ := h
    obtain ⟨hi9, h⟩ := h
    refine g_iald (n := l2_3.toNatClampNeg) hw dX7_cutAll_30 hk8 hi9 rfl ?_
    refine g_istore_n hw (lv2 := [(0, .ref (gA G 268)), (1, .int l1_2), (2, .int l2_3), (3, .int (gI M a6 l2_3.toNatClampNeg))]) [1, 2, 3, 0] dX7_cutAll_31 rfl rfl ?_
    refine g_iload_n hw 3 dX7_cutAll_32 rfl ?_
    refine g_bipush (v := 10) hw dX7_cutAll_33 (by decide) ?_
    refine g_icmp_eq (tgt := 44) hw dX7_cutAll_35 (by decide) (fun hb10 => ?_) (fun hb10 => ?_)
    · have h := gT h hb10
      refine g_sub hw (lv2 := [(0, .ref (gA G 268)), (1, .int l1_2), (2, .int l2_3)]) [0, 1, 2] rfl ?_
      exact wX7_cutAll_b44 hw hkf hR17 h
    · have h := gF h hb10
      refine g_iload_n hw 3 dX7_cutAll_38 rfl ?_
      refine g_bipush (v := 32) hw dX7_cutAll_39 (by decide) ?_
      refine g_icmp_ne (tgt := 50) hw dX7_cutAll_41 (by decide) (fun hb13 => ?_) (fun hb13 => ?_)
      · have h := gF h hb13
        refine g_iload_n hw 2 dX7_cutAll_50 rfl ?_
        refine g_istore hw (lv2 := [(0, .ref (gA G 268)), (1, .int l1_2), (2, .int l2_3), (3, .int (gI M a6 l2_3.toNatClampNeg)), (4, .int l2_3)]) [1, 2, 3, 4, 0] dX7_cutAll_51 rfl rfl ?_
        refine g_lconst (v := 0) hw dX7_cutAll_53 (by decide) ?_
        refine g_lstore hw (lv2 := [(0, .ref (gA G 268)), (1, .int l1_2), (2, .int l2_3), (3, .int (gI M a6 l2_3.toNatClampNeg)), (4, .int l2_3), (5, .long 0)]) [1, 2, 3, 4, 5, 0] dX7_cutAll_54 rfl rfl ?_
        refine g_aload_n hw 0 dX7_cutAll_56 rfl ?_
        obtain ⟨a14, e15, h⟩ := h
        refine gfX7_27 (q := some a14) hw rfl dX7_cutAll_57 hk4 e15 ?_
        refine g_iload_n hw 1 dX7_cutAll_60 rfl ?_
        refine g_iload_n hw 2 dX7_cutAll_61 rfl ?_
        obtain ⟨hk16, h⟩ := h
        obtain ⟨hi17, h⟩ := h
        refine g_iast (n := l1_2.toNatClampNeg) hw dX7_cutAll_62 hk16 hi17 rfl ?_
        refine g_iload_n hw 3 dX7_cutAll_63 rfl ?_
        refine sX7_211 hw rfl dX7_cutAll_64 rfl (gK2 hkf) h (fun r19 M18 h => ?_)
        refine g_if_eq (tgt := 152) hw dX7_cutAll_67 (by decide) (fun hb20 => ?_) (fun hb20 => ?_)
        · have h := gT h hb20
          refine g_iload_n hw 3 dX7_cutAll_152 rfl ?_
          refine sX7_224 hw rfl dX7_cutAll_153 rfl (gK2 hkf) h (fun r22 M21 h => ?_)
          refine g_if_eq (tgt := 240) hw dX7_cutAll_156 (by decide) (fun hb23 => ?_) (fun hb23 => ?_)
          · have h := gT h hb23
            refine g_iload_n hw 3 dX7_cutAll_240 rfl ?_
            refine g_i2l hw dX7_cutAll_241 ?_
            refine g_lstore hw (lv2 := [(0, .ref (gA G 268)), (1, .int l1_2), (2, .int l2_3), (3, .int (gI M a6 l2_3.toNatClampNeg)), (5, .long ((gI M a6 l2_3.toNatClampNeg).toInt64))]) [1, 2, 3, 4, 0] dX7_cutAll_242 rfl rfl ?_
            refine g_aload_n hw 0 dX7_cutAll_244 rfl ?_
            obtain ⟨hk24, h⟩ := h
            obtain ⟨a25, e26, h⟩ := h
            refine gfX7_24 (q := some a25) hw rfl dX7_cutAll_245 hk24 e26 ?_
            refine g_iload_n hw 1 dX7_cutAll_248 rfl ?_
            refine g_iload_n hw 3 dX7_cutAll_249 rfl ?_
            refine sX7_231 hw rfl dX7_cutAll_250 rfl (gK2 hkf) h (fun r28 M27 h => ?_)
            refine g_if_eq (tgt := 260) hw dX7_cutAll_253 (by decide) (fun hb29 => ?_) (fun hb29 => ?_)
            · have h := gT h hb29
              refine g_iconst (v := 4) hw dX7_cutAll_260 (by decide) ?_
              refine g_sub hw (lv2 := [(0, .ref (gA G 268)), (1, .int l1_2), (2, .int l2_3), (5, .long ((gI M a6 l2_3.toNatClampNeg).toInt64))]) [0, 1, 2, 4] rfl ?_
              exact wX7_cutAll_b261 hw hkf hR17 h
            · have h := gF h hb29
              refine g_iconst (v := 3) hw dX7_cutAll_256 (by decide) ?_
              refine g_goto (tgt := 261) hw dX7_cutAll_257 (by decide) ?_
              refine g_sub hw (lv2 := [(0, .ref (gA G 268)), (1, .int l1_2), (2, .int l2_3), (5, .long ((gI M a6 l2_3.toNatClampNeg).toInt64))]) [0, 1, 2, 4] rfl ?_
              exact wX7_cutAll_b261 hw hkf hR17 h
          · have h := gF h hb23
            obtain ⟨n9, h⟩ := h
            refine g_sub hw (lv2 := [(0, .ref (gA G 268)), (1, .int l1_2), (2, .int l2_3), (4, .int l2_3), (5, .long 0)]) [0, 1, 2, 4, 5] rfl ?_
            refine wX7_cutAll_L159 hw hkf (fun l2_67 l5_68 M69 h => ?_) n9 l2_3 0 M21 h
            exact wX7_cutAll_b218 hw hkf hR17 h
        · have h := gF h hb20
          obtain ⟨n9, h⟩ := h
          refine g_sub hw (lv2 := [(0, .ref (gA G 268)), (1, .int l1_2), (2, .int l2_3), (4, .int l2_3), (5, .long 0)]) [0, 1, 2, 4, 5] rfl ?_
          refine wX7_cutAll_L70 hw hkf (fun l2_109 l5_110 M111 h => ?_) n9 l2_3 0 M18 h
          exact wX7_cutAll_b129 hw hkf hR17 h
      · have h := gT h hb13
        refine g_sub hw (lv2 := [(0, .ref (gA G 268)), (1, .int l1_2), (2, .int l2_3)]) [0, 1, 2] rfl ?_
        exact wX7_cutAll_b44 hw hkf hR17 h
theorem wX7_cutAll_L17 {kf : Nat} {G : gG} {w : gM → Nat → List (Nat × Value) → List Value → Prop} {Q : gM → Prop} (hw : gX yX7_cutAll cX7_cutAll 7 (Option.none : Option FieldType) [] kf G (gQv Q) gE0 w) (hkf : 3 ≤ kf) {K279_17 : Int32 → gM → Prop} (hK279_17 : ∀ (v0 : Int32) (M : gM), K279_17 v0 M → w M 279 [(0, .ref (gA G 268)), (1, .int v0)] []) : ∀ (n : Nat) (l1_2 : Int32) (l2_3 : Int32) (M : gM), fX7_cutAll_L17 K279_17 Q n l1_2 l2_3 M → w M 17 [(0, .ref (gA G 268)), (1, .int l1_2), (2, .int l2_3)] [] := by
  intro n
  induction n with
  | zero => intro l1_2 l2_3 M h; exact h.elim
  | succ n ih => intro l1_2 l2_3 M h; exact wX7_cutAll_L17s hw hkf ih hK279_17 h
def fX7_cutAll  (M : gM) (Q : gM → Prop) : Prop :=
  gk M 268 = 7 ∧ ∃ n, fX7_cutAll_L17 (fun l1_128 M129 => gk M129 268 = 7 ∧ gdr (gR M129 268 4) (fun a131 => gk M129 a131 = 40 ∧ vp_in l1_128 (gl M129 a131) ∧ gdr (gR (gsI M129 a131 l1_128.toNatClampNeg 0) 268 5) (fun a135 => gk (gsI M129 a131 l1_128.toNatClampNeg 0) a135 = 40 ∧ vp_in l1_128 (gl (gsI M129 a131 l1_128.toNatClampNeg 0) a135) ∧ Q (gsI (gsI (gsI (gsI M129 a131 l1_128.toNatClampNeg 0) a135 l1_128.toNatClampNeg (gI (gsI M129 a131 l1_128.toNatClampNeg 0) 268 3)) 268 7 0) 268 8 0)))) Q n 0 0 (gsI (gsI M 268 3 (gI M 268 2)) 268 2 0)
theorem mX7_cutAll {kf : Nat} (hkf : 3 ≤ kf) (G : gG)  (M : gM) (Q : gM → Prop) (h : fX7_cutAll M Q) : gMet yX7_cutAll cX7_cutAll 7 (Option.none : Option FieldType) kf G M [.ref (gA G 268)] (gQv Q) gE0 := by
  refine g_intro (lv := [(0, .ref (gA G 268))]) (by decide) rfl rfl (fun w hw => ?_)
  unfold fX7_cutAll at h
  refine g_aload_n hw 0 dX7_cutAll_0 rfl ?_
  refine g_aload_n hw 0 dX7_cutAll_1 rfl ?_
  obtain ⟨hk1, h⟩ := h
  refine gfX7_11 hw rfl dX7_cutAll_2 hk1 ?_
  refine pfX7_215 hw rfl dX7_cutAll_5 hk1 ?_
  refine g_aload_n hw 0 dX7_cutAll_8 rfl ?_
  refine g_iconst (v := 0) hw dX7_cutAll_9 (by decide) ?_
  refine pfX7_11 hw rfl dX7_cutAll_10 hk1 ?_
  refine g_iconst (v := 0) hw dX7_cutAll_13 (by decide) ?_
  refine g_istore_n hw (lv2 := [(0, .ref (gA G 268)), (1, .int 0)]) [1, 0] dX7_cutAll_14 rfl rfl ?_
  refine g_iconst (v := 0) hw dX7_cutAll_15 (by decide) ?_
  refine g_istore_n hw (lv2 := [(0, .ref (gA G 268)), (1, .int 0), (2, .int 0)]) [1, 2, 0] dX7_cutAll_16 rfl rfl ?_
  obtain ⟨n9, h⟩ := h
  refine wX7_cutAll_L17 hw hkf (fun l1_128 M129 h => ?_) n9 0 0 (gsI (gsI M 268 3 (gI M 268 2)) 268 2 0) h
  refine g_aload_n hw 0 dX7_cutAll_279 rfl ?_
  obtain ⟨hk130, h⟩ := h
  obtain ⟨a131, e132, h⟩ := h
  refine gfX7_24 (q := some a131) hw rfl dX7_cutAll_280 hk130 e132 ?_
  refine g_iload_n hw 1 dX7_cutAll_283 rfl ?_
  refine g_iconst (v := 0) hw dX7_cutAll_284 (by decide) ?_
  obtain ⟨hk133, h⟩ := h
  obtain ⟨hi134, h⟩ := h
  refine g_iast (n := l1_128.toNatClampNeg) hw dX7_cutAll_285 hk133 hi134 rfl ?_
  refine g_aload_n hw 0 dX7_cutAll_286 rfl ?_
  obtain ⟨a135, e136, h⟩ := h
  refine gfX7_27 (q := some a135) hw rfl dX7_cutAll_287 hk130 e136 ?_
  refine g_iload_n hw 1 dX7_cutAll_290 rfl ?_
  refine g_aload_n hw 0 dX7_cutAll_291 rfl ?_
  refine gfX7_215 hw rfl dX7_cutAll_292 hk130 ?_
  obtain ⟨hk137, h⟩ := h
  obtain ⟨hi138, h⟩ := h
  refine g_iast (n := l1_128.toNatClampNeg) hw dX7_cutAll_295 hk137 hi138 rfl ?_
  refine g_aload_n hw 0 dX7_cutAll_296 rfl ?_
  refine g_iconst (v := 0) hw dX7_cutAll_297 (by decide) ?_
  refine pfX7_234 hw rfl dX7_cutAll_298 hk130 ?_
  refine g_aload_n hw 0 dX7_cutAll_301 rfl ?_
  refine g_iconst (v := 0) hw dX7_cutAll_302 (by decide) ?_
  refine pfX7_237 hw rfl dX7_cutAll_303 hk130 ?_
  exact g_vret hw dX7_cutAll_306 ⟨rfl, h⟩
theorem gfX7_237 {y0 : MethodName} {cc : ByteArray} {nL : Nat} {ret : Option FieldType} {hh : List (Nat × Nat × Nat × Nat)} {kf : Nat} {G : gG} {Qv : Option Value → gM → Prop} {E : String → Nat → gM → Prop} {w : gM → Nat → List (Nat × Value) → List Value → Prop} {M : gM} {pc : Nat} {lv : List (Nat × Value)} {rest : List Value} (hw : gX y0 cc nL ret hh kf G Qv E w) (hy : y0.cls = RX7) {c : Nat} (d : decode cc pc = .ok (.getfield 237, 3)) (hk : gk M c = 7) (kk : w M (pc + 3) lv (.int (gI M c 8) :: rest)) : w M pc lv (.ref (gA G c) :: rest) := by
  obtain ⟨cls9, nm9, ds9⟩ := y0
  subst hy
  exact g_getC (C := RX7) (T := TX7) (N := 58) (ci := 6) hw in_X7 rfl 8 (by decide) (Or.inl q1164) rfl d hk kk
theorem gfX7_234 {y0 : MethodName} {cc : ByteArray} {nL : Nat} {ret : Option FieldType} {hh : List (Nat × Nat × Nat × Nat)} {kf : Nat} {G : gG} {Qv : Option Value → gM → Prop} {E : String → Nat → gM → Prop} {w : gM → Nat → List (Nat × Value) → List Value → Prop} {M : gM} {pc : Nat} {lv : List (Nat × Value)} {rest : List Value} (hw : gX y0 cc nL ret hh kf G Qv E w) (hy : y0.cls = RX7) {c : Nat} (d : decode cc pc = .ok (.getfield 234, 3)) (hk : gk M c = 7) (kk : w M (pc + 3) lv (.int (gI M c 7) :: rest)) : w M pc lv (.ref (gA G c) :: rest) := by
  obtain ⟨cls9, nm9, ds9⟩ := y0
  subst hy
  exact g_getC (C := RX7) (T := TX7) (N := 58) (ci := 6) hw in_X7 rfl 7 (by decide) (Or.inl q1163) rfl d hk kk
theorem gfX7_90 {y0 : MethodName} {cc : ByteArray} {nL : Nat} {ret : Option FieldType} {hh : List (Nat × Nat × Nat × Nat)} {kf : Nat} {G : gG} {Qv : Option Value → gM → Prop} {E : String → Nat → gM → Prop} {w : gM → Nat → List (Nat × Value) → List Value → Prop} {M : gM} {pc : Nat} {lv : List (Nat × Value)} {rest : List Value} (hw : gX y0 cc nL ret hh kf G Qv E w) (hy : y0.cls = RX7) {c : Nat} {q : Option Nat} (d : decode cc pc = .ok (.getfield 90, 3)) (hk : gk M c = 7) (hq : gR M c 9 = q) (kk : w M (pc + 3) lv (va_rf (q.map (gA G)) :: rest)) : w M pc lv (.ref (gA G c) :: rest) := by
  obtain ⟨cls9, nm9, ds9⟩ := y0
  subst hy
  subst hq
  exact g_getC (C := RX7) (T := TX7) (N := 58) (ci := 6) hw in_X7 rfl 9 (by decide) (Or.inl q1165) rfl d hk kk
def fX7_isWord_b43  (M : gM) (Q : Int32 → gM → Prop) : Prop :=
  Q 0 M
theorem wX7_isWord_b43 {kf : Nat} {G : gG} {w : gM → Nat → List (Nat × Value) → List Value → Prop} {Q : Int32 → gM → Prop} (hw : gX yX7_isWord cX7_isWord 2 (Option.some FieldType.boolean) [] kf G (gQi Q) gE0 w) (hkf : 1 ≤ kf)   {M : gM}  (h : fX7_isWord_b43 M Q) : w M 43 [] [] := by
  unfold fX7_isWord_b43 at h
  refine g_iconst (v := 0) hw dX7_isWord_43 (by decide) ?_
  exact g_iret hw dX7_isWord_44 (by decide +kernel) ⟨_, rfl, h⟩
def fX7_isWord (p1 : Int32) (M : gM) (Q : Int32 → gM → Prop) : Prop :=
  gk M 268 = 7 ∧ (if (gI M 268 8) = 0 then gdr (gR M 268 4) (fun a3 => gk M a3 = 40 ∧ vp_in (gI M 268 7) (gl M a3) ∧ (if (gI M a3 ((gI M 268 7).toNatClampNeg)) = 1 then gdr (gR M 268 6) (fun a8 => gk M a8 = 41 ∧ vp_in (gI M 268 7) (gl M a8) ∧ gdr (gR M 268 9) (fun a12 => gk M a12 = 41 ∧ vp_in p1 (gl M a12) ∧ (if (lg_cmp (gL M a8 ((gI M 268 7).toNatClampNeg)) (gL M a12 p1.toNatClampNeg)) = 0 then Q 1 M else fX7_isWord_b43 M Q))) else fX7_isWord_b43 M Q)) else fX7_isWord_b43 M Q)
theorem mX7_isWord {kf : Nat} (hkf : 1 ≤ kf) (G : gG) (p1 : Int32) (M : gM) (Q : Int32 → gM → Prop) (h : fX7_isWord p1 M Q) : gMet yX7_isWord cX7_isWord 2 (Option.some FieldType.boolean) kf G M [.ref (gA G 268), .int p1] (gQi Q) gE0 := by
  refine g_intro (lv := [(0, .ref (gA G 268)), (1, .int p1)]) (by decide) rfl rfl (fun w hw => ?_)
  unfold fX7_isWord at h
  refine g_aload_n hw 0 dX7_isWord_0 rfl ?_
  obtain ⟨hk1, h⟩ := h
  refine gfX7_237 hw rfl dX7_isWord_1 hk1 ?_
  refine g_if_ne (tgt := 43) hw dX7_isWord_4 (by decide) (fun hb2 => ?_) (fun hb2 => ?_)
  · have h := gF h hb2
    refine g_sub hw (lv2 := []) [] rfl ?_
    exact wX7_isWord_b43 hw hkf h
  · have h := gT h hb2
    refine g_aload_n hw 0 dX7_isWord_7 rfl ?_
    obtain ⟨a3, e4, h⟩ := h
    refine gfX7_24 (q := some a3) hw rfl dX7_isWord_8 hk1 e4 ?_
    refine g_aload_n hw 0 dX7_isWord_11 rfl ?_
    refine gfX7_234 hw rfl dX7_isWord_12 hk1 ?_
    obtain ⟨hk5, h⟩ := h
    obtain ⟨hi6, h⟩ := h
    refine g_iald (n := (gI M 268 7).toNatClampNeg) hw dX7_isWord_15 hk5 hi6 rfl ?_
    refine g_iconst (v := 1) hw dX7_isWord_16 (by decide) ?_
    refine g_icmp_ne (tgt := 43) hw dX7_isWord_17 (by decide) (fun hb7 => ?_) (fun hb7 => ?_)
    · have h := gF h hb7
      refine g_sub hw (lv2 := []) [] rfl ?_
      exact wX7_isWord_b43 hw hkf h
    · have h := gT h hb7
      refine g_aload_n hw 0 dX7_isWord_20 rfl ?_
      obtain ⟨a8, e9, h⟩ := h
      refine gfX7_30 (q := some a8) hw rfl dX7_isWord_21 hk1 e9 ?_
      refine g_aload_n hw 0 dX7_isWord_24 rfl ?_
      refine gfX7_234 hw rfl dX7_isWord_25 hk1 ?_
      obtain ⟨hk10, h⟩ := h
      obtain ⟨hi11, h⟩ := h
      refine g_lald (n := (gI M 268 7).toNatClampNeg) hw dX7_isWord_28 hk10 hi11 rfl ?_
      refine g_aload_n hw 0 dX7_isWord_29 rfl ?_
      obtain ⟨a12, e13, h⟩ := h
      refine gfX7_90 (q := some a12) hw rfl dX7_isWord_30 hk1 e13 ?_
      refine g_iload_n hw 1 dX7_isWord_33 rfl ?_
      obtain ⟨hk14, h⟩ := h
      obtain ⟨hi15, h⟩ := h
      refine g_lald (n := p1.toNatClampNeg) hw dX7_isWord_34 hk14 hi15 rfl ?_
      refine g_lcmp hw dX7_isWord_35 ?_
      refine g_if_ne (tgt := 43) hw dX7_isWord_36 (by decide) (fun hb16 => ?_) (fun hb16 => ?_)
      · have h := gF h hb16
        refine g_sub hw (lv2 := []) [] rfl ?_
        exact wX7_isWord_b43 hw hkf h
      · have h := gT h hb16
        refine g_iconst (v := 1) hw dX7_isWord_39 (by decide) ?_
        refine g_goto (tgt := 44) hw dX7_isWord_40 (by decide) ?_
        exact g_iret hw dX7_isWord_44 (by decide +kernel) ⟨_, rfl, h⟩
def fX7_wrong (p1 : Int32) (M : gM) (Q : gM → Prop) : Prop :=
  gk M 268 = 7 ∧ (if (gI M 268 8) = 0 then gdr (gR M 268 5) (fun a3 => gk M a3 = 40 ∧ vp_in (gI M 268 7) (gl M a3) ∧ Q (gsI M 268 8 (p1 + (16 * (gI M a3 ((gI M 268 7).toNatClampNeg)))))) else Q M)
theorem mX7_wrong {kf : Nat} (hkf : 1 ≤ kf) (G : gG) (p1 : Int32) (M : gM) (Q : gM → Prop) (h : fX7_wrong p1 M Q) : gMet yX7_wrong cX7_wrong 2 (Option.none : Option FieldType) kf G M [.ref (gA G 268), .int p1] (gQv Q) gE0 := by
  refine g_intro (lv := [(0, .ref (gA G 268)), (1, .int p1)]) (by decide) rfl rfl (fun w hw => ?_)
  unfold fX7_wrong at h
  refine g_aload_n hw 0 dX7_wrong_0 rfl ?_
  obtain ⟨hk1, h⟩ := h
  refine gfX7_237 hw rfl dX7_wrong_1 hk1 ?_
  refine g_if_ne (tgt := 25) hw dX7_wrong_4 (by decide) (fun hb2 => ?_) (fun hb2 => ?_)
  · have h := gF h hb2
    exact g_vret hw dX7_wrong_25 ⟨rfl, h⟩
  · have h := gT h hb2
    refine g_aload_n hw 0 dX7_wrong_7 rfl ?_
    refine g_iload_n hw 1 dX7_wrong_8 rfl ?_
    refine g_bipush (v := 16) hw dX7_wrong_9 (by decide) ?_
    refine g_aload_n hw 0 dX7_wrong_11 rfl ?_
    obtain ⟨a3, e4, h⟩ := h
    refine gfX7_27 (q := some a3) hw rfl dX7_wrong_12 hk1 e4 ?_
    refine g_aload_n hw 0 dX7_wrong_15 rfl ?_
    refine gfX7_234 hw rfl dX7_wrong_16 hk1 ?_
    obtain ⟨hk5, h⟩ := h
    obtain ⟨hi6, h⟩ := h
    refine g_iald (n := (gI M 268 7).toNatClampNeg) hw dX7_wrong_19 hk5 hi6 rfl ?_
    refine g_imul hw dX7_wrong_20 ?_
    refine g_iadd hw dX7_wrong_21 ?_
    refine pfX7_237 hw rfl dX7_wrong_22 hk1 ?_
    exact g_vret hw dX7_wrong_25 ⟨rfl, h⟩
theorem sX7_247 {y0 : MethodName} {cc : ByteArray} {nL : Nat} {ret : Option FieldType} {hh : List (Nat × Nat × Nat × Nat)} {kf : Nat} {G : gG} {Qv : Option Value → gM → Prop} {E : String → Nat → gM → Prop} {w : gM → Nat → List (Nat × Value) → List Value → Prop} {M : gM} {pc : Nat} {lv : List (Nat × Value)} {rest : List Value} (hw : gX y0 cc nL ret hh kf G Qv E w) (hy : y0.cls = RX7) {p1 : Int32} {Q : Int32 → gM → Prop} (d : decode cc pc = .ok (.invokevirtual 247, 3)) (hrest : Nat.ble ((rest.map Value.category).sum) 8 = true) (hk : 1 + 1 ≤ kf) (hkd : gk M 268 = 7) (h : fX7_isWord p1 M Q) (kk : ∀ r M1, Q r M1 → w M1 (pc + 3) lv (.int r :: rest)) : w M pc lv (.int p1 :: .ref (gA G 268) :: rest) := by
  obtain ⟨cls9, nm9, ds9⟩ := y0
  subst hy
  exact g_callV (r := (RX7, TX7, 58)) (ci := 6) hw [.int p1] (nA := 1) rfl d q1500 q1502 qs59 q104 q1503 (by decide +kernel) rfl rfl hrest rfl (by omega : kf - 1 + 1 ≤ kf) hkd (mX7_isWord (kf := kf - 1) (by omega) G p1 M Q h) (fun _ _ _ q => q.elim) (fun v M1 h => by obtain ⟨r, rfl, h⟩ := h; exact kk r M1 h)
def fX7_hasWord (p1 : Int32) (M : gM) (Q : Int32 → gM → Prop) : Prop :=
  gk M 268 = 7 ∧ fX7_isWord p1 M (fun r3 M2 => gk M2 268 = 7 ∧ (if r3 = 0 then (r3 = 0 ∨ r3 = 1) ∧ Q r3 (gsI M2 268 7 ((gI M2 268 7) + 0)) else (r3 = 0 ∨ r3 = 1) ∧ Q r3 (gsI M2 268 7 ((gI M2 268 7) + 1))))
theorem mX7_hasWord {kf : Nat} (hkf : 2 ≤ kf) (G : gG) (p1 : Int32) (M : gM) (Q : Int32 → gM → Prop) (h : fX7_hasWord p1 M Q) : gMet yX7_hasWord cX7_hasWord 3 (Option.some FieldType.boolean) kf G M [.ref (gA G 268), .int p1] (gQi Q) gE0 := by
  refine g_intro (lv := [(0, .ref (gA G 268)), (1, .int p1)]) (by decide) rfl rfl (fun w hw => ?_)
  unfold fX7_hasWord at h
  refine g_aload_n hw 0 dX7_hasWord_0 rfl ?_
  refine g_iload_n hw 1 dX7_hasWord_1 rfl ?_
  obtain ⟨hk1, h⟩ := h
  refine sX7_247 hw rfl dX7_hasWord_2 rfl (gK2 hkf) hk1 h (fun r3 M2 h => ?_)
  refine g_istore_n hw (lv2 := [(0, .ref (gA G 268)), (2, .int r3)]) [1, 0] dX7_hasWord_5 rfl rfl ?_
  refine g_aload_n hw 0 dX7_hasWord_6 rfl ?_
  refine g_dup hw dX7_hasWord_7 rfl ?_
  obtain ⟨hk4, h⟩ := h
  refine gfX7_234 hw rfl dX7_hasWord_8 hk4 ?_
  refine g_iload_n hw 1 dX7_hasWord_11 rfl ?_
  refine g_if_eq (tgt := 19) hw dX7_hasWord_12 (by decide) (fun hb5 => ?_) (fun hb5 => ?_)
  · have h := gT h hb5
    refine g_iconst (v := 0) hw dX7_hasWord_19 (by decide) ?_
    refine g_iadd hw dX7_hasWord_20 ?_
    refine pfX7_234 hw rfl dX7_hasWord_21 hk4 ?_
    refine g_iload_n hw 1 dX7_hasWord_24 rfl ?_
    obtain ⟨hc6, h⟩ := h
    exact g_iret hw dX7_hasWord_25 (gBool hc6) ⟨_, rfl, h⟩
  · have h := gF h hb5
    refine g_iconst (v := 1) hw dX7_hasWord_15 (by decide) ?_
    refine g_goto (tgt := 20) hw dX7_hasWord_16 (by decide) ?_
    refine g_iadd hw dX7_hasWord_20 ?_
    refine pfX7_234 hw rfl dX7_hasWord_21 hk4 ?_
    refine g_iload_n hw 1 dX7_hasWord_24 rfl ?_
    obtain ⟨hc7, h⟩ := h
    exact g_iret hw dX7_hasWord_25 (gBool hc7) ⟨_, rfl, h⟩
theorem sX7_250 {y0 : MethodName} {cc : ByteArray} {nL : Nat} {ret : Option FieldType} {hh : List (Nat × Nat × Nat × Nat)} {kf : Nat} {G : gG} {Qv : Option Value → gM → Prop} {E : String → Nat → gM → Prop} {w : gM → Nat → List (Nat × Value) → List Value → Prop} {M : gM} {pc : Nat} {lv : List (Nat × Value)} {rest : List Value} (hw : gX y0 cc nL ret hh kf G Qv E w) (hy : y0.cls = RX7) {p1 : Int32} {Q : Int32 → gM → Prop} (d : decode cc pc = .ok (.invokevirtual 250, 3)) (hrest : Nat.ble ((rest.map Value.category).sum) 8 = true) (hk : 2 + 1 ≤ kf) (hkd : gk M 268 = 7) (h : fX7_hasWord p1 M Q) (kk : ∀ r M1, Q r M1 → w M1 (pc + 3) lv (.int r :: rest)) : w M pc lv (.int p1 :: .ref (gA G 268) :: rest) := by
  obtain ⟨cls9, nm9, ds9⟩ := y0
  subst hy
  exact g_callV (r := (RX7, TX7, 58)) (ci := 6) hw [.int p1] (nA := 1) rfl d q1512 q1514 qs62 q104 q1515 (by decide +kernel) rfl rfl hrest rfl (by omega : kf - 1 + 1 ≤ kf) hkd (mX7_hasWord (kf := kf - 1) (by omega) G p1 M Q h) (fun _ _ _ q => q.elim) (fun v M1 h => by obtain ⟨r, rfl, h⟩ := h; exact kk r M1 h)
theorem sX7_243 {y0 : MethodName} {cc : ByteArray} {nL : Nat} {ret : Option FieldType} {hh : List (Nat × Nat × Nat × Nat)} {kf : Nat} {G : gG} {Qv : Option Value → gM → Prop} {E : String → Nat → gM → Prop} {w : gM → Nat → List (Nat × Value) → List Value → Prop} {M : gM} {pc : Nat} {lv : List (Nat × Value)} {rest : List Value} (hw : gX y0 cc nL ret hh kf G Qv E w) (hy : y0.cls = RX7) {p1 : Int32} {Q : gM → Prop} (d : decode cc pc = .ok (.invokevirtual 243, 3)) (hrest : Nat.ble ((rest.map Value.category).sum) 8 = true) (hk : 1 + 1 ≤ kf) (hkd : gk M 268 = 7) (h : fX7_wrong p1 M Q) (kk : ∀ M1, Q M1 → w M1 (pc + 3) lv rest) : w M pc lv (.int p1 :: .ref (gA G 268) :: rest) := by
  obtain ⟨cls9, nm9, ds9⟩ := y0
  subst hy
  exact g_callV (r := (RX7, TX7, 58)) (ci := 6) hw [.int p1] (nA := 1) rfl d q1504 q1506 qs60 q104 q1507 (by decide +kernel) rfl rfl hrest rfl (by omega : kf - 1 + 1 ≤ kf) hkd (mX7_wrong (kf := kf - 1) (by omega) G p1 M Q h) (fun _ _ _ q => q.elim) (fun v M1 h => by obtain ⟨rfl, h⟩ := h; exact kk M1 h)
def fX7_takeWord (p1 : Int32) (M : gM) (Q : gM → Prop) : Prop :=
  gk M 268 = 7 ∧ fX7_hasWord p1 M (fun r3 M2 => (if r3 = 0 then gk M2 268 = 7 ∧ fX7_wrong 1 M2 (fun M6 => Q M6) else Q M2))
theorem mX7_takeWord {kf : Nat} (hkf : 3 ≤ kf) (G : gG) (p1 : Int32) (M : gM) (Q : gM → Prop) (h : fX7_takeWord p1 M Q) : gMet yX7_takeWord cX7_takeWord 2 (Option.none : Option FieldType) kf G M [.ref (gA G 268), .int p1] (gQv Q) gE0 := by
  refine g_intro (lv := [(0, .ref (gA G 268)), (1, .int p1)]) (by decide) rfl rfl (fun w hw => ?_)
  unfold fX7_takeWord at h
  refine g_aload_n hw 0 dX7_takeWord_0 rfl ?_
  refine g_iload_n hw 1 dX7_takeWord_1 rfl ?_
  obtain ⟨hk1, h⟩ := h
  refine sX7_250 hw rfl dX7_takeWord_2 rfl (gK2 hkf) hk1 h (fun r3 M2 h => ?_)
  refine g_if_ne (tgt := 13) hw dX7_takeWord_5 (by decide) (fun hb4 => ?_) (fun hb4 => ?_)
  · have h := gF h hb4
    exact g_vret hw dX7_takeWord_13 ⟨rfl, h⟩
  · have h := gT h hb4
    refine g_aload_n hw 0 dX7_takeWord_8 rfl ?_
    refine g_iconst (v := 1) hw dX7_takeWord_9 (by decide) ?_
    obtain ⟨hk5, h⟩ := h
    refine sX7_243 hw rfl dX7_takeWord_10 rfl (gK2 hkf) hk5 h (fun M6 h => ?_)
    exact g_vret hw dX7_takeWord_13 ⟨rfl, h⟩
def fX7_isSign_b39  (M : gM) (Q : Int32 → gM → Prop) : Prop :=
  Q 0 M
theorem wX7_isSign_b39 {kf : Nat} {G : gG} {w : gM → Nat → List (Nat × Value) → List Value → Prop} {Q : Int32 → gM → Prop} (hw : gX yX7_isSign cX7_isSign 2 (Option.some FieldType.boolean) [] kf G (gQi Q) gE0 w) (hkf : 1 ≤ kf)   {M : gM}  (h : fX7_isSign_b39 M Q) : w M 39 [] [] := by
  unfold fX7_isSign_b39 at h
  refine g_iconst (v := 0) hw dX7_isSign_39 (by decide) ?_
  exact g_iret hw dX7_isSign_40 (by decide +kernel) ⟨_, rfl, h⟩
def fX7_isSign (p1 : Int32) (M : gM) (Q : Int32 → gM → Prop) : Prop :=
  gk M 268 = 7 ∧ (if (gI M 268 8) = 0 then gdr (gR M 268 4) (fun a3 => gk M a3 = 40 ∧ vp_in (gI M 268 7) (gl M a3) ∧ (if (gI M a3 ((gI M 268 7).toNatClampNeg)) = 3 then gdr (gR M 268 6) (fun a8 => gk M a8 = 41 ∧ vp_in (gI M 268 7) (gl M a8) ∧ (if (lg_cmp (gL M a8 ((gI M 268 7).toNatClampNeg)) p1.toInt64) = 0 then Q 1 M else fX7_isSign_b39 M Q)) else fX7_isSign_b39 M Q)) else fX7_isSign_b39 M Q)
theorem mX7_isSign {kf : Nat} (hkf : 1 ≤ kf) (G : gG) (p1 : Int32) (M : gM) (Q : Int32 → gM → Prop) (h : fX7_isSign p1 M Q) : gMet yX7_isSign cX7_isSign 2 (Option.some FieldType.boolean) kf G M [.ref (gA G 268), .int p1] (gQi Q) gE0 := by
  refine g_intro (lv := [(0, .ref (gA G 268)), (1, .int p1)]) (by decide) rfl rfl (fun w hw => ?_)
  unfold fX7_isSign at h
  refine g_aload_n hw 0 dX7_isSign_0 rfl ?_
  obtain ⟨hk1, h⟩ := h
  refine gfX7_237 hw rfl dX7_isSign_1 hk1 ?_
  refine g_if_ne (tgt := 39) hw dX7_isSign_4 (by decide) (fun hb2 => ?_) (fun hb2 => ?_)
  · have h := gF h hb2
    refine g_sub hw (lv2 := []) [] rfl ?_
    exact wX7_isSign_b39 hw hkf h
  · have h := gT h hb2
    refine g_aload_n hw 0 dX7_isSign_7 rfl ?_
    obtain ⟨a3, e4, h⟩ := h
    refine gfX7_24 (q := some a3) hw rfl dX7_isSign_8 hk1 e4 ?_
    refine g_aload_n hw 0 dX7_isSign_11 rfl ?_
    refine gfX7_234 hw rfl dX7_isSign_12 hk1 ?_
    obtain ⟨hk5, h⟩ := h
    obtain ⟨hi6, h⟩ := h
    refine g_iald (n := (gI M 268 7).toNatClampNeg) hw dX7_isSign_15 hk5 hi6 rfl ?_
    refine g_iconst (v := 3) hw dX7_isSign_16 (by decide) ?_
    refine g_icmp_ne (tgt := 39) hw dX7_isSign_17 (by decide) (fun hb7 => ?_) (fun hb7 => ?_)
    · have h := gF h hb7
      refine g_sub hw (lv2 := []) [] rfl ?_
      exact wX7_isSign_b39 hw hkf h
    · have h := gT h hb7
      refine g_aload_n hw 0 dX7_isSign_20 rfl ?_
      obtain ⟨a8, e9, h⟩ := h
      refine gfX7_30 (q := some a8) hw rfl dX7_isSign_21 hk1 e9 ?_
      refine g_aload_n hw 0 dX7_isSign_24 rfl ?_
      refine gfX7_234 hw rfl dX7_isSign_25 hk1 ?_
      obtain ⟨hk10, h⟩ := h
      obtain ⟨hi11, h⟩ := h
      refine g_lald (n := (gI M 268 7).toNatClampNeg) hw dX7_isSign_28 hk10 hi11 rfl ?_
      refine g_iload_n hw 1 dX7_isSign_29 rfl ?_
      refine g_i2l hw dX7_isSign_30 ?_
      refine g_lcmp hw dX7_isSign_31 ?_
      refine g_if_ne (tgt := 39) hw dX7_isSign_32 (by decide) (fun hb12 => ?_) (fun hb12 => ?_)
      · have h := gF h hb12
        refine g_sub hw (lv2 := []) [] rfl ?_
        exact wX7_isSign_b39 hw hkf h
      · have h := gT h hb12
        refine g_iconst (v := 1) hw dX7_isSign_35 (by decide) ?_
        refine g_goto (tgt := 40) hw dX7_isSign_36 (by decide) ?_
        exact g_iret hw dX7_isSign_40 (by decide +kernel) ⟨_, rfl, h⟩
theorem sX7_240 {y0 : MethodName} {cc : ByteArray} {nL : Nat} {ret : Option FieldType} {hh : List (Nat × Nat × Nat × Nat)} {kf : Nat} {G : gG} {Qv : Option Value → gM → Prop} {E : String → Nat → gM → Prop} {w : gM → Nat → List (Nat × Value) → List Value → Prop} {M : gM} {pc : Nat} {lv : List (Nat × Value)} {rest : List Value} (hw : gX y0 cc nL ret hh kf G Qv E w) (hy : y0.cls = RX7) {p1 : Int32} {Q : Int32 → gM → Prop} (d : decode cc pc = .ok (.invokevirtual 240, 3)) (hrest : Nat.ble ((rest.map Value.category).sum) 8 = true) (hk : 1 + 1 ≤ kf) (hkd : gk M 268 = 7) (h : fX7_isSign p1 M Q) (kk : ∀ r M1, Q r M1 → w M1 (pc + 3) lv (.int r :: rest)) : w M pc lv (.int p1 :: .ref (gA G 268) :: rest) := by
  obtain ⟨cls9, nm9, ds9⟩ := y0
  subst hy
  exact g_callV (r := (RX7, TX7, 58)) (ci := 6) hw [.int p1] (nA := 1) rfl d q1540 q1542 qs69 q104 q1543 (by decide +kernel) rfl rfl hrest rfl (by omega : kf - 1 + 1 ≤ kf) hkd (mX7_isSign (kf := kf - 1) (by omega) G p1 M Q h) (fun _ _ _ q => q.elim) (fun v M1 h => by obtain ⟨r, rfl, h⟩ := h; exact kk r M1 h)
def fX7_hasSign (p1 : Int32) (M : gM) (Q : Int32 → gM → Prop) : Prop :=
  gk M 268 = 7 ∧ fX7_isSign p1 M (fun r3 M2 => gk M2 268 = 7 ∧ (if r3 = 0 then (r3 = 0 ∨ r3 = 1) ∧ Q r3 (gsI M2 268 7 ((gI M2 268 7) + 0)) else (r3 = 0 ∨ r3 = 1) ∧ Q r3 (gsI M2 268 7 ((gI M2 268 7) + 1))))
theorem mX7_hasSign {kf : Nat} (hkf : 2 ≤ kf) (G : gG) (p1 : Int32) (M : gM) (Q : Int32 → gM → Prop) (h : fX7_hasSign p1 M Q) : gMet yX7_hasSign cX7_hasSign 3 (Option.some FieldType.boolean) kf G M [.ref (gA G 268), .int p1] (gQi Q) gE0 := by
  refine g_intro (lv := [(0, .ref (gA G 268)), (1, .int p1)]) (by decide) rfl rfl (fun w hw => ?_)
  unfold fX7_hasSign at h
  refine g_aload_n hw 0 dX7_hasSign_0 rfl ?_
  refine g_iload_n hw 1 dX7_hasSign_1 rfl ?_
  obtain ⟨hk1, h⟩ := h
  refine sX7_240 hw rfl dX7_hasSign_2 rfl (gK2 hkf) hk1 h (fun r3 M2 h => ?_)
  refine g_istore_n hw (lv2 := [(0, .ref (gA G 268)), (2, .int r3)]) [1, 0] dX7_hasSign_5 rfl rfl ?_
  refine g_aload_n hw 0 dX7_hasSign_6 rfl ?_
  refine g_dup hw dX7_hasSign_7 rfl ?_
  obtain ⟨hk4, h⟩ := h
  refine gfX7_234 hw rfl dX7_hasSign_8 hk4 ?_
  refine g_iload_n hw 1 dX7_hasSign_11 rfl ?_
  refine g_if_eq (tgt := 19) hw dX7_hasSign_12 (by decide) (fun hb5 => ?_) (fun hb5 => ?_)
  · have h := gT h hb5
    refine g_iconst (v := 0) hw dX7_hasSign_19 (by decide) ?_
    refine g_iadd hw dX7_hasSign_20 ?_
    refine pfX7_234 hw rfl dX7_hasSign_21 hk4 ?_
    refine g_iload_n hw 1 dX7_hasSign_24 rfl ?_
    obtain ⟨hc6, h⟩ := h
    exact g_iret hw dX7_hasSign_25 (gBool hc6) ⟨_, rfl, h⟩
  · have h := gF h hb5
    refine g_iconst (v := 1) hw dX7_hasSign_15 (by decide) ?_
    refine g_goto (tgt := 20) hw dX7_hasSign_16 (by decide) ?_
    refine g_iadd hw dX7_hasSign_20 ?_
    refine pfX7_234 hw rfl dX7_hasSign_21 hk4 ?_
    refine g_iload_n hw 1 dX7_hasSign_24 rfl ?_
    obtain ⟨hc7, h⟩ := h
    exact g_iret hw dX7_hasSign_25 (gBool hc7) ⟨_, rfl, h⟩
theorem gfX7_139 {y0 : MethodName} {cc : ByteArray} {nL : Nat} {ret : Option FieldType} {hh : List (Nat × Nat × Nat × Nat)} {kf : Nat} {G : gG} {Qv : Option Value → gM → Prop} {E : String → Nat → gM → Prop} {w : gM → Nat → List (Nat × Value) → List Value → Prop} {M : gM} {pc : Nat} {lv : List (Nat × Value)} {rest : List Value} (hw : gX y0 cc nL ret hh kf G Qv E w) (hy : y0.cls = RX7) {c : Nat} {q : Option Nat} (d : decode cc pc = .ok (.getfield 139, 3)) (hk : gk M c = 7) (hq : gR M c 33 = q) (kk : w M (pc + 3) lv (va_rf (q.map (gA G)) :: rest)) : w M pc lv (.ref (gA G c) :: rest) := by
  obtain ⟨cls9, nm9, ds9⟩ := y0
  subst hy
  subst hq
  exact g_getC (C := RX7) (T := TX7) (N := 58) (ci := 6) hw in_X7 rfl 33 (by decide) (Or.inl q1189) rfl d hk kk
theorem gfX7_340 {y0 : MethodName} {cc : ByteArray} {nL : Nat} {ret : Option FieldType} {hh : List (Nat × Nat × Nat × Nat)} {kf : Nat} {G : gG} {Qv : Option Value → gM → Prop} {E : String → Nat → gM → Prop} {w : gM → Nat → List (Nat × Value) → List Value → Prop} {M : gM} {pc : Nat} {lv : List (Nat × Value)} {rest : List Value} (hw : gX y0 cc nL ret hh kf G Qv E w) (hy : y0.cls = RX7) {c : Nat} (d : decode cc pc = .ok (.getfield 340, 3)) (hk : gk M c = 7) (kk : w M (pc + 3) lv (.int (gI M c 32) :: rest)) : w M pc lv (.ref (gA G c) :: rest) := by
  obtain ⟨cls9, nm9, ds9⟩ := y0
  subst hy
  exact g_getC (C := RX7) (T := TX7) (N := 58) (ci := 6) hw in_X7 rfl 32 (by decide) (Or.inl q1188) rfl d hk kk
theorem gfX7_142 {y0 : MethodName} {cc : ByteArray} {nL : Nat} {ret : Option FieldType} {hh : List (Nat × Nat × Nat × Nat)} {kf : Nat} {G : gG} {Qv : Option Value → gM → Prop} {E : String → Nat → gM → Prop} {w : gM → Nat → List (Nat × Value) → List Value → Prop} {M : gM} {pc : Nat} {lv : List (Nat × Value)} {rest : List Value} (hw : gX y0 cc nL ret hh kf G Qv E w) (hy : y0.cls = RX7) {c : Nat} {q : Option Nat} (d : decode cc pc = .ok (.getfield 142, 3)) (hk : gk M c = 7) (hq : gR M c 34 = q) (kk : w M (pc + 3) lv (va_rf (q.map (gA G)) :: rest)) : w M pc lv (.ref (gA G c) :: rest) := by
  obtain ⟨cls9, nm9, ds9⟩ := y0
  subst hy
  subst hq
  exact g_getC (C := RX7) (T := TX7) (N := 58) (ci := 6) hw in_X7 rfl 34 (by decide) (Or.inl q1190) rfl d hk kk
theorem pfX7_340 {y0 : MethodName} {cc : ByteArray} {nL : Nat} {ret : Option FieldType} {hh : List (Nat × Nat × Nat × Nat)} {kf : Nat} {G : gG} {Qv : Option Value → gM → Prop} {E : String → Nat → gM → Prop} {w : gM → Nat → List (Nat × Value) → List Value → Prop} {M : gM} {pc : Nat} {lv : List (Nat × Value)} {rest : List Value} (hw : gX y0 cc nL ret hh kf G Qv E w) (hy : y0.cls = RX7) {c : Nat} {x : Int32} (d : decode cc pc = .ok (.putfield 340, 3)) (hk : gk M c = 7) (kk : w (gsI M c 32 x) (pc + 3) lv rest) : w M pc lv (.int x :: .ref (gA G c) :: rest) := by
  obtain ⟨cls9, nm9, ds9⟩ := y0
  subst hy
  exact g_putC (C := RX7) (T := TX7) (N := 58) (ci := 6) hw in_X7 tyX7 tyX7_ok nmX7 rfl 32 (by decide) (Or.inl ⟨q1188, Or.inl rfl⟩) rfl rfl (gOne_I M c 32 x) (by show Value.int (gI (gsI M c 32 x) c 32) = _; rw [gI_sI, if_pos ⟨rfl, rfl⟩]) d hk kk
def fX7_emit (p1 : Int32) (p2 : Int32) (M : gM) (Q : gM → Prop) : Prop :=
  gk M 268 = 7 ∧ gdr (gR M 268 33) (fun a2 => gk M a2 = 40 ∧ vp_in (4400 + (gI M 268 32)) (gl M a2) ∧ gdr (gR (gsI M a2 ((4400 + (gI M 268 32)).toNatClampNeg) p1) 268 34) (fun a6 => gk (gsI M a2 ((4400 + (gI M 268 32)).toNatClampNeg) p1) a6 = 40 ∧ vp_in (4400 + (gI (gsI M a2 ((4400 + (gI M 268 32)).toNatClampNeg) p1) 268 32)) (gl (gsI M a2 ((4400 + (gI M 268 32)).toNatClampNeg) p1) a6) ∧ Q (gsI (gsI (gsI M a2 ((4400 + (gI M 268 32)).toNatClampNeg) p1) a6 ((4400 + (gI (gsI M a2 ((4400 + (gI M 268 32)).toNatClampNeg) p1) 268 32)).toNatClampNeg) p2) 268 32 ((gI (gsI (gsI M a2 ((4400 + (gI M 268 32)).toNatClampNeg) p1) a6 ((4400 + (gI (gsI M a2 ((4400 + (gI M 268 32)).toNatClampNeg) p1) 268 32)).toNatClampNeg) p2) 268 32) + 1))))
theorem mX7_emit {kf : Nat} (hkf : 1 ≤ kf) (G : gG) (p1 : Int32) (p2 : Int32) (M : gM) (Q : gM → Prop) (h : fX7_emit p1 p2 M Q) : gMet yX7_emit cX7_emit 3 (Option.none : Option FieldType) kf G M [.ref (gA G 268), .int p1, .int p2] (gQv Q) gE0 := by
  refine g_intro (lv := [(0, .ref (gA G 268)), (1, .int p1), (2, .int p2)]) (by decide) rfl rfl (fun w hw => ?_)
  unfold fX7_emit at h
  refine g_aload_n hw 0 dX7_emit_0 rfl ?_
  obtain ⟨hk1, h⟩ := h
  obtain ⟨a2, e3, h⟩ := h
  refine gfX7_139 (q := some a2) hw rfl dX7_emit_1 hk1 e3 ?_
  refine g_sipush (v := 4400) hw dX7_emit_4 (by decide) ?_
  refine g_aload_n hw 0 dX7_emit_7 rfl ?_
  refine gfX7_340 hw rfl dX7_emit_8 hk1 ?_
  refine g_iadd hw dX7_emit_11 ?_
  refine g_iload_n hw 1 dX7_emit_12 rfl ?_
  obtain ⟨hk4, h⟩ := h
  obtain ⟨hi5, h⟩ := h
  refine g_iast (n := (4400 + (gI M 268 32)).toNatClampNeg) hw dX7_emit_13 hk4 hi5 rfl ?_
  refine g_aload_n hw 0 dX7_emit_14 rfl ?_
  obtain ⟨a6, e7, h⟩ := h
  refine gfX7_142 (q := some a6) hw rfl dX7_emit_15 hk1 e7 ?_
  refine g_sipush (v := 4400) hw dX7_emit_18 (by decide) ?_
  refine g_aload_n hw 0 dX7_emit_21 rfl ?_
  refine gfX7_340 hw rfl dX7_emit_22 hk1 ?_
  refine g_iadd hw dX7_emit_25 ?_
  refine g_iload_n hw 2 dX7_emit_26 rfl ?_
  obtain ⟨hk8, h⟩ := h
  obtain ⟨hi9, h⟩ := h
  refine g_iast (n := (4400 + (gI (gsI M a2 ((4400 + (gI M 268 32)).toNatClampNeg) p1) 268 32)).toNatClampNeg) hw dX7_emit_27 hk8 hi9 rfl ?_
  refine g_aload_n hw 0 dX7_emit_28 rfl ?_
  refine g_dup hw dX7_emit_29 rfl ?_
  refine gfX7_340 hw rfl dX7_emit_30 hk1 ?_
  refine g_iconst (v := 1) hw dX7_emit_33 (by decide) ?_
  refine g_iadd hw dX7_emit_34 ?_
  refine pfX7_340 hw rfl dX7_emit_35 hk1 ?_
  exact g_vret hw dX7_emit_38 ⟨rfl, h⟩
theorem sX7_381P {y0 : MethodName} {cc : ByteArray} {nL : Nat} {ret : Option FieldType} {hh : List (Nat × Nat × Nat × Nat)} {kf : Nat} {G : gG} {Qv : Option Value → gM → Prop} {E : String → Nat → gM → Prop} {w : gM → Nat → List (Nat × Value) → List Value → Prop} {M : gM} {pc : Nat} {lv : List (Nat × Value)} {rest : List Value} (hw : gX y0 cc nL ret hh kf G Qv E w) (hy : y0.cls = RX7) {p1 : Int32} {Q : gM → Prop} (d : decode cc pc = .ok (.invokevirtual 381, 3)) (hrest : Nat.ble ((rest.map Value.category).sum) 8 = true) {v : Nat} {P : Int32 → gM → (gM → Prop) → Prop} {j : Nat} (hk : v + (j + 1) ≤ kf) (hv : 2 ≤ v) (hP : ∀ (kf : Nat) (p1 : Int32) (M : gM) (Q : gM → Prop), v ≤ kf → P p1 M Q → gMet yX7_takePart cX7_takePart 4 (Option.none : Option FieldType) kf G M [.ref (gA G 268), .int p1] (gQv Q) gE0) (hkd : gk M 268 = 7) (h : P p1 M Q) (kk : ∀ M1, Q M1 → w M1 (pc + 3) lv rest) : w M pc lv (.int p1 :: .ref (gA G 268) :: rest) := by
  obtain ⟨cls9, nm9, ds9⟩ := y0
  subst hy
  exact g_callV (r := (RX7, TX7, 58)) (ci := 6) hw [.int p1] (nA := 1) rfl d q1532 q1534 qs67 q104 q1535 (by decide +kernel) rfl rfl hrest rfl (by omega : kf - 1 + 1 ≤ kf) hkd (hP (kf - 1) p1 M Q (by omega) h) (fun _ _ _ q => q.elim) (fun v M1 h => by obtain ⟨rfl, h⟩ := h; exact kk M1 h)
theorem sX7_375 {y0 : MethodName} {cc : ByteArray} {nL : Nat} {ret : Option FieldType} {hh : List (Nat × Nat × Nat × Nat)} {kf : Nat} {G : gG} {Qv : Option Value → gM → Prop} {E : String → Nat → gM → Prop} {w : gM → Nat → List (Nat × Value) → List Value → Prop} {M : gM} {pc : Nat} {lv : List (Nat × Value)} {rest : List Value} (hw : gX y0 cc nL ret hh kf G Qv E w) (hy : y0.cls = RX7) {p1 : Int32} {Q : Int32 → gM → Prop} (d : decode cc pc = .ok (.invokevirtual 375, 3)) (hrest : Nat.ble ((rest.map Value.category).sum) 8 = true) (hk : 2 + 1 ≤ kf) (hkd : gk M 268 = 7) (h : fX7_hasSign p1 M Q) (kk : ∀ r M1, Q r M1 → w M1 (pc + 3) lv (.int r :: rest)) : w M pc lv (.int p1 :: .ref (gA G 268) :: rest) := by
  obtain ⟨cls9, nm9, ds9⟩ := y0
  subst hy
  exact g_callV (r := (RX7, TX7, 58)) (ci := 6) hw [.int p1] (nA := 1) rfl d q1548 q1550 qs71 q104 q1551 (by decide +kernel) rfl rfl hrest rfl (by omega : kf - 1 + 1 ≤ kf) hkd (mX7_hasSign (kf := kf - 1) (by omega) G p1 M Q h) (fun _ _ _ q => q.elim) (fun v M1 h => by obtain ⟨r, rfl, h⟩ := h; exact kk r M1 h)
theorem sX7_362 {y0 : MethodName} {cc : ByteArray} {nL : Nat} {ret : Option FieldType} {hh : List (Nat × Nat × Nat × Nat)} {kf : Nat} {G : gG} {Qv : Option Value → gM → Prop} {E : String → Nat → gM → Prop} {w : gM → Nat → List (Nat × Value) → List Value → Prop} {M : gM} {pc : Nat} {lv : List (Nat × Value)} {rest : List Value} (hw : gX y0 cc nL ret hh kf G Qv E w) (hy : y0.cls = RX7) {p1 : Int32} {p2 : Int32} {Q : gM → Prop} (d : decode cc pc = .ok (.invokevirtual 362, 3)) (hrest : Nat.ble ((rest.map Value.category).sum) 8 = true) (hk : 1 + 1 ≤ kf) (hkd : gk M 268 = 7) (h : fX7_emit p1 p2 M Q) (kk : ∀ M1, Q M1 → w M1 (pc + 3) lv rest) : w M pc lv (.int p2 :: .int p1 :: .ref (gA G 268) :: rest) := by
  obtain ⟨cls9, nm9, ds9⟩ := y0
  subst hy
  exact g_callV (r := (RX7, TX7, 58)) (ci := 6) hw [.int p1, .int p2] (nA := 2) rfl d q1544 q1546 qs70 q104 q1547 (by decide +kernel) rfl rfl hrest rfl (by omega : kf - 1 + 1 ≤ kf) hkd (mX7_emit (kf := kf - 1) (by omega) G p1 p2 M Q h) (fun _ _ _ q => q.elim) (fun v M1 h => by obtain ⟨rfl, h⟩ := h; exact kk M1 h)
def fX7_products_L5s (P : Int32 → gM → (gM → Prop) → Prop) (R5 : gM → Prop) (K29_5 : gM → Prop) (l1_4 : Int32) (M : gM) (Q : gM → Prop) : Prop :=
  gk M 268 = 7 ∧ fX7_hasSign 42 M (fun r7 M6 => (if r7 = 0 then K29_5 M6 else gk M6 268 = 7 ∧ P l1_4 M6 (fun M10 => gk M10 268 = 7 ∧ fX7_emit 6 0 M10 (fun M13 => R5 M13))))
def fX7_products_L5 (P : Int32 → gM → (gM → Prop) → Prop) (K29_5 : gM → Prop) (l1_4 : Int32) (Q : gM → Prop) : Nat → gM → Prop
  | 0 => fun _ => False
  | n + 1 => fun M => fX7_products_L5s P (fX7_products_L5 P K29_5 l1_4 Q n) K29_5 l1_4 M Q
theorem wX7_products_L5s {kf : Nat} {G : gG} {w : gM → Nat → List (Nat × Value) → List Value → Prop} {Q : gM → Prop} (hw : gX yX7_products cX7_products 2 (Option.none : Option FieldType) [] kf G (gQv Q) gE0 w) {v : Nat} {P : Int32 → gM → (gM → Prop) → Prop} (hkf : v + 1 ≤ kf) (hv : 2 ≤ v) (hP : ∀ (kf : Nat) (p1 : Int32) (M : gM) (Q : gM → Prop), v ≤ kf → P p1 M Q → gMet yX7_takePart cX7_takePart 4 (Option.none : Option FieldType) kf G M [.ref (gA G 268), .int p1] (gQv Q) gE0) {R5 : gM → Prop} {K29_5 : gM → Prop} {l1_4 : Int32} {M : gM} (hR5 : ∀  (M : gM), R5 M → w M 5 [(0, .ref (gA G 268)), (1, .int l1_4)] []) (hK29_5 : ∀  (M : gM), K29_5 M → w M 29 [] []) (h : fX7_products_L5s P R5 K29_5 l1_4 M Q) : w M 5 [(0, .ref (gA G 268)), (1, .int l1_4)] [] := by
  unfold fX7_products_L5s at h
  refine g_aload_n hw 0 dX7_products_5 rfl ?_
  refine g_bipush (v := 42) hw dX7_products_6 (by decide) ?_
  obtain ⟨hk5, h⟩ := h
  refine sX7_375 hw rfl dX7_products_8 rfl (by omega) hk5 h (fun r7 M6 h => ?_)
  refine g_if_eq (tgt := 29) hw dX7_products_11 (by decide) (fun hb8 => ?_) (fun hb8 => ?_)
  · have h := gT h hb8
    refine g_sub hw (lv2 := []) [] rfl ?_
    exact hK29_5 M6 h
  · have h := gF h hb8
    refine g_aload_n hw 0 dX7_products_14 rfl ?_
    refine g_iload_n hw 1 dX7_products_15 rfl ?_
    obtain ⟨hk9, h⟩ := h
    refine sX7_381P hw rfl dX7_products_16 rfl hkf hv hP hk9 h (fun M10 h => ?_)
    refine g_aload_n hw 0 dX7_products_19 rfl ?_
    refine g_bipush (v := 6) hw dX7_products_20 (by decide) ?_
    refine g_iconst (v := 0) hw dX7_products_22 (by decide) ?_
    obtain ⟨hk12, h⟩ := h
    refine sX7_362 hw rfl dX7_products_23 rfl (by omega) hk12 h (fun M13 h => ?_)
    refine g_goto (tgt := 5) hw dX7_products_26 (by decide) ?_
    exact hR5 M13 h
theorem wX7_products_L5 {kf : Nat} {G : gG} {w : gM → Nat → List (Nat × Value) → List Value → Prop} {Q : gM → Prop} (hw : gX yX7_products cX7_products 2 (Option.none : Option FieldType) [] kf G (gQv Q) gE0 w) {v : Nat} {P : Int32 → gM → (gM → Prop) → Prop} (hkf : v + 1 ≤ kf) (hv : 2 ≤ v) (hP : ∀ (kf : Nat) (p1 : Int32) (M : gM) (Q : gM → Prop), v ≤ kf → P p1 M Q → gMet yX7_takePart cX7_takePart 4 (Option.none : Option FieldType) kf G M [.ref (gA G 268), .int p1] (gQv Q) gE0) {K29_5 : gM → Prop} {l1_4 : Int32} (hK29_5 : ∀  (M : gM), K29_5 M → w M 29 [] []) : ∀ (n : Nat)  (M : gM), fX7_products_L5 P K29_5 l1_4 Q n M → w M 5 [(0, .ref (gA G 268)), (1, .int l1_4)] [] := by
  intro n
  induction n with
  | zero => intro M h; exact h.elim
  | succ n ih => intro M h; exact wX7_products_L5s hw hkf hv hP ih hK29_5 h
def fX7_products (P : Int32 → gM → (gM → Prop) → Prop) (p1 : Int32) (M : gM) (Q : gM → Prop) : Prop :=
  gk M 268 = 7 ∧ P p1 M (fun M2 => ∃ n, fX7_products_L5 P (fun M15 => Q M15) p1 Q n M2)
theorem mX7_products {kf : Nat} (G : gG) {v : Nat} {P : Int32 → gM → (gM → Prop) → Prop} (hkf : v + 1 ≤ kf) (hv : 2 ≤ v) (hP : ∀ (kf : Nat) (p1 : Int32) (M : gM) (Q : gM → Prop), v ≤ kf → P p1 M Q → gMet yX7_takePart cX7_takePart 4 (Option.none : Option FieldType) kf G M [.ref (gA G 268), .int p1] (gQv Q) gE0) (p1 : Int32) (M : gM) (Q : gM → Prop) (h : fX7_products P p1 M Q) : gMet yX7_products cX7_products 2 (Option.none : Option FieldType) kf G M [.ref (gA G 268), .int p1] (gQv Q) gE0 := by
  refine g_intro (lv := [(0, .ref (gA G 268)), (1, .int p1)]) (by decide) rfl rfl (fun w hw => ?_)
  unfold fX7_products at h
  refine g_aload_n hw 0 dX7_products_0 rfl ?_
  refine g_iload_n hw 1 dX7_products_1 rfl ?_
  obtain ⟨hk1, h⟩ := h
  refine sX7_381P hw rfl dX7_products_2 rfl hkf hv hP hk1 h (fun M2 h => ?_)
  obtain ⟨n9, h⟩ := h
  refine wX7_products_L5 hw hkf hv hP (fun M15 h => ?_) n9 M2 h
  exact g_vret hw dX7_products_29 ⟨rfl, h⟩
theorem sX7_378P {y0 : MethodName} {cc : ByteArray} {nL : Nat} {ret : Option FieldType} {hh : List (Nat × Nat × Nat × Nat)} {kf : Nat} {G : gG} {Qv : Option Value → gM → Prop} {E : String → Nat → gM → Prop} {w : gM → Nat → List (Nat × Value) → List Value → Prop} {M : gM} {pc : Nat} {lv : List (Nat × Value)} {rest : List Value} (hw : gX y0 cc nL ret hh kf G Qv E w) (hy : y0.cls = RX7) {p1 : Int32} {Q : gM → Prop} (d : decode cc pc = .ok (.invokevirtual 378, 3)) (hrest : Nat.ble ((rest.map Value.category).sum) 8 = true) {v : Nat} {P : Int32 → gM → (gM → Prop) → Prop} {j : Nat} (hk : v + (j + 2) ≤ kf) (hv : 2 ≤ v) (hP : ∀ (kf : Nat) (p1 : Int32) (M : gM) (Q : gM → Prop), v ≤ kf → P p1 M Q → gMet yX7_takePart cX7_takePart 4 (Option.none : Option FieldType) kf G M [.ref (gA G 268), .int p1] (gQv Q) gE0) (hkd : gk M 268 = 7) (h : fX7_products P p1 M Q) (kk : ∀ M1, Q M1 → w M1 (pc + 3) lv rest) : w M pc lv (.int p1 :: .ref (gA G 268) :: rest) := by
  obtain ⟨cls9, nm9, ds9⟩ := y0
  subst hy
  exact g_callV (r := (RX7, TX7, 58)) (ci := 6) hw [.int p1] (nA := 1) rfl d q1528 q1530 qs66 q104 q1531 (by decide +kernel) rfl rfl hrest rfl (by omega : kf - 1 + 1 ≤ kf) hkd (mX7_products G (kf := kf - 1) (by omega) hv hP p1 M Q h) (fun _ _ _ q => q.elim) (fun v M1 h => by obtain ⟨rfl, h⟩ := h; exact kk M1 h)
def fX7_sums_b55 (P : Int32 → gM → (gM → Prop) → Prop) (R5 : gM → Prop) (l1_4 : Int32) (s1_16 : Int32) (M : gM) (Q : gM → Prop) : Prop :=
  gk M 268 = 7 ∧ fX7_emit s1_16 0 M (fun M18 => R5 M18)
theorem wX7_sums_b55 {kf : Nat} {G : gG} {w : gM → Nat → List (Nat × Value) → List Value → Prop} {Q : gM → Prop} (hw : gX yX7_sums cX7_sums 3 (Option.none : Option FieldType) [] kf G (gQv Q) gE0 w) {v : Nat} {P : Int32 → gM → (gM → Prop) → Prop} (hkf : v + 2 ≤ kf) (hv : 2 ≤ v) (hP : ∀ (kf : Nat) (p1 : Int32) (M : gM) (Q : gM → Prop), v ≤ kf → P p1 M Q → gMet yX7_takePart cX7_takePart 4 (Option.none : Option FieldType) kf G M [.ref (gA G 268), .int p1] (gQv Q) gE0) {R5 : gM → Prop} {l1_4 : Int32} {s1_16 : Int32} {M : gM} (hR5 : ∀  (M : gM), R5 M → w M 5 [(0, .ref (gA G 268)), (1, .int l1_4)] []) (h : fX7_sums_b55 P R5 l1_4 s1_16 M Q) : w M 55 [(0, .ref (gA G 268)), (1, .int l1_4)] [.int s1_16, .ref (gA G 268)] := by
  unfold fX7_sums_b55 at h
  refine g_iconst (v := 0) hw dX7_sums_55 (by decide) ?_
  obtain ⟨hk17, h⟩ := h
  refine sX7_362 hw rfl dX7_sums_56 rfl (by omega) hk17 h (fun M18 h => ?_)
  refine g_goto (tgt := 5) hw dX7_sums_59 (by decide) ?_
  exact hR5 M18 h
def fX7_sums_b23 (P : Int32 → gM → (gM → Prop) → Prop) (R5 : gM → Prop) (l1_4 : Int32) (M : gM) (Q : gM → Prop) : Prop :=
  gk M 268 = 7 ∧ fX7_isSign 43 M (fun r11 M10 => gk M10 268 = 7 ∧ fX7_products P l1_4 (gsI M10 268 7 ((gI M10 268 7) + 1)) (fun M13 => (if r11 = 0 then fX7_sums_b55 P R5 l1_4 5 M13 Q else fX7_sums_b55 P R5 l1_4 4 M13 Q)))
theorem wX7_sums_b23 {kf : Nat} {G : gG} {w : gM → Nat → List (Nat × Value) → List Value → Prop} {Q : gM → Prop} (hw : gX yX7_sums cX7_sums 3 (Option.none : Option FieldType) [] kf G (gQv Q) gE0 w) {v : Nat} {P : Int32 → gM → (gM → Prop) → Prop} (hkf : v + 2 ≤ kf) (hv : 2 ≤ v) (hP : ∀ (kf : Nat) (p1 : Int32) (M : gM) (Q : gM → Prop), v ≤ kf → P p1 M Q → gMet yX7_takePart cX7_takePart 4 (Option.none : Option FieldType) kf G M [.ref (gA G 268), .int p1] (gQv Q) gE0) {R5 : gM → Prop} {l1_4 : Int32} {M : gM} (hR5 : ∀  (M : gM), R5 M → w M 5 [(0, .ref (gA G 268)), (1, .int l1_4)] []) (h : fX7_sums_b23 P R5 l1_4 M Q) : w M 23 [(0, .ref (gA G 268)), (1, .int l1_4)] [] := by
  unfold fX7_sums_b23 at h
  refine g_aload_n hw 0 dX7_sums_23 rfl ?_
  refine g_bipush (v := 43) hw dX7_sums_24 (by decide) ?_
  obtain ⟨hk9, h⟩ := h
  refine sX7_240 hw rfl dX7_sums_26 rfl (by omega) hk9 h (fun r11 M10 h => ?_)
  refine g_istore_n hw (lv2 := [(0, .ref (gA G 268)), (1, .int l1_4), (2, .int r11)]) [1, 2, 0] dX7_sums_29 rfl rfl ?_
  refine g_aload_n hw 0 dX7_sums_30 rfl ?_
  refine g_dup hw dX7_sums_31 rfl ?_
  obtain ⟨hk12, h⟩ := h
  refine gfX7_234 hw rfl dX7_sums_32 hk12 ?_
  refine g_iconst (v := 1) hw dX7_sums_35 (by decide) ?_
  refine g_iadd hw dX7_sums_36 ?_
  refine pfX7_234 hw rfl dX7_sums_37 hk12 ?_
  refine g_aload_n hw 0 dX7_sums_40 rfl ?_
  refine g_iload_n hw 1 dX7_sums_41 rfl ?_
  refine sX7_378P hw rfl dX7_sums_42 rfl hkf hv hP hk12 h (fun M13 h => ?_)
  refine g_aload_n hw 0 dX7_sums_45 rfl ?_
  refine g_iload_n hw 2 dX7_sums_46 rfl ?_
  refine g_if_eq (tgt := 54) hw dX7_sums_47 (by decide) (fun hb15 => ?_) (fun hb15 => ?_)
  · have h := gT h hb15
    refine g_iconst (v := 5) hw dX7_sums_54 (by decide) ?_
    refine g_sub hw (lv2 := [(0, .ref (gA G 268)), (1, .int l1_4)]) [0, 1] rfl ?_
    exact wX7_sums_b55 hw hkf hv hP hR5 h
  · have h := gF h hb15
    refine g_iconst (v := 4) hw dX7_sums_50 (by decide) ?_
    refine g_goto (tgt := 55) hw dX7_sums_51 (by decide) ?_
    refine g_sub hw (lv2 := [(0, .ref (gA G 268)), (1, .int l1_4)]) [0, 1] rfl ?_
    exact wX7_sums_b55 hw hkf hv hP hR5 h
def fX7_sums_L5s (P : Int32 → gM → (gM → Prop) → Prop) (R5 : gM → Prop) (K62_5 : gM → Prop) (l1_4 : Int32) (M : gM) (Q : gM → Prop) : Prop :=
  gk M 268 = 7 ∧ fX7_isSign 43 M (fun r7 M6 => (if r7 = 0 then gk M6 268 = 7 ∧ fX7_isSign 45 M6 (fun r22 M21 => (if r22 = 0 then K62_5 M21 else fX7_sums_b23 P R5 l1_4 M21 Q)) else fX7_sums_b23 P R5 l1_4 M6 Q))
def fX7_sums_L5 (P : Int32 → gM → (gM → Prop) → Prop) (K62_5 : gM → Prop) (l1_4 : Int32) (Q : gM → Prop) : Nat → gM → Prop
  | 0 => fun _ => False
  | n + 1 => fun M => fX7_sums_L5s P (fX7_sums_L5 P K62_5 l1_4 Q n) K62_5 l1_4 M Q
theorem wX7_sums_L5s {kf : Nat} {G : gG} {w : gM → Nat → List (Nat × Value) → List Value → Prop} {Q : gM → Prop} (hw : gX yX7_sums cX7_sums 3 (Option.none : Option FieldType) [] kf G (gQv Q) gE0 w) {v : Nat} {P : Int32 → gM → (gM → Prop) → Prop} (hkf : v + 2 ≤ kf) (hv : 2 ≤ v) (hP : ∀ (kf : Nat) (p1 : Int32) (M : gM) (Q : gM → Prop), v ≤ kf → P p1 M Q → gMet yX7_takePart cX7_takePart 4 (Option.none : Option FieldType) kf G M [.ref (gA G 268), .int p1] (gQv Q) gE0) {R5 : gM → Prop} {K62_5 : gM → Prop} {l1_4 : Int32} {M : gM} (hR5 : ∀  (M : gM), R5 M → w M 5 [(0, .ref (gA G 268)), (1, .int l1_4)] []) (hK62_5 : ∀  (M : gM), K62_5 M → w M 62 [] []) (h : fX7_sums_L5s P R5 K62_5 l1_4 M Q) : w M 5 [(0, .ref (gA G 268)), (1, .int l1_4)] [] := by
  unfold fX7_sums_L5s at h
  refine g_aload_n hw 0 dX7_sums_5 rfl ?_
  refine g_bipush (v := 43) hw dX7_sums_6 (by decide) ?_
  obtain ⟨hk5, h⟩ := h
  refine sX7_240 hw rfl dX7_sums_8 rfl (by omega) hk5 h (fun r7 M6 h => ?_)
  refine g_if_ne (tgt := 23) hw dX7_sums_11 (by decide) (fun hb8 => ?_) (fun hb8 => ?_)
  · have h := gF h hb8
    exact wX7_sums_b23 hw hkf hv hP hR5 h
  · have h := gT h hb8
    refine g_aload_n hw 0 dX7_sums_14 rfl ?_
    refine g_bipush (v := 45) hw dX7_sums_15 (by decide) ?_
    obtain ⟨hk20, h⟩ := h
    refine sX7_240 hw rfl dX7_sums_17 rfl (by omega) hk20 h (fun r22 M21 h => ?_)
    refine g_if_eq (tgt := 62) hw dX7_sums_20 (by decide) (fun hb23 => ?_) (fun hb23 => ?_)
    · have h := gT h hb23
      refine g_sub hw (lv2 := []) [] rfl ?_
      exact hK62_5 M21 h
    · have h := gF h hb23
      exact wX7_sums_b23 hw hkf hv hP hR5 h
theorem wX7_sums_L5 {kf : Nat} {G : gG} {w : gM → Nat → List (Nat × Value) → List Value → Prop} {Q : gM → Prop} (hw : gX yX7_sums cX7_sums 3 (Option.none : Option FieldType) [] kf G (gQv Q) gE0 w) {v : Nat} {P : Int32 → gM → (gM → Prop) → Prop} (hkf : v + 2 ≤ kf) (hv : 2 ≤ v) (hP : ∀ (kf : Nat) (p1 : Int32) (M : gM) (Q : gM → Prop), v ≤ kf → P p1 M Q → gMet yX7_takePart cX7_takePart 4 (Option.none : Option FieldType) kf G M [.ref (gA G 268), .int p1] (gQv Q) gE0) {K62_5 : gM → Prop} {l1_4 : Int32} (hK62_5 : ∀  (M : gM), K62_5 M → w M 62 [] []) : ∀ (n : Nat)  (M : gM), fX7_sums_L5 P K62_5 l1_4 Q n M → w M 5 [(0, .ref (gA G 268)), (1, .int l1_4)] [] := by
  intro n
  induction n with
  | zero => intro M h; exact h.elim
  | succ n ih => intro M h; exact wX7_sums_L5s hw hkf hv hP ih hK62_5 h
def fX7_sums (P : Int32 → gM → (gM → Prop) → Prop) (p1 : Int32) (M : gM) (Q : gM → Prop) : Prop :=
  gk M 268 = 7 ∧ fX7_products P p1 M (fun M2 => ∃ n, fX7_sums_L5 P (fun M24 => Q M24) p1 Q n M2)
theorem mX7_sums {kf : Nat} (G : gG) {v : Nat} {P : Int32 → gM → (gM → Prop) → Prop} (hkf : v + 2 ≤ kf) (hv : 2 ≤ v) (hP : ∀ (kf : Nat) (p1 : Int32) (M : gM) (Q : gM → Prop), v ≤ kf → P p1 M Q → gMet yX7_takePart cX7_takePart 4 (Option.none : Option FieldType) kf G M [.ref (gA G 268), .int p1] (gQv Q) gE0) (p1 : Int32) (M : gM) (Q : gM → Prop) (h : fX7_sums P p1 M Q) : gMet yX7_sums cX7_sums 3 (Option.none : Option FieldType) kf G M [.ref (gA G 268), .int p1] (gQv Q) gE0 := by
  refine g_intro (lv := [(0, .ref (gA G 268)), (1, .int p1)]) (by decide) rfl rfl (fun w hw => ?_)
  unfold fX7_sums at h
  refine g_aload_n hw 0 dX7_sums_0 rfl ?_
  refine g_iload_n hw 1 dX7_sums_1 rfl ?_
  obtain ⟨hk1, h⟩ := h
  refine sX7_378P hw rfl dX7_sums_2 rfl hkf hv hP hk1 h (fun M2 h => ?_)
  obtain ⟨n9, h⟩ := h
  refine wX7_sums_L5 hw hkf hv hP (fun M24 h => ?_) n9 M2 h
  exact g_vret hw dX7_sums_62 ⟨rfl, h⟩
theorem sX7_372P {y0 : MethodName} {cc : ByteArray} {nL : Nat} {ret : Option FieldType} {hh : List (Nat × Nat × Nat × Nat)} {kf : Nat} {G : gG} {Qv : Option Value → gM → Prop} {E : String → Nat → gM → Prop} {w : gM → Nat → List (Nat × Value) → List Value → Prop} {M : gM} {pc : Nat} {lv : List (Nat × Value)} {rest : List Value} (hw : gX y0 cc nL ret hh kf G Qv E w) (hy : y0.cls = RX7) {p1 : Int32} {Q : gM → Prop} (d : decode cc pc = .ok (.invokevirtual 372, 3)) (hrest : Nat.ble ((rest.map Value.category).sum) 8 = true) {v : Nat} {P : Int32 → gM → (gM → Prop) → Prop} {j : Nat} (hk : v + (j + 3) ≤ kf) (hv : 2 ≤ v) (hP : ∀ (kf : Nat) (p1 : Int32) (M : gM) (Q : gM → Prop), v ≤ kf → P p1 M Q → gMet yX7_takePart cX7_takePart 4 (Option.none : Option FieldType) kf G M [.ref (gA G 268), .int p1] (gQv Q) gE0) (hkd : gk M 268 = 7) (h : fX7_sums P p1 M Q) (kk : ∀ M1, Q M1 → w M1 (pc + 3) lv rest) : w M pc lv (.int p1 :: .ref (gA G 268) :: rest) := by
  obtain ⟨cls9, nm9, ds9⟩ := y0
  subst hy
  exact g_callV (r := (RX7, TX7, 58)) (ci := 6) hw [.int p1] (nA := 1) rfl d q1524 q1526 qs65 q104 q1527 (by decide +kernel) rfl rfl hrest rfl (by omega : kf - 1 + 1 ≤ kf) hkd (mX7_sums G (kf := kf - 1) (by omega) hv hP p1 M Q h) (fun _ _ _ q => q.elim) (fun v M1 h => by obtain ⟨rfl, h⟩ := h; exact kk M1 h)
def fX7_test_b47 (P : Int32 → gM → (gM → Prop) → Prop) (s1_17 : Int32) (M : gM) (Q : gM → Prop) : Prop :=
  gk M 268 = 7 ∧ fX7_emit s1_17 0 M (fun M19 => Q M19)
theorem wX7_test_b47 {kf : Nat} {G : gG} {w : gM → Nat → List (Nat × Value) → List Value → Prop} {Q : gM → Prop} (hw : gX yX7_test cX7_test 3 (Option.none : Option FieldType) [] kf G (gQv Q) gE0 w) {v : Nat} {P : Int32 → gM → (gM → Prop) → Prop} (hkf : v + 3 ≤ kf) (hv : 2 ≤ v) (hP : ∀ (kf : Nat) (p1 : Int32) (M : gM) (Q : gM → Prop), v ≤ kf → P p1 M Q → gMet yX7_takePart cX7_takePart 4 (Option.none : Option FieldType) kf G M [.ref (gA G 268), .int p1] (gQv Q) gE0)  {s1_17 : Int32} {M : gM}  (h : fX7_test_b47 P s1_17 M Q) : w M 47 [] [.int s1_17, .ref (gA G 268)] := by
  unfold fX7_test_b47 at h
  refine g_iconst (v := 0) hw dX7_test_47 (by decide) ?_
  obtain ⟨hk18, h⟩ := h
  refine sX7_362 hw rfl dX7_test_48 rfl (by omega) hk18 h (fun M19 h => ?_)
  exact g_vret hw dX7_test_51 ⟨rfl, h⟩
def fX7_test_b30 (P : Int32 → gM → (gM → Prop) → Prop) (l1_11 : Int32) (l2_12 : Int32) (M : gM) (Q : gM → Prop) : Prop :=
  gk M 268 = 7 ∧ fX7_sums P l1_11 M (fun M14 => (if l2_12 = 0 then fX7_test_b47 P 8 M14 Q else fX7_test_b47 P 7 M14 Q))
theorem wX7_test_b30 {kf : Nat} {G : gG} {w : gM → Nat → List (Nat × Value) → List Value → Prop} {Q : gM → Prop} (hw : gX yX7_test cX7_test 3 (Option.none : Option FieldType) [] kf G (gQv Q) gE0 w) {v : Nat} {P : Int32 → gM → (gM → Prop) → Prop} (hkf : v + 3 ≤ kf) (hv : 2 ≤ v) (hP : ∀ (kf : Nat) (p1 : Int32) (M : gM) (Q : gM → Prop), v ≤ kf → P p1 M Q → gMet yX7_takePart cX7_takePart 4 (Option.none : Option FieldType) kf G M [.ref (gA G 268), .int p1] (gQv Q) gE0)  {l1_11 : Int32} {l2_12 : Int32} {M : gM}  (h : fX7_test_b30 P l1_11 l2_12 M Q) : w M 30 [(0, .ref (gA G 268)), (1, .int l1_11), (2, .int l2_12)] [] := by
  unfold fX7_test_b30 at h
  refine g_aload_n hw 0 dX7_test_30 rfl ?_
  refine g_iload_n hw 1 dX7_test_31 rfl ?_
  obtain ⟨hk13, h⟩ := h
  refine sX7_372P hw rfl dX7_test_32 rfl hkf hv hP hk13 h (fun M14 h => ?_)
  refine g_aload_n hw 0 dX7_test_35 rfl ?_
  refine g_iload_n hw 2 dX7_test_36 rfl ?_
  refine g_if_eq (tgt := 45) hw dX7_test_37 (by decide) (fun hb16 => ?_) (fun hb16 => ?_)
  · have h := gT h hb16
    refine g_bipush (v := 8) hw dX7_test_45 (by decide) ?_
    refine g_sub hw (lv2 := []) [] rfl ?_
    exact wX7_test_b47 hw hkf hv hP h
  · have h := gF h hb16
    refine g_bipush (v := 7) hw dX7_test_40 (by decide) ?_
    refine g_goto (tgt := 47) hw dX7_test_42 (by decide) ?_
    refine g_sub hw (lv2 := []) [] rfl ?_
    exact wX7_test_b47 hw hkf hv hP h
def fX7_test (P : Int32 → gM → (gM → Prop) → Prop) (p1 : Int32) (M : gM) (Q : gM → Prop) : Prop :=
  gk M 268 = 7 ∧ fX7_sums P p1 M (fun M2 => gk M2 268 = 7 ∧ fX7_isSign 60 M2 (fun r6 M5 => gk M5 268 = 7 ∧ fX7_hasSign 60 M5 (fun r9 M8 => (if r9 = 0 then gk M8 268 = 7 ∧ fX7_hasSign 61 M8 (fun r23 M22 => (if r23 = 0 then Q M22 else fX7_test_b30 P p1 r6 M22 Q)) else fX7_test_b30 P p1 r6 M8 Q))))
theorem mX7_test {kf : Nat} (G : gG) {v : Nat} {P : Int32 → gM → (gM → Prop) → Prop} (hkf : v + 3 ≤ kf) (hv : 2 ≤ v) (hP : ∀ (kf : Nat) (p1 : Int32) (M : gM) (Q : gM → Prop), v ≤ kf → P p1 M Q → gMet yX7_takePart cX7_takePart 4 (Option.none : Option FieldType) kf G M [.ref (gA G 268), .int p1] (gQv Q) gE0) (p1 : Int32) (M : gM) (Q : gM → Prop) (h : fX7_test P p1 M Q) : gMet yX7_test cX7_test 3 (Option.none : Option FieldType) kf G M [.ref (gA G 268), .int p1] (gQv Q) gE0 := by
  refine g_intro (lv := [(0, .ref (gA G 268)), (1, .int p1)]) (by decide) rfl rfl (fun w hw => ?_)
  unfold fX7_test at h
  refine g_aload_n hw 0 dX7_test_0 rfl ?_
  refine g_iload_n hw 1 dX7_test_1 rfl ?_
  obtain ⟨hk1, h⟩ := h
  refine sX7_372P hw rfl dX7_test_2 rfl hkf hv hP hk1 h (fun M2 h => ?_)
  refine g_aload_n hw 0 dX7_test_5 rfl ?_
  refine g_bipush (v := 60) hw dX7_test_6 (by decide) ?_
  obtain ⟨hk4, h⟩ := h
  refine sX7_240 hw rfl dX7_test_8 rfl (by omega) hk4 h (fun r6 M5 h => ?_)
  refine g_istore_n hw (lv2 := [(0, .ref (gA G 268)), (1, .int p1), (2, .int r6)]) [1, 2, 0] dX7_test_11 rfl rfl ?_
  refine g_aload_n hw 0 dX7_test_12 rfl ?_
  refine g_bipush (v := 60) hw dX7_test_13 (by decide) ?_
  obtain ⟨hk7, h⟩ := h
  refine sX7_375 hw rfl dX7_test_15 rfl (by omega) hk7 h (fun r9 M8 h => ?_)
  refine g_if_ne (tgt := 30) hw dX7_test_18 (by decide) (fun hb10 => ?_) (fun hb10 => ?_)
  · have h := gF h hb10
    exact wX7_test_b30 hw hkf hv hP h
  · have h := gT h hb10
    refine g_aload_n hw 0 dX7_test_21 rfl ?_
    refine g_bipush (v := 61) hw dX7_test_22 (by decide) ?_
    obtain ⟨hk21, h⟩ := h
    refine sX7_375 hw rfl dX7_test_24 rfl (by omega) hk21 h (fun r23 M22 h => ?_)
    refine g_if_eq (tgt := 51) hw dX7_test_27 (by decide) (fun hb24 => ?_) (fun hb24 => ?_)
    · have h := gT h hb24
      exact g_vret hw dX7_test_51 ⟨rfl, h⟩
    · have h := gF h hb24
      exact wX7_test_b30 hw hkf hv hP h
theorem sX7_369P {y0 : MethodName} {cc : ByteArray} {nL : Nat} {ret : Option FieldType} {hh : List (Nat × Nat × Nat × Nat)} {kf : Nat} {G : gG} {Qv : Option Value → gM → Prop} {E : String → Nat → gM → Prop} {w : gM → Nat → List (Nat × Value) → List Value → Prop} {M : gM} {pc : Nat} {lv : List (Nat × Value)} {rest : List Value} (hw : gX y0 cc nL ret hh kf G Qv E w) (hy : y0.cls = RX7) {p1 : Int32} {Q : gM → Prop} (d : decode cc pc = .ok (.invokevirtual 369, 3)) (hrest : Nat.ble ((rest.map Value.category).sum) 8 = true) {v : Nat} {P : Int32 → gM → (gM → Prop) → Prop} {j : Nat} (hk : v + (j + 4) ≤ kf) (hv : 2 ≤ v) (hP : ∀ (kf : Nat) (p1 : Int32) (M : gM) (Q : gM → Prop), v ≤ kf → P p1 M Q → gMet yX7_takePart cX7_takePart 4 (Option.none : Option FieldType) kf G M [.ref (gA G 268), .int p1] (gQv Q) gE0) (hkd : gk M 268 = 7) (h : fX7_test P p1 M Q) (kk : ∀ M1, Q M1 → w M1 (pc + 3) lv rest) : w M pc lv (.int p1 :: .ref (gA G 268) :: rest) := by
  obtain ⟨cls9, nm9, ds9⟩ := y0
  subst hy
  exact g_callV (r := (RX7, TX7, 58)) (ci := 6) hw [.int p1] (nA := 1) rfl d q1520 q1522 qs64 q104 q1523 (by decide +kernel) rfl rfl hrest rfl (by omega : kf - 1 + 1 ≤ kf) hkd (mX7_test G (kf := kf - 1) (by omega) hv hP p1 M Q h) (fun _ _ _ q => q.elim) (fun v M1 h => by obtain ⟨rfl, h⟩ := h; exact kk M1 h)
def fX7_all_b55 (P : Int32 → gM → (gM → Prop) → Prop) (R5 : gM → Prop) (l1_4 : Int32) (s1_16 : Int32) (M : gM) (Q : gM → Prop) : Prop :=
  gk M 268 = 7 ∧ fX7_emit s1_16 0 M (fun M18 => R5 M18)
theorem wX7_all_b55 {kf : Nat} {G : gG} {w : gM → Nat → List (Nat × Value) → List Value → Prop} {Q : gM → Prop} (hw : gX yX7_all cX7_all 3 (Option.none : Option FieldType) [] kf G (gQv Q) gE0 w) {v : Nat} {P : Int32 → gM → (gM → Prop) → Prop} (hkf : v + 4 ≤ kf) (hv : 2 ≤ v) (hP : ∀ (kf : Nat) (p1 : Int32) (M : gM) (Q : gM → Prop), v ≤ kf → P p1 M Q → gMet yX7_takePart cX7_takePart 4 (Option.none : Option FieldType) kf G M [.ref (gA G 268), .int p1] (gQv Q) gE0) {R5 : gM → Prop} {l1_4 : Int32} {s1_16 : Int32} {M : gM} (hR5 : ∀  (M : gM), R5 M → w M 5 [(0, .ref (gA G 268)), (1, .int l1_4)] []) (h : fX7_all_b55 P R5 l1_4 s1_16 M Q) : w M 55 [(0, .ref (gA G 268)), (1, .int l1_4)] [.int s1_16, .ref (gA G 268)] := by
  unfold fX7_all_b55 at h
  refine g_iconst (v := 0) hw dX7_all_55 (by decide) ?_
  obtain ⟨hk17, h⟩ := h
  refine sX7_362 hw rfl dX7_all_56 rfl (by omega) hk17 h (fun M18 h => ?_)
  refine g_goto (tgt := 5) hw dX7_all_59 (by decide) ?_
  exact hR5 M18 h
def fX7_all_b22 (P : Int32 → gM → (gM → Prop) → Prop) (R5 : gM → Prop) (l1_4 : Int32) (M : gM) (Q : gM → Prop) : Prop :=
  gk M 268 = 7 ∧ fX7_isWord 5 M (fun r11 M10 => gk M10 268 = 7 ∧ fX7_test P l1_4 (gsI M10 268 7 ((gI M10 268 7) + 1)) (fun M13 => (if r11 = 0 then fX7_all_b55 P R5 l1_4 10 M13 Q else fX7_all_b55 P R5 l1_4 9 M13 Q)))
theorem wX7_all_b22 {kf : Nat} {G : gG} {w : gM → Nat → List (Nat × Value) → List Value → Prop} {Q : gM → Prop} (hw : gX yX7_all cX7_all 3 (Option.none : Option FieldType) [] kf G (gQv Q) gE0 w) {v : Nat} {P : Int32 → gM → (gM → Prop) → Prop} (hkf : v + 4 ≤ kf) (hv : 2 ≤ v) (hP : ∀ (kf : Nat) (p1 : Int32) (M : gM) (Q : gM → Prop), v ≤ kf → P p1 M Q → gMet yX7_takePart cX7_takePart 4 (Option.none : Option FieldType) kf G M [.ref (gA G 268), .int p1] (gQv Q) gE0) {R5 : gM → Prop} {l1_4 : Int32} {M : gM} (hR5 : ∀  (M : gM), R5 M → w M 5 [(0, .ref (gA G 268)), (1, .int l1_4)] []) (h : fX7_all_b22 P R5 l1_4 M Q) : w M 22 [(0, .ref (gA G 268)), (1, .int l1_4)] [] := by
  unfold fX7_all_b22 at h
  refine g_aload_n hw 0 dX7_all_22 rfl ?_
  refine g_iconst (v := 5) hw dX7_all_23 (by decide) ?_
  obtain ⟨hk9, h⟩ := h
  refine sX7_247 hw rfl dX7_all_24 rfl (by omega) hk9 h (fun r11 M10 h => ?_)
  refine g_istore_n hw (lv2 := [(0, .ref (gA G 268)), (1, .int l1_4), (2, .int r11)]) [1, 2, 0] dX7_all_27 rfl rfl ?_
  refine g_aload_n hw 0 dX7_all_28 rfl ?_
  refine g_dup hw dX7_all_29 rfl ?_
  obtain ⟨hk12, h⟩ := h
  refine gfX7_234 hw rfl dX7_all_30 hk12 ?_
  refine g_iconst (v := 1) hw dX7_all_33 (by decide) ?_
  refine g_iadd hw dX7_all_34 ?_
  refine pfX7_234 hw rfl dX7_all_35 hk12 ?_
  refine g_aload_n hw 0 dX7_all_38 rfl ?_
  refine g_iload_n hw 1 dX7_all_39 rfl ?_
  refine sX7_369P hw rfl dX7_all_40 rfl hkf hv hP hk12 h (fun M13 h => ?_)
  refine g_aload_n hw 0 dX7_all_43 rfl ?_
  refine g_iload_n hw 2 dX7_all_44 rfl ?_
  refine g_if_eq (tgt := 53) hw dX7_all_45 (by decide) (fun hb15 => ?_) (fun hb15 => ?_)
  · have h := gT h hb15
    refine g_bipush (v := 10) hw dX7_all_53 (by decide) ?_
    refine g_sub hw (lv2 := [(0, .ref (gA G 268)), (1, .int l1_4)]) [0, 1] rfl ?_
    exact wX7_all_b55 hw hkf hv hP hR5 h
  · have h := gF h hb15
    refine g_bipush (v := 9) hw dX7_all_48 (by decide) ?_
    refine g_goto (tgt := 55) hw dX7_all_50 (by decide) ?_
    refine g_sub hw (lv2 := [(0, .ref (gA G 268)), (1, .int l1_4)]) [0, 1] rfl ?_
    exact wX7_all_b55 hw hkf hv hP hR5 h
def fX7_all_L5s (P : Int32 → gM → (gM → Prop) → Prop) (R5 : gM → Prop) (K62_5 : gM → Prop) (l1_4 : Int32) (M : gM) (Q : gM → Prop) : Prop :=
  gk M 268 = 7 ∧ fX7_isWord 5 M (fun r7 M6 => (if r7 = 0 then gk M6 268 = 7 ∧ fX7_isWord 6 M6 (fun r22 M21 => (if r22 = 0 then K62_5 M21 else fX7_all_b22 P R5 l1_4 M21 Q)) else fX7_all_b22 P R5 l1_4 M6 Q))
def fX7_all_L5 (P : Int32 → gM → (gM → Prop) → Prop) (K62_5 : gM → Prop) (l1_4 : Int32) (Q : gM → Prop) : Nat → gM → Prop
  | 0 => fun _ => False
  | n + 1 => fun M => fX7_all_L5s P (fX7_all_L5 P K62_5 l1_4 Q n) K62_5 l1_4 M Q
theorem wX7_all_L5s {kf : Nat} {G : gG} {w : gM → Nat → List (Nat × Value) → List Value → Prop} {Q : gM → Prop} (hw : gX yX7_all cX7_all 3 (Option.none : Option FieldType) [] kf G (gQv Q) gE0 w) {v : Nat} {P : Int32 → gM → (gM → Prop) → Prop} (hkf : v + 4 ≤ kf) (hv : 2 ≤ v) (hP : ∀ (kf : Nat) (p1 : Int32) (M : gM) (Q : gM → Prop), v ≤ kf → P p1 M Q → gMet yX7_takePart cX7_takePart 4 (Option.none : Option FieldType) kf G M [.ref (gA G 268), .int p1] (gQv Q) gE0) {R5 : gM → Prop} {K62_5 : gM → Prop} {l1_4 : Int32} {M : gM} (hR5 : ∀  (M : gM), R5 M → w M 5 [(0, .ref (gA G 268)), (1, .int l1_4)] []) (hK62_5 : ∀  (M : gM), K62_5 M → w M 62 [] []) (h : fX7_all_L5s P R5 K62_5 l1_4 M Q) : w M 5 [(0, .ref (gA G 268)), (1, .int l1_4)] [] := by
  unfold fX7_all_L5s at h
  refine g_aload_n hw 0 dX7_all_5 rfl ?_
  refine g_iconst (v := 5) hw dX7_all_6 (by decide) ?_
  obtain ⟨hk5, h⟩ := h
  refine sX7_247 hw rfl dX7_all_7 rfl (by omega) hk5 h (fun r7 M6 h => ?_)
  refine g_if_ne (tgt := 22) hw dX7_all_10 (by decide) (fun hb8 => ?_) (fun hb8 => ?_)
  · have h := gF h hb8
    exact wX7_all_b22 hw hkf hv hP hR5 h
  · have h := gT h hb8
    refine g_aload_n hw 0 dX7_all_13 rfl ?_
    refine g_bipush (v := 6) hw dX7_all_14 (by decide) ?_
    obtain ⟨hk20, h⟩ := h
    refine sX7_247 hw rfl dX7_all_16 rfl (by omega) hk20 h (fun r22 M21 h => ?_)
    refine g_if_eq (tgt := 62) hw dX7_all_19 (by decide) (fun hb23 => ?_) (fun hb23 => ?_)
    · have h := gT h hb23
      refine g_sub hw (lv2 := []) [] rfl ?_
      exact hK62_5 M21 h
    · have h := gF h hb23
      exact wX7_all_b22 hw hkf hv hP hR5 h
theorem wX7_all_L5 {kf : Nat} {G : gG} {w : gM → Nat → List (Nat × Value) → List Value → Prop} {Q : gM → Prop} (hw : gX yX7_all cX7_all 3 (Option.none : Option FieldType) [] kf G (gQv Q) gE0 w) {v : Nat} {P : Int32 → gM → (gM → Prop) → Prop} (hkf : v + 4 ≤ kf) (hv : 2 ≤ v) (hP : ∀ (kf : Nat) (p1 : Int32) (M : gM) (Q : gM → Prop), v ≤ kf → P p1 M Q → gMet yX7_takePart cX7_takePart 4 (Option.none : Option FieldType) kf G M [.ref (gA G 268), .int p1] (gQv Q) gE0) {K62_5 : gM → Prop} {l1_4 : Int32} (hK62_5 : ∀  (M : gM), K62_5 M → w M 62 [] []) : ∀ (n : Nat)  (M : gM), fX7_all_L5 P K62_5 l1_4 Q n M → w M 5 [(0, .ref (gA G 268)), (1, .int l1_4)] [] := by
  intro n
  induction n with
  | zero => intro M h; exact h.elim
  | succ n ih => intro M h; exact wX7_all_L5s hw hkf hv hP ih hK62_5 h
def fX7_all (P : Int32 → gM → (gM → Prop) → Prop) (p1 : Int32) (M : gM) (Q : gM → Prop) : Prop :=
  gk M 268 = 7 ∧ fX7_test P p1 M (fun M2 => ∃ n, fX7_all_L5 P (fun M24 => Q M24) p1 Q n M2)
theorem mX7_all {kf : Nat} (G : gG) {v : Nat} {P : Int32 → gM → (gM → Prop) → Prop} (hkf : v + 4 ≤ kf) (hv : 2 ≤ v) (hP : ∀ (kf : Nat) (p1 : Int32) (M : gM) (Q : gM → Prop), v ≤ kf → P p1 M Q → gMet yX7_takePart cX7_takePart 4 (Option.none : Option FieldType) kf G M [.ref (gA G 268), .int p1] (gQv Q) gE0) (p1 : Int32) (M : gM) (Q : gM → Prop) (h : fX7_all P p1 M Q) : gMet yX7_all cX7_all 3 (Option.none : Option FieldType) kf G M [.ref (gA G 268), .int p1] (gQv Q) gE0 := by
  refine g_intro (lv := [(0, .ref (gA G 268)), (1, .int p1)]) (by decide) rfl rfl (fun w hw => ?_)
  unfold fX7_all at h
  refine g_aload_n hw 0 dX7_all_0 rfl ?_
  refine g_iload_n hw 1 dX7_all_1 rfl ?_
  obtain ⟨hk1, h⟩ := h
  refine sX7_369P hw rfl dX7_all_2 rfl hkf hv hP hk1 h (fun M2 h => ?_)
  obtain ⟨n9, h⟩ := h
  refine wX7_all_L5 hw hkf hv hP (fun M24 h => ?_) n9 M2 h
  exact g_vret hw dX7_all_62 ⟨rfl, h⟩
