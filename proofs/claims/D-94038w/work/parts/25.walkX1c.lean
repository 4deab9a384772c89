set_option maxRecDepth 100000
theorem sX1_388 {y0 : MethodName} {cc : ByteArray} {nL : Nat} {ret : Option FieldType} {hh : List (Nat × Nat × Nat × Nat)} {kf : Nat} {G : gG} {Qv : Option Value → gM → Prop} {E : String → Nat → gM → Prop} {w : gM → Nat → List (Nat × Value) → List Value → Prop} {M : gM} {pc : Nat} {lv : List (Nat × Value)} {rest : List Value} (hw : gX y0 cc nL ret hh kf G Qv E w) (hy : y0.cls = RX1) {p1 : Int32} {p2 : Int32} {Q : Int32 → gM → Prop} (d : decode cc pc = .ok (.invokevirtual 388, 3)) (hrest : Nat.ble ((rest.map Value.category).sum) 8 = true) (hk : 5 + 1 ≤ kf) (hkd : gk M 16 = 1) (h : fX1_lays p1 p2 M Q) (kk : ∀ r M1, Q r M1 → w M1 (pc + 3) lv (.int r :: rest)) : w M pc lv (.int p2 :: .int p1 :: .ref (gA G 16) :: rest) := by
  obtain ⟨cls9, nm9, ds9⟩ := y0
  subst hy
  exact g_callV (r := (RX1, TX1, 28)) (ci := 0) hw [.int p1, .int p2] (nA := 2) rfl d q911 q913 qs35 q98 q914 (by decide +kernel) rfl rfl hrest rfl (by omega : kf - 1 + 1 ≤ kf) hkd (mX1_lays (kf := kf - 1) (by omega) G p1 p2 M Q h) (fun _ _ _ q => q.elim) (fun v M1 h => by obtain ⟨r, rfl, h⟩ := h; exact kk r M1 h)
theorem sX1_391 {y0 : MethodName} {cc : ByteArray} {nL : Nat} {ret : Option FieldType} {hh : List (Nat × Nat × Nat × Nat)} {kf : Nat} {G : gG} {Qv : Option Value → gM → Prop} {E : String → Nat → gM → Prop} {w : gM → Nat → List (Nat × Value) → List Value → Prop} {M : gM} {pc : Nat} {lv : List (Nat × Value)} {rest : List Value} (hw : gX y0 cc nL ret hh kf G Qv E w) (hy : y0.cls = RX1) {p1 : Int32} {Q : gM → Prop} (d : decode cc pc = .ok (.invokevirtual 391, 3)) (hrest : Nat.ble ((rest.map Value.category).sum) 8 = true) (hk : 2 + 1 ≤ kf) (hkd : gk M 16 = 1) (h : fX1_draws p1 M Q) (kk : ∀ M1, Q M1 → w M1 (pc + 3) lv rest) : w M pc lv (.int p1 :: .ref (gA G 16) :: rest) := by
  obtain ⟨cls9, nm9, ds9⟩ := y0
  subst hy
  exact g_callV (r := (RX1, TX1, 28)) (ci := 0) hw [.int p1] (nA := 1) rfl d q919 q921 qs37 q98 q922 (by decide +kernel) rfl rfl hrest rfl (by omega : kf - 1 + 1 ≤ kf) hkd (mX1_draws (kf := kf - 1) (by omega) G p1 M Q h) (fun _ _ _ q => q.elim) (fun v M1 h => by obtain ⟨rfl, h⟩ := h; exact kk M1 h)
def fX1_lots (p1 : Int32) (p2 : Int32) (p3 : Int32) (p4 : Int32) (M : gM) (Q : Int64 → gM → Prop) : Prop :=
  fX1_in p3 1 9 M (fun r2 M1 => (if r2 = 0 then Q (-1) M1 else fX1_in p4 0 1 M1 (fun r5 M4 => (if r5 = 0 then Q (-1) M4 else gk M4 16 = 1 ∧ fX1_lays p1 p2 M4 (fun r9 M8 => (if r9 = 0 then Q (-1) M8 else gk M8 16 = 1 ∧ fJ0_min (gI M8 16 25) (gI M8 16 26) M8 (fun r13 M12 => (if p3 ≤ r13 then gk M12 16 = 1 ∧ fX1_draws p3 M12 (fun M16 => gk M16 16 = 1 ∧ fX1_lowest (gL M16 16 13) ((gI M16 16 15).toInt64) p4 M16 (fun r20 M19 => Q r20 M19)) else Q (-1) M12))))))))
theorem mX1_lots {kf : Nat} (hkf : 103 ≤ kf) (G : gG) (p1 : Int32) (p2 : Int32) (p3 : Int32) (p4 : Int32) (M : gM) (Q : Int64 → gM → Prop) (h : fX1_lots p1 p2 p3 p4 M Q) : gMet yX1_lots cX1_lots 5 (Option.some FieldType.long) kf G M [.ref (gA G 16), .int p1, .int p2, .int p3, .int p4] (gQl Q) gE0 := by
  refine g_intro (lv := [(0, .ref (gA G 16)), (1, .int p1), (2, .int p2), (3, .int p3), (4, .int p4)]) (by decide) rfl rfl (fun w hw => ?_)
  unfold fX1_lots at h
  refine g_iload_n hw 3 dX1_lots_0 rfl ?_
  refine g_iconst (v := 1) hw dX1_lots_1 (by decide) ?_
  refine g_bipush (v := 9) hw dX1_lots_2 (by decide) ?_
  refine sX1_112 hw rfl dX1_lots_4 rfl (gK2 hkf) h (fun r2 M1 h => ?_)
  refine g_if_eq (tgt := 44) hw dX1_lots_7 (by decide) (fun hb3 => ?_) (fun hb3 => ?_)
  · have h := gT h hb3
    refine g_ldc2 hw dX1_lots_44 q466 ?_
    exact g_lret hw dX1_lots_47 ⟨_, rfl, h⟩
  · have h := gF h hb3
    refine g_iload hw 4 dX1_lots_10 rfl ?_
    refine g_iconst (v := 0) hw dX1_lots_12 (by decide) ?_
    refine g_iconst (v := 1) hw dX1_lots_13 (by decide) ?_
    refine sX1_112 hw rfl dX1_lots_14 rfl (gK2 hkf) h (fun r5 M4 h => ?_)
    refine g_if_eq (tgt := 44) hw dX1_lots_17 (by decide) (fun hb6 => ?_) (fun hb6 => ?_)
    · have h := gT h hb6
      refine g_ldc2 hw dX1_lots_44 q466 ?_
      exact g_lret hw dX1_lots_47 ⟨_, rfl, h⟩
    · have h := gF h hb6
      refine g_aload_n hw 0 dX1_lots_20 rfl ?_
      refine g_iload_n hw 1 dX1_lots_21 rfl ?_
      refine g_iload_n hw 2 dX1_lots_22 rfl ?_
      obtain ⟨hk7, h⟩ := h
      refine sX1_388 hw rfl dX1_lots_23 rfl (gK2 hkf) hk7 h (fun r9 M8 h => ?_)
      refine g_if_eq (tgt := 44) hw dX1_lots_26 (by decide) (fun hb10 => ?_) (fun hb10 => ?_)
      · have h := gT h hb10
        refine g_ldc2 hw dX1_lots_44 q466 ?_
        exact g_lret hw dX1_lots_47 ⟨_, rfl, h⟩
      · have h := gF h hb10
        refine g_iload_n hw 3 dX1_lots_29 rfl ?_
        refine g_aload_n hw 0 dX1_lots_30 rfl ?_
        obtain ⟨hk11, h⟩ := h
        refine gfX1_372 hw rfl dX1_lots_31 hk11 ?_
        refine g_aload_n hw 0 dX1_lots_34 rfl ?_
        refine gfX1_375 hw rfl dX1_lots_35 hk11 ?_
        refine sX1_299 hw rfl dX1_lots_38 rfl (gK2 hkf) h (fun r13 M12 h => ?_)
        refine g_icmp_le (tgt := 48) hw dX1_lots_41 (by decide) (fun hb14 => ?_) (fun hb14 => ?_)
        · have h := gT h hb14
          refine g_aload_n hw 0 dX1_lots_48 rfl ?_
          refine g_iload_n hw 3 dX1_lots_49 rfl ?_
          obtain ⟨hk15, h⟩ := h
          refine sX1_391 hw rfl dX1_lots_50 rfl (gK2 hkf) hk15 h (fun M16 h => ?_)
          refine g_aload_n hw 0 dX1_lots_53 rfl ?_
          obtain ⟨hk18, h⟩ := h
          refine gfX1_243 hw rfl dX1_lots_54 hk18 ?_
          refine g_aload_n hw 0 dX1_lots_57 rfl ?_
          refine gfX1_237 hw rfl dX1_lots_58 hk18 ?_
          refine g_i2l hw dX1_lots_61 ?_
          refine g_iload hw 4 dX1_lots_62 rfl ?_
          refine sX1_218 hw rfl dX1_lots_64 rfl (gK2 hkf) h (fun r20 M19 h => ?_)
          exact g_lret hw dX1_lots_67 ⟨_, rfl, h⟩
        · have h := gF h hb14
          refine g_ldc2 hw dX1_lots_44 q466 ?_
          exact g_lret hw dX1_lots_47 ⟨_, rfl, h⟩
def fX1_needed_L24s (R24 : Int32 → gM → Prop) (K66_24 : Int32 → gM → Prop) (K75_24 : gM → Prop) (l3_8 : Int32) (l4_9 : Int32) (M : gM) (Q : Int32 → gM → Prop) : Prop :=
  gk M 16 = 1 ∧ fJ0_min (gI M 16 25) (gI M 16 26) M (fun r12 M11 => (if r12 < l4_9 then K75_24 M11 else gk M11 16 = 1 ∧ fX1_draws l4_9 M11 (fun M15 => gk M15 16 = 1 ∧ (if (lg_cmp (100 * (gL M15 16 13)) (l3_8.toInt64 * ((gI M15 16 15).toInt64))) < 0 then R24 (l4_9 + 1) M15 else K66_24 l4_9 M15))))
def fX1_needed_L24 (K66_24 : Int32 → gM → Prop) (K75_24 : gM → Prop) (l3_8 : Int32) (Q : Int32 → gM → Prop) : Nat → Int32 → gM → Prop
  | 0 => fun _ _ => False
  | n + 1 => fun l4_9 M => fX1_needed_L24s (fX1_needed_L24 K66_24 K75_24 l3_8 Q n) K66_24 K75_24 l3_8 l4_9 M Q
theorem wX1_needed_L24s {kf : Nat} {G : gG} {w : gM → Nat → List (Nat × Value) → List Value → Prop} {Q : Int32 → gM → Prop} (hw : gX yX1_needed cX1_needed 5 (Option.some FieldType.int) [] kf G (gQi Q) gE0 w) (hkf : 6 ≤ kf) {R24 : Int32 → gM → Prop} {K66_24 : Int32 → gM → Prop} {K75_24 : gM → Prop} {l3_8 : Int32} {l4_9 : Int32} {M : gM} (hR24 : ∀ (v0 : Int32) (M : gM), R24 v0 M → w M 24 [(0, .ref (gA G 16)), (3, .int l3_8), (4, .int v0)] []) (hK66_24 : ∀ (v0 : Int32) (M : gM), K66_24 v0 M → w M 66 [(4, .int v0)] []) (hK75_24 : ∀  (M : gM), K75_24 M → w M 75 [] []) (h : fX1_needed_L24s R24 K66_24 K75_24 l3_8 l4_9 M Q) : w M 24 [(0, .ref (gA G 16)), (3, .int l3_8), (4, .int l4_9)] [] := by
  unfold fX1_needed_L24s at h
  refine g_iload hw 2 dX1_needed_24 rfl ?_
  refine g_aload_n hw 0 dX1_needed_26 rfl ?_
  obtain ⟨hk10, h⟩ := h
  refine gfX1_372 hw rfl dX1_needed_27 hk10 ?_
  refine g_aload_n hw 0 dX1_needed_30 rfl ?_
  refine gfX1_375 hw rfl dX1_needed_31 hk10 ?_
  refine sX1_299 hw rfl dX1_needed_34 rfl (gK2 hkf) h (fun r12 M11 h => ?_)
  refine g_icmp_gt (tgt := 75) hw dX1_needed_37 (by decide) (fun hb13 => ?_) (fun hb13 => ?_)
  · have h := gT h hb13
    refine g_sub hw (lv2 := []) [] rfl ?_
    exact hK75_24 M11 h
  · have h := gF h hb13
    refine g_aload_n hw 0 dX1_needed_40 rfl ?_
    refine g_iload hw 2 dX1_needed_41 rfl ?_
    obtain ⟨hk14, h⟩ := h
    refine sX1_391 hw rfl dX1_needed_43 rfl (gK2 hkf) hk14 h (fun M15 h => ?_)
    refine g_ldc2 hw dX1_needed_46 q939 ?_
    refine g_aload_n hw 0 dX1_needed_49 rfl ?_
    obtain ⟨hk17, h⟩ := h
    refine gfX1_243 hw rfl dX1_needed_50 hk17 ?_
    refine g_lmul hw dX1_needed_53 ?_
    refine g_iload_n hw 1 dX1_needed_54 rfl ?_
    refine g_i2l hw dX1_needed_55 ?_
    refine g_aload_n hw 0 dX1_needed_56 rfl ?_
    refine gfX1_237 hw rfl dX1_needed_57 hk17 ?_
    refine g_i2l hw dX1_needed_60 ?_
    refine g_lmul hw dX1_needed_61 ?_
    refine g_lcmp hw dX1_needed_62 ?_
    refine g_if_lt (tgt := 69) hw dX1_needed_63 (by decide) (fun hb18 => ?_) (fun hb18 => ?_)
    · have h := gT h hb18
      refine g_iinc hw (lv2 := [(0, .ref (gA G 16)), (3, .int l3_8), (4, .int (l4_9 + 1))]) 2 [1, 2, 0] dX1_needed_69 rfl (by decide) rfl rfl ?_
      refine g_goto (tgt := 24) hw dX1_needed_72 (by decide) ?_
      exact hR24 (l4_9 + 1) M15 h
    · have h := gF h hb18
      refine g_sub hw (lv2 := [(4, .int l4_9)]) [2] rfl ?_
      exact hK66_24 l4_9 M15 h
theorem wX1_needed_L24 {kf : Nat} {G : gG} {w : gM → Nat → List (Nat × Value) → List Value → Prop} {Q : Int32 → gM → Prop} (hw : gX yX1_needed cX1_needed 5 (Option.some FieldType.int) [] kf G (gQi Q) gE0 w) (hkf : 6 ≤ kf) {K66_24 : Int32 → gM → Prop} {K75_24 : gM → Prop} {l3_8 : Int32} (hK66_24 : ∀ (v0 : Int32) (M : gM), K66_24 v0 M → w M 66 [(4, .int v0)] []) (hK75_24 : ∀  (M : gM), K75_24 M → w M 75 [] []) : ∀ (n : Nat) (l4_9 : Int32) (M : gM), fX1_needed_L24 K66_24 K75_24 l3_8 Q n l4_9 M → w M 24 [(0, .ref (gA G 16)), (3, .int l3_8), (4, .int l4_9)] [] := by
  intro n
  induction n with
  | zero => intro l4_9 M h; exact h.elim
  | succ n ih => intro l4_9 M h; exact wX1_needed_L24s hw hkf ih hK66_24 hK75_24 h
def fX1_needed (p1 : Int32) (p2 : Int32) (p3 : Int32) (M : gM) (Q : Int32 → gM → Prop) : Prop :=
  fX1_in p3 1 100 M (fun r2 M1 => (if r2 = 0 then Q (-1) M1 else gk M1 16 = 1 ∧ fX1_lays p1 p2 M1 (fun r6 M5 => (if r6 = 0 then Q (-1) M5 else ∃ n, fX1_needed_L24 (fun l4_19 M20 => Q l4_19 M20) (fun M21 => Q (-1) M21) p3 Q n 1 M5))))
theorem mX1_needed {kf : Nat} (hkf : 6 ≤ kf) (G : gG) (p1 : Int32) (p2 : Int32) (p3 : Int32) (M : gM) (Q : Int32 → gM → Prop) (h : fX1_needed p1 p2 p3 M Q) : gMet yX1_needed cX1_needed 5 (Option.some FieldType.int) kf G M [.ref (gA G 16), .int p1, .int p2, .int p3] (gQi Q) gE0 := by
  refine g_intro (lv := [(0, .ref (gA G 16)), (1, .int p1), (2, .int p2), (3, .int p3)]) (by decide) rfl rfl (fun w hw => ?_)
  unfold fX1_needed at h
  refine g_iload_n hw 3 dX1_needed_0 rfl ?_
  refine g_iconst (v := 1) hw dX1_needed_1 (by decide) ?_
  refine g_bipush (v := 100) hw dX1_needed_2 (by decide) ?_
  refine sX1_112 hw rfl dX1_needed_4 rfl (gK2 hkf) h (fun r2 M1 h => ?_)
  refine g_if_eq (tgt := 19) hw dX1_needed_7 (by decide) (fun hb3 => ?_) (fun hb3 => ?_)
  · have h := gT h hb3
    refine g_iconst (v := (-1)) hw dX1_needed_19 (by decide) ?_
    exact g_iret hw dX1_needed_20 rfl ⟨_, rfl, h⟩
  · have h := gF h hb3
    refine g_aload_n hw 0 dX1_needed_10 rfl ?_
    refine g_iload_n hw 1 dX1_needed_11 rfl ?_
    refine g_iload_n hw 2 dX1_needed_12 rfl ?_
    obtain ⟨hk4, h⟩ := h
    refine sX1_388 hw rfl dX1_needed_13 rfl (gK2 hkf) hk4 h (fun r6 M5 h => ?_)
    refine g_if_ne (tgt := 21) hw dX1_needed_16 (by decide) (fun hb7 => ?_) (fun hb7 => ?_)
    · have h := gF h hb7
      refine g_iconst (v := 1) hw dX1_needed_21 (by decide) ?_
      refine g_istore hw (lv2 := [(0, .ref (gA G 16)), (3, .int p3), (4, .int 1)]) [1, 4, 0] dX1_needed_22 rfl rfl ?_
      obtain ⟨n9, h⟩ := h
      refine wX1_needed_L24 hw hkf (fun l4_19 M20 h => ?_) (fun M21 h => ?_) n9 1 M5 h
      · refine g_iload hw 0 dX1_needed_66 rfl ?_
        exact g_iret hw dX1_needed_68 rfl ⟨_, rfl, h⟩
      · refine g_iconst (v := (-1)) hw dX1_needed_75 (by decide) ?_
        exact g_iret hw dX1_needed_76 rfl ⟨_, rfl, h⟩
    · have h := gT h hb7
      refine g_iconst (v := (-1)) hw dX1_needed_19 (by decide) ?_
      exact g_iret hw dX1_needed_20 rfl ⟨_, rfl, h⟩
def fX1_slips_b126 (R29 : Int32 → Int32 → Int32 → Int32 → gM → Prop) (l1_7 : Int32) (l2_8 : Int32) (l3_23 : Int32) (l4_24 : Int32) (l5_25 : Int32) (l6_26 : Int32) (M : gM) (Q : Int32 → gM → Prop) : Prop :=
  R29 l3_23 l4_24 l5_25 (l6_26 + 1) M
theorem wX1_slips_b126 {kf : Nat} {G : gG} {w : gM → Nat → List (Nat × Value) → List Value → Prop} {Q : Int32 → gM → Prop} (hw : gX yX1_slips cX1_slips 9 (Option.some FieldType.int) [] kf G (gQi Q) gE0 w) (hkf : 3 ≤ kf) {R29 : Int32 → Int32 → Int32 → Int32 → gM → Prop} {l1_7 : Int32} {l2_8 : Int32} {l3_23 : Int32} {l4_24 : Int32} {l5_25 : Int32} {l6_26 : Int32} {M : gM} (hR29 : ∀ (v0 : Int32) (v1 : Int32) (v2 : Int32) (v3 : Int32) (M : gM), R29 v0 v1 v2 v3 M → w M 29 [(0, .ref (gA G 16)), (1, .int l1_7), (2, .int l2_8), (3, .int v0), (4, .int v1), (5, .int v2), (6, .int v3)] []) (h : fX1_slips_b126 R29 l1_7 l2_8 l3_23 l4_24 l5_25 l6_26 M Q) : w M 126 [(0, .ref (gA G 16)), (1, .int l1_7), (2, .int l2_8), (3, .int l3_23), (4, .int l4_24), (5, .int l5_25), (6, .int l6_26)] [] := by
  unfold fX1_slips_b126 at h
  refine g_iinc hw (lv2 := [(0, .ref (gA G 16)), (1, .int l1_7), (2, .int l2_8), (3, .int l3_23), (4, .int l4_24), (5, .int l5_25), (6, .int (l6_26 + 1))]) 6 [1, 2, 3, 4, 5, 6, 0] dX1_slips_126 rfl (by decide) rfl rfl ?_
  refine g_goto (tgt := 29) hw dX1_slips_129 (by decide) ?_
  exact hR29 l3_23 l4_24 l5_25 (l6_26 + 1) M h
def fX1_slips_b117 (R29 : Int32 → Int32 → Int32 → Int32 → gM → Prop) (l1_7 : Int32) (l2_8 : Int32) (l3_53 : Int32) (l4_54 : Int32) (l5_55 : Int32) (l6_56 : Int32) (l8_57 : Int32) (M : gM) (Q : Int32 → gM → Prop) : Prop :=
  fJ0_max l5_55 l8_57 M (fun r59 M58 => fX1_slips_b126 R29 l1_7 l2_8 l3_53 l4_54 r59 l6_56 M58 Q)
theorem wX1_slips_b117 {kf : Nat} {G : gG} {w : gM → Nat → List (Nat × Value) → List Value → Prop} {Q : Int32 → gM → Prop} (hw : gX yX1_slips cX1_slips 9 (Option.some FieldType.int) [] kf G (gQi Q) gE0 w) (hkf : 3 ≤ kf) {R29 : Int32 → Int32 → Int32 → Int32 → gM → Prop} {l1_7 : Int32} {l2_8 : Int32} {l3_53 : Int32} {l4_54 : Int32} {l5_55 : Int32} {l6_56 : Int32} {l8_57 : Int32} {M : gM} (hR29 : ∀ (v0 : Int32) (v1 : Int32) (v2 : Int32) (v3 : Int32) (M : gM), R29 v0 v1 v2 v3 M → w M 29 [(0, .ref (gA G 16)), (1, .int l1_7), (2, .int l2_8), (3, .int v0), (4, .int v1), (5, .int v2), (6, .int v3)] []) (h : fX1_slips_b117 R29 l1_7 l2_8 l3_53 l4_54 l5_55 l6_56 l8_57 M Q) : w M 117 [(0, .ref (gA G 16)), (1, .int l1_7), (2, .int l2_8), (3, .int l3_53), (4, .int l4_54), (5, .int l5_55), (6, .int l6_56), (8, .int l8_57)] [] := by
  unfold fX1_slips_b117 at h
  refine g_iload hw 5 dX1_slips_117 rfl ?_
  refine g_iload hw 7 dX1_slips_119 rfl ?_
  refine sX1_145 hw rfl dX1_slips_121 rfl (gK2 hkf) h (fun r59 M58 h => ?_)
  refine g_istore hw (lv2 := [(0, .ref (gA G 16)), (1, .int l1_7), (2, .int l2_8), (3, .int l3_53), (4, .int l4_54), (5, .int r59), (6, .int l6_56)]) [1, 2, 3, 4, 5, 0, 6] dX1_slips_124 rfl rfl ?_
  exact wX1_slips_b126 hw hkf hR29 h
def fX1_slips_L29s (R29 : Int32 → Int32 → Int32 → Int32 → gM → Prop) (K132_29 : Int32 → Int32 → Int32 → gM → Prop) (l1_7 : Int32) (l2_8 : Int32) (l3_9 : Int32) (l4_10 : Int32) (l5_11 : Int32) (l6_12 : Int32) (M : gM) (Q : Int32 → gM → Prop) : Prop :=
  (if 24 ≤ l6_12 then K132_29 l3_9 l4_10 l5_11 M else gk M 16 = 1 ∧ gdr (gR M 16 0) (fun a15 => gk M a15 = 44 ∧ vp_in l6_12 (gl M a15) ∧ gdr (gR M a15 l6_12.toNatClampNeg) (fun a19 => gk M a19 = 4 ∧ (if (gI M a19 3) = 0 then fX1_slips_b126 R29 l1_7 l2_8 l3_9 l4_10 l5_11 l6_12 M Q else fX4_isSilent a19 l1_7 M (fun r28 M27 => (if r28 = 0 then gk M27 a19 = 4 ∧ gdr (gR M27 a19 7) (fun a31 => gk M27 a31 = 40 ∧ vp_in l1_7 (gl M27 a31) ∧ (if 0 ≤ (gI M27 a31 l1_7.toNatClampNeg) then gdr (gR M27 a19 7) (fun a36 => gk M27 a36 = 40 ∧ vp_in l1_7 (gl M27 a36) ∧ gdr (gR M27 a19 8) (fun a40 => gk M27 a40 = 40 ∧ vp_in l1_7 (gl M27 a40) ∧ gk M27 16 = 1 ∧ fX1_handsOf_2 (gI M27 a36 l1_7.toNatClampNeg) (gI M27 a40 l1_7.toNatClampNeg) M27 (fun r46 M45 => gk M45 16 = 1 ∧ fX1_handsOf a19 l1_7 M45 (fun r49 M48 => fJ0_abs_2 (r46 - r49) M48 (fun r51 M50 => (if r51 ≤ 0 then fX1_slips_b117 R29 l1_7 l2_8 (l3_9 + 1) l4_10 l5_11 l6_12 r51 M50 Q else fX1_slips_b117 R29 l1_7 l2_8 (l3_9 + 1) (l4_10 + 1) l5_11 l6_12 r51 M50 Q)))))) else fX1_slips_b126 R29 l1_7 l2_8 l3_9 l4_10 l5_11 l6_12 M27 Q)) else fX1_slips_b126 R29 l1_7 l2_8 l3_9 l4_10 l5_11 l6_12 M27 Q))))))
def fX1_slips_L29 (K132_29 : Int32 → Int32 → Int32 → gM → Prop) (l1_7 : Int32) (l2_8 : Int32) (Q : Int32 → gM → Prop) : Nat → Int32 → Int32 → Int32 → Int32 → gM → Prop
  | 0 => fun _ _ _ _ _ => False
  | n + 1 => fun l3_9 l4_10 l5_11 l6_12 M => fX1_slips_L29s (fX1_slips_L29 K132_29 l1_7 l2_8 Q n) K132_29 l1_7 l2_8 l3_9 l4_10 l5_11 l6_12 M Q
theorem wX1_slips_L29s {kf : Nat} {G : gG} {w : gM → Nat → List (Nat × Value) → List Value → Prop} {Q : Int32 → gM → Prop} (hw : gX yX1_slips cX1_slips 9 (Option.some FieldType.int) [] kf G (gQi Q) gE0 w) (hkf : 3 ≤ kf) {R29 : Int32 → Int32 → Int32 → Int32 → gM → Prop} {K132_29 : Int32 → Int32 → Int32 → gM → Prop} {l1_7 : Int32} {l2_8 : Int32} {l3_9 : Int32} {l4_10 : Int32} {l5_11 : Int32} {l6_12 : Int32} {M : gM} (hR29 : ∀ (v0 : Int32) (v1 : Int32) (v2 : Int32) (v3 : Int32) (M : gM), R29 v0 v1 v2 v3 M → w M 29 [(0, .ref (gA G 16)), (1, .int l1_7), (2, .int l2_8), (3, .int v0), (4, .int v1), (5, .int v2), (6, .int v3)] []) (hK132_29 : ∀ (v0 : Int32) (v1 : Int32) (v2 : Int32) (M : gM), K132_29 v0 v1 v2 M → w M 132 [(2, .int l2_8), (3, .int v0), (4, .int v1), (5, .int v2)] []) (h : fX1_slips_L29s R29 K132_29 l1_7 l2_8 l3_9 l4_10 l5_11 l6_12 M Q) : w M 29 [(0, .ref (gA G 16)), (1, .int l1_7), (2, .int l2_8), (3, .int l3_9), (4, .int l4_10), (5, .int l5_11), (6, .int l6_12)] [] := by
  unfold fX1_slips_L29s at h
  refine g_iload hw 6 dX1_slips_29 rfl ?_
  refine g_bipush (v := 24) hw dX1_slips_31 (by decide) ?_
  refine g_icmp_ge (tgt := 132) hw dX1_slips_33 (by decide) (fun hb13 => ?_) (fun hb13 => ?_)
  · have h := gT h hb13
    refine g_sub hw (lv2 := [(2, .int l2_8), (3, .int l3_9), (4, .int l4_10), (5, .int l5_11)]) [2, 3, 4, 5] rfl ?_
    exact hK132_29 l3_9 l4_10 l5_11 M h
  · have h := gF h hb13
    refine g_aload_n hw 0 dX1_slips_36 rfl ?_
    obtain ⟨hk14, h⟩ := h
    obtain ⟨a15, e16, h⟩ := h
    refine gfX1_21 (q := some a15) hw rfl dX1_slips_37 hk14 e16 ?_
    refine g_iload hw 6 dX1_slips_40 rfl ?_
    obtain ⟨hk17, h⟩ := h
    obtain ⟨hi18, h⟩ := h
    obtain ⟨a19, e20, h⟩ := h
    refine g_aaldS (n := l6_12.toNatClampNeg) hw 4 dX1_slips_42 ⟨rfl, rfl⟩ hk17 hi18 rfl e20 ?_
    refine g_astore hw (lv2 := [(0, .ref (gA G 16)), (1, .int l1_7), (2, .int l2_8), (3, .int l3_9), (4, .int l4_10), (5, .int l5_11), (6, .int l6_12), (7, .ref (gA G a19))]) [1, 2, 3, 4, 5, 6, 7, 0] dX1_slips_43 rfl rfl ?_
    refine g_aload hw 7 dX1_slips_45 rfl ?_
    obtain ⟨hk21, h⟩ := h
    refine gfX1_116 hw rfl dX1_slips_47 hk21 ?_
    refine g_if_eq (tgt := 126) hw dX1_slips_50 (by decide) (fun hb22 => ?_) (fun hb22 => ?_)
    · have h := gT h hb22
      refine g_sub hw (lv2 := [(0, .ref (gA G 16)), (1, .int l1_7), (2, .int l2_8), (3, .int l3_9), (4, .int l4_10), (5, .int l5_11), (6, .int l6_12)]) [0, 1, 2, 3, 4, 5, 6] rfl ?_
      exact wX1_slips_b126 hw hkf hR29 h
    · have h := gF h hb22
      refine g_aload hw 7 dX1_slips_53 rfl ?_
      refine g_iload_n hw 1 dX1_slips_55 rfl ?_
      refine sX1_158 hw rfl dX1_slips_56 rfl (gK2 hkf) hk21 h (fun r28 M27 h => ?_)
      refine g_if_ne (tgt := 126) hw dX1_slips_59 (by decide) (fun hb29 => ?_) (fun hb29 => ?_)
      · have h := gF h hb29
        refine g_sub hw (lv2 := [(0, .ref (gA G 16)), (1, .int l1_7), (2, .int l2_8), (3, .int l3_9), (4, .int l4_10), (5, .int l5_11), (6, .int l6_12)]) [0, 1, 2, 3, 4, 5, 6] rfl ?_
        exact wX1_slips_b126 hw hkf hR29 h
      · have h := gT h hb29
        refine g_aload hw 7 dX1_slips_62 rfl ?_
        obtain ⟨hk30, h⟩ := h
        obtain ⟨a31, e32, h⟩ := h
        refine gfX1_149 (q := some a31) hw rfl dX1_slips_64 hk30 e32 ?_
        refine g_iload_n hw 1 dX1_slips_67 rfl ?_
        obtain ⟨hk33, h⟩ := h
        obtain ⟨hi34, h⟩ := h
        refine g_iald (n := l1_7.toNatClampNeg) hw dX1_slips_68 hk33 hi34 rfl ?_
        refine g_if_ge (tgt := 75) hw dX1_slips_69 (by decide) (fun hb35 => ?_) (fun hb35 => ?_)
        · have h := gT h hb35
          refine g_aload_n hw 0 dX1_slips_75 rfl ?_
          refine g_aload hw 7 dX1_slips_76 rfl ?_
          obtain ⟨a36, e37, h⟩ := h
          refine gfX1_149 (q := some a36) hw rfl dX1_slips_78 hk30 e37 ?_
          refine g_iload_n hw 1 dX1_slips_81 rfl ?_
          obtain ⟨hk38, h⟩ := h
          obtain ⟨hi39, h⟩ := h
          refine g_iald (n := l1_7.toNatClampNeg) hw dX1_slips_82 hk38 hi39 rfl ?_
          refine g_aload hw 7 dX1_slips_83 rfl ?_
          obtain ⟨a40, e41, h⟩ := h
          refine gfX1_152 (q := some a40) hw rfl dX1_slips_85 hk30 e41 ?_
          refine g_iload_n hw 1 dX1_slips_88 rfl ?_
          obtain ⟨hk42, h⟩ := h
          obtain ⟨hi43, h⟩ := h
          refine g_iald (n := l1_7.toNatClampNeg) hw dX1_slips_89 hk42 hi43 rfl ?_
          obtain ⟨hk44, h⟩ := h
          refine sX1_155 hw rfl dX1_slips_90 rfl (gK2 hkf) hk44 h (fun r46 M45 h => ?_)
          refine g_aload_n hw 0 dX1_slips_93 rfl ?_
          refine g_aload hw 7 dX1_slips_94 rfl ?_
          refine g_iload_n hw 1 dX1_slips_96 rfl ?_
          obtain ⟨hk47, h⟩ := h
          refine sX1_161 hw rfl dX1_slips_97 rfl (gK2 hkf) hk47 h (fun r49 M48 h => ?_)
          refine g_isub hw dX1_slips_100 ?_
          refine sX1_309 hw rfl dX1_slips_101 rfl (gK2 hkf) h (fun r51 M50 h => ?_)
          refine g_istore hw (lv2 := [(0, .ref (gA G 16)), (1, .int l1_7), (2, .int l2_8), (3, .int l3_9), (4, .int l4_10), (5, .int l5_11), (6, .int l6_12), (8, .int r51)]) [1, 2, 3, 4, 5, 6, 7, 0] dX1_slips_104 rfl rfl ?_
          refine g_iinc hw (lv2 := [(0, .ref (gA G 16)), (1, .int l1_7), (2, .int l2_8), (3, .int (l3_9 + 1)), (4, .int l4_10), (5, .int l5_11), (6, .int l6_12), (8, .int r51)]) 3 [1, 2, 3, 0, 4, 5, 6, 7] dX1_slips_106 rfl (by decide) rfl rfl ?_
          refine g_iload hw 7 dX1_slips_109 rfl ?_
          refine g_if_le (tgt := 117) hw dX1_slips_111 (by decide) (fun hb52 => ?_) (fun hb52 => ?_)
          · have h := gT h hb52
            exact wX1_slips_b117 hw hkf hR29 h
          · have h := gF h hb52
            refine g_iinc hw (lv2 := [(0, .ref (gA G 16)), (1, .int l1_7), (2, .int l2_8), (3, .int (l3_9 + 1)), (4, .int (l4_10 + 1)), (5, .int l5_11), (6, .int l6_12), (8, .int r51)]) 4 [1, 2, 3, 4, 0, 5, 6, 7] dX1_slips_114 rfl (by decide) rfl rfl ?_
            exact wX1_slips_b117 hw hkf hR29 h
        · have h := gF h hb35
          refine g_goto (tgt := 126) hw dX1_slips_72 (by decide) ?_
          refine g_sub hw (lv2 := [(0, .ref (gA G 16)), (1, .int l1_7), (2, .int l2_8), (3, .int l3_9), (4, .int l4_10), (5, .int l5_11), (6, .int l6_12)]) [0, 1, 2, 3, 4, 5, 6] rfl ?_
          exact wX1_slips_b126 hw hkf hR29 h
theorem wX1_slips_L29 {kf : Nat} {G : gG} {w : gM → Nat → List (Nat × Value) → List Value → Prop} {Q : Int32 → gM → Prop} (hw : gX yX1_slips cX1_slips 9 (Option.some FieldType.int) [] kf G (gQi Q) gE0 w) (hkf : 3 ≤ kf) {K132_29 : Int32 → Int32 → Int32 → gM → Prop} {l1_7 : Int32} {l2_8 : Int32} (hK132_29 : ∀ (v0 : Int32) (v1 : Int32) (v2 : Int32) (M : gM), K132_29 v0 v1 v2 M → w M 132 [(2, .int l2_8), (3, .int v0), (4, .int v1), (5, .int v2)] []) : ∀ (n : Nat) (l3_9 : Int32) (l4_10 : Int32) (l5_11 : Int32) (l6_12 : Int32) (M : gM), fX1_slips_L29 K132_29 l1_7 l2_8 Q n l3_9 l4_10 l5_11 l6_12 M → w M 29 [(0, .ref (gA G 16)), (1, .int l1_7), (2, .int l2_8), (3, .int l3_9), (4, .int l4_10), (5, .int l5_11), (6, .int l6_12)] [] := by
  intro n
  induction n with
  | zero => intro l3_9 l4_10 l5_11 l6_12 M h; exact h.elim
  | succ n ih => intro l3_9 l4_10 l5_11 l6_12 M h; exact wX1_slips_L29s hw hkf ih hK132_29 h
def fX1_slips (p1 : Int32) (p2 : Int32) (M : gM) (Q : Int32 → gM → Prop) : Prop :=
  fX1_isMonth p1 M (fun r2 M1 => (if r2 = 0 then Q (-1) M1 else fX1_in p2 0 2 M1 (fun r5 M4 => (if r5 = 0 then Q (-1) M4 else ∃ n, fX1_slips_L29 (fun l3_60 l4_61 l5_62 M63 => (if p2 = 0 then Q l3_60 M63 else (if p2 = 1 then Q l4_61 M63 else Q l5_62 M63))) p1 p2 Q n 0 0 0 0 M4))))
theorem mX1_slips {kf : Nat} (hkf : 3 ≤ kf) (G : gG) (p1 : Int32) (p2 : Int32) (M : gM) (Q : Int32 → gM → Prop) (h : fX1_slips p1 p2 M Q) : gMet yX1_slips cX1_slips 9 (Option.some FieldType.int) kf G M [.ref (gA G 16), .int p1, .int p2] (gQi Q) gE0 := by
  refine g_intro (lv := [(0, .ref (gA G 16)), (1, .int p1), (2, .int p2)]) (by decide) rfl rfl (fun w hw => ?_)
  unfold fX1_slips at h
  refine g_iload_n hw 1 dX1_slips_0 rfl ?_
  refine sX1_120 hw rfl dX1_slips_1 rfl (gK2 hkf) h (fun r2 M1 h => ?_)
  refine g_if_eq (tgt := 16) hw dX1_slips_4 (by decide) (fun hb3 => ?_) (fun hb3 => ?_)
  · have h := gT h hb3
    refine g_iconst (v := (-1)) hw dX1_slips_16 (by decide) ?_
    exact g_iret hw dX1_slips_17 rfl ⟨_, rfl, h⟩
  · have h := gF h hb3
    refine g_iload_n hw 2 dX1_slips_7 rfl ?_
    refine g_iconst (v := 0) hw dX1_slips_8 (by decide) ?_
    refine g_iconst (v := 2) hw dX1_slips_9 (by decide) ?_
    refine sX1_112 hw rfl dX1_slips_10 rfl (gK2 hkf) h (fun r5 M4 h => ?_)
    refine g_if_ne (tgt := 18) hw dX1_slips_13 (by decide) (fun hb6 => ?_) (fun hb6 => ?_)
    · have h := gF h hb6
      refine g_iconst (v := 0) hw dX1_slips_18 (by decide) ?_
      refine g_istore_n hw (lv2 := [(0, .ref (gA G 16)), (1, .int p1), (2, .int p2), (3, .int 0)]) [1, 2, 3, 0] dX1_slips_19 rfl rfl ?_
      refine g_iconst (v := 0) hw dX1_slips_20 (by decide) ?_
      refine g_istore hw (lv2 := [(0, .ref (gA G 16)), (1, .int p1), (2, .int p2), (3, .int 0), (4, .int 0)]) [1, 2, 3, 4, 0] dX1_slips_21 rfl rfl ?_
      refine g_iconst (v := 0) hw dX1_slips_23 (by decide) ?_
      refine g_istore hw (lv2 := [(0, .ref (gA G 16)), (1, .int p1), (2, .int p2), (3, .int 0), (4, .int 0), (5, .int 0)]) [1, 2, 3, 4, 5, 0] dX1_slips_24 rfl rfl ?_
      refine g_iconst (v := 0) hw dX1_slips_26 (by decide) ?_
      refine g_istore hw (lv2 := [(0, .ref (gA G 16)), (1, .int p1), (2, .int p2), (3, .int 0), (4, .int 0), (5, .int 0), (6, .int 0)]) [1, 2, 3, 4, 5, 6, 0] dX1_slips_27 rfl rfl ?_
      obtain ⟨n9, h⟩ := h
      refine wX1_slips_L29 hw hkf (fun l3_60 l4_61 l5_62 M63 h => ?_) n9 0 0 0 0 M4 h
      refine g_iload_n hw 0 dX1_slips_132 rfl ?_
      refine g_if_ne (tgt := 140) hw dX1_slips_133 (by decide) (fun hb64 => ?_) (fun hb64 => ?_)
      · have h := gF h hb64
        refine g_iload_n hw 0 dX1_slips_140 rfl ?_
        refine g_iconst (v := 1) hw dX1_slips_141 (by decide) ?_
        refine g_icmp_ne (tgt := 150) hw dX1_slips_142 (by decide) (fun hb65 => ?_) (fun hb65 => ?_)
        · have h := gF h hb65
          refine g_iload hw 3 dX1_slips_150 rfl ?_
          exact g_iret hw dX1_slips_152 rfl ⟨_, rfl, h⟩
        · have h := gT h hb65
          refine g_iload hw 2 dX1_slips_145 rfl ?_
          refine g_goto (tgt := 152) hw dX1_slips_147 (by decide) ?_
          exact g_iret hw dX1_slips_152 rfl ⟨_, rfl, h⟩
      · have h := gT h hb64
        refine g_iload_n hw 1 dX1_slips_136 rfl ?_
        refine g_goto (tgt := 152) hw dX1_slips_137 (by decide) ?_
        exact g_iret hw dX1_slips_152 rfl ⟨_, rfl, h⟩
    · have h := gT h hb6
      refine g_iconst (v := (-1)) hw dX1_slips_16 (by decide) ?_
      exact g_iret hw dX1_slips_17 rfl ⟨_, rfl, h⟩
def fX1_weight_b135 (R68 : Int32 → Int32 → Int32 → gM → Prop) (l1_38 : Int32) (l4_39 : Int32) (l5_67 : Int32) (l6_68 : Int32) (l7_69 : Int32) (M : gM) (Q : Int32 → gM → Prop) : Prop :=
  R68 l5_67 l6_68 (l7_69 + 1) M
theorem wX1_weight_b135 {kf : Nat} {G : gG} {w : gM → Nat → List (Nat × Value) → List Value → Prop} {Q : Int32 → gM → Prop} (hw : gX yX1_weight cX1_weight 9 (Option.some FieldType.int) [] kf G (gQi Q) gE0 w) (hkf : 3 ≤ kf) {R68 : Int32 → Int32 → Int32 → gM → Prop} {l1_38 : Int32} {l4_39 : Int32} {l5_67 : Int32} {l6_68 : Int32} {l7_69 : Int32} {M : gM} (hR68 : ∀ (v0 : Int32) (v1 : Int32) (v2 : Int32) (M : gM), R68 v0 v1 v2 M → w M 68 [(0, .ref (gA G 16)), (1, .int l1_38), (4, .int l4_39), (5, .int v0), (6, .int v1), (7, .int v2)] []) (h : fX1_weight_b135 R68 l1_38 l4_39 l5_67 l6_68 l7_69 M Q) : w M 135 [(0, .ref (gA G 16)), (1, .int l1_38), (4, .int l4_39), (5, .int l5_67), (6, .int l6_68), (7, .int l7_69)] [] := by
  unfold fX1_weight_b135 at h
  refine g_iinc hw (lv2 := [(0, .ref (gA G 16)), (1, .int l1_38), (4, .int l4_39), (5, .int l5_67), (6, .int l6_68), (7, .int (l7_69 + 1))]) 5 [1, 2, 3, 4, 5, 0] dX1_weight_135 rfl (by decide) rfl rfl ?_
  refine g_goto (tgt := 68) hw dX1_weight_138 (by decide) ?_
  exact hR68 l5_67 l6_68 (l7_69 + 1) M h
def fX1_weight_L68s (R68 : Int32 → Int32 → Int32 → gM → Prop) (K141_68 : Int32 → Int32 → gM → Prop) (l1_38 : Int32) (l4_39 : Int32) (l5_40 : Int32) (l6_41 : Int32) (l7_42 : Int32) (M : gM) (Q : Int32 → gM → Prop) : Prop :=
  (if 24 ≤ l7_42 then K141_68 l5_40 l6_41 M else gk M 16 = 1 ∧ gdr (gR M 16 0) (fun a45 => gk M a45 = 44 ∧ vp_in l7_42 (gl M a45) ∧ gdr (gR M a45 l7_42.toNatClampNeg) (fun a49 => gk M a49 = 4 ∧ fX4_isCounted a49 (l1_38 - 1) l1_38 M (fun r53 M52 => (if r53 = 0 then fX1_weight_b135 R68 l1_38 l4_39 l5_40 l6_41 l7_42 M52 Q else gk M52 a49 = 4 ∧ (if (gI M52 a49 0) = l4_39 then gk M52 16 = 1 ∧ gdr (gR M52 16 1) (fun a58 => gk M52 a58 = 48 ∧ vp_in l4_39 (gl M52 a58) ∧ gdr (gR M52 a58 l4_39.toNatClampNeg) (fun a62 => gk M52 a62 = 40 ∧ vp_in l1_38 (gl M52 a62) ∧ (if (gI M52 a62 l1_38.toNatClampNeg) ≤ (gI M52 a49 1) then fX1_weight_b135 R68 l1_38 l4_39 l5_40 l6_41 l7_42 M52 Q else fX1_weight_b135 R68 l1_38 l4_39 (l5_40 + 1) l6_41 l7_42 M52 Q))) else fX1_weight_b135 R68 l1_38 l4_39 l5_40 (l6_41 + 1) l7_42 M52 Q))))))
def fX1_weight_L68 (K141_68 : Int32 → Int32 → gM → Prop) (l1_38 : Int32) (l4_39 : Int32) (Q : Int32 → gM → Prop) : Nat → Int32 → Int32 → Int32 → gM → Prop
  | 0 => fun _ _ _ _ => False
  | n + 1 => fun l5_40 l6_41 l7_42 M => fX1_weight_L68s (fX1_weight_L68 K141_68 l1_38 l4_39 Q n) K141_68 l1_38 l4_39 l5_40 l6_41 l7_42 M Q
theorem wX1_weight_L68s {kf : Nat} {G : gG} {w : gM → Nat → List (Nat × Value) → List Value → Prop} {Q : Int32 → gM → Prop} (hw : gX yX1_weight cX1_weight 9 (Option.some FieldType.int) [] kf G (gQi Q) gE0 w) (hkf : 3 ≤ kf) {R68 : Int32 → Int32 → Int32 → gM → Prop} {K141_68 : Int32 → Int32 → gM → Prop} {l1_38 : Int32} {l4_39 : Int32} {l5_40 : Int32} {l6_41 : Int32} {l7_42 : Int32} {M : gM} (hR68 : ∀ (v0 : Int32) (v1 : Int32) (v2 : Int32) (M : gM), R68 v0 v1 v2 M → w M 68 [(0, .ref (gA G 16)), (1, .int l1_38), (4, .int l4_39), (5, .int v0), (6, .int v1), (7, .int v2)] []) (hK141_68 : ∀ (v0 : Int32) (v1 : Int32) (M : gM), K141_68 v0 v1 M → w M 141 [(5, .int v0), (6, .int v1)] []) (h : fX1_weight_L68s R68 K141_68 l1_38 l4_39 l5_40 l6_41 l7_42 M Q) : w M 68 [(0, .ref (gA G 16)), (1, .int l1_38), (4, .int l4_39), (5, .int l5_40), (6, .int l6_41), (7, .int l7_42)] [] := by
  unfold fX1_weight_L68s at h
  refine g_iload hw 5 dX1_weight_68 rfl ?_
  refine g_bipush (v := 24) hw dX1_weight_70 (by decide) ?_
  refine g_icmp_ge (tgt := 141) hw dX1_weight_72 (by decide) (fun hb43 => ?_) (fun hb43 => ?_)
  · have h := gT h hb43
    refine g_sub hw (lv2 := [(5, .int l5_40), (6, .int l6_41)]) [3, 4] rfl ?_
    exact hK141_68 l5_40 l6_41 M h
  · have h := gF h hb43
    refine g_aload_n hw 0 dX1_weight_75 rfl ?_
    obtain ⟨hk44, h⟩ := h
    obtain ⟨a45, e46, h⟩ := h
    refine gfX1_21 (q := some a45) hw rfl dX1_weight_76 hk44 e46 ?_
    refine g_iload hw 5 dX1_weight_79 rfl ?_
    obtain ⟨hk47, h⟩ := h
    obtain ⟨hi48, h⟩ := h
    obtain ⟨a49, e50, h⟩ := h
    refine g_aaldS (n := l7_42.toNatClampNeg) hw 4 dX1_weight_81 ⟨rfl, rfl⟩ hk47 hi48 rfl e50 ?_
    refine g_astore hw (lv2 := [(0, .ref (gA G 16)), (1, .int l1_38), (4, .int l4_39), (5, .int l5_40), (6, .int l6_41), (7, .int l7_42), (8, .ref (gA G a49))]) [1, 2, 3, 4, 5, 6, 0] dX1_weight_82 rfl rfl ?_
    refine g_aload hw 6 dX1_weight_84 rfl ?_
    refine g_iload_n hw 1 dX1_weight_86 rfl ?_
    refine g_iconst (v := 1) hw dX1_weight_87 (by decide) ?_
    refine g_isub hw dX1_weight_88 ?_
    refine g_iload_n hw 1 dX1_weight_89 rfl ?_
    obtain ⟨hk51, h⟩ := h
    refine sX1_172 hw rfl dX1_weight_90 rfl (gK2 hkf) hk51 h (fun r53 M52 h => ?_)
    refine g_if_ne (tgt := 99) hw dX1_weight_93 (by decide) (fun hb54 => ?_) (fun hb54 => ?_)
    · have h := gF h hb54
      refine g_aload hw 6 dX1_weight_99 rfl ?_
      obtain ⟨hk55, h⟩ := h
      refine gfX1_124 hw rfl dX1_weight_101 hk55 ?_
      refine g_iload hw 2 dX1_weight_104 rfl ?_
      refine g_icmp_eq (tgt := 115) hw dX1_weight_106 (by decide) (fun hb56 => ?_) (fun hb56 => ?_)
      · have h := gT h hb56
        refine g_aload hw 6 dX1_weight_115 rfl ?_
        refine gfX1_127 hw rfl dX1_weight_117 hk55 ?_
        refine g_aload_n hw 0 dX1_weight_120 rfl ?_
        obtain ⟨hk57, h⟩ := h
        obtain ⟨a58, e59, h⟩ := h
        refine gfX1_27 (q := some a58) hw rfl dX1_weight_121 hk57 e59 ?_
        refine g_iload hw 2 dX1_weight_124 rfl ?_
        obtain ⟨hk60, h⟩ := h
        obtain ⟨hi61, h⟩ := h
        obtain ⟨a62, e63, h⟩ := h
        refine g_aaldS (n := l4_39.toNatClampNeg) hw 8 dX1_weight_126 ⟨rfl, rfl⟩ hk60 hi61 rfl e63 ?_
        refine g_iload_n hw 1 dX1_weight_127 rfl ?_
        obtain ⟨hk64, h⟩ := h
        obtain ⟨hi65, h⟩ := h
        refine g_iald (n := l1_38.toNatClampNeg) hw dX1_weight_128 hk64 hi65 rfl ?_
        refine g_icmp_ge (tgt := 135) hw dX1_weight_129 (by decide) (fun hb66 => ?_) (fun hb66 => ?_)
        · have h := gT h hb66
          refine g_sub hw (lv2 := [(0, .ref (gA G 16)), (1, .int l1_38), (4, .int l4_39), (5, .int l5_40), (6, .int l6_41), (7, .int l7_42)]) [0, 1, 2, 3, 4, 5] rfl ?_
          exact wX1_weight_b135 hw hkf hR68 h
        · have h := gF h hb66
          refine g_iinc hw (lv2 := [(0, .ref (gA G 16)), (1, .int l1_38), (4, .int l4_39), (5, .int (l5_40 + 1)), (6, .int l6_41), (7, .int l7_42)]) 3 [1, 2, 3, 0, 4, 5] dX1_weight_132 rfl (by decide) rfl rfl ?_
          exact wX1_weight_b135 hw hkf hR68 h
      · have h := gF h hb56
        refine g_iinc hw (lv2 := [(0, .ref (gA G 16)), (1, .int l1_38), (4, .int l4_39), (5, .int l5_40), (6, .int (l6_41 + 1)), (7, .int l7_42)]) 4 [1, 2, 3, 4, 0, 5] dX1_weight_109 rfl (by decide) rfl rfl ?_
        refine g_goto (tgt := 135) hw dX1_weight_112 (by decide) ?_
        exact wX1_weight_b135 hw hkf hR68 h
    · have h := gT h hb54
      refine g_goto (tgt := 135) hw dX1_weight_96 (by decide) ?_
      refine g_sub hw (lv2 := [(0, .ref (gA G 16)), (1, .int l1_38), (4, .int l4_39), (5, .int l5_40), (6, .int l6_41), (7, .int l7_42)]) [0, 1, 2, 3, 4, 5] rfl ?_
      exact wX1_weight_b135 hw hkf hR68 h
theorem wX1_weight_L68 {kf : Nat} {G : gG} {w : gM → Nat → List (Nat × Value) → List Value → Prop} {Q : Int32 → gM → Prop} (hw : gX yX1_weight cX1_weight 9 (Option.some FieldType.int) [] kf G (gQi Q) gE0 w) (hkf : 3 ≤ kf) {K141_68 : Int32 → Int32 → gM → Prop} {l1_38 : Int32} {l4_39 : Int32} (hK141_68 : ∀ (v0 : Int32) (v1 : Int32) (M : gM), K141_68 v0 v1 M → w M 141 [(5, .int v0), (6, .int v1)] []) : ∀ (n : Nat) (l5_40 : Int32) (l6_41 : Int32) (l7_42 : Int32) (M : gM), fX1_weight_L68 K141_68 l1_38 l4_39 Q n l5_40 l6_41 l7_42 M → w M 68 [(0, .ref (gA G 16)), (1, .int l1_38), (4, .int l4_39), (5, .int l5_40), (6, .int l6_41), (7, .int l7_42)] [] := by
  intro n
  induction n with
  | zero => intro l5_40 l6_41 l7_42 M h; exact h.elim
  | succ n ih => intro l5_40 l6_41 l7_42 M h; exact wX1_weight_L68s hw hkf ih hK141_68 h
def fX1_weight_b57 (l1_36 : Int32) (s0_37 : Int32) (M : gM) (Q : Int32 → gM → Prop) : Prop :=
  ∃ n, fX1_weight_L68 (fun l5_70 l6_71 M72 => Q (l5_70 * l6_71) M72) l1_36 s0_37 Q n 0 0 0 M
theorem wX1_weight_b57 {kf : Nat} {G : gG} {w : gM → Nat → List (Nat × Value) → List Value → Prop} {Q : Int32 → gM → Prop} (hw : gX yX1_weight cX1_weight 9 (Option.some FieldType.int) [] kf G (gQi Q) gE0 w) (hkf : 3 ≤ kf)  {l1_36 : Int32} {s0_37 : Int32} {M : gM}  (h : fX1_weight_b57 l1_36 s0_37 M Q) : w M 57 [(0, .ref (gA G 16)), (1, .int l1_36)] [.int s0_37] := by
  unfold fX1_weight_b57 at h
  refine g_istore hw (lv2 := [(0, .ref (gA G 16)), (1, .int l1_36), (4, .int s0_37)]) [1, 2, 0] dX1_weight_57 rfl rfl ?_
  refine g_iconst (v := 0) hw dX1_weight_59 (by decide) ?_
  refine g_istore hw (lv2 := [(0, .ref (gA G 16)), (1, .int l1_36), (4, .int s0_37), (5, .int 0)]) [1, 2, 3, 0] dX1_weight_60 rfl rfl ?_
  refine g_iconst (v := 0) hw dX1_weight_62 (by decide) ?_
  refine g_istore hw (lv2 := [(0, .ref (gA G 16)), (1, .int l1_36), (4, .int s0_37), (5, .int 0), (6, .int 0)]) [1, 2, 3, 4, 0] dX1_weight_63 rfl rfl ?_
  refine g_iconst (v := 0) hw dX1_weight_65 (by decide) ?_
  refine g_istore hw (lv2 := [(0, .ref (gA G 16)), (1, .int l1_36), (4, .int s0_37), (5, .int 0), (6, .int 0), (7, .int 0)]) [1, 2, 3, 4, 5, 0] dX1_weight_66 rfl rfl ?_
  obtain ⟨n9, h⟩ := h
  refine wX1_weight_L68 hw hkf (fun l5_70 l6_71 M72 h => ?_) n9 0 0 0 M h
  refine g_iload hw 0 dX1_weight_141 rfl ?_
  refine g_iload hw 1 dX1_weight_143 rfl ?_
  refine g_imul hw dX1_weight_145 ?_
  exact g_iret hw dX1_weight_146 rfl ⟨_, rfl, h⟩
def fX1_weight (p1 : Int32) (M : gM) (Q : Int32 → gM → Prop) : Prop :=
  gk M 16 = 1 ∧ gdr (gR M 16 1) (fun a2 => gk M a2 = 48 ∧ vp_in 0 (gl M a2) ∧ gdr (gR M a2 0) (fun a6 => gk M a6 = 40 ∧ vp_in p1 (gl M a6) ∧ gdr (gR M 16 1) (fun a10 => gk M a10 = 48 ∧ vp_in 0 (gl M a10) ∧ gdr (gR M a10 0) (fun a14 => gk M a14 = 40 ∧ vp_in (p1 - 1) (gl M a14) ∧ gdr (gR M 16 1) (fun a18 => gk M a18 = 48 ∧ vp_in 1 (gl M a18) ∧ gdr (gR M a18 1) (fun a22 => gk M a22 = 40 ∧ vp_in p1 (gl M a22) ∧ gdr (gR M 16 1) (fun a26 => gk M a26 = 48 ∧ vp_in 1 (gl M a26) ∧ gdr (gR M a26 1) (fun a30 => gk M a30 = 40 ∧ vp_in (p1 - 1) (gl M a30) ∧ (if ((gI M a6 p1.toNatClampNeg) - (gI M a14 ((p1 - 1).toNatClampNeg))) = ((gI M a22 p1.toNatClampNeg) - (gI M a30 ((p1 - 1).toNatClampNeg))) then Q 0 M else (if ((gI M a6 p1.toNatClampNeg) - (gI M a14 ((p1 - 1).toNatClampNeg))) ≤ ((gI M a22 p1.toNatClampNeg) - (gI M a30 ((p1 - 1).toNatClampNeg))) then fX1_weight_b57 p1 1 M Q else fX1_weight_b57 p1 0 M Q))))))))))
theorem mX1_weight {kf : Nat} (hkf : 3 ≤ kf) (G : gG) (p1 : Int32) (M : gM) (Q : Int32 → gM → Prop) (h : fX1_weight p1 M Q) : gMet yX1_weight cX1_weight 9 (Option.some FieldType.int) kf G M [.ref (gA G 16), .int p1] (gQi Q) gE0 := by
  refine g_intro (lv := [(0, .ref (gA G 16)), (1, .int p1)]) (by decide) rfl rfl (fun w hw => ?_)
  unfold fX1_weight at h
  refine g_aload_n hw 0 dX1_weight_0 rfl ?_
  obtain ⟨hk1, h⟩ := h
  obtain ⟨a2, e3, h⟩ := h
  refine gfX1_27 (q := some a2) hw rfl dX1_weight_1 hk1 e3 ?_
  refine g_iconst (v := 0) hw dX1_weight_4 (by decide) ?_
  obtain ⟨hk4, h⟩ := h
  obtain ⟨hi5, h⟩ := h
  obtain ⟨a6, e7, h⟩ := h
  refine g_aaldS (n := 0) hw 8 dX1_weight_5 ⟨rfl, rfl⟩ hk4 hi5 rfl e7 ?_
  refine g_iload_n hw 1 dX1_weight_6 rfl ?_
  obtain ⟨hk8, h⟩ := h
  obtain ⟨hi9, h⟩ := h
  refine g_iald (n := p1.toNatClampNeg) hw dX1_weight_7 hk8 hi9 rfl ?_
  refine g_aload_n hw 0 dX1_weight_8 rfl ?_
  obtain ⟨a10, e11, h⟩ := h
  refine gfX1_27 (q := some a10) hw rfl dX1_weight_9 hk1 e11 ?_
  refine g_iconst (v := 0) hw dX1_weight_12 (by decide) ?_
  obtain ⟨hk12, h⟩ := h
  obtain ⟨hi13, h⟩ := h
  obtain ⟨a14, e15, h⟩ := h
  refine g_aaldS (n := 0) hw 8 dX1_weight_13 ⟨rfl, rfl⟩ hk12 hi13 rfl e15 ?_
  refine g_iload_n hw 1 dX1_weight_14 rfl ?_
  refine g_iconst (v := 1) hw dX1_weight_15 (by decide) ?_
  refine g_isub hw dX1_weight_16 ?_
  obtain ⟨hk16, h⟩ := h
  obtain ⟨hi17, h⟩ := h
  refine g_iald (n := (p1 - 1).toNatClampNeg) hw dX1_weight_17 hk16 hi17 rfl ?_
  refine g_isub hw dX1_weight_18 ?_
  refine g_istore_n hw (lv2 := [(0, .ref (gA G 16)), (1, .int p1), (2, .int ((gI M a6 p1.toNatClampNeg) - (gI M a14 ((p1 - 1).toNatClampNeg))))]) [1, 2, 0] dX1_weight_19 rfl rfl ?_
  refine g_aload_n hw 0 dX1_weight_20 rfl ?_
  obtain ⟨a18, e19, h⟩ := h
  refine gfX1_27 (q := some a18) hw rfl dX1_weight_21 hk1 e19 ?_
  refine g_iconst (v := 1) hw dX1_weight_24 (by decide) ?_
  obtain ⟨hk20, h⟩ := h
  obtain ⟨hi21, h⟩ := h
  obtain ⟨a22, e23, h⟩ := h
  refine g_aaldS (n := 1) hw 8 dX1_weight_25 ⟨rfl, rfl⟩ hk20 hi21 rfl e23 ?_
  refine g_iload_n hw 1 dX1_weight_26 rfl ?_
  obtain ⟨hk24, h⟩ := h
  obtain ⟨hi25, h⟩ := h
  refine g_iald (n := p1.toNatClampNeg) hw dX1_weight_27 hk24 hi25 rfl ?_
  refine g_aload_n hw 0 dX1_weight_28 rfl ?_
  obtain ⟨a26, e27, h⟩ := h
  refine gfX1_27 (q := some a26) hw rfl dX1_weight_29 hk1 e27 ?_
  refine g_iconst (v := 1) hw dX1_weight_32 (by decide) ?_
  obtain ⟨hk28, h⟩ := h
  obtain ⟨hi29, h⟩ := h
  obtain ⟨a30, e31, h⟩ := h
  refine g_aaldS (n := 1) hw 8 dX1_weight_33 ⟨rfl, rfl⟩ hk28 hi29 rfl e31 ?_
  refine g_iload_n hw 1 dX1_weight_34 rfl ?_
  refine g_iconst (v := 1) hw dX1_weight_35 (by decide) ?_
  refine g_isub hw dX1_weight_36 ?_
  obtain ⟨hk32, h⟩ := h
  obtain ⟨hi33, h⟩ := h
  refine g_iald (n := (p1 - 1).toNatClampNeg) hw dX1_weight_37 hk32 hi33 rfl ?_
  refine g_isub hw dX1_weight_38 ?_
  refine g_istore_n hw (lv2 := [(0, .ref (gA G 16)), (1, .int p1), (2, .int ((gI M a6 p1.toNatClampNeg) - (gI M a14 ((p1 - 1).toNatClampNeg)))), (3, .int ((gI M a22 p1.toNatClampNeg) - (gI M a30 ((p1 - 1).toNatClampNeg))))]) [1, 2, 3, 0] dX1_weight_39 rfl rfl ?_
  refine g_iload_n hw 2 dX1_weight_40 rfl ?_
  refine g_iload_n hw 3 dX1_weight_41 rfl ?_
  refine g_icmp_ne (tgt := 47) hw dX1_weight_42 (by decide) (fun hb34 => ?_) (fun hb34 => ?_)
  · have h := gF h hb34
    refine g_iload_n hw 2 dX1_weight_47 rfl ?_
    refine g_iload_n hw 3 dX1_weight_48 rfl ?_
    refine g_icmp_le (tgt := 56) hw dX1_weight_49 (by decide) (fun hb35 => ?_) (fun hb35 => ?_)
    · have h := gT h hb35
      refine g_iconst (v := 1) hw dX1_weight_56 (by decide) ?_
      refine g_sub hw (lv2 := [(0, .ref (gA G 16)), (1, .int p1)]) [0, 1] rfl ?_
      exact wX1_weight_b57 hw hkf h
    · have h := gF h hb35
      refine g_iconst (v := 0) hw dX1_weight_52 (by decide) ?_
      refine g_goto (tgt := 57) hw dX1_weight_53 (by decide) ?_
      refine g_sub hw (lv2 := [(0, .ref (gA G 16)), (1, .int p1)]) [0, 1] rfl ?_
      exact wX1_weight_b57 hw hkf h
  · have h := gT h hb34
    refine g_iconst (v := 0) hw dX1_weight_45 (by decide) ?_
    exact g_iret hw dX1_weight_46 rfl ⟨_, rfl, h⟩
theorem sX1_397 {y0 : MethodName} {cc : ByteArray} {nL : Nat} {ret : Option FieldType} {hh : List (Nat × Nat × Nat × Nat)} {kf : Nat} {G : gG} {Qv : Option Value → gM → Prop} {E : String → Nat → gM → Prop} {w : gM → Nat → List (Nat × Value) → List Value → Prop} {M : gM} {pc : Nat} {lv : List (Nat × Value)} {rest : List Value} (hw : gX y0 cc nL ret hh kf G Qv E w) (hy : y0.cls = RX1) {p1 : Int32} {Q : Int32 → gM → Prop} (d : decode cc pc = .ok (.invokevirtual 397, 3)) (hrest : Nat.ble ((rest.map Value.category).sum) 8 = true) (hk : 3 + 1 ≤ kf) (hkd : gk M 16 = 1) (h : fX1_weight p1 M Q) (kk : ∀ r M1, Q r M1 → w M1 (pc + 3) lv (.int r :: rest)) : w M pc lv (.int p1 :: .ref (gA G 16) :: rest) := by
  obtain ⟨cls9, nm9, ds9⟩ := y0
  subst hy
  exact g_callV (r := (RX1, TX1, 28)) (ci := 0) hw [.int p1] (nA := 1) rfl d q948 q950 qs38 q98 q951 (by decide +kernel) rfl rfl hrest rfl (by omega : kf - 1 + 1 ≤ kf) hkd (mX1_weight (kf := kf - 1) (by omega) G p1 M Q h) (fun _ _ _ q => q.elim) (fun v M1 h => by obtain ⟨r, rfl, h⟩ := h; exact kk r M1 h)
def fX1_where_b37 (R7 : Int32 → Int32 → Int32 → gM → Prop) (l1_1 : Int32) (l2_13 : Int32) (l3_14 : Int32) (l4_15 : Int32) (M : gM) (Q : Int32 → gM → Prop) : Prop :=
  R7 l2_13 l3_14 (l4_15 + 1) M
theorem wX1_where_b37 {kf : Nat} {G : gG} {w : gM → Nat → List (Nat × Value) → List Value → Prop} {Q : Int32 → gM → Prop} (hw : gX yX1_where cX1_where 5 (Option.some FieldType.int) [] kf G (gQi Q) gE0 w) (hkf : 4 ≤ kf) {R7 : Int32 → Int32 → Int32 → gM → Prop} {l1_1 : Int32} {l2_13 : Int32} {l3_14 : Int32} {l4_15 : Int32} {M : gM} (hR7 : ∀ (v0 : Int32) (v1 : Int32) (v2 : Int32) (M : gM), R7 v0 v1 v2 M → w M 7 [(0, .ref (gA G 16)), (1, .int l1_1), (2, .int v0), (3, .int v1), (4, .int v2)] []) (h : fX1_where_b37 R7 l1_1 l2_13 l3_14 l4_15 M Q) : w M 37 [(0, .ref (gA G 16)), (1, .int l1_1), (2, .int l2_13), (3, .int l3_14), (4, .int l4_15)] [] := by
  unfold fX1_where_b37 at h
  refine g_iinc hw (lv2 := [(0, .ref (gA G 16)), (1, .int l1_1), (2, .int l2_13), (3, .int l3_14), (4, .int (l4_15 + 1))]) 4 [1, 2, 3, 4, 0] dX1_where_37 rfl (by decide) rfl rfl ?_
  refine g_goto (tgt := 7) hw dX1_where_40 (by decide) ?_
  exact hR7 l2_13 l3_14 (l4_15 + 1) M h
def fX1_where_L7s (R7 : Int32 → Int32 → Int32 → gM → Prop) (K43_7 : Int32 → Int32 → gM → Prop) (l1_1 : Int32) (l2_2 : Int32) (l3_3 : Int32) (l4_4 : Int32) (M : gM) (Q : Int32 → gM → Prop) : Prop :=
  (if 12 ≤ l4_4 then K43_7 l2_2 l3_3 M else gk M 16 = 1 ∧ fX1_weight l4_4 M (fun r8 M7 => (if l3_3 < r8 then gk M7 16 = 1 ∧ fX1_weight l4_4 M7 (fun r12 M11 => fX1_where_b37 R7 l1_1 l4_4 r12 l4_4 M11 Q) else fX1_where_b37 R7 l1_1 l2_2 l3_3 l4_4 M7 Q)))
def fX1_where_L7 (K43_7 : Int32 → Int32 → gM → Prop) (l1_1 : Int32) (Q : Int32 → gM → Prop) : Nat → Int32 → Int32 → Int32 → gM → Prop
  | 0 => fun _ _ _ _ => False
  | n + 1 => fun l2_2 l3_3 l4_4 M => fX1_where_L7s (fX1_where_L7 K43_7 l1_1 Q n) K43_7 l1_1 l2_2 l3_3 l4_4 M Q
theorem wX1_where_L7s {kf : Nat} {G : gG} {w : gM → Nat → List (Nat × Value) → List Value → Prop} {Q : Int32 → gM → Prop} (hw : gX yX1_where cX1_where 5 (Option.some FieldType.int) [] kf G (gQi Q) gE0 w) (hkf : 4 ≤ kf) {R7 : Int32 → Int32 → Int32 → gM → Prop} {K43_7 : Int32 → Int32 → gM → Prop} {l1_1 : Int32} {l2_2 : Int32} {l3_3 : Int32} {l4_4 : Int32} {M : gM} (hR7 : ∀ (v0 : Int32) (v1 : Int32) (v2 : Int32) (M : gM), R7 v0 v1 v2 M → w M 7 [(0, .ref (gA G 16)), (1, .int l1_1), (2, .int v0), (3, .int v1), (4, .int v2)] []) (hK43_7 : ∀ (v0 : Int32) (v1 : Int32) (M : gM), K43_7 v0 v1 M → w M 43 [(1, .int l1_1), (2, .int v0), (3, .int v1)] []) (h : fX1_where_L7s R7 K43_7 l1_1 l2_2 l3_3 l4_4 M Q) : w M 7 [(0, .ref (gA G 16)), (1, .int l1_1), (2, .int l2_2), (3, .int l3_3), (4, .int l4_4)] [] := by
  unfold fX1_where_L7s at h
  refine g_iload hw 4 dX1_where_7 rfl ?_
  refine g_bipush (v := 12) hw dX1_where_9 (by decide) ?_
  refine g_icmp_ge (tgt := 43) hw dX1_where_11 (by decide) (fun hb5 => ?_) (fun hb5 => ?_)
  · have h := gT h hb5
    refine g_sub hw (lv2 := [(1, .int l1_1), (2, .int l2_2), (3, .int l3_3)]) [1, 2, 3] rfl ?_
    exact hK43_7 l2_2 l3_3 M h
  · have h := gF h hb5
    refine g_aload_n hw 0 dX1_where_14 rfl ?_
    refine g_iload hw 4 dX1_where_15 rfl ?_
    obtain ⟨hk6, h⟩ := h
    refine sX1_397 hw rfl dX1_where_17 rfl (gK2 hkf) hk6 h (fun r8 M7 h => ?_)
    refine g_iload_n hw 3 dX1_where_20 rfl ?_
    refine g_icmp_gt (tgt := 27) hw dX1_where_21 (by decide) (fun hb9 => ?_) (fun hb9 => ?_)
    · have h := gT h hb9
      refine g_iload hw 4 dX1_where_27 rfl ?_
      refine g_istore_n hw (lv2 := [(0, .ref (gA G 16)), (1, .int l1_1), (2, .int l4_4), (4, .int l4_4)]) [1, 2, 0, 4] dX1_where_29 rfl rfl ?_
      refine g_aload_n hw 0 dX1_where_30 rfl ?_
      refine g_iload hw 3 dX1_where_31 rfl ?_
      obtain ⟨hk10, h⟩ := h
      refine sX1_397 hw rfl dX1_where_33 rfl (gK2 hkf) hk10 h (fun r12 M11 h => ?_)
      refine g_istore_n hw (lv2 := [(0, .ref (gA G 16)), (1, .int l1_1), (2, .int l4_4), (3, .int r12), (4, .int l4_4)]) [1, 2, 3, 0, 4] dX1_where_36 rfl rfl ?_
      exact wX1_where_b37 hw hkf hR7 h
    · have h := gF h hb9
      refine g_goto (tgt := 37) hw dX1_where_24 (by decide) ?_
      exact wX1_where_b37 hw hkf hR7 h
theorem wX1_where_L7 {kf : Nat} {G : gG} {w : gM → Nat → List (Nat × Value) → List Value → Prop} {Q : Int32 → gM → Prop} (hw : gX yX1_where cX1_where 5 (Option.some FieldType.int) [] kf G (gQi Q) gE0 w) (hkf : 4 ≤ kf) {K43_7 : Int32 → Int32 → gM → Prop} {l1_1 : Int32} (hK43_7 : ∀ (v0 : Int32) (v1 : Int32) (M : gM), K43_7 v0 v1 M → w M 43 [(1, .int l1_1), (2, .int v0), (3, .int v1)] []) : ∀ (n : Nat) (l2_2 : Int32) (l3_3 : Int32) (l4_4 : Int32) (M : gM), fX1_where_L7 K43_7 l1_1 Q n l2_2 l3_3 l4_4 M → w M 7 [(0, .ref (gA G 16)), (1, .int l1_1), (2, .int l2_2), (3, .int l3_3), (4, .int l4_4)] [] := by
  intro n
  induction n with
  | zero => intro l2_2 l3_3 l4_4 M h; exact h.elim
  | succ n ih => intro l2_2 l3_3 l4_4 M h; exact wX1_where_L7s hw hkf ih hK43_7 h
def fX1_where_b56  (M : gM) (Q : Int32 → gM → Prop) : Prop :=
  Q (-1) M
theorem wX1_where_b56 {kf : Nat} {G : gG} {w : gM → Nat → List (Nat × Value) → List Value → Prop} {Q : Int32 → gM → Prop} (hw : gX yX1_where cX1_where 5 (Option.some FieldType.int) [] kf G (gQi Q) gE0 w) (hkf : 4 ≤ kf)   {M : gM}  (h : fX1_where_b56 M Q) : w M 56 [] [] := by
  unfold fX1_where_b56 at h
  refine g_iconst (v := (-1)) hw dX1_where_56 (by decide) ?_
  refine g_goto (tgt := 69) hw dX1_where_57 (by decide) ?_
  exact g_iret hw dX1_where_69 rfl ⟨_, rfl, h⟩
def fX1_where (p1 : Int32) (M : gM) (Q : Int32 → gM → Prop) : Prop :=
  ∃ n, fX1_where_L7 (fun l2_16 l3_17 M18 => (if l2_16 < 0 then fX1_where_b56 M18 Q else fX1_in p1 0 1 M18 (fun r21 M20 => (if r21 = 0 then fX1_where_b56 M20 Q else (if p1 = 0 then Q l2_16 M20 else Q l3_17 M20))))) p1 Q n (-1) 0 1 M
theorem mX1_where {kf : Nat} (hkf : 4 ≤ kf) (G : gG) (p1 : Int32) (M : gM) (Q : Int32 → gM → Prop) (h : fX1_where p1 M Q) : gMet yX1_where cX1_where 5 (Option.some FieldType.int) kf G M [.ref (gA G 16), .int p1] (gQi Q) gE0 := by
  refine g_intro (lv := [(0, .ref (gA G 16)), (1, .int p1)]) (by decide) rfl rfl (fun w hw => ?_)
  unfold fX1_where at h
  refine g_iconst (v := (-1)) hw dX1_where_0 (by decide) ?_
  refine g_istore_n hw (lv2 := [(0, .ref (gA G 16)), (1, .int p1), (2, .int (-1))]) [1, 2, 0] dX1_where_1 rfl rfl ?_
  refine g_iconst (v := 0) hw dX1_where_2 (by decide) ?_
  refine g_istore_n hw (lv2 := [(0, .ref (gA G 16)), (1, .int p1), (2, .int (-1)), (3, .int 0)]) [1, 2, 3, 0] dX1_where_3 rfl rfl ?_
  refine g_iconst (v := 1) hw dX1_where_4 (by decide) ?_
  refine g_istore hw (lv2 := [(0, .ref (gA G 16)), (1, .int p1), (2, .int (-1)), (3, .int 0), (4, .int 1)]) [1, 2, 3, 4, 0] dX1_where_5 rfl rfl ?_
  obtain ⟨n9, h⟩ := h
  refine wX1_where_L7 hw hkf (fun l2_16 l3_17 M18 h => ?_) n9 (-1) 0 1 M h
  refine g_iload_n hw 1 dX1_where_43 rfl ?_
  refine g_if_lt (tgt := 56) hw dX1_where_44 (by decide) (fun hb19 => ?_) (fun hb19 => ?_)
  · have h := gT h hb19
    refine g_sub hw (lv2 := []) [] rfl ?_
    exact wX1_where_b56 hw hkf h
  · have h := gF h hb19
    refine g_iload_n hw 0 dX1_where_47 rfl ?_
    refine g_iconst (v := 0) hw dX1_where_48 (by decide) ?_
    refine g_iconst (v := 1) hw dX1_where_49 (by decide) ?_
    refine sX1_112 hw rfl dX1_where_50 rfl (gK2 hkf) h (fun r21 M20 h => ?_)
    refine g_if_ne (tgt := 60) hw dX1_where_53 (by decide) (fun hb22 => ?_) (fun hb22 => ?_)
    · have h := gF h hb22
      refine g_iload_n hw 0 dX1_where_60 rfl ?_
      refine g_if_ne (tgt := 68) hw dX1_where_61 (by decide) (fun hb23 => ?_) (fun hb23 => ?_)
      · have h := gF h hb23
        refine g_iload_n hw 2 dX1_where_68 rfl ?_
        exact g_iret hw dX1_where_69 rfl ⟨_, rfl, h⟩
      · have h := gT h hb23
        refine g_iload_n hw 1 dX1_where_64 rfl ?_
        refine g_goto (tgt := 69) hw dX1_where_65 (by decide) ?_
        exact g_iret hw dX1_where_69 rfl ⟨_, rfl, h⟩
    · have h := gT h hb22
      refine g_sub hw (lv2 := []) [] rfl ?_
      exact wX1_where_b56 hw hkf h
def fX1_moves_b37 (R3 : Int32 → gM → Prop) (l0_1 : Nat) (l1_2 : Nat) (l2_3 : Int32) (l3_4 : Int32) (l4_12 : Int32) (M : gM) (Q : gM → Prop) : Prop :=
  R3 (l4_12 + 1) M
theorem wX1_moves_b37 {kf : Nat} {G : gG} {w : gM → Nat → List (Nat × Value) → List Value → Prop} {Q : gM → Prop} (hw : gX yX1_moves cX1_moves 5 (Option.none : Option FieldType) [] kf G (gQv Q) gE0 w) (hkf : 1 ≤ kf) {R3 : Int32 → gM → Prop} {l0_1 : Nat} {l1_2 : Nat} {l2_3 : Int32} {l3_4 : Int32} {l4_12 : Int32} {M : gM} (hR3 : ∀ (v0 : Int32) (M : gM), R3 v0 M → w M 3 [(0, .ref (gA G l0_1)), (1, .ref (gA G l1_2)), (2, .int l2_3), (3, .int l3_4), (4, .int v0)] []) (h : fX1_moves_b37 R3 l0_1 l1_2 l2_3 l3_4 l4_12 M Q) : w M 37 [(0, .ref (gA G l0_1)), (1, .ref (gA G l1_2)), (2, .int l2_3), (3, .int l3_4), (4, .int l4_12)] [] := by
  unfold fX1_moves_b37 at h
  refine g_iinc hw (lv2 := [(0, .ref (gA G l0_1)), (1, .ref (gA G l1_2)), (2, .int l2_3), (3, .int l3_4), (4, .int (l4_12 + 1))]) 4 [1, 2, 3, 4, 0] dX1_moves_37 rfl (by decide) rfl rfl ?_
  refine g_goto (tgt := 3) hw dX1_moves_40 (by decide) ?_
  exact hR3 (l4_12 + 1) M h
def fX1_moves_L3s (R3 : Int32 → gM → Prop) (K43_3 : gM → Prop) (l0_1 : Nat) (l1_2 : Nat) (l2_3 : Int32) (l3_4 : Int32) (l4_5 : Int32) (M : gM) (Q : gM → Prop) : Prop :=
  (if 12 ≤ l4_5 then K43_3 M else (if l3_4 = 0 then gk M l0_1 = 40 ∧ vp_in l4_5 (gl M l0_1) ∧ gk M l1_2 = 40 ∧ vp_in (l2_3 + l4_5) (gl M l1_2) ∧ fX1_moves_b37 R3 l0_1 l1_2 l2_3 l3_4 l4_5 (gsI M l1_2 ((l2_3 + l4_5).toNatClampNeg) (gI M l0_1 l4_5.toNatClampNeg)) Q else gk M l1_2 = 40 ∧ vp_in (l2_3 + l4_5) (gl M l1_2) ∧ gk M l0_1 = 40 ∧ vp_in l4_5 (gl M l0_1) ∧ fX1_moves_b37 R3 l0_1 l1_2 l2_3 l3_4 l4_5 (gsI M l0_1 l4_5.toNatClampNeg (gI M l1_2 ((l2_3 + l4_5).toNatClampNeg))) Q))
def fX1_moves_L3 (K43_3 : gM → Prop) (l0_1 : Nat) (l1_2 : Nat) (l2_3 : Int32) (l3_4 : Int32) (Q : gM → Prop) : Nat → Int32 → gM → Prop
  | 0 => fun _ _ => False
  | n + 1 => fun l4_5 M => fX1_moves_L3s (fX1_moves_L3 K43_3 l0_1 l1_2 l2_3 l3_4 Q n) K43_3 l0_1 l1_2 l2_3 l3_4 l4_5 M Q
theorem wX1_moves_L3s {kf : Nat} {G : gG} {w : gM → Nat → List (Nat × Value) → List Value → Prop} {Q : gM → Prop} (hw : gX yX1_moves cX1_moves 5 (Option.none : Option FieldType) [] kf G (gQv Q) gE0 w) (hkf : 1 ≤ kf) {R3 : Int32 → gM → Prop} {K43_3 : gM → Prop} {l0_1 : Nat} {l1_2 : Nat} {l2_3 : Int32} {l3_4 : Int32} {l4_5 : Int32} {M : gM} (hR3 : ∀ (v0 : Int32) (M : gM), R3 v0 M → w M 3 [(0, .ref (gA G l0_1)), (1, .ref (gA G l1_2)), (2, .int l2_3), (3, .int l3_4), (4, .int v0)] []) (hK43_3 : ∀  (M : gM), K43_3 M → w M 43 [] []) (h : fX1_moves_L3s R3 K43_3 l0_1 l1_2 l2_3 l3_4 l4_5 M Q) : w M 3 [(0, .ref (gA G l0_1)), (1, .ref (gA G l1_2)), (2, .int l2_3), (3, .int l3_4), (4, .int l4_5)] [] := by
  unfold fX1_moves_L3s at h
  refine g_iload hw 4 dX1_moves_3 rfl ?_
  refine g_bipush (v := 12) hw dX1_moves_5 (by decide) ?_
  refine g_icmp_ge (tgt := 43) hw dX1_moves_7 (by decide) (fun hb6 => ?_) (fun hb6 => ?_)
  · have h := gT h hb6
    refine g_sub hw (lv2 := []) [] rfl ?_
    exact hK43_3 M h
  · have h := gF h hb6
    refine g_iload_n hw 3 dX1_moves_10 rfl ?_
    refine g_if_eq (tgt := 27) hw dX1_moves_11 (by decide) (fun hb7 => ?_) (fun hb7 => ?_)
    · have h := gT h hb7
      refine g_aload_n hw 1 dX1_moves_27 rfl ?_
      refine g_iload_n hw 2 dX1_moves_28 rfl ?_
      refine g_iload hw 4 dX1_moves_29 rfl ?_
      refine g_iadd hw dX1_moves_31 ?_
      refine g_aload_n hw 0 dX1_moves_32 rfl ?_
      refine g_iload hw 4 dX1_moves_33 rfl ?_
      obtain ⟨hk8, h⟩ := h
      obtain ⟨hi9, h⟩ := h
      refine g_iald (n := l4_5.toNatClampNeg) hw dX1_moves_35 hk8 hi9 rfl ?_
      obtain ⟨hk10, h⟩ := h
      obtain ⟨hi11, h⟩ := h
      refine g_iast (n := (l2_3 + l4_5).toNatClampNeg) hw dX1_moves_36 hk10 hi11 rfl ?_
      exact wX1_moves_b37 hw hkf hR3 h
    · have h := gF h hb7
      refine g_aload_n hw 0 dX1_moves_14 rfl ?_
      refine g_iload hw 4 dX1_moves_15 rfl ?_
      refine g_aload_n hw 1 dX1_moves_17 rfl ?_
      refine g_iload_n hw 2 dX1_moves_18 rfl ?_
      refine g_iload hw 4 dX1_moves_19 rfl ?_
      refine g_iadd hw dX1_moves_21 ?_
      obtain ⟨hk13, h⟩ := h
      obtain ⟨hi14, h⟩ := h
      refine g_iald (n := (l2_3 + l4_5).toNatClampNeg) hw dX1_moves_22 hk13 hi14 rfl ?_
      obtain ⟨hk15, h⟩ := h
      obtain ⟨hi16, h⟩ := h
      refine g_iast (n := l4_5.toNatClampNeg) hw dX1_moves_23 hk15 hi16 rfl ?_
      refine g_goto (tgt := 37) hw dX1_moves_24 (by decide) ?_
      exact wX1_moves_b37 hw hkf hR3 h
theorem wX1_moves_L3 {kf : Nat} {G : gG} {w : gM → Nat → List (Nat × Value) → List Value → Prop} {Q : gM → Prop} (hw : gX yX1_moves cX1_moves 5 (Option.none : Option FieldType) [] kf G (gQv Q) gE0 w) (hkf : 1 ≤ kf) {K43_3 : gM → Prop} {l0_1 : Nat} {l1_2 : Nat} {l2_3 : Int32} {l3_4 : Int32} (hK43_3 : ∀  (M : gM), K43_3 M → w M 43 [] []) : ∀ (n : Nat) (l4_5 : Int32) (M : gM), fX1_moves_L3 K43_3 l0_1 l1_2 l2_3 l3_4 Q n l4_5 M → w M 3 [(0, .ref (gA G l0_1)), (1, .ref (gA G l1_2)), (2, .int l2_3), (3, .int l3_4), (4, .int l4_5)] [] := by
  intro n
  induction n with
  | zero => intro l4_5 M h; exact h.elim
  | succ n ih => intro l4_5 M h; exact wX1_moves_L3s hw hkf ih hK43_3 h
def fX1_moves (p1 : Nat) (p2 : Nat) (p3 : Int32) (p4 : Int32) (M : gM) (Q : gM → Prop) : Prop :=
  ∃ n, fX1_moves_L3 (fun M17 => Q M17) p1 p2 p3 p4 Q n 0 M
theorem mX1_moves {kf : Nat} (hkf : 1 ≤ kf) (G : gG) (p1 : Nat) (p2 : Nat) (p3 : Int32) (p4 : Int32) (M : gM) (Q : gM → Prop) (h : fX1_moves p1 p2 p3 p4 M Q) : gMet yX1_moves cX1_moves 5 (Option.none : Option FieldType) kf G M [.ref (gA G p1), .ref (gA G p2), .int p3, .int p4] (gQv Q) gE0 := by
  refine g_intro (lv := [(0, .ref (gA G p1)), (1, .ref (gA G p2)), (2, .int p3), (3, .int p4)]) (by decide) rfl rfl (fun w hw => ?_)
  unfold fX1_moves at h
  refine g_iconst (v := 0) hw dX1_moves_0 (by decide) ?_
  refine g_istore hw (lv2 := [(0, .ref (gA G p1)), (1, .ref (gA G p2)), (2, .int p3), (3, .int p4), (4, .int 0)]) [1, 2, 3, 4, 0] dX1_moves_1 rfl rfl ?_
  obtain ⟨n9, h⟩ := h
  refine wX1_moves_L3 hw hkf (fun M17 h => ?_) n9 0 M h
  exact g_vret hw dX1_moves_43 ⟨rfl, h⟩
theorem gfX1_103 {y0 : MethodName} {cc : ByteArray} {nL : Nat} {ret : Option FieldType} {hh : List (Nat × Nat × Nat × Nat)} {kf : Nat} {G : gG} {Qv : Option Value → gM → Prop} {E : String → Nat → gM → Prop} {w : gM → Nat → List (Nat × Value) → List Value → Prop} {M : gM} {pc : Nat} {lv : List (Nat × Value)} {rest : List Value} (hw : gX y0 cc nL ret hh kf G Qv E w) (hy : y0.cls = RX1) {c : Nat} {q : Option Nat} (d : decode cc pc = .ok (.getfield 103, 3)) (hk : gk M c = 1) (hq : gR M c 27 = q) (kk : w M (pc + 3) lv (va_rf (q.map (gA G)) :: rest)) : w M pc lv (.ref (gA G c) :: rest) := by
  obtain ⟨cls9, nm9, ds9⟩ := y0
  subst hy
  subst hq
  exact g_getC (C := RX1) (T := TX1) (N := 28) (ci := 0) hw in_X1 rfl 27 (by decide) (Or.inl q299) rfl d hk kk
theorem sX1_400 {y0 : MethodName} {cc : ByteArray} {nL : Nat} {ret : Option FieldType} {hh : List (Nat × Nat × Nat × Nat)} {kf : Nat} {G : gG} {Qv : Option Value → gM → Prop} {E : String → Nat → gM → Prop} {w : gM → Nat → List (Nat × Value) → List Value → Prop} {M : gM} {pc : Nat} {lv : List (Nat × Value)} {rest : List Value} (hw : gX y0 cc nL ret hh kf G Qv E w) (hy : y0.cls = RX1) {p1 : Nat} {p2 : Nat} {p3 : Int32} {p4 : Int32} {Q : gM → Prop} (d : decode cc pc = .ok (.invokestatic 400, 3)) (hrest : Nat.ble ((rest.map Value.category).sum) 8 = true) (hk : 1 + 1 ≤ kf) (h : fX1_moves p1 p2 p3 p4 M Q) (kk : ∀ M1, Q M1 → w M1 (pc + 3) lv rest) : w M pc lv (.int p4 :: .int p3 :: .ref (gA G p2) :: .ref (gA G p1) :: rest) := by
  obtain ⟨cls9, nm9, ds9⟩ := y0
  subst hy
  exact g_callS hw [.ref (gA G p1), .ref (gA G p2), .int p3, .int p4] (nA := 4) rfl d q956 q957 q98 q958 (by decide +kernel) rfl hrest rfl (by omega : kf - 1 + 1 ≤ kf) (mX1_moves (kf := kf - 1) (by omega) G p1 p2 p3 p4 M Q h) (fun _ _ _ q => q.elim) (fun v M1 h => by obtain ⟨rfl, h⟩ := h; exact kk M1 h)
def fX1_mark_L90s (R90 : Int32 → gM → Prop) (K178_90 : gM → Prop) (l2_27 : Int32) (l3_28 : Nat) (l4_29 : Int32) (M : gM) (Q : Int32 → gM → Prop) : Prop :=
  (if 24 ≤ l4_29 then K178_90 M else gk M 16 = 1 ∧ gdr (gR M 16 0) (fun a32 => gk M a32 = 44 ∧ vp_in l4_29 (gl M a32) ∧ gdr (gR M a32 l4_29.toNatClampNeg) (fun a36 => gk M a36 = 4 ∧ gdr (gR M a36 5) (fun a39 => fX1_moves a39 l3_28 (1 + (48 * l4_29)) l2_27 M (fun M41 => gk M41 a36 = 4 ∧ gdr (gR M41 a36 6) (fun a44 => fX1_moves a44 l3_28 ((1 + (48 * l4_29)) + 12) l2_27 M41 (fun M46 => gk M46 a36 = 4 ∧ gdr (gR M46 a36 7) (fun a49 => fX1_moves a49 l3_28 ((1 + (48 * l4_29)) + 24) l2_27 M46 (fun M51 => gk M51 a36 = 4 ∧ gdr (gR M51 a36 8) (fun a54 => fX1_moves a54 l3_28 ((1 + (48 * l4_29)) + 36) l2_27 M51 (fun M56 => R90 (l4_29 + 1) M56)))))))))))
def fX1_mark_L90 (K178_90 : gM → Prop) (l2_27 : Int32) (l3_28 : Nat) (Q : Int32 → gM → Prop) : Nat → Int32 → gM → Prop
  | 0 => fun _ _ => False
  | n + 1 => fun l4_29 M => fX1_mark_L90s (fX1_mark_L90 K178_90 l2_27 l3_28 Q n) K178_90 l2_27 l3_28 l4_29 M Q
theorem wX1_mark_L90s {kf : Nat} {G : gG} {w : gM → Nat → List (Nat × Value) → List Value → Prop} {Q : Int32 → gM → Prop} (hw : gX yX1_mark cX1_mark 7 (Option.some FieldType.boolean) [] kf G (gQi Q) gE0 w) (hkf : 2 ≤ kf) {R90 : Int32 → gM → Prop} {K178_90 : gM → Prop} {l2_27 : Int32} {l3_28 : Nat} {l4_29 : Int32} {M : gM} (hR90 : ∀ (v0 : Int32) (M : gM), R90 v0 M → w M 90 [(0, .ref (gA G 16)), (2, .int l2_27), (3, .ref (gA G l3_28)), (4, .int v0)] []) (hK178_90 : ∀  (M : gM), K178_90 M → w M 178 [] []) (h : fX1_mark_L90s R90 K178_90 l2_27 l3_28 l4_29 M Q) : w M 90 [(0, .ref (gA G 16)), (2, .int l2_27), (3, .ref (gA G l3_28)), (4, .int l4_29)] [] := by
  unfold fX1_mark_L90s at h
  refine g_iload hw 3 dX1_mark_90 rfl ?_
  refine g_bipush (v := 24) hw dX1_mark_92 (by decide) ?_
  refine g_icmp_ge (tgt := 178) hw dX1_mark_94 (by decide) (fun hb30 => ?_) (fun hb30 => ?_)
  · have h := gT h hb30
    refine g_sub hw (lv2 := []) [] rfl ?_
    exact hK178_90 M h
  · have h := gF h hb30
    refine g_aload_n hw 0 dX1_mark_97 rfl ?_
    obtain ⟨hk31, h⟩ := h
    obtain ⟨a32, e33, h⟩ := h
    refine gfX1_21 (q := some a32) hw rfl dX1_mark_98 hk31 e33 ?_
    refine g_iload hw 3 dX1_mark_101 rfl ?_
    obtain ⟨hk34, h⟩ := h
    obtain ⟨hi35, h⟩ := h
    obtain ⟨a36, e37, h⟩ := h
    refine g_aaldS (n := l4_29.toNatClampNeg) hw 4 dX1_mark_103 ⟨rfl, rfl⟩ hk34 hi35 rfl e37 ?_
    refine g_astore hw (lv2 := [(0, .ref (gA G 16)), (2, .int l2_27), (3, .ref (gA G l3_28)), (4, .int l4_29), (5, .ref (gA G a36))]) [1, 2, 3, 4, 0] dX1_mark_104 rfl rfl ?_
    refine g_iconst (v := 1) hw dX1_mark_106 (by decide) ?_
    refine g_bipush (v := 48) hw dX1_mark_107 (by decide) ?_
    refine g_iload hw 3 dX1_mark_109 rfl ?_
    refine g_imul hw dX1_mark_111 ?_
    refine g_iadd hw dX1_mark_112 ?_
    refine g_istore hw (lv2 := [(0, .ref (gA G 16)), (2, .int l2_27), (3, .ref (gA G l3_28)), (4, .int l4_29), (5, .ref (gA G a36)), (6, .int (1 + (48 * l4_29)))]) [1, 2, 3, 4, 5, 0] dX1_mark_113 rfl rfl ?_
    refine g_aload hw 4 dX1_mark_115 rfl ?_
    obtain ⟨hk38, h⟩ := h
    obtain ⟨a39, e40, h⟩ := h
    refine gfX1_139 (q := some a39) hw rfl dX1_mark_117 hk38 e40 ?_
    refine g_aload_n hw 2 dX1_mark_120 rfl ?_
    refine g_iload hw 5 dX1_mark_121 rfl ?_
    refine g_iload_n hw 1 dX1_mark_123 rfl ?_
    refine sX1_400 hw rfl dX1_mark_124 rfl (gK2 hkf) h (fun M41 h => ?_)
    refine g_aload hw 4 dX1_mark_127 rfl ?_
    obtain ⟨hk43, h⟩ := h
    obtain ⟨a44, e45, h⟩ := h
    refine gfX1_142 (q := some a44) hw rfl dX1_mark_129 hk43 e45 ?_
    refine g_aload_n hw 2 dX1_mark_132 rfl ?_
    refine g_iload hw 5 dX1_mark_133 rfl ?_
    refine g_bipush (v := 12) hw dX1_mark_135 (by decide) ?_
    refine g_iadd hw dX1_mark_137 ?_
    refine g_iload_n hw 1 dX1_mark_138 rfl ?_
    refine sX1_400 hw rfl dX1_mark_139 rfl (gK2 hkf) h (fun M46 h => ?_)
    refine g_aload hw 4 dX1_mark_142 rfl ?_
    obtain ⟨hk48, h⟩ := h
    obtain ⟨a49, e50, h⟩ := h
    refine gfX1_149 (q := some a49) hw rfl dX1_mark_144 hk48 e50 ?_
    refine g_aload_n hw 2 dX1_mark_147 rfl ?_
    refine g_iload hw 5 dX1_mark_148 rfl ?_
    refine g_bipush (v := 24) hw dX1_mark_150 (by decide) ?_
    refine g_iadd hw dX1_mark_152 ?_
    refine g_iload_n hw 1 dX1_mark_153 rfl ?_
    refine sX1_400 hw rfl dX1_mark_154 rfl (gK2 hkf) h (fun M51 h => ?_)
    refine g_aload hw 4 dX1_mark_157 rfl ?_
    obtain ⟨hk53, h⟩ := h
    obtain ⟨a54, e55, h⟩ := h
    refine gfX1_152 (q := some a54) hw rfl dX1_mark_159 hk53 e55 ?_
    refine g_aload_n hw 2 dX1_mark_162 rfl ?_
    refine g_iload hw 5 dX1_mark_163 rfl ?_
    refine g_bipush (v := 36) hw dX1_mark_165 (by decide) ?_
    refine g_iadd hw dX1_mark_167 ?_
    refine g_iload_n hw 1 dX1_mark_168 rfl ?_
    refine sX1_400 hw rfl dX1_mark_169 rfl (gK2 hkf) h (fun M56 h => ?_)
    refine g_iinc hw (lv2 := [(0, .ref (gA G 16)), (2, .int l2_27), (3, .ref (gA G l3_28)), (4, .int (l4_29 + 1))]) 3 [1, 2, 3, 0] dX1_mark_172 rfl (by decide) rfl rfl ?_
    refine g_goto (tgt := 90) hw dX1_mark_175 (by decide) ?_
    exact hR90 (l4_29 + 1) M56 h
theorem wX1_mark_L90 {kf : Nat} {G : gG} {w : gM → Nat → List (Nat × Value) → List Value → Prop} {Q : Int32 → gM → Prop} (hw : gX yX1_mark cX1_mark 7 (Option.some FieldType.boolean) [] kf G (gQi Q) gE0 w) (hkf : 2 ≤ kf) {K178_90 : gM → Prop} {l2_27 : Int32} {l3_28 : Nat} (hK178_90 : ∀  (M : gM), K178_90 M → w M 178 [] []) : ∀ (n : Nat) (l4_29 : Int32) (M : gM), fX1_mark_L90 K178_90 l2_27 l3_28 Q n l4_29 M → w M 90 [(0, .ref (gA G 16)), (2, .int l2_27), (3, .ref (gA G l3_28)), (4, .int l4_29)] [] := by
  intro n
  induction n with
  | zero => intro l4_29 M h; exact h.elim
  | succ n ih => intro l4_29 M h; exact wX1_mark_L90s hw hkf ih hK178_90 h
def fX1_mark_b87 (l2_25 : Int32) (l3_26 : Nat) (M : gM) (Q : Int32 → gM → Prop) : Prop :=
  ∃ n, fX1_mark_L90 (fun M58 => Q 1 M58) l2_25 l3_26 Q n 0 M
theorem wX1_mark_b87 {kf : Nat} {G : gG} {w : gM → Nat → List (Nat × Value) → List Value → Prop} {Q : Int32 → gM → Prop} (hw : gX yX1_mark cX1_mark 7 (Option.some FieldType.boolean) [] kf G (gQi Q) gE0 w) (hkf : 2 ≤ kf)  {l2_25 : Int32} {l3_26 : Nat} {M : gM}  (h : fX1_mark_b87 l2_25 l3_26 M Q) : w M 87 [(0, .ref (gA G 16)), (2, .int l2_25), (3, .ref (gA G l3_26))] [] := by
  unfold fX1_mark_b87 at h
  refine g_iconst (v := 0) hw dX1_mark_87 (by decide) ?_
  refine g_istore hw (lv2 := [(0, .ref (gA G 16)), (2, .int l2_25), (3, .ref (gA G l3_26)), (4, .int 0)]) [1, 2, 3, 0] dX1_mark_88 rfl rfl ?_
  obtain ⟨n9, h⟩ := h
  refine wX1_mark_L90 hw hkf (fun M58 h => ?_) n9 0 M h
  refine g_iconst (v := 1) hw dX1_mark_178 (by decide) ?_
  exact g_iret hw dX1_mark_179 (by decide +kernel) ⟨_, rfl, h⟩
def fX1_mark_b59 (l1_13 : Int32) (l2_14 : Int32) (M : gM) (Q : Int32 → gM → Prop) : Prop :=
  gk M 16 = 1 ∧ gdr (gR M 16 27) (fun a16 => gk M a16 = 48 ∧ vp_in l1_13 (gl M a16) ∧ gdr (gR M a16 l1_13.toNatClampNeg) (fun a20 => (if l2_14 = 0 then gk M a20 = 40 ∧ vp_in 0 (gl M a20) ∧ fX1_mark_b87 l2_14 a20 (gsI M a20 0 (gI M 16 22)) Q else gk M a20 = 40 ∧ vp_in 0 (gl M a20) ∧ fX1_mark_b87 l2_14 a20 (gsI M 16 22 (gI M a20 0)) Q)))
theorem wX1_mark_b59 {kf : Nat} {G : gG} {w : gM → Nat → List (Nat × Value) → List Value → Prop} {Q : Int32 → gM → Prop} (hw : gX yX1_mark cX1_mark 7 (Option.some FieldType.boolean) [] kf G (gQi Q) gE0 w) (hkf : 2 ≤ kf)  {l1_13 : Int32} {l2_14 : Int32} {M : gM}  (h : fX1_mark_b59 l1_13 l2_14 M Q) : w M 59 [(0, .ref (gA G 16)), (1, .int l1_13), (2, .int l2_14)] [] := by
  unfold fX1_mark_b59 at h
  refine g_aload_n hw 0 dX1_mark_59 rfl ?_
  obtain ⟨hk15, h⟩ := h
  obtain ⟨a16, e17, h⟩ := h
  refine gfX1_103 (q := some a16) hw rfl dX1_mark_60 hk15 e17 ?_
  refine g_iload_n hw 1 dX1_mark_63 rfl ?_
  obtain ⟨hk18, h⟩ := h
  obtain ⟨hi19, h⟩ := h
  obtain ⟨a20, e21, h⟩ := h
  refine g_aaldS (n := l1_13.toNatClampNeg) hw 8 dX1_mark_64 ⟨rfl, rfl⟩ hk18 hi19 rfl e21 ?_
  refine g_astore_n hw (lv2 := [(0, .ref (gA G 16)), (2, .int l2_14), (3, .ref (gA G a20))]) [1, 3, 0] dX1_mark_65 rfl rfl ?_
  refine g_iload_n hw 1 dX1_mark_66 rfl ?_
  refine g_if_eq (tgt := 80) hw dX1_mark_67 (by decide) (fun hb22 => ?_) (fun hb22 => ?_)
  · have h := gT h hb22
    refine g_aload_n hw 2 dX1_mark_80 rfl ?_
    refine g_iconst (v := 0) hw dX1_mark_81 (by decide) ?_
    refine g_aload_n hw 0 dX1_mark_82 rfl ?_
    refine gfX1_322 hw rfl dX1_mark_83 hk15 ?_
    obtain ⟨hk23, h⟩ := h
    obtain ⟨hi24, h⟩ := h
    refine g_iast (n := 0) hw dX1_mark_86 hk23 hi24 rfl ?_
    exact wX1_mark_b87 hw hkf h
  · have h := gF h hb22
    refine g_aload_n hw 0 dX1_mark_70 rfl ?_
    refine g_aload_n hw 2 dX1_mark_71 rfl ?_
    refine g_iconst (v := 0) hw dX1_mark_72 (by decide) ?_
    obtain ⟨hk59, h⟩ := h
    obtain ⟨hi60, h⟩ := h
    refine g_iald (n := 0) hw dX1_mark_73 hk59 hi60 rfl ?_
    refine pfX1_322 hw rfl dX1_mark_74 hk15 ?_
    refine g_goto (tgt := 87) hw dX1_mark_77 (by decide) ?_
    exact wX1_mark_b87 hw hkf h
def fX1_mark_b39 (l1_5 : Int32) (l2_6 : Int32) (M : gM) (Q : Int32 → gM → Prop) : Prop :=
  gk M 16 = 1 ∧ gdr (gR M 16 27) (fun a8 => gk M a8 = 48 ∧ vp_in l1_5 (gl M a8) ∧ (if (gR M a8 l1_5.toNatClampNeg) = none then gdr (gR M 16 27) (fun a61 => gn M < gLC ∧ gs M + 1153 ≤ gLS ∧ gk (gnew M 40 1153 1153) a61 = 48 ∧ vp_in l1_5 (gl (gnew M 40 1153 1153) a61) ∧ gk (gnew M 40 1153 1153) (gn M) = 40 ∧ fX1_mark_b59 l1_5 l2_6 (gsR (gnew M 40 1153 1153) a61 l1_5.toNatClampNeg (some (gn M))) Q) else fX1_mark_b59 l1_5 l2_6 M Q))
theorem wX1_mark_b39 {kf : Nat} {G : gG} {w : gM → Nat → List (Nat × Value) → List Value → Prop} {Q : Int32 → gM → Prop} (hw : gX yX1_mark cX1_mark 7 (Option.some FieldType.boolean) [] kf G (gQi Q) gE0 w) (hkf : 2 ≤ kf)  {l1_5 : Int32} {l2_6 : Int32} {M : gM}  (h : fX1_mark_b39 l1_5 l2_6 M Q) : w M 39 [(0, .ref (gA G 16)), (1, .int l1_5), (2, .int l2_6)] [] := by
  unfold fX1_mark_b39 at h
  refine g_aload_n hw 0 dX1_mark_39 rfl ?_
  obtain ⟨hk7, h⟩ := h
  obtain ⟨a8, e9, h⟩ := h
  refine gfX1_103 (q := some a8) hw rfl dX1_mark_40 hk7 e9 ?_
  refine g_iload_n hw 1 dX1_mark_43 rfl ?_
  obtain ⟨hk10, h⟩ := h
  obtain ⟨hi11, h⟩ := h
  refine g_aald (n := l1_5.toNatClampNeg) hw 8 dX1_mark_44 ⟨rfl, rfl⟩ hk10 hi11 rfl ?_
  refine g_ifnonnullM (tgt := 59) hw dX1_mark_45 (by decide) (fun hb12 => ?_) (fun hb12 => ?_)
  · have h := gF h hb12
    exact wX1_mark_b59 hw hkf h
  · have h := gT h hb12
    refine g_aload_n hw 0 dX1_mark_48 rfl ?_
    obtain ⟨a61, e62, h⟩ := h
    refine gfX1_103 (q := some a61) hw rfl dX1_mark_49 hk7 e62 ?_
    refine g_iload_n hw 1 dX1_mark_52 rfl ?_
    refine g_sipush (v := 1153) hw dX1_mark_53 (by decide) ?_
    obtain ⟨hc63, h⟩ := h
    obtain ⟨hc64, h⟩ := h
    refine g_newa (N := 1153) hw 0 dX1_mark_56 q166 rfl (by decide) rfl (by decide) rfl (by decide) hc63 hc64 ?_
    obtain ⟨hk65, h⟩ := h
    obtain ⟨hi66, h⟩ := h
    obtain ⟨hk67, h⟩ := h
    refine g_aastA (n := l1_5.toNatClampNeg) hw dX1_mark_58 hk65 hi66 rfl hk67 ?_
    exact wX1_mark_b59 hw hkf h
def fX1_mark (p1 : Int32) (p2 : Int32) (M : gM) (Q : Int32 → gM → Prop) : Prop :=
  fX1_in p1 0 3 M (fun r2 M1 => (if r2 = 0 then Q 0 M1 else (if p2 = 0 then fX1_mark_b39 p1 p2 M1 Q else gk M1 16 = 1 ∧ gdr (gR M1 16 27) (fun a69 => gk M1 a69 = 48 ∧ vp_in p1 (gl M1 a69) ∧ (if (gR M1 a69 p1.toNatClampNeg) = none then Q 0 M1 else gdr (gR M1 16 27) (fun a74 => gk M1 a74 = 48 ∧ vp_in p1 (gl M1 a74) ∧ gdr (gR M1 a74 p1.toNatClampNeg) (fun a78 => gk M1 a78 = 40 ∧ vp_in 0 (gl M1 a78) ∧ (if (gI M1 a78 0) ≤ (gI M1 16 22) then fX1_mark_b39 p1 p2 M1 Q else Q 0 M1))))))))
theorem mX1_mark {kf : Nat} (hkf : 2 ≤ kf) (G : gG) (p1 : Int32) (p2 : Int32) (M : gM) (Q : Int32 → gM → Prop) (h : fX1_mark p1 p2 M Q) : gMet yX1_mark cX1_mark 7 (Option.some FieldType.boolean) kf G M [.ref (gA G 16), .int p1, .int p2] (gQi Q) gE0 := by
  refine g_intro (lv := [(0, .ref (gA G 16)), (1, .int p1), (2, .int p2)]) (by decide) rfl rfl (fun w hw => ?_)
  unfold fX1_mark at h
  refine g_iload_n hw 1 dX1_mark_0 rfl ?_
  refine g_iconst (v := 0) hw dX1_mark_1 (by decide) ?_
  refine g_iconst (v := 3) hw dX1_mark_2 (by decide) ?_
  refine sX1_112 hw rfl dX1_mark_3 rfl (gK2 hkf) h (fun r2 M1 h => ?_)
  refine g_if_eq (tgt := 37) hw dX1_mark_6 (by decide) (fun hb3 => ?_) (fun hb3 => ?_)
  · have h := gT h hb3
    refine g_iconst (v := 0) hw dX1_mark_37 (by decide) ?_
    exact g_iret hw dX1_mark_38 (by decide +kernel) ⟨_, rfl, h⟩
  · have h := gF h hb3
    refine g_iload_n hw 2 dX1_mark_9 rfl ?_
    refine g_if_eq (tgt := 39) hw dX1_mark_10 (by decide) (fun hb4 => ?_) (fun hb4 => ?_)
    · have h := gT h hb4
      exact wX1_mark_b39 hw hkf h
    · have h := gF h hb4
      refine g_aload_n hw 0 dX1_mark_13 rfl ?_
      obtain ⟨hk68, h⟩ := h
      obtain ⟨a69, e70, h⟩ := h
      refine gfX1_103 (q := some a69) hw rfl dX1_mark_14 hk68 e70 ?_
      refine g_iload_n hw 1 dX1_mark_17 rfl ?_
      obtain ⟨hk71, h⟩ := h
      obtain ⟨hi72, h⟩ := h
      refine g_aald (n := p1.toNatClampNeg) hw 8 dX1_mark_18 ⟨rfl, rfl⟩ hk71 hi72 rfl ?_
      refine g_ifnullM (tgt := 37) hw dX1_mark_19 (by decide) (fun hb73 => ?_) (fun hb73 => ?_)
      · have h := gT h hb73
        refine g_iconst (v := 0) hw dX1_mark_37 (by decide) ?_
        exact g_iret hw dX1_mark_38 (by decide +kernel) ⟨_, rfl, h⟩
      · have h := gF h hb73
        refine g_aload_n hw 0 dX1_mark_22 rfl ?_
        obtain ⟨a74, e75, h⟩ := h
        refine gfX1_103 (q := some a74) hw rfl dX1_mark_23 hk68 e75 ?_
        refine g_iload_n hw 1 dX1_mark_26 rfl ?_
        obtain ⟨hk76, h⟩ := h
        obtain ⟨hi77, h⟩ := h
        obtain ⟨a78, e79, h⟩ := h
        refine g_aaldS (n := p1.toNatClampNeg) hw 8 dX1_mark_27 ⟨rfl, rfl⟩ hk76 hi77 rfl e79 ?_
        refine g_iconst (v := 0) hw dX1_mark_28 (by decide) ?_
        obtain ⟨hk80, h⟩ := h
        obtain ⟨hi81, h⟩ := h
        refine g_iald (n := 0) hw dX1_mark_29 hk80 hi81 rfl ?_
        refine g_aload_n hw 0 dX1_mark_30 rfl ?_
        refine gfX1_322 hw rfl dX1_mark_31 hk68 ?_
        refine g_icmp_le (tgt := 39) hw dX1_mark_34 (by decide) (fun hb82 => ?_) (fun hb82 => ?_)
        · have h := gT h hb82
          exact wX1_mark_b39 hw hkf h
        · have h := gF h hb82
          refine g_iconst (v := 0) hw dX1_mark_37 (by decide) ?_
          exact g_iret hw dX1_mark_38 (by decide +kernel) ⟨_, rfl, h⟩
def fX1_count_b87 (R50 : Int32 → Int32 → gM → Prop) (l1_1 : Int32) (l2_14 : Int32) (l3_15 : Int32) (M : gM) (Q : Int32 → gM → Prop) : Prop :=
  R50 l2_14 (l3_15 + 1) M
theorem wX1_count_b87 {kf : Nat} {G : gG} {w : gM → Nat → List (Nat × Value) → List Value → Prop} {Q : Int32 → gM → Prop} (hw : gX yX1_count cX1_count 5 (Option.some FieldType.int) [] kf G (gQi Q) gE0 w) (hkf : 1 ≤ kf) {R50 : Int32 → Int32 → gM → Prop} {l1_1 : Int32} {l2_14 : Int32} {l3_15 : Int32} {M : gM} (hR50 : ∀ (v0 : Int32) (v1 : Int32) (M : gM), R50 v0 v1 M → w M 50 [(0, .ref (gA G 16)), (1, .int l1_1), (2, .int v0), (3, .int v1)] []) (h : fX1_count_b87 R50 l1_1 l2_14 l3_15 M Q) : w M 87 [(0, .ref (gA G 16)), (1, .int l1_1), (2, .int l2_14), (3, .int l3_15)] [] := by
  unfold fX1_count_b87 at h
  refine g_iinc hw (lv2 := [(0, .ref (gA G 16)), (1, .int l1_1), (2, .int l2_14), (3, .int (l3_15 + 1))]) 3 [1, 2, 3, 0] dX1_count_87 rfl (by decide) rfl rfl ?_
  refine g_goto (tgt := 50) hw dX1_count_90 (by decide) ?_
  exact hR50 l2_14 (l3_15 + 1) M h
def fX1_count_b84 (R50 : Int32 → Int32 → gM → Prop) (l1_1 : Int32) (l2_17 : Int32) (l3_18 : Int32) (M : gM) (Q : Int32 → gM → Prop) : Prop :=
  fX1_count_b87 R50 l1_1 (l2_17 + 1) l3_18 M Q
theorem wX1_count_b84 {kf : Nat} {G : gG} {w : gM → Nat → List (Nat × Value) → List Value → Prop} {Q : Int32 → gM → Prop} (hw : gX yX1_count cX1_count 5 (Option.some FieldType.int) [] kf G (gQi Q) gE0 w) (hkf : 1 ≤ kf) {R50 : Int32 → Int32 → gM → Prop} {l1_1 : Int32} {l2_17 : Int32} {l3_18 : Int32} {M : gM} (hR50 : ∀ (v0 : Int32) (v1 : Int32) (M : gM), R50 v0 v1 M → w M 50 [(0, .ref (gA G 16)), (1, .int l1_1), (2, .int v0), (3, .int v1)] []) (h : fX1_count_b84 R50 l1_1 l2_17 l3_18 M Q) : w M 84 [(0, .ref (gA G 16)), (1, .int l1_1), (2, .int l2_17), (3, .int l3_18)] [] := by
  unfold fX1_count_b84 at h
  refine g_iinc hw (lv2 := [(0, .ref (gA G 16)), (1, .int l1_1), (2, .int (l2_17 + 1)), (3, .int l3_18)]) 2 [1, 2, 0, 3] dX1_count_84 rfl (by decide) rfl rfl ?_
  exact wX1_count_b87 hw hkf hR50 h
def fX1_count_L50s (R50 : Int32 → Int32 → gM → Prop) (K93_50 : Int32 → gM → Prop) (l1_1 : Int32) (l2_2 : Int32) (l3_3 : Int32) (M : gM) (Q : Int32 → gM → Prop) : Prop :=
  (if 24 ≤ l3_3 then K93_50 l2_2 M else gk M 16 = 1 ∧ gdr (gR M 16 0) (fun a6 => gk M a6 = 44 ∧ vp_in l3_3 (gl M a6) ∧ gdr (gR M a6 l3_3.toNatClampNeg) (fun a10 => gk M a10 = 4 ∧ (if (gI M a10 3) = 0 then fX1_count_b87 R50 l1_1 l2_2 l3_3 M Q else (if l1_1 = 0 then fX1_count_b84 R50 l1_1 l2_2 l3_3 M Q else gdr (gR M 16 0) (fun a19 => gk M a19 = 44 ∧ vp_in l3_3 (gl M a19) ∧ gdr (gR M a19 l3_3.toNatClampNeg) (fun a23 => gk M a23 = 4 ∧ (if (gI M a23 4) = 0 then fX1_count_b87 R50 l1_1 l2_2 l3_3 M Q else fX1_count_b84 R50 l1_1 l2_2 l3_3 M Q))))))))
def fX1_count_L50 (K93_50 : Int32 → gM → Prop) (l1_1 : Int32) (Q : Int32 → gM → Prop) : Nat → Int32 → Int32 → gM → Prop
  | 0 => fun _ _ _ => False
  | n + 1 => fun l2_2 l3_3 M => fX1_count_L50s (fX1_count_L50 K93_50 l1_1 Q n) K93_50 l1_1 l2_2 l3_3 M Q
theorem wX1_count_L50s {kf : Nat} {G : gG} {w : gM → Nat → List (Nat × Value) → List Value → Prop} {Q : Int32 → gM → Prop} (hw : gX yX1_count cX1_count 5 (Option.some FieldType.int) [] kf G (gQi Q) gE0 w) (hkf : 1 ≤ kf) {R50 : Int32 → Int32 → gM → Prop} {K93_50 : Int32 → gM → Prop} {l1_1 : Int32} {l2_2 : Int32} {l3_3 : Int32} {M : gM} (hR50 : ∀ (v0 : Int32) (v1 : Int32) (M : gM), R50 v0 v1 M → w M 50 [(0, .ref (gA G 16)), (1, .int l1_1), (2, .int v0), (3, .int v1)] []) (hK93_50 : ∀ (v0 : Int32) (M : gM), K93_50 v0 M → w M 93 [(2, .int v0)] []) (h : fX1_count_L50s R50 K93_50 l1_1 l2_2 l3_3 M Q) : w M 50 [(0, .ref (gA G 16)), (1, .int l1_1), (2, .int l2_2), (3, .int l3_3)] [] := by
  unfold fX1_count_L50s at h
  refine g_iload_n hw 3 dX1_count_50 rfl ?_
  refine g_bipush (v := 24) hw dX1_count_51 (by decide) ?_
  refine g_icmp_ge (tgt := 93) hw dX1_count_53 (by decide) (fun hb4 => ?_) (fun hb4 => ?_)
  · have h := gT h hb4
    refine g_sub hw (lv2 := [(2, .int l2_2)]) [2] rfl ?_
    exact hK93_50 l2_2 M h
  · have h := gF h hb4
    refine g_aload_n hw 0 dX1_count_56 rfl ?_
    obtain ⟨hk5, h⟩ := h
    obtain ⟨a6, e7, h⟩ := h
    refine gfX1_21 (q := some a6) hw rfl dX1_count_57 hk5 e7 ?_
    refine g_iload_n hw 3 dX1_count_60 rfl ?_
    obtain ⟨hk8, h⟩ := h
    obtain ⟨hi9, h⟩ := h
    obtain ⟨a10, e11, h⟩ := h
    refine g_aaldS (n := l3_3.toNatClampNeg) hw 4 dX1_count_61 ⟨rfl, rfl⟩ hk8 hi9 rfl e11 ?_
    obtain ⟨hk12, h⟩ := h
    refine gfX1_116 hw rfl dX1_count_62 hk12 ?_
    refine g_if_eq (tgt := 87) hw dX1_count_65 (by decide) (fun hb13 => ?_) (fun hb13 => ?_)
    · have h := gT h hb13
      exact wX1_count_b87 hw hkf hR50 h
    · have h := gF h hb13
      refine g_iload_n hw 1 dX1_count_68 rfl ?_
      refine g_if_eq (tgt := 84) hw dX1_count_69 (by decide) (fun hb16 => ?_) (fun hb16 => ?_)
      · have h := gT h hb16
        exact wX1_count_b84 hw hkf hR50 h
      · have h := gF h hb16
        refine g_aload_n hw 0 dX1_count_72 rfl ?_
        obtain ⟨a19, e20, h⟩ := h
        refine gfX1_21 (q := some a19) hw rfl dX1_count_73 hk5 e20 ?_
        refine g_iload_n hw 3 dX1_count_76 rfl ?_
        obtain ⟨hk21, h⟩ := h
        obtain ⟨hi22, h⟩ := h
        obtain ⟨a23, e24, h⟩ := h
        refine g_aaldS (n := l3_3.toNatClampNeg) hw 4 dX1_count_77 ⟨rfl, rfl⟩ hk21 hi22 rfl e24 ?_
        obtain ⟨hk25, h⟩ := h
        refine gfX1_133 hw rfl dX1_count_78 hk25 ?_
        refine g_if_eq (tgt := 87) hw dX1_count_81 (by decide) (fun hb26 => ?_) (fun hb26 => ?_)
        · have h := gT h hb26
          exact wX1_count_b87 hw hkf hR50 h
        · have h := gF h hb26
          exact wX1_count_b84 hw hkf hR50 h
theorem wX1_count_L50 {kf : Nat} {G : gG} {w : gM → Nat → List (Nat × Value) → List Value → Prop} {Q : Int32 → gM → Prop} (hw : gX yX1_count cX1_count 5 (Option.some FieldType.int) [] kf G (gQi Q) gE0 w) (hkf : 1 ≤ kf) {K93_50 : Int32 → gM → Prop} {l1_1 : Int32} (hK93_50 : ∀ (v0 : Int32) (M : gM), K93_50 v0 M → w M 93 [(2, .int v0)] []) : ∀ (n : Nat) (l2_2 : Int32) (l3_3 : Int32) (M : gM), fX1_count_L50 K93_50 l1_1 Q n l2_2 l3_3 M → w M 50 [(0, .ref (gA G 16)), (1, .int l1_1), (2, .int l2_2), (3, .int l3_3)] [] := by
  intro n
  induction n with
  | zero => intro l2_2 l3_3 M h; exact h.elim
  | succ n ih => intro l2_2 l3_3 M h; exact wX1_count_L50s hw hkf ih hK93_50 h
def fX1_count_b152 (R106 : Int32 → Int32 → gM → Prop) (l1_29 : Int32) (l2_54 : Int32) (l3_33 : Int32) (l4_55 : Int32) (M : gM) (Q : Int32 → gM → Prop) : Prop :=
  R106 l2_54 (l4_55 + 1) M
theorem wX1_count_b152 {kf : Nat} {G : gG} {w : gM → Nat → List (Nat × Value) → List Value → Prop} {Q : Int32 → gM → Prop} (hw : gX yX1_count cX1_count 5 (Option.some FieldType.int) [] kf G (gQi Q) gE0 w) (hkf : 1 ≤ kf) {R106 : Int32 → Int32 → gM → Prop} {l1_29 : Int32} {l2_54 : Int32} {l3_33 : Int32} {l4_55 : Int32} {M : gM} (hR106 : ∀ (v0 : Int32) (v1 : Int32) (M : gM), R106 v0 v1 M → w M 106 [(0, .ref (gA G 16)), (1, .int l1_29), (2, .int v0), (3, .int l3_33), (4, .int v1)] []) (h : fX1_count_b152 R106 l1_29 l2_54 l3_33 l4_55 M Q) : w M 152 [(0, .ref (gA G 16)), (1, .int l1_29), (2, .int l2_54), (3, .int l3_33), (4, .int l4_55)] [] := by
  unfold fX1_count_b152 at h
  refine g_iinc hw (lv2 := [(0, .ref (gA G 16)), (1, .int l1_29), (2, .int l2_54), (3, .int l3_33), (4, .int (l4_55 + 1))]) 4 [1, 2, 3, 4, 0] dX1_count_152 rfl (by decide) rfl rfl ?_
  refine g_goto (tgt := 106) hw dX1_count_155 (by decide) ?_
  exact hR106 l2_54 (l4_55 + 1) M h
def fX1_count_b145 (R106 : Int32 → Int32 → gM → Prop) (l1_29 : Int32) (l2_50 : Int32) (l3_33 : Int32) (l4_51 : Int32) (s0_52 : Int32) (M : gM) (Q : Int32 → gM → Prop) : Prop :=
  (if s0_52 = (-1) then fX1_count_b152 R106 l1_29 l2_50 l3_33 l4_51 M Q else fX1_count_b152 R106 l1_29 (l2_50 + 1) l3_33 l4_51 M Q)
theorem wX1_count_b145 {kf : Nat} {G : gG} {w : gM → Nat → List (Nat × Value) → List Value → Prop} {Q : Int32 → gM → Prop} (hw : gX yX1_count cX1_count 5 (Option.some FieldType.int) [] kf G (gQi Q) gE0 w) (hkf : 1 ≤ kf) {R106 : Int32 → Int32 → gM → Prop} {l1_29 : Int32} {l2_50 : Int32} {l3_33 : Int32} {l4_51 : Int32} {s0_52 : Int32} {M : gM} (hR106 : ∀ (v0 : Int32) (v1 : Int32) (M : gM), R106 v0 v1 M → w M 106 [(0, .ref (gA G 16)), (1, .int l1_29), (2, .int v0), (3, .int l3_33), (4, .int v1)] []) (h : fX1_count_b145 R106 l1_29 l2_50 l3_33 l4_51 s0_52 M Q) : w M 145 [(0, .ref (gA G 16)), (1, .int l1_29), (2, .int l2_50), (3, .int l3_33), (4, .int l4_51)] [.int s0_52] := by
  unfold fX1_count_b145 at h
  refine g_iconst (v := (-1)) hw dX1_count_145 (by decide) ?_
  refine g_icmp_eq (tgt := 152) hw dX1_count_146 (by decide) (fun hb53 => ?_) (fun hb53 => ?_)
  · have h := gT h hb53
    exact wX1_count_b152 hw hkf hR106 h
  · have h := gF h hb53
    refine g_iinc hw (lv2 := [(0, .ref (gA G 16)), (1, .int l1_29), (2, .int (l2_50 + 1)), (3, .int l3_33), (4, .int l4_51)]) 2 [1, 2, 0, 3, 4] dX1_count_149 rfl (by decide) rfl rfl ?_
    exact wX1_count_b152 hw hkf hR106 h
def fX1_count_L106s (R106 : Int32 → Int32 → gM → Prop) (K158_106 : Int32 → gM → Prop) (l1_29 : Int32) (l3_33 : Int32) (l2_34 : Int32) (l4_35 : Int32) (M : gM) (Q : Int32 → gM → Prop) : Prop :=
  (if 12 ≤ l4_35 then K158_106 l2_34 M else (if l1_29 = 1 then gk M 16 = 1 ∧ gdr (gR M 16 0) (fun a57 => gk M a57 = 44 ∧ vp_in l3_33 (gl M a57) ∧ gdr (gR M a57 l3_33.toNatClampNeg) (fun a61 => gk M a61 = 4 ∧ gdr (gR M a61 5) (fun a64 => gk M a64 = 40 ∧ vp_in l4_35 (gl M a64) ∧ fX1_count_b145 R106 l1_29 l2_34 l3_33 l4_35 (gI M a64 l4_35.toNatClampNeg) M Q))) else gk M 16 = 1 ∧ gdr (gR M 16 0) (fun a39 => gk M a39 = 44 ∧ vp_in l3_33 (gl M a39) ∧ gdr (gR M a39 l3_33.toNatClampNeg) (fun a43 => gk M a43 = 4 ∧ gdr (gR M a43 7) (fun a46 => gk M a46 = 40 ∧ vp_in l4_35 (gl M a46) ∧ fX1_count_b145 R106 l1_29 l2_34 l3_33 l4_35 (gI M a46 l4_35.toNatClampNeg) M Q)))))
def fX1_count_L106 (K158_106 : Int32 → gM → Prop) (l1_29 : Int32) (l3_33 : Int32) (Q : Int32 → gM → Prop) : Nat → Int32 → Int32 → gM → Prop
  | 0 => fun _ _ _ => False
  | n + 1 => fun l2_34 l4_35 M => fX1_count_L106s (fX1_count_L106 K158_106 l1_29 l3_33 Q n) K158_106 l1_29 l3_33 l2_34 l4_35 M Q
theorem wX1_count_L106s {kf : Nat} {G : gG} {w : gM → Nat → List (Nat × Value) → List Value → Prop} {Q : Int32 → gM → Prop} (hw : gX yX1_count cX1_count 5 (Option.some FieldType.int) [] kf G (gQi Q) gE0 w) (hkf : 1 ≤ kf) {R106 : Int32 → Int32 → gM → Prop} {K158_106 : Int32 → gM → Prop} {l1_29 : Int32} {l3_33 : Int32} {l2_34 : Int32} {l4_35 : Int32} {M : gM} (hR106 : ∀ (v0 : Int32) (v1 : Int32) (M : gM), R106 v0 v1 M → w M 106 [(0, .ref (gA G 16)), (1, .int l1_29), (2, .int v0), (3, .int l3_33), (4, .int v1)] []) (hK158_106 : ∀ (v0 : Int32) (M : gM), K158_106 v0 M → w M 158 [(0, .ref (gA G 16)), (1, .int l1_29), (2, .int v0), (3, .int l3_33)] []) (h : fX1_count_L106s R106 K158_106 l1_29 l3_33 l2_34 l4_35 M Q) : w M 106 [(0, .ref (gA G 16)), (1, .int l1_29), (2, .int l2_34), (3, .int l3_33), (4, .int l4_35)] [] := by
  unfold fX1_count_L106s at h
  refine g_iload hw 4 dX1_count_106 rfl ?_
  refine g_bipush (v := 12) hw dX1_count_108 (by decide) ?_
  refine g_icmp_ge (tgt := 158) hw dX1_count_110 (by decide) (fun hb36 => ?_) (fun hb36 => ?_)
  · have h := gT h hb36
    refine g_sub hw (lv2 := [(0, .ref (gA G 16)), (1, .int l1_29), (2, .int l2_34), (3, .int l3_33)]) [0, 1, 2, 3] rfl ?_
    exact hK158_106 l2_34 M h
  · have h := gF h hb36
    refine g_iload_n hw 1 dX1_count_113 rfl ?_
    refine g_iconst (v := 1) hw dX1_count_114 (by decide) ?_
    refine g_icmp_ne (tgt := 133) hw dX1_count_115 (by decide) (fun hb37 => ?_) (fun hb37 => ?_)
    · have h := gF h hb37
      refine g_aload_n hw 0 dX1_count_133 rfl ?_
      obtain ⟨hk38, h⟩ := h
      obtain ⟨a39, e40, h⟩ := h
      refine gfX1_21 (q := some a39) hw rfl dX1_count_134 hk38 e40 ?_
      refine g_iload_n hw 3 dX1_count_137 rfl ?_
      obtain ⟨hk41, h⟩ := h
      obtain ⟨hi42, h⟩ := h
      obtain ⟨a43, e44, h⟩ := h
      refine g_aaldS (n := l3_33.toNatClampNeg) hw 4 dX1_count_138 ⟨rfl, rfl⟩ hk41 hi42 rfl e44 ?_
      obtain ⟨hk45, h⟩ := h
      obtain ⟨a46, e47, h⟩ := h
      refine gfX1_149 (q := some a46) hw rfl dX1_count_139 hk45 e47 ?_
      refine g_iload hw 4 dX1_count_142 rfl ?_
      obtain ⟨hk48, h⟩ := h
      obtain ⟨hi49, h⟩ := h
      refine g_iald (n := l4_35.toNatClampNeg) hw dX1_count_144 hk48 hi49 rfl ?_
      exact wX1_count_b145 hw hkf hR106 h
    · have h := gT h hb37
      refine g_aload_n hw 0 dX1_count_118 rfl ?_
      obtain ⟨hk56, h⟩ := h
      obtain ⟨a57, e58, h⟩ := h
      refine gfX1_21 (q := some a57) hw rfl dX1_count_119 hk56 e58 ?_
      refine g_iload_n hw 3 dX1_count_122 rfl ?_
      obtain ⟨hk59, h⟩ := h
      obtain ⟨hi60, h⟩ := h
      obtain ⟨a61, e62, h⟩ := h
      refine g_aaldS (n := l3_33.toNatClampNeg) hw 4 dX1_count_123 ⟨rfl, rfl⟩ hk59 hi60 rfl e62 ?_
      obtain ⟨hk63, h⟩ := h
      obtain ⟨a64, e65, h⟩ := h
      refine gfX1_139 (q := some a64) hw rfl dX1_count_124 hk63 e65 ?_
      refine g_iload hw 4 dX1_count_127 rfl ?_
      obtain ⟨hk66, h⟩ := h
      obtain ⟨hi67, h⟩ := h
      refine g_iald (n := l4_35.toNatClampNeg) hw dX1_count_129 hk66 hi67 rfl ?_
      refine g_goto (tgt := 145) hw dX1_count_130 (by decide) ?_
      exact wX1_count_b145 hw hkf hR106 h
theorem wX1_count_L106 {kf : Nat} {G : gG} {w : gM → Nat → List (Nat × Value) → List Value → Prop} {Q : Int32 → gM → Prop} (hw : gX yX1_count cX1_count 5 (Option.some FieldType.int) [] kf G (gQi Q) gE0 w) (hkf : 1 ≤ kf) {K158_106 : Int32 → gM → Prop} {l1_29 : Int32} {l3_33 : Int32} (hK158_106 : ∀ (v0 : Int32) (M : gM), K158_106 v0 M → w M 158 [(0, .ref (gA G 16)), (1, .int l1_29), (2, .int v0), (3, .int l3_33)] []) : ∀ (n : Nat) (l2_34 : Int32) (l4_35 : Int32) (M : gM), fX1_count_L106 K158_106 l1_29 l3_33 Q n l2_34 l4_35 M → w M 106 [(0, .ref (gA G 16)), (1, .int l1_29), (2, .int l2_34), (3, .int l3_33), (4, .int l4_35)] [] := by
  intro n
  induction n with
  | zero => intro l2_34 l4_35 M h; exact h.elim
  | succ n ih => intro l2_34 l4_35 M h; exact wX1_count_L106s hw hkf ih hK158_106 h
def fX1_count_L97s (R97 : Int32 → Int32 → gM → Prop) (K164_97 : Int32 → gM → Prop) (l1_29 : Int32) (l2_30 : Int32) (l3_31 : Int32) (M : gM) (Q : Int32 → gM → Prop) : Prop :=
  (if 24 ≤ l3_31 then K164_97 l2_30 M else ∃ n, fX1_count_L106 (fun l2_68 M69 => R97 l2_68 (l3_31 + 1) M69) l1_29 l3_31 Q n l2_30 0 M)
def fX1_count_L97 (K164_97 : Int32 → gM → Prop) (l1_29 : Int32) (Q : Int32 → gM → Prop) : Nat → Int32 → Int32 → gM → Prop
  | 0 => fun _ _ _ => False
  | n + 1 => fun l2_30 l3_31 M => fX1_count_L97s (fX1_count_L97 K164_97 l1_29 Q n) K164_97 l1_29 l2_30 l3_31 M Q
theorem wX1_count_L97s {kf : Nat} {G : gG} {w : gM → Nat → List (Nat × Value) → List Value → Prop} {Q : Int32 → gM → Prop} (hw : gX yX1_count cX1_count 5 (Option.some FieldType.int) [] kf G (gQi Q) gE0 w) (hkf : 1 ≤ kf) {R97 : Int32 → Int32 → gM → Prop} {K164_97 : Int32 → gM → Prop} {l1_29 : Int32} {l2_30 : Int32} {l3_31 : Int32} {M : gM} (hR97 : ∀ (v0 : Int32) (v1 : Int32) (M : gM), R97 v0 v1 M → w M 97 [(0, .ref (gA G 16)), (1, .int l1_29), (2, .int v0), (3, .int v1)] []) (hK164_97 : ∀ (v0 : Int32) (M : gM), K164_97 v0 M → w M 164 [(2, .int v0)] []) (h : fX1_count_L97s R97 K164_97 l1_29 l2_30 l3_31 M Q) : w M 97 [(0, .ref (gA G 16)), (1, .int l1_29), (2, .int l2_30), (3, .int l3_31)] [] := by
  unfold fX1_count_L97s at h
  refine g_iload_n hw 3 dX1_count_97 rfl ?_
  refine g_bipush (v := 24) hw dX1_count_98 (by decide) ?_
  refine g_icmp_ge (tgt := 164) hw dX1_count_100 (by decide) (fun hb32 => ?_) (fun hb32 => ?_)
  · have h := gT h hb32
    refine g_sub hw (lv2 := [(2, .int l2_30)]) [2] rfl ?_
    exact hK164_97 l2_30 M h
  · have h := gF h hb32
    refine g_iconst (v := 0) hw dX1_count_103 (by decide) ?_
    refine g_istore hw (lv2 := [(0, .ref (gA G 16)), (1, .int l1_29), (2, .int l2_30), (3, .int l3_31), (4, .int 0)]) [1, 2, 3, 4, 0] dX1_count_104 rfl rfl ?_
    obtain ⟨n9, h⟩ := h
    refine wX1_count_L106 hw hkf (fun l2_68 M69 h => ?_) n9 l2_30 0 M h
    refine g_iinc hw (lv2 := [(0, .ref (gA G 16)), (1, .int l1_29), (2, .int l2_68), (3, .int (l3_31 + 1))]) 3 [1, 2, 3, 0] dX1_count_158 rfl (by decide) rfl rfl ?_
    refine g_goto (tgt := 97) hw dX1_count_161 (by decide) ?_
    exact hR97 l2_68 (l3_31 + 1) M69 h
theorem wX1_count_L97 {kf : Nat} {G : gG} {w : gM → Nat → List (Nat × Value) → List Value → Prop} {Q : Int32 → gM → Prop} (hw : gX yX1_count cX1_count 5 (Option.some FieldType.int) [] kf G (gQi Q) gE0 w) (hkf : 1 ≤ kf) {K164_97 : Int32 → gM → Prop} {l1_29 : Int32} (hK164_97 : ∀ (v0 : Int32) (M : gM), K164_97 v0 M → w M 164 [(2, .int v0)] []) : ∀ (n : Nat) (l2_30 : Int32) (l3_31 : Int32) (M : gM), fX1_count_L97 K164_97 l1_29 Q n l2_30 l3_31 M → w M 97 [(0, .ref (gA G 16)), (1, .int l1_29), (2, .int l2_30), (3, .int l3_31)] [] := by
  intro n
  induction n with
  | zero => intro l2_30 l3_31 M h; exact h.elim
  | succ n ih => intro l2_30 l3_31 M h; exact wX1_count_L97s hw hkf ih hK164_97 h
def fX1_count_b193 (R173 : Int32 → Int32 → gM → Prop) (l2_84 : Int32) (l3_85 : Int32) (M : gM) (Q : Int32 → gM → Prop) : Prop :=
  R173 l2_84 (l3_85 + 1) M
theorem wX1_count_b193 {kf : Nat} {G : gG} {w : gM → Nat → List (Nat × Value) → List Value → Prop} {Q : Int32 → gM → Prop} (hw : gX yX1_count cX1_count 5 (Option.some FieldType.int) [] kf G (gQi Q) gE0 w) (hkf : 1 ≤ kf) {R173 : Int32 → Int32 → gM → Prop} {l2_84 : Int32} {l3_85 : Int32} {M : gM} (hR173 : ∀ (v0 : Int32) (v1 : Int32) (M : gM), R173 v0 v1 M → w M 173 [(0, .ref (gA G 16)), (2, .int v0), (3, .int v1)] []) (h : fX1_count_b193 R173 l2_84 l3_85 M Q) : w M 193 [(0, .ref (gA G 16)), (2, .int l2_84), (3, .int l3_85)] [] := by
  unfold fX1_count_b193 at h
  refine g_iinc hw (lv2 := [(0, .ref (gA G 16)), (2, .int l2_84), (3, .int (l3_85 + 1))]) 2 [1, 2, 0] dX1_count_193 rfl (by decide) rfl rfl ?_
  refine g_goto (tgt := 173) hw dX1_count_196 (by decide) ?_
  exact hR173 l2_84 (l3_85 + 1) M h
def fX1_count_L173s (R173 : Int32 → Int32 → gM → Prop) (K199_173 : Int32 → gM → Prop) (l2_75 : Int32) (l3_76 : Int32) (M : gM) (Q : Int32 → gM → Prop) : Prop :=
  gk M 16 = 1 ∧ (if (gI M 16 22) ≤ l3_76 then K199_173 l2_75 M else gdr (gR M 16 21) (fun a79 => gk M a79 = 43 ∧ vp_in l3_76 (gl M a79) ∧ (if (gI M a79 l3_76.toNatClampNeg) = 0 then fX1_count_b193 R173 l2_75 l3_76 M Q else fX1_count_b193 R173 (l2_75 + 1) l3_76 M Q)))
def fX1_count_L173 (K199_173 : Int32 → gM → Prop) (Q : Int32 → gM → Prop) : Nat → Int32 → Int32 → gM → Prop
  | 0 => fun _ _ _ => False
  | n + 1 => fun l2_75 l3_76 M => fX1_count_L173s (fX1_count_L173 K199_173 Q n) K199_173 l2_75 l3_76 M Q
theorem wX1_count_L173s {kf : Nat} {G : gG} {w : gM → Nat → List (Nat × Value) → List Value → Prop} {Q : Int32 → gM → Prop} (hw : gX yX1_count cX1_count 5 (Option.some FieldType.int) [] kf G (gQi Q) gE0 w) (hkf : 1 ≤ kf) {R173 : Int32 → Int32 → gM → Prop} {K199_173 : Int32 → gM → Prop} {l2_75 : Int32} {l3_76 : Int32} {M : gM} (hR173 : ∀ (v0 : Int32) (v1 : Int32) (M : gM), R173 v0 v1 M → w M 173 [(0, .ref (gA G 16)), (2, .int v0), (3, .int v1)] []) (hK199_173 : ∀ (v0 : Int32) (M : gM), K199_173 v0 M → w M 199 [(2, .int v0)] []) (h : fX1_count_L173s R173 K199_173 l2_75 l3_76 M Q) : w M 173 [(0, .ref (gA G 16)), (2, .int l2_75), (3, .int l3_76)] [] := by
  unfold fX1_count_L173s at h
  refine g_iload_n hw 2 dX1_count_173 rfl ?_
  refine g_aload_n hw 0 dX1_count_174 rfl ?_
  obtain ⟨hk77, h⟩ := h
  refine gfX1_322 hw rfl dX1_count_175 hk77 ?_
  refine g_icmp_ge (tgt := 199) hw dX1_count_178 (by decide) (fun hb78 => ?_) (fun hb78 => ?_)
  · have h := gT h hb78
    refine g_sub hw (lv2 := [(2, .int l2_75)]) [1] rfl ?_
    exact hK199_173 l2_75 M h
  · have h := gF h hb78
    refine g_aload_n hw 0 dX1_count_181 rfl ?_
    obtain ⟨a79, e80, h⟩ := h
    refine gfX1_92 (q := some a79) hw rfl dX1_count_182 hk77 e80 ?_
    refine g_iload_n hw 2 dX1_count_185 rfl ?_
    obtain ⟨hk81, h⟩ := h
    obtain ⟨hi82, h⟩ := h
    refine g_zald (n := l3_76.toNatClampNeg) hw dX1_count_186 hk81 hi82 rfl ?_
    refine g_if_eq (tgt := 193) hw dX1_count_187 (by decide) (fun hb83 => ?_) (fun hb83 => ?_)
    · have h := gT h hb83
      exact wX1_count_b193 hw hkf hR173 h
    · have h := gF h hb83
      refine g_iinc hw (lv2 := [(0, .ref (gA G 16)), (2, .int (l2_75 + 1)), (3, .int l3_76)]) 1 [1, 0, 2] dX1_count_190 rfl (by decide) rfl rfl ?_
      exact wX1_count_b193 hw hkf hR173 h
theorem wX1_count_L173 {kf : Nat} {G : gG} {w : gM → Nat → List (Nat × Value) → List Value → Prop} {Q : Int32 → gM → Prop} (hw : gX yX1_count cX1_count 5 (Option.some FieldType.int) [] kf G (gQi Q) gE0 w) (hkf : 1 ≤ kf) {K199_173 : Int32 → gM → Prop} (hK199_173 : ∀ (v0 : Int32) (M : gM), K199_173 v0 M → w M 199 [(2, .int v0)] []) : ∀ (n : Nat) (l2_75 : Int32) (l3_76 : Int32) (M : gM), fX1_count_L173 K199_173 Q n l2_75 l3_76 M → w M 173 [(0, .ref (gA G 16)), (2, .int l2_75), (3, .int l3_76)] [] := by
  intro n
  induction n with
  | zero => intro l2_75 l3_76 M h; exact h.elim
  | succ n ih => intro l2_75 l3_76 M h; exact wX1_count_L173s hw hkf ih hK199_173 h
def fX1_count (p1 : Int32) (M : gM) (Q : Int32 → gM → Prop) : Prop :=
  (if p1 = 0 then ∃ n, fX1_count_L50 (fun l2_27 M28 => Q l2_27 M28) p1 Q n 0 0 M else (if p1 = 1 then ∃ n, fX1_count_L97 (fun l2_70 M71 => Q l2_70 M71) p1 Q n 0 0 M else (if p1 = 2 then ∃ n, fX1_count_L97 (fun l2_72 M73 => Q l2_72 M73) p1 Q n 0 0 M else (if p1 = 3 then gk M 16 = 1 ∧ Q (gI M 16 22) M else (if p1 = 4 then ∃ n, fX1_count_L173 (fun l2_86 M87 => Q l2_86 M87) Q n 0 0 M else (if p1 = 5 then gk M 16 = 1 ∧ Q (gI M 16 8) M else (if p1 = 6 then gk M 16 = 1 ∧ Q (gI M 16 7) M else (if p1 = 7 then ∃ n, fX1_count_L50 (fun l2_90 M91 => Q l2_90 M91) p1 Q n 0 0 M else Q (-1) M))))))))
theorem mX1_count {kf : Nat} (hkf : 1 ≤ kf) (G : gG) (p1 : Int32) (M : gM) (Q : Int32 → gM → Prop) (h : fX1_count p1 M Q) : gMet yX1_count cX1_count 5 (Option.some FieldType.int) kf G M [.ref (gA G 16), .int p1] (gQi Q) gE0 := by
  refine g_intro (lv := [(0, .ref (gA G 16)), (1, .int p1)]) (by decide) rfl rfl (fun w hw => ?_)
  unfold fX1_count at h
  refine g_iconst (v := 0) hw dX1_count_0 (by decide) ?_
  refine g_istore_n hw (lv2 := [(0, .ref (gA G 16)), (1, .int p1), (2, .int 0)]) [1, 2, 0] dX1_count_1 rfl rfl ?_
  refine g_iload_n hw 1 dX1_count_2 rfl ?_
  by_cases hb92 : p1 = 0
  · have h := gT h hb92
    refine g_tabIn (tgt := 48) hw dX1_count_3 (by rw [hb92]; decide) (by rw [hb92]; decide) (by rw [hb92] <;> rfl) (by decide) ?_
    refine g_iconst (v := 0) hw dX1_count_48 (by decide) ?_
    refine g_istore_n hw (lv2 := [(0, .ref (gA G 16)), (1, .int p1), (2, .int 0), (3, .int 0)]) [1, 2, 3, 0] dX1_count_49 rfl rfl ?_
    obtain ⟨n9, h⟩ := h
    refine wX1_count_L50 hw hkf (fun l2_27 M28 h => ?_) n9 0 0 M h
    refine g_iload_n hw 0 dX1_count_93 rfl ?_
    exact g_iret hw dX1_count_94 rfl ⟨_, rfl, h⟩
  · have h := gF h hb92
    by_cases hb93 : p1 = 1
    · have h := gT h hb93
      refine g_tabIn (tgt := 95) hw dX1_count_3 (by rw [hb93]; decide) (by rw [hb93]; decide) (by rw [hb93] <;> rfl) (by decide) ?_
      refine g_iconst (v := 0) hw dX1_count_95 (by decide) ?_
      refine g_istore_n hw (lv2 := [(0, .ref (gA G 16)), (1, .int p1), (2, .int 0), (3, .int 0)]) [1, 2, 3, 0] dX1_count_96 rfl rfl ?_
      obtain ⟨n9, h⟩ := h
      refine wX1_count_L97 hw hkf (fun l2_70 M71 h => ?_) n9 0 0 M h
      refine g_iload_n hw 0 dX1_count_164 rfl ?_
      exact g_iret hw dX1_count_165 rfl ⟨_, rfl, h⟩
    · have h := gF h hb93
      by_cases hb94 : p1 = 2
      · have h := gT h hb94
        refine g_tabIn (tgt := 95) hw dX1_count_3 (by rw [hb94]; decide) (by rw [hb94]; decide) (by rw [hb94] <;> rfl) (by decide) ?_
        refine g_iconst (v := 0) hw dX1_count_95 (by decide) ?_
        refine g_istore_n hw (lv2 := [(0, .ref (gA G 16)), (1, .int p1), (2, .int 0), (3, .int 0)]) [1, 2, 3, 0] dX1_count_96 rfl rfl ?_
        obtain ⟨n9, h⟩ := h
        refine wX1_count_L97 hw hkf (fun l2_72 M73 h => ?_) n9 0 0 M h
        refine g_iload_n hw 0 dX1_count_164 rfl ?_
        exact g_iret hw dX1_count_165 rfl ⟨_, rfl, h⟩
      · have h := gF h hb94
        by_cases hb95 : p1 = 3
        · have h := gT h hb95
          refine g_tabIn (tgt := 166) hw dX1_count_3 (by rw [hb95]; decide) (by rw [hb95]; decide) (by rw [hb95] <;> rfl) (by decide) ?_
          refine g_aload_n hw 0 dX1_count_166 rfl ?_
          obtain ⟨hk74, h⟩ := h
          refine gfX1_322 hw rfl dX1_count_167 hk74 ?_
          exact g_iret hw dX1_count_170 rfl ⟨_, rfl, h⟩
        · have h := gF h hb95
          by_cases hb96 : p1 = 4
          · have h := gT h hb96
            refine g_tabIn (tgt := 171) hw dX1_count_3 (by rw [hb96]; decide) (by rw [hb96]; decide) (by rw [hb96] <;> rfl) (by decide) ?_
            refine g_iconst (v := 0) hw dX1_count_171 (by decide) ?_
            refine g_istore_n hw (lv2 := [(0, .ref (gA G 16)), (2, .int 0), (3, .int 0)]) [1, 3, 0] dX1_count_172 rfl rfl ?_
            obtain ⟨n9, h⟩ := h
            refine wX1_count_L173 hw hkf (fun l2_86 M87 h => ?_) n9 0 0 M h
            refine g_iload_n hw 0 dX1_count_199 rfl ?_
            exact g_iret hw dX1_count_200 rfl ⟨_, rfl, h⟩
          · have h := gF h hb96
            by_cases hb97 : p1 = 5
            · have h := gT h hb97
              refine g_tabIn (tgt := 201) hw dX1_count_3 (by rw [hb97]; decide) (by rw [hb97]; decide) (by rw [hb97] <;> rfl) (by decide) ?_
              refine g_aload_n hw 0 dX1_count_201 rfl ?_
              obtain ⟨hk88, h⟩ := h
              refine gfX1_56 hw rfl dX1_count_202 hk88 ?_
              exact g_iret hw dX1_count_205 rfl ⟨_, rfl, h⟩
            · have h := gF h hb97
              by_cases hb98 : p1 = 6
              · have h := gT h hb98
                refine g_tabIn (tgt := 206) hw dX1_count_3 (by rw [hb98]; decide) (by rw [hb98]; decide) (by rw [hb98] <;> rfl) (by decide) ?_
                refine g_aload_n hw 0 dX1_count_206 rfl ?_
                obtain ⟨hk89, h⟩ := h
                refine gfX1_252 hw rfl dX1_count_207 hk89 ?_
                exact g_iret hw dX1_count_210 rfl ⟨_, rfl, h⟩
              · have h := gF h hb98
                by_cases hb99 : p1 = 7
                · have h := gT h hb99
                  refine g_tabIn (tgt := 48) hw dX1_count_3 (by rw [hb99]; decide) (by rw [hb99]; decide) (by rw [hb99] <;> rfl) (by decide) ?_
                  refine g_iconst (v := 0) hw dX1_count_48 (by decide) ?_
                  refine g_istore_n hw (lv2 := [(0, .ref (gA G 16)), (1, .int p1), (2, .int 0), (3, .int 0)]) [1, 2, 3, 0] dX1_count_49 rfl rfl ?_
                  obtain ⟨n9, h⟩ := h
                  refine wX1_count_L50 hw hkf (fun l2_90 M91 h => ?_) n9 0 0 M h
                  refine g_iload_n hw 0 dX1_count_93 rfl ?_
                  exact g_iret hw dX1_count_94 rfl ⟨_, rfl, h⟩
                · have h := gF h hb99
                  refine g_tabOut (tgt := 211) hw dX1_count_3 (by have z0 := gNeI (k := 0) hb92 rfl; have z1 := gNeI (k := 1) hb93 rfl; have z2 := gNeI (k := 2) hb94 rfl; have z3 := gNeI (k := 3) hb95 rfl; have z4 := gNeI (k := 4) hb96 rfl; have z5 := gNeI (k := 5) hb97 rfl; have z6 := gNeI (k := 6) hb98 rfl; have z7 := gNeI (k := 7) hb99 rfl; omega) (by decide) ?_
                  refine g_iconst (v := (-1)) hw dX1_count_211 (by decide) ?_
                  exact g_iret hw dX1_count_212 rfl ⟨_, rfl, h⟩
theorem sX1_168 {y0 : MethodName} {cc : ByteArray} {nL : Nat} {ret : Option FieldType} {kf : Nat} {G : gG} {Qv : Option Value → gM → Prop} {E1 : Nat → gM → Prop} {w : gM → Nat → List (Nat × Value) → List Value → Prop} {M : gM} {pc : Nat} {lv : List (Nat × Value)} {rest : List Value} (hw : gX y0 cc nL ret [] kf G Qv (gEx "java/util/NoSuchElementException" E1) w) (hy : y0.cls = RX1) {p1 : Int32} {Q : gM → Prop} (d : decode cc pc = .ok (.invokestatic 168, 3)) (hrest : Nat.ble ((rest.map Value.category).sum) 8 = true) (hk : 8 + 1 ≤ kf) (h : fX1_need p1 M Q E1) (kk : ∀ M1, Q M1 → w M1 (pc + 3) lv rest) : w M pc lv (.int p1 :: rest) := by
  obtain ⟨cls9, nm9, ds9⟩ := y0
  subst hy
  exact g_callS hw [.int p1] (nA := 1) rfl d q971 q972 q98 q973 (by decide +kernel) rfl hrest rfl (by omega : kf - 1 + 1 ≤ kf) (mX1_need (kf := kf - 1) (by omega) G p1 M Q E1 h) (fun _ _ _ q => gCat0 q) (fun v M1 h => by obtain ⟨rfl, h⟩ := h; exact kk M1 h)
def fX1_bank_b187 (R43 : Int32 → gM → Prop) (l1_17 : Int32) (l2_18 : Int32) (l3_19 : Int32) (l4_20 : Int32) (l5_21 : Nat) (l6_33 : Int32) (M : gM) (Q : Int32 → gM → Prop) (E : Nat → gM → Prop) : Prop :=
  R43 (l6_33 + 1) M
theorem wX1_bank_b187 {kf : Nat} {G : gG} {w : gM → Nat → List (Nat × Value) → List Value → Prop} {Q : Int32 → gM → Prop} {E : Nat → gM → Prop} (hw : gX yX1_bank cX1_bank 8 (Option.some FieldType.int) [] kf G (gQi Q) (gEx "java/util/NoSuchElementException" E) w) (hkf : 9 ≤ kf) {R43 : Int32 → gM → Prop} {l1_17 : Int32} {l2_18 : Int32} {l3_19 : Int32} {l4_20 : Int32} {l5_21 : Nat} {l6_33 : Int32} {M : gM} (hR43 : ∀ (v0 : Int32) (M : gM), R43 v0 M → w M 43 [(0, .ref (gA G 16)), (1, .int l1_17), (2, .int l2_18), (3, .int l3_19), (4, .int l4_20), (5, .ref (gA G l5_21)), (6, .int v0)] []) (h : fX1_bank_b187 R43 l1_17 l2_18 l3_19 l4_20 l5_21 l6_33 M Q E) : w M 187 [(0, .ref (gA G 16)), (1, .int l1_17), (2, .int l2_18), (3, .int l3_19), (4, .int l4_20), (5, .ref (gA G l5_21)), (6, .int l6_33)] [] := by
  unfold fX1_bank_b187 at h
  refine g_iinc hw (lv2 := [(0, .ref (gA G 16)), (1, .int l1_17), (2, .int l2_18), (3, .int l3_19), (4, .int l4_20), (5, .ref (gA G l5_21)), (6, .int (l6_33 + 1))]) 6 [1, 2, 3, 4, 5, 6, 0] dX1_bank_187 rfl (by decide) rfl rfl ?_
  refine g_goto (tgt := 43) hw dX1_bank_190 (by decide) ?_
  exact hR43 (l6_33 + 1) M h
def fX1_bank_b172 (R43 : Int32 → gM → Prop) (l1_17 : Int32) (l2_18 : Int32) (l3_19 : Int32) (l4_20 : Int32) (l5_21 : Nat) (l6_55 : Int32) (l7_56 : Nat) (M : gM) (Q : Int32 → gM → Prop) (E : Nat → gM → Prop) : Prop :=
  gk M l5_21 = 40 ∧ vp_in 4 (gl M l5_21) ∧ gk M 16 = 1 ∧ fX1_change l7_56 l2_18 l3_19 M (fun r61 M60 => gk M60 l5_21 = 40 ∧ vp_in 4 (gl M60 l5_21) ∧ fX1_bank_b187 R43 l1_17 l2_18 l3_19 l4_20 l5_21 l6_55 (gsI M60 l5_21 4 ((gI M l5_21 4) + r61)) Q E)
theorem wX1_bank_b172 {kf : Nat} {G : gG} {w : gM → Nat → List (Nat × Value) → List Value → Prop} {Q : Int32 → gM → Prop} {E : Nat → gM → Prop} (hw : gX yX1_bank cX1_bank 8 (Option.some FieldType.int) [] kf G (gQi Q) (gEx "java/util/NoSuchElementException" E) w) (hkf : 9 ≤ kf) {R43 : Int32 → gM → Prop} {l1_17 : Int32} {l2_18 : Int32} {l3_19 : Int32} {l4_20 : Int32} {l5_21 : Nat} {l6_55 : Int32} {l7_56 : Nat} {M : gM} (hR43 : ∀ (v0 : Int32) (M : gM), R43 v0 M → w M 43 [(0, .ref (gA G 16)), (1, .int l1_17), (2, .int l2_18), (3, .int l3_19), (4, .int l4_20), (5, .ref (gA G l5_21)), (6, .int v0)] []) (h : fX1_bank_b172 R43 l1_17 l2_18 l3_19 l4_20 l5_21 l6_55 l7_56 M Q E) : w M 172 [(0, .ref (gA G 16)), (1, .int l1_17), (2, .int l2_18), (3, .int l3_19), (4, .int l4_20), (5, .ref (gA G l5_21)), (6, .int l6_55), (7, .ref (gA G l7_56))] [] := by
  unfold fX1_bank_b172 at h
  refine g_aload hw 5 dX1_bank_172 rfl ?_
  refine g_iconst (v := 4) hw dX1_bank_174 (by decide) ?_
  refine g_dup2 hw dX1_bank_175 rfl rfl ?_
  obtain ⟨hk57, h⟩ := h
  obtain ⟨hi58, h⟩ := h
  refine g_iald (n := 4) hw dX1_bank_176 hk57 hi58 rfl ?_
  refine g_aload_n hw 0 dX1_bank_177 rfl ?_
  refine g_aload hw 7 dX1_bank_178 rfl ?_
  refine g_iload_n hw 2 dX1_bank_180 rfl ?_
  refine g_iload_n hw 3 dX1_bank_181 rfl ?_
  obtain ⟨hk59, h⟩ := h
  refine sX1_175 hw rfl dX1_bank_182 rfl (gK2 hkf) hk59 h (fun r61 M60 h => ?_)
  refine g_iadd hw dX1_bank_185 ?_
  obtain ⟨hk62, h⟩ := h
  obtain ⟨hi63, h⟩ := h
  refine g_iast (n := 4) hw dX1_bank_186 hk62 hi63 rfl ?_
  refine g_sub hw (lv2 := [(0, .ref (gA G 16)), (1, .int l1_17), (2, .int l2_18), (3, .int l3_19), (4, .int l4_20), (5, .ref (gA G l5_21)), (6, .int l6_55)]) [0, 1, 2, 3, 4, 5, 6] rfl ?_
  exact wX1_bank_b187 hw hkf hR43 h
def fX1_bank_b140 (R43 : Int32 → gM → Prop) (l1_17 : Int32) (l2_18 : Int32) (l3_19 : Int32) (l4_20 : Int32) (l5_21 : Nat) (l6_47 : Int32) (l7_48 : Nat) (M : gM) (Q : Int32 → gM → Prop) (E : Nat → gM → Prop) : Prop :=
  gk M l7_48 = 4 ∧ gdr (gR M l7_48 5) (fun a50 => gk M a50 = 40 ∧ vp_in l2_18 (gl M a50) ∧ (if (gI M a50 l2_18.toNatClampNeg) = (-2) then gdr (gR M l7_48 5) (fun a64 => gk M a64 = 40 ∧ vp_in l3_19 (gl M a64) ∧ (if (gI M a64 l3_19.toNatClampNeg) = (-2) then fX1_bank_b172 R43 l1_17 l2_18 l3_19 l4_20 l5_21 l6_47 l7_48 M Q E else gk M l5_21 = 40 ∧ vp_in 3 (gl M l5_21) ∧ vp_in 3 (gl M l5_21) ∧ fX1_bank_b172 R43 l1_17 l2_18 l3_19 l4_20 l5_21 l6_47 l7_48 (gsI M l5_21 3 ((gI M l5_21 3) + 1)) Q E)) else fX1_bank_b172 R43 l1_17 l2_18 l3_19 l4_20 l5_21 l6_47 l7_48 M Q E))
theorem wX1_bank_b140 {kf : Nat} {G : gG} {w : gM → Nat → List (Nat × Value) → List Value → Prop} {Q : Int32 → gM → Prop} {E : Nat → gM → Prop} (hw : gX yX1_bank cX1_bank 8 (Option.some FieldType.int) [] kf G (gQi Q) (gEx "java/util/NoSuchElementException" E) w) (hkf : 9 ≤ kf) {R43 : Int32 → gM → Prop} {l1_17 : Int32} {l2_18 : Int32} {l3_19 : Int32} {l4_20 : Int32} {l5_21 : Nat} {l6_47 : Int32} {l7_48 : Nat} {M : gM} (hR43 : ∀ (v0 : Int32) (M : gM), R43 v0 M → w M 43 [(0, .ref (gA G 16)), (1, .int l1_17), (2, .int l2_18), (3, .int l3_19), (4, .int l4_20), (5, .ref (gA G l5_21)), (6, .int v0)] []) (h : fX1_bank_b140 R43 l1_17 l2_18 l3_19 l4_20 l5_21 l6_47 l7_48 M Q E) : w M 140 [(0, .ref (gA G 16)), (1, .int l1_17), (2, .int l2_18), (3, .int l3_19), (4, .int l4_20), (5, .ref (gA G l5_21)), (6, .int l6_47), (7, .ref (gA G l7_48))] [] := by
  unfold fX1_bank_b140 at h
  refine g_aload hw 7 dX1_bank_140 rfl ?_
  obtain ⟨hk49, h⟩ := h
  obtain ⟨a50, e51, h⟩ := h
  refine gfX1_139 (q := some a50) hw rfl dX1_bank_142 hk49 e51 ?_
  refine g_iload_n hw 2 dX1_bank_145 rfl ?_
  obtain ⟨hk52, h⟩ := h
  obtain ⟨hi53, h⟩ := h
  refine g_iald (n := l2_18.toNatClampNeg) hw dX1_bank_146 hk52 hi53 rfl ?_
  refine g_bipush (v := (-2)) hw dX1_bank_147 (by decide) ?_
  refine g_icmp_ne (tgt := 172) hw dX1_bank_149 (by decide) (fun hb54 => ?_) (fun hb54 => ?_)
  · have h := gF h hb54
    exact wX1_bank_b172 hw hkf hR43 h
  · have h := gT h hb54
    refine g_aload hw 7 dX1_bank_152 rfl ?_
    obtain ⟨a64, e65, h⟩ := h
    refine gfX1_139 (q := some a64) hw rfl dX1_bank_154 hk49 e65 ?_
    refine g_iload_n hw 3 dX1_bank_157 rfl ?_
    obtain ⟨hk66, h⟩ := h
    obtain ⟨hi67, h⟩ := h
    refine g_iald (n := l3_19.toNatClampNeg) hw dX1_bank_158 hk66 hi67 rfl ?_
    refine g_bipush (v := (-2)) hw dX1_bank_159 (by decide) ?_
    refine g_icmp_eq (tgt := 172) hw dX1_bank_161 (by decide) (fun hb68 => ?_) (fun hb68 => ?_)
    · have h := gT h hb68
      exact wX1_bank_b172 hw hkf hR43 h
    · have h := gF h hb68
      refine g_aload hw 5 dX1_bank_164 rfl ?_
      refine g_iconst (v := 3) hw dX1_bank_166 (by decide) ?_
      refine g_dup2 hw dX1_bank_167 rfl rfl ?_
      obtain ⟨hk69, h⟩ := h
      obtain ⟨hi70, h⟩ := h
      refine g_iald (n := 3) hw dX1_bank_168 hk69 hi70 rfl ?_
      refine g_iconst (v := 1) hw dX1_bank_169 (by decide) ?_
      refine g_iadd hw dX1_bank_170 ?_
      obtain ⟨hi71, h⟩ := h
      refine g_iast (n := 3) hw dX1_bank_171 hk69 hi71 rfl ?_
      exact wX1_bank_b172 hw hkf hR43 h
def fX1_bank_L43s (R43 : Int32 → gM → Prop) (K193_43 : gM → Prop) (l1_17 : Int32) (l2_18 : Int32) (l3_19 : Int32) (l4_20 : Int32) (l5_21 : Nat) (l6_22 : Int32) (M : gM) (Q : Int32 → gM → Prop) (E : Nat → gM → Prop) : Prop :=
  (if 24 ≤ l6_22 then K193_43 M else gk M 16 = 1 ∧ gdr (gR M 16 0) (fun a25 => gk M a25 = 44 ∧ vp_in l6_22 (gl M a25) ∧ gdr (gR M a25 l6_22.toNatClampNeg) (fun a29 => gk M a29 = 4 ∧ (if (gI M a29 3) = 0 then fX1_bank_b187 R43 l1_17 l2_18 l3_19 l4_20 l5_21 l6_22 M Q E else (if (gI M a29 0) = l1_17 then fX4_isCounted a29 l2_18 l3_19 M (fun r36 M35 => (if r36 = 0 then gk M35 l5_21 = 40 ∧ vp_in 1 (gl M35 l5_21) ∧ vp_in 1 (gl M35 l5_21) ∧ fX1_bank_b187 R43 l1_17 l2_18 l3_19 l4_20 l5_21 l6_22 (gsI M35 l5_21 1 ((gI M35 l5_21 1) + 1)) Q E else gk M35 l5_21 = 40 ∧ vp_in 0 (gl M35 l5_21) ∧ vp_in 0 (gl M35 l5_21) ∧ gk (gsI M35 l5_21 0 ((gI M35 l5_21 0) + 1)) a29 = 4 ∧ gdr (gR (gsI M35 l5_21 0 ((gI M35 l5_21 0) + 1)) a29 5) (fun a42 => gk (gsI M35 l5_21 0 ((gI M35 l5_21 0) + 1)) a42 = 40 ∧ vp_in l3_19 (gl (gsI M35 l5_21 0 ((gI M35 l5_21 0) + 1)) a42) ∧ (if (gI (gsI M35 l5_21 0 ((gI M35 l5_21 0) + 1)) a42 l3_19.toNatClampNeg) = (-2) then gdr (gR (gsI M35 l5_21 0 ((gI M35 l5_21 0) + 1)) a29 5) (fun a72 => gk (gsI M35 l5_21 0 ((gI M35 l5_21 0) + 1)) a72 = 40 ∧ vp_in l2_18 (gl (gsI M35 l5_21 0 ((gI M35 l5_21 0) + 1)) a72) ∧ (if (gI (gsI M35 l5_21 0 ((gI M35 l5_21 0) + 1)) a72 l2_18.toNatClampNeg) = (-2) then fX1_bank_b140 R43 l1_17 l2_18 l3_19 l4_20 l5_21 l6_22 a29 (gsI M35 l5_21 0 ((gI M35 l5_21 0) + 1)) Q E else vp_in 2 (gl (gsI M35 l5_21 0 ((gI M35 l5_21 0) + 1)) l5_21) ∧ vp_in 2 (gl (gsI M35 l5_21 0 ((gI M35 l5_21 0) + 1)) l5_21) ∧ fX1_bank_b140 R43 l1_17 l2_18 l3_19 l4_20 l5_21 l6_22 a29 (gsI (gsI M35 l5_21 0 ((gI M35 l5_21 0) + 1)) l5_21 2 ((gI (gsI M35 l5_21 0 ((gI M35 l5_21 0) + 1)) l5_21 2) + 1)) Q E)) else fX1_bank_b140 R43 l1_17 l2_18 l3_19 l4_20 l5_21 l6_22 a29 (gsI M35 l5_21 0 ((gI M35 l5_21 0) + 1)) Q E)))) else fX1_bank_b187 R43 l1_17 l2_18 l3_19 l4_20 l5_21 l6_22 M Q E)))))
def fX1_bank_L43 (K193_43 : gM → Prop) (l1_17 : Int32) (l2_18 : Int32) (l3_19 : Int32) (l4_20 : Int32) (l5_21 : Nat) (Q : Int32 → gM → Prop) (E : Nat → gM → Prop) : Nat → Int32 → gM → Prop
  | 0 => fun _ _ => False
  | n + 1 => fun l6_22 M => fX1_bank_L43s (fX1_bank_L43 K193_43 l1_17 l2_18 l3_19 l4_20 l5_21 Q E n) K193_43 l1_17 l2_18 l3_19 l4_20 l5_21 l6_22 M Q E
theorem wX1_bank_L43s {kf : Nat} {G : gG} {w : gM → Nat → List (Nat × Value) → List Value → Prop} {Q : Int32 → gM → Prop} {E : Nat → gM → Prop} (hw : gX yX1_bank cX1_bank 8 (Option.some FieldType.int) [] kf G (gQi Q) (gEx "java/util/NoSuchElementException" E) w) (hkf : 9 ≤ kf) {R43 : Int32 → gM → Prop} {K193_43 : gM → Prop} {l1_17 : Int32} {l2_18 : Int32} {l3_19 : Int32} {l4_20 : Int32} {l5_21 : Nat} {l6_22 : Int32} {M : gM} (hR43 : ∀ (v0 : Int32) (M : gM), R43 v0 M → w M 43 [(0, .ref (gA G 16)), (1, .int l1_17), (2, .int l2_18), (3, .int l3_19), (4, .int l4_20), (5, .ref (gA G l5_21)), (6, .int v0)] []) (hK193_43 : ∀  (M : gM), K193_43 M → w M 193 [(4, .int l4_20), (5, .ref (gA G l5_21))] []) (h : fX1_bank_L43s R43 K193_43 l1_17 l2_18 l3_19 l4_20 l5_21 l6_22 M Q E) : w M 43 [(0, .ref (gA G 16)), (1, .int l1_17), (2, .int l2_18), (3, .int l3_19), (4, .int l4_20), (5, .ref (gA G l5_21)), (6, .int l6_22)] [] := by
  unfold fX1_bank_L43s at h
  refine g_iload hw 6 dX1_bank_43 rfl ?_
  refine g_bipush (v := 24) hw dX1_bank_45 (by decide) ?_
  refine g_icmp_ge (tgt := 193) hw dX1_bank_47 (by decide) (fun hb23 => ?_) (fun hb23 => ?_)
  · have h := gT h hb23
    refine g_sub hw (lv2 := [(4, .int l4_20), (5, .ref (gA G l5_21))]) [4, 5] rfl ?_
    exact hK193_43 M h
  · have h := gF h hb23
    refine g_aload_n hw 0 dX1_bank_50 rfl ?_
    obtain ⟨hk24, h⟩ := h
    obtain ⟨a25, e26, h⟩ := h
    refine gfX1_21 (q := some a25) hw rfl dX1_bank_51 hk24 e26 ?_
    refine g_iload hw 6 dX1_bank_54 rfl ?_
    obtain ⟨hk27, h⟩ := h
    obtain ⟨hi28, h⟩ := h
    obtain ⟨a29, e30, h⟩ := h
    refine g_aaldS (n := l6_22.toNatClampNeg) hw 4 dX1_bank_56 ⟨rfl, rfl⟩ hk27 hi28 rfl e30 ?_
    refine g_astore hw (lv2 := [(0, .ref (gA G 16)), (1, .int l1_17), (2, .int l2_18), (3, .int l3_19), (4, .int l4_20), (5, .ref (gA G l5_21)), (6, .int l6_22), (7, .ref (gA G a29))]) [1, 2, 3, 4, 5, 6, 7, 0] dX1_bank_57 rfl rfl ?_
    refine g_aload hw 7 dX1_bank_59 rfl ?_
    obtain ⟨hk31, h⟩ := h
    refine gfX1_116 hw rfl dX1_bank_61 hk31 ?_
    refine g_if_eq (tgt := 187) hw dX1_bank_64 (by decide) (fun hb32 => ?_) (fun hb32 => ?_)
    · have h := gT h hb32
      refine g_sub hw (lv2 := [(0, .ref (gA G 16)), (1, .int l1_17), (2, .int l2_18), (3, .int l3_19), (4, .int l4_20), (5, .ref (gA G l5_21)), (6, .int l6_22)]) [0, 1, 2, 3, 4, 5, 6] rfl ?_
      exact wX1_bank_b187 hw hkf hR43 h
    · have h := gF h hb32
      refine g_aload hw 7 dX1_bank_67 rfl ?_
      refine gfX1_124 hw rfl dX1_bank_69 hk31 ?_
      refine g_iload_n hw 1 dX1_bank_72 rfl ?_
      refine g_icmp_eq (tgt := 79) hw dX1_bank_73 (by decide) (fun hb34 => ?_) (fun hb34 => ?_)
      · have h := gT h hb34
        refine g_aload hw 7 dX1_bank_79 rfl ?_
        refine g_iload_n hw 2 dX1_bank_81 rfl ?_
        refine g_iload_n hw 3 dX1_bank_82 rfl ?_
        refine sX1_172 hw rfl dX1_bank_83 rfl (gK2 hkf) hk31 h (fun r36 M35 h => ?_)
        refine g_if_ne (tgt := 100) hw dX1_bank_86 (by decide) (fun hb37 => ?_) (fun hb37 => ?_)
        · have h := gF h hb37
          refine g_aload hw 5 dX1_bank_100 rfl ?_
          refine g_iconst (v := 0) hw dX1_bank_102 (by decide) ?_
          refine g_dup2 hw dX1_bank_103 rfl rfl ?_
          obtain ⟨hk38, h⟩ := h
          obtain ⟨hi39, h⟩ := h
          refine g_iald (n := 0) hw dX1_bank_104 hk38 hi39 rfl ?_
          refine g_iconst (v := 1) hw dX1_bank_105 (by decide) ?_
          refine g_iadd hw dX1_bank_106 ?_
          obtain ⟨hi40, h⟩ := h
          refine g_iast (n := 0) hw dX1_bank_107 hk38 hi40 rfl ?_
          refine g_aload hw 7 dX1_bank_108 rfl ?_
          obtain ⟨hk41, h⟩ := h
          obtain ⟨a42, e43, h⟩ := h
          refine gfX1_139 (q := some a42) hw rfl dX1_bank_110 hk41 e43 ?_
          refine g_iload_n hw 3 dX1_bank_113 rfl ?_
          obtain ⟨hk44, h⟩ := h
          obtain ⟨hi45, h⟩ := h
          refine g_iald (n := l3_19.toNatClampNeg) hw dX1_bank_114 hk44 hi45 rfl ?_
          refine g_bipush (v := (-2)) hw dX1_bank_115 (by decide) ?_
          refine g_icmp_ne (tgt := 140) hw dX1_bank_117 (by decide) (fun hb46 => ?_) (fun hb46 => ?_)
          · have h := gF h hb46
            exact wX1_bank_b140 hw hkf hR43 h
          · have h := gT h hb46
            refine g_aload hw 7 dX1_bank_120 rfl ?_
            obtain ⟨a72, e73, h⟩ := h
            refine gfX1_139 (q := some a72) hw rfl dX1_bank_122 hk41 e73 ?_
            refine g_iload_n hw 2 dX1_bank_125 rfl ?_
            obtain ⟨hk74, h⟩ := h
            obtain ⟨hi75, h⟩ := h
            refine g_iald (n := l2_18.toNatClampNeg) hw dX1_bank_126 hk74 hi75 rfl ?_
            refine g_bipush (v := (-2)) hw dX1_bank_127 (by decide) ?_
            refine g_icmp_eq (tgt := 140) hw dX1_bank_129 (by decide) (fun hb76 => ?_) (fun hb76 => ?_)
            · have h := gT h hb76
              exact wX1_bank_b140 hw hkf hR43 h
            · have h := gF h hb76
              refine g_aload hw 5 dX1_bank_132 rfl ?_
              refine g_iconst (v := 2) hw dX1_bank_134 (by decide) ?_
              refine g_dup2 hw dX1_bank_135 rfl rfl ?_
              obtain ⟨hi77, h⟩ := h
              refine g_iald (n := 2) hw dX1_bank_136 hk38 hi77 rfl ?_
              refine g_iconst (v := 1) hw dX1_bank_137 (by decide) ?_
              refine g_iadd hw dX1_bank_138 ?_
              obtain ⟨hi78, h⟩ := h
              refine g_iast (n := 2) hw dX1_bank_139 hk38 hi78 rfl ?_
              exact wX1_bank_b140 hw hkf hR43 h
        · have h := gT h hb37
          refine g_aload hw 5 dX1_bank_89 rfl ?_
          refine g_iconst (v := 1) hw dX1_bank_91 (by decide) ?_
          refine g_dup2 hw dX1_bank_92 rfl rfl ?_
          obtain ⟨hk79, h⟩ := h
          obtain ⟨hi80, h⟩ := h
          refine g_iald (n := 1) hw dX1_bank_93 hk79 hi80 rfl ?_
          refine g_iconst (v := 1) hw dX1_bank_94 (by decide) ?_
          refine g_iadd hw dX1_bank_95 ?_
          obtain ⟨hi81, h⟩ := h
          refine g_iast (n := 1) hw dX1_bank_96 hk79 hi81 rfl ?_
          refine g_goto (tgt := 187) hw dX1_bank_97 (by decide) ?_
          refine g_sub hw (lv2 := [(0, .ref (gA G 16)), (1, .int l1_17), (2, .int l2_18), (3, .int l3_19), (4, .int l4_20), (5, .ref (gA G l5_21)), (6, .int l6_22)]) [0, 1, 2, 3, 4, 5, 6] rfl ?_
          exact wX1_bank_b187 hw hkf hR43 h
      · have h := gF h hb34
        refine g_goto (tgt := 187) hw dX1_bank_76 (by decide) ?_
        refine g_sub hw (lv2 := [(0, .ref (gA G 16)), (1, .int l1_17), (2, .int l2_18), (3, .int l3_19), (4, .int l4_20), (5, .ref (gA G l5_21)), (6, .int l6_22)]) [0, 1, 2, 3, 4, 5, 6] rfl ?_
        exact wX1_bank_b187 hw hkf hR43 h
theorem wX1_bank_L43 {kf : Nat} {G : gG} {w : gM → Nat → List (Nat × Value) → List Value → Prop} {Q : Int32 → gM → Prop} {E : Nat → gM → Prop} (hw : gX yX1_bank cX1_bank 8 (Option.some FieldType.int) [] kf G (gQi Q) (gEx "java/util/NoSuchElementException" E) w) (hkf : 9 ≤ kf) {K193_43 : gM → Prop} {l1_17 : Int32} {l2_18 : Int32} {l3_19 : Int32} {l4_20 : Int32} {l5_21 : Nat} (hK193_43 : ∀  (M : gM), K193_43 M → w M 193 [(4, .int l4_20), (5, .ref (gA G l5_21))] []) : ∀ (n : Nat) (l6_22 : Int32) (M : gM), fX1_bank_L43 K193_43 l1_17 l2_18 l3_19 l4_20 l5_21 Q E n l6_22 M → w M 43 [(0, .ref (gA G 16)), (1, .int l1_17), (2, .int l2_18), (3, .int l3_19), (4, .int l4_20), (5, .ref (gA G l5_21)), (6, .int l6_22)] [] := by
  intro n
  induction n with
  | zero => intro l6_22 M h; exact h.elim
  | succ n ih => intro l6_22 M h; exact wX1_bank_L43s hw hkf ih hK193_43 h
def fX1_bank_b32 (l1_8 : Int32) (l2_9 : Int32) (l3_10 : Int32) (l4_11 : Int32) (s0_12 : Int32) (M : gM) (Q : Int32 → gM → Prop) (E : Nat → gM → Prop) : Prop :=
  fX1_need s0_12 M (fun M13 => gn M13 < gLC ∧ gs M13 + 5 ≤ gLS ∧ ∃ n, fX1_bank_L43 (fun M82 => gk M82 (gn M13) = 40 ∧ vp_in l4_11 (gl M82 (gn M13)) ∧ Q (gI M82 (gn M13) l4_11.toNatClampNeg) M82) l1_8 l2_9 l3_10 l4_11 (gn M13) Q E n 0 (gnew M13 40 5 5)) E
theorem wX1_bank_b32 {kf : Nat} {G : gG} {w : gM → Nat → List (Nat × Value) → List Value → Prop} {Q : Int32 → gM → Prop} {E : Nat → gM → Prop} (hw : gX yX1_bank cX1_bank 8 (Option.some FieldType.int) [] kf G (gQi Q) (gEx "java/util/NoSuchElementException" E) w) (hkf : 9 ≤ kf)  {l1_8 : Int32} {l2_9 : Int32} {l3_10 : Int32} {l4_11 : Int32} {s0_12 : Int32} {M : gM}  (h : fX1_bank_b32 l1_8 l2_9 l3_10 l4_11 s0_12 M Q E) : w M 32 [(0, .ref (gA G 16)), (1, .int l1_8), (2, .int l2_9), (3, .int l3_10), (4, .int l4_11)] [.int s0_12] := by
  unfold fX1_bank_b32 at h
  refine sX1_168 hw rfl dX1_bank_32 rfl (gK2 hkf) h (fun M13 h => ?_)
  refine g_iconst (v := 5) hw dX1_bank_35 (by decide) ?_
  obtain ⟨hc15, h⟩ := h
  obtain ⟨hc16, h⟩ := h
  refine g_newa (N := 5) hw 0 dX1_bank_36 q166 rfl (by decide) rfl (by decide) rfl (by decide) hc15 hc16 ?_
  refine g_astore hw (lv2 := [(0, .ref (gA G 16)), (1, .int l1_8), (2, .int l2_9), (3, .int l3_10), (4, .int l4_11), (5, .ref (gA G (gn M13)))]) [1, 2, 3, 4, 5, 0] dX1_bank_38 rfl rfl ?_
  refine g_iconst (v := 0) hw dX1_bank_40 (by decide) ?_
  refine g_istore hw (lv2 := [(0, .ref (gA G 16)), (1, .int l1_8), (2, .int l2_9), (3, .int l3_10), (4, .int l4_11), (5, .ref (gA G (gn M13))), (6, .int 0)]) [1, 2, 3, 4, 5, 6, 0] dX1_bank_41 rfl rfl ?_
  obtain ⟨n9, h⟩ := h
  refine wX1_bank_L43 hw hkf (fun M82 h => ?_) n9 0 (gnew M13 40 5 5) h
  refine g_aload hw 1 dX1_bank_193 rfl ?_
  refine g_iload hw 0 dX1_bank_195 rfl ?_
  obtain ⟨hk83, h⟩ := h
  obtain ⟨hi84, h⟩ := h
  refine g_iald (n := l4_11.toNatClampNeg) hw dX1_bank_197 hk83 hi84 rfl ?_
  exact g_iret hw dX1_bank_198 rfl ⟨_, rfl, h⟩
def fX1_bank_b31 (l1_4 : Int32) (l2_5 : Int32) (l3_6 : Int32) (l4_7 : Int32) (M : gM) (Q : Int32 → gM → Prop) (E : Nat → gM → Prop) : Prop :=
  fX1_bank_b32 l1_4 l2_5 l3_6 l4_7 0 M Q E
theorem wX1_bank_b31 {kf : Nat} {G : gG} {w : gM → Nat → List (Nat × Value) → List Value → Prop} {Q : Int32 → gM → Prop} {E : Nat → gM → Prop} (hw : gX yX1_bank cX1_bank 8 (Option.some FieldType.int) [] kf G (gQi Q) (gEx "java/util/NoSuchElementException" E) w) (hkf : 9 ≤ kf)  {l1_4 : Int32} {l2_5 : Int32} {l3_6 : Int32} {l4_7 : Int32} {M : gM}  (h : fX1_bank_b31 l1_4 l2_5 l3_6 l4_7 M Q E) : w M 31 [(0, .ref (gA G 16)), (1, .int l1_4), (2, .int l2_5), (3, .int l3_6), (4, .int l4_7)] [] := by
  unfold fX1_bank_b31 at h
  refine g_iconst (v := 0) hw dX1_bank_31 (by decide) ?_
  exact wX1_bank_b32 hw hkf h
def fX1_bank (p1 : Int32) (p2 : Int32) (p3 : Int32) (p4 : Int32) (M : gM) (Q : Int32 → gM → Prop) (E : Nat → gM → Prop) : Prop :=
  fX1_in p1 0 1 M (fun r2 M1 => (if r2 = 0 then fX1_bank_b31 p1 p2 p3 p4 M1 Q E else fX1_areMonths p2 p3 M1 (fun r86 M85 => (if r86 = 0 then fX1_bank_b31 p1 p2 p3 p4 M85 Q E else fX1_in p4 0 4 M85 (fun r89 M88 => (if r89 = 0 then fX1_bank_b31 p1 p2 p3 p4 M88 Q E else fX1_bank_b32 p1 p2 p3 p4 1 M88 Q E))))))
theorem mX1_bank {kf : Nat} (hkf : 9 ≤ kf) (G : gG) (p1 : Int32) (p2 : Int32) (p3 : Int32) (p4 : Int32) (M : gM) (Q : Int32 → gM → Prop) (E : Nat → gM → Prop) (h : fX1_bank p1 p2 p3 p4 M Q E) : gMet yX1_bank cX1_bank 8 (Option.some FieldType.int) kf G M [.ref (gA G 16), .int p1, .int p2, .int p3, .int p4] (gQi Q) (gEx "java/util/NoSuchElementException" E) := by
  refine g_intro (lv := [(0, .ref (gA G 16)), (1, .int p1), (2, .int p2), (3, .int p3), (4, .int p4)]) (by decide) rfl rfl (fun w hw => ?_)
  unfold fX1_bank at h
  refine g_iload_n hw 1 dX1_bank_0 rfl ?_
  refine g_iconst (v := 0) hw dX1_bank_1 (by decide) ?_
  refine g_iconst (v := 1) hw dX1_bank_2 (by decide) ?_
  refine sX1_112 hw rfl dX1_bank_3 rfl (gK2 hkf) h (fun r2 M1 h => ?_)
  refine g_if_eq (tgt := 31) hw dX1_bank_6 (by decide) (fun hb3 => ?_) (fun hb3 => ?_)
  · have h := gT h hb3
    exact wX1_bank_b31 hw hkf h
  · have h := gF h hb3
    refine g_iload_n hw 2 dX1_bank_9 rfl ?_
    refine g_iload_n hw 3 dX1_bank_10 rfl ?_
    refine sX1_164 hw rfl dX1_bank_11 rfl (gK2 hkf) h (fun r86 M85 h => ?_)
    refine g_if_eq (tgt := 31) hw dX1_bank_14 (by decide) (fun hb87 => ?_) (fun hb87 => ?_)
    · have h := gT h hb87
      exact wX1_bank_b31 hw hkf h
    · have h := gF h hb87
      refine g_iload hw 4 dX1_bank_17 rfl ?_
      refine g_iconst (v := 0) hw dX1_bank_19 (by decide) ?_
      refine g_iconst (v := 4) hw dX1_bank_20 (by decide) ?_
      refine sX1_112 hw rfl dX1_bank_21 rfl (gK2 hkf) h (fun r89 M88 h => ?_)
      refine g_if_eq (tgt := 31) hw dX1_bank_24 (by decide) (fun hb90 => ?_) (fun hb90 => ?_)
      · have h := gT h hb90
        exact wX1_bank_b31 hw hkf h
      · have h := gF h hb90
        refine g_iconst (v := 1) hw dX1_bank_27 (by decide) ?_
        refine g_goto (tgt := 32) hw dX1_bank_28 (by decide) ?_
        exact wX1_bank_b32 hw hkf h
def fX1_needRiver_b23 (l1_7 : Int32) (l2_8 : Int32) (l3_9 : Int32) (s0_10 : Int32) (M : gM) (Q : gM → Prop) (E : Nat → gM → Prop) : Prop :=
  fX1_need s0_10 M (fun M11 => gk M11 16 = 1 ∧ fX1_rivers l1_7 l2_8 l3_9 M11 (fun r15 M14 => fX1_need r15 M14 (fun M16 => Q M16) E)) E
theorem wX1_needRiver_b23 {kf : Nat} {G : gG} {w : gM → Nat → List (Nat × Value) → List Value → Prop} {Q : gM → Prop} {E : Nat → gM → Prop} (hw : gX yX1_needRiver cX1_needRiver 5 (Option.none : Option FieldType) [] kf G (gQv Q) (gEx "java/util/NoSuchElementException" E) w) (hkf : 9 ≤ kf)  {l1_7 : Int32} {l2_8 : Int32} {l3_9 : Int32} {s0_10 : Int32} {M : gM}  (h : fX1_needRiver_b23 l1_7 l2_8 l3_9 s0_10 M Q E) : w M 23 [(0, .ref (gA G 16)), (1, .int l1_7), (2, .int l2_8), (3, .int l3_9)] [.int s0_10] := by
  unfold fX1_needRiver_b23 at h
  refine sX1_168 hw rfl dX1_needRiver_23 rfl (gK2 hkf) h (fun M11 h => ?_)
  refine g_aload_n hw 0 dX1_needRiver_26 rfl ?_
  refine g_iload_n hw 1 dX1_needRiver_27 rfl ?_
  refine g_iload_n hw 2 dX1_needRiver_28 rfl ?_
  refine g_iload_n hw 3 dX1_needRiver_29 rfl ?_
  obtain ⟨hk13, h⟩ := h
  refine sX1_204 hw rfl dX1_needRiver_30 rfl (gK2 hkf) hk13 h (fun r15 M14 h => ?_)
  refine sX1_168 hw rfl dX1_needRiver_33 rfl (gK2 hkf) h (fun M16 h => ?_)
  exact g_vret hw dX1_needRiver_36 ⟨rfl, h⟩
def fX1_needRiver_b22 (l1_4 : Int32) (l2_5 : Int32) (l3_6 : Int32) (M : gM) (Q : gM → Prop) (E : Nat → gM → Prop) : Prop :=
  fX1_needRiver_b23 l1_4 l2_5 l3_6 0 M Q E
theorem wX1_needRiver_b22 {kf : Nat} {G : gG} {w : gM → Nat → List (Nat × Value) → List Value → Prop} {Q : gM → Prop} {E : Nat → gM → Prop} (hw : gX yX1_needRiver cX1_needRiver 5 (Option.none : Option FieldType) [] kf G (gQv Q) (gEx "java/util/NoSuchElementException" E) w) (hkf : 9 ≤ kf)  {l1_4 : Int32} {l2_5 : Int32} {l3_6 : Int32} {M : gM}  (h : fX1_needRiver_b22 l1_4 l2_5 l3_6 M Q E) : w M 22 [(0, .ref (gA G 16)), (1, .int l1_4), (2, .int l2_5), (3, .int l3_6)] [] := by
  unfold fX1_needRiver_b22 at h
  refine g_iconst (v := 0) hw dX1_needRiver_22 (by decide) ?_
  exact wX1_needRiver_b23 hw hkf h
def fX1_needRiver (p1 : Int32) (p2 : Int32) (p3 : Int32) (p4 : Int32) (M : gM) (Q : gM → Prop) (E : Nat → gM → Prop) : Prop :=
  fX1_areMonths p1 p2 M (fun r2 M1 => (if r2 = 0 then fX1_needRiver_b22 p1 p2 p3 M1 Q E else fX1_in p4 0 1 M1 (fun r19 M18 => (if r19 = 0 then fX1_needRiver_b22 p1 p2 p3 M18 Q E else fX1_needRiver_b23 p1 p2 p3 1 M18 Q E))))
theorem mX1_needRiver {kf : Nat} (hkf : 9 ≤ kf) (G : gG) (p1 : Int32) (p2 : Int32) (p3 : Int32) (p4 : Int32) (M : gM) (Q : gM → Prop) (E : Nat → gM → Prop) (h : fX1_needRiver p1 p2 p3 p4 M Q E) : gMet yX1_needRiver cX1_needRiver 5 (Option.none : Option FieldType) kf G M [.ref (gA G 16), .int p1, .int p2, .int p3, .int p4] (gQv Q) (gEx "java/util/NoSuchElementException" E) := by
  refine g_intro (lv := [(0, .ref (gA G 16)), (1, .int p1), (2, .int p2), (3, .int p3), (4, .int p4)]) (by decide) rfl rfl (fun w hw => ?_)
  unfold fX1_needRiver at h
  refine g_iload_n hw 1 dX1_needRiver_0 rfl ?_
  refine g_iload_n hw 2 dX1_needRiver_1 rfl ?_
  refine sX1_164 hw rfl dX1_needRiver_2 rfl (gK2 hkf) h (fun r2 M1 h => ?_)
  refine g_if_eq (tgt := 22) hw dX1_needRiver_5 (by decide) (fun hb3 => ?_) (fun hb3 => ?_)
  · have h := gT h hb3
    refine g_sub hw (lv2 := [(0, .ref (gA G 16)), (1, .int p1), (2, .int p2), (3, .int p3)]) [0, 1, 2, 3] rfl ?_
    exact wX1_needRiver_b22 hw hkf h
  · have h := gF h hb3
    refine g_iload hw 4 dX1_needRiver_8 rfl ?_
    refine g_iconst (v := 0) hw dX1_needRiver_10 (by decide) ?_
    refine g_iconst (v := 1) hw dX1_needRiver_11 (by decide) ?_
    refine sX1_112 hw rfl dX1_needRiver_12 rfl (gK2 hkf) h (fun r19 M18 h => ?_)
    refine g_if_eq (tgt := 22) hw dX1_needRiver_15 (by decide) (fun hb20 => ?_) (fun hb20 => ?_)
    · have h := gT h hb20
      refine g_sub hw (lv2 := [(0, .ref (gA G 16)), (1, .int p1), (2, .int p2), (3, .int p3)]) [0, 1, 2, 3] rfl ?_
      exact wX1_needRiver_b22 hw hkf h
    · have h := gF h hb20
      refine g_iconst (v := 1) hw dX1_needRiver_18 (by decide) ?_
      refine g_goto (tgt := 23) hw dX1_needRiver_19 (by decide) ?_
      refine g_sub hw (lv2 := [(0, .ref (gA G 16)), (1, .int p1), (2, .int p2), (3, .int p3)]) [0, 1, 2, 3] rfl ?_
      exact wX1_needRiver_b23 hw hkf h
theorem sX1_207 {y0 : MethodName} {cc : ByteArray} {nL : Nat} {ret : Option FieldType} {kf : Nat} {G : gG} {Qv : Option Value → gM → Prop} {E1 : Nat → gM → Prop} {w : gM → Nat → List (Nat × Value) → List Value → Prop} {M : gM} {pc : Nat} {lv : List (Nat × Value)} {rest : List Value} (hw : gX y0 cc nL ret [] kf G Qv (gEx "java/util/NoSuchElementException" E1) w) (hy : y0.cls = RX1) {p1 : Int32} {p2 : Int32} {p3 : Int32} {p4 : Int32} {Q : gM → Prop} (d : decode cc pc = .ok (.invokevirtual 207, 3)) (hrest : Nat.ble ((rest.map Value.category).sum) 8 = true) (hk : 9 + 1 ≤ kf) (hkd : gk M 16 = 1) (h : fX1_needRiver p1 p2 p3 p4 M Q E1) (kk : ∀ M1, Q M1 → w M1 (pc + 3) lv rest) : w M pc lv (.int p4 :: .int p3 :: .int p2 :: .int p1 :: .ref (gA G 16) :: rest) := by
  obtain ⟨cls9, nm9, ds9⟩ := y0
  subst hy
  exact g_callV (r := (RX1, TX1, 28)) (ci := 0) hw [.int p1, .int p2, .int p3, .int p4] (nA := 4) rfl d q1002 q1004 qs39 q98 q1005 (by decide +kernel) rfl rfl hrest rfl (by omega : kf - 1 + 1 ≤ kf) hkd (mX1_needRiver (kf := kf - 1) (by omega) G p1 p2 p3 p4 M Q E1 h) (fun _ _ _ q => gCat0 q) (fun v M1 h => by obtain ⟨rfl, h⟩ := h; exact kk M1 h)
def fX1_river_b18 (l1_6 : Int32) (l2_7 : Int32) (l3_8 : Int32) (l4_9 : Int32) (s0_10 : Int32) (M : gM) (Q : Int64 → gM → Prop) (E : Nat → gM → Prop) : Prop :=
  fX1_need s0_10 M (fun M11 => gk M11 16 = 1 ∧ fX1_needRiver l1_6 l2_7 l3_8 l4_9 M11 (fun M14 => gk M14 16 = 1 ∧ fX1_above M14 (fun r18 M17 => gk M17 16 = 1 ∧ fX1_below M17 (fun r21 M20 => fX1_lowest r18 r21 l4_9 M20 (fun r23 M22 => Q r23 M22)))) E) E
theorem wX1_river_b18 {kf : Nat} {G : gG} {w : gM → Nat → List (Nat × Value) → List Value → Prop} {Q : Int64 → gM → Prop} {E : Nat → gM → Prop} (hw : gX yX1_river cX1_river 5 (Option.some FieldType.long) [] kf G (gQl Q) (gEx "java/util/NoSuchElementException" E) w) (hkf : 103 ≤ kf)  {l1_6 : Int32} {l2_7 : Int32} {l3_8 : Int32} {l4_9 : Int32} {s0_10 : Int32} {M : gM}  (h : fX1_river_b18 l1_6 l2_7 l3_8 l4_9 s0_10 M Q E) : w M 18 [(0, .ref (gA G 16)), (1, .int l1_6), (2, .int l2_7), (3, .int l3_8), (4, .int l4_9)] [.int s0_10] := by
  unfold fX1_river_b18 at h
  refine sX1_168 hw rfl dX1_river_18 rfl (gK2 hkf) h (fun M11 h => ?_)
  refine g_aload_n hw 0 dX1_river_21 rfl ?_
  refine g_iload_n hw 1 dX1_river_22 rfl ?_
  refine g_iload_n hw 2 dX1_river_23 rfl ?_
  refine g_iload_n hw 3 dX1_river_24 rfl ?_
  refine g_iload hw 4 dX1_river_25 rfl ?_
  obtain ⟨hk13, h⟩ := h
  refine sX1_207 hw rfl dX1_river_27 rfl (gK2 hkf) hk13 h (fun M14 h => ?_)
  refine g_aload_n hw 0 dX1_river_30 rfl ?_
  obtain ⟨hk16, h⟩ := h
  refine sX1_211 hw rfl dX1_river_31 rfl (gK2 hkf) hk16 h (fun r18 M17 h => ?_)
  refine g_aload_n hw 0 dX1_river_34 rfl ?_
  obtain ⟨hk19, h⟩ := h
  refine sX1_215 hw rfl dX1_river_35 rfl (gK2 hkf) hk19 h (fun r21 M20 h => ?_)
  refine g_iload hw 4 dX1_river_38 rfl ?_
  refine sX1_218 hw rfl dX1_river_40 rfl (gK2 hkf) h (fun r23 M22 h => ?_)
  exact g_lret hw dX1_river_43 ⟨_, rfl, h⟩
def fX1_river_b13 (l1_2 : Int32) (l2_3 : Int32) (l3_4 : Int32) (l4_5 : Int32) (M : gM) (Q : Int64 → gM → Prop) (E : Nat → gM → Prop) : Prop :=
  fX1_river_b18 l1_2 l2_3 l3_4 l4_5 1 M Q E
theorem wX1_river_b13 {kf : Nat} {G : gG} {w : gM → Nat → List (Nat × Value) → List Value → Prop} {Q : Int64 → gM → Prop} {E : Nat → gM → Prop} (hw : gX yX1_river cX1_river 5 (Option.some FieldType.long) [] kf G (gQl Q) (gEx "java/util/NoSuchElementException" E) w) (hkf : 103 ≤ kf)  {l1_2 : Int32} {l2_3 : Int32} {l3_4 : Int32} {l4_5 : Int32} {M : gM}  (h : fX1_river_b13 l1_2 l2_3 l3_4 l4_5 M Q E) : w M 13 [(0, .ref (gA G 16)), (1, .int l1_2), (2, .int l2_3), (3, .int l3_4), (4, .int l4_5)] [] := by
  unfold fX1_river_b13 at h
  refine g_iconst (v := 1) hw dX1_river_13 (by decide) ?_
  refine g_goto (tgt := 18) hw dX1_river_14 (by decide) ?_
  exact wX1_river_b18 hw hkf h
def fX1_river (p1 : Int32) (p2 : Int32) (p3 : Int32) (p4 : Int32) (M : gM) (Q : Int64 → gM → Prop) (E : Nat → gM → Prop) : Prop :=
  (if p3 = (-1) then fX1_river_b13 p1 p2 p3 p4 M Q E else gk M 16 = 1 ∧ fX1_isKitchen p3 M (fun r26 M25 => (if r26 = 0 then fX1_river_b18 p1 p2 p3 p4 0 M25 Q E else fX1_river_b13 p1 p2 p3 p4 M25 Q E)))
theorem mX1_river {kf : Nat} (hkf : 103 ≤ kf) (G : gG) (p1 : Int32) (p2 : Int32) (p3 : Int32) (p4 : Int32) (M : gM) (Q : Int64 → gM → Prop) (E : Nat → gM → Prop) (h : fX1_river p1 p2 p3 p4 M Q E) : gMet yX1_river cX1_river 5 (Option.some FieldType.long) kf G M [.ref (gA G 16), .int p1, .int p2, .int p3, .int p4] (gQl Q) (gEx "java/util/NoSuchElementException" E) := by
  refine g_intro (lv := [(0, .ref (gA G 16)), (1, .int p1), (2, .int p2), (3, .int p3), (4, .int p4)]) (by decide) rfl rfl (fun w hw => ?_)
  unfold fX1_river at h
  refine g_iload_n hw 3 dX1_river_0 rfl ?_
  refine g_iconst (v := (-1)) hw dX1_river_1 (by decide) ?_
  refine g_icmp_eq (tgt := 13) hw dX1_river_2 (by decide) (fun hb1 => ?_) (fun hb1 => ?_)
  · have h := gT h hb1
    exact wX1_river_b13 hw hkf h
  · have h := gF h hb1
    refine g_aload_n hw 0 dX1_river_5 rfl ?_
    refine g_iload_n hw 3 dX1_river_6 rfl ?_
    obtain ⟨hk24, h⟩ := h
    refine sX1_136 hw rfl dX1_river_7 rfl (gK2 hkf) hk24 h (fun r26 M25 h => ?_)
    refine g_if_eq (tgt := 17) hw dX1_river_10 (by decide) (fun hb27 => ?_) (fun hb27 => ?_)
    · have h := gT h hb27
      refine g_iconst (v := 0) hw dX1_river_17 (by decide) ?_
      exact wX1_river_b18 hw hkf h
    · have h := gF h hb27
      exact wX1_river_b13 hw hkf h
def fX1_part (p1 : Int32) (p2 : Int32) (p3 : Int32) (p4 : Int32) (M : gM) (Q : Int64 → gM → Prop) (E : Nat → gM → Prop) : Prop :=
  gk M 16 = 1 ∧ fX1_isKitchen p3 M (fun r3 M2 => fX1_need r3 M2 (fun M4 => gk M4 16 = 1 ∧ fX1_needRiver p1 p2 p3 p4 M4 (fun M7 => gk M7 16 = 1 ∧ gdr (gR M7 16 0) (fun a10 => gk M7 a10 = 44 ∧ vp_in p3 (gl M7 a10) ∧ gdr (gR M7 a10 p3.toNatClampNeg) (fun a14 => gk M7 a14 = 4 ∧ fX4_isCounted a14 p1 p2 M7 (fun r18 M17 => fX1_need r18 M17 (fun M19 => gk M19 16 = 1 ∧ fX1_above M19 (fun r23 M22 => gk M22 16 = 1 ∧ fX1_below M22 (fun r26 M25 => gk M25 16 = 1 ∧ fX1_rivers p1 p2 (-1) M25 (fun r29 M28 => gk M28 16 = 1 ∧ fX1_above M28 (fun r32 M31 => gk M31 16 = 1 ∧ fX1_below M31 (fun r35 M34 => gk M34 16 = 1 ∧ fX1_below M34 (fun r38 M37 => fX1_lowest ((r32 * r26) - (r23 * r35)) (r38 * r26) p4 M37 (fun r40 M39 => Q r40 M39)))))))) E)))) E) E)
theorem mX1_part {kf : Nat} (hkf : 103 ≤ kf) (G : gG) (p1 : Int32) (p2 : Int32) (p3 : Int32) (p4 : Int32) (M : gM) (Q : Int64 → gM → Prop) (E : Nat → gM → Prop) (h : fX1_part p1 p2 p3 p4 M Q E) : gMet yX1_part cX1_part 9 (Option.some FieldType.long) kf G M [.ref (gA G 16), .int p1, .int p2, .int p3, .int p4] (gQl Q) (gEx "java/util/NoSuchElementException" E) := by
  refine g_intro (lv := [(0, .ref (gA G 16)), (1, .int p1), (2, .int p2), (3, .int p3), (4, .int p4)]) (by decide) rfl rfl (fun w hw => ?_)
  unfold fX1_part at h
  refine g_aload_n hw 0 dX1_part_0 rfl ?_
  refine g_iload_n hw 3 dX1_part_1 rfl ?_
  obtain ⟨hk1, h⟩ := h
  refine sX1_136 hw rfl dX1_part_2 rfl (gK2 hkf) hk1 h (fun r3 M2 h => ?_)
  refine sX1_168 hw rfl dX1_part_5 rfl (gK2 hkf) h (fun M4 h => ?_)
  refine g_aload_n hw 0 dX1_part_8 rfl ?_
  refine g_iload_n hw 1 dX1_part_9 rfl ?_
  refine g_iload_n hw 2 dX1_part_10 rfl ?_
  refine g_iload_n hw 3 dX1_part_11 rfl ?_
  refine g_iload hw 4 dX1_part_12 rfl ?_
  obtain ⟨hk6, h⟩ := h
  refine sX1_207 hw rfl dX1_part_14 rfl (gK2 hkf) hk6 h (fun M7 h => ?_)
  refine g_aload_n hw 0 dX1_part_17 rfl ?_
  obtain ⟨hk9, h⟩ := h
  obtain ⟨a10, e11, h⟩ := h
  refine gfX1_21 (q := some a10) hw rfl dX1_part_18 hk9 e11 ?_
  refine g_iload_n hw 3 dX1_part_21 rfl ?_
  obtain ⟨hk12, h⟩ := h
  obtain ⟨hi13, h⟩ := h
  obtain ⟨a14, e15, h⟩ := h
  refine g_aaldS (n := p3.toNatClampNeg) hw 4 dX1_part_22 ⟨rfl, rfl⟩ hk12 hi13 rfl e15 ?_
  refine g_iload_n hw 1 dX1_part_23 rfl ?_
  refine g_iload_n hw 2 dX1_part_24 rfl ?_
  obtain ⟨hk16, h⟩ := h
  refine sX1_172 hw rfl dX1_part_25 rfl (gK2 hkf) hk16 h (fun r18 M17 h => ?_)
  refine sX1_168 hw rfl dX1_part_28 rfl (gK2 hkf) h (fun M19 h => ?_)
  refine g_aload_n hw 0 dX1_part_31 rfl ?_
  obtain ⟨hk21, h⟩ := h
  refine sX1_211 hw rfl dX1_part_32 rfl (gK2 hkf) hk21 h (fun r23 M22 h => ?_)
  refine g_lstore hw (lv2 := [(0, .ref (gA G 16)), (1, .int p1), (2, .int p2), (4, .int p4), (5, .long r23)]) [1, 2, 3, 5, 0] dX1_part_35 rfl rfl ?_
  refine g_aload_n hw 0 dX1_part_37 rfl ?_
  obtain ⟨hk24, h⟩ := h
  refine sX1_215 hw rfl dX1_part_38 rfl (gK2 hkf) hk24 h (fun r26 M25 h => ?_)
  refine g_lstore hw (lv2 := [(0, .ref (gA G 16)), (1, .int p1), (2, .int p2), (4, .int p4), (5, .long r23), (7, .long r26)]) [1, 2, 3, 4, 5, 0] dX1_part_41 rfl rfl ?_
  refine g_aload_n hw 0 dX1_part_43 rfl ?_
  refine g_iload_n hw 1 dX1_part_44 rfl ?_
  refine g_iload_n hw 2 dX1_part_45 rfl ?_
  refine g_iconst (v := (-1)) hw dX1_part_46 (by decide) ?_
  obtain ⟨hk27, h⟩ := h
  refine sX1_204 hw rfl dX1_part_47 rfl (gK2 hkf) hk27 h (fun r29 M28 h => ?_)
  refine g_pop hw dX1_part_50 rfl ?_
  refine g_aload_n hw 0 dX1_part_51 rfl ?_
  obtain ⟨hk30, h⟩ := h
  refine sX1_211 hw rfl dX1_part_52 rfl (gK2 hkf) hk30 h (fun r32 M31 h => ?_)
  refine g_lload hw 5 dX1_part_55 rfl ?_
  refine g_lmul hw dX1_part_57 ?_
  refine g_lload hw 4 dX1_part_58 rfl ?_
  refine g_aload_n hw 0 dX1_part_60 rfl ?_
  obtain ⟨hk33, h⟩ := h
  refine sX1_215 hw rfl dX1_part_61 rfl (gK2 hkf) hk33 h (fun r35 M34 h => ?_)
  refine g_lmul hw dX1_part_64 ?_
  refine g_lsub hw dX1_part_65 ?_
  refine g_aload_n hw 0 dX1_part_66 rfl ?_
  obtain ⟨hk36, h⟩ := h
  refine sX1_215 hw rfl dX1_part_67 rfl (gK2 hkf) hk36 h (fun r38 M37 h => ?_)
  refine g_lload hw 5 dX1_part_70 rfl ?_
  refine g_lmul hw dX1_part_72 ?_
  refine g_iload hw 3 dX1_part_73 rfl ?_
  refine sX1_218 hw rfl dX1_part_75 rfl (gK2 hkf) h (fun r40 M39 h => ?_)
  exact g_lret hw dX1_part_78 ⟨_, rfl, h⟩
def fX1_bounds_b38 (l3_14 : Int32) (s1_15 : Int32) (s2_16 : Int32) (s3_17 : Int32) (M : gM) (Q : Int64 → gM → Prop) (E : Nat → gM → Prop) : Prop :=
  gk M 16 = 1 ∧ fX1_ends s1_15 s2_16 s3_17 M (fun r20 M19 => fX1_need r20 M19 (fun M21 => gk M21 16 = 1 ∧ fX1_above M21 (fun r25 M24 => gk M24 16 = 1 ∧ fX1_below M24 (fun r28 M27 => fX1_lowest r25 r28 (l3_14 - l3_14 / 2 * 2) M27 (fun r30 M29 => Q r30 M29)))) E)
theorem wX1_bounds_b38 {kf : Nat} {G : gG} {w : gM → Nat → List (Nat × Value) → List Value → Prop} {Q : Int64 → gM → Prop} {E : Nat → gM → Prop} (hw : gX yX1_bounds cX1_bounds 4 (Option.some FieldType.long) [] kf G (gQl Q) (gEx "java/util/NoSuchElementException" E) w) (hkf : 103 ≤ kf)  {l3_14 : Int32} {s1_15 : Int32} {s2_16 : Int32} {s3_17 : Int32} {M : gM}  (h : fX1_bounds_b38 l3_14 s1_15 s2_16 s3_17 M Q E) : w M 38 [(0, .ref (gA G 16)), (3, .int l3_14)] [.int s3_17, .int s2_16, .int s1_15, .ref (gA G 16)] := by
  unfold fX1_bounds_b38 at h
  obtain ⟨hk18, h⟩ := h
  refine sX1_226 hw rfl dX1_bounds_38 rfl (gK2 hkf) hk18 h (fun r20 M19 h => ?_)
  refine sX1_168 hw rfl dX1_bounds_41 rfl (gK2 hkf) h (fun M21 h => ?_)
  refine g_aload_n hw 0 dX1_bounds_44 rfl ?_
  obtain ⟨hk23, h⟩ := h
  refine sX1_211 hw rfl dX1_bounds_45 rfl (gK2 hkf) hk23 h (fun r25 M24 h => ?_)
  refine g_aload_n hw 0 dX1_bounds_48 rfl ?_
  obtain ⟨hk26, h⟩ := h
  refine sX1_215 hw rfl dX1_bounds_49 rfl (gK2 hkf) hk26 h (fun r28 M27 h => ?_)
  refine g_iload_n hw 1 dX1_bounds_52 rfl ?_
  refine g_iconst (v := 2) hw dX1_bounds_53 (by decide) ?_
  refine g_irem hw dX1_bounds_54 (by decide) ?_
  refine sX1_218 hw rfl dX1_bounds_55 rfl (gK2 hkf) h (fun r30 M29 h => ?_)
  exact g_lret hw dX1_bounds_58 ⟨_, rfl, h⟩
def fX1_bounds_b22 (l1_7 : Int32) (l2_8 : Int32) (l3_9 : Int32) (s0_10 : Int32) (M : gM) (Q : Int64 → gM → Prop) (E : Nat → gM → Prop) : Prop :=
  fX1_need s0_10 M (fun M11 => (if l3_9 ≤ 1 then fX1_bounds_b38 l3_9 l1_7 l2_8 0 M11 Q E else fX1_bounds_b38 l3_9 l1_7 l2_8 1 M11 Q E)) E
theorem wX1_bounds_b22 {kf : Nat} {G : gG} {w : gM → Nat → List (Nat × Value) → List Value → Prop} {Q : Int64 → gM → Prop} {E : Nat → gM → Prop} (hw : gX yX1_bounds cX1_bounds 4 (Option.some FieldType.long) [] kf G (gQl Q) (gEx "java/util/NoSuchElementException" E) w) (hkf : 103 ≤ kf)  {l1_7 : Int32} {l2_8 : Int32} {l3_9 : Int32} {s0_10 : Int32} {M : gM}  (h : fX1_bounds_b22 l1_7 l2_8 l3_9 s0_10 M Q E) : w M 22 [(0, .ref (gA G 16)), (1, .int l1_7), (2, .int l2_8), (3, .int l3_9)] [.int s0_10] := by
  unfold fX1_bounds_b22 at h
  refine sX1_168 hw rfl dX1_bounds_22 rfl (gK2 hkf) h (fun M11 h => ?_)
  refine g_aload_n hw 0 dX1_bounds_25 rfl ?_
  refine g_iload_n hw 1 dX1_bounds_26 rfl ?_
  refine g_iload_n hw 2 dX1_bounds_27 rfl ?_
  refine g_iload_n hw 3 dX1_bounds_28 rfl ?_
  refine g_iconst (v := 1) hw dX1_bounds_29 (by decide) ?_
  refine g_icmp_le (tgt := 37) hw dX1_bounds_30 (by decide) (fun hb13 => ?_) (fun hb13 => ?_)
  · have h := gT h hb13
    refine g_iconst (v := 0) hw dX1_bounds_37 (by decide) ?_
    refine g_sub hw (lv2 := [(0, .ref (gA G 16)), (3, .int l3_9)]) [0, 3] rfl ?_
    exact wX1_bounds_b38 hw hkf h
  · have h := gF h hb13
    refine g_iconst (v := 1) hw dX1_bounds_33 (by decide) ?_
    refine g_goto (tgt := 38) hw dX1_bounds_34 (by decide) ?_
    refine g_sub hw (lv2 := [(0, .ref (gA G 16)), (3, .int l3_9)]) [0, 3] rfl ?_
    exact wX1_bounds_b38 hw hkf h
def fX1_bounds_b21 (l1_4 : Int32) (l2_5 : Int32) (l3_6 : Int32) (M : gM) (Q : Int64 → gM → Prop) (E : Nat → gM → Prop) : Prop :=
  fX1_bounds_b22 l1_4 l2_5 l3_6 0 M Q E
theorem wX1_bounds_b21 {kf : Nat} {G : gG} {w : gM → Nat → List (Nat × Value) → List Value → Prop} {Q : Int64 → gM → Prop} {E : Nat → gM → Prop} (hw : gX yX1_bounds cX1_bounds 4 (Option.some FieldType.long) [] kf G (gQl Q) (gEx "java/util/NoSuchElementException" E) w) (hkf : 103 ≤ kf)  {l1_4 : Int32} {l2_5 : Int32} {l3_6 : Int32} {M : gM}  (h : fX1_bounds_b21 l1_4 l2_5 l3_6 M Q E) : w M 21 [(0, .ref (gA G 16)), (1, .int l1_4), (2, .int l2_5), (3, .int l3_6)] [] := by
  unfold fX1_bounds_b21 at h
  refine g_iconst (v := 0) hw dX1_bounds_21 (by decide) ?_
  exact wX1_bounds_b22 hw hkf h
def fX1_bounds (p1 : Int32) (p2 : Int32) (p3 : Int32) (M : gM) (Q : Int64 → gM → Prop) (E : Nat → gM → Prop) : Prop :=
  fX1_areMonths p1 p2 M (fun r2 M1 => (if r2 = 0 then fX1_bounds_b21 p1 p2 p3 M1 Q E else fX1_in p3 0 3 M1 (fun r32 M31 => (if r32 = 0 then fX1_bounds_b21 p1 p2 p3 M31 Q E else fX1_bounds_b22 p1 p2 p3 1 M31 Q E))))
theorem mX1_bounds {kf : Nat} (hkf : 103 ≤ kf) (G : gG) (p1 : Int32) (p2 : Int32) (p3 : Int32) (M : gM) (Q : Int64 → gM → Prop) (E : Nat → gM → Prop) (h : fX1_bounds p1 p2 p3 M Q E) : gMet yX1_bounds cX1_bounds 4 (Option.some FieldType.long) kf G M [.ref (gA G 16), .int p1, .int p2, .int p3] (gQl Q) (gEx "java/util/NoSuchElementException" E) := by
  refine g_intro (lv := [(0, .ref (gA G 16)), (1, .int p1), (2, .int p2), (3, .int p3)]) (by decide) rfl rfl (fun w hw => ?_)
  unfold fX1_bounds at h
  refine g_iload_n hw 1 dX1_bounds_0 rfl ?_
  refine g_iload_n hw 2 dX1_bounds_1 rfl ?_
  refine sX1_164 hw rfl dX1_bounds_2 rfl (gK2 hkf) h (fun r2 M1 h => ?_)
  refine g_if_eq (tgt := 21) hw dX1_bounds_5 (by decide) (fun hb3 => ?_) (fun hb3 => ?_)
  · have h := gT h hb3
    exact wX1_bounds_b21 hw hkf h
  · have h := gF h hb3
    refine g_iload_n hw 3 dX1_bounds_8 rfl ?_
    refine g_iconst (v := 0) hw dX1_bounds_9 (by decide) ?_
    refine g_iconst (v := 3) hw dX1_bounds_10 (by decide) ?_
    refine sX1_112 hw rfl dX1_bounds_11 rfl (gK2 hkf) h (fun r32 M31 h => ?_)
    refine g_if_eq (tgt := 21) hw dX1_bounds_14 (by decide) (fun hb33 => ?_) (fun hb33 => ?_)
    · have h := gT h hb33
      exact wX1_bounds_b21 hw hkf h
    · have h := gF h hb33
      refine g_iconst (v := 1) hw dX1_bounds_17 (by decide) ?_
      refine g_goto (tgt := 22) hw dX1_bounds_18 (by decide) ?_
      exact wX1_bounds_b22 hw hkf h
theorem sX1_230 {y0 : MethodName} {cc : ByteArray} {nL : Nat} {ret : Option FieldType} {hh : List (Nat × Nat × Nat × Nat)} {kf : Nat} {G : gG} {Qv : Option Value → gM → Prop} {E : String → Nat → gM → Prop} {w : gM → Nat → List (Nat × Value) → List Value → Prop} {M : gM} {pc : Nat} {lv : List (Nat × Value)} {rest : List Value} (hw : gX y0 cc nL ret hh kf G Qv E w) (hy : y0.cls = RX1) {c0 : Nat} {p1 : Int32} {p2 : Int32} {Q : Int32 → gM → Prop} (d : decode cc pc = .ok (.invokevirtual 230, 3)) (hrest : Nat.ble ((rest.map Value.category).sum) 8 = true) (hk : 1 + 1 ≤ kf) (hkd : gk M c0 = 4) (h : fX4_isOnSheets c0 p1 p2 M Q) (kk : ∀ r M1, Q r M1 → w M1 (pc + 3) lv (.int r :: rest)) : w M pc lv (.int p2 :: .int p1 :: .ref (gA G c0) :: rest) := by
  obtain ⟨cls9, nm9, ds9⟩ := y0
  subst hy
  exact g_callV (r := (RX4, TX4, 11)) (ci := 3) hw [.int p1, .int p2] (nA := 2) rfl d q1027 q1028 q1029 q101 q1030 (by decide +kernel) rfl rfl hrest rfl (by omega : kf - 1 + 1 ≤ kf) hkd (mX4_isOnSheets (kf := kf - 1) (by omega) G c0 p1 p2 M Q h) (fun _ _ _ q => q.elim) (fun v M1 h => by obtain ⟨r, rfl, h⟩ := h; exact kk r M1 h)
def fX1_sheets_b121 (R33 : Int32 → gM → Prop) (l1_18 : Int32) (l2_19 : Int32) (l3_20 : Int32) (l4_21 : Int32) (l5_35 : Int32) (M : gM) (Q : Int64 → gM → Prop) (E : Nat → gM → Prop) : Prop :=
  R33 (l5_35 + 1) M
theorem wX1_sheets_b121 {kf : Nat} {G : gG} {w : gM → Nat → List (Nat × Value) → List Value → Prop} {Q : Int64 → gM → Prop} {E : Nat → gM → Prop} (hw : gX yX1_sheets cX1_sheets 7 (Option.some FieldType.long) [] kf G (gQl Q) (gEx "java/util/NoSuchElementException" E) w) (hkf : 103 ≤ kf) {R33 : Int32 → gM → Prop} {l1_18 : Int32} {l2_19 : Int32} {l3_20 : Int32} {l4_21 : Int32} {l5_35 : Int32} {M : gM} (hR33 : ∀ (v0 : Int32) (M : gM), R33 v0 M → w M 33 [(0, .ref (gA G 16)), (1, .int l1_18), (2, .int l2_19), (3, .int l3_20), (4, .int l4_21), (5, .int v0)] []) (h : fX1_sheets_b121 R33 l1_18 l2_19 l3_20 l4_21 l5_35 M Q E) : w M 121 [(0, .ref (gA G 16)), (1, .int l1_18), (2, .int l2_19), (3, .int l3_20), (4, .int l4_21), (5, .int l5_35)] [] := by
  unfold fX1_sheets_b121 at h
  refine g_iinc hw (lv2 := [(0, .ref (gA G 16)), (1, .int l1_18), (2, .int l2_19), (3, .int l3_20), (4, .int l4_21), (5, .int (l5_35 + 1))]) 5 [1, 2, 3, 4, 5, 0] dX1_sheets_121 rfl (by decide) rfl rfl ?_
  refine g_goto (tgt := 33) hw dX1_sheets_124 (by decide) ?_
  exact hR33 (l5_35 + 1) M h
def fX1_sheets_b71 (R33 : Int32 → gM → Prop) (l1_18 : Int32) (l2_19 : Int32) (l3_20 : Int32) (l4_21 : Int32) (l5_38 : Int32) (l6_39 : Nat) (M : gM) (Q : Int64 → gM → Prop) (E : Nat → gM → Prop) : Prop :=
  gk M l6_39 = 4 ∧ gk M 16 = 1 ∧ fX1_of (gI M l6_39 0) M (fun r43 M42 => gk M42 l6_39 = 4 ∧ gdr (gR M42 l6_39 7) (fun a45 => gk M42 a45 = 40 ∧ vp_in l2_19 (gl M42 a45) ∧ gdr (gR M42 l6_39 8) (fun a49 => gk M42 a49 = 40 ∧ vp_in l2_19 (gl M42 a49) ∧ gk M42 16 = 1 ∧ fX1_handsOf_2 (gI M42 a45 l2_19.toNatClampNeg) (gI M42 a49 l2_19.toNatClampNeg) M42 (fun r55 M54 => gk M54 l6_39 = 4 ∧ gdr (gR M54 l6_39 7) (fun a57 => gk M54 a57 = 40 ∧ vp_in l1_18 (gl M54 a57) ∧ gdr (gR M54 l6_39 8) (fun a61 => gk M54 a61 = 40 ∧ vp_in l1_18 (gl M54 a61) ∧ gk M54 16 = 1 ∧ fX1_handsOf_2 (gI M54 a57 l1_18.toNatClampNeg) (gI M54 a61 l1_18.toNatClampNeg) M54 (fun r67 M66 => gk M66 r43 = 3 ∧ fX3_adds r43 ((r55 - r67).toInt64) M66 (fun M69 => fX1_sheets_b121 R33 l1_18 l2_19 l3_20 l4_21 l5_38 M69 Q E))))))))
theorem wX1_sheets_b71 {kf : Nat} {G : gG} {w : gM → Nat → List (Nat × Value) → List Value → Prop} {Q : Int64 → gM → Prop} {E : Nat → gM → Prop} (hw : gX yX1_sheets cX1_sheets 7 (Option.some FieldType.long) [] kf G (gQl Q) (gEx "java/util/NoSuchElementException" E) w) (hkf : 103 ≤ kf) {R33 : Int32 → gM → Prop} {l1_18 : Int32} {l2_19 : Int32} {l3_20 : Int32} {l4_21 : Int32} {l5_38 : Int32} {l6_39 : Nat} {M : gM} (hR33 : ∀ (v0 : Int32) (M : gM), R33 v0 M → w M 33 [(0, .ref (gA G 16)), (1, .int l1_18), (2, .int l2_19), (3, .int l3_20), (4, .int l4_21), (5, .int v0)] []) (h : fX1_sheets_b71 R33 l1_18 l2_19 l3_20 l4_21 l5_38 l6_39 M Q E) : w M 71 [(0, .ref (gA G 16)), (1, .int l1_18), (2, .int l2_19), (3, .int l3_20), (4, .int l4_21), (5, .int l5_38), (6, .ref (gA G l6_39))] [] := by
  unfold fX1_sheets_b71 at h
  refine g_aload_n hw 0 dX1_sheets_71 rfl ?_
  refine g_aload hw 6 dX1_sheets_72 rfl ?_
  obtain ⟨hk40, h⟩ := h
  refine gfX1_124 hw rfl dX1_sheets_74 hk40 ?_
  obtain ⟨hk41, h⟩ := h
  refine sX1_192 hw rfl dX1_sheets_77 rfl (gK2 hkf) hk41 h (fun r43 M42 h => ?_)
  refine g_aload_n hw 0 dX1_sheets_80 rfl ?_
  refine g_aload hw 6 dX1_sheets_81 rfl ?_
  obtain ⟨hk44, h⟩ := h
  obtain ⟨a45, e46, h⟩ := h
  refine gfX1_149 (q := some a45) hw rfl dX1_sheets_83 hk44 e46 ?_
  refine g_iload_n hw 2 dX1_sheets_86 rfl ?_
  obtain ⟨hk47, h⟩ := h
  obtain ⟨hi48, h⟩ := h
  refine g_iald (n := l2_19.toNatClampNeg) hw dX1_sheets_87 hk47 hi48 rfl ?_
  refine g_aload hw 6 dX1_sheets_88 rfl ?_
  obtain ⟨a49, e50, h⟩ := h
  refine gfX1_152 (q := some a49) hw rfl dX1_sheets_90 hk44 e50 ?_
  refine g_iload_n hw 2 dX1_sheets_93 rfl ?_
  obtain ⟨hk51, h⟩ := h
  obtain ⟨hi52, h⟩ := h
  refine g_iald (n := l2_19.toNatClampNeg) hw dX1_sheets_94 hk51 hi52 rfl ?_
  obtain ⟨hk53, h⟩ := h
  refine sX1_155 hw rfl dX1_sheets_95 rfl (gK2 hkf) hk53 h (fun r55 M54 h => ?_)
  refine g_aload_n hw 0 dX1_sheets_98 rfl ?_
  refine g_aload hw 6 dX1_sheets_99 rfl ?_
  obtain ⟨hk56, h⟩ := h
  obtain ⟨a57, e58, h⟩ := h
  refine gfX1_149 (q := some a57) hw rfl dX1_sheets_101 hk56 e58 ?_
  refine g_iload_n hw 1 dX1_sheets_104 rfl ?_
  obtain ⟨hk59, h⟩ := h
  obtain ⟨hi60, h⟩ := h
  refine g_iald (n := l1_18.toNatClampNeg) hw dX1_sheets_105 hk59 hi60 rfl ?_
  refine g_aload hw 6 dX1_sheets_106 rfl ?_
  obtain ⟨a61, e62, h⟩ := h
  refine gfX1_152 (q := some a61) hw rfl dX1_sheets_108 hk56 e62 ?_
  refine g_iload_n hw 1 dX1_sheets_111 rfl ?_
  obtain ⟨hk63, h⟩ := h
  obtain ⟨hi64, h⟩ := h
  refine g_iald (n := l1_18.toNatClampNeg) hw dX1_sheets_112 hk63 hi64 rfl ?_
  obtain ⟨hk65, h⟩ := h
  refine sX1_155 hw rfl dX1_sheets_113 rfl (gK2 hkf) hk65 h (fun r67 M66 h => ?_)
  refine g_isub hw dX1_sheets_116 ?_
  refine g_i2l hw dX1_sheets_117 ?_
  obtain ⟨hk68, h⟩ := h
  refine sX1_196 hw rfl dX1_sheets_118 rfl (gK2 hkf) hk68 h (fun M69 h => ?_)
  refine g_sub hw (lv2 := [(0, .ref (gA G 16)), (1, .int l1_18), (2, .int l2_19), (3, .int l3_20), (4, .int l4_21), (5, .int l5_38)]) [0, 1, 2, 3, 4, 5] rfl ?_
  exact wX1_sheets_b121 hw hkf hR33 h
def fX1_sheets_L33s (R33 : Int32 → gM → Prop) (K127_33 : gM → Prop) (l1_18 : Int32) (l2_19 : Int32) (l3_20 : Int32) (l4_21 : Int32) (l5_22 : Int32) (M : gM) (Q : Int64 → gM → Prop) (E : Nat → gM → Prop) : Prop :=
  (if 24 ≤ l5_22 then K127_33 M else gk M 16 = 1 ∧ gdr (gR M 16 0) (fun a25 => gk M a25 = 44 ∧ vp_in l5_22 (gl M a25) ∧ gdr (gR M a25 l5_22.toNatClampNeg) (fun a29 => gk M a29 = 4 ∧ fX4_isOnSheets a29 l1_18 l2_19 M (fun r33 M32 => (if r33 = 0 then fX1_sheets_b121 R33 l1_18 l2_19 l3_20 l4_21 l5_22 M32 Q E else gk M32 a29 = 4 ∧ (if (gI M32 a29 4) = 0 then (if l3_20 = 0 then fX1_sheets_b71 R33 l1_18 l2_19 l3_20 l4_21 l5_22 a29 M32 Q E else fX1_sheets_b121 R33 l1_18 l2_19 l3_20 l4_21 l5_22 M32 Q E) else fX1_sheets_b71 R33 l1_18 l2_19 l3_20 l4_21 l5_22 a29 M32 Q E))))))
def fX1_sheets_L33 (K127_33 : gM → Prop) (l1_18 : Int32) (l2_19 : Int32) (l3_20 : Int32) (l4_21 : Int32) (Q : Int64 → gM → Prop) (E : Nat → gM → Prop) : Nat → Int32 → gM → Prop
  | 0 => fun _ _ => False
  | n + 1 => fun l5_22 M => fX1_sheets_L33s (fX1_sheets_L33 K127_33 l1_18 l2_19 l3_20 l4_21 Q E n) K127_33 l1_18 l2_19 l3_20 l4_21 l5_22 M Q E
theorem wX1_sheets_L33s {kf : Nat} {G : gG} {w : gM → Nat → List (Nat × Value) → List Value → Prop} {Q : Int64 → gM → Prop} {E : Nat → gM → Prop} (hw : gX yX1_sheets cX1_sheets 7 (Option.some FieldType.long) [] kf G (gQl Q) (gEx "java/util/NoSuchElementException" E) w) (hkf : 103 ≤ kf) {R33 : Int32 → gM → Prop} {K127_33 : gM → Prop} {l1_18 : Int32} {l2_19 : Int32} {l3_20 : Int32} {l4_21 : Int32} {l5_22 : Int32} {M : gM} (hR33 : ∀ (v0 : Int32) (M : gM), R33 v0 M → w M 33 [(0, .ref (gA G 16)), (1, .int l1_18), (2, .int l2_19), (3, .int l3_20), (4, .int l4_21), (5, .int v0)] []) (hK127_33 : ∀  (M : gM), K127_33 M → w M 127 [(0, .ref (gA G 16)), (4, .int l4_21)] []) (h : fX1_sheets_L33s R33 K127_33 l1_18 l2_19 l3_20 l4_21 l5_22 M Q E) : w M 33 [(0, .ref (gA G 16)), (1, .int l1_18), (2, .int l2_19), (3, .int l3_20), (4, .int l4_21), (5, .int l5_22)] [] := by
  unfold fX1_sheets_L33s at h
  refine g_iload hw 5 dX1_sheets_33 rfl ?_
  refine g_bipush (v := 24) hw dX1_sheets_35 (by decide) ?_
  refine g_icmp_ge (tgt := 127) hw dX1_sheets_37 (by decide) (fun hb23 => ?_) (fun hb23 => ?_)
  · have h := gT h hb23
    refine g_sub hw (lv2 := [(0, .ref (gA G 16)), (4, .int l4_21)]) [0, 4] rfl ?_
    exact hK127_33 M h
  · have h := gF h hb23
    refine g_aload_n hw 0 dX1_sheets_40 rfl ?_
    obtain ⟨hk24, h⟩ := h
    obtain ⟨a25, e26, h⟩ := h
    refine gfX1_21 (q := some a25) hw rfl dX1_sheets_41 hk24 e26 ?_
    refine g_iload hw 5 dX1_sheets_44 rfl ?_
    obtain ⟨hk27, h⟩ := h
    obtain ⟨hi28, h⟩ := h
    obtain ⟨a29, e30, h⟩ := h
    refine g_aaldS (n := l5_22.toNatClampNeg) hw 4 dX1_sheets_46 ⟨rfl, rfl⟩ hk27 hi28 rfl e30 ?_
    refine g_astore hw (lv2 := [(0, .ref (gA G 16)), (1, .int l1_18), (2, .int l2_19), (3, .int l3_20), (4, .int l4_21), (5, .int l5_22), (6, .ref (gA G a29))]) [1, 2, 3, 4, 5, 6, 0] dX1_sheets_47 rfl rfl ?_
    refine g_aload hw 6 dX1_sheets_49 rfl ?_
    refine g_iload_n hw 1 dX1_sheets_51 rfl ?_
    refine g_iload_n hw 2 dX1_sheets_52 rfl ?_
    obtain ⟨hk31, h⟩ := h
    refine sX1_230 hw rfl dX1_sheets_53 rfl (gK2 hkf) hk31 h (fun r33 M32 h => ?_)
    refine g_if_eq (tgt := 121) hw dX1_sheets_56 (by decide) (fun hb34 => ?_) (fun hb34 => ?_)
    · have h := gT h hb34
      refine g_sub hw (lv2 := [(0, .ref (gA G 16)), (1, .int l1_18), (2, .int l2_19), (3, .int l3_20), (4, .int l4_21), (5, .int l5_22)]) [0, 1, 2, 3, 4, 5] rfl ?_
      exact wX1_sheets_b121 hw hkf hR33 h
    · have h := gF h hb34
      refine g_aload hw 6 dX1_sheets_59 rfl ?_
      obtain ⟨hk36, h⟩ := h
      refine gfX1_133 hw rfl dX1_sheets_61 hk36 ?_
      refine g_if_ne (tgt := 71) hw dX1_sheets_64 (by decide) (fun hb37 => ?_) (fun hb37 => ?_)
      · have h := gF h hb37
        exact wX1_sheets_b71 hw hkf hR33 h
      · have h := gT h hb37
        refine g_iload_n hw 3 dX1_sheets_67 rfl ?_
        refine g_if_ne (tgt := 121) hw dX1_sheets_68 (by decide) (fun hb71 => ?_) (fun hb71 => ?_)
        · have h := gF h hb71
          refine g_sub hw (lv2 := [(0, .ref (gA G 16)), (1, .int l1_18), (2, .int l2_19), (3, .int l3_20), (4, .int l4_21), (5, .int l5_22)]) [0, 1, 2, 3, 4, 5] rfl ?_
          exact wX1_sheets_b121 hw hkf hR33 h
        · have h := gT h hb71
          exact wX1_sheets_b71 hw hkf hR33 h
theorem wX1_sheets_L33 {kf : Nat} {G : gG} {w : gM → Nat → List (Nat × Value) → List Value → Prop} {Q : Int64 → gM → Prop} {E : Nat → gM → Prop} (hw : gX yX1_sheets cX1_sheets 7 (Option.some FieldType.long) [] kf G (gQl Q) (gEx "java/util/NoSuchElementException" E) w) (hkf : 103 ≤ kf) {K127_33 : gM → Prop} {l1_18 : Int32} {l2_19 : Int32} {l3_20 : Int32} {l4_21 : Int32} (hK127_33 : ∀  (M : gM), K127_33 M → w M 127 [(0, .ref (gA G 16)), (4, .int l4_21)] []) : ∀ (n : Nat) (l5_22 : Int32) (M : gM), fX1_sheets_L33 K127_33 l1_18 l2_19 l3_20 l4_21 Q E n l5_22 M → w M 33 [(0, .ref (gA G 16)), (1, .int l1_18), (2, .int l2_19), (3, .int l3_20), (4, .int l4_21), (5, .int l5_22)] [] := by
  intro n
  induction n with
  | zero => intro l5_22 M h; exact h.elim
  | succ n ih => intro l5_22 M h; exact wX1_sheets_L33s hw hkf ih hK127_33 h
def fX1_sheets_b23 (l1_8 : Int32) (l2_9 : Int32) (l3_10 : Int32) (l4_11 : Int32) (s0_12 : Int32) (M : gM) (Q : Int64 → gM → Prop) (E : Nat → gM → Prop) : Prop :=
  fX1_need s0_12 M (fun M13 => gk M13 16 = 1 ∧ fX1_begins M13 (fun M16 => ∃ n, fX1_sheets_L33 (fun M72 => gk M72 16 = 1 ∧ fX1_isThere M72 (fun r75 M74 => fX1_need r75 M74 (fun M76 => gk M76 16 = 1 ∧ fX1_above M76 (fun r80 M79 => gk M79 16 = 1 ∧ fX1_below M79 (fun r83 M82 => fX1_lowest r80 r83 l4_11 M82 (fun r85 M84 => Q r85 M84)))) E)) l1_8 l2_9 l3_10 l4_11 Q E n 0 M16)) E
theorem wX1_sheets_b23 {kf : Nat} {G : gG} {w : gM → Nat → List (Nat × Value) → List Value → Prop} {Q : Int64 → gM → Prop} {E : Nat → gM → Prop} (hw : gX yX1_sheets cX1_sheets 7 (Option.some FieldType.long) [] kf G (gQl Q) (gEx "java/util/NoSuchElementException" E) w) (hkf : 103 ≤ kf)  {l1_8 : Int32} {l2_9 : Int32} {l3_10 : Int32} {l4_11 : Int32} {s0_12 : Int32} {M : gM}  (h : fX1_sheets_b23 l1_8 l2_9 l3_10 l4_11 s0_12 M Q E) : w M 23 [(0, .ref (gA G 16)), (1, .int l1_8), (2, .int l2_9), (3, .int l3_10), (4, .int l4_11)] [.int s0_12] := by
  unfold fX1_sheets_b23 at h
  refine sX1_168 hw rfl dX1_sheets_23 rfl (gK2 hkf) h (fun M13 h => ?_)
  refine g_aload_n hw 0 dX1_sheets_26 rfl ?_
  obtain ⟨hk15, h⟩ := h
  refine sX1_189 hw rfl dX1_sheets_27 rfl (gK2 hkf) hk15 h (fun M16 h => ?_)
  refine g_iconst (v := 0) hw dX1_sheets_30 (by decide) ?_
  refine g_istore hw (lv2 := [(0, .ref (gA G 16)), (1, .int l1_8), (2, .int l2_9), (3, .int l3_10), (4, .int l4_11), (5, .int 0)]) [1, 2, 3, 4, 5, 0] dX1_sheets_31 rfl rfl ?_
  obtain ⟨n9, h⟩ := h
  refine wX1_sheets_L33 hw hkf (fun M72 h => ?_) n9 0 M16 h
  refine g_aload_n hw 0 dX1_sheets_127 rfl ?_
  obtain ⟨hk73, h⟩ := h
  refine sX1_200 hw rfl dX1_sheets_128 rfl (gK2 hkf) hk73 h (fun r75 M74 h => ?_)
  refine sX1_168 hw rfl dX1_sheets_131 rfl (gK2 hkf) h (fun M76 h => ?_)
  refine g_aload_n hw 0 dX1_sheets_134 rfl ?_
  obtain ⟨hk78, h⟩ := h
  refine sX1_211 hw rfl dX1_sheets_135 rfl (gK2 hkf) hk78 h (fun r80 M79 h => ?_)
  refine g_aload_n hw 0 dX1_sheets_138 rfl ?_
  obtain ⟨hk81, h⟩ := h
  refine sX1_215 hw rfl dX1_sheets_139 rfl (gK2 hkf) hk81 h (fun r83 M82 h => ?_)
  refine g_iload hw 1 dX1_sheets_142 rfl ?_
  refine sX1_218 hw rfl dX1_sheets_144 rfl (gK2 hkf) h (fun r85 M84 h => ?_)
  exact g_lret hw dX1_sheets_147 ⟨_, rfl, h⟩
def fX1_sheets_b22 (l1_4 : Int32) (l2_5 : Int32) (l3_6 : Int32) (l4_7 : Int32) (M : gM) (Q : Int64 → gM → Prop) (E : Nat → gM → Prop) : Prop :=
  fX1_sheets_b23 l1_4 l2_5 l3_6 l4_7 0 M Q E
theorem wX1_sheets_b22 {kf : Nat} {G : gG} {w : gM → Nat → List (Nat × Value) → List Value → Prop} {Q : Int64 → gM → Prop} {E : Nat → gM → Prop} (hw : gX yX1_sheets cX1_sheets 7 (Option.some FieldType.long) [] kf G (gQl Q) (gEx "java/util/NoSuchElementException" E) w) (hkf : 103 ≤ kf)  {l1_4 : Int32} {l2_5 : Int32} {l3_6 : Int32} {l4_7 : Int32} {M : gM}  (h : fX1_sheets_b22 l1_4 l2_5 l3_6 l4_7 M Q E) : w M 22 [(0, .ref (gA G 16)), (1, .int l1_4), (2, .int l2_5), (3, .int l3_6), (4, .int l4_7)] [] := by
  unfold fX1_sheets_b22 at h
  refine g_iconst (v := 0) hw dX1_sheets_22 (by decide) ?_
  exact wX1_sheets_b23 hw hkf h
def fX1_sheets (p1 : Int32) (p2 : Int32) (p3 : Int32) (p4 : Int32) (M : gM) (Q : Int64 → gM → Prop) (E : Nat → gM → Prop) : Prop :=
  fX1_areMonths p1 p2 M (fun r2 M1 => (if r2 = 0 then fX1_sheets_b22 p1 p2 p3 p4 M1 Q E else fX1_in p4 0 1 M1 (fun r87 M86 => (if r87 = 0 then fX1_sheets_b22 p1 p2 p3 p4 M86 Q E else fX1_sheets_b23 p1 p2 p3 p4 1 M86 Q E))))
theorem mX1_sheets {kf : Nat} (hkf : 103 ≤ kf) (G : gG) (p1 : Int32) (p2 : Int32) (p3 : Int32) (p4 : Int32) (M : gM) (Q : Int64 → gM → Prop) (E : Nat → gM → Prop) (h : fX1_sheets p1 p2 p3 p4 M Q E) : gMet yX1_sheets cX1_sheets 7 (Option.some FieldType.long) kf G M [.ref (gA G 16), .int p1, .int p2, .int p3, .int p4] (gQl Q) (gEx "java/util/NoSuchElementException" E) := by
  refine g_intro (lv := [(0, .ref (gA G 16)), (1, .int p1), (2, .int p2), (3, .int p3), (4, .int p4)]) (by decide) rfl rfl (fun w hw => ?_)
  unfold fX1_sheets at h
  refine g_iload_n hw 1 dX1_sheets_0 rfl ?_
  refine g_iload_n hw 2 dX1_sheets_1 rfl ?_
  refine sX1_164 hw rfl dX1_sheets_2 rfl (gK2 hkf) h (fun r2 M1 h => ?_)
  refine g_if_eq (tgt := 22) hw dX1_sheets_5 (by decide) (fun hb3 => ?_) (fun hb3 => ?_)
  · have h := gT h hb3
    exact wX1_sheets_b22 hw hkf h
  · have h := gF h hb3
    refine g_iload hw 4 dX1_sheets_8 rfl ?_
    refine g_iconst (v := 0) hw dX1_sheets_10 (by decide) ?_
    refine g_iconst (v := 1) hw dX1_sheets_11 (by decide) ?_
    refine sX1_112 hw rfl dX1_sheets_12 rfl (gK2 hkf) h (fun r87 M86 h => ?_)
    refine g_if_eq (tgt := 22) hw dX1_sheets_15 (by decide) (fun hb88 => ?_) (fun hb88 => ?_)
    · have h := gT h hb88
      exact wX1_sheets_b22 hw hkf h
    · have h := gF h hb88
      refine g_iconst (v := 1) hw dX1_sheets_18 (by decide) ?_
      refine g_goto (tgt := 23) hw dX1_sheets_19 (by decide) ?_
      exact wX1_sheets_b23 hw hkf h
def fX1_choosing_b148 (R107 : Int32 → gM → Prop) (l1_18 : Int32) (l2_19 : Int32) (l3_20 : Int32) (l4_21 : Int32) (l5_46 : Int32) (l6_47 : Int32) (l7_48 : Int32) (l8_60 : Int32) (s0_61 : Nat) (s1_62 : Int64) (M : gM) (Q : Int64 → gM → Prop) (E : Nat → gM → Prop) : Prop :=
  gk M s0_61 = 3 ∧ fX3_adds s0_61 s1_62 M (fun M64 => R107 (l8_60 + 1) M64)
theorem wX1_choosing_b148 {kf : Nat} {G : gG} {w : gM → Nat → List (Nat × Value) → List Value → Prop} {Q : Int64 → gM → Prop} {E : Nat → gM → Prop} (hw : gX yX1_choosing cX1_choosing 9 (Option.some FieldType.long) [] kf G (gQl Q) (gEx "java/util/NoSuchElementException" E) w) (hkf : 103 ≤ kf) {R107 : Int32 → gM → Prop} {l1_18 : Int32} {l2_19 : Int32} {l3_20 : Int32} {l4_21 : Int32} {l5_46 : Int32} {l6_47 : Int32} {l7_48 : Int32} {l8_60 : Int32} {s0_61 : Nat} {s1_62 : Int64} {M : gM} (hR107 : ∀ (v0 : Int32) (M : gM), R107 v0 M → w M 107 [(0, .ref (gA G 16)), (1, .int l1_18), (2, .int l2_19), (3, .int l3_20), (4, .int l4_21), (5, .int l5_46), (6, .int l6_47), (7, .int l7_48), (8, .int v0)] []) (h : fX1_choosing_b148 R107 l1_18 l2_19 l3_20 l4_21 l5_46 l6_47 l7_48 l8_60 s0_61 s1_62 M Q E) : w M 148 [(0, .ref (gA G 16)), (1, .int l1_18), (2, .int l2_19), (3, .int l3_20), (4, .int l4_21), (5, .int l5_46), (6, .int l6_47), (7, .int l7_48), (8, .int l8_60)] [.long s1_62, .ref (gA G s0_61)] := by
  unfold fX1_choosing_b148 at h
  obtain ⟨hk63, h⟩ := h
  refine sX1_196 hw rfl dX1_choosing_148 rfl (gK2 hkf) hk63 h (fun M64 h => ?_)
  refine g_iinc hw (lv2 := [(0, .ref (gA G 16)), (1, .int l1_18), (2, .int l2_19), (3, .int l3_20), (4, .int l4_21), (5, .int l5_46), (6, .int l6_47), (7, .int l7_48), (8, .int (l8_60 + 1))]) 8 [1, 2, 3, 4, 5, 6, 7, 8, 0] dX1_choosing_151 rfl (by decide) rfl rfl ?_
  refine g_goto (tgt := 107) hw dX1_choosing_154 (by decide) ?_
  exact hR107 (l8_60 + 1) M64 h
def fX1_choosing_L107s (R107 : Int32 → gM → Prop) (K157_107 : gM → Prop) (l1_18 : Int32) (l2_19 : Int32) (l3_20 : Int32) (l4_21 : Int32) (l5_46 : Int32) (l6_47 : Int32) (l7_48 : Int32) (l8_49 : Int32) (M : gM) (Q : Int64 → gM → Prop) (E : Nat → gM → Prop) : Prop :=
  (if l3_20 ≤ l8_49 then K157_107 M else gk M 16 = 1 ∧ fX1_of l5_46 M (fun r53 M52 => (if l7_48 = 0 then gk M52 16 = 1 ∧ gdr (gR M52 16 12) (fun a56 => gk M52 a56 = 40 ∧ vp_in l8_49 (gl M52 a56) ∧ fX1_choosing_b148 R107 l1_18 l2_19 l3_20 l4_21 l5_46 l6_47 l7_48 l8_49 r53 ((gI M52 a56 l8_49.toNatClampNeg).toInt64) M52 Q E) else gk M52 16 = 1 ∧ gdr (gR M52 16 12) (fun a67 => gk M52 a67 = 40 ∧ vp_in ((l6_47 - 1) - l8_49) (gl M52 a67) ∧ fX1_choosing_b148 R107 l1_18 l2_19 l3_20 l4_21 l5_46 l6_47 l7_48 l8_49 r53 ((gI M52 a67 (((l6_47 - 1) - l8_49).toNatClampNeg)).toInt64) M52 Q E))))
def fX1_choosing_L107 (K157_107 : gM → Prop) (l1_18 : Int32) (l2_19 : Int32) (l3_20 : Int32) (l4_21 : Int32) (l5_46 : Int32) (l6_47 : Int32) (l7_48 : Int32) (Q : Int64 → gM → Prop) (E : Nat → gM → Prop) : Nat → Int32 → gM → Prop
  | 0 => fun _ _ => False
  | n + 1 => fun l8_49 M => fX1_choosing_L107s (fX1_choosing_L107 K157_107 l1_18 l2_19 l3_20 l4_21 l5_46 l6_47 l7_48 Q E n) K157_107 l1_18 l2_19 l3_20 l4_21 l5_46 l6_47 l7_48 l8_49 M Q E
theorem wX1_choosing_L107s {kf : Nat} {G : gG} {w : gM → Nat → List (Nat × Value) → List Value → Prop} {Q : Int64 → gM → Prop} {E : Nat → gM → Prop} (hw : gX yX1_choosing cX1_choosing 9 (Option.some FieldType.long) [] kf G (gQl Q) (gEx "java/util/NoSuchElementException" E) w) (hkf : 103 ≤ kf) {R107 : Int32 → gM → Prop} {K157_107 : gM → Prop} {l1_18 : Int32} {l2_19 : Int32} {l3_20 : Int32} {l4_21 : Int32} {l5_46 : Int32} {l6_47 : Int32} {l7_48 : Int32} {l8_49 : Int32} {M : gM} (hR107 : ∀ (v0 : Int32) (M : gM), R107 v0 M → w M 107 [(0, .ref (gA G 16)), (1, .int l1_18), (2, .int l2_19), (3, .int l3_20), (4, .int l4_21), (5, .int l5_46), (6, .int l6_47), (7, .int l7_48), (8, .int v0)] []) (hK157_107 : ∀  (M : gM), K157_107 M → w M 157 [(0, .ref (gA G 16)), (1, .int l1_18), (2, .int l2_19), (3, .int l3_20), (4, .int l4_21), (5, .int l5_46)] []) (h : fX1_choosing_L107s R107 K157_107 l1_18 l2_19 l3_20 l4_21 l5_46 l6_47 l7_48 l8_49 M Q E) : w M 107 [(0, .ref (gA G 16)), (1, .int l1_18), (2, .int l2_19), (3, .int l3_20), (4, .int l4_21), (5, .int l5_46), (6, .int l6_47), (7, .int l7_48), (8, .int l8_49)] [] := by
  unfold fX1_choosing_L107s at h
  refine g_iload hw 8 dX1_choosing_107 rfl ?_
  refine g_iload_n hw 3 dX1_choosing_109 rfl ?_
  refine g_icmp_ge (tgt := 157) hw dX1_choosing_110 (by decide) (fun hb50 => ?_) (fun hb50 => ?_)
  · have h := gT h hb50
    refine g_sub hw (lv2 := [(0, .ref (gA G 16)), (1, .int l1_18), (2, .int l2_19), (3, .int l3_20), (4, .int l4_21), (5, .int l5_46)]) [0, 1, 2, 3, 4, 5] rfl ?_
    exact hK157_107 M h
  · have h := gF h hb50
    refine g_aload_n hw 0 dX1_choosing_113 rfl ?_
    refine g_iload hw 5 dX1_choosing_114 rfl ?_
    obtain ⟨hk51, h⟩ := h
    refine sX1_192 hw rfl dX1_choosing_116 rfl (gK2 hkf) hk51 h (fun r53 M52 h => ?_)
    refine g_iload hw 7 dX1_choosing_119 rfl ?_
    refine g_if_eq (tgt := 140) hw dX1_choosing_121 (by decide) (fun hb54 => ?_) (fun hb54 => ?_)
    · have h := gT h hb54
      refine g_aload_n hw 0 dX1_choosing_140 rfl ?_
      obtain ⟨hk55, h⟩ := h
      obtain ⟨a56, e57, h⟩ := h
      refine gfX1_73 (q := some a56) hw rfl dX1_choosing_141 hk55 e57 ?_
      refine g_iload hw 8 dX1_choosing_144 rfl ?_
      obtain ⟨hk58, h⟩ := h
      obtain ⟨hi59, h⟩ := h
      refine g_iald (n := l8_49.toNatClampNeg) hw dX1_choosing_146 hk58 hi59 rfl ?_
      refine g_i2l hw dX1_choosing_147 ?_
      exact wX1_choosing_b148 hw hkf hR107 h
    · have h := gF h hb54
      refine g_aload_n hw 0 dX1_choosing_124 rfl ?_
      obtain ⟨hk66, h⟩ := h
      obtain ⟨a67, e68, h⟩ := h
      refine gfX1_73 (q := some a67) hw rfl dX1_choosing_125 hk66 e68 ?_
      refine g_iload hw 6 dX1_choosing_128 rfl ?_
      refine g_iconst (v := 1) hw dX1_choosing_130 (by decide) ?_
      refine g_isub hw dX1_choosing_131 ?_
      refine g_iload hw 8 dX1_choosing_132 rfl ?_
      refine g_isub hw dX1_choosing_134 ?_
      obtain ⟨hk69, h⟩ := h
      obtain ⟨hi70, h⟩ := h
      refine g_iald (n := ((l6_47 - 1) - l8_49).toNatClampNeg) hw dX1_choosing_135 hk69 hi70 rfl ?_
      refine g_i2l hw dX1_choosing_136 ?_
      refine g_goto (tgt := 148) hw dX1_choosing_137 (by decide) ?_
      exact wX1_choosing_b148 hw hkf hR107 h
theorem wX1_choosing_L107 {kf : Nat} {G : gG} {w : gM → Nat → List (Nat × Value) → List Value → Prop} {Q : Int64 → gM → Prop} {E : Nat → gM → Prop} (hw : gX yX1_choosing cX1_choosing 9 (Option.some FieldType.long) [] kf G (gQl Q) (gEx "java/util/NoSuchElementException" E) w) (hkf : 103 ≤ kf) {K157_107 : gM → Prop} {l1_18 : Int32} {l2_19 : Int32} {l3_20 : Int32} {l4_21 : Int32} {l5_46 : Int32} {l6_47 : Int32} {l7_48 : Int32} (hK157_107 : ∀  (M : gM), K157_107 M → w M 157 [(0, .ref (gA G 16)), (1, .int l1_18), (2, .int l2_19), (3, .int l3_20), (4, .int l4_21), (5, .int l5_46)] []) : ∀ (n : Nat) (l8_49 : Int32) (M : gM), fX1_choosing_L107 K157_107 l1_18 l2_19 l3_20 l4_21 l5_46 l6_47 l7_48 Q E n l8_49 M → w M 107 [(0, .ref (gA G 16)), (1, .int l1_18), (2, .int l2_19), (3, .int l3_20), (4, .int l4_21), (5, .int l5_46), (6, .int l6_47), (7, .int l7_48), (8, .int l8_49)] [] := by
  intro n
  induction n with
  | zero => intro l8_49 M h; exact h.elim
  | succ n ih => intro l8_49 M h; exact wX1_choosing_L107s hw hkf ih hK157_107 h
def fX1_choosing_b102 (R43 : Int32 → gM → Prop) (l1_18 : Int32) (l2_19 : Int32) (l3_20 : Int32) (l4_21 : Int32) (l5_43 : Int32) (l6_44 : Int32) (s0_45 : Int32) (M : gM) (Q : Int64 → gM → Prop) (E : Nat → gM → Prop) : Prop :=
  ∃ n, fX1_choosing_L107 (fun M71 => R43 (l5_43 + 1) M71) l1_18 l2_19 l3_20 l4_21 l5_43 l6_44 s0_45 Q E n 0 M
theorem wX1_choosing_b102 {kf : Nat} {G : gG} {w : gM → Nat → List (Nat × Value) → List Value → Prop} {Q : Int64 → gM → Prop} {E : Nat → gM → Prop} (hw : gX yX1_choosing cX1_choosing 9 (Option.some FieldType.long) [] kf G (gQl Q) (gEx "java/util/NoSuchElementException" E) w) (hkf : 103 ≤ kf) {R43 : Int32 → gM → Prop} {l1_18 : Int32} {l2_19 : Int32} {l3_20 : Int32} {l4_21 : Int32} {l5_43 : Int32} {l6_44 : Int32} {s0_45 : Int32} {M : gM} (hR43 : ∀ (v0 : Int32) (M : gM), R43 v0 M → w M 43 [(0, .ref (gA G 16)), (1, .int l1_18), (2, .int l2_19), (3, .int l3_20), (4, .int l4_21), (5, .int v0)] []) (h : fX1_choosing_b102 R43 l1_18 l2_19 l3_20 l4_21 l5_43 l6_44 s0_45 M Q E) : w M 102 [(0, .ref (gA G 16)), (1, .int l1_18), (2, .int l2_19), (3, .int l3_20), (4, .int l4_21), (5, .int l5_43), (6, .int l6_44)] [.int s0_45] := by
  unfold fX1_choosing_b102 at h
  refine g_istore hw (lv2 := [(0, .ref (gA G 16)), (1, .int l1_18), (2, .int l2_19), (3, .int l3_20), (4, .int l4_21), (5, .int l5_43), (6, .int l6_44), (7, .int s0_45)]) [1, 2, 3, 4, 5, 6, 7, 0] dX1_choosing_102 rfl rfl ?_
  refine g_iconst (v := 0) hw dX1_choosing_104 (by decide) ?_
  refine g_istore hw (lv2 := [(0, .ref (gA G 16)), (1, .int l1_18), (2, .int l2_19), (3, .int l3_20), (4, .int l4_21), (5, .int l5_43), (6, .int l6_44), (7, .int s0_45), (8, .int 0)]) [1, 2, 3, 4, 5, 6, 7, 8, 0] dX1_choosing_105 rfl rfl ?_
  obtain ⟨n9, h⟩ := h
  refine wX1_choosing_L107 hw hkf (fun M71 h => ?_) n9 0 M h
  refine g_iinc hw (lv2 := [(0, .ref (gA G 16)), (1, .int l1_18), (2, .int l2_19), (3, .int l3_20), (4, .int l4_21), (5, .int (l5_43 + 1))]) 5 [1, 2, 3, 4, 5, 0] dX1_choosing_157 rfl (by decide) rfl rfl ?_
  refine g_goto (tgt := 43) hw dX1_choosing_160 (by decide) ?_
  exact hR43 (l5_43 + 1) M71 h
def fX1_choosing_b94 (R43 : Int32 → gM → Prop) (l1_18 : Int32) (l2_19 : Int32) (l3_20 : Int32) (l4_21 : Int32) (l5_38 : Int32) (l6_39 : Int32) (s0_40 : Int32) (s1_41 : Int32) (M : gM) (Q : Int64 → gM → Prop) (E : Nat → gM → Prop) : Prop :=
  (if s0_40 = s1_41 then fX1_choosing_b102 R43 l1_18 l2_19 l3_20 l4_21 l5_38 l6_39 1 M Q E else fX1_choosing_b102 R43 l1_18 l2_19 l3_20 l4_21 l5_38 l6_39 0 M Q E)
theorem wX1_choosing_b94 {kf : Nat} {G : gG} {w : gM → Nat → List (Nat × Value) → List Value → Prop} {Q : Int64 → gM → Prop} {E : Nat → gM → Prop} (hw : gX yX1_choosing cX1_choosing 9 (Option.some FieldType.long) [] kf G (gQl Q) (gEx "java/util/NoSuchElementException" E) w) (hkf : 103 ≤ kf) {R43 : Int32 → gM → Prop} {l1_18 : Int32} {l2_19 : Int32} {l3_20 : Int32} {l4_21 : Int32} {l5_38 : Int32} {l6_39 : Int32} {s0_40 : Int32} {s1_41 : Int32} {M : gM} (hR43 : ∀ (v0 : Int32) (M : gM), R43 v0 M → w M 43 [(0, .ref (gA G 16)), (1, .int l1_18), (2, .int l2_19), (3, .int l3_20), (4, .int l4_21), (5, .int v0)] []) (h : fX1_choosing_b94 R43 l1_18 l2_19 l3_20 l4_21 l5_38 l6_39 s0_40 s1_41 M Q E) : w M 94 [(0, .ref (gA G 16)), (1, .int l1_18), (2, .int l2_19), (3, .int l3_20), (4, .int l4_21), (5, .int l5_38), (6, .int l6_39)] [.int s1_41, .int s0_40] := by
  unfold fX1_choosing_b94 at h
  refine g_icmp_ne (tgt := 101) hw dX1_choosing_94 (by decide) (fun hb42 => ?_) (fun hb42 => ?_)
  · have h := gF h hb42
    refine g_iconst (v := 0) hw dX1_choosing_101 (by decide) ?_
    exact wX1_choosing_b102 hw hkf hR43 h
  · have h := gT h hb42
    refine g_iconst (v := 1) hw dX1_choosing_97 (by decide) ?_
    refine g_goto (tgt := 102) hw dX1_choosing_98 (by decide) ?_
    exact wX1_choosing_b102 hw hkf hR43 h
def fX1_choosing_b84 (R43 : Int32 → gM → Prop) (l1_18 : Int32) (l2_19 : Int32) (l3_20 : Int32) (l4_21 : Int32) (l5_34 : Int32) (l6_35 : Int32) (s0_36 : Int32) (M : gM) (Q : Int64 → gM → Prop) (E : Nat → gM → Prop) : Prop :=
  (if l5_34 = 0 then fX1_choosing_b94 R43 l1_18 l2_19 l3_20 l4_21 l5_34 l6_35 s0_36 1 M Q E else fX1_choosing_b94 R43 l1_18 l2_19 l3_20 l4_21 l5_34 l6_35 s0_36 0 M Q E)
theorem wX1_choosing_b84 {kf : Nat} {G : gG} {w : gM → Nat → List (Nat × Value) → List Value → Prop} {Q : Int64 → gM → Prop} {E : Nat → gM → Prop} (hw : gX yX1_choosing cX1_choosing 9 (Option.some FieldType.long) [] kf G (gQl Q) (gEx "java/util/NoSuchElementException" E) w) (hkf : 103 ≤ kf) {R43 : Int32 → gM → Prop} {l1_18 : Int32} {l2_19 : Int32} {l3_20 : Int32} {l4_21 : Int32} {l5_34 : Int32} {l6_35 : Int32} {s0_36 : Int32} {M : gM} (hR43 : ∀ (v0 : Int32) (M : gM), R43 v0 M → w M 43 [(0, .ref (gA G 16)), (1, .int l1_18), (2, .int l2_19), (3, .int l3_20), (4, .int l4_21), (5, .int v0)] []) (h : fX1_choosing_b84 R43 l1_18 l2_19 l3_20 l4_21 l5_34 l6_35 s0_36 M Q E) : w M 84 [(0, .ref (gA G 16)), (1, .int l1_18), (2, .int l2_19), (3, .int l3_20), (4, .int l4_21), (5, .int l5_34), (6, .int l6_35)] [.int s0_36] := by
  unfold fX1_choosing_b84 at h
  refine g_iload hw 5 dX1_choosing_84 rfl ?_
  refine g_if_ne (tgt := 93) hw dX1_choosing_86 (by decide) (fun hb37 => ?_) (fun hb37 => ?_)
  · have h := gF h hb37
    refine g_iconst (v := 0) hw dX1_choosing_93 (by decide) ?_
    exact wX1_choosing_b94 hw hkf hR43 h
  · have h := gT h hb37
    refine g_iconst (v := 1) hw dX1_choosing_89 (by decide) ?_
    refine g_goto (tgt := 94) hw dX1_choosing_90 (by decide) ?_
    exact wX1_choosing_b94 hw hkf hR43 h
def fX1_choosing_b70 (R43 : Int32 → gM → Prop) (l1_18 : Int32) (l2_19 : Int32) (l3_20 : Int32) (l4_21 : Int32) (l5_28 : Int32) (l6_29 : Int32) (s0_30 : Int32) (M : gM) (Q : Int64 → gM → Prop) (E : Nat → gM → Prop) : Prop :=
  fX1_need s0_30 M (fun M31 => (if l4_21 ≤ 1 then fX1_choosing_b84 R43 l1_18 l2_19 l3_20 l4_21 l5_28 l6_29 0 M31 Q E else fX1_choosing_b84 R43 l1_18 l2_19 l3_20 l4_21 l5_28 l6_29 1 M31 Q E)) E
theorem wX1_choosing_b70 {kf : Nat} {G : gG} {w : gM → Nat → List (Nat × Value) → List Value → Prop} {Q : Int64 → gM → Prop} {E : Nat → gM → Prop} (hw : gX yX1_choosing cX1_choosing 9 (Option.some FieldType.long) [] kf G (gQl Q) (gEx "java/util/NoSuchElementException" E) w) (hkf : 103 ≤ kf) {R43 : Int32 → gM → Prop} {l1_18 : Int32} {l2_19 : Int32} {l3_20 : Int32} {l4_21 : Int32} {l5_28 : Int32} {l6_29 : Int32} {s0_30 : Int32} {M : gM} (hR43 : ∀ (v0 : Int32) (M : gM), R43 v0 M → w M 43 [(0, .ref (gA G 16)), (1, .int l1_18), (2, .int l2_19), (3, .int l3_20), (4, .int l4_21), (5, .int v0)] []) (h : fX1_choosing_b70 R43 l1_18 l2_19 l3_20 l4_21 l5_28 l6_29 s0_30 M Q E) : w M 70 [(0, .ref (gA G 16)), (1, .int l1_18), (2, .int l2_19), (3, .int l3_20), (4, .int l4_21), (5, .int l5_28), (6, .int l6_29)] [.int s0_30] := by
  unfold fX1_choosing_b70 at h
  refine sX1_168 hw rfl dX1_choosing_70 rfl (gK2 hkf) h (fun M31 h => ?_)
  refine g_iload hw 4 dX1_choosing_73 rfl ?_
  refine g_iconst (v := 1) hw dX1_choosing_75 (by decide) ?_
  refine g_icmp_le (tgt := 83) hw dX1_choosing_76 (by decide) (fun hb33 => ?_) (fun hb33 => ?_)
  · have h := gT h hb33
    refine g_iconst (v := 0) hw dX1_choosing_83 (by decide) ?_
    exact wX1_choosing_b84 hw hkf hR43 h
  · have h := gF h hb33
    refine g_iconst (v := 1) hw dX1_choosing_79 (by decide) ?_
    refine g_goto (tgt := 84) hw dX1_choosing_80 (by decide) ?_
    exact wX1_choosing_b84 hw hkf hR43 h
def fX1_choosing_L43s (R43 : Int32 → gM → Prop) (K163_43 : gM → Prop) (l1_18 : Int32) (l2_19 : Int32) (l3_20 : Int32) (l4_21 : Int32) (l5_22 : Int32) (M : gM) (Q : Int64 → gM → Prop) (E : Nat → gM → Prop) : Prop :=
  (if 2 ≤ l5_22 then K163_43 M else gk M 16 = 1 ∧ fX1_sorts l5_22 l1_18 l2_19 M (fun r26 M25 => (if r26 < l3_20 then fX1_choosing_b70 R43 l1_18 l2_19 l3_20 l4_21 l5_22 r26 0 M25 Q E else fX1_choosing_b70 R43 l1_18 l2_19 l3_20 l4_21 l5_22 r26 1 M25 Q E)))
def fX1_choosing_L43 (K163_43 : gM → Prop) (l1_18 : Int32) (l2_19 : Int32) (l3_20 : Int32) (l4_21 : Int32) (Q : Int64 → gM → Prop) (E : Nat → gM → Prop) : Nat → Int32 → gM → Prop
  | 0 => fun _ _ => False
  | n + 1 => fun l5_22 M => fX1_choosing_L43s (fX1_choosing_L43 K163_43 l1_18 l2_19 l3_20 l4_21 Q E n) K163_43 l1_18 l2_19 l3_20 l4_21 l5_22 M Q E
theorem wX1_choosing_L43s {kf : Nat} {G : gG} {w : gM → Nat → List (Nat × Value) → List Value → Prop} {Q : Int64 → gM → Prop} {E : Nat → gM → Prop} (hw : gX yX1_choosing cX1_choosing 9 (Option.some FieldType.long) [] kf G (gQl Q) (gEx "java/util/NoSuchElementException" E) w) (hkf : 103 ≤ kf) {R43 : Int32 → gM → Prop} {K163_43 : gM → Prop} {l1_18 : Int32} {l2_19 : Int32} {l3_20 : Int32} {l4_21 : Int32} {l5_22 : Int32} {M : gM} (hR43 : ∀ (v0 : Int32) (M : gM), R43 v0 M → w M 43 [(0, .ref (gA G 16)), (1, .int l1_18), (2, .int l2_19), (3, .int l3_20), (4, .int l4_21), (5, .int v0)] []) (hK163_43 : ∀  (M : gM), K163_43 M → w M 163 [(0, .ref (gA G 16)), (4, .int l4_21)] []) (h : fX1_choosing_L43s R43 K163_43 l1_18 l2_19 l3_20 l4_21 l5_22 M Q E) : w M 43 [(0, .ref (gA G 16)), (1, .int l1_18), (2, .int l2_19), (3, .int l3_20), (4, .int l4_21), (5, .int l5_22)] [] := by
  unfold fX1_choosing_L43s at h
  refine g_iload hw 5 dX1_choosing_43 rfl ?_
  refine g_iconst (v := 2) hw dX1_choosing_45 (by decide) ?_
  refine g_icmp_ge (tgt := 163) hw dX1_choosing_46 (by decide) (fun hb23 => ?_) (fun hb23 => ?_)
  · have h := gT h hb23
    refine g_sub hw (lv2 := [(0, .ref (gA G 16)), (4, .int l4_21)]) [0, 4] rfl ?_
    exact hK163_43 M h
  · have h := gF h hb23
    refine g_aload_n hw 0 dX1_choosing_49 rfl ?_
    refine g_iload hw 5 dX1_choosing_50 rfl ?_
    refine g_iload_n hw 1 dX1_choosing_52 rfl ?_
    refine g_iload_n hw 2 dX1_choosing_53 rfl ?_
    obtain ⟨hk24, h⟩ := h
    refine sX1_233 hw rfl dX1_choosing_54 rfl (gK2 hkf) hk24 h (fun r26 M25 h => ?_)
    refine g_istore hw (lv2 := [(0, .ref (gA G 16)), (1, .int l1_18), (2, .int l2_19), (3, .int l3_20), (4, .int l4_21), (5, .int l5_22), (6, .int r26)]) [1, 2, 3, 4, 5, 6, 0] dX1_choosing_57 rfl rfl ?_
    refine g_iload hw 6 dX1_choosing_59 rfl ?_
    refine g_iload_n hw 3 dX1_choosing_61 rfl ?_
    refine g_icmp_lt (tgt := 69) hw dX1_choosing_62 (by decide) (fun hb27 => ?_) (fun hb27 => ?_)
    · have h := gT h hb27
      refine g_iconst (v := 0) hw dX1_choosing_69 (by decide) ?_
      exact wX1_choosing_b70 hw hkf hR43 h
    · have h := gF h hb27
      refine g_iconst (v := 1) hw dX1_choosing_65 (by decide) ?_
      refine g_goto (tgt := 70) hw dX1_choosing_66 (by decide) ?_
      exact wX1_choosing_b70 hw hkf hR43 h
theorem wX1_choosing_L43 {kf : Nat} {G : gG} {w : gM → Nat → List (Nat × Value) → List Value → Prop} {Q : Int64 → gM → Prop} {E : Nat → gM → Prop} (hw : gX yX1_choosing cX1_choosing 9 (Option.some FieldType.long) [] kf G (gQl Q) (gEx "java/util/NoSuchElementException" E) w) (hkf : 103 ≤ kf) {K163_43 : gM → Prop} {l1_18 : Int32} {l2_19 : Int32} {l3_20 : Int32} {l4_21 : Int32} (hK163_43 : ∀  (M : gM), K163_43 M → w M 163 [(0, .ref (gA G 16)), (4, .int l4_21)] []) : ∀ (n : Nat) (l5_22 : Int32) (M : gM), fX1_choosing_L43 K163_43 l1_18 l2_19 l3_20 l4_21 Q E n l5_22 M → w M 43 [(0, .ref (gA G 16)), (1, .int l1_18), (2, .int l2_19), (3, .int l3_20), (4, .int l4_21), (5, .int l5_22)] [] := by
  intro n
  induction n with
  | zero => intro l5_22 M h; exact h.elim
  | succ n ih => intro l5_22 M h; exact wX1_choosing_L43s hw hkf ih hK163_43 h
def fX1_choosing_b33 (l1_8 : Int32) (l2_9 : Int32) (l3_10 : Int32) (l4_11 : Int32) (s0_12 : Int32) (M : gM) (Q : Int64 → gM → Prop) (E : Nat → gM → Prop) : Prop :=
  fX1_need s0_12 M (fun M13 => gk M13 16 = 1 ∧ fX1_begins M13 (fun M16 => ∃ n, fX1_choosing_L43 (fun M72 => gk M72 16 = 1 ∧ fX1_above M72 (fun r75 M74 => gk M74 16 = 1 ∧ fX1_below M74 (fun r78 M77 => fX1_lowest r75 r78 (l4_11 - l4_11 / 2 * 2) M77 (fun r80 M79 => Q r80 M79)))) l1_8 l2_9 l3_10 l4_11 Q E n 0 M16)) E
theorem wX1_choosing_b33 {kf : Nat} {G : gG} {w : gM → Nat → List (Nat × Value) → List Value → Prop} {Q : Int64 → gM → Prop} {E : Nat → gM → Prop} (hw : gX yX1_choosing cX1_choosing 9 (Option.some FieldType.long) [] kf G (gQl Q) (gEx "java/util/NoSuchElementException" E) w) (hkf : 103 ≤ kf)  {l1_8 : Int32} {l2_9 : Int32} {l3_10 : Int32} {l4_11 : Int32} {s0_12 : Int32} {M : gM}  (h : fX1_choosing_b33 l1_8 l2_9 l3_10 l4_11 s0_12 M Q E) : w M 33 [(0, .ref (gA G 16)), (1, .int l1_8), (2, .int l2_9), (3, .int l3_10), (4, .int l4_11)] [.int s0_12] := by
  unfold fX1_choosing_b33 at h
  refine sX1_168 hw rfl dX1_choosing_33 rfl (gK2 hkf) h (fun M13 h => ?_)
  refine g_aload_n hw 0 dX1_choosing_36 rfl ?_
  obtain ⟨hk15, h⟩ := h
  refine sX1_189 hw rfl dX1_choosing_37 rfl (gK2 hkf) hk15 h (fun M16 h => ?_)
  refine g_iconst (v := 0) hw dX1_choosing_40 (by decide) ?_
  refine g_istore hw (lv2 := [(0, .ref (gA G 16)), (1, .int l1_8), (2, .int l2_9), (3, .int l3_10), (4, .int l4_11), (5, .int 0)]) [1, 2, 3, 4, 5, 0] dX1_choosing_41 rfl rfl ?_
  obtain ⟨n9, h⟩ := h
  refine wX1_choosing_L43 hw hkf (fun M72 h => ?_) n9 0 M16 h
  refine g_aload_n hw 0 dX1_choosing_163 rfl ?_
  obtain ⟨hk73, h⟩ := h
  refine sX1_211 hw rfl dX1_choosing_164 rfl (gK2 hkf) hk73 h (fun r75 M74 h => ?_)
  refine g_aload_n hw 0 dX1_choosing_167 rfl ?_
  obtain ⟨hk76, h⟩ := h
  refine sX1_215 hw rfl dX1_choosing_168 rfl (gK2 hkf) hk76 h (fun r78 M77 h => ?_)
  refine g_iload hw 1 dX1_choosing_171 rfl ?_
  refine g_iconst (v := 2) hw dX1_choosing_173 (by decide) ?_
  refine g_irem hw dX1_choosing_174 (by decide) ?_
  refine sX1_218 hw rfl dX1_choosing_175 rfl (gK2 hkf) h (fun r80 M79 h => ?_)
  exact g_lret hw dX1_choosing_178 ⟨_, rfl, h⟩
def fX1_choosing_b32 (l1_4 : Int32) (l2_5 : Int32) (l3_6 : Int32) (l4_7 : Int32) (M : gM) (Q : Int64 → gM → Prop) (E : Nat → gM → Prop) : Prop :=
  fX1_choosing_b33 l1_4 l2_5 l3_6 l4_7 0 M Q E
theorem wX1_choosing_b32 {kf : Nat} {G : gG} {w : gM → Nat → List (Nat × Value) → List Value → Prop} {Q : Int64 → gM → Prop} {E : Nat → gM → Prop} (hw : gX yX1_choosing cX1_choosing 9 (Option.some FieldType.long) [] kf G (gQl Q) (gEx "java/util/NoSuchElementException" E) w) (hkf : 103 ≤ kf)  {l1_4 : Int32} {l2_5 : Int32} {l3_6 : Int32} {l4_7 : Int32} {M : gM}  (h : fX1_choosing_b32 l1_4 l2_5 l3_6 l4_7 M Q E) : w M 32 [(0, .ref (gA G 16)), (1, .int l1_4), (2, .int l2_5), (3, .int l3_6), (4, .int l4_7)] [] := by
  unfold fX1_choosing_b32 at h
  refine g_iconst (v := 0) hw dX1_choosing_32 (by decide) ?_
  exact wX1_choosing_b33 hw hkf h
def fX1_choosing (p1 : Int32) (p2 : Int32) (p3 : Int32) (p4 : Int32) (M : gM) (Q : Int64 → gM → Prop) (E : Nat → gM → Prop) : Prop :=
  fX1_areMonths p1 p2 M (fun r2 M1 => (if r2 = 0 then fX1_choosing_b32 p1 p2 p3 p4 M1 Q E else fX1_in p3 1 12 M1 (fun r82 M81 => (if r82 = 0 then fX1_choosing_b32 p1 p2 p3 p4 M81 Q E else fX1_in p4 0 3 M81 (fun r85 M84 => (if r85 = 0 then fX1_choosing_b32 p1 p2 p3 p4 M84 Q E else fX1_choosing_b33 p1 p2 p3 p4 1 M84 Q E))))))
theorem mX1_choosing {kf : Nat} (hkf : 103 ≤ kf) (G : gG) (p1 : Int32) (p2 : Int32) (p3 : Int32) (p4 : Int32) (M : gM) (Q : Int64 → gM → Prop) (E : Nat → gM → Prop) (h : fX1_choosing p1 p2 p3 p4 M Q E) : gMet yX1_choosing cX1_choosing 9 (Option.some FieldType.long) kf G M [.ref (gA G 16), .int p1, .int p2, .int p3, .int p4] (gQl Q) (gEx "java/util/NoSuchElementException" E) := by
  refine g_intro (lv := [(0, .ref (gA G 16)), (1, .int p1), (2, .int p2), (3, .int p3), (4, .int p4)]) (by decide) rfl rfl (fun w hw => ?_)
  unfold fX1_choosing at h
  refine g_iload_n hw 1 dX1_choosing_0 rfl ?_
  refine g_iload_n hw 2 dX1_choosing_1 rfl ?_
  refine sX1_164 hw rfl dX1_choosing_2 rfl (gK2 hkf) h (fun r2 M1 h => ?_)
  refine g_if_eq (tgt := 32) hw dX1_choosing_5 (by decide) (fun hb3 => ?_) (fun hb3 => ?_)
  · have h := gT h hb3
    exact wX1_choosing_b32 hw hkf h
  · have h := gF h hb3
    refine g_iload_n hw 3 dX1_choosing_8 rfl ?_
    refine g_iconst (v := 1) hw dX1_choosing_9 (by decide) ?_
    refine g_bipush (v := 12) hw dX1_choosing_10 (by decide) ?_
    refine sX1_112 hw rfl dX1_choosing_12 rfl (gK2 hkf) h (fun r82 M81 h => ?_)
    refine g_if_eq (tgt := 32) hw dX1_choosing_15 (by decide) (fun hb83 => ?_) (fun hb83 => ?_)
    · have h := gT h hb83
      exact wX1_choosing_b32 hw hkf h
    · have h := gF h hb83
      refine g_iload hw 4 dX1_choosing_18 rfl ?_
      refine g_iconst (v := 0) hw dX1_choosing_20 (by decide) ?_
      refine g_iconst (v := 3) hw dX1_choosing_21 (by decide) ?_
      refine sX1_112 hw rfl dX1_choosing_22 rfl (gK2 hkf) h (fun r85 M84 h => ?_)
      refine g_if_eq (tgt := 32) hw dX1_choosing_25 (by decide) (fun hb86 => ?_) (fun hb86 => ?_)
      · have h := gT h hb86
        exact wX1_choosing_b32 hw hkf h
      · have h := gF h hb86
        refine g_iconst (v := 1) hw dX1_choosing_28 (by decide) ?_
        refine g_goto (tgt := 33) hw dX1_choosing_29 (by decide) ?_
        exact wX1_choosing_b33 hw hkf h
def fX1_beside_b103 (R32 : Int32 → gM → Prop) (l1_16 : Int32) (l2_17 : Int32) (l3_18 : Int32) (l4_32 : Int32) (M : gM) (Q : Int64 → gM → Prop) (E : Nat → gM → Prop) : Prop :=
  R32 (l4_32 + 1) M
theorem wX1_beside_b103 {kf : Nat} {G : gG} {w : gM → Nat → List (Nat × Value) → List Value → Prop} {Q : Int64 → gM → Prop} {E : Nat → gM → Prop} (hw : gX yX1_beside cX1_beside 6 (Option.some FieldType.long) [] kf G (gQl Q) (gEx "java/util/NoSuchElementException" E) w) (hkf : 103 ≤ kf) {R32 : Int32 → gM → Prop} {l1_16 : Int32} {l2_17 : Int32} {l3_18 : Int32} {l4_32 : Int32} {M : gM} (hR32 : ∀ (v0 : Int32) (M : gM), R32 v0 M → w M 32 [(0, .ref (gA G 16)), (1, .int l1_16), (2, .int l2_17), (3, .int l3_18), (4, .int v0)] []) (h : fX1_beside_b103 R32 l1_16 l2_17 l3_18 l4_32 M Q E) : w M 103 [(0, .ref (gA G 16)), (1, .int l1_16), (2, .int l2_17), (3, .int l3_18), (4, .int l4_32)] [] := by
  unfold fX1_beside_b103 at h
  refine g_iinc hw (lv2 := [(0, .ref (gA G 16)), (1, .int l1_16), (2, .int l2_17), (3, .int l3_18), (4, .int (l4_32 + 1))]) 4 [1, 2, 3, 4, 0] dX1_beside_103 rfl (by decide) rfl rfl ?_
  refine g_goto (tgt := 32) hw dX1_beside_106 (by decide) ?_
  exact hR32 (l4_32 + 1) M h
def fX1_beside_b88 (R32 : Int32 → gM → Prop) (l1_16 : Int32) (l2_17 : Int32) (l3_18 : Int32) (l4_45 : Int32) (l5_46 : Nat) (s1_47 : Int32) (M : gM) (Q : Int64 → gM → Prop) (E : Nat → gM → Prop) : Prop :=
  gk M 16 = 1 ∧ fX1_of s1_47 M (fun r50 M49 => gk M49 16 = 1 ∧ fX1_change l5_46 l1_16 l2_17 M49 (fun r53 M52 => gk M52 r50 = 3 ∧ fX3_adds r50 r53.toInt64 M52 (fun M55 => fX1_beside_b103 R32 l1_16 l2_17 l3_18 l4_45 M55 Q E)))
theorem wX1_beside_b88 {kf : Nat} {G : gG} {w : gM → Nat → List (Nat × Value) → List Value → Prop} {Q : Int64 → gM → Prop} {E : Nat → gM → Prop} (hw : gX yX1_beside cX1_beside 6 (Option.some FieldType.long) [] kf G (gQl Q) (gEx "java/util/NoSuchElementException" E) w) (hkf : 103 ≤ kf) {R32 : Int32 → gM → Prop} {l1_16 : Int32} {l2_17 : Int32} {l3_18 : Int32} {l4_45 : Int32} {l5_46 : Nat} {s1_47 : Int32} {M : gM} (hR32 : ∀ (v0 : Int32) (M : gM), R32 v0 M → w M 32 [(0, .ref (gA G 16)), (1, .int l1_16), (2, .int l2_17), (3, .int l3_18), (4, .int v0)] []) (h : fX1_beside_b88 R32 l1_16 l2_17 l3_18 l4_45 l5_46 s1_47 M Q E) : w M 88 [(0, .ref (gA G 16)), (1, .int l1_16), (2, .int l2_17), (3, .int l3_18), (4, .int l4_45), (5, .ref (gA G l5_46))] [.int s1_47, .ref (gA G 16)] := by
  unfold fX1_beside_b88 at h
  obtain ⟨hk48, h⟩ := h
  refine sX1_192 hw rfl dX1_beside_88 rfl (gK2 hkf) hk48 h (fun r50 M49 h => ?_)
  refine g_aload_n hw 0 dX1_beside_91 rfl ?_
  refine g_aload hw 5 dX1_beside_92 rfl ?_
  refine g_iload_n hw 1 dX1_beside_94 rfl ?_
  refine g_iload_n hw 2 dX1_beside_95 rfl ?_
  obtain ⟨hk51, h⟩ := h
  refine sX1_175 hw rfl dX1_beside_96 rfl (gK2 hkf) hk51 h (fun r53 M52 h => ?_)
  refine g_i2l hw dX1_beside_99 ?_
  obtain ⟨hk54, h⟩ := h
  refine sX1_196 hw rfl dX1_beside_100 rfl (gK2 hkf) hk54 h (fun M55 h => ?_)
  refine g_sub hw (lv2 := [(0, .ref (gA G 16)), (1, .int l1_16), (2, .int l2_17), (3, .int l3_18), (4, .int l4_45)]) [0, 1, 2, 3, 4] rfl ?_
  exact wX1_beside_b103 hw hkf hR32 h
def fX1_beside_L32s (R32 : Int32 → gM → Prop) (K109_32 : gM → Prop) (l1_16 : Int32) (l2_17 : Int32) (l3_18 : Int32) (l4_19 : Int32) (M : gM) (Q : Int64 → gM → Prop) (E : Nat → gM → Prop) : Prop :=
  (if 24 ≤ l4_19 then K109_32 M else gk M 16 = 1 ∧ gdr (gR M 16 0) (fun a22 => gk M a22 = 44 ∧ vp_in l4_19 (gl M a22) ∧ gdr (gR M a22 l4_19.toNatClampNeg) (fun a26 => gk M a26 = 4 ∧ fX4_isCounted a26 l1_16 l2_17 M (fun r30 M29 => (if r30 = 0 then fX1_beside_b103 R32 l1_16 l2_17 l3_18 l4_19 M29 Q E else gk M29 a26 = 4 ∧ (if (gI M29 a26 0) = 0 then gk M29 16 = 1 ∧ gdr (gR M29 16 1) (fun a36 => gk M29 a36 = 48 ∧ vp_in 0 (gl M29 a36) ∧ gdr (gR M29 a36 0) (fun a40 => gk M29 a40 = 40 ∧ vp_in l2_17 (gl M29 a40) ∧ (if (gI M29 a40 l2_17.toNatClampNeg) ≤ (gI M29 a26 1) then fX1_beside_b88 R32 l1_16 l2_17 l3_18 l4_19 a26 1 M29 Q E else fX1_beside_b88 R32 l1_16 l2_17 l3_18 l4_19 a26 0 M29 Q E))) else fX1_beside_b103 R32 l1_16 l2_17 l3_18 l4_19 M29 Q E))))))
def fX1_beside_L32 (K109_32 : gM → Prop) (l1_16 : Int32) (l2_17 : Int32) (l3_18 : Int32) (Q : Int64 → gM → Prop) (E : Nat → gM → Prop) : Nat → Int32 → gM → Prop
  | 0 => fun _ _ => False
  | n + 1 => fun l4_19 M => fX1_beside_L32s (fX1_beside_L32 K109_32 l1_16 l2_17 l3_18 Q E n) K109_32 l1_16 l2_17 l3_18 l4_19 M Q E
theorem wX1_beside_L32s {kf : Nat} {G : gG} {w : gM → Nat → List (Nat × Value) → List Value → Prop} {Q : Int64 → gM → Prop} {E : Nat → gM → Prop} (hw : gX yX1_beside cX1_beside 6 (Option.some FieldType.long) [] kf G (gQl Q) (gEx "java/util/NoSuchElementException" E) w) (hkf : 103 ≤ kf) {R32 : Int32 → gM → Prop} {K109_32 : gM → Prop} {l1_16 : Int32} {l2_17 : Int32} {l3_18 : Int32} {l4_19 : Int32} {M : gM} (hR32 : ∀ (v0 : Int32) (M : gM), R32 v0 M → w M 32 [(0, .ref (gA G 16)), (1, .int l1_16), (2, .int l2_17), (3, .int l3_18), (4, .int v0)] []) (hK109_32 : ∀  (M : gM), K109_32 M → w M 109 [(0, .ref (gA G 16)), (3, .int l3_18)] []) (h : fX1_beside_L32s R32 K109_32 l1_16 l2_17 l3_18 l4_19 M Q E) : w M 32 [(0, .ref (gA G 16)), (1, .int l1_16), (2, .int l2_17), (3, .int l3_18), (4, .int l4_19)] [] := by
  unfold fX1_beside_L32s at h
  refine g_iload hw 4 dX1_beside_32 rfl ?_
  refine g_bipush (v := 24) hw dX1_beside_34 (by decide) ?_
  refine g_icmp_ge (tgt := 109) hw dX1_beside_36 (by decide) (fun hb20 => ?_) (fun hb20 => ?_)
  · have h := gT h hb20
    refine g_sub hw (lv2 := [(0, .ref (gA G 16)), (3, .int l3_18)]) [0, 3] rfl ?_
    exact hK109_32 M h
  · have h := gF h hb20
    refine g_aload_n hw 0 dX1_beside_39 rfl ?_
    obtain ⟨hk21, h⟩ := h
    obtain ⟨a22, e23, h⟩ := h
    refine gfX1_21 (q := some a22) hw rfl dX1_beside_40 hk21 e23 ?_
    refine g_iload hw 4 dX1_beside_43 rfl ?_
    obtain ⟨hk24, h⟩ := h
    obtain ⟨hi25, h⟩ := h
    obtain ⟨a26, e27, h⟩ := h
    refine g_aaldS (n := l4_19.toNatClampNeg) hw 4 dX1_beside_45 ⟨rfl, rfl⟩ hk24 hi25 rfl e27 ?_
    refine g_astore hw (lv2 := [(0, .ref (gA G 16)), (1, .int l1_16), (2, .int l2_17), (3, .int l3_18), (4, .int l4_19), (5, .ref (gA G a26))]) [1, 2, 3, 4, 5, 0] dX1_beside_46 rfl rfl ?_
    refine g_aload hw 5 dX1_beside_48 rfl ?_
    refine g_iload_n hw 1 dX1_beside_50 rfl ?_
    refine g_iload_n hw 2 dX1_beside_51 rfl ?_
    obtain ⟨hk28, h⟩ := h
    refine sX1_172 hw rfl dX1_beside_52 rfl (gK2 hkf) hk28 h (fun r30 M29 h => ?_)
    refine g_if_eq (tgt := 103) hw dX1_beside_55 (by decide) (fun hb31 => ?_) (fun hb31 => ?_)
    · have h := gT h hb31
      refine g_sub hw (lv2 := [(0, .ref (gA G 16)), (1, .int l1_16), (2, .int l2_17), (3, .int l3_18), (4, .int l4_19)]) [0, 1, 2, 3, 4] rfl ?_
      exact wX1_beside_b103 hw hkf hR32 h
    · have h := gF h hb31
      refine g_aload hw 5 dX1_beside_58 rfl ?_
      obtain ⟨hk33, h⟩ := h
      refine gfX1_124 hw rfl dX1_beside_60 hk33 ?_
      refine g_if_ne (tgt := 103) hw dX1_beside_63 (by decide) (fun hb34 => ?_) (fun hb34 => ?_)
      · have h := gF h hb34
        refine g_sub hw (lv2 := [(0, .ref (gA G 16)), (1, .int l1_16), (2, .int l2_17), (3, .int l3_18), (4, .int l4_19)]) [0, 1, 2, 3, 4] rfl ?_
        exact wX1_beside_b103 hw hkf hR32 h
      · have h := gT h hb34
        refine g_aload_n hw 0 dX1_beside_66 rfl ?_
        refine g_aload hw 5 dX1_beside_67 rfl ?_
        refine gfX1_127 hw rfl dX1_beside_69 hk33 ?_
        refine g_aload_n hw 0 dX1_beside_72 rfl ?_
        obtain ⟨hk35, h⟩ := h
        obtain ⟨a36, e37, h⟩ := h
        refine gfX1_27 (q := some a36) hw rfl dX1_beside_73 hk35 e37 ?_
        refine g_iconst (v := 0) hw dX1_beside_76 (by decide) ?_
        obtain ⟨hk38, h⟩ := h
        obtain ⟨hi39, h⟩ := h
        obtain ⟨a40, e41, h⟩ := h
        refine g_aaldS (n := 0) hw 8 dX1_beside_77 ⟨rfl, rfl⟩ hk38 hi39 rfl e41 ?_
        refine g_iload_n hw 2 dX1_beside_78 rfl ?_
        obtain ⟨hk42, h⟩ := h
        obtain ⟨hi43, h⟩ := h
        refine g_iald (n := l2_17.toNatClampNeg) hw dX1_beside_79 hk42 hi43 rfl ?_
        refine g_icmp_ge (tgt := 87) hw dX1_beside_80 (by decide) (fun hb44 => ?_) (fun hb44 => ?_)
        · have h := gT h hb44
          refine g_iconst (v := 1) hw dX1_beside_87 (by decide) ?_
          exact wX1_beside_b88 hw hkf hR32 h
        · have h := gF h hb44
          refine g_iconst (v := 0) hw dX1_beside_83 (by decide) ?_
          refine g_goto (tgt := 88) hw dX1_beside_84 (by decide) ?_
          exact wX1_beside_b88 hw hkf hR32 h
theorem wX1_beside_L32 {kf : Nat} {G : gG} {w : gM → Nat → List (Nat × Value) → List Value → Prop} {Q : Int64 → gM → Prop} {E : Nat → gM → Prop} (hw : gX yX1_beside cX1_beside 6 (Option.some FieldType.long) [] kf G (gQl Q) (gEx "java/util/NoSuchElementException" E) w) (hkf : 103 ≤ kf) {K109_32 : gM → Prop} {l1_16 : Int32} {l2_17 : Int32} {l3_18 : Int32} (hK109_32 : ∀  (M : gM), K109_32 M → w M 109 [(0, .ref (gA G 16)), (3, .int l3_18)] []) : ∀ (n : Nat) (l4_19 : Int32) (M : gM), fX1_beside_L32 K109_32 l1_16 l2_17 l3_18 Q E n l4_19 M → w M 32 [(0, .ref (gA G 16)), (1, .int l1_16), (2, .int l2_17), (3, .int l3_18), (4, .int l4_19)] [] := by
  intro n
  induction n with
  | zero => intro l4_19 M h; exact h.elim
  | succ n ih => intro l4_19 M h; exact wX1_beside_L32s hw hkf ih hK109_32 h
def fX1_beside_b22 (l1_7 : Int32) (l2_8 : Int32) (l3_9 : Int32) (s0_10 : Int32) (M : gM) (Q : Int64 → gM → Prop) (E : Nat → gM → Prop) : Prop :=
  fX1_need s0_10 M (fun M11 => gk M11 16 = 1 ∧ fX1_begins M11 (fun M14 => ∃ n, fX1_beside_L32 (fun M57 => gk M57 16 = 1 ∧ fX1_isThere M57 (fun r60 M59 => fX1_need r60 M59 (fun M61 => gk M61 16 = 1 ∧ fX1_above M61 (fun r65 M64 => gk M64 16 = 1 ∧ fX1_below M64 (fun r68 M67 => fX1_lowest r65 r68 l3_9 M67 (fun r70 M69 => Q r70 M69)))) E)) l1_7 l2_8 l3_9 Q E n 0 M14)) E
theorem wX1_beside_b22 {kf : Nat} {G : gG} {w : gM → Nat → List (Nat × Value) → List Value → Prop} {Q : Int64 → gM → Prop} {E : Nat → gM → Prop} (hw : gX yX1_beside cX1_beside 6 (Option.some FieldType.long) [] kf G (gQl Q) (gEx "java/util/NoSuchElementException" E) w) (hkf : 103 ≤ kf)  {l1_7 : Int32} {l2_8 : Int32} {l3_9 : Int32} {s0_10 : Int32} {M : gM}  (h : fX1_beside_b22 l1_7 l2_8 l3_9 s0_10 M Q E) : w M 22 [(0, .ref (gA G 16)), (1, .int l1_7), (2, .int l2_8), (3, .int l3_9)] [.int s0_10] := by
  unfold fX1_beside_b22 at h
  refine sX1_168 hw rfl dX1_beside_22 rfl (gK2 hkf) h (fun M11 h => ?_)
  refine g_aload_n hw 0 dX1_beside_25 rfl ?_
  obtain ⟨hk13, h⟩ := h
  refine sX1_189 hw rfl dX1_beside_26 rfl (gK2 hkf) hk13 h (fun M14 h => ?_)
  refine g_iconst (v := 0) hw dX1_beside_29 (by decide) ?_
  refine g_istore hw (lv2 := [(0, .ref (gA G 16)), (1, .int l1_7), (2, .int l2_8), (3, .int l3_9), (4, .int 0)]) [1, 2, 3, 4, 0] dX1_beside_30 rfl rfl ?_
  obtain ⟨n9, h⟩ := h
  refine wX1_beside_L32 hw hkf (fun M57 h => ?_) n9 0 M14 h
  refine g_aload_n hw 0 dX1_beside_109 rfl ?_
  obtain ⟨hk58, h⟩ := h
  refine sX1_200 hw rfl dX1_beside_110 rfl (gK2 hkf) hk58 h (fun r60 M59 h => ?_)
  refine sX1_168 hw rfl dX1_beside_113 rfl (gK2 hkf) h (fun M61 h => ?_)
  refine g_aload_n hw 0 dX1_beside_116 rfl ?_
  obtain ⟨hk63, h⟩ := h
  refine sX1_211 hw rfl dX1_beside_117 rfl (gK2 hkf) hk63 h (fun r65 M64 h => ?_)
  refine g_aload_n hw 0 dX1_beside_120 rfl ?_
  obtain ⟨hk66, h⟩ := h
  refine sX1_215 hw rfl dX1_beside_121 rfl (gK2 hkf) hk66 h (fun r68 M67 h => ?_)
  refine g_iload_n hw 1 dX1_beside_124 rfl ?_
  refine sX1_218 hw rfl dX1_beside_125 rfl (gK2 hkf) h (fun r70 M69 h => ?_)
  exact g_lret hw dX1_beside_128 ⟨_, rfl, h⟩
def fX1_beside_b21 (l1_4 : Int32) (l2_5 : Int32) (l3_6 : Int32) (M : gM) (Q : Int64 → gM → Prop) (E : Nat → gM → Prop) : Prop :=
  fX1_beside_b22 l1_4 l2_5 l3_6 0 M Q E
theorem wX1_beside_b21 {kf : Nat} {G : gG} {w : gM → Nat → List (Nat × Value) → List Value → Prop} {Q : Int64 → gM → Prop} {E : Nat → gM → Prop} (hw : gX yX1_beside cX1_beside 6 (Option.some FieldType.long) [] kf G (gQl Q) (gEx "java/util/NoSuchElementException" E) w) (hkf : 103 ≤ kf)  {l1_4 : Int32} {l2_5 : Int32} {l3_6 : Int32} {M : gM}  (h : fX1_beside_b21 l1_4 l2_5 l3_6 M Q E) : w M 21 [(0, .ref (gA G 16)), (1, .int l1_4), (2, .int l2_5), (3, .int l3_6)] [] := by
  unfold fX1_beside_b21 at h
  refine g_iconst (v := 0) hw dX1_beside_21 (by decide) ?_
  exact wX1_beside_b22 hw hkf h
def fX1_beside (p1 : Int32) (p2 : Int32) (p3 : Int32) (M : gM) (Q : Int64 → gM → Prop) (E : Nat → gM → Prop) : Prop :=
  fX1_areMonths p1 p2 M (fun r2 M1 => (if r2 = 0 then fX1_beside_b21 p1 p2 p3 M1 Q E else fX1_in p3 0 1 M1 (fun r72 M71 => (if r72 = 0 then fX1_beside_b21 p1 p2 p3 M71 Q E else fX1_beside_b22 p1 p2 p3 1 M71 Q E))))
theorem mX1_beside {kf : Nat} (hkf : 103 ≤ kf) (G : gG) (p1 : Int32) (p2 : Int32) (p3 : Int32) (M : gM) (Q : Int64 → gM → Prop) (E : Nat → gM → Prop) (h : fX1_beside p1 p2 p3 M Q E) : gMet yX1_beside cX1_beside 6 (Option.some FieldType.long) kf G M [.ref (gA G 16), .int p1, .int p2, .int p3] (gQl Q) (gEx "java/util/NoSuchElementException" E) := by
  refine g_intro (lv := [(0, .ref (gA G 16)), (1, .int p1), (2, .int p2), (3, .int p3)]) (by decide) rfl rfl (fun w hw => ?_)
  unfold fX1_beside at h
  refine g_iload_n hw 1 dX1_beside_0 rfl ?_
  refine g_iload_n hw 2 dX1_beside_1 rfl ?_
  refine sX1_164 hw rfl dX1_beside_2 rfl (gK2 hkf) h (fun r2 M1 h => ?_)
  refine g_if_eq (tgt := 21) hw dX1_beside_5 (by decide) (fun hb3 => ?_) (fun hb3 => ?_)
  · have h := gT h hb3
    exact wX1_beside_b21 hw hkf h
  · have h := gF h hb3
    refine g_iload_n hw 3 dX1_beside_8 rfl ?_
    refine g_iconst (v := 0) hw dX1_beside_9 (by decide) ?_
    refine g_iconst (v := 1) hw dX1_beside_10 (by decide) ?_
    refine sX1_112 hw rfl dX1_beside_11 rfl (gK2 hkf) h (fun r72 M71 h => ?_)
    refine g_if_eq (tgt := 21) hw dX1_beside_14 (by decide) (fun hb73 => ?_) (fun hb73 => ?_)
    · have h := gT h hb73
      exact wX1_beside_b21 hw hkf h
    · have h := gF h hb73
      refine g_iconst (v := 1) hw dX1_beside_17 (by decide) ?_
      refine g_goto (tgt := 22) hw dX1_beside_18 (by decide) ?_
      exact wX1_beside_b22 hw hkf h
def fX1_apart (p1 : Int32) (p2 : Int32) (p3 : Int32) (p4 : Int32) (M : gM) (Q : Int64 → gM → Prop) (E : Nat → gM → Prop) : Prop :=
  fX1_in p3 (-99) 99 M (fun r2 M1 => fX1_need r2 M1 (fun M3 => gk M3 16 = 1 ∧ fX1_needRiver p1 p2 (-1) p4 M3 (fun M6 => gk M6 16 = 1 ∧ fX1_above M6 (fun r10 M9 => gk M9 16 = 1 ∧ fX1_below M9 (fun r13 M12 => gk M12 16 = 1 ∧ fX1_below M12 (fun r16 M15 => fX1_lowest (r10 - ((p3.toInt64 * ((p2 - p1).toInt64)) * r13)) r16 p4 M15 (fun r18 M17 => Q r18 M17))))) E) E)
theorem mX1_apart {kf : Nat} (hkf : 103 ≤ kf) (G : gG) (p1 : Int32) (p2 : Int32) (p3 : Int32) (p4 : Int32) (M : gM) (Q : Int64 → gM → Prop) (E : Nat → gM → Prop) (h : fX1_apart p1 p2 p3 p4 M Q E) : gMet yX1_apart cX1_apart 5 (Option.some FieldType.long) kf G M [.ref (gA G 16), .int p1, .int p2, .int p3, .int p4] (gQl Q) (gEx "java/util/NoSuchElementException" E) := by
  refine g_intro (lv := [(0, .ref (gA G 16)), (1, .int p1), (2, .int p2), (3, .int p3), (4, .int p4)]) (by decide) rfl rfl (fun w hw => ?_)
  unfold fX1_apart at h
  refine g_iload_n hw 3 dX1_apart_0 rfl ?_
  refine g_bipush (v := (-99)) hw dX1_apart_1 (by decide) ?_
  refine g_bipush (v := 99) hw dX1_apart_3 (by decide) ?_
  refine sX1_112 hw rfl dX1_apart_5 rfl (gK2 hkf) h (fun r2 M1 h => ?_)
  refine sX1_168 hw rfl dX1_apart_8 rfl (gK2 hkf) h (fun M3 h => ?_)
  refine g_aload_n hw 0 dX1_apart_11 rfl ?_
  refine g_iload_n hw 1 dX1_apart_12 rfl ?_
  refine g_iload_n hw 2 dX1_apart_13 rfl ?_
  refine g_iconst (v := (-1)) hw dX1_apart_14 (by decide) ?_
  refine g_iload hw 4 dX1_apart_15 rfl ?_
  obtain ⟨hk5, h⟩ := h
  refine sX1_207 hw rfl dX1_apart_17 rfl (gK2 hkf) hk5 h (fun M6 h => ?_)
  refine g_aload_n hw 0 dX1_apart_20 rfl ?_
  obtain ⟨hk8, h⟩ := h
  refine sX1_211 hw rfl dX1_apart_21 rfl (gK2 hkf) hk8 h (fun r10 M9 h => ?_)
  refine g_iload_n hw 3 dX1_apart_24 rfl ?_
  refine g_i2l hw dX1_apart_25 ?_
  refine g_iload_n hw 2 dX1_apart_26 rfl ?_
  refine g_iload_n hw 1 dX1_apart_27 rfl ?_
  refine g_isub hw dX1_apart_28 ?_
  refine g_i2l hw dX1_apart_29 ?_
  refine g_lmul hw dX1_apart_30 ?_
  refine g_aload_n hw 0 dX1_apart_31 rfl ?_
  obtain ⟨hk11, h⟩ := h
  refine sX1_215 hw rfl dX1_apart_32 rfl (gK2 hkf) hk11 h (fun r13 M12 h => ?_)
  refine g_lmul hw dX1_apart_35 ?_
  refine g_lsub hw dX1_apart_36 ?_
  refine g_aload_n hw 0 dX1_apart_37 rfl ?_
  obtain ⟨hk14, h⟩ := h
  refine sX1_215 hw rfl dX1_apart_38 rfl (gK2 hkf) hk14 h (fun r16 M15 h => ?_)
  refine g_iload hw 4 dX1_apart_41 rfl ?_
  refine sX1_218 hw rfl dX1_apart_43 rfl (gK2 hkf) h (fun r18 M17 h => ?_)
  exact g_lret hw dX1_apart_46 ⟨_, rfl, h⟩
def fX1_others_b29 (l2_13 : Int32) (s0_14 : Int32) (M : gM) (Q : Int64 → gM → Prop) (E : Nat → gM → Prop) : Prop :=
  fX1_need s0_14 M (fun M15 => gk M15 16 = 1 ∧ gdr (gR M15 16 10) (fun a18 => gk M15 a18 = 3 ∧ gdr (gR M15 16 10) (fun a21 => gk M15 a21 = 3 ∧ fX1_lowest (gL M15 a18 0) ((gI M15 a21 1).toInt64) l2_13 M15 (fun r25 M24 => Q r25 M24)))) E
theorem wX1_others_b29 {kf : Nat} {G : gG} {w : gM → Nat → List (Nat × Value) → List Value → Prop} {Q : Int64 → gM → Prop} {E : Nat → gM → Prop} (hw : gX yX1_others cX1_others 3 (Option.some FieldType.long) [] kf G (gQl Q) (gEx "java/util/NoSuchElementException" E) w) (hkf : 103 ≤ kf)  {l2_13 : Int32} {s0_14 : Int32} {M : gM}  (h : fX1_others_b29 l2_13 s0_14 M Q E) : w M 29 [(0, .ref (gA G 16)), (2, .int l2_13)] [.int s0_14] := by
  unfold fX1_others_b29 at h
  refine sX1_168 hw rfl dX1_others_29 rfl (gK2 hkf) h (fun M15 h => ?_)
  refine g_aload_n hw 0 dX1_others_32 rfl ?_
  obtain ⟨hk17, h⟩ := h
  obtain ⟨a18, e19, h⟩ := h
  refine gfX1_66 (q := some a18) hw rfl dX1_others_33 hk17 e19 ?_
  obtain ⟨hk20, h⟩ := h
  refine gfX1_185 hw rfl dX1_others_36 hk20 ?_
  refine g_aload_n hw 0 dX1_others_39 rfl ?_
  obtain ⟨a21, e22, h⟩ := h
  refine gfX1_66 (q := some a21) hw rfl dX1_others_40 hk17 e22 ?_
  obtain ⟨hk23, h⟩ := h
  refine gfX1_182 hw rfl dX1_others_43 hk23 ?_
  refine g_i2l hw dX1_others_46 ?_
  refine g_iload_n hw 1 dX1_others_47 rfl ?_
  refine sX1_218 hw rfl dX1_others_48 rfl (gK2 hkf) h (fun r25 M24 h => ?_)
  exact g_lret hw dX1_others_51 ⟨_, rfl, h⟩
def fX1_others (p1 : Int32) (p2 : Int32) (M : gM) (Q : Int64 → gM → Prop) (E : Nat → gM → Prop) : Prop :=
  fX1_in p2 0 1 M (fun r2 M1 => fX1_need r2 M1 (fun M3 => gk M3 16 = 1 ∧ fX1_sums p1 M3 (fun M6 => gk M6 16 = 1 ∧ gdr (gR M6 16 10) (fun a9 => gk M6 a9 = 3 ∧ (if (gI M6 a9 1) ≤ 0 then fX1_others_b29 p2 0 M6 Q E else fX1_others_b29 p2 1 M6 Q E)))) E)
theorem mX1_others {kf : Nat} (hkf : 103 ≤ kf) (G : gG) (p1 : Int32) (p2 : Int32) (M : gM) (Q : Int64 → gM → Prop) (E : Nat → gM → Prop) (h : fX1_others p1 p2 M Q E) : gMet yX1_others cX1_others 3 (Option.some FieldType.long) kf G M [.ref (gA G 16), .int p1, .int p2] (gQl Q) (gEx "java/util/NoSuchElementException" E) := by
  refine g_intro (lv := [(0, .ref (gA G 16)), (1, .int p1), (2, .int p2)]) (by decide) rfl rfl (fun w hw => ?_)
  unfold fX1_others at h
  refine g_iload_n hw 2 dX1_others_0 rfl ?_
  refine g_iconst (v := 0) hw dX1_others_1 (by decide) ?_
  refine g_iconst (v := 1) hw dX1_others_2 (by decide) ?_
  refine sX1_112 hw rfl dX1_others_3 rfl (gK2 hkf) h (fun r2 M1 h => ?_)
  refine sX1_168 hw rfl dX1_others_6 rfl (gK2 hkf) h (fun M3 h => ?_)
  refine g_aload_n hw 0 dX1_others_9 rfl ?_
  refine g_iload_n hw 1 dX1_others_10 rfl ?_
  obtain ⟨hk5, h⟩ := h
  refine sX1_325 hw rfl dX1_others_11 rfl (gK2 hkf) hk5 h (fun M6 h => ?_)
  refine g_aload_n hw 0 dX1_others_14 rfl ?_
  obtain ⟨hk8, h⟩ := h
  obtain ⟨a9, e10, h⟩ := h
  refine gfX1_66 (q := some a9) hw rfl dX1_others_15 hk8 e10 ?_
  obtain ⟨hk11, h⟩ := h
  refine gfX1_182 hw rfl dX1_others_18 hk11 ?_
  refine g_if_le (tgt := 28) hw dX1_others_21 (by decide) (fun hb12 => ?_) (fun hb12 => ?_)
  · have h := gT h hb12
    refine g_iconst (v := 0) hw dX1_others_28 (by decide) ?_
    refine g_sub hw (lv2 := [(0, .ref (gA G 16)), (2, .int p2)]) [0, 2] rfl ?_
    exact wX1_others_b29 hw hkf h
  · have h := gF h hb12
    refine g_iconst (v := 1) hw dX1_others_24 (by decide) ?_
    refine g_goto (tgt := 29) hw dX1_others_25 (by decide) ?_
    refine g_sub hw (lv2 := [(0, .ref (gA G 16)), (2, .int p2)]) [0, 2] rfl ?_
    exact wX1_others_b29 hw hkf h
def fX1_writes_2_b92 (R11 : Int32 → gM → Prop) (l1_5 : Nat) (l3_21 : Int32) (M : gM) (Q : Int32 → gM → Prop) : Prop :=
  R11 (l3_21 + 1) M
theorem wX1_writes_2_b92 {kf : Nat} {G : gG} {w : gM → Nat → List (Nat × Value) → List Value → Prop} {Q : Int32 → gM → Prop} (hw : gX yX1_writes_2 cX1_writes_2 4 (Option.some FieldType.boolean) [] kf G (gQi Q) gE0 w) (hkf : 1013 ≤ kf) {R11 : Int32 → gM → Prop} {l1_5 : Nat} {l3_21 : Int32} {M : gM} (hR11 : ∀ (v0 : Int32) (M : gM), R11 v0 M → w M 11 [(0, .ref (gA G 16)), (1, .ref (gA G l1_5)), (3, .int v0)] []) (h : fX1_writes_2_b92 R11 l1_5 l3_21 M Q) : w M 92 [(0, .ref (gA G 16)), (1, .ref (gA G l1_5)), (3, .int l3_21)] [] := by
  unfold fX1_writes_2_b92 at h
  refine g_iinc hw (lv2 := [(0, .ref (gA G 16)), (1, .ref (gA G l1_5)), (3, .int (l3_21 + 1))]) 2 [1, 2, 0] dX1_writes_2_92 rfl (by decide) rfl rfl ?_
  refine g_goto (tgt := 11) hw dX1_writes_2_95 (by decide) ?_
  exact hR11 (l3_21 + 1) M h
def fX1_writes_2_L11s (R11 : Int32 → gM → Prop) (K98_11 : gM → Prop) (l1_5 : Nat) (l3_6 : Int32) (M : gM) (Q : Int32 → gM → Prop) : Prop :=
  (if 24 ≤ l3_6 then K98_11 M else gk M l1_5 = 6 ∧ (if (gI M l1_5 1) = (gI M l1_5 2) then K98_11 M else gk M 16 = 1 ∧ gdr (gR M 16 0) (fun a11 => gk M a11 = 44 ∧ vp_in l3_6 (gl M a11) ∧ gdr (gR M a11 l3_6.toNatClampNeg) (fun a15 => gk M a15 = 4 ∧ fX4_isCounted a15 (gI M l1_5 1) (gI M l1_5 2) M (fun r19 M18 => (if r19 = 0 then fX1_writes_2_b92 R11 l1_5 l3_6 M18 Q else gk M18 16 = 1 ∧ fX1_isTaken l1_5 l3_6 M18 (fun r24 M23 => (if r24 = 0 then fX1_writes_2_b92 R11 l1_5 l3_6 M23 Q else gk M23 16 = 1 ∧ gdr (gR M23 16 0) (fun a27 => gk M23 a27 = 44 ∧ vp_in l3_6 (gl M23 a27) ∧ gdr (gR M23 a27 l3_6.toNatClampNeg) (fun a31 => gk M23 a31 = 4 ∧ fX1_of (gI M23 a31 0) M23 (fun r35 M34 => gk M34 16 = 1 ∧ gdr (gR M34 16 0) (fun a37 => gk M34 a37 = 44 ∧ vp_in l3_6 (gl M34 a37) ∧ gdr (gR M34 a37 l3_6.toNatClampNeg) (fun a41 => gk M34 l1_5 = 6 ∧ fX1_change a41 (gI M34 l1_5 1) (gI M34 l1_5 2) M34 (fun r45 M44 => gk M44 r35 = 3 ∧ fX3_adds r35 r45.toInt64 M44 (fun M47 => fX1_writes_2_b92 R11 l1_5 l3_6 M47 Q)))))))))))))))
def fX1_writes_2_L11 (K98_11 : gM → Prop) (l1_5 : Nat) (Q : Int32 → gM → Prop) : Nat → Int32 → gM → Prop
  | 0 => fun _ _ => False
  | n + 1 => fun l3_6 M => fX1_writes_2_L11s (fX1_writes_2_L11 K98_11 l1_5 Q n) K98_11 l1_5 l3_6 M Q
theorem wX1_writes_2_L11s {kf : Nat} {G : gG} {w : gM → Nat → List (Nat × Value) → List Value → Prop} {Q : Int32 → gM → Prop} (hw : gX yX1_writes_2 cX1_writes_2 4 (Option.some FieldType.boolean) [] kf G (gQi Q) gE0 w) (hkf : 1013 ≤ kf) {R11 : Int32 → gM → Prop} {K98_11 : gM → Prop} {l1_5 : Nat} {l3_6 : Int32} {M : gM} (hR11 : ∀ (v0 : Int32) (M : gM), R11 v0 M → w M 11 [(0, .ref (gA G 16)), (1, .ref (gA G l1_5)), (3, .int v0)] []) (hK98_11 : ∀  (M : gM), K98_11 M → w M 98 [(0, .ref (gA G 16))] []) (h : fX1_writes_2_L11s R11 K98_11 l1_5 l3_6 M Q) : w M 11 [(0, .ref (gA G 16)), (1, .ref (gA G l1_5)), (3, .int l3_6)] [] := by
  unfold fX1_writes_2_L11s at h
  refine g_iload_n hw 2 dX1_writes_2_11 rfl ?_
  refine g_bipush (v := 24) hw dX1_writes_2_12 (by decide) ?_
  refine g_icmp_ge (tgt := 98) hw dX1_writes_2_14 (by decide) (fun hb7 => ?_) (fun hb7 => ?_)
  · have h := gT h hb7
    refine g_sub hw (lv2 := [(0, .ref (gA G 16))]) [0] rfl ?_
    exact hK98_11 M h
  · have h := gF h hb7
    refine g_aload_n hw 1 dX1_writes_2_17 rfl ?_
    obtain ⟨hk8, h⟩ := h
    refine gfX1_342 hw rfl dX1_writes_2_18 hk8 ?_
    refine g_aload_n hw 1 dX1_writes_2_21 rfl ?_
    refine gfX1_339 hw rfl dX1_writes_2_22 hk8 ?_
    refine g_icmp_eq (tgt := 98) hw dX1_writes_2_25 (by decide) (fun hb9 => ?_) (fun hb9 => ?_)
    · have h := gT h hb9
      refine g_sub hw (lv2 := [(0, .ref (gA G 16))]) [0] rfl ?_
      exact hK98_11 M h
    · have h := gF h hb9
      refine g_aload_n hw 0 dX1_writes_2_28 rfl ?_
      obtain ⟨hk10, h⟩ := h
      obtain ⟨a11, e12, h⟩ := h
      refine gfX1_21 (q := some a11) hw rfl dX1_writes_2_29 hk10 e12 ?_
      refine g_iload_n hw 2 dX1_writes_2_32 rfl ?_
      obtain ⟨hk13, h⟩ := h
      obtain ⟨hi14, h⟩ := h
      obtain ⟨a15, e16, h⟩ := h
      refine g_aaldS (n := l3_6.toNatClampNeg) hw 4 dX1_writes_2_33 ⟨rfl, rfl⟩ hk13 hi14 rfl e16 ?_
      refine g_aload_n hw 1 dX1_writes_2_34 rfl ?_
      refine gfX1_342 hw rfl dX1_writes_2_35 hk8 ?_
      refine g_aload_n hw 1 dX1_writes_2_38 rfl ?_
      refine gfX1_339 hw rfl dX1_writes_2_39 hk8 ?_
      obtain ⟨hk17, h⟩ := h
      refine sX1_172 hw rfl dX1_writes_2_42 rfl (gK2 hkf) hk17 h (fun r19 M18 h => ?_)
      refine g_if_eq (tgt := 92) hw dX1_writes_2_45 (by decide) (fun hb20 => ?_) (fun hb20 => ?_)
      · have h := gT h hb20
        exact wX1_writes_2_b92 hw hkf hR11 h
      · have h := gF h hb20
        refine g_aload_n hw 0 dX1_writes_2_48 rfl ?_
        refine g_aload_n hw 1 dX1_writes_2_49 rfl ?_
        refine g_iload_n hw 2 dX1_writes_2_50 rfl ?_
        obtain ⟨hk22, h⟩ := h
        refine sX1_346 hw rfl dX1_writes_2_51 rfl (gK2 hkf) hk22 h (fun r24 M23 h => ?_)
        refine g_if_eq (tgt := 92) hw dX1_writes_2_54 (by decide) (fun hb25 => ?_) (fun hb25 => ?_)
        · have h := gT h hb25
          exact wX1_writes_2_b92 hw hkf hR11 h
        · have h := gF h hb25
          refine g_aload_n hw 0 dX1_writes_2_57 rfl ?_
          refine g_aload_n hw 0 dX1_writes_2_58 rfl ?_
          obtain ⟨hk26, h⟩ := h
          obtain ⟨a27, e28, h⟩ := h
          refine gfX1_21 (q := some a27) hw rfl dX1_writes_2_59 hk26 e28 ?_
          refine g_iload_n hw 2 dX1_writes_2_62 rfl ?_
          obtain ⟨hk29, h⟩ := h
          obtain ⟨hi30, h⟩ := h
          obtain ⟨a31, e32, h⟩ := h
          refine g_aaldS (n := l3_6.toNatClampNeg) hw 4 dX1_writes_2_63 ⟨rfl, rfl⟩ hk29 hi30 rfl e32 ?_
          obtain ⟨hk33, h⟩ := h
          refine gfX1_124 hw rfl dX1_writes_2_64 hk33 ?_
          refine sX1_192 hw rfl dX1_writes_2_67 rfl (gK2 hkf) hk26 h (fun r35 M34 h => ?_)
          refine g_aload_n hw 0 dX1_writes_2_70 rfl ?_
          refine g_aload_n hw 0 dX1_writes_2_71 rfl ?_
          obtain ⟨hk36, h⟩ := h
          obtain ⟨a37, e38, h⟩ := h
          refine gfX1_21 (q := some a37) hw rfl dX1_writes_2_72 hk36 e38 ?_
          refine g_iload_n hw 2 dX1_writes_2_75 rfl ?_
          obtain ⟨hk39, h⟩ := h
          obtain ⟨hi40, h⟩ := h
          obtain ⟨a41, e42, h⟩ := h
          refine g_aaldS (n := l3_6.toNatClampNeg) hw 4 dX1_writes_2_76 ⟨rfl, rfl⟩ hk39 hi40 rfl e42 ?_
          refine g_aload_n hw 1 dX1_writes_2_77 rfl ?_
          obtain ⟨hk43, h⟩ := h
          refine gfX1_342 hw rfl dX1_writes_2_78 hk43 ?_
          refine g_aload_n hw 1 dX1_writes_2_81 rfl ?_
          refine gfX1_339 hw rfl dX1_writes_2_82 hk43 ?_
          refine sX1_175 hw rfl dX1_writes_2_85 rfl (gK2 hkf) hk36 h (fun r45 M44 h => ?_)
          refine g_i2l hw dX1_writes_2_88 ?_
          obtain ⟨hk46, h⟩ := h
          refine sX1_196 hw rfl dX1_writes_2_89 rfl (gK2 hkf) hk46 h (fun M47 h => ?_)
          exact wX1_writes_2_b92 hw hkf hR11 h
theorem wX1_writes_2_L11 {kf : Nat} {G : gG} {w : gM → Nat → List (Nat × Value) → List Value → Prop} {Q : Int32 → gM → Prop} (hw : gX yX1_writes_2 cX1_writes_2 4 (Option.some FieldType.boolean) [] kf G (gQi Q) gE0 w) (hkf : 1013 ≤ kf) {K98_11 : gM → Prop} {l1_5 : Nat} (hK98_11 : ∀  (M : gM), K98_11 M → w M 98 [(0, .ref (gA G 16))] []) : ∀ (n : Nat) (l3_6 : Int32) (M : gM), fX1_writes_2_L11 K98_11 l1_5 Q n l3_6 M → w M 11 [(0, .ref (gA G 16)), (1, .ref (gA G l1_5)), (3, .int l3_6)] [] := by
  intro n
  induction n with
  | zero => intro l3_6 M h; exact h.elim
  | succ n ih => intro l3_6 M h; exact wX1_writes_2_L11s hw hkf ih hK98_11 h
def fX1_writes_2_b98  (M : gM) (Q : Int32 → gM → Prop) : Prop :=
  gk M 16 = 1 ∧ fX1_isThere (gsI M 16 9 (gI M 16 8)) (fun r52 M51 => (r52 = 0 ∨ r52 = 1) ∧ Q r52 M51)
theorem wX1_writes_2_b98 {kf : Nat} {G : gG} {w : gM → Nat → List (Nat × Value) → List Value → Prop} {Q : Int32 → gM → Prop} (hw : gX yX1_writes_2 cX1_writes_2 4 (Option.some FieldType.boolean) [] kf G (gQi Q) gE0 w) (hkf : 1013 ≤ kf)   {M : gM}  (h : fX1_writes_2_b98 M Q) : w M 98 [(0, .ref (gA G 16))] [] := by
  unfold fX1_writes_2_b98 at h
  refine g_aload_n hw 0 dX1_writes_2_98 rfl ?_
  refine g_aload_n hw 0 dX1_writes_2_99 rfl ?_
  obtain ⟨hk50, h⟩ := h
  refine gfX1_56 hw rfl dX1_writes_2_100 hk50 ?_
  refine pfX1_60 hw rfl dX1_writes_2_103 hk50 ?_
  refine g_aload_n hw 0 dX1_writes_2_106 rfl ?_
  refine sX1_200 hw rfl dX1_writes_2_107 rfl (gK2 hkf) hk50 h (fun r52 M51 h => ?_)
  obtain ⟨hc53, h⟩ := h
  exact g_iret hw dX1_writes_2_110 (gBool hc53) ⟨_, rfl, h⟩
def fX1_writes_2 (p1 : Nat) (p2 : Int32) (M : gM) (Q : Int32 → gM → Prop) : Prop :=
  gk M 16 = 1 ∧ fX1_begins M (fun M2 => gk M2 16 = 1 ∧ ∃ n, fX1_writes_2_L11 (fun M49 => fX1_writes_2_b98 M49 Q) p1 Q n 0 (gsI M2 16 9 p2))
theorem mX1_writes_2 {kf : Nat} (hkf : 1013 ≤ kf) (G : gG) (p1 : Nat) (p2 : Int32) (M : gM) (Q : Int32 → gM → Prop) (h : fX1_writes_2 p1 p2 M Q) : gMet yX1_writes_2 cX1_writes_2 4 (Option.some FieldType.boolean) kf G M [.ref (gA G 16), .ref (gA G p1), .int p2] (gQi Q) gE0 := by
  refine g_intro (lv := [(0, .ref (gA G 16)), (1, .ref (gA G p1)), (2, .int p2)]) (by decide) rfl rfl (fun w hw => ?_)
  unfold fX1_writes_2 at h
  refine g_aload_n hw 0 dX1_writes_2_0 rfl ?_
  obtain ⟨hk1, h⟩ := h
  refine sX1_189 hw rfl dX1_writes_2_1 rfl (gK2 hkf) hk1 h (fun M2 h => ?_)
  refine g_aload_n hw 0 dX1_writes_2_4 rfl ?_
  refine g_iload_n hw 2 dX1_writes_2_5 rfl ?_
  obtain ⟨hk4, h⟩ := h
  refine pfX1_60 hw rfl dX1_writes_2_6 hk4 ?_
  refine g_iconst (v := 0) hw dX1_writes_2_9 (by decide) ?_
  refine g_istore_n hw (lv2 := [(0, .ref (gA G 16)), (1, .ref (gA G p1)), (3, .int 0)]) [1, 2, 0] dX1_writes_2_10 rfl rfl ?_
  obtain ⟨n9, h⟩ := h
  refine wX1_writes_2_L11 hw hkf (fun M49 h => ?_) n9 0 (gsI M2 16 9 p2) h
  exact wX1_writes_2_b98 hw hkf h
theorem sX1_350 {y0 : MethodName} {cc : ByteArray} {nL : Nat} {ret : Option FieldType} {hh : List (Nat × Nat × Nat × Nat)} {kf : Nat} {G : gG} {Qv : Option Value → gM → Prop} {E : String → Nat → gM → Prop} {w : gM → Nat → List (Nat × Value) → List Value → Prop} {M : gM} {pc : Nat} {lv : List (Nat × Value)} {rest : List Value} (hw : gX y0 cc nL ret hh kf G Qv E w) (hy : y0.cls = RX1) {p1 : Nat} {p2 : Int32} {Q : Int32 → gM → Prop} (d : decode cc pc = .ok (.invokevirtual 350, 3)) (hrest : Nat.ble ((rest.map Value.category).sum) 8 = true) (hk : 1013 + 1 ≤ kf) (hkd : gk M 16 = 1) (h : fX1_writes_2 p1 p2 M Q) (kk : ∀ r M1, Q r M1 → w M1 (pc + 3) lv (.int r :: rest)) : w M pc lv (.int p2 :: .ref (gA G p1) :: .ref (gA G 16) :: rest) := by
  obtain ⟨cls9, nm9, ds9⟩ := y0
  subst hy
  exact g_callV (r := (RX1, TX1, 28)) (ci := 0) hw [.ref (gA G p1), .int p2] (nA := 2) rfl d q1066 q1068 qs40 q98 q1069 (by decide +kernel) rfl rfl hrest rfl (by omega : kf - 1 + 1 ≤ kf) hkd (mX1_writes_2 (kf := kf - 1) (by omega) G p1 p2 M Q h) (fun _ _ _ q => q.elim) (fun v M1 h => by obtain ⟨r, rfl, h⟩ := h; exact kk r M1 h)
def fX1_writes_b62 (l2_33 : Int32) (s1_34 : Nat) (s2_35 : Int32) (M : gM) (Q : Int64 → gM → Prop) (E : Nat → gM → Prop) : Prop :=
  gk M 16 = 1 ∧ fX1_writes_2 s1_34 s2_35 M (fun r38 M37 => fX1_need r38 M37 (fun M39 => gk M39 16 = 1 ∧ fX1_above M39 (fun r43 M42 => gk M42 16 = 1 ∧ fX1_below M42 (fun r46 M45 => fX1_lowest r43 r46 l2_33 M45 (fun r48 M47 => Q r48 M47)))) E)
theorem wX1_writes_b62 {kf : Nat} {G : gG} {w : gM → Nat → List (Nat × Value) → List Value → Prop} {Q : Int64 → gM → Prop} {E : Nat → gM → Prop} (hw : gX yX1_writes cX1_writes 3 (Option.some FieldType.long) [] kf G (gQl Q) (gEx "java/util/NoSuchElementException" E) w) (hkf : 1014 ≤ kf)  {l2_33 : Int32} {s1_34 : Nat} {s2_35 : Int32} {M : gM}  (h : fX1_writes_b62 l2_33 s1_34 s2_35 M Q E) : w M 62 [(0, .ref (gA G 16)), (2, .int l2_33)] [.int s2_35, .ref (gA G s1_34), .ref (gA G 16)] := by
  unfold fX1_writes_b62 at h
  obtain ⟨hk36, h⟩ := h
  refine sX1_350 hw rfl dX1_writes_62 rfl (gK2 hkf) hk36 h (fun r38 M37 h => ?_)
  refine sX1_168 hw rfl dX1_writes_65 rfl (gK2 hkf) h (fun M39 h => ?_)
  refine g_aload_n hw 0 dX1_writes_68 rfl ?_
  obtain ⟨hk41, h⟩ := h
  refine sX1_211 hw rfl dX1_writes_69 rfl (gK2 hkf) hk41 h (fun r43 M42 h => ?_)
  refine g_aload_n hw 0 dX1_writes_72 rfl ?_
  obtain ⟨hk44, h⟩ := h
  refine sX1_215 hw rfl dX1_writes_73 rfl (gK2 hkf) hk44 h (fun r46 M45 h => ?_)
  refine g_iload_n hw 1 dX1_writes_76 rfl ?_
  refine sX1_218 hw rfl dX1_writes_77 rfl (gK2 hkf) h (fun r48 M47 h => ?_)
  exact g_lret hw dX1_writes_80 ⟨_, rfl, h⟩
def fX1_writes_b23 (l1_6 : Int32) (l2_7 : Int32) (s0_8 : Int32) (M : gM) (Q : Int64 → gM → Prop) (E : Nat → gM → Prop) : Prop :=
  fX1_need s0_8 M (fun M9 => gk M9 16 = 1 ∧ gdr (gR M9 16 6) (fun a12 => gk M9 a12 = 46 ∧ vp_in l1_6 (gl M9 a12) ∧ gdr (gR M9 a12 l1_6.toNatClampNeg) (fun a16 => gdr (gR M9 16 6) (fun a18 => gk M9 a18 = 46 ∧ vp_in l1_6 (gl M9 a18) ∧ gdr (gR M9 a18 l1_6.toNatClampNeg) (fun a22 => gk M9 a22 = 6 ∧ (if (gI M9 a22 3) = (-1) then fX1_writes_b62 l2_7 a16 (gI M9 16 8) M9 Q E else gdr (gR M9 16 6) (fun a26 => gk M9 a26 = 46 ∧ vp_in l1_6 (gl M9 a26) ∧ gdr (gR M9 a26 l1_6.toNatClampNeg) (fun a30 => gk M9 a30 = 6 ∧ fX1_writes_b62 l2_7 a16 (gI M9 a30 3) M9 Q E)))))))) E
theorem wX1_writes_b23 {kf : Nat} {G : gG} {w : gM → Nat → List (Nat × Value) → List Value → Prop} {Q : Int64 → gM → Prop} {E : Nat → gM → Prop} (hw : gX yX1_writes cX1_writes 3 (Option.some FieldType.long) [] kf G (gQl Q) (gEx "java/util/NoSuchElementException" E) w) (hkf : 1014 ≤ kf)  {l1_6 : Int32} {l2_7 : Int32} {s0_8 : Int32} {M : gM}  (h : fX1_writes_b23 l1_6 l2_7 s0_8 M Q E) : w M 23 [(0, .ref (gA G 16)), (1, .int l1_6), (2, .int l2_7)] [.int s0_8] := by
  unfold fX1_writes_b23 at h
  refine sX1_168 hw rfl dX1_writes_23 rfl (gK2 hkf) h (fun M9 h => ?_)
  refine g_aload_n hw 0 dX1_writes_26 rfl ?_
  refine g_aload_n hw 0 dX1_writes_27 rfl ?_
  obtain ⟨hk11, h⟩ := h
  obtain ⟨a12, e13, h⟩ := h
  refine gfX1_52 (q := some a12) hw rfl dX1_writes_28 hk11 e13 ?_
  refine g_iload_n hw 1 dX1_writes_31 rfl ?_
  obtain ⟨hk14, h⟩ := h
  obtain ⟨hi15, h⟩ := h
  obtain ⟨a16, e17, h⟩ := h
  refine g_aaldS (n := l1_6.toNatClampNeg) hw 6 dX1_writes_32 ⟨rfl, rfl⟩ hk14 hi15 rfl e17 ?_
  refine g_aload_n hw 0 dX1_writes_33 rfl ?_
  obtain ⟨a18, e19, h⟩ := h
  refine gfX1_52 (q := some a18) hw rfl dX1_writes_34 hk11 e19 ?_
  refine g_iload_n hw 1 dX1_writes_37 rfl ?_
  obtain ⟨hk20, h⟩ := h
  obtain ⟨hi21, h⟩ := h
  obtain ⟨a22, e23, h⟩ := h
  refine g_aaldS (n := l1_6.toNatClampNeg) hw 6 dX1_writes_38 ⟨rfl, rfl⟩ hk20 hi21 rfl e23 ?_
  obtain ⟨hk24, h⟩ := h
  refine gfX1_345 hw rfl dX1_writes_39 hk24 ?_
  refine g_iconst (v := (-1)) hw dX1_writes_42 (by decide) ?_
  refine g_icmp_ne (tgt := 53) hw dX1_writes_43 (by decide) (fun hb25 => ?_) (fun hb25 => ?_)
  · have h := gF h hb25
    refine g_aload_n hw 0 dX1_writes_53 rfl ?_
    obtain ⟨a26, e27, h⟩ := h
    refine gfX1_52 (q := some a26) hw rfl dX1_writes_54 hk11 e27 ?_
    refine g_iload_n hw 1 dX1_writes_57 rfl ?_
    obtain ⟨hk28, h⟩ := h
    obtain ⟨hi29, h⟩ := h
    obtain ⟨a30, e31, h⟩ := h
    refine g_aaldS (n := l1_6.toNatClampNeg) hw 6 dX1_writes_58 ⟨rfl, rfl⟩ hk28 hi29 rfl e31 ?_
    obtain ⟨hk32, h⟩ := h
    refine gfX1_345 hw rfl dX1_writes_59 hk32 ?_
    refine g_sub hw (lv2 := [(0, .ref (gA G 16)), (2, .int l2_7)]) [0, 2] rfl ?_
    exact wX1_writes_b62 hw hkf h
  · have h := gT h hb25
    refine g_aload_n hw 0 dX1_writes_46 rfl ?_
    refine gfX1_56 hw rfl dX1_writes_47 hk11 ?_
    refine g_goto (tgt := 62) hw dX1_writes_50 (by decide) ?_
    refine g_sub hw (lv2 := [(0, .ref (gA G 16)), (2, .int l2_7)]) [0, 2] rfl ?_
    exact wX1_writes_b62 hw hkf h
def fX1_writes_b22 (l1_4 : Int32) (l2_5 : Int32) (M : gM) (Q : Int64 → gM → Prop) (E : Nat → gM → Prop) : Prop :=
  fX1_writes_b23 l1_4 l2_5 0 M Q E
theorem wX1_writes_b22 {kf : Nat} {G : gG} {w : gM → Nat → List (Nat × Value) → List Value → Prop} {Q : Int64 → gM → Prop} {E : Nat → gM → Prop} (hw : gX yX1_writes cX1_writes 3 (Option.some FieldType.long) [] kf G (gQl Q) (gEx "java/util/NoSuchElementException" E) w) (hkf : 1014 ≤ kf)  {l1_4 : Int32} {l2_5 : Int32} {M : gM}  (h : fX1_writes_b22 l1_4 l2_5 M Q E) : w M 22 [(0, .ref (gA G 16)), (1, .int l1_4), (2, .int l2_5)] [] := by
  unfold fX1_writes_b22 at h
  refine g_iconst (v := 0) hw dX1_writes_22 (by decide) ?_
  exact wX1_writes_b23 hw hkf h
def fX1_writes (p1 : Int32) (p2 : Int32) (M : gM) (Q : Int64 → gM → Prop) (E : Nat → gM → Prop) : Prop :=
  fX1_in p1 0 3 M (fun r2 M1 => (if r2 = 0 then fX1_writes_b22 p1 p2 M1 Q E else fX1_in p2 0 1 M1 (fun r50 M49 => (if r50 = 0 then fX1_writes_b22 p1 p2 M49 Q E else fX1_writes_b23 p1 p2 1 M49 Q E))))
theorem mX1_writes {kf : Nat} (hkf : 1014 ≤ kf) (G : gG) (p1 : Int32) (p2 : Int32) (M : gM) (Q : Int64 → gM → Prop) (E : Nat → gM → Prop) (h : fX1_writes p1 p2 M Q E) : gMet yX1_writes cX1_writes 3 (Option.some FieldType.long) kf G M [.ref (gA G 16), .int p1, .int p2] (gQl Q) (gEx "java/util/NoSuchElementException" E) := by
  refine g_intro (lv := [(0, .ref (gA G 16)), (1, .int p1), (2, .int p2)]) (by decide) rfl rfl (fun w hw => ?_)
  unfold fX1_writes at h
  refine g_iload_n hw 1 dX1_writes_0 rfl ?_
  refine g_iconst (v := 0) hw dX1_writes_1 (by decide) ?_
  refine g_iconst (v := 3) hw dX1_writes_2 (by decide) ?_
  refine sX1_112 hw rfl dX1_writes_3 rfl (gK2 hkf) h (fun r2 M1 h => ?_)
  refine g_if_eq (tgt := 22) hw dX1_writes_6 (by decide) (fun hb3 => ?_) (fun hb3 => ?_)
  · have h := gT h hb3
    exact wX1_writes_b22 hw hkf h
  · have h := gF h hb3
    refine g_iload_n hw 2 dX1_writes_9 rfl ?_
    refine g_iconst (v := 0) hw dX1_writes_10 (by decide) ?_
    refine g_iconst (v := 1) hw dX1_writes_11 (by decide) ?_
    refine sX1_112 hw rfl dX1_writes_12 rfl (gK2 hkf) h (fun r50 M49 h => ?_)
    refine g_if_eq (tgt := 22) hw dX1_writes_15 (by decide) (fun hb51 => ?_) (fun hb51 => ?_)
    · have h := gT h hb51
      exact wX1_writes_b22 hw hkf h
    · have h := gF h hb51
      refine g_iconst (v := 1) hw dX1_writes_18 (by decide) ?_
      refine g_goto (tgt := 23) hw dX1_writes_19 (by decide) ?_
      exact wX1_writes_b23 hw hkf h
def fX1_forks_b162 (R41 : Int32 → Int32 → Int32 → Int64 → Int64 → Int64 → Int64 → Int32 → gM → Prop) (l1_5 : Int32) (l2_101 : Int32) (l3_102 : Int32) (l4_103 : Int32) (l5_104 : Int64) (l7_105 : Int64) (l9_106 : Int64) (l11_107 : Int64) (l13_15 : Int32) (l14_108 : Int32) (M : gM) (Q : Int64 → gM → Prop) (E : Nat → gM → Prop) : Prop :=
  R41 l2_101 l3_102 l4_103 l5_104 l7_105 l9_106 l11_107 (l14_108 + 1) M
theorem wX1_forks_b162 {kf : Nat} {G : gG} {w : gM → Nat → List (Nat × Value) → List Value → Prop} {Q : Int64 → gM → Prop} {E : Nat → gM → Prop} (hw : gX yX1_forks cX1_forks 15 (Option.some FieldType.long) [] kf G (gQl Q) (gEx "java/util/NoSuchElementException" E) w) (hkf : 1014 ≤ kf) {R41 : Int32 → Int32 → Int32 → Int64 → Int64 → Int64 → Int64 → Int32 → gM → Prop} {l1_5 : Int32} {l2_101 : Int32} {l3_102 : Int32} {l4_103 : Int32} {l5_104 : Int64} {l7_105 : Int64} {l9_106 : Int64} {l11_107 : Int64} {l13_15 : Int32} {l14_108 : Int32} {M : gM} (hR41 : ∀ (v0 : Int32) (v1 : Int32) (v2 : Int32) (v3 : Int64) (v4 : Int64) (v5 : Int64) (v6 : Int64) (v7 : Int32) (M : gM), R41 v0 v1 v2 v3 v4 v5 v6 v7 M → w M 41 [(0, .ref (gA G 16)), (1, .int l1_5), (2, .int v0), (3, .int v1), (4, .int v2), (5, .long v3), (7, .long v4), (9, .long v5), (11, .long v6), (13, .int l13_15), (14, .int v7)] []) (h : fX1_forks_b162 R41 l1_5 l2_101 l3_102 l4_103 l5_104 l7_105 l9_106 l11_107 l13_15 l14_108 M Q E) : w M 162 [(0, .ref (gA G 16)), (1, .int l1_5), (2, .int l2_101), (3, .int l3_102), (4, .int l4_103), (5, .long l5_104), (7, .long l7_105), (9, .long l9_106), (11, .long l11_107), (13, .int l13_15), (14, .int l14_108)] [] := by
  unfold fX1_forks_b162 at h
  refine g_iinc hw (lv2 := [(0, .ref (gA G 16)), (1, .int l1_5), (2, .int l2_101), (3, .int l3_102), (4, .int l4_103), (5, .long l5_104), (7, .long l7_105), (9, .long l9_106), (11, .long l11_107), (13, .int l13_15), (14, .int (l14_108 + 1))]) 10 [1, 2, 3, 4, 5, 6, 7, 8, 9, 10, 0] dX1_forks_162 rfl (by decide) rfl rfl ?_
  refine g_goto (tgt := 41) hw dX1_forks_165 (by decide) ?_
  exact hR41 l2_101 l3_102 l4_103 l5_104 l7_105 l9_106 l11_107 (l14_108 + 1) M h
def fX1_forks_b159 (R41 : Int32 → Int32 → Int32 → Int64 → Int64 → Int64 → Int64 → Int32 → gM → Prop) (l1_5 : Int32) (l2_93 : Int32) (l3_94 : Int32) (l4_95 : Int32) (l5_96 : Int64) (l7_97 : Int64) (l9_98 : Int64) (l11_99 : Int64) (l13_15 : Int32) (l14_100 : Int32) (M : gM) (Q : Int64 → gM → Prop) (E : Nat → gM → Prop) : Prop :=
  fX1_forks_b162 R41 l1_5 (l2_93 + 1) l3_94 l4_95 l5_96 l7_97 l9_98 l11_99 l13_15 l14_100 M Q E
theorem wX1_forks_b159 {kf : Nat} {G : gG} {w : gM → Nat → List (Nat × Value) → List Value → Prop} {Q : Int64 → gM → Prop} {E : Nat → gM → Prop} (hw : gX yX1_forks cX1_forks 15 (Option.some FieldType.long) [] kf G (gQl Q) (gEx "java/util/NoSuchElementException" E) w) (hkf : 1014 ≤ kf) {R41 : Int32 → Int32 → Int32 → Int64 → Int64 → Int64 → Int64 → Int32 → gM → Prop} {l1_5 : Int32} {l2_93 : Int32} {l3_94 : Int32} {l4_95 : Int32} {l5_96 : Int64} {l7_97 : Int64} {l9_98 : Int64} {l11_99 : Int64} {l13_15 : Int32} {l14_100 : Int32} {M : gM} (hR41 : ∀ (v0 : Int32) (v1 : Int32) (v2 : Int32) (v3 : Int64) (v4 : Int64) (v5 : Int64) (v6 : Int64) (v7 : Int32) (M : gM), R41 v0 v1 v2 v3 v4 v5 v6 v7 M → w M 41 [(0, .ref (gA G 16)), (1, .int l1_5), (2, .int v0), (3, .int v1), (4, .int v2), (5, .long v3), (7, .long v4), (9, .long v5), (11, .long v6), (13, .int l13_15), (14, .int v7)] []) (h : fX1_forks_b159 R41 l1_5 l2_93 l3_94 l4_95 l5_96 l7_97 l9_98 l11_99 l13_15 l14_100 M Q E) : w M 159 [(0, .ref (gA G 16)), (1, .int l1_5), (2, .int l2_93), (3, .int l3_94), (4, .int l4_95), (5, .long l5_96), (7, .long l7_97), (9, .long l9_98), (11, .long l11_99), (13, .int l13_15), (14, .int l14_100)] [] := by
  unfold fX1_forks_b159 at h
  refine g_iinc hw (lv2 := [(0, .ref (gA G 16)), (1, .int l1_5), (2, .int (l2_93 + 1)), (3, .int l3_94), (4, .int l4_95), (5, .long l5_96), (7, .long l7_97), (9, .long l9_98), (11, .long l11_99), (13, .int l13_15), (14, .int l14_100)]) 2 [1, 2, 0, 3, 4, 5, 6, 7, 8, 9, 10] dX1_forks_159 rfl (by decide) rfl rfl ?_
  exact wX1_forks_b162 hw hkf hR41 h
def fX1_forks_b147 (R41 : Int32 → Int32 → Int32 → Int64 → Int64 → Int64 → Int64 → Int32 → gM → Prop) (l1_5 : Int32) (l2_81 : Int32) (l3_82 : Int32) (l4_83 : Int32) (l5_84 : Int64) (l7_85 : Int64) (l13_15 : Int32) (l14_86 : Int32) (M : gM) (Q : Int64 → gM → Prop) (E : Nat → gM → Prop) : Prop :=
  gk M 16 = 1 ∧ fX1_above M (fun r89 M88 => gk M88 16 = 1 ∧ fX1_below M88 (fun r92 M91 => fX1_forks_b159 R41 l1_5 l2_81 l3_82 l4_83 l5_84 l7_85 r89 r92 l13_15 l14_86 M91 Q E))
theorem wX1_forks_b147 {kf : Nat} {G : gG} {w : gM → Nat → List (Nat × Value) → List Value → Prop} {Q : Int64 → gM → Prop} {E : Nat → gM → Prop} (hw : gX yX1_forks cX1_forks 15 (Option.some FieldType.long) [] kf G (gQl Q) (gEx "java/util/NoSuchElementException" E) w) (hkf : 1014 ≤ kf) {R41 : Int32 → Int32 → Int32 → Int64 → Int64 → Int64 → Int64 → Int32 → gM → Prop} {l1_5 : Int32} {l2_81 : Int32} {l3_82 : Int32} {l4_83 : Int32} {l5_84 : Int64} {l7_85 : Int64} {l13_15 : Int32} {l14_86 : Int32} {M : gM} (hR41 : ∀ (v0 : Int32) (v1 : Int32) (v2 : Int32) (v3 : Int64) (v4 : Int64) (v5 : Int64) (v6 : Int64) (v7 : Int32) (M : gM), R41 v0 v1 v2 v3 v4 v5 v6 v7 M → w M 41 [(0, .ref (gA G 16)), (1, .int l1_5), (2, .int v0), (3, .int v1), (4, .int v2), (5, .long v3), (7, .long v4), (9, .long v5), (11, .long v6), (13, .int l13_15), (14, .int v7)] []) (h : fX1_forks_b147 R41 l1_5 l2_81 l3_82 l4_83 l5_84 l7_85 l13_15 l14_86 M Q E) : w M 147 [(0, .ref (gA G 16)), (1, .int l1_5), (2, .int l2_81), (3, .int l3_82), (4, .int l4_83), (5, .long l5_84), (7, .long l7_85), (13, .int l13_15), (14, .int l14_86)] [] := by
  unfold fX1_forks_b147 at h
  refine g_aload_n hw 0 dX1_forks_147 rfl ?_
  obtain ⟨hk87, h⟩ := h
  refine sX1_211 hw rfl dX1_forks_148 rfl (gK2 hkf) hk87 h (fun r89 M88 h => ?_)
  refine g_lstore hw (lv2 := [(0, .ref (gA G 16)), (1, .int l1_5), (2, .int l2_81), (3, .int l3_82), (4, .int l4_83), (5, .long l5_84), (7, .long l7_85), (9, .long r89), (13, .int l13_15), (14, .int l14_86)]) [1, 2, 3, 4, 5, 6, 7, 0, 8, 9] dX1_forks_151 rfl rfl ?_
  refine g_aload_n hw 0 dX1_forks_153 rfl ?_
  obtain ⟨hk90, h⟩ := h
  refine sX1_215 hw rfl dX1_forks_154 rfl (gK2 hkf) hk90 h (fun r92 M91 h => ?_)
  refine g_lstore hw (lv2 := [(0, .ref (gA G 16)), (1, .int l1_5), (2, .int l2_81), (3, .int l3_82), (4, .int l4_83), (5, .long l5_84), (7, .long l7_85), (9, .long r89), (11, .long r92), (13, .int l13_15), (14, .int l14_86)]) [1, 2, 3, 4, 5, 6, 7, 8, 0, 9, 10] dX1_forks_157 rfl rfl ?_
  exact wX1_forks_b159 hw hkf hR41 h
def fX1_forks_b125 (R41 : Int32 → Int32 → Int32 → Int64 → Int64 → Int64 → Int64 → Int32 → gM → Prop) (l1_5 : Int32) (l2_72 : Int32) (l3_73 : Int32) (l4_74 : Int32) (l5_75 : Int64) (l7_76 : Int64) (l9_77 : Int64) (l11_78 : Int64) (l13_15 : Int32) (l14_79 : Int32) (M : gM) (Q : Int64 → gM → Prop) (E : Nat → gM → Prop) : Prop :=
  (if l2_72 = 0 then fX1_forks_b147 R41 l1_5 l2_72 l3_73 l4_74 l5_75 l7_76 l13_15 l14_79 M Q E else gk M 16 = 1 ∧ fX1_above M (fun r111 M110 => gk M110 16 = 1 ∧ fX1_below M110 (fun r114 M113 => (if (lg_cmp (r111 * l11_78) (l9_77 * r114)) ≤ 0 then fX1_forks_b159 R41 l1_5 l2_72 l3_73 l4_74 l5_75 l7_76 l9_77 l11_78 l13_15 l14_79 M113 Q E else fX1_forks_b147 R41 l1_5 l2_72 l3_73 l4_74 l5_75 l7_76 l13_15 l14_79 M113 Q E))))
theorem wX1_forks_b125 {kf : Nat} {G : gG} {w : gM → Nat → List (Nat × Value) → List Value → Prop} {Q : Int64 → gM → Prop} {E : Nat → gM → Prop} (hw : gX yX1_forks cX1_forks 15 (Option.some FieldType.long) [] kf G (gQl Q) (gEx "java/util/NoSuchElementException" E) w) (hkf : 1014 ≤ kf) {R41 : Int32 → Int32 → Int32 → Int64 → Int64 → Int64 → Int64 → Int32 → gM → Prop} {l1_5 : Int32} {l2_72 : Int32} {l3_73 : Int32} {l4_74 : Int32} {l5_75 : Int64} {l7_76 : Int64} {l9_77 : Int64} {l11_78 : Int64} {l13_15 : Int32} {l14_79 : Int32} {M : gM} (hR41 : ∀ (v0 : Int32) (v1 : Int32) (v2 : Int32) (v3 : Int64) (v4 : Int64) (v5 : Int64) (v6 : Int64) (v7 : Int32) (M : gM), R41 v0 v1 v2 v3 v4 v5 v6 v7 M → w M 41 [(0, .ref (gA G 16)), (1, .int l1_5), (2, .int v0), (3, .int v1), (4, .int v2), (5, .long v3), (7, .long v4), (9, .long v5), (11, .long v6), (13, .int l13_15), (14, .int v7)] []) (h : fX1_forks_b125 R41 l1_5 l2_72 l3_73 l4_74 l5_75 l7_76 l9_77 l11_78 l13_15 l14_79 M Q E) : w M 125 [(0, .ref (gA G 16)), (1, .int l1_5), (2, .int l2_72), (3, .int l3_73), (4, .int l4_74), (5, .long l5_75), (7, .long l7_76), (9, .long l9_77), (11, .long l11_78), (13, .int l13_15), (14, .int l14_79)] [] := by
  unfold fX1_forks_b125 at h
  refine g_iload_n hw 2 dX1_forks_125 rfl ?_
  refine g_if_eq (tgt := 147) hw dX1_forks_126 (by decide) (fun hb80 => ?_) (fun hb80 => ?_)
  · have h := gT h hb80
    refine g_sub hw (lv2 := [(0, .ref (gA G 16)), (1, .int l1_5), (2, .int l2_72), (3, .int l3_73), (4, .int l4_74), (5, .long l5_75), (7, .long l7_76), (13, .int l13_15), (14, .int l14_79)]) [0, 1, 2, 3, 4, 5, 6, 9, 10] rfl ?_
    exact wX1_forks_b147 hw hkf hR41 h
  · have h := gF h hb80
    refine g_aload_n hw 0 dX1_forks_129 rfl ?_
    obtain ⟨hk109, h⟩ := h
    refine sX1_211 hw rfl dX1_forks_130 rfl (gK2 hkf) hk109 h (fun r111 M110 h => ?_)
    refine g_lload hw 8 dX1_forks_133 rfl ?_
    refine g_lmul hw dX1_forks_135 ?_
    refine g_lload hw 7 dX1_forks_136 rfl ?_
    refine g_aload_n hw 0 dX1_forks_138 rfl ?_
    obtain ⟨hk112, h⟩ := h
    refine sX1_215 hw rfl dX1_forks_139 rfl (gK2 hkf) hk112 h (fun r114 M113 h => ?_)
    refine g_lmul hw dX1_forks_142 ?_
    refine g_lcmp hw dX1_forks_143 ?_
    refine g_if_le (tgt := 159) hw dX1_forks_144 (by decide) (fun hb115 => ?_) (fun hb115 => ?_)
    · have h := gT h hb115
      exact wX1_forks_b159 hw hkf hR41 h
    · have h := gF h hb115
      refine g_sub hw (lv2 := [(0, .ref (gA G 16)), (1, .int l1_5), (2, .int l2_72), (3, .int l3_73), (4, .int l4_74), (5, .long l5_75), (7, .long l7_76), (13, .int l13_15), (14, .int l14_79)]) [0, 1, 2, 3, 4, 5, 6, 9, 10] rfl ?_
      exact wX1_forks_b147 hw hkf hR41 h
def fX1_forks_b113 (R41 : Int32 → Int32 → Int32 → Int64 → Int64 → Int64 → Int64 → Int32 → gM → Prop) (l1_5 : Int32) (l2_60 : Int32) (l3_61 : Int32) (l4_62 : Int32) (l9_63 : Int64) (l11_64 : Int64) (l13_15 : Int32) (l14_65 : Int32) (M : gM) (Q : Int64 → gM → Prop) (E : Nat → gM → Prop) : Prop :=
  gk M 16 = 1 ∧ fX1_above M (fun r68 M67 => gk M67 16 = 1 ∧ fX1_below M67 (fun r71 M70 => fX1_forks_b125 R41 l1_5 l2_60 l3_61 l4_62 r68 r71 l9_63 l11_64 l13_15 l14_65 M70 Q E))
theorem wX1_forks_b113 {kf : Nat} {G : gG} {w : gM → Nat → List (Nat × Value) → List Value → Prop} {Q : Int64 → gM → Prop} {E : Nat → gM → Prop} (hw : gX yX1_forks cX1_forks 15 (Option.some FieldType.long) [] kf G (gQl Q) (gEx "java/util/NoSuchElementException" E) w) (hkf : 1014 ≤ kf) {R41 : Int32 → Int32 → Int32 → Int64 → Int64 → Int64 → Int64 → Int32 → gM → Prop} {l1_5 : Int32} {l2_60 : Int32} {l3_61 : Int32} {l4_62 : Int32} {l9_63 : Int64} {l11_64 : Int64} {l13_15 : Int32} {l14_65 : Int32} {M : gM} (hR41 : ∀ (v0 : Int32) (v1 : Int32) (v2 : Int32) (v3 : Int64) (v4 : Int64) (v5 : Int64) (v6 : Int64) (v7 : Int32) (M : gM), R41 v0 v1 v2 v3 v4 v5 v6 v7 M → w M 41 [(0, .ref (gA G 16)), (1, .int l1_5), (2, .int v0), (3, .int v1), (4, .int v2), (5, .long v3), (7, .long v4), (9, .long v5), (11, .long v6), (13, .int l13_15), (14, .int v7)] []) (h : fX1_forks_b113 R41 l1_5 l2_60 l3_61 l4_62 l9_63 l11_64 l13_15 l14_65 M Q E) : w M 113 [(0, .ref (gA G 16)), (1, .int l1_5), (2, .int l2_60), (3, .int l3_61), (4, .int l4_62), (9, .long l9_63), (11, .long l11_64), (13, .int l13_15), (14, .int l14_65)] [] := by
  unfold fX1_forks_b113 at h
  refine g_aload_n hw 0 dX1_forks_113 rfl ?_
  obtain ⟨hk66, h⟩ := h
  refine sX1_211 hw rfl dX1_forks_114 rfl (gK2 hkf) hk66 h (fun r68 M67 h => ?_)
  refine g_lstore hw (lv2 := [(0, .ref (gA G 16)), (1, .int l1_5), (2, .int l2_60), (3, .int l3_61), (4, .int l4_62), (5, .long r68), (9, .long l9_63), (11, .long l11_64), (13, .int l13_15), (14, .int l14_65)]) [1, 2, 3, 4, 5, 0, 6, 7, 8, 9] dX1_forks_117 rfl rfl ?_
  refine g_aload_n hw 0 dX1_forks_119 rfl ?_
  obtain ⟨hk69, h⟩ := h
  refine sX1_215 hw rfl dX1_forks_120 rfl (gK2 hkf) hk69 h (fun r71 M70 h => ?_)
  refine g_lstore hw (lv2 := [(0, .ref (gA G 16)), (1, .int l1_5), (2, .int l2_60), (3, .int l3_61), (4, .int l4_62), (5, .long r68), (7, .long r71), (9, .long l9_63), (11, .long l11_64), (13, .int l13_15), (14, .int l14_65)]) [1, 2, 3, 4, 5, 6, 0, 7, 8, 9, 10] dX1_forks_123 rfl rfl ?_
  exact wX1_forks_b125 hw hkf hR41 h
def fX1_forks_b91 (R41 : Int32 → Int32 → Int32 → Int64 → Int64 → Int64 → Int64 → Int32 → gM → Prop) (l1_5 : Int32) (l2_51 : Int32) (l3_52 : Int32) (l4_53 : Int32) (l5_54 : Int64) (l7_55 : Int64) (l9_56 : Int64) (l11_57 : Int64) (l13_15 : Int32) (l14_58 : Int32) (M : gM) (Q : Int64 → gM → Prop) (E : Nat → gM → Prop) : Prop :=
  (if l2_51 = 0 then fX1_forks_b113 R41 l1_5 l2_51 l3_52 l4_53 l9_56 l11_57 l13_15 l14_58 M Q E else gk M 16 = 1 ∧ fX1_above M (fun r118 M117 => gk M117 16 = 1 ∧ fX1_below M117 (fun r121 M120 => (if 0 ≤ (lg_cmp (r118 * l7_55) (l5_54 * r121)) then fX1_forks_b125 R41 l1_5 l2_51 l3_52 l4_53 l5_54 l7_55 l9_56 l11_57 l13_15 l14_58 M120 Q E else fX1_forks_b113 R41 l1_5 l2_51 l3_52 l4_53 l9_56 l11_57 l13_15 l14_58 M120 Q E))))
theorem wX1_forks_b91 {kf : Nat} {G : gG} {w : gM → Nat → List (Nat × Value) → List Value → Prop} {Q : Int64 → gM → Prop} {E : Nat → gM → Prop} (hw : gX yX1_forks cX1_forks 15 (Option.some FieldType.long) [] kf G (gQl Q) (gEx "java/util/NoSuchElementException" E) w) (hkf : 1014 ≤ kf) {R41 : Int32 → Int32 → Int32 → Int64 → Int64 → Int64 → Int64 → Int32 → gM → Prop} {l1_5 : Int32} {l2_51 : Int32} {l3_52 : Int32} {l4_53 : Int32} {l5_54 : Int64} {l7_55 : Int64} {l9_56 : Int64} {l11_57 : Int64} {l13_15 : Int32} {l14_58 : Int32} {M : gM} (hR41 : ∀ (v0 : Int32) (v1 : Int32) (v2 : Int32) (v3 : Int64) (v4 : Int64) (v5 : Int64) (v6 : Int64) (v7 : Int32) (M : gM), R41 v0 v1 v2 v3 v4 v5 v6 v7 M → w M 41 [(0, .ref (gA G 16)), (1, .int l1_5), (2, .int v0), (3, .int v1), (4, .int v2), (5, .long v3), (7, .long v4), (9, .long v5), (11, .long v6), (13, .int l13_15), (14, .int v7)] []) (h : fX1_forks_b91 R41 l1_5 l2_51 l3_52 l4_53 l5_54 l7_55 l9_56 l11_57 l13_15 l14_58 M Q E) : w M 91 [(0, .ref (gA G 16)), (1, .int l1_5), (2, .int l2_51), (3, .int l3_52), (4, .int l4_53), (5, .long l5_54), (7, .long l7_55), (9, .long l9_56), (11, .long l11_57), (13, .int l13_15), (14, .int l14_58)] [] := by
  unfold fX1_forks_b91 at h
  refine g_iload_n hw 2 dX1_forks_91 rfl ?_
  refine g_if_eq (tgt := 113) hw dX1_forks_92 (by decide) (fun hb59 => ?_) (fun hb59 => ?_)
  · have h := gT h hb59
    refine g_sub hw (lv2 := [(0, .ref (gA G 16)), (1, .int l1_5), (2, .int l2_51), (3, .int l3_52), (4, .int l4_53), (9, .long l9_56), (11, .long l11_57), (13, .int l13_15), (14, .int l14_58)]) [0, 1, 2, 3, 4, 7, 8, 9, 10] rfl ?_
    exact wX1_forks_b113 hw hkf hR41 h
  · have h := gF h hb59
    refine g_aload_n hw 0 dX1_forks_95 rfl ?_
    obtain ⟨hk116, h⟩ := h
    refine sX1_211 hw rfl dX1_forks_96 rfl (gK2 hkf) hk116 h (fun r118 M117 h => ?_)
    refine g_lload hw 6 dX1_forks_99 rfl ?_
    refine g_lmul hw dX1_forks_101 ?_
    refine g_lload hw 5 dX1_forks_102 rfl ?_
    refine g_aload_n hw 0 dX1_forks_104 rfl ?_
    obtain ⟨hk119, h⟩ := h
    refine sX1_215 hw rfl dX1_forks_105 rfl (gK2 hkf) hk119 h (fun r121 M120 h => ?_)
    refine g_lmul hw dX1_forks_108 ?_
    refine g_lcmp hw dX1_forks_109 ?_
    refine g_if_ge (tgt := 125) hw dX1_forks_110 (by decide) (fun hb122 => ?_) (fun hb122 => ?_)
    · have h := gT h hb122
      exact wX1_forks_b125 hw hkf hR41 h
    · have h := gF h hb122
      refine g_sub hw (lv2 := [(0, .ref (gA G 16)), (1, .int l1_5), (2, .int l2_51), (3, .int l3_52), (4, .int l4_53), (9, .long l9_56), (11, .long l11_57), (13, .int l13_15), (14, .int l14_58)]) [0, 1, 2, 3, 4, 7, 8, 9, 10] rfl ?_
      exact wX1_forks_b113 hw hkf hR41 h
def fX1_forks_b79 (R41 : Int32 → Int32 → Int32 → Int64 → Int64 → Int64 → Int64 → Int32 → gM → Prop) (l1_5 : Int32) (l2_39 : Int32) (l3_40 : Int32) (l4_41 : Int32) (l5_42 : Int64) (l7_43 : Int64) (l9_44 : Int64) (l11_45 : Int64) (l13_15 : Int32) (l14_46 : Int32) (M : gM) (Q : Int64 → gM → Prop) (E : Nat → gM → Prop) : Prop :=
  gk M 16 = 1 ∧ fX1_above M (fun r49 M48 => (if (lg_cmp r49 0) ≤ 0 then fX1_forks_b91 R41 l1_5 l2_39 l3_40 l4_41 l5_42 l7_43 l9_44 l11_45 l13_15 l14_46 M48 Q E else fX1_forks_b91 R41 l1_5 l2_39 l3_40 (l4_41 + 1) l5_42 l7_43 l9_44 l11_45 l13_15 l14_46 M48 Q E))
theorem wX1_forks_b79 {kf : Nat} {G : gG} {w : gM → Nat → List (Nat × Value) → List Value → Prop} {Q : Int64 → gM → Prop} {E : Nat → gM → Prop} (hw : gX yX1_forks cX1_forks 15 (Option.some FieldType.long) [] kf G (gQl Q) (gEx "java/util/NoSuchElementException" E) w) (hkf : 1014 ≤ kf) {R41 : Int32 → Int32 → Int32 → Int64 → Int64 → Int64 → Int64 → Int32 → gM → Prop} {l1_5 : Int32} {l2_39 : Int32} {l3_40 : Int32} {l4_41 : Int32} {l5_42 : Int64} {l7_43 : Int64} {l9_44 : Int64} {l11_45 : Int64} {l13_15 : Int32} {l14_46 : Int32} {M : gM} (hR41 : ∀ (v0 : Int32) (v1 : Int32) (v2 : Int32) (v3 : Int64) (v4 : Int64) (v5 : Int64) (v6 : Int64) (v7 : Int32) (M : gM), R41 v0 v1 v2 v3 v4 v5 v6 v7 M → w M 41 [(0, .ref (gA G 16)), (1, .int l1_5), (2, .int v0), (3, .int v1), (4, .int v2), (5, .long v3), (7, .long v4), (9, .long v5), (11, .long v6), (13, .int l13_15), (14, .int v7)] []) (h : fX1_forks_b79 R41 l1_5 l2_39 l3_40 l4_41 l5_42 l7_43 l9_44 l11_45 l13_15 l14_46 M Q E) : w M 79 [(0, .ref (gA G 16)), (1, .int l1_5), (2, .int l2_39), (3, .int l3_40), (4, .int l4_41), (5, .long l5_42), (7, .long l7_43), (9, .long l9_44), (11, .long l11_45), (13, .int l13_15), (14, .int l14_46)] [] := by
  unfold fX1_forks_b79 at h
  refine g_aload_n hw 0 dX1_forks_79 rfl ?_
  obtain ⟨hk47, h⟩ := h
  refine sX1_211 hw rfl dX1_forks_80 rfl (gK2 hkf) hk47 h (fun r49 M48 h => ?_)
  refine g_lconst (v := 0) hw dX1_forks_83 (by decide) ?_
  refine g_lcmp hw dX1_forks_84 ?_
  refine g_if_le (tgt := 91) hw dX1_forks_85 (by decide) (fun hb50 => ?_) (fun hb50 => ?_)
  · have h := gT h hb50
    exact wX1_forks_b91 hw hkf hR41 h
  · have h := gF h hb50
    refine g_iinc hw (lv2 := [(0, .ref (gA G 16)), (1, .int l1_5), (2, .int l2_39), (3, .int l3_40), (4, .int (l4_41 + 1)), (5, .long l5_42), (7, .long l7_43), (9, .long l9_44), (11, .long l11_45), (13, .int l13_15), (14, .int l14_46)]) 4 [1, 2, 3, 4, 0, 5, 6, 7, 8, 9, 10] dX1_forks_88 rfl (by decide) rfl rfl ?_
    exact wX1_forks_b91 hw hkf hR41 h
def fX1_forks_L41s (R41 : Int32 → Int32 → Int32 → Int64 → Int64 → Int64 → Int64 → Int32 → gM → Prop) (K168_41 : Int32 → Int32 → Int32 → Int64 → Int64 → Int64 → Int64 → gM → Prop) (l1_5 : Int32) (l13_15 : Int32) (l2_16 : Int32) (l3_17 : Int32) (l4_18 : Int32) (l5_19 : Int64) (l7_20 : Int64) (l9_21 : Int64) (l11_22 : Int64) (l14_23 : Int32) (M : gM) (Q : Int64 → gM → Prop) (E : Nat → gM → Prop) : Prop :=
  (if 10 < l14_23 then K168_41 l2_16 l3_17 l4_18 l5_19 l7_20 l9_21 l11_22 M else gk M 16 = 1 ∧ gdr (gR M 16 6) (fun a26 => gk M a26 = 46 ∧ vp_in l13_15 (gl M a26) ∧ gdr (gR M a26 l13_15.toNatClampNeg) (fun a30 => fX1_writes_2 a30 l14_23 M (fun r33 M32 => (if r33 = 0 then fX1_forks_b162 R41 l1_5 l2_16 l3_17 l4_18 l5_19 l7_20 l9_21 l11_22 l13_15 l14_23 M32 Q E else gk M32 16 = 1 ∧ fX1_above M32 (fun r37 M36 => (if 0 ≤ (lg_cmp r37 0) then fX1_forks_b79 R41 l1_5 l2_16 l3_17 l4_18 l5_19 l7_20 l9_21 l11_22 l13_15 l14_23 M36 Q E else fX1_forks_b79 R41 l1_5 l2_16 (l3_17 + 1) l4_18 l5_19 l7_20 l9_21 l11_22 l13_15 l14_23 M36 Q E)))))))
def fX1_forks_L41 (K168_41 : Int32 → Int32 → Int32 → Int64 → Int64 → Int64 → Int64 → gM → Prop) (l1_5 : Int32) (l13_15 : Int32) (Q : Int64 → gM → Prop) (E : Nat → gM → Prop) : Nat → Int32 → Int32 → Int32 → Int64 → Int64 → Int64 → Int64 → Int32 → gM → Prop
  | 0 => fun _ _ _ _ _ _ _ _ _ => False
  | n + 1 => fun l2_16 l3_17 l4_18 l5_19 l7_20 l9_21 l11_22 l14_23 M => fX1_forks_L41s (fX1_forks_L41 K168_41 l1_5 l13_15 Q E n) K168_41 l1_5 l13_15 l2_16 l3_17 l4_18 l5_19 l7_20 l9_21 l11_22 l14_23 M Q E
theorem wX1_forks_L41s {kf : Nat} {G : gG} {w : gM → Nat → List (Nat × Value) → List Value → Prop} {Q : Int64 → gM → Prop} {E : Nat → gM → Prop} (hw : gX yX1_forks cX1_forks 15 (Option.some FieldType.long) [] kf G (gQl Q) (gEx "java/util/NoSuchElementException" E) w) (hkf : 1014 ≤ kf) {R41 : Int32 → Int32 → Int32 → Int64 → Int64 → Int64 → Int64 → Int32 → gM → Prop} {K168_41 : Int32 → Int32 → Int32 → Int64 → Int64 → Int64 → Int64 → gM → Prop} {l1_5 : Int32} {l13_15 : Int32} {l2_16 : Int32} {l3_17 : Int32} {l4_18 : Int32} {l5_19 : Int64} {l7_20 : Int64} {l9_21 : Int64} {l11_22 : Int64} {l14_23 : Int32} {M : gM} (hR41 : ∀ (v0 : Int32) (v1 : Int32) (v2 : Int32) (v3 : Int64) (v4 : Int64) (v5 : Int64) (v6 : Int64) (v7 : Int32) (M : gM), R41 v0 v1 v2 v3 v4 v5 v6 v7 M → w M 41 [(0, .ref (gA G 16)), (1, .int l1_5), (2, .int v0), (3, .int v1), (4, .int v2), (5, .long v3), (7, .long v4), (9, .long v5), (11, .long v6), (13, .int l13_15), (14, .int v7)] []) (hK168_41 : ∀ (v0 : Int32) (v1 : Int32) (v2 : Int32) (v3 : Int64) (v4 : Int64) (v5 : Int64) (v6 : Int64) (M : gM), K168_41 v0 v1 v2 v3 v4 v5 v6 M → w M 168 [(0, .ref (gA G 16)), (1, .int l1_5), (2, .int v0), (3, .int v1), (4, .int v2), (5, .long v3), (7, .long v4), (9, .long v5), (11, .long v6), (13, .int l13_15)] []) (h : fX1_forks_L41s R41 K168_41 l1_5 l13_15 l2_16 l3_17 l4_18 l5_19 l7_20 l9_21 l11_22 l14_23 M Q E) : w M 41 [(0, .ref (gA G 16)), (1, .int l1_5), (2, .int l2_16), (3, .int l3_17), (4, .int l4_18), (5, .long l5_19), (7, .long l7_20), (9, .long l9_21), (11, .long l11_22), (13, .int l13_15), (14, .int l14_23)] [] := by
  unfold fX1_forks_L41s at h
  refine g_iload hw 10 dX1_forks_41 rfl ?_
  refine g_bipush (v := 10) hw dX1_forks_43 (by decide) ?_
  refine g_icmp_gt (tgt := 168) hw dX1_forks_45 (by decide) (fun hb24 => ?_) (fun hb24 => ?_)
  · have h := gT h hb24
    refine g_sub hw (lv2 := [(0, .ref (gA G 16)), (1, .int l1_5), (2, .int l2_16), (3, .int l3_17), (4, .int l4_18), (5, .long l5_19), (7, .long l7_20), (9, .long l9_21), (11, .long l11_22), (13, .int l13_15)]) [0, 1, 2, 3, 4, 5, 6, 7, 8, 9] rfl ?_
    exact hK168_41 l2_16 l3_17 l4_18 l5_19 l7_20 l9_21 l11_22 M h
  · have h := gF h hb24
    refine g_aload_n hw 0 dX1_forks_48 rfl ?_
    refine g_aload_n hw 0 dX1_forks_49 rfl ?_
    obtain ⟨hk25, h⟩ := h
    obtain ⟨a26, e27, h⟩ := h
    refine gfX1_52 (q := some a26) hw rfl dX1_forks_50 hk25 e27 ?_
    refine g_iload hw 9 dX1_forks_53 rfl ?_
    obtain ⟨hk28, h⟩ := h
    obtain ⟨hi29, h⟩ := h
    obtain ⟨a30, e31, h⟩ := h
    refine g_aaldS (n := l13_15.toNatClampNeg) hw 6 dX1_forks_55 ⟨rfl, rfl⟩ hk28 hi29 rfl e31 ?_
    refine g_iload hw 10 dX1_forks_56 rfl ?_
    refine sX1_350 hw rfl dX1_forks_58 rfl (gK2 hkf) hk25 h (fun r33 M32 h => ?_)
    refine g_if_ne (tgt := 67) hw dX1_forks_61 (by decide) (fun hb34 => ?_) (fun hb34 => ?_)
    · have h := gF h hb34
      refine g_aload_n hw 0 dX1_forks_67 rfl ?_
      obtain ⟨hk35, h⟩ := h
      refine sX1_211 hw rfl dX1_forks_68 rfl (gK2 hkf) hk35 h (fun r37 M36 h => ?_)
      refine g_lconst (v := 0) hw dX1_forks_71 (by decide) ?_
      refine g_lcmp hw dX1_forks_72 ?_
      refine g_if_ge (tgt := 79) hw dX1_forks_73 (by decide) (fun hb38 => ?_) (fun hb38 => ?_)
      · have h := gT h hb38
        exact wX1_forks_b79 hw hkf hR41 h
      · have h := gF h hb38
        refine g_iinc hw (lv2 := [(0, .ref (gA G 16)), (1, .int l1_5), (2, .int l2_16), (3, .int (l3_17 + 1)), (4, .int l4_18), (5, .long l5_19), (7, .long l7_20), (9, .long l9_21), (11, .long l11_22), (13, .int l13_15), (14, .int l14_23)]) 3 [1, 2, 3, 0, 4, 5, 6, 7, 8, 9, 10] dX1_forks_76 rfl (by decide) rfl rfl ?_
        exact wX1_forks_b79 hw hkf hR41 h
    · have h := gT h hb34
      refine g_goto (tgt := 162) hw dX1_forks_64 (by decide) ?_
      exact wX1_forks_b162 hw hkf hR41 h
theorem wX1_forks_L41 {kf : Nat} {G : gG} {w : gM → Nat → List (Nat × Value) → List Value → Prop} {Q : Int64 → gM → Prop} {E : Nat → gM → Prop} (hw : gX yX1_forks cX1_forks 15 (Option.some FieldType.long) [] kf G (gQl Q) (gEx "java/util/NoSuchElementException" E) w) (hkf : 1014 ≤ kf) {K168_41 : Int32 → Int32 → Int32 → Int64 → Int64 → Int64 → Int64 → gM → Prop} {l1_5 : Int32} {l13_15 : Int32} (hK168_41 : ∀ (v0 : Int32) (v1 : Int32) (v2 : Int32) (v3 : Int64) (v4 : Int64) (v5 : Int64) (v6 : Int64) (M : gM), K168_41 v0 v1 v2 v3 v4 v5 v6 M → w M 168 [(0, .ref (gA G 16)), (1, .int l1_5), (2, .int v0), (3, .int v1), (4, .int v2), (5, .long v3), (7, .long v4), (9, .long v5), (11, .long v6), (13, .int l13_15)] []) : ∀ (n : Nat) (l2_16 : Int32) (l3_17 : Int32) (l4_18 : Int32) (l5_19 : Int64) (l7_20 : Int64) (l9_21 : Int64) (l11_22 : Int64) (l14_23 : Int32) (M : gM), fX1_forks_L41 K168_41 l1_5 l13_15 Q E n l2_16 l3_17 l4_18 l5_19 l7_20 l9_21 l11_22 l14_23 M → w M 41 [(0, .ref (gA G 16)), (1, .int l1_5), (2, .int l2_16), (3, .int l3_17), (4, .int l4_18), (5, .long l5_19), (7, .long l7_20), (9, .long l9_21), (11, .long l11_22), (13, .int l13_15), (14, .int l14_23)] [] := by
  intro n
  induction n with
  | zero => intro l2_16 l3_17 l4_18 l5_19 l7_20 l9_21 l11_22 l14_23 M h; exact h.elim
  | succ n ih => intro l2_16 l3_17 l4_18 l5_19 l7_20 l9_21 l11_22 l14_23 M h; exact wX1_forks_L41s hw hkf ih hK168_41 h
def fX1_forks_L32s (R32 : Int32 → Int32 → Int32 → Int64 → Int64 → Int64 → Int64 → Int32 → gM → Prop) (K174_32 : Int32 → Int32 → Int32 → Int64 → Int64 → Int64 → Int64 → gM → Prop) (l1_5 : Int32) (l2_6 : Int32) (l3_7 : Int32) (l4_8 : Int32) (l5_9 : Int64) (l7_10 : Int64) (l9_11 : Int64) (l11_12 : Int64) (l13_13 : Int32) (M : gM) (Q : Int64 → gM → Prop) (E : Nat → gM → Prop) : Prop :=
  (if 4 ≤ l13_13 then K174_32 l2_6 l3_7 l4_8 l5_9 l7_10 l9_11 l11_12 M else ∃ n, fX1_forks_L41 (fun l2_123 l3_124 l4_125 l5_126 l7_127 l9_128 l11_129 M130 => R32 l2_123 l3_124 l4_125 l5_126 l7_127 l9_128 l11_129 (l13_13 + 1) M130) l1_5 l13_13 Q E n l2_6 l3_7 l4_8 l5_9 l7_10 l9_11 l11_12 0 M)
def fX1_forks_L32 (K174_32 : Int32 → Int32 → Int32 → Int64 → Int64 → Int64 → Int64 → gM → Prop) (l1_5 : Int32) (Q : Int64 → gM → Prop) (E : Nat → gM → Prop) : Nat → Int32 → Int32 → Int32 → Int64 → Int64 → Int64 → Int64 → Int32 → gM → Prop
  | 0 => fun _ _ _ _ _ _ _ _ _ => False
  | n + 1 => fun l2_6 l3_7 l4_8 l5_9 l7_10 l9_11 l11_12 l13_13 M => fX1_forks_L32s (fX1_forks_L32 K174_32 l1_5 Q E n) K174_32 l1_5 l2_6 l3_7 l4_8 l5_9 l7_10 l9_11 l11_12 l13_13 M Q E
theorem wX1_forks_L32s {kf : Nat} {G : gG} {w : gM → Nat → List (Nat × Value) → List Value → Prop} {Q : Int64 → gM → Prop} {E : Nat → gM → Prop} (hw : gX yX1_forks cX1_forks 15 (Option.some FieldType.long) [] kf G (gQl Q) (gEx "java/util/NoSuchElementException" E) w) (hkf : 1014 ≤ kf) {R32 : Int32 → Int32 → Int32 → Int64 → Int64 → Int64 → Int64 → Int32 → gM → Prop} {K174_32 : Int32 → Int32 → Int32 → Int64 → Int64 → Int64 → Int64 → gM → Prop} {l1_5 : Int32} {l2_6 : Int32} {l3_7 : Int32} {l4_8 : Int32} {l5_9 : Int64} {l7_10 : Int64} {l9_11 : Int64} {l11_12 : Int64} {l13_13 : Int32} {M : gM} (hR32 : ∀ (v0 : Int32) (v1 : Int32) (v2 : Int32) (v3 : Int64) (v4 : Int64) (v5 : Int64) (v6 : Int64) (v7 : Int32) (M : gM), R32 v0 v1 v2 v3 v4 v5 v6 v7 M → w M 32 [(0, .ref (gA G 16)), (1, .int l1_5), (2, .int v0), (3, .int v1), (4, .int v2), (5, .long v3), (7, .long v4), (9, .long v5), (11, .long v6), (13, .int v7)] []) (hK174_32 : ∀ (v0 : Int32) (v1 : Int32) (v2 : Int32) (v3 : Int64) (v4 : Int64) (v5 : Int64) (v6 : Int64) (M : gM), K174_32 v0 v1 v2 v3 v4 v5 v6 M → w M 174 [(1, .int l1_5), (2, .int v0), (3, .int v1), (4, .int v2), (5, .long v3), (7, .long v4), (9, .long v5), (11, .long v6)] []) (h : fX1_forks_L32s R32 K174_32 l1_5 l2_6 l3_7 l4_8 l5_9 l7_10 l9_11 l11_12 l13_13 M Q E) : w M 32 [(0, .ref (gA G 16)), (1, .int l1_5), (2, .int l2_6), (3, .int l3_7), (4, .int l4_8), (5, .long l5_9), (7, .long l7_10), (9, .long l9_11), (11, .long l11_12), (13, .int l13_13)] [] := by
  unfold fX1_forks_L32s at h
  refine g_iload hw 9 dX1_forks_32 rfl ?_
  refine g_iconst (v := 4) hw dX1_forks_34 (by decide) ?_
  refine g_icmp_ge (tgt := 174) hw dX1_forks_35 (by decide) (fun hb14 => ?_) (fun hb14 => ?_)
  · have h := gT h hb14
    refine g_sub hw (lv2 := [(1, .int l1_5), (2, .int l2_6), (3, .int l3_7), (4, .int l4_8), (5, .long l5_9), (7, .long l7_10), (9, .long l9_11), (11, .long l11_12)]) [1, 2, 3, 4, 5, 6, 7, 8] rfl ?_
    exact hK174_32 l2_6 l3_7 l4_8 l5_9 l7_10 l9_11 l11_12 M h
  · have h := gF h hb14
    refine g_iconst (v := 0) hw dX1_forks_38 (by decide) ?_
    refine g_istore hw (lv2 := [(0, .ref (gA G 16)), (1, .int l1_5), (2, .int l2_6), (3, .int l3_7), (4, .int l4_8), (5, .long l5_9), (7, .long l7_10), (9, .long l9_11), (11, .long l11_12), (13, .int l13_13), (14, .int 0)]) [1, 2, 3, 4, 5, 6, 7, 8, 9, 10, 0] dX1_forks_39 rfl rfl ?_
    obtain ⟨n9, h⟩ := h
    refine wX1_forks_L41 hw hkf (fun l2_123 l3_124 l4_125 l5_126 l7_127 l9_128 l11_129 M130 h => ?_) n9 l2_6 l3_7 l4_8 l5_9 l7_10 l9_11 l11_12 0 M h
    refine g_iinc hw (lv2 := [(0, .ref (gA G 16)), (1, .int l1_5), (2, .int l2_123), (3, .int l3_124), (4, .int l4_125), (5, .long l5_126), (7, .long l7_127), (9, .long l9_128), (11, .long l11_129), (13, .int (l13_13 + 1))]) 9 [1, 2, 3, 4, 5, 6, 7, 8, 9, 0] dX1_forks_168 rfl (by decide) rfl rfl ?_
    refine g_goto (tgt := 32) hw dX1_forks_171 (by decide) ?_
    exact hR32 l2_123 l3_124 l4_125 l5_126 l7_127 l9_128 l11_129 (l13_13 + 1) M130 h
theorem wX1_forks_L32 {kf : Nat} {G : gG} {w : gM → Nat → List (Nat × Value) → List Value → Prop} {Q : Int64 → gM → Prop} {E : Nat → gM → Prop} (hw : gX yX1_forks cX1_forks 15 (Option.some FieldType.long) [] kf G (gQl Q) (gEx "java/util/NoSuchElementException" E) w) (hkf : 1014 ≤ kf) {K174_32 : Int32 → Int32 → Int32 → Int64 → Int64 → Int64 → Int64 → gM → Prop} {l1_5 : Int32} (hK174_32 : ∀ (v0 : Int32) (v1 : Int32) (v2 : Int32) (v3 : Int64) (v4 : Int64) (v5 : Int64) (v6 : Int64) (M : gM), K174_32 v0 v1 v2 v3 v4 v5 v6 M → w M 174 [(1, .int l1_5), (2, .int v0), (3, .int v1), (4, .int v2), (5, .long v3), (7, .long v4), (9, .long v5), (11, .long v6)] []) : ∀ (n : Nat) (l2_6 : Int32) (l3_7 : Int32) (l4_8 : Int32) (l5_9 : Int64) (l7_10 : Int64) (l9_11 : Int64) (l11_12 : Int64) (l13_13 : Int32) (M : gM), fX1_forks_L32 K174_32 l1_5 Q E n l2_6 l3_7 l4_8 l5_9 l7_10 l9_11 l11_12 l13_13 M → w M 32 [(0, .ref (gA G 16)), (1, .int l1_5), (2, .int l2_6), (3, .int l3_7), (4, .int l4_8), (5, .long l5_9), (7, .long l7_10), (9, .long l9_11), (11, .long l11_12), (13, .int l13_13)] [] := by
  intro n
  induction n with
  | zero => intro l2_6 l3_7 l4_8 l5_9 l7_10 l9_11 l11_12 l13_13 M h; exact h.elim
  | succ n ih => intro l2_6 l3_7 l4_8 l5_9 l7_10 l9_11 l11_12 l13_13 M h; exact wX1_forks_L32s hw hkf ih hK174_32 h
def fX1_forks_b211 (l1_141 : Int32) (l5_142 : Int64) (l7_143 : Int64) (l9_144 : Int64) (l11_145 : Int64) (s0_146 : Int32) (M : gM) (Q : Int64 → gM → Prop) (E : Nat → gM → Prop) : Prop :=
  fX1_need s0_146 M (fun M147 => (if 5 ≤ l1_141 then fX1_lowest l9_144 l11_145 (l1_141 - 5) M147 (fun r151 M150 => Q r151 M150) else fX1_lowest l5_142 l7_143 (l1_141 - 3) M147 (fun r153 M152 => Q r153 M152))) E
theorem wX1_forks_b211 {kf : Nat} {G : gG} {w : gM → Nat → List (Nat × Value) → List Value → Prop} {Q : Int64 → gM → Prop} {E : Nat → gM → Prop} (hw : gX yX1_forks cX1_forks 15 (Option.some FieldType.long) [] kf G (gQl Q) (gEx "java/util/NoSuchElementException" E) w) (hkf : 1014 ≤ kf)  {l1_141 : Int32} {l5_142 : Int64} {l7_143 : Int64} {l9_144 : Int64} {l11_145 : Int64} {s0_146 : Int32} {M : gM}  (h : fX1_forks_b211 l1_141 l5_142 l7_143 l9_144 l11_145 s0_146 M Q E) : w M 211 [(1, .int l1_141), (5, .long l5_142), (7, .long l7_143), (9, .long l9_144), (11, .long l11_145)] [.int s0_146] := by
  unfold fX1_forks_b211 at h
  refine sX1_168 hw rfl dX1_forks_211 rfl (gK2 hkf) h (fun M147 h => ?_)
  refine g_iload_n hw 0 dX1_forks_214 rfl ?_
  refine g_iconst (v := 5) hw dX1_forks_215 (by decide) ?_
  refine g_icmp_ge (tgt := 232) hw dX1_forks_216 (by decide) (fun hb149 => ?_) (fun hb149 => ?_)
  · have h := gT h hb149
    refine g_lload hw 3 dX1_forks_232 rfl ?_
    refine g_lload hw 4 dX1_forks_234 rfl ?_
    refine g_iload_n hw 0 dX1_forks_236 rfl ?_
    refine g_iconst (v := 5) hw dX1_forks_237 (by decide) ?_
    refine g_isub hw dX1_forks_238 ?_
    refine sX1_218 hw rfl dX1_forks_239 rfl (gK2 hkf) h (fun r151 M150 h => ?_)
    exact g_lret hw dX1_forks_242 ⟨_, rfl, h⟩
  · have h := gF h hb149
    refine g_lload hw 1 dX1_forks_219 rfl ?_
    refine g_lload hw 2 dX1_forks_221 rfl ?_
    refine g_iload_n hw 0 dX1_forks_223 rfl ?_
    refine g_iconst (v := 3) hw dX1_forks_224 (by decide) ?_
    refine g_isub hw dX1_forks_225 ?_
    refine sX1_218 hw rfl dX1_forks_226 rfl (gK2 hkf) h (fun r153 M152 h => ?_)
    refine g_goto (tgt := 242) hw dX1_forks_229 (by decide) ?_
    exact g_lret hw dX1_forks_242 ⟨_, rfl, h⟩
def fX1_forks (p1 : Int32) (M : gM) (Q : Int64 → gM → Prop) (E : Nat → gM → Prop) : Prop :=
  fX1_in p1 0 6 M (fun r2 M1 => fX1_need r2 M1 (fun M3 => ∃ n, fX1_forks_L32 (fun l2_131 l3_132 l4_133 l5_134 l7_135 l9_136 l11_137 M138 => (if 3 ≤ p1 then (if l2_131 ≤ 0 then fX1_forks_b211 p1 l5_134 l7_135 l9_136 l11_137 0 M138 Q E else fX1_forks_b211 p1 l5_134 l7_135 l9_136 l11_137 1 M138 Q E) else (if p1 = 0 then Q l2_131.toInt64 M138 else (if p1 = 1 then Q l3_132.toInt64 M138 else Q l4_133.toInt64 M138)))) p1 Q E n 0 0 0 0 1 0 1 0 M3) E)
theorem mX1_forks {kf : Nat} (hkf : 1014 ≤ kf) (G : gG) (p1 : Int32) (M : gM) (Q : Int64 → gM → Prop) (E : Nat → gM → Prop) (h : fX1_forks p1 M Q E) : gMet yX1_forks cX1_forks 15 (Option.some FieldType.long) kf G M [.ref (gA G 16), .int p1] (gQl Q) (gEx "java/util/NoSuchElementException" E) := by
  refine g_intro (lv := [(0, .ref (gA G 16)), (1, .int p1)]) (by decide) rfl rfl (fun w hw => ?_)
  unfold fX1_forks at h
  refine g_iload_n hw 1 dX1_forks_0 rfl ?_
  refine g_iconst (v := 0) hw dX1_forks_1 (by decide) ?_
  refine g_bipush (v := 6) hw dX1_forks_2 (by decide) ?_
  refine sX1_112 hw rfl dX1_forks_4 rfl (gK2 hkf) h (fun r2 M1 h => ?_)
  refine sX1_168 hw rfl dX1_forks_7 rfl (gK2 hkf) h (fun M3 h => ?_)
  refine g_iconst (v := 0) hw dX1_forks_10 (by decide) ?_
  refine g_istore_n hw (lv2 := [(0, .ref (gA G 16)), (1, .int p1), (2, .int 0)]) [1, 2, 0] dX1_forks_11 rfl rfl ?_
  refine g_iconst (v := 0) hw dX1_forks_12 (by decide) ?_
  refine g_istore_n hw (lv2 := [(0, .ref (gA G 16)), (1, .int p1), (2, .int 0), (3, .int 0)]) [1, 2, 3, 0] dX1_forks_13 rfl rfl ?_
  refine g_iconst (v := 0) hw dX1_forks_14 (by decide) ?_
  refine g_istore hw (lv2 := [(0, .ref (gA G 16)), (1, .int p1), (2, .int 0), (3, .int 0), (4, .int 0)]) [1, 2, 3, 4, 0] dX1_forks_15 rfl rfl ?_
  refine g_lconst (v := 0) hw dX1_forks_17 (by decide) ?_
  refine g_lstore hw (lv2 := [(0, .ref (gA G 16)), (1, .int p1), (2, .int 0), (3, .int 0), (4, .int 0), (5, .long 0)]) [1, 2, 3, 4, 5, 0] dX1_forks_18 rfl rfl ?_
  refine g_lconst (v := 1) hw dX1_forks_20 (by decide) ?_
  refine g_lstore hw (lv2 := [(0, .ref (gA G 16)), (1, .int p1), (2, .int 0), (3, .int 0), (4, .int 0), (5, .long 0), (7, .long 1)]) [1, 2, 3, 4, 5, 6, 0] dX1_forks_21 rfl rfl ?_
  refine g_lconst (v := 0) hw dX1_forks_23 (by decide) ?_
  refine g_lstore hw (lv2 := [(0, .ref (gA G 16)), (1, .int p1), (2, .int 0), (3, .int 0), (4, .int 0), (5, .long 0), (7, .long 1), (9, .long 0)]) [1, 2, 3, 4, 5, 6, 7, 0] dX1_forks_24 rfl rfl ?_
  refine g_lconst (v := 1) hw dX1_forks_26 (by decide) ?_
  refine g_lstore hw (lv2 := [(0, .ref (gA G 16)), (1, .int p1), (2, .int 0), (3, .int 0), (4, .int 0), (5, .long 0), (7, .long 1), (9, .long 0), (11, .long 1)]) [1, 2, 3, 4, 5, 6, 7, 8, 0] dX1_forks_27 rfl rfl ?_
  refine g_iconst (v := 0) hw dX1_forks_29 (by decide) ?_
  refine g_istore hw (lv2 := [(0, .ref (gA G 16)), (1, .int p1), (2, .int 0), (3, .int 0), (4, .int 0), (5, .long 0), (7, .long 1), (9, .long 0), (11, .long 1), (13, .int 0)]) [1, 2, 3, 4, 5, 6, 7, 8, 9, 0] dX1_forks_30 rfl rfl ?_
  obtain ⟨n9, h⟩ := h
  refine wX1_forks_L32 hw hkf (fun l2_131 l3_132 l4_133 l5_134 l7_135 l9_136 l11_137 M138 h => ?_) n9 0 0 0 0 1 0 1 0 M3 h
  refine g_iload_n hw 0 dX1_forks_174 rfl ?_
  refine g_iconst (v := 3) hw dX1_forks_175 (by decide) ?_
  refine g_icmp_ge (tgt := 202) hw dX1_forks_176 (by decide) (fun hb139 => ?_) (fun hb139 => ?_)
  · have h := gT h hb139
    refine g_iload_n hw 1 dX1_forks_202 rfl ?_
    refine g_if_le (tgt := 210) hw dX1_forks_203 (by decide) (fun hb140 => ?_) (fun hb140 => ?_)
    · have h := gT h hb140
      refine g_iconst (v := 0) hw dX1_forks_210 (by decide) ?_
      refine g_sub hw (lv2 := [(1, .int p1), (5, .long l5_134), (7, .long l7_135), (9, .long l9_136), (11, .long l11_137)]) [0, 4, 5, 6, 7] rfl ?_
      exact wX1_forks_b211 hw hkf h
    · have h := gF h hb140
      refine g_iconst (v := 1) hw dX1_forks_206 (by decide) ?_
      refine g_goto (tgt := 211) hw dX1_forks_207 (by decide) ?_
      refine g_sub hw (lv2 := [(1, .int p1), (5, .long l5_134), (7, .long l7_135), (9, .long l9_136), (11, .long l11_137)]) [0, 4, 5, 6, 7] rfl ?_
      exact wX1_forks_b211 hw hkf h
  · have h := gF h hb139
    refine g_iload_n hw 0 dX1_forks_179 rfl ?_
    refine g_if_ne (tgt := 188) hw dX1_forks_180 (by decide) (fun hb154 => ?_) (fun hb154 => ?_)
    · have h := gF h hb154
      refine g_iload_n hw 0 dX1_forks_188 rfl ?_
      refine g_iconst (v := 1) hw dX1_forks_189 (by decide) ?_
      refine g_icmp_ne (tgt := 198) hw dX1_forks_190 (by decide) (fun hb155 => ?_) (fun hb155 => ?_)
      · have h := gF h hb155
        refine g_iload hw 3 dX1_forks_198 rfl ?_
        refine g_i2l hw dX1_forks_200 ?_
        exact g_lret hw dX1_forks_201 ⟨_, rfl, h⟩
      · have h := gT h hb155
        refine g_iload_n hw 2 dX1_forks_193 rfl ?_
        refine g_i2l hw dX1_forks_194 ?_
        refine g_goto (tgt := 201) hw dX1_forks_195 (by decide) ?_
        exact g_lret hw dX1_forks_201 ⟨_, rfl, h⟩
    · have h := gT h hb154
      refine g_iload_n hw 1 dX1_forks_183 rfl ?_
      refine g_i2l hw dX1_forks_184 ?_
      refine g_goto (tgt := 201) hw dX1_forks_185 (by decide) ?_
      exact g_lret hw dX1_forks_201 ⟨_, rfl, h⟩
def fX1_rate (p1 : Nat) (p2 : Int32) (M : gM) (Q : Int64 → gM → Prop) : Prop :=
  gk M p1 = 4 ∧ gk M 16 = 1 ∧ gdr (gR M 16 1) (fun a3 => gk M a3 = 48 ∧ vp_in (gI M p1 0) (gl M a3) ∧ gdr (gR M a3 ((gI M p1 0).toNatClampNeg)) (fun a7 => gk M a7 = 40 ∧ vp_in p2 (gl M a7) ∧ fJ0_max (gI M p1 1) (gI M a7 p2.toNatClampNeg) M (fun r12 M11 => Q r12.toInt64 M11)))
theorem mX1_rate {kf : Nat} (hkf : 2 ≤ kf) (G : gG) (p1 : Nat) (p2 : Int32) (M : gM) (Q : Int64 → gM → Prop) (h : fX1_rate p1 p2 M Q) : gMet yX1_rate cX1_rate 3 (Option.some FieldType.long) kf G M [.ref (gA G 16), .ref (gA G p1), .int p2] (gQl Q) gE0 := by
  refine g_intro (lv := [(0, .ref (gA G 16)), (1, .ref (gA G p1)), (2, .int p2)]) (by decide) rfl rfl (fun w hw => ?_)
  unfold fX1_rate at h
  refine g_aload_n hw 1 dX1_rate_0 rfl ?_
  obtain ⟨hk1, h⟩ := h
  refine gfX1_127 hw rfl dX1_rate_1 hk1 ?_
  refine g_aload_n hw 0 dX1_rate_4 rfl ?_
  obtain ⟨hk2, h⟩ := h
  obtain ⟨a3, e4, h⟩ := h
  refine gfX1_27 (q := some a3) hw rfl dX1_rate_5 hk2 e4 ?_
  refine g_aload_n hw 1 dX1_rate_8 rfl ?_
  refine gfX1_124 hw rfl dX1_rate_9 hk1 ?_
  obtain ⟨hk5, h⟩ := h
  obtain ⟨hi6, h⟩ := h
  obtain ⟨a7, e8, h⟩ := h
  refine g_aaldS (n := (gI M p1 0).toNatClampNeg) hw 8 dX1_rate_12 ⟨rfl, rfl⟩ hk5 hi6 rfl e8 ?_
  refine g_iload_n hw 2 dX1_rate_13 rfl ?_
  obtain ⟨hk9, h⟩ := h
  obtain ⟨hi10, h⟩ := h
  refine g_iald (n := p2.toNatClampNeg) hw dX1_rate_14 hk9 hi10 rfl ?_
  refine sX1_145 hw rfl dX1_rate_15 rfl (gK2 hkf) h (fun r12 M11 h => ?_)
  refine g_i2l hw dX1_rate_18 ?_
  exact g_lret hw dX1_rate_19 ⟨_, rfl, h⟩
theorem sX1_360 {y0 : MethodName} {cc : ByteArray} {nL : Nat} {ret : Option FieldType} {hh : List (Nat × Nat × Nat × Nat)} {kf : Nat} {G : gG} {Qv : Option Value → gM → Prop} {E : String → Nat → gM → Prop} {w : gM → Nat → List (Nat × Value) → List Value → Prop} {M : gM} {pc : Nat} {lv : List (Nat × Value)} {rest : List Value} (hw : gX y0 cc nL ret hh kf G Qv E w) (hy : y0.cls = RX1) {p1 : Nat} {p2 : Int32} {Q : Int64 → gM → Prop} (d : decode cc pc = .ok (.invokevirtual 360, 3)) (hrest : Nat.ble ((rest.map Value.category).sum) 8 = true) (hk : 2 + 1 ≤ kf) (hkd : gk M 16 = 1) (h : fX1_rate p1 p2 M Q) (kk : ∀ r M1, Q r M1 → w M1 (pc + 3) lv (.long r :: rest)) : w M pc lv (.int p2 :: .ref (gA G p1) :: .ref (gA G 16) :: rest) := by
  obtain ⟨cls9, nm9, ds9⟩ := y0
  subst hy
  exact g_callV (r := (RX1, TX1, 28)) (ci := 0) hw [.ref (gA G p1), .int p2] (nA := 2) rfl d q1084 q1086 qs41 q98 q1087 (by decide +kernel) rfl rfl hrest rfl (by omega : kf - 1 + 1 ≤ kf) hkd (mX1_rate (kf := kf - 1) (by omega) G p1 p2 M Q h) (fun _ _ _ q => q.elim) (fun v M1 h => by obtain ⟨r, rfl, h⟩ := h; exact kk r M1 h)
def fX1_paid (p1 : Nat) (p2 : Int32) (M : gM) (Q : Int64 → gM → Prop) : Prop :=
  gk M 16 = 1 ∧ fX1_handsOf p1 p2 M (fun r3 M2 => gk M2 p1 = 4 ∧ gdr (gR M2 p1 9) (fun a5 => gk M2 a5 = 40 ∧ vp_in p2 (gl M2 a5) ∧ gk M2 16 = 1 ∧ fX1_rate p1 p2 M2 (fun r11 M10 => Q (((r3 * (gI M2 a5 p2.toNatClampNeg)).toInt64) * r11) M10)))
theorem mX1_paid {kf : Nat} (hkf : 3 ≤ kf) (G : gG) (p1 : Nat) (p2 : Int32) (M : gM) (Q : Int64 → gM → Prop) (h : fX1_paid p1 p2 M Q) : gMet yX1_paid cX1_paid 3 (Option.some FieldType.long) kf G M [.ref (gA G 16), .ref (gA G p1), .int p2] (gQl Q) gE0 := by
  refine g_intro (lv := [(0, .ref (gA G 16)), (1, .ref (gA G p1)), (2, .int p2)]) (by decide) rfl rfl (fun w hw => ?_)
  unfold fX1_paid at h
  refine g_aload_n hw 0 dX1_paid_0 rfl ?_
  refine g_aload_n hw 1 dX1_paid_1 rfl ?_
  refine g_iload_n hw 2 dX1_paid_2 rfl ?_
  obtain ⟨hk1, h⟩ := h
  refine sX1_161 hw rfl dX1_paid_3 rfl (gK2 hkf) hk1 h (fun r3 M2 h => ?_)
  refine g_aload_n hw 1 dX1_paid_6 rfl ?_
  obtain ⟨hk4, h⟩ := h
  obtain ⟨a5, e6, h⟩ := h
  refine gfX1_354 (q := some a5) hw rfl dX1_paid_7 hk4 e6 ?_
  refine g_iload_n hw 2 dX1_paid_10 rfl ?_
  obtain ⟨hk7, h⟩ := h
  obtain ⟨hi8, h⟩ := h
  refine g_iald (n := p2.toNatClampNeg) hw dX1_paid_11 hk7 hi8 rfl ?_
  refine g_imul hw dX1_paid_12 ?_
  refine g_i2l hw dX1_paid_13 ?_
  refine g_aload_n hw 0 dX1_paid_14 rfl ?_
  refine g_aload_n hw 1 dX1_paid_15 rfl ?_
  refine g_iload_n hw 2 dX1_paid_16 rfl ?_
  obtain ⟨hk9, h⟩ := h
  refine sX1_360 hw rfl dX1_paid_17 rfl (gK2 hkf) hk9 h (fun r11 M10 h => ?_)
  refine g_lmul hw dX1_paid_20 ?_
  exact g_lret hw dX1_paid_21 ⟨_, rfl, h⟩
def fX1_taken (p1 : Nat) (p2 : Int32) (M : gM) (Q : Int64 → gM → Prop) : Prop :=
  gk M p1 = 4 ∧ gdr (gR M p1 10) (fun a2 => gk M a2 = 40 ∧ vp_in p2 (gl M a2) ∧ Q (10 * ((gI M a2 p2.toNatClampNeg).toInt64)) M)
theorem mX1_taken {kf : Nat} (hkf : 1 ≤ kf) (G : gG) (p1 : Nat) (p2 : Int32) (M : gM) (Q : Int64 → gM → Prop) (h : fX1_taken p1 p2 M Q) : gMet yX1_taken cX1_taken 2 (Option.some FieldType.long) kf G M [.ref (gA G p1), .int p2] (gQl Q) gE0 := by
  refine g_intro (lv := [(0, .ref (gA G p1)), (1, .int p2)]) (by decide) rfl rfl (fun w hw => ?_)
  unfold fX1_taken at h
  refine g_ldc2 hw dX1_taken_0 q1095 ?_
  refine g_aload_n hw 0 dX1_taken_3 rfl ?_
  obtain ⟨hk1, h⟩ := h
  obtain ⟨a2, e3, h⟩ := h
  refine gfX1_357 (q := some a2) hw rfl dX1_taken_4 hk1 e3 ?_
  refine g_iload_n hw 1 dX1_taken_7 rfl ?_
  obtain ⟨hk4, h⟩ := h
  obtain ⟨hi5, h⟩ := h
  refine g_iald (n := p2.toNatClampNeg) hw dX1_taken_8 hk4 hi5 rfl ?_
  refine g_i2l hw dX1_taken_9 ?_
  refine g_lmul hw dX1_taken_10 ?_
  exact g_lret hw dX1_taken_11 ⟨_, rfl, h⟩
theorem sX1_369 {y0 : MethodName} {cc : ByteArray} {nL : Nat} {ret : Option FieldType} {hh : List (Nat × Nat × Nat × Nat)} {kf : Nat} {G : gG} {Qv : Option Value → gM → Prop} {E : String → Nat → gM → Prop} {w : gM → Nat → List (Nat × Value) → List Value → Prop} {M : gM} {pc : Nat} {lv : List (Nat × Value)} {rest : List Value} (hw : gX y0 cc nL ret hh kf G Qv E w) (hy : y0.cls = RX1) {p1 : Nat} {p2 : Int32} {Q : Int64 → gM → Prop} (d : decode cc pc = .ok (.invokestatic 369, 3)) (hrest : Nat.ble ((rest.map Value.category).sum) 8 = true) (hk : 1 + 1 ≤ kf) (h : fX1_taken p1 p2 M Q) (kk : ∀ r M1, Q r M1 → w M1 (pc + 3) lv (.long r :: rest)) : w M pc lv (.int p2 :: .ref (gA G p1) :: rest) := by
  obtain ⟨cls9, nm9, ds9⟩ := y0
  subst hy
  exact g_callS hw [.ref (gA G p1), .int p2] (nA := 2) rfl d q1092 q1093 q98 q1094 (by decide +kernel) rfl hrest rfl (by omega : kf - 1 + 1 ≤ kf) (mX1_taken (kf := kf - 1) (by omega) G p1 p2 M Q h) (fun _ _ _ q => q.elim) (fun v M1 h => by obtain ⟨r, rfl, h⟩ := h; exact kk r M1 h)
theorem sX1_366 {y0 : MethodName} {cc : ByteArray} {nL : Nat} {ret : Option FieldType} {hh : List (Nat × Nat × Nat × Nat)} {kf : Nat} {G : gG} {Qv : Option Value → gM → Prop} {E : String → Nat → gM → Prop} {w : gM → Nat → List (Nat × Value) → List Value → Prop} {M : gM} {pc : Nat} {lv : List (Nat × Value)} {rest : List Value} (hw : gX y0 cc nL ret hh kf G Qv E w) (hy : y0.cls = RX1) {p1 : Nat} {p2 : Int32} {Q : Int64 → gM → Prop} (d : decode cc pc = .ok (.invokevirtual 366, 3)) (hrest : Nat.ble ((rest.map Value.category).sum) 8 = true) (hk : 3 + 1 ≤ kf) (hkd : gk M 16 = 1) (h : fX1_paid p1 p2 M Q) (kk : ∀ r M1, Q r M1 → w M1 (pc + 3) lv (.long r :: rest)) : w M pc lv (.int p2 :: .ref (gA G p1) :: .ref (gA G 16) :: rest) := by
  obtain ⟨cls9, nm9, ds9⟩ := y0
  subst hy
  exact g_callV (r := (RX1, TX1, 28)) (ci := 0) hw [.ref (gA G p1), .int p2] (nA := 2) rfl d q1088 q1090 qs42 q98 q1091 (by decide +kernel) rfl rfl hrest rfl (by omega : kf - 1 + 1 ≤ kf) hkd (mX1_paid (kf := kf - 1) (by omega) G p1 p2 M Q h) (fun _ _ _ q => q.elim) (fun v M1 h => by obtain ⟨r, rfl, h⟩ := h; exact kk r M1 h)
def fX1_booked_b66 (l2_26 : Int32) (l3_27 : Int32) (l4_28 : Nat) (s0_29 : Int32) (M : gM) (Q : Int64 → gM → Prop) (E : Nat → gM → Prop) : Prop :=
  fX1_need s0_29 M (fun M30 => (if l3_27 = 1 then gk M30 16 = 1 ∧ fX1_paid l4_28 l2_26 M30 (fun r40 M39 => Q r40 M39) else fX1_taken l4_28 l2_26 M30 (fun r34 M33 => gk M33 16 = 1 ∧ fX1_paid l4_28 l2_26 M33 (fun r37 M36 => Q (r34 - r37) M36)))) E
theorem wX1_booked_b66 {kf : Nat} {G : gG} {w : gM → Nat → List (Nat × Value) → List Value → Prop} {Q : Int64 → gM → Prop} {E : Nat → gM → Prop} (hw : gX yX1_booked cX1_booked 5 (Option.some FieldType.long) [] kf G (gQl Q) (gEx "java/util/NoSuchElementException" E) w) (hkf : 9 ≤ kf)  {l2_26 : Int32} {l3_27 : Int32} {l4_28 : Nat} {s0_29 : Int32} {M : gM}  (h : fX1_booked_b66 l2_26 l3_27 l4_28 s0_29 M Q E) : w M 66 [(0, .ref (gA G 16)), (2, .int l2_26), (3, .int l3_27), (4, .ref (gA G l4_28))] [.int s0_29] := by
  unfold fX1_booked_b66 at h
  refine sX1_168 hw rfl dX1_booked_66 rfl (gK2 hkf) h (fun M30 h => ?_)
  refine g_iload_n hw 2 dX1_booked_69 rfl ?_
  refine g_iconst (v := 1) hw dX1_booked_70 (by decide) ?_
  refine g_icmp_ne (tgt := 84) hw dX1_booked_71 (by decide) (fun hb32 => ?_) (fun hb32 => ?_)
  · have h := gF h hb32
    refine g_aload hw 3 dX1_booked_84 rfl ?_
    refine g_iload_n hw 1 dX1_booked_86 rfl ?_
    refine sX1_369 hw rfl dX1_booked_87 rfl (gK2 hkf) h (fun r34 M33 h => ?_)
    refine g_aload_n hw 0 dX1_booked_90 rfl ?_
    refine g_aload hw 3 dX1_booked_91 rfl ?_
    refine g_iload_n hw 1 dX1_booked_93 rfl ?_
    obtain ⟨hk35, h⟩ := h
    refine sX1_366 hw rfl dX1_booked_94 rfl (gK2 hkf) hk35 h (fun r37 M36 h => ?_)
    refine g_lsub hw dX1_booked_97 ?_
    exact g_lret hw dX1_booked_98 ⟨_, rfl, h⟩
  · have h := gT h hb32
    refine g_aload_n hw 0 dX1_booked_74 rfl ?_
    refine g_aload hw 3 dX1_booked_75 rfl ?_
    refine g_iload_n hw 1 dX1_booked_77 rfl ?_
    obtain ⟨hk38, h⟩ := h
    refine sX1_366 hw rfl dX1_booked_78 rfl (gK2 hkf) hk38 h (fun r40 M39 h => ?_)
    refine g_goto (tgt := 98) hw dX1_booked_81 (by decide) ?_
    exact g_lret hw dX1_booked_98 ⟨_, rfl, h⟩
def fX1_booked_b29 (l1_8 : Int32) (l2_9 : Int32) (l3_10 : Int32) (s0_11 : Int32) (M : gM) (Q : Int64 → gM → Prop) (E : Nat → gM → Prop) : Prop :=
  fX1_need s0_11 M (fun M12 => gk M12 16 = 1 ∧ gdr (gR M12 16 0) (fun a15 => gk M12 a15 = 44 ∧ vp_in l1_8 (gl M12 a15) ∧ gdr (gR M12 a15 l1_8.toNatClampNeg) (fun a19 => (if l3_10 = 0 then fX1_rate a19 l2_9 M12 (fun r42 M41 => Q r42 M41) else gk M12 a19 = 4 ∧ fX4_isSilent a19 l2_9 M12 (fun r24 M23 => (if r24 = 0 then fX1_booked_b66 l2_9 l3_10 a19 1 M23 Q E else fX1_booked_b66 l2_9 l3_10 a19 0 M23 Q E)))))) E
theorem wX1_booked_b29 {kf : Nat} {G : gG} {w : gM → Nat → List (Nat × Value) → List Value → Prop} {Q : Int64 → gM → Prop} {E : Nat → gM → Prop} (hw : gX yX1_booked cX1_booked 5 (Option.some FieldType.long) [] kf G (gQl Q) (gEx "java/util/NoSuchElementException" E) w) (hkf : 9 ≤ kf)  {l1_8 : Int32} {l2_9 : Int32} {l3_10 : Int32} {s0_11 : Int32} {M : gM}  (h : fX1_booked_b29 l1_8 l2_9 l3_10 s0_11 M Q E) : w M 29 [(0, .ref (gA G 16)), (1, .int l1_8), (2, .int l2_9), (3, .int l3_10)] [.int s0_11] := by
  unfold fX1_booked_b29 at h
  refine sX1_168 hw rfl dX1_booked_29 rfl (gK2 hkf) h (fun M12 h => ?_)
  refine g_aload_n hw 0 dX1_booked_32 rfl ?_
  obtain ⟨hk14, h⟩ := h
  obtain ⟨a15, e16, h⟩ := h
  refine gfX1_21 (q := some a15) hw rfl dX1_booked_33 hk14 e16 ?_
  refine g_iload_n hw 1 dX1_booked_36 rfl ?_
  obtain ⟨hk17, h⟩ := h
  obtain ⟨hi18, h⟩ := h
  obtain ⟨a19, e20, h⟩ := h
  refine g_aaldS (n := l1_8.toNatClampNeg) hw 4 dX1_booked_37 ⟨rfl, rfl⟩ hk17 hi18 rfl e20 ?_
  refine g_astore hw (lv2 := [(0, .ref (gA G 16)), (2, .int l2_9), (3, .int l3_10), (4, .ref (gA G a19))]) [1, 3, 4, 0] dX1_booked_38 rfl rfl ?_
  refine g_iload_n hw 2 dX1_booked_40 rfl ?_
  refine g_if_ne (tgt := 52) hw dX1_booked_41 (by decide) (fun hb21 => ?_) (fun hb21 => ?_)
  · have h := gF h hb21
    refine g_aload hw 3 dX1_booked_52 rfl ?_
    refine g_iload_n hw 1 dX1_booked_54 rfl ?_
    obtain ⟨hk22, h⟩ := h
    refine sX1_158 hw rfl dX1_booked_55 rfl (gK2 hkf) hk22 h (fun r24 M23 h => ?_)
    refine g_if_ne (tgt := 65) hw dX1_booked_58 (by decide) (fun hb25 => ?_) (fun hb25 => ?_)
    · have h := gF h hb25
      refine g_iconst (v := 0) hw dX1_booked_65 (by decide) ?_
      exact wX1_booked_b66 hw hkf h
    · have h := gT h hb25
      refine g_iconst (v := 1) hw dX1_booked_61 (by decide) ?_
      refine g_goto (tgt := 66) hw dX1_booked_62 (by decide) ?_
      exact wX1_booked_b66 hw hkf h
  · have h := gT h hb21
    refine g_aload_n hw 0 dX1_booked_44 rfl ?_
    refine g_aload hw 3 dX1_booked_45 rfl ?_
    refine g_iload_n hw 1 dX1_booked_47 rfl ?_
    refine sX1_360 hw rfl dX1_booked_48 rfl (gK2 hkf) hk14 h (fun r42 M41 h => ?_)
    exact g_lret hw dX1_booked_51 ⟨_, rfl, h⟩
def fX1_booked_b28 (l1_5 : Int32) (l2_6 : Int32) (l3_7 : Int32) (M : gM) (Q : Int64 → gM → Prop) (E : Nat → gM → Prop) : Prop :=
  fX1_booked_b29 l1_5 l2_6 l3_7 0 M Q E
theorem wX1_booked_b28 {kf : Nat} {G : gG} {w : gM → Nat → List (Nat × Value) → List Value → Prop} {Q : Int64 → gM → Prop} {E : Nat → gM → Prop} (hw : gX yX1_booked cX1_booked 5 (Option.some FieldType.long) [] kf G (gQl Q) (gEx "java/util/NoSuchElementException" E) w) (hkf : 9 ≤ kf)  {l1_5 : Int32} {l2_6 : Int32} {l3_7 : Int32} {M : gM}  (h : fX1_booked_b28 l1_5 l2_6 l3_7 M Q E) : w M 28 [(0, .ref (gA G 16)), (1, .int l1_5), (2, .int l2_6), (3, .int l3_7)] [] := by
  unfold fX1_booked_b28 at h
  refine g_iconst (v := 0) hw dX1_booked_28 (by decide) ?_
  exact wX1_booked_b29 hw hkf h
def fX1_booked (p1 : Int32) (p2 : Int32) (p3 : Int32) (M : gM) (Q : Int64 → gM → Prop) (E : Nat → gM → Prop) : Prop :=
  gk M 16 = 1 ∧ fX1_isKitchen p1 M (fun r3 M2 => (if r3 = 0 then fX1_booked_b28 p1 p2 p3 M2 Q E else fX1_isMonth p2 M2 (fun r44 M43 => (if r44 = 0 then fX1_booked_b28 p1 p2 p3 M43 Q E else fX1_in p3 0 2 M43 (fun r47 M46 => (if r47 = 0 then fX1_booked_b28 p1 p2 p3 M46 Q E else fX1_booked_b29 p1 p2 p3 1 M46 Q E))))))
theorem mX1_booked {kf : Nat} (hkf : 9 ≤ kf) (G : gG) (p1 : Int32) (p2 : Int32) (p3 : Int32) (M : gM) (Q : Int64 → gM → Prop) (E : Nat → gM → Prop) (h : fX1_booked p1 p2 p3 M Q E) : gMet yX1_booked cX1_booked 5 (Option.some FieldType.long) kf G M [.ref (gA G 16), .int p1, .int p2, .int p3] (gQl Q) (gEx "java/util/NoSuchElementException" E) := by
  refine g_intro (lv := [(0, .ref (gA G 16)), (1, .int p1), (2, .int p2), (3, .int p3)]) (by decide) rfl rfl (fun w hw => ?_)
  unfold fX1_booked at h
  refine g_aload_n hw 0 dX1_booked_0 rfl ?_
  refine g_iload_n hw 1 dX1_booked_1 rfl ?_
  obtain ⟨hk1, h⟩ := h
  refine sX1_136 hw rfl dX1_booked_2 rfl (gK2 hkf) hk1 h (fun r3 M2 h => ?_)
  refine g_if_eq (tgt := 28) hw dX1_booked_5 (by decide) (fun hb4 => ?_) (fun hb4 => ?_)
  · have h := gT h hb4
    exact wX1_booked_b28 hw hkf h
  · have h := gF h hb4
    refine g_iload_n hw 2 dX1_booked_8 rfl ?_
    refine sX1_120 hw rfl dX1_booked_9 rfl (gK2 hkf) h (fun r44 M43 h => ?_)
    refine g_if_eq (tgt := 28) hw dX1_booked_12 (by decide) (fun hb45 => ?_) (fun hb45 => ?_)
    · have h := gT h hb45
      exact wX1_booked_b28 hw hkf h
    · have h := gF h hb45
      refine g_iload_n hw 3 dX1_booked_15 rfl ?_
      refine g_iconst (v := 0) hw dX1_booked_16 (by decide) ?_
      refine g_iconst (v := 2) hw dX1_booked_17 (by decide) ?_
      refine sX1_112 hw rfl dX1_booked_18 rfl (gK2 hkf) h (fun r47 M46 h => ?_)
      refine g_if_eq (tgt := 28) hw dX1_booked_21 (by decide) (fun hb48 => ?_) (fun hb48 => ?_)
      · have h := gT h hb48
        exact wX1_booked_b28 hw hkf h
      · have h := gF h hb48
        refine g_iconst (v := 1) hw dX1_booked_24 (by decide) ?_
        refine g_goto (tgt := 29) hw dX1_booked_25 (by decide) ?_
        exact wX1_booked_b29 hw hkf h
def fX1_closes_b292 (R41 : Int64 → Int32 → gM → Prop) (l1_15 : Int32) (l2_16 : Int32) (l3_17 : Int32) (l4_18 : Int32) (l5_33 : Int64) (l7_34 : Int32) (M : gM) (Q : Int64 → gM → Prop) (E : Nat → gM → Prop) : Prop :=
  R41 l5_33 (l7_34 + 1) M
theorem wX1_closes_b292 {kf : Nat} {G : gG} {w : gM → Nat → List (Nat × Value) → List Value → Prop} {Q : Int64 → gM → Prop} {E : Nat → gM → Prop} (hw : gX yX1_closes cX1_closes 13 (Option.some FieldType.long) [] kf G (gQl Q) (gEx "java/util/NoSuchElementException" E) w) (hkf : 9 ≤ kf) {R41 : Int64 → Int32 → gM → Prop} {l1_15 : Int32} {l2_16 : Int32} {l3_17 : Int32} {l4_18 : Int32} {l5_33 : Int64} {l7_34 : Int32} {M : gM} (hR41 : ∀ (v0 : Int64) (v1 : Int32) (M : gM), R41 v0 v1 M → w M 41 [(0, .ref (gA G 16)), (1, .int l1_15), (2, .int l2_16), (3, .int l3_17), (4, .int l4_18), (5, .long v0), (7, .int v1)] []) (h : fX1_closes_b292 R41 l1_15 l2_16 l3_17 l4_18 l5_33 l7_34 M Q E) : w M 292 [(0, .ref (gA G 16)), (1, .int l1_15), (2, .int l2_16), (3, .int l3_17), (4, .int l4_18), (5, .long l5_33), (7, .int l7_34)] [] := by
  unfold fX1_closes_b292 at h
  refine g_iinc hw (lv2 := [(0, .ref (gA G 16)), (1, .int l1_15), (2, .int l2_16), (3, .int l3_17), (4, .int l4_18), (5, .long l5_33), (7, .int (l7_34 + 1))]) 6 [1, 2, 3, 4, 5, 6, 0] dX1_closes_292 rfl (by decide) rfl rfl ?_
  refine g_goto (tgt := 41) hw dX1_closes_295 (by decide) ?_
  exact hR41 l5_33 (l7_34 + 1) M h
def fX1_closes_L41s (R41 : Int64 → Int32 → gM → Prop) (K298_41 : Int64 → gM → Prop) (l1_15 : Int32) (l2_16 : Int32) (l3_17 : Int32) (l4_18 : Int32) (l5_19 : Int64) (l7_20 : Int32) (M : gM) (Q : Int64 → gM → Prop) (E : Nat → gM → Prop) : Prop :=
  (if 24 ≤ l7_20 then K298_41 l5_19 M else gk M 16 = 1 ∧ gdr (gR M 16 0) (fun a23 => gk M a23 = 44 ∧ vp_in l7_20 (gl M a23) ∧ gdr (gR M a23 l7_20.toNatClampNeg) (fun a27 => gk M a27 = 4 ∧ fX4_isCounted a27 l2_16 l3_17 M (fun r31 M30 => (if r31 = 0 then fX1_closes_b292 R41 l1_15 l2_16 l3_17 l4_18 l5_19 l7_20 M30 Q E else gk M30 a27 = 4 ∧ (if (gI M30 a27 0) = l1_15 then gk M30 16 = 1 ∧ fX1_paid a27 l3_17 M30 (fun r39 M38 => gk M38 16 = 1 ∧ fX1_paid a27 l2_16 M38 (fun r42 M41 => fX1_taken a27 l3_17 M41 (fun r44 M43 => fX1_taken a27 l2_16 M43 (fun r46 M45 => (if l4_18 = 0 then fX1_closes_b292 R41 l1_15 l2_16 l3_17 l4_18 (l5_19 + (r39 - r42)) l7_20 M45 Q E else (if l4_18 = 1 then gk M45 16 = 1 ∧ fX1_change a27 l2_16 l3_17 M45 (fun r49 M48 => gk M48 a27 = 4 ∧ gdr (gR M48 a27 9) (fun a51 => gk M48 a51 = 40 ∧ vp_in l2_16 (gl M48 a51) ∧ gk M48 16 = 1 ∧ fX1_rate a27 l2_16 M48 (fun r57 M56 => fX1_closes_b292 R41 l1_15 l2_16 l3_17 l4_18 (l5_19 + (((r49 * (gI M48 a51 l2_16.toNatClampNeg)).toInt64) * r57)) l7_20 M56 Q E))) else (if l4_18 = 2 then gk M45 16 = 1 ∧ fX1_handsOf a27 l3_17 M45 (fun r60 M59 => gk M59 a27 = 4 ∧ gdr (gR M59 a27 9) (fun a62 => gk M59 a62 = 40 ∧ vp_in l3_17 (gl M59 a62) ∧ gdr (gR M59 a27 9) (fun a66 => gk M59 a66 = 40 ∧ vp_in l2_16 (gl M59 a66) ∧ gk M59 16 = 1 ∧ fX1_rate a27 l2_16 M59 (fun r72 M71 => fX1_closes_b292 R41 l1_15 l2_16 l3_17 l4_18 (l5_19 + ((r60.toInt64 * (((gI M59 a62 l3_17.toNatClampNeg) - (gI M59 a66 l2_16.toNatClampNeg)).toInt64)) * r72)) l7_20 M71 Q E)))) else (if l4_18 = 3 then gk M45 16 = 1 ∧ fX1_handsOf a27 l3_17 M45 (fun r75 M74 => gk M74 a27 = 4 ∧ gdr (gR M74 a27 9) (fun a77 => gk M74 a77 = 40 ∧ vp_in l3_17 (gl M74 a77) ∧ gk M74 16 = 1 ∧ fX1_rate a27 l3_17 M74 (fun r83 M82 => gk M82 16 = 1 ∧ fX1_rate a27 l2_16 M82 (fun r86 M85 => fX1_closes_b292 R41 l1_15 l2_16 l3_17 l4_18 (l5_19 + (((r75 * (gI M74 a77 l3_17.toNatClampNeg)).toInt64) * (r83 - r86))) l7_20 M85 Q E)))) else (if l4_18 = 4 then fX1_closes_b292 R41 l1_15 l2_16 l3_17 l4_18 (l5_19 + (r44 - r46)) l7_20 M45 Q E else fX1_closes_b292 R41 l1_15 l2_16 l3_17 l4_18 (l5_19 + ((r44 - r46) - (r39 - r42))) l7_20 M45 Q E))))))))) else fX1_closes_b292 R41 l1_15 l2_16 l3_17 l4_18 l5_19 l7_20 M30 Q E))))))
def fX1_closes_L41 (K298_41 : Int64 → gM → Prop) (l1_15 : Int32) (l2_16 : Int32) (l3_17 : Int32) (l4_18 : Int32) (Q : Int64 → gM → Prop) (E : Nat → gM → Prop) : Nat → Int64 → Int32 → gM → Prop
  | 0 => fun _ _ _ => False
  | n + 1 => fun l5_19 l7_20 M => fX1_closes_L41s (fX1_closes_L41 K298_41 l1_15 l2_16 l3_17 l4_18 Q E n) K298_41 l1_15 l2_16 l3_17 l4_18 l5_19 l7_20 M Q E
theorem wX1_closes_L41s {kf : Nat} {G : gG} {w : gM → Nat → List (Nat × Value) → List Value → Prop} {Q : Int64 → gM → Prop} {E : Nat → gM → Prop} (hw : gX yX1_closes cX1_closes 13 (Option.some FieldType.long) [] kf G (gQl Q) (gEx "java/util/NoSuchElementException" E) w) (hkf : 9 ≤ kf) {R41 : Int64 → Int32 → gM → Prop} {K298_41 : Int64 → gM → Prop} {l1_15 : Int32} {l2_16 : Int32} {l3_17 : Int32} {l4_18 : Int32} {l5_19 : Int64} {l7_20 : Int32} {M : gM} (hR41 : ∀ (v0 : Int64) (v1 : Int32) (M : gM), R41 v0 v1 M → w M 41 [(0, .ref (gA G 16)), (1, .int l1_15), (2, .int l2_16), (3, .int l3_17), (4, .int l4_18), (5, .long v0), (7, .int v1)] []) (hK298_41 : ∀ (v0 : Int64) (M : gM), K298_41 v0 M → w M 298 [(5, .long v0)] []) (h : fX1_closes_L41s R41 K298_41 l1_15 l2_16 l3_17 l4_18 l5_19 l7_20 M Q E) : w M 41 [(0, .ref (gA G 16)), (1, .int l1_15), (2, .int l2_16), (3, .int l3_17), (4, .int l4_18), (5, .long l5_19), (7, .int l7_20)] [] := by
  unfold fX1_closes_L41s at h
  refine g_iload hw 6 dX1_closes_41 rfl ?_
  refine g_bipush (v := 24) hw dX1_closes_43 (by decide) ?_
  refine g_icmp_ge (tgt := 298) hw dX1_closes_45 (by decide) (fun hb21 => ?_) (fun hb21 => ?_)
  · have h := gT h hb21
    refine g_sub hw (lv2 := [(5, .long l5_19)]) [5] rfl ?_
    exact hK298_41 l5_19 M h
  · have h := gF h hb21
    refine g_aload_n hw 0 dX1_closes_48 rfl ?_
    obtain ⟨hk22, h⟩ := h
    obtain ⟨a23, e24, h⟩ := h
    refine gfX1_21 (q := some a23) hw rfl dX1_closes_49 hk22 e24 ?_
    refine g_iload hw 6 dX1_closes_52 rfl ?_
    obtain ⟨hk25, h⟩ := h
    obtain ⟨hi26, h⟩ := h
    obtain ⟨a27, e28, h⟩ := h
    refine g_aaldS (n := l7_20.toNatClampNeg) hw 4 dX1_closes_54 ⟨rfl, rfl⟩ hk25 hi26 rfl e28 ?_
    refine g_astore hw (lv2 := [(0, .ref (gA G 16)), (1, .int l1_15), (2, .int l2_16), (3, .int l3_17), (4, .int l4_18), (5, .long l5_19), (7, .int l7_20), (8, .ref (gA G a27))]) [1, 2, 3, 4, 5, 6, 7, 0] dX1_closes_55 rfl rfl ?_
    refine g_aload hw 7 dX1_closes_57 rfl ?_
    refine g_iload_n hw 2 dX1_closes_59 rfl ?_
    refine g_iload_n hw 3 dX1_closes_60 rfl ?_
    obtain ⟨hk29, h⟩ := h
    refine sX1_172 hw rfl dX1_closes_61 rfl (gK2 hkf) hk29 h (fun r31 M30 h => ?_)
    refine g_if_eq (tgt := 292) hw dX1_closes_64 (by decide) (fun hb32 => ?_) (fun hb32 => ?_)
    · have h := gT h hb32
      refine g_sub hw (lv2 := [(0, .ref (gA G 16)), (1, .int l1_15), (2, .int l2_16), (3, .int l3_17), (4, .int l4_18), (5, .long l5_19), (7, .int l7_20)]) [0, 1, 2, 3, 4, 5, 6] rfl ?_
      exact wX1_closes_b292 hw hkf hR41 h
    · have h := gF h hb32
      refine g_aload hw 7 dX1_closes_67 rfl ?_
      obtain ⟨hk35, h⟩ := h
      refine gfX1_124 hw rfl dX1_closes_69 hk35 ?_
      refine g_iload_n hw 1 dX1_closes_72 rfl ?_
      refine g_icmp_eq (tgt := 79) hw dX1_closes_73 (by decide) (fun hb36 => ?_) (fun hb36 => ?_)
      · have h := gT h hb36
        refine g_aload_n hw 0 dX1_closes_79 rfl ?_
        refine g_aload hw 7 dX1_closes_80 rfl ?_
        refine g_iload_n hw 3 dX1_closes_82 rfl ?_
        obtain ⟨hk37, h⟩ := h
        refine sX1_366 hw rfl dX1_closes_83 rfl (gK2 hkf) hk37 h (fun r39 M38 h => ?_)
        refine g_aload_n hw 0 dX1_closes_86 rfl ?_
        refine g_aload hw 7 dX1_closes_87 rfl ?_
        refine g_iload_n hw 2 dX1_closes_89 rfl ?_
        obtain ⟨hk40, h⟩ := h
        refine sX1_366 hw rfl dX1_closes_90 rfl (gK2 hkf) hk40 h (fun r42 M41 h => ?_)
        refine g_lsub hw dX1_closes_93 ?_
        refine g_lstore hw (lv2 := [(0, .ref (gA G 16)), (1, .int l1_15), (2, .int l2_16), (3, .int l3_17), (4, .int l4_18), (5, .long l5_19), (7, .int l7_20), (8, .ref (gA G a27)), (9, .long (r39 - r42))]) [1, 2, 3, 4, 5, 6, 7, 8, 0] dX1_closes_94 rfl rfl ?_
        refine g_aload hw 7 dX1_closes_96 rfl ?_
        refine g_iload_n hw 3 dX1_closes_98 rfl ?_
        refine sX1_369 hw rfl dX1_closes_99 rfl (gK2 hkf) h (fun r44 M43 h => ?_)
        refine g_aload hw 7 dX1_closes_102 rfl ?_
        refine g_iload_n hw 2 dX1_closes_104 rfl ?_
        refine sX1_369 hw rfl dX1_closes_105 rfl (gK2 hkf) h (fun r46 M45 h => ?_)
        refine g_lsub hw dX1_closes_108 ?_
        refine g_lstore hw (lv2 := [(0, .ref (gA G 16)), (1, .int l1_15), (2, .int l2_16), (3, .int l3_17), (4, .int l4_18), (5, .long l5_19), (7, .int l7_20), (8, .ref (gA G a27)), (9, .long (r39 - r42)), (11, .long (r44 - r46))]) [1, 2, 3, 4, 5, 6, 7, 8, 9, 0] dX1_closes_109 rfl rfl ?_
        refine g_iload hw 4 dX1_closes_111 rfl ?_
        by_cases hb87 : l4_18 = 0
        · have h := gT h hb87
          refine g_tabIn (tgt := 148) hw dX1_closes_113 (by rw [hb87]; decide) (by rw [hb87]; decide) (by rw [hb87] <;> rfl) (by decide) ?_
          refine g_lload hw 5 dX1_closes_148 rfl ?_
          refine g_lload hw 8 dX1_closes_150 rfl ?_
          refine g_ladd hw dX1_closes_152 ?_
          refine g_lstore hw (lv2 := [(0, .ref (gA G 16)), (1, .int l1_15), (2, .int l2_16), (3, .int l3_17), (4, .int l4_18), (5, .long (l5_19 + (r39 - r42))), (7, .int l7_20)]) [1, 2, 3, 4, 5, 0, 6] dX1_closes_153 rfl rfl ?_
          refine g_goto (tgt := 292) hw dX1_closes_155 (by decide) ?_
          exact wX1_closes_b292 hw hkf hR41 h
        · have h := gF h hb87
          by_cases hb88 : l4_18 = 1
          · have h := gT h hb88
            refine g_tabIn (tgt := 158) hw dX1_closes_113 (by rw [hb88]; decide) (by rw [hb88]; decide) (by rw [hb88] <;> rfl) (by decide) ?_
            refine g_lload hw 5 dX1_closes_158 rfl ?_
            refine g_aload_n hw 0 dX1_closes_160 rfl ?_
            refine g_aload hw 7 dX1_closes_161 rfl ?_
            refine g_iload_n hw 2 dX1_closes_163 rfl ?_
            refine g_iload_n hw 3 dX1_closes_164 rfl ?_
            obtain ⟨hk47, h⟩ := h
            refine sX1_175 hw rfl dX1_closes_165 rfl (gK2 hkf) hk47 h (fun r49 M48 h => ?_)
            refine g_aload hw 7 dX1_closes_168 rfl ?_
            obtain ⟨hk50, h⟩ := h
            obtain ⟨a51, e52, h⟩ := h
            refine gfX1_354 (q := some a51) hw rfl dX1_closes_170 hk50 e52 ?_
            refine g_iload_n hw 2 dX1_closes_173 rfl ?_
            obtain ⟨hk53, h⟩ := h
            obtain ⟨hi54, h⟩ := h
            refine g_iald (n := l2_16.toNatClampNeg) hw dX1_closes_174 hk53 hi54 rfl ?_
            refine g_imul hw dX1_closes_175 ?_
            refine g_i2l hw dX1_closes_176 ?_
            refine g_aload_n hw 0 dX1_closes_177 rfl ?_
            refine g_aload hw 7 dX1_closes_178 rfl ?_
            refine g_iload_n hw 2 dX1_closes_180 rfl ?_
            obtain ⟨hk55, h⟩ := h
            refine sX1_360 hw rfl dX1_closes_181 rfl (gK2 hkf) hk55 h (fun r57 M56 h => ?_)
            refine g_lmul hw dX1_closes_184 ?_
            refine g_ladd hw dX1_closes_185 ?_
            refine g_lstore hw (lv2 := [(0, .ref (gA G 16)), (1, .int l1_15), (2, .int l2_16), (3, .int l3_17), (4, .int l4_18), (5, .long (l5_19 + (((r49 * (gI M48 a51 l2_16.toNatClampNeg)).toInt64) * r57))), (7, .int l7_20)]) [1, 2, 3, 4, 5, 0, 6] dX1_closes_186 rfl rfl ?_
            refine g_goto (tgt := 292) hw dX1_closes_188 (by decide) ?_
            exact wX1_closes_b292 hw hkf hR41 h
          · have h := gF h hb88
            by_cases hb89 : l4_18 = 2
            · have h := gT h hb89
              refine g_tabIn (tgt := 191) hw dX1_closes_113 (by rw [hb89]; decide) (by rw [hb89]; decide) (by rw [hb89] <;> rfl) (by decide) ?_
              refine g_lload hw 5 dX1_closes_191 rfl ?_
              refine g_aload_n hw 0 dX1_closes_193 rfl ?_
              refine g_aload hw 7 dX1_closes_194 rfl ?_
              refine g_iload_n hw 3 dX1_closes_196 rfl ?_
              obtain ⟨hk58, h⟩ := h
              refine sX1_161 hw rfl dX1_closes_197 rfl (gK2 hkf) hk58 h (fun r60 M59 h => ?_)
              refine g_i2l hw dX1_closes_200 ?_
              refine g_aload hw 7 dX1_closes_201 rfl ?_
              obtain ⟨hk61, h⟩ := h
              obtain ⟨a62, e63, h⟩ := h
              refine gfX1_354 (q := some a62) hw rfl dX1_closes_203 hk61 e63 ?_
              refine g_iload_n hw 3 dX1_closes_206 rfl ?_
              obtain ⟨hk64, h⟩ := h
              obtain ⟨hi65, h⟩ := h
              refine g_iald (n := l3_17.toNatClampNeg) hw dX1_closes_207 hk64 hi65 rfl ?_
              refine g_aload hw 7 dX1_closes_208 rfl ?_
              obtain ⟨a66, e67, h⟩ := h
              refine gfX1_354 (q := some a66) hw rfl dX1_closes_210 hk61 e67 ?_
              refine g_iload_n hw 2 dX1_closes_213 rfl ?_
              obtain ⟨hk68, h⟩ := h
              obtain ⟨hi69, h⟩ := h
              refine g_iald (n := l2_16.toNatClampNeg) hw dX1_closes_214 hk68 hi69 rfl ?_
              refine g_isub hw dX1_closes_215 ?_
              refine g_i2l hw dX1_closes_216 ?_
              refine g_lmul hw dX1_closes_217 ?_
              refine g_aload_n hw 0 dX1_closes_218 rfl ?_
              refine g_aload hw 7 dX1_closes_219 rfl ?_
              refine g_iload_n hw 2 dX1_closes_221 rfl ?_
              obtain ⟨hk70, h⟩ := h
              refine sX1_360 hw rfl dX1_closes_222 rfl (gK2 hkf) hk70 h (fun r72 M71 h => ?_)
              refine g_lmul hw dX1_closes_225 ?_
              refine g_ladd hw dX1_closes_226 ?_
              refine g_lstore hw (lv2 := [(0, .ref (gA G 16)), (1, .int l1_15), (2, .int l2_16), (3, .int l3_17), (4, .int l4_18), (5, .long (l5_19 + ((r60.toInt64 * (((gI M59 a62 l3_17.toNatClampNeg) - (gI M59 a66 l2_16.toNatClampNeg)).toInt64)) * r72))), (7, .int l7_20)]) [1, 2, 3, 4, 5, 0, 6] dX1_closes_227 rfl rfl ?_
              refine g_goto (tgt := 292) hw dX1_closes_229 (by decide) ?_
              exact wX1_closes_b292 hw hkf hR41 h
            · have h := gF h hb89
              by_cases hb90 : l4_18 = 3
              · have h := gT h hb90
                refine g_tabIn (tgt := 232) hw dX1_closes_113 (by rw [hb90]; decide) (by rw [hb90]; decide) (by rw [hb90] <;> rfl) (by decide) ?_
                refine g_lload hw 5 dX1_closes_232 rfl ?_
                refine g_aload_n hw 0 dX1_closes_234 rfl ?_
                refine g_aload hw 7 dX1_closes_235 rfl ?_
                refine g_iload_n hw 3 dX1_closes_237 rfl ?_
                obtain ⟨hk73, h⟩ := h
                refine sX1_161 hw rfl dX1_closes_238 rfl (gK2 hkf) hk73 h (fun r75 M74 h => ?_)
                refine g_aload hw 7 dX1_closes_241 rfl ?_
                obtain ⟨hk76, h⟩ := h
                obtain ⟨a77, e78, h⟩ := h
                refine gfX1_354 (q := some a77) hw rfl dX1_closes_243 hk76 e78 ?_
                refine g_iload_n hw 3 dX1_closes_246 rfl ?_
                obtain ⟨hk79, h⟩ := h
                obtain ⟨hi80, h⟩ := h
                refine g_iald (n := l3_17.toNatClampNeg) hw dX1_closes_247 hk79 hi80 rfl ?_
                refine g_imul hw dX1_closes_248 ?_
                refine g_i2l hw dX1_closes_249 ?_
                refine g_aload_n hw 0 dX1_closes_250 rfl ?_
                refine g_aload hw 7 dX1_closes_251 rfl ?_
                refine g_iload_n hw 3 dX1_closes_253 rfl ?_
                obtain ⟨hk81, h⟩ := h
                refine sX1_360 hw rfl dX1_closes_254 rfl (gK2 hkf) hk81 h (fun r83 M82 h => ?_)
                refine g_aload_n hw 0 dX1_closes_257 rfl ?_
                refine g_aload hw 7 dX1_closes_258 rfl ?_
                refine g_iload_n hw 2 dX1_closes_260 rfl ?_
                obtain ⟨hk84, h⟩ := h
                refine sX1_360 hw rfl dX1_closes_261 rfl (gK2 hkf) hk84 h (fun r86 M85 h => ?_)
                refine g_lsub hw dX1_closes_264 ?_
                refine g_lmul hw dX1_closes_265 ?_
                refine g_ladd hw dX1_closes_266 ?_
                refine g_lstore hw (lv2 := [(0, .ref (gA G 16)), (1, .int l1_15), (2, .int l2_16), (3, .int l3_17), (4, .int l4_18), (5, .long (l5_19 + (((r75 * (gI M74 a77 l3_17.toNatClampNeg)).toInt64) * (r83 - r86)))), (7, .int l7_20)]) [1, 2, 3, 4, 5, 0, 6] dX1_closes_267 rfl rfl ?_
                refine g_goto (tgt := 292) hw dX1_closes_269 (by decide) ?_
                exact wX1_closes_b292 hw hkf hR41 h
              · have h := gF h hb90
                by_cases hb91 : l4_18 = 4
                · have h := gT h hb91
                  refine g_tabIn (tgt := 272) hw dX1_closes_113 (by rw [hb91]; decide) (by rw [hb91]; decide) (by rw [hb91] <;> rfl) (by decide) ?_
                  refine g_lload hw 5 dX1_closes_272 rfl ?_
                  refine g_lload hw 9 dX1_closes_274 rfl ?_
                  refine g_ladd hw dX1_closes_276 ?_
                  refine g_lstore hw (lv2 := [(0, .ref (gA G 16)), (1, .int l1_15), (2, .int l2_16), (3, .int l3_17), (4, .int l4_18), (5, .long (l5_19 + (r44 - r46))), (7, .int l7_20)]) [1, 2, 3, 4, 5, 0, 6] dX1_closes_277 rfl rfl ?_
                  refine g_goto (tgt := 292) hw dX1_closes_279 (by decide) ?_
                  exact wX1_closes_b292 hw hkf hR41 h
                · have h := gF h hb91
                  refine g_tabOut (tgt := 282) hw dX1_closes_113 (by have z0 := gNeI (k := 0) hb87 rfl; have z1 := gNeI (k := 1) hb88 rfl; have z2 := gNeI (k := 2) hb89 rfl; have z3 := gNeI (k := 3) hb90 rfl; have z4 := gNeI (k := 4) hb91 rfl; omega) (by decide) ?_
                  refine g_lload hw 5 dX1_closes_282 rfl ?_
                  refine g_lload hw 9 dX1_closes_284 rfl ?_
                  refine g_lload hw 8 dX1_closes_286 rfl ?_
                  refine g_lsub hw dX1_closes_288 ?_
                  refine g_ladd hw dX1_closes_289 ?_
                  refine g_lstore hw (lv2 := [(0, .ref (gA G 16)), (1, .int l1_15), (2, .int l2_16), (3, .int l3_17), (4, .int l4_18), (5, .long (l5_19 + ((r44 - r46) - (r39 - r42)))), (7, .int l7_20)]) [1, 2, 3, 4, 5, 0, 6] dX1_closes_290 rfl rfl ?_
                  exact wX1_closes_b292 hw hkf hR41 h
      · have h := gF h hb36
        refine g_goto (tgt := 292) hw dX1_closes_76 (by decide) ?_
        refine g_sub hw (lv2 := [(0, .ref (gA G 16)), (1, .int l1_15), (2, .int l2_16), (3, .int l3_17), (4, .int l4_18), (5, .long l5_19), (7, .int l7_20)]) [0, 1, 2, 3, 4, 5, 6] rfl ?_
        exact wX1_closes_b292 hw hkf hR41 h
theorem wX1_closes_L41 {kf : Nat} {G : gG} {w : gM → Nat → List (Nat × Value) → List Value → Prop} {Q : Int64 → gM → Prop} {E : Nat → gM → Prop} (hw : gX yX1_closes cX1_closes 13 (Option.some FieldType.long) [] kf G (gQl Q) (gEx "java/util/NoSuchElementException" E) w) (hkf : 9 ≤ kf) {K298_41 : Int64 → gM → Prop} {l1_15 : Int32} {l2_16 : Int32} {l3_17 : Int32} {l4_18 : Int32} (hK298_41 : ∀ (v0 : Int64) (M : gM), K298_41 v0 M → w M 298 [(5, .long v0)] []) : ∀ (n : Nat) (l5_19 : Int64) (l7_20 : Int32) (M : gM), fX1_closes_L41 K298_41 l1_15 l2_16 l3_17 l4_18 Q E n l5_19 l7_20 M → w M 41 [(0, .ref (gA G 16)), (1, .int l1_15), (2, .int l2_16), (3, .int l3_17), (4, .int l4_18), (5, .long l5_19), (7, .int l7_20)] [] := by
  intro n
  induction n with
  | zero => intro l5_19 l7_20 M h; exact h.elim
  | succ n ih => intro l5_19 l7_20 M h; exact wX1_closes_L41s hw hkf ih hK298_41 h
def fX1_closes_b32 (l1_8 : Int32) (l2_9 : Int32) (l3_10 : Int32) (l4_11 : Int32) (s0_12 : Int32) (M : gM) (Q : Int64 → gM → Prop) (E : Nat → gM → Prop) : Prop :=
  fX1_need s0_12 M (fun M13 => ∃ n, fX1_closes_L41 (fun l5_92 M93 => Q l5_92 M93) l1_8 l2_9 l3_10 l4_11 Q E n 0 0 M13) E
theorem wX1_closes_b32 {kf : Nat} {G : gG} {w : gM → Nat → List (Nat × Value) → List Value → Prop} {Q : Int64 → gM → Prop} {E : Nat → gM → Prop} (hw : gX yX1_closes cX1_closes 13 (Option.some FieldType.long) [] kf G (gQl Q) (gEx "java/util/NoSuchElementException" E) w) (hkf : 9 ≤ kf)  {l1_8 : Int32} {l2_9 : Int32} {l3_10 : Int32} {l4_11 : Int32} {s0_12 : Int32} {M : gM}  (h : fX1_closes_b32 l1_8 l2_9 l3_10 l4_11 s0_12 M Q E) : w M 32 [(0, .ref (gA G 16)), (1, .int l1_8), (2, .int l2_9), (3, .int l3_10), (4, .int l4_11)] [.int s0_12] := by
  unfold fX1_closes_b32 at h
  refine sX1_168 hw rfl dX1_closes_32 rfl (gK2 hkf) h (fun M13 h => ?_)
  refine g_lconst (v := 0) hw dX1_closes_35 (by decide) ?_
  refine g_lstore hw (lv2 := [(0, .ref (gA G 16)), (1, .int l1_8), (2, .int l2_9), (3, .int l3_10), (4, .int l4_11), (5, .long 0)]) [1, 2, 3, 4, 5, 0] dX1_closes_36 rfl rfl ?_
  refine g_iconst (v := 0) hw dX1_closes_38 (by decide) ?_
  refine g_istore hw (lv2 := [(0, .ref (gA G 16)), (1, .int l1_8), (2, .int l2_9), (3, .int l3_10), (4, .int l4_11), (5, .long 0), (7, .int 0)]) [1, 2, 3, 4, 5, 6, 0] dX1_closes_39 rfl rfl ?_
  obtain ⟨n9, h⟩ := h
  refine wX1_closes_L41 hw hkf (fun l5_92 M93 h => ?_) n9 0 0 M13 h
  refine g_lload hw 0 dX1_closes_298 rfl ?_
  exact g_lret hw dX1_closes_300 ⟨_, rfl, h⟩
def fX1_closes_b31 (l1_4 : Int32) (l2_5 : Int32) (l3_6 : Int32) (l4_7 : Int32) (M : gM) (Q : Int64 → gM → Prop) (E : Nat → gM → Prop) : Prop :=
  fX1_closes_b32 l1_4 l2_5 l3_6 l4_7 0 M Q E
theorem wX1_closes_b31 {kf : Nat} {G : gG} {w : gM → Nat → List (Nat × Value) → List Value → Prop} {Q : Int64 → gM → Prop} {E : Nat → gM → Prop} (hw : gX yX1_closes cX1_closes 13 (Option.some FieldType.long) [] kf G (gQl Q) (gEx "java/util/NoSuchElementException" E) w) (hkf : 9 ≤ kf)  {l1_4 : Int32} {l2_5 : Int32} {l3_6 : Int32} {l4_7 : Int32} {M : gM}  (h : fX1_closes_b31 l1_4 l2_5 l3_6 l4_7 M Q E) : w M 31 [(0, .ref (gA G 16)), (1, .int l1_4), (2, .int l2_5), (3, .int l3_6), (4, .int l4_7)] [] := by
  unfold fX1_closes_b31 at h
  refine g_iconst (v := 0) hw dX1_closes_31 (by decide) ?_
  exact wX1_closes_b32 hw hkf h
def fX1_closes (p1 : Int32) (p2 : Int32) (p3 : Int32) (p4 : Int32) (M : gM) (Q : Int64 → gM → Prop) (E : Nat → gM → Prop) : Prop :=
  fX1_in p1 0 1 M (fun r2 M1 => (if r2 = 0 then fX1_closes_b31 p1 p2 p3 p4 M1 Q E else fX1_areMonths p2 p3 M1 (fun r95 M94 => (if r95 = 0 then fX1_closes_b31 p1 p2 p3 p4 M94 Q E else fX1_in p4 0 5 M94 (fun r98 M97 => (if r98 = 0 then fX1_closes_b31 p1 p2 p3 p4 M97 Q E else fX1_closes_b32 p1 p2 p3 p4 1 M97 Q E))))))
theorem mX1_closes {kf : Nat} (hkf : 9 ≤ kf) (G : gG) (p1 : Int32) (p2 : Int32) (p3 : Int32) (p4 : Int32) (M : gM) (Q : Int64 → gM → Prop) (E : Nat → gM → Prop) (h : fX1_closes p1 p2 p3 p4 M Q E) : gMet yX1_closes cX1_closes 13 (Option.some FieldType.long) kf G M [.ref (gA G 16), .int p1, .int p2, .int p3, .int p4] (gQl Q) (gEx "java/util/NoSuchElementException" E) := by
  refine g_intro (lv := [(0, .ref (gA G 16)), (1, .int p1), (2, .int p2), (3, .int p3), (4, .int p4)]) (by decide) rfl rfl (fun w hw => ?_)
  unfold fX1_closes at h
  refine g_iload_n hw 1 dX1_closes_0 rfl ?_
  refine g_iconst (v := 0) hw dX1_closes_1 (by decide) ?_
  refine g_iconst (v := 1) hw dX1_closes_2 (by decide) ?_
  refine sX1_112 hw rfl dX1_closes_3 rfl (gK2 hkf) h (fun r2 M1 h => ?_)
  refine g_if_eq (tgt := 31) hw dX1_closes_6 (by decide) (fun hb3 => ?_) (fun hb3 => ?_)
  · have h := gT h hb3
    exact wX1_closes_b31 hw hkf h
  · have h := gF h hb3
    refine g_iload_n hw 2 dX1_closes_9 rfl ?_
    refine g_iload_n hw 3 dX1_closes_10 rfl ?_
    refine sX1_164 hw rfl dX1_closes_11 rfl (gK2 hkf) h (fun r95 M94 h => ?_)
    refine g_if_eq (tgt := 31) hw dX1_closes_14 (by decide) (fun hb96 => ?_) (fun hb96 => ?_)
    · have h := gT h hb96
      exact wX1_closes_b31 hw hkf h
    · have h := gF h hb96
      refine g_iload hw 4 dX1_closes_17 rfl ?_
      refine g_iconst (v := 0) hw dX1_closes_19 (by decide) ?_
      refine g_iconst (v := 5) hw dX1_closes_20 (by decide) ?_
      refine sX1_112 hw rfl dX1_closes_21 rfl (gK2 hkf) h (fun r98 M97 h => ?_)
      refine g_if_eq (tgt := 31) hw dX1_closes_24 (by decide) (fun hb99 => ?_) (fun hb99 => ?_)
      · have h := gT h hb99
        exact wX1_closes_b31 hw hkf h
      · have h := gF h hb99
        refine g_iconst (v := 1) hw dX1_closes_27 (by decide) ?_
        refine g_goto (tgt := 32) hw dX1_closes_28 (by decide) ?_
        exact wX1_closes_b32 hw hkf h
def fX1_mixed_b182 (R32 : Int32 → gM → Prop) (l1_16 : Int32) (l2_17 : Int32) (l3_18 : Int32) (l4_71 : Int32) (M : gM) (Q : Int64 → gM → Prop) (E : Nat → gM → Prop) : Prop :=
  R32 (l4_71 + 1) M
theorem wX1_mixed_b182 {kf : Nat} {G : gG} {w : gM → Nat → List (Nat × Value) → List Value → Prop} {Q : Int64 → gM → Prop} {E : Nat → gM → Prop} (hw : gX yX1_mixed cX1_mixed 8 (Option.some FieldType.long) [] kf G (gQl Q) (gEx "java/util/NoSuchElementException" E) w) (hkf : 103 ≤ kf) {R32 : Int32 → gM → Prop} {l1_16 : Int32} {l2_17 : Int32} {l3_18 : Int32} {l4_71 : Int32} {M : gM} (hR32 : ∀ (v0 : Int32) (M : gM), R32 v0 M → w M 32 [(0, .ref (gA G 16)), (1, .int l1_16), (2, .int l2_17), (3, .int l3_18), (4, .int v0)] []) (h : fX1_mixed_b182 R32 l1_16 l2_17 l3_18 l4_71 M Q E) : w M 182 [(0, .ref (gA G 16)), (1, .int l1_16), (2, .int l2_17), (3, .int l3_18), (4, .int l4_71)] [] := by
  unfold fX1_mixed_b182 at h
  refine g_iinc hw (lv2 := [(0, .ref (gA G 16)), (1, .int l1_16), (2, .int l2_17), (3, .int l3_18), (4, .int (l4_71 + 1))]) 4 [1, 2, 3, 4, 0] dX1_mixed_182 rfl (by decide) rfl rfl ?_
  refine g_goto (tgt := 32) hw dX1_mixed_185 (by decide) ?_
  exact hR32 (l4_71 + 1) M h
def fX1_mixed_b179 (R32 : Int32 → gM → Prop) (l1_16 : Int32) (l2_17 : Int32) (l3_18 : Int32) (l4_65 : Int32) (s0_66 : Nat) (s1_67 : Int64) (M : gM) (Q : Int64 → gM → Prop) (E : Nat → gM → Prop) : Prop :=
  gk M s0_66 = 3 ∧ fX3_adds s0_66 s1_67 M (fun M69 => fX1_mixed_b182 R32 l1_16 l2_17 l3_18 l4_65 M69 Q E)
theorem wX1_mixed_b179 {kf : Nat} {G : gG} {w : gM → Nat → List (Nat × Value) → List Value → Prop} {Q : Int64 → gM → Prop} {E : Nat → gM → Prop} (hw : gX yX1_mixed cX1_mixed 8 (Option.some FieldType.long) [] kf G (gQl Q) (gEx "java/util/NoSuchElementException" E) w) (hkf : 103 ≤ kf) {R32 : Int32 → gM → Prop} {l1_16 : Int32} {l2_17 : Int32} {l3_18 : Int32} {l4_65 : Int32} {s0_66 : Nat} {s1_67 : Int64} {M : gM} (hR32 : ∀ (v0 : Int32) (M : gM), R32 v0 M → w M 32 [(0, .ref (gA G 16)), (1, .int l1_16), (2, .int l2_17), (3, .int l3_18), (4, .int v0)] []) (h : fX1_mixed_b179 R32 l1_16 l2_17 l3_18 l4_65 s0_66 s1_67 M Q E) : w M 179 [(0, .ref (gA G 16)), (1, .int l1_16), (2, .int l2_17), (3, .int l3_18), (4, .int l4_65)] [.long s1_67, .ref (gA G s0_66)] := by
  unfold fX1_mixed_b179 at h
  obtain ⟨hk68, h⟩ := h
  refine sX1_196 hw rfl dX1_mixed_179 rfl (gK2 hkf) hk68 h (fun M69 h => ?_)
  exact wX1_mixed_b182 hw hkf hR32 h
def fX1_mixed_b157 (R32 : Int32 → gM → Prop) (l1_16 : Int32) (l2_17 : Int32) (l3_18 : Int32) (l4_56 : Int32) (l6_57 : Int32) (l7_58 : Int32) (s0_59 : Nat) (s1_60 : Int32) (s2_61 : Int32) (M : gM) (Q : Int64 → gM → Prop) (E : Nat → gM → Prop) : Prop :=
  (if s1_60 = s2_61 then fJ0_max l7_58 l6_57 M (fun r73 M72 => fX1_mixed_b179 R32 l1_16 l2_17 l3_18 l4_56 s0_59 r73.toInt64 M72 Q E) else fJ0_min l7_58 l6_57 M (fun r64 M63 => fX1_mixed_b179 R32 l1_16 l2_17 l3_18 l4_56 s0_59 r64.toInt64 M63 Q E))
theorem wX1_mixed_b157 {kf : Nat} {G : gG} {w : gM → Nat → List (Nat × Value) → List Value → Prop} {Q : Int64 → gM → Prop} {E : Nat → gM → Prop} (hw : gX yX1_mixed cX1_mixed 8 (Option.some FieldType.long) [] kf G (gQl Q) (gEx "java/util/NoSuchElementException" E) w) (hkf : 103 ≤ kf) {R32 : Int32 → gM → Prop} {l1_16 : Int32} {l2_17 : Int32} {l3_18 : Int32} {l4_56 : Int32} {l6_57 : Int32} {l7_58 : Int32} {s0_59 : Nat} {s1_60 : Int32} {s2_61 : Int32} {M : gM} (hR32 : ∀ (v0 : Int32) (M : gM), R32 v0 M → w M 32 [(0, .ref (gA G 16)), (1, .int l1_16), (2, .int l2_17), (3, .int l3_18), (4, .int v0)] []) (h : fX1_mixed_b157 R32 l1_16 l2_17 l3_18 l4_56 l6_57 l7_58 s0_59 s1_60 s2_61 M Q E) : w M 157 [(0, .ref (gA G 16)), (1, .int l1_16), (2, .int l2_17), (3, .int l3_18), (4, .int l4_56), (6, .int l6_57), (7, .int l7_58)] [.int s2_61, .int s1_60, .ref (gA G s0_59)] := by
  unfold fX1_mixed_b157 at h
  refine g_icmp_ne (tgt := 171) hw dX1_mixed_157 (by decide) (fun hb62 => ?_) (fun hb62 => ?_)
  · have h := gF h hb62
    refine g_iload hw 6 dX1_mixed_171 rfl ?_
    refine g_iload hw 5 dX1_mixed_173 rfl ?_
    refine sX1_299 hw rfl dX1_mixed_175 rfl (gK2 hkf) h (fun r64 M63 h => ?_)
    refine g_i2l hw dX1_mixed_178 ?_
    refine g_sub hw (lv2 := [(0, .ref (gA G 16)), (1, .int l1_16), (2, .int l2_17), (3, .int l3_18), (4, .int l4_56)]) [0, 1, 2, 3, 4] rfl ?_
    exact wX1_mixed_b179 hw hkf hR32 h
  · have h := gT h hb62
    refine g_iload hw 6 dX1_mixed_160 rfl ?_
    refine g_iload hw 5 dX1_mixed_162 rfl ?_
    refine sX1_145 hw rfl dX1_mixed_164 rfl (gK2 hkf) h (fun r73 M72 h => ?_)
    refine g_i2l hw dX1_mixed_167 ?_
    refine g_goto (tgt := 179) hw dX1_mixed_168 (by decide) ?_
    refine g_sub hw (lv2 := [(0, .ref (gA G 16)), (1, .int l1_16), (2, .int l2_17), (3, .int l3_18), (4, .int l4_56)]) [0, 1, 2, 3, 4] rfl ?_
    exact wX1_mixed_b179 hw hkf hR32 h
def fX1_mixed_b144 (R32 : Int32 → gM → Prop) (l1_16 : Int32) (l2_17 : Int32) (l3_18 : Int32) (l4_48 : Int32) (l5_49 : Nat) (l6_50 : Int32) (l7_51 : Int32) (s0_52 : Nat) (s1_53 : Int32) (M : gM) (Q : Int64 → gM → Prop) (E : Nat → gM → Prop) : Prop :=
  gk M l5_49 = 4 ∧ (if (gI M l5_49 0) = 0 then fX1_mixed_b157 R32 l1_16 l2_17 l3_18 l4_48 l6_50 l7_51 s0_52 s1_53 1 M Q E else fX1_mixed_b157 R32 l1_16 l2_17 l3_18 l4_48 l6_50 l7_51 s0_52 s1_53 0 M Q E)
theorem wX1_mixed_b144 {kf : Nat} {G : gG} {w : gM → Nat → List (Nat × Value) → List Value → Prop} {Q : Int64 → gM → Prop} {E : Nat → gM → Prop} (hw : gX yX1_mixed cX1_mixed 8 (Option.some FieldType.long) [] kf G (gQl Q) (gEx "java/util/NoSuchElementException" E) w) (hkf : 103 ≤ kf) {R32 : Int32 → gM → Prop} {l1_16 : Int32} {l2_17 : Int32} {l3_18 : Int32} {l4_48 : Int32} {l5_49 : Nat} {l6_50 : Int32} {l7_51 : Int32} {s0_52 : Nat} {s1_53 : Int32} {M : gM} (hR32 : ∀ (v0 : Int32) (M : gM), R32 v0 M → w M 32 [(0, .ref (gA G 16)), (1, .int l1_16), (2, .int l2_17), (3, .int l3_18), (4, .int v0)] []) (h : fX1_mixed_b144 R32 l1_16 l2_17 l3_18 l4_48 l5_49 l6_50 l7_51 s0_52 s1_53 M Q E) : w M 144 [(0, .ref (gA G 16)), (1, .int l1_16), (2, .int l2_17), (3, .int l3_18), (4, .int l4_48), (5, .ref (gA G l5_49)), (6, .int l6_50), (7, .int l7_51)] [.int s1_53, .ref (gA G s0_52)] := by
  unfold fX1_mixed_b144 at h
  refine g_aload hw 5 dX1_mixed_144 rfl ?_
  obtain ⟨hk54, h⟩ := h
  refine gfX1_124 hw rfl dX1_mixed_146 hk54 ?_
  refine g_if_ne (tgt := 156) hw dX1_mixed_149 (by decide) (fun hb55 => ?_) (fun hb55 => ?_)
  · have h := gF h hb55
    refine g_iconst (v := 0) hw dX1_mixed_156 (by decide) ?_
    refine g_sub hw (lv2 := [(0, .ref (gA G 16)), (1, .int l1_16), (2, .int l2_17), (3, .int l3_18), (4, .int l4_48), (6, .int l6_50), (7, .int l7_51)]) [0, 1, 2, 3, 4, 6, 7] rfl ?_
    exact wX1_mixed_b157 hw hkf hR32 h
  · have h := gT h hb55
    refine g_iconst (v := 1) hw dX1_mixed_152 (by decide) ?_
    refine g_goto (tgt := 157) hw dX1_mixed_153 (by decide) ?_
    refine g_sub hw (lv2 := [(0, .ref (gA G 16)), (1, .int l1_16), (2, .int l2_17), (3, .int l3_18), (4, .int l4_48), (6, .int l6_50), (7, .int l7_51)]) [0, 1, 2, 3, 4, 6, 7] rfl ?_
    exact wX1_mixed_b157 hw hkf hR32 h
def fX1_mixed_b123 (R32 : Int32 → gM → Prop) (l1_16 : Int32) (l2_17 : Int32) (l3_18 : Int32) (l4_39 : Int32) (l5_40 : Nat) (l6_41 : Int32) (s0_42 : Int32) (M : gM) (Q : Int64 → gM → Prop) (E : Nat → gM → Prop) : Prop :=
  gk M l5_40 = 4 ∧ gk M 16 = 1 ∧ fX1_of (gI M l5_40 0) M (fun r46 M45 => (if l3_18 ≤ 1 then fX1_mixed_b144 R32 l1_16 l2_17 l3_18 l4_39 l5_40 l6_41 s0_42 r46 0 M45 Q E else fX1_mixed_b144 R32 l1_16 l2_17 l3_18 l4_39 l5_40 l6_41 s0_42 r46 1 M45 Q E))
theorem wX1_mixed_b123 {kf : Nat} {G : gG} {w : gM → Nat → List (Nat × Value) → List Value → Prop} {Q : Int64 → gM → Prop} {E : Nat → gM → Prop} (hw : gX yX1_mixed cX1_mixed 8 (Option.some FieldType.long) [] kf G (gQl Q) (gEx "java/util/NoSuchElementException" E) w) (hkf : 103 ≤ kf) {R32 : Int32 → gM → Prop} {l1_16 : Int32} {l2_17 : Int32} {l3_18 : Int32} {l4_39 : Int32} {l5_40 : Nat} {l6_41 : Int32} {s0_42 : Int32} {M : gM} (hR32 : ∀ (v0 : Int32) (M : gM), R32 v0 M → w M 32 [(0, .ref (gA G 16)), (1, .int l1_16), (2, .int l2_17), (3, .int l3_18), (4, .int v0)] []) (h : fX1_mixed_b123 R32 l1_16 l2_17 l3_18 l4_39 l5_40 l6_41 s0_42 M Q E) : w M 123 [(0, .ref (gA G 16)), (1, .int l1_16), (2, .int l2_17), (3, .int l3_18), (4, .int l4_39), (5, .ref (gA G l5_40)), (6, .int l6_41)] [.int s0_42] := by
  unfold fX1_mixed_b123 at h
  refine g_istore hw (lv2 := [(0, .ref (gA G 16)), (1, .int l1_16), (2, .int l2_17), (3, .int l3_18), (4, .int l4_39), (5, .ref (gA G l5_40)), (6, .int l6_41), (7, .int s0_42)]) [1, 2, 3, 4, 5, 6, 7, 0] dX1_mixed_123 rfl rfl ?_
  refine g_aload_n hw 0 dX1_mixed_125 rfl ?_
  refine g_aload hw 5 dX1_mixed_126 rfl ?_
  obtain ⟨hk43, h⟩ := h
  refine gfX1_124 hw rfl dX1_mixed_128 hk43 ?_
  obtain ⟨hk44, h⟩ := h
  refine sX1_192 hw rfl dX1_mixed_131 rfl (gK2 hkf) hk44 h (fun r46 M45 h => ?_)
  refine g_iload_n hw 3 dX1_mixed_134 rfl ?_
  refine g_iconst (v := 1) hw dX1_mixed_135 (by decide) ?_
  refine g_icmp_le (tgt := 143) hw dX1_mixed_136 (by decide) (fun hb47 => ?_) (fun hb47 => ?_)
  · have h := gT h hb47
    refine g_iconst (v := 0) hw dX1_mixed_143 (by decide) ?_
    exact wX1_mixed_b144 hw hkf hR32 h
  · have h := gF h hb47
    refine g_iconst (v := 1) hw dX1_mixed_139 (by decide) ?_
    refine g_goto (tgt := 144) hw dX1_mixed_140 (by decide) ?_
    exact wX1_mixed_b144 hw hkf hR32 h
def fX1_mixed_L32s (R32 : Int32 → gM → Prop) (K188_32 : gM → Prop) (l1_16 : Int32) (l2_17 : Int32) (l3_18 : Int32) (l4_19 : Int32) (M : gM) (Q : Int64 → gM → Prop) (E : Nat → gM → Prop) : Prop :=
  (if 24 ≤ l4_19 then K188_32 M else gk M 16 = 1 ∧ gdr (gR M 16 0) (fun a22 => gk M a22 = 44 ∧ vp_in l4_19 (gl M a22) ∧ gdr (gR M a22 l4_19.toNatClampNeg) (fun a26 => gk M a26 = 4 ∧ fX4_isCounted a26 l1_16 l2_17 M (fun r30 M29 => (if r30 = 0 then fX1_mixed_b182 R32 l1_16 l2_17 l3_18 l4_19 M29 Q E else gk M29 16 = 1 ∧ fX1_change a26 l1_16 l2_17 M29 (fun r34 M33 => gk M33 a26 = 4 ∧ fX4_isOnSheets a26 l1_16 l2_17 M33 (fun r37 M36 => (if r37 = 0 then fX1_mixed_b123 R32 l1_16 l2_17 l3_18 l4_19 a26 r34 r34 M36 Q E else gk M36 a26 = 4 ∧ gdr (gR M36 a26 7) (fun a75 => gk M36 a75 = 40 ∧ vp_in l2_17 (gl M36 a75) ∧ gdr (gR M36 a26 8) (fun a79 => gk M36 a79 = 40 ∧ vp_in l2_17 (gl M36 a79) ∧ gk M36 16 = 1 ∧ fX1_handsOf_2 (gI M36 a75 l2_17.toNatClampNeg) (gI M36 a79 l2_17.toNatClampNeg) M36 (fun r85 M84 => gk M84 a26 = 4 ∧ gdr (gR M84 a26 7) (fun a87 => gk M84 a87 = 40 ∧ vp_in l1_16 (gl M84 a87) ∧ gdr (gR M84 a26 8) (fun a91 => gk M84 a91 = 40 ∧ vp_in l1_16 (gl M84 a91) ∧ gk M84 16 = 1 ∧ fX1_handsOf_2 (gI M84 a87 l1_16.toNatClampNeg) (gI M84 a91 l1_16.toNatClampNeg) M84 (fun r97 M96 => fX1_mixed_b123 R32 l1_16 l2_17 l3_18 l4_19 a26 r34 (r85 - r97) M96 Q E))))))))))))))
def fX1_mixed_L32 (K188_32 : gM → Prop) (l1_16 : Int32) (l2_17 : Int32) (l3_18 : Int32) (Q : Int64 → gM → Prop) (E : Nat → gM → Prop) : Nat → Int32 → gM → Prop
  | 0 => fun _ _ => False
  | n + 1 => fun l4_19 M => fX1_mixed_L32s (fX1_mixed_L32 K188_32 l1_16 l2_17 l3_18 Q E n) K188_32 l1_16 l2_17 l3_18 l4_19 M Q E
theorem wX1_mixed_L32s {kf : Nat} {G : gG} {w : gM → Nat → List (Nat × Value) → List Value → Prop} {Q : Int64 → gM → Prop} {E : Nat → gM → Prop} (hw : gX yX1_mixed cX1_mixed 8 (Option.some FieldType.long) [] kf G (gQl Q) (gEx "java/util/NoSuchElementException" E) w) (hkf : 103 ≤ kf) {R32 : Int32 → gM → Prop} {K188_32 : gM → Prop} {l1_16 : Int32} {l2_17 : Int32} {l3_18 : Int32} {l4_19 : Int32} {M : gM} (hR32 : ∀ (v0 : Int32) (M : gM), R32 v0 M → w M 32 [(0, .ref (gA G 16)), (1, .int l1_16), (2, .int l2_17), (3, .int l3_18), (4, .int v0)] []) (hK188_32 : ∀  (M : gM), K188_32 M → w M 188 [(0, .ref (gA G 16)), (3, .int l3_18)] []) (h : fX1_mixed_L32s R32 K188_32 l1_16 l2_17 l3_18 l4_19 M Q E) : w M 32 [(0, .ref (gA G 16)), (1, .int l1_16), (2, .int l2_17), (3, .int l3_18), (4, .int l4_19)] [] := by
  unfold fX1_mixed_L32s at h
  refine g_iload hw 4 dX1_mixed_32 rfl ?_
  refine g_bipush (v := 24) hw dX1_mixed_34 (by decide) ?_
  refine g_icmp_ge (tgt := 188) hw dX1_mixed_36 (by decide) (fun hb20 => ?_) (fun hb20 => ?_)
  · have h := gT h hb20
    refine g_sub hw (lv2 := [(0, .ref (gA G 16)), (3, .int l3_18)]) [0, 3] rfl ?_
    exact hK188_32 M h
  · have h := gF h hb20
    refine g_aload_n hw 0 dX1_mixed_39 rfl ?_
    obtain ⟨hk21, h⟩ := h
    obtain ⟨a22, e23, h⟩ := h
    refine gfX1_21 (q := some a22) hw rfl dX1_mixed_40 hk21 e23 ?_
    refine g_iload hw 4 dX1_mixed_43 rfl ?_
    obtain ⟨hk24, h⟩ := h
    obtain ⟨hi25, h⟩ := h
    obtain ⟨a26, e27, h⟩ := h
    refine g_aaldS (n := l4_19.toNatClampNeg) hw 4 dX1_mixed_45 ⟨rfl, rfl⟩ hk24 hi25 rfl e27 ?_
    refine g_astore hw (lv2 := [(0, .ref (gA G 16)), (1, .int l1_16), (2, .int l2_17), (3, .int l3_18), (4, .int l4_19), (5, .ref (gA G a26))]) [1, 2, 3, 4, 5, 0] dX1_mixed_46 rfl rfl ?_
    refine g_aload hw 5 dX1_mixed_48 rfl ?_
    refine g_iload_n hw 1 dX1_mixed_50 rfl ?_
    refine g_iload_n hw 2 dX1_mixed_51 rfl ?_
    obtain ⟨hk28, h⟩ := h
    refine sX1_172 hw rfl dX1_mixed_52 rfl (gK2 hkf) hk28 h (fun r30 M29 h => ?_)
    refine g_if_ne (tgt := 61) hw dX1_mixed_55 (by decide) (fun hb31 => ?_) (fun hb31 => ?_)
    · have h := gF h hb31
      refine g_aload_n hw 0 dX1_mixed_61 rfl ?_
      refine g_aload hw 5 dX1_mixed_62 rfl ?_
      refine g_iload_n hw 1 dX1_mixed_64 rfl ?_
      refine g_iload_n hw 2 dX1_mixed_65 rfl ?_
      obtain ⟨hk32, h⟩ := h
      refine sX1_175 hw rfl dX1_mixed_66 rfl (gK2 hkf) hk32 h (fun r34 M33 h => ?_)
      refine g_istore hw (lv2 := [(0, .ref (gA G 16)), (1, .int l1_16), (2, .int l2_17), (3, .int l3_18), (4, .int l4_19), (5, .ref (gA G a26)), (6, .int r34)]) [1, 2, 3, 4, 5, 6, 0] dX1_mixed_69 rfl rfl ?_
      refine g_aload hw 5 dX1_mixed_71 rfl ?_
      refine g_iload_n hw 1 dX1_mixed_73 rfl ?_
      refine g_iload_n hw 2 dX1_mixed_74 rfl ?_
      obtain ⟨hk35, h⟩ := h
      refine sX1_230 hw rfl dX1_mixed_75 rfl (gK2 hkf) hk35 h (fun r37 M36 h => ?_)
      refine g_if_eq (tgt := 121) hw dX1_mixed_78 (by decide) (fun hb38 => ?_) (fun hb38 => ?_)
      · have h := gT h hb38
        refine g_iload hw 6 dX1_mixed_121 rfl ?_
        exact wX1_mixed_b123 hw hkf hR32 h
      · have h := gF h hb38
        refine g_aload_n hw 0 dX1_mixed_81 rfl ?_
        refine g_aload hw 5 dX1_mixed_82 rfl ?_
        obtain ⟨hk74, h⟩ := h
        obtain ⟨a75, e76, h⟩ := h
        refine gfX1_149 (q := some a75) hw rfl dX1_mixed_84 hk74 e76 ?_
        refine g_iload_n hw 2 dX1_mixed_87 rfl ?_
        obtain ⟨hk77, h⟩ := h
        obtain ⟨hi78, h⟩ := h
        refine g_iald (n := l2_17.toNatClampNeg) hw dX1_mixed_88 hk77 hi78 rfl ?_
        refine g_aload hw 5 dX1_mixed_89 rfl ?_
        obtain ⟨a79, e80, h⟩ := h
        refine gfX1_152 (q := some a79) hw rfl dX1_mixed_91 hk74 e80 ?_
        refine g_iload_n hw 2 dX1_mixed_94 rfl ?_
        obtain ⟨hk81, h⟩ := h
        obtain ⟨hi82, h⟩ := h
        refine g_iald (n := l2_17.toNatClampNeg) hw dX1_mixed_95 hk81 hi82 rfl ?_
        obtain ⟨hk83, h⟩ := h
        refine sX1_155 hw rfl dX1_mixed_96 rfl (gK2 hkf) hk83 h (fun r85 M84 h => ?_)
        refine g_aload_n hw 0 dX1_mixed_99 rfl ?_
        refine g_aload hw 5 dX1_mixed_100 rfl ?_
        obtain ⟨hk86, h⟩ := h
        obtain ⟨a87, e88, h⟩ := h
        refine gfX1_149 (q := some a87) hw rfl dX1_mixed_102 hk86 e88 ?_
        refine g_iload_n hw 1 dX1_mixed_105 rfl ?_
        obtain ⟨hk89, h⟩ := h
        obtain ⟨hi90, h⟩ := h
        refine g_iald (n := l1_16.toNatClampNeg) hw dX1_mixed_106 hk89 hi90 rfl ?_
        refine g_aload hw 5 dX1_mixed_107 rfl ?_
        obtain ⟨a91, e92, h⟩ := h
        refine gfX1_152 (q := some a91) hw rfl dX1_mixed_109 hk86 e92 ?_
        refine g_iload_n hw 1 dX1_mixed_112 rfl ?_
        obtain ⟨hk93, h⟩ := h
        obtain ⟨hi94, h⟩ := h
        refine g_iald (n := l1_16.toNatClampNeg) hw dX1_mixed_113 hk93 hi94 rfl ?_
        obtain ⟨hk95, h⟩ := h
        refine sX1_155 hw rfl dX1_mixed_114 rfl (gK2 hkf) hk95 h (fun r97 M96 h => ?_)
        refine g_isub hw dX1_mixed_117 ?_
        refine g_goto (tgt := 123) hw dX1_mixed_118 (by decide) ?_
        exact wX1_mixed_b123 hw hkf hR32 h
    · have h := gT h hb31
      refine g_goto (tgt := 182) hw dX1_mixed_58 (by decide) ?_
      refine g_sub hw (lv2 := [(0, .ref (gA G 16)), (1, .int l1_16), (2, .int l2_17), (3, .int l3_18), (4, .int l4_19)]) [0, 1, 2, 3, 4] rfl ?_
      exact wX1_mixed_b182 hw hkf hR32 h
theorem wX1_mixed_L32 {kf : Nat} {G : gG} {w : gM → Nat → List (Nat × Value) → List Value → Prop} {Q : Int64 → gM → Prop} {E : Nat → gM → Prop} (hw : gX yX1_mixed cX1_mixed 8 (Option.some FieldType.long) [] kf G (gQl Q) (gEx "java/util/NoSuchElementException" E) w) (hkf : 103 ≤ kf) {K188_32 : gM → Prop} {l1_16 : Int32} {l2_17 : Int32} {l3_18 : Int32} (hK188_32 : ∀  (M : gM), K188_32 M → w M 188 [(0, .ref (gA G 16)), (3, .int l3_18)] []) : ∀ (n : Nat) (l4_19 : Int32) (M : gM), fX1_mixed_L32 K188_32 l1_16 l2_17 l3_18 Q E n l4_19 M → w M 32 [(0, .ref (gA G 16)), (1, .int l1_16), (2, .int l2_17), (3, .int l3_18), (4, .int l4_19)] [] := by
  intro n
  induction n with
  | zero => intro l4_19 M h; exact h.elim
  | succ n ih => intro l4_19 M h; exact wX1_mixed_L32s hw hkf ih hK188_32 h
def fX1_mixed_b22 (l1_7 : Int32) (l2_8 : Int32) (l3_9 : Int32) (s0_10 : Int32) (M : gM) (Q : Int64 → gM → Prop) (E : Nat → gM → Prop) : Prop :=
  fX1_need s0_10 M (fun M11 => gk M11 16 = 1 ∧ fX1_begins M11 (fun M14 => ∃ n, fX1_mixed_L32 (fun M98 => gk M98 16 = 1 ∧ fX1_isThere M98 (fun r101 M100 => fX1_need r101 M100 (fun M102 => gk M102 16 = 1 ∧ fX1_above M102 (fun r106 M105 => gk M105 16 = 1 ∧ fX1_below M105 (fun r109 M108 => fX1_lowest r106 r109 (l3_9 - l3_9 / 2 * 2) M108 (fun r111 M110 => Q r111 M110)))) E)) l1_7 l2_8 l3_9 Q E n 0 M14)) E
theorem wX1_mixed_b22 {kf : Nat} {G : gG} {w : gM → Nat → List (Nat × Value) → List Value → Prop} {Q : Int64 → gM → Prop} {E : Nat → gM → Prop} (hw : gX yX1_mixed cX1_mixed 8 (Option.some FieldType.long) [] kf G (gQl Q) (gEx "java/util/NoSuchElementException" E) w) (hkf : 103 ≤ kf)  {l1_7 : Int32} {l2_8 : Int32} {l3_9 : Int32} {s0_10 : Int32} {M : gM}  (h : fX1_mixed_b22 l1_7 l2_8 l3_9 s0_10 M Q E) : w M 22 [(0, .ref (gA G 16)), (1, .int l1_7), (2, .int l2_8), (3, .int l3_9)] [.int s0_10] := by
  unfold fX1_mixed_b22 at h
  refine sX1_168 hw rfl dX1_mixed_22 rfl (gK2 hkf) h (fun M11 h => ?_)
  refine g_aload_n hw 0 dX1_mixed_25 rfl ?_
  obtain ⟨hk13, h⟩ := h
  refine sX1_189 hw rfl dX1_mixed_26 rfl (gK2 hkf) hk13 h (fun M14 h => ?_)
  refine g_iconst (v := 0) hw dX1_mixed_29 (by decide) ?_
  refine g_istore hw (lv2 := [(0, .ref (gA G 16)), (1, .int l1_7), (2, .int l2_8), (3, .int l3_9), (4, .int 0)]) [1, 2, 3, 4, 0] dX1_mixed_30 rfl rfl ?_
  obtain ⟨n9, h⟩ := h
  refine wX1_mixed_L32 hw hkf (fun M98 h => ?_) n9 0 M14 h
  refine g_aload_n hw 0 dX1_mixed_188 rfl ?_
  obtain ⟨hk99, h⟩ := h
  refine sX1_200 hw rfl dX1_mixed_189 rfl (gK2 hkf) hk99 h (fun r101 M100 h => ?_)
  refine sX1_168 hw rfl dX1_mixed_192 rfl (gK2 hkf) h (fun M102 h => ?_)
  refine g_aload_n hw 0 dX1_mixed_195 rfl ?_
  obtain ⟨hk104, h⟩ := h
  refine sX1_211 hw rfl dX1_mixed_196 rfl (gK2 hkf) hk104 h (fun r106 M105 h => ?_)
  refine g_aload_n hw 0 dX1_mixed_199 rfl ?_
  obtain ⟨hk107, h⟩ := h
  refine sX1_215 hw rfl dX1_mixed_200 rfl (gK2 hkf) hk107 h (fun r109 M108 h => ?_)
  refine g_iload_n hw 1 dX1_mixed_203 rfl ?_
  refine g_iconst (v := 2) hw dX1_mixed_204 (by decide) ?_
  refine g_irem hw dX1_mixed_205 (by decide) ?_
  refine sX1_218 hw rfl dX1_mixed_206 rfl (gK2 hkf) h (fun r111 M110 h => ?_)
  exact g_lret hw dX1_mixed_209 ⟨_, rfl, h⟩
def fX1_mixed_b21 (l1_4 : Int32) (l2_5 : Int32) (l3_6 : Int32) (M : gM) (Q : Int64 → gM → Prop) (E : Nat → gM → Prop) : Prop :=
  fX1_mixed_b22 l1_4 l2_5 l3_6 0 M Q E
theorem wX1_mixed_b21 {kf : Nat} {G : gG} {w : gM → Nat → List (Nat × Value) → List Value → Prop} {Q : Int64 → gM → Prop} {E : Nat → gM → Prop} (hw : gX yX1_mixed cX1_mixed 8 (Option.some FieldType.long) [] kf G (gQl Q) (gEx "java/util/NoSuchElementException" E) w) (hkf : 103 ≤ kf)  {l1_4 : Int32} {l2_5 : Int32} {l3_6 : Int32} {M : gM}  (h : fX1_mixed_b21 l1_4 l2_5 l3_6 M Q E) : w M 21 [(0, .ref (gA G 16)), (1, .int l1_4), (2, .int l2_5), (3, .int l3_6)] [] := by
  unfold fX1_mixed_b21 at h
  refine g_iconst (v := 0) hw dX1_mixed_21 (by decide) ?_
  exact wX1_mixed_b22 hw hkf h
def fX1_mixed (p1 : Int32) (p2 : Int32) (p3 : Int32) (M : gM) (Q : Int64 → gM → Prop) (E : Nat → gM → Prop) : Prop :=
  fX1_areMonths p1 p2 M (fun r2 M1 => (if r2 = 0 then fX1_mixed_b21 p1 p2 p3 M1 Q E else fX1_in p3 0 3 M1 (fun r113 M112 => (if r113 = 0 then fX1_mixed_b21 p1 p2 p3 M112 Q E else fX1_mixed_b22 p1 p2 p3 1 M112 Q E))))
theorem mX1_mixed {kf : Nat} (hkf : 103 ≤ kf) (G : gG) (p1 : Int32) (p2 : Int32) (p3 : Int32) (M : gM) (Q : Int64 → gM → Prop) (E : Nat → gM → Prop) (h : fX1_mixed p1 p2 p3 M Q E) : gMet yX1_mixed cX1_mixed 8 (Option.some FieldType.long) kf G M [.ref (gA G 16), .int p1, .int p2, .int p3] (gQl Q) (gEx "java/util/NoSuchElementException" E) := by
  refine g_intro (lv := [(0, .ref (gA G 16)), (1, .int p1), (2, .int p2), (3, .int p3)]) (by decide) rfl rfl (fun w hw => ?_)
  unfold fX1_mixed at h
  refine g_iload_n hw 1 dX1_mixed_0 rfl ?_
  refine g_iload_n hw 2 dX1_mixed_1 rfl ?_
  refine sX1_164 hw rfl dX1_mixed_2 rfl (gK2 hkf) h (fun r2 M1 h => ?_)
  refine g_if_eq (tgt := 21) hw dX1_mixed_5 (by decide) (fun hb3 => ?_) (fun hb3 => ?_)
  · have h := gT h hb3
    exact wX1_mixed_b21 hw hkf h
  · have h := gF h hb3
    refine g_iload_n hw 3 dX1_mixed_8 rfl ?_
    refine g_iconst (v := 0) hw dX1_mixed_9 (by decide) ?_
    refine g_iconst (v := 3) hw dX1_mixed_10 (by decide) ?_
    refine sX1_112 hw rfl dX1_mixed_11 rfl (gK2 hkf) h (fun r113 M112 h => ?_)
    refine g_if_eq (tgt := 21) hw dX1_mixed_14 (by decide) (fun hb114 => ?_) (fun hb114 => ?_)
    · have h := gT h hb114
      exact wX1_mixed_b21 hw hkf h
    · have h := gF h hb114
      refine g_iconst (v := 1) hw dX1_mixed_17 (by decide) ?_
      refine g_goto (tgt := 22) hw dX1_mixed_18 (by decide) ?_
      exact wX1_mixed_b22 hw hkf h
