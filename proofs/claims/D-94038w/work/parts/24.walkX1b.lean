set_option maxRecDepth 100000
theorem sX1_204 {y0 : MethodName} {cc : ByteArray} {nL : Nat} {ret : Option FieldType} {hh : List (Nat × Nat × Nat × Nat)} {kf : Nat} {G : gG} {Qv : Option Value → gM → Prop} {E : String → Nat → gM → Prop} {w : gM → Nat → List (Nat × Value) → List Value → Prop} {M : gM} {pc : Nat} {lv : List (Nat × Value)} {rest : List Value} (hw : gX y0 cc nL ret hh kf G Qv E w) (hy : y0.cls = RX1) {p1 : Int32} {p2 : Int32} {p3 : Int32} {Q : Int32 → gM → Prop} (d : decode cc pc = .ok (.invokevirtual 204, 3)) (hrest : Nat.ble ((rest.map Value.category).sum) 8 = true) (hk : 4 + 1 ≤ kf) (hkd : gk M 16 = 1) (h : fX1_rivers p1 p2 p3 M Q) (kk : ∀ r M1, Q r M1 → w M1 (pc + 3) lv (.int r :: rest)) : w M pc lv (.int p3 :: .int p2 :: .int p1 :: .ref (gA G 16) :: rest) := by
  obtain ⟨cls9, nm9, ds9⟩ := y0
  subst hy
  exact g_callV (r := (RX1, TX1, 28)) (ci := 0) hw [.int p1, .int p2, .int p3] (nA := 3) rfl d q453 q455 qs9 q98 q456 (by decide +kernel) rfl rfl hrest rfl (by omega : kf - 1 + 1 ≤ kf) hkd (mX1_rivers (kf := kf - 1) (by omega) G p1 p2 p3 M Q h) (fun _ _ _ q => q.elim) (fun v M1 h => by obtain ⟨r, rfl, h⟩ := h; exact kk r M1 h)
theorem pfX1_240 {y0 : MethodName} {cc : ByteArray} {nL : Nat} {ret : Option FieldType} {hh : List (Nat × Nat × Nat × Nat)} {kf : Nat} {G : gG} {Qv : Option Value → gM → Prop} {E : String → Nat → gM → Prop} {w : gM → Nat → List (Nat × Value) → List Value → Prop} {M : gM} {pc : Nat} {lv : List (Nat × Value)} {rest : List Value} (hw : gX y0 cc nL ret hh kf G Qv E w) (hy : y0.cls = RX1) {c : Nat} {x : Int64} (d : decode cc pc = .ok (.putfield 240, 3)) (hk : gk M c = 1) (kk : w (gsL M c 14 x) (pc + 3) lv rest) : w M pc lv (.long x :: .ref (gA G c) :: rest) := by
  obtain ⟨cls9, nm9, ds9⟩ := y0
  subst hy
  exact g_putC (C := RX1) (T := TX1) (N := 28) (ci := 0) hw in_X1 tyX1 tyX1_ok nmX1 rfl 14 (by decide) (Or.inl ⟨q286, Or.inl rfl⟩) rfl rfl (gOne_L M c 14 x) (by show Value.long (gL (gsL M c 14 x) c 14) = _; rw [gL_sL, if_pos ⟨rfl, rfl⟩]) d hk kk
theorem sX1_246 {y0 : MethodName} {cc : ByteArray} {nL : Nat} {ret : Option FieldType} {hh : List (Nat × Nat × Nat × Nat)} {kf : Nat} {G : gG} {Qv : Option Value → gM → Prop} {E : String → Nat → gM → Prop} {w : gM → Nat → List (Nat × Value) → List Value → Prop} {M : gM} {pc : Nat} {lv : List (Nat × Value)} {rest : List Value} (hw : gX y0 cc nL ret hh kf G Qv E w) (hy : y0.cls = RX1) {p1 : Int32} {p2 : Int32} {p3 : Int64} {p4 : Int32} {p5 : Int32} {p6 : Int64} {Q : gM → Prop} (d : decode cc pc = .ok (.invokevirtual 246, 3)) (hrest : Nat.ble ((rest.map Value.category).sum) 8 = true) {n : Nat} (hk : 21 + 1 ≤ kf) (hn : n ≤ 20) (hkd : gk M 16 = 1) (h : fX1_deals n p1 p2 p3 p4 p5 p6 M Q) (kk : ∀ M1, Q M1 → w M1 (pc + 3) lv rest) : w M pc lv (.long p6 :: .int p5 :: .int p4 :: .long p3 :: .int p2 :: .int p1 :: .ref (gA G 16) :: rest) := by
  obtain ⟨cls9, nm9, ds9⟩ := y0
  subst hy
  exact g_callV (r := (RX1, TX1, 28)) (ci := 0) hw [.int p1, .int p2, .long p3, .int p4, .int p5, .long p6] (nA := 6) rfl d q470 q472 qs11 q98 q473 (by decide +kernel) rfl rfl hrest rfl (by omega : kf - 1 + 1 ≤ kf) hkd (mX1_deals G n (kf - 1) p1 p2 p3 p4 p5 p6 M Q (by omega) h) (fun _ _ _ q => q.elim) (fun v M1 h => by obtain ⟨rfl, h⟩ := h; exact kk M1 h)
theorem sX1_218 {y0 : MethodName} {cc : ByteArray} {nL : Nat} {ret : Option FieldType} {hh : List (Nat × Nat × Nat × Nat)} {kf : Nat} {G : gG} {Qv : Option Value → gM → Prop} {E : String → Nat → gM → Prop} {w : gM → Nat → List (Nat × Value) → List Value → Prop} {M : gM} {pc : Nat} {lv : List (Nat × Value)} {rest : List Value} (hw : gX y0 cc nL ret hh kf G Qv E w) (hy : y0.cls = RX1) {p1 : Int64} {p2 : Int64} {p3 : Int32} {Q : Int64 → gM → Prop} (d : decode cc pc = .ok (.invokestatic 218, 3)) (hrest : Nat.ble ((rest.map Value.category).sum) 8 = true) (hk : 102 + 1 ≤ kf) (h : fX1_lowest p1 p2 p3 M Q) (kk : ∀ r M1, Q r M1 → w M1 (pc + 3) lv (.long r :: rest)) : w M pc lv (.int p3 :: .long p2 :: .long p1 :: rest) := by
  obtain ⟨cls9, nm9, ds9⟩ := y0
  subst hy
  exact g_callS hw [.long p1, .long p2, .int p3] (nA := 3) rfl d q474 q475 q98 q476 (by decide +kernel) rfl hrest rfl (by omega : kf - 1 + 1 ≤ kf) (mX1_lowest (kf := kf - 1) (by omega) G p1 p2 p3 M Q h) (fun _ _ _ q => q.elim) (fun v M1 h => by obtain ⟨r, rfl, h⟩ := h; exact kk r M1 h)
def fX1_odds_b102 (R57 : Int32 → Int32 → gM → Prop) (l1_19 : Int32) (l2_20 : Int32) (l3_21 : Int32) (l4_36 : Int32) (l5_37 : Int32) (M : gM) (Q : Int64 → gM → Prop) : Prop :=
  R57 l4_36 (l5_37 + 1) M
theorem wX1_odds_b102 {kf : Nat} {G : gG} {w : gM → Nat → List (Nat × Value) → List Value → Prop} {Q : Int64 → gM → Prop} (hw : gX yX1_odds cX1_odds 6 (Option.some FieldType.long) [] kf G (gQl Q) gE0 w) (hkf : 103 ≤ kf) {R57 : Int32 → Int32 → gM → Prop} {l1_19 : Int32} {l2_20 : Int32} {l3_21 : Int32} {l4_36 : Int32} {l5_37 : Int32} {M : gM} (hR57 : ∀ (v0 : Int32) (v1 : Int32) (M : gM), R57 v0 v1 M → w M 57 [(0, .ref (gA G 16)), (1, .int l1_19), (2, .int l2_20), (3, .int l3_21), (4, .int v0), (5, .int v1)] []) (h : fX1_odds_b102 R57 l1_19 l2_20 l3_21 l4_36 l5_37 M Q) : w M 102 [(0, .ref (gA G 16)), (1, .int l1_19), (2, .int l2_20), (3, .int l3_21), (4, .int l4_36), (5, .int l5_37)] [] := by
  unfold fX1_odds_b102 at h
  refine g_iinc hw (lv2 := [(0, .ref (gA G 16)), (1, .int l1_19), (2, .int l2_20), (3, .int l3_21), (4, .int l4_36), (5, .int (l5_37 + 1))]) 5 [1, 2, 3, 4, 5, 0] dX1_odds_102 rfl (by decide) rfl rfl ?_
  refine g_goto (tgt := 57) hw dX1_odds_105 (by decide) ?_
  exact hR57 l4_36 (l5_37 + 1) M h
def fX1_odds_L57s (R57 : Int32 → Int32 → gM → Prop) (K108_57 : Int32 → gM → Prop) (l1_19 : Int32) (l2_20 : Int32) (l3_21 : Int32) (l4_22 : Int32) (l5_23 : Int32) (M : gM) (Q : Int64 → gM → Prop) : Prop :=
  (if 24 ≤ l5_23 then K108_57 l4_22 M else gk M 16 = 1 ∧ gdr (gR M 16 0) (fun a26 => gk M a26 = 44 ∧ vp_in l5_23 (gl M a26) ∧ gdr (gR M a26 l5_23.toNatClampNeg) (fun a30 => gk M a30 = 4 ∧ fX4_isCounted a30 l1_19 l2_20 M (fun r34 M33 => (if r34 = 0 then fX1_odds_b102 R57 l1_19 l2_20 l3_21 l4_22 l5_23 M33 Q else gk M33 16 = 1 ∧ gdr (gR M33 16 12) (fun a39 => gdr (gR M33 16 0) (fun a41 => gk M33 a41 = 44 ∧ vp_in l5_23 (gl M33 a41) ∧ gdr (gR M33 a41 l5_23.toNatClampNeg) (fun a45 => fX1_change a45 l1_19 l2_20 M33 (fun r48 M47 => gk M47 a39 = 40 ∧ vp_in l4_22 (gl M47 a39) ∧ fX1_odds_b102 R57 l1_19 l2_20 l3_21 (l4_22 + 1) l5_23 (gsI M47 a39 l4_22.toNatClampNeg r48) Q)))))))))
def fX1_odds_L57 (K108_57 : Int32 → gM → Prop) (l1_19 : Int32) (l2_20 : Int32) (l3_21 : Int32) (Q : Int64 → gM → Prop) : Nat → Int32 → Int32 → gM → Prop
  | 0 => fun _ _ _ => False
  | n + 1 => fun l4_22 l5_23 M => fX1_odds_L57s (fX1_odds_L57 K108_57 l1_19 l2_20 l3_21 Q n) K108_57 l1_19 l2_20 l3_21 l4_22 l5_23 M Q
theorem wX1_odds_L57s {kf : Nat} {G : gG} {w : gM → Nat → List (Nat × Value) → List Value → Prop} {Q : Int64 → gM → Prop} (hw : gX yX1_odds cX1_odds 6 (Option.some FieldType.long) [] kf G (gQl Q) gE0 w) (hkf : 103 ≤ kf) {R57 : Int32 → Int32 → gM → Prop} {K108_57 : Int32 → gM → Prop} {l1_19 : Int32} {l2_20 : Int32} {l3_21 : Int32} {l4_22 : Int32} {l5_23 : Int32} {M : gM} (hR57 : ∀ (v0 : Int32) (v1 : Int32) (M : gM), R57 v0 v1 M → w M 57 [(0, .ref (gA G 16)), (1, .int l1_19), (2, .int l2_20), (3, .int l3_21), (4, .int v0), (5, .int v1)] []) (hK108_57 : ∀ (v0 : Int32) (M : gM), K108_57 v0 M → w M 108 [(0, .ref (gA G 16)), (3, .int l3_21), (4, .int v0)] []) (h : fX1_odds_L57s R57 K108_57 l1_19 l2_20 l3_21 l4_22 l5_23 M Q) : w M 57 [(0, .ref (gA G 16)), (1, .int l1_19), (2, .int l2_20), (3, .int l3_21), (4, .int l4_22), (5, .int l5_23)] [] := by
  unfold fX1_odds_L57s at h
  refine g_iload hw 5 dX1_odds_57 rfl ?_
  refine g_bipush (v := 24) hw dX1_odds_59 (by decide) ?_
  refine g_icmp_ge (tgt := 108) hw dX1_odds_61 (by decide) (fun hb24 => ?_) (fun hb24 => ?_)
  · have h := gT h hb24
    refine g_sub hw (lv2 := [(0, .ref (gA G 16)), (3, .int l3_21), (4, .int l4_22)]) [0, 3, 4] rfl ?_
    exact hK108_57 l4_22 M h
  · have h := gF h hb24
    refine g_aload_n hw 0 dX1_odds_64 rfl ?_
    obtain ⟨hk25, h⟩ := h
    obtain ⟨a26, e27, h⟩ := h
    refine gfX1_21 (q := some a26) hw rfl dX1_odds_65 hk25 e27 ?_
    refine g_iload hw 5 dX1_odds_68 rfl ?_
    obtain ⟨hk28, h⟩ := h
    obtain ⟨hi29, h⟩ := h
    obtain ⟨a30, e31, h⟩ := h
    refine g_aaldS (n := l5_23.toNatClampNeg) hw 4 dX1_odds_70 ⟨rfl, rfl⟩ hk28 hi29 rfl e31 ?_
    refine g_iload_n hw 1 dX1_odds_71 rfl ?_
    refine g_iload_n hw 2 dX1_odds_72 rfl ?_
    obtain ⟨hk32, h⟩ := h
    refine sX1_172 hw rfl dX1_odds_73 rfl (gK2 hkf) hk32 h (fun r34 M33 h => ?_)
    refine g_if_eq (tgt := 102) hw dX1_odds_76 (by decide) (fun hb35 => ?_) (fun hb35 => ?_)
    · have h := gT h hb35
      exact wX1_odds_b102 hw hkf hR57 h
    · have h := gF h hb35
      refine g_aload_n hw 0 dX1_odds_79 rfl ?_
      obtain ⟨hk38, h⟩ := h
      obtain ⟨a39, e40, h⟩ := h
      refine gfX1_73 (q := some a39) hw rfl dX1_odds_80 hk38 e40 ?_
      refine g_iload hw 4 dX1_odds_83 rfl ?_
      refine g_iinc hw (lv2 := [(0, .ref (gA G 16)), (1, .int l1_19), (2, .int l2_20), (3, .int l3_21), (4, .int (l4_22 + 1)), (5, .int l5_23)]) 4 [1, 2, 3, 4, 0, 5] dX1_odds_85 rfl (by decide) rfl rfl ?_
      refine g_aload_n hw 0 dX1_odds_88 rfl ?_
      refine g_aload_n hw 0 dX1_odds_89 rfl ?_
      obtain ⟨a41, e42, h⟩ := h
      refine gfX1_21 (q := some a41) hw rfl dX1_odds_90 hk38 e42 ?_
      refine g_iload hw 5 dX1_odds_93 rfl ?_
      obtain ⟨hk43, h⟩ := h
      obtain ⟨hi44, h⟩ := h
      obtain ⟨a45, e46, h⟩ := h
      refine g_aaldS (n := l5_23.toNatClampNeg) hw 4 dX1_odds_95 ⟨rfl, rfl⟩ hk43 hi44 rfl e46 ?_
      refine g_iload_n hw 1 dX1_odds_96 rfl ?_
      refine g_iload_n hw 2 dX1_odds_97 rfl ?_
      refine sX1_175 hw rfl dX1_odds_98 rfl (gK2 hkf) hk38 h (fun r48 M47 h => ?_)
      obtain ⟨hk49, h⟩ := h
      obtain ⟨hi50, h⟩ := h
      refine g_iast (n := l4_22.toNatClampNeg) hw dX1_odds_101 hk49 hi50 rfl ?_
      exact wX1_odds_b102 hw hkf hR57 h
theorem wX1_odds_L57 {kf : Nat} {G : gG} {w : gM → Nat → List (Nat × Value) → List Value → Prop} {Q : Int64 → gM → Prop} (hw : gX yX1_odds cX1_odds 6 (Option.some FieldType.long) [] kf G (gQl Q) gE0 w) (hkf : 103 ≤ kf) {K108_57 : Int32 → gM → Prop} {l1_19 : Int32} {l2_20 : Int32} {l3_21 : Int32} (hK108_57 : ∀ (v0 : Int32) (M : gM), K108_57 v0 M → w M 108 [(0, .ref (gA G 16)), (3, .int l3_21), (4, .int v0)] []) : ∀ (n : Nat) (l4_22 : Int32) (l5_23 : Int32) (M : gM), fX1_odds_L57 K108_57 l1_19 l2_20 l3_21 Q n l4_22 l5_23 M → w M 57 [(0, .ref (gA G 16)), (1, .int l1_19), (2, .int l2_20), (3, .int l3_21), (4, .int l4_22), (5, .int l5_23)] [] := by
  intro n
  induction n with
  | zero => intro l4_22 l5_23 M h; exact h.elim
  | succ n ih => intro l4_22 l5_23 M h; exact wX1_odds_L57s hw hkf ih hK108_57 h
def fX1_odds (p1 : Int32) (p2 : Int32) (p3 : Int32) (M : gM) (Q : Int64 → gM → Prop) : Prop :=
  fX1_areMonths p1 p2 M (fun r2 M1 => (if r2 = 0 then Q (-1) M1 else fX1_in p3 0 1 M1 (fun r5 M4 => (if r5 = 0 then Q (-1) M4 else gk M4 16 = 1 ∧ fX1_rivers p1 p2 (-1) M4 (fun r9 M8 => (if r9 = 0 then Q (-1) M8 else gk M8 16 = 1 ∧ gdr (gR M8 16 10) (fun a12 => gk M8 a12 = 3 ∧ gdr (gR M8 16 11) (fun a15 => gk M8 a15 = 3 ∧ (if ((gI M8 a12 1) + (gI M8 a15 1)) ≤ 14 then ∃ n, fX1_odds_L57 (fun l4_51 M52 => gk M52 16 = 1 ∧ fX1_above (gsI (gsL M52 16 13 0) 16 15 0) (fun r55 M54 => fJ0_abs r55 M54 (fun r57 M56 => gk M56 16 = 1 ∧ gdr (gR (gsL M56 16 14 r57) 16 10) (fun a59 => gk (gsL M56 16 14 r57) a59 = 3 ∧ gdr (gR (gsL M56 16 14 r57) 16 10) (fun a62 => gk (gsL M56 16 14 r57) a62 = 3 ∧ gdr (gR (gsL M56 16 14 r57) 16 10) (fun a65 => gk (gsL M56 16 14 r57) a65 = 3 ∧ gdr (gR (gsL M56 16 14 r57) 16 11) (fun a68 => gk (gsL M56 16 14 r57) a68 = 3 ∧ ∃ n9, n9 ≤ 20 ∧ fX1_deals n9 0 (gI (gsL M56 16 14 r57) a59 1) 0 (gI (gsL M56 16 14 r57) a62 1) l4_51 ((gL (gsL M56 16 14 r57) a65 0) + (gL (gsL M56 16 14 r57) a68 0)) (gsL M56 16 14 r57) (fun M71 => gk M71 16 = 1 ∧ fX1_lowest (gL M71 16 13) ((gI M71 16 15).toInt64) p3 M71 (fun r75 M74 => Q r75 M74))))))))) p1 p2 p3 Q n 0 0 M8 else Q (-1) M8)))))))))
theorem mX1_odds {kf : Nat} (hkf : 103 ≤ kf) (G : gG) (p1 : Int32) (p2 : Int32) (p3 : Int32) (M : gM) (Q : Int64 → gM → Prop) (h : fX1_odds p1 p2 p3 M Q) : gMet yX1_odds cX1_odds 6 (Option.some FieldType.long) kf G M [.ref (gA G 16), .int p1, .int p2, .int p3] (gQl Q) gE0 := by
  refine g_intro (lv := [(0, .ref (gA G 16)), (1, .int p1), (2, .int p2), (3, .int p3)]) (by decide) rfl rfl (fun w hw => ?_)
  unfold fX1_odds at h
  refine g_iload_n hw 1 dX1_odds_0 rfl ?_
  refine g_iload_n hw 2 dX1_odds_1 rfl ?_
  refine sX1_164 hw rfl dX1_odds_2 rfl (gK2 hkf) h (fun r2 M1 h => ?_)
  refine g_if_eq (tgt := 47) hw dX1_odds_5 (by decide) (fun hb3 => ?_) (fun hb3 => ?_)
  · have h := gT h hb3
    refine g_ldc2 hw dX1_odds_47 q466 ?_
    exact g_lret hw dX1_odds_50 ⟨_, rfl, h⟩
  · have h := gF h hb3
    refine g_iload_n hw 3 dX1_odds_8 rfl ?_
    refine g_iconst (v := 0) hw dX1_odds_9 (by decide) ?_
    refine g_iconst (v := 1) hw dX1_odds_10 (by decide) ?_
    refine sX1_112 hw rfl dX1_odds_11 rfl (gK2 hkf) h (fun r5 M4 h => ?_)
    refine g_if_eq (tgt := 47) hw dX1_odds_14 (by decide) (fun hb6 => ?_) (fun hb6 => ?_)
    · have h := gT h hb6
      refine g_ldc2 hw dX1_odds_47 q466 ?_
      exact g_lret hw dX1_odds_50 ⟨_, rfl, h⟩
    · have h := gF h hb6
      refine g_aload_n hw 0 dX1_odds_17 rfl ?_
      refine g_iload_n hw 1 dX1_odds_18 rfl ?_
      refine g_iload_n hw 2 dX1_odds_19 rfl ?_
      refine g_iconst (v := (-1)) hw dX1_odds_20 (by decide) ?_
      obtain ⟨hk7, h⟩ := h
      refine sX1_204 hw rfl dX1_odds_21 rfl (gK2 hkf) hk7 h (fun r9 M8 h => ?_)
      refine g_if_eq (tgt := 47) hw dX1_odds_24 (by decide) (fun hb10 => ?_) (fun hb10 => ?_)
      · have h := gT h hb10
        refine g_ldc2 hw dX1_odds_47 q466 ?_
        exact g_lret hw dX1_odds_50 ⟨_, rfl, h⟩
      · have h := gF h hb10
        refine g_aload_n hw 0 dX1_odds_27 rfl ?_
        obtain ⟨hk11, h⟩ := h
        obtain ⟨a12, e13, h⟩ := h
        refine gfX1_66 (q := some a12) hw rfl dX1_odds_28 hk11 e13 ?_
        obtain ⟨hk14, h⟩ := h
        refine gfX1_182 hw rfl dX1_odds_31 hk14 ?_
        refine g_aload_n hw 0 dX1_odds_34 rfl ?_
        obtain ⟨a15, e16, h⟩ := h
        refine gfX1_70 (q := some a15) hw rfl dX1_odds_35 hk11 e16 ?_
        obtain ⟨hk17, h⟩ := h
        refine gfX1_182 hw rfl dX1_odds_38 hk17 ?_
        refine g_iadd hw dX1_odds_41 ?_
        refine g_bipush (v := 14) hw dX1_odds_42 (by decide) ?_
        refine g_icmp_le (tgt := 51) hw dX1_odds_44 (by decide) (fun hb18 => ?_) (fun hb18 => ?_)
        · have h := gT h hb18
          refine g_iconst (v := 0) hw dX1_odds_51 (by decide) ?_
          refine g_istore hw (lv2 := [(0, .ref (gA G 16)), (1, .int p1), (2, .int p2), (3, .int p3), (4, .int 0)]) [1, 2, 3, 4, 0] dX1_odds_52 rfl rfl ?_
          refine g_iconst (v := 0) hw dX1_odds_54 (by decide) ?_
          refine g_istore hw (lv2 := [(0, .ref (gA G 16)), (1, .int p1), (2, .int p2), (3, .int p3), (4, .int 0), (5, .int 0)]) [1, 2, 3, 4, 5, 0] dX1_odds_55 rfl rfl ?_
          obtain ⟨n9, h⟩ := h
          refine wX1_odds_L57 hw hkf (fun l4_51 M52 h => ?_) n9 0 0 M8 h
          refine g_aload_n hw 0 dX1_odds_108 rfl ?_
          refine g_lconst (v := 0) hw dX1_odds_109 (by decide) ?_
          obtain ⟨hk53, h⟩ := h
          refine pfX1_243 hw rfl dX1_odds_110 hk53 ?_
          refine g_aload_n hw 0 dX1_odds_113 rfl ?_
          refine g_iconst (v := 0) hw dX1_odds_114 (by decide) ?_
          refine pfX1_237 hw rfl dX1_odds_115 hk53 ?_
          refine g_aload_n hw 0 dX1_odds_118 rfl ?_
          refine g_aload_n hw 0 dX1_odds_119 rfl ?_
          refine sX1_211 hw rfl dX1_odds_120 rfl (gK2 hkf) hk53 h (fun r55 M54 h => ?_)
          refine sX1_7 hw rfl dX1_odds_123 rfl (gK2 hkf) h (fun r57 M56 h => ?_)
          obtain ⟨hk58, h⟩ := h
          refine pfX1_240 hw rfl dX1_odds_126 hk58 ?_
          refine g_aload_n hw 0 dX1_odds_129 rfl ?_
          refine g_iconst (v := 0) hw dX1_odds_130 (by decide) ?_
          refine g_aload_n hw 0 dX1_odds_131 rfl ?_
          obtain ⟨a59, e60, h⟩ := h
          refine gfX1_66 (q := some a59) hw rfl dX1_odds_132 hk58 e60 ?_
          obtain ⟨hk61, h⟩ := h
          refine gfX1_182 hw rfl dX1_odds_135 hk61 ?_
          refine g_lconst (v := 0) hw dX1_odds_138 (by decide) ?_
          refine g_aload_n hw 0 dX1_odds_139 rfl ?_
          obtain ⟨a62, e63, h⟩ := h
          refine gfX1_66 (q := some a62) hw rfl dX1_odds_140 hk58 e63 ?_
          obtain ⟨hk64, h⟩ := h
          refine gfX1_182 hw rfl dX1_odds_143 hk64 ?_
          refine g_iload hw 2 dX1_odds_146 rfl ?_
          refine g_aload_n hw 0 dX1_odds_148 rfl ?_
          obtain ⟨a65, e66, h⟩ := h
          refine gfX1_66 (q := some a65) hw rfl dX1_odds_149 hk58 e66 ?_
          obtain ⟨hk67, h⟩ := h
          refine gfX1_185 hw rfl dX1_odds_152 hk67 ?_
          refine g_aload_n hw 0 dX1_odds_155 rfl ?_
          obtain ⟨a68, e69, h⟩ := h
          refine gfX1_70 (q := some a68) hw rfl dX1_odds_156 hk58 e69 ?_
          obtain ⟨hk70, h⟩ := h
          refine gfX1_185 hw rfl dX1_odds_159 hk70 ?_
          refine g_ladd hw dX1_odds_162 ?_
          obtain ⟨n9, hn9, h⟩ := h
          refine sX1_246 hw rfl dX1_odds_163 rfl (gK2 hkf) hn9 hk58 h (fun M71 h => ?_)
          refine g_aload_n hw 0 dX1_odds_166 rfl ?_
          obtain ⟨hk73, h⟩ := h
          refine gfX1_243 hw rfl dX1_odds_167 hk73 ?_
          refine g_aload_n hw 0 dX1_odds_170 rfl ?_
          refine gfX1_237 hw rfl dX1_odds_171 hk73 ?_
          refine g_i2l hw dX1_odds_174 ?_
          refine g_iload_n hw 1 dX1_odds_175 rfl ?_
          refine sX1_218 hw rfl dX1_odds_176 rfl (gK2 hkf) h (fun r75 M74 h => ?_)
          exact g_lret hw dX1_odds_179 ⟨_, rfl, h⟩
        · have h := gF h hb18
          refine g_ldc2 hw dX1_odds_47 q466 ?_
          exact g_lret hw dX1_odds_50 ⟨_, rfl, h⟩
def fX1_below  (M : gM) (Q : Int64 → gM → Prop) : Prop :=
  gk M 16 = 1 ∧ gdr (gR M 16 10) (fun a2 => gk M a2 = 3 ∧ gdr (gR M 16 11) (fun a5 => gk M a5 = 3 ∧ Q (((gI M a2 1).toInt64) * ((gI M a5 1).toInt64)) M))
theorem mX1_below {kf : Nat} (hkf : 1 ≤ kf) (G : gG)  (M : gM) (Q : Int64 → gM → Prop) (h : fX1_below M Q) : gMet yX1_below cX1_below 1 (Option.some FieldType.long) kf G M [.ref (gA G 16)] (gQl Q) gE0 := by
  refine g_intro (lv := [(0, .ref (gA G 16))]) (by decide) rfl rfl (fun w hw => ?_)
  unfold fX1_below at h
  refine g_aload_n hw 0 dX1_below_0 rfl ?_
  obtain ⟨hk1, h⟩ := h
  obtain ⟨a2, e3, h⟩ := h
  refine gfX1_66 (q := some a2) hw rfl dX1_below_1 hk1 e3 ?_
  obtain ⟨hk4, h⟩ := h
  refine gfX1_182 hw rfl dX1_below_4 hk4 ?_
  refine g_i2l hw dX1_below_7 ?_
  refine g_aload_n hw 0 dX1_below_8 rfl ?_
  obtain ⟨a5, e6, h⟩ := h
  refine gfX1_70 (q := some a5) hw rfl dX1_below_9 hk1 e6 ?_
  obtain ⟨hk7, h⟩ := h
  refine gfX1_182 hw rfl dX1_below_12 hk7 ?_
  refine g_i2l hw dX1_below_15 ?_
  refine g_lmul hw dX1_below_16 ?_
  exact g_lret hw dX1_below_17 ⟨_, rfl, h⟩
theorem sX1_215 {y0 : MethodName} {cc : ByteArray} {nL : Nat} {ret : Option FieldType} {hh : List (Nat × Nat × Nat × Nat)} {kf : Nat} {G : gG} {Qv : Option Value → gM → Prop} {E : String → Nat → gM → Prop} {w : gM → Nat → List (Nat × Value) → List Value → Prop} {M : gM} {pc : Nat} {lv : List (Nat × Value)} {rest : List Value} (hw : gX y0 cc nL ret hh kf G Qv E w) (hy : y0.cls = RX1)  {Q : Int64 → gM → Prop} (d : decode cc pc = .ok (.invokevirtual 215, 3)) (hrest : Nat.ble ((rest.map Value.category).sum) 8 = true) (hk : 1 + 1 ≤ kf) (hkd : gk M 16 = 1) (h : fX1_below M Q) (kk : ∀ r M1, Q r M1 → w M1 (pc + 3) lv (.long r :: rest)) : w M pc lv (.ref (gA G 16) :: rest) := by
  obtain ⟨cls9, nm9, ds9⟩ := y0
  subst hy
  exact g_callV (r := (RX1, TX1, 28)) (ci := 0) hw [] (nA := 0) rfl d q484 q486 qs12 q98 q487 (by decide +kernel) rfl rfl hrest rfl (by omega : kf - 1 + 1 ≤ kf) hkd (mX1_below (kf := kf - 1) (by omega) G M Q h) (fun _ _ _ q => q.elim) (fun v M1 h => by obtain ⟨r, rfl, h⟩ := h; exact kk r M1 h)
def fX1_alike_b99 (R34 : Int32 → Int64 → Int64 → Int32 → gM → Prop) (l1_7 : Int32) (l2_8 : Int32) (l3_35 : Int32) (l4_36 : Int64) (l6_37 : Int64) (l8_38 : Int32) (M : gM) (Q : Int64 → gM → Prop) : Prop :=
  R34 l3_35 l4_36 l6_37 (l8_38 + 1) M
theorem wX1_alike_b99 {kf : Nat} {G : gG} {w : gM → Nat → List (Nat × Value) → List Value → Prop} {Q : Int64 → gM → Prop} (hw : gX yX1_alike cX1_alike 9 (Option.some FieldType.long) [] kf G (gQl Q) gE0 w) (hkf : 103 ≤ kf) {R34 : Int32 → Int64 → Int64 → Int32 → gM → Prop} {l1_7 : Int32} {l2_8 : Int32} {l3_35 : Int32} {l4_36 : Int64} {l6_37 : Int64} {l8_38 : Int32} {M : gM} (hR34 : ∀ (v0 : Int32) (v1 : Int64) (v2 : Int64) (v3 : Int32) (M : gM), R34 v0 v1 v2 v3 M → w M 34 [(0, .ref (gA G 16)), (1, .int l1_7), (2, .int l2_8), (3, .int v0), (4, .long v1), (6, .long v2), (8, .int v3)] []) (h : fX1_alike_b99 R34 l1_7 l2_8 l3_35 l4_36 l6_37 l8_38 M Q) : w M 99 [(0, .ref (gA G 16)), (1, .int l1_7), (2, .int l2_8), (3, .int l3_35), (4, .long l4_36), (6, .long l6_37), (8, .int l8_38)] [] := by
  unfold fX1_alike_b99 at h
  refine g_iinc hw (lv2 := [(0, .ref (gA G 16)), (1, .int l1_7), (2, .int l2_8), (3, .int l3_35), (4, .long l4_36), (6, .long l6_37), (8, .int (l8_38 + 1))]) 6 [1, 2, 3, 4, 5, 6, 0] dX1_alike_99 rfl (by decide) rfl rfl ?_
  refine g_goto (tgt := 34) hw dX1_alike_102 (by decide) ?_
  exact hR34 l3_35 l4_36 l6_37 (l8_38 + 1) M h
def fX1_alike_L34s (R34 : Int32 → Int64 → Int64 → Int32 → gM → Prop) (K105_34 : Int32 → Int64 → Int64 → gM → Prop) (l1_7 : Int32) (l2_8 : Int32) (l3_9 : Int32) (l4_10 : Int64) (l6_11 : Int64) (l8_12 : Int32) (M : gM) (Q : Int64 → gM → Prop) : Prop :=
  (if l1_7 < l8_12 then K105_34 l3_9 l4_10 l6_11 M else gk M 16 = 1 ∧ fX1_rivers (l8_12 - 1) l8_12 (-1) M (fun r16 M15 => (if r16 = 0 then fX1_alike_b99 R34 l1_7 l2_8 l3_9 l4_10 l6_11 l8_12 M15 Q else gk M15 16 = 1 ∧ fX1_above M15 (fun r20 M19 => fJ0_abs r20 M19 (fun r22 M21 => gk M21 16 = 1 ∧ fX1_below M21 (fun r25 M24 => (if 0 < (lg_cmp (r22 * l6_11) (l4_10 * r25)) then gk M24 16 = 1 ∧ fX1_above M24 (fun r29 M28 => fJ0_abs r29 M28 (fun r31 M30 => gk M30 16 = 1 ∧ fX1_below M30 (fun r34 M33 => fX1_alike_b99 R34 l1_7 l2_8 (l3_9 + 1) r31 r34 l8_12 M33 Q))) else fX1_alike_b99 R34 l1_7 l2_8 (l3_9 + 1) l4_10 l6_11 l8_12 M24 Q)))))))
def fX1_alike_L34 (K105_34 : Int32 → Int64 → Int64 → gM → Prop) (l1_7 : Int32) (l2_8 : Int32) (Q : Int64 → gM → Prop) : Nat → Int32 → Int64 → Int64 → Int32 → gM → Prop
  | 0 => fun _ _ _ _ _ => False
  | n + 1 => fun l3_9 l4_10 l6_11 l8_12 M => fX1_alike_L34s (fX1_alike_L34 K105_34 l1_7 l2_8 Q n) K105_34 l1_7 l2_8 l3_9 l4_10 l6_11 l8_12 M Q
theorem wX1_alike_L34s {kf : Nat} {G : gG} {w : gM → Nat → List (Nat × Value) → List Value → Prop} {Q : Int64 → gM → Prop} (hw : gX yX1_alike cX1_alike 9 (Option.some FieldType.long) [] kf G (gQl Q) gE0 w) (hkf : 103 ≤ kf) {R34 : Int32 → Int64 → Int64 → Int32 → gM → Prop} {K105_34 : Int32 → Int64 → Int64 → gM → Prop} {l1_7 : Int32} {l2_8 : Int32} {l3_9 : Int32} {l4_10 : Int64} {l6_11 : Int64} {l8_12 : Int32} {M : gM} (hR34 : ∀ (v0 : Int32) (v1 : Int64) (v2 : Int64) (v3 : Int32) (M : gM), R34 v0 v1 v2 v3 M → w M 34 [(0, .ref (gA G 16)), (1, .int l1_7), (2, .int l2_8), (3, .int v0), (4, .long v1), (6, .long v2), (8, .int v3)] []) (hK105_34 : ∀ (v0 : Int32) (v1 : Int64) (v2 : Int64) (M : gM), K105_34 v0 v1 v2 M → w M 105 [(2, .int l2_8), (3, .int v0), (4, .long v1), (6, .long v2)] []) (h : fX1_alike_L34s R34 K105_34 l1_7 l2_8 l3_9 l4_10 l6_11 l8_12 M Q) : w M 34 [(0, .ref (gA G 16)), (1, .int l1_7), (2, .int l2_8), (3, .int l3_9), (4, .long l4_10), (6, .long l6_11), (8, .int l8_12)] [] := by
  unfold fX1_alike_L34s at h
  refine g_iload hw 6 dX1_alike_34 rfl ?_
  refine g_iload_n hw 1 dX1_alike_36 rfl ?_
  refine g_icmp_gt (tgt := 105) hw dX1_alike_37 (by decide) (fun hb13 => ?_) (fun hb13 => ?_)
  · have h := gT h hb13
    refine g_sub hw (lv2 := [(2, .int l2_8), (3, .int l3_9), (4, .long l4_10), (6, .long l6_11)]) [2, 3, 4, 5] rfl ?_
    exact hK105_34 l3_9 l4_10 l6_11 M h
  · have h := gF h hb13
    refine g_aload_n hw 0 dX1_alike_40 rfl ?_
    refine g_iload hw 6 dX1_alike_41 rfl ?_
    refine g_iconst (v := 1) hw dX1_alike_43 (by decide) ?_
    refine g_isub hw dX1_alike_44 ?_
    refine g_iload hw 6 dX1_alike_45 rfl ?_
    refine g_iconst (v := (-1)) hw dX1_alike_47 (by decide) ?_
    obtain ⟨hk14, h⟩ := h
    refine sX1_204 hw rfl dX1_alike_48 rfl (gK2 hkf) hk14 h (fun r16 M15 h => ?_)
    refine g_if_ne (tgt := 57) hw dX1_alike_51 (by decide) (fun hb17 => ?_) (fun hb17 => ?_)
    · have h := gF h hb17
      refine g_iinc hw (lv2 := [(0, .ref (gA G 16)), (1, .int l1_7), (2, .int l2_8), (3, .int (l3_9 + 1)), (4, .long l4_10), (6, .long l6_11), (8, .int l8_12)]) 3 [1, 2, 3, 0, 4, 5, 6] dX1_alike_57 rfl (by decide) rfl rfl ?_
      refine g_aload_n hw 0 dX1_alike_60 rfl ?_
      obtain ⟨hk18, h⟩ := h
      refine sX1_211 hw rfl dX1_alike_61 rfl (gK2 hkf) hk18 h (fun r20 M19 h => ?_)
      refine sX1_7 hw rfl dX1_alike_64 rfl (gK2 hkf) h (fun r22 M21 h => ?_)
      refine g_lload hw 5 dX1_alike_67 rfl ?_
      refine g_lmul hw dX1_alike_69 ?_
      refine g_lload hw 4 dX1_alike_70 rfl ?_
      refine g_aload_n hw 0 dX1_alike_72 rfl ?_
      obtain ⟨hk23, h⟩ := h
      refine sX1_215 hw rfl dX1_alike_73 rfl (gK2 hkf) hk23 h (fun r25 M24 h => ?_)
      refine g_lmul hw dX1_alike_76 ?_
      refine g_lcmp hw dX1_alike_77 ?_
      refine g_if_gt (tgt := 84) hw dX1_alike_78 (by decide) (fun hb26 => ?_) (fun hb26 => ?_)
      · have h := gT h hb26
        refine g_aload_n hw 0 dX1_alike_84 rfl ?_
        obtain ⟨hk27, h⟩ := h
        refine sX1_211 hw rfl dX1_alike_85 rfl (gK2 hkf) hk27 h (fun r29 M28 h => ?_)
        refine sX1_7 hw rfl dX1_alike_88 rfl (gK2 hkf) h (fun r31 M30 h => ?_)
        refine g_lstore hw (lv2 := [(0, .ref (gA G 16)), (1, .int l1_7), (2, .int l2_8), (3, .int (l3_9 + 1)), (4, .long r31), (8, .int l8_12)]) [1, 2, 3, 4, 0, 6] dX1_alike_91 rfl rfl ?_
        refine g_aload_n hw 0 dX1_alike_93 rfl ?_
        obtain ⟨hk32, h⟩ := h
        refine sX1_215 hw rfl dX1_alike_94 rfl (gK2 hkf) hk32 h (fun r34 M33 h => ?_)
        refine g_lstore hw (lv2 := [(0, .ref (gA G 16)), (1, .int l1_7), (2, .int l2_8), (3, .int (l3_9 + 1)), (4, .long r31), (6, .long r34), (8, .int l8_12)]) [1, 2, 3, 4, 5, 0, 6] dX1_alike_97 rfl rfl ?_
        exact wX1_alike_b99 hw hkf hR34 h
      · have h := gF h hb26
        refine g_goto (tgt := 99) hw dX1_alike_81 (by decide) ?_
        exact wX1_alike_b99 hw hkf hR34 h
    · have h := gT h hb17
      refine g_goto (tgt := 99) hw dX1_alike_54 (by decide) ?_
      exact wX1_alike_b99 hw hkf hR34 h
theorem wX1_alike_L34 {kf : Nat} {G : gG} {w : gM → Nat → List (Nat × Value) → List Value → Prop} {Q : Int64 → gM → Prop} (hw : gX yX1_alike cX1_alike 9 (Option.some FieldType.long) [] kf G (gQl Q) gE0 w) (hkf : 103 ≤ kf) {K105_34 : Int32 → Int64 → Int64 → gM → Prop} {l1_7 : Int32} {l2_8 : Int32} (hK105_34 : ∀ (v0 : Int32) (v1 : Int64) (v2 : Int64) (M : gM), K105_34 v0 v1 v2 M → w M 105 [(2, .int l2_8), (3, .int v0), (4, .long v1), (6, .long v2)] []) : ∀ (n : Nat) (l3_9 : Int32) (l4_10 : Int64) (l6_11 : Int64) (l8_12 : Int32) (M : gM), fX1_alike_L34 K105_34 l1_7 l2_8 Q n l3_9 l4_10 l6_11 l8_12 M → w M 34 [(0, .ref (gA G 16)), (1, .int l1_7), (2, .int l2_8), (3, .int l3_9), (4, .long l4_10), (6, .long l6_11), (8, .int l8_12)] [] := by
  intro n
  induction n with
  | zero => intro l3_9 l4_10 l6_11 l8_12 M h; exact h.elim
  | succ n ih => intro l3_9 l4_10 l6_11 l8_12 M h; exact wX1_alike_L34s hw hkf ih hK105_34 h
def fX1_alike (p1 : Int32) (p2 : Int32) (M : gM) (Q : Int64 → gM → Prop) : Prop :=
  fX1_in p1 1 11 M (fun r2 M1 => (if r2 = 0 then Q (-1) M1 else fX1_in p2 0 2 M1 (fun r5 M4 => (if r5 = 0 then Q (-1) M4 else ∃ n, fX1_alike_L34 (fun l3_39 l4_40 l6_41 M42 => (if p2 = 0 then Q l3_39.toInt64 M42 else (if l3_39 = 0 then Q (-1) M42 else fX1_lowest l4_40 l6_41 (p2 - 1) M42 (fun r46 M45 => Q r46 M45)))) p1 p2 Q n 0 0 1 1 M4))))
theorem mX1_alike {kf : Nat} (hkf : 103 ≤ kf) (G : gG) (p1 : Int32) (p2 : Int32) (M : gM) (Q : Int64 → gM → Prop) (h : fX1_alike p1 p2 M Q) : gMet yX1_alike cX1_alike 9 (Option.some FieldType.long) kf G M [.ref (gA G 16), .int p1, .int p2] (gQl Q) gE0 := by
  refine g_intro (lv := [(0, .ref (gA G 16)), (1, .int p1), (2, .int p2)]) (by decide) rfl rfl (fun w hw => ?_)
  unfold fX1_alike at h
  refine g_iload_n hw 1 dX1_alike_0 rfl ?_
  refine g_iconst (v := 1) hw dX1_alike_1 (by decide) ?_
  refine g_bipush (v := 11) hw dX1_alike_2 (by decide) ?_
  refine sX1_112 hw rfl dX1_alike_4 rfl (gK2 hkf) h (fun r2 M1 h => ?_)
  refine g_if_eq (tgt := 19) hw dX1_alike_7 (by decide) (fun hb3 => ?_) (fun hb3 => ?_)
  · have h := gT h hb3
    refine g_ldc2 hw dX1_alike_19 q466 ?_
    exact g_lret hw dX1_alike_22 ⟨_, rfl, h⟩
  · have h := gF h hb3
    refine g_iload_n hw 2 dX1_alike_10 rfl ?_
    refine g_iconst (v := 0) hw dX1_alike_11 (by decide) ?_
    refine g_iconst (v := 2) hw dX1_alike_12 (by decide) ?_
    refine sX1_112 hw rfl dX1_alike_13 rfl (gK2 hkf) h (fun r5 M4 h => ?_)
    refine g_if_ne (tgt := 23) hw dX1_alike_16 (by decide) (fun hb6 => ?_) (fun hb6 => ?_)
    · have h := gF h hb6
      refine g_iconst (v := 0) hw dX1_alike_23 (by decide) ?_
      refine g_istore_n hw (lv2 := [(0, .ref (gA G 16)), (1, .int p1), (2, .int p2), (3, .int 0)]) [1, 2, 3, 0] dX1_alike_24 rfl rfl ?_
      refine g_lconst (v := 0) hw dX1_alike_25 (by decide) ?_
      refine g_lstore hw (lv2 := [(0, .ref (gA G 16)), (1, .int p1), (2, .int p2), (3, .int 0), (4, .long 0)]) [1, 2, 3, 4, 0] dX1_alike_26 rfl rfl ?_
      refine g_lconst (v := 1) hw dX1_alike_28 (by decide) ?_
      refine g_lstore hw (lv2 := [(0, .ref (gA G 16)), (1, .int p1), (2, .int p2), (3, .int 0), (4, .long 0), (6, .long 1)]) [1, 2, 3, 4, 5, 0] dX1_alike_29 rfl rfl ?_
      refine g_iconst (v := 1) hw dX1_alike_31 (by decide) ?_
      refine g_istore hw (lv2 := [(0, .ref (gA G 16)), (1, .int p1), (2, .int p2), (3, .int 0), (4, .long 0), (6, .long 1), (8, .int 1)]) [1, 2, 3, 4, 5, 6, 0] dX1_alike_32 rfl rfl ?_
      obtain ⟨n9, h⟩ := h
      refine wX1_alike_L34 hw hkf (fun l3_39 l4_40 l6_41 M42 h => ?_) n9 0 0 1 1 M4 h
      refine g_iload_n hw 0 dX1_alike_105 rfl ?_
      refine g_if_ne (tgt := 114) hw dX1_alike_106 (by decide) (fun hb43 => ?_) (fun hb43 => ?_)
      · have h := gF h hb43
        refine g_iload_n hw 1 dX1_alike_114 rfl ?_
        refine g_if_ne (tgt := 124) hw dX1_alike_115 (by decide) (fun hb44 => ?_) (fun hb44 => ?_)
        · have h := gF h hb44
          refine g_lload hw 2 dX1_alike_124 rfl ?_
          refine g_lload hw 3 dX1_alike_126 rfl ?_
          refine g_iload_n hw 0 dX1_alike_128 rfl ?_
          refine g_iconst (v := 1) hw dX1_alike_129 (by decide) ?_
          refine g_isub hw dX1_alike_130 ?_
          refine sX1_218 hw rfl dX1_alike_131 rfl (gK2 hkf) h (fun r46 M45 h => ?_)
          exact g_lret hw dX1_alike_134 ⟨_, rfl, h⟩
        · have h := gT h hb44
          refine g_ldc2 hw dX1_alike_118 q466 ?_
          refine g_goto (tgt := 134) hw dX1_alike_121 (by decide) ?_
          exact g_lret hw dX1_alike_134 ⟨_, rfl, h⟩
      · have h := gT h hb43
        refine g_iload_n hw 1 dX1_alike_109 rfl ?_
        refine g_i2l hw dX1_alike_110 ?_
        refine g_goto (tgt := 134) hw dX1_alike_111 (by decide) ?_
        exact g_lret hw dX1_alike_134 ⟨_, rfl, h⟩
    · have h := gT h hb6
      refine g_ldc2 hw dX1_alike_19 q466 ?_
      exact g_lret hw dX1_alike_22 ⟨_, rfl, h⟩
theorem gfX1_252 {y0 : MethodName} {cc : ByteArray} {nL : Nat} {ret : Option FieldType} {hh : List (Nat × Nat × Nat × Nat)} {kf : Nat} {G : gG} {Qv : Option Value → gM → Prop} {E : String → Nat → gM → Prop} {w : gM → Nat → List (Nat × Value) → List Value → Prop} {M : gM} {pc : Nat} {lv : List (Nat × Value)} {rest : List Value} (hw : gX y0 cc nL ret hh kf G Qv E w) (hy : y0.cls = RX1) {c : Nat} (d : decode cc pc = .ok (.getfield 252, 3)) (hk : gk M c = 1) (kk : w M (pc + 3) lv (.int (gI M c 7) :: rest)) : w M pc lv (.ref (gA G c) :: rest) := by
  obtain ⟨cls9, nm9, ds9⟩ := y0
  subst hy
  exact g_getC (C := RX1) (T := TX1) (N := 28) (ci := 0) hw in_X1 rfl 7 (by decide) (Or.inl q279) rfl d hk kk
theorem gfX1_33 {y0 : MethodName} {cc : ByteArray} {nL : Nat} {ret : Option FieldType} {hh : List (Nat × Nat × Nat × Nat)} {kf : Nat} {G : gG} {Qv : Option Value → gM → Prop} {E : String → Nat → gM → Prop} {w : gM → Nat → List (Nat × Value) → List Value → Prop} {M : gM} {pc : Nat} {lv : List (Nat × Value)} {rest : List Value} (hw : gX y0 cc nL ret hh kf G Qv E w) (hy : y0.cls = RX1) {c : Nat} {q : Option Nat} (d : decode cc pc = .ok (.getfield 33, 3)) (hk : gk M c = 1) (hq : gR M c 3 = q) (kk : w M (pc + 3) lv (va_rf (q.map (gA G)) :: rest)) : w M pc lv (.ref (gA G c) :: rest) := by
  obtain ⟨cls9, nm9, ds9⟩ := y0
  subst hy
  subst hq
  exact g_getC (C := RX1) (T := TX1) (N := 28) (ci := 0) hw in_X1 rfl 3 (by decide) (Or.inl q275) rfl d hk kk
theorem pfX1_252 {y0 : MethodName} {cc : ByteArray} {nL : Nat} {ret : Option FieldType} {hh : List (Nat × Nat × Nat × Nat)} {kf : Nat} {G : gG} {Qv : Option Value → gM → Prop} {E : String → Nat → gM → Prop} {w : gM → Nat → List (Nat × Value) → List Value → Prop} {M : gM} {pc : Nat} {lv : List (Nat × Value)} {rest : List Value} (hw : gX y0 cc nL ret hh kf G Qv E w) (hy : y0.cls = RX1) {c : Nat} {x : Int32} (d : decode cc pc = .ok (.putfield 252, 3)) (hk : gk M c = 1) (kk : w (gsI M c 7 x) (pc + 3) lv rest) : w M pc lv (.int x :: .ref (gA G c) :: rest) := by
  obtain ⟨cls9, nm9, ds9⟩ := y0
  subst hy
  exact g_putC (C := RX1) (T := TX1) (N := 28) (ci := 0) hw in_X1 tyX1 tyX1_ok nmX1 rfl 7 (by decide) (Or.inl ⟨q279, Or.inl rfl⟩) rfl rfl (gOne_I M c 7 x) (by show Value.int (gI (gsI M c 7 x) c 7) = _; rw [gI_sI, if_pos ⟨rfl, rfl⟩]) d hk kk
def fX1_feed_b103 (R3 : Int32 → gM → Prop) (l1_1 : Int64) (l3_2 : Int64) (l5_3 : Int64) (l7_15 : Int32) (M : gM) (Q : Int32 → gM → Prop) : Prop :=
  R3 (l7_15 + 1) M
theorem wX1_feed_b103 {kf : Nat} {G : gG} {w : gM → Nat → List (Nat × Value) → List Value → Prop} {Q : Int32 → gM → Prop} (hw : gX yX1_feed cX1_feed 9 (Option.some FieldType.int) [] kf G (gQi Q) gE0 w) (hkf : 1 ≤ kf) {R3 : Int32 → gM → Prop} {l1_1 : Int64} {l3_2 : Int64} {l5_3 : Int64} {l7_15 : Int32} {M : gM} (hR3 : ∀ (v0 : Int32) (M : gM), R3 v0 M → w M 3 [(0, .ref (gA G 16)), (1, .long l1_1), (3, .long l3_2), (5, .long l5_3), (7, .int v0)] []) (h : fX1_feed_b103 R3 l1_1 l3_2 l5_3 l7_15 M Q) : w M 103 [(0, .ref (gA G 16)), (1, .long l1_1), (3, .long l3_2), (5, .long l5_3), (7, .int l7_15)] [] := by
  unfold fX1_feed_b103 at h
  refine g_iinc hw (lv2 := [(0, .ref (gA G 16)), (1, .long l1_1), (3, .long l3_2), (5, .long l5_3), (7, .int (l7_15 + 1))]) 4 [1, 2, 3, 4, 0] dX1_feed_103 rfl (by decide) rfl rfl ?_
  refine g_goto (tgt := 3) hw dX1_feed_106 (by decide) ?_
  exact hR3 (l7_15 + 1) M h
def fX1_feed_b74 (R3 : Int32 → gM → Prop) (l1_1 : Int64) (l3_2 : Int64) (l5_3 : Int64) (l7_11 : Int32) (l8_12 : Int32) (M : gM) (Q : Int32 → gM → Prop) : Prop :=
  gk M 16 = 1 ∧ (if 1000 ≤ (gI M 16 7) then fX1_feed_b103 R3 l1_1 l3_2 l5_3 l7_11 M Q else gdr (gR M 16 3) (fun a16 => gk (gsI M 16 7 ((gI M 16 7) + 1)) a16 = 42 ∧ vp_in (gI M 16 7) (gl (gsI M 16 7 ((gI M 16 7) + 1)) a16) ∧ fX1_feed_b103 R3 l1_1 l3_2 l5_3 l7_11 (gsI (gsI M 16 7 ((gI M 16 7) + 1)) a16 ((gI M 16 7).toNatClampNeg) l8_12.toInt8.toInt32) Q))
theorem wX1_feed_b74 {kf : Nat} {G : gG} {w : gM → Nat → List (Nat × Value) → List Value → Prop} {Q : Int32 → gM → Prop} (hw : gX yX1_feed cX1_feed 9 (Option.some FieldType.int) [] kf G (gQi Q) gE0 w) (hkf : 1 ≤ kf) {R3 : Int32 → gM → Prop} {l1_1 : Int64} {l3_2 : Int64} {l5_3 : Int64} {l7_11 : Int32} {l8_12 : Int32} {M : gM} (hR3 : ∀ (v0 : Int32) (M : gM), R3 v0 M → w M 3 [(0, .ref (gA G 16)), (1, .long l1_1), (3, .long l3_2), (5, .long l5_3), (7, .int v0)] []) (h : fX1_feed_b74 R3 l1_1 l3_2 l5_3 l7_11 l8_12 M Q) : w M 74 [(0, .ref (gA G 16)), (1, .long l1_1), (3, .long l3_2), (5, .long l5_3), (7, .int l7_11), (8, .int l8_12)] [] := by
  unfold fX1_feed_b74 at h
  refine g_aload_n hw 0 dX1_feed_74 rfl ?_
  obtain ⟨hk13, h⟩ := h
  refine gfX1_252 hw rfl dX1_feed_75 hk13 ?_
  refine g_sipush (v := 1000) hw dX1_feed_78 (by decide) ?_
  refine g_icmp_ge (tgt := 103) hw dX1_feed_81 (by decide) (fun hb14 => ?_) (fun hb14 => ?_)
  · have h := gT h hb14
    refine g_sub hw (lv2 := [(0, .ref (gA G 16)), (1, .long l1_1), (3, .long l3_2), (5, .long l5_3), (7, .int l7_11)]) [0, 1, 2, 3, 4] rfl ?_
    exact wX1_feed_b103 hw hkf hR3 h
  · have h := gF h hb14
    refine g_aload_n hw 0 dX1_feed_84 rfl ?_
    obtain ⟨a16, e17, h⟩ := h
    refine gfX1_33 (q := some a16) hw rfl dX1_feed_85 hk13 e17 ?_
    refine g_aload_n hw 0 dX1_feed_88 rfl ?_
    refine g_dup hw dX1_feed_89 rfl ?_
    refine gfX1_252 hw rfl dX1_feed_90 hk13 ?_
    refine g_dup_x1 hw dX1_feed_93 rfl rfl ?_
    refine g_iconst (v := 1) hw dX1_feed_94 (by decide) ?_
    refine g_iadd hw dX1_feed_95 ?_
    refine pfX1_252 hw rfl dX1_feed_96 hk13 ?_
    refine g_iload hw 5 dX1_feed_99 rfl ?_
    refine g_i2b hw dX1_feed_101 ?_
    obtain ⟨hk18, h⟩ := h
    obtain ⟨hi19, h⟩ := h
    refine g_bast (n := (gI M 16 7).toNatClampNeg) hw dX1_feed_102 hk18 hi19 rfl (pk_nb _) ?_
    refine g_sub hw (lv2 := [(0, .ref (gA G 16)), (1, .long l1_1), (3, .long l3_2), (5, .long l5_3), (7, .int l7_11)]) [0, 1, 2, 3, 4] rfl ?_
    exact wX1_feed_b103 hw hkf hR3 h
def fX1_feed_b34 (R3 : Int32 → gM → Prop) (l1_1 : Int64) (l3_2 : Int64) (l5_3 : Int64) (l7_8 : Int32) (s0_9 : Int64) (M : gM) (Q : Int32 → gM → Prop) : Prop :=
  (if (((s0_9 >>> ((56 - (8 * (l7_8 - l7_8 / 8 * 8))).toInt64 &&& 63)).toInt32) &&& 255) = 10 then fX1_feed_b74 R3 l1_1 l3_2 l5_3 l7_8 (((s0_9 >>> ((56 - (8 * (l7_8 - l7_8 / 8 * 8))).toInt64 &&& 63)).toInt32) &&& 255) M Q else (if (((s0_9 >>> ((56 - (8 * (l7_8 - l7_8 / 8 * 8))).toInt64 &&& 63)).toInt32) &&& 255) < 32 then fX1_feed_b103 R3 l1_1 l3_2 l5_3 l7_8 M Q else (if 126 < (((s0_9 >>> ((56 - (8 * (l7_8 - l7_8 / 8 * 8))).toInt64 &&& 63)).toInt32) &&& 255) then fX1_feed_b103 R3 l1_1 l3_2 l5_3 l7_8 M Q else fX1_feed_b74 R3 l1_1 l3_2 l5_3 l7_8 (((s0_9 >>> ((56 - (8 * (l7_8 - l7_8 / 8 * 8))).toInt64 &&& 63)).toInt32) &&& 255) M Q)))
theorem wX1_feed_b34 {kf : Nat} {G : gG} {w : gM → Nat → List (Nat × Value) → List Value → Prop} {Q : Int32 → gM → Prop} (hw : gX yX1_feed cX1_feed 9 (Option.some FieldType.int) [] kf G (gQi Q) gE0 w) (hkf : 1 ≤ kf) {R3 : Int32 → gM → Prop} {l1_1 : Int64} {l3_2 : Int64} {l5_3 : Int64} {l7_8 : Int32} {s0_9 : Int64} {M : gM} (hR3 : ∀ (v0 : Int32) (M : gM), R3 v0 M → w M 3 [(0, .ref (gA G 16)), (1, .long l1_1), (3, .long l3_2), (5, .long l5_3), (7, .int v0)] []) (h : fX1_feed_b34 R3 l1_1 l3_2 l5_3 l7_8 s0_9 M Q) : w M 34 [(0, .ref (gA G 16)), (1, .long l1_1), (3, .long l3_2), (5, .long l5_3), (7, .int l7_8)] [.long s0_9] := by
  unfold fX1_feed_b34 at h
  refine g_bipush (v := 56) hw dX1_feed_34 (by decide) ?_
  refine g_bipush (v := 8) hw dX1_feed_36 (by decide) ?_
  refine g_iload hw 4 dX1_feed_38 rfl ?_
  refine g_bipush (v := 8) hw dX1_feed_40 (by decide) ?_
  refine g_irem hw dX1_feed_42 (by decide) ?_
  refine g_imul hw dX1_feed_43 ?_
  refine g_isub hw dX1_feed_44 ?_
  refine g_lshr hw dX1_feed_45 ?_
  refine g_l2i hw dX1_feed_46 ?_
  refine g_sipush (v := 255) hw dX1_feed_47 (by decide) ?_
  refine g_iand hw dX1_feed_50 ?_
  refine g_istore hw (lv2 := [(0, .ref (gA G 16)), (1, .long l1_1), (3, .long l3_2), (5, .long l5_3), (7, .int l7_8), (8, .int (((s0_9 >>> ((56 - (8 * (l7_8 - l7_8 / 8 * 8))).toInt64 &&& 63)).toInt32) &&& 255))]) [1, 2, 3, 4, 5, 0] dX1_feed_51 rfl rfl ?_
  refine g_iload hw 5 dX1_feed_53 rfl ?_
  refine g_bipush (v := 10) hw dX1_feed_55 (by decide) ?_
  refine g_icmp_eq (tgt := 74) hw dX1_feed_57 (by decide) (fun hb10 => ?_) (fun hb10 => ?_)
  · have h := gT h hb10
    exact wX1_feed_b74 hw hkf hR3 h
  · have h := gF h hb10
    refine g_iload hw 5 dX1_feed_60 rfl ?_
    refine g_bipush (v := 32) hw dX1_feed_62 (by decide) ?_
    refine g_icmp_lt (tgt := 103) hw dX1_feed_64 (by decide) (fun hb20 => ?_) (fun hb20 => ?_)
    · have h := gT h hb20
      refine g_sub hw (lv2 := [(0, .ref (gA G 16)), (1, .long l1_1), (3, .long l3_2), (5, .long l5_3), (7, .int l7_8)]) [0, 1, 2, 3, 4] rfl ?_
      exact wX1_feed_b103 hw hkf hR3 h
    · have h := gF h hb20
      refine g_iload hw 5 dX1_feed_67 rfl ?_
      refine g_bipush (v := 126) hw dX1_feed_69 (by decide) ?_
      refine g_icmp_gt (tgt := 103) hw dX1_feed_71 (by decide) (fun hb21 => ?_) (fun hb21 => ?_)
      · have h := gT h hb21
        refine g_sub hw (lv2 := [(0, .ref (gA G 16)), (1, .long l1_1), (3, .long l3_2), (5, .long l5_3), (7, .int l7_8)]) [0, 1, 2, 3, 4] rfl ?_
        exact wX1_feed_b103 hw hkf hR3 h
      · have h := gF h hb21
        exact wX1_feed_b74 hw hkf hR3 h
def fX1_feed_L3s (R3 : Int32 → gM → Prop) (K109_3 : gM → Prop) (l1_1 : Int64) (l3_2 : Int64) (l5_3 : Int64) (l7_4 : Int32) (M : gM) (Q : Int32 → gM → Prop) : Prop :=
  (if 24 ≤ l7_4 then K109_3 M else (if 8 ≤ l7_4 then (if 16 ≤ l7_4 then fX1_feed_b34 R3 l1_1 l3_2 l5_3 l7_4 l5_3 M Q else fX1_feed_b34 R3 l1_1 l3_2 l5_3 l7_4 l3_2 M Q) else fX1_feed_b34 R3 l1_1 l3_2 l5_3 l7_4 l1_1 M Q))
def fX1_feed_L3 (K109_3 : gM → Prop) (l1_1 : Int64) (l3_2 : Int64) (l5_3 : Int64) (Q : Int32 → gM → Prop) : Nat → Int32 → gM → Prop
  | 0 => fun _ _ => False
  | n + 1 => fun l7_4 M => fX1_feed_L3s (fX1_feed_L3 K109_3 l1_1 l3_2 l5_3 Q n) K109_3 l1_1 l3_2 l5_3 l7_4 M Q
theorem wX1_feed_L3s {kf : Nat} {G : gG} {w : gM → Nat → List (Nat × Value) → List Value → Prop} {Q : Int32 → gM → Prop} (hw : gX yX1_feed cX1_feed 9 (Option.some FieldType.int) [] kf G (gQi Q) gE0 w) (hkf : 1 ≤ kf) {R3 : Int32 → gM → Prop} {K109_3 : gM → Prop} {l1_1 : Int64} {l3_2 : Int64} {l5_3 : Int64} {l7_4 : Int32} {M : gM} (hR3 : ∀ (v0 : Int32) (M : gM), R3 v0 M → w M 3 [(0, .ref (gA G 16)), (1, .long l1_1), (3, .long l3_2), (5, .long l5_3), (7, .int v0)] []) (hK109_3 : ∀  (M : gM), K109_3 M → w M 109 [(0, .ref (gA G 16))] []) (h : fX1_feed_L3s R3 K109_3 l1_1 l3_2 l5_3 l7_4 M Q) : w M 3 [(0, .ref (gA G 16)), (1, .long l1_1), (3, .long l3_2), (5, .long l5_3), (7, .int l7_4)] [] := by
  unfold fX1_feed_L3s at h
  refine g_iload hw 4 dX1_feed_3 rfl ?_
  refine g_bipush (v := 24) hw dX1_feed_5 (by decide) ?_
  refine g_icmp_ge (tgt := 109) hw dX1_feed_7 (by decide) (fun hb5 => ?_) (fun hb5 => ?_)
  · have h := gT h hb5
    refine g_sub hw (lv2 := [(0, .ref (gA G 16))]) [0] rfl ?_
    exact hK109_3 M h
  · have h := gF h hb5
    refine g_iload hw 4 dX1_feed_10 rfl ?_
    refine g_bipush (v := 8) hw dX1_feed_12 (by decide) ?_
    refine g_icmp_ge (tgt := 21) hw dX1_feed_14 (by decide) (fun hb6 => ?_) (fun hb6 => ?_)
    · have h := gT h hb6
      refine g_iload hw 4 dX1_feed_21 rfl ?_
      refine g_bipush (v := 16) hw dX1_feed_23 (by decide) ?_
      refine g_icmp_ge (tgt := 32) hw dX1_feed_25 (by decide) (fun hb7 => ?_) (fun hb7 => ?_)
      · have h := gT h hb7
        refine g_lload hw 3 dX1_feed_32 rfl ?_
        exact wX1_feed_b34 hw hkf hR3 h
      · have h := gF h hb7
        refine g_lload_n hw 2 dX1_feed_28 rfl ?_
        refine g_goto (tgt := 34) hw dX1_feed_29 (by decide) ?_
        exact wX1_feed_b34 hw hkf hR3 h
    · have h := gF h hb6
      refine g_lload_n hw 1 dX1_feed_17 rfl ?_
      refine g_goto (tgt := 34) hw dX1_feed_18 (by decide) ?_
      exact wX1_feed_b34 hw hkf hR3 h
theorem wX1_feed_L3 {kf : Nat} {G : gG} {w : gM → Nat → List (Nat × Value) → List Value → Prop} {Q : Int32 → gM → Prop} (hw : gX yX1_feed cX1_feed 9 (Option.some FieldType.int) [] kf G (gQi Q) gE0 w) (hkf : 1 ≤ kf) {K109_3 : gM → Prop} {l1_1 : Int64} {l3_2 : Int64} {l5_3 : Int64} (hK109_3 : ∀  (M : gM), K109_3 M → w M 109 [(0, .ref (gA G 16))] []) : ∀ (n : Nat) (l7_4 : Int32) (M : gM), fX1_feed_L3 K109_3 l1_1 l3_2 l5_3 Q n l7_4 M → w M 3 [(0, .ref (gA G 16)), (1, .long l1_1), (3, .long l3_2), (5, .long l5_3), (7, .int l7_4)] [] := by
  intro n
  induction n with
  | zero => intro l7_4 M h; exact h.elim
  | succ n ih => intro l7_4 M h; exact wX1_feed_L3s hw hkf ih hK109_3 h
def fX1_feed (p1 : Int64) (p2 : Int64) (p3 : Int64) (M : gM) (Q : Int32 → gM → Prop) : Prop :=
  ∃ n, fX1_feed_L3 (fun M22 => gk M22 16 = 1 ∧ Q (gI M22 16 7) M22) p1 p2 p3 Q n 0 M
theorem mX1_feed {kf : Nat} (hkf : 1 ≤ kf) (G : gG) (p1 : Int64) (p2 : Int64) (p3 : Int64) (M : gM) (Q : Int32 → gM → Prop) (h : fX1_feed p1 p2 p3 M Q) : gMet yX1_feed cX1_feed 9 (Option.some FieldType.int) kf G M [.ref (gA G 16), .long p1, .long p2, .long p3] (gQi Q) gE0 := by
  refine g_intro (lv := [(0, .ref (gA G 16)), (1, .long p1), (3, .long p2), (5, .long p3)]) (by decide) rfl rfl (fun w hw => ?_)
  unfold fX1_feed at h
  refine g_iconst (v := 0) hw dX1_feed_0 (by decide) ?_
  refine g_istore hw (lv2 := [(0, .ref (gA G 16)), (1, .long p1), (3, .long p2), (5, .long p3), (7, .int 0)]) [1, 2, 3, 4, 0] dX1_feed_1 rfl rfl ?_
  obtain ⟨n9, h⟩ := h
  refine wX1_feed_L3 hw hkf (fun M22 h => ?_) n9 0 M h
  refine g_aload_n hw 0 dX1_feed_109 rfl ?_
  obtain ⟨hk23, h⟩ := h
  refine gfX1_252 hw rfl dX1_feed_110 hk23 ?_
  exact g_iret hw dX1_feed_113 rfl ⟨_, rfl, h⟩
def fX1_isLaw (p1 : Int32) (M : gM) (Q : Int32 → gM → Prop) : Prop :=
  fX1_in p1 0 3 M (fun r2 M1 => (r2 = 0 ∨ r2 = 1) ∧ Q r2 M1)
theorem mX1_isLaw {kf : Nat} (hkf : 2 ≤ kf) (G : gG) (p1 : Int32) (M : gM) (Q : Int32 → gM → Prop) (h : fX1_isLaw p1 M Q) : gMet yX1_isLaw cX1_isLaw 1 (Option.some FieldType.boolean) kf G M [.int p1] (gQi Q) gE0 := by
  refine g_intro (lv := [(0, .int p1)]) (by decide) rfl rfl (fun w hw => ?_)
  unfold fX1_isLaw at h
  refine g_iload_n hw 0 dX1_isLaw_0 rfl ?_
  refine g_iconst (v := 0) hw dX1_isLaw_1 (by decide) ?_
  refine g_iconst (v := 3) hw dX1_isLaw_2 (by decide) ?_
  refine sX1_112 hw rfl dX1_isLaw_3 rfl (gK2 hkf) h (fun r2 M1 h => ?_)
  obtain ⟨hc3, h⟩ := h
  exact g_iret hw dX1_isLaw_6 (gBool hc3) ⟨_, rfl, h⟩
theorem sX1_255 {y0 : MethodName} {cc : ByteArray} {nL : Nat} {ret : Option FieldType} {hh : List (Nat × Nat × Nat × Nat)} {kf : Nat} {G : gG} {Qv : Option Value → gM → Prop} {E : String → Nat → gM → Prop} {w : gM → Nat → List (Nat × Value) → List Value → Prop} {M : gM} {pc : Nat} {lv : List (Nat × Value)} {rest : List Value} (hw : gX y0 cc nL ret hh kf G Qv E w) (hy : y0.cls = RX1) {p1 : Int32} {Q : Int32 → gM → Prop} (d : decode cc pc = .ok (.invokestatic 255, 3)) (hrest : Nat.ble ((rest.map Value.category).sum) 8 = true) (hk : 2 + 1 ≤ kf) (h : fX1_isLaw p1 M Q) (kk : ∀ r M1, Q r M1 → w M1 (pc + 3) lv (.int r :: rest)) : w M pc lv (.int p1 :: rest) := by
  obtain ⟨cls9, nm9, ds9⟩ := y0
  subst hy
  exact g_callS hw [.int p1] (nA := 1) rfl d q497 q498 q98 q499 (by decide +kernel) rfl hrest rfl (by omega : kf - 1 + 1 ≤ kf) (mX1_isLaw (kf := kf - 1) (by omega) G p1 M Q h) (fun _ _ _ q => q.elim) (fun v M1 h => by obtain ⟨r, rfl, h⟩ := h; exact kk r M1 h)
theorem gfX1_40 {y0 : MethodName} {cc : ByteArray} {nL : Nat} {ret : Option FieldType} {hh : List (Nat × Nat × Nat × Nat)} {kf : Nat} {G : gG} {Qv : Option Value → gM → Prop} {E : String → Nat → gM → Prop} {w : gM → Nat → List (Nat × Value) → List Value → Prop} {M : gM} {pc : Nat} {lv : List (Nat × Value)} {rest : List Value} (hw : gX y0 cc nL ret hh kf G Qv E w) (hy : y0.cls = RX1) {c : Nat} {q : Option Nat} (d : decode cc pc = .ok (.getfield 40, 3)) (hk : gk M c = 1) (hq : gR M c 4 = q) (kk : w M (pc + 3) lv (va_rf (q.map (gA G)) :: rest)) : w M pc lv (.ref (gA G c) :: rest) := by
  obtain ⟨cls9, nm9, ds9⟩ := y0
  subst hy
  subst hq
  exact g_getC (C := RX1) (T := TX1) (N := 28) (ci := 0) hw in_X1 rfl 4 (by decide) (Or.inl q276) rfl d hk kk
theorem sX1_258 {y0 : MethodName} {cc : ByteArray} {nL : Nat} {ret : Option FieldType} {hh : List (Nat × Nat × Nat × Nat)} {kf : Nat} {G : gG} {Qv : Option Value → gM → Prop} {E : String → Nat → gM → Prop} {w : gM → Nat → List (Nat × Value) → List Value → Prop} {M : gM} {pc : Nat} {lv : List (Nat × Value)} {rest : List Value} (hw : gX y0 cc nL ret hh kf G Qv E w) (hy : y0.cls = RX1) {p1 : Nat} {p2 : Int32} {Q : gM → Prop} (d : decode cc pc = .ok (.invokevirtual 258, 3)) (hrest : Nat.ble ((rest.map Value.category).sum) 8 = true) (hk : 6 + 1 ≤ kf) (hkd : gk M 25 = 2) (h : fX2_begin p1 p2 M Q) (kk : ∀ M1, Q M1 → w M1 (pc + 3) lv rest) : w M pc lv (.int p2 :: .ref (gA G p1) :: .ref (gA G 25) :: rest) := by
  obtain ⟨cls9, nm9, ds9⟩ := y0
  subst hy
  exact g_callV (r := (RX2, TX2, 8)) (ci := 1) hw [.ref (gA G p1), .int p2] (nA := 2) rfl d q500 q501 q502 q99 q503 (by decide +kernel) rfl rfl hrest rfl (by omega : kf - 1 + 1 ≤ kf) hkd (mX2_begin (kf := kf - 1) (by omega) G p1 p2 M Q h) (fun _ _ _ q => q.elim) (fun v M1 h => by obtain ⟨rfl, h⟩ := h; exact kk M1 h)
theorem sX1_261H {y0 : MethodName} {cc : ByteArray} {nL : Nat} {ret : Option FieldType} {hh : List (Nat × Nat × Nat × Nat)} {kf : Nat} {G : gG} {Qv : Option Value → gM → Prop} {E : String → Nat → gM → Prop} {E1 : Nat → gM → Prop} {w : gM → Nat → List (Nat × Value) → List Value → Prop} {M : gM} {pc : Nat} {lv : List (Nat × Value)} {rest : List Value} (hw : gX y0 cc nL ret hh kf G Qv E w) (hy : y0.cls = RX1)  {Q : Nat → gM → Prop} (d : decode cc pc = .ok (.invokevirtual 261, 3)) (hrest : Nat.ble ((rest.map Value.category).sum) 8 = true) (hk : 51 + 1 ≤ kf) (hkd : gk M 25 = 2) (h : fX2_law M Q E1) (kx : ∀ cls o M1, gEx "RiverWage$Wrong" E1 cls o M1 → gCat y0.cls hh G E w pc lv cls o M1) (kk : ∀ r M1, Q r M1 → w M1 (pc + 3) lv (.ref (gA G r) :: rest)) : w M pc lv (.ref (gA G 25) :: rest) := by
  obtain ⟨cls9, nm9, ds9⟩ := y0
  subst hy
  exact g_callV (r := (RX2, TX2, 8)) (ci := 1) hw [] (nA := 0) rfl d q603 q604 q605 q99 q606 (by decide +kernel) rfl rfl hrest rfl (by omega : kf - 1 + 1 ≤ kf) hkd (mX2_law (kf := kf - 1) (by omega) G M Q E1 h) kx (fun v M1 h => by obtain ⟨r, rfl, h⟩ := h; exact kk r M1 h)
theorem gfX1_267 {y0 : MethodName} {cc : ByteArray} {nL : Nat} {ret : Option FieldType} {hh : List (Nat × Nat × Nat × Nat)} {kf : Nat} {G : gG} {Qv : Option Value → gM → Prop} {E : String → Nat → gM → Prop} {w : gM → Nat → List (Nat × Value) → List Value → Prop} {M : gM} {pc : Nat} {lv : List (Nat × Value)} {rest : List Value} (hw : gX y0 cc nL ret hh kf G Qv E w) (hy : y0.cls = RX1) {c : Nat} (d : decode cc pc = .ok (.getfield 267, 3)) (hk : gk M c = 8) (kk : w M (pc + 3) lv (.int (gI M c 6) :: rest)) : w M pc lv (.ref (gA G c) :: rest) := by
  obtain ⟨cls9, nm9, ds9⟩ := y0
  subst hy
  exact g_getC (C := RX8) (T := TX8) (N := 7) (ci := 7) hw in_X8 rfl 6 (by decide) (Or.inr ⟨_, q694⟩) rfl d hk kk
def fX1_law (p1 : Int32) (M : gM) (Q : Int32 → gM → Prop) : Prop :=
  gk M 16 = 1 ∧ fX1_isLaw p1 (gsI M 16 7 0) (fun r3 M2 => (if r3 = 0 then Q (-1) M2 else gk M2 16 = 1 ∧ gdr (gR M2 16 4) (fun a6 => gdr (gR M2 16 3) (fun a8 => gk M2 a6 = 2 ∧ (a6 = 25) ∧ fX2_begin a8 (gI M 16 7) M2 (fun M12 => gk M12 16 = 1 ∧ gdr (gR M12 16 5) (fun a15 => gdr (gR M12 16 4) (fun a17 => gk M12 a17 = 2 ∧ (a17 = 25) ∧ fX2_law M12 (fun r22 M21 => gk M21 a15 = 45 ∧ vp_in p1 (gl M21 a15) ∧ gk M21 r22 = 5 ∧ Q 0 (gsR M21 a15 p1.toNatClampNeg (some r22))) (fun o23 M24 => gk M24 o23 = 8 ∧ Q (gI M24 o23 6) M24))))))))
theorem mX1_law {kf : Nat} (hkf : 52 ≤ kf) (G : gG) (p1 : Int32) (M : gM) (Q : Int32 → gM → Prop) (h : fX1_law p1 M Q) : gMetW yX1_law cX1_law 4 (Option.some FieldType.int) [(31, 44, 47, 265)] kf G M [.ref (gA G 16), .int p1] (gQi Q) gE0 := by
  refine g_introW (lv := [(0, .ref (gA G 16)), (1, .int p1)]) (by decide) rfl rfl (by decide) (fun w hw => ?_)
  unfold fX1_law at h
  refine g_aload_n hw 0 dX1_law_0 rfl ?_
  obtain ⟨hk1, h⟩ := h
  refine gfX1_252 hw rfl dX1_law_1 hk1 ?_
  refine g_istore_n hw (lv2 := [(0, .ref (gA G 16)), (1, .int p1), (2, .int (gI M 16 7))]) [1, 2, 0] dX1_law_4 rfl rfl ?_
  refine g_aload_n hw 0 dX1_law_5 rfl ?_
  refine g_iconst (v := 0) hw dX1_law_6 (by decide) ?_
  refine pfX1_252 hw rfl dX1_law_7 hk1 ?_
  refine g_iload_n hw 1 dX1_law_10 rfl ?_
  refine sX1_255 hw rfl dX1_law_11 rfl (gK2 hkf) h (fun r3 M2 h => ?_)
  refine g_if_ne (tgt := 19) hw dX1_law_14 (by decide) (fun hb4 => ?_) (fun hb4 => ?_)
  · have h := gF h hb4
    refine g_aload_n hw 0 dX1_law_19 rfl ?_
    obtain ⟨hk5, h⟩ := h
    obtain ⟨a6, e7, h⟩ := h
    refine gfX1_40 (q := some a6) hw rfl dX1_law_20 hk5 e7 ?_
    refine g_aload_n hw 0 dX1_law_23 rfl ?_
    obtain ⟨a8, e9, h⟩ := h
    refine gfX1_33 (q := some a8) hw rfl dX1_law_24 hk5 e9 ?_
    refine g_iload_n hw 2 dX1_law_27 rfl ?_
    obtain ⟨hk10, h⟩ := h
    obtain ⟨hr11, h⟩ := h
    rw [hr11]
    refine sX1_258 hw rfl dX1_law_28 rfl (gK2 hkf) (hr11 ▸ hk10) h (fun M12 h => ?_)
    refine g_aload_n hw 0 dX1_law_31 rfl ?_
    obtain ⟨hk14, h⟩ := h
    obtain ⟨a15, e16, h⟩ := h
    refine gfX1_46 (q := some a15) hw rfl dX1_law_32 hk14 e16 ?_
    refine g_iload_n hw 1 dX1_law_35 rfl ?_
    refine g_aload_n hw 0 dX1_law_36 rfl ?_
    obtain ⟨a17, e18, h⟩ := h
    refine gfX1_40 (q := some a17) hw rfl dX1_law_37 hk14 e18 ?_
    obtain ⟨hk19, h⟩ := h
    obtain ⟨hr20, h⟩ := h
    rw [hr20]
    refine sX1_261H hw rfl dX1_law_40 rfl (gK2 hkf) (hr20 ▸ hk19) h (gCatH (by decide) q496 q643 (fun o23 M24 h => ?_)) (fun r22 M21 h => ?_)
    · refine g_astore_n hw (lv2 := [(3, .ref (gA G o23))]) [0] dX1_law_47 rfl rfl ?_
      refine g_aload_n hw 0 dX1_law_48 rfl ?_
      obtain ⟨hk25, h⟩ := h
      refine gfX1_267 hw rfl dX1_law_49 hk25 ?_
      exact g_iret hw dX1_law_52 rfl ⟨_, rfl, h⟩
    obtain ⟨hk26, h⟩ := h
    obtain ⟨hi27, h⟩ := h
    obtain ⟨hk28, h⟩ := h
    refine g_aast (n := p1.toNatClampNeg) (ci := 4) hw 5 dX1_law_43 ⟨rfl, rfl⟩ rfl hk26 hi27 rfl rfl hk28 (Or.inl rfl) ?_
    refine g_goto (tgt := 53) hw dX1_law_44 (by decide) ?_
    refine g_iconst (v := 0) hw dX1_law_53 (by decide) ?_
    exact g_iret hw dX1_law_54 rfl ⟨_, rfl, h⟩
  · have h := gT h hb4
    refine g_iconst (v := (-1)) hw dX1_law_17 (by decide) ?_
    exact g_iret hw dX1_law_18 rfl ⟨_, rfl, h⟩
theorem gfX1_83 {y0 : MethodName} {cc : ByteArray} {nL : Nat} {ret : Option FieldType} {hh : List (Nat × Nat × Nat × Nat)} {kf : Nat} {G : gG} {Qv : Option Value → gM → Prop} {E : String → Nat → gM → Prop} {w : gM → Nat → List (Nat × Value) → List Value → Prop} {M : gM} {pc : Nat} {lv : List (Nat × Value)} {rest : List Value} (hw : gX y0 cc nL ret hh kf G Qv E w) (hy : y0.cls = RX1) {c : Nat} {q : Option Nat} (d : decode cc pc = .ok (.getfield 83, 3)) (hk : gk M c = 1) (hq : gR M c 18 = q) (kk : w M (pc + 3) lv (va_rf (q.map (gA G)) :: rest)) : w M pc lv (.ref (gA G c) :: rest) := by
  obtain ⟨cls9, nm9, ds9⟩ := y0
  subst hy
  subst hq
  exact g_getC (C := RX1) (T := TX1) (N := 28) (ci := 0) hw in_X1 rfl 18 (by decide) (Or.inl q290) rfl d hk kk
theorem sX1_293 {y0 : MethodName} {cc : ByteArray} {nL : Nat} {ret : Option FieldType} {hh : List (Nat × Nat × Nat × Nat)} {kf : Nat} {G : gG} {Qv : Option Value → gM → Prop} {E : String → Nat → gM → Prop} {w : gM → Nat → List (Nat × Value) → List Value → Prop} {M : gM} {pc : Nat} {lv : List (Nat × Value)} {rest : List Value} (hw : gX y0 cc nL ret hh kf G Qv E w) (hy : y0.cls = RX1) {c0 p1 : Nat} {Q : Int32 → gM → Prop} (d : decode cc pc = .ok (.invokevirtual 293, 3)) (hrest : Nat.ble ((rest.map Value.category).sum) 8 = true) {n : Nat} (hk : 1011 + 1 ≤ kf) (hn : n ≤ 1010) (h : fEw n c0 p1 M Q) (kk : ∀ r M1, Q r M1 → w M1 (pc + 3) lv (.int r :: rest)) : w M pc lv (.ref (gA G p1) :: .ref (gA G c0) :: rest) := by
  obtain ⟨cls9, nm9, ds9⟩ := y0
  subst hy
  exact g_callW hw d q818 hrest (by omega) (mEw G n (kf - 1) c0 p1 M Q (by omega) h) kk
def fX1_isSo_b19  (M : gM) (Q : Int32 → gM → Prop) : Prop :=
  Q 0 M
theorem wX1_isSo_b19 {kf : Nat} {G : gG} {w : gM → Nat → List (Nat × Value) → List Value → Prop} {Q : Int32 → gM → Prop} (hw : gX yX1_isSo cX1_isSo 2 (Option.some FieldType.boolean) [] kf G (gQi Q) gE0 w) (hkf : 1012 ≤ kf)   {M : gM}  (h : fX1_isSo_b19 M Q) : w M 19 [] [] := by
  unfold fX1_isSo_b19 at h
  refine g_iconst (v := 0) hw dX1_isSo_19 (by decide) ?_
  exact g_iret hw dX1_isSo_20 (by decide +kernel) ⟨_, rfl, h⟩
def fX1_isSo (p1 : Option Nat) (M : gM) (Q : Int32 → gM → Prop) : Prop :=
  (if p1 = none then fX1_isSo_b19 M Q else gk M 16 = 1 ∧ gdr (gR M 16 18) (fun a3 => gdr (p1) (fun a5 => ∃ n9, n9 ≤ 1010 ∧ fEw n9 a5 a3 M (fun r8 M7 => (if r8 = 0 then fX1_isSo_b19 M7 Q else Q 1 M7)))))
theorem mX1_isSo {kf : Nat} (hkf : 1012 ≤ kf) (G : gG) (p1 : Option Nat) (M : gM) (Q : Int32 → gM → Prop) (h : fX1_isSo p1 M Q) : gMet yX1_isSo cX1_isSo 2 (Option.some FieldType.boolean) kf G M [.ref (gA G 16), va_rf (p1.map (gA G))] (gQi Q) gE0 := by
  refine g_intro (lv := [(0, .ref (gA G 16)), (1, va_rf (p1.map (gA G)))]) (by decide) (by cases p1 <;> rfl) (by cases p1 <;> rfl) (fun w hw => ?_)
  unfold fX1_isSo at h
  refine g_aload_nq hw 1 dX1_isSo_0 rfl ?_
  refine g_ifnullM (tgt := 19) hw dX1_isSo_1 (by decide) (fun hb1 => ?_) (fun hb1 => ?_)
  · have h := gT h hb1
    refine g_sub hw (lv2 := []) [] rfl ?_
    exact wX1_isSo_b19 hw hkf h
  · have h := gF h hb1
    refine g_aload_nq hw 1 dX1_isSo_4 rfl ?_
    refine g_aload_n hw 0 dX1_isSo_5 rfl ?_
    obtain ⟨hk2, h⟩ := h
    obtain ⟨a3, e4, h⟩ := h
    refine gfX1_83 (q := some a3) hw rfl dX1_isSo_6 hk2 e4 ?_
    obtain ⟨a5, e6, h⟩ := h
    rw [e6]
    obtain ⟨n9, hn9, h⟩ := h
    refine sX1_293 hw rfl dX1_isSo_9 rfl (gK2 hkf) hn9 h (fun r8 M7 h => ?_)
    refine g_if_eq (tgt := 19) hw dX1_isSo_12 (by decide) (fun hb9 => ?_) (fun hb9 => ?_)
    · have h := gT h hb9
      refine g_sub hw (lv2 := []) [] rfl ?_
      exact wX1_isSo_b19 hw hkf h
    · have h := gF h hb9
      refine g_iconst (v := 1) hw dX1_isSo_15 (by decide) ?_
      refine g_goto (tgt := 20) hw dX1_isSo_16 (by decide) ?_
      exact g_iret hw dX1_isSo_20 (by decide +kernel) ⟨_, rfl, h⟩
theorem sX1_299 {y0 : MethodName} {cc : ByteArray} {nL : Nat} {ret : Option FieldType} {hh : List (Nat × Nat × Nat × Nat)} {kf : Nat} {G : gG} {Qv : Option Value → gM → Prop} {E : String → Nat → gM → Prop} {w : gM → Nat → List (Nat × Value) → List Value → Prop} {M : gM} {pc : Nat} {lv : List (Nat × Value)} {rest : List Value} (hw : gX y0 cc nL ret hh kf G Qv E w) (hy : y0.cls = RX1) {p1 : Int32} {p2 : Int32} {Q : Int32 → gM → Prop} (d : decode cc pc = .ok (.invokestatic 299, 3)) (hrest : Nat.ble ((rest.map Value.category).sum) 8 = true) (hk : 1 + 1 ≤ kf) (h : fJ0_min p1 p2 M Q) (kk : ∀ r M1, Q r M1 → w M1 (pc + 3) lv (.int r :: rest)) : w M pc lv (.int p2 :: .int p1 :: rest) := by
  obtain ⟨cls9, nm9, ds9⟩ := y0
  subst hy
  exact g_callS hw [.int p1, .int p2] (nA := 2) rfl d q839 q549 q105 q550 (by decide +kernel) rfl hrest rfl (by omega : kf - 1 + 1 ≤ kf) (mJ0_min (kf := kf - 1) (by omega) G p1 p2 M Q h) (fun _ _ _ q => q.elim) (fun v M1 h => by obtain ⟨r, rfl, h⟩ := h; exact kk r M1 h)
def fX1_hired (p1 : Option Nat) (p2 : Int32) (M : gM) (Q : Int32 → gM → Prop) : Prop :=
  (if p1 = none then Q p2 M else gk M 16 = 1 ∧ gdr (gR M 16 18) (fun a3 => gdr (p1) (fun a5 => ∃ n9, n9 ≤ 1010 ∧ fEw n9 a5 a3 M (fun r8 M7 => fJ0_min 99 r8 M7 (fun r10 M9 => fJ0_max 0 r10 M9 (fun r12 M11 => Q r12 M11))))))
theorem mX1_hired {kf : Nat} (hkf : 1012 ≤ kf) (G : gG) (p1 : Option Nat) (p2 : Int32) (M : gM) (Q : Int32 → gM → Prop) (h : fX1_hired p1 p2 M Q) : gMet yX1_hired cX1_hired 3 (Option.some FieldType.int) kf G M [.ref (gA G 16), va_rf (p1.map (gA G)), .int p2] (gQi Q) gE0 := by
  refine g_intro (lv := [(0, .ref (gA G 16)), (1, va_rf (p1.map (gA G))), (2, .int p2)]) (by decide) (by cases p1 <;> rfl) (by cases p1 <;> rfl) (fun w hw => ?_)
  unfold fX1_hired at h
  refine g_aload_nq hw 1 dX1_hired_0 rfl ?_
  refine g_ifnonnullM (tgt := 8) hw dX1_hired_1 (by decide) (fun hb1 => ?_) (fun hb1 => ?_)
  · have h := gF h hb1
    refine g_iconst (v := 0) hw dX1_hired_8 (by decide) ?_
    refine g_bipush (v := 99) hw dX1_hired_9 (by decide) ?_
    refine g_aload_nq hw 1 dX1_hired_11 rfl ?_
    refine g_aload_n hw 0 dX1_hired_12 rfl ?_
    obtain ⟨hk2, h⟩ := h
    obtain ⟨a3, e4, h⟩ := h
    refine gfX1_83 (q := some a3) hw rfl dX1_hired_13 hk2 e4 ?_
    obtain ⟨a5, e6, h⟩ := h
    rw [e6]
    obtain ⟨n9, hn9, h⟩ := h
    refine sX1_293 hw rfl dX1_hired_16 rfl (gK2 hkf) hn9 h (fun r8 M7 h => ?_)
    refine sX1_299 hw rfl dX1_hired_19 rfl (gK2 hkf) h (fun r10 M9 h => ?_)
    refine sX1_145 hw rfl dX1_hired_22 rfl (gK2 hkf) h (fun r12 M11 h => ?_)
    exact g_iret hw dX1_hired_25 rfl ⟨_, rfl, h⟩
  · have h := gT h hb1
    refine g_iload_n hw 2 dX1_hired_4 rfl ?_
    refine g_goto (tgt := 25) hw dX1_hired_5 (by decide) ?_
    exact g_iret hw dX1_hired_25 rfl ⟨_, rfl, h⟩
theorem gfX1_77 {y0 : MethodName} {cc : ByteArray} {nL : Nat} {ret : Option FieldType} {hh : List (Nat × Nat × Nat × Nat)} {kf : Nat} {G : gG} {Qv : Option Value → gM → Prop} {E : String → Nat → gM → Prop} {w : gM → Nat → List (Nat × Value) → List Value → Prop} {M : gM} {pc : Nat} {lv : List (Nat × Value)} {rest : List Value} (hw : gX y0 cc nL ret hh kf G Qv E w) (hy : y0.cls = RX1) {c : Nat} {q : Option Nat} (d : decode cc pc = .ok (.getfield 77, 3)) (hk : gk M c = 1) (hq : gR M c 16 = q) (kk : w M (pc + 3) lv (va_rf (q.map (gA G)) :: rest)) : w M pc lv (.ref (gA G c) :: rest) := by
  obtain ⟨cls9, nm9, ds9⟩ := y0
  subst hy
  subst hq
  exact g_getC (C := RX1) (T := TX1) (N := 28) (ci := 0) hw in_X1 rfl 16 (by decide) (Or.inl q288) rfl d hk kk
theorem gfX1_80 {y0 : MethodName} {cc : ByteArray} {nL : Nat} {ret : Option FieldType} {hh : List (Nat × Nat × Nat × Nat)} {kf : Nat} {G : gG} {Qv : Option Value → gM → Prop} {E : String → Nat → gM → Prop} {w : gM → Nat → List (Nat × Value) → List Value → Prop} {M : gM} {pc : Nat} {lv : List (Nat × Value)} {rest : List Value} (hw : gX y0 cc nL ret hh kf G Qv E w) (hy : y0.cls = RX1) {c : Nat} {q : Option Nat} (d : decode cc pc = .ok (.getfield 80, 3)) (hk : gk M c = 1) (hq : gR M c 17 = q) (kk : w M (pc + 3) lv (va_rf (q.map (gA G)) :: rest)) : w M pc lv (.ref (gA G c) :: rest) := by
  obtain ⟨cls9, nm9, ds9⟩ := y0
  subst hy
  subst hq
  exact g_getC (C := RX1) (T := TX1) (N := 28) (ci := 0) hw in_X1 rfl 17 (by decide) (Or.inl q289) rfl d hk kk
theorem gfX1_127 {y0 : MethodName} {cc : ByteArray} {nL : Nat} {ret : Option FieldType} {hh : List (Nat × Nat × Nat × Nat)} {kf : Nat} {G : gG} {Qv : Option Value → gM → Prop} {E : String → Nat → gM → Prop} {w : gM → Nat → List (Nat × Value) → List Value → Prop} {M : gM} {pc : Nat} {lv : List (Nat × Value)} {rest : List Value} (hw : gX y0 cc nL ret hh kf G Qv E w) (hy : y0.cls = RX1) {c : Nat} (d : decode cc pc = .ok (.getfield 127, 3)) (hk : gk M c = 4) (kk : w M (pc + 3) lv (.int (gI M c 1) :: rest)) : w M pc lv (.ref (gA G c) :: rest) := by
  obtain ⟨cls9, nm9, ds9⟩ := y0
  subst hy
  exact g_getC (C := RX4) (T := TX4) (N := 11) (ci := 3) hw in_X4 rfl 1 (by decide) (Or.inr ⟨_, q194⟩) rfl d hk kk
theorem gfX1_281 {y0 : MethodName} {cc : ByteArray} {nL : Nat} {ret : Option FieldType} {hh : List (Nat × Nat × Nat × Nat)} {kf : Nat} {G : gG} {Qv : Option Value → gM → Prop} {E : String → Nat → gM → Prop} {w : gM → Nat → List (Nat × Value) → List Value → Prop} {M : gM} {pc : Nat} {lv : List (Nat × Value)} {rest : List Value} (hw : gX y0 cc nL ret hh kf G Qv E w) (hy : y0.cls = RX1) {c : Nat} {q : Option Nat} (d : decode cc pc = .ok (.getfield 281, 3)) (hk : gk M c = 5) (hq : gR M c 0 = q) (kk : w M (pc + 3) lv (va_rf (q.map (gA G)) :: rest)) : w M pc lv (.ref (gA G c) :: rest) := by
  obtain ⟨cls9, nm9, ds9⟩ := y0
  subst hy
  subst hq
  exact g_getC (C := RX5) (T := TX5) (N := 1) (ci := 4) hw in_X5 rfl 0 (by decide) (Or.inr ⟨_, q244⟩) rfl d hk kk
theorem sX1_285 {y0 : MethodName} {cc : ByteArray} {nL : Nat} {ret : Option FieldType} {hh : List (Nat × Nat × Nat × Nat)} {kf : Nat} {G : gG} {Qv : Option Value → gM → Prop} {E : String → Nat → gM → Prop} {w : gM → Nat → List (Nat × Value) → List Value → Prop} {M : gM} {pc : Nat} {lv : List (Nat × Value)} {rest : List Value} (hw : gX y0 cc nL ret hh kf G Qv E w) (hy : y0.cls = RX1) {p1 : Option Nat} {Q : Int32 → gM → Prop} (d : decode cc pc = .ok (.invokevirtual 285, 3)) (hrest : Nat.ble ((rest.map Value.category).sum) 8 = true) (hk : 1012 + 1 ≤ kf) (hkd : gk M 16 = 1) (h : fX1_isSo p1 M Q) (kk : ∀ r M1, Q r M1 → w M1 (pc + 3) lv (.int r :: rest)) : w M pc lv (va_rf (p1.map (gA G)) :: .ref (gA G 16) :: rest) := by
  obtain ⟨cls9, nm9, ds9⟩ := y0
  subst hy
  exact g_callV (r := (RX1, TX1, 28)) (ci := 0) hw [va_rf (p1.map (gA G))] (nA := 1) rfl d q814 q816 qs29 q98 q817 (by decide +kernel) rfl rfl hrest rfl (by omega : kf - 1 + 1 ≤ kf) hkd (mX1_isSo (kf := kf - 1) (by omega) G p1 M Q h) (fun _ _ _ q => q.elim) (fun v M1 h => by obtain ⟨r, rfl, h⟩ := h; exact kk r M1 h)
theorem sX1_289 {y0 : MethodName} {cc : ByteArray} {nL : Nat} {ret : Option FieldType} {hh : List (Nat × Nat × Nat × Nat)} {kf : Nat} {G : gG} {Qv : Option Value → gM → Prop} {E : String → Nat → gM → Prop} {w : gM → Nat → List (Nat × Value) → List Value → Prop} {M : gM} {pc : Nat} {lv : List (Nat × Value)} {rest : List Value} (hw : gX y0 cc nL ret hh kf G Qv E w) (hy : y0.cls = RX1) {p1 : Option Nat} {p2 : Int32} {Q : Int32 → gM → Prop} (d : decode cc pc = .ok (.invokevirtual 289, 3)) (hrest : Nat.ble ((rest.map Value.category).sum) 8 = true) (hk : 1012 + 1 ≤ kf) (hkd : gk M 16 = 1) (h : fX1_hired p1 p2 M Q) (kk : ∀ r M1, Q r M1 → w M1 (pc + 3) lv (.int r :: rest)) : w M pc lv (.int p2 :: va_rf (p1.map (gA G)) :: .ref (gA G 16) :: rest) := by
  obtain ⟨cls9, nm9, ds9⟩ := y0
  subst hy
  exact g_callV (r := (RX1, TX1, 28)) (ci := 0) hw [va_rf (p1.map (gA G)), .int p2] (nA := 2) rfl d q835 q837 qs30 q98 q838 (by decide +kernel) rfl rfl hrest rfl (by omega : kf - 1 + 1 ≤ kf) hkd (mX1_hired (kf := kf - 1) (by omega) G p1 p2 M Q h) (fun _ _ _ q => q.elim) (fun v M1 h => by obtain ⟨r, rfl, h⟩ := h; exact kk r M1 h)
def fX1_goes_b266 (l1_180 : Nat) (l2_181 : Int32) (l3_182 : Int32) (l7_183 : Int32) (s0_184 : Nat) (s1_185 : Int32) (s2_186 : Int32) (M : gM) (Q : gM → Prop) : Prop :=
  gk M s0_184 = 40 ∧ vp_in s1_185 (gl M s0_184) ∧ gk (gsI M s0_184 s1_185.toNatClampNeg s2_186) 16 = 1 ∧ gdr (gR (gsI M s0_184 s1_185.toNatClampNeg s2_186) 16 17) (fun a190 => gk (gsI M s0_184 s1_185.toNatClampNeg s2_186) a190 = 48 ∧ vp_in l2_181 (gl (gsI M s0_184 s1_185.toNatClampNeg s2_186) a190) ∧ gdr (gR (gsI M s0_184 s1_185.toNatClampNeg s2_186) a190 l2_181.toNatClampNeg) (fun a194 => (if l7_183 = 0 then gk (gsI M s0_184 s1_185.toNatClampNeg s2_186) l1_180 = 5 ∧ gdr (gR (gsI M s0_184 s1_185.toNatClampNeg s2_186) l1_180 0) (fun a198 => gk (gsI M s0_184 s1_185.toNatClampNeg s2_186) a198 = 47 ∧ vp_in 1 (gl (gsI M s0_184 s1_185.toNatClampNeg s2_186) a198) ∧ gdr (gR (gsI M s0_184 s1_185.toNatClampNeg s2_186) 16 18) (fun a202 => gk (gsI M s0_184 s1_185.toNatClampNeg s2_186) a202 = 40 ∧ vp_in 1 (gl (gsI M s0_184 s1_185.toNatClampNeg s2_186) a202) ∧ fX1_hired (gR (gsI M s0_184 s1_185.toNatClampNeg s2_186) a198 1) (gI (gsI M s0_184 s1_185.toNatClampNeg s2_186) a202 1) (gsI M s0_184 s1_185.toNatClampNeg s2_186) (fun r207 M206 => gk M206 a194 = 40 ∧ vp_in l3_182 (gl M206 a194) ∧ Q (gsI M206 a194 l3_182.toNatClampNeg r207)))) else gk (gsI M s0_184 s1_185.toNatClampNeg s2_186) a194 = 40 ∧ vp_in l3_182 (gl (gsI M s0_184 s1_185.toNatClampNeg s2_186) a194) ∧ Q (gsI (gsI M s0_184 s1_185.toNatClampNeg s2_186) a194 l3_182.toNatClampNeg 0))))
theorem wX1_goes_b266 {kf : Nat} {G : gG} {w : gM → Nat → List (Nat × Value) → List Value → Prop} {Q : gM → Prop} (hw : gX yX1_goes cX1_goes 8 (Option.none : Option FieldType) [] kf G (gQv Q) gE0 w) (hkf : 1013 ≤ kf)  {l1_180 : Nat} {l2_181 : Int32} {l3_182 : Int32} {l7_183 : Int32} {s0_184 : Nat} {s1_185 : Int32} {s2_186 : Int32} {M : gM}  (h : fX1_goes_b266 l1_180 l2_181 l3_182 l7_183 s0_184 s1_185 s2_186 M Q) : w M 266 [(0, .ref (gA G 16)), (1, .ref (gA G l1_180)), (2, .int l2_181), (3, .int l3_182), (7, .int l7_183)] [.int s2_186, .int s1_185, .ref (gA G s0_184)] := by
  unfold fX1_goes_b266 at h
  obtain ⟨hk187, h⟩ := h
  obtain ⟨hi188, h⟩ := h
  refine g_iast (n := s1_185.toNatClampNeg) hw dX1_goes_266 hk187 hi188 rfl ?_
  refine g_aload_n hw 0 dX1_goes_267 rfl ?_
  obtain ⟨hk189, h⟩ := h
  obtain ⟨a190, e191, h⟩ := h
  refine gfX1_80 (q := some a190) hw rfl dX1_goes_268 hk189 e191 ?_
  refine g_iload_n hw 2 dX1_goes_271 rfl ?_
  obtain ⟨hk192, h⟩ := h
  obtain ⟨hi193, h⟩ := h
  obtain ⟨a194, e195, h⟩ := h
  refine g_aaldS (n := l2_181.toNatClampNeg) hw 8 dX1_goes_272 ⟨rfl, rfl⟩ hk192 hi193 rfl e195 ?_
  refine g_iload_n hw 3 dX1_goes_273 rfl ?_
  refine g_iload hw 4 dX1_goes_274 rfl ?_
  refine g_if_eq (tgt := 283) hw dX1_goes_276 (by decide) (fun hb196 => ?_) (fun hb196 => ?_)
  · have h := gT h hb196
    refine g_aload_n hw 0 dX1_goes_283 rfl ?_
    refine g_aload_n hw 1 dX1_goes_284 rfl ?_
    obtain ⟨hk197, h⟩ := h
    obtain ⟨a198, e199, h⟩ := h
    refine gfX1_281 (q := some a198) hw rfl dX1_goes_285 hk197 e199 ?_
    refine g_iconst (v := 1) hw dX1_goes_288 (by decide) ?_
    obtain ⟨hk200, h⟩ := h
    obtain ⟨hi201, h⟩ := h
    refine g_aald (n := 1) hw 7 dX1_goes_289 ⟨rfl, rfl⟩ hk200 hi201 rfl ?_
    refine g_aload_n hw 0 dX1_goes_290 rfl ?_
    obtain ⟨a202, e203, h⟩ := h
    refine gfX1_83 (q := some a202) hw rfl dX1_goes_291 hk189 e203 ?_
    refine g_iconst (v := 1) hw dX1_goes_294 (by decide) ?_
    obtain ⟨hk204, h⟩ := h
    obtain ⟨hi205, h⟩ := h
    refine g_iald (n := 1) hw dX1_goes_295 hk204 hi205 rfl ?_
    refine sX1_289 hw rfl dX1_goes_296 rfl (gK2 hkf) hk189 h (fun r207 M206 h => ?_)
    obtain ⟨hk208, h⟩ := h
    obtain ⟨hi209, h⟩ := h
    refine g_iast (n := l3_182.toNatClampNeg) hw dX1_goes_299 hk208 hi209 rfl ?_
    exact g_vret hw dX1_goes_300 ⟨rfl, h⟩
  · have h := gF h hb196
    refine g_iconst (v := 0) hw dX1_goes_279 (by decide) ?_
    refine g_goto (tgt := 299) hw dX1_goes_280 (by decide) ?_
    obtain ⟨hk210, h⟩ := h
    obtain ⟨hi211, h⟩ := h
    refine g_iast (n := l3_182.toNatClampNeg) hw dX1_goes_299 hk210 hi211 rfl ?_
    exact g_vret hw dX1_goes_300 ⟨rfl, h⟩
def fX1_goes_b231 (l1_157 : Nat) (l2_158 : Int32) (l3_159 : Int32) (s0_160 : Int32) (M : gM) (Q : gM → Prop) : Prop :=
  gk M 16 = 1 ∧ gdr (gR M 16 16) (fun a162 => gk M a162 = 48 ∧ vp_in l2_158 (gl M a162) ∧ gdr (gR M a162 l2_158.toNatClampNeg) (fun a166 => (if s0_160 = 0 then gk M l1_157 = 5 ∧ gdr (gR M l1_157 0) (fun a170 => gk M a170 = 47 ∧ vp_in 0 (gl M a170) ∧ gdr (gR M 16 18) (fun a174 => gk M a174 = 40 ∧ vp_in 0 (gl M a174) ∧ fX1_hired (gR M a170 0) (gI M a174 0) M (fun r179 M178 => fX1_goes_b266 l1_157 l2_158 l3_159 s0_160 a166 l3_159 r179 M178 Q))) else fX1_goes_b266 l1_157 l2_158 l3_159 s0_160 a166 l3_159 (-2) M Q)))
theorem wX1_goes_b231 {kf : Nat} {G : gG} {w : gM → Nat → List (Nat × Value) → List Value → Prop} {Q : gM → Prop} (hw : gX yX1_goes cX1_goes 8 (Option.none : Option FieldType) [] kf G (gQv Q) gE0 w) (hkf : 1013 ≤ kf)  {l1_157 : Nat} {l2_158 : Int32} {l3_159 : Int32} {s0_160 : Int32} {M : gM}  (h : fX1_goes_b231 l1_157 l2_158 l3_159 s0_160 M Q) : w M 231 [(0, .ref (gA G 16)), (1, .ref (gA G l1_157)), (2, .int l2_158), (3, .int l3_159)] [.int s0_160] := by
  unfold fX1_goes_b231 at h
  refine g_istore hw (lv2 := [(0, .ref (gA G 16)), (1, .ref (gA G l1_157)), (2, .int l2_158), (3, .int l3_159), (7, .int s0_160)]) [1, 2, 3, 4, 0] dX1_goes_231 rfl rfl ?_
  refine g_aload_n hw 0 dX1_goes_233 rfl ?_
  obtain ⟨hk161, h⟩ := h
  obtain ⟨a162, e163, h⟩ := h
  refine gfX1_77 (q := some a162) hw rfl dX1_goes_234 hk161 e163 ?_
  refine g_iload_n hw 2 dX1_goes_237 rfl ?_
  obtain ⟨hk164, h⟩ := h
  obtain ⟨hi165, h⟩ := h
  obtain ⟨a166, e167, h⟩ := h
  refine g_aaldS (n := l2_158.toNatClampNeg) hw 8 dX1_goes_238 ⟨rfl, rfl⟩ hk164 hi165 rfl e167 ?_
  refine g_iload_n hw 3 dX1_goes_239 rfl ?_
  refine g_iload hw 4 dX1_goes_240 rfl ?_
  refine g_if_eq (tgt := 250) hw dX1_goes_242 (by decide) (fun hb168 => ?_) (fun hb168 => ?_)
  · have h := gT h hb168
    refine g_aload_n hw 0 dX1_goes_250 rfl ?_
    refine g_aload_n hw 1 dX1_goes_251 rfl ?_
    obtain ⟨hk169, h⟩ := h
    obtain ⟨a170, e171, h⟩ := h
    refine gfX1_281 (q := some a170) hw rfl dX1_goes_252 hk169 e171 ?_
    refine g_iconst (v := 0) hw dX1_goes_255 (by decide) ?_
    obtain ⟨hk172, h⟩ := h
    obtain ⟨hi173, h⟩ := h
    refine g_aald (n := 0) hw 7 dX1_goes_256 ⟨rfl, rfl⟩ hk172 hi173 rfl ?_
    refine g_aload_n hw 0 dX1_goes_257 rfl ?_
    obtain ⟨a174, e175, h⟩ := h
    refine gfX1_83 (q := some a174) hw rfl dX1_goes_258 hk161 e175 ?_
    refine g_iconst (v := 0) hw dX1_goes_261 (by decide) ?_
    obtain ⟨hk176, h⟩ := h
    obtain ⟨hi177, h⟩ := h
    refine g_iald (n := 0) hw dX1_goes_262 hk176 hi177 rfl ?_
    refine sX1_289 hw rfl dX1_goes_263 rfl (gK2 hkf) hk161 h (fun r179 M178 h => ?_)
    exact wX1_goes_b266 hw hkf h
  · have h := gF h hb168
    refine g_bipush (v := (-2)) hw dX1_goes_245 (by decide) ?_
    refine g_goto (tgt := 266) hw dX1_goes_247 (by decide) ?_
    exact wX1_goes_b266 hw hkf h
def fX1_goes_b194 (l1_139 : Nat) (l2_140 : Int32) (l3_141 : Int32) (l6_142 : Int32) (s0_143 : Nat) (s1_144 : Int32) (s2_145 : Int32) (M : gM) (Q : gM → Prop) : Prop :=
  gk M s0_143 = 40 ∧ vp_in s1_144 (gl M s0_143) ∧ (if l6_142 = 0 then gk (gsI M s0_143 s1_144.toNatClampNeg s2_145) l1_139 = 5 ∧ gdr (gR (gsI M s0_143 s1_144.toNatClampNeg s2_145) l1_139 0) (fun a150 => gk (gsI M s0_143 s1_144.toNatClampNeg s2_145) a150 = 47 ∧ vp_in 2 (gl (gsI M s0_143 s1_144.toNatClampNeg s2_145) a150) ∧ gk (gsI M s0_143 s1_144.toNatClampNeg s2_145) 16 = 1 ∧ fX1_isSo (gR (gsI M s0_143 s1_144.toNatClampNeg s2_145) a150 2) (gsI M s0_143 s1_144.toNatClampNeg s2_145) (fun r156 M155 => fX1_goes_b231 l1_139 l2_140 l3_141 r156 M155 Q)) else gk (gsI M s0_143 s1_144.toNatClampNeg s2_145) l1_139 = 5 ∧ gdr (gR (gsI M s0_143 s1_144.toNatClampNeg s2_145) l1_139 0) (fun a213 => gk (gsI M s0_143 s1_144.toNatClampNeg s2_145) a213 = 47 ∧ vp_in 3 (gl (gsI M s0_143 s1_144.toNatClampNeg s2_145) a213) ∧ gk (gsI M s0_143 s1_144.toNatClampNeg s2_145) 16 = 1 ∧ fX1_isSo (gR (gsI M s0_143 s1_144.toNatClampNeg s2_145) a213 3) (gsI M s0_143 s1_144.toNatClampNeg s2_145) (fun r219 M218 => (if r219 = 0 then fX1_goes_b231 l1_139 l2_140 l3_141 1 M218 Q else fX1_goes_b231 l1_139 l2_140 l3_141 0 M218 Q))))
theorem wX1_goes_b194 {kf : Nat} {G : gG} {w : gM → Nat → List (Nat × Value) → List Value → Prop} {Q : gM → Prop} (hw : gX yX1_goes cX1_goes 8 (Option.none : Option FieldType) [] kf G (gQv Q) gE0 w) (hkf : 1013 ≤ kf)  {l1_139 : Nat} {l2_140 : Int32} {l3_141 : Int32} {l6_142 : Int32} {s0_143 : Nat} {s1_144 : Int32} {s2_145 : Int32} {M : gM}  (h : fX1_goes_b194 l1_139 l2_140 l3_141 l6_142 s0_143 s1_144 s2_145 M Q) : w M 194 [(0, .ref (gA G 16)), (1, .ref (gA G l1_139)), (2, .int l2_140), (3, .int l3_141), (6, .int l6_142)] [.int s2_145, .int s1_144, .ref (gA G s0_143)] := by
  unfold fX1_goes_b194 at h
  obtain ⟨hk146, h⟩ := h
  obtain ⟨hi147, h⟩ := h
  refine g_iast (n := s1_144.toNatClampNeg) hw dX1_goes_194 hk146 hi147 rfl ?_
  refine g_iload hw 4 dX1_goes_195 rfl ?_
  refine g_if_eq (tgt := 221) hw dX1_goes_197 (by decide) (fun hb148 => ?_) (fun hb148 => ?_)
  · have h := gT h hb148
    refine g_aload_n hw 0 dX1_goes_221 rfl ?_
    refine g_aload_n hw 1 dX1_goes_222 rfl ?_
    obtain ⟨hk149, h⟩ := h
    obtain ⟨a150, e151, h⟩ := h
    refine gfX1_281 (q := some a150) hw rfl dX1_goes_223 hk149 e151 ?_
    refine g_iconst (v := 2) hw dX1_goes_226 (by decide) ?_
    obtain ⟨hk152, h⟩ := h
    obtain ⟨hi153, h⟩ := h
    refine g_aald (n := 2) hw 7 dX1_goes_227 ⟨rfl, rfl⟩ hk152 hi153 rfl ?_
    obtain ⟨hk154, h⟩ := h
    refine sX1_285 hw rfl dX1_goes_228 rfl (gK2 hkf) hk154 h (fun r156 M155 h => ?_)
    refine g_sub hw (lv2 := [(0, .ref (gA G 16)), (1, .ref (gA G l1_139)), (2, .int l2_140), (3, .int l3_141)]) [0, 1, 2, 3] rfl ?_
    exact wX1_goes_b231 hw hkf h
  · have h := gF h hb148
    refine g_aload_n hw 0 dX1_goes_200 rfl ?_
    refine g_aload_n hw 1 dX1_goes_201 rfl ?_
    obtain ⟨hk212, h⟩ := h
    obtain ⟨a213, e214, h⟩ := h
    refine gfX1_281 (q := some a213) hw rfl dX1_goes_202 hk212 e214 ?_
    refine g_iconst (v := 3) hw dX1_goes_205 (by decide) ?_
    obtain ⟨hk215, h⟩ := h
    obtain ⟨hi216, h⟩ := h
    refine g_aald (n := 3) hw 7 dX1_goes_206 ⟨rfl, rfl⟩ hk215 hi216 rfl ?_
    obtain ⟨hk217, h⟩ := h
    refine sX1_285 hw rfl dX1_goes_207 rfl (gK2 hkf) hk217 h (fun r219 M218 h => ?_)
    refine g_if_ne (tgt := 217) hw dX1_goes_210 (by decide) (fun hb220 => ?_) (fun hb220 => ?_)
    · have h := gF h hb220
      refine g_iconst (v := 0) hw dX1_goes_217 (by decide) ?_
      refine g_goto (tgt := 231) hw dX1_goes_218 (by decide) ?_
      refine g_sub hw (lv2 := [(0, .ref (gA G 16)), (1, .ref (gA G l1_139)), (2, .int l2_140), (3, .int l3_141)]) [0, 1, 2, 3] rfl ?_
      exact wX1_goes_b231 hw hkf h
    · have h := gT h hb220
      refine g_iconst (v := 1) hw dX1_goes_213 (by decide) ?_
      refine g_goto (tgt := 231) hw dX1_goes_214 (by decide) ?_
      refine g_sub hw (lv2 := [(0, .ref (gA G 16)), (1, .ref (gA G l1_139)), (2, .int l2_140), (3, .int l3_141)]) [0, 1, 2, 3] rfl ?_
      exact wX1_goes_b231 hw hkf h
def fX1_goes_b178 (l1_131 : Nat) (l2_132 : Int32) (l3_133 : Int32) (l6_134 : Int32) (M : gM) (Q : gM → Prop) : Prop :=
  gk M 16 = 1 ∧ gdr (gR M 16 18) (fun a136 => (if l6_134 = 0 then fX1_goes_b194 l1_131 l2_132 l3_133 l6_134 a136 9 0 M Q else fX1_goes_b194 l1_131 l2_132 l3_133 l6_134 a136 9 1 M Q))
theorem wX1_goes_b178 {kf : Nat} {G : gG} {w : gM → Nat → List (Nat × Value) → List Value → Prop} {Q : gM → Prop} (hw : gX yX1_goes cX1_goes 8 (Option.none : Option FieldType) [] kf G (gQv Q) gE0 w) (hkf : 1013 ≤ kf)  {l1_131 : Nat} {l2_132 : Int32} {l3_133 : Int32} {l6_134 : Int32} {M : gM}  (h : fX1_goes_b178 l1_131 l2_132 l3_133 l6_134 M Q) : w M 178 [(0, .ref (gA G 16)), (1, .ref (gA G l1_131)), (2, .int l2_132), (3, .int l3_133), (6, .int l6_134)] [] := by
  unfold fX1_goes_b178 at h
  refine g_aload_n hw 0 dX1_goes_178 rfl ?_
  obtain ⟨hk135, h⟩ := h
  obtain ⟨a136, e137, h⟩ := h
  refine gfX1_83 (q := some a136) hw rfl dX1_goes_179 hk135 e137 ?_
  refine g_bipush (v := 9) hw dX1_goes_182 (by decide) ?_
  refine g_iload hw 4 dX1_goes_184 rfl ?_
  refine g_if_eq (tgt := 193) hw dX1_goes_186 (by decide) (fun hb138 => ?_) (fun hb138 => ?_)
  · have h := gT h hb138
    refine g_iconst (v := 0) hw dX1_goes_193 (by decide) ?_
    exact wX1_goes_b194 hw hkf h
  · have h := gF h hb138
    refine g_iconst (v := 1) hw dX1_goes_189 (by decide) ?_
    refine g_goto (tgt := 194) hw dX1_goes_190 (by decide) ?_
    exact wX1_goes_b194 hw hkf h
def fX1_goes_b109 (l1_87 : Nat) (l2_88 : Int32) (l3_89 : Int32) (l4_90 : Int32) (l5_91 : Nat) (l6_92 : Int32) (M : gM) (Q : gM → Prop) : Prop :=
  gk M 16 = 1 ∧ gdr (gR M 16 18) (fun a94 => gdr (gR M 16 18) (fun a96 => gk M a96 = 40 ∧ vp_in 3 (gl M a96) ∧ gk M l5_91 = 4 ∧ fJ0_max 0 ((gI M a96 3) - (gI M l5_91 1)) M (fun r102 M101 => gk M101 a94 = 40 ∧ vp_in 4 (gl M101 a94) ∧ gk (gsI M101 a94 4 r102) 16 = 1 ∧ gdr (gR (gsI M101 a94 4 r102) 16 18) (fun a106 => gk (gsI M101 a94 4 r102) l5_91 = 4 ∧ gk (gsI M101 a94 4 r102) a106 = 40 ∧ vp_in 5 (gl (gsI M101 a94 4 r102) a106) ∧ gdr (gR (gsI (gsI M101 a94 4 r102) a106 5 (gI (gsI M101 a94 4 r102) l5_91 0)) 16 18) (fun a111 => gk (gsI (gsI M101 a94 4 r102) a106 5 (gI (gsI M101 a94 4 r102) l5_91 0)) a111 = 40 ∧ vp_in 6 (gl (gsI (gsI M101 a94 4 r102) a106 5 (gI (gsI M101 a94 4 r102) l5_91 0)) a111) ∧ gdr (gR (gsI (gsI (gsI M101 a94 4 r102) a106 5 (gI (gsI M101 a94 4 r102) l5_91 0)) a111 6 l3_89) 16 18) (fun a115 => gdr (gR (gsI (gsI (gsI M101 a94 4 r102) a106 5 (gI (gsI M101 a94 4 r102) l5_91 0)) a111 6 l3_89) 16 2) (fun a117 => gk (gsI (gsI (gsI M101 a94 4 r102) a106 5 (gI (gsI M101 a94 4 r102) l5_91 0)) a111 6 l3_89) a117 = 48 ∧ vp_in (gI (gsI (gsI (gsI M101 a94 4 r102) a106 5 (gI (gsI M101 a94 4 r102) l5_91 0)) a111 6 l3_89) l5_91 0) (gl (gsI (gsI (gsI M101 a94 4 r102) a106 5 (gI (gsI M101 a94 4 r102) l5_91 0)) a111 6 l3_89) a117) ∧ gdr (gR (gsI (gsI (gsI M101 a94 4 r102) a106 5 (gI (gsI M101 a94 4 r102) l5_91 0)) a111 6 l3_89) a117 ((gI (gsI (gsI (gsI M101 a94 4 r102) a106 5 (gI (gsI M101 a94 4 r102) l5_91 0)) a111 6 l3_89) l5_91 0).toNatClampNeg)) (fun a121 => gk (gsI (gsI (gsI M101 a94 4 r102) a106 5 (gI (gsI M101 a94 4 r102) l5_91 0)) a111 6 l3_89) a121 = 40 ∧ vp_in l3_89 (gl (gsI (gsI (gsI M101 a94 4 r102) a106 5 (gI (gsI M101 a94 4 r102) l5_91 0)) a111 6 l3_89) a121) ∧ gk (gsI (gsI (gsI M101 a94 4 r102) a106 5 (gI (gsI M101 a94 4 r102) l5_91 0)) a111 6 l3_89) a115 = 40 ∧ vp_in 7 (gl (gsI (gsI (gsI M101 a94 4 r102) a106 5 (gI (gsI M101 a94 4 r102) l5_91 0)) a111 6 l3_89) a115) ∧ gdr (gR (gsI (gsI (gsI (gsI M101 a94 4 r102) a106 5 (gI (gsI M101 a94 4 r102) l5_91 0)) a111 6 l3_89) a115 7 (gI (gsI (gsI (gsI M101 a94 4 r102) a106 5 (gI (gsI M101 a94 4 r102) l5_91 0)) a111 6 l3_89) a121 l3_89.toNatClampNeg)) 16 18) (fun a127 => gk (gsI (gsI (gsI (gsI M101 a94 4 r102) a106 5 (gI (gsI M101 a94 4 r102) l5_91 0)) a111 6 l3_89) a115 7 (gI (gsI (gsI (gsI M101 a94 4 r102) a106 5 (gI (gsI M101 a94 4 r102) l5_91 0)) a111 6 l3_89) a121 l3_89.toNatClampNeg)) a127 = 40 ∧ vp_in 8 (gl (gsI (gsI (gsI (gsI M101 a94 4 r102) a106 5 (gI (gsI M101 a94 4 r102) l5_91 0)) a111 6 l3_89) a115 7 (gI (gsI (gsI (gsI M101 a94 4 r102) a106 5 (gI (gsI M101 a94 4 r102) l5_91 0)) a111 6 l3_89) a121 l3_89.toNatClampNeg)) a127) ∧ fX1_goes_b178 l1_87 l2_88 l3_89 l6_92 (gsI (gsI (gsI (gsI (gsI M101 a94 4 r102) a106 5 (gI (gsI M101 a94 4 r102) l5_91 0)) a111 6 l3_89) a115 7 (gI (gsI (gsI (gsI M101 a94 4 r102) a106 5 (gI (gsI M101 a94 4 r102) l5_91 0)) a111 6 l3_89) a121 l3_89.toNatClampNeg)) a127 8 l4_90) Q)))))))))
theorem wX1_goes_b109 {kf : Nat} {G : gG} {w : gM → Nat → List (Nat × Value) → List Value → Prop} {Q : gM → Prop} (hw : gX yX1_goes cX1_goes 8 (Option.none : Option FieldType) [] kf G (gQv Q) gE0 w) (hkf : 1013 ≤ kf)  {l1_87 : Nat} {l2_88 : Int32} {l3_89 : Int32} {l4_90 : Int32} {l5_91 : Nat} {l6_92 : Int32} {M : gM}  (h : fX1_goes_b109 l1_87 l2_88 l3_89 l4_90 l5_91 l6_92 M Q) : w M 109 [(0, .ref (gA G 16)), (1, .ref (gA G l1_87)), (2, .int l2_88), (3, .int l3_89), (4, .int l4_90), (5, .ref (gA G l5_91)), (6, .int l6_92)] [] := by
  unfold fX1_goes_b109 at h
  refine g_aload_n hw 0 dX1_goes_109 rfl ?_
  obtain ⟨hk93, h⟩ := h
  obtain ⟨a94, e95, h⟩ := h
  refine gfX1_83 (q := some a94) hw rfl dX1_goes_110 hk93 e95 ?_
  refine g_iconst (v := 4) hw dX1_goes_113 (by decide) ?_
  refine g_iconst (v := 0) hw dX1_goes_114 (by decide) ?_
  refine g_aload_n hw 0 dX1_goes_115 rfl ?_
  obtain ⟨a96, e97, h⟩ := h
  refine gfX1_83 (q := some a96) hw rfl dX1_goes_116 hk93 e97 ?_
  refine g_iconst (v := 3) hw dX1_goes_119 (by decide) ?_
  obtain ⟨hk98, h⟩ := h
  obtain ⟨hi99, h⟩ := h
  refine g_iald (n := 3) hw dX1_goes_120 hk98 hi99 rfl ?_
  refine g_aload hw 5 dX1_goes_121 rfl ?_
  obtain ⟨hk100, h⟩ := h
  refine gfX1_127 hw rfl dX1_goes_123 hk100 ?_
  refine g_isub hw dX1_goes_126 ?_
  refine sX1_145 hw rfl dX1_goes_127 rfl (gK2 hkf) h (fun r102 M101 h => ?_)
  obtain ⟨hk103, h⟩ := h
  obtain ⟨hi104, h⟩ := h
  refine g_iast (n := 4) hw dX1_goes_130 hk103 hi104 rfl ?_
  refine g_aload_n hw 0 dX1_goes_131 rfl ?_
  obtain ⟨hk105, h⟩ := h
  obtain ⟨a106, e107, h⟩ := h
  refine gfX1_83 (q := some a106) hw rfl dX1_goes_132 hk105 e107 ?_
  refine g_iconst (v := 5) hw dX1_goes_135 (by decide) ?_
  refine g_aload hw 5 dX1_goes_136 rfl ?_
  obtain ⟨hk108, h⟩ := h
  refine gfX1_124 hw rfl dX1_goes_138 hk108 ?_
  obtain ⟨hk109, h⟩ := h
  obtain ⟨hi110, h⟩ := h
  refine g_iast (n := 5) hw dX1_goes_141 hk109 hi110 rfl ?_
  refine g_aload_n hw 0 dX1_goes_142 rfl ?_
  obtain ⟨a111, e112, h⟩ := h
  refine gfX1_83 (q := some a111) hw rfl dX1_goes_143 hk105 e112 ?_
  refine g_bipush (v := 6) hw dX1_goes_146 (by decide) ?_
  refine g_iload_n hw 3 dX1_goes_148 rfl ?_
  obtain ⟨hk113, h⟩ := h
  obtain ⟨hi114, h⟩ := h
  refine g_iast (n := 6) hw dX1_goes_149 hk113 hi114 rfl ?_
  refine g_aload_n hw 0 dX1_goes_150 rfl ?_
  obtain ⟨a115, e116, h⟩ := h
  refine gfX1_83 (q := some a115) hw rfl dX1_goes_151 hk105 e116 ?_
  refine g_bipush (v := 7) hw dX1_goes_154 (by decide) ?_
  refine g_aload_n hw 0 dX1_goes_156 rfl ?_
  obtain ⟨a117, e118, h⟩ := h
  refine gfX1_30 (q := some a117) hw rfl dX1_goes_157 hk105 e118 ?_
  refine g_aload hw 5 dX1_goes_160 rfl ?_
  refine gfX1_124 hw rfl dX1_goes_162 hk108 ?_
  obtain ⟨hk119, h⟩ := h
  obtain ⟨hi120, h⟩ := h
  obtain ⟨a121, e122, h⟩ := h
  refine g_aaldS (n := (gI (gsI (gsI (gsI M101 a94 4 r102) a106 5 (gI (gsI M101 a94 4 r102) l5_91 0)) a111 6 l3_89) l5_91 0).toNatClampNeg) hw 8 dX1_goes_165 ⟨rfl, rfl⟩ hk119 hi120 rfl e122 ?_
  refine g_iload_n hw 3 dX1_goes_166 rfl ?_
  obtain ⟨hk123, h⟩ := h
  obtain ⟨hi124, h⟩ := h
  refine g_iald (n := l3_89.toNatClampNeg) hw dX1_goes_167 hk123 hi124 rfl ?_
  obtain ⟨hk125, h⟩ := h
  obtain ⟨hi126, h⟩ := h
  refine g_iast (n := 7) hw dX1_goes_168 hk125 hi126 rfl ?_
  refine g_aload_n hw 0 dX1_goes_169 rfl ?_
  obtain ⟨a127, e128, h⟩ := h
  refine gfX1_83 (q := some a127) hw rfl dX1_goes_170 hk105 e128 ?_
  refine g_bipush (v := 8) hw dX1_goes_173 (by decide) ?_
  refine g_iload hw 4 dX1_goes_175 rfl ?_
  obtain ⟨hk129, h⟩ := h
  obtain ⟨hi130, h⟩ := h
  refine g_iast (n := 8) hw dX1_goes_177 hk129 hi130 rfl ?_
  refine g_sub hw (lv2 := [(0, .ref (gA G 16)), (1, .ref (gA G l1_87)), (2, .int l2_88), (3, .int l3_89), (6, .int l6_92)]) [0, 1, 2, 3, 6] rfl ?_
  exact wX1_goes_b178 hw hkf h
def fX1_goes_b79 (l1_58 : Nat) (l2_59 : Int32) (l3_60 : Int32) (l4_61 : Int32) (l5_62 : Nat) (l6_63 : Int32) (s0_64 : Nat) (s1_65 : Int32) (s2_66 : Int32) (M : gM) (Q : gM → Prop) : Prop :=
  gk M s0_64 = 40 ∧ vp_in s1_65 (gl M s0_64) ∧ gk (gsI M s0_64 s1_65.toNatClampNeg s2_66) 16 = 1 ∧ gdr (gR (gsI M s0_64 s1_65.toNatClampNeg s2_66) 16 18) (fun a70 => gk (gsI M s0_64 s1_65.toNatClampNeg s2_66) l5_62 = 4 ∧ gk (gsI M s0_64 s1_65.toNatClampNeg s2_66) a70 = 40 ∧ vp_in 2 (gl (gsI M s0_64 s1_65.toNatClampNeg s2_66) a70) ∧ gdr (gR (gsI (gsI M s0_64 s1_65.toNatClampNeg s2_66) a70 2 (gI (gsI M s0_64 s1_65.toNatClampNeg s2_66) l5_62 1)) 16 18) (fun a75 => gdr (gR (gsI (gsI M s0_64 s1_65.toNatClampNeg s2_66) a70 2 (gI (gsI M s0_64 s1_65.toNatClampNeg s2_66) l5_62 1)) 16 1) (fun a77 => gk (gsI (gsI M s0_64 s1_65.toNatClampNeg s2_66) a70 2 (gI (gsI M s0_64 s1_65.toNatClampNeg s2_66) l5_62 1)) a77 = 48 ∧ vp_in (gI (gsI (gsI M s0_64 s1_65.toNatClampNeg s2_66) a70 2 (gI (gsI M s0_64 s1_65.toNatClampNeg s2_66) l5_62 1)) l5_62 0) (gl (gsI (gsI M s0_64 s1_65.toNatClampNeg s2_66) a70 2 (gI (gsI M s0_64 s1_65.toNatClampNeg s2_66) l5_62 1)) a77) ∧ gdr (gR (gsI (gsI M s0_64 s1_65.toNatClampNeg s2_66) a70 2 (gI (gsI M s0_64 s1_65.toNatClampNeg s2_66) l5_62 1)) a77 ((gI (gsI (gsI M s0_64 s1_65.toNatClampNeg s2_66) a70 2 (gI (gsI M s0_64 s1_65.toNatClampNeg s2_66) l5_62 1)) l5_62 0).toNatClampNeg)) (fun a81 => gk (gsI (gsI M s0_64 s1_65.toNatClampNeg s2_66) a70 2 (gI (gsI M s0_64 s1_65.toNatClampNeg s2_66) l5_62 1)) a81 = 40 ∧ vp_in l3_60 (gl (gsI (gsI M s0_64 s1_65.toNatClampNeg s2_66) a70 2 (gI (gsI M s0_64 s1_65.toNatClampNeg s2_66) l5_62 1)) a81) ∧ gk (gsI (gsI M s0_64 s1_65.toNatClampNeg s2_66) a70 2 (gI (gsI M s0_64 s1_65.toNatClampNeg s2_66) l5_62 1)) a75 = 40 ∧ vp_in 3 (gl (gsI (gsI M s0_64 s1_65.toNatClampNeg s2_66) a70 2 (gI (gsI M s0_64 s1_65.toNatClampNeg s2_66) l5_62 1)) a75) ∧ fX1_goes_b109 l1_58 l2_59 l3_60 l4_61 l5_62 l6_63 (gsI (gsI (gsI M s0_64 s1_65.toNatClampNeg s2_66) a70 2 (gI (gsI M s0_64 s1_65.toNatClampNeg s2_66) l5_62 1)) a75 3 (gI (gsI (gsI M s0_64 s1_65.toNatClampNeg s2_66) a70 2 (gI (gsI M s0_64 s1_65.toNatClampNeg s2_66) l5_62 1)) a81 l3_60.toNatClampNeg)) Q))))
theorem wX1_goes_b79 {kf : Nat} {G : gG} {w : gM → Nat → List (Nat × Value) → List Value → Prop} {Q : gM → Prop} (hw : gX yX1_goes cX1_goes 8 (Option.none : Option FieldType) [] kf G (gQv Q) gE0 w) (hkf : 1013 ≤ kf)  {l1_58 : Nat} {l2_59 : Int32} {l3_60 : Int32} {l4_61 : Int32} {l5_62 : Nat} {l6_63 : Int32} {s0_64 : Nat} {s1_65 : Int32} {s2_66 : Int32} {M : gM}  (h : fX1_goes_b79 l1_58 l2_59 l3_60 l4_61 l5_62 l6_63 s0_64 s1_65 s2_66 M Q) : w M 79 [(0, .ref (gA G 16)), (1, .ref (gA G l1_58)), (2, .int l2_59), (3, .int l3_60), (4, .int l4_61), (5, .ref (gA G l5_62)), (6, .int l6_63)] [.int s2_66, .int s1_65, .ref (gA G s0_64)] := by
  unfold fX1_goes_b79 at h
  obtain ⟨hk67, h⟩ := h
  obtain ⟨hi68, h⟩ := h
  refine g_iast (n := s1_65.toNatClampNeg) hw dX1_goes_79 hk67 hi68 rfl ?_
  refine g_aload_n hw 0 dX1_goes_80 rfl ?_
  obtain ⟨hk69, h⟩ := h
  obtain ⟨a70, e71, h⟩ := h
  refine gfX1_83 (q := some a70) hw rfl dX1_goes_81 hk69 e71 ?_
  refine g_iconst (v := 2) hw dX1_goes_84 (by decide) ?_
  refine g_aload hw 5 dX1_goes_85 rfl ?_
  obtain ⟨hk72, h⟩ := h
  refine gfX1_127 hw rfl dX1_goes_87 hk72 ?_
  obtain ⟨hk73, h⟩ := h
  obtain ⟨hi74, h⟩ := h
  refine g_iast (n := 2) hw dX1_goes_90 hk73 hi74 rfl ?_
  refine g_aload_n hw 0 dX1_goes_91 rfl ?_
  obtain ⟨a75, e76, h⟩ := h
  refine gfX1_83 (q := some a75) hw rfl dX1_goes_92 hk69 e76 ?_
  refine g_iconst (v := 3) hw dX1_goes_95 (by decide) ?_
  refine g_aload_n hw 0 dX1_goes_96 rfl ?_
  obtain ⟨a77, e78, h⟩ := h
  refine gfX1_27 (q := some a77) hw rfl dX1_goes_97 hk69 e78 ?_
  refine g_aload hw 5 dX1_goes_100 rfl ?_
  refine gfX1_124 hw rfl dX1_goes_102 hk72 ?_
  obtain ⟨hk79, h⟩ := h
  obtain ⟨hi80, h⟩ := h
  obtain ⟨a81, e82, h⟩ := h
  refine g_aaldS (n := (gI (gsI (gsI M s0_64 s1_65.toNatClampNeg s2_66) a70 2 (gI (gsI M s0_64 s1_65.toNatClampNeg s2_66) l5_62 1)) l5_62 0).toNatClampNeg) hw 8 dX1_goes_105 ⟨rfl, rfl⟩ hk79 hi80 rfl e82 ?_
  refine g_iload_n hw 3 dX1_goes_106 rfl ?_
  obtain ⟨hk83, h⟩ := h
  obtain ⟨hi84, h⟩ := h
  refine g_iald (n := l3_60.toNatClampNeg) hw dX1_goes_107 hk83 hi84 rfl ?_
  obtain ⟨hk85, h⟩ := h
  obtain ⟨hi86, h⟩ := h
  refine g_iast (n := 3) hw dX1_goes_108 hk85 hi86 rfl ?_
  exact wX1_goes_b109 hw hkf h
def fX1_goes_b54 (l1_35 : Nat) (l2_36 : Int32) (l3_37 : Int32) (l4_38 : Int32) (l5_39 : Nat) (l6_40 : Int32) (s0_41 : Nat) (s1_42 : Int32) (s2_43 : Int32) (M : gM) (Q : gM → Prop) : Prop :=
  gk M s0_41 = 40 ∧ vp_in s1_42 (gl M s0_41) ∧ gk (gsI M s0_41 s1_42.toNatClampNeg s2_43) 16 = 1 ∧ gdr (gR (gsI M s0_41 s1_42.toNatClampNeg s2_43) 16 18) (fun a47 => (if l6_40 = 0 then gdr (gR (gsI M s0_41 s1_42.toNatClampNeg s2_43) 16 17) (fun a50 => gk (gsI M s0_41 s1_42.toNatClampNeg s2_43) a50 = 48 ∧ vp_in l2_36 (gl (gsI M s0_41 s1_42.toNatClampNeg s2_43) a50) ∧ gdr (gR (gsI M s0_41 s1_42.toNatClampNeg s2_43) a50 l2_36.toNatClampNeg) (fun a54 => gk (gsI M s0_41 s1_42.toNatClampNeg s2_43) a54 = 40 ∧ vp_in (l3_37 - 1) (gl (gsI M s0_41 s1_42.toNatClampNeg s2_43) a54) ∧ fX1_goes_b79 l1_35 l2_36 l3_37 l4_38 l5_39 l6_40 a47 1 (gI (gsI M s0_41 s1_42.toNatClampNeg s2_43) a54 ((l3_37 - 1).toNatClampNeg)) (gsI M s0_41 s1_42.toNatClampNeg s2_43) Q)) else fX1_goes_b79 l1_35 l2_36 l3_37 l4_38 l5_39 l6_40 a47 1 0 (gsI M s0_41 s1_42.toNatClampNeg s2_43) Q))
theorem wX1_goes_b54 {kf : Nat} {G : gG} {w : gM → Nat → List (Nat × Value) → List Value → Prop} {Q : gM → Prop} (hw : gX yX1_goes cX1_goes 8 (Option.none : Option FieldType) [] kf G (gQv Q) gE0 w) (hkf : 1013 ≤ kf)  {l1_35 : Nat} {l2_36 : Int32} {l3_37 : Int32} {l4_38 : Int32} {l5_39 : Nat} {l6_40 : Int32} {s0_41 : Nat} {s1_42 : Int32} {s2_43 : Int32} {M : gM}  (h : fX1_goes_b54 l1_35 l2_36 l3_37 l4_38 l5_39 l6_40 s0_41 s1_42 s2_43 M Q) : w M 54 [(0, .ref (gA G 16)), (1, .ref (gA G l1_35)), (2, .int l2_36), (3, .int l3_37), (4, .int l4_38), (5, .ref (gA G l5_39)), (6, .int l6_40)] [.int s2_43, .int s1_42, .ref (gA G s0_41)] := by
  unfold fX1_goes_b54 at h
  obtain ⟨hk44, h⟩ := h
  obtain ⟨hi45, h⟩ := h
  refine g_iast (n := s1_42.toNatClampNeg) hw dX1_goes_54 hk44 hi45 rfl ?_
  refine g_aload_n hw 0 dX1_goes_55 rfl ?_
  obtain ⟨hk46, h⟩ := h
  obtain ⟨a47, e48, h⟩ := h
  refine gfX1_83 (q := some a47) hw rfl dX1_goes_56 hk46 e48 ?_
  refine g_iconst (v := 1) hw dX1_goes_59 (by decide) ?_
  refine g_iload hw 6 dX1_goes_60 rfl ?_
  refine g_if_eq (tgt := 69) hw dX1_goes_62 (by decide) (fun hb49 => ?_) (fun hb49 => ?_)
  · have h := gT h hb49
    refine g_aload_n hw 0 dX1_goes_69 rfl ?_
    obtain ⟨a50, e51, h⟩ := h
    refine gfX1_80 (q := some a50) hw rfl dX1_goes_70 hk46 e51 ?_
    refine g_iload_n hw 2 dX1_goes_73 rfl ?_
    obtain ⟨hk52, h⟩ := h
    obtain ⟨hi53, h⟩ := h
    obtain ⟨a54, e55, h⟩ := h
    refine g_aaldS (n := l2_36.toNatClampNeg) hw 8 dX1_goes_74 ⟨rfl, rfl⟩ hk52 hi53 rfl e55 ?_
    refine g_iload_n hw 3 dX1_goes_75 rfl ?_
    refine g_iconst (v := 1) hw dX1_goes_76 (by decide) ?_
    refine g_isub hw dX1_goes_77 ?_
    obtain ⟨hk56, h⟩ := h
    obtain ⟨hi57, h⟩ := h
    refine g_iald (n := (l3_37 - 1).toNatClampNeg) hw dX1_goes_78 hk56 hi57 rfl ?_
    exact wX1_goes_b79 hw hkf h
  · have h := gF h hb49
    refine g_iconst (v := 0) hw dX1_goes_65 (by decide) ?_
    refine g_goto (tgt := 79) hw dX1_goes_66 (by decide) ?_
    exact wX1_goes_b79 hw hkf h
def fX1_goes_b28 (l1_17 : Nat) (l2_18 : Int32) (l3_19 : Int32) (l4_20 : Int32) (l5_21 : Nat) (s0_22 : Int32) (M : gM) (Q : gM → Prop) : Prop :=
  gk M 16 = 1 ∧ gdr (gR M 16 18) (fun a24 => (if s0_22 = 0 then gdr (gR M 16 16) (fun a27 => gk M a27 = 48 ∧ vp_in l2_18 (gl M a27) ∧ gdr (gR M a27 l2_18.toNatClampNeg) (fun a31 => gk M a31 = 40 ∧ vp_in (l3_19 - 1) (gl M a31) ∧ fX1_goes_b54 l1_17 l2_18 l3_19 l4_20 l5_21 s0_22 a24 0 (gI M a31 ((l3_19 - 1).toNatClampNeg)) M Q)) else fX1_goes_b54 l1_17 l2_18 l3_19 l4_20 l5_21 s0_22 a24 0 0 M Q))
theorem wX1_goes_b28 {kf : Nat} {G : gG} {w : gM → Nat → List (Nat × Value) → List Value → Prop} {Q : gM → Prop} (hw : gX yX1_goes cX1_goes 8 (Option.none : Option FieldType) [] kf G (gQv Q) gE0 w) (hkf : 1013 ≤ kf)  {l1_17 : Nat} {l2_18 : Int32} {l3_19 : Int32} {l4_20 : Int32} {l5_21 : Nat} {s0_22 : Int32} {M : gM}  (h : fX1_goes_b28 l1_17 l2_18 l3_19 l4_20 l5_21 s0_22 M Q) : w M 28 [(0, .ref (gA G 16)), (1, .ref (gA G l1_17)), (2, .int l2_18), (3, .int l3_19), (4, .int l4_20), (5, .ref (gA G l5_21))] [.int s0_22] := by
  unfold fX1_goes_b28 at h
  refine g_istore hw (lv2 := [(0, .ref (gA G 16)), (1, .ref (gA G l1_17)), (2, .int l2_18), (3, .int l3_19), (4, .int l4_20), (5, .ref (gA G l5_21)), (6, .int s0_22)]) [1, 2, 3, 4, 5, 6, 0] dX1_goes_28 rfl rfl ?_
  refine g_aload_n hw 0 dX1_goes_30 rfl ?_
  obtain ⟨hk23, h⟩ := h
  obtain ⟨a24, e25, h⟩ := h
  refine gfX1_83 (q := some a24) hw rfl dX1_goes_31 hk23 e25 ?_
  refine g_iconst (v := 0) hw dX1_goes_34 (by decide) ?_
  refine g_iload hw 6 dX1_goes_35 rfl ?_
  refine g_if_eq (tgt := 44) hw dX1_goes_37 (by decide) (fun hb26 => ?_) (fun hb26 => ?_)
  · have h := gT h hb26
    refine g_aload_n hw 0 dX1_goes_44 rfl ?_
    obtain ⟨a27, e28, h⟩ := h
    refine gfX1_77 (q := some a27) hw rfl dX1_goes_45 hk23 e28 ?_
    refine g_iload_n hw 2 dX1_goes_48 rfl ?_
    obtain ⟨hk29, h⟩ := h
    obtain ⟨hi30, h⟩ := h
    obtain ⟨a31, e32, h⟩ := h
    refine g_aaldS (n := l2_18.toNatClampNeg) hw 8 dX1_goes_49 ⟨rfl, rfl⟩ hk29 hi30 rfl e32 ?_
    refine g_iload_n hw 3 dX1_goes_50 rfl ?_
    refine g_iconst (v := 1) hw dX1_goes_51 (by decide) ?_
    refine g_isub hw dX1_goes_52 ?_
    obtain ⟨hk33, h⟩ := h
    obtain ⟨hi34, h⟩ := h
    refine g_iald (n := (l3_19 - 1).toNatClampNeg) hw dX1_goes_53 hk33 hi34 rfl ?_
    exact wX1_goes_b54 hw hkf h
  · have h := gF h hb26
    refine g_iconst (v := 0) hw dX1_goes_40 (by decide) ?_
    refine g_goto (tgt := 54) hw dX1_goes_41 (by decide) ?_
    exact wX1_goes_b54 hw hkf h
def fX1_goes (p1 : Nat) (p2 : Int32) (p3 : Int32) (p4 : Int32) (M : gM) (Q : gM → Prop) : Prop :=
  gk M 16 = 1 ∧ gdr (gR M 16 0) (fun a2 => gk M a2 = 44 ∧ vp_in p2 (gl M a2) ∧ gdr (gR M a2 p2.toNatClampNeg) (fun a6 => gdr (gR M 16 16) (fun a8 => gk M a8 = 48 ∧ vp_in p2 (gl M a8) ∧ gdr (gR M a8 p2.toNatClampNeg) (fun a12 => gk M a12 = 40 ∧ vp_in (p3 - 1) (gl M a12) ∧ (if (gI M a12 ((p3 - 1).toNatClampNeg)) = (-2) then fX1_goes_b28 p1 p2 p3 p4 a6 1 M Q else fX1_goes_b28 p1 p2 p3 p4 a6 0 M Q)))))
theorem mX1_goes {kf : Nat} (hkf : 1013 ≤ kf) (G : gG) (p1 : Nat) (p2 : Int32) (p3 : Int32) (p4 : Int32) (M : gM) (Q : gM → Prop) (h : fX1_goes p1 p2 p3 p4 M Q) : gMet yX1_goes cX1_goes 8 (Option.none : Option FieldType) kf G M [.ref (gA G 16), .ref (gA G p1), .int p2, .int p3, .int p4] (gQv Q) gE0 := by
  refine g_intro (lv := [(0, .ref (gA G 16)), (1, .ref (gA G p1)), (2, .int p2), (3, .int p3), (4, .int p4)]) (by decide) rfl rfl (fun w hw => ?_)
  unfold fX1_goes at h
  refine g_aload_n hw 0 dX1_goes_0 rfl ?_
  obtain ⟨hk1, h⟩ := h
  obtain ⟨a2, e3, h⟩ := h
  refine gfX1_21 (q := some a2) hw rfl dX1_goes_1 hk1 e3 ?_
  refine g_iload_n hw 2 dX1_goes_4 rfl ?_
  obtain ⟨hk4, h⟩ := h
  obtain ⟨hi5, h⟩ := h
  obtain ⟨a6, e7, h⟩ := h
  refine g_aaldS (n := p2.toNatClampNeg) hw 4 dX1_goes_5 ⟨rfl, rfl⟩ hk4 hi5 rfl e7 ?_
  refine g_astore hw (lv2 := [(0, .ref (gA G 16)), (1, .ref (gA G p1)), (2, .int p2), (3, .int p3), (4, .int p4), (5, .ref (gA G a6))]) [1, 2, 3, 4, 5, 0] dX1_goes_6 rfl rfl ?_
  refine g_aload_n hw 0 dX1_goes_8 rfl ?_
  obtain ⟨a8, e9, h⟩ := h
  refine gfX1_77 (q := some a8) hw rfl dX1_goes_9 hk1 e9 ?_
  refine g_iload_n hw 2 dX1_goes_12 rfl ?_
  obtain ⟨hk10, h⟩ := h
  obtain ⟨hi11, h⟩ := h
  obtain ⟨a12, e13, h⟩ := h
  refine g_aaldS (n := p2.toNatClampNeg) hw 8 dX1_goes_13 ⟨rfl, rfl⟩ hk10 hi11 rfl e13 ?_
  refine g_iload_n hw 3 dX1_goes_14 rfl ?_
  refine g_iconst (v := 1) hw dX1_goes_15 (by decide) ?_
  refine g_isub hw dX1_goes_16 ?_
  obtain ⟨hk14, h⟩ := h
  obtain ⟨hi15, h⟩ := h
  refine g_iald (n := (p3 - 1).toNatClampNeg) hw dX1_goes_17 hk14 hi15 rfl ?_
  refine g_bipush (v := (-2)) hw dX1_goes_18 (by decide) ?_
  refine g_icmp_ne (tgt := 27) hw dX1_goes_20 (by decide) (fun hb16 => ?_) (fun hb16 => ?_)
  · have h := gF h hb16
    refine g_iconst (v := 0) hw dX1_goes_27 (by decide) ?_
    exact wX1_goes_b28 hw hkf h
  · have h := gT h hb16
    refine g_iconst (v := 1) hw dX1_goes_23 (by decide) ?_
    refine g_goto (tgt := 28) hw dX1_goes_24 (by decide) ?_
    exact wX1_goes_b28 hw hkf h
theorem sX1_277 {y0 : MethodName} {cc : ByteArray} {nL : Nat} {ret : Option FieldType} {hh : List (Nat × Nat × Nat × Nat)} {kf : Nat} {G : gG} {Qv : Option Value → gM → Prop} {E : String → Nat → gM → Prop} {w : gM → Nat → List (Nat × Value) → List Value → Prop} {M : gM} {pc : Nat} {lv : List (Nat × Value)} {rest : List Value} (hw : gX y0 cc nL ret hh kf G Qv E w) (hy : y0.cls = RX1) {p1 : Nat} {p2 : Int32} {p3 : Int32} {p4 : Int32} {Q : gM → Prop} (d : decode cc pc = .ok (.invokevirtual 277, 3)) (hrest : Nat.ble ((rest.map Value.category).sum) 8 = true) (hk : 1013 + 1 ≤ kf) (hkd : gk M 16 = 1) (h : fX1_goes p1 p2 p3 p4 M Q) (kk : ∀ M1, Q M1 → w M1 (pc + 3) lv rest) : w M pc lv (.int p4 :: .int p3 :: .int p2 :: .ref (gA G p1) :: .ref (gA G 16) :: rest) := by
  obtain ⟨cls9, nm9, ds9⟩ := y0
  subst hy
  exact g_callV (r := (RX1, TX1, 28)) (ci := 0) hw [.ref (gA G p1), .int p2, .int p3, .int p4] (nA := 4) rfl d q810 q812 qs28 q98 q813 (by decide +kernel) rfl rfl hrest rfl (by omega : kf - 1 + 1 ≤ kf) hkd (mX1_goes (kf := kf - 1) (by omega) G p1 p2 p3 p4 M Q h) (fun _ _ _ q => q.elim) (fun v M1 h => by obtain ⟨rfl, h⟩ := h; exact kk M1 h)
def fX1_runs_b91 (R5 : Int32 → gM → Prop) (l1_1 : Nat) (l3_2 : Int32) (l4_70 : Int32) (s0_71 : Nat) (s1_72 : Int32) (s2_73 : Int32) (M : gM) (Q : gM → Prop) : Prop :=
  gk M s0_71 = 40 ∧ vp_in s1_72 (gl M s0_71) ∧ R5 (l4_70 + 1) (gsI M s0_71 s1_72.toNatClampNeg s2_73)
theorem wX1_runs_b91 {kf : Nat} {G : gG} {w : gM → Nat → List (Nat × Value) → List Value → Prop} {Q : gM → Prop} (hw : gX yX1_runs cX1_runs 6 (Option.none : Option FieldType) [] kf G (gQv Q) gE0 w) (hkf : 1014 ≤ kf) {R5 : Int32 → gM → Prop} {l1_1 : Nat} {l3_2 : Int32} {l4_70 : Int32} {s0_71 : Nat} {s1_72 : Int32} {s2_73 : Int32} {M : gM} (hR5 : ∀ (v0 : Int32) (M : gM), R5 v0 M → w M 5 [(0, .ref (gA G 16)), (1, .ref (gA G l1_1)), (3, .int l3_2), (4, .int v0)] []) (h : fX1_runs_b91 R5 l1_1 l3_2 l4_70 s0_71 s1_72 s2_73 M Q) : w M 91 [(0, .ref (gA G 16)), (1, .ref (gA G l1_1)), (3, .int l3_2), (4, .int l4_70)] [.int s2_73, .int s1_72, .ref (gA G s0_71)] := by
  unfold fX1_runs_b91 at h
  obtain ⟨hk74, h⟩ := h
  obtain ⟨hi75, h⟩ := h
  refine g_iast (n := s1_72.toNatClampNeg) hw dX1_runs_91 hk74 hi75 rfl ?_
  refine g_iinc hw (lv2 := [(0, .ref (gA G 16)), (1, .ref (gA G l1_1)), (3, .int l3_2), (4, .int (l4_70 + 1))]) 3 [1, 2, 3, 0] dX1_runs_92 rfl (by decide) rfl rfl ?_
  refine g_goto (tgt := 5) hw dX1_runs_95 (by decide) ?_
  exact hR5 (l4_70 + 1) (gsI M s0_71 s1_72.toNatClampNeg s2_73) h
def fX1_runs_b52 (R5 : Int32 → gM → Prop) (l1_1 : Nat) (l3_2 : Int32) (l4_35 : Int32) (s0_36 : Nat) (s1_37 : Int32) (s2_38 : Int32) (M : gM) (Q : gM → Prop) : Prop :=
  gk M s0_36 = 40 ∧ vp_in s1_37 (gl M s0_36) ∧ gk (gsI M s0_36 s1_37.toNatClampNeg s2_38) 16 = 1 ∧ gdr (gR (gsI M s0_36 s1_37.toNatClampNeg s2_38) 16 17) (fun a42 => gk (gsI M s0_36 s1_37.toNatClampNeg s2_38) a42 = 48 ∧ vp_in l4_35 (gl (gsI M s0_36 s1_37.toNatClampNeg s2_38) a42) ∧ gdr (gR (gsI M s0_36 s1_37.toNatClampNeg s2_38) a42 l4_35.toNatClampNeg) (fun a46 => gdr (gR (gsI M s0_36 s1_37.toNatClampNeg s2_38) 16 0) (fun a48 => gk (gsI M s0_36 s1_37.toNatClampNeg s2_38) a48 = 44 ∧ vp_in l4_35 (gl (gsI M s0_36 s1_37.toNatClampNeg s2_38) a48) ∧ gdr (gR (gsI M s0_36 s1_37.toNatClampNeg s2_38) a48 l4_35.toNatClampNeg) (fun a52 => gk (gsI M s0_36 s1_37.toNatClampNeg s2_38) a52 = 4 ∧ fX4_isSilent a52 0 (gsI M s0_36 s1_37.toNatClampNeg s2_38) (fun r56 M55 => (if r56 = 0 then gk M55 16 = 1 ∧ gdr (gR M55 16 0) (fun a59 => gk M55 a59 = 44 ∧ vp_in l4_35 (gl M55 a59) ∧ gdr (gR M55 a59 l4_35.toNatClampNeg) (fun a63 => gk M55 a63 = 4 ∧ gdr (gR M55 a63 6) (fun a66 => gk M55 a66 = 40 ∧ vp_in 0 (gl M55 a66) ∧ fX1_runs_b91 R5 l1_1 l3_2 l4_35 a46 0 (gI M55 a66 0) M55 Q))) else fX1_runs_b91 R5 l1_1 l3_2 l4_35 a46 0 0 M55 Q))))))
theorem wX1_runs_b52 {kf : Nat} {G : gG} {w : gM → Nat → List (Nat × Value) → List Value → Prop} {Q : gM → Prop} (hw : gX yX1_runs cX1_runs 6 (Option.none : Option FieldType) [] kf G (gQv Q) gE0 w) (hkf : 1014 ≤ kf) {R5 : Int32 → gM → Prop} {l1_1 : Nat} {l3_2 : Int32} {l4_35 : Int32} {s0_36 : Nat} {s1_37 : Int32} {s2_38 : Int32} {M : gM} (hR5 : ∀ (v0 : Int32) (M : gM), R5 v0 M → w M 5 [(0, .ref (gA G 16)), (1, .ref (gA G l1_1)), (3, .int l3_2), (4, .int v0)] []) (h : fX1_runs_b52 R5 l1_1 l3_2 l4_35 s0_36 s1_37 s2_38 M Q) : w M 52 [(0, .ref (gA G 16)), (1, .ref (gA G l1_1)), (3, .int l3_2), (4, .int l4_35)] [.int s2_38, .int s1_37, .ref (gA G s0_36)] := by
  unfold fX1_runs_b52 at h
  obtain ⟨hk39, h⟩ := h
  obtain ⟨hi40, h⟩ := h
  refine g_iast (n := s1_37.toNatClampNeg) hw dX1_runs_52 hk39 hi40 rfl ?_
  refine g_aload_n hw 0 dX1_runs_53 rfl ?_
  obtain ⟨hk41, h⟩ := h
  obtain ⟨a42, e43, h⟩ := h
  refine gfX1_80 (q := some a42) hw rfl dX1_runs_54 hk41 e43 ?_
  refine g_iload hw 3 dX1_runs_57 rfl ?_
  obtain ⟨hk44, h⟩ := h
  obtain ⟨hi45, h⟩ := h
  obtain ⟨a46, e47, h⟩ := h
  refine g_aaldS (n := l4_35.toNatClampNeg) hw 8 dX1_runs_59 ⟨rfl, rfl⟩ hk44 hi45 rfl e47 ?_
  refine g_iconst (v := 0) hw dX1_runs_60 (by decide) ?_
  refine g_aload_n hw 0 dX1_runs_61 rfl ?_
  obtain ⟨a48, e49, h⟩ := h
  refine gfX1_21 (q := some a48) hw rfl dX1_runs_62 hk41 e49 ?_
  refine g_iload hw 3 dX1_runs_65 rfl ?_
  obtain ⟨hk50, h⟩ := h
  obtain ⟨hi51, h⟩ := h
  obtain ⟨a52, e53, h⟩ := h
  refine g_aaldS (n := l4_35.toNatClampNeg) hw 4 dX1_runs_67 ⟨rfl, rfl⟩ hk50 hi51 rfl e53 ?_
  refine g_iconst (v := 0) hw dX1_runs_68 (by decide) ?_
  obtain ⟨hk54, h⟩ := h
  refine sX1_158 hw rfl dX1_runs_69 rfl (gK2 hkf) hk54 h (fun r56 M55 h => ?_)
  refine g_if_eq (tgt := 79) hw dX1_runs_72 (by decide) (fun hb57 => ?_) (fun hb57 => ?_)
  · have h := gT h hb57
    refine g_aload_n hw 0 dX1_runs_79 rfl ?_
    obtain ⟨hk58, h⟩ := h
    obtain ⟨a59, e60, h⟩ := h
    refine gfX1_21 (q := some a59) hw rfl dX1_runs_80 hk58 e60 ?_
    refine g_iload hw 3 dX1_runs_83 rfl ?_
    obtain ⟨hk61, h⟩ := h
    obtain ⟨hi62, h⟩ := h
    obtain ⟨a63, e64, h⟩ := h
    refine g_aaldS (n := l4_35.toNatClampNeg) hw 4 dX1_runs_85 ⟨rfl, rfl⟩ hk61 hi62 rfl e64 ?_
    obtain ⟨hk65, h⟩ := h
    obtain ⟨a66, e67, h⟩ := h
    refine gfX1_142 (q := some a66) hw rfl dX1_runs_86 hk65 e67 ?_
    refine g_iconst (v := 0) hw dX1_runs_89 (by decide) ?_
    obtain ⟨hk68, h⟩ := h
    obtain ⟨hi69, h⟩ := h
    refine g_iald (n := 0) hw dX1_runs_90 hk68 hi69 rfl ?_
    exact wX1_runs_b91 hw hkf hR5 h
  · have h := gF h hb57
    refine g_iconst (v := 0) hw dX1_runs_75 (by decide) ?_
    refine g_goto (tgt := 91) hw dX1_runs_76 (by decide) ?_
    exact wX1_runs_b91 hw hkf hR5 h
def fX1_runs_L5s (R5 : Int32 → gM → Prop) (K98_5 : gM → Prop) (l1_1 : Nat) (l3_2 : Int32) (l4_3 : Int32) (M : gM) (Q : gM → Prop) : Prop :=
  (if 24 ≤ l4_3 then K98_5 M else gk M 16 = 1 ∧ gdr (gR M 16 16) (fun a6 => gk M a6 = 48 ∧ vp_in l4_3 (gl M a6) ∧ gdr (gR M a6 l4_3.toNatClampNeg) (fun a10 => gdr (gR M 16 0) (fun a12 => gk M a12 = 44 ∧ vp_in l4_3 (gl M a12) ∧ gdr (gR M a12 l4_3.toNatClampNeg) (fun a16 => gk M a16 = 4 ∧ gdr (gR M a16 5) (fun a19 => gk M a19 = 40 ∧ vp_in 0 (gl M a19) ∧ (if (gI M a19 0) = (-1) then fX1_runs_b52 R5 l1_1 l3_2 l4_3 a10 0 0 M Q else gdr (gR M 16 0) (fun a24 => gk M a24 = 44 ∧ vp_in l4_3 (gl M a24) ∧ gdr (gR M a24 l4_3.toNatClampNeg) (fun a28 => gk M a28 = 4 ∧ gdr (gR M a28 5) (fun a31 => gk M a31 = 40 ∧ vp_in 0 (gl M a31) ∧ fX1_runs_b52 R5 l1_1 l3_2 l4_3 a10 0 (gI M a31 0) M Q))))))))))
def fX1_runs_L5 (K98_5 : gM → Prop) (l1_1 : Nat) (l3_2 : Int32) (Q : gM → Prop) : Nat → Int32 → gM → Prop
  | 0 => fun _ _ => False
  | n + 1 => fun l4_3 M => fX1_runs_L5s (fX1_runs_L5 K98_5 l1_1 l3_2 Q n) K98_5 l1_1 l3_2 l4_3 M Q
theorem wX1_runs_L5s {kf : Nat} {G : gG} {w : gM → Nat → List (Nat × Value) → List Value → Prop} {Q : gM → Prop} (hw : gX yX1_runs cX1_runs 6 (Option.none : Option FieldType) [] kf G (gQv Q) gE0 w) (hkf : 1014 ≤ kf) {R5 : Int32 → gM → Prop} {K98_5 : gM → Prop} {l1_1 : Nat} {l3_2 : Int32} {l4_3 : Int32} {M : gM} (hR5 : ∀ (v0 : Int32) (M : gM), R5 v0 M → w M 5 [(0, .ref (gA G 16)), (1, .ref (gA G l1_1)), (3, .int l3_2), (4, .int v0)] []) (hK98_5 : ∀  (M : gM), K98_5 M → w M 98 [(0, .ref (gA G 16)), (1, .ref (gA G l1_1)), (3, .int l3_2)] []) (h : fX1_runs_L5s R5 K98_5 l1_1 l3_2 l4_3 M Q) : w M 5 [(0, .ref (gA G 16)), (1, .ref (gA G l1_1)), (3, .int l3_2), (4, .int l4_3)] [] := by
  unfold fX1_runs_L5s at h
  refine g_iload hw 3 dX1_runs_5 rfl ?_
  refine g_bipush (v := 24) hw dX1_runs_7 (by decide) ?_
  refine g_icmp_ge (tgt := 98) hw dX1_runs_9 (by decide) (fun hb4 => ?_) (fun hb4 => ?_)
  · have h := gT h hb4
    refine g_sub hw (lv2 := [(0, .ref (gA G 16)), (1, .ref (gA G l1_1)), (3, .int l3_2)]) [0, 1, 2] rfl ?_
    exact hK98_5 M h
  · have h := gF h hb4
    refine g_aload_n hw 0 dX1_runs_12 rfl ?_
    obtain ⟨hk5, h⟩ := h
    obtain ⟨a6, e7, h⟩ := h
    refine gfX1_77 (q := some a6) hw rfl dX1_runs_13 hk5 e7 ?_
    refine g_iload hw 3 dX1_runs_16 rfl ?_
    obtain ⟨hk8, h⟩ := h
    obtain ⟨hi9, h⟩ := h
    obtain ⟨a10, e11, h⟩ := h
    refine g_aaldS (n := l4_3.toNatClampNeg) hw 8 dX1_runs_18 ⟨rfl, rfl⟩ hk8 hi9 rfl e11 ?_
    refine g_iconst (v := 0) hw dX1_runs_19 (by decide) ?_
    refine g_aload_n hw 0 dX1_runs_20 rfl ?_
    obtain ⟨a12, e13, h⟩ := h
    refine gfX1_21 (q := some a12) hw rfl dX1_runs_21 hk5 e13 ?_
    refine g_iload hw 3 dX1_runs_24 rfl ?_
    obtain ⟨hk14, h⟩ := h
    obtain ⟨hi15, h⟩ := h
    obtain ⟨a16, e17, h⟩ := h
    refine g_aaldS (n := l4_3.toNatClampNeg) hw 4 dX1_runs_26 ⟨rfl, rfl⟩ hk14 hi15 rfl e17 ?_
    obtain ⟨hk18, h⟩ := h
    obtain ⟨a19, e20, h⟩ := h
    refine gfX1_139 (q := some a19) hw rfl dX1_runs_27 hk18 e20 ?_
    refine g_iconst (v := 0) hw dX1_runs_30 (by decide) ?_
    obtain ⟨hk21, h⟩ := h
    obtain ⟨hi22, h⟩ := h
    refine g_iald (n := 0) hw dX1_runs_31 hk21 hi22 rfl ?_
    refine g_iconst (v := (-1)) hw dX1_runs_32 (by decide) ?_
    refine g_icmp_ne (tgt := 40) hw dX1_runs_33 (by decide) (fun hb23 => ?_) (fun hb23 => ?_)
    · have h := gF h hb23
      refine g_aload_n hw 0 dX1_runs_40 rfl ?_
      obtain ⟨a24, e25, h⟩ := h
      refine gfX1_21 (q := some a24) hw rfl dX1_runs_41 hk5 e25 ?_
      refine g_iload hw 3 dX1_runs_44 rfl ?_
      obtain ⟨hk26, h⟩ := h
      obtain ⟨hi27, h⟩ := h
      obtain ⟨a28, e29, h⟩ := h
      refine g_aaldS (n := l4_3.toNatClampNeg) hw 4 dX1_runs_46 ⟨rfl, rfl⟩ hk26 hi27 rfl e29 ?_
      obtain ⟨hk30, h⟩ := h
      obtain ⟨a31, e32, h⟩ := h
      refine gfX1_139 (q := some a31) hw rfl dX1_runs_47 hk30 e32 ?_
      refine g_iconst (v := 0) hw dX1_runs_50 (by decide) ?_
      obtain ⟨hk33, h⟩ := h
      obtain ⟨hi34, h⟩ := h
      refine g_iald (n := 0) hw dX1_runs_51 hk33 hi34 rfl ?_
      exact wX1_runs_b52 hw hkf hR5 h
    · have h := gT h hb23
      refine g_iconst (v := 0) hw dX1_runs_36 (by decide) ?_
      refine g_goto (tgt := 52) hw dX1_runs_37 (by decide) ?_
      exact wX1_runs_b52 hw hkf hR5 h
theorem wX1_runs_L5 {kf : Nat} {G : gG} {w : gM → Nat → List (Nat × Value) → List Value → Prop} {Q : gM → Prop} (hw : gX yX1_runs cX1_runs 6 (Option.none : Option FieldType) [] kf G (gQv Q) gE0 w) (hkf : 1014 ≤ kf) {K98_5 : gM → Prop} {l1_1 : Nat} {l3_2 : Int32} (hK98_5 : ∀  (M : gM), K98_5 M → w M 98 [(0, .ref (gA G 16)), (1, .ref (gA G l1_1)), (3, .int l3_2)] []) : ∀ (n : Nat) (l4_3 : Int32) (M : gM), fX1_runs_L5 K98_5 l1_1 l3_2 Q n l4_3 M → w M 5 [(0, .ref (gA G 16)), (1, .ref (gA G l1_1)), (3, .int l3_2), (4, .int l4_3)] [] := by
  intro n
  induction n with
  | zero => intro l4_3 M h; exact h.elim
  | succ n ih => intro l4_3 M h; exact wX1_runs_L5s hw hkf ih hK98_5 h
def fX1_runs_b167 (R111 : Int32 → Int32 → gM → Prop) (l1_77 : Nat) (l3_96 : Int32) (l4_81 : Int32) (l5_97 : Int32) (M : gM) (Q : gM → Prop) : Prop :=
  R111 l3_96 (l5_97 + 1) M
theorem wX1_runs_b167 {kf : Nat} {G : gG} {w : gM → Nat → List (Nat × Value) → List Value → Prop} {Q : gM → Prop} (hw : gX yX1_runs cX1_runs 6 (Option.none : Option FieldType) [] kf G (gQv Q) gE0 w) (hkf : 1014 ≤ kf) {R111 : Int32 → Int32 → gM → Prop} {l1_77 : Nat} {l3_96 : Int32} {l4_81 : Int32} {l5_97 : Int32} {M : gM} (hR111 : ∀ (v0 : Int32) (v1 : Int32) (M : gM), R111 v0 v1 M → w M 111 [(0, .ref (gA G 16)), (1, .ref (gA G l1_77)), (3, .int v0), (4, .int l4_81), (5, .int v1)] []) (h : fX1_runs_b167 R111 l1_77 l3_96 l4_81 l5_97 M Q) : w M 167 [(0, .ref (gA G 16)), (1, .ref (gA G l1_77)), (3, .int l3_96), (4, .int l4_81), (5, .int l5_97)] [] := by
  unfold fX1_runs_b167 at h
  refine g_iinc hw (lv2 := [(0, .ref (gA G 16)), (1, .ref (gA G l1_77)), (3, .int l3_96), (4, .int l4_81), (5, .int (l5_97 + 1))]) 4 [1, 2, 3, 4, 0] dX1_runs_167 rfl (by decide) rfl rfl ?_
  refine g_goto (tgt := 111) hw dX1_runs_170 (by decide) ?_
  exact hR111 l3_96 (l5_97 + 1) M h
def fX1_runs_L111s (R111 : Int32 → Int32 → gM → Prop) (K173_111 : Int32 → gM → Prop) (l1_77 : Nat) (l4_81 : Int32) (l3_82 : Int32) (l5_83 : Int32) (M : gM) (Q : gM → Prop) : Prop :=
  (if 24 ≤ l5_83 then K173_111 l3_82 M else gk M 16 = 1 ∧ gdr (gR M 16 0) (fun a86 => gk M a86 = 44 ∧ vp_in l5_83 (gl M a86) ∧ gdr (gR M a86 l5_83.toNatClampNeg) (fun a90 => gk M a90 = 4 ∧ (if (gI M a90 3) = 0 then fX1_runs_b167 R111 l1_77 l3_82 l4_81 l5_83 M Q else fX1_goes l1_77 l5_83 l4_81 ((((((l3_82.toInt64 * 1103515245) + 12345) - ((l3_82.toInt64 * 1103515245) + 12345) / 2147483648 * 2147483648).toInt32) / 65536) - (((((l3_82.toInt64 * 1103515245) + 12345) - ((l3_82.toInt64 * 1103515245) + 12345) / 2147483648 * 2147483648).toInt32) / 65536) / 10 * 10) M (fun M94 => fX1_runs_b167 R111 l1_77 ((((l3_82.toInt64 * 1103515245) + 12345) - ((l3_82.toInt64 * 1103515245) + 12345) / 2147483648 * 2147483648).toInt32) l4_81 l5_83 M94 Q)))))
def fX1_runs_L111 (K173_111 : Int32 → gM → Prop) (l1_77 : Nat) (l4_81 : Int32) (Q : gM → Prop) : Nat → Int32 → Int32 → gM → Prop
  | 0 => fun _ _ _ => False
  | n + 1 => fun l3_82 l5_83 M => fX1_runs_L111s (fX1_runs_L111 K173_111 l1_77 l4_81 Q n) K173_111 l1_77 l4_81 l3_82 l5_83 M Q
theorem wX1_runs_L111s {kf : Nat} {G : gG} {w : gM → Nat → List (Nat × Value) → List Value → Prop} {Q : gM → Prop} (hw : gX yX1_runs cX1_runs 6 (Option.none : Option FieldType) [] kf G (gQv Q) gE0 w) (hkf : 1014 ≤ kf) {R111 : Int32 → Int32 → gM → Prop} {K173_111 : Int32 → gM → Prop} {l1_77 : Nat} {l4_81 : Int32} {l3_82 : Int32} {l5_83 : Int32} {M : gM} (hR111 : ∀ (v0 : Int32) (v1 : Int32) (M : gM), R111 v0 v1 M → w M 111 [(0, .ref (gA G 16)), (1, .ref (gA G l1_77)), (3, .int v0), (4, .int l4_81), (5, .int v1)] []) (hK173_111 : ∀ (v0 : Int32) (M : gM), K173_111 v0 M → w M 173 [(0, .ref (gA G 16)), (1, .ref (gA G l1_77)), (3, .int v0), (4, .int l4_81)] []) (h : fX1_runs_L111s R111 K173_111 l1_77 l4_81 l3_82 l5_83 M Q) : w M 111 [(0, .ref (gA G 16)), (1, .ref (gA G l1_77)), (3, .int l3_82), (4, .int l4_81), (5, .int l5_83)] [] := by
  unfold fX1_runs_L111s at h
  refine g_iload hw 4 dX1_runs_111 rfl ?_
  refine g_bipush (v := 24) hw dX1_runs_113 (by decide) ?_
  refine g_icmp_ge (tgt := 173) hw dX1_runs_115 (by decide) (fun hb84 => ?_) (fun hb84 => ?_)
  · have h := gT h hb84
    refine g_sub hw (lv2 := [(0, .ref (gA G 16)), (1, .ref (gA G l1_77)), (3, .int l3_82), (4, .int l4_81)]) [0, 1, 2, 3] rfl ?_
    exact hK173_111 l3_82 M h
  · have h := gF h hb84
    refine g_aload_n hw 0 dX1_runs_118 rfl ?_
    obtain ⟨hk85, h⟩ := h
    obtain ⟨a86, e87, h⟩ := h
    refine gfX1_21 (q := some a86) hw rfl dX1_runs_119 hk85 e87 ?_
    refine g_iload hw 4 dX1_runs_122 rfl ?_
    obtain ⟨hk88, h⟩ := h
    obtain ⟨hi89, h⟩ := h
    obtain ⟨a90, e91, h⟩ := h
    refine g_aaldS (n := l5_83.toNatClampNeg) hw 4 dX1_runs_124 ⟨rfl, rfl⟩ hk88 hi89 rfl e91 ?_
    obtain ⟨hk92, h⟩ := h
    refine gfX1_116 hw rfl dX1_runs_125 hk92 ?_
    refine g_if_ne (tgt := 134) hw dX1_runs_128 (by decide) (fun hb93 => ?_) (fun hb93 => ?_)
    · have h := gF h hb93
      refine g_iload_n hw 2 dX1_runs_134 rfl ?_
      refine g_i2l hw dX1_runs_135 ?_
      refine g_ldc2 hw dX1_runs_136 q806 ?_
      refine g_lmul hw dX1_runs_139 ?_
      refine g_ldc2 hw dX1_runs_140 q807 ?_
      refine g_ladd hw dX1_runs_143 ?_
      refine g_ldc2 hw dX1_runs_144 q808 ?_
      refine g_lrem hw dX1_runs_147 (by decide) ?_
      refine g_l2i hw dX1_runs_148 ?_
      refine g_istore_n hw (lv2 := [(0, .ref (gA G 16)), (1, .ref (gA G l1_77)), (3, .int ((((l3_82.toInt64 * 1103515245) + 12345) - ((l3_82.toInt64 * 1103515245) + 12345) / 2147483648 * 2147483648).toInt32)), (4, .int l4_81), (5, .int l5_83)]) [1, 2, 0, 3, 4] dX1_runs_149 rfl rfl ?_
      refine g_aload_n hw 0 dX1_runs_150 rfl ?_
      refine g_aload_n hw 1 dX1_runs_151 rfl ?_
      refine g_iload hw 4 dX1_runs_152 rfl ?_
      refine g_iload hw 3 dX1_runs_154 rfl ?_
      refine g_iload_n hw 2 dX1_runs_156 rfl ?_
      refine g_ldcw hw dX1_runs_157 q809 ?_
      refine g_idiv hw dX1_runs_160 (by decide) ?_
      refine g_bipush (v := 10) hw dX1_runs_161 (by decide) ?_
      refine g_irem hw dX1_runs_163 (by decide) ?_
      refine sX1_277 hw rfl dX1_runs_164 rfl (gK2 hkf) hk85 h (fun M94 h => ?_)
      exact wX1_runs_b167 hw hkf hR111 h
    · have h := gT h hb93
      refine g_goto (tgt := 167) hw dX1_runs_131 (by decide) ?_
      exact wX1_runs_b167 hw hkf hR111 h
theorem wX1_runs_L111 {kf : Nat} {G : gG} {w : gM → Nat → List (Nat × Value) → List Value → Prop} {Q : gM → Prop} (hw : gX yX1_runs cX1_runs 6 (Option.none : Option FieldType) [] kf G (gQv Q) gE0 w) (hkf : 1014 ≤ kf) {K173_111 : Int32 → gM → Prop} {l1_77 : Nat} {l4_81 : Int32} (hK173_111 : ∀ (v0 : Int32) (M : gM), K173_111 v0 M → w M 173 [(0, .ref (gA G 16)), (1, .ref (gA G l1_77)), (3, .int v0), (4, .int l4_81)] []) : ∀ (n : Nat) (l3_82 : Int32) (l5_83 : Int32) (M : gM), fX1_runs_L111 K173_111 l1_77 l4_81 Q n l3_82 l5_83 M → w M 111 [(0, .ref (gA G 16)), (1, .ref (gA G l1_77)), (3, .int l3_82), (4, .int l4_81), (5, .int l5_83)] [] := by
  intro n
  induction n with
  | zero => intro l3_82 l5_83 M h; exact h.elim
  | succ n ih => intro l3_82 l5_83 M h; exact wX1_runs_L111s hw hkf ih hK173_111 h
def fX1_runs_L101s (R101 : Int32 → Int32 → gM → Prop) (K179_101 : gM → Prop) (l1_77 : Nat) (l3_78 : Int32) (l4_79 : Int32) (M : gM) (Q : gM → Prop) : Prop :=
  (if 12 ≤ l4_79 then K179_101 M else ∃ n, fX1_runs_L111 (fun l3_98 M99 => R101 l3_98 (l4_79 + 1) M99) l1_77 l4_79 Q n l3_78 0 M)
def fX1_runs_L101 (K179_101 : gM → Prop) (l1_77 : Nat) (Q : gM → Prop) : Nat → Int32 → Int32 → gM → Prop
  | 0 => fun _ _ _ => False
  | n + 1 => fun l3_78 l4_79 M => fX1_runs_L101s (fX1_runs_L101 K179_101 l1_77 Q n) K179_101 l1_77 l3_78 l4_79 M Q
theorem wX1_runs_L101s {kf : Nat} {G : gG} {w : gM → Nat → List (Nat × Value) → List Value → Prop} {Q : gM → Prop} (hw : gX yX1_runs cX1_runs 6 (Option.none : Option FieldType) [] kf G (gQv Q) gE0 w) (hkf : 1014 ≤ kf) {R101 : Int32 → Int32 → gM → Prop} {K179_101 : gM → Prop} {l1_77 : Nat} {l3_78 : Int32} {l4_79 : Int32} {M : gM} (hR101 : ∀ (v0 : Int32) (v1 : Int32) (M : gM), R101 v0 v1 M → w M 101 [(0, .ref (gA G 16)), (1, .ref (gA G l1_77)), (3, .int v0), (4, .int v1)] []) (hK179_101 : ∀  (M : gM), K179_101 M → w M 179 [] []) (h : fX1_runs_L101s R101 K179_101 l1_77 l3_78 l4_79 M Q) : w M 101 [(0, .ref (gA G 16)), (1, .ref (gA G l1_77)), (3, .int l3_78), (4, .int l4_79)] [] := by
  unfold fX1_runs_L101s at h
  refine g_iload hw 3 dX1_runs_101 rfl ?_
  refine g_bipush (v := 12) hw dX1_runs_103 (by decide) ?_
  refine g_icmp_ge (tgt := 179) hw dX1_runs_105 (by decide) (fun hb80 => ?_) (fun hb80 => ?_)
  · have h := gT h hb80
    refine g_sub hw (lv2 := []) [] rfl ?_
    exact hK179_101 M h
  · have h := gF h hb80
    refine g_iconst (v := 0) hw dX1_runs_108 (by decide) ?_
    refine g_istore hw (lv2 := [(0, .ref (gA G 16)), (1, .ref (gA G l1_77)), (3, .int l3_78), (4, .int l4_79), (5, .int 0)]) [1, 2, 3, 4, 0] dX1_runs_109 rfl rfl ?_
    obtain ⟨n9, h⟩ := h
    refine wX1_runs_L111 hw hkf (fun l3_98 M99 h => ?_) n9 l3_78 0 M h
    refine g_iinc hw (lv2 := [(0, .ref (gA G 16)), (1, .ref (gA G l1_77)), (3, .int l3_98), (4, .int (l4_79 + 1))]) 3 [1, 2, 3, 0] dX1_runs_173 rfl (by decide) rfl rfl ?_
    refine g_goto (tgt := 101) hw dX1_runs_176 (by decide) ?_
    exact hR101 l3_98 (l4_79 + 1) M99 h
theorem wX1_runs_L101 {kf : Nat} {G : gG} {w : gM → Nat → List (Nat × Value) → List Value → Prop} {Q : gM → Prop} (hw : gX yX1_runs cX1_runs 6 (Option.none : Option FieldType) [] kf G (gQv Q) gE0 w) (hkf : 1014 ≤ kf) {K179_101 : gM → Prop} {l1_77 : Nat} (hK179_101 : ∀  (M : gM), K179_101 M → w M 179 [] []) : ∀ (n : Nat) (l3_78 : Int32) (l4_79 : Int32) (M : gM), fX1_runs_L101 K179_101 l1_77 Q n l3_78 l4_79 M → w M 101 [(0, .ref (gA G 16)), (1, .ref (gA G l1_77)), (3, .int l3_78), (4, .int l4_79)] [] := by
  intro n
  induction n with
  | zero => intro l3_78 l4_79 M h; exact h.elim
  | succ n ih => intro l3_78 l4_79 M h; exact wX1_runs_L101s hw hkf ih hK179_101 h
def fX1_runs (p1 : Nat) (p2 : Int32) (M : gM) (Q : gM → Prop) : Prop :=
  ∃ n, fX1_runs_L5 (fun M76 => ∃ n, fX1_runs_L101 (fun M100 => Q M100) p1 Q n p2 1 M76) p1 p2 Q n 0 M
theorem mX1_runs {kf : Nat} (hkf : 1014 ≤ kf) (G : gG) (p1 : Nat) (p2 : Int32) (M : gM) (Q : gM → Prop) (h : fX1_runs p1 p2 M Q) : gMet yX1_runs cX1_runs 6 (Option.none : Option FieldType) kf G M [.ref (gA G 16), .ref (gA G p1), .int p2] (gQv Q) gE0 := by
  refine g_intro (lv := [(0, .ref (gA G 16)), (1, .ref (gA G p1)), (2, .int p2)]) (by decide) rfl rfl (fun w hw => ?_)
  unfold fX1_runs at h
  refine g_iload_n hw 2 dX1_runs_0 rfl ?_
  refine g_istore_n hw (lv2 := [(0, .ref (gA G 16)), (1, .ref (gA G p1)), (3, .int p2)]) [1, 2, 0] dX1_runs_1 rfl rfl ?_
  refine g_iconst (v := 0) hw dX1_runs_2 (by decide) ?_
  refine g_istore hw (lv2 := [(0, .ref (gA G 16)), (1, .ref (gA G p1)), (3, .int p2), (4, .int 0)]) [1, 2, 3, 0] dX1_runs_3 rfl rfl ?_
  obtain ⟨n9, h⟩ := h
  refine wX1_runs_L5 hw hkf (fun M76 h => ?_) n9 0 M h
  refine g_iconst (v := 1) hw dX1_runs_98 (by decide) ?_
  refine g_istore hw (lv2 := [(0, .ref (gA G 16)), (1, .ref (gA G p1)), (3, .int p2), (4, .int 1)]) [1, 2, 3, 0] dX1_runs_99 rfl rfl ?_
  obtain ⟨n9, h⟩ := h
  refine wX1_runs_L101 hw hkf (fun M100 h => ?_) n9 p2 1 M76 h
  exact g_vret hw dX1_runs_179 ⟨rfl, h⟩
def fX1_worldHands (p1 : Int32) (p2 : Int32) (M : gM) (Q : Int32 → gM → Prop) : Prop :=
  gk M 16 = 1 ∧ gdr (gR M 16 16) (fun a2 => gk M a2 = 48 ∧ vp_in p1 (gl M a2) ∧ gdr (gR M a2 p1.toNatClampNeg) (fun a6 => gk M a6 = 40 ∧ vp_in p2 (gl M a6) ∧ gdr (gR M 16 17) (fun a10 => gk M a10 = 48 ∧ vp_in p1 (gl M a10) ∧ gdr (gR M a10 p1.toNatClampNeg) (fun a14 => gk M a14 = 40 ∧ vp_in p2 (gl M a14) ∧ fX1_handsOf_2 (gI M a6 p2.toNatClampNeg) (gI M a14 p2.toNatClampNeg) M (fun r19 M18 => Q r19 M18)))))
theorem mX1_worldHands {kf : Nat} (hkf : 2 ≤ kf) (G : gG) (p1 : Int32) (p2 : Int32) (M : gM) (Q : Int32 → gM → Prop) (h : fX1_worldHands p1 p2 M Q) : gMet yX1_worldHands cX1_worldHands 3 (Option.some FieldType.int) kf G M [.ref (gA G 16), .int p1, .int p2] (gQi Q) gE0 := by
  refine g_intro (lv := [(0, .ref (gA G 16)), (1, .int p1), (2, .int p2)]) (by decide) rfl rfl (fun w hw => ?_)
  unfold fX1_worldHands at h
  refine g_aload_n hw 0 dX1_worldHands_0 rfl ?_
  refine g_aload_n hw 0 dX1_worldHands_1 rfl ?_
  obtain ⟨hk1, h⟩ := h
  obtain ⟨a2, e3, h⟩ := h
  refine gfX1_77 (q := some a2) hw rfl dX1_worldHands_2 hk1 e3 ?_
  refine g_iload_n hw 1 dX1_worldHands_5 rfl ?_
  obtain ⟨hk4, h⟩ := h
  obtain ⟨hi5, h⟩ := h
  obtain ⟨a6, e7, h⟩ := h
  refine g_aaldS (n := p1.toNatClampNeg) hw 8 dX1_worldHands_6 ⟨rfl, rfl⟩ hk4 hi5 rfl e7 ?_
  refine g_iload_n hw 2 dX1_worldHands_7 rfl ?_
  obtain ⟨hk8, h⟩ := h
  obtain ⟨hi9, h⟩ := h
  refine g_iald (n := p2.toNatClampNeg) hw dX1_worldHands_8 hk8 hi9 rfl ?_
  refine g_aload_n hw 0 dX1_worldHands_9 rfl ?_
  obtain ⟨a10, e11, h⟩ := h
  refine gfX1_80 (q := some a10) hw rfl dX1_worldHands_10 hk1 e11 ?_
  refine g_iload_n hw 1 dX1_worldHands_13 rfl ?_
  obtain ⟨hk12, h⟩ := h
  obtain ⟨hi13, h⟩ := h
  obtain ⟨a14, e15, h⟩ := h
  refine g_aaldS (n := p1.toNatClampNeg) hw 8 dX1_worldHands_14 ⟨rfl, rfl⟩ hk12 hi13 rfl e15 ?_
  refine g_iload_n hw 2 dX1_worldHands_15 rfl ?_
  obtain ⟨hk16, h⟩ := h
  obtain ⟨hi17, h⟩ := h
  refine g_iald (n := p2.toNatClampNeg) hw dX1_worldHands_16 hk16 hi17 rfl ?_
  refine sX1_155 hw rfl dX1_worldHands_17 rfl (gK2 hkf) hk1 h (fun r19 M18 h => ?_)
  exact g_iret hw dX1_worldHands_20 rfl ⟨_, rfl, h⟩
theorem sX1_302 {y0 : MethodName} {cc : ByteArray} {nL : Nat} {ret : Option FieldType} {hh : List (Nat × Nat × Nat × Nat)} {kf : Nat} {G : gG} {Qv : Option Value → gM → Prop} {E : String → Nat → gM → Prop} {w : gM → Nat → List (Nat × Value) → List Value → Prop} {M : gM} {pc : Nat} {lv : List (Nat × Value)} {rest : List Value} (hw : gX y0 cc nL ret hh kf G Qv E w) (hy : y0.cls = RX1) {p1 : Nat} {p2 : Int32} {Q : gM → Prop} (d : decode cc pc = .ok (.invokevirtual 302, 3)) (hrest : Nat.ble ((rest.map Value.category).sum) 8 = true) (hk : 1014 + 1 ≤ kf) (hkd : gk M 16 = 1) (h : fX1_runs p1 p2 M Q) (kk : ∀ M1, Q M1 → w M1 (pc + 3) lv rest) : w M pc lv (.int p2 :: .ref (gA G p1) :: .ref (gA G 16) :: rest) := by
  obtain ⟨cls9, nm9, ds9⟩ := y0
  subst hy
  exact g_callV (r := (RX1, TX1, 28)) (ci := 0) hw [.ref (gA G p1), .int p2] (nA := 2) rfl d q802 q804 qs27 q98 q805 (by decide +kernel) rfl rfl hrest rfl (by omega : kf - 1 + 1 ≤ kf) hkd (mX1_runs (kf := kf - 1) (by omega) G p1 p2 M Q h) (fun _ _ _ q => q.elim) (fun v M1 h => by obtain ⟨rfl, h⟩ := h; exact kk M1 h)
theorem sX1_306 {y0 : MethodName} {cc : ByteArray} {nL : Nat} {ret : Option FieldType} {hh : List (Nat × Nat × Nat × Nat)} {kf : Nat} {G : gG} {Qv : Option Value → gM → Prop} {E : String → Nat → gM → Prop} {w : gM → Nat → List (Nat × Value) → List Value → Prop} {M : gM} {pc : Nat} {lv : List (Nat × Value)} {rest : List Value} (hw : gX y0 cc nL ret hh kf G Qv E w) (hy : y0.cls = RX1) {p1 : Int32} {p2 : Int32} {Q : Int32 → gM → Prop} (d : decode cc pc = .ok (.invokevirtual 306, 3)) (hrest : Nat.ble ((rest.map Value.category).sum) 8 = true) (hk : 2 + 1 ≤ kf) (hkd : gk M 16 = 1) (h : fX1_worldHands p1 p2 M Q) (kk : ∀ r M1, Q r M1 → w M1 (pc + 3) lv (.int r :: rest)) : w M pc lv (.int p2 :: .int p1 :: .ref (gA G 16) :: rest) := by
  obtain ⟨cls9, nm9, ds9⟩ := y0
  subst hy
  exact g_callV (r := (RX1, TX1, 28)) (ci := 0) hw [.int p1, .int p2] (nA := 2) rfl d q840 q842 qs31 q98 q843 (by decide +kernel) rfl rfl hrest rfl (by omega : kf - 1 + 1 ≤ kf) hkd (mX1_worldHands (kf := kf - 1) (by omega) G p1 p2 M Q h) (fun _ _ _ q => q.elim) (fun v M1 h => by obtain ⟨r, rfl, h⟩ := h; exact kk r M1 h)
def fX1_world (p1 : Int32) (p2 : Int32) (p3 : Int32) (p4 : Int32) (M : gM) (Q : Int32 → gM → Prop) : Prop :=
  fX1_isLaw p1 M (fun r2 M1 => (if r2 = 0 then Q (-1) M1 else fX1_in p2 0 9999 M1 (fun r5 M4 => (if r5 = 0 then Q (-1) M4 else gk M4 16 = 1 ∧ fX1_isKitchen p3 M4 (fun r9 M8 => (if r9 = 0 then Q (-1) M8 else fX1_isMonth p4 M8 (fun r12 M11 => (if r12 = 0 then Q (-1) M11 else gk M11 16 = 1 ∧ gdr (gR M11 16 5) (fun a15 => gk M11 a15 = 45 ∧ vp_in p1 (gl M11 a15) ∧ gdr (gR M11 a15 p1.toNatClampNeg) (fun a19 => fX1_runs a19 p2 M11 (fun M21 => gk M21 16 = 1 ∧ fX1_worldHands p3 p4 M21 (fun r25 M24 => Q r25 M24))))))))))))
theorem mX1_world {kf : Nat} (hkf : 1015 ≤ kf) (G : gG) (p1 : Int32) (p2 : Int32) (p3 : Int32) (p4 : Int32) (M : gM) (Q : Int32 → gM → Prop) (h : fX1_world p1 p2 p3 p4 M Q) : gMet yX1_world cX1_world 5 (Option.some FieldType.int) kf G M [.ref (gA G 16), .int p1, .int p2, .int p3, .int p4] (gQi Q) gE0 := by
  refine g_intro (lv := [(0, .ref (gA G 16)), (1, .int p1), (2, .int p2), (3, .int p3), (4, .int p4)]) (by decide) rfl rfl (fun w hw => ?_)
  unfold fX1_world at h
  refine g_iload_n hw 1 dX1_world_0 rfl ?_
  refine sX1_255 hw rfl dX1_world_1 rfl (gK2 hkf) h (fun r2 M1 h => ?_)
  refine g_if_eq (tgt := 34) hw dX1_world_4 (by decide) (fun hb3 => ?_) (fun hb3 => ?_)
  · have h := gT h hb3
    refine g_iconst (v := (-1)) hw dX1_world_34 (by decide) ?_
    exact g_iret hw dX1_world_35 rfl ⟨_, rfl, h⟩
  · have h := gF h hb3
    refine g_iload_n hw 2 dX1_world_7 rfl ?_
    refine g_iconst (v := 0) hw dX1_world_8 (by decide) ?_
    refine g_sipush (v := 9999) hw dX1_world_9 (by decide) ?_
    refine sX1_112 hw rfl dX1_world_12 rfl (gK2 hkf) h (fun r5 M4 h => ?_)
    refine g_if_eq (tgt := 34) hw dX1_world_15 (by decide) (fun hb6 => ?_) (fun hb6 => ?_)
    · have h := gT h hb6
      refine g_iconst (v := (-1)) hw dX1_world_34 (by decide) ?_
      exact g_iret hw dX1_world_35 rfl ⟨_, rfl, h⟩
    · have h := gF h hb6
      refine g_aload_n hw 0 dX1_world_18 rfl ?_
      refine g_iload_n hw 3 dX1_world_19 rfl ?_
      obtain ⟨hk7, h⟩ := h
      refine sX1_136 hw rfl dX1_world_20 rfl (gK2 hkf) hk7 h (fun r9 M8 h => ?_)
      refine g_if_eq (tgt := 34) hw dX1_world_23 (by decide) (fun hb10 => ?_) (fun hb10 => ?_)
      · have h := gT h hb10
        refine g_iconst (v := (-1)) hw dX1_world_34 (by decide) ?_
        exact g_iret hw dX1_world_35 rfl ⟨_, rfl, h⟩
      · have h := gF h hb10
        refine g_iload hw 4 dX1_world_26 rfl ?_
        refine sX1_120 hw rfl dX1_world_28 rfl (gK2 hkf) h (fun r12 M11 h => ?_)
        refine g_if_ne (tgt := 36) hw dX1_world_31 (by decide) (fun hb13 => ?_) (fun hb13 => ?_)
        · have h := gF h hb13
          refine g_aload_n hw 0 dX1_world_36 rfl ?_
          refine g_aload_n hw 0 dX1_world_37 rfl ?_
          obtain ⟨hk14, h⟩ := h
          obtain ⟨a15, e16, h⟩ := h
          refine gfX1_46 (q := some a15) hw rfl dX1_world_38 hk14 e16 ?_
          refine g_iload_n hw 1 dX1_world_41 rfl ?_
          obtain ⟨hk17, h⟩ := h
          obtain ⟨hi18, h⟩ := h
          obtain ⟨a19, e20, h⟩ := h
          refine g_aaldS (n := p1.toNatClampNeg) hw 5 dX1_world_42 ⟨rfl, rfl⟩ hk17 hi18 rfl e20 ?_
          refine g_iload_n hw 2 dX1_world_43 rfl ?_
          refine sX1_302 hw rfl dX1_world_44 rfl (gK2 hkf) hk14 h (fun M21 h => ?_)
          refine g_aload_n hw 0 dX1_world_47 rfl ?_
          refine g_iload_n hw 3 dX1_world_48 rfl ?_
          refine g_iload hw 4 dX1_world_49 rfl ?_
          obtain ⟨hk23, h⟩ := h
          refine sX1_306 hw rfl dX1_world_51 rfl (gK2 hkf) hk23 h (fun r25 M24 h => ?_)
          exact g_iret hw dX1_world_54 rfl ⟨_, rfl, h⟩
        · have h := gT h hb13
          refine g_iconst (v := (-1)) hw dX1_world_34 (by decide) ?_
          exact g_iret hw dX1_world_35 rfl ⟨_, rfl, h⟩
theorem sX1_309 {y0 : MethodName} {cc : ByteArray} {nL : Nat} {ret : Option FieldType} {hh : List (Nat × Nat × Nat × Nat)} {kf : Nat} {G : gG} {Qv : Option Value → gM → Prop} {E : String → Nat → gM → Prop} {w : gM → Nat → List (Nat × Value) → List Value → Prop} {M : gM} {pc : Nat} {lv : List (Nat × Value)} {rest : List Value} (hw : gX y0 cc nL ret hh kf G Qv E w) (hy : y0.cls = RX1) {p1 : Int32} {Q : Int32 → gM → Prop} (d : decode cc pc = .ok (.invokestatic 309, 3)) (hrest : Nat.ble ((rest.map Value.category).sum) 8 = true) (hk : 1 + 1 ≤ kf) (h : fJ0_abs_2 p1 M Q) (kk : ∀ r M1, Q r M1 → w M1 (pc + 3) lv (.int r :: rest)) : w M pc lv (.int p1 :: rest) := by
  obtain ⟨cls9, nm9, ds9⟩ := y0
  subst hy
  exact g_callS hw [.int p1] (nA := 1) rfl d q852 q853 q105 q854 (by decide +kernel) rfl hrest rfl (by omega : kf - 1 + 1 ≤ kf) (mJ0_abs_2 (kf := kf - 1) (by omega) G p1 M Q h) (fun _ _ _ q => q.elim) (fun v M1 h => by obtain ⟨r, rfl, h⟩ := h; exact kk r M1 h)
def fX1_fitsOf_b100 (R36 : Int64 → Int32 → gM → Prop) (l1_1 : Int32) (l2_2 : Int32) (l3_42 : Int64) (l5_15 : Int32) (l6_19 : Int32) (l7_43 : Int32) (M : gM) (Q : Int64 → gM → Prop) : Prop :=
  R36 l3_42 (l7_43 + 1) M
theorem wX1_fitsOf_b100 {kf : Nat} {G : gG} {w : gM → Nat → List (Nat × Value) → List Value → Prop} {Q : Int64 → gM → Prop} (hw : gX yX1_fitsOf cX1_fitsOf 8 (Option.some FieldType.long) [] kf G (gQl Q) gE0 w) (hkf : 1015 ≤ kf) {R36 : Int64 → Int32 → gM → Prop} {l1_1 : Int32} {l2_2 : Int32} {l3_42 : Int64} {l5_15 : Int32} {l6_19 : Int32} {l7_43 : Int32} {M : gM} (hR36 : ∀ (v0 : Int64) (v1 : Int32) (M : gM), R36 v0 v1 M → w M 36 [(0, .ref (gA G 16)), (1, .int l1_1), (2, .int l2_2), (3, .long v0), (5, .int l5_15), (6, .int l6_19), (7, .int v1)] []) (h : fX1_fitsOf_b100 R36 l1_1 l2_2 l3_42 l5_15 l6_19 l7_43 M Q) : w M 100 [(0, .ref (gA G 16)), (1, .int l1_1), (2, .int l2_2), (3, .long l3_42), (5, .int l5_15), (6, .int l6_19), (7, .int l7_43)] [] := by
  unfold fX1_fitsOf_b100 at h
  refine g_iinc hw (lv2 := [(0, .ref (gA G 16)), (1, .int l1_1), (2, .int l2_2), (3, .long l3_42), (5, .int l5_15), (6, .int l6_19), (7, .int (l7_43 + 1))]) 6 [1, 2, 3, 4, 5, 6, 0] dX1_fitsOf_100 rfl (by decide) rfl rfl ?_
  refine g_goto (tgt := 36) hw dX1_fitsOf_103 (by decide) ?_
  exact hR36 l3_42 (l7_43 + 1) M h
def fX1_fitsOf_L36s (R36 : Int64 → Int32 → gM → Prop) (K106_36 : Int64 → gM → Prop) (l1_1 : Int32) (l2_2 : Int32) (l5_15 : Int32) (l6_19 : Int32) (l3_20 : Int64) (l7_21 : Int32) (M : gM) (Q : Int64 → gM → Prop) : Prop :=
  (if 12 ≤ l7_21 then K106_36 l3_20 M else gk M 16 = 1 ∧ gdr (gR M 16 0) (fun a24 => gk M a24 = 44 ∧ vp_in l6_19 (gl M a24) ∧ gdr (gR M a24 l6_19.toNatClampNeg) (fun a28 => gk M a28 = 4 ∧ (if (gI M a28 3) = 0 then K106_36 l3_20 M else gdr (gR M 16 0) (fun a32 => gk M a32 = 44 ∧ vp_in l6_19 (gl M a32) ∧ gdr (gR M a32 l6_19.toNatClampNeg) (fun a36 => gk M a36 = 4 ∧ fX4_isSilent a36 l7_21 M (fun r40 M39 => (if r40 = 0 then gk M39 16 = 1 ∧ fX1_worldHands l6_19 l7_21 M39 (fun r46 M45 => gk M45 16 = 1 ∧ gdr (gR M45 16 0) (fun a48 => gk M45 a48 = 44 ∧ vp_in l6_19 (gl M45 a48) ∧ gdr (gR M45 a48 l6_19.toNatClampNeg) (fun a52 => fX1_handsOf a52 l7_21 M45 (fun r55 M54 => fJ0_abs_2 (r46 - r55) M54 (fun r57 M56 => fX1_fitsOf_b100 R36 l1_1 l2_2 (l3_20 + r57.toInt64) l5_15 l6_19 l7_21 M56 Q))))) else fX1_fitsOf_b100 R36 l1_1 l2_2 l3_20 l5_15 l6_19 l7_21 M39 Q))))))))
def fX1_fitsOf_L36 (K106_36 : Int64 → gM → Prop) (l1_1 : Int32) (l2_2 : Int32) (l5_15 : Int32) (l6_19 : Int32) (Q : Int64 → gM → Prop) : Nat → Int64 → Int32 → gM → Prop
  | 0 => fun _ _ _ => False
  | n + 1 => fun l3_20 l7_21 M => fX1_fitsOf_L36s (fX1_fitsOf_L36 K106_36 l1_1 l2_2 l5_15 l6_19 Q n) K106_36 l1_1 l2_2 l5_15 l6_19 l3_20 l7_21 M Q
theorem wX1_fitsOf_L36s {kf : Nat} {G : gG} {w : gM → Nat → List (Nat × Value) → List Value → Prop} {Q : Int64 → gM → Prop} (hw : gX yX1_fitsOf cX1_fitsOf 8 (Option.some FieldType.long) [] kf G (gQl Q) gE0 w) (hkf : 1015 ≤ kf) {R36 : Int64 → Int32 → gM → Prop} {K106_36 : Int64 → gM → Prop} {l1_1 : Int32} {l2_2 : Int32} {l5_15 : Int32} {l6_19 : Int32} {l3_20 : Int64} {l7_21 : Int32} {M : gM} (hR36 : ∀ (v0 : Int64) (v1 : Int32) (M : gM), R36 v0 v1 M → w M 36 [(0, .ref (gA G 16)), (1, .int l1_1), (2, .int l2_2), (3, .long v0), (5, .int l5_15), (6, .int l6_19), (7, .int v1)] []) (hK106_36 : ∀ (v0 : Int64) (M : gM), K106_36 v0 M → w M 106 [(0, .ref (gA G 16)), (1, .int l1_1), (2, .int l2_2), (3, .long v0), (5, .int l5_15), (6, .int l6_19)] []) (h : fX1_fitsOf_L36s R36 K106_36 l1_1 l2_2 l5_15 l6_19 l3_20 l7_21 M Q) : w M 36 [(0, .ref (gA G 16)), (1, .int l1_1), (2, .int l2_2), (3, .long l3_20), (5, .int l5_15), (6, .int l6_19), (7, .int l7_21)] [] := by
  unfold fX1_fitsOf_L36s at h
  refine g_iload hw 6 dX1_fitsOf_36 rfl ?_
  refine g_bipush (v := 12) hw dX1_fitsOf_38 (by decide) ?_
  refine g_icmp_ge (tgt := 106) hw dX1_fitsOf_40 (by decide) (fun hb22 => ?_) (fun hb22 => ?_)
  · have h := gT h hb22
    refine g_sub hw (lv2 := [(0, .ref (gA G 16)), (1, .int l1_1), (2, .int l2_2), (3, .long l3_20), (5, .int l5_15), (6, .int l6_19)]) [0, 1, 2, 3, 4, 5] rfl ?_
    exact hK106_36 l3_20 M h
  · have h := gF h hb22
    refine g_aload_n hw 0 dX1_fitsOf_43 rfl ?_
    obtain ⟨hk23, h⟩ := h
    obtain ⟨a24, e25, h⟩ := h
    refine gfX1_21 (q := some a24) hw rfl dX1_fitsOf_44 hk23 e25 ?_
    refine g_iload hw 5 dX1_fitsOf_47 rfl ?_
    obtain ⟨hk26, h⟩ := h
    obtain ⟨hi27, h⟩ := h
    obtain ⟨a28, e29, h⟩ := h
    refine g_aaldS (n := l6_19.toNatClampNeg) hw 4 dX1_fitsOf_49 ⟨rfl, rfl⟩ hk26 hi27 rfl e29 ?_
    obtain ⟨hk30, h⟩ := h
    refine gfX1_116 hw rfl dX1_fitsOf_50 hk30 ?_
    refine g_if_eq (tgt := 106) hw dX1_fitsOf_53 (by decide) (fun hb31 => ?_) (fun hb31 => ?_)
    · have h := gT h hb31
      refine g_sub hw (lv2 := [(0, .ref (gA G 16)), (1, .int l1_1), (2, .int l2_2), (3, .long l3_20), (5, .int l5_15), (6, .int l6_19)]) [0, 1, 2, 3, 4, 5] rfl ?_
      exact hK106_36 l3_20 M h
    · have h := gF h hb31
      refine g_aload_n hw 0 dX1_fitsOf_56 rfl ?_
      obtain ⟨a32, e33, h⟩ := h
      refine gfX1_21 (q := some a32) hw rfl dX1_fitsOf_57 hk23 e33 ?_
      refine g_iload hw 5 dX1_fitsOf_60 rfl ?_
      obtain ⟨hk34, h⟩ := h
      obtain ⟨hi35, h⟩ := h
      obtain ⟨a36, e37, h⟩ := h
      refine g_aaldS (n := l6_19.toNatClampNeg) hw 4 dX1_fitsOf_62 ⟨rfl, rfl⟩ hk34 hi35 rfl e37 ?_
      refine g_iload hw 6 dX1_fitsOf_63 rfl ?_
      obtain ⟨hk38, h⟩ := h
      refine sX1_158 hw rfl dX1_fitsOf_65 rfl (gK2 hkf) hk38 h (fun r40 M39 h => ?_)
      refine g_if_ne (tgt := 100) hw dX1_fitsOf_68 (by decide) (fun hb41 => ?_) (fun hb41 => ?_)
      · have h := gF h hb41
        exact wX1_fitsOf_b100 hw hkf hR36 h
      · have h := gT h hb41
        refine g_lload_n hw 3 dX1_fitsOf_71 rfl ?_
        refine g_aload_n hw 0 dX1_fitsOf_72 rfl ?_
        refine g_iload hw 5 dX1_fitsOf_73 rfl ?_
        refine g_iload hw 6 dX1_fitsOf_75 rfl ?_
        obtain ⟨hk44, h⟩ := h
        refine sX1_306 hw rfl dX1_fitsOf_77 rfl (gK2 hkf) hk44 h (fun r46 M45 h => ?_)
        refine g_aload_n hw 0 dX1_fitsOf_80 rfl ?_
        refine g_aload_n hw 0 dX1_fitsOf_81 rfl ?_
        obtain ⟨hk47, h⟩ := h
        obtain ⟨a48, e49, h⟩ := h
        refine gfX1_21 (q := some a48) hw rfl dX1_fitsOf_82 hk47 e49 ?_
        refine g_iload hw 5 dX1_fitsOf_85 rfl ?_
        obtain ⟨hk50, h⟩ := h
        obtain ⟨hi51, h⟩ := h
        obtain ⟨a52, e53, h⟩ := h
        refine g_aaldS (n := l6_19.toNatClampNeg) hw 4 dX1_fitsOf_87 ⟨rfl, rfl⟩ hk50 hi51 rfl e53 ?_
        refine g_iload hw 6 dX1_fitsOf_88 rfl ?_
        refine sX1_161 hw rfl dX1_fitsOf_90 rfl (gK2 hkf) hk47 h (fun r55 M54 h => ?_)
        refine g_isub hw dX1_fitsOf_93 ?_
        refine sX1_309 hw rfl dX1_fitsOf_94 rfl (gK2 hkf) h (fun r57 M56 h => ?_)
        refine g_i2l hw dX1_fitsOf_97 ?_
        refine g_ladd hw dX1_fitsOf_98 ?_
        refine g_lstore_n hw (lv2 := [(0, .ref (gA G 16)), (1, .int l1_1), (2, .int l2_2), (3, .long (l3_20 + r57.toInt64)), (5, .int l5_15), (6, .int l6_19), (7, .int l7_21)]) [1, 2, 3, 0, 4, 5, 6] dX1_fitsOf_99 rfl rfl ?_
        exact wX1_fitsOf_b100 hw hkf hR36 h
theorem wX1_fitsOf_L36 {kf : Nat} {G : gG} {w : gM → Nat → List (Nat × Value) → List Value → Prop} {Q : Int64 → gM → Prop} (hw : gX yX1_fitsOf cX1_fitsOf 8 (Option.some FieldType.long) [] kf G (gQl Q) gE0 w) (hkf : 1015 ≤ kf) {K106_36 : Int64 → gM → Prop} {l1_1 : Int32} {l2_2 : Int32} {l5_15 : Int32} {l6_19 : Int32} (hK106_36 : ∀ (v0 : Int64) (M : gM), K106_36 v0 M → w M 106 [(0, .ref (gA G 16)), (1, .int l1_1), (2, .int l2_2), (3, .long v0), (5, .int l5_15), (6, .int l6_19)] []) : ∀ (n : Nat) (l3_20 : Int64) (l7_21 : Int32) (M : gM), fX1_fitsOf_L36 K106_36 l1_1 l2_2 l5_15 l6_19 Q n l3_20 l7_21 M → w M 36 [(0, .ref (gA G 16)), (1, .int l1_1), (2, .int l2_2), (3, .long l3_20), (5, .int l5_15), (6, .int l6_19), (7, .int l7_21)] [] := by
  intro n
  induction n with
  | zero => intro l3_20 l7_21 M h; exact h.elim
  | succ n ih => intro l3_20 l7_21 M h; exact wX1_fitsOf_L36s hw hkf ih hK106_36 h
def fX1_fitsOf_b106 (R26 : Int64 → Int32 → gM → Prop) (l1_1 : Int32) (l2_2 : Int32) (l3_60 : Int64) (l5_15 : Int32) (l6_61 : Int32) (M : gM) (Q : Int64 → gM → Prop) : Prop :=
  R26 l3_60 (l6_61 + 1) M
theorem wX1_fitsOf_b106 {kf : Nat} {G : gG} {w : gM → Nat → List (Nat × Value) → List Value → Prop} {Q : Int64 → gM → Prop} (hw : gX yX1_fitsOf cX1_fitsOf 8 (Option.some FieldType.long) [] kf G (gQl Q) gE0 w) (hkf : 1015 ≤ kf) {R26 : Int64 → Int32 → gM → Prop} {l1_1 : Int32} {l2_2 : Int32} {l3_60 : Int64} {l5_15 : Int32} {l6_61 : Int32} {M : gM} (hR26 : ∀ (v0 : Int64) (v1 : Int32) (M : gM), R26 v0 v1 M → w M 26 [(0, .ref (gA G 16)), (1, .int l1_1), (2, .int l2_2), (3, .long v0), (5, .int l5_15), (6, .int v1)] []) (h : fX1_fitsOf_b106 R26 l1_1 l2_2 l3_60 l5_15 l6_61 M Q) : w M 106 [(0, .ref (gA G 16)), (1, .int l1_1), (2, .int l2_2), (3, .long l3_60), (5, .int l5_15), (6, .int l6_61)] [] := by
  unfold fX1_fitsOf_b106 at h
  refine g_iinc hw (lv2 := [(0, .ref (gA G 16)), (1, .int l1_1), (2, .int l2_2), (3, .long l3_60), (5, .int l5_15), (6, .int (l6_61 + 1))]) 5 [1, 2, 3, 4, 5, 0] dX1_fitsOf_106 rfl (by decide) rfl rfl ?_
  refine g_goto (tgt := 26) hw dX1_fitsOf_109 (by decide) ?_
  exact hR26 l3_60 (l6_61 + 1) M h
def fX1_fitsOf_L26s (R26 : Int64 → Int32 → gM → Prop) (K112_26 : Int64 → gM → Prop) (l1_1 : Int32) (l2_2 : Int32) (l5_15 : Int32) (l3_16 : Int64) (l6_17 : Int32) (M : gM) (Q : Int64 → gM → Prop) : Prop :=
  (if 24 ≤ l6_17 then K112_26 l3_16 M else ∃ n, fX1_fitsOf_L36 (fun l3_58 M59 => fX1_fitsOf_b106 R26 l1_1 l2_2 l3_58 l5_15 l6_17 M59 Q) l1_1 l2_2 l5_15 l6_17 Q n l3_16 1 M)
def fX1_fitsOf_L26 (K112_26 : Int64 → gM → Prop) (l1_1 : Int32) (l2_2 : Int32) (l5_15 : Int32) (Q : Int64 → gM → Prop) : Nat → Int64 → Int32 → gM → Prop
  | 0 => fun _ _ _ => False
  | n + 1 => fun l3_16 l6_17 M => fX1_fitsOf_L26s (fX1_fitsOf_L26 K112_26 l1_1 l2_2 l5_15 Q n) K112_26 l1_1 l2_2 l5_15 l3_16 l6_17 M Q
theorem wX1_fitsOf_L26s {kf : Nat} {G : gG} {w : gM → Nat → List (Nat × Value) → List Value → Prop} {Q : Int64 → gM → Prop} (hw : gX yX1_fitsOf cX1_fitsOf 8 (Option.some FieldType.long) [] kf G (gQl Q) gE0 w) (hkf : 1015 ≤ kf) {R26 : Int64 → Int32 → gM → Prop} {K112_26 : Int64 → gM → Prop} {l1_1 : Int32} {l2_2 : Int32} {l5_15 : Int32} {l3_16 : Int64} {l6_17 : Int32} {M : gM} (hR26 : ∀ (v0 : Int64) (v1 : Int32) (M : gM), R26 v0 v1 M → w M 26 [(0, .ref (gA G 16)), (1, .int l1_1), (2, .int l2_2), (3, .long v0), (5, .int l5_15), (6, .int v1)] []) (hK112_26 : ∀ (v0 : Int64) (M : gM), K112_26 v0 M → w M 112 [(0, .ref (gA G 16)), (1, .int l1_1), (2, .int l2_2), (3, .long v0), (5, .int l5_15)] []) (h : fX1_fitsOf_L26s R26 K112_26 l1_1 l2_2 l5_15 l3_16 l6_17 M Q) : w M 26 [(0, .ref (gA G 16)), (1, .int l1_1), (2, .int l2_2), (3, .long l3_16), (5, .int l5_15), (6, .int l6_17)] [] := by
  unfold fX1_fitsOf_L26s at h
  refine g_iload hw 5 dX1_fitsOf_26 rfl ?_
  refine g_bipush (v := 24) hw dX1_fitsOf_28 (by decide) ?_
  refine g_icmp_ge (tgt := 112) hw dX1_fitsOf_30 (by decide) (fun hb18 => ?_) (fun hb18 => ?_)
  · have h := gT h hb18
    refine g_sub hw (lv2 := [(0, .ref (gA G 16)), (1, .int l1_1), (2, .int l2_2), (3, .long l3_16), (5, .int l5_15)]) [0, 1, 2, 3, 4] rfl ?_
    exact hK112_26 l3_16 M h
  · have h := gF h hb18
    refine g_iconst (v := 1) hw dX1_fitsOf_33 (by decide) ?_
    refine g_istore hw (lv2 := [(0, .ref (gA G 16)), (1, .int l1_1), (2, .int l2_2), (3, .long l3_16), (5, .int l5_15), (6, .int l6_17), (7, .int 1)]) [1, 2, 3, 4, 5, 6, 0] dX1_fitsOf_34 rfl rfl ?_
    obtain ⟨n9, h⟩ := h
    refine wX1_fitsOf_L36 hw hkf (fun l3_58 M59 h => ?_) n9 l3_16 1 M h
    exact wX1_fitsOf_b106 hw hkf hR26 h
theorem wX1_fitsOf_L26 {kf : Nat} {G : gG} {w : gM → Nat → List (Nat × Value) → List Value → Prop} {Q : Int64 → gM → Prop} (hw : gX yX1_fitsOf cX1_fitsOf 8 (Option.some FieldType.long) [] kf G (gQl Q) gE0 w) (hkf : 1015 ≤ kf) {K112_26 : Int64 → gM → Prop} {l1_1 : Int32} {l2_2 : Int32} {l5_15 : Int32} (hK112_26 : ∀ (v0 : Int64) (M : gM), K112_26 v0 M → w M 112 [(0, .ref (gA G 16)), (1, .int l1_1), (2, .int l2_2), (3, .long v0), (5, .int l5_15)] []) : ∀ (n : Nat) (l3_16 : Int64) (l6_17 : Int32) (M : gM), fX1_fitsOf_L26 K112_26 l1_1 l2_2 l5_15 Q n l3_16 l6_17 M → w M 26 [(0, .ref (gA G 16)), (1, .int l1_1), (2, .int l2_2), (3, .long l3_16), (5, .int l5_15), (6, .int l6_17)] [] := by
  intro n
  induction n with
  | zero => intro l3_16 l6_17 M h; exact h.elim
  | succ n ih => intro l3_16 l6_17 M h; exact wX1_fitsOf_L26s hw hkf ih hK112_26 h
def fX1_fitsOf_L5s (R5 : Int64 → Int32 → gM → Prop) (K118_5 : Int64 → gM → Prop) (l1_1 : Int32) (l2_2 : Int32) (l3_3 : Int64) (l5_4 : Int32) (M : gM) (Q : Int64 → gM → Prop) : Prop :=
  (if l2_2 ≤ l5_4 then K118_5 l3_3 M else gk M 16 = 1 ∧ gdr (gR M 16 5) (fun a7 => gk M a7 = 45 ∧ vp_in l1_1 (gl M a7) ∧ gdr (gR M a7 l1_1.toNatClampNeg) (fun a11 => fX1_runs a11 l5_4 M (fun M13 => ∃ n, fX1_fitsOf_L26 (fun l3_62 M63 => R5 l3_62 (l5_4 + 1) M63) l1_1 l2_2 l5_4 Q n l3_3 0 M13))))
def fX1_fitsOf_L5 (K118_5 : Int64 → gM → Prop) (l1_1 : Int32) (l2_2 : Int32) (Q : Int64 → gM → Prop) : Nat → Int64 → Int32 → gM → Prop
  | 0 => fun _ _ _ => False
  | n + 1 => fun l3_3 l5_4 M => fX1_fitsOf_L5s (fX1_fitsOf_L5 K118_5 l1_1 l2_2 Q n) K118_5 l1_1 l2_2 l3_3 l5_4 M Q
theorem wX1_fitsOf_L5s {kf : Nat} {G : gG} {w : gM → Nat → List (Nat × Value) → List Value → Prop} {Q : Int64 → gM → Prop} (hw : gX yX1_fitsOf cX1_fitsOf 8 (Option.some FieldType.long) [] kf G (gQl Q) gE0 w) (hkf : 1015 ≤ kf) {R5 : Int64 → Int32 → gM → Prop} {K118_5 : Int64 → gM → Prop} {l1_1 : Int32} {l2_2 : Int32} {l3_3 : Int64} {l5_4 : Int32} {M : gM} (hR5 : ∀ (v0 : Int64) (v1 : Int32) (M : gM), R5 v0 v1 M → w M 5 [(0, .ref (gA G 16)), (1, .int l1_1), (2, .int l2_2), (3, .long v0), (5, .int v1)] []) (hK118_5 : ∀ (v0 : Int64) (M : gM), K118_5 v0 M → w M 118 [(3, .long v0)] []) (h : fX1_fitsOf_L5s R5 K118_5 l1_1 l2_2 l3_3 l5_4 M Q) : w M 5 [(0, .ref (gA G 16)), (1, .int l1_1), (2, .int l2_2), (3, .long l3_3), (5, .int l5_4)] [] := by
  unfold fX1_fitsOf_L5s at h
  refine g_iload hw 4 dX1_fitsOf_5 rfl ?_
  refine g_iload_n hw 2 dX1_fitsOf_7 rfl ?_
  refine g_icmp_ge (tgt := 118) hw dX1_fitsOf_8 (by decide) (fun hb5 => ?_) (fun hb5 => ?_)
  · have h := gT h hb5
    refine g_sub hw (lv2 := [(3, .long l3_3)]) [3] rfl ?_
    exact hK118_5 l3_3 M h
  · have h := gF h hb5
    refine g_aload_n hw 0 dX1_fitsOf_11 rfl ?_
    refine g_aload_n hw 0 dX1_fitsOf_12 rfl ?_
    obtain ⟨hk6, h⟩ := h
    obtain ⟨a7, e8, h⟩ := h
    refine gfX1_46 (q := some a7) hw rfl dX1_fitsOf_13 hk6 e8 ?_
    refine g_iload_n hw 1 dX1_fitsOf_16 rfl ?_
    obtain ⟨hk9, h⟩ := h
    obtain ⟨hi10, h⟩ := h
    obtain ⟨a11, e12, h⟩ := h
    refine g_aaldS (n := l1_1.toNatClampNeg) hw 5 dX1_fitsOf_17 ⟨rfl, rfl⟩ hk9 hi10 rfl e12 ?_
    refine g_iload hw 4 dX1_fitsOf_18 rfl ?_
    refine sX1_302 hw rfl dX1_fitsOf_20 rfl (gK2 hkf) hk6 h (fun M13 h => ?_)
    refine g_iconst (v := 0) hw dX1_fitsOf_23 (by decide) ?_
    refine g_istore hw (lv2 := [(0, .ref (gA G 16)), (1, .int l1_1), (2, .int l2_2), (3, .long l3_3), (5, .int l5_4), (6, .int 0)]) [1, 2, 3, 4, 5, 0] dX1_fitsOf_24 rfl rfl ?_
    obtain ⟨n9, h⟩ := h
    refine wX1_fitsOf_L26 hw hkf (fun l3_62 M63 h => ?_) n9 l3_3 0 M13 h
    refine g_iinc hw (lv2 := [(0, .ref (gA G 16)), (1, .int l1_1), (2, .int l2_2), (3, .long l3_62), (5, .int (l5_4 + 1))]) 4 [1, 2, 3, 4, 0] dX1_fitsOf_112 rfl (by decide) rfl rfl ?_
    refine g_goto (tgt := 5) hw dX1_fitsOf_115 (by decide) ?_
    exact hR5 l3_62 (l5_4 + 1) M63 h
theorem wX1_fitsOf_L5 {kf : Nat} {G : gG} {w : gM → Nat → List (Nat × Value) → List Value → Prop} {Q : Int64 → gM → Prop} (hw : gX yX1_fitsOf cX1_fitsOf 8 (Option.some FieldType.long) [] kf G (gQl Q) gE0 w) (hkf : 1015 ≤ kf) {K118_5 : Int64 → gM → Prop} {l1_1 : Int32} {l2_2 : Int32} (hK118_5 : ∀ (v0 : Int64) (M : gM), K118_5 v0 M → w M 118 [(3, .long v0)] []) : ∀ (n : Nat) (l3_3 : Int64) (l5_4 : Int32) (M : gM), fX1_fitsOf_L5 K118_5 l1_1 l2_2 Q n l3_3 l5_4 M → w M 5 [(0, .ref (gA G 16)), (1, .int l1_1), (2, .int l2_2), (3, .long l3_3), (5, .int l5_4)] [] := by
  intro n
  induction n with
  | zero => intro l3_3 l5_4 M h; exact h.elim
  | succ n ih => intro l3_3 l5_4 M h; exact wX1_fitsOf_L5s hw hkf ih hK118_5 h
def fX1_fitsOf (p1 : Int32) (p2 : Int32) (M : gM) (Q : Int64 → gM → Prop) : Prop :=
  ∃ n, fX1_fitsOf_L5 (fun l3_64 M65 => Q l3_64 M65) p1 p2 Q n 0 0 M
theorem mX1_fitsOf {kf : Nat} (hkf : 1015 ≤ kf) (G : gG) (p1 : Int32) (p2 : Int32) (M : gM) (Q : Int64 → gM → Prop) (h : fX1_fitsOf p1 p2 M Q) : gMet yX1_fitsOf cX1_fitsOf 8 (Option.some FieldType.long) kf G M [.ref (gA G 16), .int p1, .int p2] (gQl Q) gE0 := by
  refine g_intro (lv := [(0, .ref (gA G 16)), (1, .int p1), (2, .int p2)]) (by decide) rfl rfl (fun w hw => ?_)
  unfold fX1_fitsOf at h
  refine g_lconst (v := 0) hw dX1_fitsOf_0 (by decide) ?_
  refine g_lstore_n hw (lv2 := [(0, .ref (gA G 16)), (1, .int p1), (2, .int p2), (3, .long 0)]) [1, 2, 3, 0] dX1_fitsOf_1 rfl rfl ?_
  refine g_iconst (v := 0) hw dX1_fitsOf_2 (by decide) ?_
  refine g_istore hw (lv2 := [(0, .ref (gA G 16)), (1, .int p1), (2, .int p2), (3, .long 0), (5, .int 0)]) [1, 2, 3, 4, 0] dX1_fitsOf_3 rfl rfl ?_
  obtain ⟨n9, h⟩ := h
  refine wX1_fitsOf_L5 hw hkf (fun l3_64 M65 h => ?_) n9 0 0 M h
  refine g_lload_n hw 0 dX1_fitsOf_118 rfl ?_
  exact g_lret hw dX1_fitsOf_119 ⟨_, rfl, h⟩
theorem sX1_312 {y0 : MethodName} {cc : ByteArray} {nL : Nat} {ret : Option FieldType} {hh : List (Nat × Nat × Nat × Nat)} {kf : Nat} {G : gG} {Qv : Option Value → gM → Prop} {E : String → Nat → gM → Prop} {w : gM → Nat → List (Nat × Value) → List Value → Prop} {M : gM} {pc : Nat} {lv : List (Nat × Value)} {rest : List Value} (hw : gX y0 cc nL ret hh kf G Qv E w) (hy : y0.cls = RX1) {p1 : Int32} {p2 : Int32} {Q : Int64 → gM → Prop} (d : decode cc pc = .ok (.invokevirtual 312, 3)) (hrest : Nat.ble ((rest.map Value.category).sum) 8 = true) (hk : 1015 + 1 ≤ kf) (hkd : gk M 16 = 1) (h : fX1_fitsOf p1 p2 M Q) (kk : ∀ r M1, Q r M1 → w M1 (pc + 3) lv (.long r :: rest)) : w M pc lv (.int p2 :: .int p1 :: .ref (gA G 16) :: rest) := by
  obtain ⟨cls9, nm9, ds9⟩ := y0
  subst hy
  exact g_callV (r := (RX1, TX1, 28)) (ci := 0) hw [.int p1, .int p2] (nA := 2) rfl d q848 q850 qs32 q98 q851 (by decide +kernel) rfl rfl hrest rfl (by omega : kf - 1 + 1 ≤ kf) hkd (mX1_fitsOf (kf := kf - 1) (by omega) G p1 p2 M Q h) (fun _ _ _ q => q.elim) (fun v M1 h => by obtain ⟨r, rfl, h⟩ := h; exact kk r M1 h)
def fX1_fits_b26  (M : gM) (Q : Int64 → gM → Prop) : Prop :=
  Q (-1) M
theorem wX1_fits_b26 {kf : Nat} {G : gG} {w : gM → Nat → List (Nat × Value) → List Value → Prop} {Q : Int64 → gM → Prop} (hw : gX yX1_fits cX1_fits 3 (Option.some FieldType.long) [] kf G (gQl Q) gE0 w) (hkf : 1016 ≤ kf)   {M : gM}  (h : fX1_fits_b26 M Q) : w M 26 [] [] := by
  unfold fX1_fits_b26 at h
  refine g_ldc2 hw dX1_fits_26 q466 ?_
  exact g_lret hw dX1_fits_29 ⟨_, rfl, h⟩
def fX1_fits (p1 : Int32) (p2 : Int32) (M : gM) (Q : Int64 → gM → Prop) : Prop :=
  fX1_isLaw p1 M (fun r2 M1 => (if r2 = 0 then fX1_fits_b26 M1 Q else fX1_in p2 1 20 M1 (fun r5 M4 => (if r5 = 0 then fX1_fits_b26 M4 Q else gk M4 16 = 1 ∧ fX1_fitsOf p1 p2 M4 (fun r9 M8 => Q r9 M8)))))
theorem mX1_fits {kf : Nat} (hkf : 1016 ≤ kf) (G : gG) (p1 : Int32) (p2 : Int32) (M : gM) (Q : Int64 → gM → Prop) (h : fX1_fits p1 p2 M Q) : gMet yX1_fits cX1_fits 3 (Option.some FieldType.long) kf G M [.ref (gA G 16), .int p1, .int p2] (gQl Q) gE0 := by
  refine g_intro (lv := [(0, .ref (gA G 16)), (1, .int p1), (2, .int p2)]) (by decide) rfl rfl (fun w hw => ?_)
  unfold fX1_fits at h
  refine g_iload_n hw 1 dX1_fits_0 rfl ?_
  refine sX1_255 hw rfl dX1_fits_1 rfl (gK2 hkf) h (fun r2 M1 h => ?_)
  refine g_if_eq (tgt := 26) hw dX1_fits_4 (by decide) (fun hb3 => ?_) (fun hb3 => ?_)
  · have h := gT h hb3
    refine g_sub hw (lv2 := []) [] rfl ?_
    exact wX1_fits_b26 hw hkf h
  · have h := gF h hb3
    refine g_iload_n hw 2 dX1_fits_7 rfl ?_
    refine g_iconst (v := 1) hw dX1_fits_8 (by decide) ?_
    refine g_bipush (v := 20) hw dX1_fits_9 (by decide) ?_
    refine sX1_112 hw rfl dX1_fits_11 rfl (gK2 hkf) h (fun r5 M4 h => ?_)
    refine g_if_eq (tgt := 26) hw dX1_fits_14 (by decide) (fun hb6 => ?_) (fun hb6 => ?_)
    · have h := gT h hb6
      refine g_sub hw (lv2 := []) [] rfl ?_
      exact wX1_fits_b26 hw hkf h
    · have h := gF h hb6
      refine g_aload_n hw 0 dX1_fits_17 rfl ?_
      refine g_iload_n hw 1 dX1_fits_18 rfl ?_
      refine g_iload_n hw 2 dX1_fits_19 rfl ?_
      obtain ⟨hk7, h⟩ := h
      refine sX1_312 hw rfl dX1_fits_20 rfl (gK2 hkf) hk7 h (fun r9 M8 h => ?_)
      refine g_goto (tgt := 29) hw dX1_fits_23 (by decide) ?_
      exact g_lret hw dX1_fits_29 ⟨_, rfl, h⟩
def fX1_best_b39 (R16 : Int32 → Int32 → gM → Prop) (l1_4 : Int32) (l2_15 : Int32) (l3_16 : Int32) (M : gM) (Q : Int32 → gM → Prop) : Prop :=
  R16 l2_15 (l3_16 + 1) M
theorem wX1_best_b39 {kf : Nat} {G : gG} {w : gM → Nat → List (Nat × Value) → List Value → Prop} {Q : Int32 → gM → Prop} (hw : gX yX1_best cX1_best 4 (Option.some FieldType.int) [] kf G (gQi Q) gE0 w) (hkf : 1016 ≤ kf) {R16 : Int32 → Int32 → gM → Prop} {l1_4 : Int32} {l2_15 : Int32} {l3_16 : Int32} {M : gM} (hR16 : ∀ (v0 : Int32) (v1 : Int32) (M : gM), R16 v0 v1 M → w M 16 [(0, .ref (gA G 16)), (1, .int l1_4), (2, .int v0), (3, .int v1)] []) (h : fX1_best_b39 R16 l1_4 l2_15 l3_16 M Q) : w M 39 [(0, .ref (gA G 16)), (1, .int l1_4), (2, .int l2_15), (3, .int l3_16)] [] := by
  unfold fX1_best_b39 at h
  refine g_iinc hw (lv2 := [(0, .ref (gA G 16)), (1, .int l1_4), (2, .int l2_15), (3, .int (l3_16 + 1))]) 3 [1, 2, 3, 0] dX1_best_39 rfl (by decide) rfl rfl ?_
  refine g_goto (tgt := 16) hw dX1_best_42 (by decide) ?_
  exact hR16 l2_15 (l3_16 + 1) M h
def fX1_best_L16s (R16 : Int32 → Int32 → gM → Prop) (K45_16 : Int32 → gM → Prop) (l1_4 : Int32) (l2_5 : Int32) (l3_6 : Int32) (M : gM) (Q : Int32 → gM → Prop) : Prop :=
  (if 4 ≤ l3_6 then K45_16 l2_5 M else gk M 16 = 1 ∧ fX1_fitsOf l3_6 l1_4 M (fun r10 M9 => gk M9 16 = 1 ∧ fX1_fitsOf l2_5 l1_4 M9 (fun r13 M12 => (if 0 ≤ (lg_cmp r10 r13) then fX1_best_b39 R16 l1_4 l2_5 l3_6 M12 Q else fX1_best_b39 R16 l1_4 l3_6 l3_6 M12 Q))))
def fX1_best_L16 (K45_16 : Int32 → gM → Prop) (l1_4 : Int32) (Q : Int32 → gM → Prop) : Nat → Int32 → Int32 → gM → Prop
  | 0 => fun _ _ _ => False
  | n + 1 => fun l2_5 l3_6 M => fX1_best_L16s (fX1_best_L16 K45_16 l1_4 Q n) K45_16 l1_4 l2_5 l3_6 M Q
theorem wX1_best_L16s {kf : Nat} {G : gG} {w : gM → Nat → List (Nat × Value) → List Value → Prop} {Q : Int32 → gM → Prop} (hw : gX yX1_best cX1_best 4 (Option.some FieldType.int) [] kf G (gQi Q) gE0 w) (hkf : 1016 ≤ kf) {R16 : Int32 → Int32 → gM → Prop} {K45_16 : Int32 → gM → Prop} {l1_4 : Int32} {l2_5 : Int32} {l3_6 : Int32} {M : gM} (hR16 : ∀ (v0 : Int32) (v1 : Int32) (M : gM), R16 v0 v1 M → w M 16 [(0, .ref (gA G 16)), (1, .int l1_4), (2, .int v0), (3, .int v1)] []) (hK45_16 : ∀ (v0 : Int32) (M : gM), K45_16 v0 M → w M 45 [(2, .int v0)] []) (h : fX1_best_L16s R16 K45_16 l1_4 l2_5 l3_6 M Q) : w M 16 [(0, .ref (gA G 16)), (1, .int l1_4), (2, .int l2_5), (3, .int l3_6)] [] := by
  unfold fX1_best_L16s at h
  refine g_iload_n hw 3 dX1_best_16 rfl ?_
  refine g_iconst (v := 4) hw dX1_best_17 (by decide) ?_
  refine g_icmp_ge (tgt := 45) hw dX1_best_18 (by decide) (fun hb7 => ?_) (fun hb7 => ?_)
  · have h := gT h hb7
    refine g_sub hw (lv2 := [(2, .int l2_5)]) [2] rfl ?_
    exact hK45_16 l2_5 M h
  · have h := gF h hb7
    refine g_aload_n hw 0 dX1_best_21 rfl ?_
    refine g_iload_n hw 3 dX1_best_22 rfl ?_
    refine g_iload_n hw 1 dX1_best_23 rfl ?_
    obtain ⟨hk8, h⟩ := h
    refine sX1_312 hw rfl dX1_best_24 rfl (gK2 hkf) hk8 h (fun r10 M9 h => ?_)
    refine g_aload_n hw 0 dX1_best_27 rfl ?_
    refine g_iload_n hw 2 dX1_best_28 rfl ?_
    refine g_iload_n hw 1 dX1_best_29 rfl ?_
    obtain ⟨hk11, h⟩ := h
    refine sX1_312 hw rfl dX1_best_30 rfl (gK2 hkf) hk11 h (fun r13 M12 h => ?_)
    refine g_lcmp hw dX1_best_33 ?_
    refine g_if_ge (tgt := 39) hw dX1_best_34 (by decide) (fun hb14 => ?_) (fun hb14 => ?_)
    · have h := gT h hb14
      exact wX1_best_b39 hw hkf hR16 h
    · have h := gF h hb14
      refine g_iload_n hw 3 dX1_best_37 rfl ?_
      refine g_istore_n hw (lv2 := [(0, .ref (gA G 16)), (1, .int l1_4), (2, .int l3_6), (3, .int l3_6)]) [1, 2, 0, 3] dX1_best_38 rfl rfl ?_
      exact wX1_best_b39 hw hkf hR16 h
theorem wX1_best_L16 {kf : Nat} {G : gG} {w : gM → Nat → List (Nat × Value) → List Value → Prop} {Q : Int32 → gM → Prop} (hw : gX yX1_best cX1_best 4 (Option.some FieldType.int) [] kf G (gQi Q) gE0 w) (hkf : 1016 ≤ kf) {K45_16 : Int32 → gM → Prop} {l1_4 : Int32} (hK45_16 : ∀ (v0 : Int32) (M : gM), K45_16 v0 M → w M 45 [(2, .int v0)] []) : ∀ (n : Nat) (l2_5 : Int32) (l3_6 : Int32) (M : gM), fX1_best_L16 K45_16 l1_4 Q n l2_5 l3_6 M → w M 16 [(0, .ref (gA G 16)), (1, .int l1_4), (2, .int l2_5), (3, .int l3_6)] [] := by
  intro n
  induction n with
  | zero => intro l2_5 l3_6 M h; exact h.elim
  | succ n ih => intro l2_5 l3_6 M h; exact wX1_best_L16s hw hkf ih hK45_16 h
def fX1_best (p1 : Int32) (M : gM) (Q : Int32 → gM → Prop) : Prop :=
  fX1_in p1 1 20 M (fun r2 M1 => (if r2 = 0 then Q (-1) M1 else ∃ n, fX1_best_L16 (fun l2_17 M18 => Q l2_17 M18) p1 Q n 0 1 M1))
theorem mX1_best {kf : Nat} (hkf : 1016 ≤ kf) (G : gG) (p1 : Int32) (M : gM) (Q : Int32 → gM → Prop) (h : fX1_best p1 M Q) : gMet yX1_best cX1_best 4 (Option.some FieldType.int) kf G M [.ref (gA G 16), .int p1] (gQi Q) gE0 := by
  refine g_intro (lv := [(0, .ref (gA G 16)), (1, .int p1)]) (by decide) rfl rfl (fun w hw => ?_)
  unfold fX1_best at h
  refine g_iload_n hw 1 dX1_best_0 rfl ?_
  refine g_iconst (v := 1) hw dX1_best_1 (by decide) ?_
  refine g_bipush (v := 20) hw dX1_best_2 (by decide) ?_
  refine sX1_112 hw rfl dX1_best_4 rfl (gK2 hkf) h (fun r2 M1 h => ?_)
  refine g_if_ne (tgt := 12) hw dX1_best_7 (by decide) (fun hb3 => ?_) (fun hb3 => ?_)
  · have h := gF h hb3
    refine g_iconst (v := 0) hw dX1_best_12 (by decide) ?_
    refine g_istore_n hw (lv2 := [(0, .ref (gA G 16)), (1, .int p1), (2, .int 0)]) [1, 2, 0] dX1_best_13 rfl rfl ?_
    refine g_iconst (v := 1) hw dX1_best_14 (by decide) ?_
    refine g_istore_n hw (lv2 := [(0, .ref (gA G 16)), (1, .int p1), (2, .int 0), (3, .int 1)]) [1, 2, 3, 0] dX1_best_15 rfl rfl ?_
    obtain ⟨n9, h⟩ := h
    refine wX1_best_L16 hw hkf (fun l2_17 M18 h => ?_) n9 0 1 M1 h
    refine g_iload_n hw 0 dX1_best_45 rfl ?_
    exact g_iret hw dX1_best_46 rfl ⟨_, rfl, h⟩
  · have h := gT h hb3
    refine g_iconst (v := (-1)) hw dX1_best_10 (by decide) ?_
    exact g_iret hw dX1_best_11 rfl ⟨_, rfl, h⟩
theorem sX1_316 {y0 : MethodName} {cc : ByteArray} {nL : Nat} {ret : Option FieldType} {hh : List (Nat × Nat × Nat × Nat)} {kf : Nat} {G : gG} {Qv : Option Value → gM → Prop} {E : String → Nat → gM → Prop} {w : gM → Nat → List (Nat × Value) → List Value → Prop} {M : gM} {pc : Nat} {lv : List (Nat × Value)} {rest : List Value} (hw : gX y0 cc nL ret hh kf G Qv E w) (hy : y0.cls = RX1) {p1 : Int64} {Q : Int32 → gM → Prop} (d : decode cc pc = .ok (.invokestatic 316, 3)) (hrest : Nat.ble ((rest.map Value.category).sum) 8 = true) (hk : 1 + 1 ≤ kf) (h : fJ10_signum p1 M Q) (kk : ∀ r M1, Q r M1 → w M1 (pc + 3) lv (.int r :: rest)) : w M pc lv (.long p1 :: rest) := by
  obtain ⟨cls9, nm9, ds9⟩ := y0
  subst hy
  exact g_callS hw [.long p1] (nA := 1) rfl d q863 q864 q121 q865 (by decide +kernel) rfl hrest rfl (by omega : kf - 1 + 1 ≤ kf) (mJ10_signum (kf := kf - 1) (by omega) G p1 M Q h) (fun _ _ _ q => q.elim) (fun v M1 h => by obtain ⟨r, rfl, h⟩ := h; exact kk r M1 h)
def fX1_rivers_2_b139 (R82 : Int32 → gM → Prop) (l1_19 : Int32) (l2_20 : Int32) (l3_21 : Int32) (l4_22 : Int32) (l5_23 : Int32) (l6_24 : Nat) (l7_39 : Int32) (l8_53 : Int32) (M : gM) (Q : Int32 → gM → Prop) : Prop :=
  R82 (l8_53 + 1) M
theorem wX1_rivers_2_b139 {kf : Nat} {G : gG} {w : gM → Nat → List (Nat × Value) → List Value → Prop} {Q : Int32 → gM → Prop} (hw : gX yX1_rivers_2 cX1_rivers_2 9 (Option.some FieldType.int) [] kf G (gQi Q) gE0 w) (hkf : 1015 ≤ kf) {R82 : Int32 → gM → Prop} {l1_19 : Int32} {l2_20 : Int32} {l3_21 : Int32} {l4_22 : Int32} {l5_23 : Int32} {l6_24 : Nat} {l7_39 : Int32} {l8_53 : Int32} {M : gM} (hR82 : ∀ (v0 : Int32) (M : gM), R82 v0 M → w M 82 [(0, .ref (gA G 16)), (1, .int l1_19), (2, .int l2_20), (3, .int l3_21), (4, .int l4_22), (5, .int l5_23), (6, .ref (gA G l6_24)), (7, .int l7_39), (8, .int v0)] []) (h : fX1_rivers_2_b139 R82 l1_19 l2_20 l3_21 l4_22 l5_23 l6_24 l7_39 l8_53 M Q) : w M 139 [(0, .ref (gA G 16)), (1, .int l1_19), (2, .int l2_20), (3, .int l3_21), (4, .int l4_22), (5, .int l5_23), (6, .ref (gA G l6_24)), (7, .int l7_39), (8, .int l8_53)] [] := by
  unfold fX1_rivers_2_b139 at h
  refine g_iinc hw (lv2 := [(0, .ref (gA G 16)), (1, .int l1_19), (2, .int l2_20), (3, .int l3_21), (4, .int l4_22), (5, .int l5_23), (6, .ref (gA G l6_24)), (7, .int l7_39), (8, .int (l8_53 + 1))]) 8 [1, 2, 3, 4, 5, 6, 7, 8, 0] dX1_rivers_2_139 rfl (by decide) rfl rfl ?_
  refine g_goto (tgt := 82) hw dX1_rivers_2_142 (by decide) ?_
  exact hR82 (l8_53 + 1) M h
def fX1_rivers_2_L82s (R82 : Int32 → gM → Prop) (K145_82 : gM → Prop) (l1_19 : Int32) (l2_20 : Int32) (l3_21 : Int32) (l4_22 : Int32) (l5_23 : Int32) (l6_24 : Nat) (l7_39 : Int32) (l8_40 : Int32) (M : gM) (Q : Int32 → gM → Prop) : Prop :=
  (if 24 ≤ l8_40 then K145_82 M else gk M 16 = 1 ∧ gdr (gR M 16 0) (fun a43 => gk M a43 = 44 ∧ vp_in l8_40 (gl M a43) ∧ gdr (gR M a43 l8_40.toNatClampNeg) (fun a47 => gk M a47 = 4 ∧ fX4_isCounted a47 l3_21 l4_22 M (fun r51 M50 => (if r51 = 0 then fX1_rivers_2_b139 R82 l1_19 l2_20 l3_21 l4_22 l5_23 l6_24 l7_39 l8_40 M50 Q else gk M50 16 = 1 ∧ gdr (gR M50 16 0) (fun a55 => gk M50 a55 = 44 ∧ vp_in l8_40 (gl M50 a55) ∧ gdr (gR M50 a55 l8_40.toNatClampNeg) (fun a59 => gk M50 a59 = 4 ∧ fX1_of (gI M50 a59 0) M50 (fun r63 M62 => gk M62 16 = 1 ∧ fX1_worldHands l8_40 l4_22 M62 (fun r66 M65 => gk M65 16 = 1 ∧ fX1_worldHands l8_40 l3_21 M65 (fun r69 M68 => gk M68 r63 = 3 ∧ fX3_adds r63 ((r66 - r69).toInt64) M68 (fun M71 => fX1_rivers_2_b139 R82 l1_19 l2_20 l3_21 l4_22 l5_23 l6_24 l7_39 l8_40 M71 Q)))))))))))
def fX1_rivers_2_L82 (K145_82 : gM → Prop) (l1_19 : Int32) (l2_20 : Int32) (l3_21 : Int32) (l4_22 : Int32) (l5_23 : Int32) (l6_24 : Nat) (l7_39 : Int32) (Q : Int32 → gM → Prop) : Nat → Int32 → gM → Prop
  | 0 => fun _ _ => False
  | n + 1 => fun l8_40 M => fX1_rivers_2_L82s (fX1_rivers_2_L82 K145_82 l1_19 l2_20 l3_21 l4_22 l5_23 l6_24 l7_39 Q n) K145_82 l1_19 l2_20 l3_21 l4_22 l5_23 l6_24 l7_39 l8_40 M Q
theorem wX1_rivers_2_L82s {kf : Nat} {G : gG} {w : gM → Nat → List (Nat × Value) → List Value → Prop} {Q : Int32 → gM → Prop} (hw : gX yX1_rivers_2 cX1_rivers_2 9 (Option.some FieldType.int) [] kf G (gQi Q) gE0 w) (hkf : 1015 ≤ kf) {R82 : Int32 → gM → Prop} {K145_82 : gM → Prop} {l1_19 : Int32} {l2_20 : Int32} {l3_21 : Int32} {l4_22 : Int32} {l5_23 : Int32} {l6_24 : Nat} {l7_39 : Int32} {l8_40 : Int32} {M : gM} (hR82 : ∀ (v0 : Int32) (M : gM), R82 v0 M → w M 82 [(0, .ref (gA G 16)), (1, .int l1_19), (2, .int l2_20), (3, .int l3_21), (4, .int l4_22), (5, .int l5_23), (6, .ref (gA G l6_24)), (7, .int l7_39), (8, .int v0)] []) (hK145_82 : ∀  (M : gM), K145_82 M → w M 145 [(0, .ref (gA G 16)), (1, .int l1_19), (2, .int l2_20), (3, .int l3_21), (4, .int l4_22), (5, .int l5_23), (6, .ref (gA G l6_24)), (7, .int l7_39)] []) (h : fX1_rivers_2_L82s R82 K145_82 l1_19 l2_20 l3_21 l4_22 l5_23 l6_24 l7_39 l8_40 M Q) : w M 82 [(0, .ref (gA G 16)), (1, .int l1_19), (2, .int l2_20), (3, .int l3_21), (4, .int l4_22), (5, .int l5_23), (6, .ref (gA G l6_24)), (7, .int l7_39), (8, .int l8_40)] [] := by
  unfold fX1_rivers_2_L82s at h
  refine g_iload hw 8 dX1_rivers_2_82 rfl ?_
  refine g_bipush (v := 24) hw dX1_rivers_2_84 (by decide) ?_
  refine g_icmp_ge (tgt := 145) hw dX1_rivers_2_86 (by decide) (fun hb41 => ?_) (fun hb41 => ?_)
  · have h := gT h hb41
    refine g_sub hw (lv2 := [(0, .ref (gA G 16)), (1, .int l1_19), (2, .int l2_20), (3, .int l3_21), (4, .int l4_22), (5, .int l5_23), (6, .ref (gA G l6_24)), (7, .int l7_39)]) [0, 1, 2, 3, 4, 5, 6, 7] rfl ?_
    exact hK145_82 M h
  · have h := gF h hb41
    refine g_aload_n hw 0 dX1_rivers_2_89 rfl ?_
    obtain ⟨hk42, h⟩ := h
    obtain ⟨a43, e44, h⟩ := h
    refine gfX1_21 (q := some a43) hw rfl dX1_rivers_2_90 hk42 e44 ?_
    refine g_iload hw 8 dX1_rivers_2_93 rfl ?_
    obtain ⟨hk45, h⟩ := h
    obtain ⟨hi46, h⟩ := h
    obtain ⟨a47, e48, h⟩ := h
    refine g_aaldS (n := l8_40.toNatClampNeg) hw 4 dX1_rivers_2_95 ⟨rfl, rfl⟩ hk45 hi46 rfl e48 ?_
    refine g_iload_n hw 3 dX1_rivers_2_96 rfl ?_
    refine g_iload hw 4 dX1_rivers_2_97 rfl ?_
    obtain ⟨hk49, h⟩ := h
    refine sX1_172 hw rfl dX1_rivers_2_99 rfl (gK2 hkf) hk49 h (fun r51 M50 h => ?_)
    refine g_if_eq (tgt := 139) hw dX1_rivers_2_102 (by decide) (fun hb52 => ?_) (fun hb52 => ?_)
    · have h := gT h hb52
      exact wX1_rivers_2_b139 hw hkf hR82 h
    · have h := gF h hb52
      refine g_aload_n hw 0 dX1_rivers_2_105 rfl ?_
      refine g_aload_n hw 0 dX1_rivers_2_106 rfl ?_
      obtain ⟨hk54, h⟩ := h
      obtain ⟨a55, e56, h⟩ := h
      refine gfX1_21 (q := some a55) hw rfl dX1_rivers_2_107 hk54 e56 ?_
      refine g_iload hw 8 dX1_rivers_2_110 rfl ?_
      obtain ⟨hk57, h⟩ := h
      obtain ⟨hi58, h⟩ := h
      obtain ⟨a59, e60, h⟩ := h
      refine g_aaldS (n := l8_40.toNatClampNeg) hw 4 dX1_rivers_2_112 ⟨rfl, rfl⟩ hk57 hi58 rfl e60 ?_
      obtain ⟨hk61, h⟩ := h
      refine gfX1_124 hw rfl dX1_rivers_2_113 hk61 ?_
      refine sX1_192 hw rfl dX1_rivers_2_116 rfl (gK2 hkf) hk54 h (fun r63 M62 h => ?_)
      refine g_aload_n hw 0 dX1_rivers_2_119 rfl ?_
      refine g_iload hw 8 dX1_rivers_2_120 rfl ?_
      refine g_iload hw 4 dX1_rivers_2_122 rfl ?_
      obtain ⟨hk64, h⟩ := h
      refine sX1_306 hw rfl dX1_rivers_2_124 rfl (gK2 hkf) hk64 h (fun r66 M65 h => ?_)
      refine g_aload_n hw 0 dX1_rivers_2_127 rfl ?_
      refine g_iload hw 8 dX1_rivers_2_128 rfl ?_
      refine g_iload_n hw 3 dX1_rivers_2_130 rfl ?_
      obtain ⟨hk67, h⟩ := h
      refine sX1_306 hw rfl dX1_rivers_2_131 rfl (gK2 hkf) hk67 h (fun r69 M68 h => ?_)
      refine g_isub hw dX1_rivers_2_134 ?_
      refine g_i2l hw dX1_rivers_2_135 ?_
      obtain ⟨hk70, h⟩ := h
      refine sX1_196 hw rfl dX1_rivers_2_136 rfl (gK2 hkf) hk70 h (fun M71 h => ?_)
      exact wX1_rivers_2_b139 hw hkf hR82 h
theorem wX1_rivers_2_L82 {kf : Nat} {G : gG} {w : gM → Nat → List (Nat × Value) → List Value → Prop} {Q : Int32 → gM → Prop} (hw : gX yX1_rivers_2 cX1_rivers_2 9 (Option.some FieldType.int) [] kf G (gQi Q) gE0 w) (hkf : 1015 ≤ kf) {K145_82 : gM → Prop} {l1_19 : Int32} {l2_20 : Int32} {l3_21 : Int32} {l4_22 : Int32} {l5_23 : Int32} {l6_24 : Nat} {l7_39 : Int32} (hK145_82 : ∀  (M : gM), K145_82 M → w M 145 [(0, .ref (gA G 16)), (1, .int l1_19), (2, .int l2_20), (3, .int l3_21), (4, .int l4_22), (5, .int l5_23), (6, .ref (gA G l6_24)), (7, .int l7_39)] []) : ∀ (n : Nat) (l8_40 : Int32) (M : gM), fX1_rivers_2_L82 K145_82 l1_19 l2_20 l3_21 l4_22 l5_23 l6_24 l7_39 Q n l8_40 M → w M 82 [(0, .ref (gA G 16)), (1, .int l1_19), (2, .int l2_20), (3, .int l3_21), (4, .int l4_22), (5, .int l5_23), (6, .ref (gA G l6_24)), (7, .int l7_39), (8, .int l8_40)] [] := by
  intro n
  induction n with
  | zero => intro l8_40 M h; exact h.elim
  | succ n ih => intro l8_40 M h; exact wX1_rivers_2_L82s hw hkf ih hK145_82 h
def fX1_rivers_2_L57s (R57 : Int32 → gM → Prop) (K167_57 : gM → Prop) (l1_19 : Int32) (l2_20 : Int32) (l3_21 : Int32) (l4_22 : Int32) (l5_23 : Int32) (l6_24 : Nat) (l7_25 : Int32) (M : gM) (Q : Int32 → gM → Prop) : Prop :=
  (if l2_20 ≤ l7_25 then K167_57 M else gk M 16 = 1 ∧ gdr (gR M 16 5) (fun a28 => gk M a28 = 45 ∧ vp_in l1_19 (gl M a28) ∧ gdr (gR M a28 l1_19.toNatClampNeg) (fun a32 => fX1_runs a32 l7_25 M (fun M34 => gk M34 16 = 1 ∧ fX1_begins M34 (fun M37 => ∃ n, fX1_rivers_2_L82 (fun M73 => gk M73 16 = 1 ∧ fX1_above M73 (fun r76 M75 => fJ10_signum r76 M75 (fun r78 M77 => gk M77 l6_24 = 40 ∧ vp_in (1 + r78) (gl M77 l6_24) ∧ vp_in (1 + r78) (gl M77 l6_24) ∧ R57 (l7_25 + 1) (gsI M77 l6_24 ((1 + r78).toNatClampNeg) ((gI M77 l6_24 ((1 + r78).toNatClampNeg)) + 1))))) l1_19 l2_20 l3_21 l4_22 l5_23 l6_24 l7_25 Q n 0 M37)))))
def fX1_rivers_2_L57 (K167_57 : gM → Prop) (l1_19 : Int32) (l2_20 : Int32) (l3_21 : Int32) (l4_22 : Int32) (l5_23 : Int32) (l6_24 : Nat) (Q : Int32 → gM → Prop) : Nat → Int32 → gM → Prop
  | 0 => fun _ _ => False
  | n + 1 => fun l7_25 M => fX1_rivers_2_L57s (fX1_rivers_2_L57 K167_57 l1_19 l2_20 l3_21 l4_22 l5_23 l6_24 Q n) K167_57 l1_19 l2_20 l3_21 l4_22 l5_23 l6_24 l7_25 M Q
theorem wX1_rivers_2_L57s {kf : Nat} {G : gG} {w : gM → Nat → List (Nat × Value) → List Value → Prop} {Q : Int32 → gM → Prop} (hw : gX yX1_rivers_2 cX1_rivers_2 9 (Option.some FieldType.int) [] kf G (gQi Q) gE0 w) (hkf : 1015 ≤ kf) {R57 : Int32 → gM → Prop} {K167_57 : gM → Prop} {l1_19 : Int32} {l2_20 : Int32} {l3_21 : Int32} {l4_22 : Int32} {l5_23 : Int32} {l6_24 : Nat} {l7_25 : Int32} {M : gM} (hR57 : ∀ (v0 : Int32) (M : gM), R57 v0 M → w M 57 [(0, .ref (gA G 16)), (1, .int l1_19), (2, .int l2_20), (3, .int l3_21), (4, .int l4_22), (5, .int l5_23), (6, .ref (gA G l6_24)), (7, .int v0)] []) (hK167_57 : ∀  (M : gM), K167_57 M → w M 167 [(5, .int l5_23), (6, .ref (gA G l6_24))] []) (h : fX1_rivers_2_L57s R57 K167_57 l1_19 l2_20 l3_21 l4_22 l5_23 l6_24 l7_25 M Q) : w M 57 [(0, .ref (gA G 16)), (1, .int l1_19), (2, .int l2_20), (3, .int l3_21), (4, .int l4_22), (5, .int l5_23), (6, .ref (gA G l6_24)), (7, .int l7_25)] [] := by
  unfold fX1_rivers_2_L57s at h
  refine g_iload hw 7 dX1_rivers_2_57 rfl ?_
  refine g_iload_n hw 2 dX1_rivers_2_59 rfl ?_
  refine g_icmp_ge (tgt := 167) hw dX1_rivers_2_60 (by decide) (fun hb26 => ?_) (fun hb26 => ?_)
  · have h := gT h hb26
    refine g_sub hw (lv2 := [(5, .int l5_23), (6, .ref (gA G l6_24))]) [5, 6] rfl ?_
    exact hK167_57 M h
  · have h := gF h hb26
    refine g_aload_n hw 0 dX1_rivers_2_63 rfl ?_
    refine g_aload_n hw 0 dX1_rivers_2_64 rfl ?_
    obtain ⟨hk27, h⟩ := h
    obtain ⟨a28, e29, h⟩ := h
    refine gfX1_46 (q := some a28) hw rfl dX1_rivers_2_65 hk27 e29 ?_
    refine g_iload_n hw 1 dX1_rivers_2_68 rfl ?_
    obtain ⟨hk30, h⟩ := h
    obtain ⟨hi31, h⟩ := h
    obtain ⟨a32, e33, h⟩ := h
    refine g_aaldS (n := l1_19.toNatClampNeg) hw 5 dX1_rivers_2_69 ⟨rfl, rfl⟩ hk30 hi31 rfl e33 ?_
    refine g_iload hw 7 dX1_rivers_2_70 rfl ?_
    refine sX1_302 hw rfl dX1_rivers_2_72 rfl (gK2 hkf) hk27 h (fun M34 h => ?_)
    refine g_aload_n hw 0 dX1_rivers_2_75 rfl ?_
    obtain ⟨hk36, h⟩ := h
    refine sX1_189 hw rfl dX1_rivers_2_76 rfl (gK2 hkf) hk36 h (fun M37 h => ?_)
    refine g_iconst (v := 0) hw dX1_rivers_2_79 (by decide) ?_
    refine g_istore hw (lv2 := [(0, .ref (gA G 16)), (1, .int l1_19), (2, .int l2_20), (3, .int l3_21), (4, .int l4_22), (5, .int l5_23), (6, .ref (gA G l6_24)), (7, .int l7_25), (8, .int 0)]) [1, 2, 3, 4, 5, 6, 7, 8, 0] dX1_rivers_2_80 rfl rfl ?_
    obtain ⟨n9, h⟩ := h
    refine wX1_rivers_2_L82 hw hkf (fun M73 h => ?_) n9 0 M37 h
    refine g_aload hw 6 dX1_rivers_2_145 rfl ?_
    refine g_iconst (v := 1) hw dX1_rivers_2_147 (by decide) ?_
    refine g_aload_n hw 0 dX1_rivers_2_148 rfl ?_
    obtain ⟨hk74, h⟩ := h
    refine sX1_211 hw rfl dX1_rivers_2_149 rfl (gK2 hkf) hk74 h (fun r76 M75 h => ?_)
    refine sX1_316 hw rfl dX1_rivers_2_152 rfl (gK2 hkf) h (fun r78 M77 h => ?_)
    refine g_iadd hw dX1_rivers_2_155 ?_
    refine g_dup2 hw dX1_rivers_2_156 rfl rfl ?_
    obtain ⟨hk79, h⟩ := h
    obtain ⟨hi80, h⟩ := h
    refine g_iald (n := (1 + r78).toNatClampNeg) hw dX1_rivers_2_157 hk79 hi80 rfl ?_
    refine g_iconst (v := 1) hw dX1_rivers_2_158 (by decide) ?_
    refine g_iadd hw dX1_rivers_2_159 ?_
    obtain ⟨hi81, h⟩ := h
    refine g_iast (n := (1 + r78).toNatClampNeg) hw dX1_rivers_2_160 hk79 hi81 rfl ?_
    refine g_iinc hw (lv2 := [(0, .ref (gA G 16)), (1, .int l1_19), (2, .int l2_20), (3, .int l3_21), (4, .int l4_22), (5, .int l5_23), (6, .ref (gA G l6_24)), (7, .int (l7_25 + 1))]) 7 [1, 2, 3, 4, 5, 6, 7, 0] dX1_rivers_2_161 rfl (by decide) rfl rfl ?_
    refine g_goto (tgt := 57) hw dX1_rivers_2_164 (by decide) ?_
    exact hR57 (l7_25 + 1) (gsI M77 l6_24 ((1 + r78).toNatClampNeg) ((gI M77 l6_24 ((1 + r78).toNatClampNeg)) + 1)) h
theorem wX1_rivers_2_L57 {kf : Nat} {G : gG} {w : gM → Nat → List (Nat × Value) → List Value → Prop} {Q : Int32 → gM → Prop} (hw : gX yX1_rivers_2 cX1_rivers_2 9 (Option.some FieldType.int) [] kf G (gQi Q) gE0 w) (hkf : 1015 ≤ kf) {K167_57 : gM → Prop} {l1_19 : Int32} {l2_20 : Int32} {l3_21 : Int32} {l4_22 : Int32} {l5_23 : Int32} {l6_24 : Nat} (hK167_57 : ∀  (M : gM), K167_57 M → w M 167 [(5, .int l5_23), (6, .ref (gA G l6_24))] []) : ∀ (n : Nat) (l7_25 : Int32) (M : gM), fX1_rivers_2_L57 K167_57 l1_19 l2_20 l3_21 l4_22 l5_23 l6_24 Q n l7_25 M → w M 57 [(0, .ref (gA G 16)), (1, .int l1_19), (2, .int l2_20), (3, .int l3_21), (4, .int l4_22), (5, .int l5_23), (6, .ref (gA G l6_24)), (7, .int l7_25)] [] := by
  intro n
  induction n with
  | zero => intro l7_25 M h; exact h.elim
  | succ n ih => intro l7_25 M h; exact wX1_rivers_2_L57s hw hkf ih hK167_57 h
def fX1_rivers_2 (p1 : Int32) (p2 : Int32) (p3 : Int32) (p4 : Int32) (p5 : Int32) (M : gM) (Q : Int32 → gM → Prop) : Prop :=
  fX1_isLaw p1 M (fun r2 M1 => (if r2 = 0 then Q (-1) M1 else fX1_in p2 1 20 M1 (fun r5 M4 => (if r5 = 0 then Q (-1) M4 else fX1_areMonths p3 p4 M4 (fun r8 M7 => (if r8 = 0 then Q (-1) M7 else fX1_in p5 0 2 M7 (fun r11 M10 => (if r11 = 0 then Q (-1) M10 else gk M10 16 = 1 ∧ fX1_rivers p3 p4 (-1) M10 (fun r15 M14 => (if r15 = 0 then Q (-1) M14 else gn M14 < gLC ∧ gs M14 + 3 ≤ gLS ∧ ∃ n, fX1_rivers_2_L57 (fun M82 => gk M82 (gn M14) = 40 ∧ vp_in p5 (gl M82 (gn M14)) ∧ Q (gI M82 (gn M14) p5.toNatClampNeg) M82) p1 p2 p3 p4 p5 (gn M14) Q n 0 (gnew M14 40 3 3)))))))))))
theorem mX1_rivers_2 {kf : Nat} (hkf : 1015 ≤ kf) (G : gG) (p1 : Int32) (p2 : Int32) (p3 : Int32) (p4 : Int32) (p5 : Int32) (M : gM) (Q : Int32 → gM → Prop) (h : fX1_rivers_2 p1 p2 p3 p4 p5 M Q) : gMet yX1_rivers_2 cX1_rivers_2 9 (Option.some FieldType.int) kf G M [.ref (gA G 16), .int p1, .int p2, .int p3, .int p4, .int p5] (gQi Q) gE0 := by
  refine g_intro (lv := [(0, .ref (gA G 16)), (1, .int p1), (2, .int p2), (3, .int p3), (4, .int p4), (5, .int p5)]) (by decide) rfl rfl (fun w hw => ?_)
  unfold fX1_rivers_2 at h
  refine g_iload_n hw 1 dX1_rivers_2_0 rfl ?_
  refine sX1_255 hw rfl dX1_rivers_2_1 rfl (gK2 hkf) h (fun r2 M1 h => ?_)
  refine g_if_eq (tgt := 47) hw dX1_rivers_2_4 (by decide) (fun hb3 => ?_) (fun hb3 => ?_)
  · have h := gT h hb3
    refine g_iconst (v := (-1)) hw dX1_rivers_2_47 (by decide) ?_
    exact g_iret hw dX1_rivers_2_48 rfl ⟨_, rfl, h⟩
  · have h := gF h hb3
    refine g_iload_n hw 2 dX1_rivers_2_7 rfl ?_
    refine g_iconst (v := 1) hw dX1_rivers_2_8 (by decide) ?_
    refine g_bipush (v := 20) hw dX1_rivers_2_9 (by decide) ?_
    refine sX1_112 hw rfl dX1_rivers_2_11 rfl (gK2 hkf) h (fun r5 M4 h => ?_)
    refine g_if_eq (tgt := 47) hw dX1_rivers_2_14 (by decide) (fun hb6 => ?_) (fun hb6 => ?_)
    · have h := gT h hb6
      refine g_iconst (v := (-1)) hw dX1_rivers_2_47 (by decide) ?_
      exact g_iret hw dX1_rivers_2_48 rfl ⟨_, rfl, h⟩
    · have h := gF h hb6
      refine g_iload_n hw 3 dX1_rivers_2_17 rfl ?_
      refine g_iload hw 4 dX1_rivers_2_18 rfl ?_
      refine sX1_164 hw rfl dX1_rivers_2_20 rfl (gK2 hkf) h (fun r8 M7 h => ?_)
      refine g_if_eq (tgt := 47) hw dX1_rivers_2_23 (by decide) (fun hb9 => ?_) (fun hb9 => ?_)
      · have h := gT h hb9
        refine g_iconst (v := (-1)) hw dX1_rivers_2_47 (by decide) ?_
        exact g_iret hw dX1_rivers_2_48 rfl ⟨_, rfl, h⟩
      · have h := gF h hb9
        refine g_iload hw 5 dX1_rivers_2_26 rfl ?_
        refine g_iconst (v := 0) hw dX1_rivers_2_28 (by decide) ?_
        refine g_iconst (v := 2) hw dX1_rivers_2_29 (by decide) ?_
        refine sX1_112 hw rfl dX1_rivers_2_30 rfl (gK2 hkf) h (fun r11 M10 h => ?_)
        refine g_if_eq (tgt := 47) hw dX1_rivers_2_33 (by decide) (fun hb12 => ?_) (fun hb12 => ?_)
        · have h := gT h hb12
          refine g_iconst (v := (-1)) hw dX1_rivers_2_47 (by decide) ?_
          exact g_iret hw dX1_rivers_2_48 rfl ⟨_, rfl, h⟩
        · have h := gF h hb12
          refine g_aload_n hw 0 dX1_rivers_2_36 rfl ?_
          refine g_iload_n hw 3 dX1_rivers_2_37 rfl ?_
          refine g_iload hw 4 dX1_rivers_2_38 rfl ?_
          refine g_iconst (v := (-1)) hw dX1_rivers_2_40 (by decide) ?_
          obtain ⟨hk13, h⟩ := h
          refine sX1_204 hw rfl dX1_rivers_2_41 rfl (gK2 hkf) hk13 h (fun r15 M14 h => ?_)
          refine g_if_ne (tgt := 49) hw dX1_rivers_2_44 (by decide) (fun hb16 => ?_) (fun hb16 => ?_)
          · have h := gF h hb16
            refine g_iconst (v := 3) hw dX1_rivers_2_49 (by decide) ?_
            obtain ⟨hc17, h⟩ := h
            obtain ⟨hc18, h⟩ := h
            refine g_newa (N := 3) hw 0 dX1_rivers_2_50 q166 rfl (by decide) rfl (by decide) rfl (by decide) hc17 hc18 ?_
            refine g_astore hw (lv2 := [(0, .ref (gA G 16)), (1, .int p1), (2, .int p2), (3, .int p3), (4, .int p4), (5, .int p5), (6, .ref (gA G (gn M14)))]) [1, 2, 3, 4, 5, 6, 0] dX1_rivers_2_52 rfl rfl ?_
            refine g_iconst (v := 0) hw dX1_rivers_2_54 (by decide) ?_
            refine g_istore hw (lv2 := [(0, .ref (gA G 16)), (1, .int p1), (2, .int p2), (3, .int p3), (4, .int p4), (5, .int p5), (6, .ref (gA G (gn M14))), (7, .int 0)]) [1, 2, 3, 4, 5, 6, 7, 0] dX1_rivers_2_55 rfl rfl ?_
            obtain ⟨n9, h⟩ := h
            refine wX1_rivers_2_L57 hw hkf (fun M82 h => ?_) n9 0 (gnew M14 40 3 3) h
            refine g_aload hw 1 dX1_rivers_2_167 rfl ?_
            refine g_iload hw 0 dX1_rivers_2_169 rfl ?_
            obtain ⟨hk83, h⟩ := h
            obtain ⟨hi84, h⟩ := h
            refine g_iald (n := p5.toNatClampNeg) hw dX1_rivers_2_171 hk83 hi84 rfl ?_
            exact g_iret hw dX1_rivers_2_172 rfl ⟨_, rfl, h⟩
          · have h := gT h hb16
            refine g_iconst (v := (-1)) hw dX1_rivers_2_47 (by decide) ?_
            exact g_iret hw dX1_rivers_2_48 rfl ⟨_, rfl, h⟩
theorem gfX1_322 {y0 : MethodName} {cc : ByteArray} {nL : Nat} {ret : Option FieldType} {hh : List (Nat × Nat × Nat × Nat)} {kf : Nat} {G : gG} {Qv : Option Value → gM → Prop} {E : String → Nat → gM → Prop} {w : gM → Nat → List (Nat × Value) → List Value → Prop} {M : gM} {pc : Nat} {lv : List (Nat × Value)} {rest : List Value} (hw : gX y0 cc nL ret hh kf G Qv E w) (hy : y0.cls = RX1) {c : Nat} (d : decode cc pc = .ok (.getfield 322, 3)) (hk : gk M c = 1) (kk : w M (pc + 3) lv (.int (gI M c 22) :: rest)) : w M pc lv (.ref (gA G c) :: rest) := by
  obtain ⟨cls9, nm9, ds9⟩ := y0
  subst hy
  exact g_getC (C := RX1) (T := TX1) (N := 28) (ci := 0) hw in_X1 rfl 22 (by decide) (Or.inl q294) rfl d hk kk
theorem gfX1_86 {y0 : MethodName} {cc : ByteArray} {nL : Nat} {ret : Option FieldType} {hh : List (Nat × Nat × Nat × Nat)} {kf : Nat} {G : gG} {Qv : Option Value → gM → Prop} {E : String → Nat → gM → Prop} {w : gM → Nat → List (Nat × Value) → List Value → Prop} {M : gM} {pc : Nat} {lv : List (Nat × Value)} {rest : List Value} (hw : gX y0 cc nL ret hh kf G Qv E w) (hy : y0.cls = RX1) {c : Nat} {q : Option Nat} (d : decode cc pc = .ok (.getfield 86, 3)) (hk : gk M c = 1) (hq : gR M c 19 = q) (kk : w M (pc + 3) lv (va_rf (q.map (gA G)) :: rest)) : w M pc lv (.ref (gA G c) :: rest) := by
  obtain ⟨cls9, nm9, ds9⟩ := y0
  subst hy
  subst hq
  exact g_getC (C := RX1) (T := TX1) (N := 28) (ci := 0) hw in_X1 rfl 19 (by decide) (Or.inl q291) rfl d hk kk
theorem gfX1_89 {y0 : MethodName} {cc : ByteArray} {nL : Nat} {ret : Option FieldType} {hh : List (Nat × Nat × Nat × Nat)} {kf : Nat} {G : gG} {Qv : Option Value → gM → Prop} {E : String → Nat → gM → Prop} {w : gM → Nat → List (Nat × Value) → List Value → Prop} {M : gM} {pc : Nat} {lv : List (Nat × Value)} {rest : List Value} (hw : gX y0 cc nL ret hh kf G Qv E w) (hy : y0.cls = RX1) {c : Nat} {q : Option Nat} (d : decode cc pc = .ok (.getfield 89, 3)) (hk : gk M c = 1) (hq : gR M c 20 = q) (kk : w M (pc + 3) lv (va_rf (q.map (gA G)) :: rest)) : w M pc lv (.ref (gA G c) :: rest) := by
  obtain ⟨cls9, nm9, ds9⟩ := y0
  subst hy
  subst hq
  exact g_getC (C := RX1) (T := TX1) (N := 28) (ci := 0) hw in_X1 rfl 20 (by decide) (Or.inl q292) rfl d hk kk
theorem gfX1_92 {y0 : MethodName} {cc : ByteArray} {nL : Nat} {ret : Option FieldType} {hh : List (Nat × Nat × Nat × Nat)} {kf : Nat} {G : gG} {Qv : Option Value → gM → Prop} {E : String → Nat → gM → Prop} {w : gM → Nat → List (Nat × Value) → List Value → Prop} {M : gM} {pc : Nat} {lv : List (Nat × Value)} {rest : List Value} (hw : gX y0 cc nL ret hh kf G Qv E w) (hy : y0.cls = RX1) {c : Nat} {q : Option Nat} (d : decode cc pc = .ok (.getfield 92, 3)) (hk : gk M c = 1) (hq : gR M c 21 = q) (kk : w M (pc + 3) lv (va_rf (q.map (gA G)) :: rest)) : w M pc lv (.ref (gA G c) :: rest) := by
  obtain ⟨cls9, nm9, ds9⟩ := y0
  subst hy
  subst hq
  exact g_getC (C := RX1) (T := TX1) (N := 28) (ci := 0) hw in_X1 rfl 21 (by decide) (Or.inl q293) rfl d hk kk
theorem pfX1_322 {y0 : MethodName} {cc : ByteArray} {nL : Nat} {ret : Option FieldType} {hh : List (Nat × Nat × Nat × Nat)} {kf : Nat} {G : gG} {Qv : Option Value → gM → Prop} {E : String → Nat → gM → Prop} {w : gM → Nat → List (Nat × Value) → List Value → Prop} {M : gM} {pc : Nat} {lv : List (Nat × Value)} {rest : List Value} (hw : gX y0 cc nL ret hh kf G Qv E w) (hy : y0.cls = RX1) {c : Nat} {x : Int32} (d : decode cc pc = .ok (.putfield 322, 3)) (hk : gk M c = 1) (kk : w (gsI M c 22 x) (pc + 3) lv rest) : w M pc lv (.int x :: .ref (gA G c) :: rest) := by
  obtain ⟨cls9, nm9, ds9⟩ := y0
  subst hy
  exact g_putC (C := RX1) (T := TX1) (N := 28) (ci := 0) hw in_X1 tyX1 tyX1_ok nmX1 rfl 22 (by decide) (Or.inl ⟨q294, Or.inl rfl⟩) rfl rfl (gOne_I M c 22 x) (by show Value.int (gI (gsI M c 22 x) c 22) = _; rw [gI_sI, if_pos ⟨rfl, rfl⟩]) d hk kk
def fX1_other_b65  (M : gM) (Q : Int32 → gM → Prop) : Prop :=
  gk M 16 = 1 ∧ Q (gI M 16 22) (gsI M 16 22 ((gI M 16 22) + 1))
theorem wX1_other_b65 {kf : Nat} {G : gG} {w : gM → Nat → List (Nat × Value) → List Value → Prop} {Q : Int32 → gM → Prop} (hw : gX yX1_other cX1_other 4 (Option.some FieldType.int) [] kf G (gQi Q) gE0 w) (hkf : 2 ≤ kf)   {M : gM}  (h : fX1_other_b65 M Q) : w M 65 [(0, .ref (gA G 16))] [] := by
  unfold fX1_other_b65 at h
  refine g_aload_n hw 0 dX1_other_65 rfl ?_
  refine g_dup hw dX1_other_66 rfl ?_
  obtain ⟨hk22, h⟩ := h
  refine gfX1_322 hw rfl dX1_other_67 hk22 ?_
  refine g_dup_x1 hw dX1_other_70 rfl rfl ?_
  refine g_iconst (v := 1) hw dX1_other_71 (by decide) ?_
  refine g_iadd hw dX1_other_72 ?_
  refine pfX1_322 hw rfl dX1_other_73 hk22 ?_
  exact g_iret hw dX1_other_76 rfl ⟨_, rfl, h⟩
def fX1_other (p1 : Int32) (p2 : Int32) (p3 : Int32) (M : gM) (Q : Int32 → gM → Prop) : Prop :=
  fX1_in p1 (-9999) 9999 M (fun r2 M1 => (if r2 = 0 then Q (-1) M1 else fX1_in p2 1 999 M1 (fun r5 M4 => (if r5 = 0 then Q (-1) M4 else gk M4 16 = 1 ∧ (if (gI M4 16 22) = 20 then Q (-1) M4 else gdr (gR M4 16 19) (fun a9 => gk M4 a9 = 40 ∧ vp_in (gI M4 16 22) (gl M4 a9) ∧ gdr (gR (gsI M4 a9 ((gI M4 16 22).toNatClampNeg) p1) 16 20) (fun a13 => gk (gsI M4 a9 ((gI M4 16 22).toNatClampNeg) p1) a13 = 40 ∧ vp_in (gI (gsI M4 a9 ((gI M4 16 22).toNatClampNeg) p1) 16 22) (gl (gsI M4 a9 ((gI M4 16 22).toNatClampNeg) p1) a13) ∧ gdr (gR (gsI (gsI M4 a9 ((gI M4 16 22).toNatClampNeg) p1) a13 ((gI (gsI M4 a9 ((gI M4 16 22).toNatClampNeg) p1) 16 22).toNatClampNeg) p2) 16 21) (fun a17 => gk (gsI (gsI M4 a9 ((gI M4 16 22).toNatClampNeg) p1) a13 ((gI (gsI M4 a9 ((gI M4 16 22).toNatClampNeg) p1) 16 22).toNatClampNeg) p2) a17 = 43 ∧ vp_in (gI (gsI (gsI M4 a9 ((gI M4 16 22).toNatClampNeg) p1) a13 ((gI (gsI M4 a9 ((gI M4 16 22).toNatClampNeg) p1) 16 22).toNatClampNeg) p2) 16 22) (gl (gsI (gsI M4 a9 ((gI M4 16 22).toNatClampNeg) p1) a13 ((gI (gsI M4 a9 ((gI M4 16 22).toNatClampNeg) p1) 16 22).toNatClampNeg) p2) a17) ∧ (p3 = 0 ∨ p3 = 1) ∧ fX1_other_b65 (gsI (gsI (gsI M4 a9 ((gI M4 16 22).toNatClampNeg) p1) a13 ((gI (gsI M4 a9 ((gI M4 16 22).toNatClampNeg) p1) 16 22).toNatClampNeg) p2) a17 ((gI (gsI (gsI M4 a9 ((gI M4 16 22).toNatClampNeg) p1) a13 ((gI (gsI M4 a9 ((gI M4 16 22).toNatClampNeg) p1) 16 22).toNatClampNeg) p2) 16 22).toNatClampNeg) p3) Q))))))))
theorem mX1_other {kf : Nat} (hkf : 2 ≤ kf) (G : gG) (p1 : Int32) (p2 : Int32) (p3 : Int32) (M : gM) (Q : Int32 → gM → Prop) (h : fX1_other p1 p2 p3 M Q) : gMet yX1_other cX1_other 4 (Option.some FieldType.int) kf G M [.ref (gA G 16), .int p1, .int p2, .int p3] (gQi Q) gE0 := by
  refine g_intro (lv := [(0, .ref (gA G 16)), (1, .int p1), (2, .int p2), (3, .int p3)]) (by decide) rfl rfl (fun w hw => ?_)
  unfold fX1_other at h
  refine g_iload_n hw 1 dX1_other_0 rfl ?_
  refine g_sipush (v := (-9999)) hw dX1_other_1 (by decide) ?_
  refine g_sipush (v := 9999) hw dX1_other_4 (by decide) ?_
  refine sX1_112 hw rfl dX1_other_7 rfl (gK2 hkf) h (fun r2 M1 h => ?_)
  refine g_if_eq (tgt := 33) hw dX1_other_10 (by decide) (fun hb3 => ?_) (fun hb3 => ?_)
  · have h := gT h hb3
    refine g_iconst (v := (-1)) hw dX1_other_33 (by decide) ?_
    exact g_iret hw dX1_other_34 rfl ⟨_, rfl, h⟩
  · have h := gF h hb3
    refine g_iload_n hw 2 dX1_other_13 rfl ?_
    refine g_iconst (v := 1) hw dX1_other_14 (by decide) ?_
    refine g_sipush (v := 999) hw dX1_other_15 (by decide) ?_
    refine sX1_112 hw rfl dX1_other_18 rfl (gK2 hkf) h (fun r5 M4 h => ?_)
    refine g_if_eq (tgt := 33) hw dX1_other_21 (by decide) (fun hb6 => ?_) (fun hb6 => ?_)
    · have h := gT h hb6
      refine g_iconst (v := (-1)) hw dX1_other_33 (by decide) ?_
      exact g_iret hw dX1_other_34 rfl ⟨_, rfl, h⟩
    · have h := gF h hb6
      refine g_aload_n hw 0 dX1_other_24 rfl ?_
      obtain ⟨hk7, h⟩ := h
      refine gfX1_322 hw rfl dX1_other_25 hk7 ?_
      refine g_bipush (v := 20) hw dX1_other_28 (by decide) ?_
      refine g_icmp_ne (tgt := 35) hw dX1_other_30 (by decide) (fun hb8 => ?_) (fun hb8 => ?_)
      · have h := gF h hb8
        refine g_aload_n hw 0 dX1_other_35 rfl ?_
        obtain ⟨a9, e10, h⟩ := h
        refine gfX1_86 (q := some a9) hw rfl dX1_other_36 hk7 e10 ?_
        refine g_aload_n hw 0 dX1_other_39 rfl ?_
        refine gfX1_322 hw rfl dX1_other_40 hk7 ?_
        refine g_iload_n hw 1 dX1_other_43 rfl ?_
        obtain ⟨hk11, h⟩ := h
        obtain ⟨hi12, h⟩ := h
        refine g_iast (n := (gI M4 16 22).toNatClampNeg) hw dX1_other_44 hk11 hi12 rfl ?_
        refine g_aload_n hw 0 dX1_other_45 rfl ?_
        obtain ⟨a13, e14, h⟩ := h
        refine gfX1_89 (q := some a13) hw rfl dX1_other_46 hk7 e14 ?_
        refine g_aload_n hw 0 dX1_other_49 rfl ?_
        refine gfX1_322 hw rfl dX1_other_50 hk7 ?_
        refine g_iload_n hw 2 dX1_other_53 rfl ?_
        obtain ⟨hk15, h⟩ := h
        obtain ⟨hi16, h⟩ := h
        refine g_iast (n := (gI (gsI M4 a9 ((gI M4 16 22).toNatClampNeg) p1) 16 22).toNatClampNeg) hw dX1_other_54 hk15 hi16 rfl ?_
        refine g_aload_n hw 0 dX1_other_55 rfl ?_
        obtain ⟨a17, e18, h⟩ := h
        refine gfX1_92 (q := some a17) hw rfl dX1_other_56 hk7 e18 ?_
        refine g_aload_n hw 0 dX1_other_59 rfl ?_
        refine gfX1_322 hw rfl dX1_other_60 hk7 ?_
        refine g_iload_n hw 3 dX1_other_63 rfl ?_
        obtain ⟨hk19, h⟩ := h
        obtain ⟨hi20, h⟩ := h
        obtain ⟨hc21, h⟩ := h
        refine g_zast (n := (gI (gsI (gsI M4 a9 ((gI M4 16 22).toNatClampNeg) p1) a13 ((gI (gsI M4 a9 ((gI M4 16 22).toNatClampNeg) p1) 16 22).toNatClampNeg) p2) 16 22).toNatClampNeg) hw dX1_other_64 hk19 hi20 rfl (gBool hc21) ?_
        refine g_sub hw (lv2 := [(0, .ref (gA G 16))]) [0] rfl ?_
        exact wX1_other_b65 hw hkf h
      · have h := gT h hb8
        refine g_iconst (v := (-1)) hw dX1_other_33 (by decide) ?_
        exact g_iret hw dX1_other_34 rfl ⟨_, rfl, h⟩
theorem pfX1_185 {y0 : MethodName} {cc : ByteArray} {nL : Nat} {ret : Option FieldType} {hh : List (Nat × Nat × Nat × Nat)} {kf : Nat} {G : gG} {Qv : Option Value → gM → Prop} {E : String → Nat → gM → Prop} {w : gM → Nat → List (Nat × Value) → List Value → Prop} {M : gM} {pc : Nat} {lv : List (Nat × Value)} {rest : List Value} (hw : gX y0 cc nL ret hh kf G Qv E w) (hy : y0.cls = RX1) {c : Nat} {x : Int64} (d : decode cc pc = .ok (.putfield 185, 3)) (hk : gk M c = 3) (kk : w (gsL M c 0 x) (pc + 3) lv rest) : w M pc lv (.long x :: .ref (gA G c) :: rest) := by
  obtain ⟨cls9, nm9, ds9⟩ := y0
  subst hy
  exact g_putC (C := RX3) (T := TX3) (N := 2) (ci := 2) hw in_X3 tyX3 tyX3_ok nmX3 rfl 0 (by decide) (Or.inr ⟨rfl, _, q179⟩) rfl rfl (gOne_L M c 0 x) (by show Value.long (gL (gsL M c 0 x) c 0) = _; rw [gL_sL, if_pos ⟨rfl, rfl⟩]) d hk kk
theorem pfX1_182 {y0 : MethodName} {cc : ByteArray} {nL : Nat} {ret : Option FieldType} {hh : List (Nat × Nat × Nat × Nat)} {kf : Nat} {G : gG} {Qv : Option Value → gM → Prop} {E : String → Nat → gM → Prop} {w : gM → Nat → List (Nat × Value) → List Value → Prop} {M : gM} {pc : Nat} {lv : List (Nat × Value)} {rest : List Value} (hw : gX y0 cc nL ret hh kf G Qv E w) (hy : y0.cls = RX1) {c : Nat} {x : Int32} (d : decode cc pc = .ok (.putfield 182, 3)) (hk : gk M c = 3) (kk : w (gsI M c 1 x) (pc + 3) lv rest) : w M pc lv (.int x :: .ref (gA G c) :: rest) := by
  obtain ⟨cls9, nm9, ds9⟩ := y0
  subst hy
  exact g_putC (C := RX3) (T := TX3) (N := 2) (ci := 2) hw in_X3 tyX3 tyX3_ok nmX3 rfl 1 (by decide) (Or.inr ⟨rfl, _, q181⟩) rfl rfl (gOne_I M c 1 x) (by show Value.int (gI (gsI M c 1 x) c 1) = _; rw [gI_sI, if_pos ⟨rfl, rfl⟩]) d hk kk
def fX1_sums_b70 (R9 : Int32 → gM → Prop) (l1_7 : Int32) (l2_28 : Int32) (M : gM) (Q : gM → Prop) : Prop :=
  R9 (l2_28 + 1) M
theorem wX1_sums_b70 {kf : Nat} {G : gG} {w : gM → Nat → List (Nat × Value) → List Value → Prop} {Q : gM → Prop} (hw : gX yX1_sums cX1_sums 3 (Option.none : Option FieldType) [] kf G (gQv Q) gE0 w) (hkf : 2 ≤ kf) {R9 : Int32 → gM → Prop} {l1_7 : Int32} {l2_28 : Int32} {M : gM} (hR9 : ∀ (v0 : Int32) (M : gM), R9 v0 M → w M 9 [(0, .ref (gA G 16)), (1, .int l1_7), (2, .int v0)] []) (h : fX1_sums_b70 R9 l1_7 l2_28 M Q) : w M 70 [(0, .ref (gA G 16)), (1, .int l1_7), (2, .int l2_28)] [] := by
  unfold fX1_sums_b70 at h
  refine g_iinc hw (lv2 := [(0, .ref (gA G 16)), (1, .int l1_7), (2, .int (l2_28 + 1))]) 2 [1, 2, 0] dX1_sums_70 rfl (by decide) rfl rfl ?_
  refine g_goto (tgt := 9) hw dX1_sums_73 (by decide) ?_
  exact hR9 (l2_28 + 1) M h
def fX1_sums_b33 (R9 : Int32 → gM → Prop) (l1_7 : Int32) (l2_12 : Int32) (M : gM) (Q : gM → Prop) : Prop :=
  gk M 16 = 1 ∧ gdr (gR M 16 10) (fun a14 => gk M a14 = 3 ∧ gdr (gR M 16 19) (fun a17 => gk M a17 = 40 ∧ vp_in l2_12 (gl M a17) ∧ gdr (gR (gsL M a14 0 ((gL M a14 0) + ((gI M a17 l2_12.toNatClampNeg).toInt64))) 16 10) (fun a21 => gk (gsL M a14 0 ((gL M a14 0) + ((gI M a17 l2_12.toNatClampNeg).toInt64))) a21 = 3 ∧ gdr (gR (gsL M a14 0 ((gL M a14 0) + ((gI M a17 l2_12.toNatClampNeg).toInt64))) 16 20) (fun a24 => gk (gsL M a14 0 ((gL M a14 0) + ((gI M a17 l2_12.toNatClampNeg).toInt64))) a24 = 40 ∧ vp_in l2_12 (gl (gsL M a14 0 ((gL M a14 0) + ((gI M a17 l2_12.toNatClampNeg).toInt64))) a24) ∧ fX1_sums_b70 R9 l1_7 l2_12 (gsI (gsL M a14 0 ((gL M a14 0) + ((gI M a17 l2_12.toNatClampNeg).toInt64))) a21 1 ((gI (gsL M a14 0 ((gL M a14 0) + ((gI M a17 l2_12.toNatClampNeg).toInt64))) a21 1) + (gI (gsL M a14 0 ((gL M a14 0) + ((gI M a17 l2_12.toNatClampNeg).toInt64))) a24 l2_12.toNatClampNeg))) Q))))
theorem wX1_sums_b33 {kf : Nat} {G : gG} {w : gM → Nat → List (Nat × Value) → List Value → Prop} {Q : gM → Prop} (hw : gX yX1_sums cX1_sums 3 (Option.none : Option FieldType) [] kf G (gQv Q) gE0 w) (hkf : 2 ≤ kf) {R9 : Int32 → gM → Prop} {l1_7 : Int32} {l2_12 : Int32} {M : gM} (hR9 : ∀ (v0 : Int32) (M : gM), R9 v0 M → w M 9 [(0, .ref (gA G 16)), (1, .int l1_7), (2, .int v0)] []) (h : fX1_sums_b33 R9 l1_7 l2_12 M Q) : w M 33 [(0, .ref (gA G 16)), (1, .int l1_7), (2, .int l2_12)] [] := by
  unfold fX1_sums_b33 at h
  refine g_aload_n hw 0 dX1_sums_33 rfl ?_
  obtain ⟨hk13, h⟩ := h
  obtain ⟨a14, e15, h⟩ := h
  refine gfX1_66 (q := some a14) hw rfl dX1_sums_34 hk13 e15 ?_
  refine g_dup hw dX1_sums_37 rfl ?_
  obtain ⟨hk16, h⟩ := h
  refine gfX1_185 hw rfl dX1_sums_38 hk16 ?_
  refine g_aload_n hw 0 dX1_sums_41 rfl ?_
  obtain ⟨a17, e18, h⟩ := h
  refine gfX1_86 (q := some a17) hw rfl dX1_sums_42 hk13 e18 ?_
  refine g_iload_n hw 2 dX1_sums_45 rfl ?_
  obtain ⟨hk19, h⟩ := h
  obtain ⟨hi20, h⟩ := h
  refine g_iald (n := l2_12.toNatClampNeg) hw dX1_sums_46 hk19 hi20 rfl ?_
  refine g_i2l hw dX1_sums_47 ?_
  refine g_ladd hw dX1_sums_48 ?_
  refine pfX1_185 hw rfl dX1_sums_49 hk16 ?_
  refine g_aload_n hw 0 dX1_sums_52 rfl ?_
  obtain ⟨a21, e22, h⟩ := h
  refine gfX1_66 (q := some a21) hw rfl dX1_sums_53 hk13 e22 ?_
  refine g_dup hw dX1_sums_56 rfl ?_
  obtain ⟨hk23, h⟩ := h
  refine gfX1_182 hw rfl dX1_sums_57 hk23 ?_
  refine g_aload_n hw 0 dX1_sums_60 rfl ?_
  obtain ⟨a24, e25, h⟩ := h
  refine gfX1_89 (q := some a24) hw rfl dX1_sums_61 hk13 e25 ?_
  refine g_iload_n hw 2 dX1_sums_64 rfl ?_
  obtain ⟨hk26, h⟩ := h
  obtain ⟨hi27, h⟩ := h
  refine g_iald (n := l2_12.toNatClampNeg) hw dX1_sums_65 hk26 hi27 rfl ?_
  refine g_iadd hw dX1_sums_66 ?_
  refine pfX1_182 hw rfl dX1_sums_67 hk23 ?_
  exact wX1_sums_b70 hw hkf hR9 h
def fX1_sums_L9s (R9 : Int32 → gM → Prop) (K76_9 : gM → Prop) (l1_7 : Int32) (l2_8 : Int32) (M : gM) (Q : gM → Prop) : Prop :=
  gk M 16 = 1 ∧ (if (gI M 16 22) ≤ l2_8 then K76_9 M else (if l1_7 = 0 then fX1_sums_b33 R9 l1_7 l2_8 M Q else gdr (gR M 16 21) (fun a29 => gk M a29 = 43 ∧ vp_in l2_8 (gl M a29) ∧ (if (gI M a29 l2_8.toNatClampNeg) = 0 then fX1_sums_b70 R9 l1_7 l2_8 M Q else fX1_sums_b33 R9 l1_7 l2_8 M Q))))
def fX1_sums_L9 (K76_9 : gM → Prop) (l1_7 : Int32) (Q : gM → Prop) : Nat → Int32 → gM → Prop
  | 0 => fun _ _ => False
  | n + 1 => fun l2_8 M => fX1_sums_L9s (fX1_sums_L9 K76_9 l1_7 Q n) K76_9 l1_7 l2_8 M Q
theorem wX1_sums_L9s {kf : Nat} {G : gG} {w : gM → Nat → List (Nat × Value) → List Value → Prop} {Q : gM → Prop} (hw : gX yX1_sums cX1_sums 3 (Option.none : Option FieldType) [] kf G (gQv Q) gE0 w) (hkf : 2 ≤ kf) {R9 : Int32 → gM → Prop} {K76_9 : gM → Prop} {l1_7 : Int32} {l2_8 : Int32} {M : gM} (hR9 : ∀ (v0 : Int32) (M : gM), R9 v0 M → w M 9 [(0, .ref (gA G 16)), (1, .int l1_7), (2, .int v0)] []) (hK76_9 : ∀  (M : gM), K76_9 M → w M 76 [] []) (h : fX1_sums_L9s R9 K76_9 l1_7 l2_8 M Q) : w M 9 [(0, .ref (gA G 16)), (1, .int l1_7), (2, .int l2_8)] [] := by
  unfold fX1_sums_L9s at h
  refine g_iload_n hw 2 dX1_sums_9 rfl ?_
  refine g_aload_n hw 0 dX1_sums_10 rfl ?_
  obtain ⟨hk9, h⟩ := h
  refine gfX1_322 hw rfl dX1_sums_11 hk9 ?_
  refine g_icmp_ge (tgt := 76) hw dX1_sums_14 (by decide) (fun hb10 => ?_) (fun hb10 => ?_)
  · have h := gT h hb10
    refine g_sub hw (lv2 := []) [] rfl ?_
    exact hK76_9 M h
  · have h := gF h hb10
    refine g_iload_n hw 1 dX1_sums_17 rfl ?_
    refine g_if_eq (tgt := 33) hw dX1_sums_18 (by decide) (fun hb11 => ?_) (fun hb11 => ?_)
    · have h := gT h hb11
      exact wX1_sums_b33 hw hkf hR9 h
    · have h := gF h hb11
      refine g_aload_n hw 0 dX1_sums_21 rfl ?_
      obtain ⟨a29, e30, h⟩ := h
      refine gfX1_92 (q := some a29) hw rfl dX1_sums_22 hk9 e30 ?_
      refine g_iload_n hw 2 dX1_sums_25 rfl ?_
      obtain ⟨hk31, h⟩ := h
      obtain ⟨hi32, h⟩ := h
      refine g_zald (n := l2_8.toNatClampNeg) hw dX1_sums_26 hk31 hi32 rfl ?_
      refine g_if_ne (tgt := 33) hw dX1_sums_27 (by decide) (fun hb33 => ?_) (fun hb33 => ?_)
      · have h := gF h hb33
        exact wX1_sums_b33 hw hkf hR9 h
      · have h := gT h hb33
        refine g_goto (tgt := 70) hw dX1_sums_30 (by decide) ?_
        exact wX1_sums_b70 hw hkf hR9 h
theorem wX1_sums_L9 {kf : Nat} {G : gG} {w : gM → Nat → List (Nat × Value) → List Value → Prop} {Q : gM → Prop} (hw : gX yX1_sums cX1_sums 3 (Option.none : Option FieldType) [] kf G (gQv Q) gE0 w) (hkf : 2 ≤ kf) {K76_9 : gM → Prop} {l1_7 : Int32} (hK76_9 : ∀  (M : gM), K76_9 M → w M 76 [] []) : ∀ (n : Nat) (l2_8 : Int32) (M : gM), fX1_sums_L9 K76_9 l1_7 Q n l2_8 M → w M 9 [(0, .ref (gA G 16)), (1, .int l1_7), (2, .int l2_8)] [] := by
  intro n
  induction n with
  | zero => intro l2_8 M h; exact h.elim
  | succ n ih => intro l2_8 M h; exact wX1_sums_L9s hw hkf ih hK76_9 h
def fX1_sums (p1 : Int32) (M : gM) (Q : gM → Prop) : Prop :=
  gk M 16 = 1 ∧ gdr (gR M 16 10) (fun a2 => gk M a2 = 3 ∧ fX3_begin a2 M (fun M5 => ∃ n, fX1_sums_L9 (fun M34 => Q M34) p1 Q n 0 M5))
theorem mX1_sums {kf : Nat} (hkf : 2 ≤ kf) (G : gG) (p1 : Int32) (M : gM) (Q : gM → Prop) (h : fX1_sums p1 M Q) : gMet yX1_sums cX1_sums 3 (Option.none : Option FieldType) kf G M [.ref (gA G 16), .int p1] (gQv Q) gE0 := by
  refine g_intro (lv := [(0, .ref (gA G 16)), (1, .int p1)]) (by decide) rfl rfl (fun w hw => ?_)
  unfold fX1_sums at h
  refine g_aload_n hw 0 dX1_sums_0 rfl ?_
  obtain ⟨hk1, h⟩ := h
  obtain ⟨a2, e3, h⟩ := h
  refine gfX1_66 (q := some a2) hw rfl dX1_sums_1 hk1 e3 ?_
  obtain ⟨hk4, h⟩ := h
  refine sX1_179 hw rfl dX1_sums_4 rfl (gK2 hkf) hk4 h (fun M5 h => ?_)
  refine g_iconst (v := 0) hw dX1_sums_7 (by decide) ?_
  refine g_istore_n hw (lv2 := [(0, .ref (gA G 16)), (1, .int p1), (2, .int 0)]) [1, 2, 0] dX1_sums_8 rfl rfl ?_
  obtain ⟨n9, h⟩ := h
  refine wX1_sums_L9 hw hkf (fun M34 h => ?_) n9 0 M5 h
  exact g_vret hw dX1_sums_76 ⟨rfl, h⟩
theorem sX1_325 {y0 : MethodName} {cc : ByteArray} {nL : Nat} {ret : Option FieldType} {hh : List (Nat × Nat × Nat × Nat)} {kf : Nat} {G : gG} {Qv : Option Value → gM → Prop} {E : String → Nat → gM → Prop} {w : gM → Nat → List (Nat × Value) → List Value → Prop} {M : gM} {pc : Nat} {lv : List (Nat × Value)} {rest : List Value} (hw : gX y0 cc nL ret hh kf G Qv E w) (hy : y0.cls = RX1) {p1 : Int32} {Q : gM → Prop} (d : decode cc pc = .ok (.invokevirtual 325, 3)) (hrest : Nat.ble ((rest.map Value.category).sum) 8 = true) (hk : 2 + 1 ≤ kf) (hkd : gk M 16 = 1) (h : fX1_sums p1 M Q) (kk : ∀ M1, Q M1 → w M1 (pc + 3) lv rest) : w M pc lv (.int p1 :: .ref (gA G 16) :: rest) := by
  obtain ⟨cls9, nm9, ds9⟩ := y0
  subst hy
  exact g_callV (r := (RX1, TX1, 28)) (ci := 0) hw [.int p1] (nA := 1) rfl d q874 q876 qs33 q98 q877 (by decide +kernel) rfl rfl hrest rfl (by omega : kf - 1 + 1 ≤ kf) hkd (mX1_sums (kf := kf - 1) (by omega) G p1 M Q h) (fun _ _ _ q => q.elim) (fun v M1 h => by obtain ⟨rfl, h⟩ := h; exact kk M1 h)
def fX1_drawer_b48  (M : gM) (Q : Int32 → gM → Prop) : Prop :=
  Q (-1) M
theorem wX1_drawer_b48 {kf : Nat} {G : gG} {w : gM → Nat → List (Nat × Value) → List Value → Prop} {Q : Int32 → gM → Prop} (hw : gX yX1_drawer cX1_drawer 2 (Option.some FieldType.int) [] kf G (gQi Q) gE0 w) (hkf : 3 ≤ kf)   {M : gM}  (h : fX1_drawer_b48 M Q) : w M 48 [] [] := by
  unfold fX1_drawer_b48 at h
  refine g_iconst (v := (-1)) hw dX1_drawer_48 (by decide) ?_
  exact g_iret hw dX1_drawer_49 rfl ⟨_, rfl, h⟩
def fX1_drawer (p1 : Int32) (M : gM) (Q : Int32 → gM → Prop) : Prop :=
  gk M 16 = 1 ∧ fX1_sums 1 M (fun M2 => fX1_in p1 1 999 M2 (fun r5 M4 => (if r5 = 0 then fX1_drawer_b48 M4 Q else gk M4 16 = 1 ∧ gdr (gR M4 16 10) (fun a8 => gk M4 a8 = 3 ∧ (if (gI M4 a8 1) ≤ 0 then fX1_drawer_b48 M4 Q else gdr (gR M4 16 10) (fun a12 => gk M4 a12 = 3 ∧ fJ0_abs (gL M4 a12 0) M4 (fun r16 M15 => (¬ p1.toInt64 = 0) ∧ Q ((((r16 + p1.toInt64) - 1) / p1.toInt64).toInt32) M15)))))))
theorem mX1_drawer {kf : Nat} (hkf : 3 ≤ kf) (G : gG) (p1 : Int32) (M : gM) (Q : Int32 → gM → Prop) (h : fX1_drawer p1 M Q) : gMet yX1_drawer cX1_drawer 2 (Option.some FieldType.int) kf G M [.ref (gA G 16), .int p1] (gQi Q) gE0 := by
  refine g_intro (lv := [(0, .ref (gA G 16)), (1, .int p1)]) (by decide) rfl rfl (fun w hw => ?_)
  unfold fX1_drawer at h
  refine g_aload_n hw 0 dX1_drawer_0 rfl ?_
  refine g_iconst (v := 1) hw dX1_drawer_1 (by decide) ?_
  obtain ⟨hk1, h⟩ := h
  refine sX1_325 hw rfl dX1_drawer_2 rfl (gK2 hkf) hk1 h (fun M2 h => ?_)
  refine g_iload_n hw 1 dX1_drawer_5 rfl ?_
  refine g_iconst (v := 1) hw dX1_drawer_6 (by decide) ?_
  refine g_sipush (v := 999) hw dX1_drawer_7 (by decide) ?_
  refine sX1_112 hw rfl dX1_drawer_10 rfl (gK2 hkf) h (fun r5 M4 h => ?_)
  refine g_if_eq (tgt := 48) hw dX1_drawer_13 (by decide) (fun hb6 => ?_) (fun hb6 => ?_)
  · have h := gT h hb6
    refine g_sub hw (lv2 := []) [] rfl ?_
    exact wX1_drawer_b48 hw hkf h
  · have h := gF h hb6
    refine g_aload_n hw 0 dX1_drawer_16 rfl ?_
    obtain ⟨hk7, h⟩ := h
    obtain ⟨a8, e9, h⟩ := h
    refine gfX1_66 (q := some a8) hw rfl dX1_drawer_17 hk7 e9 ?_
    obtain ⟨hk10, h⟩ := h
    refine gfX1_182 hw rfl dX1_drawer_20 hk10 ?_
    refine g_if_le (tgt := 48) hw dX1_drawer_23 (by decide) (fun hb11 => ?_) (fun hb11 => ?_)
    · have h := gT h hb11
      refine g_sub hw (lv2 := []) [] rfl ?_
      exact wX1_drawer_b48 hw hkf h
    · have h := gF h hb11
      refine g_aload_n hw 0 dX1_drawer_26 rfl ?_
      obtain ⟨a12, e13, h⟩ := h
      refine gfX1_66 (q := some a12) hw rfl dX1_drawer_27 hk7 e13 ?_
      obtain ⟨hk14, h⟩ := h
      refine gfX1_185 hw rfl dX1_drawer_30 hk14 ?_
      refine sX1_7 hw rfl dX1_drawer_33 rfl (gK2 hkf) h (fun r16 M15 h => ?_)
      refine g_iload_n hw 1 dX1_drawer_36 rfl ?_
      refine g_i2l hw dX1_drawer_37 ?_
      refine g_ladd hw dX1_drawer_38 ?_
      refine g_lconst (v := 1) hw dX1_drawer_39 (by decide) ?_
      refine g_lsub hw dX1_drawer_40 ?_
      refine g_iload_n hw 1 dX1_drawer_41 rfl ?_
      refine g_i2l hw dX1_drawer_42 ?_
      obtain ⟨hc17, h⟩ := h
      refine g_ldiv hw dX1_drawer_43 hc17 ?_
      refine g_l2i hw dX1_drawer_44 ?_
      refine g_goto (tgt := 49) hw dX1_drawer_45 (by decide) ?_
      exact g_iret hw dX1_drawer_49 rfl ⟨_, rfl, h⟩
theorem sX1_328H {y0 : MethodName} {cc : ByteArray} {nL : Nat} {ret : Option FieldType} {hh : List (Nat × Nat × Nat × Nat)} {kf : Nat} {G : gG} {Qv : Option Value → gM → Prop} {E : String → Nat → gM → Prop} {E1 : Nat → gM → Prop} {w : gM → Nat → List (Nat × Value) → List Value → Prop} {M : gM} {pc : Nat} {lv : List (Nat × Value)} {rest : List Value} (hw : gX y0 cc nL ret hh kf G Qv E w) (hy : y0.cls = RX1)  {Q : Nat → gM → Prop} (d : decode cc pc = .ok (.invokevirtual 328, 3)) (hrest : Nat.ble ((rest.map Value.category).sum) 8 = true) (hk : 51 + 1 ≤ kf) (hkd : gk M 25 = 2) (h : fX2_writer M Q E1) (kx : ∀ cls o M1, gEx "RiverWage$Wrong" E1 cls o M1 → gCat y0.cls hh G E w pc lv cls o M1) (kk : ∀ r M1, Q r M1 → w M1 (pc + 3) lv (.ref (gA G r) :: rest)) : w M pc lv (.ref (gA G 25) :: rest) := by
  obtain ⟨cls9, nm9, ds9⟩ := y0
  subst hy
  exact g_callV (r := (RX2, TX2, 8)) (ci := 1) hw [] (nA := 0) rfl d q882 q883 q884 q99 q885 (by decide +kernel) rfl rfl hrest rfl (by omega : kf - 1 + 1 ≤ kf) hkd (mX2_writer (kf := kf - 1) (by omega) G M Q E1 h) kx (fun v M1 h => by obtain ⟨r, rfl, h⟩ := h; exact kk r M1 h)
def fX1_writer (p1 : Int32) (M : gM) (Q : Int32 → gM → Prop) : Prop :=
  gk M 16 = 1 ∧ fX1_in p1 0 3 (gsI M 16 7 0) (fun r3 M2 => (if r3 = 0 then Q (-1) M2 else gk M2 16 = 1 ∧ gdr (gR M2 16 4) (fun a6 => gdr (gR M2 16 3) (fun a8 => gk M2 a6 = 2 ∧ (a6 = 25) ∧ fX2_begin a8 (gI M 16 7) M2 (fun M12 => gk M12 16 = 1 ∧ gdr (gR M12 16 6) (fun a15 => gdr (gR M12 16 4) (fun a17 => gk M12 a17 = 2 ∧ (a17 = 25) ∧ fX2_writer M12 (fun r22 M21 => gk M21 a15 = 46 ∧ vp_in p1 (gl M21 a15) ∧ gk M21 r22 = 6 ∧ Q 0 (gsR M21 a15 p1.toNatClampNeg (some r22))) (fun o23 M24 => gk M24 o23 = 8 ∧ Q (gI M24 o23 6) M24))))))))
theorem mX1_writer {kf : Nat} (hkf : 52 ≤ kf) (G : gG) (p1 : Int32) (M : gM) (Q : Int32 → gM → Prop) (h : fX1_writer p1 M Q) : gMetW yX1_writer cX1_writer 4 (Option.some FieldType.int) [(33, 46, 49, 265)] kf G M [.ref (gA G 16), .int p1] (gQi Q) gE0 := by
  refine g_introW (lv := [(0, .ref (gA G 16)), (1, .int p1)]) (by decide) rfl rfl (by decide) (fun w hw => ?_)
  unfold fX1_writer at h
  refine g_aload_n hw 0 dX1_writer_0 rfl ?_
  obtain ⟨hk1, h⟩ := h
  refine gfX1_252 hw rfl dX1_writer_1 hk1 ?_
  refine g_istore_n hw (lv2 := [(0, .ref (gA G 16)), (1, .int p1), (2, .int (gI M 16 7))]) [1, 2, 0] dX1_writer_4 rfl rfl ?_
  refine g_aload_n hw 0 dX1_writer_5 rfl ?_
  refine g_iconst (v := 0) hw dX1_writer_6 (by decide) ?_
  refine pfX1_252 hw rfl dX1_writer_7 hk1 ?_
  refine g_iload_n hw 1 dX1_writer_10 rfl ?_
  refine g_iconst (v := 0) hw dX1_writer_11 (by decide) ?_
  refine g_iconst (v := 3) hw dX1_writer_12 (by decide) ?_
  refine sX1_112 hw rfl dX1_writer_13 rfl (gK2 hkf) h (fun r3 M2 h => ?_)
  refine g_if_ne (tgt := 21) hw dX1_writer_16 (by decide) (fun hb4 => ?_) (fun hb4 => ?_)
  · have h := gF h hb4
    refine g_aload_n hw 0 dX1_writer_21 rfl ?_
    obtain ⟨hk5, h⟩ := h
    obtain ⟨a6, e7, h⟩ := h
    refine gfX1_40 (q := some a6) hw rfl dX1_writer_22 hk5 e7 ?_
    refine g_aload_n hw 0 dX1_writer_25 rfl ?_
    obtain ⟨a8, e9, h⟩ := h
    refine gfX1_33 (q := some a8) hw rfl dX1_writer_26 hk5 e9 ?_
    refine g_iload_n hw 2 dX1_writer_29 rfl ?_
    obtain ⟨hk10, h⟩ := h
    obtain ⟨hr11, h⟩ := h
    rw [hr11]
    refine sX1_258 hw rfl dX1_writer_30 rfl (gK2 hkf) (hr11 ▸ hk10) h (fun M12 h => ?_)
    refine g_aload_n hw 0 dX1_writer_33 rfl ?_
    obtain ⟨hk14, h⟩ := h
    obtain ⟨a15, e16, h⟩ := h
    refine gfX1_52 (q := some a15) hw rfl dX1_writer_34 hk14 e16 ?_
    refine g_iload_n hw 1 dX1_writer_37 rfl ?_
    refine g_aload_n hw 0 dX1_writer_38 rfl ?_
    obtain ⟨a17, e18, h⟩ := h
    refine gfX1_40 (q := some a17) hw rfl dX1_writer_39 hk14 e18 ?_
    obtain ⟨hk19, h⟩ := h
    obtain ⟨hr20, h⟩ := h
    rw [hr20]
    refine sX1_328H hw rfl dX1_writer_42 rfl (gK2 hkf) (hr20 ▸ hk19) h (gCatH (by decide) q496 q643 (fun o23 M24 h => ?_)) (fun r22 M21 h => ?_)
    · refine g_astore_n hw (lv2 := [(3, .ref (gA G o23))]) [0] dX1_writer_49 rfl rfl ?_
      refine g_aload_n hw 0 dX1_writer_50 rfl ?_
      obtain ⟨hk25, h⟩ := h
      refine gfX1_267 hw rfl dX1_writer_51 hk25 ?_
      exact g_iret hw dX1_writer_54 rfl ⟨_, rfl, h⟩
    obtain ⟨hk26, h⟩ := h
    obtain ⟨hi27, h⟩ := h
    obtain ⟨hk28, h⟩ := h
    refine g_aast (n := p1.toNatClampNeg) (ci := 5) hw 6 dX1_writer_45 ⟨rfl, rfl⟩ rfl hk26 hi27 rfl rfl hk28 (Or.inl rfl) ?_
    refine g_goto (tgt := 55) hw dX1_writer_46 (by decide) ?_
    refine g_iconst (v := 0) hw dX1_writer_55 (by decide) ?_
    exact g_iret hw dX1_writer_56 rfl ⟨_, rfl, h⟩
  · have h := gT h hb4
    refine g_iconst (v := (-1)) hw dX1_writer_19 (by decide) ?_
    exact g_iret hw dX1_writer_20 rfl ⟨_, rfl, h⟩
theorem gfX1_332 {y0 : MethodName} {cc : ByteArray} {nL : Nat} {ret : Option FieldType} {hh : List (Nat × Nat × Nat × Nat)} {kf : Nat} {G : gG} {Qv : Option Value → gM → Prop} {E : String → Nat → gM → Prop} {w : gM → Nat → List (Nat × Value) → List Value → Prop} {M : gM} {pc : Nat} {lv : List (Nat × Value)} {rest : List Value} (hw : gX y0 cc nL ret hh kf G Qv E w) (hy : y0.cls = RX1) {c : Nat} {q : Option Nat} (d : decode cc pc = .ok (.getfield 332, 3)) (hk : gk M c = 6) (hq : gR M c 0 = q) (kk : w M (pc + 3) lv (va_rf (q.map (gA G)) :: rest)) : w M pc lv (.ref (gA G c) :: rest) := by
  obtain ⟨cls9, nm9, ds9⟩ := y0
  subst hy
  subst hq
  exact g_getC (C := RX6) (T := TX6) (N := 4) (ci := 5) hw in_X6 rfl 0 (by decide) (Or.inr ⟨_, q254⟩) rfl d hk kk
theorem gfX1_133 {y0 : MethodName} {cc : ByteArray} {nL : Nat} {ret : Option FieldType} {hh : List (Nat × Nat × Nat × Nat)} {kf : Nat} {G : gG} {Qv : Option Value → gM → Prop} {E : String → Nat → gM → Prop} {w : gM → Nat → List (Nat × Value) → List Value → Prop} {M : gM} {pc : Nat} {lv : List (Nat × Value)} {rest : List Value} (hw : gX y0 cc nL ret hh kf G Qv E w) (hy : y0.cls = RX1) {c : Nat} (d : decode cc pc = .ok (.getfield 133, 3)) (hk : gk M c = 4) (kk : w M (pc + 3) lv (.int (gI M c 4) :: rest)) : w M pc lv (.ref (gA G c) :: rest) := by
  obtain ⟨cls9, nm9, ds9⟩ := y0
  subst hy
  exact g_getC (C := RX4) (T := TX4) (N := 11) (ci := 3) hw in_X4 rfl 4 (by decide) (Or.inr ⟨_, q198⟩) rfl d hk kk
theorem sX1_336 {y0 : MethodName} {cc : ByteArray} {nL : Nat} {ret : Option FieldType} {hh : List (Nat × Nat × Nat × Nat)} {kf : Nat} {G : gG} {Qv : Option Value → gM → Prop} {E : String → Nat → gM → Prop} {w : gM → Nat → List (Nat × Value) → List Value → Prop} {M : gM} {pc : Nat} {lv : List (Nat × Value)} {rest : List Value} (hw : gX y0 cc nL ret hh kf G Qv E w) (hy : y0.cls = RX1) {c0 : Nat} {p1 : Int32} {Q : Int32 → gM → Prop} (d : decode cc pc = .ok (.invokevirtual 336, 3)) (hrest : Nat.ble ((rest.map Value.category).sum) 8 = true) (hk : 1 + 1 ≤ kf) (hkd : gk M c0 = 4) (h : fX4_months c0 p1 M Q) (kk : ∀ r M1, Q r M1 → w M1 (pc + 3) lv (.int r :: rest)) : w M pc lv (.int p1 :: .ref (gA G c0) :: rest) := by
  obtain ⟨cls9, nm9, ds9⟩ := y0
  subst hy
  exact g_callV (r := (RX4, TX4, 11)) (ci := 3) hw [.int p1] (nA := 1) rfl d q898 q899 q900 q101 q901 (by decide +kernel) rfl rfl hrest rfl (by omega : kf - 1 + 1 ≤ kf) hkd (mX4_months (kf := kf - 1) (by omega) G c0 p1 M Q h) (fun _ _ _ q => q.elim) (fun v M1 h => by obtain ⟨r, rfl, h⟩ := h; exact kk r M1 h)
theorem gfX1_339 {y0 : MethodName} {cc : ByteArray} {nL : Nat} {ret : Option FieldType} {hh : List (Nat × Nat × Nat × Nat)} {kf : Nat} {G : gG} {Qv : Option Value → gM → Prop} {E : String → Nat → gM → Prop} {w : gM → Nat → List (Nat × Value) → List Value → Prop} {M : gM} {pc : Nat} {lv : List (Nat × Value)} {rest : List Value} (hw : gX y0 cc nL ret hh kf G Qv E w) (hy : y0.cls = RX1) {c : Nat} (d : decode cc pc = .ok (.getfield 339, 3)) (hk : gk M c = 6) (kk : w M (pc + 3) lv (.int (gI M c 2) :: rest)) : w M pc lv (.ref (gA G c) :: rest) := by
  obtain ⟨cls9, nm9, ds9⟩ := y0
  subst hy
  exact g_getC (C := RX6) (T := TX6) (N := 4) (ci := 5) hw in_X6 rfl 2 (by decide) (Or.inr ⟨_, q259⟩) rfl d hk kk
theorem gfX1_342 {y0 : MethodName} {cc : ByteArray} {nL : Nat} {ret : Option FieldType} {hh : List (Nat × Nat × Nat × Nat)} {kf : Nat} {G : gG} {Qv : Option Value → gM → Prop} {E : String → Nat → gM → Prop} {w : gM → Nat → List (Nat × Value) → List Value → Prop} {M : gM} {pc : Nat} {lv : List (Nat × Value)} {rest : List Value} (hw : gX y0 cc nL ret hh kf G Qv E w) (hy : y0.cls = RX1) {c : Nat} (d : decode cc pc = .ok (.getfield 342, 3)) (hk : gk M c = 6) (kk : w M (pc + 3) lv (.int (gI M c 1) :: rest)) : w M pc lv (.ref (gA G c) :: rest) := by
  obtain ⟨cls9, nm9, ds9⟩ := y0
  subst hy
  exact g_getC (C := RX6) (T := TX6) (N := 4) (ci := 5) hw in_X6 rfl 1 (by decide) (Or.inr ⟨_, q256⟩) rfl d hk kk
def fX1_isTaken_b119 (l1_64 : Nat) (l2_65 : Int32) (l3_66 : Nat) (s0_67 : Nat) (s1_68 : Int32) (s2_69 : Int32) (M : gM) (Q : Int32 → gM → Prop) : Prop :=
  gk M s0_67 = 40 ∧ vp_in s1_68 (gl M s0_67) ∧ gk (gsI M s0_67 s1_68.toNatClampNeg s2_69) 16 = 1 ∧ gdr (gR (gsI M s0_67 s1_68.toNatClampNeg s2_69) 16 18) (fun a73 => gk (gsI M s0_67 s1_68.toNatClampNeg s2_69) l1_64 = 6 ∧ fX1_handsOf l3_66 (gI (gsI M s0_67 s1_68.toNatClampNeg s2_69) l1_64 1) (gsI M s0_67 s1_68.toNatClampNeg s2_69) (fun r77 M76 => gk M76 a73 = 40 ∧ vp_in 7 (gl M76 a73) ∧ gk (gsI M76 a73 7 r77) 16 = 1 ∧ gdr (gR (gsI M76 a73 7 r77) 16 18) (fun a81 => gk (gsI M76 a73 7 r77) a81 = 40 ∧ vp_in 8 (gl (gsI M76 a73 7 r77) a81) ∧ gk (gsI (gsI M76 a73 7 r77) a81 8 l2_65) l1_64 = 6 ∧ gdr (gR (gsI (gsI M76 a73 7 r77) a81 8 l2_65) 16 18) (fun a86 => gdr (gR (gsI (gsI M76 a73 7 r77) a81 8 l2_65) l1_64 0) (fun a88 => ∃ n9, n9 ≤ 1010 ∧ fEw n9 a88 a86 (gsI (gsI M76 a73 7 r77) a81 8 l2_65) (fun r91 M90 => (if r91 = 0 then Q 0 M90 else Q 1 M90)))))))
theorem wX1_isTaken_b119 {kf : Nat} {G : gG} {w : gM → Nat → List (Nat × Value) → List Value → Prop} {Q : Int32 → gM → Prop} (hw : gX yX1_isTaken cX1_isTaken 4 (Option.some FieldType.boolean) [] kf G (gQi Q) gE0 w) (hkf : 1012 ≤ kf)  {l1_64 : Nat} {l2_65 : Int32} {l3_66 : Nat} {s0_67 : Nat} {s1_68 : Int32} {s2_69 : Int32} {M : gM}  (h : fX1_isTaken_b119 l1_64 l2_65 l3_66 s0_67 s1_68 s2_69 M Q) : w M 119 [(0, .ref (gA G 16)), (1, .ref (gA G l1_64)), (2, .int l2_65), (3, .ref (gA G l3_66))] [.int s2_69, .int s1_68, .ref (gA G s0_67)] := by
  unfold fX1_isTaken_b119 at h
  obtain ⟨hk70, h⟩ := h
  obtain ⟨hi71, h⟩ := h
  refine g_iast (n := s1_68.toNatClampNeg) hw dX1_isTaken_119 hk70 hi71 rfl ?_
  refine g_aload_n hw 0 dX1_isTaken_120 rfl ?_
  obtain ⟨hk72, h⟩ := h
  obtain ⟨a73, e74, h⟩ := h
  refine gfX1_83 (q := some a73) hw rfl dX1_isTaken_121 hk72 e74 ?_
  refine g_bipush (v := 7) hw dX1_isTaken_124 (by decide) ?_
  refine g_aload_n hw 0 dX1_isTaken_126 rfl ?_
  refine g_aload_n hw 3 dX1_isTaken_127 rfl ?_
  refine g_aload_n hw 1 dX1_isTaken_128 rfl ?_
  obtain ⟨hk75, h⟩ := h
  refine gfX1_342 hw rfl dX1_isTaken_129 hk75 ?_
  refine sX1_161 hw rfl dX1_isTaken_132 rfl (gK2 hkf) hk72 h (fun r77 M76 h => ?_)
  obtain ⟨hk78, h⟩ := h
  obtain ⟨hi79, h⟩ := h
  refine g_iast (n := 7) hw dX1_isTaken_135 hk78 hi79 rfl ?_
  refine g_aload_n hw 0 dX1_isTaken_136 rfl ?_
  obtain ⟨hk80, h⟩ := h
  obtain ⟨a81, e82, h⟩ := h
  refine gfX1_83 (q := some a81) hw rfl dX1_isTaken_137 hk80 e82 ?_
  refine g_bipush (v := 8) hw dX1_isTaken_140 (by decide) ?_
  refine g_iload_n hw 2 dX1_isTaken_142 rfl ?_
  obtain ⟨hk83, h⟩ := h
  obtain ⟨hi84, h⟩ := h
  refine g_iast (n := 8) hw dX1_isTaken_143 hk83 hi84 rfl ?_
  refine g_aload_n hw 1 dX1_isTaken_144 rfl ?_
  obtain ⟨hk85, h⟩ := h
  refine gfX1_332 hw rfl dX1_isTaken_145 hk85 rfl ?_
  refine g_aload_n hw 0 dX1_isTaken_148 rfl ?_
  obtain ⟨a86, e87, h⟩ := h
  refine gfX1_83 (q := some a86) hw rfl dX1_isTaken_149 hk80 e87 ?_
  obtain ⟨a88, e89, h⟩ := h
  rw [e89]
  obtain ⟨n9, hn9, h⟩ := h
  refine sX1_293 hw rfl dX1_isTaken_152 rfl (gK2 hkf) hn9 h (fun r91 M90 h => ?_)
  refine g_if_eq (tgt := 162) hw dX1_isTaken_155 (by decide) (fun hb92 => ?_) (fun hb92 => ?_)
  · have h := gT h hb92
    refine g_iconst (v := 0) hw dX1_isTaken_162 (by decide) ?_
    exact g_iret hw dX1_isTaken_163 (by decide +kernel) ⟨_, rfl, h⟩
  · have h := gF h hb92
    refine g_iconst (v := 1) hw dX1_isTaken_158 (by decide) ?_
    refine g_goto (tgt := 163) hw dX1_isTaken_159 (by decide) ?_
    exact g_iret hw dX1_isTaken_163 (by decide +kernel) ⟨_, rfl, h⟩
def fX1_isTaken_b63 (l1_26 : Nat) (l2_27 : Int32) (l3_28 : Nat) (s0_29 : Nat) (s1_30 : Int32) (s2_31 : Int32) (M : gM) (Q : Int32 → gM → Prop) : Prop :=
  gk M s0_29 = 40 ∧ vp_in s1_30 (gl M s0_29) ∧ gk (gsI M s0_29 s1_30.toNatClampNeg s2_31) 16 = 1 ∧ gdr (gR (gsI M s0_29 s1_30.toNatClampNeg s2_31) 16 18) (fun a35 => gk (gsI M s0_29 s1_30.toNatClampNeg s2_31) l3_28 = 4 ∧ fX4_months l3_28 (-1) (gsI M s0_29 s1_30.toNatClampNeg s2_31) (fun r39 M38 => gk M38 a35 = 40 ∧ vp_in 4 (gl M38 a35) ∧ gk (gsI M38 a35 4 r39) 16 = 1 ∧ gdr (gR (gsI M38 a35 4 r39) 16 18) (fun a43 => gk (gsI M38 a35 4 r39) l3_28 = 4 ∧ fX4_months l3_28 (-2) (gsI M38 a35 4 r39) (fun r47 M46 => gk M46 a43 = 40 ∧ vp_in 5 (gl M46 a43) ∧ gk (gsI M46 a43 5 r47) 16 = 1 ∧ gdr (gR (gsI M46 a43 5 r47) 16 18) (fun a51 => gk (gsI M46 a43 5 r47) l3_28 = 4 ∧ gdr (gR (gsI M46 a43 5 r47) 16 1) (fun a54 => gk (gsI M46 a43 5 r47) a54 = 48 ∧ vp_in (gI (gsI M46 a43 5 r47) l3_28 0) (gl (gsI M46 a43 5 r47) a54) ∧ gdr (gR (gsI M46 a43 5 r47) a54 ((gI (gsI M46 a43 5 r47) l3_28 0).toNatClampNeg)) (fun a58 => gk (gsI M46 a43 5 r47) l1_26 = 6 ∧ gk (gsI M46 a43 5 r47) a58 = 40 ∧ vp_in (gI (gsI M46 a43 5 r47) l1_26 2) (gl (gsI M46 a43 5 r47) a58) ∧ (if (gI (gsI M46 a43 5 r47) a58 ((gI (gsI M46 a43 5 r47) l1_26 2).toNatClampNeg)) ≤ (gI (gsI M46 a43 5 r47) l3_28 1) then fX1_isTaken_b119 l1_26 l2_27 l3_28 a51 6 0 (gsI M46 a43 5 r47) Q else fX1_isTaken_b119 l1_26 l2_27 l3_28 a51 6 1 (gsI M46 a43 5 r47) Q))))))))
theorem wX1_isTaken_b63 {kf : Nat} {G : gG} {w : gM → Nat → List (Nat × Value) → List Value → Prop} {Q : Int32 → gM → Prop} (hw : gX yX1_isTaken cX1_isTaken 4 (Option.some FieldType.boolean) [] kf G (gQi Q) gE0 w) (hkf : 1012 ≤ kf)  {l1_26 : Nat} {l2_27 : Int32} {l3_28 : Nat} {s0_29 : Nat} {s1_30 : Int32} {s2_31 : Int32} {M : gM}  (h : fX1_isTaken_b63 l1_26 l2_27 l3_28 s0_29 s1_30 s2_31 M Q) : w M 63 [(0, .ref (gA G 16)), (1, .ref (gA G l1_26)), (2, .int l2_27), (3, .ref (gA G l3_28))] [.int s2_31, .int s1_30, .ref (gA G s0_29)] := by
  unfold fX1_isTaken_b63 at h
  obtain ⟨hk32, h⟩ := h
  obtain ⟨hi33, h⟩ := h
  refine g_iast (n := s1_30.toNatClampNeg) hw dX1_isTaken_63 hk32 hi33 rfl ?_
  refine g_aload_n hw 0 dX1_isTaken_64 rfl ?_
  obtain ⟨hk34, h⟩ := h
  obtain ⟨a35, e36, h⟩ := h
  refine gfX1_83 (q := some a35) hw rfl dX1_isTaken_65 hk34 e36 ?_
  refine g_iconst (v := 4) hw dX1_isTaken_68 (by decide) ?_
  refine g_aload_n hw 3 dX1_isTaken_69 rfl ?_
  refine g_iconst (v := (-1)) hw dX1_isTaken_70 (by decide) ?_
  obtain ⟨hk37, h⟩ := h
  refine sX1_336 hw rfl dX1_isTaken_71 rfl (gK2 hkf) hk37 h (fun r39 M38 h => ?_)
  obtain ⟨hk40, h⟩ := h
  obtain ⟨hi41, h⟩ := h
  refine g_iast (n := 4) hw dX1_isTaken_74 hk40 hi41 rfl ?_
  refine g_aload_n hw 0 dX1_isTaken_75 rfl ?_
  obtain ⟨hk42, h⟩ := h
  obtain ⟨a43, e44, h⟩ := h
  refine gfX1_83 (q := some a43) hw rfl dX1_isTaken_76 hk42 e44 ?_
  refine g_iconst (v := 5) hw dX1_isTaken_79 (by decide) ?_
  refine g_aload_n hw 3 dX1_isTaken_80 rfl ?_
  refine g_bipush (v := (-2)) hw dX1_isTaken_81 (by decide) ?_
  obtain ⟨hk45, h⟩ := h
  refine sX1_336 hw rfl dX1_isTaken_83 rfl (gK2 hkf) hk45 h (fun r47 M46 h => ?_)
  obtain ⟨hk48, h⟩ := h
  obtain ⟨hi49, h⟩ := h
  refine g_iast (n := 5) hw dX1_isTaken_86 hk48 hi49 rfl ?_
  refine g_aload_n hw 0 dX1_isTaken_87 rfl ?_
  obtain ⟨hk50, h⟩ := h
  obtain ⟨a51, e52, h⟩ := h
  refine gfX1_83 (q := some a51) hw rfl dX1_isTaken_88 hk50 e52 ?_
  refine g_bipush (v := 6) hw dX1_isTaken_91 (by decide) ?_
  refine g_aload_n hw 3 dX1_isTaken_93 rfl ?_
  obtain ⟨hk53, h⟩ := h
  refine gfX1_127 hw rfl dX1_isTaken_94 hk53 ?_
  refine g_aload_n hw 0 dX1_isTaken_97 rfl ?_
  obtain ⟨a54, e55, h⟩ := h
  refine gfX1_27 (q := some a54) hw rfl dX1_isTaken_98 hk50 e55 ?_
  refine g_aload_n hw 3 dX1_isTaken_101 rfl ?_
  refine gfX1_124 hw rfl dX1_isTaken_102 hk53 ?_
  obtain ⟨hk56, h⟩ := h
  obtain ⟨hi57, h⟩ := h
  obtain ⟨a58, e59, h⟩ := h
  refine g_aaldS (n := (gI (gsI M46 a43 5 r47) l3_28 0).toNatClampNeg) hw 8 dX1_isTaken_105 ⟨rfl, rfl⟩ hk56 hi57 rfl e59 ?_
  refine g_aload_n hw 1 dX1_isTaken_106 rfl ?_
  obtain ⟨hk60, h⟩ := h
  refine gfX1_339 hw rfl dX1_isTaken_107 hk60 ?_
  obtain ⟨hk61, h⟩ := h
  obtain ⟨hi62, h⟩ := h
  refine g_iald (n := (gI (gsI M46 a43 5 r47) l1_26 2).toNatClampNeg) hw dX1_isTaken_110 hk61 hi62 rfl ?_
  refine g_icmp_ge (tgt := 118) hw dX1_isTaken_111 (by decide) (fun hb63 => ?_) (fun hb63 => ?_)
  · have h := gT h hb63
    refine g_iconst (v := 0) hw dX1_isTaken_118 (by decide) ?_
    exact wX1_isTaken_b119 hw hkf h
  · have h := gF h hb63
    refine g_iconst (v := 1) hw dX1_isTaken_114 (by decide) ?_
    refine g_goto (tgt := 119) hw dX1_isTaken_115 (by decide) ?_
    exact wX1_isTaken_b119 hw hkf h
def fX1_isTaken (p1 : Nat) (p2 : Int32) (M : gM) (Q : Int32 → gM → Prop) : Prop :=
  gk M p1 = 6 ∧ (if (gR M p1 0) = none then Q 1 M else gk M 16 = 1 ∧ gdr (gR M 16 0) (fun a4 => gk M a4 = 44 ∧ vp_in p2 (gl M a4) ∧ gdr (gR M a4 p2.toNatClampNeg) (fun a8 => gdr (gR M 16 18) (fun a10 => gk M a8 = 4 ∧ gk M a10 = 40 ∧ vp_in 0 (gl M a10) ∧ gdr (gR (gsI M a10 0 (gI M a8 0)) 16 18) (fun a15 => gk (gsI M a10 0 (gI M a8 0)) a15 = 40 ∧ vp_in 1 (gl (gsI M a10 0 (gI M a8 0)) a15) ∧ gdr (gR (gsI (gsI M a10 0 (gI M a8 0)) a15 1 (gI (gsI M a10 0 (gI M a8 0)) a8 1)) 16 18) (fun a19 => gk (gsI (gsI M a10 0 (gI M a8 0)) a15 1 (gI (gsI M a10 0 (gI M a8 0)) a8 1)) a19 = 40 ∧ vp_in 2 (gl (gsI (gsI M a10 0 (gI M a8 0)) a15 1 (gI (gsI M a10 0 (gI M a8 0)) a8 1)) a19) ∧ gdr (gR (gsI (gsI (gsI M a10 0 (gI M a8 0)) a15 1 (gI (gsI M a10 0 (gI M a8 0)) a8 1)) a19 2 (gI (gsI (gsI M a10 0 (gI M a8 0)) a15 1 (gI (gsI M a10 0 (gI M a8 0)) a8 1)) a8 2)) 16 18) (fun a23 => (if (gI (gsI (gsI (gsI M a10 0 (gI M a8 0)) a15 1 (gI (gsI M a10 0 (gI M a8 0)) a8 1)) a19 2 (gI (gsI (gsI M a10 0 (gI M a8 0)) a15 1 (gI (gsI M a10 0 (gI M a8 0)) a8 1)) a8 2)) a8 4) = 0 then fX1_isTaken_b63 p1 p2 a8 a23 3 0 (gsI (gsI (gsI M a10 0 (gI M a8 0)) a15 1 (gI (gsI M a10 0 (gI M a8 0)) a8 1)) a19 2 (gI (gsI (gsI M a10 0 (gI M a8 0)) a15 1 (gI (gsI M a10 0 (gI M a8 0)) a8 1)) a8 2)) Q else fX1_isTaken_b63 p1 p2 a8 a23 3 1 (gsI (gsI (gsI M a10 0 (gI M a8 0)) a15 1 (gI (gsI M a10 0 (gI M a8 0)) a8 1)) a19 2 (gI (gsI (gsI M a10 0 (gI M a8 0)) a15 1 (gI (gsI M a10 0 (gI M a8 0)) a8 1)) a8 2)) Q))))))))
theorem mX1_isTaken {kf : Nat} (hkf : 1012 ≤ kf) (G : gG) (p1 : Nat) (p2 : Int32) (M : gM) (Q : Int32 → gM → Prop) (h : fX1_isTaken p1 p2 M Q) : gMet yX1_isTaken cX1_isTaken 4 (Option.some FieldType.boolean) kf G M [.ref (gA G 16), .ref (gA G p1), .int p2] (gQi Q) gE0 := by
  refine g_intro (lv := [(0, .ref (gA G 16)), (1, .ref (gA G p1)), (2, .int p2)]) (by decide) rfl rfl (fun w hw => ?_)
  unfold fX1_isTaken at h
  refine g_aload_n hw 1 dX1_isTaken_0 rfl ?_
  obtain ⟨hk1, h⟩ := h
  refine gfX1_332 hw rfl dX1_isTaken_1 hk1 rfl ?_
  refine g_ifnonnullM (tgt := 9) hw dX1_isTaken_4 (by decide) (fun hb2 => ?_) (fun hb2 => ?_)
  · have h := gF h hb2
    refine g_aload_n hw 0 dX1_isTaken_9 rfl ?_
    obtain ⟨hk3, h⟩ := h
    obtain ⟨a4, e5, h⟩ := h
    refine gfX1_21 (q := some a4) hw rfl dX1_isTaken_10 hk3 e5 ?_
    refine g_iload_n hw 2 dX1_isTaken_13 rfl ?_
    obtain ⟨hk6, h⟩ := h
    obtain ⟨hi7, h⟩ := h
    obtain ⟨a8, e9, h⟩ := h
    refine g_aaldS (n := p2.toNatClampNeg) hw 4 dX1_isTaken_14 ⟨rfl, rfl⟩ hk6 hi7 rfl e9 ?_
    refine g_astore_n hw (lv2 := [(0, .ref (gA G 16)), (1, .ref (gA G p1)), (2, .int p2), (3, .ref (gA G a8))]) [1, 2, 3, 0] dX1_isTaken_15 rfl rfl ?_
    refine g_aload_n hw 0 dX1_isTaken_16 rfl ?_
    obtain ⟨a10, e11, h⟩ := h
    refine gfX1_83 (q := some a10) hw rfl dX1_isTaken_17 hk3 e11 ?_
    refine g_iconst (v := 0) hw dX1_isTaken_20 (by decide) ?_
    refine g_aload_n hw 3 dX1_isTaken_21 rfl ?_
    obtain ⟨hk12, h⟩ := h
    refine gfX1_124 hw rfl dX1_isTaken_22 hk12 ?_
    obtain ⟨hk13, h⟩ := h
    obtain ⟨hi14, h⟩ := h
    refine g_iast (n := 0) hw dX1_isTaken_25 hk13 hi14 rfl ?_
    refine g_aload_n hw 0 dX1_isTaken_26 rfl ?_
    obtain ⟨a15, e16, h⟩ := h
    refine gfX1_83 (q := some a15) hw rfl dX1_isTaken_27 hk3 e16 ?_
    refine g_iconst (v := 1) hw dX1_isTaken_30 (by decide) ?_
    refine g_aload_n hw 3 dX1_isTaken_31 rfl ?_
    refine gfX1_127 hw rfl dX1_isTaken_32 hk12 ?_
    obtain ⟨hk17, h⟩ := h
    obtain ⟨hi18, h⟩ := h
    refine g_iast (n := 1) hw dX1_isTaken_35 hk17 hi18 rfl ?_
    refine g_aload_n hw 0 dX1_isTaken_36 rfl ?_
    obtain ⟨a19, e20, h⟩ := h
    refine gfX1_83 (q := some a19) hw rfl dX1_isTaken_37 hk3 e20 ?_
    refine g_iconst (v := 2) hw dX1_isTaken_40 (by decide) ?_
    refine g_aload_n hw 3 dX1_isTaken_41 rfl ?_
    refine gfX1_130 hw rfl dX1_isTaken_42 hk12 ?_
    obtain ⟨hk21, h⟩ := h
    obtain ⟨hi22, h⟩ := h
    refine g_iast (n := 2) hw dX1_isTaken_45 hk21 hi22 rfl ?_
    refine g_aload_n hw 0 dX1_isTaken_46 rfl ?_
    obtain ⟨a23, e24, h⟩ := h
    refine gfX1_83 (q := some a23) hw rfl dX1_isTaken_47 hk3 e24 ?_
    refine g_iconst (v := 3) hw dX1_isTaken_50 (by decide) ?_
    refine g_aload_n hw 3 dX1_isTaken_51 rfl ?_
    refine gfX1_133 hw rfl dX1_isTaken_52 hk12 ?_
    refine g_if_eq (tgt := 62) hw dX1_isTaken_55 (by decide) (fun hb25 => ?_) (fun hb25 => ?_)
    · have h := gT h hb25
      refine g_iconst (v := 0) hw dX1_isTaken_62 (by decide) ?_
      exact wX1_isTaken_b63 hw hkf h
    · have h := gF h hb25
      refine g_iconst (v := 1) hw dX1_isTaken_58 (by decide) ?_
      refine g_goto (tgt := 63) hw dX1_isTaken_59 (by decide) ?_
      exact wX1_isTaken_b63 hw hkf h
  · have h := gT h hb2
    refine g_iconst (v := 1) hw dX1_isTaken_7 (by decide) ?_
    exact g_iret hw dX1_isTaken_8 (by decide +kernel) ⟨_, rfl, h⟩
theorem gfX1_345 {y0 : MethodName} {cc : ByteArray} {nL : Nat} {ret : Option FieldType} {hh : List (Nat × Nat × Nat × Nat)} {kf : Nat} {G : gG} {Qv : Option Value → gM → Prop} {E : String → Nat → gM → Prop} {w : gM → Nat → List (Nat × Value) → List Value → Prop} {M : gM} {pc : Nat} {lv : List (Nat × Value)} {rest : List Value} (hw : gX y0 cc nL ret hh kf G Qv E w) (hy : y0.cls = RX1) {c : Nat} (d : decode cc pc = .ok (.getfield 345, 3)) (hk : gk M c = 6) (kk : w M (pc + 3) lv (.int (gI M c 3) :: rest)) : w M pc lv (.ref (gA G c) :: rest) := by
  obtain ⟨cls9, nm9, ds9⟩ := y0
  subst hy
  exact g_getC (C := RX6) (T := TX6) (N := 4) (ci := 5) hw in_X6 rfl 3 (by decide) (Or.inr ⟨_, q262⟩) rfl d hk kk
theorem sX1_346 {y0 : MethodName} {cc : ByteArray} {nL : Nat} {ret : Option FieldType} {hh : List (Nat × Nat × Nat × Nat)} {kf : Nat} {G : gG} {Qv : Option Value → gM → Prop} {E : String → Nat → gM → Prop} {w : gM → Nat → List (Nat × Value) → List Value → Prop} {M : gM} {pc : Nat} {lv : List (Nat × Value)} {rest : List Value} (hw : gX y0 cc nL ret hh kf G Qv E w) (hy : y0.cls = RX1) {p1 : Nat} {p2 : Int32} {Q : Int32 → gM → Prop} (d : decode cc pc = .ok (.invokevirtual 346, 3)) (hrest : Nat.ble ((rest.map Value.category).sum) 8 = true) (hk : 1012 + 1 ≤ kf) (hkd : gk M 16 = 1) (h : fX1_isTaken p1 p2 M Q) (kk : ∀ r M1, Q r M1 → w M1 (pc + 3) lv (.int r :: rest)) : w M pc lv (.int p2 :: .ref (gA G p1) :: .ref (gA G 16) :: rest) := by
  obtain ⟨cls9, nm9, ds9⟩ := y0
  subst hy
  exact g_callV (r := (RX1, TX1, 28)) (ci := 0) hw [.ref (gA G p1), .int p2] (nA := 2) rfl d q894 q896 qs34 q98 q897 (by decide +kernel) rfl rfl hrest rfl (by omega : kf - 1 + 1 ≤ kf) hkd (mX1_isTaken (kf := kf - 1) (by omega) G p1 p2 M Q h) (fun _ _ _ q => q.elim) (fun v M1 h => by obtain ⟨r, rfl, h⟩ := h; exact kk r M1 h)
theorem gfX1_56 {y0 : MethodName} {cc : ByteArray} {nL : Nat} {ret : Option FieldType} {hh : List (Nat × Nat × Nat × Nat)} {kf : Nat} {G : gG} {Qv : Option Value → gM → Prop} {E : String → Nat → gM → Prop} {w : gM → Nat → List (Nat × Value) → List Value → Prop} {M : gM} {pc : Nat} {lv : List (Nat × Value)} {rest : List Value} (hw : gX y0 cc nL ret hh kf G Qv E w) (hy : y0.cls = RX1) {c : Nat} (d : decode cc pc = .ok (.getfield 56, 3)) (hk : gk M c = 1) (kk : w M (pc + 3) lv (.int (gI M c 8) :: rest)) : w M pc lv (.ref (gA G c) :: rest) := by
  obtain ⟨cls9, nm9, ds9⟩ := y0
  subst hy
  exact g_getC (C := RX1) (T := TX1) (N := 28) (ci := 0) hw in_X1 rfl 8 (by decide) (Or.inl q280) rfl d hk kk
def fX1_takes_b49 (l1_24 : Int32) (l2_25 : Int32) (s1_26 : Int32) (M : gM) (Q : Int32 → gM → Prop) : Prop :=
  gk M 16 = 1 ∧ gdr (gR (gsI M 16 9 s1_26) 16 6) (fun a28 => gk (gsI M 16 9 s1_26) a28 = 46 ∧ vp_in l1_24 (gl (gsI M 16 9 s1_26) a28) ∧ gdr (gR (gsI M 16 9 s1_26) a28 l1_24.toNatClampNeg) (fun a32 => fX1_isTaken a32 l2_25 (gsI M 16 9 s1_26) (fun r35 M34 => gk M34 16 = 1 ∧ (if r35 = 0 then Q 0 (gsI M34 16 9 (gI M34 16 8)) else Q 1 (gsI M34 16 9 (gI M34 16 8))))))
theorem wX1_takes_b49 {kf : Nat} {G : gG} {w : gM → Nat → List (Nat × Value) → List Value → Prop} {Q : Int32 → gM → Prop} (hw : gX yX1_takes cX1_takes 4 (Option.some FieldType.int) [] kf G (gQi Q) gE0 w) (hkf : 1013 ≤ kf)  {l1_24 : Int32} {l2_25 : Int32} {s1_26 : Int32} {M : gM}  (h : fX1_takes_b49 l1_24 l2_25 s1_26 M Q) : w M 49 [(0, .ref (gA G 16)), (1, .int l1_24), (2, .int l2_25)] [.int s1_26, .ref (gA G 16)] := by
  unfold fX1_takes_b49 at h
  obtain ⟨hk27, h⟩ := h
  refine pfX1_60 hw rfl dX1_takes_49 hk27 ?_
  refine g_aload_n hw 0 dX1_takes_52 rfl ?_
  refine g_aload_n hw 0 dX1_takes_53 rfl ?_
  obtain ⟨a28, e29, h⟩ := h
  refine gfX1_52 (q := some a28) hw rfl dX1_takes_54 hk27 e29 ?_
  refine g_iload_n hw 1 dX1_takes_57 rfl ?_
  obtain ⟨hk30, h⟩ := h
  obtain ⟨hi31, h⟩ := h
  obtain ⟨a32, e33, h⟩ := h
  refine g_aaldS (n := l1_24.toNatClampNeg) hw 6 dX1_takes_58 ⟨rfl, rfl⟩ hk30 hi31 rfl e33 ?_
  refine g_iload_n hw 2 dX1_takes_59 rfl ?_
  refine sX1_346 hw rfl dX1_takes_60 rfl (gK2 hkf) hk27 h (fun r35 M34 h => ?_)
  refine g_istore_n hw (lv2 := [(0, .ref (gA G 16)), (3, .int r35)]) [1, 0] dX1_takes_63 rfl rfl ?_
  refine g_aload_n hw 0 dX1_takes_64 rfl ?_
  refine g_aload_n hw 0 dX1_takes_65 rfl ?_
  obtain ⟨hk36, h⟩ := h
  refine gfX1_56 hw rfl dX1_takes_66 hk36 ?_
  refine pfX1_60 hw rfl dX1_takes_69 hk36 ?_
  refine g_iload_n hw 1 dX1_takes_72 rfl ?_
  refine g_if_eq (tgt := 80) hw dX1_takes_73 (by decide) (fun hb37 => ?_) (fun hb37 => ?_)
  · have h := gT h hb37
    refine g_iconst (v := 0) hw dX1_takes_80 (by decide) ?_
    exact g_iret hw dX1_takes_81 rfl ⟨_, rfl, h⟩
  · have h := gF h hb37
    refine g_iconst (v := 1) hw dX1_takes_76 (by decide) ?_
    refine g_goto (tgt := 81) hw dX1_takes_77 (by decide) ?_
    exact g_iret hw dX1_takes_81 rfl ⟨_, rfl, h⟩
def fX1_takes (p1 : Int32) (p2 : Int32) (M : gM) (Q : Int32 → gM → Prop) : Prop :=
  fX1_in p1 0 3 M (fun r2 M1 => (if r2 = 0 then Q (-1) M1 else gk M1 16 = 1 ∧ fX1_isKitchen p2 M1 (fun r6 M5 => (if r6 = 0 then Q (-1) M5 else gk M5 16 = 1 ∧ gdr (gR M5 16 6) (fun a9 => gk M5 a9 = 46 ∧ vp_in p1 (gl M5 a9) ∧ gdr (gR M5 a9 p1.toNatClampNeg) (fun a13 => gk M5 a13 = 6 ∧ (if (gI M5 a13 3) = (-1) then fX1_takes_b49 p1 p2 (gI M5 16 8) M5 Q else gdr (gR M5 16 6) (fun a17 => gk M5 a17 = 46 ∧ vp_in p1 (gl M5 a17) ∧ gdr (gR M5 a17 p1.toNatClampNeg) (fun a21 => gk M5 a21 = 6 ∧ fX1_takes_b49 p1 p2 (gI M5 a21 3) M5 Q)))))))))
theorem mX1_takes {kf : Nat} (hkf : 1013 ≤ kf) (G : gG) (p1 : Int32) (p2 : Int32) (M : gM) (Q : Int32 → gM → Prop) (h : fX1_takes p1 p2 M Q) : gMet yX1_takes cX1_takes 4 (Option.some FieldType.int) kf G M [.ref (gA G 16), .int p1, .int p2] (gQi Q) gE0 := by
  refine g_intro (lv := [(0, .ref (gA G 16)), (1, .int p1), (2, .int p2)]) (by decide) rfl rfl (fun w hw => ?_)
  unfold fX1_takes at h
  refine g_iload_n hw 1 dX1_takes_0 rfl ?_
  refine g_iconst (v := 0) hw dX1_takes_1 (by decide) ?_
  refine g_iconst (v := 3) hw dX1_takes_2 (by decide) ?_
  refine sX1_112 hw rfl dX1_takes_3 rfl (gK2 hkf) h (fun r2 M1 h => ?_)
  refine g_if_eq (tgt := 17) hw dX1_takes_6 (by decide) (fun hb3 => ?_) (fun hb3 => ?_)
  · have h := gT h hb3
    refine g_iconst (v := (-1)) hw dX1_takes_17 (by decide) ?_
    exact g_iret hw dX1_takes_18 rfl ⟨_, rfl, h⟩
  · have h := gF h hb3
    refine g_aload_n hw 0 dX1_takes_9 rfl ?_
    refine g_iload_n hw 2 dX1_takes_10 rfl ?_
    obtain ⟨hk4, h⟩ := h
    refine sX1_136 hw rfl dX1_takes_11 rfl (gK2 hkf) hk4 h (fun r6 M5 h => ?_)
    refine g_if_ne (tgt := 19) hw dX1_takes_14 (by decide) (fun hb7 => ?_) (fun hb7 => ?_)
    · have h := gF h hb7
      refine g_aload_n hw 0 dX1_takes_19 rfl ?_
      refine g_aload_n hw 0 dX1_takes_20 rfl ?_
      obtain ⟨hk8, h⟩ := h
      obtain ⟨a9, e10, h⟩ := h
      refine gfX1_52 (q := some a9) hw rfl dX1_takes_21 hk8 e10 ?_
      refine g_iload_n hw 1 dX1_takes_24 rfl ?_
      obtain ⟨hk11, h⟩ := h
      obtain ⟨hi12, h⟩ := h
      obtain ⟨a13, e14, h⟩ := h
      refine g_aaldS (n := p1.toNatClampNeg) hw 6 dX1_takes_25 ⟨rfl, rfl⟩ hk11 hi12 rfl e14 ?_
      obtain ⟨hk15, h⟩ := h
      refine gfX1_345 hw rfl dX1_takes_26 hk15 ?_
      refine g_iconst (v := (-1)) hw dX1_takes_29 (by decide) ?_
      refine g_icmp_ne (tgt := 40) hw dX1_takes_30 (by decide) (fun hb16 => ?_) (fun hb16 => ?_)
      · have h := gF h hb16
        refine g_aload_n hw 0 dX1_takes_40 rfl ?_
        obtain ⟨a17, e18, h⟩ := h
        refine gfX1_52 (q := some a17) hw rfl dX1_takes_41 hk8 e18 ?_
        refine g_iload_n hw 1 dX1_takes_44 rfl ?_
        obtain ⟨hk19, h⟩ := h
        obtain ⟨hi20, h⟩ := h
        obtain ⟨a21, e22, h⟩ := h
        refine g_aaldS (n := p1.toNatClampNeg) hw 6 dX1_takes_45 ⟨rfl, rfl⟩ hk19 hi20 rfl e22 ?_
        obtain ⟨hk23, h⟩ := h
        refine gfX1_345 hw rfl dX1_takes_46 hk23 ?_
        exact wX1_takes_b49 hw hkf h
      · have h := gT h hb16
        refine g_aload_n hw 0 dX1_takes_33 rfl ?_
        refine gfX1_56 hw rfl dX1_takes_34 hk8 ?_
        refine g_goto (tgt := 49) hw dX1_takes_37 (by decide) ?_
        exact wX1_takes_b49 hw hkf h
    · have h := gT h hb7
      refine g_iconst (v := (-1)) hw dX1_takes_17 (by decide) ?_
      exact g_iret hw dX1_takes_18 rfl ⟨_, rfl, h⟩
theorem gfX1_354 {y0 : MethodName} {cc : ByteArray} {nL : Nat} {ret : Option FieldType} {hh : List (Nat × Nat × Nat × Nat)} {kf : Nat} {G : gG} {Qv : Option Value → gM → Prop} {E : String → Nat → gM → Prop} {w : gM → Nat → List (Nat × Value) → List Value → Prop} {M : gM} {pc : Nat} {lv : List (Nat × Value)} {rest : List Value} (hw : gX y0 cc nL ret hh kf G Qv E w) (hy : y0.cls = RX1) {c : Nat} {q : Option Nat} (d : decode cc pc = .ok (.getfield 354, 3)) (hk : gk M c = 4) (hq : gR M c 9 = q) (kk : w M (pc + 3) lv (va_rf (q.map (gA G)) :: rest)) : w M pc lv (.ref (gA G c) :: rest) := by
  obtain ⟨cls9, nm9, ds9⟩ := y0
  subst hy
  subst hq
  exact g_getC (C := RX4) (T := TX4) (N := 11) (ci := 3) hw in_X4 rfl 9 (by decide) (Or.inr ⟨_, q208⟩) rfl d hk kk
theorem gfX1_357 {y0 : MethodName} {cc : ByteArray} {nL : Nat} {ret : Option FieldType} {hh : List (Nat × Nat × Nat × Nat)} {kf : Nat} {G : gG} {Qv : Option Value → gM → Prop} {E : String → Nat → gM → Prop} {w : gM → Nat → List (Nat × Value) → List Value → Prop} {M : gM} {pc : Nat} {lv : List (Nat × Value)} {rest : List Value} (hw : gX y0 cc nL ret hh kf G Qv E w) (hy : y0.cls = RX1) {c : Nat} {q : Option Nat} (d : decode cc pc = .ok (.getfield 357, 3)) (hk : gk M c = 4) (hq : gR M c 10 = q) (kk : w M (pc + 3) lv (va_rf (q.map (gA G)) :: rest)) : w M pc lv (.ref (gA G c) :: rest) := by
  obtain ⟨cls9, nm9, ds9⟩ := y0
  subst hy
  subst hq
  exact g_getC (C := RX4) (T := TX4) (N := 11) (ci := 3) hw in_X4 rfl 10 (by decide) (Or.inr ⟨_, q210⟩) rfl d hk kk
def fX1_book (p1 : Int32) (p2 : Int32) (p3 : Int32) (p4 : Int32) (M : gM) (Q : Int32 → gM → Prop) : Prop :=
  gk M 16 = 1 ∧ fX1_isKitchen p1 M (fun r3 M2 => (if r3 = 0 then Q 0 M2 else fX1_isMonth p2 M2 (fun r6 M5 => (if r6 = 0 then Q 0 M5 else fX1_in p3 0 999 M5 (fun r9 M8 => (if r9 = 0 then Q 0 M8 else fX1_in p4 0 99999 M8 (fun r12 M11 => (if r12 = 0 then Q 0 M11 else gk M11 16 = 1 ∧ gdr (gR M11 16 0) (fun a15 => gk M11 a15 = 44 ∧ vp_in p1 (gl M11 a15) ∧ gdr (gR M11 a15 p1.toNatClampNeg) (fun a19 => gk M11 a19 = 4 ∧ gdr (gR M11 a19 9) (fun a22 => gk M11 a22 = 40 ∧ vp_in p2 (gl M11 a22) ∧ gdr (gR (gsI M11 a22 p2.toNatClampNeg p3) 16 0) (fun a26 => gk (gsI M11 a22 p2.toNatClampNeg p3) a26 = 44 ∧ vp_in p1 (gl (gsI M11 a22 p2.toNatClampNeg p3) a26) ∧ gdr (gR (gsI M11 a22 p2.toNatClampNeg p3) a26 p1.toNatClampNeg) (fun a30 => gk (gsI M11 a22 p2.toNatClampNeg p3) a30 = 4 ∧ gdr (gR (gsI M11 a22 p2.toNatClampNeg p3) a30 10) (fun a33 => gk (gsI M11 a22 p2.toNatClampNeg p3) a33 = 40 ∧ vp_in p2 (gl (gsI M11 a22 p2.toNatClampNeg p3) a33) ∧ Q 1 (gsI (gsI M11 a22 p2.toNatClampNeg p3) a33 p2.toNatClampNeg p4)))))))))))))))
theorem mX1_book {kf : Nat} (hkf : 3 ≤ kf) (G : gG) (p1 : Int32) (p2 : Int32) (p3 : Int32) (p4 : Int32) (M : gM) (Q : Int32 → gM → Prop) (h : fX1_book p1 p2 p3 p4 M Q) : gMet yX1_book cX1_book 5 (Option.some FieldType.boolean) kf G M [.ref (gA G 16), .int p1, .int p2, .int p3, .int p4] (gQi Q) gE0 := by
  refine g_intro (lv := [(0, .ref (gA G 16)), (1, .int p1), (2, .int p2), (3, .int p3), (4, .int p4)]) (by decide) rfl rfl (fun w hw => ?_)
  unfold fX1_book at h
  refine g_aload_n hw 0 dX1_book_0 rfl ?_
  refine g_iload_n hw 1 dX1_book_1 rfl ?_
  obtain ⟨hk1, h⟩ := h
  refine sX1_136 hw rfl dX1_book_2 rfl (gK2 hkf) hk1 h (fun r3 M2 h => ?_)
  refine g_if_eq (tgt := 38) hw dX1_book_5 (by decide) (fun hb4 => ?_) (fun hb4 => ?_)
  · have h := gT h hb4
    refine g_iconst (v := 0) hw dX1_book_38 (by decide) ?_
    exact g_iret hw dX1_book_39 (by decide +kernel) ⟨_, rfl, h⟩
  · have h := gF h hb4
    refine g_iload_n hw 2 dX1_book_8 rfl ?_
    refine sX1_120 hw rfl dX1_book_9 rfl (gK2 hkf) h (fun r6 M5 h => ?_)
    refine g_if_eq (tgt := 38) hw dX1_book_12 (by decide) (fun hb7 => ?_) (fun hb7 => ?_)
    · have h := gT h hb7
      refine g_iconst (v := 0) hw dX1_book_38 (by decide) ?_
      exact g_iret hw dX1_book_39 (by decide +kernel) ⟨_, rfl, h⟩
    · have h := gF h hb7
      refine g_iload_n hw 3 dX1_book_15 rfl ?_
      refine g_iconst (v := 0) hw dX1_book_16 (by decide) ?_
      refine g_sipush (v := 999) hw dX1_book_17 (by decide) ?_
      refine sX1_112 hw rfl dX1_book_20 rfl (gK2 hkf) h (fun r9 M8 h => ?_)
      refine g_if_eq (tgt := 38) hw dX1_book_23 (by decide) (fun hb10 => ?_) (fun hb10 => ?_)
      · have h := gT h hb10
        refine g_iconst (v := 0) hw dX1_book_38 (by decide) ?_
        exact g_iret hw dX1_book_39 (by decide +kernel) ⟨_, rfl, h⟩
      · have h := gF h hb10
        refine g_iload hw 4 dX1_book_26 rfl ?_
        refine g_iconst (v := 0) hw dX1_book_28 (by decide) ?_
        refine g_ldcw hw dX1_book_29 q906 ?_
        refine sX1_112 hw rfl dX1_book_32 rfl (gK2 hkf) h (fun r12 M11 h => ?_)
        refine g_if_ne (tgt := 40) hw dX1_book_35 (by decide) (fun hb13 => ?_) (fun hb13 => ?_)
        · have h := gF h hb13
          refine g_aload_n hw 0 dX1_book_40 rfl ?_
          obtain ⟨hk14, h⟩ := h
          obtain ⟨a15, e16, h⟩ := h
          refine gfX1_21 (q := some a15) hw rfl dX1_book_41 hk14 e16 ?_
          refine g_iload_n hw 1 dX1_book_44 rfl ?_
          obtain ⟨hk17, h⟩ := h
          obtain ⟨hi18, h⟩ := h
          obtain ⟨a19, e20, h⟩ := h
          refine g_aaldS (n := p1.toNatClampNeg) hw 4 dX1_book_45 ⟨rfl, rfl⟩ hk17 hi18 rfl e20 ?_
          obtain ⟨hk21, h⟩ := h
          obtain ⟨a22, e23, h⟩ := h
          refine gfX1_354 (q := some a22) hw rfl dX1_book_46 hk21 e23 ?_
          refine g_iload_n hw 2 dX1_book_49 rfl ?_
          refine g_iload_n hw 3 dX1_book_50 rfl ?_
          obtain ⟨hk24, h⟩ := h
          obtain ⟨hi25, h⟩ := h
          refine g_iast (n := p2.toNatClampNeg) hw dX1_book_51 hk24 hi25 rfl ?_
          refine g_aload_n hw 0 dX1_book_52 rfl ?_
          obtain ⟨a26, e27, h⟩ := h
          refine gfX1_21 (q := some a26) hw rfl dX1_book_53 hk14 e27 ?_
          refine g_iload_n hw 1 dX1_book_56 rfl ?_
          obtain ⟨hk28, h⟩ := h
          obtain ⟨hi29, h⟩ := h
          obtain ⟨a30, e31, h⟩ := h
          refine g_aaldS (n := p1.toNatClampNeg) hw 4 dX1_book_57 ⟨rfl, rfl⟩ hk28 hi29 rfl e31 ?_
          obtain ⟨hk32, h⟩ := h
          obtain ⟨a33, e34, h⟩ := h
          refine gfX1_357 (q := some a33) hw rfl dX1_book_58 hk32 e34 ?_
          refine g_iload_n hw 2 dX1_book_61 rfl ?_
          refine g_iload hw 4 dX1_book_62 rfl ?_
          obtain ⟨hk35, h⟩ := h
          obtain ⟨hi36, h⟩ := h
          refine g_iast (n := p2.toNatClampNeg) hw dX1_book_64 hk35 hi36 rfl ?_
          refine g_iconst (v := 1) hw dX1_book_65 (by decide) ?_
          exact g_iret hw dX1_book_66 (by decide +kernel) ⟨_, rfl, h⟩
        · have h := gT h hb13
          refine g_iconst (v := 0) hw dX1_book_38 (by decide) ?_
          exact g_iret hw dX1_book_39 (by decide +kernel) ⟨_, rfl, h⟩
def fX1_sorts_b117 (R6 : Int32 → Int32 → gM → Prop) (l1_1 : Int32) (l2_2 : Int32) (l3_3 : Int32) (l4_18 : Int32) (l5_19 : Int32) (M : gM) (Q : Int32 → gM → Prop) : Prop :=
  R6 l4_18 (l5_19 + 1) M
theorem wX1_sorts_b117 {kf : Nat} {G : gG} {w : gM → Nat → List (Nat × Value) → List Value → Prop} {Q : Int32 → gM → Prop} (hw : gX yX1_sorts cX1_sorts 8 (Option.some FieldType.int) [] kf G (gQi Q) gE0 w) (hkf : 4 ≤ kf) {R6 : Int32 → Int32 → gM → Prop} {l1_1 : Int32} {l2_2 : Int32} {l3_3 : Int32} {l4_18 : Int32} {l5_19 : Int32} {M : gM} (hR6 : ∀ (v0 : Int32) (v1 : Int32) (M : gM), R6 v0 v1 M → w M 6 [(0, .ref (gA G 16)), (1, .int l1_1), (2, .int l2_2), (3, .int l3_3), (4, .int v0), (5, .int v1)] []) (h : fX1_sorts_b117 R6 l1_1 l2_2 l3_3 l4_18 l5_19 M Q) : w M 117 [(0, .ref (gA G 16)), (1, .int l1_1), (2, .int l2_2), (3, .int l3_3), (4, .int l4_18), (5, .int l5_19)] [] := by
  unfold fX1_sorts_b117 at h
  refine g_iinc hw (lv2 := [(0, .ref (gA G 16)), (1, .int l1_1), (2, .int l2_2), (3, .int l3_3), (4, .int l4_18), (5, .int (l5_19 + 1))]) 5 [1, 2, 3, 4, 5, 0] dX1_sorts_117 rfl (by decide) rfl rfl ?_
  refine g_goto (tgt := 6) hw dX1_sorts_120 (by decide) ?_
  exact hR6 l4_18 (l5_19 + 1) M h
def fX1_sorts_L67s (R67 : Int32 → gM → Prop) (K108_67 : Int32 → gM → Prop) (l1_1 : Int32) (l2_2 : Int32) (l3_3 : Int32) (l4_37 : Int32) (l5_38 : Int32) (l6_39 : Int32) (l7_40 : Int32) (M : gM) (Q : Int32 → gM → Prop) : Prop :=
  (if l7_40 ≤ 0 then K108_67 l7_40 M else gk M 16 = 1 ∧ gdr (gR M 16 12) (fun a43 => gk M a43 = 40 ∧ vp_in (l7_40 - 1) (gl M a43) ∧ (if (gI M a43 ((l7_40 - 1).toNatClampNeg)) ≤ l6_39 then K108_67 l7_40 M else gdr (gR M 16 12) (fun a48 => gdr (gR M 16 12) (fun a50 => gk M a50 = 40 ∧ vp_in (l7_40 - 1) (gl M a50) ∧ gk M a48 = 40 ∧ vp_in l7_40 (gl M a48) ∧ R67 (l7_40 + (-1)) (gsI M a48 l7_40.toNatClampNeg (gI M a50 ((l7_40 - 1).toNatClampNeg))))))))
def fX1_sorts_L67 (K108_67 : Int32 → gM → Prop) (l1_1 : Int32) (l2_2 : Int32) (l3_3 : Int32) (l4_37 : Int32) (l5_38 : Int32) (l6_39 : Int32) (Q : Int32 → gM → Prop) : Nat → Int32 → gM → Prop
  | 0 => fun _ _ => False
  | n + 1 => fun l7_40 M => fX1_sorts_L67s (fX1_sorts_L67 K108_67 l1_1 l2_2 l3_3 l4_37 l5_38 l6_39 Q n) K108_67 l1_1 l2_2 l3_3 l4_37 l5_38 l6_39 l7_40 M Q
theorem wX1_sorts_L67s {kf : Nat} {G : gG} {w : gM → Nat → List (Nat × Value) → List Value → Prop} {Q : Int32 → gM → Prop} (hw : gX yX1_sorts cX1_sorts 8 (Option.some FieldType.int) [] kf G (gQi Q) gE0 w) (hkf : 4 ≤ kf) {R67 : Int32 → gM → Prop} {K108_67 : Int32 → gM → Prop} {l1_1 : Int32} {l2_2 : Int32} {l3_3 : Int32} {l4_37 : Int32} {l5_38 : Int32} {l6_39 : Int32} {l7_40 : Int32} {M : gM} (hR67 : ∀ (v0 : Int32) (M : gM), R67 v0 M → w M 67 [(0, .ref (gA G 16)), (1, .int l1_1), (2, .int l2_2), (3, .int l3_3), (4, .int l4_37), (5, .int l5_38), (6, .int l6_39), (7, .int v0)] []) (hK108_67 : ∀ (v0 : Int32) (M : gM), K108_67 v0 M → w M 108 [(0, .ref (gA G 16)), (1, .int l1_1), (2, .int l2_2), (3, .int l3_3), (4, .int l4_37), (5, .int l5_38), (6, .int l6_39), (7, .int v0)] []) (h : fX1_sorts_L67s R67 K108_67 l1_1 l2_2 l3_3 l4_37 l5_38 l6_39 l7_40 M Q) : w M 67 [(0, .ref (gA G 16)), (1, .int l1_1), (2, .int l2_2), (3, .int l3_3), (4, .int l4_37), (5, .int l5_38), (6, .int l6_39), (7, .int l7_40)] [] := by
  unfold fX1_sorts_L67s at h
  refine g_iload hw 7 dX1_sorts_67 rfl ?_
  refine g_if_le (tgt := 108) hw dX1_sorts_69 (by decide) (fun hb41 => ?_) (fun hb41 => ?_)
  · have h := gT h hb41
    exact hK108_67 l7_40 M h
  · have h := gF h hb41
    refine g_aload_n hw 0 dX1_sorts_72 rfl ?_
    obtain ⟨hk42, h⟩ := h
    obtain ⟨a43, e44, h⟩ := h
    refine gfX1_73 (q := some a43) hw rfl dX1_sorts_73 hk42 e44 ?_
    refine g_iload hw 7 dX1_sorts_76 rfl ?_
    refine g_iconst (v := 1) hw dX1_sorts_78 (by decide) ?_
    refine g_isub hw dX1_sorts_79 ?_
    obtain ⟨hk45, h⟩ := h
    obtain ⟨hi46, h⟩ := h
    refine g_iald (n := (l7_40 - 1).toNatClampNeg) hw dX1_sorts_80 hk45 hi46 rfl ?_
    refine g_iload hw 6 dX1_sorts_81 rfl ?_
    refine g_icmp_le (tgt := 108) hw dX1_sorts_83 (by decide) (fun hb47 => ?_) (fun hb47 => ?_)
    · have h := gT h hb47
      exact hK108_67 l7_40 M h
    · have h := gF h hb47
      refine g_aload_n hw 0 dX1_sorts_86 rfl ?_
      obtain ⟨a48, e49, h⟩ := h
      refine gfX1_73 (q := some a48) hw rfl dX1_sorts_87 hk42 e49 ?_
      refine g_iload hw 7 dX1_sorts_90 rfl ?_
      refine g_aload_n hw 0 dX1_sorts_92 rfl ?_
      obtain ⟨a50, e51, h⟩ := h
      refine gfX1_73 (q := some a50) hw rfl dX1_sorts_93 hk42 e51 ?_
      refine g_iload hw 7 dX1_sorts_96 rfl ?_
      refine g_iconst (v := 1) hw dX1_sorts_98 (by decide) ?_
      refine g_isub hw dX1_sorts_99 ?_
      obtain ⟨hk52, h⟩ := h
      obtain ⟨hi53, h⟩ := h
      refine g_iald (n := (l7_40 - 1).toNatClampNeg) hw dX1_sorts_100 hk52 hi53 rfl ?_
      obtain ⟨hk54, h⟩ := h
      obtain ⟨hi55, h⟩ := h
      refine g_iast (n := l7_40.toNatClampNeg) hw dX1_sorts_101 hk54 hi55 rfl ?_
      refine g_iinc hw (lv2 := [(0, .ref (gA G 16)), (1, .int l1_1), (2, .int l2_2), (3, .int l3_3), (4, .int l4_37), (5, .int l5_38), (6, .int l6_39), (7, .int (l7_40 + (-1)))]) 7 [1, 2, 3, 4, 5, 6, 7, 0] dX1_sorts_102 rfl (by decide) rfl rfl ?_
      refine g_goto (tgt := 67) hw dX1_sorts_105 (by decide) ?_
      exact hR67 (l7_40 + (-1)) (gsI M a48 l7_40.toNatClampNeg (gI M a50 ((l7_40 - 1).toNatClampNeg))) h
theorem wX1_sorts_L67 {kf : Nat} {G : gG} {w : gM → Nat → List (Nat × Value) → List Value → Prop} {Q : Int32 → gM → Prop} (hw : gX yX1_sorts cX1_sorts 8 (Option.some FieldType.int) [] kf G (gQi Q) gE0 w) (hkf : 4 ≤ kf) {K108_67 : Int32 → gM → Prop} {l1_1 : Int32} {l2_2 : Int32} {l3_3 : Int32} {l4_37 : Int32} {l5_38 : Int32} {l6_39 : Int32} (hK108_67 : ∀ (v0 : Int32) (M : gM), K108_67 v0 M → w M 108 [(0, .ref (gA G 16)), (1, .int l1_1), (2, .int l2_2), (3, .int l3_3), (4, .int l4_37), (5, .int l5_38), (6, .int l6_39), (7, .int v0)] []) : ∀ (n : Nat) (l7_40 : Int32) (M : gM), fX1_sorts_L67 K108_67 l1_1 l2_2 l3_3 l4_37 l5_38 l6_39 Q n l7_40 M → w M 67 [(0, .ref (gA G 16)), (1, .int l1_1), (2, .int l2_2), (3, .int l3_3), (4, .int l4_37), (5, .int l5_38), (6, .int l6_39), (7, .int l7_40)] [] := by
  intro n
  induction n with
  | zero => intro l7_40 M h; exact h.elim
  | succ n ih => intro l7_40 M h; exact wX1_sorts_L67s hw hkf ih hK108_67 h
def fX1_sorts_b108 (R6 : Int32 → Int32 → gM → Prop) (l1_1 : Int32) (l2_2 : Int32) (l3_3 : Int32) (l4_58 : Int32) (l5_59 : Int32) (l6_60 : Int32) (l7_61 : Int32) (M : gM) (Q : Int32 → gM → Prop) : Prop :=
  gk M 16 = 1 ∧ gdr (gR M 16 12) (fun a63 => gk M a63 = 40 ∧ vp_in l7_61 (gl M a63) ∧ fX1_sorts_b117 R6 l1_1 l2_2 l3_3 l4_58 l5_59 (gsI M a63 l7_61.toNatClampNeg l6_60) Q)
theorem wX1_sorts_b108 {kf : Nat} {G : gG} {w : gM → Nat → List (Nat × Value) → List Value → Prop} {Q : Int32 → gM → Prop} (hw : gX yX1_sorts cX1_sorts 8 (Option.some FieldType.int) [] kf G (gQi Q) gE0 w) (hkf : 4 ≤ kf) {R6 : Int32 → Int32 → gM → Prop} {l1_1 : Int32} {l2_2 : Int32} {l3_3 : Int32} {l4_58 : Int32} {l5_59 : Int32} {l6_60 : Int32} {l7_61 : Int32} {M : gM} (hR6 : ∀ (v0 : Int32) (v1 : Int32) (M : gM), R6 v0 v1 M → w M 6 [(0, .ref (gA G 16)), (1, .int l1_1), (2, .int l2_2), (3, .int l3_3), (4, .int v0), (5, .int v1)] []) (h : fX1_sorts_b108 R6 l1_1 l2_2 l3_3 l4_58 l5_59 l6_60 l7_61 M Q) : w M 108 [(0, .ref (gA G 16)), (1, .int l1_1), (2, .int l2_2), (3, .int l3_3), (4, .int l4_58), (5, .int l5_59), (6, .int l6_60), (7, .int l7_61)] [] := by
  unfold fX1_sorts_b108 at h
  refine g_aload_n hw 0 dX1_sorts_108 rfl ?_
  obtain ⟨hk62, h⟩ := h
  obtain ⟨a63, e64, h⟩ := h
  refine gfX1_73 (q := some a63) hw rfl dX1_sorts_109 hk62 e64 ?_
  refine g_iload hw 7 dX1_sorts_112 rfl ?_
  refine g_iload hw 6 dX1_sorts_114 rfl ?_
  obtain ⟨hk65, h⟩ := h
  obtain ⟨hi66, h⟩ := h
  refine g_iast (n := l7_61.toNatClampNeg) hw dX1_sorts_116 hk65 hi66 rfl ?_
  refine g_sub hw (lv2 := [(0, .ref (gA G 16)), (1, .int l1_1), (2, .int l2_2), (3, .int l3_3), (4, .int l4_58), (5, .int l5_59)]) [0, 1, 2, 3, 4, 5] rfl ?_
  exact wX1_sorts_b117 hw hkf hR6 h
def fX1_sorts_L6s (R6 : Int32 → Int32 → gM → Prop) (K123_6 : Int32 → gM → Prop) (l1_1 : Int32) (l2_2 : Int32) (l3_3 : Int32) (l4_4 : Int32) (l5_5 : Int32) (M : gM) (Q : Int32 → gM → Prop) : Prop :=
  (if 24 ≤ l5_5 then K123_6 l4_4 M else gk M 16 = 1 ∧ gdr (gR M 16 0) (fun a8 => gk M a8 = 44 ∧ vp_in l5_5 (gl M a8) ∧ gdr (gR M a8 l5_5.toNatClampNeg) (fun a12 => gk M a12 = 4 ∧ fX4_isCounted a12 l2_2 l3_3 M (fun r16 M15 => (if r16 = 0 then fX1_sorts_b117 R6 l1_1 l2_2 l3_3 l4_4 l5_5 M15 Q else gk M15 16 = 1 ∧ gdr (gR M15 16 0) (fun a21 => gk M15 a21 = 44 ∧ vp_in l5_5 (gl M15 a21) ∧ gdr (gR M15 a21 l5_5.toNatClampNeg) (fun a25 => gk M15 a25 = 4 ∧ (if (gI M15 a25 0) = l1_1 then gdr (gR M15 16 0) (fun a29 => gk M15 a29 = 44 ∧ vp_in l5_5 (gl M15 a29) ∧ gdr (gR M15 a29 l5_5.toNatClampNeg) (fun a33 => fX1_change a33 l2_2 l3_3 M15 (fun r36 M35 => ∃ n, fX1_sorts_L67 (fun l7_56 M57 => fX1_sorts_b108 R6 l1_1 l2_2 l3_3 (l4_4 + 1) l5_5 r36 l7_56 M57 Q) l1_1 l2_2 l3_3 (l4_4 + 1) l5_5 r36 Q n l4_4 M35))) else fX1_sorts_b117 R6 l1_1 l2_2 l3_3 l4_4 l5_5 M15 Q))))))))
def fX1_sorts_L6 (K123_6 : Int32 → gM → Prop) (l1_1 : Int32) (l2_2 : Int32) (l3_3 : Int32) (Q : Int32 → gM → Prop) : Nat → Int32 → Int32 → gM → Prop
  | 0 => fun _ _ _ => False
  | n + 1 => fun l4_4 l5_5 M => fX1_sorts_L6s (fX1_sorts_L6 K123_6 l1_1 l2_2 l3_3 Q n) K123_6 l1_1 l2_2 l3_3 l4_4 l5_5 M Q
theorem wX1_sorts_L6s {kf : Nat} {G : gG} {w : gM → Nat → List (Nat × Value) → List Value → Prop} {Q : Int32 → gM → Prop} (hw : gX yX1_sorts cX1_sorts 8 (Option.some FieldType.int) [] kf G (gQi Q) gE0 w) (hkf : 4 ≤ kf) {R6 : Int32 → Int32 → gM → Prop} {K123_6 : Int32 → gM → Prop} {l1_1 : Int32} {l2_2 : Int32} {l3_3 : Int32} {l4_4 : Int32} {l5_5 : Int32} {M : gM} (hR6 : ∀ (v0 : Int32) (v1 : Int32) (M : gM), R6 v0 v1 M → w M 6 [(0, .ref (gA G 16)), (1, .int l1_1), (2, .int l2_2), (3, .int l3_3), (4, .int v0), (5, .int v1)] []) (hK123_6 : ∀ (v0 : Int32) (M : gM), K123_6 v0 M → w M 123 [(4, .int v0)] []) (h : fX1_sorts_L6s R6 K123_6 l1_1 l2_2 l3_3 l4_4 l5_5 M Q) : w M 6 [(0, .ref (gA G 16)), (1, .int l1_1), (2, .int l2_2), (3, .int l3_3), (4, .int l4_4), (5, .int l5_5)] [] := by
  unfold fX1_sorts_L6s at h
  refine g_iload hw 5 dX1_sorts_6 rfl ?_
  refine g_bipush (v := 24) hw dX1_sorts_8 (by decide) ?_
  refine g_icmp_ge (tgt := 123) hw dX1_sorts_10 (by decide) (fun hb6 => ?_) (fun hb6 => ?_)
  · have h := gT h hb6
    refine g_sub hw (lv2 := [(4, .int l4_4)]) [4] rfl ?_
    exact hK123_6 l4_4 M h
  · have h := gF h hb6
    refine g_aload_n hw 0 dX1_sorts_13 rfl ?_
    obtain ⟨hk7, h⟩ := h
    obtain ⟨a8, e9, h⟩ := h
    refine gfX1_21 (q := some a8) hw rfl dX1_sorts_14 hk7 e9 ?_
    refine g_iload hw 5 dX1_sorts_17 rfl ?_
    obtain ⟨hk10, h⟩ := h
    obtain ⟨hi11, h⟩ := h
    obtain ⟨a12, e13, h⟩ := h
    refine g_aaldS (n := l5_5.toNatClampNeg) hw 4 dX1_sorts_19 ⟨rfl, rfl⟩ hk10 hi11 rfl e13 ?_
    refine g_iload_n hw 2 dX1_sorts_20 rfl ?_
    refine g_iload_n hw 3 dX1_sorts_21 rfl ?_
    obtain ⟨hk14, h⟩ := h
    refine sX1_172 hw rfl dX1_sorts_22 rfl (gK2 hkf) hk14 h (fun r16 M15 h => ?_)
    refine g_if_eq (tgt := 117) hw dX1_sorts_25 (by decide) (fun hb17 => ?_) (fun hb17 => ?_)
    · have h := gT h hb17
      exact wX1_sorts_b117 hw hkf hR6 h
    · have h := gF h hb17
      refine g_aload_n hw 0 dX1_sorts_28 rfl ?_
      obtain ⟨hk20, h⟩ := h
      obtain ⟨a21, e22, h⟩ := h
      refine gfX1_21 (q := some a21) hw rfl dX1_sorts_29 hk20 e22 ?_
      refine g_iload hw 5 dX1_sorts_32 rfl ?_
      obtain ⟨hk23, h⟩ := h
      obtain ⟨hi24, h⟩ := h
      obtain ⟨a25, e26, h⟩ := h
      refine g_aaldS (n := l5_5.toNatClampNeg) hw 4 dX1_sorts_34 ⟨rfl, rfl⟩ hk23 hi24 rfl e26 ?_
      obtain ⟨hk27, h⟩ := h
      refine gfX1_124 hw rfl dX1_sorts_35 hk27 ?_
      refine g_iload_n hw 1 dX1_sorts_38 rfl ?_
      refine g_icmp_eq (tgt := 45) hw dX1_sorts_39 (by decide) (fun hb28 => ?_) (fun hb28 => ?_)
      · have h := gT h hb28
        refine g_aload_n hw 0 dX1_sorts_45 rfl ?_
        refine g_aload_n hw 0 dX1_sorts_46 rfl ?_
        obtain ⟨a29, e30, h⟩ := h
        refine gfX1_21 (q := some a29) hw rfl dX1_sorts_47 hk20 e30 ?_
        refine g_iload hw 5 dX1_sorts_50 rfl ?_
        obtain ⟨hk31, h⟩ := h
        obtain ⟨hi32, h⟩ := h
        obtain ⟨a33, e34, h⟩ := h
        refine g_aaldS (n := l5_5.toNatClampNeg) hw 4 dX1_sorts_52 ⟨rfl, rfl⟩ hk31 hi32 rfl e34 ?_
        refine g_iload_n hw 2 dX1_sorts_53 rfl ?_
        refine g_iload_n hw 3 dX1_sorts_54 rfl ?_
        refine sX1_175 hw rfl dX1_sorts_55 rfl (gK2 hkf) hk20 h (fun r36 M35 h => ?_)
        refine g_istore hw (lv2 := [(0, .ref (gA G 16)), (1, .int l1_1), (2, .int l2_2), (3, .int l3_3), (4, .int l4_4), (5, .int l5_5), (6, .int r36)]) [1, 2, 3, 4, 5, 6, 0] dX1_sorts_58 rfl rfl ?_
        refine g_iload hw 4 dX1_sorts_60 rfl ?_
        refine g_iinc hw (lv2 := [(0, .ref (gA G 16)), (1, .int l1_1), (2, .int l2_2), (3, .int l3_3), (4, .int (l4_4 + 1)), (5, .int l5_5), (6, .int r36)]) 4 [1, 2, 3, 4, 0, 5, 6] dX1_sorts_62 rfl (by decide) rfl rfl ?_
        refine g_istore hw (lv2 := [(0, .ref (gA G 16)), (1, .int l1_1), (2, .int l2_2), (3, .int l3_3), (4, .int (l4_4 + 1)), (5, .int l5_5), (6, .int r36), (7, .int l4_4)]) [1, 2, 3, 4, 5, 6, 7, 0] dX1_sorts_65 rfl rfl ?_
        obtain ⟨n9, h⟩ := h
        refine wX1_sorts_L67 hw hkf (fun l7_56 M57 h => ?_) n9 l4_4 M35 h
        exact wX1_sorts_b108 hw hkf hR6 h
      · have h := gF h hb28
        refine g_goto (tgt := 117) hw dX1_sorts_42 (by decide) ?_
        exact wX1_sorts_b117 hw hkf hR6 h
theorem wX1_sorts_L6 {kf : Nat} {G : gG} {w : gM → Nat → List (Nat × Value) → List Value → Prop} {Q : Int32 → gM → Prop} (hw : gX yX1_sorts cX1_sorts 8 (Option.some FieldType.int) [] kf G (gQi Q) gE0 w) (hkf : 4 ≤ kf) {K123_6 : Int32 → gM → Prop} {l1_1 : Int32} {l2_2 : Int32} {l3_3 : Int32} (hK123_6 : ∀ (v0 : Int32) (M : gM), K123_6 v0 M → w M 123 [(4, .int v0)] []) : ∀ (n : Nat) (l4_4 : Int32) (l5_5 : Int32) (M : gM), fX1_sorts_L6 K123_6 l1_1 l2_2 l3_3 Q n l4_4 l5_5 M → w M 6 [(0, .ref (gA G 16)), (1, .int l1_1), (2, .int l2_2), (3, .int l3_3), (4, .int l4_4), (5, .int l5_5)] [] := by
  intro n
  induction n with
  | zero => intro l4_4 l5_5 M h; exact h.elim
  | succ n ih => intro l4_4 l5_5 M h; exact wX1_sorts_L6s hw hkf ih hK123_6 h
def fX1_sorts (p1 : Int32) (p2 : Int32) (p3 : Int32) (M : gM) (Q : Int32 → gM → Prop) : Prop :=
  ∃ n, fX1_sorts_L6 (fun l4_67 M68 => Q l4_67 M68) p1 p2 p3 Q n 0 0 M
theorem mX1_sorts {kf : Nat} (hkf : 4 ≤ kf) (G : gG) (p1 : Int32) (p2 : Int32) (p3 : Int32) (M : gM) (Q : Int32 → gM → Prop) (h : fX1_sorts p1 p2 p3 M Q) : gMet yX1_sorts cX1_sorts 8 (Option.some FieldType.int) kf G M [.ref (gA G 16), .int p1, .int p2, .int p3] (gQi Q) gE0 := by
  refine g_intro (lv := [(0, .ref (gA G 16)), (1, .int p1), (2, .int p2), (3, .int p3)]) (by decide) rfl rfl (fun w hw => ?_)
  unfold fX1_sorts at h
  refine g_iconst (v := 0) hw dX1_sorts_0 (by decide) ?_
  refine g_istore hw (lv2 := [(0, .ref (gA G 16)), (1, .int p1), (2, .int p2), (3, .int p3), (4, .int 0)]) [1, 2, 3, 4, 0] dX1_sorts_1 rfl rfl ?_
  refine g_iconst (v := 0) hw dX1_sorts_3 (by decide) ?_
  refine g_istore hw (lv2 := [(0, .ref (gA G 16)), (1, .int p1), (2, .int p2), (3, .int p3), (4, .int 0), (5, .int 0)]) [1, 2, 3, 4, 5, 0] dX1_sorts_4 rfl rfl ?_
  obtain ⟨n9, h⟩ := h
  refine wX1_sorts_L6 hw hkf (fun l4_67 M68 h => ?_) n9 0 0 M h
  refine g_iload hw 0 dX1_sorts_123 rfl ?_
  exact g_iret hw dX1_sorts_125 rfl ⟨_, rfl, h⟩
theorem sX1_233 {y0 : MethodName} {cc : ByteArray} {nL : Nat} {ret : Option FieldType} {hh : List (Nat × Nat × Nat × Nat)} {kf : Nat} {G : gG} {Qv : Option Value → gM → Prop} {E : String → Nat → gM → Prop} {w : gM → Nat → List (Nat × Value) → List Value → Prop} {M : gM} {pc : Nat} {lv : List (Nat × Value)} {rest : List Value} (hw : gX y0 cc nL ret hh kf G Qv E w) (hy : y0.cls = RX1) {p1 : Int32} {p2 : Int32} {p3 : Int32} {Q : Int32 → gM → Prop} (d : decode cc pc = .ok (.invokevirtual 233, 3)) (hrest : Nat.ble ((rest.map Value.category).sum) 8 = true) (hk : 4 + 1 ≤ kf) (hkd : gk M 16 = 1) (h : fX1_sorts p1 p2 p3 M Q) (kk : ∀ r M1, Q r M1 → w M1 (pc + 3) lv (.int r :: rest)) : w M pc lv (.int p3 :: .int p2 :: .int p1 :: .ref (gA G 16) :: rest) := by
  obtain ⟨cls9, nm9, ds9⟩ := y0
  subst hy
  exact g_callV (r := (RX1, TX1, 28)) (ci := 0) hw [.int p1, .int p2, .int p3] (nA := 3) rfl d q915 q917 qs36 q98 q918 (by decide +kernel) rfl rfl hrest rfl (by omega : kf - 1 + 1 ≤ kf) hkd (mX1_sorts (kf := kf - 1) (by omega) G p1 p2 p3 M Q h) (fun _ _ _ q => q.elim) (fun v M1 h => by obtain ⟨r, rfl, h⟩ := h; exact kk r M1 h)
theorem pfX1_372 {y0 : MethodName} {cc : ByteArray} {nL : Nat} {ret : Option FieldType} {hh : List (Nat × Nat × Nat × Nat)} {kf : Nat} {G : gG} {Qv : Option Value → gM → Prop} {E : String → Nat → gM → Prop} {w : gM → Nat → List (Nat × Value) → List Value → Prop} {M : gM} {pc : Nat} {lv : List (Nat × Value)} {rest : List Value} (hw : gX y0 cc nL ret hh kf G Qv E w) (hy : y0.cls = RX1) {c : Nat} {x : Int32} (d : decode cc pc = .ok (.putfield 372, 3)) (hk : gk M c = 1) (kk : w (gsI M c 25 x) (pc + 3) lv rest) : w M pc lv (.int x :: .ref (gA G c) :: rest) := by
  obtain ⟨cls9, nm9, ds9⟩ := y0
  subst hy
  exact g_putC (C := RX1) (T := TX1) (N := 28) (ci := 0) hw in_X1 tyX1 tyX1_ok nmX1 rfl 25 (by decide) (Or.inl ⟨q297, Or.inl rfl⟩) rfl rfl (gOne_I M c 25 x) (by show Value.int (gI (gsI M c 25 x) c 25) = _; rw [gI_sI, if_pos ⟨rfl, rfl⟩]) d hk kk
theorem gfX1_372 {y0 : MethodName} {cc : ByteArray} {nL : Nat} {ret : Option FieldType} {hh : List (Nat × Nat × Nat × Nat)} {kf : Nat} {G : gG} {Qv : Option Value → gM → Prop} {E : String → Nat → gM → Prop} {w : gM → Nat → List (Nat × Value) → List Value → Prop} {M : gM} {pc : Nat} {lv : List (Nat × Value)} {rest : List Value} (hw : gX y0 cc nL ret hh kf G Qv E w) (hy : y0.cls = RX1) {c : Nat} (d : decode cc pc = .ok (.getfield 372, 3)) (hk : gk M c = 1) (kk : w M (pc + 3) lv (.int (gI M c 25) :: rest)) : w M pc lv (.ref (gA G c) :: rest) := by
  obtain ⟨cls9, nm9, ds9⟩ := y0
  subst hy
  exact g_getC (C := RX1) (T := TX1) (N := 28) (ci := 0) hw in_X1 rfl 25 (by decide) (Or.inl q297) rfl d hk kk
theorem gfX1_96 {y0 : MethodName} {cc : ByteArray} {nL : Nat} {ret : Option FieldType} {hh : List (Nat × Nat × Nat × Nat)} {kf : Nat} {G : gG} {Qv : Option Value → gM → Prop} {E : String → Nat → gM → Prop} {w : gM → Nat → List (Nat × Value) → List Value → Prop} {M : gM} {pc : Nat} {lv : List (Nat × Value)} {rest : List Value} (hw : gX y0 cc nL ret hh kf G Qv E w) (hy : y0.cls = RX1) {c : Nat} {q : Option Nat} (d : decode cc pc = .ok (.getfield 96, 3)) (hk : gk M c = 1) (hq : gR M c 23 = q) (kk : w M (pc + 3) lv (va_rf (q.map (gA G)) :: rest)) : w M pc lv (.ref (gA G c) :: rest) := by
  obtain ⟨cls9, nm9, ds9⟩ := y0
  subst hy
  subst hq
  exact g_getC (C := RX1) (T := TX1) (N := 28) (ci := 0) hw in_X1 rfl 23 (by decide) (Or.inl q295) rfl d hk kk
theorem pfX1_375 {y0 : MethodName} {cc : ByteArray} {nL : Nat} {ret : Option FieldType} {hh : List (Nat × Nat × Nat × Nat)} {kf : Nat} {G : gG} {Qv : Option Value → gM → Prop} {E : String → Nat → gM → Prop} {w : gM → Nat → List (Nat × Value) → List Value → Prop} {M : gM} {pc : Nat} {lv : List (Nat × Value)} {rest : List Value} (hw : gX y0 cc nL ret hh kf G Qv E w) (hy : y0.cls = RX1) {c : Nat} {x : Int32} (d : decode cc pc = .ok (.putfield 375, 3)) (hk : gk M c = 1) (kk : w (gsI M c 26 x) (pc + 3) lv rest) : w M pc lv (.int x :: .ref (gA G c) :: rest) := by
  obtain ⟨cls9, nm9, ds9⟩ := y0
  subst hy
  exact g_putC (C := RX1) (T := TX1) (N := 28) (ci := 0) hw in_X1 tyX1 tyX1_ok nmX1 rfl 26 (by decide) (Or.inl ⟨q298, Or.inl rfl⟩) rfl rfl (gOne_I M c 26 x) (by show Value.int (gI (gsI M c 26 x) c 26) = _; rw [gI_sI, if_pos ⟨rfl, rfl⟩]) d hk kk
theorem gfX1_375 {y0 : MethodName} {cc : ByteArray} {nL : Nat} {ret : Option FieldType} {hh : List (Nat × Nat × Nat × Nat)} {kf : Nat} {G : gG} {Qv : Option Value → gM → Prop} {E : String → Nat → gM → Prop} {w : gM → Nat → List (Nat × Value) → List Value → Prop} {M : gM} {pc : Nat} {lv : List (Nat × Value)} {rest : List Value} (hw : gX y0 cc nL ret hh kf G Qv E w) (hy : y0.cls = RX1) {c : Nat} (d : decode cc pc = .ok (.getfield 375, 3)) (hk : gk M c = 1) (kk : w M (pc + 3) lv (.int (gI M c 26) :: rest)) : w M pc lv (.ref (gA G c) :: rest) := by
  obtain ⟨cls9, nm9, ds9⟩ := y0
  subst hy
  exact g_getC (C := RX1) (T := TX1) (N := 28) (ci := 0) hw in_X1 rfl 26 (by decide) (Or.inl q298) rfl d hk kk
theorem gfX1_99 {y0 : MethodName} {cc : ByteArray} {nL : Nat} {ret : Option FieldType} {hh : List (Nat × Nat × Nat × Nat)} {kf : Nat} {G : gG} {Qv : Option Value → gM → Prop} {E : String → Nat → gM → Prop} {w : gM → Nat → List (Nat × Value) → List Value → Prop} {M : gM} {pc : Nat} {lv : List (Nat × Value)} {rest : List Value} (hw : gX y0 cc nL ret hh kf G Qv E w) (hy : y0.cls = RX1) {c : Nat} {q : Option Nat} (d : decode cc pc = .ok (.getfield 99, 3)) (hk : gk M c = 1) (hq : gR M c 24 = q) (kk : w M (pc + 3) lv (va_rf (q.map (gA G)) :: rest)) : w M pc lv (.ref (gA G c) :: rest) := by
  obtain ⟨cls9, nm9, ds9⟩ := y0
  subst hy
  subst hq
  exact g_getC (C := RX1) (T := TX1) (N := 28) (ci := 0) hw in_X1 rfl 24 (by decide) (Or.inl q296) rfl d hk kk
def fX1_lays_L57s (R57 : Int32 → gM → Prop) (K83_57 : gM → Prop) (l1_20 : Int32) (l2_21 : Int32) (l3_22 : Int32) (M : gM) (Q : Int32 → gM → Prop) : Prop :=
  gk M 16 = 1 ∧ (if (gI M 16 25) ≤ l3_22 then K83_57 M else gdr (gR M 16 23) (fun a25 => gdr (gR M 16 12) (fun a27 => gk M a27 = 40 ∧ vp_in l3_22 (gl M a27) ∧ gk M a25 = 40 ∧ vp_in l3_22 (gl M a25) ∧ R57 (l3_22 + 1) (gsI M a25 l3_22.toNatClampNeg (gI M a27 l3_22.toNatClampNeg)))))
def fX1_lays_L57 (K83_57 : gM → Prop) (l1_20 : Int32) (l2_21 : Int32) (Q : Int32 → gM → Prop) : Nat → Int32 → gM → Prop
  | 0 => fun _ _ => False
  | n + 1 => fun l3_22 M => fX1_lays_L57s (fX1_lays_L57 K83_57 l1_20 l2_21 Q n) K83_57 l1_20 l2_21 l3_22 M Q
theorem wX1_lays_L57s {kf : Nat} {G : gG} {w : gM → Nat → List (Nat × Value) → List Value → Prop} {Q : Int32 → gM → Prop} (hw : gX yX1_lays cX1_lays 4 (Option.some FieldType.boolean) [] kf G (gQi Q) gE0 w) (hkf : 5 ≤ kf) {R57 : Int32 → gM → Prop} {K83_57 : gM → Prop} {l1_20 : Int32} {l2_21 : Int32} {l3_22 : Int32} {M : gM} (hR57 : ∀ (v0 : Int32) (M : gM), R57 v0 M → w M 57 [(0, .ref (gA G 16)), (1, .int l1_20), (2, .int l2_21), (3, .int v0)] []) (hK83_57 : ∀  (M : gM), K83_57 M → w M 83 [(0, .ref (gA G 16)), (1, .int l1_20), (2, .int l2_21)] []) (h : fX1_lays_L57s R57 K83_57 l1_20 l2_21 l3_22 M Q) : w M 57 [(0, .ref (gA G 16)), (1, .int l1_20), (2, .int l2_21), (3, .int l3_22)] [] := by
  unfold fX1_lays_L57s at h
  refine g_iload_n hw 3 dX1_lays_57 rfl ?_
  refine g_aload_n hw 0 dX1_lays_58 rfl ?_
  obtain ⟨hk23, h⟩ := h
  refine gfX1_372 hw rfl dX1_lays_59 hk23 ?_
  refine g_icmp_ge (tgt := 83) hw dX1_lays_62 (by decide) (fun hb24 => ?_) (fun hb24 => ?_)
  · have h := gT h hb24
    refine g_sub hw (lv2 := [(0, .ref (gA G 16)), (1, .int l1_20), (2, .int l2_21)]) [0, 1, 2] rfl ?_
    exact hK83_57 M h
  · have h := gF h hb24
    refine g_aload_n hw 0 dX1_lays_65 rfl ?_
    obtain ⟨a25, e26, h⟩ := h
    refine gfX1_96 (q := some a25) hw rfl dX1_lays_66 hk23 e26 ?_
    refine g_iload_n hw 3 dX1_lays_69 rfl ?_
    refine g_aload_n hw 0 dX1_lays_70 rfl ?_
    obtain ⟨a27, e28, h⟩ := h
    refine gfX1_73 (q := some a27) hw rfl dX1_lays_71 hk23 e28 ?_
    refine g_iload_n hw 3 dX1_lays_74 rfl ?_
    obtain ⟨hk29, h⟩ := h
    obtain ⟨hi30, h⟩ := h
    refine g_iald (n := l3_22.toNatClampNeg) hw dX1_lays_75 hk29 hi30 rfl ?_
    obtain ⟨hk31, h⟩ := h
    obtain ⟨hi32, h⟩ := h
    refine g_iast (n := l3_22.toNatClampNeg) hw dX1_lays_76 hk31 hi32 rfl ?_
    refine g_iinc hw (lv2 := [(0, .ref (gA G 16)), (1, .int l1_20), (2, .int l2_21), (3, .int (l3_22 + 1))]) 3 [1, 2, 3, 0] dX1_lays_77 rfl (by decide) rfl rfl ?_
    refine g_goto (tgt := 57) hw dX1_lays_80 (by decide) ?_
    exact hR57 (l3_22 + 1) (gsI M a25 l3_22.toNatClampNeg (gI M a27 l3_22.toNatClampNeg)) h
theorem wX1_lays_L57 {kf : Nat} {G : gG} {w : gM → Nat → List (Nat × Value) → List Value → Prop} {Q : Int32 → gM → Prop} (hw : gX yX1_lays cX1_lays 4 (Option.some FieldType.boolean) [] kf G (gQi Q) gE0 w) (hkf : 5 ≤ kf) {K83_57 : gM → Prop} {l1_20 : Int32} {l2_21 : Int32} (hK83_57 : ∀  (M : gM), K83_57 M → w M 83 [(0, .ref (gA G 16)), (1, .int l1_20), (2, .int l2_21)] []) : ∀ (n : Nat) (l3_22 : Int32) (M : gM), fX1_lays_L57 K83_57 l1_20 l2_21 Q n l3_22 M → w M 57 [(0, .ref (gA G 16)), (1, .int l1_20), (2, .int l2_21), (3, .int l3_22)] [] := by
  intro n
  induction n with
  | zero => intro l3_22 M h; exact h.elim
  | succ n ih => intro l3_22 M h; exact wX1_lays_L57s hw hkf ih hK83_57 h
def fX1_lays_L96s (R96 : Int32 → gM → Prop) (K122_96 : gM → Prop) (l3_38 : Int32) (M : gM) (Q : Int32 → gM → Prop) : Prop :=
  gk M 16 = 1 ∧ (if (gI M 16 26) ≤ l3_38 then K122_96 M else gdr (gR M 16 24) (fun a41 => gdr (gR M 16 12) (fun a43 => gk M a43 = 40 ∧ vp_in l3_38 (gl M a43) ∧ gk M a41 = 40 ∧ vp_in l3_38 (gl M a41) ∧ R96 (l3_38 + 1) (gsI M a41 l3_38.toNatClampNeg (gI M a43 l3_38.toNatClampNeg)))))
def fX1_lays_L96 (K122_96 : gM → Prop) (Q : Int32 → gM → Prop) : Nat → Int32 → gM → Prop
  | 0 => fun _ _ => False
  | n + 1 => fun l3_38 M => fX1_lays_L96s (fX1_lays_L96 K122_96 Q n) K122_96 l3_38 M Q
theorem wX1_lays_L96s {kf : Nat} {G : gG} {w : gM → Nat → List (Nat × Value) → List Value → Prop} {Q : Int32 → gM → Prop} (hw : gX yX1_lays cX1_lays 4 (Option.some FieldType.boolean) [] kf G (gQi Q) gE0 w) (hkf : 5 ≤ kf) {R96 : Int32 → gM → Prop} {K122_96 : gM → Prop} {l3_38 : Int32} {M : gM} (hR96 : ∀ (v0 : Int32) (M : gM), R96 v0 M → w M 96 [(0, .ref (gA G 16)), (3, .int v0)] []) (hK122_96 : ∀  (M : gM), K122_96 M → w M 122 [] []) (h : fX1_lays_L96s R96 K122_96 l3_38 M Q) : w M 96 [(0, .ref (gA G 16)), (3, .int l3_38)] [] := by
  unfold fX1_lays_L96s at h
  refine g_iload_n hw 1 dX1_lays_96 rfl ?_
  refine g_aload_n hw 0 dX1_lays_97 rfl ?_
  obtain ⟨hk39, h⟩ := h
  refine gfX1_375 hw rfl dX1_lays_98 hk39 ?_
  refine g_icmp_ge (tgt := 122) hw dX1_lays_101 (by decide) (fun hb40 => ?_) (fun hb40 => ?_)
  · have h := gT h hb40
    refine g_sub hw (lv2 := []) [] rfl ?_
    exact hK122_96 M h
  · have h := gF h hb40
    refine g_aload_n hw 0 dX1_lays_104 rfl ?_
    obtain ⟨a41, e42, h⟩ := h
    refine gfX1_99 (q := some a41) hw rfl dX1_lays_105 hk39 e42 ?_
    refine g_iload_n hw 1 dX1_lays_108 rfl ?_
    refine g_aload_n hw 0 dX1_lays_109 rfl ?_
    obtain ⟨a43, e44, h⟩ := h
    refine gfX1_73 (q := some a43) hw rfl dX1_lays_110 hk39 e44 ?_
    refine g_iload_n hw 1 dX1_lays_113 rfl ?_
    obtain ⟨hk45, h⟩ := h
    obtain ⟨hi46, h⟩ := h
    refine g_iald (n := l3_38.toNatClampNeg) hw dX1_lays_114 hk45 hi46 rfl ?_
    obtain ⟨hk47, h⟩ := h
    obtain ⟨hi48, h⟩ := h
    refine g_iast (n := l3_38.toNatClampNeg) hw dX1_lays_115 hk47 hi48 rfl ?_
    refine g_iinc hw (lv2 := [(0, .ref (gA G 16)), (3, .int (l3_38 + 1))]) 1 [1, 0] dX1_lays_116 rfl (by decide) rfl rfl ?_
    refine g_goto (tgt := 96) hw dX1_lays_119 (by decide) ?_
    exact hR96 (l3_38 + 1) (gsI M a41 l3_38.toNatClampNeg (gI M a43 l3_38.toNatClampNeg)) h
theorem wX1_lays_L96 {kf : Nat} {G : gG} {w : gM → Nat → List (Nat × Value) → List Value → Prop} {Q : Int32 → gM → Prop} (hw : gX yX1_lays cX1_lays 4 (Option.some FieldType.boolean) [] kf G (gQi Q) gE0 w) (hkf : 5 ≤ kf) {K122_96 : gM → Prop} (hK122_96 : ∀  (M : gM), K122_96 M → w M 122 [] []) : ∀ (n : Nat) (l3_38 : Int32) (M : gM), fX1_lays_L96 K122_96 Q n l3_38 M → w M 96 [(0, .ref (gA G 16)), (3, .int l3_38)] [] := by
  intro n
  induction n with
  | zero => intro l3_38 M h; exact h.elim
  | succ n ih => intro l3_38 M h; exact wX1_lays_L96s hw hkf ih hK122_96 h
def fX1_lays (p1 : Int32) (p2 : Int32) (M : gM) (Q : Int32 → gM → Prop) : Prop :=
  fX1_areMonths p1 p2 M (fun r2 M1 => (if r2 = 0 then Q 0 M1 else gk M1 16 = 1 ∧ fX1_rivers p1 p2 (-1) M1 (fun r6 M5 => (if r6 = 0 then Q 0 M5 else gk M5 16 = 1 ∧ gdr (gR M5 16 10) (fun a9 => gk M5 a9 = 3 ∧ (if 9 < (gI M5 a9 1) then Q 0 M5 else gdr (gR M5 16 11) (fun a13 => gk M5 a13 = 3 ∧ (if (gI M5 a13 1) ≤ 9 then fX1_sorts 0 p1 p2 M5 (fun r18 M17 => gk M17 16 = 1 ∧ ∃ n, fX1_lays_L57 (fun M33 => gk M33 16 = 1 ∧ fX1_sorts 1 p1 p2 M33 (fun r36 M35 => gk M35 16 = 1 ∧ ∃ n, fX1_lays_L96 (fun M49 => Q 1 M49) Q n 0 (gsI M35 16 26 r36))) p1 p2 Q n 0 (gsI M17 16 25 r18)) else Q 0 M5))))))))
theorem mX1_lays {kf : Nat} (hkf : 5 ≤ kf) (G : gG) (p1 : Int32) (p2 : Int32) (M : gM) (Q : Int32 → gM → Prop) (h : fX1_lays p1 p2 M Q) : gMet yX1_lays cX1_lays 4 (Option.some FieldType.boolean) kf G M [.ref (gA G 16), .int p1, .int p2] (gQi Q) gE0 := by
  refine g_intro (lv := [(0, .ref (gA G 16)), (1, .int p1), (2, .int p2)]) (by decide) rfl rfl (fun w hw => ?_)
  unfold fX1_lays at h
  refine g_iload_n hw 1 dX1_lays_0 rfl ?_
  refine g_iload_n hw 2 dX1_lays_1 rfl ?_
  refine sX1_164 hw rfl dX1_lays_2 rfl (gK2 hkf) h (fun r2 M1 h => ?_)
  refine g_if_eq (tgt := 42) hw dX1_lays_5 (by decide) (fun hb3 => ?_) (fun hb3 => ?_)
  · have h := gT h hb3
    refine g_iconst (v := 0) hw dX1_lays_42 (by decide) ?_
    exact g_iret hw dX1_lays_43 (by decide +kernel) ⟨_, rfl, h⟩
  · have h := gF h hb3
    refine g_aload_n hw 0 dX1_lays_8 rfl ?_
    refine g_iload_n hw 1 dX1_lays_9 rfl ?_
    refine g_iload_n hw 2 dX1_lays_10 rfl ?_
    refine g_iconst (v := (-1)) hw dX1_lays_11 (by decide) ?_
    obtain ⟨hk4, h⟩ := h
    refine sX1_204 hw rfl dX1_lays_12 rfl (gK2 hkf) hk4 h (fun r6 M5 h => ?_)
    refine g_if_eq (tgt := 42) hw dX1_lays_15 (by decide) (fun hb7 => ?_) (fun hb7 => ?_)
    · have h := gT h hb7
      refine g_iconst (v := 0) hw dX1_lays_42 (by decide) ?_
      exact g_iret hw dX1_lays_43 (by decide +kernel) ⟨_, rfl, h⟩
    · have h := gF h hb7
      refine g_aload_n hw 0 dX1_lays_18 rfl ?_
      obtain ⟨hk8, h⟩ := h
      obtain ⟨a9, e10, h⟩ := h
      refine gfX1_66 (q := some a9) hw rfl dX1_lays_19 hk8 e10 ?_
      obtain ⟨hk11, h⟩ := h
      refine gfX1_182 hw rfl dX1_lays_22 hk11 ?_
      refine g_bipush (v := 9) hw dX1_lays_25 (by decide) ?_
      refine g_icmp_gt (tgt := 42) hw dX1_lays_27 (by decide) (fun hb12 => ?_) (fun hb12 => ?_)
      · have h := gT h hb12
        refine g_iconst (v := 0) hw dX1_lays_42 (by decide) ?_
        exact g_iret hw dX1_lays_43 (by decide +kernel) ⟨_, rfl, h⟩
      · have h := gF h hb12
        refine g_aload_n hw 0 dX1_lays_30 rfl ?_
        obtain ⟨a13, e14, h⟩ := h
        refine gfX1_70 (q := some a13) hw rfl dX1_lays_31 hk8 e14 ?_
        obtain ⟨hk15, h⟩ := h
        refine gfX1_182 hw rfl dX1_lays_34 hk15 ?_
        refine g_bipush (v := 9) hw dX1_lays_37 (by decide) ?_
        refine g_icmp_le (tgt := 44) hw dX1_lays_39 (by decide) (fun hb16 => ?_) (fun hb16 => ?_)
        · have h := gT h hb16
          refine g_aload_n hw 0 dX1_lays_44 rfl ?_
          refine g_aload_n hw 0 dX1_lays_45 rfl ?_
          refine g_iconst (v := 0) hw dX1_lays_46 (by decide) ?_
          refine g_iload_n hw 1 dX1_lays_47 rfl ?_
          refine g_iload_n hw 2 dX1_lays_48 rfl ?_
          refine sX1_233 hw rfl dX1_lays_49 rfl (gK2 hkf) hk8 h (fun r18 M17 h => ?_)
          obtain ⟨hk19, h⟩ := h
          refine pfX1_372 hw rfl dX1_lays_52 hk19 ?_
          refine g_iconst (v := 0) hw dX1_lays_55 (by decide) ?_
          refine g_istore_n hw (lv2 := [(0, .ref (gA G 16)), (1, .int p1), (2, .int p2), (3, .int 0)]) [1, 2, 3, 0] dX1_lays_56 rfl rfl ?_
          obtain ⟨n9, h⟩ := h
          refine wX1_lays_L57 hw hkf (fun M33 h => ?_) n9 0 (gsI M17 16 25 r18) h
          refine g_aload_n hw 0 dX1_lays_83 rfl ?_
          refine g_aload_n hw 0 dX1_lays_84 rfl ?_
          refine g_iconst (v := 1) hw dX1_lays_85 (by decide) ?_
          refine g_iload_n hw 1 dX1_lays_86 rfl ?_
          refine g_iload_n hw 2 dX1_lays_87 rfl ?_
          obtain ⟨hk34, h⟩ := h
          refine sX1_233 hw rfl dX1_lays_88 rfl (gK2 hkf) hk34 h (fun r36 M35 h => ?_)
          obtain ⟨hk37, h⟩ := h
          refine pfX1_375 hw rfl dX1_lays_91 hk37 ?_
          refine g_iconst (v := 0) hw dX1_lays_94 (by decide) ?_
          refine g_istore_n hw (lv2 := [(0, .ref (gA G 16)), (3, .int 0)]) [1, 0] dX1_lays_95 rfl rfl ?_
          obtain ⟨n9, h⟩ := h
          refine wX1_lays_L96 hw hkf (fun M49 h => ?_) n9 0 (gsI M35 16 26 r36) h
          refine g_iconst (v := 1) hw dX1_lays_122 (by decide) ?_
          exact g_iret hw dX1_lays_123 (by decide +kernel) ⟨_, rfl, h⟩
        · have h := gF h hb16
          refine g_iconst (v := 0) hw dX1_lays_42 (by decide) ?_
          exact g_iret hw dX1_lays_43 (by decide +kernel) ⟨_, rfl, h⟩
def fX1_sum_b25 (R4 : Int32 → Int32 → gM → Prop) (l0_1 : Nat) (l1_2 : Int32) (l2_7 : Int32) (l3_8 : Int32) (M : gM) (Q : Int32 → gM → Prop) : Prop :=
  R4 l2_7 (l3_8 + 1) M
theorem wX1_sum_b25 {kf : Nat} {G : gG} {w : gM → Nat → List (Nat × Value) → List Value → Prop} {Q : Int32 → gM → Prop} (hw : gX yX1_sum cX1_sum 4 (Option.some FieldType.int) [] kf G (gQi Q) gE0 w) (hkf : 1 ≤ kf) {R4 : Int32 → Int32 → gM → Prop} {l0_1 : Nat} {l1_2 : Int32} {l2_7 : Int32} {l3_8 : Int32} {M : gM} (hR4 : ∀ (v0 : Int32) (v1 : Int32) (M : gM), R4 v0 v1 M → w M 4 [(0, .ref (gA G l0_1)), (1, .int l1_2), (2, .int v0), (3, .int v1)] []) (h : fX1_sum_b25 R4 l0_1 l1_2 l2_7 l3_8 M Q) : w M 25 [(0, .ref (gA G l0_1)), (1, .int l1_2), (2, .int l2_7), (3, .int l3_8)] [] := by
  unfold fX1_sum_b25 at h
  refine g_iinc hw (lv2 := [(0, .ref (gA G l0_1)), (1, .int l1_2), (2, .int l2_7), (3, .int (l3_8 + 1))]) 3 [1, 2, 3, 0] dX1_sum_25 rfl (by decide) rfl rfl ?_
  refine g_goto (tgt := 4) hw dX1_sum_28 (by decide) ?_
  exact hR4 l2_7 (l3_8 + 1) M h
def fX1_sum_L4s (R4 : Int32 → Int32 → gM → Prop) (K31_4 : Int32 → gM → Prop) (l0_1 : Nat) (l1_2 : Int32) (l2_3 : Int32) (l3_4 : Int32) (M : gM) (Q : Int32 → gM → Prop) : Prop :=
  (if (l1_2 >>> (l3_4 &&& 31)) = 0 then K31_4 l2_3 M else (if ((l1_2 >>> (l3_4 &&& 31)) &&& 1) = 1 then gk M l0_1 = 40 ∧ vp_in l3_4 (gl M l0_1) ∧ fX1_sum_b25 R4 l0_1 l1_2 (l2_3 + (gI M l0_1 l3_4.toNatClampNeg)) l3_4 M Q else fX1_sum_b25 R4 l0_1 l1_2 l2_3 l3_4 M Q))
def fX1_sum_L4 (K31_4 : Int32 → gM → Prop) (l0_1 : Nat) (l1_2 : Int32) (Q : Int32 → gM → Prop) : Nat → Int32 → Int32 → gM → Prop
  | 0 => fun _ _ _ => False
  | n + 1 => fun l2_3 l3_4 M => fX1_sum_L4s (fX1_sum_L4 K31_4 l0_1 l1_2 Q n) K31_4 l0_1 l1_2 l2_3 l3_4 M Q
theorem wX1_sum_L4s {kf : Nat} {G : gG} {w : gM → Nat → List (Nat × Value) → List Value → Prop} {Q : Int32 → gM → Prop} (hw : gX yX1_sum cX1_sum 4 (Option.some FieldType.int) [] kf G (gQi Q) gE0 w) (hkf : 1 ≤ kf) {R4 : Int32 → Int32 → gM → Prop} {K31_4 : Int32 → gM → Prop} {l0_1 : Nat} {l1_2 : Int32} {l2_3 : Int32} {l3_4 : Int32} {M : gM} (hR4 : ∀ (v0 : Int32) (v1 : Int32) (M : gM), R4 v0 v1 M → w M 4 [(0, .ref (gA G l0_1)), (1, .int l1_2), (2, .int v0), (3, .int v1)] []) (hK31_4 : ∀ (v0 : Int32) (M : gM), K31_4 v0 M → w M 31 [(2, .int v0)] []) (h : fX1_sum_L4s R4 K31_4 l0_1 l1_2 l2_3 l3_4 M Q) : w M 4 [(0, .ref (gA G l0_1)), (1, .int l1_2), (2, .int l2_3), (3, .int l3_4)] [] := by
  unfold fX1_sum_L4s at h
  refine g_iload_n hw 1 dX1_sum_4 rfl ?_
  refine g_iload_n hw 3 dX1_sum_5 rfl ?_
  refine g_ishr hw dX1_sum_6 ?_
  refine g_if_eq (tgt := 31) hw dX1_sum_7 (by decide) (fun hb5 => ?_) (fun hb5 => ?_)
  · have h := gT h hb5
    refine g_sub hw (lv2 := [(2, .int l2_3)]) [2] rfl ?_
    exact hK31_4 l2_3 M h
  · have h := gF h hb5
    refine g_iload_n hw 1 dX1_sum_10 rfl ?_
    refine g_iload_n hw 3 dX1_sum_11 rfl ?_
    refine g_ishr hw dX1_sum_12 ?_
    refine g_iconst (v := 1) hw dX1_sum_13 (by decide) ?_
    refine g_iand hw dX1_sum_14 ?_
    refine g_iconst (v := 1) hw dX1_sum_15 (by decide) ?_
    refine g_icmp_ne (tgt := 25) hw dX1_sum_16 (by decide) (fun hb6 => ?_) (fun hb6 => ?_)
    · have h := gF h hb6
      exact wX1_sum_b25 hw hkf hR4 h
    · have h := gT h hb6
      refine g_iload_n hw 2 dX1_sum_19 rfl ?_
      refine g_aload_n hw 0 dX1_sum_20 rfl ?_
      refine g_iload_n hw 3 dX1_sum_21 rfl ?_
      obtain ⟨hk9, h⟩ := h
      obtain ⟨hi10, h⟩ := h
      refine g_iald (n := l3_4.toNatClampNeg) hw dX1_sum_22 hk9 hi10 rfl ?_
      refine g_iadd hw dX1_sum_23 ?_
      refine g_istore_n hw (lv2 := [(0, .ref (gA G l0_1)), (1, .int l1_2), (2, .int (l2_3 + (gI M l0_1 l3_4.toNatClampNeg))), (3, .int l3_4)]) [1, 2, 0, 3] dX1_sum_24 rfl rfl ?_
      exact wX1_sum_b25 hw hkf hR4 h
theorem wX1_sum_L4 {kf : Nat} {G : gG} {w : gM → Nat → List (Nat × Value) → List Value → Prop} {Q : Int32 → gM → Prop} (hw : gX yX1_sum cX1_sum 4 (Option.some FieldType.int) [] kf G (gQi Q) gE0 w) (hkf : 1 ≤ kf) {K31_4 : Int32 → gM → Prop} {l0_1 : Nat} {l1_2 : Int32} (hK31_4 : ∀ (v0 : Int32) (M : gM), K31_4 v0 M → w M 31 [(2, .int v0)] []) : ∀ (n : Nat) (l2_3 : Int32) (l3_4 : Int32) (M : gM), fX1_sum_L4 K31_4 l0_1 l1_2 Q n l2_3 l3_4 M → w M 4 [(0, .ref (gA G l0_1)), (1, .int l1_2), (2, .int l2_3), (3, .int l3_4)] [] := by
  intro n
  induction n with
  | zero => intro l2_3 l3_4 M h; exact h.elim
  | succ n ih => intro l2_3 l3_4 M h; exact wX1_sum_L4s hw hkf ih hK31_4 h
def fX1_sum (p1 : Nat) (p2 : Int32) (M : gM) (Q : Int32 → gM → Prop) : Prop :=
  ∃ n, fX1_sum_L4 (fun l2_11 M12 => Q l2_11 M12) p1 p2 Q n 0 0 M
theorem mX1_sum {kf : Nat} (hkf : 1 ≤ kf) (G : gG) (p1 : Nat) (p2 : Int32) (M : gM) (Q : Int32 → gM → Prop) (h : fX1_sum p1 p2 M Q) : gMet yX1_sum cX1_sum 4 (Option.some FieldType.int) kf G M [.ref (gA G p1), .int p2] (gQi Q) gE0 := by
  refine g_intro (lv := [(0, .ref (gA G p1)), (1, .int p2)]) (by decide) rfl rfl (fun w hw => ?_)
  unfold fX1_sum at h
  refine g_iconst (v := 0) hw dX1_sum_0 (by decide) ?_
  refine g_istore_n hw (lv2 := [(0, .ref (gA G p1)), (1, .int p2), (2, .int 0)]) [1, 2, 0] dX1_sum_1 rfl rfl ?_
  refine g_iconst (v := 0) hw dX1_sum_2 (by decide) ?_
  refine g_istore_n hw (lv2 := [(0, .ref (gA G p1)), (1, .int p2), (2, .int 0), (3, .int 0)]) [1, 2, 3, 0] dX1_sum_3 rfl rfl ?_
  obtain ⟨n9, h⟩ := h
  refine wX1_sum_L4 hw hkf (fun l2_11 M12 h => ?_) n9 0 0 M h
  refine g_iload_n hw 0 dX1_sum_31 rfl ?_
  exact g_iret hw dX1_sum_32 rfl ⟨_, rfl, h⟩
theorem sX1_378 {y0 : MethodName} {cc : ByteArray} {nL : Nat} {ret : Option FieldType} {hh : List (Nat × Nat × Nat × Nat)} {kf : Nat} {G : gG} {Qv : Option Value → gM → Prop} {E : String → Nat → gM → Prop} {w : gM → Nat → List (Nat × Value) → List Value → Prop} {M : gM} {pc : Nat} {lv : List (Nat × Value)} {rest : List Value} (hw : gX y0 cc nL ret hh kf G Qv E w) (hy : y0.cls = RX1) {p1 : Int32} {Q : Int32 → gM → Prop} (d : decode cc pc = .ok (.invokestatic 378, 3)) (hrest : Nat.ble ((rest.map Value.category).sum) 8 = true) (hk : 1 + 1 ≤ kf) (h : fJ11_bitCount p1 M Q) (kk : ∀ r M1, Q r M1 → w M1 (pc + 3) lv (.int r :: rest)) : w M pc lv (.int p1 :: rest) := by
  obtain ⟨cls9, nm9, ds9⟩ := y0
  subst hy
  exact g_callS hw [.int p1] (nA := 1) rfl d q923 q924 q122 q925 (by decide +kernel) rfl hrest rfl (by omega : kf - 1 + 1 ≤ kf) (mJ11_bitCount (kf := kf - 1) (by omega) G p1 M Q h) (fun _ _ _ q => q.elim) (fun v M1 h => by obtain ⟨r, rfl, h⟩ := h; exact kk r M1 h)
theorem sX1_383 {y0 : MethodName} {cc : ByteArray} {nL : Nat} {ret : Option FieldType} {hh : List (Nat × Nat × Nat × Nat)} {kf : Nat} {G : gG} {Qv : Option Value → gM → Prop} {E : String → Nat → gM → Prop} {w : gM → Nat → List (Nat × Value) → List Value → Prop} {M : gM} {pc : Nat} {lv : List (Nat × Value)} {rest : List Value} (hw : gX y0 cc nL ret hh kf G Qv E w) (hy : y0.cls = RX1) {p1 : Nat} {p2 : Int32} {Q : Int32 → gM → Prop} (d : decode cc pc = .ok (.invokestatic 383, 3)) (hrest : Nat.ble ((rest.map Value.category).sum) 8 = true) (hk : 1 + 1 ≤ kf) (h : fX1_sum p1 p2 M Q) (kk : ∀ r M1, Q r M1 → w M1 (pc + 3) lv (.int r :: rest)) : w M pc lv (.int p2 :: .ref (gA G p1) :: rest) := by
  obtain ⟨cls9, nm9, ds9⟩ := y0
  subst hy
  exact g_callS hw [.ref (gA G p1), .int p2] (nA := 2) rfl d q929 q930 q98 q931 (by decide +kernel) rfl hrest rfl (by omega : kf - 1 + 1 ≤ kf) (mX1_sum (kf := kf - 1) (by omega) G p1 p2 M Q h) (fun _ _ _ q => q.elim) (fun v M1 h => by obtain ⟨r, rfl, h⟩ := h; exact kk r M1 h)
theorem sX1_386 {y0 : MethodName} {cc : ByteArray} {nL : Nat} {ret : Option FieldType} {hh : List (Nat × Nat × Nat × Nat)} {kf : Nat} {G : gG} {Qv : Option Value → gM → Prop} {E : String → Nat → gM → Prop} {w : gM → Nat → List (Nat × Value) → List Value → Prop} {M : gM} {pc : Nat} {lv : List (Nat × Value)} {rest : List Value} (hw : gX y0 cc nL ret hh kf G Qv E w) (hy : y0.cls = RX1) {p1 : Int32} {Q : Int32 → gM → Prop} (d : decode cc pc = .ok (.invokestatic 386, 3)) (hrest : Nat.ble ((rest.map Value.category).sum) 8 = true) (hk : 1 + 1 ≤ kf) (h : fJ11_signum p1 M Q) (kk : ∀ r M1, Q r M1 → w M1 (pc + 3) lv (.int r :: rest)) : w M pc lv (.int p1 :: rest) := by
  obtain ⟨cls9, nm9, ds9⟩ := y0
  subst hy
  exact g_callS hw [.int p1] (nA := 1) rfl d q932 q933 q122 q934 (by decide +kernel) rfl hrest rfl (by omega : kf - 1 + 1 ≤ kf) (mJ11_signum (kf := kf - 1) (by omega) G p1 M Q h) (fun _ _ _ q => q.elim) (fun v M1 h => by obtain ⟨r, rfl, h⟩ := h; exact kk r M1 h)
def fX1_draws_b109 (R33 : Int32 → gM → Prop) (l1_7 : Int32) (l2_8 : Int32) (l3_12 : Int32) (l4_35 : Int32) (M : gM) (Q : gM → Prop) : Prop :=
  R33 (l4_35 + 1) M
theorem wX1_draws_b109 {kf : Nat} {G : gG} {w : gM → Nat → List (Nat × Value) → List Value → Prop} {Q : gM → Prop} (hw : gX yX1_draws cX1_draws 5 (Option.none : Option FieldType) [] kf G (gQv Q) gE0 w) (hkf : 2 ≤ kf) {R33 : Int32 → gM → Prop} {l1_7 : Int32} {l2_8 : Int32} {l3_12 : Int32} {l4_35 : Int32} {M : gM} (hR33 : ∀ (v0 : Int32) (M : gM), R33 v0 M → w M 33 [(0, .ref (gA G 16)), (1, .int l1_7), (2, .int l2_8), (3, .int l3_12), (4, .int v0)] []) (h : fX1_draws_b109 R33 l1_7 l2_8 l3_12 l4_35 M Q) : w M 109 [(0, .ref (gA G 16)), (1, .int l1_7), (2, .int l2_8), (3, .int l3_12), (4, .int l4_35)] [] := by
  unfold fX1_draws_b109 at h
  refine g_iinc hw (lv2 := [(0, .ref (gA G 16)), (1, .int l1_7), (2, .int l2_8), (3, .int l3_12), (4, .int (l4_35 + 1))]) 4 [1, 2, 3, 4, 0] dX1_draws_109 rfl (by decide) rfl rfl ?_
  refine g_goto (tgt := 33) hw dX1_draws_112 (by decide) ?_
  exact hR33 (l4_35 + 1) M h
def fX1_draws_L33s (R33 : Int32 → gM → Prop) (K115_33 : gM → Prop) (l1_7 : Int32) (l2_8 : Int32) (l3_12 : Int32) (l4_13 : Int32) (M : gM) (Q : gM → Prop) : Prop :=
  gk M 16 = 1 ∧ (if (1 <<< ((gI M 16 26) &&& 31)) ≤ l4_13 then K115_33 M else fJ11_bitCount l3_12 M (fun r17 M16 => (if r17 = l1_7 then fJ11_bitCount l4_13 M16 (fun r20 M19 => (if r20 = l1_7 then gk M19 16 = 1 ∧ gdr (gR (gsI M19 16 15 ((gI M19 16 15) + 1)) 16 23) (fun a23 => fX1_sum a23 l3_12 (gsI M19 16 15 ((gI M19 16 15) + 1)) (fun r26 M25 => gk M25 16 = 1 ∧ gdr (gR M25 16 24) (fun a28 => fX1_sum a28 l4_13 M25 (fun r31 M30 => fJ11_signum (r26 - r31) M30 (fun r33 M32 => (if r33 = l2_8 then gk M32 16 = 1 ∧ fX1_draws_b109 R33 l1_7 l2_8 l3_12 l4_13 (gsL M32 16 13 ((gL M32 16 13) + 1)) Q else fX1_draws_b109 R33 l1_7 l2_8 l3_12 l4_13 M32 Q)))))) else fX1_draws_b109 R33 l1_7 l2_8 l3_12 l4_13 M19 Q)) else K115_33 M16)))
def fX1_draws_L33 (K115_33 : gM → Prop) (l1_7 : Int32) (l2_8 : Int32) (l3_12 : Int32) (Q : gM → Prop) : Nat → Int32 → gM → Prop
  | 0 => fun _ _ => False
  | n + 1 => fun l4_13 M => fX1_draws_L33s (fX1_draws_L33 K115_33 l1_7 l2_8 l3_12 Q n) K115_33 l1_7 l2_8 l3_12 l4_13 M Q
theorem wX1_draws_L33s {kf : Nat} {G : gG} {w : gM → Nat → List (Nat × Value) → List Value → Prop} {Q : gM → Prop} (hw : gX yX1_draws cX1_draws 5 (Option.none : Option FieldType) [] kf G (gQv Q) gE0 w) (hkf : 2 ≤ kf) {R33 : Int32 → gM → Prop} {K115_33 : gM → Prop} {l1_7 : Int32} {l2_8 : Int32} {l3_12 : Int32} {l4_13 : Int32} {M : gM} (hR33 : ∀ (v0 : Int32) (M : gM), R33 v0 M → w M 33 [(0, .ref (gA G 16)), (1, .int l1_7), (2, .int l2_8), (3, .int l3_12), (4, .int v0)] []) (hK115_33 : ∀  (M : gM), K115_33 M → w M 115 [(0, .ref (gA G 16)), (1, .int l1_7), (2, .int l2_8), (3, .int l3_12)] []) (h : fX1_draws_L33s R33 K115_33 l1_7 l2_8 l3_12 l4_13 M Q) : w M 33 [(0, .ref (gA G 16)), (1, .int l1_7), (2, .int l2_8), (3, .int l3_12), (4, .int l4_13)] [] := by
  unfold fX1_draws_L33s at h
  refine g_iload hw 4 dX1_draws_33 rfl ?_
  refine g_iconst (v := 1) hw dX1_draws_35 (by decide) ?_
  refine g_aload_n hw 0 dX1_draws_36 rfl ?_
  obtain ⟨hk14, h⟩ := h
  refine gfX1_375 hw rfl dX1_draws_37 hk14 ?_
  refine g_ishl hw dX1_draws_40 ?_
  refine g_icmp_ge (tgt := 115) hw dX1_draws_41 (by decide) (fun hb15 => ?_) (fun hb15 => ?_)
  · have h := gT h hb15
    refine g_sub hw (lv2 := [(0, .ref (gA G 16)), (1, .int l1_7), (2, .int l2_8), (3, .int l3_12)]) [0, 1, 2, 3] rfl ?_
    exact hK115_33 M h
  · have h := gF h hb15
    refine g_iload_n hw 3 dX1_draws_44 rfl ?_
    refine sX1_378 hw rfl dX1_draws_45 rfl (gK2 hkf) h (fun r17 M16 h => ?_)
    refine g_iload_n hw 1 dX1_draws_48 rfl ?_
    refine g_icmp_ne (tgt := 115) hw dX1_draws_49 (by decide) (fun hb18 => ?_) (fun hb18 => ?_)
    · have h := gF h hb18
      refine g_sub hw (lv2 := [(0, .ref (gA G 16)), (1, .int l1_7), (2, .int l2_8), (3, .int l3_12)]) [0, 1, 2, 3] rfl ?_
      exact hK115_33 M16 h
    · have h := gT h hb18
      refine g_iload hw 4 dX1_draws_52 rfl ?_
      refine sX1_378 hw rfl dX1_draws_54 rfl (gK2 hkf) h (fun r20 M19 h => ?_)
      refine g_iload_n hw 1 dX1_draws_57 rfl ?_
      refine g_icmp_eq (tgt := 64) hw dX1_draws_58 (by decide) (fun hb21 => ?_) (fun hb21 => ?_)
      · have h := gT h hb21
        refine g_aload_n hw 0 dX1_draws_64 rfl ?_
        refine g_dup hw dX1_draws_65 rfl ?_
        obtain ⟨hk22, h⟩ := h
        refine gfX1_237 hw rfl dX1_draws_66 hk22 ?_
        refine g_iconst (v := 1) hw dX1_draws_69 (by decide) ?_
        refine g_iadd hw dX1_draws_70 ?_
        refine pfX1_237 hw rfl dX1_draws_71 hk22 ?_
        refine g_aload_n hw 0 dX1_draws_74 rfl ?_
        obtain ⟨a23, e24, h⟩ := h
        refine gfX1_96 (q := some a23) hw rfl dX1_draws_75 hk22 e24 ?_
        refine g_iload_n hw 3 dX1_draws_78 rfl ?_
        refine sX1_383 hw rfl dX1_draws_79 rfl (gK2 hkf) h (fun r26 M25 h => ?_)
        refine g_aload_n hw 0 dX1_draws_82 rfl ?_
        obtain ⟨hk27, h⟩ := h
        obtain ⟨a28, e29, h⟩ := h
        refine gfX1_99 (q := some a28) hw rfl dX1_draws_83 hk27 e29 ?_
        refine g_iload hw 4 dX1_draws_86 rfl ?_
        refine sX1_383 hw rfl dX1_draws_88 rfl (gK2 hkf) h (fun r31 M30 h => ?_)
        refine g_isub hw dX1_draws_91 ?_
        refine sX1_386 hw rfl dX1_draws_92 rfl (gK2 hkf) h (fun r33 M32 h => ?_)
        refine g_iload_n hw 2 dX1_draws_95 rfl ?_
        refine g_icmp_ne (tgt := 109) hw dX1_draws_96 (by decide) (fun hb34 => ?_) (fun hb34 => ?_)
        · have h := gF h hb34
          exact wX1_draws_b109 hw hkf hR33 h
        · have h := gT h hb34
          refine g_aload_n hw 0 dX1_draws_99 rfl ?_
          refine g_dup hw dX1_draws_100 rfl ?_
          obtain ⟨hk36, h⟩ := h
          refine gfX1_243 hw rfl dX1_draws_101 hk36 ?_
          refine g_lconst (v := 1) hw dX1_draws_104 (by decide) ?_
          refine g_ladd hw dX1_draws_105 ?_
          refine pfX1_243 hw rfl dX1_draws_106 hk36 ?_
          exact wX1_draws_b109 hw hkf hR33 h
      · have h := gF h hb21
        refine g_goto (tgt := 109) hw dX1_draws_61 (by decide) ?_
        exact wX1_draws_b109 hw hkf hR33 h
theorem wX1_draws_L33 {kf : Nat} {G : gG} {w : gM → Nat → List (Nat × Value) → List Value → Prop} {Q : gM → Prop} (hw : gX yX1_draws cX1_draws 5 (Option.none : Option FieldType) [] kf G (gQv Q) gE0 w) (hkf : 2 ≤ kf) {K115_33 : gM → Prop} {l1_7 : Int32} {l2_8 : Int32} {l3_12 : Int32} (hK115_33 : ∀  (M : gM), K115_33 M → w M 115 [(0, .ref (gA G 16)), (1, .int l1_7), (2, .int l2_8), (3, .int l3_12)] []) : ∀ (n : Nat) (l4_13 : Int32) (M : gM), fX1_draws_L33 K115_33 l1_7 l2_8 l3_12 Q n l4_13 M → w M 33 [(0, .ref (gA G 16)), (1, .int l1_7), (2, .int l2_8), (3, .int l3_12), (4, .int l4_13)] [] := by
  intro n
  induction n with
  | zero => intro l4_13 M h; exact h.elim
  | succ n ih => intro l4_13 M h; exact wX1_draws_L33s hw hkf ih hK115_33 h
def fX1_draws_b115 (R20 : Int32 → gM → Prop) (l1_7 : Int32) (l2_8 : Int32) (l3_38 : Int32) (M : gM) (Q : gM → Prop) : Prop :=
  R20 (l3_38 + 1) M
theorem wX1_draws_b115 {kf : Nat} {G : gG} {w : gM → Nat → List (Nat × Value) → List Value → Prop} {Q : gM → Prop} (hw : gX yX1_draws cX1_draws 5 (Option.none : Option FieldType) [] kf G (gQv Q) gE0 w) (hkf : 2 ≤ kf) {R20 : Int32 → gM → Prop} {l1_7 : Int32} {l2_8 : Int32} {l3_38 : Int32} {M : gM} (hR20 : ∀ (v0 : Int32) (M : gM), R20 v0 M → w M 20 [(0, .ref (gA G 16)), (1, .int l1_7), (2, .int l2_8), (3, .int v0)] []) (h : fX1_draws_b115 R20 l1_7 l2_8 l3_38 M Q) : w M 115 [(0, .ref (gA G 16)), (1, .int l1_7), (2, .int l2_8), (3, .int l3_38)] [] := by
  unfold fX1_draws_b115 at h
  refine g_iinc hw (lv2 := [(0, .ref (gA G 16)), (1, .int l1_7), (2, .int l2_8), (3, .int (l3_38 + 1))]) 3 [1, 2, 3, 0] dX1_draws_115 rfl (by decide) rfl rfl ?_
  refine g_goto (tgt := 20) hw dX1_draws_118 (by decide) ?_
  exact hR20 (l3_38 + 1) M h
def fX1_draws_L20s (R20 : Int32 → gM → Prop) (K121_20 : gM → Prop) (l1_7 : Int32) (l2_8 : Int32) (l3_9 : Int32) (M : gM) (Q : gM → Prop) : Prop :=
  gk M 16 = 1 ∧ (if (1 <<< ((gI M 16 25) &&& 31)) ≤ l3_9 then K121_20 M else ∃ n, fX1_draws_L33 (fun M37 => fX1_draws_b115 R20 l1_7 l2_8 l3_9 M37 Q) l1_7 l2_8 l3_9 Q n 0 M)
def fX1_draws_L20 (K121_20 : gM → Prop) (l1_7 : Int32) (l2_8 : Int32) (Q : gM → Prop) : Nat → Int32 → gM → Prop
  | 0 => fun _ _ => False
  | n + 1 => fun l3_9 M => fX1_draws_L20s (fX1_draws_L20 K121_20 l1_7 l2_8 Q n) K121_20 l1_7 l2_8 l3_9 M Q
theorem wX1_draws_L20s {kf : Nat} {G : gG} {w : gM → Nat → List (Nat × Value) → List Value → Prop} {Q : gM → Prop} (hw : gX yX1_draws cX1_draws 5 (Option.none : Option FieldType) [] kf G (gQv Q) gE0 w) (hkf : 2 ≤ kf) {R20 : Int32 → gM → Prop} {K121_20 : gM → Prop} {l1_7 : Int32} {l2_8 : Int32} {l3_9 : Int32} {M : gM} (hR20 : ∀ (v0 : Int32) (M : gM), R20 v0 M → w M 20 [(0, .ref (gA G 16)), (1, .int l1_7), (2, .int l2_8), (3, .int v0)] []) (hK121_20 : ∀  (M : gM), K121_20 M → w M 121 [] []) (h : fX1_draws_L20s R20 K121_20 l1_7 l2_8 l3_9 M Q) : w M 20 [(0, .ref (gA G 16)), (1, .int l1_7), (2, .int l2_8), (3, .int l3_9)] [] := by
  unfold fX1_draws_L20s at h
  refine g_iload_n hw 3 dX1_draws_20 rfl ?_
  refine g_iconst (v := 1) hw dX1_draws_21 (by decide) ?_
  refine g_aload_n hw 0 dX1_draws_22 rfl ?_
  obtain ⟨hk10, h⟩ := h
  refine gfX1_372 hw rfl dX1_draws_23 hk10 ?_
  refine g_ishl hw dX1_draws_26 ?_
  refine g_icmp_ge (tgt := 121) hw dX1_draws_27 (by decide) (fun hb11 => ?_) (fun hb11 => ?_)
  · have h := gT h hb11
    refine g_sub hw (lv2 := []) [] rfl ?_
    exact hK121_20 M h
  · have h := gF h hb11
    refine g_iconst (v := 0) hw dX1_draws_30 (by decide) ?_
    refine g_istore hw (lv2 := [(0, .ref (gA G 16)), (1, .int l1_7), (2, .int l2_8), (3, .int l3_9), (4, .int 0)]) [1, 2, 3, 4, 0] dX1_draws_31 rfl rfl ?_
    obtain ⟨n9, h⟩ := h
    refine wX1_draws_L33 hw hkf (fun M37 h => ?_) n9 0 M h
    exact wX1_draws_b115 hw hkf hR20 h
theorem wX1_draws_L20 {kf : Nat} {G : gG} {w : gM → Nat → List (Nat × Value) → List Value → Prop} {Q : gM → Prop} (hw : gX yX1_draws cX1_draws 5 (Option.none : Option FieldType) [] kf G (gQv Q) gE0 w) (hkf : 2 ≤ kf) {K121_20 : gM → Prop} {l1_7 : Int32} {l2_8 : Int32} (hK121_20 : ∀  (M : gM), K121_20 M → w M 121 [] []) : ∀ (n : Nat) (l3_9 : Int32) (M : gM), fX1_draws_L20 K121_20 l1_7 l2_8 Q n l3_9 M → w M 20 [(0, .ref (gA G 16)), (1, .int l1_7), (2, .int l2_8), (3, .int l3_9)] [] := by
  intro n
  induction n with
  | zero => intro l3_9 M h; exact h.elim
  | succ n ih => intro l3_9 M h; exact wX1_draws_L20s hw hkf ih hK121_20 h
def fX1_draws (p1 : Int32) (M : gM) (Q : gM → Prop) : Prop :=
  gk M 16 = 1 ∧ fX1_above M (fun r3 M2 => fJ10_signum r3 M2 (fun r5 M4 => gk M4 16 = 1 ∧ ∃ n, fX1_draws_L20 (fun M39 => Q M39) p1 r5 Q n 0 (gsI (gsL M4 16 13 0) 16 15 0)))
theorem mX1_draws {kf : Nat} (hkf : 2 ≤ kf) (G : gG) (p1 : Int32) (M : gM) (Q : gM → Prop) (h : fX1_draws p1 M Q) : gMet yX1_draws cX1_draws 5 (Option.none : Option FieldType) kf G M [.ref (gA G 16), .int p1] (gQv Q) gE0 := by
  refine g_intro (lv := [(0, .ref (gA G 16)), (1, .int p1)]) (by decide) rfl rfl (fun w hw => ?_)
  unfold fX1_draws at h
  refine g_aload_n hw 0 dX1_draws_0 rfl ?_
  obtain ⟨hk1, h⟩ := h
  refine sX1_211 hw rfl dX1_draws_1 rfl (gK2 hkf) hk1 h (fun r3 M2 h => ?_)
  refine sX1_316 hw rfl dX1_draws_4 rfl (gK2 hkf) h (fun r5 M4 h => ?_)
  refine g_istore_n hw (lv2 := [(0, .ref (gA G 16)), (1, .int p1), (2, .int r5)]) [1, 2, 0] dX1_draws_7 rfl rfl ?_
  refine g_aload_n hw 0 dX1_draws_8 rfl ?_
  refine g_lconst (v := 0) hw dX1_draws_9 (by decide) ?_
  obtain ⟨hk6, h⟩ := h
  refine pfX1_243 hw rfl dX1_draws_10 hk6 ?_
  refine g_aload_n hw 0 dX1_draws_13 rfl ?_
  refine g_iconst (v := 0) hw dX1_draws_14 (by decide) ?_
  refine pfX1_237 hw rfl dX1_draws_15 hk6 ?_
  refine g_iconst (v := 0) hw dX1_draws_18 (by decide) ?_
  refine g_istore_n hw (lv2 := [(0, .ref (gA G 16)), (1, .int p1), (2, .int r5), (3, .int 0)]) [1, 2, 3, 0] dX1_draws_19 rfl rfl ?_
  obtain ⟨n9, h⟩ := h
  refine wX1_draws_L20 hw hkf (fun M39 h => ?_) n9 0 (gsI (gsL M4 16 13 0) 16 15 0) h
  exact g_vret hw dX1_draws_121 ⟨rfl, h⟩
