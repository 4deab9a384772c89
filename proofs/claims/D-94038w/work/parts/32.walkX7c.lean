set_option maxRecDepth 100000
theorem gfX7_346 {y0 : MethodName} {cc : ByteArray} {nL : Nat} {ret : Option FieldType} {hh : List (Nat × Nat × Nat × Nat)} {kf : Nat} {G : gG} {Qv : Option Value → gM → Prop} {E : String → Nat → gM → Prop} {w : gM → Nat → List (Nat × Value) → List Value → Prop} {M : gM} {pc : Nat} {lv : List (Nat × Value)} {rest : List Value} (hw : gX y0 cc nL ret hh kf G Qv E w) (hy : y0.cls = RX7) {c : Nat} (d : decode cc pc = .ok (.getfield 346, 3)) (hk : gk M c = 7) (kk : w M (pc + 3) lv (.int (gI M c 45) :: rest)) : w M pc lv (.ref (gA G c) :: rest) := by
  obtain ⟨cls9, nm9, ds9⟩ := y0
  subst hy
  exact g_getC (C := RX7) (T := TX7) (N := 58) (ci := 6) hw in_X7 rfl 45 (by decide) (Or.inl q1201) rfl d hk kk
theorem gfX7_145 {y0 : MethodName} {cc : ByteArray} {nL : Nat} {ret : Option FieldType} {hh : List (Nat × Nat × Nat × Nat)} {kf : Nat} {G : gG} {Qv : Option Value → gM → Prop} {E : String → Nat → gM → Prop} {w : gM → Nat → List (Nat × Value) → List Value → Prop} {M : gM} {pc : Nat} {lv : List (Nat × Value)} {rest : List Value} (hw : gX y0 cc nL ret hh kf G Qv E w) (hy : y0.cls = RX7) {c : Nat} {q : Option Nat} (d : decode cc pc = .ok (.getfield 145, 3)) (hk : gk M c = 7) (hq : gR M c 35 = q) (kk : w M (pc + 3) lv (va_rf (q.map (gA G)) :: rest)) : w M pc lv (.ref (gA G c) :: rest) := by
  obtain ⟨cls9, nm9, ds9⟩ := y0
  subst hy
  subst hq
  exact g_getC (C := RX7) (T := TX7) (N := 58) (ci := 6) hw in_X7 rfl 35 (by decide) (Or.inl q1191) rfl d hk kk
def fX7_factHere_b34 (R5 : Int32 → Int32 → gM → Prop) (l2_9 : Int32) (s0_10 : Int32) (M : gM) (Q : Int32 → gM → Prop) : Prop :=
  R5 s0_10 (l2_9 + 1) M
theorem wX7_factHere_b34 {kf : Nat} {G : gG} {w : gM → Nat → List (Nat × Value) → List Value → Prop} {Q : Int32 → gM → Prop} (hw : gX yX7_factHere cX7_factHere 3 (Option.some FieldType.int) [] kf G (gQi Q) gE0 w) (hkf : 2 ≤ kf) {R5 : Int32 → Int32 → gM → Prop} {l2_9 : Int32} {s0_10 : Int32} {M : gM} (hR5 : ∀ (v0 : Int32) (v1 : Int32) (M : gM), R5 v0 v1 M → w M 5 [(0, .ref (gA G 268)), (1, .int v0), (2, .int v1)] []) (h : fX7_factHere_b34 R5 l2_9 s0_10 M Q) : w M 34 [(0, .ref (gA G 268)), (2, .int l2_9)] [.int s0_10] := by
  unfold fX7_factHere_b34 at h
  refine g_istore_n hw (lv2 := [(0, .ref (gA G 268)), (1, .int s0_10), (2, .int l2_9)]) [1, 0, 2] dX7_factHere_34 rfl rfl ?_
  refine g_iinc hw (lv2 := [(0, .ref (gA G 268)), (1, .int s0_10), (2, .int (l2_9 + 1))]) 2 [1, 2, 0] dX7_factHere_35 rfl (by decide) rfl rfl ?_
  refine g_goto (tgt := 5) hw dX7_factHere_38 (by decide) ?_
  exact hR5 s0_10 (l2_9 + 1) M h
def fX7_factHere_L5s (R5 : Int32 → Int32 → gM → Prop) (K41_5 : Int32 → gM → Prop) (l1_1 : Int32) (l2_2 : Int32) (M : gM) (Q : Int32 → gM → Prop) : Prop :=
  (if 18 ≤ l2_2 then K41_5 l1_1 M else gk M 268 = 7 ∧ (if (gI M 268 45) = 0 then fX7_isWord l2_2 M (fun r7 M6 => (if r7 = 0 then fX7_factHere_b34 R5 l2_2 l1_1 M6 Q else fX7_factHere_b34 R5 l2_2 (l2_2 - 8) M6 Q)) else K41_5 l1_1 M))
def fX7_factHere_L5 (K41_5 : Int32 → gM → Prop) (Q : Int32 → gM → Prop) : Nat → Int32 → Int32 → gM → Prop
  | 0 => fun _ _ _ => False
  | n + 1 => fun l1_1 l2_2 M => fX7_factHere_L5s (fX7_factHere_L5 K41_5 Q n) K41_5 l1_1 l2_2 M Q
theorem wX7_factHere_L5s {kf : Nat} {G : gG} {w : gM → Nat → List (Nat × Value) → List Value → Prop} {Q : Int32 → gM → Prop} (hw : gX yX7_factHere cX7_factHere 3 (Option.some FieldType.int) [] kf G (gQi Q) gE0 w) (hkf : 2 ≤ kf) {R5 : Int32 → Int32 → gM → Prop} {K41_5 : Int32 → gM → Prop} {l1_1 : Int32} {l2_2 : Int32} {M : gM} (hR5 : ∀ (v0 : Int32) (v1 : Int32) (M : gM), R5 v0 v1 M → w M 5 [(0, .ref (gA G 268)), (1, .int v0), (2, .int v1)] []) (hK41_5 : ∀ (v0 : Int32) (M : gM), K41_5 v0 M → w M 41 [(0, .ref (gA G 268)), (1, .int v0)] []) (h : fX7_factHere_L5s R5 K41_5 l1_1 l2_2 M Q) : w M 5 [(0, .ref (gA G 268)), (1, .int l1_1), (2, .int l2_2)] [] := by
  unfold fX7_factHere_L5s at h
  refine g_iload_n hw 2 dX7_factHere_5 rfl ?_
  refine g_bipush (v := 18) hw dX7_factHere_6 (by decide) ?_
  refine g_icmp_ge (tgt := 41) hw dX7_factHere_8 (by decide) (fun hb3 => ?_) (fun hb3 => ?_)
  · have h := gT h hb3
    refine g_sub hw (lv2 := [(0, .ref (gA G 268)), (1, .int l1_1)]) [0, 1] rfl ?_
    exact hK41_5 l1_1 M h
  · have h := gF h hb3
    refine g_aload_n hw 0 dX7_factHere_11 rfl ?_
    obtain ⟨hk4, h⟩ := h
    refine gfX7_346 hw rfl dX7_factHere_12 hk4 ?_
    refine g_if_ne (tgt := 41) hw dX7_factHere_15 (by decide) (fun hb5 => ?_) (fun hb5 => ?_)
    · have h := gF h hb5
      refine g_sub hw (lv2 := [(0, .ref (gA G 268)), (1, .int l1_1)]) [0, 1] rfl ?_
      exact hK41_5 l1_1 M h
    · have h := gT h hb5
      refine g_aload_n hw 0 dX7_factHere_18 rfl ?_
      refine g_iload_n hw 2 dX7_factHere_19 rfl ?_
      refine sX7_247 hw rfl dX7_factHere_20 rfl (gK2 hkf) hk4 h (fun r7 M6 h => ?_)
      refine g_if_eq (tgt := 33) hw dX7_factHere_23 (by decide) (fun hb8 => ?_) (fun hb8 => ?_)
      · have h := gT h hb8
        refine g_iload_n hw 1 dX7_factHere_33 rfl ?_
        refine g_sub hw (lv2 := [(0, .ref (gA G 268)), (2, .int l2_2)]) [0, 2] rfl ?_
        exact wX7_factHere_b34 hw hkf hR5 h
      · have h := gF h hb8
        refine g_iload_n hw 2 dX7_factHere_26 rfl ?_
        refine g_bipush (v := 8) hw dX7_factHere_27 (by decide) ?_
        refine g_isub hw dX7_factHere_29 ?_
        refine g_goto (tgt := 34) hw dX7_factHere_30 (by decide) ?_
        refine g_sub hw (lv2 := [(0, .ref (gA G 268)), (2, .int l2_2)]) [0, 2] rfl ?_
        exact wX7_factHere_b34 hw hkf hR5 h
theorem wX7_factHere_L5 {kf : Nat} {G : gG} {w : gM → Nat → List (Nat × Value) → List Value → Prop} {Q : Int32 → gM → Prop} (hw : gX yX7_factHere cX7_factHere 3 (Option.some FieldType.int) [] kf G (gQi Q) gE0 w) (hkf : 2 ≤ kf) {K41_5 : Int32 → gM → Prop} (hK41_5 : ∀ (v0 : Int32) (M : gM), K41_5 v0 M → w M 41 [(0, .ref (gA G 268)), (1, .int v0)] []) : ∀ (n : Nat) (l1_1 : Int32) (l2_2 : Int32) (M : gM), fX7_factHere_L5 K41_5 Q n l1_1 l2_2 M → w M 5 [(0, .ref (gA G 268)), (1, .int l1_1), (2, .int l2_2)] [] := by
  intro n
  induction n with
  | zero => intro l1_1 l2_2 M h; exact h.elim
  | succ n ih => intro l1_1 l2_2 M h; exact wX7_factHere_L5s hw hkf ih hK41_5 h
def fX7_factHere_b74 (R43 : Int32 → Int32 → gM → Prop) (l2_26 : Int32) (s0_27 : Int32) (M : gM) (Q : Int32 → gM → Prop) : Prop :=
  R43 s0_27 (l2_26 + 1) M
theorem wX7_factHere_b74 {kf : Nat} {G : gG} {w : gM → Nat → List (Nat × Value) → List Value → Prop} {Q : Int32 → gM → Prop} (hw : gX yX7_factHere cX7_factHere 3 (Option.some FieldType.int) [] kf G (gQi Q) gE0 w) (hkf : 2 ≤ kf) {R43 : Int32 → Int32 → gM → Prop} {l2_26 : Int32} {s0_27 : Int32} {M : gM} (hR43 : ∀ (v0 : Int32) (v1 : Int32) (M : gM), R43 v0 v1 M → w M 43 [(0, .ref (gA G 268)), (1, .int v0), (2, .int v1)] []) (h : fX7_factHere_b74 R43 l2_26 s0_27 M Q) : w M 74 [(0, .ref (gA G 268)), (2, .int l2_26)] [.int s0_27] := by
  unfold fX7_factHere_b74 at h
  refine g_istore_n hw (lv2 := [(0, .ref (gA G 268)), (1, .int s0_27), (2, .int l2_26)]) [1, 0, 2] dX7_factHere_74 rfl rfl ?_
  refine g_iinc hw (lv2 := [(0, .ref (gA G 268)), (1, .int s0_27), (2, .int (l2_26 + 1))]) 2 [1, 2, 0] dX7_factHere_75 rfl (by decide) rfl rfl ?_
  refine g_goto (tgt := 43) hw dX7_factHere_78 (by decide) ?_
  exact hR43 s0_27 (l2_26 + 1) M h
def fX7_factHere_L43s (R43 : Int32 → Int32 → gM → Prop) (K81_43 : Int32 → gM → Prop) (l1_14 : Int32) (l2_15 : Int32) (M : gM) (Q : Int32 → gM → Prop) : Prop :=
  (if 9 ≤ l2_15 then K81_43 l1_14 M else gk M 268 = 7 ∧ (if (gI M 268 45) = 0 then K81_43 l1_14 M else gdr (gR M 268 35) (fun a19 => gk M a19 = 40 ∧ vp_in l2_15 (gl M a19) ∧ fX7_isWord (gI M a19 l2_15.toNatClampNeg) M (fun r24 M23 => (if r24 = 0 then fX7_factHere_b74 R43 l2_15 l1_14 M23 Q else fX7_factHere_b74 R43 l2_15 l2_15 M23 Q)))))
def fX7_factHere_L43 (K81_43 : Int32 → gM → Prop) (Q : Int32 → gM → Prop) : Nat → Int32 → Int32 → gM → Prop
  | 0 => fun _ _ _ => False
  | n + 1 => fun l1_14 l2_15 M => fX7_factHere_L43s (fX7_factHere_L43 K81_43 Q n) K81_43 l1_14 l2_15 M Q
theorem wX7_factHere_L43s {kf : Nat} {G : gG} {w : gM → Nat → List (Nat × Value) → List Value → Prop} {Q : Int32 → gM → Prop} (hw : gX yX7_factHere cX7_factHere 3 (Option.some FieldType.int) [] kf G (gQi Q) gE0 w) (hkf : 2 ≤ kf) {R43 : Int32 → Int32 → gM → Prop} {K81_43 : Int32 → gM → Prop} {l1_14 : Int32} {l2_15 : Int32} {M : gM} (hR43 : ∀ (v0 : Int32) (v1 : Int32) (M : gM), R43 v0 v1 M → w M 43 [(0, .ref (gA G 268)), (1, .int v0), (2, .int v1)] []) (hK81_43 : ∀ (v0 : Int32) (M : gM), K81_43 v0 M → w M 81 [(1, .int v0)] []) (h : fX7_factHere_L43s R43 K81_43 l1_14 l2_15 M Q) : w M 43 [(0, .ref (gA G 268)), (1, .int l1_14), (2, .int l2_15)] [] := by
  unfold fX7_factHere_L43s at h
  refine g_iload_n hw 2 dX7_factHere_43 rfl ?_
  refine g_bipush (v := 9) hw dX7_factHere_44 (by decide) ?_
  refine g_icmp_ge (tgt := 81) hw dX7_factHere_46 (by decide) (fun hb16 => ?_) (fun hb16 => ?_)
  · have h := gT h hb16
    refine g_sub hw (lv2 := [(1, .int l1_14)]) [1] rfl ?_
    exact hK81_43 l1_14 M h
  · have h := gF h hb16
    refine g_aload_n hw 0 dX7_factHere_49 rfl ?_
    obtain ⟨hk17, h⟩ := h
    refine gfX7_346 hw rfl dX7_factHere_50 hk17 ?_
    refine g_if_eq (tgt := 81) hw dX7_factHere_53 (by decide) (fun hb18 => ?_) (fun hb18 => ?_)
    · have h := gT h hb18
      refine g_sub hw (lv2 := [(1, .int l1_14)]) [1] rfl ?_
      exact hK81_43 l1_14 M h
    · have h := gF h hb18
      refine g_aload_n hw 0 dX7_factHere_56 rfl ?_
      refine g_aload_n hw 0 dX7_factHere_57 rfl ?_
      obtain ⟨a19, e20, h⟩ := h
      refine gfX7_145 (q := some a19) hw rfl dX7_factHere_58 hk17 e20 ?_
      refine g_iload_n hw 2 dX7_factHere_61 rfl ?_
      obtain ⟨hk21, h⟩ := h
      obtain ⟨hi22, h⟩ := h
      refine g_iald (n := l2_15.toNatClampNeg) hw dX7_factHere_62 hk21 hi22 rfl ?_
      refine sX7_247 hw rfl dX7_factHere_63 rfl (gK2 hkf) hk17 h (fun r24 M23 h => ?_)
      refine g_if_eq (tgt := 73) hw dX7_factHere_66 (by decide) (fun hb25 => ?_) (fun hb25 => ?_)
      · have h := gT h hb25
        refine g_iload_n hw 1 dX7_factHere_73 rfl ?_
        refine g_sub hw (lv2 := [(0, .ref (gA G 268)), (2, .int l2_15)]) [0, 2] rfl ?_
        exact wX7_factHere_b74 hw hkf hR43 h
      · have h := gF h hb25
        refine g_iload_n hw 2 dX7_factHere_69 rfl ?_
        refine g_goto (tgt := 74) hw dX7_factHere_70 (by decide) ?_
        refine g_sub hw (lv2 := [(0, .ref (gA G 268)), (2, .int l2_15)]) [0, 2] rfl ?_
        exact wX7_factHere_b74 hw hkf hR43 h
theorem wX7_factHere_L43 {kf : Nat} {G : gG} {w : gM → Nat → List (Nat × Value) → List Value → Prop} {Q : Int32 → gM → Prop} (hw : gX yX7_factHere cX7_factHere 3 (Option.some FieldType.int) [] kf G (gQi Q) gE0 w) (hkf : 2 ≤ kf) {K81_43 : Int32 → gM → Prop} (hK81_43 : ∀ (v0 : Int32) (M : gM), K81_43 v0 M → w M 81 [(1, .int v0)] []) : ∀ (n : Nat) (l1_14 : Int32) (l2_15 : Int32) (M : gM), fX7_factHere_L43 K81_43 Q n l1_14 l2_15 M → w M 43 [(0, .ref (gA G 268)), (1, .int l1_14), (2, .int l2_15)] [] := by
  intro n
  induction n with
  | zero => intro l1_14 l2_15 M h; exact h.elim
  | succ n ih => intro l1_14 l2_15 M h; exact wX7_factHere_L43s hw hkf ih hK81_43 h
def fX7_factHere_b41 (l1_13 : Int32) (M : gM) (Q : Int32 → gM → Prop) : Prop :=
  ∃ n, fX7_factHere_L43 (fun l1_28 M29 => Q l1_28 M29) Q n l1_13 0 M
theorem wX7_factHere_b41 {kf : Nat} {G : gG} {w : gM → Nat → List (Nat × Value) → List Value → Prop} {Q : Int32 → gM → Prop} (hw : gX yX7_factHere cX7_factHere 3 (Option.some FieldType.int) [] kf G (gQi Q) gE0 w) (hkf : 2 ≤ kf)  {l1_13 : Int32} {M : gM}  (h : fX7_factHere_b41 l1_13 M Q) : w M 41 [(0, .ref (gA G 268)), (1, .int l1_13)] [] := by
  unfold fX7_factHere_b41 at h
  refine g_iconst (v := 0) hw dX7_factHere_41 (by decide) ?_
  refine g_istore_n hw (lv2 := [(0, .ref (gA G 268)), (1, .int l1_13), (2, .int 0)]) [1, 2, 0] dX7_factHere_42 rfl rfl ?_
  obtain ⟨n9, h⟩ := h
  refine wX7_factHere_L43 hw hkf (fun l1_28 M29 h => ?_) n9 l1_13 0 M h
  refine g_iload_n hw 0 dX7_factHere_81 rfl ?_
  exact g_iret hw dX7_factHere_82 rfl ⟨_, rfl, h⟩
def fX7_factHere  (M : gM) (Q : Int32 → gM → Prop) : Prop :=
  ∃ n, fX7_factHere_L5 (fun l1_11 M12 => fX7_factHere_b41 l1_11 M12 Q) Q n (-1) 8 M
theorem mX7_factHere {kf : Nat} (hkf : 2 ≤ kf) (G : gG)  (M : gM) (Q : Int32 → gM → Prop) (h : fX7_factHere M Q) : gMet yX7_factHere cX7_factHere 3 (Option.some FieldType.int) kf G M [.ref (gA G 268)] (gQi Q) gE0 := by
  refine g_intro (lv := [(0, .ref (gA G 268))]) (by decide) rfl rfl (fun w hw => ?_)
  unfold fX7_factHere at h
  refine g_iconst (v := (-1)) hw dX7_factHere_0 (by decide) ?_
  refine g_istore_n hw (lv2 := [(0, .ref (gA G 268)), (1, .int (-1))]) [1, 0] dX7_factHere_1 rfl rfl ?_
  refine g_bipush (v := 8) hw dX7_factHere_2 (by decide) ?_
  refine g_istore_n hw (lv2 := [(0, .ref (gA G 268)), (1, .int (-1)), (2, .int 8)]) [1, 2, 0] dX7_factHere_4 rfl rfl ?_
  obtain ⟨n9, h⟩ := h
  refine wX7_factHere_L5 hw hkf (fun l1_11 M12 h => ?_) n9 (-1) 8 M h
  exact wX7_factHere_b41 hw hkf h
def fX7_takeSign (p1 : Int32) (M : gM) (Q : gM → Prop) : Prop :=
  gk M 268 = 7 ∧ fX7_isSign p1 M (fun r3 M2 => (if r3 = 0 then gk M2 268 = 7 ∧ fX7_wrong 1 M2 (fun M6 => Q M6) else gk M2 268 = 7 ∧ Q (gsI M2 268 7 ((gI M2 268 7) + 1))))
theorem mX7_takeSign {kf : Nat} (hkf : 2 ≤ kf) (G : gG) (p1 : Int32) (M : gM) (Q : gM → Prop) (h : fX7_takeSign p1 M Q) : gMet yX7_takeSign cX7_takeSign 2 (Option.none : Option FieldType) kf G M [.ref (gA G 268), .int p1] (gQv Q) gE0 := by
  refine g_intro (lv := [(0, .ref (gA G 268)), (1, .int p1)]) (by decide) rfl rfl (fun w hw => ?_)
  unfold fX7_takeSign at h
  refine g_aload_n hw 0 dX7_takeSign_0 rfl ?_
  refine g_iload_n hw 1 dX7_takeSign_1 rfl ?_
  obtain ⟨hk1, h⟩ := h
  refine sX7_240 hw rfl dX7_takeSign_2 rfl (gK2 hkf) hk1 h (fun r3 M2 h => ?_)
  refine g_if_eq (tgt := 21) hw dX7_takeSign_5 (by decide) (fun hb4 => ?_) (fun hb4 => ?_)
  · have h := gT h hb4
    refine g_aload_n hw 0 dX7_takeSign_21 rfl ?_
    refine g_iconst (v := 1) hw dX7_takeSign_22 (by decide) ?_
    obtain ⟨hk5, h⟩ := h
    refine sX7_243 hw rfl dX7_takeSign_23 rfl (gK2 hkf) hk5 h (fun M6 h => ?_)
    exact g_vret hw dX7_takeSign_26 ⟨rfl, h⟩
  · have h := gF h hb4
    refine g_aload_n hw 0 dX7_takeSign_8 rfl ?_
    refine g_dup hw dX7_takeSign_9 rfl ?_
    obtain ⟨hk8, h⟩ := h
    refine gfX7_234 hw rfl dX7_takeSign_10 hk8 ?_
    refine g_iconst (v := 1) hw dX7_takeSign_13 (by decide) ?_
    refine g_iadd hw dX7_takeSign_14 ?_
    refine pfX7_234 hw rfl dX7_takeSign_15 hk8 ?_
    refine g_goto (tgt := 26) hw dX7_takeSign_18 (by decide) ?_
    exact g_vret hw dX7_takeSign_26 ⟨rfl, h⟩
theorem sX7_384 {y0 : MethodName} {cc : ByteArray} {nL : Nat} {ret : Option FieldType} {hh : List (Nat × Nat × Nat × Nat)} {kf : Nat} {G : gG} {Qv : Option Value → gM → Prop} {E : String → Nat → gM → Prop} {w : gM → Nat → List (Nat × Value) → List Value → Prop} {M : gM} {pc : Nat} {lv : List (Nat × Value)} {rest : List Value} (hw : gX y0 cc nL ret hh kf G Qv E w) (hy : y0.cls = RX7)  {Q : Int32 → gM → Prop} (d : decode cc pc = .ok (.invokevirtual 384, 3)) (hrest : Nat.ble ((rest.map Value.category).sum) 8 = true) (hk : 2 + 1 ≤ kf) (hkd : gk M 268 = 7) (h : fX7_factHere M Q) (kk : ∀ r M1, Q r M1 → w M1 (pc + 3) lv (.int r :: rest)) : w M pc lv (.ref (gA G 268) :: rest) := by
  obtain ⟨cls9, nm9, ds9⟩ := y0
  subst hy
  exact g_callV (r := (RX7, TX7, 58)) (ci := 6) hw [] (nA := 0) rfl d q1536 q1538 qs68 q104 q1539 (by decide +kernel) rfl rfl hrest rfl (by omega : kf - 1 + 1 ≤ kf) hkd (mX7_factHere (kf := kf - 1) (by omega) G M Q h) (fun _ _ _ q => q.elim) (fun v M1 h => by obtain ⟨r, rfl, h⟩ := h; exact kk r M1 h)
theorem sX7_359P {y0 : MethodName} {cc : ByteArray} {nL : Nat} {ret : Option FieldType} {hh : List (Nat × Nat × Nat × Nat)} {kf : Nat} {G : gG} {Qv : Option Value → gM → Prop} {E : String → Nat → gM → Prop} {w : gM → Nat → List (Nat × Value) → List Value → Prop} {M : gM} {pc : Nat} {lv : List (Nat × Value)} {rest : List Value} (hw : gX y0 cc nL ret hh kf G Qv E w) (hy : y0.cls = RX7) {p1 : Int32} {Q : gM → Prop} (d : decode cc pc = .ok (.invokevirtual 359, 3)) (hrest : Nat.ble ((rest.map Value.category).sum) 8 = true) {v : Nat} {P : Int32 → gM → (gM → Prop) → Prop} {j : Nat} (hk : v + (j + 5) ≤ kf) (hv : 2 ≤ v) (hP : ∀ (kf : Nat) (p1 : Int32) (M : gM) (Q : gM → Prop), v ≤ kf → P p1 M Q → gMet yX7_takePart cX7_takePart 4 (Option.none : Option FieldType) kf G M [.ref (gA G 268), .int p1] (gQv Q) gE0) (hkd : gk M 268 = 7) (h : fX7_all P p1 M Q) (kk : ∀ M1, Q M1 → w M1 (pc + 3) lv rest) : w M pc lv (.int p1 :: .ref (gA G 268) :: rest) := by
  obtain ⟨cls9, nm9, ds9⟩ := y0
  subst hy
  exact g_callV (r := (RX7, TX7, 58)) (ci := 6) hw [.int p1] (nA := 1) rfl d q1516 q1518 qs63 q104 q1519 (by decide +kernel) rfl rfl hrest rfl (by omega : kf - 1 + 1 ≤ kf) hkd (mX7_all G (kf := kf - 1) (by omega) hv hP p1 M Q h) (fun _ _ _ q => q.elim) (fun v M1 h => by obtain ⟨rfl, h⟩ := h; exact kk M1 h)
theorem sX7_366 {y0 : MethodName} {cc : ByteArray} {nL : Nat} {ret : Option FieldType} {hh : List (Nat × Nat × Nat × Nat)} {kf : Nat} {G : gG} {Qv : Option Value → gM → Prop} {E : String → Nat → gM → Prop} {w : gM → Nat → List (Nat × Value) → List Value → Prop} {M : gM} {pc : Nat} {lv : List (Nat × Value)} {rest : List Value} (hw : gX y0 cc nL ret hh kf G Qv E w) (hy : y0.cls = RX7) {p1 : Int32} {Q : gM → Prop} (d : decode cc pc = .ok (.invokevirtual 366, 3)) (hrest : Nat.ble ((rest.map Value.category).sum) 8 = true) (hk : 2 + 1 ≤ kf) (hkd : gk M 268 = 7) (h : fX7_takeSign p1 M Q) (kk : ∀ M1, Q M1 → w M1 (pc + 3) lv rest) : w M pc lv (.int p1 :: .ref (gA G 268) :: rest) := by
  obtain ⟨cls9, nm9, ds9⟩ := y0
  subst hy
  exact g_callV (r := (RX7, TX7, 58)) (ci := 6) hw [.int p1] (nA := 1) rfl d q1552 q1554 qs72 q104 q1555 (by decide +kernel) rfl rfl hrest rfl (by omega : kf - 1 + 1 ≤ kf) hkd (mX7_takeSign (kf := kf - 1) (by omega) G p1 M Q h) (fun _ _ _ q => q.elim) (fun v M1 h => by obtain ⟨rfl, h⟩ := h; exact kk M1 h)
def fX7_takePart_b162 (P : Int32 → gM → (gM → Prop) → Prop) (s1_36 : Int32) (s2_37 : Int32) (M : gM) (Q : gM → Prop) : Prop :=
  gk M 268 = 7 ∧ fX7_emit s1_36 s2_37 M (fun M39 => gk M39 268 = 7 ∧ Q (gsI M39 268 7 ((gI M39 268 7) + 1)))
theorem wX7_takePart_b162 {kf : Nat} {G : gG} {w : gM → Nat → List (Nat × Value) → List Value → Prop} {Q : gM → Prop} (hw : gX yX7_takePart cX7_takePart 4 (Option.none : Option FieldType) [] kf G (gQv Q) gE0 w) {v : Nat} {P : Int32 → gM → (gM → Prop) → Prop} (hkf : v + 5 ≤ kf) (hv : 2 ≤ v) (hP : ∀ (kf : Nat) (p1 : Int32) (M : gM) (Q : gM → Prop), v ≤ kf → P p1 M Q → gMet yX7_takePart cX7_takePart 4 (Option.none : Option FieldType) kf G M [.ref (gA G 268), .int p1] (gQv Q) gE0)  {s1_36 : Int32} {s2_37 : Int32} {M : gM}  (h : fX7_takePart_b162 P s1_36 s2_37 M Q) : w M 162 [(0, .ref (gA G 268))] [.int s2_37, .int s1_36, .ref (gA G 268)] := by
  unfold fX7_takePart_b162 at h
  obtain ⟨hk38, h⟩ := h
  refine sX7_362 hw rfl dX7_takePart_162 rfl (by omega) hk38 h (fun M39 h => ?_)
  refine g_aload_n hw 0 dX7_takePart_165 rfl ?_
  refine g_dup hw dX7_takePart_166 rfl ?_
  obtain ⟨hk41, h⟩ := h
  refine gfX7_234 hw rfl dX7_takePart_167 hk41 ?_
  refine g_iconst (v := 1) hw dX7_takePart_170 (by decide) ?_
  refine g_iadd hw dX7_takePart_171 ?_
  refine pfX7_234 hw rfl dX7_takePart_172 hk41 ?_
  exact g_vret hw dX7_takePart_175 ⟨rfl, h⟩
def fX7_takePart_b144 (P : Int32 → gM → (gM → Prop) → Prop) (l2_32 : Int32) (l3_33 : Int32) (s1_34 : Int32) (M : gM) (Q : gM → Prop) : Prop :=
  (if l3_33 = 0 then fX7_takePart_b162 P s1_34 l2_32 M Q else gk M 268 = 7 ∧ gdr (gR M 268 6) (fun a43 => gk M a43 = 41 ∧ vp_in (gI M 268 7) (gl M a43) ∧ fX7_takePart_b162 P s1_34 ((gL M a43 ((gI M 268 7).toNatClampNeg)).toInt32) M Q))
theorem wX7_takePart_b144 {kf : Nat} {G : gG} {w : gM → Nat → List (Nat × Value) → List Value → Prop} {Q : gM → Prop} (hw : gX yX7_takePart cX7_takePart 4 (Option.none : Option FieldType) [] kf G (gQv Q) gE0 w) {v : Nat} {P : Int32 → gM → (gM → Prop) → Prop} (hkf : v + 5 ≤ kf) (hv : 2 ≤ v) (hP : ∀ (kf : Nat) (p1 : Int32) (M : gM) (Q : gM → Prop), v ≤ kf → P p1 M Q → gMet yX7_takePart cX7_takePart 4 (Option.none : Option FieldType) kf G M [.ref (gA G 268), .int p1] (gQv Q) gE0)  {l2_32 : Int32} {l3_33 : Int32} {s1_34 : Int32} {M : gM}  (h : fX7_takePart_b144 P l2_32 l3_33 s1_34 M Q) : w M 144 [(0, .ref (gA G 268)), (2, .int l2_32), (3, .int l3_33)] [.int s1_34, .ref (gA G 268)] := by
  unfold fX7_takePart_b144 at h
  refine g_iload_n hw 2 dX7_takePart_144 rfl ?_
  refine g_if_eq (tgt := 161) hw dX7_takePart_145 (by decide) (fun hb35 => ?_) (fun hb35 => ?_)
  · have h := gT h hb35
    refine g_iload_n hw 1 dX7_takePart_161 rfl ?_
    refine g_sub hw (lv2 := [(0, .ref (gA G 268))]) [0] rfl ?_
    exact wX7_takePart_b162 hw hkf hv hP h
  · have h := gF h hb35
    refine g_aload_n hw 0 dX7_takePart_148 rfl ?_
    obtain ⟨hk42, h⟩ := h
    obtain ⟨a43, e44, h⟩ := h
    refine gfX7_30 (q := some a43) hw rfl dX7_takePart_149 hk42 e44 ?_
    refine g_aload_n hw 0 dX7_takePart_152 rfl ?_
    refine gfX7_234 hw rfl dX7_takePart_153 hk42 ?_
    obtain ⟨hk45, h⟩ := h
    obtain ⟨hi46, h⟩ := h
    refine g_lald (n := (gI M 268 7).toNatClampNeg) hw dX7_takePart_156 hk45 hi46 rfl ?_
    refine g_l2i hw dX7_takePart_157 ?_
    refine g_goto (tgt := 162) hw dX7_takePart_158 (by decide) ?_
    refine g_sub hw (lv2 := [(0, .ref (gA G 268))]) [0] rfl ?_
    exact wX7_takePart_b162 hw hkf hv hP h
def fX7_takePart_b76 (P : Int32 → gM → (gM → Prop) → Prop) (l1_19 : Int32) (l2_20 : Int32) (l3_21 : Int32) (M : gM) (Q : gM → Prop) : Prop :=
  gk M 268 = 7 ∧ (if (gI M 268 8) ≤ 0 then fX7_hasWord 7 M (fun r25 M24 => (if r25 = 0 then gk M24 268 = 7 ∧ fX7_hasSign 40 M24 (fun r29 M28 => (if r29 = 0 then (if l3_21 = 0 then fX7_takePart_b144 P l2_20 l3_21 2 M28 Q else fX7_takePart_b144 P l2_20 l3_21 1 M28 Q) else gk M28 268 = 7 ∧ fX7_all P (l1_19 + 1) M28 (fun M48 => gk M48 268 = 7 ∧ fX7_takeSign 41 M48 (fun M51 => Q M51)))) else gk M24 268 = 7 ∧ P (l1_19 + 1) M24 (fun M54 => gk M54 268 = 7 ∧ fX7_emit 3 0 M54 (fun M57 => Q M57)))) else Q M)
theorem wX7_takePart_b76 {kf : Nat} {G : gG} {w : gM → Nat → List (Nat × Value) → List Value → Prop} {Q : gM → Prop} (hw : gX yX7_takePart cX7_takePart 4 (Option.none : Option FieldType) [] kf G (gQv Q) gE0 w) {v : Nat} {P : Int32 → gM → (gM → Prop) → Prop} (hkf : v + 5 ≤ kf) (hv : 2 ≤ v) (hP : ∀ (kf : Nat) (p1 : Int32) (M : gM) (Q : gM → Prop), v ≤ kf → P p1 M Q → gMet yX7_takePart cX7_takePart 4 (Option.none : Option FieldType) kf G M [.ref (gA G 268), .int p1] (gQv Q) gE0)  {l1_19 : Int32} {l2_20 : Int32} {l3_21 : Int32} {M : gM}  (h : fX7_takePart_b76 P l1_19 l2_20 l3_21 M Q) : w M 76 [(0, .ref (gA G 268)), (1, .int l1_19), (2, .int l2_20), (3, .int l3_21)] [] := by
  unfold fX7_takePart_b76 at h
  refine g_aload_n hw 0 dX7_takePart_76 rfl ?_
  obtain ⟨hk22, h⟩ := h
  refine gfX7_237 hw rfl dX7_takePart_77 hk22 ?_
  refine g_if_le (tgt := 84) hw dX7_takePart_80 (by decide) (fun hb23 => ?_) (fun hb23 => ?_)
  · have h := gT h hb23
    refine g_aload_n hw 0 dX7_takePart_84 rfl ?_
    refine g_bipush (v := 7) hw dX7_takePart_85 (by decide) ?_
    refine sX7_250 hw rfl dX7_takePart_87 rfl (by omega) hk22 h (fun r25 M24 h => ?_)
    refine g_if_eq (tgt := 109) hw dX7_takePart_90 (by decide) (fun hb26 => ?_) (fun hb26 => ?_)
    · have h := gT h hb26
      refine g_aload_n hw 0 dX7_takePart_109 rfl ?_
      refine g_bipush (v := 40) hw dX7_takePart_110 (by decide) ?_
      obtain ⟨hk27, h⟩ := h
      refine sX7_375 hw rfl dX7_takePart_112 rfl (by omega) hk27 h (fun r29 M28 h => ?_)
      refine g_if_eq (tgt := 134) hw dX7_takePart_115 (by decide) (fun hb30 => ?_) (fun hb30 => ?_)
      · have h := gT h hb30
        refine g_aload_n hw 0 dX7_takePart_134 rfl ?_
        refine g_iload_n hw 3 dX7_takePart_135 rfl ?_
        refine g_if_eq (tgt := 143) hw dX7_takePart_136 (by decide) (fun hb31 => ?_) (fun hb31 => ?_)
        · have h := gT h hb31
          refine g_iconst (v := 2) hw dX7_takePart_143 (by decide) ?_
          refine g_sub hw (lv2 := [(0, .ref (gA G 268)), (2, .int l2_20), (3, .int l3_21)]) [0, 2, 3] rfl ?_
          exact wX7_takePart_b144 hw hkf hv hP h
        · have h := gF h hb31
          refine g_iconst (v := 1) hw dX7_takePart_139 (by decide) ?_
          refine g_goto (tgt := 144) hw dX7_takePart_140 (by decide) ?_
          refine g_sub hw (lv2 := [(0, .ref (gA G 268)), (2, .int l2_20), (3, .int l3_21)]) [0, 2, 3] rfl ?_
          exact wX7_takePart_b144 hw hkf hv hP h
      · have h := gF h hb30
        refine g_aload_n hw 0 dX7_takePart_118 rfl ?_
        refine g_iload_n hw 1 dX7_takePart_119 rfl ?_
        refine g_iconst (v := 1) hw dX7_takePart_120 (by decide) ?_
        refine g_iadd hw dX7_takePart_121 ?_
        obtain ⟨hk47, h⟩ := h
        refine sX7_359P hw rfl dX7_takePart_122 rfl hkf hv hP hk47 h (fun M48 h => ?_)
        refine g_aload_n hw 0 dX7_takePart_125 rfl ?_
        refine g_bipush (v := 41) hw dX7_takePart_126 (by decide) ?_
        obtain ⟨hk50, h⟩ := h
        refine sX7_366 hw rfl dX7_takePart_128 rfl (by omega) hk50 h (fun M51 h => ?_)
        refine g_goto (tgt := 175) hw dX7_takePart_131 (by decide) ?_
        exact g_vret hw dX7_takePart_175 ⟨rfl, h⟩
    · have h := gF h hb26
      refine g_aload_n hw 0 dX7_takePart_93 rfl ?_
      refine g_iload_n hw 1 dX7_takePart_94 rfl ?_
      refine g_iconst (v := 1) hw dX7_takePart_95 (by decide) ?_
      refine g_iadd hw dX7_takePart_96 ?_
      obtain ⟨hk53, h⟩ := h
      refine sX7_381P hw rfl dX7_takePart_97 rfl hkf hv hP hk53 h (fun M54 h => ?_)
      refine g_aload_n hw 0 dX7_takePart_100 rfl ?_
      refine g_iconst (v := 3) hw dX7_takePart_101 (by decide) ?_
      refine g_iconst (v := 0) hw dX7_takePart_102 (by decide) ?_
      obtain ⟨hk56, h⟩ := h
      refine sX7_362 hw rfl dX7_takePart_103 rfl (by omega) hk56 h (fun M57 h => ?_)
      refine g_goto (tgt := 175) hw dX7_takePart_106 (by decide) ?_
      exact g_vret hw dX7_takePart_175 ⟨rfl, h⟩
  · have h := gF h hb23
    exact g_vret hw dX7_takePart_83 ⟨rfl, h⟩
def fX7_takePart_b66 (P : Int32 → gM → (gM → Prop) → Prop) (l1_15 : Int32) (l2_16 : Int32) (l3_17 : Int32) (M : gM) (Q : gM → Prop) : Prop :=
  (if l1_15 = 5 then gk M 268 = 7 ∧ fX7_wrong 5 M (fun M60 => fX7_takePart_b76 P l1_15 l2_16 l3_17 M60 Q) else fX7_takePart_b76 P l1_15 l2_16 l3_17 M Q)
theorem wX7_takePart_b66 {kf : Nat} {G : gG} {w : gM → Nat → List (Nat × Value) → List Value → Prop} {Q : gM → Prop} (hw : gX yX7_takePart cX7_takePart 4 (Option.none : Option FieldType) [] kf G (gQv Q) gE0 w) {v : Nat} {P : Int32 → gM → (gM → Prop) → Prop} (hkf : v + 5 ≤ kf) (hv : 2 ≤ v) (hP : ∀ (kf : Nat) (p1 : Int32) (M : gM) (Q : gM → Prop), v ≤ kf → P p1 M Q → gMet yX7_takePart cX7_takePart 4 (Option.none : Option FieldType) kf G M [.ref (gA G 268), .int p1] (gQv Q) gE0)  {l1_15 : Int32} {l2_16 : Int32} {l3_17 : Int32} {M : gM}  (h : fX7_takePart_b66 P l1_15 l2_16 l3_17 M Q) : w M 66 [(0, .ref (gA G 268)), (1, .int l1_15), (2, .int l2_16), (3, .int l3_17)] [] := by
  unfold fX7_takePart_b66 at h
  refine g_iload_n hw 1 dX7_takePart_66 rfl ?_
  refine g_iconst (v := 5) hw dX7_takePart_67 (by decide) ?_
  refine g_icmp_ne (tgt := 76) hw dX7_takePart_68 (by decide) (fun hb18 => ?_) (fun hb18 => ?_)
  · have h := gF h hb18
    exact wX7_takePart_b76 hw hkf hv hP h
  · have h := gT h hb18
    refine g_aload_n hw 0 dX7_takePart_71 rfl ?_
    refine g_iconst (v := 5) hw dX7_takePart_72 (by decide) ?_
    obtain ⟨hk59, h⟩ := h
    refine sX7_243 hw rfl dX7_takePart_73 rfl (by omega) hk59 h (fun M60 h => ?_)
    exact wX7_takePart_b76 hw hkf hv hP h
def fX7_takePart_b31 (P : Int32 → gM → (gM → Prop) → Prop) (l1_11 : Int32) (l2_12 : Int32) (s0_13 : Int32) (M : gM) (Q : gM → Prop) : Prop :=
  (if 0 ≤ l2_12 then fX7_takePart_b66 P l1_11 l2_12 s0_13 M Q else (if s0_13 = 0 then gk M 268 = 7 ∧ fX7_isSign 40 M (fun r65 M64 => (if r65 = 0 then gk M64 268 = 7 ∧ fX7_isWord 7 M64 (fun r69 M68 => (if r69 = 0 then gk M68 268 = 7 ∧ fX7_wrong 1 M68 (fun M72 => fX7_takePart_b76 P l1_11 l2_12 s0_13 M72 Q) else fX7_takePart_b66 P l1_11 l2_12 s0_13 M68 Q)) else fX7_takePart_b66 P l1_11 l2_12 s0_13 M64 Q)) else fX7_takePart_b66 P l1_11 l2_12 s0_13 M Q))
theorem wX7_takePart_b31 {kf : Nat} {G : gG} {w : gM → Nat → List (Nat × Value) → List Value → Prop} {Q : gM → Prop} (hw : gX yX7_takePart cX7_takePart 4 (Option.none : Option FieldType) [] kf G (gQv Q) gE0 w) {v : Nat} {P : Int32 → gM → (gM → Prop) → Prop} (hkf : v + 5 ≤ kf) (hv : 2 ≤ v) (hP : ∀ (kf : Nat) (p1 : Int32) (M : gM) (Q : gM → Prop), v ≤ kf → P p1 M Q → gMet yX7_takePart cX7_takePart 4 (Option.none : Option FieldType) kf G M [.ref (gA G 268), .int p1] (gQv Q) gE0)  {l1_11 : Int32} {l2_12 : Int32} {s0_13 : Int32} {M : gM}  (h : fX7_takePart_b31 P l1_11 l2_12 s0_13 M Q) : w M 31 [(0, .ref (gA G 268)), (1, .int l1_11), (2, .int l2_12)] [.int s0_13] := by
  unfold fX7_takePart_b31 at h
  refine g_istore_n hw (lv2 := [(0, .ref (gA G 268)), (1, .int l1_11), (2, .int l2_12), (3, .int s0_13)]) [1, 2, 3, 0] dX7_takePart_31 rfl rfl ?_
  refine g_iload_n hw 2 dX7_takePart_32 rfl ?_
  refine g_if_ge (tgt := 66) hw dX7_takePart_33 (by decide) (fun hb14 => ?_) (fun hb14 => ?_)
  · have h := gT h hb14
    exact wX7_takePart_b66 hw hkf hv hP h
  · have h := gF h hb14
    refine g_iload_n hw 3 dX7_takePart_36 rfl ?_
    refine g_if_ne (tgt := 66) hw dX7_takePart_37 (by decide) (fun hb62 => ?_) (fun hb62 => ?_)
    · have h := gF h hb62
      exact wX7_takePart_b66 hw hkf hv hP h
    · have h := gT h hb62
      refine g_aload_n hw 0 dX7_takePart_40 rfl ?_
      refine g_bipush (v := 40) hw dX7_takePart_41 (by decide) ?_
      obtain ⟨hk63, h⟩ := h
      refine sX7_240 hw rfl dX7_takePart_43 rfl (by omega) hk63 h (fun r65 M64 h => ?_)
      refine g_if_ne (tgt := 66) hw dX7_takePart_46 (by decide) (fun hb66 => ?_) (fun hb66 => ?_)
      · have h := gF h hb66
        exact wX7_takePart_b66 hw hkf hv hP h
      · have h := gT h hb66
        refine g_aload_n hw 0 dX7_takePart_49 rfl ?_
        refine g_bipush (v := 7) hw dX7_takePart_50 (by decide) ?_
        obtain ⟨hk67, h⟩ := h
        refine sX7_247 hw rfl dX7_takePart_52 rfl (by omega) hk67 h (fun r69 M68 h => ?_)
        refine g_if_ne (tgt := 66) hw dX7_takePart_55 (by decide) (fun hb70 => ?_) (fun hb70 => ?_)
        · have h := gF h hb70
          exact wX7_takePart_b66 hw hkf hv hP h
        · have h := gT h hb70
          refine g_aload_n hw 0 dX7_takePart_58 rfl ?_
          refine g_iconst (v := 1) hw dX7_takePart_59 (by decide) ?_
          obtain ⟨hk71, h⟩ := h
          refine sX7_243 hw rfl dX7_takePart_60 rfl (by omega) hk71 h (fun M72 h => ?_)
          refine g_goto (tgt := 76) hw dX7_takePart_63 (by decide) ?_
          exact wX7_takePart_b76 hw hkf hv hP h
def fX7_takePart_s (P : Int32 → gM → (gM → Prop) → Prop) (p1 : Int32) (M : gM) (Q : gM → Prop) : Prop :=
  gk M 268 = 7 ∧ (if (gI M 268 8) ≤ 0 then fX7_factHere M (fun r4 M3 => gk M3 268 = 7 ∧ gdr (gR M3 268 4) (fun a6 => gk M3 a6 = 40 ∧ vp_in (gI M3 268 7) (gl M3 a6) ∧ (if (gI M3 a6 ((gI M3 268 7).toNatClampNeg)) = 2 then fX7_takePart_b31 P p1 r4 1 M3 Q else fX7_takePart_b31 P p1 r4 0 M3 Q))) else Q M)
theorem mX7_takePart_s {kf : Nat} (G : gG) {v : Nat} {P : Int32 → gM → (gM → Prop) → Prop} (hkf : v + 5 ≤ kf) (hv : 2 ≤ v) (hP : ∀ (kf : Nat) (p1 : Int32) (M : gM) (Q : gM → Prop), v ≤ kf → P p1 M Q → gMet yX7_takePart cX7_takePart 4 (Option.none : Option FieldType) kf G M [.ref (gA G 268), .int p1] (gQv Q) gE0) (p1 : Int32) (M : gM) (Q : gM → Prop) (h : fX7_takePart_s P p1 M Q) : gMet yX7_takePart cX7_takePart 4 (Option.none : Option FieldType) kf G M [.ref (gA G 268), .int p1] (gQv Q) gE0 := by
  refine g_intro (lv := [(0, .ref (gA G 268)), (1, .int p1)]) (by decide) rfl rfl (fun w hw => ?_)
  unfold fX7_takePart_s at h
  refine g_aload_n hw 0 dX7_takePart_0 rfl ?_
  obtain ⟨hk1, h⟩ := h
  refine gfX7_237 hw rfl dX7_takePart_1 hk1 ?_
  refine g_if_le (tgt := 8) hw dX7_takePart_4 (by decide) (fun hb2 => ?_) (fun hb2 => ?_)
  · have h := gT h hb2
    refine g_aload_n hw 0 dX7_takePart_8 rfl ?_
    refine sX7_384 hw rfl dX7_takePart_9 rfl (by omega) hk1 h (fun r4 M3 h => ?_)
    refine g_istore_n hw (lv2 := [(0, .ref (gA G 268)), (1, .int p1), (2, .int r4)]) [1, 2, 0] dX7_takePart_12 rfl rfl ?_
    refine g_aload_n hw 0 dX7_takePart_13 rfl ?_
    obtain ⟨hk5, h⟩ := h
    obtain ⟨a6, e7, h⟩ := h
    refine gfX7_24 (q := some a6) hw rfl dX7_takePart_14 hk5 e7 ?_
    refine g_aload_n hw 0 dX7_takePart_17 rfl ?_
    refine gfX7_234 hw rfl dX7_takePart_18 hk5 ?_
    obtain ⟨hk8, h⟩ := h
    obtain ⟨hi9, h⟩ := h
    refine g_iald (n := (gI M3 268 7).toNatClampNeg) hw dX7_takePart_21 hk8 hi9 rfl ?_
    refine g_iconst (v := 2) hw dX7_takePart_22 (by decide) ?_
    refine g_icmp_ne (tgt := 30) hw dX7_takePart_23 (by decide) (fun hb10 => ?_) (fun hb10 => ?_)
    · have h := gF h hb10
      refine g_iconst (v := 0) hw dX7_takePart_30 (by decide) ?_
      exact wX7_takePart_b31 hw hkf hv hP h
    · have h := gT h hb10
      refine g_iconst (v := 1) hw dX7_takePart_26 (by decide) ?_
      refine g_goto (tgt := 31) hw dX7_takePart_27 (by decide) ?_
      exact wX7_takePart_b31 hw hkf hv hP h
  · have h := gF h hb2
    exact g_vret hw dX7_takePart_7 ⟨rfl, h⟩
def fX7_takePart : Nat → Int32 → gM → (gM → Prop) → Prop
  | 0 => fun _ _ _ => False
  | n + 1 => fun p1 M Q => fX7_takePart_s (fX7_takePart n) p1 M Q
theorem mX7_takePart (G : gG) : ∀ (n kf : Nat) (p1 : Int32) (M : gM) (Q : gM → Prop), 5 * n + 2 ≤ kf → fX7_takePart n p1 M Q → gMet yX7_takePart cX7_takePart 4 (Option.none : Option FieldType) kf G M [.ref (gA G 268), .int p1] (gQv Q) gE0 := by
  intro n
  induction n with
  | zero => intro kf p1 M Q hk h; exact h.elim
  | succ n ih => intro kf p1 M Q hk h; exact mX7_takePart_s G (v := 5 * n + 2) (P := fX7_takePart n) (by omega) (by omega) (fun kf p1 M Q hk h => ih kf p1 M Q hk h) p1 M Q h
theorem sX7_359 {y0 : MethodName} {cc : ByteArray} {nL : Nat} {ret : Option FieldType} {hh : List (Nat × Nat × Nat × Nat)} {kf : Nat} {G : gG} {Qv : Option Value → gM → Prop} {E : String → Nat → gM → Prop} {w : gM → Nat → List (Nat × Value) → List Value → Prop} {M : gM} {pc : Nat} {lv : List (Nat × Value)} {rest : List Value} (hw : gX y0 cc nL ret hh kf G Qv E w) (hy : y0.cls = RX7) {p1 : Int32} {Q : gM → Prop} (d : decode cc pc = .ok (.invokevirtual 359, 3)) (hrest : Nat.ble ((rest.map Value.category).sum) 8 = true) {n : Nat} (hk : 46 + 1 ≤ kf) (hn : n ≤ 8) (hkd : gk M 268 = 7) (h : fX7_all (fX7_takePart n) p1 M Q) (kk : ∀ M1, Q M1 → w M1 (pc + 3) lv rest) : w M pc lv (.int p1 :: .ref (gA G 268) :: rest) := by
  obtain ⟨cls9, nm9, ds9⟩ := y0
  subst hy
  exact g_callV (r := (RX7, TX7, 58)) (ci := 6) hw [.int p1] (nA := 1) rfl d q1516 q1518 qs63 q104 q1519 (by decide +kernel) rfl rfl hrest rfl (by omega : kf - 1 + 1 ≤ kf) hkd (mX7_all G (kf := kf - 1) (v := 5 * n + 2) (by omega) (by omega) (fun kf p1 M Q hk h => mX7_takePart G n kf p1 M Q hk h) p1 M Q h) (fun _ _ _ q => q.elim) (fun v M1 h => by obtain ⟨rfl, h⟩ := h; exact kk M1 h)
theorem sX7_356 {y0 : MethodName} {cc : ByteArray} {nL : Nat} {ret : Option FieldType} {hh : List (Nat × Nat × Nat × Nat)} {kf : Nat} {G : gG} {Qv : Option Value → gM → Prop} {E : String → Nat → gM → Prop} {w : gM → Nat → List (Nat × Value) → List Value → Prop} {M : gM} {pc : Nat} {lv : List (Nat × Value)} {rest : List Value} (hw : gX y0 cc nL ret hh kf G Qv E w) (hy : y0.cls = RX7) {p1 : Int32} {Q : gM → Prop} (d : decode cc pc = .ok (.invokevirtual 356, 3)) (hrest : Nat.ble ((rest.map Value.category).sum) 8 = true) (hk : 3 + 1 ≤ kf) (hkd : gk M 268 = 7) (h : fX7_takeWord p1 M Q) (kk : ∀ M1, Q M1 → w M1 (pc + 3) lv rest) : w M pc lv (.int p1 :: .ref (gA G 268) :: rest) := by
  obtain ⟨cls9, nm9, ds9⟩ := y0
  subst hy
  exact g_callV (r := (RX7, TX7, 58)) (ci := 6) hw [.int p1] (nA := 1) rfl d q1508 q1510 qs61 q104 q1511 (by decide +kernel) rfl rfl hrest rfl (by omega : kf - 1 + 1 ≤ kf) hkd (mX7_takeWord (kf := kf - 1) (by omega) G p1 M Q h) (fun _ _ _ q => q.elim) (fun v M1 h => by obtain ⟨rfl, h⟩ := h; exact kk M1 h)
def fX7_readLine_b22 (R4 : Int32 → Int32 → gM → Prop) (l2_8 : Int32) (s0_9 : Int32) (M : gM) (Q : gM → Prop) : Prop :=
  R4 s0_9 (l2_8 + 1) M
theorem wX7_readLine_b22 {kf : Nat} {G : gG} {w : gM → Nat → List (Nat × Value) → List Value → Prop} {Q : gM → Prop} (hw : gX yX7_readLine cX7_readLine 3 (Option.none : Option FieldType) [] kf G (gQv Q) gE0 w) (hkf : 47 ≤ kf) {R4 : Int32 → Int32 → gM → Prop} {l2_8 : Int32} {s0_9 : Int32} {M : gM} (hR4 : ∀ (v0 : Int32) (v1 : Int32) (M : gM), R4 v0 v1 M → w M 4 [(0, .ref (gA G 268)), (1, .int v0), (2, .int v1)] []) (h : fX7_readLine_b22 R4 l2_8 s0_9 M Q) : w M 22 [(0, .ref (gA G 268)), (2, .int l2_8)] [.int s0_9] := by
  unfold fX7_readLine_b22 at h
  refine g_istore_n hw (lv2 := [(0, .ref (gA G 268)), (1, .int s0_9), (2, .int l2_8)]) [1, 0, 2] dX7_readLine_22 rfl rfl ?_
  refine g_iinc hw (lv2 := [(0, .ref (gA G 268)), (1, .int s0_9), (2, .int (l2_8 + 1))]) 2 [1, 2, 0] dX7_readLine_23 rfl (by decide) rfl rfl ?_
  refine g_goto (tgt := 4) hw dX7_readLine_26 (by decide) ?_
  exact hR4 s0_9 (l2_8 + 1) M h
def fX7_readLine_L4s (R4 : Int32 → Int32 → gM → Prop) (K29_4 : Int32 → gM → Prop) (l1_1 : Int32) (l2_2 : Int32) (M : gM) (Q : gM → Prop) : Prop :=
  (if 3 < l2_2 then K29_4 l1_1 M else gk M 268 = 7 ∧ fX7_isWord l2_2 M (fun r6 M5 => (if r6 = 0 then fX7_readLine_b22 R4 l2_2 l1_1 M5 Q else fX7_readLine_b22 R4 l2_2 l2_2 M5 Q)))
def fX7_readLine_L4 (K29_4 : Int32 → gM → Prop) (Q : gM → Prop) : Nat → Int32 → Int32 → gM → Prop
  | 0 => fun _ _ _ => False
  | n + 1 => fun l1_1 l2_2 M => fX7_readLine_L4s (fX7_readLine_L4 K29_4 Q n) K29_4 l1_1 l2_2 M Q
theorem wX7_readLine_L4s {kf : Nat} {G : gG} {w : gM → Nat → List (Nat × Value) → List Value → Prop} {Q : gM → Prop} (hw : gX yX7_readLine cX7_readLine 3 (Option.none : Option FieldType) [] kf G (gQv Q) gE0 w) (hkf : 47 ≤ kf) {R4 : Int32 → Int32 → gM → Prop} {K29_4 : Int32 → gM → Prop} {l1_1 : Int32} {l2_2 : Int32} {M : gM} (hR4 : ∀ (v0 : Int32) (v1 : Int32) (M : gM), R4 v0 v1 M → w M 4 [(0, .ref (gA G 268)), (1, .int v0), (2, .int v1)] []) (hK29_4 : ∀ (v0 : Int32) (M : gM), K29_4 v0 M → w M 29 [(0, .ref (gA G 268)), (1, .int v0)] []) (h : fX7_readLine_L4s R4 K29_4 l1_1 l2_2 M Q) : w M 4 [(0, .ref (gA G 268)), (1, .int l1_1), (2, .int l2_2)] [] := by
  unfold fX7_readLine_L4s at h
  refine g_iload_n hw 2 dX7_readLine_4 rfl ?_
  refine g_iconst (v := 3) hw dX7_readLine_5 (by decide) ?_
  refine g_icmp_gt (tgt := 29) hw dX7_readLine_6 (by decide) (fun hb3 => ?_) (fun hb3 => ?_)
  · have h := gT h hb3
    refine g_sub hw (lv2 := [(0, .ref (gA G 268)), (1, .int l1_1)]) [0, 1] rfl ?_
    exact hK29_4 l1_1 M h
  · have h := gF h hb3
    refine g_aload_n hw 0 dX7_readLine_9 rfl ?_
    refine g_iload_n hw 2 dX7_readLine_10 rfl ?_
    obtain ⟨hk4, h⟩ := h
    refine sX7_247 hw rfl dX7_readLine_11 rfl (gK2 hkf) hk4 h (fun r6 M5 h => ?_)
    refine g_if_eq (tgt := 21) hw dX7_readLine_14 (by decide) (fun hb7 => ?_) (fun hb7 => ?_)
    · have h := gT h hb7
      refine g_iload_n hw 1 dX7_readLine_21 rfl ?_
      refine g_sub hw (lv2 := [(0, .ref (gA G 268)), (2, .int l2_2)]) [0, 2] rfl ?_
      exact wX7_readLine_b22 hw hkf hR4 h
    · have h := gF h hb7
      refine g_iload_n hw 2 dX7_readLine_17 rfl ?_
      refine g_goto (tgt := 22) hw dX7_readLine_18 (by decide) ?_
      refine g_sub hw (lv2 := [(0, .ref (gA G 268)), (2, .int l2_2)]) [0, 2] rfl ?_
      exact wX7_readLine_b22 hw hkf hR4 h
theorem wX7_readLine_L4 {kf : Nat} {G : gG} {w : gM → Nat → List (Nat × Value) → List Value → Prop} {Q : gM → Prop} (hw : gX yX7_readLine cX7_readLine 3 (Option.none : Option FieldType) [] kf G (gQv Q) gE0 w) (hkf : 47 ≤ kf) {K29_4 : Int32 → gM → Prop} (hK29_4 : ∀ (v0 : Int32) (M : gM), K29_4 v0 M → w M 29 [(0, .ref (gA G 268)), (1, .int v0)] []) : ∀ (n : Nat) (l1_1 : Int32) (l2_2 : Int32) (M : gM), fX7_readLine_L4 K29_4 Q n l1_1 l2_2 M → w M 4 [(0, .ref (gA G 268)), (1, .int l1_1), (2, .int l2_2)] [] := by
  intro n
  induction n with
  | zero => intro l1_1 l2_2 M h; exact h.elim
  | succ n ih => intro l1_1 l2_2 M h; exact wX7_readLine_L4s hw hkf ih hK29_4 h
def fX7_readLine_b86 (l1_23 : Int32) (M : gM) (Q : gM → Prop) : Prop :=
  gk M 268 = 7 ∧ gdr (gR M 268 31) (fun a25 => gk M a25 = 40 ∧ vp_in (16 + l1_23) (gl M a25) ∧ ∃ n9, n9 ≤ 8 ∧ fX7_all (fX7_takePart n9) 0 (gsI M a25 ((16 + l1_23).toNatClampNeg) (gI M 268 32)) (fun M29 => gk M29 268 = 7 ∧ fX7_emit 0 0 M29 (fun M32 => gk M32 268 = 7 ∧ fX7_takeSign 59 M32 (fun M35 => Q M35))))
theorem wX7_readLine_b86 {kf : Nat} {G : gG} {w : gM → Nat → List (Nat × Value) → List Value → Prop} {Q : gM → Prop} (hw : gX yX7_readLine cX7_readLine 3 (Option.none : Option FieldType) [] kf G (gQv Q) gE0 w) (hkf : 47 ≤ kf)  {l1_23 : Int32} {M : gM}  (h : fX7_readLine_b86 l1_23 M Q) : w M 86 [(0, .ref (gA G 268)), (1, .int l1_23)] [] := by
  unfold fX7_readLine_b86 at h
  refine g_aload_n hw 0 dX7_readLine_86 rfl ?_
  obtain ⟨hk24, h⟩ := h
  obtain ⟨a25, e26, h⟩ := h
  refine gfX7_136 (q := some a25) hw rfl dX7_readLine_87 hk24 e26 ?_
  refine g_bipush (v := 16) hw dX7_readLine_90 (by decide) ?_
  refine g_iload_n hw 1 dX7_readLine_92 rfl ?_
  refine g_iadd hw dX7_readLine_93 ?_
  refine g_aload_n hw 0 dX7_readLine_94 rfl ?_
  refine gfX7_340 hw rfl dX7_readLine_95 hk24 ?_
  obtain ⟨hk27, h⟩ := h
  obtain ⟨hi28, h⟩ := h
  refine g_iast (n := (16 + l1_23).toNatClampNeg) hw dX7_readLine_98 hk27 hi28 rfl ?_
  refine g_aload_n hw 0 dX7_readLine_99 rfl ?_
  refine g_iconst (v := 0) hw dX7_readLine_100 (by decide) ?_
  obtain ⟨n9, hn9, h⟩ := h
  refine sX7_359 hw rfl dX7_readLine_101 rfl (gK2 hkf) hn9 hk24 h (fun M29 h => ?_)
  refine g_aload_n hw 0 dX7_readLine_104 rfl ?_
  refine g_iconst (v := 0) hw dX7_readLine_105 (by decide) ?_
  refine g_iconst (v := 0) hw dX7_readLine_106 (by decide) ?_
  obtain ⟨hk31, h⟩ := h
  refine sX7_362 hw rfl dX7_readLine_107 rfl (gK2 hkf) hk31 h (fun M32 h => ?_)
  refine g_aload_n hw 0 dX7_readLine_110 rfl ?_
  refine g_bipush (v := 59) hw dX7_readLine_111 (by decide) ?_
  obtain ⟨hk34, h⟩ := h
  refine sX7_366 hw rfl dX7_readLine_113 rfl (gK2 hkf) hk34 h (fun M35 h => ?_)
  exact g_vret hw dX7_readLine_116 ⟨rfl, h⟩
def fX7_readLine_b58 (l1_19 : Int32) (M : gM) (Q : gM → Prop) : Prop :=
  gk M 268 = 7 ∧ (if (gI M 268 8) ≤ 0 then (if l1_19 ≤ 1 then fX7_readLine_b86 l1_19 (gsI M 268 7 ((gI M 268 7) + 1)) Q else fX7_takeWord 4 (gsI M 268 7 ((gI M 268 7) + 1)) (fun M37 => fX7_readLine_b86 l1_19 M37 Q)) else Q M)
theorem wX7_readLine_b58 {kf : Nat} {G : gG} {w : gM → Nat → List (Nat × Value) → List Value → Prop} {Q : gM → Prop} (hw : gX yX7_readLine cX7_readLine 3 (Option.none : Option FieldType) [] kf G (gQv Q) gE0 w) (hkf : 47 ≤ kf)  {l1_19 : Int32} {M : gM}  (h : fX7_readLine_b58 l1_19 M Q) : w M 58 [(0, .ref (gA G 268)), (1, .int l1_19)] [] := by
  unfold fX7_readLine_b58 at h
  refine g_aload_n hw 0 dX7_readLine_58 rfl ?_
  obtain ⟨hk20, h⟩ := h
  refine gfX7_237 hw rfl dX7_readLine_59 hk20 ?_
  refine g_if_le (tgt := 66) hw dX7_readLine_62 (by decide) (fun hb21 => ?_) (fun hb21 => ?_)
  · have h := gT h hb21
    refine g_aload_n hw 0 dX7_readLine_66 rfl ?_
    refine g_dup hw dX7_readLine_67 rfl ?_
    refine gfX7_234 hw rfl dX7_readLine_68 hk20 ?_
    refine g_iconst (v := 1) hw dX7_readLine_71 (by decide) ?_
    refine g_iadd hw dX7_readLine_72 ?_
    refine pfX7_234 hw rfl dX7_readLine_73 hk20 ?_
    refine g_iload_n hw 1 dX7_readLine_76 rfl ?_
    refine g_iconst (v := 1) hw dX7_readLine_77 (by decide) ?_
    refine g_icmp_le (tgt := 86) hw dX7_readLine_78 (by decide) (fun hb22 => ?_) (fun hb22 => ?_)
    · have h := gT h hb22
      exact wX7_readLine_b86 hw hkf h
    · have h := gF h hb22
      refine g_aload_n hw 0 dX7_readLine_81 rfl ?_
      refine g_iconst (v := 4) hw dX7_readLine_82 (by decide) ?_
      refine sX7_356 hw rfl dX7_readLine_83 rfl (gK2 hkf) hk20 h (fun M37 h => ?_)
      exact wX7_readLine_b86 hw hkf h
  · have h := gF h hb21
    exact g_vret hw dX7_readLine_65 ⟨rfl, h⟩
def fX7_readLine  (M : gM) (Q : gM → Prop) : Prop :=
  ∃ n, fX7_readLine_L4 (fun l1_10 M11 => (if 0 ≤ l1_10 then gk M11 268 = 7 ∧ gdr (gR M11 268 31) (fun a14 => gk M11 a14 = 40 ∧ vp_in (16 + l1_10) (gl M11 a14) ∧ (if (gI M11 a14 ((16 + l1_10).toNatClampNeg)) < 0 then fX7_readLine_b58 l1_10 M11 Q else fX7_wrong 3 M11 (fun M39 => fX7_readLine_b58 l1_10 M39 Q))) else gk M11 268 = 7 ∧ fX7_wrong 1 M11 (fun M42 => fX7_readLine_b58 l1_10 M42 Q))) Q n (-1) 0 M
theorem mX7_readLine {kf : Nat} (hkf : 47 ≤ kf) (G : gG)  (M : gM) (Q : gM → Prop) (h : fX7_readLine M Q) : gMet yX7_readLine cX7_readLine 3 (Option.none : Option FieldType) kf G M [.ref (gA G 268)] (gQv Q) gE0 := by
  refine g_intro (lv := [(0, .ref (gA G 268))]) (by decide) rfl rfl (fun w hw => ?_)
  unfold fX7_readLine at h
  refine g_iconst (v := (-1)) hw dX7_readLine_0 (by decide) ?_
  refine g_istore_n hw (lv2 := [(0, .ref (gA G 268)), (1, .int (-1))]) [1, 0] dX7_readLine_1 rfl rfl ?_
  refine g_iconst (v := 0) hw dX7_readLine_2 (by decide) ?_
  refine g_istore_n hw (lv2 := [(0, .ref (gA G 268)), (1, .int (-1)), (2, .int 0)]) [1, 2, 0] dX7_readLine_3 rfl rfl ?_
  obtain ⟨n9, h⟩ := h
  refine wX7_readLine_L4 hw hkf (fun l1_10 M11 h => ?_) n9 (-1) 0 M h
  refine g_iload_n hw 1 dX7_readLine_29 rfl ?_
  refine g_if_ge (tgt := 41) hw dX7_readLine_30 (by decide) (fun hb12 => ?_) (fun hb12 => ?_)
  · have h := gT h hb12
    refine g_aload_n hw 0 dX7_readLine_41 rfl ?_
    obtain ⟨hk13, h⟩ := h
    obtain ⟨a14, e15, h⟩ := h
    refine gfX7_136 (q := some a14) hw rfl dX7_readLine_42 hk13 e15 ?_
    refine g_bipush (v := 16) hw dX7_readLine_45 (by decide) ?_
    refine g_iload_n hw 1 dX7_readLine_47 rfl ?_
    refine g_iadd hw dX7_readLine_48 ?_
    obtain ⟨hk16, h⟩ := h
    obtain ⟨hi17, h⟩ := h
    refine g_iald (n := (16 + l1_10).toNatClampNeg) hw dX7_readLine_49 hk16 hi17 rfl ?_
    refine g_if_lt (tgt := 58) hw dX7_readLine_50 (by decide) (fun hb18 => ?_) (fun hb18 => ?_)
    · have h := gT h hb18
      exact wX7_readLine_b58 hw hkf h
    · have h := gF h hb18
      refine g_aload_n hw 0 dX7_readLine_53 rfl ?_
      refine g_iconst (v := 3) hw dX7_readLine_54 (by decide) ?_
      refine sX7_243 hw rfl dX7_readLine_55 rfl (gK2 hkf) hk13 h (fun M39 h => ?_)
      exact wX7_readLine_b58 hw hkf h
  · have h := gF h hb12
    refine g_aload_n hw 0 dX7_readLine_33 rfl ?_
    refine g_iconst (v := 1) hw dX7_readLine_34 (by decide) ?_
    obtain ⟨hk41, h⟩ := h
    refine sX7_243 hw rfl dX7_readLine_35 rfl (gK2 hkf) hk41 h (fun M42 h => ?_)
    refine g_goto (tgt := 58) hw dX7_readLine_38 (by decide) ?_
    exact wX7_readLine_b58 hw hkf h
def fX7_keepsCodes_b54 (R2 : Int32 → gM → Prop) (l1_1 : Int32) (l2_21 : Int32) (M : gM) (Q : gM → Prop) : Prop :=
  R2 (l2_21 + 1) M
theorem wX7_keepsCodes_b54 {kf : Nat} {G : gG} {w : gM → Nat → List (Nat × Value) → List Value → Prop} {Q : gM → Prop} (hw : gX yX7_keepsCodes cX7_keepsCodes 3 (Option.none : Option FieldType) [] kf G (gQv Q) gE0 w) (hkf : 1 ≤ kf) {R2 : Int32 → gM → Prop} {l1_1 : Int32} {l2_21 : Int32} {M : gM} (hR2 : ∀ (v0 : Int32) (M : gM), R2 v0 M → w M 2 [(0, .ref (gA G 268)), (1, .int l1_1), (2, .int v0)] []) (h : fX7_keepsCodes_b54 R2 l1_1 l2_21 M Q) : w M 54 [(0, .ref (gA G 268)), (1, .int l1_1), (2, .int l2_21)] [] := by
  unfold fX7_keepsCodes_b54 at h
  refine g_iinc hw (lv2 := [(0, .ref (gA G 268)), (1, .int l1_1), (2, .int (l2_21 + 1))]) 2 [1, 2, 0] dX7_keepsCodes_54 rfl (by decide) rfl rfl ?_
  refine g_goto (tgt := 2) hw dX7_keepsCodes_57 (by decide) ?_
  exact hR2 (l2_21 + 1) M h
def fX7_keepsCodes_L2s (R2 : Int32 → gM → Prop) (K60_2 : gM → Prop) (l1_1 : Int32) (l2_2 : Int32) (M : gM) (Q : gM → Prop) : Prop :=
  gk M 268 = 7 ∧ (if (gI M 268 32) ≤ l2_2 then K60_2 M else gdr (gR M 268 33) (fun a5 => gdr (gR M 268 33) (fun a7 => gk M a7 = 40 ∧ vp_in (4400 + l2_2) (gl M a7) ∧ gk M a5 = 40 ∧ vp_in ((1100 * l1_1) + l2_2) (gl M a5) ∧ gdr (gR (gsI M a5 (((1100 * l1_1) + l2_2).toNatClampNeg) (gI M a7 ((4400 + l2_2).toNatClampNeg))) 268 34) (fun a13 => gdr (gR (gsI M a5 (((1100 * l1_1) + l2_2).toNatClampNeg) (gI M a7 ((4400 + l2_2).toNatClampNeg))) 268 34) (fun a15 => gk (gsI M a5 (((1100 * l1_1) + l2_2).toNatClampNeg) (gI M a7 ((4400 + l2_2).toNatClampNeg))) a15 = 40 ∧ vp_in (4400 + l2_2) (gl (gsI M a5 (((1100 * l1_1) + l2_2).toNatClampNeg) (gI M a7 ((4400 + l2_2).toNatClampNeg))) a15) ∧ gk (gsI M a5 (((1100 * l1_1) + l2_2).toNatClampNeg) (gI M a7 ((4400 + l2_2).toNatClampNeg))) a13 = 40 ∧ vp_in ((1100 * l1_1) + l2_2) (gl (gsI M a5 (((1100 * l1_1) + l2_2).toNatClampNeg) (gI M a7 ((4400 + l2_2).toNatClampNeg))) a13) ∧ fX7_keepsCodes_b54 R2 l1_1 l2_2 (gsI (gsI M a5 (((1100 * l1_1) + l2_2).toNatClampNeg) (gI M a7 ((4400 + l2_2).toNatClampNeg))) a13 (((1100 * l1_1) + l2_2).toNatClampNeg) (gI (gsI M a5 (((1100 * l1_1) + l2_2).toNatClampNeg) (gI M a7 ((4400 + l2_2).toNatClampNeg))) a15 ((4400 + l2_2).toNatClampNeg))) Q)))))
def fX7_keepsCodes_L2 (K60_2 : gM → Prop) (l1_1 : Int32) (Q : gM → Prop) : Nat → Int32 → gM → Prop
  | 0 => fun _ _ => False
  | n + 1 => fun l2_2 M => fX7_keepsCodes_L2s (fX7_keepsCodes_L2 K60_2 l1_1 Q n) K60_2 l1_1 l2_2 M Q
theorem wX7_keepsCodes_L2s {kf : Nat} {G : gG} {w : gM → Nat → List (Nat × Value) → List Value → Prop} {Q : gM → Prop} (hw : gX yX7_keepsCodes cX7_keepsCodes 3 (Option.none : Option FieldType) [] kf G (gQv Q) gE0 w) (hkf : 1 ≤ kf) {R2 : Int32 → gM → Prop} {K60_2 : gM → Prop} {l1_1 : Int32} {l2_2 : Int32} {M : gM} (hR2 : ∀ (v0 : Int32) (M : gM), R2 v0 M → w M 2 [(0, .ref (gA G 268)), (1, .int l1_1), (2, .int v0)] []) (hK60_2 : ∀  (M : gM), K60_2 M → w M 60 [] []) (h : fX7_keepsCodes_L2s R2 K60_2 l1_1 l2_2 M Q) : w M 2 [(0, .ref (gA G 268)), (1, .int l1_1), (2, .int l2_2)] [] := by
  unfold fX7_keepsCodes_L2s at h
  refine g_iload_n hw 2 dX7_keepsCodes_2 rfl ?_
  refine g_aload_n hw 0 dX7_keepsCodes_3 rfl ?_
  obtain ⟨hk3, h⟩ := h
  refine gfX7_340 hw rfl dX7_keepsCodes_4 hk3 ?_
  refine g_icmp_ge (tgt := 60) hw dX7_keepsCodes_7 (by decide) (fun hb4 => ?_) (fun hb4 => ?_)
  · have h := gT h hb4
    refine g_sub hw (lv2 := []) [] rfl ?_
    exact hK60_2 M h
  · have h := gF h hb4
    refine g_aload_n hw 0 dX7_keepsCodes_10 rfl ?_
    obtain ⟨a5, e6, h⟩ := h
    refine gfX7_139 (q := some a5) hw rfl dX7_keepsCodes_11 hk3 e6 ?_
    refine g_sipush (v := 1100) hw dX7_keepsCodes_14 (by decide) ?_
    refine g_iload_n hw 1 dX7_keepsCodes_17 rfl ?_
    refine g_imul hw dX7_keepsCodes_18 ?_
    refine g_iload_n hw 2 dX7_keepsCodes_19 rfl ?_
    refine g_iadd hw dX7_keepsCodes_20 ?_
    refine g_aload_n hw 0 dX7_keepsCodes_21 rfl ?_
    obtain ⟨a7, e8, h⟩ := h
    refine gfX7_139 (q := some a7) hw rfl dX7_keepsCodes_22 hk3 e8 ?_
    refine g_sipush (v := 4400) hw dX7_keepsCodes_25 (by decide) ?_
    refine g_iload_n hw 2 dX7_keepsCodes_28 rfl ?_
    refine g_iadd hw dX7_keepsCodes_29 ?_
    obtain ⟨hk9, h⟩ := h
    obtain ⟨hi10, h⟩ := h
    refine g_iald (n := (4400 + l2_2).toNatClampNeg) hw dX7_keepsCodes_30 hk9 hi10 rfl ?_
    obtain ⟨hk11, h⟩ := h
    obtain ⟨hi12, h⟩ := h
    refine g_iast (n := ((1100 * l1_1) + l2_2).toNatClampNeg) hw dX7_keepsCodes_31 hk11 hi12 rfl ?_
    refine g_aload_n hw 0 dX7_keepsCodes_32 rfl ?_
    obtain ⟨a13, e14, h⟩ := h
    refine gfX7_142 (q := some a13) hw rfl dX7_keepsCodes_33 hk3 e14 ?_
    refine g_sipush (v := 1100) hw dX7_keepsCodes_36 (by decide) ?_
    refine g_iload_n hw 1 dX7_keepsCodes_39 rfl ?_
    refine g_imul hw dX7_keepsCodes_40 ?_
    refine g_iload_n hw 2 dX7_keepsCodes_41 rfl ?_
    refine g_iadd hw dX7_keepsCodes_42 ?_
    refine g_aload_n hw 0 dX7_keepsCodes_43 rfl ?_
    obtain ⟨a15, e16, h⟩ := h
    refine gfX7_142 (q := some a15) hw rfl dX7_keepsCodes_44 hk3 e16 ?_
    refine g_sipush (v := 4400) hw dX7_keepsCodes_47 (by decide) ?_
    refine g_iload_n hw 2 dX7_keepsCodes_50 rfl ?_
    refine g_iadd hw dX7_keepsCodes_51 ?_
    obtain ⟨hk17, h⟩ := h
    obtain ⟨hi18, h⟩ := h
    refine g_iald (n := (4400 + l2_2).toNatClampNeg) hw dX7_keepsCodes_52 hk17 hi18 rfl ?_
    obtain ⟨hk19, h⟩ := h
    obtain ⟨hi20, h⟩ := h
    refine g_iast (n := ((1100 * l1_1) + l2_2).toNatClampNeg) hw dX7_keepsCodes_53 hk19 hi20 rfl ?_
    exact wX7_keepsCodes_b54 hw hkf hR2 h
theorem wX7_keepsCodes_L2 {kf : Nat} {G : gG} {w : gM → Nat → List (Nat × Value) → List Value → Prop} {Q : gM → Prop} (hw : gX yX7_keepsCodes cX7_keepsCodes 3 (Option.none : Option FieldType) [] kf G (gQv Q) gE0 w) (hkf : 1 ≤ kf) {K60_2 : gM → Prop} {l1_1 : Int32} (hK60_2 : ∀  (M : gM), K60_2 M → w M 60 [] []) : ∀ (n : Nat) (l2_2 : Int32) (M : gM), fX7_keepsCodes_L2 K60_2 l1_1 Q n l2_2 M → w M 2 [(0, .ref (gA G 268)), (1, .int l1_1), (2, .int l2_2)] [] := by
  intro n
  induction n with
  | zero => intro l2_2 M h; exact h.elim
  | succ n ih => intro l2_2 M h; exact wX7_keepsCodes_L2s hw hkf ih hK60_2 h
def fX7_keepsCodes (p1 : Int32) (M : gM) (Q : gM → Prop) : Prop :=
  ∃ n, fX7_keepsCodes_L2 (fun M22 => Q M22) p1 Q n 0 M
theorem mX7_keepsCodes {kf : Nat} (hkf : 1 ≤ kf) (G : gG) (p1 : Int32) (M : gM) (Q : gM → Prop) (h : fX7_keepsCodes p1 M Q) : gMet yX7_keepsCodes cX7_keepsCodes 3 (Option.none : Option FieldType) kf G M [.ref (gA G 268), .int p1] (gQv Q) gE0 := by
  refine g_intro (lv := [(0, .ref (gA G 268)), (1, .int p1)]) (by decide) rfl rfl (fun w hw => ?_)
  unfold fX7_keepsCodes at h
  refine g_iconst (v := 0) hw dX7_keepsCodes_0 (by decide) ?_
  refine g_istore_n hw (lv2 := [(0, .ref (gA G 268)), (1, .int p1), (2, .int 0)]) [1, 2, 0] dX7_keepsCodes_1 rfl rfl ?_
  obtain ⟨n9, h⟩ := h
  refine wX7_keepsCodes_L2 hw hkf (fun M22 h => ?_) n9 0 M h
  exact g_vret hw dX7_keepsCodes_60 ⟨rfl, h⟩
theorem sX7_343 {y0 : MethodName} {cc : ByteArray} {nL : Nat} {ret : Option FieldType} {hh : List (Nat × Nat × Nat × Nat)} {kf : Nat} {G : gG} {Qv : Option Value → gM → Prop} {E : String → Nat → gM → Prop} {w : gM → Nat → List (Nat × Value) → List Value → Prop} {M : gM} {pc : Nat} {lv : List (Nat × Value)} {rest : List Value} (hw : gX y0 cc nL ret hh kf G Qv E w) (hy : y0.cls = RX7)  {Q : gM → Prop} (d : decode cc pc = .ok (.invokevirtual 343, 3)) (hrest : Nat.ble ((rest.map Value.category).sum) 8 = true) (hk : 3 + 1 ≤ kf) (hkd : gk M 268 = 7) (h : fX7_cutAll M Q) (kk : ∀ M1, Q M1 → w M1 (pc + 3) lv rest) : w M pc lv (.ref (gA G 268) :: rest) := by
  obtain ⟨cls9, nm9, ds9⟩ := y0
  subst hy
  exact g_callV (r := (RX7, TX7, 58)) (ci := 6) hw [] (nA := 0) rfl d q1477 q1479 qs57 q104 q1480 (by decide +kernel) rfl rfl hrest rfl (by omega : kf - 1 + 1 ≤ kf) hkd (mX7_cutAll (kf := kf - 1) (by omega) G M Q h) (fun _ _ _ q => q.elim) (fun v M1 h => by obtain ⟨rfl, h⟩ := h; exact kk M1 h)
theorem pfX7_346 {y0 : MethodName} {cc : ByteArray} {nL : Nat} {ret : Option FieldType} {hh : List (Nat × Nat × Nat × Nat)} {kf : Nat} {G : gG} {Qv : Option Value → gM → Prop} {E : String → Nat → gM → Prop} {w : gM → Nat → List (Nat × Value) → List Value → Prop} {M : gM} {pc : Nat} {lv : List (Nat × Value)} {rest : List Value} (hw : gX y0 cc nL ret hh kf G Qv E w) (hy : y0.cls = RX7) {c : Nat} {x : Int32} (d : decode cc pc = .ok (.putfield 346, 3)) (hk : gk M c = 7) (hx : x = 0 ∨ x = 1) (kk : w (gsI M c 45 x) (pc + 3) lv rest) : w M pc lv (.int x :: .ref (gA G c) :: rest) := by
  obtain ⟨cls9, nm9, ds9⟩ := y0
  subst hy
  exact g_putC (C := RX7) (T := TX7) (N := 58) (ci := 6) hw in_X7 tyX7 tyX7_ok nmX7 rfl 45 (by decide) (Or.inl ⟨q1201, Or.inl rfl⟩) (gBool hx) (gBoolF hx) (gOne_I M c 45 x) (by show Value.int (gI (gsI M c 45 x) c 45) = _; rw [gI_sI, if_pos ⟨rfl, rfl⟩]) d hk kk
theorem sX7_350 {y0 : MethodName} {cc : ByteArray} {nL : Nat} {ret : Option FieldType} {hh : List (Nat × Nat × Nat × Nat)} {kf : Nat} {G : gG} {Qv : Option Value → gM → Prop} {E : String → Nat → gM → Prop} {w : gM → Nat → List (Nat × Value) → List Value → Prop} {M : gM} {pc : Nat} {lv : List (Nat × Value)} {rest : List Value} (hw : gX y0 cc nL ret hh kf G Qv E w) (hy : y0.cls = RX7)  {Q : gM → Prop} (d : decode cc pc = .ok (.invokevirtual 350, 3)) (hrest : Nat.ble ((rest.map Value.category).sum) 8 = true) (hk : 47 + 1 ≤ kf) (hkd : gk M 268 = 7) (h : fX7_readLine M Q) (kk : ∀ M1, Q M1 → w M1 (pc + 3) lv rest) : w M pc lv (.ref (gA G 268) :: rest) := by
  obtain ⟨cls9, nm9, ds9⟩ := y0
  subst hy
  exact g_callV (r := (RX7, TX7, 58)) (ci := 6) hw [] (nA := 0) rfl d q1496 q1498 qs58 q104 q1499 (by decide +kernel) rfl rfl hrest rfl (by omega : kf - 1 + 1 ≤ kf) hkd (mX7_readLine (kf := kf - 1) (by omega) G M Q h) (fun _ _ _ q => q.elim) (fun v M1 h => by obtain ⟨rfl, h⟩ := h; exact kk M1 h)
theorem sX7_353 {y0 : MethodName} {cc : ByteArray} {nL : Nat} {ret : Option FieldType} {hh : List (Nat × Nat × Nat × Nat)} {kf : Nat} {G : gG} {Qv : Option Value → gM → Prop} {E : String → Nat → gM → Prop} {w : gM → Nat → List (Nat × Value) → List Value → Prop} {M : gM} {pc : Nat} {lv : List (Nat × Value)} {rest : List Value} (hw : gX y0 cc nL ret hh kf G Qv E w) (hy : y0.cls = RX7) {p1 : Int32} {Q : gM → Prop} (d : decode cc pc = .ok (.invokevirtual 353, 3)) (hrest : Nat.ble ((rest.map Value.category).sum) 8 = true) (hk : 1 + 1 ≤ kf) (hkd : gk M 268 = 7) (h : fX7_keepsCodes p1 M Q) (kk : ∀ M1, Q M1 → w M1 (pc + 3) lv rest) : w M pc lv (.int p1 :: .ref (gA G 268) :: rest) := by
  obtain ⟨cls9, nm9, ds9⟩ := y0
  subst hy
  exact g_callV (r := (RX7, TX7, 58)) (ci := 6) hw [.int p1] (nA := 1) rfl d q1556 q1558 qs73 q104 q1559 (by decide +kernel) rfl rfl hrest rfl (by omega : kf - 1 + 1 ≤ kf) hkd (mX7_keepsCodes (kf := kf - 1) (by omega) G p1 M Q h) (fun _ _ _ q => q.elim) (fun v M1 h => by obtain ⟨rfl, h⟩ := h; exact kk M1 h)
def fX7_law_L37s (R37 : Int32 → gM → Prop) (K58_37 : gM → Prop) (l1_9 : Int32) (l2_10 : Int32) (M : gM) (Q : Int32 → gM → Prop) : Prop :=
  (if 4 ≤ l2_10 then K58_37 M else gk M 268 = 7 ∧ gdr (gR M 268 31) (fun a13 => gk M a13 = 40 ∧ vp_in (16 + l2_10) (gl M a13) ∧ R37 (l2_10 + 1) (gsI M a13 ((16 + l2_10).toNatClampNeg) (-1))))
def fX7_law_L37 (K58_37 : gM → Prop) (l1_9 : Int32) (Q : Int32 → gM → Prop) : Nat → Int32 → gM → Prop
  | 0 => fun _ _ => False
  | n + 1 => fun l2_10 M => fX7_law_L37s (fX7_law_L37 K58_37 l1_9 Q n) K58_37 l1_9 l2_10 M Q
theorem wX7_law_L37s {kf : Nat} {G : gG} {w : gM → Nat → List (Nat × Value) → List Value → Prop} {Q : Int32 → gM → Prop} (hw : gX yX7_law cX7_law 3 (Option.some FieldType.int) [] kf G (gQi Q) gE0 w) (hkf : 48 ≤ kf) {R37 : Int32 → gM → Prop} {K58_37 : gM → Prop} {l1_9 : Int32} {l2_10 : Int32} {M : gM} (hR37 : ∀ (v0 : Int32) (M : gM), R37 v0 M → w M 37 [(0, .ref (gA G 268)), (1, .int l1_9), (2, .int v0)] []) (hK58_37 : ∀  (M : gM), K58_37 M → w M 58 [(0, .ref (gA G 268)), (1, .int l1_9)] []) (h : fX7_law_L37s R37 K58_37 l1_9 l2_10 M Q) : w M 37 [(0, .ref (gA G 268)), (1, .int l1_9), (2, .int l2_10)] [] := by
  unfold fX7_law_L37s at h
  refine g_iload_n hw 2 dX7_law_37 rfl ?_
  refine g_iconst (v := 4) hw dX7_law_38 (by decide) ?_
  refine g_icmp_ge (tgt := 58) hw dX7_law_39 (by decide) (fun hb11 => ?_) (fun hb11 => ?_)
  · have h := gT h hb11
    refine g_sub hw (lv2 := [(0, .ref (gA G 268)), (1, .int l1_9)]) [0, 1] rfl ?_
    exact hK58_37 M h
  · have h := gF h hb11
    refine g_aload_n hw 0 dX7_law_42 rfl ?_
    obtain ⟨hk12, h⟩ := h
    obtain ⟨a13, e14, h⟩ := h
    refine gfX7_136 (q := some a13) hw rfl dX7_law_43 hk12 e14 ?_
    refine g_bipush (v := 16) hw dX7_law_46 (by decide) ?_
    refine g_iload_n hw 2 dX7_law_48 rfl ?_
    refine g_iadd hw dX7_law_49 ?_
    refine g_iconst (v := (-1)) hw dX7_law_50 (by decide) ?_
    obtain ⟨hk15, h⟩ := h
    obtain ⟨hi16, h⟩ := h
    refine g_iast (n := (16 + l2_10).toNatClampNeg) hw dX7_law_51 hk15 hi16 rfl ?_
    refine g_iinc hw (lv2 := [(0, .ref (gA G 268)), (1, .int l1_9), (2, .int (l2_10 + 1))]) 2 [1, 2, 0] dX7_law_52 rfl (by decide) rfl rfl ?_
    refine g_goto (tgt := 37) hw dX7_law_55 (by decide) ?_
    exact hR37 (l2_10 + 1) (gsI M a13 ((16 + l2_10).toNatClampNeg) (-1)) h
theorem wX7_law_L37 {kf : Nat} {G : gG} {w : gM → Nat → List (Nat × Value) → List Value → Prop} {Q : Int32 → gM → Prop} (hw : gX yX7_law cX7_law 3 (Option.some FieldType.int) [] kf G (gQi Q) gE0 w) (hkf : 48 ≤ kf) {K58_37 : gM → Prop} {l1_9 : Int32} (hK58_37 : ∀  (M : gM), K58_37 M → w M 58 [(0, .ref (gA G 268)), (1, .int l1_9)] []) : ∀ (n : Nat) (l2_10 : Int32) (M : gM), fX7_law_L37 K58_37 l1_9 Q n l2_10 M → w M 37 [(0, .ref (gA G 268)), (1, .int l1_9), (2, .int l2_10)] [] := by
  intro n
  induction n with
  | zero => intro l2_10 M h; exact h.elim
  | succ n ih => intro l2_10 M h; exact wX7_law_L37s hw hkf ih hK58_37 h
def fX7_law_L58s (R58 : gM → Prop) (K84_58 : gM → Prop) (l1_18 : Int32) (M : gM) (Q : Int32 → gM → Prop) : Prop :=
  gk M 268 = 7 ∧ (if (gI M 268 8) = 0 then gdr (gR M 268 4) (fun a21 => gk M a21 = 40 ∧ vp_in (gI M 268 7) (gl M a21) ∧ (if (gI M a21 ((gI M 268 7).toNatClampNeg)) = 0 then K84_58 M else fX7_readLine M (fun M26 => R58 M26))) else K84_58 M)
def fX7_law_L58 (K84_58 : gM → Prop) (l1_18 : Int32) (Q : Int32 → gM → Prop) : Nat → gM → Prop
  | 0 => fun _ => False
  | n + 1 => fun M => fX7_law_L58s (fX7_law_L58 K84_58 l1_18 Q n) K84_58 l1_18 M Q
theorem wX7_law_L58s {kf : Nat} {G : gG} {w : gM → Nat → List (Nat × Value) → List Value → Prop} {Q : Int32 → gM → Prop} (hw : gX yX7_law cX7_law 3 (Option.some FieldType.int) [] kf G (gQi Q) gE0 w) (hkf : 48 ≤ kf) {R58 : gM → Prop} {K84_58 : gM → Prop} {l1_18 : Int32} {M : gM} (hR58 : ∀  (M : gM), R58 M → w M 58 [(0, .ref (gA G 268)), (1, .int l1_18)] []) (hK84_58 : ∀  (M : gM), K84_58 M → w M 84 [(0, .ref (gA G 268)), (1, .int l1_18)] []) (h : fX7_law_L58s R58 K84_58 l1_18 M Q) : w M 58 [(0, .ref (gA G 268)), (1, .int l1_18)] [] := by
  unfold fX7_law_L58s at h
  refine g_aload_n hw 0 dX7_law_58 rfl ?_
  obtain ⟨hk19, h⟩ := h
  refine gfX7_237 hw rfl dX7_law_59 hk19 ?_
  refine g_if_ne (tgt := 84) hw dX7_law_62 (by decide) (fun hb20 => ?_) (fun hb20 => ?_)
  · have h := gF h hb20
    exact hK84_58 M h
  · have h := gT h hb20
    refine g_aload_n hw 0 dX7_law_65 rfl ?_
    obtain ⟨a21, e22, h⟩ := h
    refine gfX7_24 (q := some a21) hw rfl dX7_law_66 hk19 e22 ?_
    refine g_aload_n hw 0 dX7_law_69 rfl ?_
    refine gfX7_234 hw rfl dX7_law_70 hk19 ?_
    obtain ⟨hk23, h⟩ := h
    obtain ⟨hi24, h⟩ := h
    refine g_iald (n := (gI M 268 7).toNatClampNeg) hw dX7_law_73 hk23 hi24 rfl ?_
    refine g_if_eq (tgt := 84) hw dX7_law_74 (by decide) (fun hb25 => ?_) (fun hb25 => ?_)
    · have h := gT h hb25
      exact hK84_58 M h
    · have h := gF h hb25
      refine g_aload_n hw 0 dX7_law_77 rfl ?_
      refine sX7_350 hw rfl dX7_law_78 rfl (gK2 hkf) hk19 h (fun M26 h => ?_)
      refine g_goto (tgt := 58) hw dX7_law_81 (by decide) ?_
      exact hR58 M26 h
theorem wX7_law_L58 {kf : Nat} {G : gG} {w : gM → Nat → List (Nat × Value) → List Value → Prop} {Q : Int32 → gM → Prop} (hw : gX yX7_law cX7_law 3 (Option.some FieldType.int) [] kf G (gQi Q) gE0 w) (hkf : 48 ≤ kf) {K84_58 : gM → Prop} {l1_18 : Int32} (hK84_58 : ∀  (M : gM), K84_58 M → w M 84 [(0, .ref (gA G 268)), (1, .int l1_18)] []) : ∀ (n : Nat)  (M : gM), fX7_law_L58 K84_58 l1_18 Q n M → w M 58 [(0, .ref (gA G 268)), (1, .int l1_18)] [] := by
  intro n
  induction n with
  | zero => intro M h; exact h.elim
  | succ n ih => intro M h; exact wX7_law_L58s hw hkf ih hK84_58 h
def fX7_law_L98s (R98 : Int32 → gM → Prop) (K128_98 : gM → Prop) (l1_32 : Int32) (l2_33 : Int32) (M : gM) (Q : Int32 → gM → Prop) : Prop :=
  (if 4 ≤ l2_33 then K128_98 M else gk M 268 = 7 ∧ gdr (gR M 268 31) (fun a36 => gdr (gR M 268 31) (fun a38 => gk M a38 = 40 ∧ vp_in (16 + l2_33) (gl M a38) ∧ gk M a36 = 40 ∧ vp_in ((4 * l1_32) + l2_33) (gl M a36) ∧ R98 (l2_33 + 1) (gsI M a36 (((4 * l1_32) + l2_33).toNatClampNeg) (gI M a38 ((16 + l2_33).toNatClampNeg))))))
def fX7_law_L98 (K128_98 : gM → Prop) (l1_32 : Int32) (Q : Int32 → gM → Prop) : Nat → Int32 → gM → Prop
  | 0 => fun _ _ => False
  | n + 1 => fun l2_33 M => fX7_law_L98s (fX7_law_L98 K128_98 l1_32 Q n) K128_98 l1_32 l2_33 M Q
theorem wX7_law_L98s {kf : Nat} {G : gG} {w : gM → Nat → List (Nat × Value) → List Value → Prop} {Q : Int32 → gM → Prop} (hw : gX yX7_law cX7_law 3 (Option.some FieldType.int) [] kf G (gQi Q) gE0 w) (hkf : 48 ≤ kf) {R98 : Int32 → gM → Prop} {K128_98 : gM → Prop} {l1_32 : Int32} {l2_33 : Int32} {M : gM} (hR98 : ∀ (v0 : Int32) (M : gM), R98 v0 M → w M 98 [(0, .ref (gA G 268)), (1, .int l1_32), (2, .int v0)] []) (hK128_98 : ∀  (M : gM), K128_98 M → w M 128 [(0, .ref (gA G 268)), (1, .int l1_32)] []) (h : fX7_law_L98s R98 K128_98 l1_32 l2_33 M Q) : w M 98 [(0, .ref (gA G 268)), (1, .int l1_32), (2, .int l2_33)] [] := by
  unfold fX7_law_L98s at h
  refine g_iload_n hw 2 dX7_law_98 rfl ?_
  refine g_iconst (v := 4) hw dX7_law_99 (by decide) ?_
  refine g_icmp_ge (tgt := 128) hw dX7_law_100 (by decide) (fun hb34 => ?_) (fun hb34 => ?_)
  · have h := gT h hb34
    refine g_sub hw (lv2 := [(0, .ref (gA G 268)), (1, .int l1_32)]) [0, 1] rfl ?_
    exact hK128_98 M h
  · have h := gF h hb34
    refine g_aload_n hw 0 dX7_law_103 rfl ?_
    obtain ⟨hk35, h⟩ := h
    obtain ⟨a36, e37, h⟩ := h
    refine gfX7_136 (q := some a36) hw rfl dX7_law_104 hk35 e37 ?_
    refine g_iconst (v := 4) hw dX7_law_107 (by decide) ?_
    refine g_iload_n hw 1 dX7_law_108 rfl ?_
    refine g_imul hw dX7_law_109 ?_
    refine g_iload_n hw 2 dX7_law_110 rfl ?_
    refine g_iadd hw dX7_law_111 ?_
    refine g_aload_n hw 0 dX7_law_112 rfl ?_
    obtain ⟨a38, e39, h⟩ := h
    refine gfX7_136 (q := some a38) hw rfl dX7_law_113 hk35 e39 ?_
    refine g_bipush (v := 16) hw dX7_law_116 (by decide) ?_
    refine g_iload_n hw 2 dX7_law_118 rfl ?_
    refine g_iadd hw dX7_law_119 ?_
    obtain ⟨hk40, h⟩ := h
    obtain ⟨hi41, h⟩ := h
    refine g_iald (n := (16 + l2_33).toNatClampNeg) hw dX7_law_120 hk40 hi41 rfl ?_
    obtain ⟨hk42, h⟩ := h
    obtain ⟨hi43, h⟩ := h
    refine g_iast (n := ((4 * l1_32) + l2_33).toNatClampNeg) hw dX7_law_121 hk42 hi43 rfl ?_
    refine g_iinc hw (lv2 := [(0, .ref (gA G 268)), (1, .int l1_32), (2, .int (l2_33 + 1))]) 2 [1, 2, 0] dX7_law_122 rfl (by decide) rfl rfl ?_
    refine g_goto (tgt := 98) hw dX7_law_125 (by decide) ?_
    exact hR98 (l2_33 + 1) (gsI M a36 (((4 * l1_32) + l2_33).toNatClampNeg) (gI M a38 ((16 + l2_33).toNatClampNeg))) h
theorem wX7_law_L98 {kf : Nat} {G : gG} {w : gM → Nat → List (Nat × Value) → List Value → Prop} {Q : Int32 → gM → Prop} (hw : gX yX7_law cX7_law 3 (Option.some FieldType.int) [] kf G (gQi Q) gE0 w) (hkf : 48 ≤ kf) {K128_98 : gM → Prop} {l1_32 : Int32} (hK128_98 : ∀  (M : gM), K128_98 M → w M 128 [(0, .ref (gA G 268)), (1, .int l1_32)] []) : ∀ (n : Nat) (l2_33 : Int32) (M : gM), fX7_law_L98 K128_98 l1_32 Q n l2_33 M → w M 98 [(0, .ref (gA G 268)), (1, .int l1_32), (2, .int l2_33)] [] := by
  intro n
  induction n with
  | zero => intro l2_33 M h; exact h.elim
  | succ n ih => intro l2_33 M h; exact wX7_law_L98s hw hkf ih hK128_98 h
def fX7_law_b84 (l1_29 : Int32) (M : gM) (Q : Int32 → gM → Prop) : Prop :=
  gk M 268 = 7 ∧ (if (gI M 268 8) ≤ 0 then ∃ n, fX7_law_L98 (fun M44 => gk M44 268 = 7 ∧ fX7_keepsCodes l1_29 M44 (fun M46 => Q 0 M46)) l1_29 Q n 0 M else Q (gI M 268 8) M)
theorem wX7_law_b84 {kf : Nat} {G : gG} {w : gM → Nat → List (Nat × Value) → List Value → Prop} {Q : Int32 → gM → Prop} (hw : gX yX7_law cX7_law 3 (Option.some FieldType.int) [] kf G (gQi Q) gE0 w) (hkf : 48 ≤ kf)  {l1_29 : Int32} {M : gM}  (h : fX7_law_b84 l1_29 M Q) : w M 84 [(0, .ref (gA G 268)), (1, .int l1_29)] [] := by
  unfold fX7_law_b84 at h
  refine g_aload_n hw 0 dX7_law_84 rfl ?_
  obtain ⟨hk30, h⟩ := h
  refine gfX7_237 hw rfl dX7_law_85 hk30 ?_
  refine g_if_le (tgt := 96) hw dX7_law_88 (by decide) (fun hb31 => ?_) (fun hb31 => ?_)
  · have h := gT h hb31
    refine g_iconst (v := 0) hw dX7_law_96 (by decide) ?_
    refine g_istore_n hw (lv2 := [(0, .ref (gA G 268)), (1, .int l1_29), (2, .int 0)]) [1, 2, 0] dX7_law_97 rfl rfl ?_
    obtain ⟨n9, h⟩ := h
    refine wX7_law_L98 hw hkf (fun M44 h => ?_) n9 0 M h
    refine g_aload_n hw 0 dX7_law_128 rfl ?_
    refine g_iload_n hw 1 dX7_law_129 rfl ?_
    obtain ⟨hk45, h⟩ := h
    refine sX7_353 hw rfl dX7_law_130 rfl (gK2 hkf) hk45 h (fun M46 h => ?_)
    refine g_iconst (v := 0) hw dX7_law_133 (by decide) ?_
    exact g_iret hw dX7_law_134 rfl ⟨_, rfl, h⟩
  · have h := gF h hb31
    refine g_aload_n hw 0 dX7_law_91 rfl ?_
    refine gfX7_237 hw rfl dX7_law_92 hk30 ?_
    exact g_iret hw dX7_law_95 rfl ⟨_, rfl, h⟩
def fX7_law (p1 : Int32) (M : gM) (Q : Int32 → gM → Prop) : Prop :=
  gk M 268 = 7 ∧ fX7_within p1 0 3 (gsI M 268 0 0) (fun r3 M2 => (if r3 = 0 then gk M2 268 = 7 ∧ Q (-1) (gsI M2 268 2 0) else gk M2 268 = 7 ∧ fX7_cutAll M2 (fun M6 => gk M6 268 = 7 ∧ ∃ n, fX7_law_L37 (fun M17 => ∃ n, fX7_law_L58 (fun M28 => fX7_law_b84 p1 M28 Q) p1 Q n M17) p1 Q n 0 (gsI (gsI M6 268 32 0) 268 45 0))))
theorem mX7_law {kf : Nat} (hkf : 48 ≤ kf) (G : gG) (p1 : Int32) (M : gM) (Q : Int32 → gM → Prop) (h : fX7_law p1 M Q) : gMet yX7_law cX7_law 3 (Option.some FieldType.int) kf G M [.ref (gA G 268), .int p1] (gQi Q) gE0 := by
  refine g_intro (lv := [(0, .ref (gA G 268)), (1, .int p1)]) (by decide) rfl rfl (fun w hw => ?_)
  unfold fX7_law at h
  refine g_aload_n hw 0 dX7_law_0 rfl ?_
  refine g_iconst (v := 0) hw dX7_law_1 (by decide) ?_
  obtain ⟨hk1, h⟩ := h
  refine pfX7_1 hw rfl dX7_law_2 hk1 ?_
  refine g_iload_n hw 1 dX7_law_5 rfl ?_
  refine g_iconst (v := 0) hw dX7_law_6 (by decide) ?_
  refine g_iconst (v := 3) hw dX7_law_7 (by decide) ?_
  refine sX7_253 hw rfl dX7_law_8 rfl (gK2 hkf) h (fun r3 M2 h => ?_)
  refine g_if_ne (tgt := 21) hw dX7_law_11 (by decide) (fun hb4 => ?_) (fun hb4 => ?_)
  · have h := gF h hb4
    refine g_aload_n hw 0 dX7_law_21 rfl ?_
    obtain ⟨hk5, h⟩ := h
    refine sX7_343 hw rfl dX7_law_22 rfl (gK2 hkf) hk5 h (fun M6 h => ?_)
    refine g_aload_n hw 0 dX7_law_25 rfl ?_
    refine g_iconst (v := 0) hw dX7_law_26 (by decide) ?_
    obtain ⟨hk8, h⟩ := h
    refine pfX7_340 hw rfl dX7_law_27 hk8 ?_
    refine g_aload_n hw 0 dX7_law_30 rfl ?_
    refine g_iconst (v := 0) hw dX7_law_31 (by decide) ?_
    refine pfX7_346 hw rfl dX7_law_32 hk8 (by decide) ?_
    refine g_iconst (v := 0) hw dX7_law_35 (by decide) ?_
    refine g_istore_n hw (lv2 := [(0, .ref (gA G 268)), (1, .int p1), (2, .int 0)]) [1, 2, 0] dX7_law_36 rfl rfl ?_
    obtain ⟨n9, h⟩ := h
    refine wX7_law_L37 hw hkf (fun M17 h => ?_) n9 0 (gsI (gsI M6 268 32 0) 268 45 0) h
    obtain ⟨n9, h⟩ := h
    refine wX7_law_L58 hw hkf (fun M28 h => ?_) n9 M17 h
    exact wX7_law_b84 hw hkf h
  · have h := gT h hb4
    refine g_aload_n hw 0 dX7_law_14 rfl ?_
    refine g_iconst (v := 0) hw dX7_law_15 (by decide) ?_
    obtain ⟨hk48, h⟩ := h
    refine pfX7_11 hw rfl dX7_law_16 hk48 ?_
    refine g_iconst (v := (-1)) hw dX7_law_19 (by decide) ?_
    exact g_iret hw dX7_law_20 rfl ⟨_, rfl, h⟩
def fX7_both_b86  (M : gM) (Q : Int32 → gM → Prop) : Prop :=
  Q 0 M
theorem wX7_both_b86 {kf : Nat} {G : gG} {w : gM → Nat → List (Nat × Value) → List Value → Prop} {Q : Int32 → gM → Prop} (hw : gX yX7_both cX7_both 3 (Option.some FieldType.int) [] kf G (gQi Q) gE0 w) (hkf : 1 ≤ kf)   {M : gM}  (h : fX7_both_b86 M Q) : w M 86 [] [] := by
  unfold fX7_both_b86 at h
  refine g_iconst (v := 0) hw dX7_both_86 (by decide) ?_
  exact g_iret hw dX7_both_87 rfl ⟨_, rfl, h⟩
def fX7_both_b96  (M : gM) (Q : Int32 → gM → Prop) : Prop :=
  Q 1 M
theorem wX7_both_b96 {kf : Nat} {G : gG} {w : gM → Nat → List (Nat × Value) → List Value → Prop} {Q : Int32 → gM → Prop} (hw : gX yX7_both cX7_both 3 (Option.some FieldType.int) [] kf G (gQi Q) gE0 w) (hkf : 1 ≤ kf)   {M : gM}  (h : fX7_both_b96 M Q) : w M 96 [] [] := by
  unfold fX7_both_b96 at h
  refine g_iconst (v := 1) hw dX7_both_96 (by decide) ?_
  refine g_goto (tgt := 101) hw dX7_both_97 (by decide) ?_
  exact g_iret hw dX7_both_101 rfl ⟨_, rfl, h⟩
def fX7_both (p1 : Int32) (p2 : Int32) (p3 : Int32) (M : gM) (Q : Int32 → gM → Prop) : Prop :=
  (if p1 = 4 then Q (p2 + p3) M else (if p1 = 5 then Q (p2 - p3) M else (if p1 = 6 then Q (p2 * p3) M else (if p1 = 7 then (if p3 ≤ p2 then Q 0 M else Q 1 M) else (if p1 = 8 then (if p2 = p3 then Q 1 M else Q 0 M) else (if p1 = 9 then (if p2 = 0 then fX7_both_b86 M Q else (if p3 = 0 then fX7_both_b86 M Q else Q 1 M)) else (if p2 = 0 then (if p3 = 0 then Q 0 M else fX7_both_b96 M Q) else fX7_both_b96 M Q)))))))
theorem mX7_both {kf : Nat} (hkf : 1 ≤ kf) (G : gG) (p1 : Int32) (p2 : Int32) (p3 : Int32) (M : gM) (Q : Int32 → gM → Prop) (h : fX7_both p1 p2 p3 M Q) : gMet yX7_both cX7_both 3 (Option.some FieldType.int) kf G M [.int p1, .int p2, .int p3] (gQi Q) gE0 := by
  refine g_intro (lv := [(0, .int p1), (1, .int p2), (2, .int p3)]) (by decide) rfl rfl (fun w hw => ?_)
  unfold fX7_both at h
  refine g_iload_n hw 0 dX7_both_0 rfl ?_
  by_cases hb7 : p1 = 4
  · have h := gT h hb7
    refine g_tabIn (tgt := 40) hw dX7_both_1 (by rw [hb7]; decide) (by rw [hb7]; decide) (by rw [hb7] <;> rfl) (by decide) ?_
    refine g_iload_n hw 1 dX7_both_40 rfl ?_
    refine g_iload_n hw 2 dX7_both_41 rfl ?_
    refine g_iadd hw dX7_both_42 ?_
    exact g_iret hw dX7_both_43 rfl ⟨_, rfl, h⟩
  · have h := gF h hb7
    by_cases hb8 : p1 = 5
    · have h := gT h hb8
      refine g_tabIn (tgt := 44) hw dX7_both_1 (by rw [hb8]; decide) (by rw [hb8]; decide) (by rw [hb8] <;> rfl) (by decide) ?_
      refine g_iload_n hw 1 dX7_both_44 rfl ?_
      refine g_iload_n hw 2 dX7_both_45 rfl ?_
      refine g_isub hw dX7_both_46 ?_
      exact g_iret hw dX7_both_47 rfl ⟨_, rfl, h⟩
    · have h := gF h hb8
      by_cases hb9 : p1 = 6
      · have h := gT h hb9
        refine g_tabIn (tgt := 48) hw dX7_both_1 (by rw [hb9]; decide) (by rw [hb9]; decide) (by rw [hb9] <;> rfl) (by decide) ?_
        refine g_iload_n hw 1 dX7_both_48 rfl ?_
        refine g_iload_n hw 2 dX7_both_49 rfl ?_
        refine g_imul hw dX7_both_50 ?_
        exact g_iret hw dX7_both_51 rfl ⟨_, rfl, h⟩
      · have h := gF h hb9
        by_cases hb10 : p1 = 7
        · have h := gT h hb10
          refine g_tabIn (tgt := 52) hw dX7_both_1 (by rw [hb10]; decide) (by rw [hb10]; decide) (by rw [hb10] <;> rfl) (by decide) ?_
          refine g_iload_n hw 1 dX7_both_52 rfl ?_
          refine g_iload_n hw 2 dX7_both_53 rfl ?_
          refine g_icmp_ge (tgt := 61) hw dX7_both_54 (by decide) (fun hb1 => ?_) (fun hb1 => ?_)
          · have h := gT h hb1
            refine g_iconst (v := 0) hw dX7_both_61 (by decide) ?_
            exact g_iret hw dX7_both_62 rfl ⟨_, rfl, h⟩
          · have h := gF h hb1
            refine g_iconst (v := 1) hw dX7_both_57 (by decide) ?_
            refine g_goto (tgt := 62) hw dX7_both_58 (by decide) ?_
            exact g_iret hw dX7_both_62 rfl ⟨_, rfl, h⟩
        · have h := gF h hb10
          by_cases hb11 : p1 = 8
          · have h := gT h hb11
            refine g_tabIn (tgt := 63) hw dX7_both_1 (by rw [hb11]; decide) (by rw [hb11]; decide) (by rw [hb11] <;> rfl) (by decide) ?_
            refine g_iload_n hw 1 dX7_both_63 rfl ?_
            refine g_iload_n hw 2 dX7_both_64 rfl ?_
            refine g_icmp_ne (tgt := 72) hw dX7_both_65 (by decide) (fun hb2 => ?_) (fun hb2 => ?_)
            · have h := gF h hb2
              refine g_iconst (v := 0) hw dX7_both_72 (by decide) ?_
              exact g_iret hw dX7_both_73 rfl ⟨_, rfl, h⟩
            · have h := gT h hb2
              refine g_iconst (v := 1) hw dX7_both_68 (by decide) ?_
              refine g_goto (tgt := 73) hw dX7_both_69 (by decide) ?_
              exact g_iret hw dX7_both_73 rfl ⟨_, rfl, h⟩
          · have h := gF h hb11
            by_cases hb12 : p1 = 9
            · have h := gT h hb12
              refine g_tabIn (tgt := 74) hw dX7_both_1 (by rw [hb12]; decide) (by rw [hb12]; decide) (by rw [hb12] <;> rfl) (by decide) ?_
              refine g_iload_n hw 1 dX7_both_74 rfl ?_
              refine g_if_eq (tgt := 86) hw dX7_both_75 (by decide) (fun hb3 => ?_) (fun hb3 => ?_)
              · have h := gT h hb3
                refine g_sub hw (lv2 := []) [] rfl ?_
                exact wX7_both_b86 hw hkf h
              · have h := gF h hb3
                refine g_iload_n hw 2 dX7_both_78 rfl ?_
                refine g_if_eq (tgt := 86) hw dX7_both_79 (by decide) (fun hb4 => ?_) (fun hb4 => ?_)
                · have h := gT h hb4
                  refine g_sub hw (lv2 := []) [] rfl ?_
                  exact wX7_both_b86 hw hkf h
                · have h := gF h hb4
                  refine g_iconst (v := 1) hw dX7_both_82 (by decide) ?_
                  refine g_goto (tgt := 87) hw dX7_both_83 (by decide) ?_
                  exact g_iret hw dX7_both_87 rfl ⟨_, rfl, h⟩
            · have h := gF h hb12
              refine g_tabOut (tgt := 88) hw dX7_both_1 (by have z0 := gNeI (k := 4) hb7 rfl; have z1 := gNeI (k := 5) hb8 rfl; have z2 := gNeI (k := 6) hb9 rfl; have z3 := gNeI (k := 7) hb10 rfl; have z4 := gNeI (k := 8) hb11 rfl; have z5 := gNeI (k := 9) hb12 rfl; omega) (by decide) ?_
              refine g_iload_n hw 1 dX7_both_88 rfl ?_
              refine g_if_ne (tgt := 96) hw dX7_both_89 (by decide) (fun hb5 => ?_) (fun hb5 => ?_)
              · have h := gF h hb5
                refine g_sub hw (lv2 := []) [] rfl ?_
                exact wX7_both_b96 hw hkf h
              · have h := gT h hb5
                refine g_iload_n hw 2 dX7_both_92 rfl ?_
                refine g_if_eq (tgt := 100) hw dX7_both_93 (by decide) (fun hb6 => ?_) (fun hb6 => ?_)
                · have h := gT h hb6
                  refine g_iconst (v := 0) hw dX7_both_100 (by decide) ?_
                  exact g_iret hw dX7_both_101 rfl ⟨_, rfl, h⟩
                · have h := gF h hb6
                  refine g_sub hw (lv2 := []) [] rfl ?_
                  exact wX7_both_b96 hw hkf h
theorem gfX7_151 {y0 : MethodName} {cc : ByteArray} {nL : Nat} {ret : Option FieldType} {hh : List (Nat × Nat × Nat × Nat)} {kf : Nat} {G : gG} {Qv : Option Value → gM → Prop} {E : String → Nat → gM → Prop} {w : gM → Nat → List (Nat × Value) → List Value → Prop} {M : gM} {pc : Nat} {lv : List (Nat × Value)} {rest : List Value} (hw : gX y0 cc nL ret hh kf G Qv E w) (hy : y0.cls = RX7) {c : Nat} {q : Option Nat} (d : decode cc pc = .ok (.getfield 151, 3)) (hk : gk M c = 7) (hq : gR M c 37 = q) (kk : w M (pc + 3) lv (va_rf (q.map (gA G)) :: rest)) : w M pc lv (.ref (gA G c) :: rest) := by
  obtain ⟨cls9, nm9, ds9⟩ := y0
  subst hy
  subst hq
  exact g_getC (C := RX7) (T := TX7) (N := 58) (ci := 6) hw in_X7 rfl 37 (by decide) (Or.inl q1193) rfl d hk kk
theorem gfX7_148 {y0 : MethodName} {cc : ByteArray} {nL : Nat} {ret : Option FieldType} {hh : List (Nat × Nat × Nat × Nat)} {kf : Nat} {G : gG} {Qv : Option Value → gM → Prop} {E : String → Nat → gM → Prop} {w : gM → Nat → List (Nat × Value) → List Value → Prop} {M : gM} {pc : Nat} {lv : List (Nat × Value)} {rest : List Value} (hw : gX y0 cc nL ret hh kf G Qv E w) (hy : y0.cls = RX7) {c : Nat} {q : Option Nat} (d : decode cc pc = .ok (.getfield 148, 3)) (hk : gk M c = 7) (hq : gR M c 36 = q) (kk : w M (pc + 3) lv (va_rf (q.map (gA G)) :: rest)) : w M pc lv (.ref (gA G c) :: rest) := by
  obtain ⟨cls9, nm9, ds9⟩ := y0
  subst hy
  subst hq
  exact g_getC (C := RX7) (T := TX7) (N := 58) (ci := 6) hw in_X7 rfl 36 (by decide) (Or.inl q1192) rfl d hk kk
theorem sX7_391 {y0 : MethodName} {cc : ByteArray} {nL : Nat} {ret : Option FieldType} {hh : List (Nat × Nat × Nat × Nat)} {kf : Nat} {G : gG} {Qv : Option Value → gM → Prop} {E : String → Nat → gM → Prop} {w : gM → Nat → List (Nat × Value) → List Value → Prop} {M : gM} {pc : Nat} {lv : List (Nat × Value)} {rest : List Value} (hw : gX y0 cc nL ret hh kf G Qv E w) (hy : y0.cls = RX7) {p1 : Int32} {p2 : Int32} {p3 : Int32} {Q : Int32 → gM → Prop} (d : decode cc pc = .ok (.invokestatic 391, 3)) (hrest : Nat.ble ((rest.map Value.category).sum) 8 = true) (hk : 1 + 1 ≤ kf) (h : fX7_both p1 p2 p3 M Q) (kk : ∀ r M1, Q r M1 → w M1 (pc + 3) lv (.int r :: rest)) : w M pc lv (.int p3 :: .int p2 :: .int p1 :: rest) := by
  obtain ⟨cls9, nm9, ds9⟩ := y0
  subst hy
  exact g_callS hw [.int p1, .int p2, .int p3] (nA := 3) rfl d q1588 q1589 q104 q1590 (by decide +kernel) rfl hrest rfl (by omega : kf - 1 + 1 ≤ kf) (mX7_both (kf := kf - 1) (by omega) G p1 p2 p3 M Q h) (fun _ _ _ q => q.elim) (fun v M1 h => by obtain ⟨r, rfl, h⟩ := h; exact kk r M1 h)
def fX7_worthAt_b134 (R4 : Int32 → Int32 → gM → Prop) (l2_36 : Int32) (l3_37 : Int32) (M : gM) (Q : Int32 → gM → Prop) : Prop :=
  R4 l2_36 (l3_37 + 1) M
theorem wX7_worthAt_b134 {kf : Nat} {G : gG} {w : gM → Nat → List (Nat × Value) → List Value → Prop} {Q : Int32 → gM → Prop} (hw : gX yX7_worthAt cX7_worthAt 5 (Option.some FieldType.int) [] kf G (gQi Q) gE0 w) (hkf : 2 ≤ kf) {R4 : Int32 → Int32 → gM → Prop} {l2_36 : Int32} {l3_37 : Int32} {M : gM} (hR4 : ∀ (v0 : Int32) (v1 : Int32) (M : gM), R4 v0 v1 M → w M 4 [(0, .ref (gA G 268)), (2, .int v0), (3, .int v1)] []) (h : fX7_worthAt_b134 R4 l2_36 l3_37 M Q) : w M 134 [(0, .ref (gA G 268)), (2, .int l2_36), (3, .int l3_37)] [] := by
  unfold fX7_worthAt_b134 at h
  refine g_iinc hw (lv2 := [(0, .ref (gA G 268)), (2, .int l2_36), (3, .int (l3_37 + 1))]) 2 [1, 2, 0] dX7_worthAt_134 rfl (by decide) rfl rfl ?_
  refine g_goto (tgt := 4) hw dX7_worthAt_137 (by decide) ?_
  exact hR4 l2_36 (l3_37 + 1) M h
def fX7_worthAt_b64 (R4 : Int32 → Int32 → gM → Prop) (l2_29 : Int32) (l3_30 : Int32) (s0_31 : Nat) (s1_32 : Int32) (s2_33 : Int32) (M : gM) (Q : Int32 → gM → Prop) : Prop :=
  gk M s0_31 = 40 ∧ vp_in s1_32 (gl M s0_31) ∧ fX7_worthAt_b134 R4 (l2_29 + 1) l3_30 (gsI M s0_31 s1_32.toNatClampNeg s2_33) Q
theorem wX7_worthAt_b64 {kf : Nat} {G : gG} {w : gM → Nat → List (Nat × Value) → List Value → Prop} {Q : Int32 → gM → Prop} (hw : gX yX7_worthAt cX7_worthAt 5 (Option.some FieldType.int) [] kf G (gQi Q) gE0 w) (hkf : 2 ≤ kf) {R4 : Int32 → Int32 → gM → Prop} {l2_29 : Int32} {l3_30 : Int32} {s0_31 : Nat} {s1_32 : Int32} {s2_33 : Int32} {M : gM} (hR4 : ∀ (v0 : Int32) (v1 : Int32) (M : gM), R4 v0 v1 M → w M 4 [(0, .ref (gA G 268)), (2, .int v0), (3, .int v1)] []) (h : fX7_worthAt_b64 R4 l2_29 l3_30 s0_31 s1_32 s2_33 M Q) : w M 64 [(0, .ref (gA G 268)), (2, .int l2_29), (3, .int l3_30)] [.int s2_33, .int s1_32, .ref (gA G s0_31)] := by
  unfold fX7_worthAt_b64 at h
  obtain ⟨hk34, h⟩ := h
  obtain ⟨hi35, h⟩ := h
  refine g_iast (n := s1_32.toNatClampNeg) hw dX7_worthAt_64 hk34 hi35 rfl ?_
  refine g_iinc hw (lv2 := [(0, .ref (gA G 268)), (2, .int (l2_29 + 1)), (3, .int l3_30)]) 1 [1, 0, 2] dX7_worthAt_65 rfl (by decide) rfl rfl ?_
  refine g_goto (tgt := 134) hw dX7_worthAt_68 (by decide) ?_
  exact wX7_worthAt_b134 hw hkf hR4 h
def fX7_worthAt_b33 (R4 : Int32 → Int32 → gM → Prop) (l2_14 : Int32) (l3_15 : Int32) (l4_16 : Int32) (M : gM) (Q : Int32 → gM → Prop) : Prop :=
  gk M 268 = 7 ∧ gdr (gR M 268 37) (fun a18 => (if l4_16 = 1 then gdr (gR M 268 34) (fun a38 => gk M a38 = 40 ∧ vp_in l3_15 (gl M a38) ∧ fX7_worthAt_b64 R4 l2_14 l3_15 a18 l2_14 (gI M a38 l3_15.toNatClampNeg) M Q) else gdr (gR M 268 36) (fun a21 => gdr (gR M 268 34) (fun a23 => gk M a23 = 40 ∧ vp_in l3_15 (gl M a23) ∧ gk M a21 = 40 ∧ vp_in (gI M a23 l3_15.toNatClampNeg) (gl M a21) ∧ fX7_worthAt_b64 R4 l2_14 l3_15 a18 l2_14 (gI M a21 ((gI M a23 l3_15.toNatClampNeg).toNatClampNeg)) M Q))))
theorem wX7_worthAt_b33 {kf : Nat} {G : gG} {w : gM → Nat → List (Nat × Value) → List Value → Prop} {Q : Int32 → gM → Prop} (hw : gX yX7_worthAt cX7_worthAt 5 (Option.some FieldType.int) [] kf G (gQi Q) gE0 w) (hkf : 2 ≤ kf) {R4 : Int32 → Int32 → gM → Prop} {l2_14 : Int32} {l3_15 : Int32} {l4_16 : Int32} {M : gM} (hR4 : ∀ (v0 : Int32) (v1 : Int32) (M : gM), R4 v0 v1 M → w M 4 [(0, .ref (gA G 268)), (2, .int v0), (3, .int v1)] []) (h : fX7_worthAt_b33 R4 l2_14 l3_15 l4_16 M Q) : w M 33 [(0, .ref (gA G 268)), (2, .int l2_14), (3, .int l3_15), (4, .int l4_16)] [] := by
  unfold fX7_worthAt_b33 at h
  refine g_aload_n hw 0 dX7_worthAt_33 rfl ?_
  obtain ⟨hk17, h⟩ := h
  obtain ⟨a18, e19, h⟩ := h
  refine gfX7_151 (q := some a18) hw rfl dX7_worthAt_34 hk17 e19 ?_
  refine g_iload_n hw 1 dX7_worthAt_37 rfl ?_
  refine g_iload hw 3 dX7_worthAt_38 rfl ?_
  refine g_iconst (v := 1) hw dX7_worthAt_40 (by decide) ?_
  refine g_icmp_ne (tgt := 53) hw dX7_worthAt_41 (by decide) (fun hb20 => ?_) (fun hb20 => ?_)
  · have h := gF h hb20
    refine g_aload_n hw 0 dX7_worthAt_53 rfl ?_
    obtain ⟨a21, e22, h⟩ := h
    refine gfX7_148 (q := some a21) hw rfl dX7_worthAt_54 hk17 e22 ?_
    refine g_aload_n hw 0 dX7_worthAt_57 rfl ?_
    obtain ⟨a23, e24, h⟩ := h
    refine gfX7_142 (q := some a23) hw rfl dX7_worthAt_58 hk17 e24 ?_
    refine g_iload_n hw 2 dX7_worthAt_61 rfl ?_
    obtain ⟨hk25, h⟩ := h
    obtain ⟨hi26, h⟩ := h
    refine g_iald (n := l3_15.toNatClampNeg) hw dX7_worthAt_62 hk25 hi26 rfl ?_
    obtain ⟨hk27, h⟩ := h
    obtain ⟨hi28, h⟩ := h
    refine g_iald (n := (gI M a23 l3_15.toNatClampNeg).toNatClampNeg) hw dX7_worthAt_63 hk27 hi28 rfl ?_
    refine g_sub hw (lv2 := [(0, .ref (gA G 268)), (2, .int l2_14), (3, .int l3_15)]) [0, 1, 2] rfl ?_
    exact wX7_worthAt_b64 hw hkf hR4 h
  · have h := gT h hb20
    refine g_aload_n hw 0 dX7_worthAt_44 rfl ?_
    obtain ⟨a38, e39, h⟩ := h
    refine gfX7_142 (q := some a38) hw rfl dX7_worthAt_45 hk17 e39 ?_
    refine g_iload_n hw 2 dX7_worthAt_48 rfl ?_
    obtain ⟨hk40, h⟩ := h
    obtain ⟨hi41, h⟩ := h
    refine g_iald (n := l3_15.toNatClampNeg) hw dX7_worthAt_49 hk40 hi41 rfl ?_
    refine g_goto (tgt := 64) hw dX7_worthAt_50 (by decide) ?_
    refine g_sub hw (lv2 := [(0, .ref (gA G 268)), (2, .int l2_14), (3, .int l3_15)]) [0, 1, 2] rfl ?_
    exact wX7_worthAt_b64 hw hkf hR4 h
def fX7_worthAt_b100 (R4 : Int32 → Int32 → gM → Prop) (l2_65 : Int32) (l3_66 : Int32) (s0_67 : Nat) (s1_68 : Int32) (s2_69 : Int32) (M : gM) (Q : Int32 → gM → Prop) : Prop :=
  gk M s0_67 = 40 ∧ vp_in s1_68 (gl M s0_67) ∧ fX7_worthAt_b134 R4 l2_65 l3_66 (gsI M s0_67 s1_68.toNatClampNeg s2_69) Q
theorem wX7_worthAt_b100 {kf : Nat} {G : gG} {w : gM → Nat → List (Nat × Value) → List Value → Prop} {Q : Int32 → gM → Prop} (hw : gX yX7_worthAt cX7_worthAt 5 (Option.some FieldType.int) [] kf G (gQi Q) gE0 w) (hkf : 2 ≤ kf) {R4 : Int32 → Int32 → gM → Prop} {l2_65 : Int32} {l3_66 : Int32} {s0_67 : Nat} {s1_68 : Int32} {s2_69 : Int32} {M : gM} (hR4 : ∀ (v0 : Int32) (v1 : Int32) (M : gM), R4 v0 v1 M → w M 4 [(0, .ref (gA G 268)), (2, .int v0), (3, .int v1)] []) (h : fX7_worthAt_b100 R4 l2_65 l3_66 s0_67 s1_68 s2_69 M Q) : w M 100 [(0, .ref (gA G 268)), (2, .int l2_65), (3, .int l3_66)] [.int s2_69, .int s1_68, .ref (gA G s0_67)] := by
  unfold fX7_worthAt_b100 at h
  obtain ⟨hk70, h⟩ := h
  obtain ⟨hi71, h⟩ := h
  refine g_iast (n := s1_68.toNatClampNeg) hw dX7_worthAt_100 hk70 hi71 rfl ?_
  refine g_goto (tgt := 134) hw dX7_worthAt_101 (by decide) ?_
  exact wX7_worthAt_b134 hw hkf hR4 h
def fX7_worthAt_L4s (R4 : Int32 → Int32 → gM → Prop) (K140_4 : gM → Prop) (l2_1 : Int32) (l3_2 : Int32) (M : gM) (Q : Int32 → gM → Prop) : Prop :=
  gk M 268 = 7 ∧ gdr (gR M 268 33) (fun a4 => gk M a4 = 40 ∧ vp_in l3_2 (gl M a4) ∧ (if (gI M a4 l3_2.toNatClampNeg) = 0 then K140_4 M else gdr (gR M 268 33) (fun a9 => gk M a9 = 40 ∧ vp_in l3_2 (gl M a9) ∧ (if (gI M a9 l3_2.toNatClampNeg) = 1 then fX7_worthAt_b33 R4 l2_1 l3_2 (gI M a9 l3_2.toNatClampNeg) M Q else (if (gI M a9 l3_2.toNatClampNeg) = 2 then fX7_worthAt_b33 R4 l2_1 l3_2 (gI M a9 l3_2.toNatClampNeg) M Q else (if (gI M a9 l3_2.toNatClampNeg) = 3 then gdr (gR M 268 37) (fun a58 => gdr (gR M 268 37) (fun a60 => gk M a60 = 40 ∧ vp_in (l2_1 - 1) (gl M a60) ∧ (if (gI M a60 ((l2_1 - 1).toNatClampNeg)) = 0 then fX7_worthAt_b100 R4 l2_1 l3_2 a58 (l2_1 - 1) 1 M Q else fX7_worthAt_b100 R4 l2_1 l3_2 a58 (l2_1 - 1) 0 M Q))) else gdr (gR M 268 37) (fun a44 => gdr (gR M 268 37) (fun a46 => gk M a46 = 40 ∧ vp_in ((l2_1 + (-1)) - 1) (gl M a46) ∧ gdr (gR M 268 37) (fun a50 => gk M a50 = 40 ∧ vp_in (l2_1 + (-1)) (gl M a50) ∧ fX7_both (gI M a9 l3_2.toNatClampNeg) (gI M a46 (((l2_1 + (-1)) - 1).toNatClampNeg)) (gI M a50 ((l2_1 + (-1)).toNatClampNeg)) M (fun r55 M54 => gk M54 a44 = 40 ∧ vp_in ((l2_1 + (-1)) - 1) (gl M54 a44) ∧ fX7_worthAt_b134 R4 (l2_1 + (-1)) l3_2 (gsI M54 a44 (((l2_1 + (-1)) - 1).toNatClampNeg) r55) Q))))))))))
def fX7_worthAt_L4 (K140_4 : gM → Prop) (Q : Int32 → gM → Prop) : Nat → Int32 → Int32 → gM → Prop
  | 0 => fun _ _ _ => False
  | n + 1 => fun l2_1 l3_2 M => fX7_worthAt_L4s (fX7_worthAt_L4 K140_4 Q n) K140_4 l2_1 l3_2 M Q
theorem wX7_worthAt_L4s {kf : Nat} {G : gG} {w : gM → Nat → List (Nat × Value) → List Value → Prop} {Q : Int32 → gM → Prop} (hw : gX yX7_worthAt cX7_worthAt 5 (Option.some FieldType.int) [] kf G (gQi Q) gE0 w) (hkf : 2 ≤ kf) {R4 : Int32 → Int32 → gM → Prop} {K140_4 : gM → Prop} {l2_1 : Int32} {l3_2 : Int32} {M : gM} (hR4 : ∀ (v0 : Int32) (v1 : Int32) (M : gM), R4 v0 v1 M → w M 4 [(0, .ref (gA G 268)), (2, .int v0), (3, .int v1)] []) (hK140_4 : ∀  (M : gM), K140_4 M → w M 140 [(0, .ref (gA G 268))] []) (h : fX7_worthAt_L4s R4 K140_4 l2_1 l3_2 M Q) : w M 4 [(0, .ref (gA G 268)), (2, .int l2_1), (3, .int l3_2)] [] := by
  unfold fX7_worthAt_L4s at h
  refine g_aload_n hw 0 dX7_worthAt_4 rfl ?_
  obtain ⟨hk3, h⟩ := h
  obtain ⟨a4, e5, h⟩ := h
  refine gfX7_139 (q := some a4) hw rfl dX7_worthAt_5 hk3 e5 ?_
  refine g_iload_n hw 2 dX7_worthAt_8 rfl ?_
  obtain ⟨hk6, h⟩ := h
  obtain ⟨hi7, h⟩ := h
  refine g_iald (n := l3_2.toNatClampNeg) hw dX7_worthAt_9 hk6 hi7 rfl ?_
  refine g_if_eq (tgt := 140) hw dX7_worthAt_10 (by decide) (fun hb8 => ?_) (fun hb8 => ?_)
  · have h := gT h hb8
    refine g_sub hw (lv2 := [(0, .ref (gA G 268))]) [0] rfl ?_
    exact hK140_4 M h
  · have h := gF h hb8
    refine g_aload_n hw 0 dX7_worthAt_13 rfl ?_
    obtain ⟨a9, e10, h⟩ := h
    refine gfX7_139 (q := some a9) hw rfl dX7_worthAt_14 hk3 e10 ?_
    refine g_iload_n hw 2 dX7_worthAt_17 rfl ?_
    obtain ⟨hk11, h⟩ := h
    obtain ⟨hi12, h⟩ := h
    refine g_iald (n := l3_2.toNatClampNeg) hw dX7_worthAt_18 hk11 hi12 rfl ?_
    refine g_istore hw (lv2 := [(0, .ref (gA G 268)), (2, .int l2_1), (3, .int l3_2), (4, .int (gI M a9 l3_2.toNatClampNeg))]) [1, 2, 3, 0] dX7_worthAt_19 rfl rfl ?_
    refine g_iload hw 3 dX7_worthAt_21 rfl ?_
    refine g_iconst (v := 1) hw dX7_worthAt_23 (by decide) ?_
    refine g_icmp_eq (tgt := 33) hw dX7_worthAt_24 (by decide) (fun hb13 => ?_) (fun hb13 => ?_)
    · have h := gT h hb13
      exact wX7_worthAt_b33 hw hkf hR4 h
    · have h := gF h hb13
      refine g_iload hw 3 dX7_worthAt_27 rfl ?_
      refine g_iconst (v := 2) hw dX7_worthAt_29 (by decide) ?_
      refine g_icmp_ne (tgt := 71) hw dX7_worthAt_30 (by decide) (fun hb42 => ?_) (fun hb42 => ?_)
      · have h := gF h hb42
        refine g_iload hw 3 dX7_worthAt_71 rfl ?_
        refine g_iconst (v := 3) hw dX7_worthAt_73 (by decide) ?_
        refine g_icmp_ne (tgt := 104) hw dX7_worthAt_74 (by decide) (fun hb43 => ?_) (fun hb43 => ?_)
        · have h := gF h hb43
          refine g_iinc hw (lv2 := [(0, .ref (gA G 268)), (2, .int (l2_1 + (-1))), (3, .int l3_2), (4, .int (gI M a9 l3_2.toNatClampNeg))]) 1 [1, 0, 2, 3] dX7_worthAt_104 rfl (by decide) rfl rfl ?_
          refine g_aload_n hw 0 dX7_worthAt_107 rfl ?_
          obtain ⟨a44, e45, h⟩ := h
          refine gfX7_151 (q := some a44) hw rfl dX7_worthAt_108 hk3 e45 ?_
          refine g_iload_n hw 1 dX7_worthAt_111 rfl ?_
          refine g_iconst (v := 1) hw dX7_worthAt_112 (by decide) ?_
          refine g_isub hw dX7_worthAt_113 ?_
          refine g_iload hw 3 dX7_worthAt_114 rfl ?_
          refine g_aload_n hw 0 dX7_worthAt_116 rfl ?_
          obtain ⟨a46, e47, h⟩ := h
          refine gfX7_151 (q := some a46) hw rfl dX7_worthAt_117 hk3 e47 ?_
          refine g_iload_n hw 1 dX7_worthAt_120 rfl ?_
          refine g_iconst (v := 1) hw dX7_worthAt_121 (by decide) ?_
          refine g_isub hw dX7_worthAt_122 ?_
          obtain ⟨hk48, h⟩ := h
          obtain ⟨hi49, h⟩ := h
          refine g_iald (n := ((l2_1 + (-1)) - 1).toNatClampNeg) hw dX7_worthAt_123 hk48 hi49 rfl ?_
          refine g_aload_n hw 0 dX7_worthAt_124 rfl ?_
          obtain ⟨a50, e51, h⟩ := h
          refine gfX7_151 (q := some a50) hw rfl dX7_worthAt_125 hk3 e51 ?_
          refine g_iload_n hw 1 dX7_worthAt_128 rfl ?_
          obtain ⟨hk52, h⟩ := h
          obtain ⟨hi53, h⟩ := h
          refine g_iald (n := (l2_1 + (-1)).toNatClampNeg) hw dX7_worthAt_129 hk52 hi53 rfl ?_
          refine sX7_391 hw rfl dX7_worthAt_130 rfl (gK2 hkf) h (fun r55 M54 h => ?_)
          obtain ⟨hk56, h⟩ := h
          obtain ⟨hi57, h⟩ := h
          refine g_iast (n := ((l2_1 + (-1)) - 1).toNatClampNeg) hw dX7_worthAt_133 hk56 hi57 rfl ?_
          refine g_sub hw (lv2 := [(0, .ref (gA G 268)), (2, .int (l2_1 + (-1))), (3, .int l3_2)]) [0, 1, 2] rfl ?_
          exact wX7_worthAt_b134 hw hkf hR4 h
        · have h := gT h hb43
          refine g_aload_n hw 0 dX7_worthAt_77 rfl ?_
          obtain ⟨a58, e59, h⟩ := h
          refine gfX7_151 (q := some a58) hw rfl dX7_worthAt_78 hk3 e59 ?_
          refine g_iload_n hw 1 dX7_worthAt_81 rfl ?_
          refine g_iconst (v := 1) hw dX7_worthAt_82 (by decide) ?_
          refine g_isub hw dX7_worthAt_83 ?_
          refine g_aload_n hw 0 dX7_worthAt_84 rfl ?_
          obtain ⟨a60, e61, h⟩ := h
          refine gfX7_151 (q := some a60) hw rfl dX7_worthAt_85 hk3 e61 ?_
          refine g_iload_n hw 1 dX7_worthAt_88 rfl ?_
          refine g_iconst (v := 1) hw dX7_worthAt_89 (by decide) ?_
          refine g_isub hw dX7_worthAt_90 ?_
          obtain ⟨hk62, h⟩ := h
          obtain ⟨hi63, h⟩ := h
          refine g_iald (n := (l2_1 - 1).toNatClampNeg) hw dX7_worthAt_91 hk62 hi63 rfl ?_
          refine g_if_ne (tgt := 99) hw dX7_worthAt_92 (by decide) (fun hb64 => ?_) (fun hb64 => ?_)
          · have h := gF h hb64
            refine g_iconst (v := 0) hw dX7_worthAt_99 (by decide) ?_
            refine g_sub hw (lv2 := [(0, .ref (gA G 268)), (2, .int l2_1), (3, .int l3_2)]) [0, 1, 2] rfl ?_
            exact wX7_worthAt_b100 hw hkf hR4 h
          · have h := gT h hb64
            refine g_iconst (v := 1) hw dX7_worthAt_95 (by decide) ?_
            refine g_goto (tgt := 100) hw dX7_worthAt_96 (by decide) ?_
            refine g_sub hw (lv2 := [(0, .ref (gA G 268)), (2, .int l2_1), (3, .int l3_2)]) [0, 1, 2] rfl ?_
            exact wX7_worthAt_b100 hw hkf hR4 h
      · have h := gT h hb42
        exact wX7_worthAt_b33 hw hkf hR4 h
theorem wX7_worthAt_L4 {kf : Nat} {G : gG} {w : gM → Nat → List (Nat × Value) → List Value → Prop} {Q : Int32 → gM → Prop} (hw : gX yX7_worthAt cX7_worthAt 5 (Option.some FieldType.int) [] kf G (gQi Q) gE0 w) (hkf : 2 ≤ kf) {K140_4 : gM → Prop} (hK140_4 : ∀  (M : gM), K140_4 M → w M 140 [(0, .ref (gA G 268))] []) : ∀ (n : Nat) (l2_1 : Int32) (l3_2 : Int32) (M : gM), fX7_worthAt_L4 K140_4 Q n l2_1 l3_2 M → w M 4 [(0, .ref (gA G 268)), (2, .int l2_1), (3, .int l3_2)] [] := by
  intro n
  induction n with
  | zero => intro l2_1 l3_2 M h; exact h.elim
  | succ n ih => intro l2_1 l3_2 M h; exact wX7_worthAt_L4s hw hkf ih hK140_4 h
def fX7_worthAt (p1 : Int32) (M : gM) (Q : Int32 → gM → Prop) : Prop :=
  ∃ n, fX7_worthAt_L4 (fun M72 => gk M72 268 = 7 ∧ gdr (gR M72 268 37) (fun a74 => gk M72 a74 = 40 ∧ vp_in 0 (gl M72 a74) ∧ Q (gI M72 a74 0) M72)) Q n 0 p1 M
theorem mX7_worthAt {kf : Nat} (hkf : 2 ≤ kf) (G : gG) (p1 : Int32) (M : gM) (Q : Int32 → gM → Prop) (h : fX7_worthAt p1 M Q) : gMet yX7_worthAt cX7_worthAt 5 (Option.some FieldType.int) kf G M [.ref (gA G 268), .int p1] (gQi Q) gE0 := by
  refine g_intro (lv := [(0, .ref (gA G 268)), (1, .int p1)]) (by decide) rfl rfl (fun w hw => ?_)
  unfold fX7_worthAt at h
  refine g_iconst (v := 0) hw dX7_worthAt_0 (by decide) ?_
  refine g_istore_n hw (lv2 := [(0, .ref (gA G 268)), (1, .int p1), (2, .int 0)]) [1, 2, 0] dX7_worthAt_1 rfl rfl ?_
  refine g_iload_n hw 1 dX7_worthAt_2 rfl ?_
  refine g_istore_n hw (lv2 := [(0, .ref (gA G 268)), (2, .int 0), (3, .int p1)]) [1, 3, 0] dX7_worthAt_3 rfl rfl ?_
  obtain ⟨n9, h⟩ := h
  refine wX7_worthAt_L4 hw hkf (fun M72 h => ?_) n9 0 p1 M h
  refine g_aload_n hw 0 dX7_worthAt_140 rfl ?_
  obtain ⟨hk73, h⟩ := h
  obtain ⟨a74, e75, h⟩ := h
  refine gfX7_151 (q := some a74) hw rfl dX7_worthAt_141 hk73 e75 ?_
  refine g_iconst (v := 0) hw dX7_worthAt_144 (by decide) ?_
  obtain ⟨hk76, h⟩ := h
  obtain ⟨hi77, h⟩ := h
  refine g_iald (n := 0) hw dX7_worthAt_145 hk76 hi77 rfl ?_
  exact g_iret hw dX7_worthAt_146 rfl ⟨_, rfl, h⟩
theorem sX7_388 {y0 : MethodName} {cc : ByteArray} {nL : Nat} {ret : Option FieldType} {hh : List (Nat × Nat × Nat × Nat)} {kf : Nat} {G : gG} {Qv : Option Value → gM → Prop} {E : String → Nat → gM → Prop} {w : gM → Nat → List (Nat × Value) → List Value → Prop} {M : gM} {pc : Nat} {lv : List (Nat × Value)} {rest : List Value} (hw : gX y0 cc nL ret hh kf G Qv E w) (hy : y0.cls = RX7) {p1 : Int32} {Q : Int32 → gM → Prop} (d : decode cc pc = .ok (.invokevirtual 388, 3)) (hrest : Nat.ble ((rest.map Value.category).sum) 8 = true) (hk : 2 + 1 ≤ kf) (hkd : gk M 268 = 7) (h : fX7_worthAt p1 M Q) (kk : ∀ r M1, Q r M1 → w M1 (pc + 3) lv (.int r :: rest)) : w M pc lv (.int p1 :: .ref (gA G 268) :: rest) := by
  obtain ⟨cls9, nm9, ds9⟩ := y0
  subst hy
  exact g_callV (r := (RX7, TX7, 58)) (ci := 6) hw [.int p1] (nA := 1) rfl d q1584 q1586 qs78 q104 q1587 (by decide +kernel) rfl rfl hrest rfl (by omega : kf - 1 + 1 ≤ kf) hkd (mX7_worthAt (kf := kf - 1) (by omega) G p1 M Q h) (fun _ _ _ q => q.elim) (fun v M1 h => by obtain ⟨r, rfl, h⟩ := h; exact kk r M1 h)
def fX7_worthOf (p1 : Int32) (p2 : Int32) (M : gM) (Q : Int32 → gM → Prop) : Prop :=
  gk M 268 = 7 ∧ gdr (gR M 268 31) (fun a2 => gk M a2 = 40 ∧ vp_in ((4 * p1) + p2) (gl M a2) ∧ fX7_worthAt ((1100 * p1) + (gI M a2 (((4 * p1) + p2).toNatClampNeg))) M (fun r7 M6 => Q r7 M6))
theorem mX7_worthOf {kf : Nat} (hkf : 3 ≤ kf) (G : gG) (p1 : Int32) (p2 : Int32) (M : gM) (Q : Int32 → gM → Prop) (h : fX7_worthOf p1 p2 M Q) : gMet yX7_worthOf cX7_worthOf 3 (Option.some FieldType.int) kf G M [.ref (gA G 268), .int p1, .int p2] (gQi Q) gE0 := by
  refine g_intro (lv := [(0, .ref (gA G 268)), (1, .int p1), (2, .int p2)]) (by decide) rfl rfl (fun w hw => ?_)
  unfold fX7_worthOf at h
  refine g_aload_n hw 0 dX7_worthOf_0 rfl ?_
  refine g_sipush (v := 1100) hw dX7_worthOf_1 (by decide) ?_
  refine g_iload_n hw 1 dX7_worthOf_4 rfl ?_
  refine g_imul hw dX7_worthOf_5 ?_
  refine g_aload_n hw 0 dX7_worthOf_6 rfl ?_
  obtain ⟨hk1, h⟩ := h
  obtain ⟨a2, e3, h⟩ := h
  refine gfX7_136 (q := some a2) hw rfl dX7_worthOf_7 hk1 e3 ?_
  refine g_iconst (v := 4) hw dX7_worthOf_10 (by decide) ?_
  refine g_iload_n hw 1 dX7_worthOf_11 rfl ?_
  refine g_imul hw dX7_worthOf_12 ?_
  refine g_iload_n hw 2 dX7_worthOf_13 rfl ?_
  refine g_iadd hw dX7_worthOf_14 ?_
  obtain ⟨hk4, h⟩ := h
  obtain ⟨hi5, h⟩ := h
  refine g_iald (n := ((4 * p1) + p2).toNatClampNeg) hw dX7_worthOf_15 hk4 hi5 rfl ?_
  refine g_iadd hw dX7_worthOf_16 ?_
  refine sX7_388 hw rfl dX7_worthOf_17 rfl (gK2 hkf) hk1 h (fun r7 M6 h => ?_)
  exact g_iret hw dX7_worthOf_20 rfl ⟨_, rfl, h⟩
theorem sX7_394 {y0 : MethodName} {cc : ByteArray} {nL : Nat} {ret : Option FieldType} {hh : List (Nat × Nat × Nat × Nat)} {kf : Nat} {G : gG} {Qv : Option Value → gM → Prop} {E : String → Nat → gM → Prop} {w : gM → Nat → List (Nat × Value) → List Value → Prop} {M : gM} {pc : Nat} {lv : List (Nat × Value)} {rest : List Value} (hw : gX y0 cc nL ret hh kf G Qv E w) (hy : y0.cls = RX7) {p1 : Int32} {p2 : Int32} {Q : Int32 → gM → Prop} (d : decode cc pc = .ok (.invokevirtual 394, 3)) (hrest : Nat.ble ((rest.map Value.category).sum) 8 = true) (hk : 3 + 1 ≤ kf) (hkd : gk M 268 = 7) (h : fX7_worthOf p1 p2 M Q) (kk : ∀ r M1, Q r M1 → w M1 (pc + 3) lv (.int r :: rest)) : w M pc lv (.int p2 :: .int p1 :: .ref (gA G 268) :: rest) := by
  obtain ⟨cls9, nm9, ds9⟩ := y0
  subst hy
  exact g_callV (r := (RX7, TX7, 58)) (ci := 6) hw [.int p1, .int p2] (nA := 2) rfl d q1580 q1582 qs77 q104 q1583 (by decide +kernel) rfl rfl hrest rfl (by omega : kf - 1 + 1 ≤ kf) hkd (mX7_worthOf (kf := kf - 1) (by omega) G p1 p2 M Q h) (fun _ _ _ q => q.elim) (fun v M1 h => by obtain ⟨r, rfl, h⟩ := h; exact kk r M1 h)
def fX7_isSo_b26  (M : gM) (Q : Int32 → gM → Prop) : Prop :=
  Q 0 M
theorem wX7_isSo_b26 {kf : Nat} {G : gG} {w : gM → Nat → List (Nat × Value) → List Value → Prop} {Q : Int32 → gM → Prop} (hw : gX yX7_isSo cX7_isSo 3 (Option.some FieldType.boolean) [] kf G (gQi Q) gE0 w) (hkf : 4 ≤ kf)   {M : gM}  (h : fX7_isSo_b26 M Q) : w M 26 [] [] := by
  unfold fX7_isSo_b26 at h
  refine g_iconst (v := 0) hw dX7_isSo_26 (by decide) ?_
  exact g_iret hw dX7_isSo_27 (by decide +kernel) ⟨_, rfl, h⟩
def fX7_isSo (p1 : Int32) (p2 : Int32) (M : gM) (Q : Int32 → gM → Prop) : Prop :=
  gk M 268 = 7 ∧ gdr (gR M 268 31) (fun a2 => gk M a2 = 40 ∧ vp_in ((4 * p1) + p2) (gl M a2) ∧ (if (gI M a2 (((4 * p1) + p2).toNatClampNeg)) < 0 then fX7_isSo_b26 M Q else fX7_worthOf p1 p2 M (fun r8 M7 => (if r8 = 0 then fX7_isSo_b26 M7 Q else Q 1 M7))))
theorem mX7_isSo {kf : Nat} (hkf : 4 ≤ kf) (G : gG) (p1 : Int32) (p2 : Int32) (M : gM) (Q : Int32 → gM → Prop) (h : fX7_isSo p1 p2 M Q) : gMet yX7_isSo cX7_isSo 3 (Option.some FieldType.boolean) kf G M [.ref (gA G 268), .int p1, .int p2] (gQi Q) gE0 := by
  refine g_intro (lv := [(0, .ref (gA G 268)), (1, .int p1), (2, .int p2)]) (by decide) rfl rfl (fun w hw => ?_)
  unfold fX7_isSo at h
  refine g_aload_n hw 0 dX7_isSo_0 rfl ?_
  obtain ⟨hk1, h⟩ := h
  obtain ⟨a2, e3, h⟩ := h
  refine gfX7_136 (q := some a2) hw rfl dX7_isSo_1 hk1 e3 ?_
  refine g_iconst (v := 4) hw dX7_isSo_4 (by decide) ?_
  refine g_iload_n hw 1 dX7_isSo_5 rfl ?_
  refine g_imul hw dX7_isSo_6 ?_
  refine g_iload_n hw 2 dX7_isSo_7 rfl ?_
  refine g_iadd hw dX7_isSo_8 ?_
  obtain ⟨hk4, h⟩ := h
  obtain ⟨hi5, h⟩ := h
  refine g_iald (n := ((4 * p1) + p2).toNatClampNeg) hw dX7_isSo_9 hk4 hi5 rfl ?_
  refine g_if_lt (tgt := 26) hw dX7_isSo_10 (by decide) (fun hb6 => ?_) (fun hb6 => ?_)
  · have h := gT h hb6
    refine g_sub hw (lv2 := []) [] rfl ?_
    exact wX7_isSo_b26 hw hkf h
  · have h := gF h hb6
    refine g_aload_n hw 0 dX7_isSo_13 rfl ?_
    refine g_iload_n hw 1 dX7_isSo_14 rfl ?_
    refine g_iload_n hw 2 dX7_isSo_15 rfl ?_
    refine sX7_394 hw rfl dX7_isSo_16 rfl (gK2 hkf) hk1 h (fun r8 M7 h => ?_)
    refine g_if_eq (tgt := 26) hw dX7_isSo_19 (by decide) (fun hb9 => ?_) (fun hb9 => ?_)
    · have h := gT h hb9
      refine g_sub hw (lv2 := []) [] rfl ?_
      exact wX7_isSo_b26 hw hkf h
    · have h := gF h hb9
      refine g_iconst (v := 1) hw dX7_isSo_22 (by decide) ?_
      refine g_goto (tgt := 27) hw dX7_isSo_23 (by decide) ?_
      exact g_iret hw dX7_isSo_27 (by decide +kernel) ⟨_, rfl, h⟩
def fX7_handsByLine (p1 : Int32) (p2 : Int32) (p3 : Int32) (M : gM) (Q : Int32 → gM → Prop) : Prop :=
  gk M 268 = 7 ∧ gdr (gR M 268 31) (fun a2 => gk M a2 = 40 ∧ vp_in ((4 * p1) + p2) (gl M a2) ∧ (if 0 ≤ (gI M a2 (((4 * p1) + p2).toNatClampNeg)) then fX7_worthOf p1 p2 M (fun r8 M7 => (if 0 ≤ r8 then (if r8 ≤ 99 then Q r8 M7 else Q 99 M7) else Q 0 M7)) else Q p3 M))
theorem mX7_handsByLine {kf : Nat} (hkf : 4 ≤ kf) (G : gG) (p1 : Int32) (p2 : Int32) (p3 : Int32) (M : gM) (Q : Int32 → gM → Prop) (h : fX7_handsByLine p1 p2 p3 M Q) : gMet yX7_handsByLine cX7_handsByLine 5 (Option.some FieldType.int) kf G M [.ref (gA G 268), .int p1, .int p2, .int p3] (gQi Q) gE0 := by
  refine g_intro (lv := [(0, .ref (gA G 268)), (1, .int p1), (2, .int p2), (3, .int p3)]) (by decide) rfl rfl (fun w hw => ?_)
  unfold fX7_handsByLine at h
  refine g_aload_n hw 0 dX7_handsByLine_0 rfl ?_
  obtain ⟨hk1, h⟩ := h
  obtain ⟨a2, e3, h⟩ := h
  refine gfX7_136 (q := some a2) hw rfl dX7_handsByLine_1 hk1 e3 ?_
  refine g_iconst (v := 4) hw dX7_handsByLine_4 (by decide) ?_
  refine g_iload_n hw 1 dX7_handsByLine_5 rfl ?_
  refine g_imul hw dX7_handsByLine_6 ?_
  refine g_iload_n hw 2 dX7_handsByLine_7 rfl ?_
  refine g_iadd hw dX7_handsByLine_8 ?_
  obtain ⟨hk4, h⟩ := h
  obtain ⟨hi5, h⟩ := h
  refine g_iald (n := ((4 * p1) + p2).toNatClampNeg) hw dX7_handsByLine_9 hk4 hi5 rfl ?_
  refine g_if_ge (tgt := 15) hw dX7_handsByLine_10 (by decide) (fun hb6 => ?_) (fun hb6 => ?_)
  · have h := gT h hb6
    refine g_aload_n hw 0 dX7_handsByLine_15 rfl ?_
    refine g_iload_n hw 1 dX7_handsByLine_16 rfl ?_
    refine g_iload_n hw 2 dX7_handsByLine_17 rfl ?_
    refine sX7_394 hw rfl dX7_handsByLine_18 rfl (gK2 hkf) hk1 h (fun r8 M7 h => ?_)
    refine g_istore hw (lv2 := [(4, .int r8)]) [0] dX7_handsByLine_21 rfl rfl ?_
    refine g_iload hw 0 dX7_handsByLine_23 rfl ?_
    refine g_if_ge (tgt := 32) hw dX7_handsByLine_25 (by decide) (fun hb9 => ?_) (fun hb9 => ?_)
    · have h := gT h hb9
      refine g_iload hw 0 dX7_handsByLine_32 rfl ?_
      refine g_bipush (v := 99) hw dX7_handsByLine_34 (by decide) ?_
      refine g_icmp_le (tgt := 44) hw dX7_handsByLine_36 (by decide) (fun hb10 => ?_) (fun hb10 => ?_)
      · have h := gT h hb10
        refine g_iload hw 0 dX7_handsByLine_44 rfl ?_
        exact g_iret hw dX7_handsByLine_46 rfl ⟨_, rfl, h⟩
      · have h := gF h hb10
        refine g_bipush (v := 99) hw dX7_handsByLine_39 (by decide) ?_
        refine g_goto (tgt := 46) hw dX7_handsByLine_41 (by decide) ?_
        exact g_iret hw dX7_handsByLine_46 rfl ⟨_, rfl, h⟩
    · have h := gF h hb9
      refine g_iconst (v := 0) hw dX7_handsByLine_28 (by decide) ?_
      refine g_goto (tgt := 46) hw dX7_handsByLine_29 (by decide) ?_
      exact g_iret hw dX7_handsByLine_46 rfl ⟨_, rfl, h⟩
  · have h := gF h hb6
    refine g_iload_n hw 3 dX7_handsByLine_13 rfl ?_
    exact g_iret hw dX7_handsByLine_14 rfl ⟨_, rfl, h⟩
theorem gfX7_160 {y0 : MethodName} {cc : ByteArray} {nL : Nat} {ret : Option FieldType} {hh : List (Nat × Nat × Nat × Nat)} {kf : Nat} {G : gG} {Qv : Option Value → gM → Prop} {E : String → Nat → gM → Prop} {w : gM → Nat → List (Nat × Value) → List Value → Prop} {M : gM} {pc : Nat} {lv : List (Nat × Value)} {rest : List Value} (hw : gX y0 cc nL ret hh kf G Qv E w) (hy : y0.cls = RX7) {c : Nat} {q : Option Nat} (d : decode cc pc = .ok (.getfield 160, 3)) (hk : gk M c = 7) (hq : gR M c 40 = q) (kk : w M (pc + 3) lv (va_rf (q.map (gA G)) :: rest)) : w M pc lv (.ref (gA G c) :: rest) := by
  obtain ⟨cls9, nm9, ds9⟩ := y0
  subst hy
  subst hq
  exact g_getC (C := RX7) (T := TX7) (N := 58) (ci := 6) hw in_X7 rfl 40 (by decide) (Or.inl q1196) rfl d hk kk
theorem gfX7_154 {y0 : MethodName} {cc : ByteArray} {nL : Nat} {ret : Option FieldType} {hh : List (Nat × Nat × Nat × Nat)} {kf : Nat} {G : gG} {Qv : Option Value → gM → Prop} {E : String → Nat → gM → Prop} {w : gM → Nat → List (Nat × Value) → List Value → Prop} {M : gM} {pc : Nat} {lv : List (Nat × Value)} {rest : List Value} (hw : gX y0 cc nL ret hh kf G Qv E w) (hy : y0.cls = RX7) {c : Nat} {q : Option Nat} (d : decode cc pc = .ok (.getfield 154, 3)) (hk : gk M c = 7) (hq : gR M c 38 = q) (kk : w M (pc + 3) lv (va_rf (q.map (gA G)) :: rest)) : w M pc lv (.ref (gA G c) :: rest) := by
  obtain ⟨cls9, nm9, ds9⟩ := y0
  subst hy
  subst hq
  exact g_getC (C := RX7) (T := TX7) (N := 58) (ci := 6) hw in_X7 rfl 38 (by decide) (Or.inl q1194) rfl d hk kk
theorem gfX7_157 {y0 : MethodName} {cc : ByteArray} {nL : Nat} {ret : Option FieldType} {hh : List (Nat × Nat × Nat × Nat)} {kf : Nat} {G : gG} {Qv : Option Value → gM → Prop} {E : String → Nat → gM → Prop} {w : gM → Nat → List (Nat × Value) → List Value → Prop} {M : gM} {pc : Nat} {lv : List (Nat × Value)} {rest : List Value} (hw : gX y0 cc nL ret hh kf G Qv E w) (hy : y0.cls = RX7) {c : Nat} {q : Option Nat} (d : decode cc pc = .ok (.getfield 157, 3)) (hk : gk M c = 7) (hq : gR M c 39 = q) (kk : w M (pc + 3) lv (va_rf (q.map (gA G)) :: rest)) : w M pc lv (.ref (gA G c) :: rest) := by
  obtain ⟨cls9, nm9, ds9⟩ := y0
  subst hy
  subst hq
  exact g_getC (C := RX7) (T := TX7) (N := 58) (ci := 6) hw in_X7 rfl 39 (by decide) (Or.inl q1195) rfl d hk kk
theorem sX7_409 {y0 : MethodName} {cc : ByteArray} {nL : Nat} {ret : Option FieldType} {hh : List (Nat × Nat × Nat × Nat)} {kf : Nat} {G : gG} {Qv : Option Value → gM → Prop} {E : String → Nat → gM → Prop} {w : gM → Nat → List (Nat × Value) → List Value → Prop} {M : gM} {pc : Nat} {lv : List (Nat × Value)} {rest : List Value} (hw : gX y0 cc nL ret hh kf G Qv E w) (hy : y0.cls = RX7) {p1 : Int32} {p2 : Int32} {Q : Int32 → gM → Prop} (d : decode cc pc = .ok (.invokevirtual 409, 3)) (hrest : Nat.ble ((rest.map Value.category).sum) 8 = true) (hk : 4 + 1 ≤ kf) (hkd : gk M 268 = 7) (h : fX7_isSo p1 p2 M Q) (kk : ∀ r M1, Q r M1 → w M1 (pc + 3) lv (.int r :: rest)) : w M pc lv (.int p2 :: .int p1 :: .ref (gA G 268) :: rest) := by
  obtain ⟨cls9, nm9, ds9⟩ := y0
  subst hy
  exact g_callV (r := (RX7, TX7, 58)) (ci := 6) hw [.int p1, .int p2] (nA := 2) rfl d q1576 q1578 qs76 q104 q1579 (by decide +kernel) rfl rfl hrest rfl (by omega : kf - 1 + 1 ≤ kf) hkd (mX7_isSo (kf := kf - 1) (by omega) G p1 p2 M Q h) (fun _ _ _ q => q.elim) (fun v M1 h => by obtain ⟨r, rfl, h⟩ := h; exact kk r M1 h)
theorem sX7_412 {y0 : MethodName} {cc : ByteArray} {nL : Nat} {ret : Option FieldType} {hh : List (Nat × Nat × Nat × Nat)} {kf : Nat} {G : gG} {Qv : Option Value → gM → Prop} {E : String → Nat → gM → Prop} {w : gM → Nat → List (Nat × Value) → List Value → Prop} {M : gM} {pc : Nat} {lv : List (Nat × Value)} {rest : List Value} (hw : gX y0 cc nL ret hh kf G Qv E w) (hy : y0.cls = RX7) {p1 : Int32} {p2 : Int32} {p3 : Int32} {Q : Int32 → gM → Prop} (d : decode cc pc = .ok (.invokevirtual 412, 3)) (hrest : Nat.ble ((rest.map Value.category).sum) 8 = true) (hk : 4 + 1 ≤ kf) (hkd : gk M 268 = 7) (h : fX7_handsByLine p1 p2 p3 M Q) (kk : ∀ r M1, Q r M1 → w M1 (pc + 3) lv (.int r :: rest)) : w M pc lv (.int p3 :: .int p2 :: .int p1 :: .ref (gA G 268) :: rest) := by
  obtain ⟨cls9, nm9, ds9⟩ := y0
  subst hy
  exact g_callV (r := (RX7, TX7, 58)) (ci := 6) hw [.int p1, .int p2, .int p3] (nA := 3) rfl d q1591 q1593 qs79 q104 q1594 (by decide +kernel) rfl rfl hrest rfl (by omega : kf - 1 + 1 ≤ kf) hkd (mX7_handsByLine (kf := kf - 1) (by omega) G p1 p2 p3 M Q h) (fun _ _ _ q => q.elim) (fun v M1 h => by obtain ⟨r, rfl, h⟩ := h; exact kk r M1 h)
def fX7_goesOn_b252 (l1_135 : Int32) (l5_136 : Int32) (l8_137 : Int32) (s0_138 : Nat) (s1_139 : Int32) (s2_140 : Int32) (M : gM) (Q : gM → Prop) : Prop :=
  gk M s0_138 = 40 ∧ vp_in s1_139 (gl M s0_138) ∧ gk (gsI M s0_138 s1_139.toNatClampNeg s2_140) 268 = 7 ∧ gdr (gR (gsI M s0_138 s1_139.toNatClampNeg s2_140) 268 39) (fun a144 => (if l8_137 = 0 then gdr (gR (gsI M s0_138 s1_139.toNatClampNeg s2_140) 268 36) (fun a147 => gk (gsI M s0_138 s1_139.toNatClampNeg s2_140) a147 = 40 ∧ vp_in 1 (gl (gsI M s0_138 s1_139.toNatClampNeg s2_140) a147) ∧ fX7_handsByLine l1_135 1 (gI (gsI M s0_138 s1_139.toNatClampNeg s2_140) a147 1) (gsI M s0_138 s1_139.toNatClampNeg s2_140) (fun r152 M151 => gk M151 a144 = 40 ∧ vp_in l5_136 (gl M151 a144) ∧ Q (gsI M151 a144 l5_136.toNatClampNeg r152))) else gk (gsI M s0_138 s1_139.toNatClampNeg s2_140) a144 = 40 ∧ vp_in l5_136 (gl (gsI M s0_138 s1_139.toNatClampNeg s2_140) a144) ∧ Q (gsI (gsI M s0_138 s1_139.toNatClampNeg s2_140) a144 l5_136.toNatClampNeg 0)))
theorem wX7_goesOn_b252 {kf : Nat} {G : gG} {w : gM → Nat → List (Nat × Value) → List Value → Prop} {Q : gM → Prop} (hw : gX yX7_goesOn cX7_goesOn 9 (Option.none : Option FieldType) [] kf G (gQv Q) gE0 w) (hkf : 5 ≤ kf)  {l1_135 : Int32} {l5_136 : Int32} {l8_137 : Int32} {s0_138 : Nat} {s1_139 : Int32} {s2_140 : Int32} {M : gM}  (h : fX7_goesOn_b252 l1_135 l5_136 l8_137 s0_138 s1_139 s2_140 M Q) : w M 252 [(0, .ref (gA G 268)), (1, .int l1_135), (5, .int l5_136), (8, .int l8_137)] [.int s2_140, .int s1_139, .ref (gA G s0_138)] := by
  unfold fX7_goesOn_b252 at h
  obtain ⟨hk141, h⟩ := h
  obtain ⟨hi142, h⟩ := h
  refine g_iast (n := s1_139.toNatClampNeg) hw dX7_goesOn_252 hk141 hi142 rfl ?_
  refine g_aload_n hw 0 dX7_goesOn_253 rfl ?_
  obtain ⟨hk143, h⟩ := h
  obtain ⟨a144, e145, h⟩ := h
  refine gfX7_157 (q := some a144) hw rfl dX7_goesOn_254 hk143 e145 ?_
  refine g_iload hw 2 dX7_goesOn_257 rfl ?_
  refine g_iload hw 3 dX7_goesOn_259 rfl ?_
  refine g_if_eq (tgt := 268) hw dX7_goesOn_261 (by decide) (fun hb146 => ?_) (fun hb146 => ?_)
  · have h := gT h hb146
    refine g_aload_n hw 0 dX7_goesOn_268 rfl ?_
    refine g_iload_n hw 1 dX7_goesOn_269 rfl ?_
    refine g_iconst (v := 1) hw dX7_goesOn_270 (by decide) ?_
    refine g_aload_n hw 0 dX7_goesOn_271 rfl ?_
    obtain ⟨a147, e148, h⟩ := h
    refine gfX7_148 (q := some a147) hw rfl dX7_goesOn_272 hk143 e148 ?_
    refine g_iconst (v := 1) hw dX7_goesOn_275 (by decide) ?_
    obtain ⟨hk149, h⟩ := h
    obtain ⟨hi150, h⟩ := h
    refine g_iald (n := 1) hw dX7_goesOn_276 hk149 hi150 rfl ?_
    refine sX7_412 hw rfl dX7_goesOn_277 rfl (gK2 hkf) hk143 h (fun r152 M151 h => ?_)
    obtain ⟨hk153, h⟩ := h
    obtain ⟨hi154, h⟩ := h
    refine g_iast (n := l5_136.toNatClampNeg) hw dX7_goesOn_280 hk153 hi154 rfl ?_
    exact g_vret hw dX7_goesOn_281 ⟨rfl, h⟩
  · have h := gF h hb146
    refine g_iconst (v := 0) hw dX7_goesOn_264 (by decide) ?_
    refine g_goto (tgt := 280) hw dX7_goesOn_265 (by decide) ?_
    obtain ⟨hk155, h⟩ := h
    obtain ⟨hi156, h⟩ := h
    refine g_iast (n := l5_136.toNatClampNeg) hw dX7_goesOn_280 hk155 hi156 rfl ?_
    exact g_vret hw dX7_goesOn_281 ⟨rfl, h⟩
def fX7_goesOn_b214 (l1_117 : Int32) (l5_118 : Int32) (s0_119 : Int32) (M : gM) (Q : gM → Prop) : Prop :=
  gk M 268 = 7 ∧ gdr (gR M 268 40) (fun a121 => gk M a121 = 43 ∧ vp_in l5_118 (gl M a121) ∧ (s0_119 = 0 ∨ s0_119 = 1) ∧ gdr (gR (gsI M a121 l5_118.toNatClampNeg s0_119) 268 38) (fun a126 => (if s0_119 = 0 then gdr (gR (gsI M a121 l5_118.toNatClampNeg s0_119) 268 36) (fun a129 => gk (gsI M a121 l5_118.toNatClampNeg s0_119) a129 = 40 ∧ vp_in 0 (gl (gsI M a121 l5_118.toNatClampNeg s0_119) a129) ∧ fX7_handsByLine l1_117 0 (gI (gsI M a121 l5_118.toNatClampNeg s0_119) a129 0) (gsI M a121 l5_118.toNatClampNeg s0_119) (fun r134 M133 => fX7_goesOn_b252 l1_117 l5_118 s0_119 a126 l5_118 r134 M133 Q)) else fX7_goesOn_b252 l1_117 l5_118 s0_119 a126 l5_118 0 (gsI M a121 l5_118.toNatClampNeg s0_119) Q)))
theorem wX7_goesOn_b214 {kf : Nat} {G : gG} {w : gM → Nat → List (Nat × Value) → List Value → Prop} {Q : gM → Prop} (hw : gX yX7_goesOn cX7_goesOn 9 (Option.none : Option FieldType) [] kf G (gQv Q) gE0 w) (hkf : 5 ≤ kf)  {l1_117 : Int32} {l5_118 : Int32} {s0_119 : Int32} {M : gM}  (h : fX7_goesOn_b214 l1_117 l5_118 s0_119 M Q) : w M 214 [(0, .ref (gA G 268)), (1, .int l1_117), (5, .int l5_118)] [.int s0_119] := by
  unfold fX7_goesOn_b214 at h
  refine g_istore hw (lv2 := [(0, .ref (gA G 268)), (1, .int l1_117), (5, .int l5_118), (8, .int s0_119)]) [1, 2, 3, 0] dX7_goesOn_214 rfl rfl ?_
  refine g_aload_n hw 0 dX7_goesOn_216 rfl ?_
  obtain ⟨hk120, h⟩ := h
  obtain ⟨a121, e122, h⟩ := h
  refine gfX7_160 (q := some a121) hw rfl dX7_goesOn_217 hk120 e122 ?_
  refine g_iload hw 2 dX7_goesOn_220 rfl ?_
  refine g_iload hw 3 dX7_goesOn_222 rfl ?_
  obtain ⟨hk123, h⟩ := h
  obtain ⟨hi124, h⟩ := h
  obtain ⟨hc125, h⟩ := h
  refine g_zast (n := l5_118.toNatClampNeg) hw dX7_goesOn_224 hk123 hi124 rfl (gBool hc125) ?_
  refine g_aload_n hw 0 dX7_goesOn_225 rfl ?_
  obtain ⟨a126, e127, h⟩ := h
  refine gfX7_154 (q := some a126) hw rfl dX7_goesOn_226 hk120 e127 ?_
  refine g_iload hw 2 dX7_goesOn_229 rfl ?_
  refine g_iload hw 3 dX7_goesOn_231 rfl ?_
  refine g_if_eq (tgt := 240) hw dX7_goesOn_233 (by decide) (fun hb128 => ?_) (fun hb128 => ?_)
  · have h := gT h hb128
    refine g_aload_n hw 0 dX7_goesOn_240 rfl ?_
    refine g_iload_n hw 1 dX7_goesOn_241 rfl ?_
    refine g_iconst (v := 0) hw dX7_goesOn_242 (by decide) ?_
    refine g_aload_n hw 0 dX7_goesOn_243 rfl ?_
    obtain ⟨a129, e130, h⟩ := h
    refine gfX7_148 (q := some a129) hw rfl dX7_goesOn_244 hk120 e130 ?_
    refine g_iconst (v := 0) hw dX7_goesOn_247 (by decide) ?_
    obtain ⟨hk131, h⟩ := h
    obtain ⟨hi132, h⟩ := h
    refine g_iald (n := 0) hw dX7_goesOn_248 hk131 hi132 rfl ?_
    refine sX7_412 hw rfl dX7_goesOn_249 rfl (gK2 hkf) hk120 h (fun r134 M133 h => ?_)
    exact wX7_goesOn_b252 hw hkf h
  · have h := gF h hb128
    refine g_iconst (v := 0) hw dX7_goesOn_236 (by decide) ?_
    refine g_goto (tgt := 252) hw dX7_goesOn_237 (by decide) ?_
    exact wX7_goesOn_b252 hw hkf h
def fX7_goesOn_b185 (l1_105 : Int32) (l5_106 : Int32) (l7_107 : Int32) (s0_108 : Nat) (s1_109 : Int32) (s2_110 : Int32) (M : gM) (Q : gM → Prop) : Prop :=
  gk M s0_108 = 40 ∧ vp_in s1_109 (gl M s0_108) ∧ (if l7_107 = 0 then gk (gsI M s0_108 s1_109.toNatClampNeg s2_110) 268 = 7 ∧ fX7_isSo l1_105 2 (gsI M s0_108 s1_109.toNatClampNeg s2_110) (fun r116 M115 => fX7_goesOn_b214 l1_105 l5_106 r116 M115 Q) else gk (gsI M s0_108 s1_109.toNatClampNeg s2_110) 268 = 7 ∧ fX7_isSo l1_105 3 (gsI M s0_108 s1_109.toNatClampNeg s2_110) (fun r159 M158 => (if r159 = 0 then fX7_goesOn_b214 l1_105 l5_106 1 M158 Q else fX7_goesOn_b214 l1_105 l5_106 0 M158 Q)))
theorem wX7_goesOn_b185 {kf : Nat} {G : gG} {w : gM → Nat → List (Nat × Value) → List Value → Prop} {Q : gM → Prop} (hw : gX yX7_goesOn cX7_goesOn 9 (Option.none : Option FieldType) [] kf G (gQv Q) gE0 w) (hkf : 5 ≤ kf)  {l1_105 : Int32} {l5_106 : Int32} {l7_107 : Int32} {s0_108 : Nat} {s1_109 : Int32} {s2_110 : Int32} {M : gM}  (h : fX7_goesOn_b185 l1_105 l5_106 l7_107 s0_108 s1_109 s2_110 M Q) : w M 185 [(0, .ref (gA G 268)), (1, .int l1_105), (5, .int l5_106), (7, .int l7_107)] [.int s2_110, .int s1_109, .ref (gA G s0_108)] := by
  unfold fX7_goesOn_b185 at h
  obtain ⟨hk111, h⟩ := h
  obtain ⟨hi112, h⟩ := h
  refine g_iast (n := s1_109.toNatClampNeg) hw dX7_goesOn_185 hk111 hi112 rfl ?_
  refine g_iload hw 3 dX7_goesOn_186 rfl ?_
  refine g_if_eq (tgt := 208) hw dX7_goesOn_188 (by decide) (fun hb113 => ?_) (fun hb113 => ?_)
  · have h := gT h hb113
    refine g_aload_n hw 0 dX7_goesOn_208 rfl ?_
    refine g_iload_n hw 1 dX7_goesOn_209 rfl ?_
    refine g_iconst (v := 2) hw dX7_goesOn_210 (by decide) ?_
    obtain ⟨hk114, h⟩ := h
    refine sX7_409 hw rfl dX7_goesOn_211 rfl (gK2 hkf) hk114 h (fun r116 M115 h => ?_)
    refine g_sub hw (lv2 := [(0, .ref (gA G 268)), (1, .int l1_105), (5, .int l5_106)]) [0, 1, 2] rfl ?_
    exact wX7_goesOn_b214 hw hkf h
  · have h := gF h hb113
    refine g_aload_n hw 0 dX7_goesOn_191 rfl ?_
    refine g_iload_n hw 1 dX7_goesOn_192 rfl ?_
    refine g_iconst (v := 3) hw dX7_goesOn_193 (by decide) ?_
    obtain ⟨hk157, h⟩ := h
    refine sX7_409 hw rfl dX7_goesOn_194 rfl (gK2 hkf) hk157 h (fun r159 M158 h => ?_)
    refine g_if_ne (tgt := 204) hw dX7_goesOn_197 (by decide) (fun hb160 => ?_) (fun hb160 => ?_)
    · have h := gF h hb160
      refine g_iconst (v := 0) hw dX7_goesOn_204 (by decide) ?_
      refine g_goto (tgt := 214) hw dX7_goesOn_205 (by decide) ?_
      refine g_sub hw (lv2 := [(0, .ref (gA G 268)), (1, .int l1_105), (5, .int l5_106)]) [0, 1, 2] rfl ?_
      exact wX7_goesOn_b214 hw hkf h
    · have h := gT h hb160
      refine g_iconst (v := 1) hw dX7_goesOn_200 (by decide) ?_
      refine g_goto (tgt := 214) hw dX7_goesOn_201 (by decide) ?_
      refine g_sub hw (lv2 := [(0, .ref (gA G 268)), (1, .int l1_105), (5, .int l5_106)]) [0, 1, 2] rfl ?_
      exact wX7_goesOn_b214 hw hkf h
def fX7_goesOn_b160 (l1_93 : Int32) (l4_94 : Int32) (l5_95 : Int32) (l7_96 : Int32) (M : gM) (Q : gM → Prop) : Prop :=
  gk M 268 = 7 ∧ gdr (gR M 268 36) (fun a98 => gk M a98 = 40 ∧ vp_in 8 (gl M a98) ∧ gdr (gR (gsI M a98 8 l4_94) 268 36) (fun a102 => (if l7_96 = 0 then fX7_goesOn_b185 l1_93 l5_95 l7_96 a102 9 0 (gsI M a98 8 l4_94) Q else fX7_goesOn_b185 l1_93 l5_95 l7_96 a102 9 1 (gsI M a98 8 l4_94) Q)))
theorem wX7_goesOn_b160 {kf : Nat} {G : gG} {w : gM → Nat → List (Nat × Value) → List Value → Prop} {Q : gM → Prop} (hw : gX yX7_goesOn cX7_goesOn 9 (Option.none : Option FieldType) [] kf G (gQv Q) gE0 w) (hkf : 5 ≤ kf)  {l1_93 : Int32} {l4_94 : Int32} {l5_95 : Int32} {l7_96 : Int32} {M : gM}  (h : fX7_goesOn_b160 l1_93 l4_94 l5_95 l7_96 M Q) : w M 160 [(0, .ref (gA G 268)), (1, .int l1_93), (4, .int l4_94), (5, .int l5_95), (7, .int l7_96)] [] := by
  unfold fX7_goesOn_b160 at h
  refine g_aload_n hw 0 dX7_goesOn_160 rfl ?_
  obtain ⟨hk97, h⟩ := h
  obtain ⟨a98, e99, h⟩ := h
  refine gfX7_148 (q := some a98) hw rfl dX7_goesOn_161 hk97 e99 ?_
  refine g_bipush (v := 8) hw dX7_goesOn_164 (by decide) ?_
  refine g_iload hw 2 dX7_goesOn_166 rfl ?_
  obtain ⟨hk100, h⟩ := h
  obtain ⟨hi101, h⟩ := h
  refine g_iast (n := 8) hw dX7_goesOn_168 hk100 hi101 rfl ?_
  refine g_aload_n hw 0 dX7_goesOn_169 rfl ?_
  obtain ⟨a102, e103, h⟩ := h
  refine gfX7_148 (q := some a102) hw rfl dX7_goesOn_170 hk97 e103 ?_
  refine g_bipush (v := 9) hw dX7_goesOn_173 (by decide) ?_
  refine g_iload hw 4 dX7_goesOn_175 rfl ?_
  refine g_if_eq (tgt := 184) hw dX7_goesOn_177 (by decide) (fun hb104 => ?_) (fun hb104 => ?_)
  · have h := gT h hb104
    refine g_iconst (v := 0) hw dX7_goesOn_184 (by decide) ?_
    refine g_sub hw (lv2 := [(0, .ref (gA G 268)), (1, .int l1_93), (5, .int l5_95), (7, .int l7_96)]) [0, 1, 3, 4] rfl ?_
    exact wX7_goesOn_b185 hw hkf h
  · have h := gF h hb104
    refine g_iconst (v := 1) hw dX7_goesOn_180 (by decide) ?_
    refine g_goto (tgt := 185) hw dX7_goesOn_181 (by decide) ?_
    refine g_sub hw (lv2 := [(0, .ref (gA G 268)), (1, .int l1_93), (5, .int l5_95), (7, .int l7_96)]) [0, 1, 3, 4] rfl ?_
    exact wX7_goesOn_b185 hw hkf h
def fX7_goesOn_b116 (l1_57 : Int32) (l2_58 : Int32) (l3_59 : Int32) (l4_60 : Int32) (l5_61 : Int32) (l7_62 : Int32) (s0_63 : Nat) (s1_64 : Int32) (s2_65 : Int32) (M : gM) (Q : gM → Prop) : Prop :=
  gk M s0_63 = 40 ∧ vp_in s1_64 (gl M s0_63) ∧ gk (gsI M s0_63 s1_64.toNatClampNeg s2_65) 268 = 7 ∧ gdr (gR (gsI M s0_63 s1_64.toNatClampNeg s2_65) 268 36) (fun a69 => gdr (gR (gsI M s0_63 s1_64.toNatClampNeg s2_65) 268 11) (fun a71 => gk (gsI M s0_63 s1_64.toNatClampNeg s2_65) a71 = 40 ∧ vp_in l2_58 (gl (gsI M s0_63 s1_64.toNatClampNeg s2_65) a71) ∧ gk (gsI M s0_63 s1_64.toNatClampNeg s2_65) a69 = 40 ∧ vp_in 5 (gl (gsI M s0_63 s1_64.toNatClampNeg s2_65) a69) ∧ gdr (gR (gsI (gsI M s0_63 s1_64.toNatClampNeg s2_65) a69 5 (gI (gsI M s0_63 s1_64.toNatClampNeg s2_65) a71 l2_58.toNatClampNeg)) 268 36) (fun a77 => gk (gsI (gsI M s0_63 s1_64.toNatClampNeg s2_65) a69 5 (gI (gsI M s0_63 s1_64.toNatClampNeg s2_65) a71 l2_58.toNatClampNeg)) a77 = 40 ∧ vp_in 6 (gl (gsI (gsI M s0_63 s1_64.toNatClampNeg s2_65) a69 5 (gI (gsI M s0_63 s1_64.toNatClampNeg s2_65) a71 l2_58.toNatClampNeg)) a77) ∧ gdr (gR (gsI (gsI (gsI M s0_63 s1_64.toNatClampNeg s2_65) a69 5 (gI (gsI M s0_63 s1_64.toNatClampNeg s2_65) a71 l2_58.toNatClampNeg)) a77 6 l3_59) 268 36) (fun a81 => gdr (gR (gsI (gsI (gsI M s0_63 s1_64.toNatClampNeg s2_65) a69 5 (gI (gsI M s0_63 s1_64.toNatClampNeg s2_65) a71 l2_58.toNatClampNeg)) a77 6 l3_59) 268 17) (fun a83 => gdr (gR (gsI (gsI (gsI M s0_63 s1_64.toNatClampNeg s2_65) a69 5 (gI (gsI M s0_63 s1_64.toNatClampNeg s2_65) a71 l2_58.toNatClampNeg)) a77 6 l3_59) 268 11) (fun a85 => gk (gsI (gsI (gsI M s0_63 s1_64.toNatClampNeg s2_65) a69 5 (gI (gsI M s0_63 s1_64.toNatClampNeg s2_65) a71 l2_58.toNatClampNeg)) a77 6 l3_59) a85 = 40 ∧ vp_in l2_58 (gl (gsI (gsI (gsI M s0_63 s1_64.toNatClampNeg s2_65) a69 5 (gI (gsI M s0_63 s1_64.toNatClampNeg s2_65) a71 l2_58.toNatClampNeg)) a77 6 l3_59) a85) ∧ gk (gsI (gsI (gsI M s0_63 s1_64.toNatClampNeg s2_65) a69 5 (gI (gsI M s0_63 s1_64.toNatClampNeg s2_65) a71 l2_58.toNatClampNeg)) a77 6 l3_59) a83 = 40 ∧ vp_in ((12 * (gI (gsI (gsI (gsI M s0_63 s1_64.toNatClampNeg s2_65) a69 5 (gI (gsI M s0_63 s1_64.toNatClampNeg s2_65) a71 l2_58.toNatClampNeg)) a77 6 l3_59) a85 l2_58.toNatClampNeg)) + l3_59) (gl (gsI (gsI (gsI M s0_63 s1_64.toNatClampNeg s2_65) a69 5 (gI (gsI M s0_63 s1_64.toNatClampNeg s2_65) a71 l2_58.toNatClampNeg)) a77 6 l3_59) a83) ∧ gk (gsI (gsI (gsI M s0_63 s1_64.toNatClampNeg s2_65) a69 5 (gI (gsI M s0_63 s1_64.toNatClampNeg s2_65) a71 l2_58.toNatClampNeg)) a77 6 l3_59) a81 = 40 ∧ vp_in 7 (gl (gsI (gsI (gsI M s0_63 s1_64.toNatClampNeg s2_65) a69 5 (gI (gsI M s0_63 s1_64.toNatClampNeg s2_65) a71 l2_58.toNatClampNeg)) a77 6 l3_59) a81) ∧ fX7_goesOn_b160 l1_57 l4_60 l5_61 l7_62 (gsI (gsI (gsI (gsI M s0_63 s1_64.toNatClampNeg s2_65) a69 5 (gI (gsI M s0_63 s1_64.toNatClampNeg s2_65) a71 l2_58.toNatClampNeg)) a77 6 l3_59) a81 7 (gI (gsI (gsI (gsI M s0_63 s1_64.toNatClampNeg s2_65) a69 5 (gI (gsI M s0_63 s1_64.toNatClampNeg s2_65) a71 l2_58.toNatClampNeg)) a77 6 l3_59) a83 (((12 * (gI (gsI (gsI (gsI M s0_63 s1_64.toNatClampNeg s2_65) a69 5 (gI (gsI M s0_63 s1_64.toNatClampNeg s2_65) a71 l2_58.toNatClampNeg)) a77 6 l3_59) a85 l2_58.toNatClampNeg)) + l3_59).toNatClampNeg))) Q))))))
theorem wX7_goesOn_b116 {kf : Nat} {G : gG} {w : gM → Nat → List (Nat × Value) → List Value → Prop} {Q : gM → Prop} (hw : gX yX7_goesOn cX7_goesOn 9 (Option.none : Option FieldType) [] kf G (gQv Q) gE0 w) (hkf : 5 ≤ kf)  {l1_57 : Int32} {l2_58 : Int32} {l3_59 : Int32} {l4_60 : Int32} {l5_61 : Int32} {l7_62 : Int32} {s0_63 : Nat} {s1_64 : Int32} {s2_65 : Int32} {M : gM}  (h : fX7_goesOn_b116 l1_57 l2_58 l3_59 l4_60 l5_61 l7_62 s0_63 s1_64 s2_65 M Q) : w M 116 [(0, .ref (gA G 268)), (1, .int l1_57), (2, .int l2_58), (3, .int l3_59), (4, .int l4_60), (5, .int l5_61), (7, .int l7_62)] [.int s2_65, .int s1_64, .ref (gA G s0_63)] := by
  unfold fX7_goesOn_b116 at h
  obtain ⟨hk66, h⟩ := h
  obtain ⟨hi67, h⟩ := h
  refine g_iast (n := s1_64.toNatClampNeg) hw dX7_goesOn_116 hk66 hi67 rfl ?_
  refine g_aload_n hw 0 dX7_goesOn_117 rfl ?_
  obtain ⟨hk68, h⟩ := h
  obtain ⟨a69, e70, h⟩ := h
  refine gfX7_148 (q := some a69) hw rfl dX7_goesOn_118 hk68 e70 ?_
  refine g_iconst (v := 5) hw dX7_goesOn_121 (by decide) ?_
  refine g_aload_n hw 0 dX7_goesOn_122 rfl ?_
  obtain ⟨a71, e72, h⟩ := h
  refine gfX7_97 (q := some a71) hw rfl dX7_goesOn_123 hk68 e72 ?_
  refine g_iload_n hw 2 dX7_goesOn_126 rfl ?_
  obtain ⟨hk73, h⟩ := h
  obtain ⟨hi74, h⟩ := h
  refine g_iald (n := l2_58.toNatClampNeg) hw dX7_goesOn_127 hk73 hi74 rfl ?_
  obtain ⟨hk75, h⟩ := h
  obtain ⟨hi76, h⟩ := h
  refine g_iast (n := 5) hw dX7_goesOn_128 hk75 hi76 rfl ?_
  refine g_aload_n hw 0 dX7_goesOn_129 rfl ?_
  obtain ⟨a77, e78, h⟩ := h
  refine gfX7_148 (q := some a77) hw rfl dX7_goesOn_130 hk68 e78 ?_
  refine g_bipush (v := 6) hw dX7_goesOn_133 (by decide) ?_
  refine g_iload_n hw 3 dX7_goesOn_135 rfl ?_
  obtain ⟨hk79, h⟩ := h
  obtain ⟨hi80, h⟩ := h
  refine g_iast (n := 6) hw dX7_goesOn_136 hk79 hi80 rfl ?_
  refine g_aload_n hw 0 dX7_goesOn_137 rfl ?_
  obtain ⟨a81, e82, h⟩ := h
  refine gfX7_148 (q := some a81) hw rfl dX7_goesOn_138 hk68 e82 ?_
  refine g_bipush (v := 7) hw dX7_goesOn_141 (by decide) ?_
  refine g_aload_n hw 0 dX7_goesOn_143 rfl ?_
  obtain ⟨a83, e84, h⟩ := h
  refine gfX7_112 (q := some a83) hw rfl dX7_goesOn_144 hk68 e84 ?_
  refine g_bipush (v := 12) hw dX7_goesOn_147 (by decide) ?_
  refine g_aload_n hw 0 dX7_goesOn_149 rfl ?_
  obtain ⟨a85, e86, h⟩ := h
  refine gfX7_97 (q := some a85) hw rfl dX7_goesOn_150 hk68 e86 ?_
  refine g_iload_n hw 2 dX7_goesOn_153 rfl ?_
  obtain ⟨hk87, h⟩ := h
  obtain ⟨hi88, h⟩ := h
  refine g_iald (n := l2_58.toNatClampNeg) hw dX7_goesOn_154 hk87 hi88 rfl ?_
  refine g_imul hw dX7_goesOn_155 ?_
  refine g_iload_n hw 3 dX7_goesOn_156 rfl ?_
  refine g_iadd hw dX7_goesOn_157 ?_
  obtain ⟨hk89, h⟩ := h
  obtain ⟨hi90, h⟩ := h
  refine g_iald (n := ((12 * (gI (gsI (gsI (gsI M s0_63 s1_64.toNatClampNeg s2_65) a69 5 (gI (gsI M s0_63 s1_64.toNatClampNeg s2_65) a71 l2_58.toNatClampNeg)) a77 6 l3_59) a85 l2_58.toNatClampNeg)) + l3_59).toNatClampNeg) hw dX7_goesOn_158 hk89 hi90 rfl ?_
  obtain ⟨hk91, h⟩ := h
  obtain ⟨hi92, h⟩ := h
  refine g_iast (n := 7) hw dX7_goesOn_159 hk91 hi92 rfl ?_
  refine g_sub hw (lv2 := [(0, .ref (gA G 268)), (1, .int l1_57), (4, .int l4_60), (5, .int l5_61), (7, .int l7_62)]) [0, 1, 4, 5, 6] rfl ?_
  exact wX7_goesOn_b160 hw hkf h
def fX7_goesOn_b79 (l1_38 : Int32) (l2_39 : Int32) (l3_40 : Int32) (l4_41 : Int32) (l5_42 : Int32) (l6_43 : Int32) (l7_44 : Int32) (M : gM) (Q : gM → Prop) : Prop :=
  gk M 268 = 7 ∧ gdr (gR M 268 36) (fun a46 => gk M a46 = 40 ∧ vp_in 3 (gl M a46) ∧ gdr (gR (gsI M a46 3 l6_43) 268 36) (fun a50 => gdr (gR (gsI M a46 3 l6_43) 268 12) (fun a52 => gk (gsI M a46 3 l6_43) a52 = 40 ∧ vp_in l2_39 (gl (gsI M a46 3 l6_43) a52) ∧ (if l6_43 ≤ (gI (gsI M a46 3 l6_43) a52 l2_39.toNatClampNeg) then fX7_goesOn_b116 l1_38 l2_39 l3_40 l4_41 l5_42 l7_44 a50 4 0 (gsI M a46 3 l6_43) Q else gdr (gR (gsI M a46 3 l6_43) 268 12) (fun a161 => gk (gsI M a46 3 l6_43) a161 = 40 ∧ vp_in l2_39 (gl (gsI M a46 3 l6_43) a161) ∧ fX7_goesOn_b116 l1_38 l2_39 l3_40 l4_41 l5_42 l7_44 a50 4 (l6_43 - (gI (gsI M a46 3 l6_43) a161 l2_39.toNatClampNeg)) (gsI M a46 3 l6_43) Q)))))
theorem wX7_goesOn_b79 {kf : Nat} {G : gG} {w : gM → Nat → List (Nat × Value) → List Value → Prop} {Q : gM → Prop} (hw : gX yX7_goesOn cX7_goesOn 9 (Option.none : Option FieldType) [] kf G (gQv Q) gE0 w) (hkf : 5 ≤ kf)  {l1_38 : Int32} {l2_39 : Int32} {l3_40 : Int32} {l4_41 : Int32} {l5_42 : Int32} {l6_43 : Int32} {l7_44 : Int32} {M : gM}  (h : fX7_goesOn_b79 l1_38 l2_39 l3_40 l4_41 l5_42 l6_43 l7_44 M Q) : w M 79 [(0, .ref (gA G 268)), (1, .int l1_38), (2, .int l2_39), (3, .int l3_40), (4, .int l4_41), (5, .int l5_42), (6, .int l6_43), (7, .int l7_44)] [] := by
  unfold fX7_goesOn_b79 at h
  refine g_aload_n hw 0 dX7_goesOn_79 rfl ?_
  obtain ⟨hk45, h⟩ := h
  obtain ⟨a46, e47, h⟩ := h
  refine gfX7_148 (q := some a46) hw rfl dX7_goesOn_80 hk45 e47 ?_
  refine g_iconst (v := 3) hw dX7_goesOn_83 (by decide) ?_
  refine g_iload hw 6 dX7_goesOn_84 rfl ?_
  obtain ⟨hk48, h⟩ := h
  obtain ⟨hi49, h⟩ := h
  refine g_iast (n := 3) hw dX7_goesOn_86 hk48 hi49 rfl ?_
  refine g_aload_n hw 0 dX7_goesOn_87 rfl ?_
  obtain ⟨a50, e51, h⟩ := h
  refine gfX7_148 (q := some a50) hw rfl dX7_goesOn_88 hk45 e51 ?_
  refine g_iconst (v := 4) hw dX7_goesOn_91 (by decide) ?_
  refine g_iload hw 6 dX7_goesOn_92 rfl ?_
  refine g_aload_n hw 0 dX7_goesOn_94 rfl ?_
  obtain ⟨a52, e53, h⟩ := h
  refine gfX7_100 (q := some a52) hw rfl dX7_goesOn_95 hk45 e53 ?_
  refine g_iload_n hw 2 dX7_goesOn_98 rfl ?_
  obtain ⟨hk54, h⟩ := h
  obtain ⟨hi55, h⟩ := h
  refine g_iald (n := l2_39.toNatClampNeg) hw dX7_goesOn_99 hk54 hi55 rfl ?_
  refine g_icmp_le (tgt := 115) hw dX7_goesOn_100 (by decide) (fun hb56 => ?_) (fun hb56 => ?_)
  · have h := gT h hb56
    refine g_iconst (v := 0) hw dX7_goesOn_115 (by decide) ?_
    refine g_sub hw (lv2 := [(0, .ref (gA G 268)), (1, .int l1_38), (2, .int l2_39), (3, .int l3_40), (4, .int l4_41), (5, .int l5_42), (7, .int l7_44)]) [0, 1, 2, 3, 4, 5, 7] rfl ?_
    exact wX7_goesOn_b116 hw hkf h
  · have h := gF h hb56
    refine g_iload hw 6 dX7_goesOn_103 rfl ?_
    refine g_aload_n hw 0 dX7_goesOn_105 rfl ?_
    obtain ⟨a161, e162, h⟩ := h
    refine gfX7_100 (q := some a161) hw rfl dX7_goesOn_106 hk45 e162 ?_
    refine g_iload_n hw 2 dX7_goesOn_109 rfl ?_
    obtain ⟨hk163, h⟩ := h
    obtain ⟨hi164, h⟩ := h
    refine g_iald (n := l2_39.toNatClampNeg) hw dX7_goesOn_110 hk163 hi164 rfl ?_
    refine g_isub hw dX7_goesOn_111 ?_
    refine g_goto (tgt := 116) hw dX7_goesOn_112 (by decide) ?_
    refine g_sub hw (lv2 := [(0, .ref (gA G 268)), (1, .int l1_38), (2, .int l2_39), (3, .int l3_40), (4, .int l4_41), (5, .int l5_42), (7, .int l7_44)]) [0, 1, 2, 3, 4, 5, 7] rfl ?_
    exact wX7_goesOn_b116 hw hkf h
def fX7_goesOn (p1 : Int32) (p2 : Int32) (p3 : Int32) (p4 : Int32) (M : gM) (Q : gM → Prop) : Prop :=
  gk M 268 = 7 ∧ gdr (gR M 268 16) (fun a2 => gdr (gR M 268 11) (fun a4 => gk M a4 = 40 ∧ vp_in p2 (gl M a4) ∧ gk M a2 = 40 ∧ vp_in ((12 * (gI M a4 p2.toNatClampNeg)) + p3) (gl M a2) ∧ gdr (gR M 268 40) (fun a10 => gk M a10 = 43 ∧ vp_in (((12 * p2) + p3) - 1) (gl M a10) ∧ gdr (gR M 268 36) (fun a14 => gdr (gR M 268 38) (fun a16 => gk M a16 = 40 ∧ vp_in (((12 * p2) + p3) - 1) (gl M a16) ∧ gk M a14 = 40 ∧ vp_in 0 (gl M a14) ∧ gdr (gR (gsI M a14 0 (gI M a16 ((((12 * p2) + p3) - 1).toNatClampNeg))) 268 36) (fun a22 => gdr (gR (gsI M a14 0 (gI M a16 ((((12 * p2) + p3) - 1).toNatClampNeg))) 268 39) (fun a24 => gk (gsI M a14 0 (gI M a16 ((((12 * p2) + p3) - 1).toNatClampNeg))) a24 = 40 ∧ vp_in (((12 * p2) + p3) - 1) (gl (gsI M a14 0 (gI M a16 ((((12 * p2) + p3) - 1).toNatClampNeg))) a24) ∧ gk (gsI M a14 0 (gI M a16 ((((12 * p2) + p3) - 1).toNatClampNeg))) a22 = 40 ∧ vp_in 1 (gl (gsI M a14 0 (gI M a16 ((((12 * p2) + p3) - 1).toNatClampNeg))) a22) ∧ gdr (gR (gsI (gsI M a14 0 (gI M a16 ((((12 * p2) + p3) - 1).toNatClampNeg))) a22 1 (gI (gsI M a14 0 (gI M a16 ((((12 * p2) + p3) - 1).toNatClampNeg))) a24 ((((12 * p2) + p3) - 1).toNatClampNeg))) 268 36) (fun a30 => gdr (gR (gsI (gsI M a14 0 (gI M a16 ((((12 * p2) + p3) - 1).toNatClampNeg))) a22 1 (gI (gsI M a14 0 (gI M a16 ((((12 * p2) + p3) - 1).toNatClampNeg))) a24 ((((12 * p2) + p3) - 1).toNatClampNeg))) 268 12) (fun a32 => gk (gsI (gsI M a14 0 (gI M a16 ((((12 * p2) + p3) - 1).toNatClampNeg))) a22 1 (gI (gsI M a14 0 (gI M a16 ((((12 * p2) + p3) - 1).toNatClampNeg))) a24 ((((12 * p2) + p3) - 1).toNatClampNeg))) a32 = 40 ∧ vp_in p2 (gl (gsI (gsI M a14 0 (gI M a16 ((((12 * p2) + p3) - 1).toNatClampNeg))) a22 1 (gI (gsI M a14 0 (gI M a16 ((((12 * p2) + p3) - 1).toNatClampNeg))) a24 ((((12 * p2) + p3) - 1).toNatClampNeg))) a32) ∧ gk (gsI (gsI M a14 0 (gI M a16 ((((12 * p2) + p3) - 1).toNatClampNeg))) a22 1 (gI (gsI M a14 0 (gI M a16 ((((12 * p2) + p3) - 1).toNatClampNeg))) a24 ((((12 * p2) + p3) - 1).toNatClampNeg))) a30 = 40 ∧ vp_in 2 (gl (gsI (gsI M a14 0 (gI M a16 ((((12 * p2) + p3) - 1).toNatClampNeg))) a22 1 (gI (gsI M a14 0 (gI M a16 ((((12 * p2) + p3) - 1).toNatClampNeg))) a24 ((((12 * p2) + p3) - 1).toNatClampNeg))) a30) ∧ fX7_goesOn_b79 p1 p2 p3 p4 ((12 * p2) + p3) (gI M a2 (((12 * (gI M a4 p2.toNatClampNeg)) + p3).toNatClampNeg)) (gI M a10 ((((12 * p2) + p3) - 1).toNatClampNeg)) (gsI (gsI (gsI M a14 0 (gI M a16 ((((12 * p2) + p3) - 1).toNatClampNeg))) a22 1 (gI (gsI M a14 0 (gI M a16 ((((12 * p2) + p3) - 1).toNatClampNeg))) a24 ((((12 * p2) + p3) - 1).toNatClampNeg))) a30 2 (gI (gsI (gsI M a14 0 (gI M a16 ((((12 * p2) + p3) - 1).toNatClampNeg))) a22 1 (gI (gsI M a14 0 (gI M a16 ((((12 * p2) + p3) - 1).toNatClampNeg))) a24 ((((12 * p2) + p3) - 1).toNatClampNeg))) a32 p2.toNatClampNeg)) Q)))))))))
theorem mX7_goesOn {kf : Nat} (hkf : 5 ≤ kf) (G : gG) (p1 : Int32) (p2 : Int32) (p3 : Int32) (p4 : Int32) (M : gM) (Q : gM → Prop) (h : fX7_goesOn p1 p2 p3 p4 M Q) : gMet yX7_goesOn cX7_goesOn 9 (Option.none : Option FieldType) kf G M [.ref (gA G 268), .int p1, .int p2, .int p3, .int p4] (gQv Q) gE0 := by
  refine g_intro (lv := [(0, .ref (gA G 268)), (1, .int p1), (2, .int p2), (3, .int p3), (4, .int p4)]) (by decide) rfl rfl (fun w hw => ?_)
  unfold fX7_goesOn at h
  refine g_bipush (v := 12) hw dX7_goesOn_0 (by decide) ?_
  refine g_iload_n hw 2 dX7_goesOn_2 rfl ?_
  refine g_imul hw dX7_goesOn_3 ?_
  refine g_iload_n hw 3 dX7_goesOn_4 rfl ?_
  refine g_iadd hw dX7_goesOn_5 ?_
  refine g_istore hw (lv2 := [(0, .ref (gA G 268)), (1, .int p1), (2, .int p2), (3, .int p3), (4, .int p4), (5, .int ((12 * p2) + p3))]) [1, 2, 3, 4, 5, 0] dX7_goesOn_6 rfl rfl ?_
  refine g_aload_n hw 0 dX7_goesOn_8 rfl ?_
  obtain ⟨hk1, h⟩ := h
  obtain ⟨a2, e3, h⟩ := h
  refine gfX7_109 (q := some a2) hw rfl dX7_goesOn_9 hk1 e3 ?_
  refine g_bipush (v := 12) hw dX7_goesOn_12 (by decide) ?_
  refine g_aload_n hw 0 dX7_goesOn_14 rfl ?_
  obtain ⟨a4, e5, h⟩ := h
  refine gfX7_97 (q := some a4) hw rfl dX7_goesOn_15 hk1 e5 ?_
  refine g_iload_n hw 2 dX7_goesOn_18 rfl ?_
  obtain ⟨hk6, h⟩ := h
  obtain ⟨hi7, h⟩ := h
  refine g_iald (n := p2.toNatClampNeg) hw dX7_goesOn_19 hk6 hi7 rfl ?_
  refine g_imul hw dX7_goesOn_20 ?_
  refine g_iload_n hw 3 dX7_goesOn_21 rfl ?_
  refine g_iadd hw dX7_goesOn_22 ?_
  obtain ⟨hk8, h⟩ := h
  obtain ⟨hi9, h⟩ := h
  refine g_iald (n := ((12 * (gI M a4 p2.toNatClampNeg)) + p3).toNatClampNeg) hw dX7_goesOn_23 hk8 hi9 rfl ?_
  refine g_istore hw (lv2 := [(0, .ref (gA G 268)), (1, .int p1), (2, .int p2), (3, .int p3), (4, .int p4), (5, .int ((12 * p2) + p3)), (6, .int (gI M a2 (((12 * (gI M a4 p2.toNatClampNeg)) + p3).toNatClampNeg)))]) [1, 2, 3, 4, 5, 6, 0] dX7_goesOn_24 rfl rfl ?_
  refine g_aload_n hw 0 dX7_goesOn_26 rfl ?_
  obtain ⟨a10, e11, h⟩ := h
  refine gfX7_160 (q := some a10) hw rfl dX7_goesOn_27 hk1 e11 ?_
  refine g_iload hw 5 dX7_goesOn_30 rfl ?_
  refine g_iconst (v := 1) hw dX7_goesOn_32 (by decide) ?_
  refine g_isub hw dX7_goesOn_33 ?_
  obtain ⟨hk12, h⟩ := h
  obtain ⟨hi13, h⟩ := h
  refine g_zald (n := (((12 * p2) + p3) - 1).toNatClampNeg) hw dX7_goesOn_34 hk12 hi13 rfl ?_
  refine g_istore hw (lv2 := [(0, .ref (gA G 268)), (1, .int p1), (2, .int p2), (3, .int p3), (4, .int p4), (5, .int ((12 * p2) + p3)), (6, .int (gI M a2 (((12 * (gI M a4 p2.toNatClampNeg)) + p3).toNatClampNeg))), (7, .int (gI M a10 ((((12 * p2) + p3) - 1).toNatClampNeg)))]) [1, 2, 3, 4, 5, 6, 7, 0] dX7_goesOn_35 rfl rfl ?_
  refine g_aload_n hw 0 dX7_goesOn_37 rfl ?_
  obtain ⟨a14, e15, h⟩ := h
  refine gfX7_148 (q := some a14) hw rfl dX7_goesOn_38 hk1 e15 ?_
  refine g_iconst (v := 0) hw dX7_goesOn_41 (by decide) ?_
  refine g_aload_n hw 0 dX7_goesOn_42 rfl ?_
  obtain ⟨a16, e17, h⟩ := h
  refine gfX7_154 (q := some a16) hw rfl dX7_goesOn_43 hk1 e17 ?_
  refine g_iload hw 5 dX7_goesOn_46 rfl ?_
  refine g_iconst (v := 1) hw dX7_goesOn_48 (by decide) ?_
  refine g_isub hw dX7_goesOn_49 ?_
  obtain ⟨hk18, h⟩ := h
  obtain ⟨hi19, h⟩ := h
  refine g_iald (n := (((12 * p2) + p3) - 1).toNatClampNeg) hw dX7_goesOn_50 hk18 hi19 rfl ?_
  obtain ⟨hk20, h⟩ := h
  obtain ⟨hi21, h⟩ := h
  refine g_iast (n := 0) hw dX7_goesOn_51 hk20 hi21 rfl ?_
  refine g_aload_n hw 0 dX7_goesOn_52 rfl ?_
  obtain ⟨a22, e23, h⟩ := h
  refine gfX7_148 (q := some a22) hw rfl dX7_goesOn_53 hk1 e23 ?_
  refine g_iconst (v := 1) hw dX7_goesOn_56 (by decide) ?_
  refine g_aload_n hw 0 dX7_goesOn_57 rfl ?_
  obtain ⟨a24, e25, h⟩ := h
  refine gfX7_157 (q := some a24) hw rfl dX7_goesOn_58 hk1 e25 ?_
  refine g_iload hw 5 dX7_goesOn_61 rfl ?_
  refine g_iconst (v := 1) hw dX7_goesOn_63 (by decide) ?_
  refine g_isub hw dX7_goesOn_64 ?_
  obtain ⟨hk26, h⟩ := h
  obtain ⟨hi27, h⟩ := h
  refine g_iald (n := (((12 * p2) + p3) - 1).toNatClampNeg) hw dX7_goesOn_65 hk26 hi27 rfl ?_
  obtain ⟨hk28, h⟩ := h
  obtain ⟨hi29, h⟩ := h
  refine g_iast (n := 1) hw dX7_goesOn_66 hk28 hi29 rfl ?_
  refine g_aload_n hw 0 dX7_goesOn_67 rfl ?_
  obtain ⟨a30, e31, h⟩ := h
  refine gfX7_148 (q := some a30) hw rfl dX7_goesOn_68 hk1 e31 ?_
  refine g_iconst (v := 2) hw dX7_goesOn_71 (by decide) ?_
  refine g_aload_n hw 0 dX7_goesOn_72 rfl ?_
  obtain ⟨a32, e33, h⟩ := h
  refine gfX7_100 (q := some a32) hw rfl dX7_goesOn_73 hk1 e33 ?_
  refine g_iload_n hw 2 dX7_goesOn_76 rfl ?_
  obtain ⟨hk34, h⟩ := h
  obtain ⟨hi35, h⟩ := h
  refine g_iald (n := p2.toNatClampNeg) hw dX7_goesOn_77 hk34 hi35 rfl ?_
  obtain ⟨hk36, h⟩ := h
  obtain ⟨hi37, h⟩ := h
  refine g_iast (n := 2) hw dX7_goesOn_78 hk36 hi37 rfl ?_
  exact wX7_goesOn_b79 hw hkf h
theorem sX7_405 {y0 : MethodName} {cc : ByteArray} {nL : Nat} {ret : Option FieldType} {hh : List (Nat × Nat × Nat × Nat)} {kf : Nat} {G : gG} {Qv : Option Value → gM → Prop} {E : String → Nat → gM → Prop} {w : gM → Nat → List (Nat × Value) → List Value → Prop} {M : gM} {pc : Nat} {lv : List (Nat × Value)} {rest : List Value} (hw : gX y0 cc nL ret hh kf G Qv E w) (hy : y0.cls = RX7) {p1 : Int32} {p2 : Int32} {p3 : Int32} {p4 : Int32} {Q : gM → Prop} (d : decode cc pc = .ok (.invokevirtual 405, 3)) (hrest : Nat.ble ((rest.map Value.category).sum) 8 = true) (hk : 5 + 1 ≤ kf) (hkd : gk M 268 = 7) (h : fX7_goesOn p1 p2 p3 p4 M Q) (kk : ∀ M1, Q M1 → w M1 (pc + 3) lv rest) : w M pc lv (.int p4 :: .int p3 :: .int p2 :: .int p1 :: .ref (gA G 268) :: rest) := by
  obtain ⟨cls9, nm9, ds9⟩ := y0
  subst hy
  exact g_callV (r := (RX7, TX7, 58)) (ci := 6) hw [.int p1, .int p2, .int p3, .int p4] (nA := 4) rfl d q1572 q1574 qs75 q104 q1575 (by decide +kernel) rfl rfl hrest rfl (by omega : kf - 1 + 1 ≤ kf) hkd (mX7_goesOn (kf := kf - 1) (by omega) G p1 p2 p3 p4 M Q h) (fun _ _ _ q => q.elim) (fun v M1 h => by obtain ⟨rfl, h⟩ := h; exact kk M1 h)
def fX7_runs_b81 (R6 : Int32 → gM → Prop) (l1_1 : Int32) (l3_2 : Int64) (l5_29 : Int32) (s0_30 : Nat) (s1_31 : Int32) (s2_32 : Int32) (M : gM) (Q : gM → Prop) : Prop :=
  gk M s0_30 = 43 ∧ vp_in s1_31 (gl M s0_30) ∧ (s2_32 = 0 ∨ s2_32 = 1) ∧ R6 (l5_29 + 1) (gsI M s0_30 s1_31.toNatClampNeg s2_32)
theorem wX7_runs_b81 {kf : Nat} {G : gG} {w : gM → Nat → List (Nat × Value) → List Value → Prop} {Q : gM → Prop} (hw : gX yX7_runs cX7_runs 7 (Option.none : Option FieldType) [] kf G (gQv Q) gE0 w) (hkf : 6 ≤ kf) {R6 : Int32 → gM → Prop} {l1_1 : Int32} {l3_2 : Int64} {l5_29 : Int32} {s0_30 : Nat} {s1_31 : Int32} {s2_32 : Int32} {M : gM} (hR6 : ∀ (v0 : Int32) (M : gM), R6 v0 M → w M 6 [(0, .ref (gA G 268)), (1, .int l1_1), (3, .long l3_2), (5, .int v0)] []) (h : fX7_runs_b81 R6 l1_1 l3_2 l5_29 s0_30 s1_31 s2_32 M Q) : w M 81 [(0, .ref (gA G 268)), (1, .int l1_1), (3, .long l3_2), (5, .int l5_29)] [.int s2_32, .int s1_31, .ref (gA G s0_30)] := by
  unfold fX7_runs_b81 at h
  obtain ⟨hk33, h⟩ := h
  obtain ⟨hi34, h⟩ := h
  obtain ⟨hc35, h⟩ := h
  refine g_zast (n := s1_31.toNatClampNeg) hw dX7_runs_81 hk33 hi34 rfl (gBool hc35) ?_
  refine g_iinc hw (lv2 := [(0, .ref (gA G 268)), (1, .int l1_1), (3, .long l3_2), (5, .int (l5_29 + 1))]) 3 [1, 2, 3, 0] dX7_runs_82 rfl (by decide) rfl rfl ?_
  refine g_goto (tgt := 6) hw dX7_runs_85 (by decide) ?_
  exact hR6 (l5_29 + 1) (gsI M s0_30 s1_31.toNatClampNeg s2_32) h
def fX7_runs_L6s (R6 : Int32 → gM → Prop) (K88_6 : gM → Prop) (l1_1 : Int32) (l3_2 : Int64) (l5_3 : Int32) (M : gM) (Q : gM → Prop) : Prop :=
  (if 24 ≤ l5_3 then K88_6 M else gk M 268 = 7 ∧ gdr (gR M 268 38) (fun a6 => gdr (gR M 268 19) (fun a8 => gk M a8 = 40 ∧ vp_in (12 * l5_3) (gl M a8) ∧ gk M a6 = 40 ∧ vp_in (12 * l5_3) (gl M a6) ∧ gdr (gR (gsI M a6 ((12 * l5_3).toNatClampNeg) (gI M a8 ((12 * l5_3).toNatClampNeg))) 268 39) (fun a14 => gdr (gR (gsI M a6 ((12 * l5_3).toNatClampNeg) (gI M a8 ((12 * l5_3).toNatClampNeg))) 268 20) (fun a16 => gk (gsI M a6 ((12 * l5_3).toNatClampNeg) (gI M a8 ((12 * l5_3).toNatClampNeg))) a16 = 40 ∧ vp_in (12 * l5_3) (gl (gsI M a6 ((12 * l5_3).toNatClampNeg) (gI M a8 ((12 * l5_3).toNatClampNeg))) a16) ∧ gk (gsI M a6 ((12 * l5_3).toNatClampNeg) (gI M a8 ((12 * l5_3).toNatClampNeg))) a14 = 40 ∧ vp_in (12 * l5_3) (gl (gsI M a6 ((12 * l5_3).toNatClampNeg) (gI M a8 ((12 * l5_3).toNatClampNeg))) a14) ∧ gdr (gR (gsI (gsI M a6 ((12 * l5_3).toNatClampNeg) (gI M a8 ((12 * l5_3).toNatClampNeg))) a14 ((12 * l5_3).toNatClampNeg) (gI (gsI M a6 ((12 * l5_3).toNatClampNeg) (gI M a8 ((12 * l5_3).toNatClampNeg))) a16 ((12 * l5_3).toNatClampNeg))) 268 40) (fun a22 => gdr (gR (gsI (gsI M a6 ((12 * l5_3).toNatClampNeg) (gI M a8 ((12 * l5_3).toNatClampNeg))) a14 ((12 * l5_3).toNatClampNeg) (gI (gsI M a6 ((12 * l5_3).toNatClampNeg) (gI M a8 ((12 * l5_3).toNatClampNeg))) a16 ((12 * l5_3).toNatClampNeg))) 268 18) (fun a24 => gk (gsI (gsI M a6 ((12 * l5_3).toNatClampNeg) (gI M a8 ((12 * l5_3).toNatClampNeg))) a14 ((12 * l5_3).toNatClampNeg) (gI (gsI M a6 ((12 * l5_3).toNatClampNeg) (gI M a8 ((12 * l5_3).toNatClampNeg))) a16 ((12 * l5_3).toNatClampNeg))) a24 = 40 ∧ vp_in (12 * l5_3) (gl (gsI (gsI M a6 ((12 * l5_3).toNatClampNeg) (gI M a8 ((12 * l5_3).toNatClampNeg))) a14 ((12 * l5_3).toNatClampNeg) (gI (gsI M a6 ((12 * l5_3).toNatClampNeg) (gI M a8 ((12 * l5_3).toNatClampNeg))) a16 ((12 * l5_3).toNatClampNeg))) a24) ∧ (if (gI (gsI (gsI M a6 ((12 * l5_3).toNatClampNeg) (gI M a8 ((12 * l5_3).toNatClampNeg))) a14 ((12 * l5_3).toNatClampNeg) (gI (gsI M a6 ((12 * l5_3).toNatClampNeg) (gI M a8 ((12 * l5_3).toNatClampNeg))) a16 ((12 * l5_3).toNatClampNeg))) a24 ((12 * l5_3).toNatClampNeg)) = 2 then fX7_runs_b81 R6 l1_1 l3_2 l5_3 a22 (12 * l5_3) 1 (gsI (gsI M a6 ((12 * l5_3).toNatClampNeg) (gI M a8 ((12 * l5_3).toNatClampNeg))) a14 ((12 * l5_3).toNatClampNeg) (gI (gsI M a6 ((12 * l5_3).toNatClampNeg) (gI M a8 ((12 * l5_3).toNatClampNeg))) a16 ((12 * l5_3).toNatClampNeg))) Q else fX7_runs_b81 R6 l1_1 l3_2 l5_3 a22 (12 * l5_3) 0 (gsI (gsI M a6 ((12 * l5_3).toNatClampNeg) (gI M a8 ((12 * l5_3).toNatClampNeg))) a14 ((12 * l5_3).toNatClampNeg) (gI (gsI M a6 ((12 * l5_3).toNatClampNeg) (gI M a8 ((12 * l5_3).toNatClampNeg))) a16 ((12 * l5_3).toNatClampNeg))) Q))))))))
def fX7_runs_L6 (K88_6 : gM → Prop) (l1_1 : Int32) (l3_2 : Int64) (Q : gM → Prop) : Nat → Int32 → gM → Prop
  | 0 => fun _ _ => False
  | n + 1 => fun l5_3 M => fX7_runs_L6s (fX7_runs_L6 K88_6 l1_1 l3_2 Q n) K88_6 l1_1 l3_2 l5_3 M Q
theorem wX7_runs_L6s {kf : Nat} {G : gG} {w : gM → Nat → List (Nat × Value) → List Value → Prop} {Q : gM → Prop} (hw : gX yX7_runs cX7_runs 7 (Option.none : Option FieldType) [] kf G (gQv Q) gE0 w) (hkf : 6 ≤ kf) {R6 : Int32 → gM → Prop} {K88_6 : gM → Prop} {l1_1 : Int32} {l3_2 : Int64} {l5_3 : Int32} {M : gM} (hR6 : ∀ (v0 : Int32) (M : gM), R6 v0 M → w M 6 [(0, .ref (gA G 268)), (1, .int l1_1), (3, .long l3_2), (5, .int v0)] []) (hK88_6 : ∀  (M : gM), K88_6 M → w M 88 [(0, .ref (gA G 268)), (1, .int l1_1), (3, .long l3_2)] []) (h : fX7_runs_L6s R6 K88_6 l1_1 l3_2 l5_3 M Q) : w M 6 [(0, .ref (gA G 268)), (1, .int l1_1), (3, .long l3_2), (5, .int l5_3)] [] := by
  unfold fX7_runs_L6s at h
  refine g_iload hw 3 dX7_runs_6 rfl ?_
  refine g_bipush (v := 24) hw dX7_runs_8 (by decide) ?_
  refine g_icmp_ge (tgt := 88) hw dX7_runs_10 (by decide) (fun hb4 => ?_) (fun hb4 => ?_)
  · have h := gT h hb4
    refine g_sub hw (lv2 := [(0, .ref (gA G 268)), (1, .int l1_1), (3, .long l3_2)]) [0, 1, 2] rfl ?_
    exact hK88_6 M h
  · have h := gF h hb4
    refine g_aload_n hw 0 dX7_runs_13 rfl ?_
    obtain ⟨hk5, h⟩ := h
    obtain ⟨a6, e7, h⟩ := h
    refine gfX7_154 (q := some a6) hw rfl dX7_runs_14 hk5 e7 ?_
    refine g_bipush (v := 12) hw dX7_runs_17 (by decide) ?_
    refine g_iload hw 3 dX7_runs_19 rfl ?_
    refine g_imul hw dX7_runs_21 ?_
    refine g_aload_n hw 0 dX7_runs_22 rfl ?_
    obtain ⟨a8, e9, h⟩ := h
    refine gfX7_118 (q := some a8) hw rfl dX7_runs_23 hk5 e9 ?_
    refine g_bipush (v := 12) hw dX7_runs_26 (by decide) ?_
    refine g_iload hw 3 dX7_runs_28 rfl ?_
    refine g_imul hw dX7_runs_30 ?_
    obtain ⟨hk10, h⟩ := h
    obtain ⟨hi11, h⟩ := h
    refine g_iald (n := (12 * l5_3).toNatClampNeg) hw dX7_runs_31 hk10 hi11 rfl ?_
    obtain ⟨hk12, h⟩ := h
    obtain ⟨hi13, h⟩ := h
    refine g_iast (n := (12 * l5_3).toNatClampNeg) hw dX7_runs_32 hk12 hi13 rfl ?_
    refine g_aload_n hw 0 dX7_runs_33 rfl ?_
    obtain ⟨a14, e15, h⟩ := h
    refine gfX7_157 (q := some a14) hw rfl dX7_runs_34 hk5 e15 ?_
    refine g_bipush (v := 12) hw dX7_runs_37 (by decide) ?_
    refine g_iload hw 3 dX7_runs_39 rfl ?_
    refine g_imul hw dX7_runs_41 ?_
    refine g_aload_n hw 0 dX7_runs_42 rfl ?_
    obtain ⟨a16, e17, h⟩ := h
    refine gfX7_121 (q := some a16) hw rfl dX7_runs_43 hk5 e17 ?_
    refine g_bipush (v := 12) hw dX7_runs_46 (by decide) ?_
    refine g_iload hw 3 dX7_runs_48 rfl ?_
    refine g_imul hw dX7_runs_50 ?_
    obtain ⟨hk18, h⟩ := h
    obtain ⟨hi19, h⟩ := h
    refine g_iald (n := (12 * l5_3).toNatClampNeg) hw dX7_runs_51 hk18 hi19 rfl ?_
    obtain ⟨hk20, h⟩ := h
    obtain ⟨hi21, h⟩ := h
    refine g_iast (n := (12 * l5_3).toNatClampNeg) hw dX7_runs_52 hk20 hi21 rfl ?_
    refine g_aload_n hw 0 dX7_runs_53 rfl ?_
    obtain ⟨a22, e23, h⟩ := h
    refine gfX7_160 (q := some a22) hw rfl dX7_runs_54 hk5 e23 ?_
    refine g_bipush (v := 12) hw dX7_runs_57 (by decide) ?_
    refine g_iload hw 3 dX7_runs_59 rfl ?_
    refine g_imul hw dX7_runs_61 ?_
    refine g_aload_n hw 0 dX7_runs_62 rfl ?_
    obtain ⟨a24, e25, h⟩ := h
    refine gfX7_115 (q := some a24) hw rfl dX7_runs_63 hk5 e25 ?_
    refine g_bipush (v := 12) hw dX7_runs_66 (by decide) ?_
    refine g_iload hw 3 dX7_runs_68 rfl ?_
    refine g_imul hw dX7_runs_70 ?_
    obtain ⟨hk26, h⟩ := h
    obtain ⟨hi27, h⟩ := h
    refine g_iald (n := (12 * l5_3).toNatClampNeg) hw dX7_runs_71 hk26 hi27 rfl ?_
    refine g_iconst (v := 2) hw dX7_runs_72 (by decide) ?_
    refine g_icmp_ne (tgt := 80) hw dX7_runs_73 (by decide) (fun hb28 => ?_) (fun hb28 => ?_)
    · have h := gF h hb28
      refine g_iconst (v := 0) hw dX7_runs_80 (by decide) ?_
      exact wX7_runs_b81 hw hkf hR6 h
    · have h := gT h hb28
      refine g_iconst (v := 1) hw dX7_runs_76 (by decide) ?_
      refine g_goto (tgt := 81) hw dX7_runs_77 (by decide) ?_
      exact wX7_runs_b81 hw hkf hR6 h
theorem wX7_runs_L6 {kf : Nat} {G : gG} {w : gM → Nat → List (Nat × Value) → List Value → Prop} {Q : gM → Prop} (hw : gX yX7_runs cX7_runs 7 (Option.none : Option FieldType) [] kf G (gQv Q) gE0 w) (hkf : 6 ≤ kf) {K88_6 : gM → Prop} {l1_1 : Int32} {l3_2 : Int64} (hK88_6 : ∀  (M : gM), K88_6 M → w M 88 [(0, .ref (gA G 268)), (1, .int l1_1), (3, .long l3_2)] []) : ∀ (n : Nat) (l5_3 : Int32) (M : gM), fX7_runs_L6 K88_6 l1_1 l3_2 Q n l5_3 M → w M 6 [(0, .ref (gA G 268)), (1, .int l1_1), (3, .long l3_2), (5, .int l5_3)] [] := by
  intro n
  induction n with
  | zero => intro l5_3 M h; exact h.elim
  | succ n ih => intro l5_3 M h; exact wX7_runs_L6s hw hkf ih hK88_6 h
def fX7_runs_b151 (R101 : Int64 → Int32 → gM → Prop) (l1_37 : Int32) (l3_51 : Int64) (l5_41 : Int32) (l6_52 : Int32) (M : gM) (Q : gM → Prop) : Prop :=
  R101 l3_51 (l6_52 + 1) M
theorem wX7_runs_b151 {kf : Nat} {G : gG} {w : gM → Nat → List (Nat × Value) → List Value → Prop} {Q : gM → Prop} (hw : gX yX7_runs cX7_runs 7 (Option.none : Option FieldType) [] kf G (gQv Q) gE0 w) (hkf : 6 ≤ kf) {R101 : Int64 → Int32 → gM → Prop} {l1_37 : Int32} {l3_51 : Int64} {l5_41 : Int32} {l6_52 : Int32} {M : gM} (hR101 : ∀ (v0 : Int64) (v1 : Int32) (M : gM), R101 v0 v1 M → w M 101 [(0, .ref (gA G 268)), (1, .int l1_37), (3, .long v0), (5, .int l5_41), (6, .int v1)] []) (h : fX7_runs_b151 R101 l1_37 l3_51 l5_41 l6_52 M Q) : w M 151 [(0, .ref (gA G 268)), (1, .int l1_37), (3, .long l3_51), (5, .int l5_41), (6, .int l6_52)] [] := by
  unfold fX7_runs_b151 at h
  refine g_iinc hw (lv2 := [(0, .ref (gA G 268)), (1, .int l1_37), (3, .long l3_51), (5, .int l5_41), (6, .int (l6_52 + 1))]) 4 [1, 2, 3, 4, 0] dX7_runs_151 rfl (by decide) rfl rfl ?_
  refine g_goto (tgt := 101) hw dX7_runs_154 (by decide) ?_
  exact hR101 l3_51 (l6_52 + 1) M h
def fX7_runs_L101s (R101 : Int64 → Int32 → gM → Prop) (K157_101 : Int64 → gM → Prop) (l1_37 : Int32) (l5_41 : Int32) (l3_42 : Int64) (l6_43 : Int32) (M : gM) (Q : gM → Prop) : Prop :=
  (if 24 ≤ l6_43 then K157_101 l3_42 M else gk M 268 = 7 ∧ gdr (gR M 268 10) (fun a46 => gk M a46 = 43 ∧ vp_in l6_43 (gl M a46) ∧ (if (gI M a46 l6_43.toNatClampNeg) = 0 then fX7_runs_b151 R101 l1_37 l3_42 l5_41 l6_43 M Q else fX7_goesOn l1_37 l6_43 l5_41 ((((((l3_42 * 1103515245) + 12345) - ((l3_42 * 1103515245) + 12345) / 2147483648 * 2147483648) / 65536) - ((((l3_42 * 1103515245) + 12345) - ((l3_42 * 1103515245) + 12345) / 2147483648 * 2147483648) / 65536) / 10 * 10).toInt32) M (fun M53 => fX7_runs_b151 R101 l1_37 (((l3_42 * 1103515245) + 12345) - ((l3_42 * 1103515245) + 12345) / 2147483648 * 2147483648) l5_41 l6_43 M53 Q))))
def fX7_runs_L101 (K157_101 : Int64 → gM → Prop) (l1_37 : Int32) (l5_41 : Int32) (Q : gM → Prop) : Nat → Int64 → Int32 → gM → Prop
  | 0 => fun _ _ _ => False
  | n + 1 => fun l3_42 l6_43 M => fX7_runs_L101s (fX7_runs_L101 K157_101 l1_37 l5_41 Q n) K157_101 l1_37 l5_41 l3_42 l6_43 M Q
theorem wX7_runs_L101s {kf : Nat} {G : gG} {w : gM → Nat → List (Nat × Value) → List Value → Prop} {Q : gM → Prop} (hw : gX yX7_runs cX7_runs 7 (Option.none : Option FieldType) [] kf G (gQv Q) gE0 w) (hkf : 6 ≤ kf) {R101 : Int64 → Int32 → gM → Prop} {K157_101 : Int64 → gM → Prop} {l1_37 : Int32} {l5_41 : Int32} {l3_42 : Int64} {l6_43 : Int32} {M : gM} (hR101 : ∀ (v0 : Int64) (v1 : Int32) (M : gM), R101 v0 v1 M → w M 101 [(0, .ref (gA G 268)), (1, .int l1_37), (3, .long v0), (5, .int l5_41), (6, .int v1)] []) (hK157_101 : ∀ (v0 : Int64) (M : gM), K157_101 v0 M → w M 157 [(0, .ref (gA G 268)), (1, .int l1_37), (3, .long v0), (5, .int l5_41)] []) (h : fX7_runs_L101s R101 K157_101 l1_37 l5_41 l3_42 l6_43 M Q) : w M 101 [(0, .ref (gA G 268)), (1, .int l1_37), (3, .long l3_42), (5, .int l5_41), (6, .int l6_43)] [] := by
  unfold fX7_runs_L101s at h
  refine g_iload hw 4 dX7_runs_101 rfl ?_
  refine g_bipush (v := 24) hw dX7_runs_103 (by decide) ?_
  refine g_icmp_ge (tgt := 157) hw dX7_runs_105 (by decide) (fun hb44 => ?_) (fun hb44 => ?_)
  · have h := gT h hb44
    refine g_sub hw (lv2 := [(0, .ref (gA G 268)), (1, .int l1_37), (3, .long l3_42), (5, .int l5_41)]) [0, 1, 2, 3] rfl ?_
    exact hK157_101 l3_42 M h
  · have h := gF h hb44
    refine g_aload_n hw 0 dX7_runs_108 rfl ?_
    obtain ⟨hk45, h⟩ := h
    obtain ⟨a46, e47, h⟩ := h
    refine gfX7_93 (q := some a46) hw rfl dX7_runs_109 hk45 e47 ?_
    refine g_iload hw 4 dX7_runs_112 rfl ?_
    obtain ⟨hk48, h⟩ := h
    obtain ⟨hi49, h⟩ := h
    refine g_zald (n := l6_43.toNatClampNeg) hw dX7_runs_114 hk48 hi49 rfl ?_
    refine g_if_eq (tgt := 151) hw dX7_runs_115 (by decide) (fun hb50 => ?_) (fun hb50 => ?_)
    · have h := gT h hb50
      exact wX7_runs_b151 hw hkf hR101 h
    · have h := gF h hb50
      refine g_lload_n hw 2 dX7_runs_118 rfl ?_
      refine g_ldc2 hw dX7_runs_119 q1568 ?_
      refine g_lmul hw dX7_runs_122 ?_
      refine g_ldc2 hw dX7_runs_123 q1569 ?_
      refine g_ladd hw dX7_runs_126 ?_
      refine g_ldc2 hw dX7_runs_127 q1570 ?_
      refine g_lrem hw dX7_runs_130 (by decide) ?_
      refine g_lstore_n hw (lv2 := [(0, .ref (gA G 268)), (1, .int l1_37), (3, .long (((l3_42 * 1103515245) + 12345) - ((l3_42 * 1103515245) + 12345) / 2147483648 * 2147483648)), (5, .int l5_41), (6, .int l6_43)]) [1, 2, 0, 3, 4] dX7_runs_131 rfl rfl ?_
      refine g_aload_n hw 0 dX7_runs_132 rfl ?_
      refine g_iload_n hw 1 dX7_runs_133 rfl ?_
      refine g_iload hw 4 dX7_runs_134 rfl ?_
      refine g_iload hw 3 dX7_runs_136 rfl ?_
      refine g_lload_n hw 2 dX7_runs_138 rfl ?_
      refine g_ldc2 hw dX7_runs_139 q1571 ?_
      refine g_ldiv hw dX7_runs_142 (by decide) ?_
      refine g_ldc2 hw dX7_runs_143 q1491 ?_
      refine g_lrem hw dX7_runs_146 (by decide) ?_
      refine g_l2i hw dX7_runs_147 ?_
      refine sX7_405 hw rfl dX7_runs_148 rfl (gK2 hkf) hk45 h (fun M53 h => ?_)
      exact wX7_runs_b151 hw hkf hR101 h
theorem wX7_runs_L101 {kf : Nat} {G : gG} {w : gM → Nat → List (Nat × Value) → List Value → Prop} {Q : gM → Prop} (hw : gX yX7_runs cX7_runs 7 (Option.none : Option FieldType) [] kf G (gQv Q) gE0 w) (hkf : 6 ≤ kf) {K157_101 : Int64 → gM → Prop} {l1_37 : Int32} {l5_41 : Int32} (hK157_101 : ∀ (v0 : Int64) (M : gM), K157_101 v0 M → w M 157 [(0, .ref (gA G 268)), (1, .int l1_37), (3, .long v0), (5, .int l5_41)] []) : ∀ (n : Nat) (l3_42 : Int64) (l6_43 : Int32) (M : gM), fX7_runs_L101 K157_101 l1_37 l5_41 Q n l3_42 l6_43 M → w M 101 [(0, .ref (gA G 268)), (1, .int l1_37), (3, .long l3_42), (5, .int l5_41), (6, .int l6_43)] [] := by
  intro n
  induction n with
  | zero => intro l3_42 l6_43 M h; exact h.elim
  | succ n ih => intro l3_42 l6_43 M h; exact wX7_runs_L101s hw hkf ih hK157_101 h
def fX7_runs_L91s (R91 : Int64 → Int32 → gM → Prop) (K163_91 : gM → Prop) (l1_37 : Int32) (l3_38 : Int64) (l5_39 : Int32) (M : gM) (Q : gM → Prop) : Prop :=
  (if 12 ≤ l5_39 then K163_91 M else ∃ n, fX7_runs_L101 (fun l3_55 M56 => R91 l3_55 (l5_39 + 1) M56) l1_37 l5_39 Q n l3_38 0 M)
def fX7_runs_L91 (K163_91 : gM → Prop) (l1_37 : Int32) (Q : gM → Prop) : Nat → Int64 → Int32 → gM → Prop
  | 0 => fun _ _ _ => False
  | n + 1 => fun l3_38 l5_39 M => fX7_runs_L91s (fX7_runs_L91 K163_91 l1_37 Q n) K163_91 l1_37 l3_38 l5_39 M Q
theorem wX7_runs_L91s {kf : Nat} {G : gG} {w : gM → Nat → List (Nat × Value) → List Value → Prop} {Q : gM → Prop} (hw : gX yX7_runs cX7_runs 7 (Option.none : Option FieldType) [] kf G (gQv Q) gE0 w) (hkf : 6 ≤ kf) {R91 : Int64 → Int32 → gM → Prop} {K163_91 : gM → Prop} {l1_37 : Int32} {l3_38 : Int64} {l5_39 : Int32} {M : gM} (hR91 : ∀ (v0 : Int64) (v1 : Int32) (M : gM), R91 v0 v1 M → w M 91 [(0, .ref (gA G 268)), (1, .int l1_37), (3, .long v0), (5, .int v1)] []) (hK163_91 : ∀  (M : gM), K163_91 M → w M 163 [] []) (h : fX7_runs_L91s R91 K163_91 l1_37 l3_38 l5_39 M Q) : w M 91 [(0, .ref (gA G 268)), (1, .int l1_37), (3, .long l3_38), (5, .int l5_39)] [] := by
  unfold fX7_runs_L91s at h
  refine g_iload hw 3 dX7_runs_91 rfl ?_
  refine g_bipush (v := 12) hw dX7_runs_93 (by decide) ?_
  refine g_icmp_ge (tgt := 163) hw dX7_runs_95 (by decide) (fun hb40 => ?_) (fun hb40 => ?_)
  · have h := gT h hb40
    refine g_sub hw (lv2 := []) [] rfl ?_
    exact hK163_91 M h
  · have h := gF h hb40
    refine g_iconst (v := 0) hw dX7_runs_98 (by decide) ?_
    refine g_istore hw (lv2 := [(0, .ref (gA G 268)), (1, .int l1_37), (3, .long l3_38), (5, .int l5_39), (6, .int 0)]) [1, 2, 3, 4, 0] dX7_runs_99 rfl rfl ?_
    obtain ⟨n9, h⟩ := h
    refine wX7_runs_L101 hw hkf (fun l3_55 M56 h => ?_) n9 l3_38 0 M h
    refine g_iinc hw (lv2 := [(0, .ref (gA G 268)), (1, .int l1_37), (3, .long l3_55), (5, .int (l5_39 + 1))]) 3 [1, 2, 3, 0] dX7_runs_157 rfl (by decide) rfl rfl ?_
    refine g_goto (tgt := 91) hw dX7_runs_160 (by decide) ?_
    exact hR91 l3_55 (l5_39 + 1) M56 h
theorem wX7_runs_L91 {kf : Nat} {G : gG} {w : gM → Nat → List (Nat × Value) → List Value → Prop} {Q : gM → Prop} (hw : gX yX7_runs cX7_runs 7 (Option.none : Option FieldType) [] kf G (gQv Q) gE0 w) (hkf : 6 ≤ kf) {K163_91 : gM → Prop} {l1_37 : Int32} (hK163_91 : ∀  (M : gM), K163_91 M → w M 163 [] []) : ∀ (n : Nat) (l3_38 : Int64) (l5_39 : Int32) (M : gM), fX7_runs_L91 K163_91 l1_37 Q n l3_38 l5_39 M → w M 91 [(0, .ref (gA G 268)), (1, .int l1_37), (3, .long l3_38), (5, .int l5_39)] [] := by
  intro n
  induction n with
  | zero => intro l3_38 l5_39 M h; exact h.elim
  | succ n ih => intro l3_38 l5_39 M h; exact wX7_runs_L91s hw hkf ih hK163_91 h
def fX7_runs (p1 : Int32) (p2 : Int32) (M : gM) (Q : gM → Prop) : Prop :=
  ∃ n, fX7_runs_L6 (fun M36 => ∃ n, fX7_runs_L91 (fun M57 => Q M57) p1 Q n p2.toInt64 1 M36) p1 p2.toInt64 Q n 0 M
theorem mX7_runs {kf : Nat} (hkf : 6 ≤ kf) (G : gG) (p1 : Int32) (p2 : Int32) (M : gM) (Q : gM → Prop) (h : fX7_runs p1 p2 M Q) : gMet yX7_runs cX7_runs 7 (Option.none : Option FieldType) kf G M [.ref (gA G 268), .int p1, .int p2] (gQv Q) gE0 := by
  refine g_intro (lv := [(0, .ref (gA G 268)), (1, .int p1), (2, .int p2)]) (by decide) rfl rfl (fun w hw => ?_)
  unfold fX7_runs at h
  refine g_iload_n hw 2 dX7_runs_0 rfl ?_
  refine g_i2l hw dX7_runs_1 ?_
  refine g_lstore_n hw (lv2 := [(0, .ref (gA G 268)), (1, .int p1), (3, .long p2.toInt64)]) [1, 2, 0] dX7_runs_2 rfl rfl ?_
  refine g_iconst (v := 0) hw dX7_runs_3 (by decide) ?_
  refine g_istore hw (lv2 := [(0, .ref (gA G 268)), (1, .int p1), (3, .long p2.toInt64), (5, .int 0)]) [1, 2, 3, 0] dX7_runs_4 rfl rfl ?_
  obtain ⟨n9, h⟩ := h
  refine wX7_runs_L6 hw hkf (fun M36 h => ?_) n9 0 M h
  refine g_iconst (v := 1) hw dX7_runs_88 (by decide) ?_
  refine g_istore hw (lv2 := [(0, .ref (gA G 268)), (1, .int p1), (3, .long p2.toInt64), (5, .int 1)]) [1, 2, 3, 0] dX7_runs_89 rfl rfl ?_
  obtain ⟨n9, h⟩ := h
  refine wX7_runs_L91 hw hkf (fun M57 h => ?_) n9 p2.toInt64 1 M36 h
  exact g_vret hw dX7_runs_163 ⟨rfl, h⟩
def fX7_worldHands (p1 : Int32) (p2 : Int32) (M : gM) (Q : Int32 → gM → Prop) : Prop :=
  gk M 268 = 7 ∧ gdr (gR M 268 38) (fun a2 => gk M a2 = 40 ∧ vp_in ((12 * p1) + p2) (gl M a2) ∧ gdr (gR M 268 39) (fun a6 => gk M a6 = 40 ∧ vp_in ((12 * p1) + p2) (gl M a6) ∧ fX7_handsBy (gI M a2 (((12 * p1) + p2).toNatClampNeg)) (gI M a6 (((12 * p1) + p2).toNatClampNeg)) M (fun r11 M10 => Q r11 M10)))
theorem mX7_worldHands {kf : Nat} (hkf : 2 ≤ kf) (G : gG) (p1 : Int32) (p2 : Int32) (M : gM) (Q : Int32 → gM → Prop) (h : fX7_worldHands p1 p2 M Q) : gMet yX7_worldHands cX7_worldHands 3 (Option.some FieldType.int) kf G M [.ref (gA G 268), .int p1, .int p2] (gQi Q) gE0 := by
  refine g_intro (lv := [(0, .ref (gA G 268)), (1, .int p1), (2, .int p2)]) (by decide) rfl rfl (fun w hw => ?_)
  unfold fX7_worldHands at h
  refine g_aload_n hw 0 dX7_worldHands_0 rfl ?_
  refine g_aload_n hw 0 dX7_worldHands_1 rfl ?_
  obtain ⟨hk1, h⟩ := h
  obtain ⟨a2, e3, h⟩ := h
  refine gfX7_154 (q := some a2) hw rfl dX7_worldHands_2 hk1 e3 ?_
  refine g_bipush (v := 12) hw dX7_worldHands_5 (by decide) ?_
  refine g_iload_n hw 1 dX7_worldHands_7 rfl ?_
  refine g_imul hw dX7_worldHands_8 ?_
  refine g_iload_n hw 2 dX7_worldHands_9 rfl ?_
  refine g_iadd hw dX7_worldHands_10 ?_
  obtain ⟨hk4, h⟩ := h
  obtain ⟨hi5, h⟩ := h
  refine g_iald (n := ((12 * p1) + p2).toNatClampNeg) hw dX7_worldHands_11 hk4 hi5 rfl ?_
  refine g_aload_n hw 0 dX7_worldHands_12 rfl ?_
  obtain ⟨a6, e7, h⟩ := h
  refine gfX7_157 (q := some a6) hw rfl dX7_worldHands_13 hk1 e7 ?_
  refine g_bipush (v := 12) hw dX7_worldHands_16 (by decide) ?_
  refine g_iload_n hw 1 dX7_worldHands_18 rfl ?_
  refine g_imul hw dX7_worldHands_19 ?_
  refine g_iload_n hw 2 dX7_worldHands_20 rfl ?_
  refine g_iadd hw dX7_worldHands_21 ?_
  obtain ⟨hk8, h⟩ := h
  obtain ⟨hi9, h⟩ := h
  refine g_iald (n := ((12 * p1) + p2).toNatClampNeg) hw dX7_worldHands_22 hk8 hi9 rfl ?_
  refine sX7_263 hw rfl dX7_worldHands_23 rfl (gK2 hkf) hk1 h (fun r11 M10 h => ?_)
  exact g_iret hw dX7_worldHands_26 rfl ⟨_, rfl, h⟩
theorem sX7_415 {y0 : MethodName} {cc : ByteArray} {nL : Nat} {ret : Option FieldType} {hh : List (Nat × Nat × Nat × Nat)} {kf : Nat} {G : gG} {Qv : Option Value → gM → Prop} {E : String → Nat → gM → Prop} {w : gM → Nat → List (Nat × Value) → List Value → Prop} {M : gM} {pc : Nat} {lv : List (Nat × Value)} {rest : List Value} (hw : gX y0 cc nL ret hh kf G Qv E w) (hy : y0.cls = RX7) {p1 : Int32} {p2 : Int32} {Q : gM → Prop} (d : decode cc pc = .ok (.invokevirtual 415, 3)) (hrest : Nat.ble ((rest.map Value.category).sum) 8 = true) (hk : 6 + 1 ≤ kf) (hkd : gk M 268 = 7) (h : fX7_runs p1 p2 M Q) (kk : ∀ M1, Q M1 → w M1 (pc + 3) lv rest) : w M pc lv (.int p2 :: .int p1 :: .ref (gA G 268) :: rest) := by
  obtain ⟨cls9, nm9, ds9⟩ := y0
  subst hy
  exact g_callV (r := (RX7, TX7, 58)) (ci := 6) hw [.int p1, .int p2] (nA := 2) rfl d q1564 q1566 qs74 q104 q1567 (by decide +kernel) rfl rfl hrest rfl (by omega : kf - 1 + 1 ≤ kf) hkd (mX7_runs (kf := kf - 1) (by omega) G p1 p2 M Q h) (fun _ _ _ q => q.elim) (fun v M1 h => by obtain ⟨rfl, h⟩ := h; exact kk M1 h)
theorem sX7_418 {y0 : MethodName} {cc : ByteArray} {nL : Nat} {ret : Option FieldType} {hh : List (Nat × Nat × Nat × Nat)} {kf : Nat} {G : gG} {Qv : Option Value → gM → Prop} {E : String → Nat → gM → Prop} {w : gM → Nat → List (Nat × Value) → List Value → Prop} {M : gM} {pc : Nat} {lv : List (Nat × Value)} {rest : List Value} (hw : gX y0 cc nL ret hh kf G Qv E w) (hy : y0.cls = RX7) {p1 : Int32} {p2 : Int32} {Q : Int32 → gM → Prop} (d : decode cc pc = .ok (.invokevirtual 418, 3)) (hrest : Nat.ble ((rest.map Value.category).sum) 8 = true) (hk : 2 + 1 ≤ kf) (hkd : gk M 268 = 7) (h : fX7_worldHands p1 p2 M Q) (kk : ∀ r M1, Q r M1 → w M1 (pc + 3) lv (.int r :: rest)) : w M pc lv (.int p2 :: .int p1 :: .ref (gA G 268) :: rest) := by
  obtain ⟨cls9, nm9, ds9⟩ := y0
  subst hy
  exact g_callV (r := (RX7, TX7, 58)) (ci := 6) hw [.int p1, .int p2] (nA := 2) rfl d q1595 q1597 qs80 q104 q1598 (by decide +kernel) rfl rfl hrest rfl (by omega : kf - 1 + 1 ≤ kf) hkd (mX7_worldHands (kf := kf - 1) (by omega) G p1 p2 M Q h) (fun _ _ _ q => q.elim) (fun v M1 h => by obtain ⟨r, rfl, h⟩ := h; exact kk r M1 h)
def fX7_world (p1 : Int32) (p2 : Int32) (p3 : Int32) (p4 : Int32) (M : gM) (Q : Int32 → gM → Prop) : Prop :=
  gk M 268 = 7 ∧ fX7_within p1 0 3 (gsI M 268 0 0) (fun r3 M2 => (if r3 = 0 then Q (-1) M2 else fX7_within p2 0 9999 M2 (fun r6 M5 => (if r6 = 0 then Q (-1) M5 else gk M5 268 = 7 ∧ fX7_isKitchen p3 M5 (fun r10 M9 => (if r10 = 0 then Q (-1) M9 else fX7_isMonth p4 M9 (fun r13 M12 => (if r13 = 0 then Q (-1) M12 else gk M12 268 = 7 ∧ fX7_runs p1 p2 M12 (fun M16 => gk M16 268 = 7 ∧ fX7_worldHands p3 p4 M16 (fun r20 M19 => Q r20 M19))))))))))
theorem mX7_world {kf : Nat} (hkf : 7 ≤ kf) (G : gG) (p1 : Int32) (p2 : Int32) (p3 : Int32) (p4 : Int32) (M : gM) (Q : Int32 → gM → Prop) (h : fX7_world p1 p2 p3 p4 M Q) : gMet yX7_world cX7_world 5 (Option.some FieldType.int) kf G M [.ref (gA G 268), .int p1, .int p2, .int p3, .int p4] (gQi Q) gE0 := by
  refine g_intro (lv := [(0, .ref (gA G 268)), (1, .int p1), (2, .int p2), (3, .int p3), (4, .int p4)]) (by decide) rfl rfl (fun w hw => ?_)
  unfold fX7_world at h
  refine g_aload_n hw 0 dX7_world_0 rfl ?_
  refine g_iconst (v := 0) hw dX7_world_1 (by decide) ?_
  obtain ⟨hk1, h⟩ := h
  refine pfX7_1 hw rfl dX7_world_2 hk1 ?_
  refine g_iload_n hw 1 dX7_world_5 rfl ?_
  refine g_iconst (v := 0) hw dX7_world_6 (by decide) ?_
  refine g_iconst (v := 3) hw dX7_world_7 (by decide) ?_
  refine sX7_253 hw rfl dX7_world_8 rfl (gK2 hkf) h (fun r3 M2 h => ?_)
  refine g_if_eq (tgt := 41) hw dX7_world_11 (by decide) (fun hb4 => ?_) (fun hb4 => ?_)
  · have h := gT h hb4
    refine g_iconst (v := (-1)) hw dX7_world_41 (by decide) ?_
    exact g_iret hw dX7_world_42 rfl ⟨_, rfl, h⟩
  · have h := gF h hb4
    refine g_iload_n hw 2 dX7_world_14 rfl ?_
    refine g_iconst (v := 0) hw dX7_world_15 (by decide) ?_
    refine g_sipush (v := 9999) hw dX7_world_16 (by decide) ?_
    refine sX7_253 hw rfl dX7_world_19 rfl (gK2 hkf) h (fun r6 M5 h => ?_)
    refine g_if_eq (tgt := 41) hw dX7_world_22 (by decide) (fun hb7 => ?_) (fun hb7 => ?_)
    · have h := gT h hb7
      refine g_iconst (v := (-1)) hw dX7_world_41 (by decide) ?_
      exact g_iret hw dX7_world_42 rfl ⟨_, rfl, h⟩
    · have h := gF h hb7
      refine g_aload_n hw 0 dX7_world_25 rfl ?_
      refine g_iload_n hw 3 dX7_world_26 rfl ?_
      obtain ⟨hk8, h⟩ := h
      refine sX7_257 hw rfl dX7_world_27 rfl (gK2 hkf) hk8 h (fun r10 M9 h => ?_)
      refine g_if_eq (tgt := 41) hw dX7_world_30 (by decide) (fun hb11 => ?_) (fun hb11 => ?_)
      · have h := gT h hb11
        refine g_iconst (v := (-1)) hw dX7_world_41 (by decide) ?_
        exact g_iret hw dX7_world_42 rfl ⟨_, rfl, h⟩
      · have h := gF h hb11
        refine g_iload hw 4 dX7_world_33 rfl ?_
        refine sX7_260 hw rfl dX7_world_35 rfl (gK2 hkf) h (fun r13 M12 h => ?_)
        refine g_if_ne (tgt := 43) hw dX7_world_38 (by decide) (fun hb14 => ?_) (fun hb14 => ?_)
        · have h := gF h hb14
          refine g_aload_n hw 0 dX7_world_43 rfl ?_
          refine g_iload_n hw 1 dX7_world_44 rfl ?_
          refine g_iload_n hw 2 dX7_world_45 rfl ?_
          obtain ⟨hk15, h⟩ := h
          refine sX7_415 hw rfl dX7_world_46 rfl (gK2 hkf) hk15 h (fun M16 h => ?_)
          refine g_aload_n hw 0 dX7_world_49 rfl ?_
          refine g_iload_n hw 3 dX7_world_50 rfl ?_
          refine g_iload hw 4 dX7_world_51 rfl ?_
          obtain ⟨hk18, h⟩ := h
          refine sX7_418 hw rfl dX7_world_53 rfl (gK2 hkf) hk18 h (fun r20 M19 h => ?_)
          exact g_iret hw dX7_world_56 rfl ⟨_, rfl, h⟩
        · have h := gT h hb14
          refine g_iconst (v := (-1)) hw dX7_world_41 (by decide) ?_
          exact g_iret hw dX7_world_42 rfl ⟨_, rfl, h⟩
def fX7_areSeeds (p1 : Int32) (M : gM) (Q : Int32 → gM → Prop) : Prop :=
  fX7_within p1 1 20 M (fun r2 M1 => (r2 = 0 ∨ r2 = 1) ∧ Q r2 M1)
theorem mX7_areSeeds {kf : Nat} (hkf : 2 ≤ kf) (G : gG) (p1 : Int32) (M : gM) (Q : Int32 → gM → Prop) (h : fX7_areSeeds p1 M Q) : gMet yX7_areSeeds cX7_areSeeds 1 (Option.some FieldType.boolean) kf G M [.int p1] (gQi Q) gE0 := by
  refine g_intro (lv := [(0, .int p1)]) (by decide) rfl rfl (fun w hw => ?_)
  unfold fX7_areSeeds at h
  refine g_iload_n hw 0 dX7_areSeeds_0 rfl ?_
  refine g_iconst (v := 1) hw dX7_areSeeds_1 (by decide) ?_
  refine g_bipush (v := 20) hw dX7_areSeeds_2 (by decide) ?_
  refine sX7_253 hw rfl dX7_areSeeds_4 rfl (gK2 hkf) h (fun r2 M1 h => ?_)
  obtain ⟨hc3, h⟩ := h
  exact g_iret hw dX7_areSeeds_7 (gBool hc3) ⟨_, rfl, h⟩
def fX7_fitOf_b109 (R21 : Int64 → Int32 → gM → Prop) (l1_1 : Int32) (l2_2 : Int32) (l3_19 : Int64) (l5_9 : Int32) (l6_20 : Int32) (M : gM) (Q : Int64 → gM → Prop) : Prop :=
  R21 l3_19 (l6_20 + 1) M
theorem wX7_fitOf_b109 {kf : Nat} {G : gG} {w : gM → Nat → List (Nat × Value) → List Value → Prop} {Q : Int64 → gM → Prop} (hw : gX yX7_fitOf cX7_fitOf 8 (Option.some FieldType.long) [] kf G (gQl Q) gE0 w) (hkf : 7 ≤ kf) {R21 : Int64 → Int32 → gM → Prop} {l1_1 : Int32} {l2_2 : Int32} {l3_19 : Int64} {l5_9 : Int32} {l6_20 : Int32} {M : gM} (hR21 : ∀ (v0 : Int64) (v1 : Int32) (M : gM), R21 v0 v1 M → w M 21 [(0, .ref (gA G 268)), (1, .int l1_1), (2, .int l2_2), (3, .long v0), (5, .int l5_9), (6, .int v1)] []) (h : fX7_fitOf_b109 R21 l1_1 l2_2 l3_19 l5_9 l6_20 M Q) : w M 109 [(0, .ref (gA G 268)), (1, .int l1_1), (2, .int l2_2), (3, .long l3_19), (5, .int l5_9), (6, .int l6_20)] [] := by
  unfold fX7_fitOf_b109 at h
  refine g_iinc hw (lv2 := [(0, .ref (gA G 268)), (1, .int l1_1), (2, .int l2_2), (3, .long l3_19), (5, .int l5_9), (6, .int (l6_20 + 1))]) 5 [1, 2, 3, 4, 5, 0] dX7_fitOf_109 rfl (by decide) rfl rfl ?_
  refine g_goto (tgt := 21) hw dX7_fitOf_112 (by decide) ?_
  exact hR21 l3_19 (l6_20 + 1) M h
def fX7_fitOf_b107 (R21 : Int64 → Int32 → gM → Prop) (l1_1 : Int32) (l2_2 : Int32) (l5_9 : Int32) (l6_33 : Int32) (s0_34 : Int64) (s1_35 : Int64) (M : gM) (Q : Int64 → gM → Prop) : Prop :=
  fX7_fitOf_b109 R21 l1_1 l2_2 (s0_34 + s1_35) l5_9 l6_33 M Q
theorem wX7_fitOf_b107 {kf : Nat} {G : gG} {w : gM → Nat → List (Nat × Value) → List Value → Prop} {Q : Int64 → gM → Prop} (hw : gX yX7_fitOf cX7_fitOf 8 (Option.some FieldType.long) [] kf G (gQl Q) gE0 w) (hkf : 7 ≤ kf) {R21 : Int64 → Int32 → gM → Prop} {l1_1 : Int32} {l2_2 : Int32} {l5_9 : Int32} {l6_33 : Int32} {s0_34 : Int64} {s1_35 : Int64} {M : gM} (hR21 : ∀ (v0 : Int64) (v1 : Int32) (M : gM), R21 v0 v1 M → w M 21 [(0, .ref (gA G 268)), (1, .int l1_1), (2, .int l2_2), (3, .long v0), (5, .int l5_9), (6, .int v1)] []) (h : fX7_fitOf_b107 R21 l1_1 l2_2 l5_9 l6_33 s0_34 s1_35 M Q) : w M 107 [(0, .ref (gA G 268)), (1, .int l1_1), (2, .int l2_2), (5, .int l5_9), (6, .int l6_33)] [.long s1_35, .long s0_34] := by
  unfold fX7_fitOf_b107 at h
  refine g_ladd hw dX7_fitOf_107 ?_
  refine g_lstore_n hw (lv2 := [(0, .ref (gA G 268)), (1, .int l1_1), (2, .int l2_2), (3, .long (s0_34 + s1_35)), (5, .int l5_9), (6, .int l6_33)]) [1, 2, 3, 0, 4, 5] dX7_fitOf_108 rfl rfl ?_
  exact wX7_fitOf_b109 hw hkf hR21 h
def fX7_fitOf_L21s (R21 : Int64 → Int32 → gM → Prop) (K115_21 : Int64 → gM → Prop) (l1_1 : Int32) (l2_2 : Int32) (l5_9 : Int32) (l3_10 : Int64) (l6_11 : Int32) (M : gM) (Q : Int64 → gM → Prop) : Prop :=
  (if 288 ≤ l6_11 then K115_21 l3_10 M else gk M 268 = 7 ∧ gdr (gR M 268 10) (fun a14 => gk M a14 = 43 ∧ vp_in (l6_11 / 12) (gl M a14) ∧ (if (gI M a14 ((l6_11 / 12).toNatClampNeg)) = 0 then fX7_fitOf_b109 R21 l1_1 l2_2 l3_10 l5_9 l6_11 M Q else (if (l6_11 - l6_11 / 12 * 12) ≤ 0 then fX7_fitOf_b109 R21 l1_1 l2_2 l3_10 l5_9 l6_11 M Q else gdr (gR M 268 18) (fun a22 => gk M a22 = 40 ∧ vp_in l6_11 (gl M a22) ∧ (if (gI M a22 l6_11.toNatClampNeg) = 0 then fX7_fitOf_b109 R21 l1_1 l2_2 l3_10 l5_9 l6_11 M Q else fX7_worldHands (l6_11 / 12) (l6_11 - l6_11 / 12 * 12) M (fun r28 M27 => gk M27 268 = 7 ∧ fX7_handsOf (l6_11 / 12) (l6_11 - l6_11 / 12 * 12) M27 (fun r31 M30 => (if 0 ≤ (r28 - r31) then fX7_fitOf_b107 R21 l1_1 l2_2 l5_9 l6_11 l3_10 ((r28 - r31).toInt64) M30 Q else fX7_fitOf_b107 R21 l1_1 l2_2 l5_9 l6_11 l3_10 ((-(r28 - r31)).toInt64) M30 Q)))))))))
def fX7_fitOf_L21 (K115_21 : Int64 → gM → Prop) (l1_1 : Int32) (l2_2 : Int32) (l5_9 : Int32) (Q : Int64 → gM → Prop) : Nat → Int64 → Int32 → gM → Prop
  | 0 => fun _ _ _ => False
  | n + 1 => fun l3_10 l6_11 M => fX7_fitOf_L21s (fX7_fitOf_L21 K115_21 l1_1 l2_2 l5_9 Q n) K115_21 l1_1 l2_2 l5_9 l3_10 l6_11 M Q
theorem wX7_fitOf_L21s {kf : Nat} {G : gG} {w : gM → Nat → List (Nat × Value) → List Value → Prop} {Q : Int64 → gM → Prop} (hw : gX yX7_fitOf cX7_fitOf 8 (Option.some FieldType.long) [] kf G (gQl Q) gE0 w) (hkf : 7 ≤ kf) {R21 : Int64 → Int32 → gM → Prop} {K115_21 : Int64 → gM → Prop} {l1_1 : Int32} {l2_2 : Int32} {l5_9 : Int32} {l3_10 : Int64} {l6_11 : Int32} {M : gM} (hR21 : ∀ (v0 : Int64) (v1 : Int32) (M : gM), R21 v0 v1 M → w M 21 [(0, .ref (gA G 268)), (1, .int l1_1), (2, .int l2_2), (3, .long v0), (5, .int l5_9), (6, .int v1)] []) (hK115_21 : ∀ (v0 : Int64) (M : gM), K115_21 v0 M → w M 115 [(0, .ref (gA G 268)), (1, .int l1_1), (2, .int l2_2), (3, .long v0), (5, .int l5_9)] []) (h : fX7_fitOf_L21s R21 K115_21 l1_1 l2_2 l5_9 l3_10 l6_11 M Q) : w M 21 [(0, .ref (gA G 268)), (1, .int l1_1), (2, .int l2_2), (3, .long l3_10), (5, .int l5_9), (6, .int l6_11)] [] := by
  unfold fX7_fitOf_L21s at h
  refine g_iload hw 5 dX7_fitOf_21 rfl ?_
  refine g_sipush (v := 288) hw dX7_fitOf_23 (by decide) ?_
  refine g_icmp_ge (tgt := 115) hw dX7_fitOf_26 (by decide) (fun hb12 => ?_) (fun hb12 => ?_)
  · have h := gT h hb12
    refine g_sub hw (lv2 := [(0, .ref (gA G 268)), (1, .int l1_1), (2, .int l2_2), (3, .long l3_10), (5, .int l5_9)]) [0, 1, 2, 3, 4] rfl ?_
    exact hK115_21 l3_10 M h
  · have h := gF h hb12
    refine g_aload_n hw 0 dX7_fitOf_29 rfl ?_
    obtain ⟨hk13, h⟩ := h
    obtain ⟨a14, e15, h⟩ := h
    refine gfX7_93 (q := some a14) hw rfl dX7_fitOf_30 hk13 e15 ?_
    refine g_iload hw 5 dX7_fitOf_33 rfl ?_
    refine g_bipush (v := 12) hw dX7_fitOf_35 (by decide) ?_
    refine g_idiv hw dX7_fitOf_37 (by decide) ?_
    obtain ⟨hk16, h⟩ := h
    obtain ⟨hi17, h⟩ := h
    refine g_zald (n := (l6_11 / 12).toNatClampNeg) hw dX7_fitOf_38 hk16 hi17 rfl ?_
    refine g_if_eq (tgt := 109) hw dX7_fitOf_39 (by decide) (fun hb18 => ?_) (fun hb18 => ?_)
    · have h := gT h hb18
      exact wX7_fitOf_b109 hw hkf hR21 h
    · have h := gF h hb18
      refine g_iload hw 5 dX7_fitOf_42 rfl ?_
      refine g_bipush (v := 12) hw dX7_fitOf_44 (by decide) ?_
      refine g_irem hw dX7_fitOf_46 (by decide) ?_
      refine g_if_le (tgt := 109) hw dX7_fitOf_47 (by decide) (fun hb21 => ?_) (fun hb21 => ?_)
      · have h := gT h hb21
        exact wX7_fitOf_b109 hw hkf hR21 h
      · have h := gF h hb21
        refine g_aload_n hw 0 dX7_fitOf_50 rfl ?_
        obtain ⟨a22, e23, h⟩ := h
        refine gfX7_115 (q := some a22) hw rfl dX7_fitOf_51 hk13 e23 ?_
        refine g_iload hw 5 dX7_fitOf_54 rfl ?_
        obtain ⟨hk24, h⟩ := h
        obtain ⟨hi25, h⟩ := h
        refine g_iald (n := l6_11.toNatClampNeg) hw dX7_fitOf_56 hk24 hi25 rfl ?_
        refine g_if_eq (tgt := 109) hw dX7_fitOf_57 (by decide) (fun hb26 => ?_) (fun hb26 => ?_)
        · have h := gT h hb26
          exact wX7_fitOf_b109 hw hkf hR21 h
        · have h := gF h hb26
          refine g_aload_n hw 0 dX7_fitOf_60 rfl ?_
          refine g_iload hw 5 dX7_fitOf_61 rfl ?_
          refine g_bipush (v := 12) hw dX7_fitOf_63 (by decide) ?_
          refine g_idiv hw dX7_fitOf_65 (by decide) ?_
          refine g_iload hw 5 dX7_fitOf_66 rfl ?_
          refine g_bipush (v := 12) hw dX7_fitOf_68 (by decide) ?_
          refine g_irem hw dX7_fitOf_70 (by decide) ?_
          refine sX7_418 hw rfl dX7_fitOf_71 rfl (gK2 hkf) hk13 h (fun r28 M27 h => ?_)
          refine g_aload_n hw 0 dX7_fitOf_74 rfl ?_
          refine g_iload hw 5 dX7_fitOf_75 rfl ?_
          refine g_bipush (v := 12) hw dX7_fitOf_77 (by decide) ?_
          refine g_idiv hw dX7_fitOf_79 (by decide) ?_
          refine g_iload hw 5 dX7_fitOf_80 rfl ?_
          refine g_bipush (v := 12) hw dX7_fitOf_82 (by decide) ?_
          refine g_irem hw dX7_fitOf_84 (by decide) ?_
          obtain ⟨hk29, h⟩ := h
          refine sX7_267 hw rfl dX7_fitOf_85 rfl (gK2 hkf) hk29 h (fun r31 M30 h => ?_)
          refine g_isub hw dX7_fitOf_88 ?_
          refine g_istore hw (lv2 := [(0, .ref (gA G 268)), (1, .int l1_1), (2, .int l2_2), (3, .long l3_10), (5, .int l5_9), (6, .int l6_11), (7, .int (r28 - r31))]) [1, 2, 3, 4, 5, 6, 0] dX7_fitOf_89 rfl rfl ?_
          refine g_lload_n hw 3 dX7_fitOf_91 rfl ?_
          refine g_iload hw 6 dX7_fitOf_92 rfl ?_
          refine g_if_ge (tgt := 104) hw dX7_fitOf_94 (by decide) (fun hb32 => ?_) (fun hb32 => ?_)
          · have h := gT h hb32
            refine g_iload hw 6 dX7_fitOf_104 rfl ?_
            refine g_i2l hw dX7_fitOf_106 ?_
            refine g_sub hw (lv2 := [(0, .ref (gA G 268)), (1, .int l1_1), (2, .int l2_2), (5, .int l5_9), (6, .int l6_11)]) [0, 1, 2, 4, 5] rfl ?_
            exact wX7_fitOf_b107 hw hkf hR21 h
          · have h := gF h hb32
            refine g_iload hw 6 dX7_fitOf_97 rfl ?_
            refine g_ineg hw dX7_fitOf_99 ?_
            refine g_i2l hw dX7_fitOf_100 ?_
            refine g_goto (tgt := 107) hw dX7_fitOf_101 (by decide) ?_
            refine g_sub hw (lv2 := [(0, .ref (gA G 268)), (1, .int l1_1), (2, .int l2_2), (5, .int l5_9), (6, .int l6_11)]) [0, 1, 2, 4, 5] rfl ?_
            exact wX7_fitOf_b107 hw hkf hR21 h
theorem wX7_fitOf_L21 {kf : Nat} {G : gG} {w : gM → Nat → List (Nat × Value) → List Value → Prop} {Q : Int64 → gM → Prop} (hw : gX yX7_fitOf cX7_fitOf 8 (Option.some FieldType.long) [] kf G (gQl Q) gE0 w) (hkf : 7 ≤ kf) {K115_21 : Int64 → gM → Prop} {l1_1 : Int32} {l2_2 : Int32} {l5_9 : Int32} (hK115_21 : ∀ (v0 : Int64) (M : gM), K115_21 v0 M → w M 115 [(0, .ref (gA G 268)), (1, .int l1_1), (2, .int l2_2), (3, .long v0), (5, .int l5_9)] []) : ∀ (n : Nat) (l3_10 : Int64) (l6_11 : Int32) (M : gM), fX7_fitOf_L21 K115_21 l1_1 l2_2 l5_9 Q n l3_10 l6_11 M → w M 21 [(0, .ref (gA G 268)), (1, .int l1_1), (2, .int l2_2), (3, .long l3_10), (5, .int l5_9), (6, .int l6_11)] [] := by
  intro n
  induction n with
  | zero => intro l3_10 l6_11 M h; exact h.elim
  | succ n ih => intro l3_10 l6_11 M h; exact wX7_fitOf_L21s hw hkf ih hK115_21 h
def fX7_fitOf_L5s (R5 : Int64 → Int32 → gM → Prop) (K121_5 : Int64 → gM → Prop) (l1_1 : Int32) (l2_2 : Int32) (l3_3 : Int64) (l5_4 : Int32) (M : gM) (Q : Int64 → gM → Prop) : Prop :=
  (if l2_2 ≤ l5_4 then K121_5 l3_3 M else gk M 268 = 7 ∧ fX7_runs l1_1 l5_4 M (fun M7 => ∃ n, fX7_fitOf_L21 (fun l3_36 M37 => R5 l3_36 (l5_4 + 1) M37) l1_1 l2_2 l5_4 Q n l3_3 0 M7))
def fX7_fitOf_L5 (K121_5 : Int64 → gM → Prop) (l1_1 : Int32) (l2_2 : Int32) (Q : Int64 → gM → Prop) : Nat → Int64 → Int32 → gM → Prop
  | 0 => fun _ _ _ => False
  | n + 1 => fun l3_3 l5_4 M => fX7_fitOf_L5s (fX7_fitOf_L5 K121_5 l1_1 l2_2 Q n) K121_5 l1_1 l2_2 l3_3 l5_4 M Q
theorem wX7_fitOf_L5s {kf : Nat} {G : gG} {w : gM → Nat → List (Nat × Value) → List Value → Prop} {Q : Int64 → gM → Prop} (hw : gX yX7_fitOf cX7_fitOf 8 (Option.some FieldType.long) [] kf G (gQl Q) gE0 w) (hkf : 7 ≤ kf) {R5 : Int64 → Int32 → gM → Prop} {K121_5 : Int64 → gM → Prop} {l1_1 : Int32} {l2_2 : Int32} {l3_3 : Int64} {l5_4 : Int32} {M : gM} (hR5 : ∀ (v0 : Int64) (v1 : Int32) (M : gM), R5 v0 v1 M → w M 5 [(0, .ref (gA G 268)), (1, .int l1_1), (2, .int l2_2), (3, .long v0), (5, .int v1)] []) (hK121_5 : ∀ (v0 : Int64) (M : gM), K121_5 v0 M → w M 121 [(3, .long v0)] []) (h : fX7_fitOf_L5s R5 K121_5 l1_1 l2_2 l3_3 l5_4 M Q) : w M 5 [(0, .ref (gA G 268)), (1, .int l1_1), (2, .int l2_2), (3, .long l3_3), (5, .int l5_4)] [] := by
  unfold fX7_fitOf_L5s at h
  refine g_iload hw 4 dX7_fitOf_5 rfl ?_
  refine g_iload_n hw 2 dX7_fitOf_7 rfl ?_
  refine g_icmp_ge (tgt := 121) hw dX7_fitOf_8 (by decide) (fun hb5 => ?_) (fun hb5 => ?_)
  · have h := gT h hb5
    refine g_sub hw (lv2 := [(3, .long l3_3)]) [3] rfl ?_
    exact hK121_5 l3_3 M h
  · have h := gF h hb5
    refine g_aload_n hw 0 dX7_fitOf_11 rfl ?_
    refine g_iload_n hw 1 dX7_fitOf_12 rfl ?_
    refine g_iload hw 4 dX7_fitOf_13 rfl ?_
    obtain ⟨hk6, h⟩ := h
    refine sX7_415 hw rfl dX7_fitOf_15 rfl (gK2 hkf) hk6 h (fun M7 h => ?_)
    refine g_iconst (v := 0) hw dX7_fitOf_18 (by decide) ?_
    refine g_istore hw (lv2 := [(0, .ref (gA G 268)), (1, .int l1_1), (2, .int l2_2), (3, .long l3_3), (5, .int l5_4), (6, .int 0)]) [1, 2, 3, 4, 5, 0] dX7_fitOf_19 rfl rfl ?_
    obtain ⟨n9, h⟩ := h
    refine wX7_fitOf_L21 hw hkf (fun l3_36 M37 h => ?_) n9 l3_3 0 M7 h
    refine g_iinc hw (lv2 := [(0, .ref (gA G 268)), (1, .int l1_1), (2, .int l2_2), (3, .long l3_36), (5, .int (l5_4 + 1))]) 4 [1, 2, 3, 4, 0] dX7_fitOf_115 rfl (by decide) rfl rfl ?_
    refine g_goto (tgt := 5) hw dX7_fitOf_118 (by decide) ?_
    exact hR5 l3_36 (l5_4 + 1) M37 h
theorem wX7_fitOf_L5 {kf : Nat} {G : gG} {w : gM → Nat → List (Nat × Value) → List Value → Prop} {Q : Int64 → gM → Prop} (hw : gX yX7_fitOf cX7_fitOf 8 (Option.some FieldType.long) [] kf G (gQl Q) gE0 w) (hkf : 7 ≤ kf) {K121_5 : Int64 → gM → Prop} {l1_1 : Int32} {l2_2 : Int32} (hK121_5 : ∀ (v0 : Int64) (M : gM), K121_5 v0 M → w M 121 [(3, .long v0)] []) : ∀ (n : Nat) (l3_3 : Int64) (l5_4 : Int32) (M : gM), fX7_fitOf_L5 K121_5 l1_1 l2_2 Q n l3_3 l5_4 M → w M 5 [(0, .ref (gA G 268)), (1, .int l1_1), (2, .int l2_2), (3, .long l3_3), (5, .int l5_4)] [] := by
  intro n
  induction n with
  | zero => intro l3_3 l5_4 M h; exact h.elim
  | succ n ih => intro l3_3 l5_4 M h; exact wX7_fitOf_L5s hw hkf ih hK121_5 h
def fX7_fitOf (p1 : Int32) (p2 : Int32) (M : gM) (Q : Int64 → gM → Prop) : Prop :=
  ∃ n, fX7_fitOf_L5 (fun l3_38 M39 => Q l3_38 M39) p1 p2 Q n 0 0 M
theorem mX7_fitOf {kf : Nat} (hkf : 7 ≤ kf) (G : gG) (p1 : Int32) (p2 : Int32) (M : gM) (Q : Int64 → gM → Prop) (h : fX7_fitOf p1 p2 M Q) : gMet yX7_fitOf cX7_fitOf 8 (Option.some FieldType.long) kf G M [.ref (gA G 268), .int p1, .int p2] (gQl Q) gE0 := by
  refine g_intro (lv := [(0, .ref (gA G 268)), (1, .int p1), (2, .int p2)]) (by decide) rfl rfl (fun w hw => ?_)
  unfold fX7_fitOf at h
  refine g_lconst (v := 0) hw dX7_fitOf_0 (by decide) ?_
  refine g_lstore_n hw (lv2 := [(0, .ref (gA G 268)), (1, .int p1), (2, .int p2), (3, .long 0)]) [1, 2, 3, 0] dX7_fitOf_1 rfl rfl ?_
  refine g_iconst (v := 0) hw dX7_fitOf_2 (by decide) ?_
  refine g_istore hw (lv2 := [(0, .ref (gA G 268)), (1, .int p1), (2, .int p2), (3, .long 0), (5, .int 0)]) [1, 2, 3, 4, 0] dX7_fitOf_3 rfl rfl ?_
  obtain ⟨n9, h⟩ := h
  refine wX7_fitOf_L5 hw hkf (fun l3_38 M39 h => ?_) n9 0 0 M h
  refine g_lload_n hw 0 dX7_fitOf_121 rfl ?_
  exact g_lret hw dX7_fitOf_122 ⟨_, rfl, h⟩
theorem sX7_421 {y0 : MethodName} {cc : ByteArray} {nL : Nat} {ret : Option FieldType} {hh : List (Nat × Nat × Nat × Nat)} {kf : Nat} {G : gG} {Qv : Option Value → gM → Prop} {E : String → Nat → gM → Prop} {w : gM → Nat → List (Nat × Value) → List Value → Prop} {M : gM} {pc : Nat} {lv : List (Nat × Value)} {rest : List Value} (hw : gX y0 cc nL ret hh kf G Qv E w) (hy : y0.cls = RX7) {p1 : Int32} {Q : Int32 → gM → Prop} (d : decode cc pc = .ok (.invokestatic 421, 3)) (hrest : Nat.ble ((rest.map Value.category).sum) 8 = true) (hk : 2 + 1 ≤ kf) (h : fX7_areSeeds p1 M Q) (kk : ∀ r M1, Q r M1 → w M1 (pc + 3) lv (.int r :: rest)) : w M pc lv (.int p1 :: rest) := by
  obtain ⟨cls9, nm9, ds9⟩ := y0
  subst hy
  exact g_callS hw [.int p1] (nA := 1) rfl d q1603 q1604 q104 q1605 (by decide +kernel) rfl hrest rfl (by omega : kf - 1 + 1 ≤ kf) (mX7_areSeeds (kf := kf - 1) (by omega) G p1 M Q h) (fun _ _ _ q => q.elim) (fun v M1 h => by obtain ⟨r, rfl, h⟩ := h; exact kk r M1 h)
theorem sX7_424 {y0 : MethodName} {cc : ByteArray} {nL : Nat} {ret : Option FieldType} {hh : List (Nat × Nat × Nat × Nat)} {kf : Nat} {G : gG} {Qv : Option Value → gM → Prop} {E : String → Nat → gM → Prop} {w : gM → Nat → List (Nat × Value) → List Value → Prop} {M : gM} {pc : Nat} {lv : List (Nat × Value)} {rest : List Value} (hw : gX y0 cc nL ret hh kf G Qv E w) (hy : y0.cls = RX7) {p1 : Int32} {p2 : Int32} {Q : Int64 → gM → Prop} (d : decode cc pc = .ok (.invokevirtual 424, 3)) (hrest : Nat.ble ((rest.map Value.category).sum) 8 = true) (hk : 7 + 1 ≤ kf) (hkd : gk M 268 = 7) (h : fX7_fitOf p1 p2 M Q) (kk : ∀ r M1, Q r M1 → w M1 (pc + 3) lv (.long r :: rest)) : w M pc lv (.int p2 :: .int p1 :: .ref (gA G 268) :: rest) := by
  obtain ⟨cls9, nm9, ds9⟩ := y0
  subst hy
  exact g_callV (r := (RX7, TX7, 58)) (ci := 6) hw [.int p1, .int p2] (nA := 2) rfl d q1606 q1608 qs81 q104 q1609 (by decide +kernel) rfl rfl hrest rfl (by omega : kf - 1 + 1 ≤ kf) hkd (mX7_fitOf (kf := kf - 1) (by omega) G p1 p2 M Q h) (fun _ _ _ q => q.elim) (fun v M1 h => by obtain ⟨r, rfl, h⟩ := h; exact kk r M1 h)
def fX7_fits_b30  (M : gM) (Q : Int64 → gM → Prop) : Prop :=
  Q (-1) M
theorem wX7_fits_b30 {kf : Nat} {G : gG} {w : gM → Nat → List (Nat × Value) → List Value → Prop} {Q : Int64 → gM → Prop} (hw : gX yX7_fits cX7_fits 3 (Option.some FieldType.long) [] kf G (gQl Q) gE0 w) (hkf : 8 ≤ kf)   {M : gM}  (h : fX7_fits_b30 M Q) : w M 30 [] [] := by
  unfold fX7_fits_b30 at h
  refine g_ldc2 hw dX7_fits_30 q1460 ?_
  exact g_lret hw dX7_fits_33 ⟨_, rfl, h⟩
def fX7_fits (p1 : Int32) (p2 : Int32) (M : gM) (Q : Int64 → gM → Prop) : Prop :=
  gk M 268 = 7 ∧ fX7_within p1 0 3 (gsI M 268 0 0) (fun r3 M2 => (if r3 = 0 then fX7_fits_b30 M2 Q else fX7_areSeeds p2 M2 (fun r6 M5 => (if r6 = 0 then fX7_fits_b30 M5 Q else gk M5 268 = 7 ∧ fX7_fitOf p1 p2 M5 (fun r10 M9 => Q r10 M9)))))
theorem mX7_fits {kf : Nat} (hkf : 8 ≤ kf) (G : gG) (p1 : Int32) (p2 : Int32) (M : gM) (Q : Int64 → gM → Prop) (h : fX7_fits p1 p2 M Q) : gMet yX7_fits cX7_fits 3 (Option.some FieldType.long) kf G M [.ref (gA G 268), .int p1, .int p2] (gQl Q) gE0 := by
  refine g_intro (lv := [(0, .ref (gA G 268)), (1, .int p1), (2, .int p2)]) (by decide) rfl rfl (fun w hw => ?_)
  unfold fX7_fits at h
  refine g_aload_n hw 0 dX7_fits_0 rfl ?_
  refine g_iconst (v := 0) hw dX7_fits_1 (by decide) ?_
  obtain ⟨hk1, h⟩ := h
  refine pfX7_1 hw rfl dX7_fits_2 hk1 ?_
  refine g_iload_n hw 1 dX7_fits_5 rfl ?_
  refine g_iconst (v := 0) hw dX7_fits_6 (by decide) ?_
  refine g_iconst (v := 3) hw dX7_fits_7 (by decide) ?_
  refine sX7_253 hw rfl dX7_fits_8 rfl (gK2 hkf) h (fun r3 M2 h => ?_)
  refine g_if_eq (tgt := 30) hw dX7_fits_11 (by decide) (fun hb4 => ?_) (fun hb4 => ?_)
  · have h := gT h hb4
    refine g_sub hw (lv2 := []) [] rfl ?_
    exact wX7_fits_b30 hw hkf h
  · have h := gF h hb4
    refine g_iload_n hw 2 dX7_fits_14 rfl ?_
    refine sX7_421 hw rfl dX7_fits_15 rfl (gK2 hkf) h (fun r6 M5 h => ?_)
    refine g_if_eq (tgt := 30) hw dX7_fits_18 (by decide) (fun hb7 => ?_) (fun hb7 => ?_)
    · have h := gT h hb7
      refine g_sub hw (lv2 := []) [] rfl ?_
      exact wX7_fits_b30 hw hkf h
    · have h := gF h hb7
      refine g_aload_n hw 0 dX7_fits_21 rfl ?_
      refine g_iload_n hw 1 dX7_fits_22 rfl ?_
      refine g_iload_n hw 2 dX7_fits_23 rfl ?_
      obtain ⟨hk8, h⟩ := h
      refine sX7_424 hw rfl dX7_fits_24 rfl (gK2 hkf) hk8 h (fun r10 M9 h => ?_)
      refine g_goto (tgt := 33) hw dX7_fits_27 (by decide) ?_
      exact g_lret hw dX7_fits_33 ⟨_, rfl, h⟩
def fX7_best_b54 (R26 : Int32 → Int64 → Int32 → gM → Prop) (l1_8 : Int32) (l2_17 : Int32) (l3_18 : Int64) (l5_19 : Int32) (M : gM) (Q : Int32 → gM → Prop) : Prop :=
  R26 l2_17 l3_18 (l5_19 + 1) M
theorem wX7_best_b54 {kf : Nat} {G : gG} {w : gM → Nat → List (Nat × Value) → List Value → Prop} {Q : Int32 → gM → Prop} (hw : gX yX7_best cX7_best 8 (Option.some FieldType.int) [] kf G (gQi Q) gE0 w) (hkf : 8 ≤ kf) {R26 : Int32 → Int64 → Int32 → gM → Prop} {l1_8 : Int32} {l2_17 : Int32} {l3_18 : Int64} {l5_19 : Int32} {M : gM} (hR26 : ∀ (v0 : Int32) (v1 : Int64) (v2 : Int32) (M : gM), R26 v0 v1 v2 M → w M 26 [(0, .ref (gA G 268)), (1, .int l1_8), (2, .int v0), (3, .long v1), (5, .int v2)] []) (h : fX7_best_b54 R26 l1_8 l2_17 l3_18 l5_19 M Q) : w M 54 [(0, .ref (gA G 268)), (1, .int l1_8), (2, .int l2_17), (3, .long l3_18), (5, .int l5_19)] [] := by
  unfold fX7_best_b54 at h
  refine g_iinc hw (lv2 := [(0, .ref (gA G 268)), (1, .int l1_8), (2, .int l2_17), (3, .long l3_18), (5, .int (l5_19 + 1))]) 4 [1, 2, 3, 4, 0] dX7_best_54 rfl (by decide) rfl rfl ?_
  refine g_goto (tgt := 26) hw dX7_best_57 (by decide) ?_
  exact hR26 l2_17 l3_18 (l5_19 + 1) M h
def fX7_best_L26s (R26 : Int32 → Int64 → Int32 → gM → Prop) (K60_26 : Int32 → gM → Prop) (l1_8 : Int32) (l2_9 : Int32) (l3_10 : Int64) (l5_11 : Int32) (M : gM) (Q : Int32 → gM → Prop) : Prop :=
  (if 4 ≤ l5_11 then K60_26 l2_9 M else gk M 268 = 7 ∧ fX7_fitOf l5_11 l1_8 M (fun r15 M14 => (if 0 ≤ (lg_cmp r15 l3_10) then fX7_best_b54 R26 l1_8 l2_9 l3_10 l5_11 M14 Q else fX7_best_b54 R26 l1_8 l5_11 r15 l5_11 M14 Q)))
def fX7_best_L26 (K60_26 : Int32 → gM → Prop) (l1_8 : Int32) (Q : Int32 → gM → Prop) : Nat → Int32 → Int64 → Int32 → gM → Prop
  | 0 => fun _ _ _ _ => False
  | n + 1 => fun l2_9 l3_10 l5_11 M => fX7_best_L26s (fX7_best_L26 K60_26 l1_8 Q n) K60_26 l1_8 l2_9 l3_10 l5_11 M Q
theorem wX7_best_L26s {kf : Nat} {G : gG} {w : gM → Nat → List (Nat × Value) → List Value → Prop} {Q : Int32 → gM → Prop} (hw : gX yX7_best cX7_best 8 (Option.some FieldType.int) [] kf G (gQi Q) gE0 w) (hkf : 8 ≤ kf) {R26 : Int32 → Int64 → Int32 → gM → Prop} {K60_26 : Int32 → gM → Prop} {l1_8 : Int32} {l2_9 : Int32} {l3_10 : Int64} {l5_11 : Int32} {M : gM} (hR26 : ∀ (v0 : Int32) (v1 : Int64) (v2 : Int32) (M : gM), R26 v0 v1 v2 M → w M 26 [(0, .ref (gA G 268)), (1, .int l1_8), (2, .int v0), (3, .long v1), (5, .int v2)] []) (hK60_26 : ∀ (v0 : Int32) (M : gM), K60_26 v0 M → w M 60 [(2, .int v0)] []) (h : fX7_best_L26s R26 K60_26 l1_8 l2_9 l3_10 l5_11 M Q) : w M 26 [(0, .ref (gA G 268)), (1, .int l1_8), (2, .int l2_9), (3, .long l3_10), (5, .int l5_11)] [] := by
  unfold fX7_best_L26s at h
  refine g_iload hw 4 dX7_best_26 rfl ?_
  refine g_iconst (v := 4) hw dX7_best_28 (by decide) ?_
  refine g_icmp_ge (tgt := 60) hw dX7_best_29 (by decide) (fun hb12 => ?_) (fun hb12 => ?_)
  · have h := gT h hb12
    refine g_sub hw (lv2 := [(2, .int l2_9)]) [2] rfl ?_
    exact hK60_26 l2_9 M h
  · have h := gF h hb12
    refine g_aload_n hw 0 dX7_best_32 rfl ?_
    refine g_iload hw 4 dX7_best_33 rfl ?_
    refine g_iload_n hw 1 dX7_best_35 rfl ?_
    obtain ⟨hk13, h⟩ := h
    refine sX7_424 hw rfl dX7_best_36 rfl (gK2 hkf) hk13 h (fun r15 M14 h => ?_)
    refine g_lstore hw (lv2 := [(0, .ref (gA G 268)), (1, .int l1_8), (2, .int l2_9), (3, .long l3_10), (5, .int l5_11), (6, .long r15)]) [1, 2, 3, 4, 5, 0] dX7_best_39 rfl rfl ?_
    refine g_lload hw 5 dX7_best_41 rfl ?_
    refine g_lload_n hw 3 dX7_best_43 rfl ?_
    refine g_lcmp hw dX7_best_44 ?_
    refine g_if_ge (tgt := 54) hw dX7_best_45 (by decide) (fun hb16 => ?_) (fun hb16 => ?_)
    · have h := gT h hb16
      refine g_sub hw (lv2 := [(0, .ref (gA G 268)), (1, .int l1_8), (2, .int l2_9), (3, .long l3_10), (5, .int l5_11)]) [0, 1, 2, 3, 4] rfl ?_
      exact wX7_best_b54 hw hkf hR26 h
    · have h := gF h hb16
      refine g_lload hw 5 dX7_best_48 rfl ?_
      refine g_lstore_n hw (lv2 := [(0, .ref (gA G 268)), (1, .int l1_8), (3, .long r15), (5, .int l5_11)]) [1, 2, 0, 4] dX7_best_50 rfl rfl ?_
      refine g_iload hw 3 dX7_best_51 rfl ?_
      refine g_istore_n hw (lv2 := [(0, .ref (gA G 268)), (1, .int l1_8), (2, .int l5_11), (3, .long r15), (5, .int l5_11)]) [1, 2, 0, 3, 4] dX7_best_53 rfl rfl ?_
      exact wX7_best_b54 hw hkf hR26 h
theorem wX7_best_L26 {kf : Nat} {G : gG} {w : gM → Nat → List (Nat × Value) → List Value → Prop} {Q : Int32 → gM → Prop} (hw : gX yX7_best cX7_best 8 (Option.some FieldType.int) [] kf G (gQi Q) gE0 w) (hkf : 8 ≤ kf) {K60_26 : Int32 → gM → Prop} {l1_8 : Int32} (hK60_26 : ∀ (v0 : Int32) (M : gM), K60_26 v0 M → w M 60 [(2, .int v0)] []) : ∀ (n : Nat) (l2_9 : Int32) (l3_10 : Int64) (l5_11 : Int32) (M : gM), fX7_best_L26 K60_26 l1_8 Q n l2_9 l3_10 l5_11 M → w M 26 [(0, .ref (gA G 268)), (1, .int l1_8), (2, .int l2_9), (3, .long l3_10), (5, .int l5_11)] [] := by
  intro n
  induction n with
  | zero => intro l2_9 l3_10 l5_11 M h; exact h.elim
  | succ n ih => intro l2_9 l3_10 l5_11 M h; exact wX7_best_L26s hw hkf ih hK60_26 h
def fX7_best (p1 : Int32) (M : gM) (Q : Int32 → gM → Prop) : Prop :=
  gk M 268 = 7 ∧ fX7_areSeeds p1 (gsI M 268 0 0) (fun r3 M2 => (if r3 = 0 then Q (-1) M2 else gk M2 268 = 7 ∧ fX7_fitOf 0 p1 M2 (fun r7 M6 => ∃ n, fX7_best_L26 (fun l2_20 M21 => Q l2_20 M21) p1 Q n 0 r7 1 M6)))
theorem mX7_best {kf : Nat} (hkf : 8 ≤ kf) (G : gG) (p1 : Int32) (M : gM) (Q : Int32 → gM → Prop) (h : fX7_best p1 M Q) : gMet yX7_best cX7_best 8 (Option.some FieldType.int) kf G M [.ref (gA G 268), .int p1] (gQi Q) gE0 := by
  refine g_intro (lv := [(0, .ref (gA G 268)), (1, .int p1)]) (by decide) rfl rfl (fun w hw => ?_)
  unfold fX7_best at h
  refine g_aload_n hw 0 dX7_best_0 rfl ?_
  refine g_iconst (v := 0) hw dX7_best_1 (by decide) ?_
  obtain ⟨hk1, h⟩ := h
  refine pfX7_1 hw rfl dX7_best_2 hk1 ?_
  refine g_iload_n hw 1 dX7_best_5 rfl ?_
  refine sX7_421 hw rfl dX7_best_6 rfl (gK2 hkf) h (fun r3 M2 h => ?_)
  refine g_if_ne (tgt := 14) hw dX7_best_9 (by decide) (fun hb4 => ?_) (fun hb4 => ?_)
  · have h := gF h hb4
    refine g_iconst (v := 0) hw dX7_best_14 (by decide) ?_
    refine g_istore_n hw (lv2 := [(0, .ref (gA G 268)), (1, .int p1), (2, .int 0)]) [1, 2, 0] dX7_best_15 rfl rfl ?_
    refine g_aload_n hw 0 dX7_best_16 rfl ?_
    refine g_iconst (v := 0) hw dX7_best_17 (by decide) ?_
    refine g_iload_n hw 1 dX7_best_18 rfl ?_
    obtain ⟨hk5, h⟩ := h
    refine sX7_424 hw rfl dX7_best_19 rfl (gK2 hkf) hk5 h (fun r7 M6 h => ?_)
    refine g_lstore_n hw (lv2 := [(0, .ref (gA G 268)), (1, .int p1), (2, .int 0), (3, .long r7)]) [1, 2, 3, 0] dX7_best_22 rfl rfl ?_
    refine g_iconst (v := 1) hw dX7_best_23 (by decide) ?_
    refine g_istore hw (lv2 := [(0, .ref (gA G 268)), (1, .int p1), (2, .int 0), (3, .long r7), (5, .int 1)]) [1, 2, 3, 4, 0] dX7_best_24 rfl rfl ?_
    obtain ⟨n9, h⟩ := h
    refine wX7_best_L26 hw hkf (fun l2_20 M21 h => ?_) n9 0 r7 1 M6 h
    refine g_iload_n hw 0 dX7_best_60 rfl ?_
    exact g_iret hw dX7_best_61 rfl ⟨_, rfl, h⟩
  · have h := gT h hb4
    refine g_iconst (v := (-1)) hw dX7_best_12 (by decide) ?_
    exact g_iret hw dX7_best_13 rfl ⟨_, rfl, h⟩
def fX7_rivers_b134 (R79 : Int32 → gM → Prop) (l1_18 : Int32) (l2_19 : Int32) (l3_20 : Int32) (l4_21 : Int32) (l5_22 : Int32) (l6_32 : Int32) (l7_33 : Int32) (l8_40 : Int32) (M : gM) (Q : Int32 → gM → Prop) : Prop :=
  R79 (l8_40 + 1) M
theorem wX7_rivers_b134 {kf : Nat} {G : gG} {w : gM → Nat → List (Nat × Value) → List Value → Prop} {Q : Int32 → gM → Prop} (hw : gX yX7_rivers cX7_rivers 9 (Option.some FieldType.int) [] kf G (gQi Q) gE0 w) (hkf : 7 ≤ kf) {R79 : Int32 → gM → Prop} {l1_18 : Int32} {l2_19 : Int32} {l3_20 : Int32} {l4_21 : Int32} {l5_22 : Int32} {l6_32 : Int32} {l7_33 : Int32} {l8_40 : Int32} {M : gM} (hR79 : ∀ (v0 : Int32) (M : gM), R79 v0 M → w M 79 [(0, .ref (gA G 268)), (1, .int l1_18), (2, .int l2_19), (3, .int l3_20), (4, .int l4_21), (5, .int l5_22), (6, .int l6_32), (7, .int l7_33), (8, .int v0)] []) (h : fX7_rivers_b134 R79 l1_18 l2_19 l3_20 l4_21 l5_22 l6_32 l7_33 l8_40 M Q) : w M 134 [(0, .ref (gA G 268)), (1, .int l1_18), (2, .int l2_19), (3, .int l3_20), (4, .int l4_21), (5, .int l5_22), (6, .int l6_32), (7, .int l7_33), (8, .int l8_40)] [] := by
  unfold fX7_rivers_b134 at h
  refine g_iinc hw (lv2 := [(0, .ref (gA G 268)), (1, .int l1_18), (2, .int l2_19), (3, .int l3_20), (4, .int l4_21), (5, .int l5_22), (6, .int l6_32), (7, .int l7_33), (8, .int (l8_40 + 1))]) 8 [1, 2, 3, 4, 5, 6, 7, 8, 0] dX7_rivers_134 rfl (by decide) rfl rfl ?_
  refine g_goto (tgt := 79) hw dX7_rivers_137 (by decide) ?_
  exact hR79 (l8_40 + 1) M h
def fX7_rivers_b114 (R79 : Int32 → gM → Prop) (l1_18 : Int32) (l2_19 : Int32) (l3_20 : Int32) (l4_21 : Int32) (l5_22 : Int32) (l6_32 : Int32) (l7_33 : Int32) (l8_47 : Int32) (s1_48 : Int32) (M : gM) (Q : Int32 → gM → Prop) : Prop :=
  gk M 268 = 7 ∧ fX7_worldHands l8_47 l4_21 M (fun r51 M50 => gk M50 268 = 7 ∧ fX7_worldHands l8_47 l3_20 M50 (fun r54 M53 => gk M53 268 = 7 ∧ fX7_adds s1_48 ((r51 - r54).toInt64) M53 (fun M56 => fX7_rivers_b134 R79 l1_18 l2_19 l3_20 l4_21 l5_22 l6_32 l7_33 l8_47 M56 Q)))
theorem wX7_rivers_b114 {kf : Nat} {G : gG} {w : gM → Nat → List (Nat × Value) → List Value → Prop} {Q : Int32 → gM → Prop} (hw : gX yX7_rivers cX7_rivers 9 (Option.some FieldType.int) [] kf G (gQi Q) gE0 w) (hkf : 7 ≤ kf) {R79 : Int32 → gM → Prop} {l1_18 : Int32} {l2_19 : Int32} {l3_20 : Int32} {l4_21 : Int32} {l5_22 : Int32} {l6_32 : Int32} {l7_33 : Int32} {l8_47 : Int32} {s1_48 : Int32} {M : gM} (hR79 : ∀ (v0 : Int32) (M : gM), R79 v0 M → w M 79 [(0, .ref (gA G 268)), (1, .int l1_18), (2, .int l2_19), (3, .int l3_20), (4, .int l4_21), (5, .int l5_22), (6, .int l6_32), (7, .int l7_33), (8, .int v0)] []) (h : fX7_rivers_b114 R79 l1_18 l2_19 l3_20 l4_21 l5_22 l6_32 l7_33 l8_47 s1_48 M Q) : w M 114 [(0, .ref (gA G 268)), (1, .int l1_18), (2, .int l2_19), (3, .int l3_20), (4, .int l4_21), (5, .int l5_22), (6, .int l6_32), (7, .int l7_33), (8, .int l8_47)] [.int s1_48, .ref (gA G 268)] := by
  unfold fX7_rivers_b114 at h
  refine g_aload_n hw 0 dX7_rivers_114 rfl ?_
  refine g_iload hw 8 dX7_rivers_115 rfl ?_
  refine g_iload hw 4 dX7_rivers_117 rfl ?_
  obtain ⟨hk49, h⟩ := h
  refine sX7_418 hw rfl dX7_rivers_119 rfl (gK2 hkf) hk49 h (fun r51 M50 h => ?_)
  refine g_aload_n hw 0 dX7_rivers_122 rfl ?_
  refine g_iload hw 8 dX7_rivers_123 rfl ?_
  refine g_iload_n hw 3 dX7_rivers_125 rfl ?_
  obtain ⟨hk52, h⟩ := h
  refine sX7_418 hw rfl dX7_rivers_126 rfl (gK2 hkf) hk52 h (fun r54 M53 h => ?_)
  refine g_isub hw dX7_rivers_129 ?_
  refine g_i2l hw dX7_rivers_130 ?_
  obtain ⟨hk55, h⟩ := h
  refine sX7_307 hw rfl dX7_rivers_131 rfl (gK2 hkf) hk55 h (fun M56 h => ?_)
  exact wX7_rivers_b134 hw hkf hR79 h
def fX7_rivers_L79s (R79 : Int32 → gM → Prop) (K140_79 : gM → Prop) (l1_18 : Int32) (l2_19 : Int32) (l3_20 : Int32) (l4_21 : Int32) (l5_22 : Int32) (l6_32 : Int32) (l7_33 : Int32) (l8_34 : Int32) (M : gM) (Q : Int32 → gM → Prop) : Prop :=
  (if 24 ≤ l8_34 then K140_79 M else gk M 268 = 7 ∧ fX7_isCounted l8_34 l3_20 l4_21 M (fun r38 M37 => (if r38 = 0 then fX7_rivers_b134 R79 l1_18 l2_19 l3_20 l4_21 l5_22 l6_32 l7_33 l8_34 M37 Q else gk M37 268 = 7 ∧ gdr (gR M37 268 11) (fun a42 => gk M37 a42 = 40 ∧ vp_in l8_34 (gl M37 a42) ∧ (if (gI M37 a42 l8_34.toNatClampNeg) = 0 then fX7_rivers_b114 R79 l1_18 l2_19 l3_20 l4_21 l5_22 l6_32 l7_33 l8_34 1 M37 Q else fX7_rivers_b114 R79 l1_18 l2_19 l3_20 l4_21 l5_22 l6_32 l7_33 l8_34 0 M37 Q)))))
def fX7_rivers_L79 (K140_79 : gM → Prop) (l1_18 : Int32) (l2_19 : Int32) (l3_20 : Int32) (l4_21 : Int32) (l5_22 : Int32) (l6_32 : Int32) (l7_33 : Int32) (Q : Int32 → gM → Prop) : Nat → Int32 → gM → Prop
  | 0 => fun _ _ => False
  | n + 1 => fun l8_34 M => fX7_rivers_L79s (fX7_rivers_L79 K140_79 l1_18 l2_19 l3_20 l4_21 l5_22 l6_32 l7_33 Q n) K140_79 l1_18 l2_19 l3_20 l4_21 l5_22 l6_32 l7_33 l8_34 M Q
theorem wX7_rivers_L79s {kf : Nat} {G : gG} {w : gM → Nat → List (Nat × Value) → List Value → Prop} {Q : Int32 → gM → Prop} (hw : gX yX7_rivers cX7_rivers 9 (Option.some FieldType.int) [] kf G (gQi Q) gE0 w) (hkf : 7 ≤ kf) {R79 : Int32 → gM → Prop} {K140_79 : gM → Prop} {l1_18 : Int32} {l2_19 : Int32} {l3_20 : Int32} {l4_21 : Int32} {l5_22 : Int32} {l6_32 : Int32} {l7_33 : Int32} {l8_34 : Int32} {M : gM} (hR79 : ∀ (v0 : Int32) (M : gM), R79 v0 M → w M 79 [(0, .ref (gA G 268)), (1, .int l1_18), (2, .int l2_19), (3, .int l3_20), (4, .int l4_21), (5, .int l5_22), (6, .int l6_32), (7, .int l7_33), (8, .int v0)] []) (hK140_79 : ∀  (M : gM), K140_79 M → w M 140 [(0, .ref (gA G 268)), (1, .int l1_18), (2, .int l2_19), (3, .int l3_20), (4, .int l4_21), (5, .int l5_22), (6, .int l6_32), (7, .int l7_33)] []) (h : fX7_rivers_L79s R79 K140_79 l1_18 l2_19 l3_20 l4_21 l5_22 l6_32 l7_33 l8_34 M Q) : w M 79 [(0, .ref (gA G 268)), (1, .int l1_18), (2, .int l2_19), (3, .int l3_20), (4, .int l4_21), (5, .int l5_22), (6, .int l6_32), (7, .int l7_33), (8, .int l8_34)] [] := by
  unfold fX7_rivers_L79s at h
  refine g_iload hw 8 dX7_rivers_79 rfl ?_
  refine g_bipush (v := 24) hw dX7_rivers_81 (by decide) ?_
  refine g_icmp_ge (tgt := 140) hw dX7_rivers_83 (by decide) (fun hb35 => ?_) (fun hb35 => ?_)
  · have h := gT h hb35
    refine g_sub hw (lv2 := [(0, .ref (gA G 268)), (1, .int l1_18), (2, .int l2_19), (3, .int l3_20), (4, .int l4_21), (5, .int l5_22), (6, .int l6_32), (7, .int l7_33)]) [0, 1, 2, 3, 4, 5, 6, 7] rfl ?_
    exact hK140_79 M h
  · have h := gF h hb35
    refine g_aload_n hw 0 dX7_rivers_86 rfl ?_
    refine g_iload hw 8 dX7_rivers_87 rfl ?_
    refine g_iload_n hw 3 dX7_rivers_89 rfl ?_
    refine g_iload hw 4 dX7_rivers_90 rfl ?_
    obtain ⟨hk36, h⟩ := h
    refine sX7_274 hw rfl dX7_rivers_92 rfl (gK2 hkf) hk36 h (fun r38 M37 h => ?_)
    refine g_if_eq (tgt := 134) hw dX7_rivers_95 (by decide) (fun hb39 => ?_) (fun hb39 => ?_)
    · have h := gT h hb39
      exact wX7_rivers_b134 hw hkf hR79 h
    · have h := gF h hb39
      refine g_aload_n hw 0 dX7_rivers_98 rfl ?_
      refine g_aload_n hw 0 dX7_rivers_99 rfl ?_
      obtain ⟨hk41, h⟩ := h
      obtain ⟨a42, e43, h⟩ := h
      refine gfX7_97 (q := some a42) hw rfl dX7_rivers_100 hk41 e43 ?_
      refine g_iload hw 8 dX7_rivers_103 rfl ?_
      obtain ⟨hk44, h⟩ := h
      obtain ⟨hi45, h⟩ := h
      refine g_iald (n := l8_34.toNatClampNeg) hw dX7_rivers_105 hk44 hi45 rfl ?_
      refine g_if_ne (tgt := 113) hw dX7_rivers_106 (by decide) (fun hb46 => ?_) (fun hb46 => ?_)
      · have h := gF h hb46
        refine g_iconst (v := 0) hw dX7_rivers_113 (by decide) ?_
        exact wX7_rivers_b114 hw hkf hR79 h
      · have h := gT h hb46
        refine g_iconst (v := 1) hw dX7_rivers_109 (by decide) ?_
        refine g_goto (tgt := 114) hw dX7_rivers_110 (by decide) ?_
        exact wX7_rivers_b114 hw hkf hR79 h
theorem wX7_rivers_L79 {kf : Nat} {G : gG} {w : gM → Nat → List (Nat × Value) → List Value → Prop} {Q : Int32 → gM → Prop} (hw : gX yX7_rivers cX7_rivers 9 (Option.some FieldType.int) [] kf G (gQi Q) gE0 w) (hkf : 7 ≤ kf) {K140_79 : gM → Prop} {l1_18 : Int32} {l2_19 : Int32} {l3_20 : Int32} {l4_21 : Int32} {l5_22 : Int32} {l6_32 : Int32} {l7_33 : Int32} (hK140_79 : ∀  (M : gM), K140_79 M → w M 140 [(0, .ref (gA G 268)), (1, .int l1_18), (2, .int l2_19), (3, .int l3_20), (4, .int l4_21), (5, .int l5_22), (6, .int l6_32), (7, .int l7_33)] []) : ∀ (n : Nat) (l8_34 : Int32) (M : gM), fX7_rivers_L79 K140_79 l1_18 l2_19 l3_20 l4_21 l5_22 l6_32 l7_33 Q n l8_34 M → w M 79 [(0, .ref (gA G 268)), (1, .int l1_18), (2, .int l2_19), (3, .int l3_20), (4, .int l4_21), (5, .int l5_22), (6, .int l6_32), (7, .int l7_33), (8, .int l8_34)] [] := by
  intro n
  induction n with
  | zero => intro l8_34 M h; exact h.elim
  | succ n ih => intro l8_34 M h; exact wX7_rivers_L79s hw hkf ih hK140_79 h
def fX7_rivers_b188 (R59 : Int32 → Int32 → gM → Prop) (l1_18 : Int32) (l2_19 : Int32) (l3_20 : Int32) (l4_21 : Int32) (l5_22 : Int32) (l7_69 : Int32) (s0_70 : Int32) (s1_71 : Int32) (M : gM) (Q : Int32 → gM → Prop) : Prop :=
  R59 (s0_70 + s1_71) (l7_69 + 1) M
theorem wX7_rivers_b188 {kf : Nat} {G : gG} {w : gM → Nat → List (Nat × Value) → List Value → Prop} {Q : Int32 → gM → Prop} (hw : gX yX7_rivers cX7_rivers 9 (Option.some FieldType.int) [] kf G (gQi Q) gE0 w) (hkf : 7 ≤ kf) {R59 : Int32 → Int32 → gM → Prop} {l1_18 : Int32} {l2_19 : Int32} {l3_20 : Int32} {l4_21 : Int32} {l5_22 : Int32} {l7_69 : Int32} {s0_70 : Int32} {s1_71 : Int32} {M : gM} (hR59 : ∀ (v0 : Int32) (v1 : Int32) (M : gM), R59 v0 v1 M → w M 59 [(0, .ref (gA G 268)), (1, .int l1_18), (2, .int l2_19), (3, .int l3_20), (4, .int l4_21), (5, .int l5_22), (6, .int v0), (7, .int v1)] []) (h : fX7_rivers_b188 R59 l1_18 l2_19 l3_20 l4_21 l5_22 l7_69 s0_70 s1_71 M Q) : w M 188 [(0, .ref (gA G 268)), (1, .int l1_18), (2, .int l2_19), (3, .int l3_20), (4, .int l4_21), (5, .int l5_22), (7, .int l7_69)] [.int s1_71, .int s0_70] := by
  unfold fX7_rivers_b188 at h
  refine g_iadd hw dX7_rivers_188 ?_
  refine g_istore hw (lv2 := [(0, .ref (gA G 268)), (1, .int l1_18), (2, .int l2_19), (3, .int l3_20), (4, .int l4_21), (5, .int l5_22), (6, .int (s0_70 + s1_71)), (7, .int l7_69)]) [1, 2, 3, 4, 5, 6, 0, 7] dX7_rivers_189 rfl rfl ?_
  refine g_iinc hw (lv2 := [(0, .ref (gA G 268)), (1, .int l1_18), (2, .int l2_19), (3, .int l3_20), (4, .int l4_21), (5, .int l5_22), (6, .int (s0_70 + s1_71)), (7, .int (l7_69 + 1))]) 7 [1, 2, 3, 4, 5, 6, 7, 0] dX7_rivers_191 rfl (by decide) rfl rfl ?_
  refine g_goto (tgt := 59) hw dX7_rivers_194 (by decide) ?_
  exact hR59 (s0_70 + s1_71) (l7_69 + 1) M h
def fX7_rivers_b172 (R59 : Int32 → Int32 → gM → Prop) (l1_18 : Int32) (l2_19 : Int32) (l3_20 : Int32) (l4_21 : Int32) (l5_22 : Int32) (l6_65 : Int32) (l7_66 : Int32) (s0_67 : Int32) (M : gM) (Q : Int32 → gM → Prop) : Prop :=
  (if s0_67 = l5_22 then fX7_rivers_b188 R59 l1_18 l2_19 l3_20 l4_21 l5_22 l7_66 l6_65 1 M Q else fX7_rivers_b188 R59 l1_18 l2_19 l3_20 l4_21 l5_22 l7_66 l6_65 0 M Q)
theorem wX7_rivers_b172 {kf : Nat} {G : gG} {w : gM → Nat → List (Nat × Value) → List Value → Prop} {Q : Int32 → gM → Prop} (hw : gX yX7_rivers cX7_rivers 9 (Option.some FieldType.int) [] kf G (gQi Q) gE0 w) (hkf : 7 ≤ kf) {R59 : Int32 → Int32 → gM → Prop} {l1_18 : Int32} {l2_19 : Int32} {l3_20 : Int32} {l4_21 : Int32} {l5_22 : Int32} {l6_65 : Int32} {l7_66 : Int32} {s0_67 : Int32} {M : gM} (hR59 : ∀ (v0 : Int32) (v1 : Int32) (M : gM), R59 v0 v1 M → w M 59 [(0, .ref (gA G 268)), (1, .int l1_18), (2, .int l2_19), (3, .int l3_20), (4, .int l4_21), (5, .int l5_22), (6, .int v0), (7, .int v1)] []) (h : fX7_rivers_b172 R59 l1_18 l2_19 l3_20 l4_21 l5_22 l6_65 l7_66 s0_67 M Q) : w M 172 [(0, .ref (gA G 268)), (1, .int l1_18), (2, .int l2_19), (3, .int l3_20), (4, .int l4_21), (5, .int l5_22), (6, .int l6_65), (7, .int l7_66)] [.int s0_67] := by
  unfold fX7_rivers_b172 at h
  refine g_istore hw (lv2 := [(0, .ref (gA G 268)), (1, .int l1_18), (2, .int l2_19), (3, .int l3_20), (4, .int l4_21), (5, .int l5_22), (6, .int l6_65), (7, .int l7_66), (8, .int s0_67)]) [1, 2, 3, 4, 5, 6, 7, 8, 0] dX7_rivers_172 rfl rfl ?_
  refine g_iload hw 6 dX7_rivers_174 rfl ?_
  refine g_iload hw 8 dX7_rivers_176 rfl ?_
  refine g_iload hw 5 dX7_rivers_178 rfl ?_
  refine g_icmp_ne (tgt := 187) hw dX7_rivers_180 (by decide) (fun hb68 => ?_) (fun hb68 => ?_)
  · have h := gF h hb68
    refine g_iconst (v := 0) hw dX7_rivers_187 (by decide) ?_
    refine g_sub hw (lv2 := [(0, .ref (gA G 268)), (1, .int l1_18), (2, .int l2_19), (3, .int l3_20), (4, .int l4_21), (5, .int l5_22), (7, .int l7_66)]) [0, 1, 2, 3, 4, 5, 7] rfl ?_
    exact wX7_rivers_b188 hw hkf hR59 h
  · have h := gT h hb68
    refine g_iconst (v := 1) hw dX7_rivers_183 (by decide) ?_
    refine g_goto (tgt := 188) hw dX7_rivers_184 (by decide) ?_
    refine g_sub hw (lv2 := [(0, .ref (gA G 268)), (1, .int l1_18), (2, .int l2_19), (3, .int l3_20), (4, .int l4_21), (5, .int l5_22), (7, .int l7_66)]) [0, 1, 2, 3, 4, 5, 7] rfl ?_
    exact wX7_rivers_b188 hw hkf hR59 h
def fX7_rivers_L59s (R59 : Int32 → Int32 → gM → Prop) (K197_59 : Int32 → gM → Prop) (l1_18 : Int32) (l2_19 : Int32) (l3_20 : Int32) (l4_21 : Int32) (l5_22 : Int32) (l6_23 : Int32) (l7_24 : Int32) (M : gM) (Q : Int32 → gM → Prop) : Prop :=
  (if l2_19 ≤ l7_24 then K197_59 l6_23 M else gk M 268 = 7 ∧ fX7_runs l1_18 l7_24 M (fun M27 => gk M27 268 = 7 ∧ fX7_beginsSums M27 (fun M30 => ∃ n, fX7_rivers_L79 (fun M58 => gk M58 268 = 7 ∧ fX7_differs M58 (fun r61 M60 => gk M60 268 = 7 ∧ (if 0 ≤ (lg_cmp (gL M60 268 24) 0) then (if (lg_cmp (gL M60 268 24) 0) = 0 then fX7_rivers_b172 R59 l1_18 l2_19 l3_20 l4_21 l5_22 l6_23 l7_24 1 M60 Q else fX7_rivers_b172 R59 l1_18 l2_19 l3_20 l4_21 l5_22 l6_23 l7_24 2 M60 Q) else fX7_rivers_b172 R59 l1_18 l2_19 l3_20 l4_21 l5_22 l6_23 l7_24 0 M60 Q))) l1_18 l2_19 l3_20 l4_21 l5_22 l6_23 l7_24 Q n 0 M30)))
def fX7_rivers_L59 (K197_59 : Int32 → gM → Prop) (l1_18 : Int32) (l2_19 : Int32) (l3_20 : Int32) (l4_21 : Int32) (l5_22 : Int32) (Q : Int32 → gM → Prop) : Nat → Int32 → Int32 → gM → Prop
  | 0 => fun _ _ _ => False
  | n + 1 => fun l6_23 l7_24 M => fX7_rivers_L59s (fX7_rivers_L59 K197_59 l1_18 l2_19 l3_20 l4_21 l5_22 Q n) K197_59 l1_18 l2_19 l3_20 l4_21 l5_22 l6_23 l7_24 M Q
theorem wX7_rivers_L59s {kf : Nat} {G : gG} {w : gM → Nat → List (Nat × Value) → List Value → Prop} {Q : Int32 → gM → Prop} (hw : gX yX7_rivers cX7_rivers 9 (Option.some FieldType.int) [] kf G (gQi Q) gE0 w) (hkf : 7 ≤ kf) {R59 : Int32 → Int32 → gM → Prop} {K197_59 : Int32 → gM → Prop} {l1_18 : Int32} {l2_19 : Int32} {l3_20 : Int32} {l4_21 : Int32} {l5_22 : Int32} {l6_23 : Int32} {l7_24 : Int32} {M : gM} (hR59 : ∀ (v0 : Int32) (v1 : Int32) (M : gM), R59 v0 v1 M → w M 59 [(0, .ref (gA G 268)), (1, .int l1_18), (2, .int l2_19), (3, .int l3_20), (4, .int l4_21), (5, .int l5_22), (6, .int v0), (7, .int v1)] []) (hK197_59 : ∀ (v0 : Int32) (M : gM), K197_59 v0 M → w M 197 [(6, .int v0)] []) (h : fX7_rivers_L59s R59 K197_59 l1_18 l2_19 l3_20 l4_21 l5_22 l6_23 l7_24 M Q) : w M 59 [(0, .ref (gA G 268)), (1, .int l1_18), (2, .int l2_19), (3, .int l3_20), (4, .int l4_21), (5, .int l5_22), (6, .int l6_23), (7, .int l7_24)] [] := by
  unfold fX7_rivers_L59s at h
  refine g_iload hw 7 dX7_rivers_59 rfl ?_
  refine g_iload_n hw 2 dX7_rivers_61 rfl ?_
  refine g_icmp_ge (tgt := 197) hw dX7_rivers_62 (by decide) (fun hb25 => ?_) (fun hb25 => ?_)
  · have h := gT h hb25
    refine g_sub hw (lv2 := [(6, .int l6_23)]) [6] rfl ?_
    exact hK197_59 l6_23 M h
  · have h := gF h hb25
    refine g_aload_n hw 0 dX7_rivers_65 rfl ?_
    refine g_iload_n hw 1 dX7_rivers_66 rfl ?_
    refine g_iload hw 7 dX7_rivers_67 rfl ?_
    obtain ⟨hk26, h⟩ := h
    refine sX7_415 hw rfl dX7_rivers_69 rfl (gK2 hkf) hk26 h (fun M27 h => ?_)
    refine g_aload_n hw 0 dX7_rivers_72 rfl ?_
    obtain ⟨hk29, h⟩ := h
    refine sX7_304 hw rfl dX7_rivers_73 rfl (gK2 hkf) hk29 h (fun M30 h => ?_)
    refine g_iconst (v := 0) hw dX7_rivers_76 (by decide) ?_
    refine g_istore hw (lv2 := [(0, .ref (gA G 268)), (1, .int l1_18), (2, .int l2_19), (3, .int l3_20), (4, .int l4_21), (5, .int l5_22), (6, .int l6_23), (7, .int l7_24), (8, .int 0)]) [1, 2, 3, 4, 5, 6, 7, 8, 0] dX7_rivers_77 rfl rfl ?_
    obtain ⟨n9, h⟩ := h
    refine wX7_rivers_L79 hw hkf (fun M58 h => ?_) n9 0 M30 h
    refine g_aload_n hw 0 dX7_rivers_140 rfl ?_
    obtain ⟨hk59, h⟩ := h
    refine sX7_311 hw rfl dX7_rivers_141 rfl (gK2 hkf) hk59 h (fun r61 M60 h => ?_)
    refine g_pop hw dX7_rivers_144 rfl ?_
    refine g_aload_n hw 0 dX7_rivers_145 rfl ?_
    obtain ⟨hk62, h⟩ := h
    refine gfX7_281 hw rfl dX7_rivers_146 hk62 ?_
    refine g_lconst (v := 0) hw dX7_rivers_149 (by decide) ?_
    refine g_lcmp hw dX7_rivers_150 ?_
    refine g_if_ge (tgt := 158) hw dX7_rivers_151 (by decide) (fun hb63 => ?_) (fun hb63 => ?_)
    · have h := gT h hb63
      refine g_aload_n hw 0 dX7_rivers_158 rfl ?_
      refine gfX7_281 hw rfl dX7_rivers_159 hk62 ?_
      refine g_lconst (v := 0) hw dX7_rivers_162 (by decide) ?_
      refine g_lcmp hw dX7_rivers_163 ?_
      refine g_if_ne (tgt := 171) hw dX7_rivers_164 (by decide) (fun hb64 => ?_) (fun hb64 => ?_)
      · have h := gF h hb64
        refine g_iconst (v := 2) hw dX7_rivers_171 (by decide) ?_
        exact wX7_rivers_b172 hw hkf hR59 h
      · have h := gT h hb64
        refine g_iconst (v := 1) hw dX7_rivers_167 (by decide) ?_
        refine g_goto (tgt := 172) hw dX7_rivers_168 (by decide) ?_
        exact wX7_rivers_b172 hw hkf hR59 h
    · have h := gF h hb63
      refine g_iconst (v := 0) hw dX7_rivers_154 (by decide) ?_
      refine g_goto (tgt := 172) hw dX7_rivers_155 (by decide) ?_
      exact wX7_rivers_b172 hw hkf hR59 h
theorem wX7_rivers_L59 {kf : Nat} {G : gG} {w : gM → Nat → List (Nat × Value) → List Value → Prop} {Q : Int32 → gM → Prop} (hw : gX yX7_rivers cX7_rivers 9 (Option.some FieldType.int) [] kf G (gQi Q) gE0 w) (hkf : 7 ≤ kf) {K197_59 : Int32 → gM → Prop} {l1_18 : Int32} {l2_19 : Int32} {l3_20 : Int32} {l4_21 : Int32} {l5_22 : Int32} (hK197_59 : ∀ (v0 : Int32) (M : gM), K197_59 v0 M → w M 197 [(6, .int v0)] []) : ∀ (n : Nat) (l6_23 : Int32) (l7_24 : Int32) (M : gM), fX7_rivers_L59 K197_59 l1_18 l2_19 l3_20 l4_21 l5_22 Q n l6_23 l7_24 M → w M 59 [(0, .ref (gA G 268)), (1, .int l1_18), (2, .int l2_19), (3, .int l3_20), (4, .int l4_21), (5, .int l5_22), (6, .int l6_23), (7, .int l7_24)] [] := by
  intro n
  induction n with
  | zero => intro l6_23 l7_24 M h; exact h.elim
  | succ n ih => intro l6_23 l7_24 M h; exact wX7_rivers_L59s hw hkf ih hK197_59 h
def fX7_rivers (p1 : Int32) (p2 : Int32) (p3 : Int32) (p4 : Int32) (p5 : Int32) (M : gM) (Q : Int32 → gM → Prop) : Prop :=
  gk M 268 = 7 ∧ fX7_within p1 0 3 (gsI M 268 0 0) (fun r3 M2 => (if r3 = 0 then Q (-1) M2 else fX7_areSeeds p2 M2 (fun r6 M5 => (if r6 = 0 then Q (-1) M5 else fX7_areMonths p3 p4 M5 (fun r9 M8 => (if r9 = 0 then Q (-1) M8 else fX7_within p5 0 2 M8 (fun r12 M11 => (if r12 = 0 then Q (-1) M11 else gk M11 268 = 7 ∧ fX7_findRiver p3 p4 (-1) M11 (fun r16 M15 => (if r16 = 0 then Q (-1) M15 else ∃ n, fX7_rivers_L59 (fun l6_72 M73 => Q l6_72 M73) p1 p2 p3 p4 p5 Q n 0 0 M15))))))))))
theorem mX7_rivers {kf : Nat} (hkf : 7 ≤ kf) (G : gG) (p1 : Int32) (p2 : Int32) (p3 : Int32) (p4 : Int32) (p5 : Int32) (M : gM) (Q : Int32 → gM → Prop) (h : fX7_rivers p1 p2 p3 p4 p5 M Q) : gMet yX7_rivers cX7_rivers 9 (Option.some FieldType.int) kf G M [.ref (gA G 268), .int p1, .int p2, .int p3, .int p4, .int p5] (gQi Q) gE0 := by
  refine g_intro (lv := [(0, .ref (gA G 268)), (1, .int p1), (2, .int p2), (3, .int p3), (4, .int p4), (5, .int p5)]) (by decide) rfl rfl (fun w hw => ?_)
  unfold fX7_rivers at h
  refine g_aload_n hw 0 dX7_rivers_0 rfl ?_
  refine g_iconst (v := 0) hw dX7_rivers_1 (by decide) ?_
  obtain ⟨hk1, h⟩ := h
  refine pfX7_1 hw rfl dX7_rivers_2 hk1 ?_
  refine g_iload_n hw 1 dX7_rivers_5 rfl ?_
  refine g_iconst (v := 0) hw dX7_rivers_6 (by decide) ?_
  refine g_iconst (v := 3) hw dX7_rivers_7 (by decide) ?_
  refine sX7_253 hw rfl dX7_rivers_8 rfl (gK2 hkf) h (fun r3 M2 h => ?_)
  refine g_if_eq (tgt := 51) hw dX7_rivers_11 (by decide) (fun hb4 => ?_) (fun hb4 => ?_)
  · have h := gT h hb4
    refine g_iconst (v := (-1)) hw dX7_rivers_51 (by decide) ?_
    exact g_iret hw dX7_rivers_52 rfl ⟨_, rfl, h⟩
  · have h := gF h hb4
    refine g_iload_n hw 2 dX7_rivers_14 rfl ?_
    refine sX7_421 hw rfl dX7_rivers_15 rfl (gK2 hkf) h (fun r6 M5 h => ?_)
    refine g_if_eq (tgt := 51) hw dX7_rivers_18 (by decide) (fun hb7 => ?_) (fun hb7 => ?_)
    · have h := gT h hb7
      refine g_iconst (v := (-1)) hw dX7_rivers_51 (by decide) ?_
      exact g_iret hw dX7_rivers_52 rfl ⟨_, rfl, h⟩
    · have h := gF h hb7
      refine g_iload_n hw 3 dX7_rivers_21 rfl ?_
      refine g_iload hw 4 dX7_rivers_22 rfl ?_
      refine sX7_270 hw rfl dX7_rivers_24 rfl (gK2 hkf) h (fun r9 M8 h => ?_)
      refine g_if_eq (tgt := 51) hw dX7_rivers_27 (by decide) (fun hb10 => ?_) (fun hb10 => ?_)
      · have h := gT h hb10
        refine g_iconst (v := (-1)) hw dX7_rivers_51 (by decide) ?_
        exact g_iret hw dX7_rivers_52 rfl ⟨_, rfl, h⟩
      · have h := gF h hb10
        refine g_iload hw 5 dX7_rivers_30 rfl ?_
        refine g_iconst (v := 0) hw dX7_rivers_32 (by decide) ?_
        refine g_iconst (v := 2) hw dX7_rivers_33 (by decide) ?_
        refine sX7_253 hw rfl dX7_rivers_34 rfl (gK2 hkf) h (fun r12 M11 h => ?_)
        refine g_if_eq (tgt := 51) hw dX7_rivers_37 (by decide) (fun hb13 => ?_) (fun hb13 => ?_)
        · have h := gT h hb13
          refine g_iconst (v := (-1)) hw dX7_rivers_51 (by decide) ?_
          exact g_iret hw dX7_rivers_52 rfl ⟨_, rfl, h⟩
        · have h := gF h hb13
          refine g_aload_n hw 0 dX7_rivers_40 rfl ?_
          refine g_iload_n hw 3 dX7_rivers_41 rfl ?_
          refine g_iload hw 4 dX7_rivers_42 rfl ?_
          refine g_iconst (v := (-1)) hw dX7_rivers_44 (by decide) ?_
          obtain ⟨hk14, h⟩ := h
          refine sX7_318 hw rfl dX7_rivers_45 rfl (gK2 hkf) hk14 h (fun r16 M15 h => ?_)
          refine g_if_ne (tgt := 53) hw dX7_rivers_48 (by decide) (fun hb17 => ?_) (fun hb17 => ?_)
          · have h := gF h hb17
            refine g_iconst (v := 0) hw dX7_rivers_53 (by decide) ?_
            refine g_istore hw (lv2 := [(0, .ref (gA G 268)), (1, .int p1), (2, .int p2), (3, .int p3), (4, .int p4), (5, .int p5), (6, .int 0)]) [1, 2, 3, 4, 5, 6, 0] dX7_rivers_54 rfl rfl ?_
            refine g_iconst (v := 0) hw dX7_rivers_56 (by decide) ?_
            refine g_istore hw (lv2 := [(0, .ref (gA G 268)), (1, .int p1), (2, .int p2), (3, .int p3), (4, .int p4), (5, .int p5), (6, .int 0), (7, .int 0)]) [1, 2, 3, 4, 5, 6, 7, 0] dX7_rivers_57 rfl rfl ?_
            obtain ⟨n9, h⟩ := h
            refine wX7_rivers_L59 hw hkf (fun l6_72 M73 h => ?_) n9 0 0 M15 h
            refine g_iload hw 0 dX7_rivers_197 rfl ?_
            exact g_iret hw dX7_rivers_199 rfl ⟨_, rfl, h⟩
          · have h := gT h hb17
            refine g_iconst (v := (-1)) hw dX7_rivers_51 (by decide) ?_
            exact g_iret hw dX7_rivers_52 rfl ⟨_, rfl, h⟩
theorem gfX7_428 {y0 : MethodName} {cc : ByteArray} {nL : Nat} {ret : Option FieldType} {hh : List (Nat × Nat × Nat × Nat)} {kf : Nat} {G : gG} {Qv : Option Value → gM → Prop} {E : String → Nat → gM → Prop} {w : gM → Nat → List (Nat × Value) → List Value → Prop} {M : gM} {pc : Nat} {lv : List (Nat × Value)} {rest : List Value} (hw : gX y0 cc nL ret hh kf G Qv E w) (hy : y0.cls = RX7) {c : Nat} (d : decode cc pc = .ok (.getfield 428, 3)) (hk : gk M c = 7) (kk : w M (pc + 3) lv (.int (gI M c 41) :: rest)) : w M pc lv (.ref (gA G c) :: rest) := by
  obtain ⟨cls9, nm9, ds9⟩ := y0
  subst hy
  exact g_getC (C := RX7) (T := TX7) (N := 58) (ci := 6) hw in_X7 rfl 41 (by decide) (Or.inl q1197) rfl d hk kk
theorem gfX7_163 {y0 : MethodName} {cc : ByteArray} {nL : Nat} {ret : Option FieldType} {hh : List (Nat × Nat × Nat × Nat)} {kf : Nat} {G : gG} {Qv : Option Value → gM → Prop} {E : String → Nat → gM → Prop} {w : gM → Nat → List (Nat × Value) → List Value → Prop} {M : gM} {pc : Nat} {lv : List (Nat × Value)} {rest : List Value} (hw : gX y0 cc nL ret hh kf G Qv E w) (hy : y0.cls = RX7) {c : Nat} {q : Option Nat} (d : decode cc pc = .ok (.getfield 163, 3)) (hk : gk M c = 7) (hq : gR M c 42 = q) (kk : w M (pc + 3) lv (va_rf (q.map (gA G)) :: rest)) : w M pc lv (.ref (gA G c) :: rest) := by
  obtain ⟨cls9, nm9, ds9⟩ := y0
  subst hy
  subst hq
  exact g_getC (C := RX7) (T := TX7) (N := 58) (ci := 6) hw in_X7 rfl 42 (by decide) (Or.inl q1198) rfl d hk kk
theorem gfX7_166 {y0 : MethodName} {cc : ByteArray} {nL : Nat} {ret : Option FieldType} {hh : List (Nat × Nat × Nat × Nat)} {kf : Nat} {G : gG} {Qv : Option Value → gM → Prop} {E : String → Nat → gM → Prop} {w : gM → Nat → List (Nat × Value) → List Value → Prop} {M : gM} {pc : Nat} {lv : List (Nat × Value)} {rest : List Value} (hw : gX y0 cc nL ret hh kf G Qv E w) (hy : y0.cls = RX7) {c : Nat} {q : Option Nat} (d : decode cc pc = .ok (.getfield 166, 3)) (hk : gk M c = 7) (hq : gR M c 43 = q) (kk : w M (pc + 3) lv (va_rf (q.map (gA G)) :: rest)) : w M pc lv (.ref (gA G c) :: rest) := by
  obtain ⟨cls9, nm9, ds9⟩ := y0
  subst hy
  subst hq
  exact g_getC (C := RX7) (T := TX7) (N := 58) (ci := 6) hw in_X7 rfl 43 (by decide) (Or.inl q1199) rfl d hk kk
theorem gfX7_169 {y0 : MethodName} {cc : ByteArray} {nL : Nat} {ret : Option FieldType} {hh : List (Nat × Nat × Nat × Nat)} {kf : Nat} {G : gG} {Qv : Option Value → gM → Prop} {E : String → Nat → gM → Prop} {w : gM → Nat → List (Nat × Value) → List Value → Prop} {M : gM} {pc : Nat} {lv : List (Nat × Value)} {rest : List Value} (hw : gX y0 cc nL ret hh kf G Qv E w) (hy : y0.cls = RX7) {c : Nat} {q : Option Nat} (d : decode cc pc = .ok (.getfield 169, 3)) (hk : gk M c = 7) (hq : gR M c 44 = q) (kk : w M (pc + 3) lv (va_rf (q.map (gA G)) :: rest)) : w M pc lv (.ref (gA G c) :: rest) := by
  obtain ⟨cls9, nm9, ds9⟩ := y0
  subst hy
  subst hq
  exact g_getC (C := RX7) (T := TX7) (N := 58) (ci := 6) hw in_X7 rfl 44 (by decide) (Or.inl q1200) rfl d hk kk
theorem pfX7_428 {y0 : MethodName} {cc : ByteArray} {nL : Nat} {ret : Option FieldType} {hh : List (Nat × Nat × Nat × Nat)} {kf : Nat} {G : gG} {Qv : Option Value → gM → Prop} {E : String → Nat → gM → Prop} {w : gM → Nat → List (Nat × Value) → List Value → Prop} {M : gM} {pc : Nat} {lv : List (Nat × Value)} {rest : List Value} (hw : gX y0 cc nL ret hh kf G Qv E w) (hy : y0.cls = RX7) {c : Nat} {x : Int32} (d : decode cc pc = .ok (.putfield 428, 3)) (hk : gk M c = 7) (kk : w (gsI M c 41 x) (pc + 3) lv rest) : w M pc lv (.int x :: .ref (gA G c) :: rest) := by
  obtain ⟨cls9, nm9, ds9⟩ := y0
  subst hy
  exact g_putC (C := RX7) (T := TX7) (N := 58) (ci := 6) hw in_X7 tyX7 tyX7_ok nmX7 rfl 41 (by decide) (Or.inl ⟨q1197, Or.inl rfl⟩) rfl rfl (gOne_I M c 41 x) (by show Value.int (gI (gsI M c 41 x) c 41) = _; rw [gI_sI, if_pos ⟨rfl, rfl⟩]) d hk kk
def fX7_other_b70  (M : gM) (Q : Int32 → gM → Prop) : Prop :=
  gk M 268 = 7 ∧ Q ((gI (gsI M 268 41 ((gI M 268 41) + 1)) 268 41) - 1) (gsI M 268 41 ((gI M 268 41) + 1))
theorem wX7_other_b70 {kf : Nat} {G : gG} {w : gM → Nat → List (Nat × Value) → List Value → Prop} {Q : Int32 → gM → Prop} (hw : gX yX7_other cX7_other 4 (Option.some FieldType.int) [] kf G (gQi Q) gE0 w) (hkf : 2 ≤ kf)   {M : gM}  (h : fX7_other_b70 M Q) : w M 70 [(0, .ref (gA G 268))] [] := by
  unfold fX7_other_b70 at h
  refine g_aload_n hw 0 dX7_other_70 rfl ?_
  refine g_dup hw dX7_other_71 rfl ?_
  obtain ⟨hk23, h⟩ := h
  refine gfX7_428 hw rfl dX7_other_72 hk23 ?_
  refine g_iconst (v := 1) hw dX7_other_75 (by decide) ?_
  refine g_iadd hw dX7_other_76 ?_
  refine pfX7_428 hw rfl dX7_other_77 hk23 ?_
  refine g_aload_n hw 0 dX7_other_80 rfl ?_
  refine gfX7_428 hw rfl dX7_other_81 hk23 ?_
  refine g_iconst (v := 1) hw dX7_other_84 (by decide) ?_
  refine g_isub hw dX7_other_85 ?_
  exact g_iret hw dX7_other_86 rfl ⟨_, rfl, h⟩
def fX7_other (p1 : Int32) (p2 : Int32) (p3 : Int32) (M : gM) (Q : Int32 → gM → Prop) : Prop :=
  gk M 268 = 7 ∧ fX7_within p1 (-9999) 9999 (gsI M 268 0 0) (fun r3 M2 => (if r3 = 0 then Q (-1) M2 else fX7_within p2 1 999 M2 (fun r6 M5 => (if r6 = 0 then Q (-1) M5 else gk M5 268 = 7 ∧ (if (gI M5 268 41) = 20 then Q (-1) M5 else gdr (gR M5 268 42) (fun a10 => gk M5 a10 = 40 ∧ vp_in (gI M5 268 41) (gl M5 a10) ∧ gdr (gR (gsI M5 a10 ((gI M5 268 41).toNatClampNeg) p1) 268 43) (fun a14 => gk (gsI M5 a10 ((gI M5 268 41).toNatClampNeg) p1) a14 = 40 ∧ vp_in (gI (gsI M5 a10 ((gI M5 268 41).toNatClampNeg) p1) 268 41) (gl (gsI M5 a10 ((gI M5 268 41).toNatClampNeg) p1) a14) ∧ gdr (gR (gsI (gsI M5 a10 ((gI M5 268 41).toNatClampNeg) p1) a14 ((gI (gsI M5 a10 ((gI M5 268 41).toNatClampNeg) p1) 268 41).toNatClampNeg) p2) 268 44) (fun a18 => gk (gsI (gsI M5 a10 ((gI M5 268 41).toNatClampNeg) p1) a14 ((gI (gsI M5 a10 ((gI M5 268 41).toNatClampNeg) p1) 268 41).toNatClampNeg) p2) a18 = 43 ∧ vp_in (gI (gsI (gsI M5 a10 ((gI M5 268 41).toNatClampNeg) p1) a14 ((gI (gsI M5 a10 ((gI M5 268 41).toNatClampNeg) p1) 268 41).toNatClampNeg) p2) 268 41) (gl (gsI (gsI M5 a10 ((gI M5 268 41).toNatClampNeg) p1) a14 ((gI (gsI M5 a10 ((gI M5 268 41).toNatClampNeg) p1) 268 41).toNatClampNeg) p2) a18) ∧ (p3 = 0 ∨ p3 = 1) ∧ fX7_other_b70 (gsI (gsI (gsI M5 a10 ((gI M5 268 41).toNatClampNeg) p1) a14 ((gI (gsI M5 a10 ((gI M5 268 41).toNatClampNeg) p1) 268 41).toNatClampNeg) p2) a18 ((gI (gsI (gsI M5 a10 ((gI M5 268 41).toNatClampNeg) p1) a14 ((gI (gsI M5 a10 ((gI M5 268 41).toNatClampNeg) p1) 268 41).toNatClampNeg) p2) 268 41).toNatClampNeg) p3) Q))))))))
theorem mX7_other {kf : Nat} (hkf : 2 ≤ kf) (G : gG) (p1 : Int32) (p2 : Int32) (p3 : Int32) (M : gM) (Q : Int32 → gM → Prop) (h : fX7_other p1 p2 p3 M Q) : gMet yX7_other cX7_other 4 (Option.some FieldType.int) kf G M [.ref (gA G 268), .int p1, .int p2, .int p3] (gQi Q) gE0 := by
  refine g_intro (lv := [(0, .ref (gA G 268)), (1, .int p1), (2, .int p2), (3, .int p3)]) (by decide) rfl rfl (fun w hw => ?_)
  unfold fX7_other at h
  refine g_aload_n hw 0 dX7_other_0 rfl ?_
  refine g_iconst (v := 0) hw dX7_other_1 (by decide) ?_
  obtain ⟨hk1, h⟩ := h
  refine pfX7_1 hw rfl dX7_other_2 hk1 ?_
  refine g_iload_n hw 1 dX7_other_5 rfl ?_
  refine g_sipush (v := (-9999)) hw dX7_other_6 (by decide) ?_
  refine g_sipush (v := 9999) hw dX7_other_9 (by decide) ?_
  refine sX7_253 hw rfl dX7_other_12 rfl (gK2 hkf) h (fun r3 M2 h => ?_)
  refine g_if_eq (tgt := 38) hw dX7_other_15 (by decide) (fun hb4 => ?_) (fun hb4 => ?_)
  · have h := gT h hb4
    refine g_iconst (v := (-1)) hw dX7_other_38 (by decide) ?_
    exact g_iret hw dX7_other_39 rfl ⟨_, rfl, h⟩
  · have h := gF h hb4
    refine g_iload_n hw 2 dX7_other_18 rfl ?_
    refine g_iconst (v := 1) hw dX7_other_19 (by decide) ?_
    refine g_sipush (v := 999) hw dX7_other_20 (by decide) ?_
    refine sX7_253 hw rfl dX7_other_23 rfl (gK2 hkf) h (fun r6 M5 h => ?_)
    refine g_if_eq (tgt := 38) hw dX7_other_26 (by decide) (fun hb7 => ?_) (fun hb7 => ?_)
    · have h := gT h hb7
      refine g_iconst (v := (-1)) hw dX7_other_38 (by decide) ?_
      exact g_iret hw dX7_other_39 rfl ⟨_, rfl, h⟩
    · have h := gF h hb7
      refine g_aload_n hw 0 dX7_other_29 rfl ?_
      obtain ⟨hk8, h⟩ := h
      refine gfX7_428 hw rfl dX7_other_30 hk8 ?_
      refine g_bipush (v := 20) hw dX7_other_33 (by decide) ?_
      refine g_icmp_ne (tgt := 40) hw dX7_other_35 (by decide) (fun hb9 => ?_) (fun hb9 => ?_)
      · have h := gF h hb9
        refine g_aload_n hw 0 dX7_other_40 rfl ?_
        obtain ⟨a10, e11, h⟩ := h
        refine gfX7_163 (q := some a10) hw rfl dX7_other_41 hk8 e11 ?_
        refine g_aload_n hw 0 dX7_other_44 rfl ?_
        refine gfX7_428 hw rfl dX7_other_45 hk8 ?_
        refine g_iload_n hw 1 dX7_other_48 rfl ?_
        obtain ⟨hk12, h⟩ := h
        obtain ⟨hi13, h⟩ := h
        refine g_iast (n := (gI M5 268 41).toNatClampNeg) hw dX7_other_49 hk12 hi13 rfl ?_
        refine g_aload_n hw 0 dX7_other_50 rfl ?_
        obtain ⟨a14, e15, h⟩ := h
        refine gfX7_166 (q := some a14) hw rfl dX7_other_51 hk8 e15 ?_
        refine g_aload_n hw 0 dX7_other_54 rfl ?_
        refine gfX7_428 hw rfl dX7_other_55 hk8 ?_
        refine g_iload_n hw 2 dX7_other_58 rfl ?_
        obtain ⟨hk16, h⟩ := h
        obtain ⟨hi17, h⟩ := h
        refine g_iast (n := (gI (gsI M5 a10 ((gI M5 268 41).toNatClampNeg) p1) 268 41).toNatClampNeg) hw dX7_other_59 hk16 hi17 rfl ?_
        refine g_aload_n hw 0 dX7_other_60 rfl ?_
        obtain ⟨a18, e19, h⟩ := h
        refine gfX7_169 (q := some a18) hw rfl dX7_other_61 hk8 e19 ?_
        refine g_aload_n hw 0 dX7_other_64 rfl ?_
        refine gfX7_428 hw rfl dX7_other_65 hk8 ?_
        refine g_iload_n hw 3 dX7_other_68 rfl ?_
        obtain ⟨hk20, h⟩ := h
        obtain ⟨hi21, h⟩ := h
        obtain ⟨hc22, h⟩ := h
        refine g_zast (n := (gI (gsI (gsI M5 a10 ((gI M5 268 41).toNatClampNeg) p1) a14 ((gI (gsI M5 a10 ((gI M5 268 41).toNatClampNeg) p1) 268 41).toNatClampNeg) p2) 268 41).toNatClampNeg) hw dX7_other_69 hk20 hi21 rfl (gBool hc22) ?_
        refine g_sub hw (lv2 := [(0, .ref (gA G 268))]) [0] rfl ?_
        exact wX7_other_b70 hw hkf h
      · have h := gT h hb9
        refine g_iconst (v := (-1)) hw dX7_other_38 (by decide) ?_
        exact g_iret hw dX7_other_39 rfl ⟨_, rfl, h⟩
def fX7_findOthers_b65 (R12 : Int32 → gM → Prop) (l1_2 : Int32) (l2_17 : Int32) (M : gM) (Q : Int32 → gM → Prop) : Prop :=
  R12 (l2_17 + 1) M
theorem wX7_findOthers_b65 {kf : Nat} {G : gG} {w : gM → Nat → List (Nat × Value) → List Value → Prop} {Q : Int32 → gM → Prop} (hw : gX yX7_findOthers cX7_findOthers 3 (Option.some FieldType.boolean) [] kf G (gQi Q) gE0 w) (hkf : 1 ≤ kf) {R12 : Int32 → gM → Prop} {l1_2 : Int32} {l2_17 : Int32} {M : gM} (hR12 : ∀ (v0 : Int32) (M : gM), R12 v0 M → w M 12 [(0, .ref (gA G 268)), (1, .int l1_2), (2, .int v0)] []) (h : fX7_findOthers_b65 R12 l1_2 l2_17 M Q) : w M 65 [(0, .ref (gA G 268)), (1, .int l1_2), (2, .int l2_17)] [] := by
  unfold fX7_findOthers_b65 at h
  refine g_iinc hw (lv2 := [(0, .ref (gA G 268)), (1, .int l1_2), (2, .int (l2_17 + 1))]) 2 [1, 2, 0] dX7_findOthers_65 rfl (by decide) rfl rfl ?_
  refine g_goto (tgt := 12) hw dX7_findOthers_68 (by decide) ?_
  exact hR12 (l2_17 + 1) M h
def fX7_findOthers_b33 (R12 : Int32 → gM → Prop) (l1_2 : Int32) (l2_7 : Int32) (M : gM) (Q : Int32 → gM → Prop) : Prop :=
  gk M 268 = 7 ∧ gdr (gR M 268 42) (fun a9 => gk M a9 = 40 ∧ vp_in l2_7 (gl M a9) ∧ gdr (gR (gsL M 268 24 ((gL M 268 24) + ((gI M a9 l2_7.toNatClampNeg).toInt64))) 268 43) (fun a13 => gk (gsL M 268 24 ((gL M 268 24) + ((gI M a9 l2_7.toNatClampNeg).toInt64))) a13 = 40 ∧ vp_in l2_7 (gl (gsL M 268 24 ((gL M 268 24) + ((gI M a9 l2_7.toNatClampNeg).toInt64))) a13) ∧ fX7_findOthers_b65 R12 l1_2 l2_7 (gsL (gsL M 268 24 ((gL M 268 24) + ((gI M a9 l2_7.toNatClampNeg).toInt64))) 268 25 ((gL (gsL M 268 24 ((gL M 268 24) + ((gI M a9 l2_7.toNatClampNeg).toInt64))) 268 25) + ((gI (gsL M 268 24 ((gL M 268 24) + ((gI M a9 l2_7.toNatClampNeg).toInt64))) a13 l2_7.toNatClampNeg).toInt64))) Q))
theorem wX7_findOthers_b33 {kf : Nat} {G : gG} {w : gM → Nat → List (Nat × Value) → List Value → Prop} {Q : Int32 → gM → Prop} (hw : gX yX7_findOthers cX7_findOthers 3 (Option.some FieldType.boolean) [] kf G (gQi Q) gE0 w) (hkf : 1 ≤ kf) {R12 : Int32 → gM → Prop} {l1_2 : Int32} {l2_7 : Int32} {M : gM} (hR12 : ∀ (v0 : Int32) (M : gM), R12 v0 M → w M 12 [(0, .ref (gA G 268)), (1, .int l1_2), (2, .int v0)] []) (h : fX7_findOthers_b33 R12 l1_2 l2_7 M Q) : w M 33 [(0, .ref (gA G 268)), (1, .int l1_2), (2, .int l2_7)] [] := by
  unfold fX7_findOthers_b33 at h
  refine g_aload_n hw 0 dX7_findOthers_33 rfl ?_
  refine g_dup hw dX7_findOthers_34 rfl ?_
  obtain ⟨hk8, h⟩ := h
  refine gfX7_281 hw rfl dX7_findOthers_35 hk8 ?_
  refine g_aload_n hw 0 dX7_findOthers_38 rfl ?_
  obtain ⟨a9, e10, h⟩ := h
  refine gfX7_163 (q := some a9) hw rfl dX7_findOthers_39 hk8 e10 ?_
  refine g_iload_n hw 2 dX7_findOthers_42 rfl ?_
  obtain ⟨hk11, h⟩ := h
  obtain ⟨hi12, h⟩ := h
  refine g_iald (n := l2_7.toNatClampNeg) hw dX7_findOthers_43 hk11 hi12 rfl ?_
  refine g_i2l hw dX7_findOthers_44 ?_
  refine g_ladd hw dX7_findOthers_45 ?_
  refine pfX7_281 hw rfl dX7_findOthers_46 hk8 ?_
  refine g_aload_n hw 0 dX7_findOthers_49 rfl ?_
  refine g_dup hw dX7_findOthers_50 rfl ?_
  refine gfX7_285 hw rfl dX7_findOthers_51 hk8 ?_
  refine g_aload_n hw 0 dX7_findOthers_54 rfl ?_
  obtain ⟨a13, e14, h⟩ := h
  refine gfX7_166 (q := some a13) hw rfl dX7_findOthers_55 hk8 e14 ?_
  refine g_iload_n hw 2 dX7_findOthers_58 rfl ?_
  obtain ⟨hk15, h⟩ := h
  obtain ⟨hi16, h⟩ := h
  refine g_iald (n := l2_7.toNatClampNeg) hw dX7_findOthers_59 hk15 hi16 rfl ?_
  refine g_i2l hw dX7_findOthers_60 ?_
  refine g_ladd hw dX7_findOthers_61 ?_
  refine pfX7_285 hw rfl dX7_findOthers_62 hk8 ?_
  exact wX7_findOthers_b65 hw hkf hR12 h
def fX7_findOthers_L12s (R12 : Int32 → gM → Prop) (K71_12 : gM → Prop) (l1_2 : Int32) (l2_3 : Int32) (M : gM) (Q : Int32 → gM → Prop) : Prop :=
  gk M 268 = 7 ∧ (if (gI M 268 41) ≤ l2_3 then K71_12 M else (if l1_2 = 0 then fX7_findOthers_b33 R12 l1_2 l2_3 M Q else gdr (gR M 268 44) (fun a18 => gk M a18 = 43 ∧ vp_in l2_3 (gl M a18) ∧ (if (gI M a18 l2_3.toNatClampNeg) = 0 then fX7_findOthers_b65 R12 l1_2 l2_3 M Q else fX7_findOthers_b33 R12 l1_2 l2_3 M Q))))
def fX7_findOthers_L12 (K71_12 : gM → Prop) (l1_2 : Int32) (Q : Int32 → gM → Prop) : Nat → Int32 → gM → Prop
  | 0 => fun _ _ => False
  | n + 1 => fun l2_3 M => fX7_findOthers_L12s (fX7_findOthers_L12 K71_12 l1_2 Q n) K71_12 l1_2 l2_3 M Q
theorem wX7_findOthers_L12s {kf : Nat} {G : gG} {w : gM → Nat → List (Nat × Value) → List Value → Prop} {Q : Int32 → gM → Prop} (hw : gX yX7_findOthers cX7_findOthers 3 (Option.some FieldType.boolean) [] kf G (gQi Q) gE0 w) (hkf : 1 ≤ kf) {R12 : Int32 → gM → Prop} {K71_12 : gM → Prop} {l1_2 : Int32} {l2_3 : Int32} {M : gM} (hR12 : ∀ (v0 : Int32) (M : gM), R12 v0 M → w M 12 [(0, .ref (gA G 268)), (1, .int l1_2), (2, .int v0)] []) (hK71_12 : ∀  (M : gM), K71_12 M → w M 71 [(0, .ref (gA G 268))] []) (h : fX7_findOthers_L12s R12 K71_12 l1_2 l2_3 M Q) : w M 12 [(0, .ref (gA G 268)), (1, .int l1_2), (2, .int l2_3)] [] := by
  unfold fX7_findOthers_L12s at h
  refine g_iload_n hw 2 dX7_findOthers_12 rfl ?_
  refine g_aload_n hw 0 dX7_findOthers_13 rfl ?_
  obtain ⟨hk4, h⟩ := h
  refine gfX7_428 hw rfl dX7_findOthers_14 hk4 ?_
  refine g_icmp_ge (tgt := 71) hw dX7_findOthers_17 (by decide) (fun hb5 => ?_) (fun hb5 => ?_)
  · have h := gT h hb5
    refine g_sub hw (lv2 := [(0, .ref (gA G 268))]) [0] rfl ?_
    exact hK71_12 M h
  · have h := gF h hb5
    refine g_iload_n hw 1 dX7_findOthers_20 rfl ?_
    refine g_if_eq (tgt := 33) hw dX7_findOthers_21 (by decide) (fun hb6 => ?_) (fun hb6 => ?_)
    · have h := gT h hb6
      exact wX7_findOthers_b33 hw hkf hR12 h
    · have h := gF h hb6
      refine g_aload_n hw 0 dX7_findOthers_24 rfl ?_
      obtain ⟨a18, e19, h⟩ := h
      refine gfX7_169 (q := some a18) hw rfl dX7_findOthers_25 hk4 e19 ?_
      refine g_iload_n hw 2 dX7_findOthers_28 rfl ?_
      obtain ⟨hk20, h⟩ := h
      obtain ⟨hi21, h⟩ := h
      refine g_zald (n := l2_3.toNatClampNeg) hw dX7_findOthers_29 hk20 hi21 rfl ?_
      refine g_if_eq (tgt := 65) hw dX7_findOthers_30 (by decide) (fun hb22 => ?_) (fun hb22 => ?_)
      · have h := gT h hb22
        exact wX7_findOthers_b65 hw hkf hR12 h
      · have h := gF h hb22
        exact wX7_findOthers_b33 hw hkf hR12 h
theorem wX7_findOthers_L12 {kf : Nat} {G : gG} {w : gM → Nat → List (Nat × Value) → List Value → Prop} {Q : Int32 → gM → Prop} (hw : gX yX7_findOthers cX7_findOthers 3 (Option.some FieldType.boolean) [] kf G (gQi Q) gE0 w) (hkf : 1 ≤ kf) {K71_12 : gM → Prop} {l1_2 : Int32} (hK71_12 : ∀  (M : gM), K71_12 M → w M 71 [(0, .ref (gA G 268))] []) : ∀ (n : Nat) (l2_3 : Int32) (M : gM), fX7_findOthers_L12 K71_12 l1_2 Q n l2_3 M → w M 12 [(0, .ref (gA G 268)), (1, .int l1_2), (2, .int l2_3)] [] := by
  intro n
  induction n with
  | zero => intro l2_3 M h; exact h.elim
  | succ n ih => intro l2_3 M h; exact wX7_findOthers_L12s hw hkf ih hK71_12 h
def fX7_findOthers (p1 : Int32) (M : gM) (Q : Int32 → gM → Prop) : Prop :=
  gk M 268 = 7 ∧ ∃ n, fX7_findOthers_L12 (fun M23 => gk M23 268 = 7 ∧ (if (lg_cmp (gL M23 268 25) 0) ≤ 0 then Q 0 M23 else Q 1 M23)) p1 Q n 0 (gsL (gsL M 268 24 0) 268 25 0)
theorem mX7_findOthers {kf : Nat} (hkf : 1 ≤ kf) (G : gG) (p1 : Int32) (M : gM) (Q : Int32 → gM → Prop) (h : fX7_findOthers p1 M Q) : gMet yX7_findOthers cX7_findOthers 3 (Option.some FieldType.boolean) kf G M [.ref (gA G 268), .int p1] (gQi Q) gE0 := by
  refine g_intro (lv := [(0, .ref (gA G 268)), (1, .int p1)]) (by decide) rfl rfl (fun w hw => ?_)
  unfold fX7_findOthers at h
  refine g_aload_n hw 0 dX7_findOthers_0 rfl ?_
  refine g_lconst (v := 0) hw dX7_findOthers_1 (by decide) ?_
  obtain ⟨hk1, h⟩ := h
  refine pfX7_281 hw rfl dX7_findOthers_2 hk1 ?_
  refine g_aload_n hw 0 dX7_findOthers_5 rfl ?_
  refine g_lconst (v := 0) hw dX7_findOthers_6 (by decide) ?_
  refine pfX7_285 hw rfl dX7_findOthers_7 hk1 ?_
  refine g_iconst (v := 0) hw dX7_findOthers_10 (by decide) ?_
  refine g_istore_n hw (lv2 := [(0, .ref (gA G 268)), (1, .int p1), (2, .int 0)]) [1, 2, 0] dX7_findOthers_11 rfl rfl ?_
  obtain ⟨n9, h⟩ := h
  refine wX7_findOthers_L12 hw hkf (fun M23 h => ?_) n9 0 (gsL (gsL M 268 24 0) 268 25 0) h
  refine g_aload_n hw 0 dX7_findOthers_71 rfl ?_
  obtain ⟨hk24, h⟩ := h
  refine gfX7_285 hw rfl dX7_findOthers_72 hk24 ?_
  refine g_lconst (v := 0) hw dX7_findOthers_75 (by decide) ?_
  refine g_lcmp hw dX7_findOthers_76 ?_
  refine g_if_le (tgt := 84) hw dX7_findOthers_77 (by decide) (fun hb25 => ?_) (fun hb25 => ?_)
  · have h := gT h hb25
    refine g_iconst (v := 0) hw dX7_findOthers_84 (by decide) ?_
    exact g_iret hw dX7_findOthers_85 (by decide +kernel) ⟨_, rfl, h⟩
  · have h := gF h hb25
    refine g_iconst (v := 1) hw dX7_findOthers_80 (by decide) ?_
    refine g_goto (tgt := 85) hw dX7_findOthers_81 (by decide) ?_
    exact g_iret hw dX7_findOthers_85 (by decide +kernel) ⟨_, rfl, h⟩
theorem sX7_431 {y0 : MethodName} {cc : ByteArray} {nL : Nat} {ret : Option FieldType} {hh : List (Nat × Nat × Nat × Nat)} {kf : Nat} {G : gG} {Qv : Option Value → gM → Prop} {E : String → Nat → gM → Prop} {w : gM → Nat → List (Nat × Value) → List Value → Prop} {M : gM} {pc : Nat} {lv : List (Nat × Value)} {rest : List Value} (hw : gX y0 cc nL ret hh kf G Qv E w) (hy : y0.cls = RX7) {p1 : Int32} {Q : Int32 → gM → Prop} (d : decode cc pc = .ok (.invokevirtual 431, 3)) (hrest : Nat.ble ((rest.map Value.category).sum) 8 = true) (hk : 1 + 1 ≤ kf) (hkd : gk M 268 = 7) (h : fX7_findOthers p1 M Q) (kk : ∀ r M1, Q r M1 → w M1 (pc + 3) lv (.int r :: rest)) : w M pc lv (.int p1 :: .ref (gA G 268) :: rest) := by
  obtain ⟨cls9, nm9, ds9⟩ := y0
  subst hy
  exact g_callV (r := (RX7, TX7, 58)) (ci := 6) hw [.int p1] (nA := 1) rfl d q1626 q1628 qs82 q104 q1629 (by decide +kernel) rfl rfl hrest rfl (by omega : kf - 1 + 1 ≤ kf) hkd (mX7_findOthers (kf := kf - 1) (by omega) G p1 M Q h) (fun _ _ _ q => q.elim) (fun v M1 h => by obtain ⟨r, rfl, h⟩ := h; exact kk r M1 h)
def fX7_others_b21 (l2_5 : Int32) (s1_6 : Int32) (M : gM) (Q : Int64 → gM → Prop) : Prop :=
  gk M 268 = 7 ∧ (if (gI (gsI M 268 0 s1_6) 268 0) ≤ 0 then fX7_lowest l2_5 (gsI M 268 0 s1_6) (fun r10 M9 => Q r10 M9) else Q 0 (gsI M 268 0 s1_6))
theorem wX7_others_b21 {kf : Nat} {G : gG} {w : gM → Nat → List (Nat × Value) → List Value → Prop} {Q : Int64 → gM → Prop} (hw : gX yX7_others cX7_others 3 (Option.some FieldType.long) [] kf G (gQl Q) gE0 w) (hkf : 3 ≤ kf)  {l2_5 : Int32} {s1_6 : Int32} {M : gM}  (h : fX7_others_b21 l2_5 s1_6 M Q) : w M 21 [(0, .ref (gA G 268)), (2, .int l2_5)] [.int s1_6, .ref (gA G 268)] := by
  unfold fX7_others_b21 at h
  obtain ⟨hk7, h⟩ := h
  refine pfX7_1 hw rfl dX7_others_21 hk7 ?_
  refine g_aload_n hw 0 dX7_others_24 rfl ?_
  refine gfX7_1 hw rfl dX7_others_25 hk7 ?_
  refine g_if_le (tgt := 35) hw dX7_others_28 (by decide) (fun hb8 => ?_) (fun hb8 => ?_)
  · have h := gT h hb8
    refine g_aload_n hw 0 dX7_others_35 rfl ?_
    refine g_iload_n hw 1 dX7_others_36 rfl ?_
    refine sX7_321 hw rfl dX7_others_37 rfl (gK2 hkf) hk7 h (fun r10 M9 h => ?_)
    exact g_lret hw dX7_others_40 ⟨_, rfl, h⟩
  · have h := gF h hb8
    refine g_lconst (v := 0) hw dX7_others_31 (by decide) ?_
    refine g_goto (tgt := 40) hw dX7_others_32 (by decide) ?_
    exact g_lret hw dX7_others_40 ⟨_, rfl, h⟩
def fX7_others_b20 (l2_4 : Int32) (M : gM) (Q : Int64 → gM → Prop) : Prop :=
  fX7_others_b21 l2_4 1 M Q
theorem wX7_others_b20 {kf : Nat} {G : gG} {w : gM → Nat → List (Nat × Value) → List Value → Prop} {Q : Int64 → gM → Prop} (hw : gX yX7_others cX7_others 3 (Option.some FieldType.long) [] kf G (gQl Q) gE0 w) (hkf : 3 ≤ kf)  {l2_4 : Int32} {M : gM}  (h : fX7_others_b20 l2_4 M Q) : w M 20 [(0, .ref (gA G 268)), (2, .int l2_4)] [.ref (gA G 268)] := by
  unfold fX7_others_b20 at h
  refine g_iconst (v := 1) hw dX7_others_20 (by decide) ?_
  exact wX7_others_b21 hw hkf h
def fX7_others (p1 : Int32) (p2 : Int32) (M : gM) (Q : Int64 → gM → Prop) : Prop :=
  fX7_isWhat p2 M (fun r2 M1 => (if r2 = 0 then fX7_others_b20 p2 M1 Q else gk M1 268 = 7 ∧ fX7_findOthers p1 M1 (fun r13 M12 => (if r13 = 0 then fX7_others_b20 p2 M12 Q else fX7_others_b21 p2 0 M12 Q))))
theorem mX7_others {kf : Nat} (hkf : 3 ≤ kf) (G : gG) (p1 : Int32) (p2 : Int32) (M : gM) (Q : Int64 → gM → Prop) (h : fX7_others p1 p2 M Q) : gMet yX7_others cX7_others 3 (Option.some FieldType.long) kf G M [.ref (gA G 268), .int p1, .int p2] (gQl Q) gE0 := by
  refine g_intro (lv := [(0, .ref (gA G 268)), (1, .int p1), (2, .int p2)]) (by decide) rfl rfl (fun w hw => ?_)
  unfold fX7_others at h
  refine g_aload_n hw 0 dX7_others_0 rfl ?_
  refine g_iload_n hw 2 dX7_others_1 rfl ?_
  refine sX7_315 hw rfl dX7_others_2 rfl (gK2 hkf) h (fun r2 M1 h => ?_)
  refine g_if_eq (tgt := 20) hw dX7_others_5 (by decide) (fun hb3 => ?_) (fun hb3 => ?_)
  · have h := gT h hb3
    refine g_sub hw (lv2 := [(0, .ref (gA G 268)), (2, .int p2)]) [0, 2] rfl ?_
    exact wX7_others_b20 hw hkf h
  · have h := gF h hb3
    refine g_aload_n hw 0 dX7_others_8 rfl ?_
    refine g_iload_n hw 1 dX7_others_9 rfl ?_
    obtain ⟨hk11, h⟩ := h
    refine sX7_431 hw rfl dX7_others_10 rfl (gK2 hkf) hk11 h (fun r13 M12 h => ?_)
    refine g_if_eq (tgt := 20) hw dX7_others_13 (by decide) (fun hb14 => ?_) (fun hb14 => ?_)
    · have h := gT h hb14
      refine g_sub hw (lv2 := [(0, .ref (gA G 268)), (2, .int p2)]) [0, 2] rfl ?_
      exact wX7_others_b20 hw hkf h
    · have h := gF h hb14
      refine g_iconst (v := 0) hw dX7_others_16 (by decide) ?_
      refine g_goto (tgt := 21) hw dX7_others_17 (by decide) ?_
      refine g_sub hw (lv2 := [(0, .ref (gA G 268)), (2, .int p2)]) [0, 2] rfl ?_
      exact wX7_others_b21 hw hkf h
def fX7_drawer_b47 (l1_11 : Int32) (s0_12 : Int64) (M : gM) (Q : Int32 → gM → Prop) : Prop :=
  (¬ l1_11.toInt64 = 0) ∧ Q ((((s0_12 + l1_11.toInt64) - 1) / l1_11.toInt64).toInt32) M
theorem wX7_drawer_b47 {kf : Nat} {G : gG} {w : gM → Nat → List (Nat × Value) → List Value → Prop} {Q : Int32 → gM → Prop} (hw : gX yX7_drawer cX7_drawer 4 (Option.some FieldType.int) [] kf G (gQi Q) gE0 w) (hkf : 2 ≤ kf)  {l1_11 : Int32} {s0_12 : Int64} {M : gM}  (h : fX7_drawer_b47 l1_11 s0_12 M Q) : w M 47 [(1, .int l1_11)] [.long s0_12] := by
  unfold fX7_drawer_b47 at h
  refine g_lstore_n hw (lv2 := [(1, .int l1_11), (2, .long s0_12)]) [1, 0] dX7_drawer_47 rfl rfl ?_
  refine g_lload_n hw 1 dX7_drawer_48 rfl ?_
  refine g_iload_n hw 0 dX7_drawer_49 rfl ?_
  refine g_i2l hw dX7_drawer_50 ?_
  refine g_ladd hw dX7_drawer_51 ?_
  refine g_lconst (v := 1) hw dX7_drawer_52 (by decide) ?_
  refine g_lsub hw dX7_drawer_53 ?_
  refine g_iload_n hw 0 dX7_drawer_54 rfl ?_
  refine g_i2l hw dX7_drawer_55 ?_
  obtain ⟨hc13, h⟩ := h
  refine g_ldiv hw dX7_drawer_56 hc13 ?_
  refine g_l2i hw dX7_drawer_57 ?_
  exact g_iret hw dX7_drawer_58 rfl ⟨_, rfl, h⟩
def fX7_drawer (p1 : Int32) (M : gM) (Q : Int32 → gM → Prop) : Prop :=
  gk M 268 = 7 ∧ fX7_within p1 1 999 (gsI M 268 0 0) (fun r3 M2 => (if r3 = 0 then Q (-1) M2 else gk M2 268 = 7 ∧ fX7_findOthers 1 M2 (fun r7 M6 => (if r7 = 0 then Q (-1) M6 else gk M6 268 = 7 ∧ (if 0 ≤ (lg_cmp (gL M6 268 24) 0) then fX7_drawer_b47 p1 (gL M6 268 24) M6 Q else fX7_drawer_b47 p1 (-(gL M6 268 24)) M6 Q)))))
theorem mX7_drawer {kf : Nat} (hkf : 2 ≤ kf) (G : gG) (p1 : Int32) (M : gM) (Q : Int32 → gM → Prop) (h : fX7_drawer p1 M Q) : gMet yX7_drawer cX7_drawer 4 (Option.some FieldType.int) kf G M [.ref (gA G 268), .int p1] (gQi Q) gE0 := by
  refine g_intro (lv := [(0, .ref (gA G 268)), (1, .int p1)]) (by decide) rfl rfl (fun w hw => ?_)
  unfold fX7_drawer at h
  refine g_aload_n hw 0 dX7_drawer_0 rfl ?_
  refine g_iconst (v := 0) hw dX7_drawer_1 (by decide) ?_
  obtain ⟨hk1, h⟩ := h
  refine pfX7_1 hw rfl dX7_drawer_2 hk1 ?_
  refine g_iload_n hw 1 dX7_drawer_5 rfl ?_
  refine g_iconst (v := 1) hw dX7_drawer_6 (by decide) ?_
  refine g_sipush (v := 999) hw dX7_drawer_7 (by decide) ?_
  refine sX7_253 hw rfl dX7_drawer_10 rfl (gK2 hkf) h (fun r3 M2 h => ?_)
  refine g_if_eq (tgt := 24) hw dX7_drawer_13 (by decide) (fun hb4 => ?_) (fun hb4 => ?_)
  · have h := gT h hb4
    refine g_iconst (v := (-1)) hw dX7_drawer_24 (by decide) ?_
    exact g_iret hw dX7_drawer_25 rfl ⟨_, rfl, h⟩
  · have h := gF h hb4
    refine g_aload_n hw 0 dX7_drawer_16 rfl ?_
    refine g_iconst (v := 1) hw dX7_drawer_17 (by decide) ?_
    obtain ⟨hk5, h⟩ := h
    refine sX7_431 hw rfl dX7_drawer_18 rfl (gK2 hkf) hk5 h (fun r7 M6 h => ?_)
    refine g_if_ne (tgt := 26) hw dX7_drawer_21 (by decide) (fun hb8 => ?_) (fun hb8 => ?_)
    · have h := gF h hb8
      refine g_aload_n hw 0 dX7_drawer_26 rfl ?_
      obtain ⟨hk9, h⟩ := h
      refine gfX7_281 hw rfl dX7_drawer_27 hk9 ?_
      refine g_lconst (v := 0) hw dX7_drawer_30 (by decide) ?_
      refine g_lcmp hw dX7_drawer_31 ?_
      refine g_if_ge (tgt := 43) hw dX7_drawer_32 (by decide) (fun hb10 => ?_) (fun hb10 => ?_)
      · have h := gT h hb10
        refine g_aload_n hw 0 dX7_drawer_43 rfl ?_
        refine gfX7_281 hw rfl dX7_drawer_44 hk9 ?_
        refine g_sub hw (lv2 := [(1, .int p1)]) [1] rfl ?_
        exact wX7_drawer_b47 hw hkf h
      · have h := gF h hb10
        refine g_aload_n hw 0 dX7_drawer_35 rfl ?_
        refine gfX7_281 hw rfl dX7_drawer_36 hk9 ?_
        refine g_lneg hw dX7_drawer_39 ?_
        refine g_goto (tgt := 47) hw dX7_drawer_40 (by decide) ?_
        refine g_sub hw (lv2 := [(1, .int p1)]) [1] rfl ?_
        exact wX7_drawer_b47 hw hkf h
    · have h := gT h hb8
      refine g_iconst (v := (-1)) hw dX7_drawer_24 (by decide) ?_
      exact g_iret hw dX7_drawer_25 rfl ⟨_, rfl, h⟩
def fX7_isWriterNumber (p1 : Int32) (M : gM) (Q : Int32 → gM → Prop) : Prop :=
  fX7_within p1 0 3 M (fun r2 M1 => (r2 = 0 ∨ r2 = 1) ∧ Q r2 M1)
theorem mX7_isWriterNumber {kf : Nat} (hkf : 2 ≤ kf) (G : gG) (p1 : Int32) (M : gM) (Q : Int32 → gM → Prop) (h : fX7_isWriterNumber p1 M Q) : gMet yX7_isWriterNumber cX7_isWriterNumber 1 (Option.some FieldType.boolean) kf G M [.int p1] (gQi Q) gE0 := by
  refine g_intro (lv := [(0, .int p1)]) (by decide) rfl rfl (fun w hw => ?_)
  unfold fX7_isWriterNumber at h
  refine g_iload_n hw 0 dX7_isWriterNumber_0 rfl ?_
  refine g_iconst (v := 0) hw dX7_isWriterNumber_1 (by decide) ?_
  refine g_iconst (v := 3) hw dX7_isWriterNumber_2 (by decide) ?_
  refine sX7_253 hw rfl dX7_isWriterNumber_3 rfl (gK2 hkf) h (fun r2 M1 h => ?_)
  obtain ⟨hc3, h⟩ := h
  exact g_iret hw dX7_isWriterNumber_6 (gBool hc3) ⟨_, rfl, h⟩
theorem gfX7_184 {y0 : MethodName} {cc : ByteArray} {nL : Nat} {ret : Option FieldType} {hh : List (Nat × Nat × Nat × Nat)} {kf : Nat} {G : gG} {Qv : Option Value → gM → Prop} {E : String → Nat → gM → Prop} {w : gM → Nat → List (Nat × Value) → List Value → Prop} {M : gM} {pc : Nat} {lv : List (Nat × Value)} {rest : List Value} (hw : gX y0 cc nL ret hh kf G Qv E w) (hy : y0.cls = RX7) {c : Nat} {q : Option Nat} (d : decode cc pc = .ok (.getfield 184, 3)) (hk : gk M c = 7) (hq : gR M c 50 = q) (kk : w M (pc + 3) lv (va_rf (q.map (gA G)) :: rest)) : w M pc lv (.ref (gA G c) :: rest) := by
  obtain ⟨cls9, nm9, ds9⟩ := y0
  subst hy
  subst hq
  exact g_getC (C := RX7) (T := TX7) (N := 58) (ci := 6) hw in_X7 rfl 50 (by decide) (Or.inl q1206) rfl d hk kk
def fX7_readWriterLine_b25 (R4 : Int32 → Int32 → gM → Prop) (l2_8 : Int32) (s0_9 : Int32) (M : gM) (Q : gM → Prop) : Prop :=
  R4 s0_9 (l2_8 + 1) M
theorem wX7_readWriterLine_b25 {kf : Nat} {G : gG} {w : gM → Nat → List (Nat × Value) → List Value → Prop} {Q : gM → Prop} (hw : gX yX7_readWriterLine cX7_readWriterLine 3 (Option.none : Option FieldType) [] kf G (gQv Q) gE0 w) (hkf : 47 ≤ kf) {R4 : Int32 → Int32 → gM → Prop} {l2_8 : Int32} {s0_9 : Int32} {M : gM} (hR4 : ∀ (v0 : Int32) (v1 : Int32) (M : gM), R4 v0 v1 M → w M 4 [(0, .ref (gA G 268)), (1, .int v0), (2, .int v1)] []) (h : fX7_readWriterLine_b25 R4 l2_8 s0_9 M Q) : w M 25 [(0, .ref (gA G 268)), (2, .int l2_8)] [.int s0_9] := by
  unfold fX7_readWriterLine_b25 at h
  refine g_istore_n hw (lv2 := [(0, .ref (gA G 268)), (1, .int s0_9), (2, .int l2_8)]) [1, 0, 2] dX7_readWriterLine_25 rfl rfl ?_
  refine g_iinc hw (lv2 := [(0, .ref (gA G 268)), (1, .int s0_9), (2, .int (l2_8 + 1))]) 2 [1, 2, 0] dX7_readWriterLine_26 rfl (by decide) rfl rfl ?_
  refine g_goto (tgt := 4) hw dX7_readWriterLine_29 (by decide) ?_
  exact hR4 s0_9 (l2_8 + 1) M h
def fX7_readWriterLine_L4s (R4 : Int32 → Int32 → gM → Prop) (K32_4 : Int32 → gM → Prop) (l1_1 : Int32) (l2_2 : Int32) (M : gM) (Q : gM → Prop) : Prop :=
  (if 4 ≤ l2_2 then K32_4 l1_1 M else gk M 268 = 7 ∧ fX7_isWord (18 + l2_2) M (fun r6 M5 => (if r6 = 0 then fX7_readWriterLine_b25 R4 l2_2 l1_1 M5 Q else fX7_readWriterLine_b25 R4 l2_2 l2_2 M5 Q)))
def fX7_readWriterLine_L4 (K32_4 : Int32 → gM → Prop) (Q : gM → Prop) : Nat → Int32 → Int32 → gM → Prop
  | 0 => fun _ _ _ => False
  | n + 1 => fun l1_1 l2_2 M => fX7_readWriterLine_L4s (fX7_readWriterLine_L4 K32_4 Q n) K32_4 l1_1 l2_2 M Q
theorem wX7_readWriterLine_L4s {kf : Nat} {G : gG} {w : gM → Nat → List (Nat × Value) → List Value → Prop} {Q : gM → Prop} (hw : gX yX7_readWriterLine cX7_readWriterLine 3 (Option.none : Option FieldType) [] kf G (gQv Q) gE0 w) (hkf : 47 ≤ kf) {R4 : Int32 → Int32 → gM → Prop} {K32_4 : Int32 → gM → Prop} {l1_1 : Int32} {l2_2 : Int32} {M : gM} (hR4 : ∀ (v0 : Int32) (v1 : Int32) (M : gM), R4 v0 v1 M → w M 4 [(0, .ref (gA G 268)), (1, .int v0), (2, .int v1)] []) (hK32_4 : ∀ (v0 : Int32) (M : gM), K32_4 v0 M → w M 32 [(0, .ref (gA G 268)), (1, .int v0)] []) (h : fX7_readWriterLine_L4s R4 K32_4 l1_1 l2_2 M Q) : w M 4 [(0, .ref (gA G 268)), (1, .int l1_1), (2, .int l2_2)] [] := by
  unfold fX7_readWriterLine_L4s at h
  refine g_iload_n hw 2 dX7_readWriterLine_4 rfl ?_
  refine g_iconst (v := 4) hw dX7_readWriterLine_5 (by decide) ?_
  refine g_icmp_ge (tgt := 32) hw dX7_readWriterLine_6 (by decide) (fun hb3 => ?_) (fun hb3 => ?_)
  · have h := gT h hb3
    refine g_sub hw (lv2 := [(0, .ref (gA G 268)), (1, .int l1_1)]) [0, 1] rfl ?_
    exact hK32_4 l1_1 M h
  · have h := gF h hb3
    refine g_aload_n hw 0 dX7_readWriterLine_9 rfl ?_
    refine g_bipush (v := 18) hw dX7_readWriterLine_10 (by decide) ?_
    refine g_iload_n hw 2 dX7_readWriterLine_12 rfl ?_
    refine g_iadd hw dX7_readWriterLine_13 ?_
    obtain ⟨hk4, h⟩ := h
    refine sX7_247 hw rfl dX7_readWriterLine_14 rfl (gK2 hkf) hk4 h (fun r6 M5 h => ?_)
    refine g_if_eq (tgt := 24) hw dX7_readWriterLine_17 (by decide) (fun hb7 => ?_) (fun hb7 => ?_)
    · have h := gT h hb7
      refine g_iload_n hw 1 dX7_readWriterLine_24 rfl ?_
      refine g_sub hw (lv2 := [(0, .ref (gA G 268)), (2, .int l2_2)]) [0, 2] rfl ?_
      exact wX7_readWriterLine_b25 hw hkf hR4 h
    · have h := gF h hb7
      refine g_iload_n hw 2 dX7_readWriterLine_20 rfl ?_
      refine g_goto (tgt := 25) hw dX7_readWriterLine_21 (by decide) ?_
      refine g_sub hw (lv2 := [(0, .ref (gA G 268)), (2, .int l2_2)]) [0, 2] rfl ?_
      exact wX7_readWriterLine_b25 hw hkf hR4 h
theorem wX7_readWriterLine_L4 {kf : Nat} {G : gG} {w : gM → Nat → List (Nat × Value) → List Value → Prop} {Q : gM → Prop} (hw : gX yX7_readWriterLine cX7_readWriterLine 3 (Option.none : Option FieldType) [] kf G (gQv Q) gE0 w) (hkf : 47 ≤ kf) {K32_4 : Int32 → gM → Prop} (hK32_4 : ∀ (v0 : Int32) (M : gM), K32_4 v0 M → w M 32 [(0, .ref (gA G 268)), (1, .int v0)] []) : ∀ (n : Nat) (l1_1 : Int32) (l2_2 : Int32) (M : gM), fX7_readWriterLine_L4 K32_4 Q n l1_1 l2_2 M → w M 4 [(0, .ref (gA G 268)), (1, .int l1_1), (2, .int l2_2)] [] := by
  intro n
  induction n with
  | zero => intro l1_1 l2_2 M h; exact h.elim
  | succ n ih => intro l1_1 l2_2 M h; exact wX7_readWriterLine_L4s hw hkf ih hK32_4 h
def fX7_readWriterLine_b191  (M : gM) (Q : gM → Prop) : Prop :=
  gk M 268 = 7 ∧ fX7_takeSign 59 M (fun M47 => Q M47)
theorem wX7_readWriterLine_b191 {kf : Nat} {G : gG} {w : gM → Nat → List (Nat × Value) → List Value → Prop} {Q : gM → Prop} (hw : gX yX7_readWriterLine cX7_readWriterLine 3 (Option.none : Option FieldType) [] kf G (gQv Q) gE0 w) (hkf : 47 ≤ kf)   {M : gM}  (h : fX7_readWriterLine_b191 M Q) : w M 191 [(0, .ref (gA G 268))] [] := by
  unfold fX7_readWriterLine_b191 at h
  refine g_aload_n hw 0 dX7_readWriterLine_191 rfl ?_
  refine g_bipush (v := 59) hw dX7_readWriterLine_192 (by decide) ?_
  obtain ⟨hk46, h⟩ := h
  refine sX7_366 hw rfl dX7_readWriterLine_194 rfl (gK2 hkf) hk46 h (fun M47 h => ?_)
  exact g_vret hw dX7_readWriterLine_197 ⟨rfl, h⟩
def fX7_readWriterLine_b153 (l1_33 : Int32) (s0_34 : Int64) (s1_35 : Int64) (M : gM) (Q : gM → Prop) : Prop :=
  (if (lg_cmp s0_34 s1_35) ≤ 0 then gk M 268 = 7 ∧ gdr (gR M 268 50) (fun a38 => gdr (gR M 268 6) (fun a40 => gk M a40 = 41 ∧ vp_in (gI M 268 7) (gl M a40) ∧ gk M a38 = 40 ∧ vp_in l1_33 (gl M a38) ∧ fX7_readWriterLine_b191 (gsI (gsI M a38 l1_33.toNatClampNeg ((gL M a40 ((gI M 268 7).toNatClampNeg)).toInt32)) 268 7 ((gI (gsI M a38 l1_33.toNatClampNeg ((gL M a40 ((gI M 268 7).toNatClampNeg)).toInt32)) 268 7) + 1)) Q)) else gk M 268 = 7 ∧ fX7_wrong 4 M (fun M50 => fX7_readWriterLine_b191 M50 Q))
theorem wX7_readWriterLine_b153 {kf : Nat} {G : gG} {w : gM → Nat → List (Nat × Value) → List Value → Prop} {Q : gM → Prop} (hw : gX yX7_readWriterLine cX7_readWriterLine 3 (Option.none : Option FieldType) [] kf G (gQv Q) gE0 w) (hkf : 47 ≤ kf)  {l1_33 : Int32} {s0_34 : Int64} {s1_35 : Int64} {M : gM}  (h : fX7_readWriterLine_b153 l1_33 s0_34 s1_35 M Q) : w M 153 [(0, .ref (gA G 268)), (1, .int l1_33)] [.long s1_35, .long s0_34] := by
  unfold fX7_readWriterLine_b153 at h
  refine g_lcmp hw dX7_readWriterLine_153 ?_
  refine g_if_le (tgt := 165) hw dX7_readWriterLine_154 (by decide) (fun hb36 => ?_) (fun hb36 => ?_)
  · have h := gT h hb36
    refine g_aload_n hw 0 dX7_readWriterLine_165 rfl ?_
    obtain ⟨hk37, h⟩ := h
    obtain ⟨a38, e39, h⟩ := h
    refine gfX7_184 (q := some a38) hw rfl dX7_readWriterLine_166 hk37 e39 ?_
    refine g_iload_n hw 1 dX7_readWriterLine_169 rfl ?_
    refine g_aload_n hw 0 dX7_readWriterLine_170 rfl ?_
    obtain ⟨a40, e41, h⟩ := h
    refine gfX7_30 (q := some a40) hw rfl dX7_readWriterLine_171 hk37 e41 ?_
    refine g_aload_n hw 0 dX7_readWriterLine_174 rfl ?_
    refine gfX7_234 hw rfl dX7_readWriterLine_175 hk37 ?_
    obtain ⟨hk42, h⟩ := h
    obtain ⟨hi43, h⟩ := h
    refine g_lald (n := (gI M 268 7).toNatClampNeg) hw dX7_readWriterLine_178 hk42 hi43 rfl ?_
    refine g_l2i hw dX7_readWriterLine_179 ?_
    obtain ⟨hk44, h⟩ := h
    obtain ⟨hi45, h⟩ := h
    refine g_iast (n := l1_33.toNatClampNeg) hw dX7_readWriterLine_180 hk44 hi45 rfl ?_
    refine g_aload_n hw 0 dX7_readWriterLine_181 rfl ?_
    refine g_dup hw dX7_readWriterLine_182 rfl ?_
    refine gfX7_234 hw rfl dX7_readWriterLine_183 hk37 ?_
    refine g_iconst (v := 1) hw dX7_readWriterLine_186 (by decide) ?_
    refine g_iadd hw dX7_readWriterLine_187 ?_
    refine pfX7_234 hw rfl dX7_readWriterLine_188 hk37 ?_
    refine g_sub hw (lv2 := [(0, .ref (gA G 268))]) [0] rfl ?_
    exact wX7_readWriterLine_b191 hw hkf h
  · have h := gF h hb36
    refine g_aload_n hw 0 dX7_readWriterLine_157 rfl ?_
    refine g_iconst (v := 4) hw dX7_readWriterLine_158 (by decide) ?_
    obtain ⟨hk49, h⟩ := h
    refine sX7_243 hw rfl dX7_readWriterLine_159 rfl (gK2 hkf) hk49 h (fun M50 h => ?_)
    refine g_goto (tgt := 191) hw dX7_readWriterLine_162 (by decide) ?_
    refine g_sub hw (lv2 := [(0, .ref (gA G 268))]) [0] rfl ?_
    exact wX7_readWriterLine_b191 hw hkf h
def fX7_readWriterLine_b58 (l1_19 : Int32) (M : gM) (Q : gM → Prop) : Prop :=
  gk M 268 = 7 ∧ (if (gI M 268 8) ≤ 0 then (if l1_19 = 0 then fX7_takeWord 4 (gsI M 268 7 ((gI M 268 7) + 1)) (fun M54 => gk M54 268 = 7 ∧ gdr (gR M54 268 50) (fun a57 => gk M54 a57 = 40 ∧ vp_in 0 (gl M54 a57) ∧ ∃ n9, n9 ≤ 8 ∧ fX7_all (fX7_takePart n9) 0 (gsI M54 a57 0 (gI M54 268 32)) (fun M61 => gk M61 268 = 7 ∧ fX7_emit 0 0 M61 (fun M64 => fX7_readWriterLine_b191 M64 Q)))) else gdr (gR (gsI M 268 7 ((gI M 268 7) + 1)) 268 4) (fun a23 => gk (gsI M 268 7 ((gI M 268 7) + 1)) a23 = 40 ∧ vp_in (gI (gsI M 268 7 ((gI M 268 7) + 1)) 268 7) (gl (gsI M 268 7 ((gI M 268 7) + 1)) a23) ∧ (if (gI (gsI M 268 7 ((gI M 268 7) + 1)) a23 ((gI (gsI M 268 7 ((gI M 268 7) + 1)) 268 7).toNatClampNeg)) = 2 then gdr (gR (gsI M 268 7 ((gI M 268 7) + 1)) 268 6) (fun a28 => gk (gsI M 268 7 ((gI M 268 7) + 1)) a28 = 41 ∧ vp_in (gI (gsI M 268 7 ((gI M 268 7) + 1)) 268 7) (gl (gsI M 268 7 ((gI M 268 7) + 1)) a28) ∧ (if l1_19 = 3 then fX7_readWriterLine_b153 l1_19 (gL (gsI M 268 7 ((gI M 268 7) + 1)) a28 ((gI (gsI M 268 7 ((gI M 268 7) + 1)) 268 7).toNatClampNeg)) 10 (gsI M 268 7 ((gI M 268 7) + 1)) Q else fX7_readWriterLine_b153 l1_19 (gL (gsI M 268 7 ((gI M 268 7) + 1)) a28 ((gI (gsI M 268 7 ((gI M 268 7) + 1)) 268 7).toNatClampNeg)) 11 (gsI M 268 7 ((gI M 268 7) + 1)) Q)) else fX7_wrong 1 (gsI M 268 7 ((gI M 268 7) + 1)) (fun M52 => fX7_readWriterLine_b191 M52 Q)))) else Q M)
theorem wX7_readWriterLine_b58 {kf : Nat} {G : gG} {w : gM → Nat → List (Nat × Value) → List Value → Prop} {Q : gM → Prop} (hw : gX yX7_readWriterLine cX7_readWriterLine 3 (Option.none : Option FieldType) [] kf G (gQv Q) gE0 w) (hkf : 47 ≤ kf)  {l1_19 : Int32} {M : gM}  (h : fX7_readWriterLine_b58 l1_19 M Q) : w M 58 [(0, .ref (gA G 268)), (1, .int l1_19)] [] := by
  unfold fX7_readWriterLine_b58 at h
  refine g_aload_n hw 0 dX7_readWriterLine_58 rfl ?_
  obtain ⟨hk20, h⟩ := h
  refine gfX7_237 hw rfl dX7_readWriterLine_59 hk20 ?_
  refine g_if_le (tgt := 66) hw dX7_readWriterLine_62 (by decide) (fun hb21 => ?_) (fun hb21 => ?_)
  · have h := gT h hb21
    refine g_aload_n hw 0 dX7_readWriterLine_66 rfl ?_
    refine g_dup hw dX7_readWriterLine_67 rfl ?_
    refine gfX7_234 hw rfl dX7_readWriterLine_68 hk20 ?_
    refine g_iconst (v := 1) hw dX7_readWriterLine_71 (by decide) ?_
    refine g_iadd hw dX7_readWriterLine_72 ?_
    refine pfX7_234 hw rfl dX7_readWriterLine_73 hk20 ?_
    refine g_iload_n hw 1 dX7_readWriterLine_76 rfl ?_
    refine g_if_ne (tgt := 109) hw dX7_readWriterLine_77 (by decide) (fun hb22 => ?_) (fun hb22 => ?_)
    · have h := gF h hb22
      refine g_aload_n hw 0 dX7_readWriterLine_109 rfl ?_
      obtain ⟨a23, e24, h⟩ := h
      refine gfX7_24 (q := some a23) hw rfl dX7_readWriterLine_110 hk20 e24 ?_
      refine g_aload_n hw 0 dX7_readWriterLine_113 rfl ?_
      refine gfX7_234 hw rfl dX7_readWriterLine_114 hk20 ?_
      obtain ⟨hk25, h⟩ := h
      obtain ⟨hi26, h⟩ := h
      refine g_iald (n := (gI (gsI M 268 7 ((gI M 268 7) + 1)) 268 7).toNatClampNeg) hw dX7_readWriterLine_117 hk25 hi26 rfl ?_
      refine g_iconst (v := 2) hw dX7_readWriterLine_118 (by decide) ?_
      refine g_icmp_eq (tgt := 130) hw dX7_readWriterLine_119 (by decide) (fun hb27 => ?_) (fun hb27 => ?_)
      · have h := gT h hb27
        refine g_aload_n hw 0 dX7_readWriterLine_130 rfl ?_
        obtain ⟨a28, e29, h⟩ := h
        refine gfX7_30 (q := some a28) hw rfl dX7_readWriterLine_131 hk20 e29 ?_
        refine g_aload_n hw 0 dX7_readWriterLine_134 rfl ?_
        refine gfX7_234 hw rfl dX7_readWriterLine_135 hk20 ?_
        obtain ⟨hk30, h⟩ := h
        obtain ⟨hi31, h⟩ := h
        refine g_lald (n := (gI (gsI M 268 7 ((gI M 268 7) + 1)) 268 7).toNatClampNeg) hw dX7_readWriterLine_138 hk30 hi31 rfl ?_
        refine g_iload_n hw 1 dX7_readWriterLine_139 rfl ?_
        refine g_iconst (v := 3) hw dX7_readWriterLine_140 (by decide) ?_
        refine g_icmp_ne (tgt := 150) hw dX7_readWriterLine_141 (by decide) (fun hb32 => ?_) (fun hb32 => ?_)
        · have h := gF h hb32
          refine g_ldc2 hw dX7_readWriterLine_150 q1645 ?_
          exact wX7_readWriterLine_b153 hw hkf h
        · have h := gT h hb32
          refine g_ldc2 hw dX7_readWriterLine_144 q1491 ?_
          refine g_goto (tgt := 153) hw dX7_readWriterLine_147 (by decide) ?_
          exact wX7_readWriterLine_b153 hw hkf h
      · have h := gF h hb27
        refine g_aload_n hw 0 dX7_readWriterLine_122 rfl ?_
        refine g_iconst (v := 1) hw dX7_readWriterLine_123 (by decide) ?_
        refine sX7_243 hw rfl dX7_readWriterLine_124 rfl (gK2 hkf) hk20 h (fun M52 h => ?_)
        refine g_goto (tgt := 191) hw dX7_readWriterLine_127 (by decide) ?_
        refine g_sub hw (lv2 := [(0, .ref (gA G 268))]) [0] rfl ?_
        exact wX7_readWriterLine_b191 hw hkf h
    · have h := gT h hb22
      refine g_aload_n hw 0 dX7_readWriterLine_80 rfl ?_
      refine g_iconst (v := 4) hw dX7_readWriterLine_81 (by decide) ?_
      refine sX7_356 hw rfl dX7_readWriterLine_82 rfl (gK2 hkf) hk20 h (fun M54 h => ?_)
      refine g_aload_n hw 0 dX7_readWriterLine_85 rfl ?_
      obtain ⟨hk56, h⟩ := h
      obtain ⟨a57, e58, h⟩ := h
      refine gfX7_184 (q := some a57) hw rfl dX7_readWriterLine_86 hk56 e58 ?_
      refine g_iconst (v := 0) hw dX7_readWriterLine_89 (by decide) ?_
      refine g_aload_n hw 0 dX7_readWriterLine_90 rfl ?_
      refine gfX7_340 hw rfl dX7_readWriterLine_91 hk56 ?_
      obtain ⟨hk59, h⟩ := h
      obtain ⟨hi60, h⟩ := h
      refine g_iast (n := 0) hw dX7_readWriterLine_94 hk59 hi60 rfl ?_
      refine g_aload_n hw 0 dX7_readWriterLine_95 rfl ?_
      refine g_iconst (v := 0) hw dX7_readWriterLine_96 (by decide) ?_
      obtain ⟨n9, hn9, h⟩ := h
      refine sX7_359 hw rfl dX7_readWriterLine_97 rfl (gK2 hkf) hn9 hk56 h (fun M61 h => ?_)
      refine g_aload_n hw 0 dX7_readWriterLine_100 rfl ?_
      refine g_iconst (v := 0) hw dX7_readWriterLine_101 (by decide) ?_
      refine g_iconst (v := 0) hw dX7_readWriterLine_102 (by decide) ?_
      obtain ⟨hk63, h⟩ := h
      refine sX7_362 hw rfl dX7_readWriterLine_103 rfl (gK2 hkf) hk63 h (fun M64 h => ?_)
      refine g_goto (tgt := 191) hw dX7_readWriterLine_106 (by decide) ?_
      refine g_sub hw (lv2 := [(0, .ref (gA G 268))]) [0] rfl ?_
      exact wX7_readWriterLine_b191 hw hkf h
  · have h := gF h hb21
    exact g_vret hw dX7_readWriterLine_65 ⟨rfl, h⟩
def fX7_readWriterLine  (M : gM) (Q : gM → Prop) : Prop :=
  ∃ n, fX7_readWriterLine_L4 (fun l1_10 M11 => (if 0 ≤ l1_10 then gk M11 268 = 7 ∧ gdr (gR M11 268 50) (fun a14 => gk M11 a14 = 40 ∧ vp_in l1_10 (gl M11 a14) ∧ (if (gI M11 a14 l1_10.toNatClampNeg) < 0 then fX7_readWriterLine_b58 l1_10 M11 Q else fX7_wrong 3 M11 (fun M66 => fX7_readWriterLine_b58 l1_10 M66 Q))) else gk M11 268 = 7 ∧ fX7_wrong 1 M11 (fun M69 => fX7_readWriterLine_b58 l1_10 M69 Q))) Q n (-1) 0 M
theorem mX7_readWriterLine {kf : Nat} (hkf : 47 ≤ kf) (G : gG)  (M : gM) (Q : gM → Prop) (h : fX7_readWriterLine M Q) : gMet yX7_readWriterLine cX7_readWriterLine 3 (Option.none : Option FieldType) kf G M [.ref (gA G 268)] (gQv Q) gE0 := by
  refine g_intro (lv := [(0, .ref (gA G 268))]) (by decide) rfl rfl (fun w hw => ?_)
  unfold fX7_readWriterLine at h
  refine g_iconst (v := (-1)) hw dX7_readWriterLine_0 (by decide) ?_
  refine g_istore_n hw (lv2 := [(0, .ref (gA G 268)), (1, .int (-1))]) [1, 0] dX7_readWriterLine_1 rfl rfl ?_
  refine g_iconst (v := 0) hw dX7_readWriterLine_2 (by decide) ?_
  refine g_istore_n hw (lv2 := [(0, .ref (gA G 268)), (1, .int (-1)), (2, .int 0)]) [1, 2, 0] dX7_readWriterLine_3 rfl rfl ?_
  obtain ⟨n9, h⟩ := h
  refine wX7_readWriterLine_L4 hw hkf (fun l1_10 M11 h => ?_) n9 (-1) 0 M h
  refine g_iload_n hw 1 dX7_readWriterLine_32 rfl ?_
  refine g_if_ge (tgt := 44) hw dX7_readWriterLine_33 (by decide) (fun hb12 => ?_) (fun hb12 => ?_)
  · have h := gT h hb12
    refine g_aload_n hw 0 dX7_readWriterLine_44 rfl ?_
    obtain ⟨hk13, h⟩ := h
    obtain ⟨a14, e15, h⟩ := h
    refine gfX7_184 (q := some a14) hw rfl dX7_readWriterLine_45 hk13 e15 ?_
    refine g_iload_n hw 1 dX7_readWriterLine_48 rfl ?_
    obtain ⟨hk16, h⟩ := h
    obtain ⟨hi17, h⟩ := h
    refine g_iald (n := l1_10.toNatClampNeg) hw dX7_readWriterLine_49 hk16 hi17 rfl ?_
    refine g_if_lt (tgt := 58) hw dX7_readWriterLine_50 (by decide) (fun hb18 => ?_) (fun hb18 => ?_)
    · have h := gT h hb18
      exact wX7_readWriterLine_b58 hw hkf h
    · have h := gF h hb18
      refine g_aload_n hw 0 dX7_readWriterLine_53 rfl ?_
      refine g_iconst (v := 3) hw dX7_readWriterLine_54 (by decide) ?_
      refine sX7_243 hw rfl dX7_readWriterLine_55 rfl (gK2 hkf) hk13 h (fun M66 h => ?_)
      exact wX7_readWriterLine_b58 hw hkf h
  · have h := gF h hb12
    refine g_aload_n hw 0 dX7_readWriterLine_36 rfl ?_
    refine g_iconst (v := 1) hw dX7_readWriterLine_37 (by decide) ?_
    obtain ⟨hk68, h⟩ := h
    refine sX7_243 hw rfl dX7_readWriterLine_38 rfl (gK2 hkf) hk68 h (fun M69 h => ?_)
    refine g_goto (tgt := 58) hw dX7_readWriterLine_41 (by decide) ?_
    exact wX7_readWriterLine_b58 hw hkf h
theorem sX7_435 {y0 : MethodName} {cc : ByteArray} {nL : Nat} {ret : Option FieldType} {hh : List (Nat × Nat × Nat × Nat)} {kf : Nat} {G : gG} {Qv : Option Value → gM → Prop} {E : String → Nat → gM → Prop} {w : gM → Nat → List (Nat × Value) → List Value → Prop} {M : gM} {pc : Nat} {lv : List (Nat × Value)} {rest : List Value} (hw : gX y0 cc nL ret hh kf G Qv E w) (hy : y0.cls = RX7) {p1 : Int32} {Q : Int32 → gM → Prop} (d : decode cc pc = .ok (.invokestatic 435, 3)) (hrest : Nat.ble ((rest.map Value.category).sum) 8 = true) (hk : 2 + 1 ≤ kf) (h : fX7_isWriterNumber p1 M Q) (kk : ∀ r M1, Q r M1 → w M1 (pc + 3) lv (.int r :: rest)) : w M pc lv (.int p1 :: rest) := by
  obtain ⟨cls9, nm9, ds9⟩ := y0
  subst hy
  exact g_callS hw [.int p1] (nA := 1) rfl d q1638 q1639 q104 q1640 (by decide +kernel) rfl hrest rfl (by omega : kf - 1 + 1 ≤ kf) (mX7_isWriterNumber (kf := kf - 1) (by omega) G p1 M Q h) (fun _ _ _ q => q.elim) (fun v M1 h => by obtain ⟨r, rfl, h⟩ := h; exact kk r M1 h)
theorem sX7_438 {y0 : MethodName} {cc : ByteArray} {nL : Nat} {ret : Option FieldType} {hh : List (Nat × Nat × Nat × Nat)} {kf : Nat} {G : gG} {Qv : Option Value → gM → Prop} {E : String → Nat → gM → Prop} {w : gM → Nat → List (Nat × Value) → List Value → Prop} {M : gM} {pc : Nat} {lv : List (Nat × Value)} {rest : List Value} (hw : gX y0 cc nL ret hh kf G Qv E w) (hy : y0.cls = RX7)  {Q : gM → Prop} (d : decode cc pc = .ok (.invokevirtual 438, 3)) (hrest : Nat.ble ((rest.map Value.category).sum) 8 = true) (hk : 47 + 1 ≤ kf) (hkd : gk M 268 = 7) (h : fX7_readWriterLine M Q) (kk : ∀ M1, Q M1 → w M1 (pc + 3) lv rest) : w M pc lv (.ref (gA G 268) :: rest) := by
  obtain ⟨cls9, nm9, ds9⟩ := y0
  subst hy
  exact g_callV (r := (RX7, TX7, 58)) (ci := 6) hw [] (nA := 0) rfl d q1641 q1643 qs83 q104 q1644 (by decide +kernel) rfl rfl hrest rfl (by omega : kf - 1 + 1 ≤ kf) hkd (mX7_readWriterLine (kf := kf - 1) (by omega) G M Q h) (fun _ _ _ q => q.elim) (fun v M1 h => by obtain ⟨rfl, h⟩ := h; exact kk M1 h)
def fX7_writer_L35s (R35 : Int32 → gM → Prop) (K53_35 : gM → Prop) (l1_9 : Int32) (l2_10 : Int32) (M : gM) (Q : Int32 → gM → Prop) : Prop :=
  (if 4 ≤ l2_10 then K53_35 M else gk M 268 = 7 ∧ gdr (gR M 268 50) (fun a13 => gk M a13 = 40 ∧ vp_in l2_10 (gl M a13) ∧ R35 (l2_10 + 1) (gsI M a13 l2_10.toNatClampNeg (-1))))
def fX7_writer_L35 (K53_35 : gM → Prop) (l1_9 : Int32) (Q : Int32 → gM → Prop) : Nat → Int32 → gM → Prop
  | 0 => fun _ _ => False
  | n + 1 => fun l2_10 M => fX7_writer_L35s (fX7_writer_L35 K53_35 l1_9 Q n) K53_35 l1_9 l2_10 M Q
theorem wX7_writer_L35s {kf : Nat} {G : gG} {w : gM → Nat → List (Nat × Value) → List Value → Prop} {Q : Int32 → gM → Prop} (hw : gX yX7_writer cX7_writer 3 (Option.some FieldType.int) [] kf G (gQi Q) gE0 w) (hkf : 48 ≤ kf) {R35 : Int32 → gM → Prop} {K53_35 : gM → Prop} {l1_9 : Int32} {l2_10 : Int32} {M : gM} (hR35 : ∀ (v0 : Int32) (M : gM), R35 v0 M → w M 35 [(0, .ref (gA G 268)), (1, .int l1_9), (2, .int v0)] []) (hK53_35 : ∀  (M : gM), K53_35 M → w M 53 [(0, .ref (gA G 268)), (1, .int l1_9)] []) (h : fX7_writer_L35s R35 K53_35 l1_9 l2_10 M Q) : w M 35 [(0, .ref (gA G 268)), (1, .int l1_9), (2, .int l2_10)] [] := by
  unfold fX7_writer_L35s at h
  refine g_iload_n hw 2 dX7_writer_35 rfl ?_
  refine g_iconst (v := 4) hw dX7_writer_36 (by decide) ?_
  refine g_icmp_ge (tgt := 53) hw dX7_writer_37 (by decide) (fun hb11 => ?_) (fun hb11 => ?_)
  · have h := gT h hb11
    refine g_sub hw (lv2 := [(0, .ref (gA G 268)), (1, .int l1_9)]) [0, 1] rfl ?_
    exact hK53_35 M h
  · have h := gF h hb11
    refine g_aload_n hw 0 dX7_writer_40 rfl ?_
    obtain ⟨hk12, h⟩ := h
    obtain ⟨a13, e14, h⟩ := h
    refine gfX7_184 (q := some a13) hw rfl dX7_writer_41 hk12 e14 ?_
    refine g_iload_n hw 2 dX7_writer_44 rfl ?_
    refine g_iconst (v := (-1)) hw dX7_writer_45 (by decide) ?_
    obtain ⟨hk15, h⟩ := h
    obtain ⟨hi16, h⟩ := h
    refine g_iast (n := l2_10.toNatClampNeg) hw dX7_writer_46 hk15 hi16 rfl ?_
    refine g_iinc hw (lv2 := [(0, .ref (gA G 268)), (1, .int l1_9), (2, .int (l2_10 + 1))]) 2 [1, 2, 0] dX7_writer_47 rfl (by decide) rfl rfl ?_
    refine g_goto (tgt := 35) hw dX7_writer_50 (by decide) ?_
    exact hR35 (l2_10 + 1) (gsI M a13 l2_10.toNatClampNeg (-1)) h
theorem wX7_writer_L35 {kf : Nat} {G : gG} {w : gM → Nat → List (Nat × Value) → List Value → Prop} {Q : Int32 → gM → Prop} (hw : gX yX7_writer cX7_writer 3 (Option.some FieldType.int) [] kf G (gQi Q) gE0 w) (hkf : 48 ≤ kf) {K53_35 : gM → Prop} {l1_9 : Int32} (hK53_35 : ∀  (M : gM), K53_35 M → w M 53 [(0, .ref (gA G 268)), (1, .int l1_9)] []) : ∀ (n : Nat) (l2_10 : Int32) (M : gM), fX7_writer_L35 K53_35 l1_9 Q n l2_10 M → w M 35 [(0, .ref (gA G 268)), (1, .int l1_9), (2, .int l2_10)] [] := by
  intro n
  induction n with
  | zero => intro l2_10 M h; exact h.elim
  | succ n ih => intro l2_10 M h; exact wX7_writer_L35s hw hkf ih hK53_35 h
def fX7_writer_L53s (R53 : gM → Prop) (K79_53 : gM → Prop) (l1_18 : Int32) (M : gM) (Q : Int32 → gM → Prop) : Prop :=
  gk M 268 = 7 ∧ (if (gI M 268 8) = 0 then gdr (gR M 268 4) (fun a21 => gk M a21 = 40 ∧ vp_in (gI M 268 7) (gl M a21) ∧ (if (gI M a21 ((gI M 268 7).toNatClampNeg)) = 0 then K79_53 M else fX7_readWriterLine M (fun M26 => R53 M26))) else K79_53 M)
def fX7_writer_L53 (K79_53 : gM → Prop) (l1_18 : Int32) (Q : Int32 → gM → Prop) : Nat → gM → Prop
  | 0 => fun _ => False
  | n + 1 => fun M => fX7_writer_L53s (fX7_writer_L53 K79_53 l1_18 Q n) K79_53 l1_18 M Q
theorem wX7_writer_L53s {kf : Nat} {G : gG} {w : gM → Nat → List (Nat × Value) → List Value → Prop} {Q : Int32 → gM → Prop} (hw : gX yX7_writer cX7_writer 3 (Option.some FieldType.int) [] kf G (gQi Q) gE0 w) (hkf : 48 ≤ kf) {R53 : gM → Prop} {K79_53 : gM → Prop} {l1_18 : Int32} {M : gM} (hR53 : ∀  (M : gM), R53 M → w M 53 [(0, .ref (gA G 268)), (1, .int l1_18)] []) (hK79_53 : ∀  (M : gM), K79_53 M → w M 79 [(0, .ref (gA G 268)), (1, .int l1_18)] []) (h : fX7_writer_L53s R53 K79_53 l1_18 M Q) : w M 53 [(0, .ref (gA G 268)), (1, .int l1_18)] [] := by
  unfold fX7_writer_L53s at h
  refine g_aload_n hw 0 dX7_writer_53 rfl ?_
  obtain ⟨hk19, h⟩ := h
  refine gfX7_237 hw rfl dX7_writer_54 hk19 ?_
  refine g_if_ne (tgt := 79) hw dX7_writer_57 (by decide) (fun hb20 => ?_) (fun hb20 => ?_)
  · have h := gF h hb20
    exact hK79_53 M h
  · have h := gT h hb20
    refine g_aload_n hw 0 dX7_writer_60 rfl ?_
    obtain ⟨a21, e22, h⟩ := h
    refine gfX7_24 (q := some a21) hw rfl dX7_writer_61 hk19 e22 ?_
    refine g_aload_n hw 0 dX7_writer_64 rfl ?_
    refine gfX7_234 hw rfl dX7_writer_65 hk19 ?_
    obtain ⟨hk23, h⟩ := h
    obtain ⟨hi24, h⟩ := h
    refine g_iald (n := (gI M 268 7).toNatClampNeg) hw dX7_writer_68 hk23 hi24 rfl ?_
    refine g_if_eq (tgt := 79) hw dX7_writer_69 (by decide) (fun hb25 => ?_) (fun hb25 => ?_)
    · have h := gT h hb25
      exact hK79_53 M h
    · have h := gF h hb25
      refine g_aload_n hw 0 dX7_writer_72 rfl ?_
      refine sX7_438 hw rfl dX7_writer_73 rfl (gK2 hkf) hk19 h (fun M26 h => ?_)
      refine g_goto (tgt := 53) hw dX7_writer_76 (by decide) ?_
      exact hR53 M26 h
theorem wX7_writer_L53 {kf : Nat} {G : gG} {w : gM → Nat → List (Nat × Value) → List Value → Prop} {Q : Int32 → gM → Prop} (hw : gX yX7_writer cX7_writer 3 (Option.some FieldType.int) [] kf G (gQi Q) gE0 w) (hkf : 48 ≤ kf) {K79_53 : gM → Prop} {l1_18 : Int32} (hK79_53 : ∀  (M : gM), K79_53 M → w M 79 [(0, .ref (gA G 268)), (1, .int l1_18)] []) : ∀ (n : Nat)  (M : gM), fX7_writer_L53 K79_53 l1_18 Q n M → w M 53 [(0, .ref (gA G 268)), (1, .int l1_18)] [] := by
  intro n
  induction n with
  | zero => intro M h; exact h.elim
  | succ n ih => intro M h; exact wX7_writer_L53s hw hkf ih hK79_53 h
def fX7_writer_b160 (l1_72 : Int32) (s0_73 : Nat) (s1_74 : Int32) (s2_75 : Int32) (M : gM) (Q : Int32 → gM → Prop) : Prop :=
  gk M s0_73 = 40 ∧ vp_in s1_74 (gl M s0_73) ∧ gk (gsI M s0_73 s1_74.toNatClampNeg s2_75) 268 = 7 ∧ gdr (gR (gsI M s0_73 s1_74.toNatClampNeg s2_75) 268 49) (fun a79 => gdr (gR (gsI M s0_73 s1_74.toNatClampNeg s2_75) 268 50) (fun a81 => gk (gsI M s0_73 s1_74.toNatClampNeg s2_75) a81 = 40 ∧ vp_in 3 (gl (gsI M s0_73 s1_74.toNatClampNeg s2_75) a81) ∧ gk (gsI M s0_73 s1_74.toNatClampNeg s2_75) a79 = 40 ∧ vp_in l1_72 (gl (gsI M s0_73 s1_74.toNatClampNeg s2_75) a79) ∧ Q 0 (gsI (gsI M s0_73 s1_74.toNatClampNeg s2_75) a79 l1_72.toNatClampNeg (gI (gsI M s0_73 s1_74.toNatClampNeg s2_75) a81 3))))
theorem wX7_writer_b160 {kf : Nat} {G : gG} {w : gM → Nat → List (Nat × Value) → List Value → Prop} {Q : Int32 → gM → Prop} (hw : gX yX7_writer cX7_writer 3 (Option.some FieldType.int) [] kf G (gQi Q) gE0 w) (hkf : 48 ≤ kf)  {l1_72 : Int32} {s0_73 : Nat} {s1_74 : Int32} {s2_75 : Int32} {M : gM}  (h : fX7_writer_b160 l1_72 s0_73 s1_74 s2_75 M Q) : w M 160 [(0, .ref (gA G 268)), (1, .int l1_72)] [.int s2_75, .int s1_74, .ref (gA G s0_73)] := by
  unfold fX7_writer_b160 at h
  obtain ⟨hk76, h⟩ := h
  obtain ⟨hi77, h⟩ := h
  refine g_iast (n := s1_74.toNatClampNeg) hw dX7_writer_160 hk76 hi77 rfl ?_
  refine g_aload_n hw 0 dX7_writer_161 rfl ?_
  obtain ⟨hk78, h⟩ := h
  obtain ⟨a79, e80, h⟩ := h
  refine gfX7_181 (q := some a79) hw rfl dX7_writer_162 hk78 e80 ?_
  refine g_iload_n hw 1 dX7_writer_165 rfl ?_
  refine g_aload_n hw 0 dX7_writer_166 rfl ?_
  obtain ⟨a81, e82, h⟩ := h
  refine gfX7_184 (q := some a81) hw rfl dX7_writer_167 hk78 e82 ?_
  refine g_iconst (v := 3) hw dX7_writer_170 (by decide) ?_
  obtain ⟨hk83, h⟩ := h
  obtain ⟨hi84, h⟩ := h
  refine g_iald (n := 3) hw dX7_writer_171 hk83 hi84 rfl ?_
  obtain ⟨hk85, h⟩ := h
  obtain ⟨hi86, h⟩ := h
  refine g_iast (n := l1_72.toNatClampNeg) hw dX7_writer_172 hk85 hi86 rfl ?_
  refine g_iconst (v := 0) hw dX7_writer_173 (by decide) ?_
  exact g_iret hw dX7_writer_174 rfl ⟨_, rfl, h⟩
def fX7_writer_b134 (l1_54 : Int32) (s0_55 : Nat) (s1_56 : Int32) (s2_57 : Int32) (M : gM) (Q : Int32 → gM → Prop) : Prop :=
  gk M s0_55 = 40 ∧ vp_in s1_56 (gl M s0_55) ∧ gk (gsI M s0_55 s1_56.toNatClampNeg s2_57) 268 = 7 ∧ gdr (gR (gsI M s0_55 s1_56.toNatClampNeg s2_57) 268 48) (fun a61 => gdr (gR (gsI M s0_55 s1_56.toNatClampNeg s2_57) 268 50) (fun a63 => gk (gsI M s0_55 s1_56.toNatClampNeg s2_57) a63 = 40 ∧ vp_in 2 (gl (gsI M s0_55 s1_56.toNatClampNeg s2_57) a63) ∧ (if 0 ≤ (gI (gsI M s0_55 s1_56.toNatClampNeg s2_57) a63 2) then gdr (gR (gsI M s0_55 s1_56.toNatClampNeg s2_57) 268 50) (fun a68 => gk (gsI M s0_55 s1_56.toNatClampNeg s2_57) a68 = 40 ∧ vp_in 2 (gl (gsI M s0_55 s1_56.toNatClampNeg s2_57) a68) ∧ fX7_writer_b160 l1_54 a61 l1_54 (gI (gsI M s0_55 s1_56.toNatClampNeg s2_57) a68 2) (gsI M s0_55 s1_56.toNatClampNeg s2_57) Q) else fX7_writer_b160 l1_54 a61 l1_54 11 (gsI M s0_55 s1_56.toNatClampNeg s2_57) Q)))
theorem wX7_writer_b134 {kf : Nat} {G : gG} {w : gM → Nat → List (Nat × Value) → List Value → Prop} {Q : Int32 → gM → Prop} (hw : gX yX7_writer cX7_writer 3 (Option.some FieldType.int) [] kf G (gQi Q) gE0 w) (hkf : 48 ≤ kf)  {l1_54 : Int32} {s0_55 : Nat} {s1_56 : Int32} {s2_57 : Int32} {M : gM}  (h : fX7_writer_b134 l1_54 s0_55 s1_56 s2_57 M Q) : w M 134 [(0, .ref (gA G 268)), (1, .int l1_54)] [.int s2_57, .int s1_56, .ref (gA G s0_55)] := by
  unfold fX7_writer_b134 at h
  obtain ⟨hk58, h⟩ := h
  obtain ⟨hi59, h⟩ := h
  refine g_iast (n := s1_56.toNatClampNeg) hw dX7_writer_134 hk58 hi59 rfl ?_
  refine g_aload_n hw 0 dX7_writer_135 rfl ?_
  obtain ⟨hk60, h⟩ := h
  obtain ⟨a61, e62, h⟩ := h
  refine gfX7_178 (q := some a61) hw rfl dX7_writer_136 hk60 e62 ?_
  refine g_iload_n hw 1 dX7_writer_139 rfl ?_
  refine g_aload_n hw 0 dX7_writer_140 rfl ?_
  obtain ⟨a63, e64, h⟩ := h
  refine gfX7_184 (q := some a63) hw rfl dX7_writer_141 hk60 e64 ?_
  refine g_iconst (v := 2) hw dX7_writer_144 (by decide) ?_
  obtain ⟨hk65, h⟩ := h
  obtain ⟨hi66, h⟩ := h
  refine g_iald (n := 2) hw dX7_writer_145 hk65 hi66 rfl ?_
  refine g_if_ge (tgt := 154) hw dX7_writer_146 (by decide) (fun hb67 => ?_) (fun hb67 => ?_)
  · have h := gT h hb67
    refine g_aload_n hw 0 dX7_writer_154 rfl ?_
    obtain ⟨a68, e69, h⟩ := h
    refine gfX7_184 (q := some a68) hw rfl dX7_writer_155 hk60 e69 ?_
    refine g_iconst (v := 2) hw dX7_writer_158 (by decide) ?_
    obtain ⟨hk70, h⟩ := h
    obtain ⟨hi71, h⟩ := h
    refine g_iald (n := 2) hw dX7_writer_159 hk70 hi71 rfl ?_
    exact wX7_writer_b160 hw hkf h
  · have h := gF h hb67
    refine g_bipush (v := 11) hw dX7_writer_149 (by decide) ?_
    refine g_goto (tgt := 160) hw dX7_writer_151 (by decide) ?_
    exact wX7_writer_b160 hw hkf h
def fX7_writer_b79 (l1_29 : Int32) (M : gM) (Q : Int32 → gM → Prop) : Prop :=
  gk M 268 = 7 ∧ (if (gI M 268 8) ≤ 0 then fX7_keepsCodes (5 + l1_29) M (fun M32 => gk M32 268 = 7 ∧ gdr (gR M32 268 46) (fun a35 => gdr (gR M32 268 50) (fun a37 => gk M32 a37 = 40 ∧ vp_in 0 (gl M32 a37) ∧ gk M32 a35 = 40 ∧ vp_in l1_29 (gl M32 a35) ∧ gdr (gR (gsI M32 a35 l1_29.toNatClampNeg (gI M32 a37 0)) 268 47) (fun a43 => gdr (gR (gsI M32 a35 l1_29.toNatClampNeg (gI M32 a37 0)) 268 50) (fun a45 => gk (gsI M32 a35 l1_29.toNatClampNeg (gI M32 a37 0)) a45 = 40 ∧ vp_in 1 (gl (gsI M32 a35 l1_29.toNatClampNeg (gI M32 a37 0)) a45) ∧ (if 0 ≤ (gI (gsI M32 a35 l1_29.toNatClampNeg (gI M32 a37 0)) a45 1) then gdr (gR (gsI M32 a35 l1_29.toNatClampNeg (gI M32 a37 0)) 268 50) (fun a50 => gk (gsI M32 a35 l1_29.toNatClampNeg (gI M32 a37 0)) a50 = 40 ∧ vp_in 1 (gl (gsI M32 a35 l1_29.toNatClampNeg (gI M32 a37 0)) a50) ∧ fX7_writer_b134 l1_29 a43 l1_29 (gI (gsI M32 a35 l1_29.toNatClampNeg (gI M32 a37 0)) a50 1) (gsI M32 a35 l1_29.toNatClampNeg (gI M32 a37 0)) Q) else fX7_writer_b134 l1_29 a43 l1_29 0 (gsI M32 a35 l1_29.toNatClampNeg (gI M32 a37 0)) Q)))))) else Q (gI M 268 8) M)
theorem wX7_writer_b79 {kf : Nat} {G : gG} {w : gM → Nat → List (Nat × Value) → List Value → Prop} {Q : Int32 → gM → Prop} (hw : gX yX7_writer cX7_writer 3 (Option.some FieldType.int) [] kf G (gQi Q) gE0 w) (hkf : 48 ≤ kf)  {l1_29 : Int32} {M : gM}  (h : fX7_writer_b79 l1_29 M Q) : w M 79 [(0, .ref (gA G 268)), (1, .int l1_29)] [] := by
  unfold fX7_writer_b79 at h
  refine g_aload_n hw 0 dX7_writer_79 rfl ?_
  obtain ⟨hk30, h⟩ := h
  refine gfX7_237 hw rfl dX7_writer_80 hk30 ?_
  refine g_if_le (tgt := 91) hw dX7_writer_83 (by decide) (fun hb31 => ?_) (fun hb31 => ?_)
  · have h := gT h hb31
    refine g_aload_n hw 0 dX7_writer_91 rfl ?_
    refine g_iconst (v := 5) hw dX7_writer_92 (by decide) ?_
    refine g_iload_n hw 1 dX7_writer_93 rfl ?_
    refine g_iadd hw dX7_writer_94 ?_
    refine sX7_353 hw rfl dX7_writer_95 rfl (gK2 hkf) hk30 h (fun M32 h => ?_)
    refine g_aload_n hw 0 dX7_writer_98 rfl ?_
    obtain ⟨hk34, h⟩ := h
    obtain ⟨a35, e36, h⟩ := h
    refine gfX7_172 (q := some a35) hw rfl dX7_writer_99 hk34 e36 ?_
    refine g_iload_n hw 1 dX7_writer_102 rfl ?_
    refine g_aload_n hw 0 dX7_writer_103 rfl ?_
    obtain ⟨a37, e38, h⟩ := h
    refine gfX7_184 (q := some a37) hw rfl dX7_writer_104 hk34 e38 ?_
    refine g_iconst (v := 0) hw dX7_writer_107 (by decide) ?_
    obtain ⟨hk39, h⟩ := h
    obtain ⟨hi40, h⟩ := h
    refine g_iald (n := 0) hw dX7_writer_108 hk39 hi40 rfl ?_
    obtain ⟨hk41, h⟩ := h
    obtain ⟨hi42, h⟩ := h
    refine g_iast (n := l1_29.toNatClampNeg) hw dX7_writer_109 hk41 hi42 rfl ?_
    refine g_aload_n hw 0 dX7_writer_110 rfl ?_
    obtain ⟨a43, e44, h⟩ := h
    refine gfX7_175 (q := some a43) hw rfl dX7_writer_111 hk34 e44 ?_
    refine g_iload_n hw 1 dX7_writer_114 rfl ?_
    refine g_aload_n hw 0 dX7_writer_115 rfl ?_
    obtain ⟨a45, e46, h⟩ := h
    refine gfX7_184 (q := some a45) hw rfl dX7_writer_116 hk34 e46 ?_
    refine g_iconst (v := 1) hw dX7_writer_119 (by decide) ?_
    obtain ⟨hk47, h⟩ := h
    obtain ⟨hi48, h⟩ := h
    refine g_iald (n := 1) hw dX7_writer_120 hk47 hi48 rfl ?_
    refine g_if_ge (tgt := 128) hw dX7_writer_121 (by decide) (fun hb49 => ?_) (fun hb49 => ?_)
    · have h := gT h hb49
      refine g_aload_n hw 0 dX7_writer_128 rfl ?_
      obtain ⟨a50, e51, h⟩ := h
      refine gfX7_184 (q := some a50) hw rfl dX7_writer_129 hk34 e51 ?_
      refine g_iconst (v := 1) hw dX7_writer_132 (by decide) ?_
      obtain ⟨hk52, h⟩ := h
      obtain ⟨hi53, h⟩ := h
      refine g_iald (n := 1) hw dX7_writer_133 hk52 hi53 rfl ?_
      exact wX7_writer_b134 hw hkf h
    · have h := gF h hb49
      refine g_iconst (v := 0) hw dX7_writer_124 (by decide) ?_
      refine g_goto (tgt := 134) hw dX7_writer_125 (by decide) ?_
      exact wX7_writer_b134 hw hkf h
  · have h := gF h hb31
    refine g_aload_n hw 0 dX7_writer_86 rfl ?_
    refine gfX7_237 hw rfl dX7_writer_87 hk30 ?_
    exact g_iret hw dX7_writer_90 rfl ⟨_, rfl, h⟩
def fX7_writer (p1 : Int32) (M : gM) (Q : Int32 → gM → Prop) : Prop :=
  gk M 268 = 7 ∧ fX7_isWriterNumber p1 (gsI M 268 0 0) (fun r3 M2 => (if r3 = 0 then gk M2 268 = 7 ∧ Q (-1) (gsI M2 268 2 0) else gk M2 268 = 7 ∧ fX7_cutAll M2 (fun M6 => gk M6 268 = 7 ∧ ∃ n, fX7_writer_L35 (fun M17 => ∃ n, fX7_writer_L53 (fun M28 => fX7_writer_b79 p1 M28 Q) p1 Q n M17) p1 Q n 0 (gsI (gsI M6 268 32 0) 268 45 1))))
theorem mX7_writer {kf : Nat} (hkf : 48 ≤ kf) (G : gG) (p1 : Int32) (M : gM) (Q : Int32 → gM → Prop) (h : fX7_writer p1 M Q) : gMet yX7_writer cX7_writer 3 (Option.some FieldType.int) kf G M [.ref (gA G 268), .int p1] (gQi Q) gE0 := by
  refine g_intro (lv := [(0, .ref (gA G 268)), (1, .int p1)]) (by decide) rfl rfl (fun w hw => ?_)
  unfold fX7_writer at h
  refine g_aload_n hw 0 dX7_writer_0 rfl ?_
  refine g_iconst (v := 0) hw dX7_writer_1 (by decide) ?_
  obtain ⟨hk1, h⟩ := h
  refine pfX7_1 hw rfl dX7_writer_2 hk1 ?_
  refine g_iload_n hw 1 dX7_writer_5 rfl ?_
  refine sX7_435 hw rfl dX7_writer_6 rfl (gK2 hkf) h (fun r3 M2 h => ?_)
  refine g_if_ne (tgt := 19) hw dX7_writer_9 (by decide) (fun hb4 => ?_) (fun hb4 => ?_)
  · have h := gF h hb4
    refine g_aload_n hw 0 dX7_writer_19 rfl ?_
    obtain ⟨hk5, h⟩ := h
    refine sX7_343 hw rfl dX7_writer_20 rfl (gK2 hkf) hk5 h (fun M6 h => ?_)
    refine g_aload_n hw 0 dX7_writer_23 rfl ?_
    refine g_iconst (v := 0) hw dX7_writer_24 (by decide) ?_
    obtain ⟨hk8, h⟩ := h
    refine pfX7_340 hw rfl dX7_writer_25 hk8 ?_
    refine g_aload_n hw 0 dX7_writer_28 rfl ?_
    refine g_iconst (v := 1) hw dX7_writer_29 (by decide) ?_
    refine pfX7_346 hw rfl dX7_writer_30 hk8 (by decide) ?_
    refine g_iconst (v := 0) hw dX7_writer_33 (by decide) ?_
    refine g_istore_n hw (lv2 := [(0, .ref (gA G 268)), (1, .int p1), (2, .int 0)]) [1, 2, 0] dX7_writer_34 rfl rfl ?_
    obtain ⟨n9, h⟩ := h
    refine wX7_writer_L35 hw hkf (fun M17 h => ?_) n9 0 (gsI (gsI M6 268 32 0) 268 45 1) h
    obtain ⟨n9, h⟩ := h
    refine wX7_writer_L53 hw hkf (fun M28 h => ?_) n9 M17 h
    exact wX7_writer_b79 hw hkf h
  · have h := gT h hb4
    refine g_aload_n hw 0 dX7_writer_12 rfl ?_
    refine g_iconst (v := 0) hw dX7_writer_13 (by decide) ?_
    obtain ⟨hk87, h⟩ := h
    refine pfX7_11 hw rfl dX7_writer_14 hk87 ?_
    refine g_iconst (v := (-1)) hw dX7_writer_17 (by decide) ?_
    exact g_iret hw dX7_writer_18 rfl ⟨_, rfl, h⟩
def fX7_tenthsBy (p1 : Int32) (M : gM) (Q : Int32 → gM → Prop) : Prop :=
  gk M 268 = 7 ∧ gdr (gR M 268 49) (fun a2 => gk M a2 = 40 ∧ vp_in p1 (gl M a2) ∧ (if 0 ≤ (gI M a2 p1.toNatClampNeg) then gdr (gR M 268 49) (fun a7 => gk M a7 = 40 ∧ vp_in p1 (gl M a7) ∧ Q (gI M a7 p1.toNatClampNeg) M) else Q (gI M 268 15) M))
theorem mX7_tenthsBy {kf : Nat} (hkf : 1 ≤ kf) (G : gG) (p1 : Int32) (M : gM) (Q : Int32 → gM → Prop) (h : fX7_tenthsBy p1 M Q) : gMet yX7_tenthsBy cX7_tenthsBy 2 (Option.some FieldType.int) kf G M [.ref (gA G 268), .int p1] (gQi Q) gE0 := by
  refine g_intro (lv := [(0, .ref (gA G 268)), (1, .int p1)]) (by decide) rfl rfl (fun w hw => ?_)
  unfold fX7_tenthsBy at h
  refine g_aload_n hw 0 dX7_tenthsBy_0 rfl ?_
  obtain ⟨hk1, h⟩ := h
  obtain ⟨a2, e3, h⟩ := h
  refine gfX7_181 (q := some a2) hw rfl dX7_tenthsBy_1 hk1 e3 ?_
  refine g_iload_n hw 1 dX7_tenthsBy_4 rfl ?_
  obtain ⟨hk4, h⟩ := h
  obtain ⟨hi5, h⟩ := h
  refine g_iald (n := p1.toNatClampNeg) hw dX7_tenthsBy_5 hk4 hi5 rfl ?_
  refine g_if_ge (tgt := 16) hw dX7_tenthsBy_6 (by decide) (fun hb6 => ?_) (fun hb6 => ?_)
  · have h := gT h hb6
    refine g_aload_n hw 0 dX7_tenthsBy_16 rfl ?_
    obtain ⟨a7, e8, h⟩ := h
    refine gfX7_181 (q := some a7) hw rfl dX7_tenthsBy_17 hk1 e8 ?_
    refine g_iload_n hw 1 dX7_tenthsBy_20 rfl ?_
    obtain ⟨hk9, h⟩ := h
    obtain ⟨hi10, h⟩ := h
    refine g_iald (n := p1.toNatClampNeg) hw dX7_tenthsBy_21 hk9 hi10 rfl ?_
    exact g_iret hw dX7_tenthsBy_22 rfl ⟨_, rfl, h⟩
  · have h := gF h hb6
    refine g_aload_n hw 0 dX7_tenthsBy_9 rfl ?_
    refine gfX7_208 hw rfl dX7_tenthsBy_10 hk1 ?_
    refine g_goto (tgt := 22) hw dX7_tenthsBy_13 (by decide) ?_
    exact g_iret hw dX7_tenthsBy_22 rfl ⟨_, rfl, h⟩
