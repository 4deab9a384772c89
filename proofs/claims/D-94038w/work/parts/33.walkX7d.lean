set_option maxRecDepth 100000
def fX7_monthsOf_b34 (R5 : Int32 → Int32 → gM → Prop) (l1_1 : Int32) (l2_2 : Int32) (l4_12 : Int32) (s0_13 : Int32) (s1_14 : Int32) (M : gM) (Q : Int32 → gM → Prop) : Prop :=
  R5 (s0_13 + s1_14) (l4_12 + 1) M
theorem wX7_monthsOf_b34 {kf : Nat} {G : gG} {w : gM → Nat → List (Nat × Value) → List Value → Prop} {Q : Int32 → gM → Prop} (hw : gX yX7_monthsOf cX7_monthsOf 5 (Option.some FieldType.int) [] kf G (gQi Q) gE0 w) (hkf : 1 ≤ kf) {R5 : Int32 → Int32 → gM → Prop} {l1_1 : Int32} {l2_2 : Int32} {l4_12 : Int32} {s0_13 : Int32} {s1_14 : Int32} {M : gM} (hR5 : ∀ (v0 : Int32) (v1 : Int32) (M : gM), R5 v0 v1 M → w M 5 [(0, .ref (gA G 268)), (1, .int l1_1), (2, .int l2_2), (3, .int v0), (4, .int v1)] []) (h : fX7_monthsOf_b34 R5 l1_1 l2_2 l4_12 s0_13 s1_14 M Q) : w M 34 [(0, .ref (gA G 268)), (1, .int l1_1), (2, .int l2_2), (4, .int l4_12)] [.int s1_14, .int s0_13] := by
  unfold fX7_monthsOf_b34 at h
  refine g_iadd hw dX7_monthsOf_34 ?_
  refine g_istore_n hw (lv2 := [(0, .ref (gA G 268)), (1, .int l1_1), (2, .int l2_2), (3, .int (s0_13 + s1_14)), (4, .int l4_12)]) [1, 2, 3, 0, 4] dX7_monthsOf_35 rfl rfl ?_
  refine g_iinc hw (lv2 := [(0, .ref (gA G 268)), (1, .int l1_1), (2, .int l2_2), (3, .int (s0_13 + s1_14)), (4, .int (l4_12 + 1))]) 4 [1, 2, 3, 4, 0] dX7_monthsOf_36 rfl (by decide) rfl rfl ?_
  refine g_goto (tgt := 5) hw dX7_monthsOf_39 (by decide) ?_
  exact hR5 (s0_13 + s1_14) (l4_12 + 1) M h
def fX7_monthsOf_L5s (R5 : Int32 → Int32 → gM → Prop) (K42_5 : Int32 → gM → Prop) (l1_1 : Int32) (l2_2 : Int32) (l3_3 : Int32) (l4_4 : Int32) (M : gM) (Q : Int32 → gM → Prop) : Prop :=
  (if 12 ≤ l4_4 then K42_5 l3_3 M else gk M 268 = 7 ∧ gdr (gR M 268 18) (fun a7 => gk M a7 = 40 ∧ vp_in ((12 * l1_1) + l4_4) (gl M a7) ∧ (if (gI M a7 (((12 * l1_1) + l4_4).toNatClampNeg)) = l2_2 then fX7_monthsOf_b34 R5 l1_1 l2_2 l4_4 l3_3 1 M Q else fX7_monthsOf_b34 R5 l1_1 l2_2 l4_4 l3_3 0 M Q)))
def fX7_monthsOf_L5 (K42_5 : Int32 → gM → Prop) (l1_1 : Int32) (l2_2 : Int32) (Q : Int32 → gM → Prop) : Nat → Int32 → Int32 → gM → Prop
  | 0 => fun _ _ _ => False
  | n + 1 => fun l3_3 l4_4 M => fX7_monthsOf_L5s (fX7_monthsOf_L5 K42_5 l1_1 l2_2 Q n) K42_5 l1_1 l2_2 l3_3 l4_4 M Q
theorem wX7_monthsOf_L5s {kf : Nat} {G : gG} {w : gM → Nat → List (Nat × Value) → List Value → Prop} {Q : Int32 → gM → Prop} (hw : gX yX7_monthsOf cX7_monthsOf 5 (Option.some FieldType.int) [] kf G (gQi Q) gE0 w) (hkf : 1 ≤ kf) {R5 : Int32 → Int32 → gM → Prop} {K42_5 : Int32 → gM → Prop} {l1_1 : Int32} {l2_2 : Int32} {l3_3 : Int32} {l4_4 : Int32} {M : gM} (hR5 : ∀ (v0 : Int32) (v1 : Int32) (M : gM), R5 v0 v1 M → w M 5 [(0, .ref (gA G 268)), (1, .int l1_1), (2, .int l2_2), (3, .int v0), (4, .int v1)] []) (hK42_5 : ∀ (v0 : Int32) (M : gM), K42_5 v0 M → w M 42 [(3, .int v0)] []) (h : fX7_monthsOf_L5s R5 K42_5 l1_1 l2_2 l3_3 l4_4 M Q) : w M 5 [(0, .ref (gA G 268)), (1, .int l1_1), (2, .int l2_2), (3, .int l3_3), (4, .int l4_4)] [] := by
  unfold fX7_monthsOf_L5s at h
  refine g_iload hw 4 dX7_monthsOf_5 rfl ?_
  refine g_bipush (v := 12) hw dX7_monthsOf_7 (by decide) ?_
  refine g_icmp_ge (tgt := 42) hw dX7_monthsOf_9 (by decide) (fun hb5 => ?_) (fun hb5 => ?_)
  · have h := gT h hb5
    refine g_sub hw (lv2 := [(3, .int l3_3)]) [3] rfl ?_
    exact hK42_5 l3_3 M h
  · have h := gF h hb5
    refine g_iload_n hw 3 dX7_monthsOf_12 rfl ?_
    refine g_aload_n hw 0 dX7_monthsOf_13 rfl ?_
    obtain ⟨hk6, h⟩ := h
    obtain ⟨a7, e8, h⟩ := h
    refine gfX7_115 (q := some a7) hw rfl dX7_monthsOf_14 hk6 e8 ?_
    refine g_bipush (v := 12) hw dX7_monthsOf_17 (by decide) ?_
    refine g_iload_n hw 1 dX7_monthsOf_19 rfl ?_
    refine g_imul hw dX7_monthsOf_20 ?_
    refine g_iload hw 4 dX7_monthsOf_21 rfl ?_
    refine g_iadd hw dX7_monthsOf_23 ?_
    obtain ⟨hk9, h⟩ := h
    obtain ⟨hi10, h⟩ := h
    refine g_iald (n := ((12 * l1_1) + l4_4).toNatClampNeg) hw dX7_monthsOf_24 hk9 hi10 rfl ?_
    refine g_iload_n hw 2 dX7_monthsOf_25 rfl ?_
    refine g_icmp_ne (tgt := 33) hw dX7_monthsOf_26 (by decide) (fun hb11 => ?_) (fun hb11 => ?_)
    · have h := gF h hb11
      refine g_iconst (v := 0) hw dX7_monthsOf_33 (by decide) ?_
      refine g_sub hw (lv2 := [(0, .ref (gA G 268)), (1, .int l1_1), (2, .int l2_2), (4, .int l4_4)]) [0, 1, 2, 4] rfl ?_
      exact wX7_monthsOf_b34 hw hkf hR5 h
    · have h := gT h hb11
      refine g_iconst (v := 1) hw dX7_monthsOf_29 (by decide) ?_
      refine g_goto (tgt := 34) hw dX7_monthsOf_30 (by decide) ?_
      refine g_sub hw (lv2 := [(0, .ref (gA G 268)), (1, .int l1_1), (2, .int l2_2), (4, .int l4_4)]) [0, 1, 2, 4] rfl ?_
      exact wX7_monthsOf_b34 hw hkf hR5 h
theorem wX7_monthsOf_L5 {kf : Nat} {G : gG} {w : gM → Nat → List (Nat × Value) → List Value → Prop} {Q : Int32 → gM → Prop} (hw : gX yX7_monthsOf cX7_monthsOf 5 (Option.some FieldType.int) [] kf G (gQi Q) gE0 w) (hkf : 1 ≤ kf) {K42_5 : Int32 → gM → Prop} {l1_1 : Int32} {l2_2 : Int32} (hK42_5 : ∀ (v0 : Int32) (M : gM), K42_5 v0 M → w M 42 [(3, .int v0)] []) : ∀ (n : Nat) (l3_3 : Int32) (l4_4 : Int32) (M : gM), fX7_monthsOf_L5 K42_5 l1_1 l2_2 Q n l3_3 l4_4 M → w M 5 [(0, .ref (gA G 268)), (1, .int l1_1), (2, .int l2_2), (3, .int l3_3), (4, .int l4_4)] [] := by
  intro n
  induction n with
  | zero => intro l3_3 l4_4 M h; exact h.elim
  | succ n ih => intro l3_3 l4_4 M h; exact wX7_monthsOf_L5s hw hkf ih hK42_5 h
def fX7_monthsOf (p1 : Int32) (p2 : Int32) (M : gM) (Q : Int32 → gM → Prop) : Prop :=
  ∃ n, fX7_monthsOf_L5 (fun l3_15 M16 => Q l3_15 M16) p1 p2 Q n 0 0 M
theorem mX7_monthsOf {kf : Nat} (hkf : 1 ≤ kf) (G : gG) (p1 : Int32) (p2 : Int32) (M : gM) (Q : Int32 → gM → Prop) (h : fX7_monthsOf p1 p2 M Q) : gMet yX7_monthsOf cX7_monthsOf 5 (Option.some FieldType.int) kf G M [.ref (gA G 268), .int p1, .int p2] (gQi Q) gE0 := by
  refine g_intro (lv := [(0, .ref (gA G 268)), (1, .int p1), (2, .int p2)]) (by decide) rfl rfl (fun w hw => ?_)
  unfold fX7_monthsOf at h
  refine g_iconst (v := 0) hw dX7_monthsOf_0 (by decide) ?_
  refine g_istore_n hw (lv2 := [(0, .ref (gA G 268)), (1, .int p1), (2, .int p2), (3, .int 0)]) [1, 2, 3, 0] dX7_monthsOf_1 rfl rfl ?_
  refine g_iconst (v := 0) hw dX7_monthsOf_2 (by decide) ?_
  refine g_istore hw (lv2 := [(0, .ref (gA G 268)), (1, .int p1), (2, .int p2), (3, .int 0), (4, .int 0)]) [1, 2, 3, 4, 0] dX7_monthsOf_3 rfl rfl ?_
  obtain ⟨n9, h⟩ := h
  refine wX7_monthsOf_L5 hw hkf (fun l3_15 M16 h => ?_) n9 0 0 M h
  refine g_iload_n hw 0 dX7_monthsOf_42 rfl ?_
  exact g_iret hw dX7_monthsOf_43 rfl ⟨_, rfl, h⟩
theorem sX7_443 {y0 : MethodName} {cc : ByteArray} {nL : Nat} {ret : Option FieldType} {hh : List (Nat × Nat × Nat × Nat)} {kf : Nat} {G : gG} {Qv : Option Value → gM → Prop} {E : String → Nat → gM → Prop} {w : gM → Nat → List (Nat × Value) → List Value → Prop} {M : gM} {pc : Nat} {lv : List (Nat × Value)} {rest : List Value} (hw : gX y0 cc nL ret hh kf G Qv E w) (hy : y0.cls = RX7) {p1 : Int32} {p2 : Int32} {Q : Int32 → gM → Prop} (d : decode cc pc = .ok (.invokevirtual 443, 3)) (hrest : Nat.ble ((rest.map Value.category).sum) 8 = true) (hk : 1 + 1 ≤ kf) (hkd : gk M 268 = 7) (h : fX7_monthsOf p1 p2 M Q) (kk : ∀ r M1, Q r M1 → w M1 (pc + 3) lv (.int r :: rest)) : w M pc lv (.int p2 :: .int p1 :: .ref (gA G 268) :: rest) := by
  obtain ⟨cls9, nm9, ds9⟩ := y0
  subst hy
  exact g_callV (r := (RX7, TX7, 58)) (ci := 6) hw [.int p1, .int p2] (nA := 2) rfl d q1658 q1660 qs86 q104 q1661 (by decide +kernel) rfl rfl hrest rfl (by omega : kf - 1 + 1 ≤ kf) hkd (mX7_monthsOf (kf := kf - 1) (by omega) G p1 p2 M Q h) (fun _ _ _ q => q.elim) (fun v M1 h => by obtain ⟨r, rfl, h⟩ := h; exact kk r M1 h)
def fX7_doesTake_b145 (l1_90 : Int32) (l2_91 : Int32) (l3_92 : Int32) (l4_93 : Int32) (s0_94 : Nat) (s1_95 : Int32) (s2_96 : Int32) (M : gM) (Q : Int32 → gM → Prop) : Prop :=
  gk M s0_94 = 40 ∧ vp_in s1_95 (gl M s0_94) ∧ gk (gsI M s0_94 s1_95.toNatClampNeg s2_96) 268 = 7 ∧ gdr (gR (gsI M s0_94 s1_95.toNatClampNeg s2_96) 268 36) (fun a100 => gdr (gR (gsI M s0_94 s1_95.toNatClampNeg s2_96) 268 19) (fun a102 => gk (gsI M s0_94 s1_95.toNatClampNeg s2_96) a102 = 40 ∧ vp_in l4_93 (gl (gsI M s0_94 s1_95.toNatClampNeg s2_96) a102) ∧ gdr (gR (gsI M s0_94 s1_95.toNatClampNeg s2_96) 268 20) (fun a106 => gk (gsI M s0_94 s1_95.toNatClampNeg s2_96) a106 = 40 ∧ vp_in l4_93 (gl (gsI M s0_94 s1_95.toNatClampNeg s2_96) a106) ∧ gk (gsI M s0_94 s1_95.toNatClampNeg s2_96) a100 = 40 ∧ vp_in 7 (gl (gsI M s0_94 s1_95.toNatClampNeg s2_96) a100) ∧ gdr (gR (gsI (gsI M s0_94 s1_95.toNatClampNeg s2_96) a100 7 ((10 * (gI (gsI M s0_94 s1_95.toNatClampNeg s2_96) a102 l4_93.toNatClampNeg)) + (l3_92 * (gI (gsI M s0_94 s1_95.toNatClampNeg s2_96) a106 l4_93.toNatClampNeg)))) 268 36) (fun a112 => gk (gsI (gsI M s0_94 s1_95.toNatClampNeg s2_96) a100 7 ((10 * (gI (gsI M s0_94 s1_95.toNatClampNeg s2_96) a102 l4_93.toNatClampNeg)) + (l3_92 * (gI (gsI M s0_94 s1_95.toNatClampNeg s2_96) a106 l4_93.toNatClampNeg)))) a112 = 40 ∧ vp_in 8 (gl (gsI (gsI M s0_94 s1_95.toNatClampNeg s2_96) a100 7 ((10 * (gI (gsI M s0_94 s1_95.toNatClampNeg s2_96) a102 l4_93.toNatClampNeg)) + (l3_92 * (gI (gsI M s0_94 s1_95.toNatClampNeg s2_96) a106 l4_93.toNatClampNeg)))) a112) ∧ gdr (gR (gsI (gsI (gsI M s0_94 s1_95.toNatClampNeg s2_96) a100 7 ((10 * (gI (gsI M s0_94 s1_95.toNatClampNeg s2_96) a102 l4_93.toNatClampNeg)) + (l3_92 * (gI (gsI M s0_94 s1_95.toNatClampNeg s2_96) a106 l4_93.toNatClampNeg)))) a112 8 l2_91) 268 46) (fun a116 => gk (gsI (gsI (gsI M s0_94 s1_95.toNatClampNeg s2_96) a100 7 ((10 * (gI (gsI M s0_94 s1_95.toNatClampNeg s2_96) a102 l4_93.toNatClampNeg)) + (l3_92 * (gI (gsI M s0_94 s1_95.toNatClampNeg s2_96) a106 l4_93.toNatClampNeg)))) a112 8 l2_91) a116 = 40 ∧ vp_in l1_90 (gl (gsI (gsI (gsI M s0_94 s1_95.toNatClampNeg s2_96) a100 7 ((10 * (gI (gsI M s0_94 s1_95.toNatClampNeg s2_96) a102 l4_93.toNatClampNeg)) + (l3_92 * (gI (gsI M s0_94 s1_95.toNatClampNeg s2_96) a106 l4_93.toNatClampNeg)))) a112 8 l2_91) a116) ∧ fX7_worthAt ((1100 * (5 + l1_90)) + (gI (gsI (gsI (gsI M s0_94 s1_95.toNatClampNeg s2_96) a100 7 ((10 * (gI (gsI M s0_94 s1_95.toNatClampNeg s2_96) a102 l4_93.toNatClampNeg)) + (l3_92 * (gI (gsI M s0_94 s1_95.toNatClampNeg s2_96) a106 l4_93.toNatClampNeg)))) a112 8 l2_91) a116 l1_90.toNatClampNeg)) (gsI (gsI (gsI M s0_94 s1_95.toNatClampNeg s2_96) a100 7 ((10 * (gI (gsI M s0_94 s1_95.toNatClampNeg s2_96) a102 l4_93.toNatClampNeg)) + (l3_92 * (gI (gsI M s0_94 s1_95.toNatClampNeg s2_96) a106 l4_93.toNatClampNeg)))) a112 8 l2_91) (fun r121 M120 => (if r121 = 0 then Q 0 M120 else Q 1 M120)))))))
theorem wX7_doesTake_b145 {kf : Nat} {G : gG} {w : gM → Nat → List (Nat × Value) → List Value → Prop} {Q : Int32 → gM → Prop} (hw : gX yX7_doesTake cX7_doesTake 5 (Option.some FieldType.boolean) [] kf G (gQi Q) gE0 w) (hkf : 3 ≤ kf)  {l1_90 : Int32} {l2_91 : Int32} {l3_92 : Int32} {l4_93 : Int32} {s0_94 : Nat} {s1_95 : Int32} {s2_96 : Int32} {M : gM}  (h : fX7_doesTake_b145 l1_90 l2_91 l3_92 l4_93 s0_94 s1_95 s2_96 M Q) : w M 145 [(0, .ref (gA G 268)), (1, .int l1_90), (2, .int l2_91), (3, .int l3_92), (4, .int l4_93)] [.int s2_96, .int s1_95, .ref (gA G s0_94)] := by
  unfold fX7_doesTake_b145 at h
  obtain ⟨hk97, h⟩ := h
  obtain ⟨hi98, h⟩ := h
  refine g_iast (n := s1_95.toNatClampNeg) hw dX7_doesTake_145 hk97 hi98 rfl ?_
  refine g_aload_n hw 0 dX7_doesTake_146 rfl ?_
  obtain ⟨hk99, h⟩ := h
  obtain ⟨a100, e101, h⟩ := h
  refine gfX7_148 (q := some a100) hw rfl dX7_doesTake_147 hk99 e101 ?_
  refine g_bipush (v := 7) hw dX7_doesTake_150 (by decide) ?_
  refine g_bipush (v := 10) hw dX7_doesTake_152 (by decide) ?_
  refine g_aload_n hw 0 dX7_doesTake_154 rfl ?_
  obtain ⟨a102, e103, h⟩ := h
  refine gfX7_118 (q := some a102) hw rfl dX7_doesTake_155 hk99 e103 ?_
  refine g_iload hw 4 dX7_doesTake_158 rfl ?_
  obtain ⟨hk104, h⟩ := h
  obtain ⟨hi105, h⟩ := h
  refine g_iald (n := l4_93.toNatClampNeg) hw dX7_doesTake_160 hk104 hi105 rfl ?_
  refine g_imul hw dX7_doesTake_161 ?_
  refine g_iload_n hw 3 dX7_doesTake_162 rfl ?_
  refine g_aload_n hw 0 dX7_doesTake_163 rfl ?_
  obtain ⟨a106, e107, h⟩ := h
  refine gfX7_121 (q := some a106) hw rfl dX7_doesTake_164 hk99 e107 ?_
  refine g_iload hw 4 dX7_doesTake_167 rfl ?_
  obtain ⟨hk108, h⟩ := h
  obtain ⟨hi109, h⟩ := h
  refine g_iald (n := l4_93.toNatClampNeg) hw dX7_doesTake_169 hk108 hi109 rfl ?_
  refine g_imul hw dX7_doesTake_170 ?_
  refine g_iadd hw dX7_doesTake_171 ?_
  obtain ⟨hk110, h⟩ := h
  obtain ⟨hi111, h⟩ := h
  refine g_iast (n := 7) hw dX7_doesTake_172 hk110 hi111 rfl ?_
  refine g_aload_n hw 0 dX7_doesTake_173 rfl ?_
  obtain ⟨a112, e113, h⟩ := h
  refine gfX7_148 (q := some a112) hw rfl dX7_doesTake_174 hk99 e113 ?_
  refine g_bipush (v := 8) hw dX7_doesTake_177 (by decide) ?_
  refine g_iload_n hw 2 dX7_doesTake_179 rfl ?_
  obtain ⟨hk114, h⟩ := h
  obtain ⟨hi115, h⟩ := h
  refine g_iast (n := 8) hw dX7_doesTake_180 hk114 hi115 rfl ?_
  refine g_aload_n hw 0 dX7_doesTake_181 rfl ?_
  refine g_sipush (v := 1100) hw dX7_doesTake_182 (by decide) ?_
  refine g_iconst (v := 5) hw dX7_doesTake_185 (by decide) ?_
  refine g_iload_n hw 1 dX7_doesTake_186 rfl ?_
  refine g_iadd hw dX7_doesTake_187 ?_
  refine g_imul hw dX7_doesTake_188 ?_
  refine g_aload_n hw 0 dX7_doesTake_189 rfl ?_
  obtain ⟨a116, e117, h⟩ := h
  refine gfX7_172 (q := some a116) hw rfl dX7_doesTake_190 hk99 e117 ?_
  refine g_iload_n hw 1 dX7_doesTake_193 rfl ?_
  obtain ⟨hk118, h⟩ := h
  obtain ⟨hi119, h⟩ := h
  refine g_iald (n := l1_90.toNatClampNeg) hw dX7_doesTake_194 hk118 hi119 rfl ?_
  refine g_iadd hw dX7_doesTake_195 ?_
  refine sX7_388 hw rfl dX7_doesTake_196 rfl (gK2 hkf) hk99 h (fun r121 M120 h => ?_)
  refine g_if_eq (tgt := 206) hw dX7_doesTake_199 (by decide) (fun hb122 => ?_) (fun hb122 => ?_)
  · have h := gT h hb122
    refine g_iconst (v := 0) hw dX7_doesTake_206 (by decide) ?_
    exact g_iret hw dX7_doesTake_207 (by decide +kernel) ⟨_, rfl, h⟩
  · have h := gF h hb122
    refine g_iconst (v := 1) hw dX7_doesTake_202 (by decide) ?_
    refine g_goto (tgt := 207) hw dX7_doesTake_203 (by decide) ?_
    exact g_iret hw dX7_doesTake_207 (by decide +kernel) ⟨_, rfl, h⟩
def fX7_doesTake_b79 (l1_47 : Int32) (l2_48 : Int32) (l3_49 : Int32) (l4_50 : Int32) (s0_51 : Nat) (s1_52 : Int32) (s2_53 : Int32) (M : gM) (Q : Int32 → gM → Prop) : Prop :=
  gk M s0_51 = 40 ∧ vp_in s1_52 (gl M s0_51) ∧ gk (gsI M s0_51 s1_52.toNatClampNeg s2_53) 268 = 7 ∧ gdr (gR (gsI M s0_51 s1_52.toNatClampNeg s2_53) 268 36) (fun a57 => fX7_monthsOf l2_48 0 (gsI M s0_51 s1_52.toNatClampNeg s2_53) (fun r60 M59 => gk M59 a57 = 40 ∧ vp_in 4 (gl M59 a57) ∧ gk (gsI M59 a57 4 r60) 268 = 7 ∧ gdr (gR (gsI M59 a57 4 r60) 268 36) (fun a64 => fX7_monthsOf l2_48 2 (gsI M59 a57 4 r60) (fun r67 M66 => gk M66 a64 = 40 ∧ vp_in 5 (gl M66 a64) ∧ gk (gsI M66 a64 5 r67) 268 = 7 ∧ gdr (gR (gsI M66 a64 5 r67) 268 36) (fun a71 => gdr (gR (gsI M66 a64 5 r67) 268 12) (fun a73 => gk (gsI M66 a64 5 r67) a73 = 40 ∧ vp_in l2_48 (gl (gsI M66 a64 5 r67) a73) ∧ gdr (gR (gsI M66 a64 5 r67) 268 16) (fun a77 => gdr (gR (gsI M66 a64 5 r67) 268 11) (fun a79 => gk (gsI M66 a64 5 r67) a79 = 40 ∧ vp_in l2_48 (gl (gsI M66 a64 5 r67) a79) ∧ gdr (gR (gsI M66 a64 5 r67) 268 48) (fun a83 => gk (gsI M66 a64 5 r67) a83 = 40 ∧ vp_in l1_47 (gl (gsI M66 a64 5 r67) a83) ∧ gk (gsI M66 a64 5 r67) a77 = 40 ∧ vp_in ((12 * (gI (gsI M66 a64 5 r67) a79 l2_48.toNatClampNeg)) + (gI (gsI M66 a64 5 r67) a83 l1_47.toNatClampNeg)) (gl (gsI M66 a64 5 r67) a77) ∧ (if (gI (gsI M66 a64 5 r67) a77 (((12 * (gI (gsI M66 a64 5 r67) a79 l2_48.toNatClampNeg)) + (gI (gsI M66 a64 5 r67) a83 l1_47.toNatClampNeg)).toNatClampNeg)) ≤ (gI (gsI M66 a64 5 r67) a73 l2_48.toNatClampNeg) then fX7_doesTake_b145 l1_47 l2_48 l3_49 l4_50 a71 6 0 (gsI M66 a64 5 r67) Q else fX7_doesTake_b145 l1_47 l2_48 l3_49 l4_50 a71 6 1 (gsI M66 a64 5 r67) Q))))))))))
theorem wX7_doesTake_b79 {kf : Nat} {G : gG} {w : gM → Nat → List (Nat × Value) → List Value → Prop} {Q : Int32 → gM → Prop} (hw : gX yX7_doesTake cX7_doesTake 5 (Option.some FieldType.boolean) [] kf G (gQi Q) gE0 w) (hkf : 3 ≤ kf)  {l1_47 : Int32} {l2_48 : Int32} {l3_49 : Int32} {l4_50 : Int32} {s0_51 : Nat} {s1_52 : Int32} {s2_53 : Int32} {M : gM}  (h : fX7_doesTake_b79 l1_47 l2_48 l3_49 l4_50 s0_51 s1_52 s2_53 M Q) : w M 79 [(0, .ref (gA G 268)), (1, .int l1_47), (2, .int l2_48), (3, .int l3_49), (4, .int l4_50)] [.int s2_53, .int s1_52, .ref (gA G s0_51)] := by
  unfold fX7_doesTake_b79 at h
  obtain ⟨hk54, h⟩ := h
  obtain ⟨hi55, h⟩ := h
  refine g_iast (n := s1_52.toNatClampNeg) hw dX7_doesTake_79 hk54 hi55 rfl ?_
  refine g_aload_n hw 0 dX7_doesTake_80 rfl ?_
  obtain ⟨hk56, h⟩ := h
  obtain ⟨a57, e58, h⟩ := h
  refine gfX7_148 (q := some a57) hw rfl dX7_doesTake_81 hk56 e58 ?_
  refine g_iconst (v := 4) hw dX7_doesTake_84 (by decide) ?_
  refine g_aload_n hw 0 dX7_doesTake_85 rfl ?_
  refine g_iload_n hw 2 dX7_doesTake_86 rfl ?_
  refine g_iconst (v := 0) hw dX7_doesTake_87 (by decide) ?_
  refine sX7_443 hw rfl dX7_doesTake_88 rfl (gK2 hkf) hk56 h (fun r60 M59 h => ?_)
  obtain ⟨hk61, h⟩ := h
  obtain ⟨hi62, h⟩ := h
  refine g_iast (n := 4) hw dX7_doesTake_91 hk61 hi62 rfl ?_
  refine g_aload_n hw 0 dX7_doesTake_92 rfl ?_
  obtain ⟨hk63, h⟩ := h
  obtain ⟨a64, e65, h⟩ := h
  refine gfX7_148 (q := some a64) hw rfl dX7_doesTake_93 hk63 e65 ?_
  refine g_iconst (v := 5) hw dX7_doesTake_96 (by decide) ?_
  refine g_aload_n hw 0 dX7_doesTake_97 rfl ?_
  refine g_iload_n hw 2 dX7_doesTake_98 rfl ?_
  refine g_iconst (v := 2) hw dX7_doesTake_99 (by decide) ?_
  refine sX7_443 hw rfl dX7_doesTake_100 rfl (gK2 hkf) hk63 h (fun r67 M66 h => ?_)
  obtain ⟨hk68, h⟩ := h
  obtain ⟨hi69, h⟩ := h
  refine g_iast (n := 5) hw dX7_doesTake_103 hk68 hi69 rfl ?_
  refine g_aload_n hw 0 dX7_doesTake_104 rfl ?_
  obtain ⟨hk70, h⟩ := h
  obtain ⟨a71, e72, h⟩ := h
  refine gfX7_148 (q := some a71) hw rfl dX7_doesTake_105 hk70 e72 ?_
  refine g_bipush (v := 6) hw dX7_doesTake_108 (by decide) ?_
  refine g_aload_n hw 0 dX7_doesTake_110 rfl ?_
  obtain ⟨a73, e74, h⟩ := h
  refine gfX7_100 (q := some a73) hw rfl dX7_doesTake_111 hk70 e74 ?_
  refine g_iload_n hw 2 dX7_doesTake_114 rfl ?_
  obtain ⟨hk75, h⟩ := h
  obtain ⟨hi76, h⟩ := h
  refine g_iald (n := l2_48.toNatClampNeg) hw dX7_doesTake_115 hk75 hi76 rfl ?_
  refine g_aload_n hw 0 dX7_doesTake_116 rfl ?_
  obtain ⟨a77, e78, h⟩ := h
  refine gfX7_109 (q := some a77) hw rfl dX7_doesTake_117 hk70 e78 ?_
  refine g_bipush (v := 12) hw dX7_doesTake_120 (by decide) ?_
  refine g_aload_n hw 0 dX7_doesTake_122 rfl ?_
  obtain ⟨a79, e80, h⟩ := h
  refine gfX7_97 (q := some a79) hw rfl dX7_doesTake_123 hk70 e80 ?_
  refine g_iload_n hw 2 dX7_doesTake_126 rfl ?_
  obtain ⟨hk81, h⟩ := h
  obtain ⟨hi82, h⟩ := h
  refine g_iald (n := l2_48.toNatClampNeg) hw dX7_doesTake_127 hk81 hi82 rfl ?_
  refine g_imul hw dX7_doesTake_128 ?_
  refine g_aload_n hw 0 dX7_doesTake_129 rfl ?_
  obtain ⟨a83, e84, h⟩ := h
  refine gfX7_178 (q := some a83) hw rfl dX7_doesTake_130 hk70 e84 ?_
  refine g_iload_n hw 1 dX7_doesTake_133 rfl ?_
  obtain ⟨hk85, h⟩ := h
  obtain ⟨hi86, h⟩ := h
  refine g_iald (n := l1_47.toNatClampNeg) hw dX7_doesTake_134 hk85 hi86 rfl ?_
  refine g_iadd hw dX7_doesTake_135 ?_
  obtain ⟨hk87, h⟩ := h
  obtain ⟨hi88, h⟩ := h
  refine g_iald (n := ((12 * (gI (gsI M66 a64 5 r67) a79 l2_48.toNatClampNeg)) + (gI (gsI M66 a64 5 r67) a83 l1_47.toNatClampNeg)).toNatClampNeg) hw dX7_doesTake_136 hk87 hi88 rfl ?_
  refine g_icmp_ge (tgt := 144) hw dX7_doesTake_137 (by decide) (fun hb89 => ?_) (fun hb89 => ?_)
  · have h := gT h hb89
    refine g_iconst (v := 0) hw dX7_doesTake_144 (by decide) ?_
    exact wX7_doesTake_b145 hw hkf h
  · have h := gF h hb89
    refine g_iconst (v := 1) hw dX7_doesTake_140 (by decide) ?_
    refine g_goto (tgt := 145) hw dX7_doesTake_141 (by decide) ?_
    exact wX7_doesTake_b145 hw hkf h
def fX7_doesTake_b60 (l1_35 : Int32) (l2_36 : Int32) (l3_37 : Int32) (l4_38 : Int32) (M : gM) (Q : Int32 → gM → Prop) : Prop :=
  gk M 268 = 7 ∧ gdr (gR M 268 36) (fun a40 => gdr (gR M 268 14) (fun a42 => gk M a42 = 43 ∧ vp_in l2_36 (gl M a42) ∧ (if (gI M a42 l2_36.toNatClampNeg) = 0 then fX7_doesTake_b79 l1_35 l2_36 l3_37 l4_38 a40 3 0 M Q else fX7_doesTake_b79 l1_35 l2_36 l3_37 l4_38 a40 3 1 M Q)))
theorem wX7_doesTake_b60 {kf : Nat} {G : gG} {w : gM → Nat → List (Nat × Value) → List Value → Prop} {Q : Int32 → gM → Prop} (hw : gX yX7_doesTake cX7_doesTake 5 (Option.some FieldType.boolean) [] kf G (gQi Q) gE0 w) (hkf : 3 ≤ kf)  {l1_35 : Int32} {l2_36 : Int32} {l3_37 : Int32} {l4_38 : Int32} {M : gM}  (h : fX7_doesTake_b60 l1_35 l2_36 l3_37 l4_38 M Q) : w M 60 [(0, .ref (gA G 268)), (1, .int l1_35), (2, .int l2_36), (3, .int l3_37), (4, .int l4_38)] [] := by
  unfold fX7_doesTake_b60 at h
  refine g_aload_n hw 0 dX7_doesTake_60 rfl ?_
  obtain ⟨hk39, h⟩ := h
  obtain ⟨a40, e41, h⟩ := h
  refine gfX7_148 (q := some a40) hw rfl dX7_doesTake_61 hk39 e41 ?_
  refine g_iconst (v := 3) hw dX7_doesTake_64 (by decide) ?_
  refine g_aload_n hw 0 dX7_doesTake_65 rfl ?_
  obtain ⟨a42, e43, h⟩ := h
  refine gfX7_106 (q := some a42) hw rfl dX7_doesTake_66 hk39 e43 ?_
  refine g_iload_n hw 2 dX7_doesTake_69 rfl ?_
  obtain ⟨hk44, h⟩ := h
  obtain ⟨hi45, h⟩ := h
  refine g_zald (n := l2_36.toNatClampNeg) hw dX7_doesTake_70 hk44 hi45 rfl ?_
  refine g_if_eq (tgt := 78) hw dX7_doesTake_71 (by decide) (fun hb46 => ?_) (fun hb46 => ?_)
  · have h := gT h hb46
    refine g_iconst (v := 0) hw dX7_doesTake_78 (by decide) ?_
    exact wX7_doesTake_b79 hw hkf h
  · have h := gF h hb46
    refine g_iconst (v := 1) hw dX7_doesTake_74 (by decide) ?_
    refine g_goto (tgt := 79) hw dX7_doesTake_75 (by decide) ?_
    exact wX7_doesTake_b79 hw hkf h
def fX7_doesTake (p1 : Int32) (p2 : Int32) (p3 : Int32) (M : gM) (Q : Int32 → gM → Prop) : Prop :=
  gk M 268 = 7 ∧ gdr (gR M 268 46) (fun a2 => gk M a2 = 40 ∧ vp_in p1 (gl M a2) ∧ (if 0 ≤ (gI M a2 p1.toNatClampNeg) then gdr (gR M 268 47) (fun a7 => gk M a7 = 40 ∧ vp_in p1 (gl M a7) ∧ gdr (gR M 268 36) (fun a11 => gdr (gR M 268 11) (fun a13 => gk M a13 = 40 ∧ vp_in p2 (gl M a13) ∧ gk M a11 = 40 ∧ vp_in 0 (gl M a11) ∧ gdr (gR (gsI M a11 0 (gI M a13 p2.toNatClampNeg)) 268 36) (fun a19 => gdr (gR (gsI M a11 0 (gI M a13 p2.toNatClampNeg)) 268 12) (fun a21 => gk (gsI M a11 0 (gI M a13 p2.toNatClampNeg)) a21 = 40 ∧ vp_in p2 (gl (gsI M a11 0 (gI M a13 p2.toNatClampNeg)) a21) ∧ gk (gsI M a11 0 (gI M a13 p2.toNatClampNeg)) a19 = 40 ∧ vp_in 1 (gl (gsI M a11 0 (gI M a13 p2.toNatClampNeg)) a19) ∧ gdr (gR (gsI (gsI M a11 0 (gI M a13 p2.toNatClampNeg)) a19 1 (gI (gsI M a11 0 (gI M a13 p2.toNatClampNeg)) a21 p2.toNatClampNeg)) 268 36) (fun a27 => gdr (gR (gsI (gsI M a11 0 (gI M a13 p2.toNatClampNeg)) a19 1 (gI (gsI M a11 0 (gI M a13 p2.toNatClampNeg)) a21 p2.toNatClampNeg)) 268 13) (fun a29 => gk (gsI (gsI M a11 0 (gI M a13 p2.toNatClampNeg)) a19 1 (gI (gsI M a11 0 (gI M a13 p2.toNatClampNeg)) a21 p2.toNatClampNeg)) a29 = 40 ∧ vp_in p2 (gl (gsI (gsI M a11 0 (gI M a13 p2.toNatClampNeg)) a19 1 (gI (gsI M a11 0 (gI M a13 p2.toNatClampNeg)) a21 p2.toNatClampNeg)) a29) ∧ gk (gsI (gsI M a11 0 (gI M a13 p2.toNatClampNeg)) a19 1 (gI (gsI M a11 0 (gI M a13 p2.toNatClampNeg)) a21 p2.toNatClampNeg)) a27 = 40 ∧ vp_in 2 (gl (gsI (gsI M a11 0 (gI M a13 p2.toNatClampNeg)) a19 1 (gI (gsI M a11 0 (gI M a13 p2.toNatClampNeg)) a21 p2.toNatClampNeg)) a27) ∧ fX7_doesTake_b60 p1 p2 p3 ((12 * p2) + (gI M a7 p1.toNatClampNeg)) (gsI (gsI (gsI M a11 0 (gI M a13 p2.toNatClampNeg)) a19 1 (gI (gsI M a11 0 (gI M a13 p2.toNatClampNeg)) a21 p2.toNatClampNeg)) a27 2 (gI (gsI (gsI M a11 0 (gI M a13 p2.toNatClampNeg)) a19 1 (gI (gsI M a11 0 (gI M a13 p2.toNatClampNeg)) a21 p2.toNatClampNeg)) a29 p2.toNatClampNeg)) Q))))))) else Q 1 M))
theorem mX7_doesTake {kf : Nat} (hkf : 3 ≤ kf) (G : gG) (p1 : Int32) (p2 : Int32) (p3 : Int32) (M : gM) (Q : Int32 → gM → Prop) (h : fX7_doesTake p1 p2 p3 M Q) : gMet yX7_doesTake cX7_doesTake 5 (Option.some FieldType.boolean) kf G M [.ref (gA G 268), .int p1, .int p2, .int p3] (gQi Q) gE0 := by
  refine g_intro (lv := [(0, .ref (gA G 268)), (1, .int p1), (2, .int p2), (3, .int p3)]) (by decide) rfl rfl (fun w hw => ?_)
  unfold fX7_doesTake at h
  refine g_aload_n hw 0 dX7_doesTake_0 rfl ?_
  obtain ⟨hk1, h⟩ := h
  obtain ⟨a2, e3, h⟩ := h
  refine gfX7_172 (q := some a2) hw rfl dX7_doesTake_1 hk1 e3 ?_
  refine g_iload_n hw 1 dX7_doesTake_4 rfl ?_
  obtain ⟨hk4, h⟩ := h
  obtain ⟨hi5, h⟩ := h
  refine g_iald (n := p1.toNatClampNeg) hw dX7_doesTake_5 hk4 hi5 rfl ?_
  refine g_if_ge (tgt := 11) hw dX7_doesTake_6 (by decide) (fun hb6 => ?_) (fun hb6 => ?_)
  · have h := gT h hb6
    refine g_bipush (v := 12) hw dX7_doesTake_11 (by decide) ?_
    refine g_iload_n hw 2 dX7_doesTake_13 rfl ?_
    refine g_imul hw dX7_doesTake_14 ?_
    refine g_aload_n hw 0 dX7_doesTake_15 rfl ?_
    obtain ⟨a7, e8, h⟩ := h
    refine gfX7_175 (q := some a7) hw rfl dX7_doesTake_16 hk1 e8 ?_
    refine g_iload_n hw 1 dX7_doesTake_19 rfl ?_
    obtain ⟨hk9, h⟩ := h
    obtain ⟨hi10, h⟩ := h
    refine g_iald (n := p1.toNatClampNeg) hw dX7_doesTake_20 hk9 hi10 rfl ?_
    refine g_iadd hw dX7_doesTake_21 ?_
    refine g_istore hw (lv2 := [(0, .ref (gA G 268)), (1, .int p1), (2, .int p2), (3, .int p3), (4, .int ((12 * p2) + (gI M a7 p1.toNatClampNeg)))]) [1, 2, 3, 4, 0] dX7_doesTake_22 rfl rfl ?_
    refine g_aload_n hw 0 dX7_doesTake_24 rfl ?_
    obtain ⟨a11, e12, h⟩ := h
    refine gfX7_148 (q := some a11) hw rfl dX7_doesTake_25 hk1 e12 ?_
    refine g_iconst (v := 0) hw dX7_doesTake_28 (by decide) ?_
    refine g_aload_n hw 0 dX7_doesTake_29 rfl ?_
    obtain ⟨a13, e14, h⟩ := h
    refine gfX7_97 (q := some a13) hw rfl dX7_doesTake_30 hk1 e14 ?_
    refine g_iload_n hw 2 dX7_doesTake_33 rfl ?_
    obtain ⟨hk15, h⟩ := h
    obtain ⟨hi16, h⟩ := h
    refine g_iald (n := p2.toNatClampNeg) hw dX7_doesTake_34 hk15 hi16 rfl ?_
    obtain ⟨hk17, h⟩ := h
    obtain ⟨hi18, h⟩ := h
    refine g_iast (n := 0) hw dX7_doesTake_35 hk17 hi18 rfl ?_
    refine g_aload_n hw 0 dX7_doesTake_36 rfl ?_
    obtain ⟨a19, e20, h⟩ := h
    refine gfX7_148 (q := some a19) hw rfl dX7_doesTake_37 hk1 e20 ?_
    refine g_iconst (v := 1) hw dX7_doesTake_40 (by decide) ?_
    refine g_aload_n hw 0 dX7_doesTake_41 rfl ?_
    obtain ⟨a21, e22, h⟩ := h
    refine gfX7_100 (q := some a21) hw rfl dX7_doesTake_42 hk1 e22 ?_
    refine g_iload_n hw 2 dX7_doesTake_45 rfl ?_
    obtain ⟨hk23, h⟩ := h
    obtain ⟨hi24, h⟩ := h
    refine g_iald (n := p2.toNatClampNeg) hw dX7_doesTake_46 hk23 hi24 rfl ?_
    obtain ⟨hk25, h⟩ := h
    obtain ⟨hi26, h⟩ := h
    refine g_iast (n := 1) hw dX7_doesTake_47 hk25 hi26 rfl ?_
    refine g_aload_n hw 0 dX7_doesTake_48 rfl ?_
    obtain ⟨a27, e28, h⟩ := h
    refine gfX7_148 (q := some a27) hw rfl dX7_doesTake_49 hk1 e28 ?_
    refine g_iconst (v := 2) hw dX7_doesTake_52 (by decide) ?_
    refine g_aload_n hw 0 dX7_doesTake_53 rfl ?_
    obtain ⟨a29, e30, h⟩ := h
    refine gfX7_103 (q := some a29) hw rfl dX7_doesTake_54 hk1 e30 ?_
    refine g_iload_n hw 2 dX7_doesTake_57 rfl ?_
    obtain ⟨hk31, h⟩ := h
    obtain ⟨hi32, h⟩ := h
    refine g_iald (n := p2.toNatClampNeg) hw dX7_doesTake_58 hk31 hi32 rfl ?_
    obtain ⟨hk33, h⟩ := h
    obtain ⟨hi34, h⟩ := h
    refine g_iast (n := 2) hw dX7_doesTake_59 hk33 hi34 rfl ?_
    exact wX7_doesTake_b60 hw hkf h
  · have h := gF h hb6
    refine g_iconst (v := 1) hw dX7_doesTake_9 (by decide) ?_
    exact g_iret hw dX7_doesTake_10 (by decide +kernel) ⟨_, rfl, h⟩
theorem sX7_446 {y0 : MethodName} {cc : ByteArray} {nL : Nat} {ret : Option FieldType} {hh : List (Nat × Nat × Nat × Nat)} {kf : Nat} {G : gG} {Qv : Option Value → gM → Prop} {E : String → Nat → gM → Prop} {w : gM → Nat → List (Nat × Value) → List Value → Prop} {M : gM} {pc : Nat} {lv : List (Nat × Value)} {rest : List Value} (hw : gX y0 cc nL ret hh kf G Qv E w) (hy : y0.cls = RX7) {p1 : Int32} {Q : Int32 → gM → Prop} (d : decode cc pc = .ok (.invokevirtual 446, 3)) (hrest : Nat.ble ((rest.map Value.category).sum) 8 = true) (hk : 1 + 1 ≤ kf) (hkd : gk M 268 = 7) (h : fX7_tenthsBy p1 M Q) (kk : ∀ r M1, Q r M1 → w M1 (pc + 3) lv (.int r :: rest)) : w M pc lv (.int p1 :: .ref (gA G 268) :: rest) := by
  obtain ⟨cls9, nm9, ds9⟩ := y0
  subst hy
  exact g_callV (r := (RX7, TX7, 58)) (ci := 6) hw [.int p1] (nA := 1) rfl d q1650 q1652 qs84 q104 q1653 (by decide +kernel) rfl rfl hrest rfl (by omega : kf - 1 + 1 ≤ kf) hkd (mX7_tenthsBy (kf := kf - 1) (by omega) G p1 M Q h) (fun _ _ _ q => q.elim) (fun v M1 h => by obtain ⟨r, rfl, h⟩ := h; exact kk r M1 h)
theorem sX7_449 {y0 : MethodName} {cc : ByteArray} {nL : Nat} {ret : Option FieldType} {hh : List (Nat × Nat × Nat × Nat)} {kf : Nat} {G : gG} {Qv : Option Value → gM → Prop} {E : String → Nat → gM → Prop} {w : gM → Nat → List (Nat × Value) → List Value → Prop} {M : gM} {pc : Nat} {lv : List (Nat × Value)} {rest : List Value} (hw : gX y0 cc nL ret hh kf G Qv E w) (hy : y0.cls = RX7) {p1 : Int32} {p2 : Int32} {p3 : Int32} {Q : Int32 → gM → Prop} (d : decode cc pc = .ok (.invokevirtual 449, 3)) (hrest : Nat.ble ((rest.map Value.category).sum) 8 = true) (hk : 3 + 1 ≤ kf) (hkd : gk M 268 = 7) (h : fX7_doesTake p1 p2 p3 M Q) (kk : ∀ r M1, Q r M1 → w M1 (pc + 3) lv (.int r :: rest)) : w M pc lv (.int p3 :: .int p2 :: .int p1 :: .ref (gA G 268) :: rest) := by
  obtain ⟨cls9, nm9, ds9⟩ := y0
  subst hy
  exact g_callV (r := (RX7, TX7, 58)) (ci := 6) hw [.int p1, .int p2, .int p3] (nA := 3) rfl d q1654 q1656 qs85 q104 q1657 (by decide +kernel) rfl rfl hrest rfl (by omega : kf - 1 + 1 ≤ kf) hkd (mX7_doesTake (kf := kf - 1) (by omega) G p1 p2 p3 M Q h) (fun _ _ _ q => q.elim) (fun v M1 h => by obtain ⟨r, rfl, h⟩ := h; exact kk r M1 h)
def fX7_takes_b42  (M : gM) (Q : Int32 → gM → Prop) : Prop :=
  Q (-1) M
theorem wX7_takes_b42 {kf : Nat} {G : gG} {w : gM → Nat → List (Nat × Value) → List Value → Prop} {Q : Int32 → gM → Prop} (hw : gX yX7_takes cX7_takes 3 (Option.some FieldType.int) [] kf G (gQi Q) gE0 w) (hkf : 4 ≤ kf)   {M : gM}  (h : fX7_takes_b42 M Q) : w M 42 [] [] := by
  unfold fX7_takes_b42 at h
  refine g_iconst (v := (-1)) hw dX7_takes_42 (by decide) ?_
  exact g_iret hw dX7_takes_43 rfl ⟨_, rfl, h⟩
def fX7_takes (p1 : Int32) (p2 : Int32) (M : gM) (Q : Int32 → gM → Prop) : Prop :=
  gk M 268 = 7 ∧ fX7_isWriterNumber p1 (gsI M 268 0 0) (fun r3 M2 => (if r3 = 0 then fX7_takes_b42 M2 Q else gk M2 268 = 7 ∧ fX7_isKitchen p2 M2 (fun r7 M6 => (if r7 = 0 then fX7_takes_b42 M6 Q else gk M6 268 = 7 ∧ fX7_tenthsBy p1 M6 (fun r11 M10 => gk M10 268 = 7 ∧ fX7_doesTake p1 p2 r11 M10 (fun r14 M13 => (if r14 = 0 then Q 0 M13 else Q 1 M13)))))))
theorem mX7_takes {kf : Nat} (hkf : 4 ≤ kf) (G : gG) (p1 : Int32) (p2 : Int32) (M : gM) (Q : Int32 → gM → Prop) (h : fX7_takes p1 p2 M Q) : gMet yX7_takes cX7_takes 3 (Option.some FieldType.int) kf G M [.ref (gA G 268), .int p1, .int p2] (gQi Q) gE0 := by
  refine g_intro (lv := [(0, .ref (gA G 268)), (1, .int p1), (2, .int p2)]) (by decide) rfl rfl (fun w hw => ?_)
  unfold fX7_takes at h
  refine g_aload_n hw 0 dX7_takes_0 rfl ?_
  refine g_iconst (v := 0) hw dX7_takes_1 (by decide) ?_
  obtain ⟨hk1, h⟩ := h
  refine pfX7_1 hw rfl dX7_takes_2 hk1 ?_
  refine g_iload_n hw 1 dX7_takes_5 rfl ?_
  refine sX7_435 hw rfl dX7_takes_6 rfl (gK2 hkf) h (fun r3 M2 h => ?_)
  refine g_if_eq (tgt := 42) hw dX7_takes_9 (by decide) (fun hb4 => ?_) (fun hb4 => ?_)
  · have h := gT h hb4
    refine g_sub hw (lv2 := []) [] rfl ?_
    exact wX7_takes_b42 hw hkf h
  · have h := gF h hb4
    refine g_aload_n hw 0 dX7_takes_12 rfl ?_
    refine g_iload_n hw 2 dX7_takes_13 rfl ?_
    obtain ⟨hk5, h⟩ := h
    refine sX7_257 hw rfl dX7_takes_14 rfl (gK2 hkf) hk5 h (fun r7 M6 h => ?_)
    refine g_if_eq (tgt := 42) hw dX7_takes_17 (by decide) (fun hb8 => ?_) (fun hb8 => ?_)
    · have h := gT h hb8
      refine g_sub hw (lv2 := []) [] rfl ?_
      exact wX7_takes_b42 hw hkf h
    · have h := gF h hb8
      refine g_aload_n hw 0 dX7_takes_20 rfl ?_
      refine g_iload_n hw 1 dX7_takes_21 rfl ?_
      refine g_iload_n hw 2 dX7_takes_22 rfl ?_
      refine g_aload_n hw 0 dX7_takes_23 rfl ?_
      refine g_iload_n hw 1 dX7_takes_24 rfl ?_
      obtain ⟨hk9, h⟩ := h
      refine sX7_446 hw rfl dX7_takes_25 rfl (gK2 hkf) hk9 h (fun r11 M10 h => ?_)
      obtain ⟨hk12, h⟩ := h
      refine sX7_449 hw rfl dX7_takes_28 rfl (gK2 hkf) hk12 h (fun r14 M13 h => ?_)
      refine g_if_eq (tgt := 38) hw dX7_takes_31 (by decide) (fun hb15 => ?_) (fun hb15 => ?_)
      · have h := gT h hb15
        refine g_iconst (v := 0) hw dX7_takes_38 (by decide) ?_
        refine g_goto (tgt := 43) hw dX7_takes_39 (by decide) ?_
        exact g_iret hw dX7_takes_43 rfl ⟨_, rfl, h⟩
      · have h := gF h hb15
        refine g_iconst (v := 1) hw dX7_takes_34 (by decide) ?_
        refine g_goto (tgt := 43) hw dX7_takes_35 (by decide) ?_
        exact g_iret hw dX7_takes_43 rfl ⟨_, rfl, h⟩
def fX7_findWritten_b123 (R6 : Int32 → gM → Prop) (l1_4 : Int32) (l2_5 : Int32) (l3_20 : Int32) (M : gM) (Q : Int32 → gM → Prop) : Prop :=
  R6 (l3_20 + 1) M
theorem wX7_findWritten_b123 {kf : Nat} {G : gG} {w : gM → Nat → List (Nat × Value) → List Value → Prop} {Q : Int32 → gM → Prop} (hw : gX yX7_findWritten cX7_findWritten 6 (Option.some FieldType.boolean) [] kf G (gQi Q) gE0 w) (hkf : 4 ≤ kf) {R6 : Int32 → gM → Prop} {l1_4 : Int32} {l2_5 : Int32} {l3_20 : Int32} {M : gM} (hR6 : ∀ (v0 : Int32) (M : gM), R6 v0 M → w M 6 [(0, .ref (gA G 268)), (1, .int l1_4), (2, .int l2_5), (3, .int v0)] []) (h : fX7_findWritten_b123 R6 l1_4 l2_5 l3_20 M Q) : w M 123 [(0, .ref (gA G 268)), (1, .int l1_4), (2, .int l2_5), (3, .int l3_20)] [] := by
  unfold fX7_findWritten_b123 at h
  refine g_iinc hw (lv2 := [(0, .ref (gA G 268)), (1, .int l1_4), (2, .int l2_5), (3, .int (l3_20 + 1))]) 3 [1, 2, 3, 0] dX7_findWritten_123 rfl (by decide) rfl rfl ?_
  refine g_goto (tgt := 6) hw dX7_findWritten_126 (by decide) ?_
  exact hR6 (l3_20 + 1) M h
def fX7_findWritten_b83 (R6 : Int32 → gM → Prop) (l1_4 : Int32) (l2_5 : Int32) (l3_39 : Int32) (l4_40 : Int32) (l5_41 : Int32) (s1_42 : Int32) (M : gM) (Q : Int32 → gM → Prop) : Prop :=
  gk M 268 = 7 ∧ gdr (gR M 268 19) (fun a44 => gk M a44 = 40 ∧ vp_in l5_41 (gl M a44) ∧ gdr (gR M 268 19) (fun a48 => gk M a48 = 40 ∧ vp_in l4_40 (gl M a48) ∧ gdr (gR M 268 20) (fun a52 => gk M a52 = 40 ∧ vp_in l5_41 (gl M a52) ∧ gdr (gR M 268 20) (fun a56 => gk M a56 = 40 ∧ vp_in l4_40 (gl M a56) ∧ fX7_adds s1_42 (((10 * ((gI M a44 l5_41.toNatClampNeg) - (gI M a48 l4_40.toNatClampNeg))) + (l2_5 * ((gI M a52 l5_41.toNatClampNeg) - (gI M a56 l4_40.toNatClampNeg)))).toInt64) M (fun M60 => fX7_findWritten_b123 R6 l1_4 l2_5 l3_39 M60 Q)))))
theorem wX7_findWritten_b83 {kf : Nat} {G : gG} {w : gM → Nat → List (Nat × Value) → List Value → Prop} {Q : Int32 → gM → Prop} (hw : gX yX7_findWritten cX7_findWritten 6 (Option.some FieldType.boolean) [] kf G (gQi Q) gE0 w) (hkf : 4 ≤ kf) {R6 : Int32 → gM → Prop} {l1_4 : Int32} {l2_5 : Int32} {l3_39 : Int32} {l4_40 : Int32} {l5_41 : Int32} {s1_42 : Int32} {M : gM} (hR6 : ∀ (v0 : Int32) (M : gM), R6 v0 M → w M 6 [(0, .ref (gA G 268)), (1, .int l1_4), (2, .int l2_5), (3, .int v0)] []) (h : fX7_findWritten_b83 R6 l1_4 l2_5 l3_39 l4_40 l5_41 s1_42 M Q) : w M 83 [(0, .ref (gA G 268)), (1, .int l1_4), (2, .int l2_5), (3, .int l3_39), (4, .int l4_40), (5, .int l5_41)] [.int s1_42, .ref (gA G 268)] := by
  unfold fX7_findWritten_b83 at h
  refine g_bipush (v := 10) hw dX7_findWritten_83 (by decide) ?_
  refine g_aload_n hw 0 dX7_findWritten_85 rfl ?_
  obtain ⟨hk43, h⟩ := h
  obtain ⟨a44, e45, h⟩ := h
  refine gfX7_118 (q := some a44) hw rfl dX7_findWritten_86 hk43 e45 ?_
  refine g_iload hw 5 dX7_findWritten_89 rfl ?_
  obtain ⟨hk46, h⟩ := h
  obtain ⟨hi47, h⟩ := h
  refine g_iald (n := l5_41.toNatClampNeg) hw dX7_findWritten_91 hk46 hi47 rfl ?_
  refine g_aload_n hw 0 dX7_findWritten_92 rfl ?_
  obtain ⟨a48, e49, h⟩ := h
  refine gfX7_118 (q := some a48) hw rfl dX7_findWritten_93 hk43 e49 ?_
  refine g_iload hw 4 dX7_findWritten_96 rfl ?_
  obtain ⟨hk50, h⟩ := h
  obtain ⟨hi51, h⟩ := h
  refine g_iald (n := l4_40.toNatClampNeg) hw dX7_findWritten_98 hk50 hi51 rfl ?_
  refine g_isub hw dX7_findWritten_99 ?_
  refine g_imul hw dX7_findWritten_100 ?_
  refine g_iload_n hw 2 dX7_findWritten_101 rfl ?_
  refine g_aload_n hw 0 dX7_findWritten_102 rfl ?_
  obtain ⟨a52, e53, h⟩ := h
  refine gfX7_121 (q := some a52) hw rfl dX7_findWritten_103 hk43 e53 ?_
  refine g_iload hw 5 dX7_findWritten_106 rfl ?_
  obtain ⟨hk54, h⟩ := h
  obtain ⟨hi55, h⟩ := h
  refine g_iald (n := l5_41.toNatClampNeg) hw dX7_findWritten_108 hk54 hi55 rfl ?_
  refine g_aload_n hw 0 dX7_findWritten_109 rfl ?_
  obtain ⟨a56, e57, h⟩ := h
  refine gfX7_121 (q := some a56) hw rfl dX7_findWritten_110 hk43 e57 ?_
  refine g_iload hw 4 dX7_findWritten_113 rfl ?_
  obtain ⟨hk58, h⟩ := h
  obtain ⟨hi59, h⟩ := h
  refine g_iald (n := l4_40.toNatClampNeg) hw dX7_findWritten_115 hk58 hi59 rfl ?_
  refine g_isub hw dX7_findWritten_116 ?_
  refine g_imul hw dX7_findWritten_117 ?_
  refine g_iadd hw dX7_findWritten_118 ?_
  refine g_i2l hw dX7_findWritten_119 ?_
  refine sX7_307 hw rfl dX7_findWritten_120 rfl (gK2 hkf) hk43 h (fun M60 h => ?_)
  refine g_sub hw (lv2 := [(0, .ref (gA G 268)), (1, .int l1_4), (2, .int l2_5), (3, .int l3_39)]) [0, 1, 2, 3] rfl ?_
  exact wX7_findWritten_b123 hw hkf hR6 h
def fX7_findWritten_L6s (R6 : Int32 → gM → Prop) (K129_6 : gM → Prop) (l1_4 : Int32) (l2_5 : Int32) (l3_6 : Int32) (M : gM) (Q : Int32 → gM → Prop) : Prop :=
  (if 24 ≤ l3_6 then K129_6 M else gk M 268 = 7 ∧ gdr (gR M 268 47) (fun a9 => gk M a9 = 40 ∧ vp_in l1_4 (gl M a9) ∧ gdr (gR M 268 48) (fun a13 => gk M a13 = 40 ∧ vp_in l1_4 (gl M a13) ∧ fX7_isCounted l3_6 (gI M a9 l1_4.toNatClampNeg) (gI M a13 l1_4.toNatClampNeg) M (fun r18 M17 => (if r18 = 0 then fX7_findWritten_b123 R6 l1_4 l2_5 l3_6 M17 Q else gk M17 268 = 7 ∧ fX7_doesTake l1_4 l3_6 l2_5 M17 (fun r23 M22 => (if r23 = 0 then fX7_findWritten_b123 R6 l1_4 l2_5 l3_6 M22 Q else gk M22 268 = 7 ∧ gdr (gR M22 268 47) (fun a26 => gk M22 a26 = 40 ∧ vp_in l1_4 (gl M22 a26) ∧ gdr (gR M22 268 48) (fun a30 => gk M22 a30 = 40 ∧ vp_in l1_4 (gl M22 a30) ∧ gdr (gR M22 268 11) (fun a34 => gk M22 a34 = 40 ∧ vp_in l3_6 (gl M22 a34) ∧ (if (gI M22 a34 l3_6.toNatClampNeg) = 0 then fX7_findWritten_b83 R6 l1_4 l2_5 l3_6 ((12 * l3_6) + (gI M22 a26 l1_4.toNatClampNeg)) ((12 * l3_6) + (gI M22 a30 l1_4.toNatClampNeg)) 1 M22 Q else fX7_findWritten_b83 R6 l1_4 l2_5 l3_6 ((12 * l3_6) + (gI M22 a26 l1_4.toNatClampNeg)) ((12 * l3_6) + (gI M22 a30 l1_4.toNatClampNeg)) 0 M22 Q)))))))))))
def fX7_findWritten_L6 (K129_6 : gM → Prop) (l1_4 : Int32) (l2_5 : Int32) (Q : Int32 → gM → Prop) : Nat → Int32 → gM → Prop
  | 0 => fun _ _ => False
  | n + 1 => fun l3_6 M => fX7_findWritten_L6s (fX7_findWritten_L6 K129_6 l1_4 l2_5 Q n) K129_6 l1_4 l2_5 l3_6 M Q
theorem wX7_findWritten_L6s {kf : Nat} {G : gG} {w : gM → Nat → List (Nat × Value) → List Value → Prop} {Q : Int32 → gM → Prop} (hw : gX yX7_findWritten cX7_findWritten 6 (Option.some FieldType.boolean) [] kf G (gQi Q) gE0 w) (hkf : 4 ≤ kf) {R6 : Int32 → gM → Prop} {K129_6 : gM → Prop} {l1_4 : Int32} {l2_5 : Int32} {l3_6 : Int32} {M : gM} (hR6 : ∀ (v0 : Int32) (M : gM), R6 v0 M → w M 6 [(0, .ref (gA G 268)), (1, .int l1_4), (2, .int l2_5), (3, .int v0)] []) (hK129_6 : ∀  (M : gM), K129_6 M → w M 129 [(0, .ref (gA G 268)), (1, .int l1_4)] []) (h : fX7_findWritten_L6s R6 K129_6 l1_4 l2_5 l3_6 M Q) : w M 6 [(0, .ref (gA G 268)), (1, .int l1_4), (2, .int l2_5), (3, .int l3_6)] [] := by
  unfold fX7_findWritten_L6s at h
  refine g_iload_n hw 3 dX7_findWritten_6 rfl ?_
  refine g_bipush (v := 24) hw dX7_findWritten_7 (by decide) ?_
  refine g_icmp_ge (tgt := 129) hw dX7_findWritten_9 (by decide) (fun hb7 => ?_) (fun hb7 => ?_)
  · have h := gT h hb7
    refine g_sub hw (lv2 := [(0, .ref (gA G 268)), (1, .int l1_4)]) [0, 1] rfl ?_
    exact hK129_6 M h
  · have h := gF h hb7
    refine g_aload_n hw 0 dX7_findWritten_12 rfl ?_
    refine g_iload_n hw 3 dX7_findWritten_13 rfl ?_
    refine g_aload_n hw 0 dX7_findWritten_14 rfl ?_
    obtain ⟨hk8, h⟩ := h
    obtain ⟨a9, e10, h⟩ := h
    refine gfX7_175 (q := some a9) hw rfl dX7_findWritten_15 hk8 e10 ?_
    refine g_iload_n hw 1 dX7_findWritten_18 rfl ?_
    obtain ⟨hk11, h⟩ := h
    obtain ⟨hi12, h⟩ := h
    refine g_iald (n := l1_4.toNatClampNeg) hw dX7_findWritten_19 hk11 hi12 rfl ?_
    refine g_aload_n hw 0 dX7_findWritten_20 rfl ?_
    obtain ⟨a13, e14, h⟩ := h
    refine gfX7_178 (q := some a13) hw rfl dX7_findWritten_21 hk8 e14 ?_
    refine g_iload_n hw 1 dX7_findWritten_24 rfl ?_
    obtain ⟨hk15, h⟩ := h
    obtain ⟨hi16, h⟩ := h
    refine g_iald (n := l1_4.toNatClampNeg) hw dX7_findWritten_25 hk15 hi16 rfl ?_
    refine sX7_274 hw rfl dX7_findWritten_26 rfl (gK2 hkf) hk8 h (fun r18 M17 h => ?_)
    refine g_if_eq (tgt := 123) hw dX7_findWritten_29 (by decide) (fun hb19 => ?_) (fun hb19 => ?_)
    · have h := gT h hb19
      exact wX7_findWritten_b123 hw hkf hR6 h
    · have h := gF h hb19
      refine g_aload_n hw 0 dX7_findWritten_32 rfl ?_
      refine g_iload_n hw 1 dX7_findWritten_33 rfl ?_
      refine g_iload_n hw 3 dX7_findWritten_34 rfl ?_
      refine g_iload_n hw 2 dX7_findWritten_35 rfl ?_
      obtain ⟨hk21, h⟩ := h
      refine sX7_449 hw rfl dX7_findWritten_36 rfl (gK2 hkf) hk21 h (fun r23 M22 h => ?_)
      refine g_if_eq (tgt := 123) hw dX7_findWritten_39 (by decide) (fun hb24 => ?_) (fun hb24 => ?_)
      · have h := gT h hb24
        exact wX7_findWritten_b123 hw hkf hR6 h
      · have h := gF h hb24
        refine g_bipush (v := 12) hw dX7_findWritten_42 (by decide) ?_
        refine g_iload_n hw 3 dX7_findWritten_44 rfl ?_
        refine g_imul hw dX7_findWritten_45 ?_
        refine g_aload_n hw 0 dX7_findWritten_46 rfl ?_
        obtain ⟨hk25, h⟩ := h
        obtain ⟨a26, e27, h⟩ := h
        refine gfX7_175 (q := some a26) hw rfl dX7_findWritten_47 hk25 e27 ?_
        refine g_iload_n hw 1 dX7_findWritten_50 rfl ?_
        obtain ⟨hk28, h⟩ := h
        obtain ⟨hi29, h⟩ := h
        refine g_iald (n := l1_4.toNatClampNeg) hw dX7_findWritten_51 hk28 hi29 rfl ?_
        refine g_iadd hw dX7_findWritten_52 ?_
        refine g_istore hw (lv2 := [(0, .ref (gA G 268)), (1, .int l1_4), (2, .int l2_5), (3, .int l3_6), (4, .int ((12 * l3_6) + (gI M22 a26 l1_4.toNatClampNeg)))]) [1, 2, 3, 4, 0] dX7_findWritten_53 rfl rfl ?_
        refine g_bipush (v := 12) hw dX7_findWritten_55 (by decide) ?_
        refine g_iload_n hw 3 dX7_findWritten_57 rfl ?_
        refine g_imul hw dX7_findWritten_58 ?_
        refine g_aload_n hw 0 dX7_findWritten_59 rfl ?_
        obtain ⟨a30, e31, h⟩ := h
        refine gfX7_178 (q := some a30) hw rfl dX7_findWritten_60 hk25 e31 ?_
        refine g_iload_n hw 1 dX7_findWritten_63 rfl ?_
        obtain ⟨hk32, h⟩ := h
        obtain ⟨hi33, h⟩ := h
        refine g_iald (n := l1_4.toNatClampNeg) hw dX7_findWritten_64 hk32 hi33 rfl ?_
        refine g_iadd hw dX7_findWritten_65 ?_
        refine g_istore hw (lv2 := [(0, .ref (gA G 268)), (1, .int l1_4), (2, .int l2_5), (3, .int l3_6), (4, .int ((12 * l3_6) + (gI M22 a26 l1_4.toNatClampNeg))), (5, .int ((12 * l3_6) + (gI M22 a30 l1_4.toNatClampNeg)))]) [1, 2, 3, 4, 5, 0] dX7_findWritten_66 rfl rfl ?_
        refine g_aload_n hw 0 dX7_findWritten_68 rfl ?_
        refine g_aload_n hw 0 dX7_findWritten_69 rfl ?_
        obtain ⟨a34, e35, h⟩ := h
        refine gfX7_97 (q := some a34) hw rfl dX7_findWritten_70 hk25 e35 ?_
        refine g_iload_n hw 3 dX7_findWritten_73 rfl ?_
        obtain ⟨hk36, h⟩ := h
        obtain ⟨hi37, h⟩ := h
        refine g_iald (n := l3_6.toNatClampNeg) hw dX7_findWritten_74 hk36 hi37 rfl ?_
        refine g_if_ne (tgt := 82) hw dX7_findWritten_75 (by decide) (fun hb38 => ?_) (fun hb38 => ?_)
        · have h := gF h hb38
          refine g_iconst (v := 0) hw dX7_findWritten_82 (by decide) ?_
          exact wX7_findWritten_b83 hw hkf hR6 h
        · have h := gT h hb38
          refine g_iconst (v := 1) hw dX7_findWritten_78 (by decide) ?_
          refine g_goto (tgt := 83) hw dX7_findWritten_79 (by decide) ?_
          exact wX7_findWritten_b83 hw hkf hR6 h
theorem wX7_findWritten_L6 {kf : Nat} {G : gG} {w : gM → Nat → List (Nat × Value) → List Value → Prop} {Q : Int32 → gM → Prop} (hw : gX yX7_findWritten cX7_findWritten 6 (Option.some FieldType.boolean) [] kf G (gQi Q) gE0 w) (hkf : 4 ≤ kf) {K129_6 : gM → Prop} {l1_4 : Int32} {l2_5 : Int32} (hK129_6 : ∀  (M : gM), K129_6 M → w M 129 [(0, .ref (gA G 268)), (1, .int l1_4)] []) : ∀ (n : Nat) (l3_6 : Int32) (M : gM), fX7_findWritten_L6 K129_6 l1_4 l2_5 Q n l3_6 M → w M 6 [(0, .ref (gA G 268)), (1, .int l1_4), (2, .int l2_5), (3, .int l3_6)] [] := by
  intro n
  induction n with
  | zero => intro l3_6 M h; exact h.elim
  | succ n ih => intro l3_6 M h; exact wX7_findWritten_L6s hw hkf ih hK129_6 h
def fX7_findWritten_b155  (M : gM) (Q : Int32 → gM → Prop) : Prop :=
  Q 0 M
theorem wX7_findWritten_b155 {kf : Nat} {G : gG} {w : gM → Nat → List (Nat × Value) → List Value → Prop} {Q : Int32 → gM → Prop} (hw : gX yX7_findWritten cX7_findWritten 6 (Option.some FieldType.boolean) [] kf G (gQi Q) gE0 w) (hkf : 4 ≤ kf)   {M : gM}  (h : fX7_findWritten_b155 M Q) : w M 155 [] [] := by
  unfold fX7_findWritten_b155 at h
  refine g_iconst (v := 0) hw dX7_findWritten_155 (by decide) ?_
  exact g_iret hw dX7_findWritten_156 (by decide +kernel) ⟨_, rfl, h⟩
def fX7_findWritten (p1 : Int32) (p2 : Int32) (M : gM) (Q : Int32 → gM → Prop) : Prop :=
  gk M 268 = 7 ∧ fX7_beginsSums M (fun M2 => ∃ n, fX7_findWritten_L6 (fun M62 => gk M62 268 = 7 ∧ gdr (gR M62 268 47) (fun a64 => gk M62 a64 = 40 ∧ vp_in p1 (gl M62 a64) ∧ gdr (gR M62 268 48) (fun a68 => gk M62 a68 = 40 ∧ vp_in p1 (gl M62 a68) ∧ (if (gI M62 a64 p1.toNatClampNeg) = (gI M62 a68 p1.toNatClampNeg) then fX7_findWritten_b155 M62 Q else fX7_differs M62 (fun r74 M73 => (if r74 = 0 then fX7_findWritten_b155 M73 Q else Q 1 M73)))))) p1 p2 Q n 0 M2)
theorem mX7_findWritten {kf : Nat} (hkf : 4 ≤ kf) (G : gG) (p1 : Int32) (p2 : Int32) (M : gM) (Q : Int32 → gM → Prop) (h : fX7_findWritten p1 p2 M Q) : gMet yX7_findWritten cX7_findWritten 6 (Option.some FieldType.boolean) kf G M [.ref (gA G 268), .int p1, .int p2] (gQi Q) gE0 := by
  refine g_intro (lv := [(0, .ref (gA G 268)), (1, .int p1), (2, .int p2)]) (by decide) rfl rfl (fun w hw => ?_)
  unfold fX7_findWritten at h
  refine g_aload_n hw 0 dX7_findWritten_0 rfl ?_
  obtain ⟨hk1, h⟩ := h
  refine sX7_304 hw rfl dX7_findWritten_1 rfl (gK2 hkf) hk1 h (fun M2 h => ?_)
  refine g_iconst (v := 0) hw dX7_findWritten_4 (by decide) ?_
  refine g_istore_n hw (lv2 := [(0, .ref (gA G 268)), (1, .int p1), (2, .int p2), (3, .int 0)]) [1, 2, 3, 0] dX7_findWritten_5 rfl rfl ?_
  obtain ⟨n9, h⟩ := h
  refine wX7_findWritten_L6 hw hkf (fun M62 h => ?_) n9 0 M2 h
  refine g_aload_n hw 0 dX7_findWritten_129 rfl ?_
  obtain ⟨hk63, h⟩ := h
  obtain ⟨a64, e65, h⟩ := h
  refine gfX7_175 (q := some a64) hw rfl dX7_findWritten_130 hk63 e65 ?_
  refine g_iload_n hw 1 dX7_findWritten_133 rfl ?_
  obtain ⟨hk66, h⟩ := h
  obtain ⟨hi67, h⟩ := h
  refine g_iald (n := p1.toNatClampNeg) hw dX7_findWritten_134 hk66 hi67 rfl ?_
  refine g_aload_n hw 0 dX7_findWritten_135 rfl ?_
  obtain ⟨a68, e69, h⟩ := h
  refine gfX7_178 (q := some a68) hw rfl dX7_findWritten_136 hk63 e69 ?_
  refine g_iload_n hw 1 dX7_findWritten_139 rfl ?_
  obtain ⟨hk70, h⟩ := h
  obtain ⟨hi71, h⟩ := h
  refine g_iald (n := p1.toNatClampNeg) hw dX7_findWritten_140 hk70 hi71 rfl ?_
  refine g_icmp_eq (tgt := 155) hw dX7_findWritten_141 (by decide) (fun hb72 => ?_) (fun hb72 => ?_)
  · have h := gT h hb72
    refine g_sub hw (lv2 := []) [] rfl ?_
    exact wX7_findWritten_b155 hw hkf h
  · have h := gF h hb72
    refine g_aload_n hw 0 dX7_findWritten_144 rfl ?_
    refine sX7_311 hw rfl dX7_findWritten_145 rfl (gK2 hkf) hk63 h (fun r74 M73 h => ?_)
    refine g_if_eq (tgt := 155) hw dX7_findWritten_148 (by decide) (fun hb75 => ?_) (fun hb75 => ?_)
    · have h := gT h hb75
      refine g_sub hw (lv2 := []) [] rfl ?_
      exact wX7_findWritten_b155 hw hkf h
    · have h := gF h hb75
      refine g_iconst (v := 1) hw dX7_findWritten_151 (by decide) ?_
      refine g_goto (tgt := 156) hw dX7_findWritten_152 (by decide) ?_
      exact g_iret hw dX7_findWritten_156 (by decide +kernel) ⟨_, rfl, h⟩
theorem sX7_452 {y0 : MethodName} {cc : ByteArray} {nL : Nat} {ret : Option FieldType} {hh : List (Nat × Nat × Nat × Nat)} {kf : Nat} {G : gG} {Qv : Option Value → gM → Prop} {E : String → Nat → gM → Prop} {w : gM → Nat → List (Nat × Value) → List Value → Prop} {M : gM} {pc : Nat} {lv : List (Nat × Value)} {rest : List Value} (hw : gX y0 cc nL ret hh kf G Qv E w) (hy : y0.cls = RX7) {p1 : Int32} {p2 : Int32} {Q : Int32 → gM → Prop} (d : decode cc pc = .ok (.invokevirtual 452, 3)) (hrest : Nat.ble ((rest.map Value.category).sum) 8 = true) (hk : 4 + 1 ≤ kf) (hkd : gk M 268 = 7) (h : fX7_findWritten p1 p2 M Q) (kk : ∀ r M1, Q r M1 → w M1 (pc + 3) lv (.int r :: rest)) : w M pc lv (.int p2 :: .int p1 :: .ref (gA G 268) :: rest) := by
  obtain ⟨cls9, nm9, ds9⟩ := y0
  subst hy
  exact g_callV (r := (RX7, TX7, 58)) (ci := 6) hw [.int p1, .int p2] (nA := 2) rfl d q1666 q1668 qs87 q104 q1669 (by decide +kernel) rfl rfl hrest rfl (by omega : kf - 1 + 1 ≤ kf) hkd (mX7_findWritten (kf := kf - 1) (by omega) G p1 p2 M Q h) (fun _ _ _ q => q.elim) (fun v M1 h => by obtain ⟨r, rfl, h⟩ := h; exact kk r M1 h)
def fX7_writes_b33 (l2_5 : Int32) (s1_6 : Int32) (M : gM) (Q : Int64 → gM → Prop) : Prop :=
  gk M 268 = 7 ∧ (if (gI (gsI M 268 0 s1_6) 268 0) ≤ 0 then fX7_lowest l2_5 (gsI M 268 0 s1_6) (fun r10 M9 => Q r10 M9) else Q 0 (gsI M 268 0 s1_6))
theorem wX7_writes_b33 {kf : Nat} {G : gG} {w : gM → Nat → List (Nat × Value) → List Value → Prop} {Q : Int64 → gM → Prop} (hw : gX yX7_writes cX7_writes 3 (Option.some FieldType.long) [] kf G (gQl Q) gE0 w) (hkf : 5 ≤ kf)  {l2_5 : Int32} {s1_6 : Int32} {M : gM}  (h : fX7_writes_b33 l2_5 s1_6 M Q) : w M 33 [(0, .ref (gA G 268)), (2, .int l2_5)] [.int s1_6, .ref (gA G 268)] := by
  unfold fX7_writes_b33 at h
  obtain ⟨hk7, h⟩ := h
  refine pfX7_1 hw rfl dX7_writes_33 hk7 ?_
  refine g_aload_n hw 0 dX7_writes_36 rfl ?_
  refine gfX7_1 hw rfl dX7_writes_37 hk7 ?_
  refine g_if_le (tgt := 47) hw dX7_writes_40 (by decide) (fun hb8 => ?_) (fun hb8 => ?_)
  · have h := gT h hb8
    refine g_aload_n hw 0 dX7_writes_47 rfl ?_
    refine g_iload_n hw 1 dX7_writes_48 rfl ?_
    refine sX7_321 hw rfl dX7_writes_49 rfl (gK2 hkf) hk7 h (fun r10 M9 h => ?_)
    exact g_lret hw dX7_writes_52 ⟨_, rfl, h⟩
  · have h := gF h hb8
    refine g_lconst (v := 0) hw dX7_writes_43 (by decide) ?_
    refine g_goto (tgt := 52) hw dX7_writes_44 (by decide) ?_
    exact g_lret hw dX7_writes_52 ⟨_, rfl, h⟩
def fX7_writes_b32 (l2_4 : Int32) (M : gM) (Q : Int64 → gM → Prop) : Prop :=
  fX7_writes_b33 l2_4 1 M Q
theorem wX7_writes_b32 {kf : Nat} {G : gG} {w : gM → Nat → List (Nat × Value) → List Value → Prop} {Q : Int64 → gM → Prop} (hw : gX yX7_writes cX7_writes 3 (Option.some FieldType.long) [] kf G (gQl Q) gE0 w) (hkf : 5 ≤ kf)  {l2_4 : Int32} {M : gM}  (h : fX7_writes_b32 l2_4 M Q) : w M 32 [(0, .ref (gA G 268)), (2, .int l2_4)] [.ref (gA G 268)] := by
  unfold fX7_writes_b32 at h
  refine g_iconst (v := 1) hw dX7_writes_32 (by decide) ?_
  exact wX7_writes_b33 hw hkf h
def fX7_writes (p1 : Int32) (p2 : Int32) (M : gM) (Q : Int64 → gM → Prop) : Prop :=
  fX7_isWriterNumber p1 M (fun r2 M1 => (if r2 = 0 then fX7_writes_b32 p2 M1 Q else fX7_isWhat p2 M1 (fun r12 M11 => (if r12 = 0 then fX7_writes_b32 p2 M11 Q else gk M11 268 = 7 ∧ fX7_tenthsBy p1 M11 (fun r16 M15 => gk M15 268 = 7 ∧ fX7_findWritten p1 r16 M15 (fun r19 M18 => (if r19 = 0 then fX7_writes_b32 p2 M18 Q else fX7_writes_b33 p2 0 M18 Q)))))))
theorem mX7_writes {kf : Nat} (hkf : 5 ≤ kf) (G : gG) (p1 : Int32) (p2 : Int32) (M : gM) (Q : Int64 → gM → Prop) (h : fX7_writes p1 p2 M Q) : gMet yX7_writes cX7_writes 3 (Option.some FieldType.long) kf G M [.ref (gA G 268), .int p1, .int p2] (gQl Q) gE0 := by
  refine g_intro (lv := [(0, .ref (gA G 268)), (1, .int p1), (2, .int p2)]) (by decide) rfl rfl (fun w hw => ?_)
  unfold fX7_writes at h
  refine g_aload_n hw 0 dX7_writes_0 rfl ?_
  refine g_iload_n hw 1 dX7_writes_1 rfl ?_
  refine sX7_435 hw rfl dX7_writes_2 rfl (gK2 hkf) h (fun r2 M1 h => ?_)
  refine g_if_eq (tgt := 32) hw dX7_writes_5 (by decide) (fun hb3 => ?_) (fun hb3 => ?_)
  · have h := gT h hb3
    refine g_sub hw (lv2 := [(0, .ref (gA G 268)), (2, .int p2)]) [0, 2] rfl ?_
    exact wX7_writes_b32 hw hkf h
  · have h := gF h hb3
    refine g_iload_n hw 2 dX7_writes_8 rfl ?_
    refine sX7_315 hw rfl dX7_writes_9 rfl (gK2 hkf) h (fun r12 M11 h => ?_)
    refine g_if_eq (tgt := 32) hw dX7_writes_12 (by decide) (fun hb13 => ?_) (fun hb13 => ?_)
    · have h := gT h hb13
      refine g_sub hw (lv2 := [(0, .ref (gA G 268)), (2, .int p2)]) [0, 2] rfl ?_
      exact wX7_writes_b32 hw hkf h
    · have h := gF h hb13
      refine g_aload_n hw 0 dX7_writes_15 rfl ?_
      refine g_iload_n hw 1 dX7_writes_16 rfl ?_
      refine g_aload_n hw 0 dX7_writes_17 rfl ?_
      refine g_iload_n hw 1 dX7_writes_18 rfl ?_
      obtain ⟨hk14, h⟩ := h
      refine sX7_446 hw rfl dX7_writes_19 rfl (gK2 hkf) hk14 h (fun r16 M15 h => ?_)
      obtain ⟨hk17, h⟩ := h
      refine sX7_452 hw rfl dX7_writes_22 rfl (gK2 hkf) hk17 h (fun r19 M18 h => ?_)
      refine g_if_eq (tgt := 32) hw dX7_writes_25 (by decide) (fun hb20 => ?_) (fun hb20 => ?_)
      · have h := gT h hb20
        refine g_sub hw (lv2 := [(0, .ref (gA G 268)), (2, .int p2)]) [0, 2] rfl ?_
        exact wX7_writes_b32 hw hkf h
      · have h := gF h hb20
        refine g_iconst (v := 0) hw dX7_writes_28 (by decide) ?_
        refine g_goto (tgt := 33) hw dX7_writes_29 (by decide) ?_
        refine g_sub hw (lv2 := [(0, .ref (gA G 268)), (2, .int p2)]) [0, 2] rfl ?_
        exact wX7_writes_b33 hw hkf h
def fX7_forks_b180 (R42 : Int64 → Int64 → Int64 → Int64 → Int64 → Int64 → Int64 → Int32 → gM → Prop) (l1_7 : Int32) (l2_21 : Int64) (l4_22 : Int64) (l6_23 : Int64) (l8_24 : Int64) (l10_25 : Int64) (l12_26 : Int64) (l14_27 : Int64) (l16_28 : Int32) (M : gM) (Q : Int64 → gM → Prop) : Prop :=
  R42 l2_21 l4_22 l6_23 l8_24 l10_25 l12_26 l14_27 (l16_28 + 1) M
theorem wX7_forks_b180 {kf : Nat} {G : gG} {w : gM → Nat → List (Nat × Value) → List Value → Prop} {Q : Int64 → gM → Prop} (hw : gX yX7_forks cX7_forks 17 (Option.some FieldType.long) [] kf G (gQl Q) gE0 w) (hkf : 5 ≤ kf) {R42 : Int64 → Int64 → Int64 → Int64 → Int64 → Int64 → Int64 → Int32 → gM → Prop} {l1_7 : Int32} {l2_21 : Int64} {l4_22 : Int64} {l6_23 : Int64} {l8_24 : Int64} {l10_25 : Int64} {l12_26 : Int64} {l14_27 : Int64} {l16_28 : Int32} {M : gM} (hR42 : ∀ (v0 : Int64) (v1 : Int64) (v2 : Int64) (v3 : Int64) (v4 : Int64) (v5 : Int64) (v6 : Int64) (v7 : Int32) (M : gM), R42 v0 v1 v2 v3 v4 v5 v6 v7 M → w M 42 [(0, .ref (gA G 268)), (1, .int l1_7), (2, .long v0), (4, .long v1), (6, .long v2), (8, .long v3), (10, .long v4), (12, .long v5), (14, .long v6), (16, .int v7)] []) (h : fX7_forks_b180 R42 l1_7 l2_21 l4_22 l6_23 l8_24 l10_25 l12_26 l14_27 l16_28 M Q) : w M 180 [(0, .ref (gA G 268)), (1, .int l1_7), (2, .long l2_21), (4, .long l4_22), (6, .long l6_23), (8, .long l8_24), (10, .long l10_25), (12, .long l12_26), (14, .long l14_27), (16, .int l16_28)] [] := by
  unfold fX7_forks_b180 at h
  refine g_iinc hw (lv2 := [(0, .ref (gA G 268)), (1, .int l1_7), (2, .long l2_21), (4, .long l4_22), (6, .long l6_23), (8, .long l8_24), (10, .long l10_25), (12, .long l12_26), (14, .long l14_27), (16, .int (l16_28 + 1))]) 9 [1, 2, 3, 4, 5, 6, 7, 8, 9, 0] dX7_forks_180 rfl (by decide) rfl rfl ?_
  refine g_goto (tgt := 42) hw dX7_forks_183 (by decide) ?_
  exact hR42 l2_21 l4_22 l6_23 l8_24 l10_25 l12_26 l14_27 (l16_28 + 1) M h
def fX7_forks_b177 (R42 : Int64 → Int64 → Int64 → Int64 → Int64 → Int64 → Int64 → Int32 → gM → Prop) (l1_7 : Int32) (l2_74 : Int64) (l4_75 : Int64) (l8_76 : Int64) (l10_77 : Int64) (l12_78 : Int64) (l14_79 : Int64) (l16_80 : Int32) (s0_81 : Int64) (s1_82 : Int64) (M : gM) (Q : Int64 → gM → Prop) : Prop :=
  fX7_forks_b180 R42 l1_7 l2_74 l4_75 (s0_81 + s1_82) l8_76 l10_77 l12_78 l14_79 l16_80 M Q
theorem wX7_forks_b177 {kf : Nat} {G : gG} {w : gM → Nat → List (Nat × Value) → List Value → Prop} {Q : Int64 → gM → Prop} (hw : gX yX7_forks cX7_forks 17 (Option.some FieldType.long) [] kf G (gQl Q) gE0 w) (hkf : 5 ≤ kf) {R42 : Int64 → Int64 → Int64 → Int64 → Int64 → Int64 → Int64 → Int32 → gM → Prop} {l1_7 : Int32} {l2_74 : Int64} {l4_75 : Int64} {l8_76 : Int64} {l10_77 : Int64} {l12_78 : Int64} {l14_79 : Int64} {l16_80 : Int32} {s0_81 : Int64} {s1_82 : Int64} {M : gM} (hR42 : ∀ (v0 : Int64) (v1 : Int64) (v2 : Int64) (v3 : Int64) (v4 : Int64) (v5 : Int64) (v6 : Int64) (v7 : Int32) (M : gM), R42 v0 v1 v2 v3 v4 v5 v6 v7 M → w M 42 [(0, .ref (gA G 268)), (1, .int l1_7), (2, .long v0), (4, .long v1), (6, .long v2), (8, .long v3), (10, .long v4), (12, .long v5), (14, .long v6), (16, .int v7)] []) (h : fX7_forks_b177 R42 l1_7 l2_74 l4_75 l8_76 l10_77 l12_78 l14_79 l16_80 s0_81 s1_82 M Q) : w M 177 [(0, .ref (gA G 268)), (1, .int l1_7), (2, .long l2_74), (4, .long l4_75), (8, .long l8_76), (10, .long l10_77), (12, .long l12_78), (14, .long l14_79), (16, .int l16_80)] [.long s1_82, .long s0_81] := by
  unfold fX7_forks_b177 at h
  refine g_ladd hw dX7_forks_177 ?_
  refine g_lstore hw (lv2 := [(0, .ref (gA G 268)), (1, .int l1_7), (2, .long l2_74), (4, .long l4_75), (6, .long (s0_81 + s1_82)), (8, .long l8_76), (10, .long l10_77), (12, .long l12_78), (14, .long l14_79), (16, .int l16_80)]) [1, 2, 3, 4, 0, 5, 6, 7, 8, 9] dX7_forks_178 rfl rfl ?_
  exact wX7_forks_b180 hw hkf hR42 h
def fX7_forks_b158 (R42 : Int64 → Int64 → Int64 → Int64 → Int64 → Int64 → Int64 → Int32 → gM → Prop) (l1_7 : Int32) (l2_63 : Int64) (l6_64 : Int64) (l8_65 : Int64) (l10_66 : Int64) (l12_67 : Int64) (l14_68 : Int64) (l16_69 : Int32) (s0_70 : Int64) (s1_71 : Int64) (M : gM) (Q : Int64 → gM → Prop) : Prop :=
  gk M 268 = 7 ∧ (if (lg_cmp (gL M 268 24) 0) ≤ 0 then fX7_forks_b177 R42 l1_7 l2_63 (s0_70 + s1_71) l8_65 l10_66 l12_67 l14_68 l16_69 l6_64 0 M Q else fX7_forks_b177 R42 l1_7 l2_63 (s0_70 + s1_71) l8_65 l10_66 l12_67 l14_68 l16_69 l6_64 1 M Q)
theorem wX7_forks_b158 {kf : Nat} {G : gG} {w : gM → Nat → List (Nat × Value) → List Value → Prop} {Q : Int64 → gM → Prop} (hw : gX yX7_forks cX7_forks 17 (Option.some FieldType.long) [] kf G (gQl Q) gE0 w) (hkf : 5 ≤ kf) {R42 : Int64 → Int64 → Int64 → Int64 → Int64 → Int64 → Int64 → Int32 → gM → Prop} {l1_7 : Int32} {l2_63 : Int64} {l6_64 : Int64} {l8_65 : Int64} {l10_66 : Int64} {l12_67 : Int64} {l14_68 : Int64} {l16_69 : Int32} {s0_70 : Int64} {s1_71 : Int64} {M : gM} (hR42 : ∀ (v0 : Int64) (v1 : Int64) (v2 : Int64) (v3 : Int64) (v4 : Int64) (v5 : Int64) (v6 : Int64) (v7 : Int32) (M : gM), R42 v0 v1 v2 v3 v4 v5 v6 v7 M → w M 42 [(0, .ref (gA G 268)), (1, .int l1_7), (2, .long v0), (4, .long v1), (6, .long v2), (8, .long v3), (10, .long v4), (12, .long v5), (14, .long v6), (16, .int v7)] []) (h : fX7_forks_b158 R42 l1_7 l2_63 l6_64 l8_65 l10_66 l12_67 l14_68 l16_69 s0_70 s1_71 M Q) : w M 158 [(0, .ref (gA G 268)), (1, .int l1_7), (2, .long l2_63), (6, .long l6_64), (8, .long l8_65), (10, .long l10_66), (12, .long l12_67), (14, .long l14_68), (16, .int l16_69)] [.long s1_71, .long s0_70] := by
  unfold fX7_forks_b158 at h
  refine g_ladd hw dX7_forks_158 ?_
  refine g_lstore hw (lv2 := [(0, .ref (gA G 268)), (1, .int l1_7), (2, .long l2_63), (4, .long (s0_70 + s1_71)), (6, .long l6_64), (8, .long l8_65), (10, .long l10_66), (12, .long l12_67), (14, .long l14_68), (16, .int l16_69)]) [1, 2, 3, 0, 4, 5, 6, 7, 8, 9] dX7_forks_159 rfl rfl ?_
  refine g_lload hw 4 dX7_forks_161 rfl ?_
  refine g_aload_n hw 0 dX7_forks_163 rfl ?_
  obtain ⟨hk72, h⟩ := h
  refine gfX7_281 hw rfl dX7_forks_164 hk72 ?_
  refine g_lconst (v := 0) hw dX7_forks_167 (by decide) ?_
  refine g_lcmp hw dX7_forks_168 ?_
  refine g_if_le (tgt := 176) hw dX7_forks_169 (by decide) (fun hb73 => ?_) (fun hb73 => ?_)
  · have h := gT h hb73
    refine g_lconst (v := 0) hw dX7_forks_176 (by decide) ?_
    refine g_sub hw (lv2 := [(0, .ref (gA G 268)), (1, .int l1_7), (2, .long l2_63), (4, .long (s0_70 + s1_71)), (8, .long l8_65), (10, .long l10_66), (12, .long l12_67), (14, .long l14_68), (16, .int l16_69)]) [0, 1, 2, 3, 5, 6, 7, 8, 9] rfl ?_
    exact wX7_forks_b177 hw hkf hR42 h
  · have h := gF h hb73
    refine g_lconst (v := 1) hw dX7_forks_172 (by decide) ?_
    refine g_goto (tgt := 177) hw dX7_forks_173 (by decide) ?_
    refine g_sub hw (lv2 := [(0, .ref (gA G 268)), (1, .int l1_7), (2, .long l2_63), (4, .long (s0_70 + s1_71)), (8, .long l8_65), (10, .long l10_66), (12, .long l12_67), (14, .long l14_68), (16, .int l16_69)]) [0, 1, 2, 3, 5, 6, 7, 8, 9] rfl ?_
    exact wX7_forks_b177 hw hkf hR42 h
def fX7_forks_b138 (R42 : Int64 → Int64 → Int64 → Int64 → Int64 → Int64 → Int64 → Int32 → gM → Prop) (l1_7 : Int32) (l2_53 : Int64) (l4_54 : Int64) (l6_55 : Int64) (l8_56 : Int64) (l10_57 : Int64) (l12_58 : Int64) (l14_59 : Int64) (l16_60 : Int32) (M : gM) (Q : Int64 → gM → Prop) : Prop :=
  gk M 268 = 7 ∧ (if 0 ≤ (lg_cmp (gL M 268 24) 0) then fX7_forks_b158 R42 l1_7 (l2_53 + 1) l6_55 l8_56 l10_57 l12_58 l14_59 l16_60 l4_54 0 M Q else fX7_forks_b158 R42 l1_7 (l2_53 + 1) l6_55 l8_56 l10_57 l12_58 l14_59 l16_60 l4_54 1 M Q)
theorem wX7_forks_b138 {kf : Nat} {G : gG} {w : gM → Nat → List (Nat × Value) → List Value → Prop} {Q : Int64 → gM → Prop} (hw : gX yX7_forks cX7_forks 17 (Option.some FieldType.long) [] kf G (gQl Q) gE0 w) (hkf : 5 ≤ kf) {R42 : Int64 → Int64 → Int64 → Int64 → Int64 → Int64 → Int64 → Int32 → gM → Prop} {l1_7 : Int32} {l2_53 : Int64} {l4_54 : Int64} {l6_55 : Int64} {l8_56 : Int64} {l10_57 : Int64} {l12_58 : Int64} {l14_59 : Int64} {l16_60 : Int32} {M : gM} (hR42 : ∀ (v0 : Int64) (v1 : Int64) (v2 : Int64) (v3 : Int64) (v4 : Int64) (v5 : Int64) (v6 : Int64) (v7 : Int32) (M : gM), R42 v0 v1 v2 v3 v4 v5 v6 v7 M → w M 42 [(0, .ref (gA G 268)), (1, .int l1_7), (2, .long v0), (4, .long v1), (6, .long v2), (8, .long v3), (10, .long v4), (12, .long v5), (14, .long v6), (16, .int v7)] []) (h : fX7_forks_b138 R42 l1_7 l2_53 l4_54 l6_55 l8_56 l10_57 l12_58 l14_59 l16_60 M Q) : w M 138 [(0, .ref (gA G 268)), (1, .int l1_7), (2, .long l2_53), (4, .long l4_54), (6, .long l6_55), (8, .long l8_56), (10, .long l10_57), (12, .long l12_58), (14, .long l14_59), (16, .int l16_60)] [] := by
  unfold fX7_forks_b138 at h
  refine g_lload_n hw 2 dX7_forks_138 rfl ?_
  refine g_lconst (v := 1) hw dX7_forks_139 (by decide) ?_
  refine g_ladd hw dX7_forks_140 ?_
  refine g_lstore_n hw (lv2 := [(0, .ref (gA G 268)), (1, .int l1_7), (2, .long (l2_53 + 1)), (4, .long l4_54), (6, .long l6_55), (8, .long l8_56), (10, .long l10_57), (12, .long l12_58), (14, .long l14_59), (16, .int l16_60)]) [1, 2, 0, 3, 4, 5, 6, 7, 8, 9] dX7_forks_141 rfl rfl ?_
  refine g_lload hw 3 dX7_forks_142 rfl ?_
  refine g_aload_n hw 0 dX7_forks_144 rfl ?_
  obtain ⟨hk61, h⟩ := h
  refine gfX7_281 hw rfl dX7_forks_145 hk61 ?_
  refine g_lconst (v := 0) hw dX7_forks_148 (by decide) ?_
  refine g_lcmp hw dX7_forks_149 ?_
  refine g_if_ge (tgt := 157) hw dX7_forks_150 (by decide) (fun hb62 => ?_) (fun hb62 => ?_)
  · have h := gT h hb62
    refine g_lconst (v := 0) hw dX7_forks_157 (by decide) ?_
    refine g_sub hw (lv2 := [(0, .ref (gA G 268)), (1, .int l1_7), (2, .long (l2_53 + 1)), (6, .long l6_55), (8, .long l8_56), (10, .long l10_57), (12, .long l12_58), (14, .long l14_59), (16, .int l16_60)]) [0, 1, 2, 4, 5, 6, 7, 8, 9] rfl ?_
    exact wX7_forks_b158 hw hkf hR42 h
  · have h := gF h hb62
    refine g_lconst (v := 1) hw dX7_forks_153 (by decide) ?_
    refine g_goto (tgt := 158) hw dX7_forks_154 (by decide) ?_
    refine g_sub hw (lv2 := [(0, .ref (gA G 268)), (1, .int l1_7), (2, .long (l2_53 + 1)), (6, .long l6_55), (8, .long l8_56), (10, .long l10_57), (12, .long l12_58), (14, .long l14_59), (16, .int l16_60)]) [0, 1, 2, 4, 5, 6, 7, 8, 9] rfl ?_
    exact wX7_forks_b158 hw hkf hR42 h
def fX7_forks_b126 (R42 : Int64 → Int64 → Int64 → Int64 → Int64 → Int64 → Int64 → Int32 → gM → Prop) (l1_7 : Int32) (l2_46 : Int64) (l4_47 : Int64) (l6_48 : Int64) (l8_49 : Int64) (l10_50 : Int64) (l16_51 : Int32) (M : gM) (Q : Int64 → gM → Prop) : Prop :=
  gk M 268 = 7 ∧ fX7_forks_b138 R42 l1_7 l2_46 l4_47 l6_48 l8_49 l10_50 (gL M 268 24) (gL M 268 25) l16_51 M Q
theorem wX7_forks_b126 {kf : Nat} {G : gG} {w : gM → Nat → List (Nat × Value) → List Value → Prop} {Q : Int64 → gM → Prop} (hw : gX yX7_forks cX7_forks 17 (Option.some FieldType.long) [] kf G (gQl Q) gE0 w) (hkf : 5 ≤ kf) {R42 : Int64 → Int64 → Int64 → Int64 → Int64 → Int64 → Int64 → Int32 → gM → Prop} {l1_7 : Int32} {l2_46 : Int64} {l4_47 : Int64} {l6_48 : Int64} {l8_49 : Int64} {l10_50 : Int64} {l16_51 : Int32} {M : gM} (hR42 : ∀ (v0 : Int64) (v1 : Int64) (v2 : Int64) (v3 : Int64) (v4 : Int64) (v5 : Int64) (v6 : Int64) (v7 : Int32) (M : gM), R42 v0 v1 v2 v3 v4 v5 v6 v7 M → w M 42 [(0, .ref (gA G 268)), (1, .int l1_7), (2, .long v0), (4, .long v1), (6, .long v2), (8, .long v3), (10, .long v4), (12, .long v5), (14, .long v6), (16, .int v7)] []) (h : fX7_forks_b126 R42 l1_7 l2_46 l4_47 l6_48 l8_49 l10_50 l16_51 M Q) : w M 126 [(0, .ref (gA G 268)), (1, .int l1_7), (2, .long l2_46), (4, .long l4_47), (6, .long l6_48), (8, .long l8_49), (10, .long l10_50), (16, .int l16_51)] [] := by
  unfold fX7_forks_b126 at h
  refine g_aload_n hw 0 dX7_forks_126 rfl ?_
  obtain ⟨hk52, h⟩ := h
  refine gfX7_281 hw rfl dX7_forks_127 hk52 ?_
  refine g_lstore hw (lv2 := [(0, .ref (gA G 268)), (1, .int l1_7), (2, .long l2_46), (4, .long l4_47), (6, .long l6_48), (8, .long l8_49), (10, .long l10_50), (12, .long (gL M 268 24)), (16, .int l16_51)]) [1, 2, 3, 4, 5, 6, 7, 0, 8] dX7_forks_130 rfl rfl ?_
  refine g_aload_n hw 0 dX7_forks_132 rfl ?_
  refine gfX7_285 hw rfl dX7_forks_133 hk52 ?_
  refine g_lstore hw (lv2 := [(0, .ref (gA G 268)), (1, .int l1_7), (2, .long l2_46), (4, .long l4_47), (6, .long l6_48), (8, .long l8_49), (10, .long l10_50), (12, .long (gL M 268 24)), (14, .long (gL M 268 25)), (16, .int l16_51)]) [1, 2, 3, 4, 5, 6, 7, 8, 0, 9] dX7_forks_136 rfl rfl ?_
  exact wX7_forks_b138 hw hkf hR42 h
def fX7_forks_b102 (R42 : Int64 → Int64 → Int64 → Int64 → Int64 → Int64 → Int64 → Int32 → gM → Prop) (l1_7 : Int32) (l2_37 : Int64) (l4_38 : Int64) (l6_39 : Int64) (l8_40 : Int64) (l10_41 : Int64) (l12_42 : Int64) (l14_43 : Int64) (l16_44 : Int32) (M : gM) (Q : Int64 → gM → Prop) : Prop :=
  (if (lg_cmp l2_37 0) = 0 then fX7_forks_b126 R42 l1_7 l2_37 l4_38 l6_39 l8_40 l10_41 l16_44 M Q else gk M 268 = 7 ∧ (if (lg_cmp ((gL M 268 24) * l14_43) (l12_42 * (gL M 268 25))) ≤ 0 then fX7_forks_b138 R42 l1_7 l2_37 l4_38 l6_39 l8_40 l10_41 l12_42 l14_43 l16_44 M Q else fX7_forks_b126 R42 l1_7 l2_37 l4_38 l6_39 l8_40 l10_41 l16_44 M Q))
theorem wX7_forks_b102 {kf : Nat} {G : gG} {w : gM → Nat → List (Nat × Value) → List Value → Prop} {Q : Int64 → gM → Prop} (hw : gX yX7_forks cX7_forks 17 (Option.some FieldType.long) [] kf G (gQl Q) gE0 w) (hkf : 5 ≤ kf) {R42 : Int64 → Int64 → Int64 → Int64 → Int64 → Int64 → Int64 → Int32 → gM → Prop} {l1_7 : Int32} {l2_37 : Int64} {l4_38 : Int64} {l6_39 : Int64} {l8_40 : Int64} {l10_41 : Int64} {l12_42 : Int64} {l14_43 : Int64} {l16_44 : Int32} {M : gM} (hR42 : ∀ (v0 : Int64) (v1 : Int64) (v2 : Int64) (v3 : Int64) (v4 : Int64) (v5 : Int64) (v6 : Int64) (v7 : Int32) (M : gM), R42 v0 v1 v2 v3 v4 v5 v6 v7 M → w M 42 [(0, .ref (gA G 268)), (1, .int l1_7), (2, .long v0), (4, .long v1), (6, .long v2), (8, .long v3), (10, .long v4), (12, .long v5), (14, .long v6), (16, .int v7)] []) (h : fX7_forks_b102 R42 l1_7 l2_37 l4_38 l6_39 l8_40 l10_41 l12_42 l14_43 l16_44 M Q) : w M 102 [(0, .ref (gA G 268)), (1, .int l1_7), (2, .long l2_37), (4, .long l4_38), (6, .long l6_39), (8, .long l8_40), (10, .long l10_41), (12, .long l12_42), (14, .long l14_43), (16, .int l16_44)] [] := by
  unfold fX7_forks_b102 at h
  refine g_lload_n hw 2 dX7_forks_102 rfl ?_
  refine g_lconst (v := 0) hw dX7_forks_103 (by decide) ?_
  refine g_lcmp hw dX7_forks_104 ?_
  refine g_if_eq (tgt := 126) hw dX7_forks_105 (by decide) (fun hb45 => ?_) (fun hb45 => ?_)
  · have h := gT h hb45
    refine g_sub hw (lv2 := [(0, .ref (gA G 268)), (1, .int l1_7), (2, .long l2_37), (4, .long l4_38), (6, .long l6_39), (8, .long l8_40), (10, .long l10_41), (16, .int l16_44)]) [0, 1, 2, 3, 4, 5, 6, 9] rfl ?_
    exact wX7_forks_b126 hw hkf hR42 h
  · have h := gF h hb45
    refine g_aload_n hw 0 dX7_forks_108 rfl ?_
    obtain ⟨hk83, h⟩ := h
    refine gfX7_281 hw rfl dX7_forks_109 hk83 ?_
    refine g_lload hw 8 dX7_forks_112 rfl ?_
    refine g_lmul hw dX7_forks_114 ?_
    refine g_lload hw 7 dX7_forks_115 rfl ?_
    refine g_aload_n hw 0 dX7_forks_117 rfl ?_
    refine gfX7_285 hw rfl dX7_forks_118 hk83 ?_
    refine g_lmul hw dX7_forks_121 ?_
    refine g_lcmp hw dX7_forks_122 ?_
    refine g_if_le (tgt := 138) hw dX7_forks_123 (by decide) (fun hb84 => ?_) (fun hb84 => ?_)
    · have h := gT h hb84
      exact wX7_forks_b138 hw hkf hR42 h
    · have h := gF h hb84
      refine g_sub hw (lv2 := [(0, .ref (gA G 268)), (1, .int l1_7), (2, .long l2_37), (4, .long l4_38), (6, .long l6_39), (8, .long l8_40), (10, .long l10_41), (16, .int l16_44)]) [0, 1, 2, 3, 4, 5, 6, 9] rfl ?_
      exact wX7_forks_b126 hw hkf hR42 h
def fX7_forks_b90 (R42 : Int64 → Int64 → Int64 → Int64 → Int64 → Int64 → Int64 → Int32 → gM → Prop) (l1_7 : Int32) (l2_30 : Int64) (l4_31 : Int64) (l6_32 : Int64) (l12_33 : Int64) (l14_34 : Int64) (l16_35 : Int32) (M : gM) (Q : Int64 → gM → Prop) : Prop :=
  gk M 268 = 7 ∧ fX7_forks_b102 R42 l1_7 l2_30 l4_31 l6_32 (gL M 268 24) (gL M 268 25) l12_33 l14_34 l16_35 M Q
theorem wX7_forks_b90 {kf : Nat} {G : gG} {w : gM → Nat → List (Nat × Value) → List Value → Prop} {Q : Int64 → gM → Prop} (hw : gX yX7_forks cX7_forks 17 (Option.some FieldType.long) [] kf G (gQl Q) gE0 w) (hkf : 5 ≤ kf) {R42 : Int64 → Int64 → Int64 → Int64 → Int64 → Int64 → Int64 → Int32 → gM → Prop} {l1_7 : Int32} {l2_30 : Int64} {l4_31 : Int64} {l6_32 : Int64} {l12_33 : Int64} {l14_34 : Int64} {l16_35 : Int32} {M : gM} (hR42 : ∀ (v0 : Int64) (v1 : Int64) (v2 : Int64) (v3 : Int64) (v4 : Int64) (v5 : Int64) (v6 : Int64) (v7 : Int32) (M : gM), R42 v0 v1 v2 v3 v4 v5 v6 v7 M → w M 42 [(0, .ref (gA G 268)), (1, .int l1_7), (2, .long v0), (4, .long v1), (6, .long v2), (8, .long v3), (10, .long v4), (12, .long v5), (14, .long v6), (16, .int v7)] []) (h : fX7_forks_b90 R42 l1_7 l2_30 l4_31 l6_32 l12_33 l14_34 l16_35 M Q) : w M 90 [(0, .ref (gA G 268)), (1, .int l1_7), (2, .long l2_30), (4, .long l4_31), (6, .long l6_32), (12, .long l12_33), (14, .long l14_34), (16, .int l16_35)] [] := by
  unfold fX7_forks_b90 at h
  refine g_aload_n hw 0 dX7_forks_90 rfl ?_
  obtain ⟨hk36, h⟩ := h
  refine gfX7_281 hw rfl dX7_forks_91 hk36 ?_
  refine g_lstore hw (lv2 := [(0, .ref (gA G 268)), (1, .int l1_7), (2, .long l2_30), (4, .long l4_31), (6, .long l6_32), (8, .long (gL M 268 24)), (12, .long l12_33), (14, .long l14_34), (16, .int l16_35)]) [1, 2, 3, 4, 5, 0, 6, 7, 8] dX7_forks_94 rfl rfl ?_
  refine g_aload_n hw 0 dX7_forks_96 rfl ?_
  refine gfX7_285 hw rfl dX7_forks_97 hk36 ?_
  refine g_lstore hw (lv2 := [(0, .ref (gA G 268)), (1, .int l1_7), (2, .long l2_30), (4, .long l4_31), (6, .long l6_32), (8, .long (gL M 268 24)), (10, .long (gL M 268 25)), (12, .long l12_33), (14, .long l14_34), (16, .int l16_35)]) [1, 2, 3, 4, 5, 6, 0, 7, 8, 9] dX7_forks_100 rfl rfl ?_
  exact wX7_forks_b102 hw hkf hR42 h
def fX7_forks_L42s (R42 : Int64 → Int64 → Int64 → Int64 → Int64 → Int64 → Int64 → Int32 → gM → Prop) (K186_42 : Int64 → Int64 → Int64 → Int64 → Int64 → Int64 → Int64 → gM → Prop) (l1_7 : Int32) (l2_8 : Int64) (l4_9 : Int64) (l6_10 : Int64) (l8_11 : Int64) (l10_12 : Int64) (l12_13 : Int64) (l14_14 : Int64) (l16_15 : Int32) (M : gM) (Q : Int64 → gM → Prop) : Prop :=
  (if 44 ≤ l16_15 then K186_42 l2_8 l4_9 l6_10 l8_11 l10_12 l12_13 l14_14 M else gk M 268 = 7 ∧ fX7_findWritten (l16_15 / 11) (l16_15 - l16_15 / 11 * 11) M (fun r19 M18 => (if r19 = 0 then fX7_forks_b180 R42 l1_7 l2_8 l4_9 l6_10 l8_11 l10_12 l12_13 l14_14 l16_15 M18 Q else (if (lg_cmp l2_8 0) = 0 then fX7_forks_b90 R42 l1_7 l2_8 l4_9 l6_10 l12_13 l14_14 l16_15 M18 Q else gk M18 268 = 7 ∧ (if 0 ≤ (lg_cmp ((gL M18 268 24) * l10_12) (l8_11 * (gL M18 268 25))) then fX7_forks_b102 R42 l1_7 l2_8 l4_9 l6_10 l8_11 l10_12 l12_13 l14_14 l16_15 M18 Q else fX7_forks_b90 R42 l1_7 l2_8 l4_9 l6_10 l12_13 l14_14 l16_15 M18 Q)))))
def fX7_forks_L42 (K186_42 : Int64 → Int64 → Int64 → Int64 → Int64 → Int64 → Int64 → gM → Prop) (l1_7 : Int32) (Q : Int64 → gM → Prop) : Nat → Int64 → Int64 → Int64 → Int64 → Int64 → Int64 → Int64 → Int32 → gM → Prop
  | 0 => fun _ _ _ _ _ _ _ _ _ => False
  | n + 1 => fun l2_8 l4_9 l6_10 l8_11 l10_12 l12_13 l14_14 l16_15 M => fX7_forks_L42s (fX7_forks_L42 K186_42 l1_7 Q n) K186_42 l1_7 l2_8 l4_9 l6_10 l8_11 l10_12 l12_13 l14_14 l16_15 M Q
theorem wX7_forks_L42s {kf : Nat} {G : gG} {w : gM → Nat → List (Nat × Value) → List Value → Prop} {Q : Int64 → gM → Prop} (hw : gX yX7_forks cX7_forks 17 (Option.some FieldType.long) [] kf G (gQl Q) gE0 w) (hkf : 5 ≤ kf) {R42 : Int64 → Int64 → Int64 → Int64 → Int64 → Int64 → Int64 → Int32 → gM → Prop} {K186_42 : Int64 → Int64 → Int64 → Int64 → Int64 → Int64 → Int64 → gM → Prop} {l1_7 : Int32} {l2_8 : Int64} {l4_9 : Int64} {l6_10 : Int64} {l8_11 : Int64} {l10_12 : Int64} {l12_13 : Int64} {l14_14 : Int64} {l16_15 : Int32} {M : gM} (hR42 : ∀ (v0 : Int64) (v1 : Int64) (v2 : Int64) (v3 : Int64) (v4 : Int64) (v5 : Int64) (v6 : Int64) (v7 : Int32) (M : gM), R42 v0 v1 v2 v3 v4 v5 v6 v7 M → w M 42 [(0, .ref (gA G 268)), (1, .int l1_7), (2, .long v0), (4, .long v1), (6, .long v2), (8, .long v3), (10, .long v4), (12, .long v5), (14, .long v6), (16, .int v7)] []) (hK186_42 : ∀ (v0 : Int64) (v1 : Int64) (v2 : Int64) (v3 : Int64) (v4 : Int64) (v5 : Int64) (v6 : Int64) (M : gM), K186_42 v0 v1 v2 v3 v4 v5 v6 M → w M 186 [(0, .ref (gA G 268)), (1, .int l1_7), (2, .long v0), (4, .long v1), (6, .long v2), (8, .long v3), (10, .long v4), (12, .long v5), (14, .long v6)] []) (h : fX7_forks_L42s R42 K186_42 l1_7 l2_8 l4_9 l6_10 l8_11 l10_12 l12_13 l14_14 l16_15 M Q) : w M 42 [(0, .ref (gA G 268)), (1, .int l1_7), (2, .long l2_8), (4, .long l4_9), (6, .long l6_10), (8, .long l8_11), (10, .long l10_12), (12, .long l12_13), (14, .long l14_14), (16, .int l16_15)] [] := by
  unfold fX7_forks_L42s at h
  refine g_iload hw 9 dX7_forks_42 rfl ?_
  refine g_bipush (v := 44) hw dX7_forks_44 (by decide) ?_
  refine g_icmp_ge (tgt := 186) hw dX7_forks_46 (by decide) (fun hb16 => ?_) (fun hb16 => ?_)
  · have h := gT h hb16
    refine g_sub hw (lv2 := [(0, .ref (gA G 268)), (1, .int l1_7), (2, .long l2_8), (4, .long l4_9), (6, .long l6_10), (8, .long l8_11), (10, .long l10_12), (12, .long l12_13), (14, .long l14_14)]) [0, 1, 2, 3, 4, 5, 6, 7, 8] rfl ?_
    exact hK186_42 l2_8 l4_9 l6_10 l8_11 l10_12 l12_13 l14_14 M h
  · have h := gF h hb16
    refine g_aload_n hw 0 dX7_forks_49 rfl ?_
    refine g_iload hw 9 dX7_forks_50 rfl ?_
    refine g_bipush (v := 11) hw dX7_forks_52 (by decide) ?_
    refine g_idiv hw dX7_forks_54 (by decide) ?_
    refine g_iload hw 9 dX7_forks_55 rfl ?_
    refine g_bipush (v := 11) hw dX7_forks_57 (by decide) ?_
    refine g_irem hw dX7_forks_59 (by decide) ?_
    obtain ⟨hk17, h⟩ := h
    refine sX7_452 hw rfl dX7_forks_60 rfl (gK2 hkf) hk17 h (fun r19 M18 h => ?_)
    refine g_if_eq (tgt := 180) hw dX7_forks_63 (by decide) (fun hb20 => ?_) (fun hb20 => ?_)
    · have h := gT h hb20
      exact wX7_forks_b180 hw hkf hR42 h
    · have h := gF h hb20
      refine g_lload_n hw 2 dX7_forks_66 rfl ?_
      refine g_lconst (v := 0) hw dX7_forks_67 (by decide) ?_
      refine g_lcmp hw dX7_forks_68 ?_
      refine g_if_eq (tgt := 90) hw dX7_forks_69 (by decide) (fun hb29 => ?_) (fun hb29 => ?_)
      · have h := gT h hb29
        refine g_sub hw (lv2 := [(0, .ref (gA G 268)), (1, .int l1_7), (2, .long l2_8), (4, .long l4_9), (6, .long l6_10), (12, .long l12_13), (14, .long l14_14), (16, .int l16_15)]) [0, 1, 2, 3, 4, 7, 8, 9] rfl ?_
        exact wX7_forks_b90 hw hkf hR42 h
      · have h := gF h hb29
        refine g_aload_n hw 0 dX7_forks_72 rfl ?_
        obtain ⟨hk85, h⟩ := h
        refine gfX7_281 hw rfl dX7_forks_73 hk85 ?_
        refine g_lload hw 6 dX7_forks_76 rfl ?_
        refine g_lmul hw dX7_forks_78 ?_
        refine g_lload hw 5 dX7_forks_79 rfl ?_
        refine g_aload_n hw 0 dX7_forks_81 rfl ?_
        refine gfX7_285 hw rfl dX7_forks_82 hk85 ?_
        refine g_lmul hw dX7_forks_85 ?_
        refine g_lcmp hw dX7_forks_86 ?_
        refine g_if_ge (tgt := 102) hw dX7_forks_87 (by decide) (fun hb86 => ?_) (fun hb86 => ?_)
        · have h := gT h hb86
          exact wX7_forks_b102 hw hkf hR42 h
        · have h := gF h hb86
          refine g_sub hw (lv2 := [(0, .ref (gA G 268)), (1, .int l1_7), (2, .long l2_8), (4, .long l4_9), (6, .long l6_10), (12, .long l12_13), (14, .long l14_14), (16, .int l16_15)]) [0, 1, 2, 3, 4, 7, 8, 9] rfl ?_
          exact wX7_forks_b90 hw hkf hR42 h
theorem wX7_forks_L42 {kf : Nat} {G : gG} {w : gM → Nat → List (Nat × Value) → List Value → Prop} {Q : Int64 → gM → Prop} (hw : gX yX7_forks cX7_forks 17 (Option.some FieldType.long) [] kf G (gQl Q) gE0 w) (hkf : 5 ≤ kf) {K186_42 : Int64 → Int64 → Int64 → Int64 → Int64 → Int64 → Int64 → gM → Prop} {l1_7 : Int32} (hK186_42 : ∀ (v0 : Int64) (v1 : Int64) (v2 : Int64) (v3 : Int64) (v4 : Int64) (v5 : Int64) (v6 : Int64) (M : gM), K186_42 v0 v1 v2 v3 v4 v5 v6 M → w M 186 [(0, .ref (gA G 268)), (1, .int l1_7), (2, .long v0), (4, .long v1), (6, .long v2), (8, .long v3), (10, .long v4), (12, .long v5), (14, .long v6)] []) : ∀ (n : Nat) (l2_8 : Int64) (l4_9 : Int64) (l6_10 : Int64) (l8_11 : Int64) (l10_12 : Int64) (l12_13 : Int64) (l14_14 : Int64) (l16_15 : Int32) (M : gM), fX7_forks_L42 K186_42 l1_7 Q n l2_8 l4_9 l6_10 l8_11 l10_12 l12_13 l14_14 l16_15 M → w M 42 [(0, .ref (gA G 268)), (1, .int l1_7), (2, .long l2_8), (4, .long l4_9), (6, .long l6_10), (8, .long l8_11), (10, .long l10_12), (12, .long l12_13), (14, .long l14_14), (16, .int l16_15)] [] := by
  intro n
  induction n with
  | zero => intro l2_8 l4_9 l6_10 l8_11 l10_12 l12_13 l14_14 l16_15 M h; exact h.elim
  | succ n ih => intro l2_8 l4_9 l6_10 l8_11 l10_12 l12_13 l14_14 l16_15 M h; exact wX7_forks_L42s hw hkf ih hK186_42 h
def fX7_forks_b295 (s1_136 : Int32) (M : gM) (Q : Int64 → gM → Prop) : Prop :=
  gk M 268 = 7 ∧ fX7_lowest s1_136 M (fun r139 M138 => Q r139 M138)
theorem wX7_forks_b295 {kf : Nat} {G : gG} {w : gM → Nat → List (Nat × Value) → List Value → Prop} {Q : Int64 → gM → Prop} (hw : gX yX7_forks cX7_forks 17 (Option.some FieldType.long) [] kf G (gQl Q) gE0 w) (hkf : 5 ≤ kf)  {s1_136 : Int32} {M : gM}  (h : fX7_forks_b295 s1_136 M Q) : w M 295 [] [.int s1_136, .ref (gA G 268)] := by
  unfold fX7_forks_b295 at h
  obtain ⟨hk137, h⟩ := h
  refine sX7_321 hw rfl dX7_forks_295 rfl (gK2 hkf) hk137 h (fun r139 M138 h => ?_)
  exact g_lret hw dX7_forks_298 ⟨_, rfl, h⟩
def fX7_forks_b251 (l1_126 : Int32) (l2_127 : Int64) (l4_128 : Int64) (l6_129 : Int64) (s1_130 : Int64) (M : gM) (Q : Int64 → gM → Prop) : Prop :=
  gk M 268 = 7 ∧ (if l1_126 = 0 then Q l2_127 (gsL M 268 25 s1_130) else (if l1_126 = 1 then Q l4_128 (gsL M 268 25 s1_130) else (if l1_126 = 2 then Q l6_129 (gsL M 268 25 s1_130) else (if (l1_126 - l1_126 / 2 * 2) = 1 then fX7_forks_b295 0 (gsL M 268 25 s1_130) Q else fX7_forks_b295 1 (gsL M 268 25 s1_130) Q))))
theorem wX7_forks_b251 {kf : Nat} {G : gG} {w : gM → Nat → List (Nat × Value) → List Value → Prop} {Q : Int64 → gM → Prop} (hw : gX yX7_forks cX7_forks 17 (Option.some FieldType.long) [] kf G (gQl Q) gE0 w) (hkf : 5 ≤ kf)  {l1_126 : Int32} {l2_127 : Int64} {l4_128 : Int64} {l6_129 : Int64} {s1_130 : Int64} {M : gM}  (h : fX7_forks_b251 l1_126 l2_127 l4_128 l6_129 s1_130 M Q) : w M 251 [(0, .ref (gA G 268)), (1, .int l1_126), (2, .long l2_127), (4, .long l4_128), (6, .long l6_129)] [.long s1_130, .ref (gA G 268)] := by
  unfold fX7_forks_b251 at h
  obtain ⟨hk131, h⟩ := h
  refine pfX7_285 hw rfl dX7_forks_251 hk131 ?_
  refine g_iload_n hw 1 dX7_forks_254 rfl ?_
  refine g_if_ne (tgt := 262) hw dX7_forks_255 (by decide) (fun hb132 => ?_) (fun hb132 => ?_)
  · have h := gF h hb132
    refine g_iload_n hw 1 dX7_forks_262 rfl ?_
    refine g_iconst (v := 1) hw dX7_forks_263 (by decide) ?_
    refine g_icmp_ne (tgt := 272) hw dX7_forks_264 (by decide) (fun hb133 => ?_) (fun hb133 => ?_)
    · have h := gF h hb133
      refine g_iload_n hw 1 dX7_forks_272 rfl ?_
      refine g_iconst (v := 2) hw dX7_forks_273 (by decide) ?_
      refine g_icmp_ne (tgt := 282) hw dX7_forks_274 (by decide) (fun hb134 => ?_) (fun hb134 => ?_)
      · have h := gF h hb134
        refine g_aload_n hw 0 dX7_forks_282 rfl ?_
        refine g_iload_n hw 1 dX7_forks_283 rfl ?_
        refine g_iconst (v := 2) hw dX7_forks_284 (by decide) ?_
        refine g_irem hw dX7_forks_285 (by decide) ?_
        refine g_iconst (v := 1) hw dX7_forks_286 (by decide) ?_
        refine g_icmp_ne (tgt := 294) hw dX7_forks_287 (by decide) (fun hb135 => ?_) (fun hb135 => ?_)
        · have h := gF h hb135
          refine g_iconst (v := 1) hw dX7_forks_294 (by decide) ?_
          refine g_sub hw (lv2 := []) [] rfl ?_
          exact wX7_forks_b295 hw hkf h
        · have h := gT h hb135
          refine g_iconst (v := 0) hw dX7_forks_290 (by decide) ?_
          refine g_goto (tgt := 295) hw dX7_forks_291 (by decide) ?_
          refine g_sub hw (lv2 := []) [] rfl ?_
          exact wX7_forks_b295 hw hkf h
      · have h := gT h hb134
        refine g_lload hw 4 dX7_forks_277 rfl ?_
        refine g_goto (tgt := 298) hw dX7_forks_279 (by decide) ?_
        exact g_lret hw dX7_forks_298 ⟨_, rfl, h⟩
    · have h := gT h hb133
      refine g_lload hw 3 dX7_forks_267 rfl ?_
      refine g_goto (tgt := 298) hw dX7_forks_269 (by decide) ?_
      exact g_lret hw dX7_forks_298 ⟨_, rfl, h⟩
  · have h := gT h hb132
    refine g_lload_n hw 2 dX7_forks_258 rfl ?_
    refine g_goto (tgt := 298) hw dX7_forks_259 (by decide) ?_
    exact g_lret hw dX7_forks_298 ⟨_, rfl, h⟩
def fX7_forks_b235 (l1_117 : Int32) (l2_118 : Int64) (l4_119 : Int64) (l6_120 : Int64) (l10_121 : Int64) (l14_122 : Int64) (s1_123 : Int64) (M : gM) (Q : Int64 → gM → Prop) : Prop :=
  gk M 268 = 7 ∧ (if 5 ≤ l1_117 then fX7_forks_b251 l1_117 l2_118 l4_119 l6_120 l14_122 (gsL M 268 24 s1_123) Q else fX7_forks_b251 l1_117 l2_118 l4_119 l6_120 l10_121 (gsL M 268 24 s1_123) Q)
theorem wX7_forks_b235 {kf : Nat} {G : gG} {w : gM → Nat → List (Nat × Value) → List Value → Prop} {Q : Int64 → gM → Prop} (hw : gX yX7_forks cX7_forks 17 (Option.some FieldType.long) [] kf G (gQl Q) gE0 w) (hkf : 5 ≤ kf)  {l1_117 : Int32} {l2_118 : Int64} {l4_119 : Int64} {l6_120 : Int64} {l10_121 : Int64} {l14_122 : Int64} {s1_123 : Int64} {M : gM}  (h : fX7_forks_b235 l1_117 l2_118 l4_119 l6_120 l10_121 l14_122 s1_123 M Q) : w M 235 [(0, .ref (gA G 268)), (1, .int l1_117), (2, .long l2_118), (4, .long l4_119), (6, .long l6_120), (10, .long l10_121), (14, .long l14_122)] [.long s1_123, .ref (gA G 268)] := by
  unfold fX7_forks_b235 at h
  obtain ⟨hk124, h⟩ := h
  refine pfX7_281 hw rfl dX7_forks_235 hk124 ?_
  refine g_aload_n hw 0 dX7_forks_238 rfl ?_
  refine g_iload_n hw 1 dX7_forks_239 rfl ?_
  refine g_iconst (v := 5) hw dX7_forks_240 (by decide) ?_
  refine g_icmp_ge (tgt := 249) hw dX7_forks_241 (by decide) (fun hb125 => ?_) (fun hb125 => ?_)
  · have h := gT h hb125
    refine g_lload hw 6 dX7_forks_249 rfl ?_
    refine g_sub hw (lv2 := [(0, .ref (gA G 268)), (1, .int l1_117), (2, .long l2_118), (4, .long l4_119), (6, .long l6_120)]) [0, 1, 2, 3, 4] rfl ?_
    exact wX7_forks_b251 hw hkf h
  · have h := gF h hb125
    refine g_lload hw 5 dX7_forks_244 rfl ?_
    refine g_goto (tgt := 251) hw dX7_forks_246 (by decide) ?_
    refine g_sub hw (lv2 := [(0, .ref (gA G 268)), (1, .int l1_117), (2, .long l2_118), (4, .long l4_119), (6, .long l6_120)]) [0, 1, 2, 3, 4] rfl ?_
    exact wX7_forks_b251 hw hkf h
def fX7_forks_b210 (l1_105 : Int32) (l2_106 : Int64) (l4_107 : Int64) (l6_108 : Int64) (l8_109 : Int64) (l10_110 : Int64) (l12_111 : Int64) (l14_112 : Int64) (s1_113 : Int32) (M : gM) (Q : Int64 → gM → Prop) : Prop :=
  gk M 268 = 7 ∧ (if (gI (gsI M 268 0 s1_113) 268 0) ≤ 0 then (if 5 ≤ l1_105 then fX7_forks_b235 l1_105 l2_106 l4_107 l6_108 l10_110 l14_112 l12_111 (gsI M 268 0 s1_113) Q else fX7_forks_b235 l1_105 l2_106 l4_107 l6_108 l10_110 l14_112 l8_109 (gsI M 268 0 s1_113) Q) else Q 0 (gsI M 268 0 s1_113))
theorem wX7_forks_b210 {kf : Nat} {G : gG} {w : gM → Nat → List (Nat × Value) → List Value → Prop} {Q : Int64 → gM → Prop} (hw : gX yX7_forks cX7_forks 17 (Option.some FieldType.long) [] kf G (gQl Q) gE0 w) (hkf : 5 ≤ kf)  {l1_105 : Int32} {l2_106 : Int64} {l4_107 : Int64} {l6_108 : Int64} {l8_109 : Int64} {l10_110 : Int64} {l12_111 : Int64} {l14_112 : Int64} {s1_113 : Int32} {M : gM}  (h : fX7_forks_b210 l1_105 l2_106 l4_107 l6_108 l8_109 l10_110 l12_111 l14_112 s1_113 M Q) : w M 210 [(0, .ref (gA G 268)), (1, .int l1_105), (2, .long l2_106), (4, .long l4_107), (6, .long l6_108), (8, .long l8_109), (10, .long l10_110), (12, .long l12_111), (14, .long l14_112)] [.int s1_113, .ref (gA G 268)] := by
  unfold fX7_forks_b210 at h
  obtain ⟨hk114, h⟩ := h
  refine pfX7_1 hw rfl dX7_forks_210 hk114 ?_
  refine g_aload_n hw 0 dX7_forks_213 rfl ?_
  refine gfX7_1 hw rfl dX7_forks_214 hk114 ?_
  refine g_if_le (tgt := 222) hw dX7_forks_217 (by decide) (fun hb115 => ?_) (fun hb115 => ?_)
  · have h := gT h hb115
    refine g_aload_n hw 0 dX7_forks_222 rfl ?_
    refine g_iload_n hw 1 dX7_forks_223 rfl ?_
    refine g_iconst (v := 5) hw dX7_forks_224 (by decide) ?_
    refine g_icmp_ge (tgt := 233) hw dX7_forks_225 (by decide) (fun hb116 => ?_) (fun hb116 => ?_)
    · have h := gT h hb116
      refine g_lload hw 7 dX7_forks_233 rfl ?_
      refine g_sub hw (lv2 := [(0, .ref (gA G 268)), (1, .int l1_105), (2, .long l2_106), (4, .long l4_107), (6, .long l6_108), (10, .long l10_110), (14, .long l14_112)]) [0, 1, 2, 3, 4, 6, 8] rfl ?_
      exact wX7_forks_b235 hw hkf h
    · have h := gF h hb116
      refine g_lload hw 5 dX7_forks_228 rfl ?_
      refine g_goto (tgt := 235) hw dX7_forks_230 (by decide) ?_
      refine g_sub hw (lv2 := [(0, .ref (gA G 268)), (1, .int l1_105), (2, .long l2_106), (4, .long l4_107), (6, .long l6_108), (10, .long l10_110), (14, .long l14_112)]) [0, 1, 2, 3, 4, 6, 8] rfl ?_
      exact wX7_forks_b235 hw hkf h
  · have h := gF h hb115
    refine g_lconst (v := 0) hw dX7_forks_220 (by decide) ?_
    exact g_lret hw dX7_forks_221 ⟨_, rfl, h⟩
def fX7_forks_b205 (l1_97 : Int32) (l2_98 : Int64) (l4_99 : Int64) (l6_100 : Int64) (l8_101 : Int64) (l10_102 : Int64) (l12_103 : Int64) (l14_104 : Int64) (M : gM) (Q : Int64 → gM → Prop) : Prop :=
  fX7_forks_b210 l1_97 l2_98 l4_99 l6_100 l8_101 l10_102 l12_103 l14_104 1 M Q
theorem wX7_forks_b205 {kf : Nat} {G : gG} {w : gM → Nat → List (Nat × Value) → List Value → Prop} {Q : Int64 → gM → Prop} (hw : gX yX7_forks cX7_forks 17 (Option.some FieldType.long) [] kf G (gQl Q) gE0 w) (hkf : 5 ≤ kf)  {l1_97 : Int32} {l2_98 : Int64} {l4_99 : Int64} {l6_100 : Int64} {l8_101 : Int64} {l10_102 : Int64} {l12_103 : Int64} {l14_104 : Int64} {M : gM}  (h : fX7_forks_b205 l1_97 l2_98 l4_99 l6_100 l8_101 l10_102 l12_103 l14_104 M Q) : w M 205 [(0, .ref (gA G 268)), (1, .int l1_97), (2, .long l2_98), (4, .long l4_99), (6, .long l6_100), (8, .long l8_101), (10, .long l10_102), (12, .long l12_103), (14, .long l14_104)] [.ref (gA G 268)] := by
  unfold fX7_forks_b205 at h
  refine g_iconst (v := 1) hw dX7_forks_205 (by decide) ?_
  refine g_goto (tgt := 210) hw dX7_forks_206 (by decide) ?_
  exact wX7_forks_b210 hw hkf h
def fX7_forks_b209 (l1_141 : Int32) (l2_142 : Int64) (l4_143 : Int64) (l6_144 : Int64) (l8_145 : Int64) (l10_146 : Int64) (l12_147 : Int64) (l14_148 : Int64) (M : gM) (Q : Int64 → gM → Prop) : Prop :=
  fX7_forks_b210 l1_141 l2_142 l4_143 l6_144 l8_145 l10_146 l12_147 l14_148 0 M Q
theorem wX7_forks_b209 {kf : Nat} {G : gG} {w : gM → Nat → List (Nat × Value) → List Value → Prop} {Q : Int64 → gM → Prop} (hw : gX yX7_forks cX7_forks 17 (Option.some FieldType.long) [] kf G (gQl Q) gE0 w) (hkf : 5 ≤ kf)  {l1_141 : Int32} {l2_142 : Int64} {l4_143 : Int64} {l6_144 : Int64} {l8_145 : Int64} {l10_146 : Int64} {l12_147 : Int64} {l14_148 : Int64} {M : gM}  (h : fX7_forks_b209 l1_141 l2_142 l4_143 l6_144 l8_145 l10_146 l12_147 l14_148 M Q) : w M 209 [(0, .ref (gA G 268)), (1, .int l1_141), (2, .long l2_142), (4, .long l4_143), (6, .long l6_144), (8, .long l8_145), (10, .long l10_146), (12, .long l12_147), (14, .long l14_148)] [.ref (gA G 268)] := by
  unfold fX7_forks_b209 at h
  refine g_iconst (v := 0) hw dX7_forks_209 (by decide) ?_
  exact wX7_forks_b210 hw hkf h
def fX7_forks_b16 (l1_4 : Int32) (s1_5 : Int32) (M : gM) (Q : Int64 → gM → Prop) : Prop :=
  gk M 268 = 7 ∧ ∃ n, fX7_forks_L42 (fun l2_87 l4_88 l6_89 l8_90 l10_91 l12_92 l14_93 M94 => gk M94 268 = 7 ∧ (if 0 < (gI M94 268 0) then fX7_forks_b205 l1_4 l2_87 l4_88 l6_89 l8_90 l10_91 l12_92 l14_93 M94 Q else (if l1_4 ≤ 2 then fX7_forks_b209 l1_4 l2_87 l4_88 l6_89 l8_90 l10_91 l12_92 l14_93 M94 Q else (if (lg_cmp l2_87 0) = 0 then fX7_forks_b205 l1_4 l2_87 l4_88 l6_89 l8_90 l10_91 l12_92 l14_93 M94 Q else fX7_forks_b209 l1_4 l2_87 l4_88 l6_89 l8_90 l10_91 l12_92 l14_93 M94 Q)))) l1_4 Q n 0 0 0 0 1 0 1 0 (gsI M 268 0 s1_5)
theorem wX7_forks_b16 {kf : Nat} {G : gG} {w : gM → Nat → List (Nat × Value) → List Value → Prop} {Q : Int64 → gM → Prop} (hw : gX yX7_forks cX7_forks 17 (Option.some FieldType.long) [] kf G (gQl Q) gE0 w) (hkf : 5 ≤ kf)  {l1_4 : Int32} {s1_5 : Int32} {M : gM}  (h : fX7_forks_b16 l1_4 s1_5 M Q) : w M 16 [(0, .ref (gA G 268)), (1, .int l1_4)] [.int s1_5, .ref (gA G 268)] := by
  unfold fX7_forks_b16 at h
  obtain ⟨hk6, h⟩ := h
  refine pfX7_1 hw rfl dX7_forks_16 hk6 ?_
  refine g_lconst (v := 0) hw dX7_forks_19 (by decide) ?_
  refine g_lstore_n hw (lv2 := [(0, .ref (gA G 268)), (1, .int l1_4), (2, .long 0)]) [1, 2, 0] dX7_forks_20 rfl rfl ?_
  refine g_lconst (v := 0) hw dX7_forks_21 (by decide) ?_
  refine g_lstore hw (lv2 := [(0, .ref (gA G 268)), (1, .int l1_4), (2, .long 0), (4, .long 0)]) [1, 2, 3, 0] dX7_forks_22 rfl rfl ?_
  refine g_lconst (v := 0) hw dX7_forks_24 (by decide) ?_
  refine g_lstore hw (lv2 := [(0, .ref (gA G 268)), (1, .int l1_4), (2, .long 0), (4, .long 0), (6, .long 0)]) [1, 2, 3, 4, 0] dX7_forks_25 rfl rfl ?_
  refine g_lconst (v := 0) hw dX7_forks_27 (by decide) ?_
  refine g_lstore hw (lv2 := [(0, .ref (gA G 268)), (1, .int l1_4), (2, .long 0), (4, .long 0), (6, .long 0), (8, .long 0)]) [1, 2, 3, 4, 5, 0] dX7_forks_28 rfl rfl ?_
  refine g_lconst (v := 1) hw dX7_forks_30 (by decide) ?_
  refine g_lstore hw (lv2 := [(0, .ref (gA G 268)), (1, .int l1_4), (2, .long 0), (4, .long 0), (6, .long 0), (8, .long 0), (10, .long 1)]) [1, 2, 3, 4, 5, 6, 0] dX7_forks_31 rfl rfl ?_
  refine g_lconst (v := 0) hw dX7_forks_33 (by decide) ?_
  refine g_lstore hw (lv2 := [(0, .ref (gA G 268)), (1, .int l1_4), (2, .long 0), (4, .long 0), (6, .long 0), (8, .long 0), (10, .long 1), (12, .long 0)]) [1, 2, 3, 4, 5, 6, 7, 0] dX7_forks_34 rfl rfl ?_
  refine g_lconst (v := 1) hw dX7_forks_36 (by decide) ?_
  refine g_lstore hw (lv2 := [(0, .ref (gA G 268)), (1, .int l1_4), (2, .long 0), (4, .long 0), (6, .long 0), (8, .long 0), (10, .long 1), (12, .long 0), (14, .long 1)]) [1, 2, 3, 4, 5, 6, 7, 8, 0] dX7_forks_37 rfl rfl ?_
  refine g_iconst (v := 0) hw dX7_forks_39 (by decide) ?_
  refine g_istore hw (lv2 := [(0, .ref (gA G 268)), (1, .int l1_4), (2, .long 0), (4, .long 0), (6, .long 0), (8, .long 0), (10, .long 1), (12, .long 0), (14, .long 1), (16, .int 0)]) [1, 2, 3, 4, 5, 6, 7, 8, 9, 0] dX7_forks_40 rfl rfl ?_
  obtain ⟨n9, h⟩ := h
  refine wX7_forks_L42 hw hkf (fun l2_87 l4_88 l6_89 l8_90 l10_91 l12_92 l14_93 M94 h => ?_) n9 0 0 0 0 1 0 1 0 (gsI M 268 0 s1_5) h
  refine g_aload_n hw 0 dX7_forks_186 rfl ?_
  refine g_aload_n hw 0 dX7_forks_187 rfl ?_
  obtain ⟨hk95, h⟩ := h
  refine gfX7_1 hw rfl dX7_forks_188 hk95 ?_
  refine g_if_gt (tgt := 205) hw dX7_forks_191 (by decide) (fun hb96 => ?_) (fun hb96 => ?_)
  · have h := gT h hb96
    exact wX7_forks_b205 hw hkf h
  · have h := gF h hb96
    refine g_iload_n hw 1 dX7_forks_194 rfl ?_
    refine g_iconst (v := 2) hw dX7_forks_195 (by decide) ?_
    refine g_icmp_le (tgt := 209) hw dX7_forks_196 (by decide) (fun hb140 => ?_) (fun hb140 => ?_)
    · have h := gT h hb140
      exact wX7_forks_b209 hw hkf h
    · have h := gF h hb140
      refine g_lload_n hw 2 dX7_forks_199 rfl ?_
      refine g_lconst (v := 0) hw dX7_forks_200 (by decide) ?_
      refine g_lcmp hw dX7_forks_201 ?_
      refine g_if_ne (tgt := 209) hw dX7_forks_202 (by decide) (fun hb149 => ?_) (fun hb149 => ?_)
      · have h := gF h hb149
        exact wX7_forks_b209 hw hkf h
      · have h := gT h hb149
        exact wX7_forks_b205 hw hkf h
def fX7_forks (p1 : Int32) (M : gM) (Q : Int64 → gM → Prop) : Prop :=
  fX7_within p1 0 6 M (fun r2 M1 => (if r2 = 0 then fX7_forks_b16 p1 1 M1 Q else fX7_forks_b16 p1 0 M1 Q))
theorem mX7_forks {kf : Nat} (hkf : 5 ≤ kf) (G : gG) (p1 : Int32) (M : gM) (Q : Int64 → gM → Prop) (h : fX7_forks p1 M Q) : gMet yX7_forks cX7_forks 17 (Option.some FieldType.long) kf G M [.ref (gA G 268), .int p1] (gQl Q) gE0 := by
  refine g_intro (lv := [(0, .ref (gA G 268)), (1, .int p1)]) (by decide) rfl rfl (fun w hw => ?_)
  unfold fX7_forks at h
  refine g_aload_n hw 0 dX7_forks_0 rfl ?_
  refine g_iload_n hw 1 dX7_forks_1 rfl ?_
  refine g_iconst (v := 0) hw dX7_forks_2 (by decide) ?_
  refine g_bipush (v := 6) hw dX7_forks_3 (by decide) ?_
  refine sX7_253 hw rfl dX7_forks_5 rfl (gK2 hkf) h (fun r2 M1 h => ?_)
  refine g_if_eq (tgt := 15) hw dX7_forks_8 (by decide) (fun hb3 => ?_) (fun hb3 => ?_)
  · have h := gT h hb3
    refine g_iconst (v := 1) hw dX7_forks_15 (by decide) ?_
    exact wX7_forks_b16 hw hkf h
  · have h := gF h hb3
    refine g_iconst (v := 0) hw dX7_forks_11 (by decide) ?_
    refine g_goto (tgt := 16) hw dX7_forks_12 (by decide) ?_
    exact wX7_forks_b16 hw hkf h
theorem gfX7_187 {y0 : MethodName} {cc : ByteArray} {nL : Nat} {ret : Option FieldType} {hh : List (Nat × Nat × Nat × Nat)} {kf : Nat} {G : gG} {Qv : Option Value → gM → Prop} {E : String → Nat → gM → Prop} {w : gM → Nat → List (Nat × Value) → List Value → Prop} {M : gM} {pc : Nat} {lv : List (Nat × Value)} {rest : List Value} (hw : gX y0 cc nL ret hh kf G Qv E w) (hy : y0.cls = RX7) {c : Nat} {q : Option Nat} (d : decode cc pc = .ok (.getfield 187, 3)) (hk : gk M c = 7) (hq : gR M c 51 = q) (kk : w M (pc + 3) lv (va_rf (q.map (gA G)) :: rest)) : w M pc lv (.ref (gA G c) :: rest) := by
  obtain ⟨cls9, nm9, ds9⟩ := y0
  subst hy
  subst hq
  exact g_getC (C := RX7) (T := TX7) (N := 58) (ci := 6) hw in_X7 rfl 51 (by decide) (Or.inl q1207) rfl d hk kk
theorem gfX7_190 {y0 : MethodName} {cc : ByteArray} {nL : Nat} {ret : Option FieldType} {hh : List (Nat × Nat × Nat × Nat)} {kf : Nat} {G : gG} {Qv : Option Value → gM → Prop} {E : String → Nat → gM → Prop} {w : gM → Nat → List (Nat × Value) → List Value → Prop} {M : gM} {pc : Nat} {lv : List (Nat × Value)} {rest : List Value} (hw : gX y0 cc nL ret hh kf G Qv E w) (hy : y0.cls = RX7) {c : Nat} {q : Option Nat} (d : decode cc pc = .ok (.getfield 190, 3)) (hk : gk M c = 7) (hq : gR M c 52 = q) (kk : w M (pc + 3) lv (va_rf (q.map (gA G)) :: rest)) : w M pc lv (.ref (gA G c) :: rest) := by
  obtain ⟨cls9, nm9, ds9⟩ := y0
  subst hy
  subst hq
  exact g_getC (C := RX7) (T := TX7) (N := 58) (ci := 6) hw in_X7 rfl 52 (by decide) (Or.inl q1208) rfl d hk kk
def fX7_book (p1 : Int32) (p2 : Int32) (p3 : Int32) (p4 : Int32) (M : gM) (Q : Int32 → gM → Prop) : Prop :=
  gk M 268 = 7 ∧ fX7_isKitchen p1 (gsI M 268 0 0) (fun r3 M2 => (if r3 = 0 then Q 0 M2 else fX7_isMonth p2 M2 (fun r6 M5 => (if r6 = 0 then Q 0 M5 else fX7_within p3 0 999 M5 (fun r9 M8 => (if r9 = 0 then Q 0 M8 else fX7_within p4 0 99999 M8 (fun r12 M11 => (if r12 = 0 then Q 0 M11 else gk M11 268 = 7 ∧ gdr (gR M11 268 51) (fun a15 => gk M11 a15 = 40 ∧ vp_in ((12 * p1) + p2) (gl M11 a15) ∧ gdr (gR (gsI M11 a15 (((12 * p1) + p2).toNatClampNeg) p3) 268 52) (fun a19 => gk (gsI M11 a15 (((12 * p1) + p2).toNatClampNeg) p3) a19 = 40 ∧ vp_in ((12 * p1) + p2) (gl (gsI M11 a15 (((12 * p1) + p2).toNatClampNeg) p3) a19) ∧ Q 1 (gsI (gsI M11 a15 (((12 * p1) + p2).toNatClampNeg) p3) a19 (((12 * p1) + p2).toNatClampNeg) p4)))))))))))
theorem mX7_book {kf : Nat} (hkf : 3 ≤ kf) (G : gG) (p1 : Int32) (p2 : Int32) (p3 : Int32) (p4 : Int32) (M : gM) (Q : Int32 → gM → Prop) (h : fX7_book p1 p2 p3 p4 M Q) : gMet yX7_book cX7_book 5 (Option.some FieldType.boolean) kf G M [.ref (gA G 268), .int p1, .int p2, .int p3, .int p4] (gQi Q) gE0 := by
  refine g_intro (lv := [(0, .ref (gA G 268)), (1, .int p1), (2, .int p2), (3, .int p3), (4, .int p4)]) (by decide) rfl rfl (fun w hw => ?_)
  unfold fX7_book at h
  refine g_aload_n hw 0 dX7_book_0 rfl ?_
  refine g_iconst (v := 0) hw dX7_book_1 (by decide) ?_
  obtain ⟨hk1, h⟩ := h
  refine pfX7_1 hw rfl dX7_book_2 hk1 ?_
  refine g_aload_n hw 0 dX7_book_5 rfl ?_
  refine g_iload_n hw 1 dX7_book_6 rfl ?_
  refine sX7_257 hw rfl dX7_book_7 rfl (gK2 hkf) hk1 h (fun r3 M2 h => ?_)
  refine g_if_eq (tgt := 43) hw dX7_book_10 (by decide) (fun hb4 => ?_) (fun hb4 => ?_)
  · have h := gT h hb4
    refine g_iconst (v := 0) hw dX7_book_43 (by decide) ?_
    exact g_iret hw dX7_book_44 (by decide +kernel) ⟨_, rfl, h⟩
  · have h := gF h hb4
    refine g_iload_n hw 2 dX7_book_13 rfl ?_
    refine sX7_260 hw rfl dX7_book_14 rfl (gK2 hkf) h (fun r6 M5 h => ?_)
    refine g_if_eq (tgt := 43) hw dX7_book_17 (by decide) (fun hb7 => ?_) (fun hb7 => ?_)
    · have h := gT h hb7
      refine g_iconst (v := 0) hw dX7_book_43 (by decide) ?_
      exact g_iret hw dX7_book_44 (by decide +kernel) ⟨_, rfl, h⟩
    · have h := gF h hb7
      refine g_iload_n hw 3 dX7_book_20 rfl ?_
      refine g_iconst (v := 0) hw dX7_book_21 (by decide) ?_
      refine g_sipush (v := 999) hw dX7_book_22 (by decide) ?_
      refine sX7_253 hw rfl dX7_book_25 rfl (gK2 hkf) h (fun r9 M8 h => ?_)
      refine g_if_eq (tgt := 43) hw dX7_book_28 (by decide) (fun hb10 => ?_) (fun hb10 => ?_)
      · have h := gT h hb10
        refine g_iconst (v := 0) hw dX7_book_43 (by decide) ?_
        exact g_iret hw dX7_book_44 (by decide +kernel) ⟨_, rfl, h⟩
      · have h := gF h hb10
        refine g_iload hw 4 dX7_book_31 rfl ?_
        refine g_iconst (v := 0) hw dX7_book_33 (by decide) ?_
        refine g_ldcw hw dX7_book_34 q1678 ?_
        refine sX7_253 hw rfl dX7_book_37 rfl (gK2 hkf) h (fun r12 M11 h => ?_)
        refine g_if_ne (tgt := 45) hw dX7_book_40 (by decide) (fun hb13 => ?_) (fun hb13 => ?_)
        · have h := gF h hb13
          refine g_aload_n hw 0 dX7_book_45 rfl ?_
          obtain ⟨hk14, h⟩ := h
          obtain ⟨a15, e16, h⟩ := h
          refine gfX7_187 (q := some a15) hw rfl dX7_book_46 hk14 e16 ?_
          refine g_bipush (v := 12) hw dX7_book_49 (by decide) ?_
          refine g_iload_n hw 1 dX7_book_51 rfl ?_
          refine g_imul hw dX7_book_52 ?_
          refine g_iload_n hw 2 dX7_book_53 rfl ?_
          refine g_iadd hw dX7_book_54 ?_
          refine g_iload_n hw 3 dX7_book_55 rfl ?_
          obtain ⟨hk17, h⟩ := h
          obtain ⟨hi18, h⟩ := h
          refine g_iast (n := ((12 * p1) + p2).toNatClampNeg) hw dX7_book_56 hk17 hi18 rfl ?_
          refine g_aload_n hw 0 dX7_book_57 rfl ?_
          obtain ⟨a19, e20, h⟩ := h
          refine gfX7_190 (q := some a19) hw rfl dX7_book_58 hk14 e20 ?_
          refine g_bipush (v := 12) hw dX7_book_61 (by decide) ?_
          refine g_iload_n hw 1 dX7_book_63 rfl ?_
          refine g_imul hw dX7_book_64 ?_
          refine g_iload_n hw 2 dX7_book_65 rfl ?_
          refine g_iadd hw dX7_book_66 ?_
          refine g_iload hw 4 dX7_book_67 rfl ?_
          obtain ⟨hk21, h⟩ := h
          obtain ⟨hi22, h⟩ := h
          refine g_iast (n := ((12 * p1) + p2).toNatClampNeg) hw dX7_book_69 hk21 hi22 rfl ?_
          refine g_iconst (v := 1) hw dX7_book_70 (by decide) ?_
          exact g_iret hw dX7_book_71 (by decide +kernel) ⟨_, rfl, h⟩
        · have h := gT h hb13
          refine g_iconst (v := 0) hw dX7_book_43 (by decide) ?_
          exact g_iret hw dX7_book_44 (by decide +kernel) ⟨_, rfl, h⟩
def fX7_rateOf (p1 : Int32) (p2 : Int32) (M : gM) (Q : Int64 → gM → Prop) : Prop :=
  gk M 268 = 7 ∧ gdr (gR M 268 16) (fun a2 => gdr (gR M 268 11) (fun a4 => gk M a4 = 40 ∧ vp_in p1 (gl M a4) ∧ gk M a2 = 40 ∧ vp_in ((12 * (gI M a4 p1.toNatClampNeg)) + p2) (gl M a2) ∧ gdr (gR M 268 12) (fun a10 => gk M a10 = 40 ∧ vp_in p1 (gl M a10) ∧ (if (gI M a2 (((12 * (gI M a4 p1.toNatClampNeg)) + p2).toNatClampNeg)) ≤ (gI M a10 p1.toNatClampNeg) then gdr (gR M 268 12) (fun a15 => gk M a15 = 40 ∧ vp_in p1 (gl M a15) ∧ Q ((gI M a15 p1.toNatClampNeg).toInt64) M) else Q ((gI M a2 (((12 * (gI M a4 p1.toNatClampNeg)) + p2).toNatClampNeg)).toInt64) M))))
theorem mX7_rateOf {kf : Nat} (hkf : 1 ≤ kf) (G : gG) (p1 : Int32) (p2 : Int32) (M : gM) (Q : Int64 → gM → Prop) (h : fX7_rateOf p1 p2 M Q) : gMet yX7_rateOf cX7_rateOf 4 (Option.some FieldType.long) kf G M [.ref (gA G 268), .int p1, .int p2] (gQl Q) gE0 := by
  refine g_intro (lv := [(0, .ref (gA G 268)), (1, .int p1), (2, .int p2)]) (by decide) rfl rfl (fun w hw => ?_)
  unfold fX7_rateOf at h
  refine g_aload_n hw 0 dX7_rateOf_0 rfl ?_
  obtain ⟨hk1, h⟩ := h
  obtain ⟨a2, e3, h⟩ := h
  refine gfX7_109 (q := some a2) hw rfl dX7_rateOf_1 hk1 e3 ?_
  refine g_bipush (v := 12) hw dX7_rateOf_4 (by decide) ?_
  refine g_aload_n hw 0 dX7_rateOf_6 rfl ?_
  obtain ⟨a4, e5, h⟩ := h
  refine gfX7_97 (q := some a4) hw rfl dX7_rateOf_7 hk1 e5 ?_
  refine g_iload_n hw 1 dX7_rateOf_10 rfl ?_
  obtain ⟨hk6, h⟩ := h
  obtain ⟨hi7, h⟩ := h
  refine g_iald (n := p1.toNatClampNeg) hw dX7_rateOf_11 hk6 hi7 rfl ?_
  refine g_imul hw dX7_rateOf_12 ?_
  refine g_iload_n hw 2 dX7_rateOf_13 rfl ?_
  refine g_iadd hw dX7_rateOf_14 ?_
  obtain ⟨hk8, h⟩ := h
  obtain ⟨hi9, h⟩ := h
  refine g_iald (n := ((12 * (gI M a4 p1.toNatClampNeg)) + p2).toNatClampNeg) hw dX7_rateOf_15 hk8 hi9 rfl ?_
  refine g_istore_n hw (lv2 := [(0, .ref (gA G 268)), (1, .int p1), (3, .int (gI M a2 (((12 * (gI M a4 p1.toNatClampNeg)) + p2).toNatClampNeg)))]) [1, 2, 0] dX7_rateOf_16 rfl rfl ?_
  refine g_iload_n hw 2 dX7_rateOf_17 rfl ?_
  refine g_aload_n hw 0 dX7_rateOf_18 rfl ?_
  obtain ⟨a10, e11, h⟩ := h
  refine gfX7_100 (q := some a10) hw rfl dX7_rateOf_19 hk1 e11 ?_
  refine g_iload_n hw 1 dX7_rateOf_22 rfl ?_
  obtain ⟨hk12, h⟩ := h
  obtain ⟨hi13, h⟩ := h
  refine g_iald (n := p1.toNatClampNeg) hw dX7_rateOf_23 hk12 hi13 rfl ?_
  refine g_icmp_le (tgt := 32) hw dX7_rateOf_24 (by decide) (fun hb14 => ?_) (fun hb14 => ?_)
  · have h := gT h hb14
    refine g_aload_n hw 0 dX7_rateOf_32 rfl ?_
    obtain ⟨a15, e16, h⟩ := h
    refine gfX7_100 (q := some a15) hw rfl dX7_rateOf_33 hk1 e16 ?_
    refine g_iload_n hw 1 dX7_rateOf_36 rfl ?_
    obtain ⟨hk17, h⟩ := h
    obtain ⟨hi18, h⟩ := h
    refine g_iald (n := p1.toNatClampNeg) hw dX7_rateOf_37 hk17 hi18 rfl ?_
    refine g_i2l hw dX7_rateOf_38 ?_
    exact g_lret hw dX7_rateOf_39 ⟨_, rfl, h⟩
  · have h := gF h hb14
    refine g_iload_n hw 2 dX7_rateOf_27 rfl ?_
    refine g_i2l hw dX7_rateOf_28 ?_
    refine g_goto (tgt := 39) hw dX7_rateOf_29 (by decide) ?_
    exact g_lret hw dX7_rateOf_39 ⟨_, rfl, h⟩
theorem sX7_456 {y0 : MethodName} {cc : ByteArray} {nL : Nat} {ret : Option FieldType} {hh : List (Nat × Nat × Nat × Nat)} {kf : Nat} {G : gG} {Qv : Option Value → gM → Prop} {E : String → Nat → gM → Prop} {w : gM → Nat → List (Nat × Value) → List Value → Prop} {M : gM} {pc : Nat} {lv : List (Nat × Value)} {rest : List Value} (hw : gX y0 cc nL ret hh kf G Qv E w) (hy : y0.cls = RX7) {p1 : Int32} {p2 : Int32} {Q : Int64 → gM → Prop} (d : decode cc pc = .ok (.invokevirtual 456, 3)) (hrest : Nat.ble ((rest.map Value.category).sum) 8 = true) (hk : 1 + 1 ≤ kf) (hkd : gk M 268 = 7) (h : fX7_rateOf p1 p2 M Q) (kk : ∀ r M1, Q r M1 → w M1 (pc + 3) lv (.long r :: rest)) : w M pc lv (.int p2 :: .int p1 :: .ref (gA G 268) :: rest) := by
  obtain ⟨cls9, nm9, ds9⟩ := y0
  subst hy
  exact g_callV (r := (RX7, TX7, 58)) (ci := 6) hw [.int p1, .int p2] (nA := 2) rfl d q1683 q1685 qs88 q104 q1686 (by decide +kernel) rfl rfl hrest rfl (by omega : kf - 1 + 1 ≤ kf) hkd (mX7_rateOf (kf := kf - 1) (by omega) G p1 p2 M Q h) (fun _ _ _ q => q.elim) (fun v M1 h => by obtain ⟨r, rfl, h⟩ := h; exact kk r M1 h)
def fX7_paidOf (p1 : Int32) (p2 : Int32) (M : gM) (Q : Int64 → gM → Prop) : Prop :=
  gk M 268 = 7 ∧ fX7_handsOf p1 p2 M (fun r3 M2 => gk M2 268 = 7 ∧ gdr (gR M2 268 51) (fun a5 => gk M2 a5 = 40 ∧ vp_in ((12 * p1) + p2) (gl M2 a5) ∧ fX7_rateOf p1 p2 M2 (fun r10 M9 => Q ((r3.toInt64 * ((gI M2 a5 (((12 * p1) + p2).toNatClampNeg)).toInt64)) * r10) M9)))
theorem mX7_paidOf {kf : Nat} (hkf : 3 ≤ kf) (G : gG) (p1 : Int32) (p2 : Int32) (M : gM) (Q : Int64 → gM → Prop) (h : fX7_paidOf p1 p2 M Q) : gMet yX7_paidOf cX7_paidOf 3 (Option.some FieldType.long) kf G M [.ref (gA G 268), .int p1, .int p2] (gQl Q) gE0 := by
  refine g_intro (lv := [(0, .ref (gA G 268)), (1, .int p1), (2, .int p2)]) (by decide) rfl rfl (fun w hw => ?_)
  unfold fX7_paidOf at h
  refine g_aload_n hw 0 dX7_paidOf_0 rfl ?_
  refine g_iload_n hw 1 dX7_paidOf_1 rfl ?_
  refine g_iload_n hw 2 dX7_paidOf_2 rfl ?_
  obtain ⟨hk1, h⟩ := h
  refine sX7_267 hw rfl dX7_paidOf_3 rfl (gK2 hkf) hk1 h (fun r3 M2 h => ?_)
  refine g_i2l hw dX7_paidOf_6 ?_
  refine g_aload_n hw 0 dX7_paidOf_7 rfl ?_
  obtain ⟨hk4, h⟩ := h
  obtain ⟨a5, e6, h⟩ := h
  refine gfX7_187 (q := some a5) hw rfl dX7_paidOf_8 hk4 e6 ?_
  refine g_bipush (v := 12) hw dX7_paidOf_11 (by decide) ?_
  refine g_iload_n hw 1 dX7_paidOf_13 rfl ?_
  refine g_imul hw dX7_paidOf_14 ?_
  refine g_iload_n hw 2 dX7_paidOf_15 rfl ?_
  refine g_iadd hw dX7_paidOf_16 ?_
  obtain ⟨hk7, h⟩ := h
  obtain ⟨hi8, h⟩ := h
  refine g_iald (n := ((12 * p1) + p2).toNatClampNeg) hw dX7_paidOf_17 hk7 hi8 rfl ?_
  refine g_i2l hw dX7_paidOf_18 ?_
  refine g_lmul hw dX7_paidOf_19 ?_
  refine g_aload_n hw 0 dX7_paidOf_20 rfl ?_
  refine g_iload_n hw 1 dX7_paidOf_21 rfl ?_
  refine g_iload_n hw 2 dX7_paidOf_22 rfl ?_
  refine sX7_456 hw rfl dX7_paidOf_23 rfl (gK2 hkf) hk4 h (fun r10 M9 h => ?_)
  refine g_lmul hw dX7_paidOf_26 ?_
  exact g_lret hw dX7_paidOf_27 ⟨_, rfl, h⟩
theorem sX7_459 {y0 : MethodName} {cc : ByteArray} {nL : Nat} {ret : Option FieldType} {hh : List (Nat × Nat × Nat × Nat)} {kf : Nat} {G : gG} {Qv : Option Value → gM → Prop} {E : String → Nat → gM → Prop} {w : gM → Nat → List (Nat × Value) → List Value → Prop} {M : gM} {pc : Nat} {lv : List (Nat × Value)} {rest : List Value} (hw : gX y0 cc nL ret hh kf G Qv E w) (hy : y0.cls = RX7) {p1 : Int32} {p2 : Int32} {Q : Int64 → gM → Prop} (d : decode cc pc = .ok (.invokevirtual 459, 3)) (hrest : Nat.ble ((rest.map Value.category).sum) 8 = true) (hk : 3 + 1 ≤ kf) (hkd : gk M 268 = 7) (h : fX7_paidOf p1 p2 M Q) (kk : ∀ r M1, Q r M1 → w M1 (pc + 3) lv (.long r :: rest)) : w M pc lv (.int p2 :: .int p1 :: .ref (gA G 268) :: rest) := by
  obtain ⟨cls9, nm9, ds9⟩ := y0
  subst hy
  exact g_callV (r := (RX7, TX7, 58)) (ci := 6) hw [.int p1, .int p2] (nA := 2) rfl d q1687 q1689 qs89 q104 q1690 (by decide +kernel) rfl rfl hrest rfl (by omega : kf - 1 + 1 ≤ kf) hkd (mX7_paidOf (kf := kf - 1) (by omega) G p1 p2 M Q h) (fun _ _ _ q => q.elim) (fun v M1 h => by obtain ⟨r, rfl, h⟩ := h; exact kk r M1 h)
def fX7_restOf (p1 : Int32) (p2 : Int32) (M : gM) (Q : Int64 → gM → Prop) : Prop :=
  gk M 268 = 7 ∧ gdr (gR M 268 52) (fun a2 => gk M a2 = 40 ∧ vp_in ((12 * p1) + p2) (gl M a2) ∧ fX7_paidOf p1 p2 M (fun r7 M6 => Q ((10 * ((gI M a2 (((12 * p1) + p2).toNatClampNeg)).toInt64)) - r7) M6))
theorem mX7_restOf {kf : Nat} (hkf : 4 ≤ kf) (G : gG) (p1 : Int32) (p2 : Int32) (M : gM) (Q : Int64 → gM → Prop) (h : fX7_restOf p1 p2 M Q) : gMet yX7_restOf cX7_restOf 3 (Option.some FieldType.long) kf G M [.ref (gA G 268), .int p1, .int p2] (gQl Q) gE0 := by
  refine g_intro (lv := [(0, .ref (gA G 268)), (1, .int p1), (2, .int p2)]) (by decide) rfl rfl (fun w hw => ?_)
  unfold fX7_restOf at h
  refine g_ldc2 hw dX7_restOf_0 q1491 ?_
  refine g_aload_n hw 0 dX7_restOf_3 rfl ?_
  obtain ⟨hk1, h⟩ := h
  obtain ⟨a2, e3, h⟩ := h
  refine gfX7_190 (q := some a2) hw rfl dX7_restOf_4 hk1 e3 ?_
  refine g_bipush (v := 12) hw dX7_restOf_7 (by decide) ?_
  refine g_iload_n hw 1 dX7_restOf_9 rfl ?_
  refine g_imul hw dX7_restOf_10 ?_
  refine g_iload_n hw 2 dX7_restOf_11 rfl ?_
  refine g_iadd hw dX7_restOf_12 ?_
  obtain ⟨hk4, h⟩ := h
  obtain ⟨hi5, h⟩ := h
  refine g_iald (n := ((12 * p1) + p2).toNatClampNeg) hw dX7_restOf_13 hk4 hi5 rfl ?_
  refine g_i2l hw dX7_restOf_14 ?_
  refine g_lmul hw dX7_restOf_15 ?_
  refine g_aload_n hw 0 dX7_restOf_16 rfl ?_
  refine g_iload_n hw 1 dX7_restOf_17 rfl ?_
  refine g_iload_n hw 2 dX7_restOf_18 rfl ?_
  refine sX7_459 hw rfl dX7_restOf_19 rfl (gK2 hkf) hk1 h (fun r7 M6 h => ?_)
  refine g_lsub hw dX7_restOf_22 ?_
  exact g_lret hw dX7_restOf_23 ⟨_, rfl, h⟩
theorem sX7_462 {y0 : MethodName} {cc : ByteArray} {nL : Nat} {ret : Option FieldType} {hh : List (Nat × Nat × Nat × Nat)} {kf : Nat} {G : gG} {Qv : Option Value → gM → Prop} {E : String → Nat → gM → Prop} {w : gM → Nat → List (Nat × Value) → List Value → Prop} {M : gM} {pc : Nat} {lv : List (Nat × Value)} {rest : List Value} (hw : gX y0 cc nL ret hh kf G Qv E w) (hy : y0.cls = RX7) {p1 : Int32} {p2 : Int32} {Q : Int64 → gM → Prop} (d : decode cc pc = .ok (.invokevirtual 462, 3)) (hrest : Nat.ble ((rest.map Value.category).sum) 8 = true) (hk : 4 + 1 ≤ kf) (hkd : gk M 268 = 7) (h : fX7_restOf p1 p2 M Q) (kk : ∀ r M1, Q r M1 → w M1 (pc + 3) lv (.long r :: rest)) : w M pc lv (.int p2 :: .int p1 :: .ref (gA G 268) :: rest) := by
  obtain ⟨cls9, nm9, ds9⟩ := y0
  subst hy
  exact g_callV (r := (RX7, TX7, 58)) (ci := 6) hw [.int p1, .int p2] (nA := 2) rfl d q1691 q1693 qs90 q104 q1694 (by decide +kernel) rfl rfl hrest rfl (by omega : kf - 1 + 1 ≤ kf) hkd (mX7_restOf (kf := kf - 1) (by omega) G p1 p2 M Q h) (fun _ _ _ q => q.elim) (fun v M1 h => by obtain ⟨r, rfl, h⟩ := h; exact kk r M1 h)
def fX7_booked_b60 (l1_16 : Int32) (l2_17 : Int32) (l3_18 : Int32) (s1_19 : Int32) (M : gM) (Q : Int64 → gM → Prop) : Prop :=
  gk M 268 = 7 ∧ (if (gI (gsI M 268 0 s1_19) 268 0) ≤ 0 then (if l3_18 = 0 then fX7_rateOf l1_16 l2_17 (gsI M 268 0 s1_19) (fun r29 M28 => Q r29 M28) else (if l3_18 = 1 then fX7_paidOf l1_16 l2_17 (gsI M 268 0 s1_19) (fun r27 M26 => Q r27 M26) else fX7_restOf l1_16 l2_17 (gsI M 268 0 s1_19) (fun r25 M24 => Q r25 M24))) else Q 0 (gsI M 268 0 s1_19))
theorem wX7_booked_b60 {kf : Nat} {G : gG} {w : gM → Nat → List (Nat × Value) → List Value → Prop} {Q : Int64 → gM → Prop} (hw : gX yX7_booked cX7_booked 5 (Option.some FieldType.long) [] kf G (gQl Q) gE0 w) (hkf : 5 ≤ kf)  {l1_16 : Int32} {l2_17 : Int32} {l3_18 : Int32} {s1_19 : Int32} {M : gM}  (h : fX7_booked_b60 l1_16 l2_17 l3_18 s1_19 M Q) : w M 60 [(0, .ref (gA G 268)), (1, .int l1_16), (2, .int l2_17), (3, .int l3_18)] [.int s1_19, .ref (gA G 268)] := by
  unfold fX7_booked_b60 at h
  obtain ⟨hk20, h⟩ := h
  refine pfX7_1 hw rfl dX7_booked_60 hk20 ?_
  refine g_aload_n hw 0 dX7_booked_63 rfl ?_
  refine gfX7_1 hw rfl dX7_booked_64 hk20 ?_
  refine g_if_le (tgt := 72) hw dX7_booked_67 (by decide) (fun hb21 => ?_) (fun hb21 => ?_)
  · have h := gT h hb21
    refine g_iload_n hw 3 dX7_booked_72 rfl ?_
    refine g_if_ne (tgt := 85) hw dX7_booked_73 (by decide) (fun hb22 => ?_) (fun hb22 => ?_)
    · have h := gF h hb22
      refine g_iload_n hw 3 dX7_booked_85 rfl ?_
      refine g_iconst (v := 1) hw dX7_booked_86 (by decide) ?_
      refine g_icmp_ne (tgt := 99) hw dX7_booked_87 (by decide) (fun hb23 => ?_) (fun hb23 => ?_)
      · have h := gF h hb23
        refine g_aload_n hw 0 dX7_booked_99 rfl ?_
        refine g_iload_n hw 1 dX7_booked_100 rfl ?_
        refine g_iload_n hw 2 dX7_booked_101 rfl ?_
        refine sX7_462 hw rfl dX7_booked_102 rfl (gK2 hkf) hk20 h (fun r25 M24 h => ?_)
        exact g_lret hw dX7_booked_105 ⟨_, rfl, h⟩
      · have h := gT h hb23
        refine g_aload_n hw 0 dX7_booked_90 rfl ?_
        refine g_iload_n hw 1 dX7_booked_91 rfl ?_
        refine g_iload_n hw 2 dX7_booked_92 rfl ?_
        refine sX7_459 hw rfl dX7_booked_93 rfl (gK2 hkf) hk20 h (fun r27 M26 h => ?_)
        refine g_goto (tgt := 105) hw dX7_booked_96 (by decide) ?_
        exact g_lret hw dX7_booked_105 ⟨_, rfl, h⟩
    · have h := gT h hb22
      refine g_aload_n hw 0 dX7_booked_76 rfl ?_
      refine g_iload_n hw 1 dX7_booked_77 rfl ?_
      refine g_iload_n hw 2 dX7_booked_78 rfl ?_
      refine sX7_456 hw rfl dX7_booked_79 rfl (gK2 hkf) hk20 h (fun r29 M28 h => ?_)
      refine g_goto (tgt := 105) hw dX7_booked_82 (by decide) ?_
      exact g_lret hw dX7_booked_105 ⟨_, rfl, h⟩
  · have h := gF h hb21
    refine g_lconst (v := 0) hw dX7_booked_70 (by decide) ?_
    exact g_lret hw dX7_booked_71 ⟨_, rfl, h⟩
def fX7_booked_b59 (l1_13 : Int32) (l2_14 : Int32) (l3_15 : Int32) (M : gM) (Q : Int64 → gM → Prop) : Prop :=
  fX7_booked_b60 l1_13 l2_14 l3_15 1 M Q
theorem wX7_booked_b59 {kf : Nat} {G : gG} {w : gM → Nat → List (Nat × Value) → List Value → Prop} {Q : Int64 → gM → Prop} (hw : gX yX7_booked cX7_booked 5 (Option.some FieldType.long) [] kf G (gQl Q) gE0 w) (hkf : 5 ≤ kf)  {l1_13 : Int32} {l2_14 : Int32} {l3_15 : Int32} {M : gM}  (h : fX7_booked_b59 l1_13 l2_14 l3_15 M Q) : w M 59 [(0, .ref (gA G 268)), (1, .int l1_13), (2, .int l2_14), (3, .int l3_15)] [.ref (gA G 268)] := by
  unfold fX7_booked_b59 at h
  refine g_iconst (v := 1) hw dX7_booked_59 (by decide) ?_
  exact wX7_booked_b60 hw hkf h
def fX7_booked_b55 (l1_31 : Int32) (l2_32 : Int32) (l3_33 : Int32) (M : gM) (Q : Int64 → gM → Prop) : Prop :=
  fX7_booked_b60 l1_31 l2_32 l3_33 0 M Q
theorem wX7_booked_b55 {kf : Nat} {G : gG} {w : gM → Nat → List (Nat × Value) → List Value → Prop} {Q : Int64 → gM → Prop} (hw : gX yX7_booked cX7_booked 5 (Option.some FieldType.long) [] kf G (gQl Q) gE0 w) (hkf : 5 ≤ kf)  {l1_31 : Int32} {l2_32 : Int32} {l3_33 : Int32} {M : gM}  (h : fX7_booked_b55 l1_31 l2_32 l3_33 M Q) : w M 55 [(0, .ref (gA G 268)), (1, .int l1_31), (2, .int l2_32), (3, .int l3_33)] [.ref (gA G 268)] := by
  unfold fX7_booked_b55 at h
  refine g_iconst (v := 0) hw dX7_booked_55 (by decide) ?_
  refine g_goto (tgt := 60) hw dX7_booked_56 (by decide) ?_
  exact wX7_booked_b60 hw hkf h
def fX7_booked_b29 (l1_8 : Int32) (l2_9 : Int32) (l3_10 : Int32) (s0_11 : Int32) (M : gM) (Q : Int64 → gM → Prop) : Prop :=
  (if s0_11 = 0 then fX7_booked_b59 l1_8 l2_9 l3_10 M Q else (if l3_10 = 0 then fX7_booked_b55 l1_8 l2_9 l3_10 M Q else gk M 268 = 7 ∧ gdr (gR M 268 18) (fun a35 => gk M a35 = 40 ∧ vp_in ((12 * l1_8) + l2_9) (gl M a35) ∧ (if (gI M a35 (((12 * l1_8) + l2_9).toNatClampNeg)) = 0 then fX7_booked_b59 l1_8 l2_9 l3_10 M Q else fX7_booked_b55 l1_8 l2_9 l3_10 M Q))))
theorem wX7_booked_b29 {kf : Nat} {G : gG} {w : gM → Nat → List (Nat × Value) → List Value → Prop} {Q : Int64 → gM → Prop} (hw : gX yX7_booked cX7_booked 5 (Option.some FieldType.long) [] kf G (gQl Q) gE0 w) (hkf : 5 ≤ kf)  {l1_8 : Int32} {l2_9 : Int32} {l3_10 : Int32} {s0_11 : Int32} {M : gM}  (h : fX7_booked_b29 l1_8 l2_9 l3_10 s0_11 M Q) : w M 29 [(0, .ref (gA G 268)), (1, .int l1_8), (2, .int l2_9), (3, .int l3_10)] [.int s0_11] := by
  unfold fX7_booked_b29 at h
  refine g_istore hw (lv2 := [(0, .ref (gA G 268)), (1, .int l1_8), (2, .int l2_9), (3, .int l3_10), (4, .int s0_11)]) [1, 2, 3, 4, 0] dX7_booked_29 rfl rfl ?_
  refine g_aload_n hw 0 dX7_booked_31 rfl ?_
  refine g_iload hw 4 dX7_booked_32 rfl ?_
  refine g_if_eq (tgt := 59) hw dX7_booked_34 (by decide) (fun hb12 => ?_) (fun hb12 => ?_)
  · have h := gT h hb12
    refine g_sub hw (lv2 := [(0, .ref (gA G 268)), (1, .int l1_8), (2, .int l2_9), (3, .int l3_10)]) [0, 1, 2, 3] rfl ?_
    exact wX7_booked_b59 hw hkf h
  · have h := gF h hb12
    refine g_iload_n hw 3 dX7_booked_37 rfl ?_
    refine g_if_eq (tgt := 55) hw dX7_booked_38 (by decide) (fun hb30 => ?_) (fun hb30 => ?_)
    · have h := gT h hb30
      refine g_sub hw (lv2 := [(0, .ref (gA G 268)), (1, .int l1_8), (2, .int l2_9), (3, .int l3_10)]) [0, 1, 2, 3] rfl ?_
      exact wX7_booked_b55 hw hkf h
    · have h := gF h hb30
      refine g_aload_n hw 0 dX7_booked_41 rfl ?_
      obtain ⟨hk34, h⟩ := h
      obtain ⟨a35, e36, h⟩ := h
      refine gfX7_115 (q := some a35) hw rfl dX7_booked_42 hk34 e36 ?_
      refine g_bipush (v := 12) hw dX7_booked_45 (by decide) ?_
      refine g_iload_n hw 1 dX7_booked_47 rfl ?_
      refine g_imul hw dX7_booked_48 ?_
      refine g_iload_n hw 2 dX7_booked_49 rfl ?_
      refine g_iadd hw dX7_booked_50 ?_
      obtain ⟨hk37, h⟩ := h
      obtain ⟨hi38, h⟩ := h
      refine g_iald (n := ((12 * l1_8) + l2_9).toNatClampNeg) hw dX7_booked_51 hk37 hi38 rfl ?_
      refine g_if_eq (tgt := 59) hw dX7_booked_52 (by decide) (fun hb39 => ?_) (fun hb39 => ?_)
      · have h := gT h hb39
        refine g_sub hw (lv2 := [(0, .ref (gA G 268)), (1, .int l1_8), (2, .int l2_9), (3, .int l3_10)]) [0, 1, 2, 3] rfl ?_
        exact wX7_booked_b59 hw hkf h
      · have h := gF h hb39
        refine g_sub hw (lv2 := [(0, .ref (gA G 268)), (1, .int l1_8), (2, .int l2_9), (3, .int l3_10)]) [0, 1, 2, 3] rfl ?_
        exact wX7_booked_b55 hw hkf h
def fX7_booked_b28 (l1_5 : Int32) (l2_6 : Int32) (l3_7 : Int32) (M : gM) (Q : Int64 → gM → Prop) : Prop :=
  fX7_booked_b29 l1_5 l2_6 l3_7 0 M Q
theorem wX7_booked_b28 {kf : Nat} {G : gG} {w : gM → Nat → List (Nat × Value) → List Value → Prop} {Q : Int64 → gM → Prop} (hw : gX yX7_booked cX7_booked 5 (Option.some FieldType.long) [] kf G (gQl Q) gE0 w) (hkf : 5 ≤ kf)  {l1_5 : Int32} {l2_6 : Int32} {l3_7 : Int32} {M : gM}  (h : fX7_booked_b28 l1_5 l2_6 l3_7 M Q) : w M 28 [(0, .ref (gA G 268)), (1, .int l1_5), (2, .int l2_6), (3, .int l3_7)] [] := by
  unfold fX7_booked_b28 at h
  refine g_iconst (v := 0) hw dX7_booked_28 (by decide) ?_
  exact wX7_booked_b29 hw hkf h
def fX7_booked (p1 : Int32) (p2 : Int32) (p3 : Int32) (M : gM) (Q : Int64 → gM → Prop) : Prop :=
  gk M 268 = 7 ∧ fX7_isKitchen p1 M (fun r3 M2 => (if r3 = 0 then fX7_booked_b28 p1 p2 p3 M2 Q else fX7_isMonth p2 M2 (fun r41 M40 => (if r41 = 0 then fX7_booked_b28 p1 p2 p3 M40 Q else fX7_within p3 0 2 M40 (fun r44 M43 => (if r44 = 0 then fX7_booked_b28 p1 p2 p3 M43 Q else fX7_booked_b29 p1 p2 p3 1 M43 Q))))))
theorem mX7_booked {kf : Nat} (hkf : 5 ≤ kf) (G : gG) (p1 : Int32) (p2 : Int32) (p3 : Int32) (M : gM) (Q : Int64 → gM → Prop) (h : fX7_booked p1 p2 p3 M Q) : gMet yX7_booked cX7_booked 5 (Option.some FieldType.long) kf G M [.ref (gA G 268), .int p1, .int p2, .int p3] (gQl Q) gE0 := by
  refine g_intro (lv := [(0, .ref (gA G 268)), (1, .int p1), (2, .int p2), (3, .int p3)]) (by decide) rfl rfl (fun w hw => ?_)
  unfold fX7_booked at h
  refine g_aload_n hw 0 dX7_booked_0 rfl ?_
  refine g_iload_n hw 1 dX7_booked_1 rfl ?_
  obtain ⟨hk1, h⟩ := h
  refine sX7_257 hw rfl dX7_booked_2 rfl (gK2 hkf) hk1 h (fun r3 M2 h => ?_)
  refine g_if_eq (tgt := 28) hw dX7_booked_5 (by decide) (fun hb4 => ?_) (fun hb4 => ?_)
  · have h := gT h hb4
    exact wX7_booked_b28 hw hkf h
  · have h := gF h hb4
    refine g_iload_n hw 2 dX7_booked_8 rfl ?_
    refine sX7_260 hw rfl dX7_booked_9 rfl (gK2 hkf) h (fun r41 M40 h => ?_)
    refine g_if_eq (tgt := 28) hw dX7_booked_12 (by decide) (fun hb42 => ?_) (fun hb42 => ?_)
    · have h := gT h hb42
      exact wX7_booked_b28 hw hkf h
    · have h := gF h hb42
      refine g_iload_n hw 3 dX7_booked_15 rfl ?_
      refine g_iconst (v := 0) hw dX7_booked_16 (by decide) ?_
      refine g_iconst (v := 2) hw dX7_booked_17 (by decide) ?_
      refine sX7_253 hw rfl dX7_booked_18 rfl (gK2 hkf) h (fun r44 M43 h => ?_)
      refine g_if_eq (tgt := 28) hw dX7_booked_21 (by decide) (fun hb45 => ?_) (fun hb45 => ?_)
      · have h := gT h hb45
        exact wX7_booked_b28 hw hkf h
      · have h := gF h hb45
        refine g_iconst (v := 1) hw dX7_booked_24 (by decide) ?_
        refine g_goto (tgt := 29) hw dX7_booked_25 (by decide) ?_
        exact wX7_booked_b29 hw hkf h
def fX7_closesBy (p1 : Int32) (p2 : Int32) (p3 : Int32) (p4 : Int32) (M : gM) (Q : Int64 → gM → Prop) : Prop :=
  gk M 268 = 7 ∧ fX7_handsOf p1 p2 M (fun r3 M2 => gk M2 268 = 7 ∧ fX7_handsOf p1 p3 M2 (fun r6 M5 => gk M5 268 = 7 ∧ gdr (gR M5 268 51) (fun a8 => gk M5 a8 = 40 ∧ vp_in ((12 * p1) + p2) (gl M5 a8) ∧ gdr (gR M5 268 51) (fun a12 => gk M5 a12 = 40 ∧ vp_in ((12 * p1) + p3) (gl M5 a12) ∧ (if p4 = 0 then fX7_paidOf p1 p3 M5 (fun r17 M16 => gk M16 268 = 7 ∧ fX7_paidOf p1 p2 M16 (fun r20 M19 => Q (r17 - r20) M19)) else (if p4 = 1 then fX7_rateOf p1 p2 M5 (fun r22 M21 => Q (((r6.toInt64 - r3.toInt64) * ((gI M5 a8 (((12 * p1) + p2).toNatClampNeg)).toInt64)) * r22) M21) else (if p4 = 2 then fX7_rateOf p1 p2 M5 (fun r24 M23 => Q ((r6.toInt64 * (((gI M5 a12 (((12 * p1) + p3).toNatClampNeg)).toInt64) - ((gI M5 a8 (((12 * p1) + p2).toNatClampNeg)).toInt64))) * r24) M23) else (if p4 = 3 then fX7_rateOf p1 p3 M5 (fun r26 M25 => gk M25 268 = 7 ∧ fX7_rateOf p1 p2 M25 (fun r29 M28 => Q ((r6.toInt64 * ((gI M5 a12 (((12 * p1) + p3).toNatClampNeg)).toInt64)) * (r26 - r29)) M28)) else (if p4 = 4 then gdr (gR M5 268 52) (fun a30 => gk M5 a30 = 40 ∧ vp_in ((12 * p1) + p3) (gl M5 a30) ∧ gdr (gR M5 268 52) (fun a34 => gk M5 a34 = 40 ∧ vp_in ((12 * p1) + p2) (gl M5 a34) ∧ Q (10 * (((gI M5 a30 (((12 * p1) + p3).toNatClampNeg)) - (gI M5 a34 (((12 * p1) + p2).toNatClampNeg))).toInt64)) M5)) else fX7_restOf p1 p3 M5 (fun r39 M38 => gk M38 268 = 7 ∧ fX7_restOf p1 p2 M38 (fun r42 M41 => Q (r39 - r42) M41)))))))))))
theorem mX7_closesBy {kf : Nat} (hkf : 5 ≤ kf) (G : gG) (p1 : Int32) (p2 : Int32) (p3 : Int32) (p4 : Int32) (M : gM) (Q : Int64 → gM → Prop) (h : fX7_closesBy p1 p2 p3 p4 M Q) : gMet yX7_closesBy cX7_closesBy 13 (Option.some FieldType.long) kf G M [.ref (gA G 268), .int p1, .int p2, .int p3, .int p4] (gQl Q) gE0 := by
  refine g_intro (lv := [(0, .ref (gA G 268)), (1, .int p1), (2, .int p2), (3, .int p3), (4, .int p4)]) (by decide) rfl rfl (fun w hw => ?_)
  unfold fX7_closesBy at h
  refine g_aload_n hw 0 dX7_closesBy_0 rfl ?_
  refine g_iload_n hw 1 dX7_closesBy_1 rfl ?_
  refine g_iload_n hw 2 dX7_closesBy_2 rfl ?_
  obtain ⟨hk1, h⟩ := h
  refine sX7_267 hw rfl dX7_closesBy_3 rfl (gK2 hkf) hk1 h (fun r3 M2 h => ?_)
  refine g_i2l hw dX7_closesBy_6 ?_
  refine g_lstore hw (lv2 := [(0, .ref (gA G 268)), (1, .int p1), (2, .int p2), (3, .int p3), (4, .int p4), (5, .long r3.toInt64)]) [1, 2, 3, 4, 5, 0] dX7_closesBy_7 rfl rfl ?_
  refine g_aload_n hw 0 dX7_closesBy_9 rfl ?_
  refine g_iload_n hw 1 dX7_closesBy_10 rfl ?_
  refine g_iload_n hw 3 dX7_closesBy_11 rfl ?_
  obtain ⟨hk4, h⟩ := h
  refine sX7_267 hw rfl dX7_closesBy_12 rfl (gK2 hkf) hk4 h (fun r6 M5 h => ?_)
  refine g_i2l hw dX7_closesBy_15 ?_
  refine g_lstore hw (lv2 := [(0, .ref (gA G 268)), (1, .int p1), (2, .int p2), (3, .int p3), (4, .int p4), (5, .long r3.toInt64), (7, .long r6.toInt64)]) [1, 2, 3, 4, 5, 6, 0] dX7_closesBy_16 rfl rfl ?_
  refine g_aload_n hw 0 dX7_closesBy_18 rfl ?_
  obtain ⟨hk7, h⟩ := h
  obtain ⟨a8, e9, h⟩ := h
  refine gfX7_187 (q := some a8) hw rfl dX7_closesBy_19 hk7 e9 ?_
  refine g_bipush (v := 12) hw dX7_closesBy_22 (by decide) ?_
  refine g_iload_n hw 1 dX7_closesBy_24 rfl ?_
  refine g_imul hw dX7_closesBy_25 ?_
  refine g_iload_n hw 2 dX7_closesBy_26 rfl ?_
  refine g_iadd hw dX7_closesBy_27 ?_
  obtain ⟨hk10, h⟩ := h
  obtain ⟨hi11, h⟩ := h
  refine g_iald (n := ((12 * p1) + p2).toNatClampNeg) hw dX7_closesBy_28 hk10 hi11 rfl ?_
  refine g_i2l hw dX7_closesBy_29 ?_
  refine g_lstore hw (lv2 := [(0, .ref (gA G 268)), (1, .int p1), (2, .int p2), (3, .int p3), (4, .int p4), (5, .long r3.toInt64), (7, .long r6.toInt64), (9, .long ((gI M5 a8 (((12 * p1) + p2).toNatClampNeg)).toInt64))]) [1, 2, 3, 4, 5, 6, 7, 0] dX7_closesBy_30 rfl rfl ?_
  refine g_aload_n hw 0 dX7_closesBy_32 rfl ?_
  obtain ⟨a12, e13, h⟩ := h
  refine gfX7_187 (q := some a12) hw rfl dX7_closesBy_33 hk7 e13 ?_
  refine g_bipush (v := 12) hw dX7_closesBy_36 (by decide) ?_
  refine g_iload_n hw 1 dX7_closesBy_38 rfl ?_
  refine g_imul hw dX7_closesBy_39 ?_
  refine g_iload_n hw 3 dX7_closesBy_40 rfl ?_
  refine g_iadd hw dX7_closesBy_41 ?_
  obtain ⟨hk14, h⟩ := h
  obtain ⟨hi15, h⟩ := h
  refine g_iald (n := ((12 * p1) + p3).toNatClampNeg) hw dX7_closesBy_42 hk14 hi15 rfl ?_
  refine g_i2l hw dX7_closesBy_43 ?_
  refine g_lstore hw (lv2 := [(0, .ref (gA G 268)), (1, .int p1), (2, .int p2), (3, .int p3), (4, .int p4), (5, .long r3.toInt64), (7, .long r6.toInt64), (9, .long ((gI M5 a8 (((12 * p1) + p2).toNatClampNeg)).toInt64)), (11, .long ((gI M5 a12 (((12 * p1) + p3).toNatClampNeg)).toInt64))]) [1, 2, 3, 4, 5, 6, 7, 8, 0] dX7_closesBy_44 rfl rfl ?_
  refine g_iload hw 4 dX7_closesBy_46 rfl ?_
  by_cases hb43 : p4 = 0
  · have h := gT h hb43
    refine g_tabIn (tgt := 84) hw dX7_closesBy_48 (by rw [hb43]; decide) (by rw [hb43]; decide) (by rw [hb43] <;> rfl) (by decide) ?_
    refine g_aload_n hw 0 dX7_closesBy_84 rfl ?_
    refine g_iload_n hw 1 dX7_closesBy_85 rfl ?_
    refine g_iload_n hw 3 dX7_closesBy_86 rfl ?_
    refine sX7_459 hw rfl dX7_closesBy_87 rfl (gK2 hkf) hk7 h (fun r17 M16 h => ?_)
    refine g_aload_n hw 0 dX7_closesBy_90 rfl ?_
    refine g_iload_n hw 1 dX7_closesBy_91 rfl ?_
    refine g_iload_n hw 2 dX7_closesBy_92 rfl ?_
    obtain ⟨hk18, h⟩ := h
    refine sX7_459 hw rfl dX7_closesBy_93 rfl (gK2 hkf) hk18 h (fun r20 M19 h => ?_)
    refine g_lsub hw dX7_closesBy_96 ?_
    exact g_lret hw dX7_closesBy_97 ⟨_, rfl, h⟩
  · have h := gF h hb43
    by_cases hb44 : p4 = 1
    · have h := gT h hb44
      refine g_tabIn (tgt := 98) hw dX7_closesBy_48 (by rw [hb44]; decide) (by rw [hb44]; decide) (by rw [hb44] <;> rfl) (by decide) ?_
      refine g_lload hw 6 dX7_closesBy_98 rfl ?_
      refine g_lload hw 5 dX7_closesBy_100 rfl ?_
      refine g_lsub hw dX7_closesBy_102 ?_
      refine g_lload hw 7 dX7_closesBy_103 rfl ?_
      refine g_lmul hw dX7_closesBy_105 ?_
      refine g_aload_n hw 0 dX7_closesBy_106 rfl ?_
      refine g_iload_n hw 1 dX7_closesBy_107 rfl ?_
      refine g_iload_n hw 2 dX7_closesBy_108 rfl ?_
      refine sX7_456 hw rfl dX7_closesBy_109 rfl (gK2 hkf) hk7 h (fun r22 M21 h => ?_)
      refine g_lmul hw dX7_closesBy_112 ?_
      exact g_lret hw dX7_closesBy_113 ⟨_, rfl, h⟩
    · have h := gF h hb44
      by_cases hb45 : p4 = 2
      · have h := gT h hb45
        refine g_tabIn (tgt := 114) hw dX7_closesBy_48 (by rw [hb45]; decide) (by rw [hb45]; decide) (by rw [hb45] <;> rfl) (by decide) ?_
        refine g_lload hw 6 dX7_closesBy_114 rfl ?_
        refine g_lload hw 8 dX7_closesBy_116 rfl ?_
        refine g_lload hw 7 dX7_closesBy_118 rfl ?_
        refine g_lsub hw dX7_closesBy_120 ?_
        refine g_lmul hw dX7_closesBy_121 ?_
        refine g_aload_n hw 0 dX7_closesBy_122 rfl ?_
        refine g_iload_n hw 1 dX7_closesBy_123 rfl ?_
        refine g_iload_n hw 2 dX7_closesBy_124 rfl ?_
        refine sX7_456 hw rfl dX7_closesBy_125 rfl (gK2 hkf) hk7 h (fun r24 M23 h => ?_)
        refine g_lmul hw dX7_closesBy_128 ?_
        exact g_lret hw dX7_closesBy_129 ⟨_, rfl, h⟩
      · have h := gF h hb45
        by_cases hb46 : p4 = 3
        · have h := gT h hb46
          refine g_tabIn (tgt := 130) hw dX7_closesBy_48 (by rw [hb46]; decide) (by rw [hb46]; decide) (by rw [hb46] <;> rfl) (by decide) ?_
          refine g_lload hw 6 dX7_closesBy_130 rfl ?_
          refine g_lload hw 8 dX7_closesBy_132 rfl ?_
          refine g_lmul hw dX7_closesBy_134 ?_
          refine g_aload_n hw 0 dX7_closesBy_135 rfl ?_
          refine g_iload_n hw 1 dX7_closesBy_136 rfl ?_
          refine g_iload_n hw 3 dX7_closesBy_137 rfl ?_
          refine sX7_456 hw rfl dX7_closesBy_138 rfl (gK2 hkf) hk7 h (fun r26 M25 h => ?_)
          refine g_aload_n hw 0 dX7_closesBy_141 rfl ?_
          refine g_iload_n hw 1 dX7_closesBy_142 rfl ?_
          refine g_iload_n hw 2 dX7_closesBy_143 rfl ?_
          obtain ⟨hk27, h⟩ := h
          refine sX7_456 hw rfl dX7_closesBy_144 rfl (gK2 hkf) hk27 h (fun r29 M28 h => ?_)
          refine g_lsub hw dX7_closesBy_147 ?_
          refine g_lmul hw dX7_closesBy_148 ?_
          exact g_lret hw dX7_closesBy_149 ⟨_, rfl, h⟩
        · have h := gF h hb46
          by_cases hb47 : p4 = 4
          · have h := gT h hb47
            refine g_tabIn (tgt := 150) hw dX7_closesBy_48 (by rw [hb47]; decide) (by rw [hb47]; decide) (by rw [hb47] <;> rfl) (by decide) ?_
            refine g_ldc2 hw dX7_closesBy_150 q1491 ?_
            refine g_aload_n hw 0 dX7_closesBy_153 rfl ?_
            obtain ⟨a30, e31, h⟩ := h
            refine gfX7_190 (q := some a30) hw rfl dX7_closesBy_154 hk7 e31 ?_
            refine g_bipush (v := 12) hw dX7_closesBy_157 (by decide) ?_
            refine g_iload_n hw 1 dX7_closesBy_159 rfl ?_
            refine g_imul hw dX7_closesBy_160 ?_
            refine g_iload_n hw 3 dX7_closesBy_161 rfl ?_
            refine g_iadd hw dX7_closesBy_162 ?_
            obtain ⟨hk32, h⟩ := h
            obtain ⟨hi33, h⟩ := h
            refine g_iald (n := ((12 * p1) + p3).toNatClampNeg) hw dX7_closesBy_163 hk32 hi33 rfl ?_
            refine g_aload_n hw 0 dX7_closesBy_164 rfl ?_
            obtain ⟨a34, e35, h⟩ := h
            refine gfX7_190 (q := some a34) hw rfl dX7_closesBy_165 hk7 e35 ?_
            refine g_bipush (v := 12) hw dX7_closesBy_168 (by decide) ?_
            refine g_iload_n hw 1 dX7_closesBy_170 rfl ?_
            refine g_imul hw dX7_closesBy_171 ?_
            refine g_iload_n hw 2 dX7_closesBy_172 rfl ?_
            refine g_iadd hw dX7_closesBy_173 ?_
            obtain ⟨hk36, h⟩ := h
            obtain ⟨hi37, h⟩ := h
            refine g_iald (n := ((12 * p1) + p2).toNatClampNeg) hw dX7_closesBy_174 hk36 hi37 rfl ?_
            refine g_isub hw dX7_closesBy_175 ?_
            refine g_i2l hw dX7_closesBy_176 ?_
            refine g_lmul hw dX7_closesBy_177 ?_
            exact g_lret hw dX7_closesBy_178 ⟨_, rfl, h⟩
          · have h := gF h hb47
            refine g_tabOut (tgt := 179) hw dX7_closesBy_48 (by have z0 := gNeI (k := 0) hb43 rfl; have z1 := gNeI (k := 1) hb44 rfl; have z2 := gNeI (k := 2) hb45 rfl; have z3 := gNeI (k := 3) hb46 rfl; have z4 := gNeI (k := 4) hb47 rfl; omega) (by decide) ?_
            refine g_aload_n hw 0 dX7_closesBy_179 rfl ?_
            refine g_iload_n hw 1 dX7_closesBy_180 rfl ?_
            refine g_iload_n hw 3 dX7_closesBy_181 rfl ?_
            refine sX7_462 hw rfl dX7_closesBy_182 rfl (gK2 hkf) hk7 h (fun r39 M38 h => ?_)
            refine g_aload_n hw 0 dX7_closesBy_185 rfl ?_
            refine g_iload_n hw 1 dX7_closesBy_186 rfl ?_
            refine g_iload_n hw 2 dX7_closesBy_187 rfl ?_
            obtain ⟨hk40, h⟩ := h
            refine sX7_462 hw rfl dX7_closesBy_188 rfl (gK2 hkf) hk40 h (fun r42 M41 h => ?_)
            refine g_lsub hw dX7_closesBy_191 ?_
            exact g_lret hw dX7_closesBy_192 ⟨_, rfl, h⟩
theorem sX7_465 {y0 : MethodName} {cc : ByteArray} {nL : Nat} {ret : Option FieldType} {hh : List (Nat × Nat × Nat × Nat)} {kf : Nat} {G : gG} {Qv : Option Value → gM → Prop} {E : String → Nat → gM → Prop} {w : gM → Nat → List (Nat × Value) → List Value → Prop} {M : gM} {pc : Nat} {lv : List (Nat × Value)} {rest : List Value} (hw : gX y0 cc nL ret hh kf G Qv E w) (hy : y0.cls = RX7) {p1 : Int32} {p2 : Int32} {p3 : Int32} {p4 : Int32} {Q : Int64 → gM → Prop} (d : decode cc pc = .ok (.invokevirtual 465, 3)) (hrest : Nat.ble ((rest.map Value.category).sum) 8 = true) (hk : 5 + 1 ≤ kf) (hkd : gk M 268 = 7) (h : fX7_closesBy p1 p2 p3 p4 M Q) (kk : ∀ r M1, Q r M1 → w M1 (pc + 3) lv (.long r :: rest)) : w M pc lv (.int p4 :: .int p3 :: .int p2 :: .int p1 :: .ref (gA G 268) :: rest) := by
  obtain ⟨cls9, nm9, ds9⟩ := y0
  subst hy
  exact g_callV (r := (RX7, TX7, 58)) (ci := 6) hw [.int p1, .int p2, .int p3, .int p4] (nA := 4) rfl d q1699 q1701 qs91 q104 q1702 (by decide +kernel) rfl rfl hrest rfl (by omega : kf - 1 + 1 ≤ kf) hkd (mX7_closesBy (kf := kf - 1) (by omega) G p1 p2 p3 p4 M Q h) (fun _ _ _ q => q.elim) (fun v M1 h => by obtain ⟨r, rfl, h⟩ := h; exact kk r M1 h)
def fX7_closes_b94 (R42 : Int64 → Int32 → gM → Prop) (l1_14 : Int32) (l2_15 : Int32) (l3_16 : Int32) (l4_17 : Int32) (l7_28 : Int32) (s0_29 : Int64) (s1_30 : Int64) (M : gM) (Q : Int64 → gM → Prop) : Prop :=
  R42 (s0_29 + s1_30) (l7_28 + 1) M
theorem wX7_closes_b94 {kf : Nat} {G : gG} {w : gM → Nat → List (Nat × Value) → List Value → Prop} {Q : Int64 → gM → Prop} (hw : gX yX7_closes cX7_closes 8 (Option.some FieldType.long) [] kf G (gQl Q) gE0 w) (hkf : 6 ≤ kf) {R42 : Int64 → Int32 → gM → Prop} {l1_14 : Int32} {l2_15 : Int32} {l3_16 : Int32} {l4_17 : Int32} {l7_28 : Int32} {s0_29 : Int64} {s1_30 : Int64} {M : gM} (hR42 : ∀ (v0 : Int64) (v1 : Int32) (M : gM), R42 v0 v1 M → w M 42 [(0, .ref (gA G 268)), (1, .int l1_14), (2, .int l2_15), (3, .int l3_16), (4, .int l4_17), (5, .long v0), (7, .int v1)] []) (h : fX7_closes_b94 R42 l1_14 l2_15 l3_16 l4_17 l7_28 s0_29 s1_30 M Q) : w M 94 [(0, .ref (gA G 268)), (1, .int l1_14), (2, .int l2_15), (3, .int l3_16), (4, .int l4_17), (7, .int l7_28)] [.long s1_30, .long s0_29] := by
  unfold fX7_closes_b94 at h
  refine g_ladd hw dX7_closes_94 ?_
  refine g_lstore hw (lv2 := [(0, .ref (gA G 268)), (1, .int l1_14), (2, .int l2_15), (3, .int l3_16), (4, .int l4_17), (5, .long (s0_29 + s1_30)), (7, .int l7_28)]) [1, 2, 3, 4, 5, 0, 6] dX7_closes_95 rfl rfl ?_
  refine g_iinc hw (lv2 := [(0, .ref (gA G 268)), (1, .int l1_14), (2, .int l2_15), (3, .int l3_16), (4, .int l4_17), (5, .long (s0_29 + s1_30)), (7, .int (l7_28 + 1))]) 6 [1, 2, 3, 4, 5, 6, 0] dX7_closes_97 rfl (by decide) rfl rfl ?_
  refine g_goto (tgt := 42) hw dX7_closes_100 (by decide) ?_
  exact hR42 (s0_29 + s1_30) (l7_28 + 1) M h
def fX7_closes_b93 (R42 : Int64 → Int32 → gM → Prop) (l1_14 : Int32) (l2_15 : Int32) (l3_16 : Int32) (l4_17 : Int32) (l7_26 : Int32) (s0_27 : Int64) (M : gM) (Q : Int64 → gM → Prop) : Prop :=
  fX7_closes_b94 R42 l1_14 l2_15 l3_16 l4_17 l7_26 s0_27 0 M Q
theorem wX7_closes_b93 {kf : Nat} {G : gG} {w : gM → Nat → List (Nat × Value) → List Value → Prop} {Q : Int64 → gM → Prop} (hw : gX yX7_closes cX7_closes 8 (Option.some FieldType.long) [] kf G (gQl Q) gE0 w) (hkf : 6 ≤ kf) {R42 : Int64 → Int32 → gM → Prop} {l1_14 : Int32} {l2_15 : Int32} {l3_16 : Int32} {l4_17 : Int32} {l7_26 : Int32} {s0_27 : Int64} {M : gM} (hR42 : ∀ (v0 : Int64) (v1 : Int32) (M : gM), R42 v0 v1 M → w M 42 [(0, .ref (gA G 268)), (1, .int l1_14), (2, .int l2_15), (3, .int l3_16), (4, .int l4_17), (5, .long v0), (7, .int v1)] []) (h : fX7_closes_b93 R42 l1_14 l2_15 l3_16 l4_17 l7_26 s0_27 M Q) : w M 93 [(0, .ref (gA G 268)), (1, .int l1_14), (2, .int l2_15), (3, .int l3_16), (4, .int l4_17), (7, .int l7_26)] [.long s0_27] := by
  unfold fX7_closes_b93 at h
  refine g_lconst (v := 0) hw dX7_closes_93 (by decide) ?_
  exact wX7_closes_b94 hw hkf hR42 h
def fX7_closes_L42s (R42 : Int64 → Int32 → gM → Prop) (K103_42 : Int64 → gM → Prop) (l1_14 : Int32) (l2_15 : Int32) (l3_16 : Int32) (l4_17 : Int32) (l5_18 : Int64) (l7_19 : Int32) (M : gM) (Q : Int64 → gM → Prop) : Prop :=
  (if 24 ≤ l7_19 then K103_42 l5_18 M else gk M 268 = 7 ∧ (if (gI M 268 0) = 0 then fX7_isCounted l7_19 l2_15 l3_16 M (fun r24 M23 => (if r24 = 0 then fX7_closes_b93 R42 l1_14 l2_15 l3_16 l4_17 l7_19 l5_18 M23 Q else gk M23 268 = 7 ∧ gdr (gR M23 268 11) (fun a32 => gk M23 a32 = 40 ∧ vp_in l7_19 (gl M23 a32) ∧ (if (gI M23 a32 l7_19.toNatClampNeg) = l1_14 then fX7_closesBy l7_19 l2_15 l3_16 l4_17 M23 (fun r38 M37 => fX7_closes_b94 R42 l1_14 l2_15 l3_16 l4_17 l7_19 l5_18 r38 M37 Q) else fX7_closes_b93 R42 l1_14 l2_15 l3_16 l4_17 l7_19 l5_18 M23 Q)))) else K103_42 l5_18 M))
def fX7_closes_L42 (K103_42 : Int64 → gM → Prop) (l1_14 : Int32) (l2_15 : Int32) (l3_16 : Int32) (l4_17 : Int32) (Q : Int64 → gM → Prop) : Nat → Int64 → Int32 → gM → Prop
  | 0 => fun _ _ _ => False
  | n + 1 => fun l5_18 l7_19 M => fX7_closes_L42s (fX7_closes_L42 K103_42 l1_14 l2_15 l3_16 l4_17 Q n) K103_42 l1_14 l2_15 l3_16 l4_17 l5_18 l7_19 M Q
theorem wX7_closes_L42s {kf : Nat} {G : gG} {w : gM → Nat → List (Nat × Value) → List Value → Prop} {Q : Int64 → gM → Prop} (hw : gX yX7_closes cX7_closes 8 (Option.some FieldType.long) [] kf G (gQl Q) gE0 w) (hkf : 6 ≤ kf) {R42 : Int64 → Int32 → gM → Prop} {K103_42 : Int64 → gM → Prop} {l1_14 : Int32} {l2_15 : Int32} {l3_16 : Int32} {l4_17 : Int32} {l5_18 : Int64} {l7_19 : Int32} {M : gM} (hR42 : ∀ (v0 : Int64) (v1 : Int32) (M : gM), R42 v0 v1 M → w M 42 [(0, .ref (gA G 268)), (1, .int l1_14), (2, .int l2_15), (3, .int l3_16), (4, .int l4_17), (5, .long v0), (7, .int v1)] []) (hK103_42 : ∀ (v0 : Int64) (M : gM), K103_42 v0 M → w M 103 [(5, .long v0)] []) (h : fX7_closes_L42s R42 K103_42 l1_14 l2_15 l3_16 l4_17 l5_18 l7_19 M Q) : w M 42 [(0, .ref (gA G 268)), (1, .int l1_14), (2, .int l2_15), (3, .int l3_16), (4, .int l4_17), (5, .long l5_18), (7, .int l7_19)] [] := by
  unfold fX7_closes_L42s at h
  refine g_iload hw 6 dX7_closes_42 rfl ?_
  refine g_bipush (v := 24) hw dX7_closes_44 (by decide) ?_
  refine g_icmp_ge (tgt := 103) hw dX7_closes_46 (by decide) (fun hb20 => ?_) (fun hb20 => ?_)
  · have h := gT h hb20
    refine g_sub hw (lv2 := [(5, .long l5_18)]) [5] rfl ?_
    exact hK103_42 l5_18 M h
  · have h := gF h hb20
    refine g_aload_n hw 0 dX7_closes_49 rfl ?_
    obtain ⟨hk21, h⟩ := h
    refine gfX7_1 hw rfl dX7_closes_50 hk21 ?_
    refine g_if_ne (tgt := 103) hw dX7_closes_53 (by decide) (fun hb22 => ?_) (fun hb22 => ?_)
    · have h := gF h hb22
      refine g_sub hw (lv2 := [(5, .long l5_18)]) [5] rfl ?_
      exact hK103_42 l5_18 M h
    · have h := gT h hb22
      refine g_lload hw 5 dX7_closes_56 rfl ?_
      refine g_aload_n hw 0 dX7_closes_58 rfl ?_
      refine g_iload hw 6 dX7_closes_59 rfl ?_
      refine g_iload_n hw 2 dX7_closes_61 rfl ?_
      refine g_iload_n hw 3 dX7_closes_62 rfl ?_
      refine sX7_274 hw rfl dX7_closes_63 rfl (gK2 hkf) hk21 h (fun r24 M23 h => ?_)
      refine g_if_eq (tgt := 93) hw dX7_closes_66 (by decide) (fun hb25 => ?_) (fun hb25 => ?_)
      · have h := gT h hb25
        refine g_sub hw (lv2 := [(0, .ref (gA G 268)), (1, .int l1_14), (2, .int l2_15), (3, .int l3_16), (4, .int l4_17), (7, .int l7_19)]) [0, 1, 2, 3, 4, 6] rfl ?_
        exact wX7_closes_b93 hw hkf hR42 h
      · have h := gF h hb25
        refine g_aload_n hw 0 dX7_closes_69 rfl ?_
        obtain ⟨hk31, h⟩ := h
        obtain ⟨a32, e33, h⟩ := h
        refine gfX7_97 (q := some a32) hw rfl dX7_closes_70 hk31 e33 ?_
        refine g_iload hw 6 dX7_closes_73 rfl ?_
        obtain ⟨hk34, h⟩ := h
        obtain ⟨hi35, h⟩ := h
        refine g_iald (n := l7_19.toNatClampNeg) hw dX7_closes_75 hk34 hi35 rfl ?_
        refine g_iload_n hw 1 dX7_closes_76 rfl ?_
        refine g_icmp_ne (tgt := 93) hw dX7_closes_77 (by decide) (fun hb36 => ?_) (fun hb36 => ?_)
        · have h := gF h hb36
          refine g_sub hw (lv2 := [(0, .ref (gA G 268)), (1, .int l1_14), (2, .int l2_15), (3, .int l3_16), (4, .int l4_17), (7, .int l7_19)]) [0, 1, 2, 3, 4, 6] rfl ?_
          exact wX7_closes_b93 hw hkf hR42 h
        · have h := gT h hb36
          refine g_aload_n hw 0 dX7_closes_80 rfl ?_
          refine g_iload hw 6 dX7_closes_81 rfl ?_
          refine g_iload_n hw 2 dX7_closes_83 rfl ?_
          refine g_iload_n hw 3 dX7_closes_84 rfl ?_
          refine g_iload hw 4 dX7_closes_85 rfl ?_
          refine sX7_465 hw rfl dX7_closes_87 rfl (gK2 hkf) hk31 h (fun r38 M37 h => ?_)
          refine g_goto (tgt := 94) hw dX7_closes_90 (by decide) ?_
          refine g_sub hw (lv2 := [(0, .ref (gA G 268)), (1, .int l1_14), (2, .int l2_15), (3, .int l3_16), (4, .int l4_17), (7, .int l7_19)]) [0, 1, 2, 3, 4, 6] rfl ?_
          exact wX7_closes_b94 hw hkf hR42 h
theorem wX7_closes_L42 {kf : Nat} {G : gG} {w : gM → Nat → List (Nat × Value) → List Value → Prop} {Q : Int64 → gM → Prop} (hw : gX yX7_closes cX7_closes 8 (Option.some FieldType.long) [] kf G (gQl Q) gE0 w) (hkf : 6 ≤ kf) {K103_42 : Int64 → gM → Prop} {l1_14 : Int32} {l2_15 : Int32} {l3_16 : Int32} {l4_17 : Int32} (hK103_42 : ∀ (v0 : Int64) (M : gM), K103_42 v0 M → w M 103 [(5, .long v0)] []) : ∀ (n : Nat) (l5_18 : Int64) (l7_19 : Int32) (M : gM), fX7_closes_L42 K103_42 l1_14 l2_15 l3_16 l4_17 Q n l5_18 l7_19 M → w M 42 [(0, .ref (gA G 268)), (1, .int l1_14), (2, .int l2_15), (3, .int l3_16), (4, .int l4_17), (5, .long l5_18), (7, .int l7_19)] [] := by
  intro n
  induction n with
  | zero => intro l5_18 l7_19 M h; exact h.elim
  | succ n ih => intro l5_18 l7_19 M h; exact wX7_closes_L42s hw hkf ih hK103_42 h
def fX7_closes_b33 (l1_8 : Int32) (l2_9 : Int32) (l3_10 : Int32) (l4_11 : Int32) (s1_12 : Int32) (M : gM) (Q : Int64 → gM → Prop) : Prop :=
  gk M 268 = 7 ∧ ∃ n, fX7_closes_L42 (fun l5_39 M40 => Q l5_39 M40) l1_8 l2_9 l3_10 l4_11 Q n 0 0 (gsI M 268 0 s1_12)
theorem wX7_closes_b33 {kf : Nat} {G : gG} {w : gM → Nat → List (Nat × Value) → List Value → Prop} {Q : Int64 → gM → Prop} (hw : gX yX7_closes cX7_closes 8 (Option.some FieldType.long) [] kf G (gQl Q) gE0 w) (hkf : 6 ≤ kf)  {l1_8 : Int32} {l2_9 : Int32} {l3_10 : Int32} {l4_11 : Int32} {s1_12 : Int32} {M : gM}  (h : fX7_closes_b33 l1_8 l2_9 l3_10 l4_11 s1_12 M Q) : w M 33 [(0, .ref (gA G 268)), (1, .int l1_8), (2, .int l2_9), (3, .int l3_10), (4, .int l4_11)] [.int s1_12, .ref (gA G 268)] := by
  unfold fX7_closes_b33 at h
  obtain ⟨hk13, h⟩ := h
  refine pfX7_1 hw rfl dX7_closes_33 hk13 ?_
  refine g_lconst (v := 0) hw dX7_closes_36 (by decide) ?_
  refine g_lstore hw (lv2 := [(0, .ref (gA G 268)), (1, .int l1_8), (2, .int l2_9), (3, .int l3_10), (4, .int l4_11), (5, .long 0)]) [1, 2, 3, 4, 5, 0] dX7_closes_37 rfl rfl ?_
  refine g_iconst (v := 0) hw dX7_closes_39 (by decide) ?_
  refine g_istore hw (lv2 := [(0, .ref (gA G 268)), (1, .int l1_8), (2, .int l2_9), (3, .int l3_10), (4, .int l4_11), (5, .long 0), (7, .int 0)]) [1, 2, 3, 4, 5, 6, 0] dX7_closes_40 rfl rfl ?_
  obtain ⟨n9, h⟩ := h
  refine wX7_closes_L42 hw hkf (fun l5_39 M40 h => ?_) n9 0 0 (gsI M 268 0 s1_12) h
  refine g_lload hw 0 dX7_closes_103 rfl ?_
  exact g_lret hw dX7_closes_105 ⟨_, rfl, h⟩
def fX7_closes_b32 (l1_4 : Int32) (l2_5 : Int32) (l3_6 : Int32) (l4_7 : Int32) (M : gM) (Q : Int64 → gM → Prop) : Prop :=
  fX7_closes_b33 l1_4 l2_5 l3_6 l4_7 1 M Q
theorem wX7_closes_b32 {kf : Nat} {G : gG} {w : gM → Nat → List (Nat × Value) → List Value → Prop} {Q : Int64 → gM → Prop} (hw : gX yX7_closes cX7_closes 8 (Option.some FieldType.long) [] kf G (gQl Q) gE0 w) (hkf : 6 ≤ kf)  {l1_4 : Int32} {l2_5 : Int32} {l3_6 : Int32} {l4_7 : Int32} {M : gM}  (h : fX7_closes_b32 l1_4 l2_5 l3_6 l4_7 M Q) : w M 32 [(0, .ref (gA G 268)), (1, .int l1_4), (2, .int l2_5), (3, .int l3_6), (4, .int l4_7)] [.ref (gA G 268)] := by
  unfold fX7_closes_b32 at h
  refine g_iconst (v := 1) hw dX7_closes_32 (by decide) ?_
  exact wX7_closes_b33 hw hkf h
def fX7_closes (p1 : Int32) (p2 : Int32) (p3 : Int32) (p4 : Int32) (M : gM) (Q : Int64 → gM → Prop) : Prop :=
  fX7_within p1 0 1 M (fun r2 M1 => (if r2 = 0 then fX7_closes_b32 p1 p2 p3 p4 M1 Q else fX7_areMonths p2 p3 M1 (fun r42 M41 => (if r42 = 0 then fX7_closes_b32 p1 p2 p3 p4 M41 Q else fX7_within p4 0 5 M41 (fun r45 M44 => (if r45 = 0 then fX7_closes_b32 p1 p2 p3 p4 M44 Q else fX7_closes_b33 p1 p2 p3 p4 0 M44 Q))))))
theorem mX7_closes {kf : Nat} (hkf : 6 ≤ kf) (G : gG) (p1 : Int32) (p2 : Int32) (p3 : Int32) (p4 : Int32) (M : gM) (Q : Int64 → gM → Prop) (h : fX7_closes p1 p2 p3 p4 M Q) : gMet yX7_closes cX7_closes 8 (Option.some FieldType.long) kf G M [.ref (gA G 268), .int p1, .int p2, .int p3, .int p4] (gQl Q) gE0 := by
  refine g_intro (lv := [(0, .ref (gA G 268)), (1, .int p1), (2, .int p2), (3, .int p3), (4, .int p4)]) (by decide) rfl rfl (fun w hw => ?_)
  unfold fX7_closes at h
  refine g_aload_n hw 0 dX7_closes_0 rfl ?_
  refine g_iload_n hw 1 dX7_closes_1 rfl ?_
  refine g_iconst (v := 0) hw dX7_closes_2 (by decide) ?_
  refine g_iconst (v := 1) hw dX7_closes_3 (by decide) ?_
  refine sX7_253 hw rfl dX7_closes_4 rfl (gK2 hkf) h (fun r2 M1 h => ?_)
  refine g_if_eq (tgt := 32) hw dX7_closes_7 (by decide) (fun hb3 => ?_) (fun hb3 => ?_)
  · have h := gT h hb3
    exact wX7_closes_b32 hw hkf h
  · have h := gF h hb3
    refine g_iload_n hw 2 dX7_closes_10 rfl ?_
    refine g_iload_n hw 3 dX7_closes_11 rfl ?_
    refine sX7_270 hw rfl dX7_closes_12 rfl (gK2 hkf) h (fun r42 M41 h => ?_)
    refine g_if_eq (tgt := 32) hw dX7_closes_15 (by decide) (fun hb43 => ?_) (fun hb43 => ?_)
    · have h := gT h hb43
      exact wX7_closes_b32 hw hkf h
    · have h := gF h hb43
      refine g_iload hw 4 dX7_closes_18 rfl ?_
      refine g_iconst (v := 0) hw dX7_closes_20 (by decide) ?_
      refine g_iconst (v := 5) hw dX7_closes_21 (by decide) ?_
      refine sX7_253 hw rfl dX7_closes_22 rfl (gK2 hkf) h (fun r45 M44 h => ?_)
      refine g_if_eq (tgt := 32) hw dX7_closes_25 (by decide) (fun hb46 => ?_) (fun hb46 => ?_)
      · have h := gT h hb46
        exact wX7_closes_b32 hw hkf h
      · have h := gF h hb46
        refine g_iconst (v := 0) hw dX7_closes_28 (by decide) ?_
        refine g_goto (tgt := 33) hw dX7_closes_29 (by decide) ?_
        exact wX7_closes_b33 hw hkf h
theorem gfX7_196 {y0 : MethodName} {cc : ByteArray} {nL : Nat} {ret : Option FieldType} {hh : List (Nat × Nat × Nat × Nat)} {kf : Nat} {G : gG} {Qv : Option Value → gM → Prop} {E : String → Nat → gM → Prop} {w : gM → Nat → List (Nat × Value) → List Value → Prop} {M : gM} {pc : Nat} {lv : List (Nat × Value)} {rest : List Value} (hw : gX y0 cc nL ret hh kf G Qv E w) (hy : y0.cls = RX7) {c : Nat} {q : Option Nat} (d : decode cc pc = .ok (.getfield 196, 3)) (hk : gk M c = 7) (hq : gR M c 54 = q) (kk : w M (pc + 3) lv (va_rf (q.map (gA G)) :: rest)) : w M pc lv (.ref (gA G c) :: rest) := by
  obtain ⟨cls9, nm9, ds9⟩ := y0
  subst hy
  subst hq
  exact g_getC (C := RX7) (T := TX7) (N := 58) (ci := 6) hw in_X7 rfl 54 (by decide) (Or.inl q1210) rfl d hk kk
theorem gfX7_193 {y0 : MethodName} {cc : ByteArray} {nL : Nat} {ret : Option FieldType} {hh : List (Nat × Nat × Nat × Nat)} {kf : Nat} {G : gG} {Qv : Option Value → gM → Prop} {E : String → Nat → gM → Prop} {w : gM → Nat → List (Nat × Value) → List Value → Prop} {M : gM} {pc : Nat} {lv : List (Nat × Value)} {rest : List Value} (hw : gX y0 cc nL ret hh kf G Qv E w) (hy : y0.cls = RX7) {c : Nat} {q : Option Nat} (d : decode cc pc = .ok (.getfield 193, 3)) (hk : gk M c = 7) (hq : gR M c 53 = q) (kk : w M (pc + 3) lv (va_rf (q.map (gA G)) :: rest)) : w M pc lv (.ref (gA G c) :: rest) := by
  obtain ⟨cls9, nm9, ds9⟩ := y0
  subst hy
  subst hq
  exact g_getC (C := RX7) (T := TX7) (N := 58) (ci := 6) hw in_X7 rfl 53 (by decide) (Or.inl q1209) rfl d hk kk
def fX7_laysLots_b127 (R50 : Int32 → Int32 → Int32 → gM → Prop) (l1_11 : Int32) (l2_12 : Int32) (l3_28 : Int32) (l4_29 : Int32) (l5_30 : Int32) (M : gM) (Q : Int32 → gM → Prop) : Prop :=
  R50 l3_28 l4_29 (l5_30 + 1) M
theorem wX7_laysLots_b127 {kf : Nat} {G : gG} {w : gM → Nat → List (Nat × Value) → List Value → Prop} {Q : Int32 → gM → Prop} (hw : gX yX7_laysLots cX7_laysLots 6 (Option.some FieldType.boolean) [] kf G (gQi Q) gE0 w) (hkf : 5 ≤ kf) {R50 : Int32 → Int32 → Int32 → gM → Prop} {l1_11 : Int32} {l2_12 : Int32} {l3_28 : Int32} {l4_29 : Int32} {l5_30 : Int32} {M : gM} (hR50 : ∀ (v0 : Int32) (v1 : Int32) (v2 : Int32) (M : gM), R50 v0 v1 v2 M → w M 50 [(0, .ref (gA G 268)), (1, .int l1_11), (2, .int l2_12), (3, .int v0), (4, .int v1), (5, .int v2)] []) (h : fX7_laysLots_b127 R50 l1_11 l2_12 l3_28 l4_29 l5_30 M Q) : w M 127 [(0, .ref (gA G 268)), (1, .int l1_11), (2, .int l2_12), (3, .int l3_28), (4, .int l4_29), (5, .int l5_30)] [] := by
  unfold fX7_laysLots_b127 at h
  refine g_iinc hw (lv2 := [(0, .ref (gA G 268)), (1, .int l1_11), (2, .int l2_12), (3, .int l3_28), (4, .int l4_29), (5, .int (l5_30 + 1))]) 5 [1, 2, 3, 4, 5, 0] dX7_laysLots_127 rfl (by decide) rfl rfl ?_
  refine g_goto (tgt := 50) hw dX7_laysLots_130 (by decide) ?_
  exact hR50 l3_28 l4_29 (l5_30 + 1) M h
def fX7_laysLots_b98 (R50 : Int32 → Int32 → Int32 → gM → Prop) (l1_11 : Int32) (l2_12 : Int32) (l3_21 : Int32) (l4_22 : Int32) (l5_23 : Int32) (M : gM) (Q : Int32 → gM → Prop) : Prop :=
  gk M 268 = 7 ∧ fX7_isCounted l5_23 l1_11 l2_12 M (fun r26 M25 => (if r26 = 0 then fX7_laysLots_b127 R50 l1_11 l2_12 l3_21 l4_22 l5_23 M25 Q else gk M25 268 = 7 ∧ gdr (gR M25 268 54) (fun a32 => fX7_changeOf l5_23 l1_11 l2_12 M25 (fun r35 M34 => gk M34 a32 = 40 ∧ vp_in l4_22 (gl M34 a32) ∧ fX7_laysLots_b127 R50 l1_11 l2_12 l3_21 (l4_22 + 1) l5_23 (gsI M34 a32 l4_22.toNatClampNeg r35) Q))))
theorem wX7_laysLots_b98 {kf : Nat} {G : gG} {w : gM → Nat → List (Nat × Value) → List Value → Prop} {Q : Int32 → gM → Prop} (hw : gX yX7_laysLots cX7_laysLots 6 (Option.some FieldType.boolean) [] kf G (gQi Q) gE0 w) (hkf : 5 ≤ kf) {R50 : Int32 → Int32 → Int32 → gM → Prop} {l1_11 : Int32} {l2_12 : Int32} {l3_21 : Int32} {l4_22 : Int32} {l5_23 : Int32} {M : gM} (hR50 : ∀ (v0 : Int32) (v1 : Int32) (v2 : Int32) (M : gM), R50 v0 v1 v2 M → w M 50 [(0, .ref (gA G 268)), (1, .int l1_11), (2, .int l2_12), (3, .int v0), (4, .int v1), (5, .int v2)] []) (h : fX7_laysLots_b98 R50 l1_11 l2_12 l3_21 l4_22 l5_23 M Q) : w M 98 [(0, .ref (gA G 268)), (1, .int l1_11), (2, .int l2_12), (3, .int l3_21), (4, .int l4_22), (5, .int l5_23)] [] := by
  unfold fX7_laysLots_b98 at h
  refine g_aload_n hw 0 dX7_laysLots_98 rfl ?_
  refine g_iload hw 5 dX7_laysLots_99 rfl ?_
  refine g_iload_n hw 1 dX7_laysLots_101 rfl ?_
  refine g_iload_n hw 2 dX7_laysLots_102 rfl ?_
  obtain ⟨hk24, h⟩ := h
  refine sX7_274 hw rfl dX7_laysLots_103 rfl (gK2 hkf) hk24 h (fun r26 M25 h => ?_)
  refine g_if_eq (tgt := 127) hw dX7_laysLots_106 (by decide) (fun hb27 => ?_) (fun hb27 => ?_)
  · have h := gT h hb27
    exact wX7_laysLots_b127 hw hkf hR50 h
  · have h := gF h hb27
    refine g_aload_n hw 0 dX7_laysLots_109 rfl ?_
    obtain ⟨hk31, h⟩ := h
    obtain ⟨a32, e33, h⟩ := h
    refine gfX7_196 (q := some a32) hw rfl dX7_laysLots_110 hk31 e33 ?_
    refine g_iload hw 4 dX7_laysLots_113 rfl ?_
    refine g_aload_n hw 0 dX7_laysLots_115 rfl ?_
    refine g_iload hw 5 dX7_laysLots_116 rfl ?_
    refine g_iload_n hw 1 dX7_laysLots_118 rfl ?_
    refine g_iload_n hw 2 dX7_laysLots_119 rfl ?_
    refine sX7_277 hw rfl dX7_laysLots_120 rfl (gK2 hkf) hk31 h (fun r35 M34 h => ?_)
    obtain ⟨hk36, h⟩ := h
    obtain ⟨hi37, h⟩ := h
    refine g_iast (n := l4_22.toNatClampNeg) hw dX7_laysLots_123 hk36 hi37 rfl ?_
    refine g_iinc hw (lv2 := [(0, .ref (gA G 268)), (1, .int l1_11), (2, .int l2_12), (3, .int l3_21), (4, .int (l4_22 + 1)), (5, .int l5_23)]) 4 [1, 2, 3, 4, 0, 5] dX7_laysLots_124 rfl (by decide) rfl rfl ?_
    exact wX7_laysLots_b127 hw hkf hR50 h
def fX7_laysLots_L50s (R50 : Int32 → Int32 → Int32 → gM → Prop) (K133_50 : gM → Prop) (l1_11 : Int32) (l2_12 : Int32) (l3_13 : Int32) (l4_14 : Int32) (l5_15 : Int32) (M : gM) (Q : Int32 → gM → Prop) : Prop :=
  (if 24 ≤ l5_15 then K133_50 M else gk M 268 = 7 ∧ fX7_isCounted l5_15 l1_11 l2_12 M (fun r19 M18 => (if r19 = 0 then fX7_laysLots_b98 R50 l1_11 l2_12 l3_13 l4_14 l5_15 M18 Q else gk M18 268 = 7 ∧ gdr (gR M18 268 11) (fun a39 => gk M18 a39 = 40 ∧ vp_in l5_15 (gl M18 a39) ∧ (if (gI M18 a39 l5_15.toNatClampNeg) = 0 then gdr (gR M18 268 53) (fun a44 => fX7_changeOf l5_15 l1_11 l2_12 M18 (fun r47 M46 => gk M46 a44 = 40 ∧ vp_in l3_13 (gl M46 a44) ∧ fX7_laysLots_b127 R50 l1_11 l2_12 (l3_13 + 1) l4_14 l5_15 (gsI M46 a44 l3_13.toNatClampNeg r47) Q)) else fX7_laysLots_b98 R50 l1_11 l2_12 l3_13 l4_14 l5_15 M18 Q)))))
def fX7_laysLots_L50 (K133_50 : gM → Prop) (l1_11 : Int32) (l2_12 : Int32) (Q : Int32 → gM → Prop) : Nat → Int32 → Int32 → Int32 → gM → Prop
  | 0 => fun _ _ _ _ => False
  | n + 1 => fun l3_13 l4_14 l5_15 M => fX7_laysLots_L50s (fX7_laysLots_L50 K133_50 l1_11 l2_12 Q n) K133_50 l1_11 l2_12 l3_13 l4_14 l5_15 M Q
theorem wX7_laysLots_L50s {kf : Nat} {G : gG} {w : gM → Nat → List (Nat × Value) → List Value → Prop} {Q : Int32 → gM → Prop} (hw : gX yX7_laysLots cX7_laysLots 6 (Option.some FieldType.boolean) [] kf G (gQi Q) gE0 w) (hkf : 5 ≤ kf) {R50 : Int32 → Int32 → Int32 → gM → Prop} {K133_50 : gM → Prop} {l1_11 : Int32} {l2_12 : Int32} {l3_13 : Int32} {l4_14 : Int32} {l5_15 : Int32} {M : gM} (hR50 : ∀ (v0 : Int32) (v1 : Int32) (v2 : Int32) (M : gM), R50 v0 v1 v2 M → w M 50 [(0, .ref (gA G 268)), (1, .int l1_11), (2, .int l2_12), (3, .int v0), (4, .int v1), (5, .int v2)] []) (hK133_50 : ∀  (M : gM), K133_50 M → w M 133 [] []) (h : fX7_laysLots_L50s R50 K133_50 l1_11 l2_12 l3_13 l4_14 l5_15 M Q) : w M 50 [(0, .ref (gA G 268)), (1, .int l1_11), (2, .int l2_12), (3, .int l3_13), (4, .int l4_14), (5, .int l5_15)] [] := by
  unfold fX7_laysLots_L50s at h
  refine g_iload hw 5 dX7_laysLots_50 rfl ?_
  refine g_bipush (v := 24) hw dX7_laysLots_52 (by decide) ?_
  refine g_icmp_ge (tgt := 133) hw dX7_laysLots_54 (by decide) (fun hb16 => ?_) (fun hb16 => ?_)
  · have h := gT h hb16
    refine g_sub hw (lv2 := []) [] rfl ?_
    exact hK133_50 M h
  · have h := gF h hb16
    refine g_aload_n hw 0 dX7_laysLots_57 rfl ?_
    refine g_iload hw 5 dX7_laysLots_58 rfl ?_
    refine g_iload_n hw 1 dX7_laysLots_60 rfl ?_
    refine g_iload_n hw 2 dX7_laysLots_61 rfl ?_
    obtain ⟨hk17, h⟩ := h
    refine sX7_274 hw rfl dX7_laysLots_62 rfl (gK2 hkf) hk17 h (fun r19 M18 h => ?_)
    refine g_if_eq (tgt := 98) hw dX7_laysLots_65 (by decide) (fun hb20 => ?_) (fun hb20 => ?_)
    · have h := gT h hb20
      exact wX7_laysLots_b98 hw hkf hR50 h
    · have h := gF h hb20
      refine g_aload_n hw 0 dX7_laysLots_68 rfl ?_
      obtain ⟨hk38, h⟩ := h
      obtain ⟨a39, e40, h⟩ := h
      refine gfX7_97 (q := some a39) hw rfl dX7_laysLots_69 hk38 e40 ?_
      refine g_iload hw 5 dX7_laysLots_72 rfl ?_
      obtain ⟨hk41, h⟩ := h
      obtain ⟨hi42, h⟩ := h
      refine g_iald (n := l5_15.toNatClampNeg) hw dX7_laysLots_74 hk41 hi42 rfl ?_
      refine g_if_ne (tgt := 98) hw dX7_laysLots_75 (by decide) (fun hb43 => ?_) (fun hb43 => ?_)
      · have h := gF h hb43
        exact wX7_laysLots_b98 hw hkf hR50 h
      · have h := gT h hb43
        refine g_aload_n hw 0 dX7_laysLots_78 rfl ?_
        obtain ⟨a44, e45, h⟩ := h
        refine gfX7_193 (q := some a44) hw rfl dX7_laysLots_79 hk38 e45 ?_
        refine g_iload_n hw 3 dX7_laysLots_82 rfl ?_
        refine g_aload_n hw 0 dX7_laysLots_83 rfl ?_
        refine g_iload hw 5 dX7_laysLots_84 rfl ?_
        refine g_iload_n hw 1 dX7_laysLots_86 rfl ?_
        refine g_iload_n hw 2 dX7_laysLots_87 rfl ?_
        refine sX7_277 hw rfl dX7_laysLots_88 rfl (gK2 hkf) hk38 h (fun r47 M46 h => ?_)
        obtain ⟨hk48, h⟩ := h
        obtain ⟨hi49, h⟩ := h
        refine g_iast (n := l3_13.toNatClampNeg) hw dX7_laysLots_91 hk48 hi49 rfl ?_
        refine g_iinc hw (lv2 := [(0, .ref (gA G 268)), (1, .int l1_11), (2, .int l2_12), (3, .int (l3_13 + 1)), (4, .int l4_14), (5, .int l5_15)]) 3 [1, 2, 3, 0, 4, 5] dX7_laysLots_92 rfl (by decide) rfl rfl ?_
        refine g_goto (tgt := 127) hw dX7_laysLots_95 (by decide) ?_
        exact wX7_laysLots_b127 hw hkf hR50 h
theorem wX7_laysLots_L50 {kf : Nat} {G : gG} {w : gM → Nat → List (Nat × Value) → List Value → Prop} {Q : Int32 → gM → Prop} (hw : gX yX7_laysLots cX7_laysLots 6 (Option.some FieldType.boolean) [] kf G (gQi Q) gE0 w) (hkf : 5 ≤ kf) {K133_50 : gM → Prop} {l1_11 : Int32} {l2_12 : Int32} (hK133_50 : ∀  (M : gM), K133_50 M → w M 133 [] []) : ∀ (n : Nat) (l3_13 : Int32) (l4_14 : Int32) (l5_15 : Int32) (M : gM), fX7_laysLots_L50 K133_50 l1_11 l2_12 Q n l3_13 l4_14 l5_15 M → w M 50 [(0, .ref (gA G 268)), (1, .int l1_11), (2, .int l2_12), (3, .int l3_13), (4, .int l4_14), (5, .int l5_15)] [] := by
  intro n
  induction n with
  | zero => intro l3_13 l4_14 l5_15 M h; exact h.elim
  | succ n ih => intro l3_13 l4_14 l5_15 M h; exact wX7_laysLots_L50s hw hkf ih hK133_50 h
def fX7_laysLots (p1 : Int32) (p2 : Int32) (M : gM) (Q : Int32 → gM → Prop) : Prop :=
  fX7_areMonths p1 p2 M (fun r2 M1 => (if r2 = 0 then Q 0 M1 else gk M1 268 = 7 ∧ fX7_findRiver p1 p2 (-1) M1 (fun r6 M5 => (if r6 = 0 then Q 0 M5 else gk M5 268 = 7 ∧ (if 0 < (lg_cmp (gL M5 268 27) 9) then Q 0 M5 else (if (lg_cmp (gL M5 268 29) 9) ≤ 0 then ∃ n, fX7_laysLots_L50 (fun M50 => Q 1 M50) p1 p2 Q n 0 0 0 M5 else Q 0 M5))))))
theorem mX7_laysLots {kf : Nat} (hkf : 5 ≤ kf) (G : gG) (p1 : Int32) (p2 : Int32) (M : gM) (Q : Int32 → gM → Prop) (h : fX7_laysLots p1 p2 M Q) : gMet yX7_laysLots cX7_laysLots 6 (Option.some FieldType.boolean) kf G M [.ref (gA G 268), .int p1, .int p2] (gQi Q) gE0 := by
  refine g_intro (lv := [(0, .ref (gA G 268)), (1, .int p1), (2, .int p2)]) (by decide) rfl rfl (fun w hw => ?_)
  unfold fX7_laysLots at h
  refine g_iload_n hw 1 dX7_laysLots_0 rfl ?_
  refine g_iload_n hw 2 dX7_laysLots_1 rfl ?_
  refine sX7_270 hw rfl dX7_laysLots_2 rfl (gK2 hkf) h (fun r2 M1 h => ?_)
  refine g_if_eq (tgt := 40) hw dX7_laysLots_5 (by decide) (fun hb3 => ?_) (fun hb3 => ?_)
  · have h := gT h hb3
    refine g_iconst (v := 0) hw dX7_laysLots_40 (by decide) ?_
    exact g_iret hw dX7_laysLots_41 (by decide +kernel) ⟨_, rfl, h⟩
  · have h := gF h hb3
    refine g_aload_n hw 0 dX7_laysLots_8 rfl ?_
    refine g_iload_n hw 1 dX7_laysLots_9 rfl ?_
    refine g_iload_n hw 2 dX7_laysLots_10 rfl ?_
    refine g_iconst (v := (-1)) hw dX7_laysLots_11 (by decide) ?_
    obtain ⟨hk4, h⟩ := h
    refine sX7_318 hw rfl dX7_laysLots_12 rfl (gK2 hkf) hk4 h (fun r6 M5 h => ?_)
    refine g_if_eq (tgt := 40) hw dX7_laysLots_15 (by decide) (fun hb7 => ?_) (fun hb7 => ?_)
    · have h := gT h hb7
      refine g_iconst (v := 0) hw dX7_laysLots_40 (by decide) ?_
      exact g_iret hw dX7_laysLots_41 (by decide +kernel) ⟨_, rfl, h⟩
    · have h := gF h hb7
      refine g_aload_n hw 0 dX7_laysLots_18 rfl ?_
      obtain ⟨hk8, h⟩ := h
      refine gfX7_295 hw rfl dX7_laysLots_19 hk8 ?_
      refine g_ldc2 hw dX7_laysLots_22 q1711 ?_
      refine g_lcmp hw dX7_laysLots_25 ?_
      refine g_if_gt (tgt := 40) hw dX7_laysLots_26 (by decide) (fun hb9 => ?_) (fun hb9 => ?_)
      · have h := gT h hb9
        refine g_iconst (v := 0) hw dX7_laysLots_40 (by decide) ?_
        exact g_iret hw dX7_laysLots_41 (by decide +kernel) ⟨_, rfl, h⟩
      · have h := gF h hb9
        refine g_aload_n hw 0 dX7_laysLots_29 rfl ?_
        refine gfX7_301 hw rfl dX7_laysLots_30 hk8 ?_
        refine g_ldc2 hw dX7_laysLots_33 q1711 ?_
        refine g_lcmp hw dX7_laysLots_36 ?_
        refine g_if_le (tgt := 42) hw dX7_laysLots_37 (by decide) (fun hb10 => ?_) (fun hb10 => ?_)
        · have h := gT h hb10
          refine g_iconst (v := 0) hw dX7_laysLots_42 (by decide) ?_
          refine g_istore_n hw (lv2 := [(0, .ref (gA G 268)), (1, .int p1), (2, .int p2), (3, .int 0)]) [1, 2, 3, 0] dX7_laysLots_43 rfl rfl ?_
          refine g_iconst (v := 0) hw dX7_laysLots_44 (by decide) ?_
          refine g_istore hw (lv2 := [(0, .ref (gA G 268)), (1, .int p1), (2, .int p2), (3, .int 0), (4, .int 0)]) [1, 2, 3, 4, 0] dX7_laysLots_45 rfl rfl ?_
          refine g_iconst (v := 0) hw dX7_laysLots_47 (by decide) ?_
          refine g_istore hw (lv2 := [(0, .ref (gA G 268)), (1, .int p1), (2, .int p2), (3, .int 0), (4, .int 0), (5, .int 0)]) [1, 2, 3, 4, 5, 0] dX7_laysLots_48 rfl rfl ?_
          obtain ⟨n9, h⟩ := h
          refine wX7_laysLots_L50 hw hkf (fun M50 h => ?_) n9 0 0 0 M5 h
          refine g_iconst (v := 1) hw dX7_laysLots_133 (by decide) ?_
          exact g_iret hw dX7_laysLots_134 (by decide +kernel) ⟨_, rfl, h⟩
        · have h := gF h hb10
          refine g_iconst (v := 0) hw dX7_laysLots_40 (by decide) ?_
          exact g_iret hw dX7_laysLots_41 (by decide +kernel) ⟨_, rfl, h⟩
def fX7_signOf (p1 : Int64) (M : gM) (Q : Int32 → gM → Prop) : Prop :=
  (if 0 ≤ (lg_cmp p1 0) then (if (lg_cmp p1 0) ≤ 0 then Q 0 M else Q 1 M) else Q (-1) M)
theorem mX7_signOf {kf : Nat} (hkf : 1 ≤ kf) (G : gG) (p1 : Int64) (M : gM) (Q : Int32 → gM → Prop) (h : fX7_signOf p1 M Q) : gMet yX7_signOf cX7_signOf 2 (Option.some FieldType.int) kf G M [.long p1] (gQi Q) gE0 := by
  refine g_intro (lv := [(0, .long p1)]) (by decide) rfl rfl (fun w hw => ?_)
  unfold fX7_signOf at h
  refine g_lload_n hw 0 dX7_signOf_0 rfl ?_
  refine g_lconst (v := 0) hw dX7_signOf_1 (by decide) ?_
  refine g_lcmp hw dX7_signOf_2 ?_
  refine g_if_ge (tgt := 10) hw dX7_signOf_3 (by decide) (fun hb1 => ?_) (fun hb1 => ?_)
  · have h := gT h hb1
    refine g_lload_n hw 0 dX7_signOf_10 rfl ?_
    refine g_lconst (v := 0) hw dX7_signOf_11 (by decide) ?_
    refine g_lcmp hw dX7_signOf_12 ?_
    refine g_if_le (tgt := 20) hw dX7_signOf_13 (by decide) (fun hb2 => ?_) (fun hb2 => ?_)
    · have h := gT h hb2
      refine g_iconst (v := 0) hw dX7_signOf_20 (by decide) ?_
      exact g_iret hw dX7_signOf_21 rfl ⟨_, rfl, h⟩
    · have h := gF h hb2
      refine g_iconst (v := 1) hw dX7_signOf_16 (by decide) ?_
      refine g_goto (tgt := 21) hw dX7_signOf_17 (by decide) ?_
      exact g_iret hw dX7_signOf_21 rfl ⟨_, rfl, h⟩
  · have h := gF h hb1
    refine g_iconst (v := (-1)) hw dX7_signOf_6 (by decide) ?_
    refine g_goto (tgt := 21) hw dX7_signOf_7 (by decide) ?_
    exact g_iret hw dX7_signOf_21 rfl ⟨_, rfl, h⟩
def fX7_bits_L4s (R4 : Int32 → Int32 → gM → Prop) (K24_4 : Int32 → gM → Prop) (l0_1 : Int32) (l1_2 : Int32) (l2_3 : Int32) (M : gM) (Q : Int32 → gM → Prop) : Prop :=
  (if 9 ≤ l2_3 then K24_4 l1_2 M else R4 (l1_2 + ((l0_1 >>> (l2_3 &&& 31)) &&& 1)) (l2_3 + 1) M)
def fX7_bits_L4 (K24_4 : Int32 → gM → Prop) (l0_1 : Int32) (Q : Int32 → gM → Prop) : Nat → Int32 → Int32 → gM → Prop
  | 0 => fun _ _ _ => False
  | n + 1 => fun l1_2 l2_3 M => fX7_bits_L4s (fX7_bits_L4 K24_4 l0_1 Q n) K24_4 l0_1 l1_2 l2_3 M Q
theorem wX7_bits_L4s {kf : Nat} {G : gG} {w : gM → Nat → List (Nat × Value) → List Value → Prop} {Q : Int32 → gM → Prop} (hw : gX yX7_bits cX7_bits 3 (Option.some FieldType.int) [] kf G (gQi Q) gE0 w) (hkf : 1 ≤ kf) {R4 : Int32 → Int32 → gM → Prop} {K24_4 : Int32 → gM → Prop} {l0_1 : Int32} {l1_2 : Int32} {l2_3 : Int32} {M : gM} (hR4 : ∀ (v0 : Int32) (v1 : Int32) (M : gM), R4 v0 v1 M → w M 4 [(0, .int l0_1), (1, .int v0), (2, .int v1)] []) (hK24_4 : ∀ (v0 : Int32) (M : gM), K24_4 v0 M → w M 24 [(1, .int v0)] []) (h : fX7_bits_L4s R4 K24_4 l0_1 l1_2 l2_3 M Q) : w M 4 [(0, .int l0_1), (1, .int l1_2), (2, .int l2_3)] [] := by
  unfold fX7_bits_L4s at h
  refine g_iload_n hw 2 dX7_bits_4 rfl ?_
  refine g_bipush (v := 9) hw dX7_bits_5 (by decide) ?_
  refine g_icmp_ge (tgt := 24) hw dX7_bits_7 (by decide) (fun hb4 => ?_) (fun hb4 => ?_)
  · have h := gT h hb4
    refine g_sub hw (lv2 := [(1, .int l1_2)]) [1] rfl ?_
    exact hK24_4 l1_2 M h
  · have h := gF h hb4
    refine g_iload_n hw 1 dX7_bits_10 rfl ?_
    refine g_iload_n hw 0 dX7_bits_11 rfl ?_
    refine g_iload_n hw 2 dX7_bits_12 rfl ?_
    refine g_ishr hw dX7_bits_13 ?_
    refine g_iconst (v := 1) hw dX7_bits_14 (by decide) ?_
    refine g_iand hw dX7_bits_15 ?_
    refine g_iadd hw dX7_bits_16 ?_
    refine g_istore_n hw (lv2 := [(0, .int l0_1), (1, .int (l1_2 + ((l0_1 >>> (l2_3 &&& 31)) &&& 1))), (2, .int l2_3)]) [1, 0, 2] dX7_bits_17 rfl rfl ?_
    refine g_iinc hw (lv2 := [(0, .int l0_1), (1, .int (l1_2 + ((l0_1 >>> (l2_3 &&& 31)) &&& 1))), (2, .int (l2_3 + 1))]) 2 [1, 2, 0] dX7_bits_18 rfl (by decide) rfl rfl ?_
    refine g_goto (tgt := 4) hw dX7_bits_21 (by decide) ?_
    exact hR4 (l1_2 + ((l0_1 >>> (l2_3 &&& 31)) &&& 1)) (l2_3 + 1) M h
theorem wX7_bits_L4 {kf : Nat} {G : gG} {w : gM → Nat → List (Nat × Value) → List Value → Prop} {Q : Int32 → gM → Prop} (hw : gX yX7_bits cX7_bits 3 (Option.some FieldType.int) [] kf G (gQi Q) gE0 w) (hkf : 1 ≤ kf) {K24_4 : Int32 → gM → Prop} {l0_1 : Int32} (hK24_4 : ∀ (v0 : Int32) (M : gM), K24_4 v0 M → w M 24 [(1, .int v0)] []) : ∀ (n : Nat) (l1_2 : Int32) (l2_3 : Int32) (M : gM), fX7_bits_L4 K24_4 l0_1 Q n l1_2 l2_3 M → w M 4 [(0, .int l0_1), (1, .int l1_2), (2, .int l2_3)] [] := by
  intro n
  induction n with
  | zero => intro l1_2 l2_3 M h; exact h.elim
  | succ n ih => intro l1_2 l2_3 M h; exact wX7_bits_L4s hw hkf ih hK24_4 h
def fX7_bits (p1 : Int32) (M : gM) (Q : Int32 → gM → Prop) : Prop :=
  ∃ n, fX7_bits_L4 (fun l1_5 M6 => Q l1_5 M6) p1 Q n 0 0 M
theorem mX7_bits {kf : Nat} (hkf : 1 ≤ kf) (G : gG) (p1 : Int32) (M : gM) (Q : Int32 → gM → Prop) (h : fX7_bits p1 M Q) : gMet yX7_bits cX7_bits 3 (Option.some FieldType.int) kf G M [.int p1] (gQi Q) gE0 := by
  refine g_intro (lv := [(0, .int p1)]) (by decide) rfl rfl (fun w hw => ?_)
  unfold fX7_bits at h
  refine g_iconst (v := 0) hw dX7_bits_0 (by decide) ?_
  refine g_istore_n hw (lv2 := [(0, .int p1), (1, .int 0)]) [1, 0] dX7_bits_1 rfl rfl ?_
  refine g_iconst (v := 0) hw dX7_bits_2 (by decide) ?_
  refine g_istore_n hw (lv2 := [(0, .int p1), (1, .int 0), (2, .int 0)]) [1, 2, 0] dX7_bits_3 rfl rfl ?_
  obtain ⟨n9, h⟩ := h
  refine wX7_bits_L4 hw hkf (fun l1_5 M6 h => ?_) n9 0 0 M h
  refine g_iload_n hw 0 dX7_bits_24 rfl ?_
  exact g_iret hw dX7_bits_25 rfl ⟨_, rfl, h⟩
def fX7_sumIn_b32 (R5 : Int64 → Int32 → gM → Prop) (l0_1 : Nat) (l1_2 : Int32) (l4_7 : Int32) (s0_8 : Int64) (s1_9 : Int64) (M : gM) (Q : Int64 → gM → Prop) : Prop :=
  R5 (s0_8 + s1_9) (l4_7 + 1) M
theorem wX7_sumIn_b32 {kf : Nat} {G : gG} {w : gM → Nat → List (Nat × Value) → List Value → Prop} {Q : Int64 → gM → Prop} (hw : gX yX7_sumIn cX7_sumIn 5 (Option.some FieldType.long) [] kf G (gQl Q) gE0 w) (hkf : 1 ≤ kf) {R5 : Int64 → Int32 → gM → Prop} {l0_1 : Nat} {l1_2 : Int32} {l4_7 : Int32} {s0_8 : Int64} {s1_9 : Int64} {M : gM} (hR5 : ∀ (v0 : Int64) (v1 : Int32) (M : gM), R5 v0 v1 M → w M 5 [(0, .ref (gA G l0_1)), (1, .int l1_2), (2, .long v0), (4, .int v1)] []) (h : fX7_sumIn_b32 R5 l0_1 l1_2 l4_7 s0_8 s1_9 M Q) : w M 32 [(0, .ref (gA G l0_1)), (1, .int l1_2), (4, .int l4_7)] [.long s1_9, .long s0_8] := by
  unfold fX7_sumIn_b32 at h
  refine g_ladd hw dX7_sumIn_32 ?_
  refine g_lstore_n hw (lv2 := [(0, .ref (gA G l0_1)), (1, .int l1_2), (2, .long (s0_8 + s1_9)), (4, .int l4_7)]) [1, 2, 0, 3] dX7_sumIn_33 rfl rfl ?_
  refine g_iinc hw (lv2 := [(0, .ref (gA G l0_1)), (1, .int l1_2), (2, .long (s0_8 + s1_9)), (4, .int (l4_7 + 1))]) 3 [1, 2, 3, 0] dX7_sumIn_34 rfl (by decide) rfl rfl ?_
  refine g_goto (tgt := 5) hw dX7_sumIn_37 (by decide) ?_
  exact hR5 (s0_8 + s1_9) (l4_7 + 1) M h
def fX7_sumIn_L5s (R5 : Int64 → Int32 → gM → Prop) (K40_5 : Int64 → gM → Prop) (l0_1 : Nat) (l1_2 : Int32) (l2_3 : Int64) (l4_4 : Int32) (M : gM) (Q : Int64 → gM → Prop) : Prop :=
  (if 9 ≤ l4_4 then K40_5 l2_3 M else (if ((l1_2 >>> (l4_4 &&& 31)) &&& 1) = 1 then gk M l0_1 = 40 ∧ vp_in l4_4 (gl M l0_1) ∧ fX7_sumIn_b32 R5 l0_1 l1_2 l4_4 l2_3 ((gI M l0_1 l4_4.toNatClampNeg).toInt64) M Q else fX7_sumIn_b32 R5 l0_1 l1_2 l4_4 l2_3 0 M Q))
def fX7_sumIn_L5 (K40_5 : Int64 → gM → Prop) (l0_1 : Nat) (l1_2 : Int32) (Q : Int64 → gM → Prop) : Nat → Int64 → Int32 → gM → Prop
  | 0 => fun _ _ _ => False
  | n + 1 => fun l2_3 l4_4 M => fX7_sumIn_L5s (fX7_sumIn_L5 K40_5 l0_1 l1_2 Q n) K40_5 l0_1 l1_2 l2_3 l4_4 M Q
theorem wX7_sumIn_L5s {kf : Nat} {G : gG} {w : gM → Nat → List (Nat × Value) → List Value → Prop} {Q : Int64 → gM → Prop} (hw : gX yX7_sumIn cX7_sumIn 5 (Option.some FieldType.long) [] kf G (gQl Q) gE0 w) (hkf : 1 ≤ kf) {R5 : Int64 → Int32 → gM → Prop} {K40_5 : Int64 → gM → Prop} {l0_1 : Nat} {l1_2 : Int32} {l2_3 : Int64} {l4_4 : Int32} {M : gM} (hR5 : ∀ (v0 : Int64) (v1 : Int32) (M : gM), R5 v0 v1 M → w M 5 [(0, .ref (gA G l0_1)), (1, .int l1_2), (2, .long v0), (4, .int v1)] []) (hK40_5 : ∀ (v0 : Int64) (M : gM), K40_5 v0 M → w M 40 [(2, .long v0)] []) (h : fX7_sumIn_L5s R5 K40_5 l0_1 l1_2 l2_3 l4_4 M Q) : w M 5 [(0, .ref (gA G l0_1)), (1, .int l1_2), (2, .long l2_3), (4, .int l4_4)] [] := by
  unfold fX7_sumIn_L5s at h
  refine g_iload hw 3 dX7_sumIn_5 rfl ?_
  refine g_bipush (v := 9) hw dX7_sumIn_7 (by decide) ?_
  refine g_icmp_ge (tgt := 40) hw dX7_sumIn_9 (by decide) (fun hb5 => ?_) (fun hb5 => ?_)
  · have h := gT h hb5
    refine g_sub hw (lv2 := [(2, .long l2_3)]) [2] rfl ?_
    exact hK40_5 l2_3 M h
  · have h := gF h hb5
    refine g_lload_n hw 2 dX7_sumIn_12 rfl ?_
    refine g_iload_n hw 1 dX7_sumIn_13 rfl ?_
    refine g_iload hw 3 dX7_sumIn_14 rfl ?_
    refine g_ishr hw dX7_sumIn_16 ?_
    refine g_iconst (v := 1) hw dX7_sumIn_17 (by decide) ?_
    refine g_iand hw dX7_sumIn_18 ?_
    refine g_iconst (v := 1) hw dX7_sumIn_19 (by decide) ?_
    refine g_icmp_ne (tgt := 31) hw dX7_sumIn_20 (by decide) (fun hb6 => ?_) (fun hb6 => ?_)
    · have h := gF h hb6
      refine g_lconst (v := 0) hw dX7_sumIn_31 (by decide) ?_
      refine g_sub hw (lv2 := [(0, .ref (gA G l0_1)), (1, .int l1_2), (4, .int l4_4)]) [0, 1, 3] rfl ?_
      exact wX7_sumIn_b32 hw hkf hR5 h
    · have h := gT h hb6
      refine g_aload_n hw 0 dX7_sumIn_23 rfl ?_
      refine g_iload hw 3 dX7_sumIn_24 rfl ?_
      obtain ⟨hk10, h⟩ := h
      obtain ⟨hi11, h⟩ := h
      refine g_iald (n := l4_4.toNatClampNeg) hw dX7_sumIn_26 hk10 hi11 rfl ?_
      refine g_i2l hw dX7_sumIn_27 ?_
      refine g_goto (tgt := 32) hw dX7_sumIn_28 (by decide) ?_
      refine g_sub hw (lv2 := [(0, .ref (gA G l0_1)), (1, .int l1_2), (4, .int l4_4)]) [0, 1, 3] rfl ?_
      exact wX7_sumIn_b32 hw hkf hR5 h
theorem wX7_sumIn_L5 {kf : Nat} {G : gG} {w : gM → Nat → List (Nat × Value) → List Value → Prop} {Q : Int64 → gM → Prop} (hw : gX yX7_sumIn cX7_sumIn 5 (Option.some FieldType.long) [] kf G (gQl Q) gE0 w) (hkf : 1 ≤ kf) {K40_5 : Int64 → gM → Prop} {l0_1 : Nat} {l1_2 : Int32} (hK40_5 : ∀ (v0 : Int64) (M : gM), K40_5 v0 M → w M 40 [(2, .long v0)] []) : ∀ (n : Nat) (l2_3 : Int64) (l4_4 : Int32) (M : gM), fX7_sumIn_L5 K40_5 l0_1 l1_2 Q n l2_3 l4_4 M → w M 5 [(0, .ref (gA G l0_1)), (1, .int l1_2), (2, .long l2_3), (4, .int l4_4)] [] := by
  intro n
  induction n with
  | zero => intro l2_3 l4_4 M h; exact h.elim
  | succ n ih => intro l2_3 l4_4 M h; exact wX7_sumIn_L5s hw hkf ih hK40_5 h
def fX7_sumIn (p1 : Nat) (p2 : Int32) (M : gM) (Q : Int64 → gM → Prop) : Prop :=
  ∃ n, fX7_sumIn_L5 (fun l2_12 M13 => Q l2_12 M13) p1 p2 Q n 0 0 M
theorem mX7_sumIn {kf : Nat} (hkf : 1 ≤ kf) (G : gG) (p1 : Nat) (p2 : Int32) (M : gM) (Q : Int64 → gM → Prop) (h : fX7_sumIn p1 p2 M Q) : gMet yX7_sumIn cX7_sumIn 5 (Option.some FieldType.long) kf G M [.ref (gA G p1), .int p2] (gQl Q) gE0 := by
  refine g_intro (lv := [(0, .ref (gA G p1)), (1, .int p2)]) (by decide) rfl rfl (fun w hw => ?_)
  unfold fX7_sumIn at h
  refine g_lconst (v := 0) hw dX7_sumIn_0 (by decide) ?_
  refine g_lstore_n hw (lv2 := [(0, .ref (gA G p1)), (1, .int p2), (2, .long 0)]) [1, 2, 0] dX7_sumIn_1 rfl rfl ?_
  refine g_iconst (v := 0) hw dX7_sumIn_2 (by decide) ?_
  refine g_istore hw (lv2 := [(0, .ref (gA G p1)), (1, .int p2), (2, .long 0), (4, .int 0)]) [1, 2, 3, 0] dX7_sumIn_3 rfl rfl ?_
  obtain ⟨n9, h⟩ := h
  refine wX7_sumIn_L5 hw hkf (fun l2_12 M13 h => ?_) n9 0 0 M h
  refine g_lload_n hw 0 dX7_sumIn_40 rfl ?_
  exact g_lret hw dX7_sumIn_41 ⟨_, rfl, h⟩
theorem sX7_471 {y0 : MethodName} {cc : ByteArray} {nL : Nat} {ret : Option FieldType} {hh : List (Nat × Nat × Nat × Nat)} {kf : Nat} {G : gG} {Qv : Option Value → gM → Prop} {E : String → Nat → gM → Prop} {w : gM → Nat → List (Nat × Value) → List Value → Prop} {M : gM} {pc : Nat} {lv : List (Nat × Value)} {rest : List Value} (hw : gX y0 cc nL ret hh kf G Qv E w) (hy : y0.cls = RX7) {p1 : Int64} {Q : Int32 → gM → Prop} (d : decode cc pc = .ok (.invokestatic 471, 3)) (hrest : Nat.ble ((rest.map Value.category).sum) 8 = true) (hk : 1 + 1 ≤ kf) (h : fX7_signOf p1 M Q) (kk : ∀ r M1, Q r M1 → w M1 (pc + 3) lv (.int r :: rest)) : w M pc lv (.long p1 :: rest) := by
  obtain ⟨cls9, nm9, ds9⟩ := y0
  subst hy
  exact g_callS hw [.long p1] (nA := 1) rfl d q1716 q1717 q104 q1718 (by decide +kernel) rfl hrest rfl (by omega : kf - 1 + 1 ≤ kf) (mX7_signOf (kf := kf - 1) (by omega) G p1 M Q h) (fun _ _ _ q => q.elim) (fun v M1 h => by obtain ⟨r, rfl, h⟩ := h; exact kk r M1 h)
theorem sX7_475 {y0 : MethodName} {cc : ByteArray} {nL : Nat} {ret : Option FieldType} {hh : List (Nat × Nat × Nat × Nat)} {kf : Nat} {G : gG} {Qv : Option Value → gM → Prop} {E : String → Nat → gM → Prop} {w : gM → Nat → List (Nat × Value) → List Value → Prop} {M : gM} {pc : Nat} {lv : List (Nat × Value)} {rest : List Value} (hw : gX y0 cc nL ret hh kf G Qv E w) (hy : y0.cls = RX7) {p1 : Int32} {Q : Int32 → gM → Prop} (d : decode cc pc = .ok (.invokestatic 475, 3)) (hrest : Nat.ble ((rest.map Value.category).sum) 8 = true) (hk : 1 + 1 ≤ kf) (h : fX7_bits p1 M Q) (kk : ∀ r M1, Q r M1 → w M1 (pc + 3) lv (.int r :: rest)) : w M pc lv (.int p1 :: rest) := by
  obtain ⟨cls9, nm9, ds9⟩ := y0
  subst hy
  exact g_callS hw [.int p1] (nA := 1) rfl d q1719 q1720 q104 q1721 (by decide +kernel) rfl hrest rfl (by omega : kf - 1 + 1 ≤ kf) (mX7_bits (kf := kf - 1) (by omega) G p1 M Q h) (fun _ _ _ q => q.elim) (fun v M1 h => by obtain ⟨r, rfl, h⟩ := h; exact kk r M1 h)
theorem sX7_478 {y0 : MethodName} {cc : ByteArray} {nL : Nat} {ret : Option FieldType} {hh : List (Nat × Nat × Nat × Nat)} {kf : Nat} {G : gG} {Qv : Option Value → gM → Prop} {E : String → Nat → gM → Prop} {w : gM → Nat → List (Nat × Value) → List Value → Prop} {M : gM} {pc : Nat} {lv : List (Nat × Value)} {rest : List Value} (hw : gX y0 cc nL ret hh kf G Qv E w) (hy : y0.cls = RX7) {p1 : Nat} {p2 : Int32} {Q : Int64 → gM → Prop} (d : decode cc pc = .ok (.invokestatic 478, 3)) (hrest : Nat.ble ((rest.map Value.category).sum) 8 = true) (hk : 1 + 1 ≤ kf) (h : fX7_sumIn p1 p2 M Q) (kk : ∀ r M1, Q r M1 → w M1 (pc + 3) lv (.long r :: rest)) : w M pc lv (.int p2 :: .ref (gA G p1) :: rest) := by
  obtain ⟨cls9, nm9, ds9⟩ := y0
  subst hy
  exact g_callS hw [.ref (gA G p1), .int p2] (nA := 2) rfl d q1722 q1723 q104 q1724 (by decide +kernel) rfl hrest rfl (by omega : kf - 1 + 1 ≤ kf) (mX7_sumIn (kf := kf - 1) (by omega) G p1 p2 M Q h) (fun _ _ _ q => q.elim) (fun v M1 h => by obtain ⟨r, rfl, h⟩ := h; exact kk r M1 h)
def fX7_findLots_b137 (R35 : Int32 → gM → Prop) (l1_5 : Int32) (l2_6 : Int32) (l3_13 : Int32) (M : gM) (Q : gM → Prop) : Prop :=
  R35 (l3_13 + 1) M
theorem wX7_findLots_b137 {kf : Nat} {G : gG} {w : gM → Nat → List (Nat × Value) → List Value → Prop} {Q : gM → Prop} (hw : gX yX7_findLots cX7_findLots 7 (Option.none : Option FieldType) [] kf G (gQv Q) gE0 w) (hkf : 2 ≤ kf) {R35 : Int32 → gM → Prop} {l1_5 : Int32} {l2_6 : Int32} {l3_13 : Int32} {M : gM} (hR35 : ∀ (v0 : Int32) (M : gM), R35 v0 M → w M 35 [(0, .ref (gA G 268)), (1, .int l1_5), (2, .int l2_6), (3, .int v0)] []) (h : fX7_findLots_b137 R35 l1_5 l2_6 l3_13 M Q) : w M 137 [(0, .ref (gA G 268)), (1, .int l1_5), (2, .int l2_6), (3, .int l3_13)] [] := by
  unfold fX7_findLots_b137 at h
  refine g_iinc hw (lv2 := [(0, .ref (gA G 268)), (1, .int l1_5), (2, .int l2_6), (3, .int (l3_13 + 1))]) 3 [1, 2, 3, 0] dX7_findLots_137 rfl (by decide) rfl rfl ?_
  refine g_goto (tgt := 35) hw dX7_findLots_140 (by decide) ?_
  exact hR35 (l3_13 + 1) M h
def fX7_findLots_b131 (R67 : Int32 → gM → Prop) (l1_5 : Int32) (l2_6 : Int32) (l3_19 : Int32) (l4_20 : Int64) (l6_27 : Int32) (M : gM) (Q : gM → Prop) : Prop :=
  R67 (l6_27 + 1) M
theorem wX7_findLots_b131 {kf : Nat} {G : gG} {w : gM → Nat → List (Nat × Value) → List Value → Prop} {Q : gM → Prop} (hw : gX yX7_findLots cX7_findLots 7 (Option.none : Option FieldType) [] kf G (gQv Q) gE0 w) (hkf : 2 ≤ kf) {R67 : Int32 → gM → Prop} {l1_5 : Int32} {l2_6 : Int32} {l3_19 : Int32} {l4_20 : Int64} {l6_27 : Int32} {M : gM} (hR67 : ∀ (v0 : Int32) (M : gM), R67 v0 M → w M 67 [(0, .ref (gA G 268)), (1, .int l1_5), (2, .int l2_6), (3, .int l3_19), (4, .long l4_20), (6, .int v0)] []) (h : fX7_findLots_b131 R67 l1_5 l2_6 l3_19 l4_20 l6_27 M Q) : w M 131 [(0, .ref (gA G 268)), (1, .int l1_5), (2, .int l2_6), (3, .int l3_19), (4, .long l4_20), (6, .int l6_27)] [] := by
  unfold fX7_findLots_b131 at h
  refine g_iinc hw (lv2 := [(0, .ref (gA G 268)), (1, .int l1_5), (2, .int l2_6), (3, .int l3_19), (4, .long l4_20), (6, .int (l6_27 + 1))]) 5 [1, 2, 3, 4, 5, 0] dX7_findLots_131 rfl (by decide) rfl rfl ?_
  refine g_goto (tgt := 67) hw dX7_findLots_134 (by decide) ?_
  exact hR67 (l6_27 + 1) M h
def fX7_findLots_b127 (R67 : Int32 → gM → Prop) (l1_5 : Int32) (l2_6 : Int32) (l3_19 : Int32) (l4_20 : Int64) (l6_36 : Int32) (s1_37 : Int64) (s2_38 : Int64) (M : gM) (Q : gM → Prop) : Prop :=
  gk M 268 = 7 ∧ fX7_findLots_b131 R67 l1_5 l2_6 l3_19 l4_20 l6_36 (gsL M 268 24 (s1_37 + s2_38)) Q
theorem wX7_findLots_b127 {kf : Nat} {G : gG} {w : gM → Nat → List (Nat × Value) → List Value → Prop} {Q : gM → Prop} (hw : gX yX7_findLots cX7_findLots 7 (Option.none : Option FieldType) [] kf G (gQv Q) gE0 w) (hkf : 2 ≤ kf) {R67 : Int32 → gM → Prop} {l1_5 : Int32} {l2_6 : Int32} {l3_19 : Int32} {l4_20 : Int64} {l6_36 : Int32} {s1_37 : Int64} {s2_38 : Int64} {M : gM} (hR67 : ∀ (v0 : Int32) (M : gM), R67 v0 M → w M 67 [(0, .ref (gA G 268)), (1, .int l1_5), (2, .int l2_6), (3, .int l3_19), (4, .long l4_20), (6, .int v0)] []) (h : fX7_findLots_b127 R67 l1_5 l2_6 l3_19 l4_20 l6_36 s1_37 s2_38 M Q) : w M 127 [(0, .ref (gA G 268)), (1, .int l1_5), (2, .int l2_6), (3, .int l3_19), (4, .long l4_20), (6, .int l6_36)] [.long s2_38, .long s1_37, .ref (gA G 268)] := by
  unfold fX7_findLots_b127 at h
  refine g_ladd hw dX7_findLots_127 ?_
  obtain ⟨hk39, h⟩ := h
  refine pfX7_281 hw rfl dX7_findLots_128 hk39 ?_
  exact wX7_findLots_b131 hw hkf hR67 h
def fX7_findLots_L67s (R67 : Int32 → gM → Prop) (K137_67 : gM → Prop) (l1_5 : Int32) (l2_6 : Int32) (l3_19 : Int32) (l4_20 : Int64) (l6_21 : Int32) (M : gM) (Q : gM → Prop) : Prop :=
  gk M 268 = 7 ∧ (if (1 <<< (((gL M 268 29).toInt32) &&& 31)) ≤ l6_21 then K137_67 M else fX7_bits l6_21 M (fun r25 M24 => (if r25 = l1_5 then gk M24 268 = 7 ∧ gdr (gR (gsL M24 268 25 ((gL M24 268 25) + 1)) 268 54) (fun a29 => fX7_sumIn a29 l6_21 (gsL M24 268 25 ((gL M24 268 25) + 1)) (fun r32 M31 => fX7_signOf (l4_20 - r32) M31 (fun r34 M33 => (if r34 = l2_6 then fX7_findLots_b127 R67 l1_5 l2_6 l3_19 l4_20 l6_21 (gL (gsL M24 268 25 ((gL M24 268 25) + 1)) 268 24) 1 M33 Q else fX7_findLots_b127 R67 l1_5 l2_6 l3_19 l4_20 l6_21 (gL (gsL M24 268 25 ((gL M24 268 25) + 1)) 268 24) 0 M33 Q)))) else fX7_findLots_b131 R67 l1_5 l2_6 l3_19 l4_20 l6_21 M24 Q)))
def fX7_findLots_L67 (K137_67 : gM → Prop) (l1_5 : Int32) (l2_6 : Int32) (l3_19 : Int32) (l4_20 : Int64) (Q : gM → Prop) : Nat → Int32 → gM → Prop
  | 0 => fun _ _ => False
  | n + 1 => fun l6_21 M => fX7_findLots_L67s (fX7_findLots_L67 K137_67 l1_5 l2_6 l3_19 l4_20 Q n) K137_67 l1_5 l2_6 l3_19 l4_20 l6_21 M Q
theorem wX7_findLots_L67s {kf : Nat} {G : gG} {w : gM → Nat → List (Nat × Value) → List Value → Prop} {Q : gM → Prop} (hw : gX yX7_findLots cX7_findLots 7 (Option.none : Option FieldType) [] kf G (gQv Q) gE0 w) (hkf : 2 ≤ kf) {R67 : Int32 → gM → Prop} {K137_67 : gM → Prop} {l1_5 : Int32} {l2_6 : Int32} {l3_19 : Int32} {l4_20 : Int64} {l6_21 : Int32} {M : gM} (hR67 : ∀ (v0 : Int32) (M : gM), R67 v0 M → w M 67 [(0, .ref (gA G 268)), (1, .int l1_5), (2, .int l2_6), (3, .int l3_19), (4, .long l4_20), (6, .int v0)] []) (hK137_67 : ∀  (M : gM), K137_67 M → w M 137 [(0, .ref (gA G 268)), (1, .int l1_5), (2, .int l2_6), (3, .int l3_19)] []) (h : fX7_findLots_L67s R67 K137_67 l1_5 l2_6 l3_19 l4_20 l6_21 M Q) : w M 67 [(0, .ref (gA G 268)), (1, .int l1_5), (2, .int l2_6), (3, .int l3_19), (4, .long l4_20), (6, .int l6_21)] [] := by
  unfold fX7_findLots_L67s at h
  refine g_iload hw 5 dX7_findLots_67 rfl ?_
  refine g_iconst (v := 1) hw dX7_findLots_69 (by decide) ?_
  refine g_aload_n hw 0 dX7_findLots_70 rfl ?_
  obtain ⟨hk22, h⟩ := h
  refine gfX7_301 hw rfl dX7_findLots_71 hk22 ?_
  refine g_l2i hw dX7_findLots_74 ?_
  refine g_ishl hw dX7_findLots_75 ?_
  refine g_icmp_ge (tgt := 137) hw dX7_findLots_76 (by decide) (fun hb23 => ?_) (fun hb23 => ?_)
  · have h := gT h hb23
    refine g_sub hw (lv2 := [(0, .ref (gA G 268)), (1, .int l1_5), (2, .int l2_6), (3, .int l3_19)]) [0, 1, 2, 3] rfl ?_
    exact hK137_67 M h
  · have h := gF h hb23
    refine g_iload hw 5 dX7_findLots_79 rfl ?_
    refine sX7_475 hw rfl dX7_findLots_81 rfl (gK2 hkf) h (fun r25 M24 h => ?_)
    refine g_iload_n hw 1 dX7_findLots_84 rfl ?_
    refine g_icmp_ne (tgt := 131) hw dX7_findLots_85 (by decide) (fun hb26 => ?_) (fun hb26 => ?_)
    · have h := gF h hb26
      exact wX7_findLots_b131 hw hkf hR67 h
    · have h := gT h hb26
      refine g_aload_n hw 0 dX7_findLots_88 rfl ?_
      refine g_dup hw dX7_findLots_89 rfl ?_
      obtain ⟨hk28, h⟩ := h
      refine gfX7_285 hw rfl dX7_findLots_90 hk28 ?_
      refine g_lconst (v := 1) hw dX7_findLots_93 (by decide) ?_
      refine g_ladd hw dX7_findLots_94 ?_
      refine pfX7_285 hw rfl dX7_findLots_95 hk28 ?_
      refine g_aload_n hw 0 dX7_findLots_98 rfl ?_
      refine g_dup hw dX7_findLots_99 rfl ?_
      refine gfX7_281 hw rfl dX7_findLots_100 hk28 ?_
      refine g_lload hw 4 dX7_findLots_103 rfl ?_
      refine g_aload_n hw 0 dX7_findLots_105 rfl ?_
      obtain ⟨a29, e30, h⟩ := h
      refine gfX7_196 (q := some a29) hw rfl dX7_findLots_106 hk28 e30 ?_
      refine g_iload hw 5 dX7_findLots_109 rfl ?_
      refine sX7_478 hw rfl dX7_findLots_111 rfl (gK2 hkf) h (fun r32 M31 h => ?_)
      refine g_lsub hw dX7_findLots_114 ?_
      refine sX7_471 hw rfl dX7_findLots_115 rfl (gK2 hkf) h (fun r34 M33 h => ?_)
      refine g_iload_n hw 2 dX7_findLots_118 rfl ?_
      refine g_icmp_ne (tgt := 126) hw dX7_findLots_119 (by decide) (fun hb35 => ?_) (fun hb35 => ?_)
      · have h := gF h hb35
        refine g_lconst (v := 0) hw dX7_findLots_126 (by decide) ?_
        exact wX7_findLots_b127 hw hkf hR67 h
      · have h := gT h hb35
        refine g_lconst (v := 1) hw dX7_findLots_122 (by decide) ?_
        refine g_goto (tgt := 127) hw dX7_findLots_123 (by decide) ?_
        exact wX7_findLots_b127 hw hkf hR67 h
theorem wX7_findLots_L67 {kf : Nat} {G : gG} {w : gM → Nat → List (Nat × Value) → List Value → Prop} {Q : gM → Prop} (hw : gX yX7_findLots cX7_findLots 7 (Option.none : Option FieldType) [] kf G (gQv Q) gE0 w) (hkf : 2 ≤ kf) {K137_67 : gM → Prop} {l1_5 : Int32} {l2_6 : Int32} {l3_19 : Int32} {l4_20 : Int64} (hK137_67 : ∀  (M : gM), K137_67 M → w M 137 [(0, .ref (gA G 268)), (1, .int l1_5), (2, .int l2_6), (3, .int l3_19)] []) : ∀ (n : Nat) (l6_21 : Int32) (M : gM), fX7_findLots_L67 K137_67 l1_5 l2_6 l3_19 l4_20 Q n l6_21 M → w M 67 [(0, .ref (gA G 268)), (1, .int l1_5), (2, .int l2_6), (3, .int l3_19), (4, .long l4_20), (6, .int l6_21)] [] := by
  intro n
  induction n with
  | zero => intro l6_21 M h; exact h.elim
  | succ n ih => intro l6_21 M h; exact wX7_findLots_L67s hw hkf ih hK137_67 h
def fX7_findLots_L35s (R35 : Int32 → gM → Prop) (K143_35 : gM → Prop) (l1_5 : Int32) (l2_6 : Int32) (l3_7 : Int32) (M : gM) (Q : gM → Prop) : Prop :=
  gk M 268 = 7 ∧ (if (1 <<< (((gL M 268 27).toInt32) &&& 31)) ≤ l3_7 then K143_35 M else fX7_bits l3_7 M (fun r11 M10 => (if r11 = l1_5 then gk M10 268 = 7 ∧ gdr (gR M10 268 53) (fun a15 => fX7_sumIn a15 l3_7 M10 (fun r18 M17 => ∃ n, fX7_findLots_L67 (fun M40 => fX7_findLots_b137 R35 l1_5 l2_6 l3_7 M40 Q) l1_5 l2_6 l3_7 r18 Q n 0 M17)) else fX7_findLots_b137 R35 l1_5 l2_6 l3_7 M10 Q)))
def fX7_findLots_L35 (K143_35 : gM → Prop) (l1_5 : Int32) (l2_6 : Int32) (Q : gM → Prop) : Nat → Int32 → gM → Prop
  | 0 => fun _ _ => False
  | n + 1 => fun l3_7 M => fX7_findLots_L35s (fX7_findLots_L35 K143_35 l1_5 l2_6 Q n) K143_35 l1_5 l2_6 l3_7 M Q
theorem wX7_findLots_L35s {kf : Nat} {G : gG} {w : gM → Nat → List (Nat × Value) → List Value → Prop} {Q : gM → Prop} (hw : gX yX7_findLots cX7_findLots 7 (Option.none : Option FieldType) [] kf G (gQv Q) gE0 w) (hkf : 2 ≤ kf) {R35 : Int32 → gM → Prop} {K143_35 : gM → Prop} {l1_5 : Int32} {l2_6 : Int32} {l3_7 : Int32} {M : gM} (hR35 : ∀ (v0 : Int32) (M : gM), R35 v0 M → w M 35 [(0, .ref (gA G 268)), (1, .int l1_5), (2, .int l2_6), (3, .int v0)] []) (hK143_35 : ∀  (M : gM), K143_35 M → w M 143 [] []) (h : fX7_findLots_L35s R35 K143_35 l1_5 l2_6 l3_7 M Q) : w M 35 [(0, .ref (gA G 268)), (1, .int l1_5), (2, .int l2_6), (3, .int l3_7)] [] := by
  unfold fX7_findLots_L35s at h
  refine g_iload_n hw 3 dX7_findLots_35 rfl ?_
  refine g_iconst (v := 1) hw dX7_findLots_36 (by decide) ?_
  refine g_aload_n hw 0 dX7_findLots_37 rfl ?_
  obtain ⟨hk8, h⟩ := h
  refine gfX7_295 hw rfl dX7_findLots_38 hk8 ?_
  refine g_l2i hw dX7_findLots_41 ?_
  refine g_ishl hw dX7_findLots_42 ?_
  refine g_icmp_ge (tgt := 143) hw dX7_findLots_43 (by decide) (fun hb9 => ?_) (fun hb9 => ?_)
  · have h := gT h hb9
    refine g_sub hw (lv2 := []) [] rfl ?_
    exact hK143_35 M h
  · have h := gF h hb9
    refine g_iload_n hw 3 dX7_findLots_46 rfl ?_
    refine sX7_475 hw rfl dX7_findLots_47 rfl (gK2 hkf) h (fun r11 M10 h => ?_)
    refine g_iload_n hw 1 dX7_findLots_50 rfl ?_
    refine g_icmp_ne (tgt := 137) hw dX7_findLots_51 (by decide) (fun hb12 => ?_) (fun hb12 => ?_)
    · have h := gF h hb12
      exact wX7_findLots_b137 hw hkf hR35 h
    · have h := gT h hb12
      refine g_aload_n hw 0 dX7_findLots_54 rfl ?_
      obtain ⟨hk14, h⟩ := h
      obtain ⟨a15, e16, h⟩ := h
      refine gfX7_193 (q := some a15) hw rfl dX7_findLots_55 hk14 e16 ?_
      refine g_iload_n hw 3 dX7_findLots_58 rfl ?_
      refine sX7_478 hw rfl dX7_findLots_59 rfl (gK2 hkf) h (fun r18 M17 h => ?_)
      refine g_lstore hw (lv2 := [(0, .ref (gA G 268)), (1, .int l1_5), (2, .int l2_6), (3, .int l3_7), (4, .long r18)]) [1, 2, 3, 4, 0] dX7_findLots_62 rfl rfl ?_
      refine g_iconst (v := 0) hw dX7_findLots_64 (by decide) ?_
      refine g_istore hw (lv2 := [(0, .ref (gA G 268)), (1, .int l1_5), (2, .int l2_6), (3, .int l3_7), (4, .long r18), (6, .int 0)]) [1, 2, 3, 4, 5, 0] dX7_findLots_65 rfl rfl ?_
      obtain ⟨n9, h⟩ := h
      refine wX7_findLots_L67 hw hkf (fun M40 h => ?_) n9 0 M17 h
      exact wX7_findLots_b137 hw hkf hR35 h
theorem wX7_findLots_L35 {kf : Nat} {G : gG} {w : gM → Nat → List (Nat × Value) → List Value → Prop} {Q : gM → Prop} (hw : gX yX7_findLots cX7_findLots 7 (Option.none : Option FieldType) [] kf G (gQv Q) gE0 w) (hkf : 2 ≤ kf) {K143_35 : gM → Prop} {l1_5 : Int32} {l2_6 : Int32} (hK143_35 : ∀  (M : gM), K143_35 M → w M 143 [] []) : ∀ (n : Nat) (l3_7 : Int32) (M : gM), fX7_findLots_L35 K143_35 l1_5 l2_6 Q n l3_7 M → w M 35 [(0, .ref (gA G 268)), (1, .int l1_5), (2, .int l2_6), (3, .int l3_7)] [] := by
  intro n
  induction n with
  | zero => intro l3_7 M h; exact h.elim
  | succ n ih => intro l3_7 M h; exact wX7_findLots_L35s hw hkf ih hK143_35 h
def fX7_findLots (p1 : Int32) (M : gM) (Q : gM → Prop) : Prop :=
  gk M 268 = 7 ∧ fX7_signOf (((gL M 268 26) * (gL M 268 29)) - ((gL M 268 28) * (gL M 268 27))) M (fun r3 M2 => gk M2 268 = 7 ∧ ∃ n, fX7_findLots_L35 (fun M41 => Q M41) p1 r3 Q n 0 (gsL (gsL M2 268 24 0) 268 25 0))
theorem mX7_findLots {kf : Nat} (hkf : 2 ≤ kf) (G : gG) (p1 : Int32) (M : gM) (Q : gM → Prop) (h : fX7_findLots p1 M Q) : gMet yX7_findLots cX7_findLots 7 (Option.none : Option FieldType) kf G M [.ref (gA G 268), .int p1] (gQv Q) gE0 := by
  refine g_intro (lv := [(0, .ref (gA G 268)), (1, .int p1)]) (by decide) rfl rfl (fun w hw => ?_)
  unfold fX7_findLots at h
  refine g_aload_n hw 0 dX7_findLots_0 rfl ?_
  obtain ⟨hk1, h⟩ := h
  refine gfX7_292 hw rfl dX7_findLots_1 hk1 ?_
  refine g_aload_n hw 0 dX7_findLots_4 rfl ?_
  refine gfX7_301 hw rfl dX7_findLots_5 hk1 ?_
  refine g_lmul hw dX7_findLots_8 ?_
  refine g_aload_n hw 0 dX7_findLots_9 rfl ?_
  refine gfX7_298 hw rfl dX7_findLots_10 hk1 ?_
  refine g_aload_n hw 0 dX7_findLots_13 rfl ?_
  refine gfX7_295 hw rfl dX7_findLots_14 hk1 ?_
  refine g_lmul hw dX7_findLots_17 ?_
  refine g_lsub hw dX7_findLots_18 ?_
  refine sX7_471 hw rfl dX7_findLots_19 rfl (gK2 hkf) h (fun r3 M2 h => ?_)
  refine g_istore_n hw (lv2 := [(0, .ref (gA G 268)), (1, .int p1), (2, .int r3)]) [1, 2, 0] dX7_findLots_22 rfl rfl ?_
  refine g_aload_n hw 0 dX7_findLots_23 rfl ?_
  refine g_lconst (v := 0) hw dX7_findLots_24 (by decide) ?_
  obtain ⟨hk4, h⟩ := h
  refine pfX7_281 hw rfl dX7_findLots_25 hk4 ?_
  refine g_aload_n hw 0 dX7_findLots_28 rfl ?_
  refine g_lconst (v := 0) hw dX7_findLots_29 (by decide) ?_
  refine pfX7_285 hw rfl dX7_findLots_30 hk4 ?_
  refine g_iconst (v := 0) hw dX7_findLots_33 (by decide) ?_
  refine g_istore_n hw (lv2 := [(0, .ref (gA G 268)), (1, .int p1), (2, .int r3), (3, .int 0)]) [1, 2, 3, 0] dX7_findLots_34 rfl rfl ?_
  obtain ⟨n9, h⟩ := h
  refine wX7_findLots_L35 hw hkf (fun M41 h => ?_) n9 0 (gsL (gsL M2 268 24 0) 268 25 0) h
  exact g_vret hw dX7_findLots_143 ⟨rfl, h⟩
theorem sX7_482 {y0 : MethodName} {cc : ByteArray} {nL : Nat} {ret : Option FieldType} {hh : List (Nat × Nat × Nat × Nat)} {kf : Nat} {G : gG} {Qv : Option Value → gM → Prop} {E : String → Nat → gM → Prop} {w : gM → Nat → List (Nat × Value) → List Value → Prop} {M : gM} {pc : Nat} {lv : List (Nat × Value)} {rest : List Value} (hw : gX y0 cc nL ret hh kf G Qv E w) (hy : y0.cls = RX7) {p1 : Int32} {p2 : Int32} {Q : Int32 → gM → Prop} (d : decode cc pc = .ok (.invokevirtual 482, 3)) (hrest : Nat.ble ((rest.map Value.category).sum) 8 = true) (hk : 5 + 1 ≤ kf) (hkd : gk M 268 = 7) (h : fX7_laysLots p1 p2 M Q) (kk : ∀ r M1, Q r M1 → w M1 (pc + 3) lv (.int r :: rest)) : w M pc lv (.int p2 :: .int p1 :: .ref (gA G 268) :: rest) := by
  obtain ⟨cls9, nm9, ds9⟩ := y0
  subst hy
  exact g_callV (r := (RX7, TX7, 58)) (ci := 6) hw [.int p1, .int p2] (nA := 2) rfl d q1707 q1709 qs92 q104 q1710 (by decide +kernel) rfl rfl hrest rfl (by omega : kf - 1 + 1 ≤ kf) hkd (mX7_laysLots (kf := kf - 1) (by omega) G p1 p2 M Q h) (fun _ _ _ q => q.elim) (fun v M1 h => by obtain ⟨r, rfl, h⟩ := h; exact kk r M1 h)
theorem sX7_485 {y0 : MethodName} {cc : ByteArray} {nL : Nat} {ret : Option FieldType} {hh : List (Nat × Nat × Nat × Nat)} {kf : Nat} {G : gG} {Qv : Option Value → gM → Prop} {E : String → Nat → gM → Prop} {w : gM → Nat → List (Nat × Value) → List Value → Prop} {M : gM} {pc : Nat} {lv : List (Nat × Value)} {rest : List Value} (hw : gX y0 cc nL ret hh kf G Qv E w) (hy : y0.cls = RX7) {p1 : Int32} {Q : gM → Prop} (d : decode cc pc = .ok (.invokevirtual 485, 3)) (hrest : Nat.ble ((rest.map Value.category).sum) 8 = true) (hk : 2 + 1 ≤ kf) (hkd : gk M 268 = 7) (h : fX7_findLots p1 M Q) (kk : ∀ M1, Q M1 → w M1 (pc + 3) lv rest) : w M pc lv (.int p1 :: .ref (gA G 268) :: rest) := by
  obtain ⟨cls9, nm9, ds9⟩ := y0
  subst hy
  exact g_callV (r := (RX7, TX7, 58)) (ci := 6) hw [.int p1] (nA := 1) rfl d q1712 q1714 qs93 q104 q1715 (by decide +kernel) rfl rfl hrest rfl (by omega : kf - 1 + 1 ≤ kf) hkd (mX7_findLots (kf := kf - 1) (by omega) G p1 M Q h) (fun _ _ _ q => q.elim) (fun v M1 h => by obtain ⟨rfl, h⟩ := h; exact kk M1 h)
def fX7_lots (p1 : Int32) (p2 : Int32) (p3 : Int32) (p4 : Int32) (M : gM) (Q : Int64 → gM → Prop) : Prop :=
  gk M 268 = 7 ∧ fX7_within p3 1 9 (gsI M 268 0 0) (fun r3 M2 => (if r3 = 0 then Q (-1) M2 else fX7_isWhat p4 M2 (fun r6 M5 => (if r6 = 0 then Q (-1) M5 else gk M5 268 = 7 ∧ fX7_laysLots p1 p2 M5 (fun r10 M9 => (if r10 = 0 then Q (-1) M9 else gk M9 268 = 7 ∧ (if 0 < (lg_cmp p3.toInt64 (gL M9 268 27)) then Q (-1) M9 else (if (lg_cmp p3.toInt64 (gL M9 268 29)) ≤ 0 then fX7_findLots p3 M9 (fun M15 => gk M15 268 = 7 ∧ fX7_lowest p4 M15 (fun r19 M18 => Q r19 M18)) else Q (-1) M9))))))))
theorem mX7_lots {kf : Nat} (hkf : 6 ≤ kf) (G : gG) (p1 : Int32) (p2 : Int32) (p3 : Int32) (p4 : Int32) (M : gM) (Q : Int64 → gM → Prop) (h : fX7_lots p1 p2 p3 p4 M Q) : gMet yX7_lots cX7_lots 5 (Option.some FieldType.long) kf G M [.ref (gA G 268), .int p1, .int p2, .int p3, .int p4] (gQl Q) gE0 := by
  refine g_intro (lv := [(0, .ref (gA G 268)), (1, .int p1), (2, .int p2), (3, .int p3), (4, .int p4)]) (by decide) rfl rfl (fun w hw => ?_)
  unfold fX7_lots at h
  refine g_aload_n hw 0 dX7_lots_0 rfl ?_
  refine g_iconst (v := 0) hw dX7_lots_1 (by decide) ?_
  obtain ⟨hk1, h⟩ := h
  refine pfX7_1 hw rfl dX7_lots_2 hk1 ?_
  refine g_iload_n hw 3 dX7_lots_5 rfl ?_
  refine g_iconst (v := 1) hw dX7_lots_6 (by decide) ?_
  refine g_bipush (v := 9) hw dX7_lots_7 (by decide) ?_
  refine sX7_253 hw rfl dX7_lots_9 rfl (gK2 hkf) h (fun r3 M2 h => ?_)
  refine g_if_eq (tgt := 52) hw dX7_lots_12 (by decide) (fun hb4 => ?_) (fun hb4 => ?_)
  · have h := gT h hb4
    refine g_ldc2 hw dX7_lots_52 q1460 ?_
    exact g_lret hw dX7_lots_55 ⟨_, rfl, h⟩
  · have h := gF h hb4
    refine g_iload hw 4 dX7_lots_15 rfl ?_
    refine sX7_315 hw rfl dX7_lots_17 rfl (gK2 hkf) h (fun r6 M5 h => ?_)
    refine g_if_eq (tgt := 52) hw dX7_lots_20 (by decide) (fun hb7 => ?_) (fun hb7 => ?_)
    · have h := gT h hb7
      refine g_ldc2 hw dX7_lots_52 q1460 ?_
      exact g_lret hw dX7_lots_55 ⟨_, rfl, h⟩
    · have h := gF h hb7
      refine g_aload_n hw 0 dX7_lots_23 rfl ?_
      refine g_iload_n hw 1 dX7_lots_24 rfl ?_
      refine g_iload_n hw 2 dX7_lots_25 rfl ?_
      obtain ⟨hk8, h⟩ := h
      refine sX7_482 hw rfl dX7_lots_26 rfl (gK2 hkf) hk8 h (fun r10 M9 h => ?_)
      refine g_if_eq (tgt := 52) hw dX7_lots_29 (by decide) (fun hb11 => ?_) (fun hb11 => ?_)
      · have h := gT h hb11
        refine g_ldc2 hw dX7_lots_52 q1460 ?_
        exact g_lret hw dX7_lots_55 ⟨_, rfl, h⟩
      · have h := gF h hb11
        refine g_iload_n hw 3 dX7_lots_32 rfl ?_
        refine g_i2l hw dX7_lots_33 ?_
        refine g_aload_n hw 0 dX7_lots_34 rfl ?_
        obtain ⟨hk12, h⟩ := h
        refine gfX7_295 hw rfl dX7_lots_35 hk12 ?_
        refine g_lcmp hw dX7_lots_38 ?_
        refine g_if_gt (tgt := 52) hw dX7_lots_39 (by decide) (fun hb13 => ?_) (fun hb13 => ?_)
        · have h := gT h hb13
          refine g_ldc2 hw dX7_lots_52 q1460 ?_
          exact g_lret hw dX7_lots_55 ⟨_, rfl, h⟩
        · have h := gF h hb13
          refine g_iload_n hw 3 dX7_lots_42 rfl ?_
          refine g_i2l hw dX7_lots_43 ?_
          refine g_aload_n hw 0 dX7_lots_44 rfl ?_
          refine gfX7_301 hw rfl dX7_lots_45 hk12 ?_
          refine g_lcmp hw dX7_lots_48 ?_
          refine g_if_le (tgt := 56) hw dX7_lots_49 (by decide) (fun hb14 => ?_) (fun hb14 => ?_)
          · have h := gT h hb14
            refine g_aload_n hw 0 dX7_lots_56 rfl ?_
            refine g_iload_n hw 3 dX7_lots_57 rfl ?_
            refine sX7_485 hw rfl dX7_lots_58 rfl (gK2 hkf) hk12 h (fun M15 h => ?_)
            refine g_aload_n hw 0 dX7_lots_61 rfl ?_
            refine g_iload hw 4 dX7_lots_62 rfl ?_
            obtain ⟨hk17, h⟩ := h
            refine sX7_321 hw rfl dX7_lots_64 rfl (gK2 hkf) hk17 h (fun r19 M18 h => ?_)
            exact g_lret hw dX7_lots_67 ⟨_, rfl, h⟩
          · have h := gF h hb14
            refine g_ldc2 hw dX7_lots_52 q1460 ?_
            exact g_lret hw dX7_lots_55 ⟨_, rfl, h⟩
def fX7_needed_L29s (R29 : Int32 → gM → Prop) (K76_29 : Int32 → gM → Prop) (K85_29 : gM → Prop) (l3_9 : Int32) (l4_10 : Int32) (M : gM) (Q : Int32 → gM → Prop) : Prop :=
  gk M 268 = 7 ∧ (if 0 < (lg_cmp l4_10.toInt64 (gL M 268 27)) then K85_29 M else (if 0 < (lg_cmp l4_10.toInt64 (gL M 268 29)) then K85_29 M else fX7_findLots l4_10 M (fun M14 => gk M14 268 = 7 ∧ (if (lg_cmp (100 * (gL M14 268 24)) (l3_9.toInt64 * (gL M14 268 25))) < 0 then R29 (l4_10 + 1) M14 else K76_29 l4_10 M14))))
def fX7_needed_L29 (K76_29 : Int32 → gM → Prop) (K85_29 : gM → Prop) (l3_9 : Int32) (Q : Int32 → gM → Prop) : Nat → Int32 → gM → Prop
  | 0 => fun _ _ => False
  | n + 1 => fun l4_10 M => fX7_needed_L29s (fX7_needed_L29 K76_29 K85_29 l3_9 Q n) K76_29 K85_29 l3_9 l4_10 M Q
theorem wX7_needed_L29s {kf : Nat} {G : gG} {w : gM → Nat → List (Nat × Value) → List Value → Prop} {Q : Int32 → gM → Prop} (hw : gX yX7_needed cX7_needed 5 (Option.some FieldType.int) [] kf G (gQi Q) gE0 w) (hkf : 6 ≤ kf) {R29 : Int32 → gM → Prop} {K76_29 : Int32 → gM → Prop} {K85_29 : gM → Prop} {l3_9 : Int32} {l4_10 : Int32} {M : gM} (hR29 : ∀ (v0 : Int32) (M : gM), R29 v0 M → w M 29 [(0, .ref (gA G 268)), (3, .int l3_9), (4, .int v0)] []) (hK76_29 : ∀ (v0 : Int32) (M : gM), K76_29 v0 M → w M 76 [(4, .int v0)] []) (hK85_29 : ∀  (M : gM), K85_29 M → w M 85 [] []) (h : fX7_needed_L29s R29 K76_29 K85_29 l3_9 l4_10 M Q) : w M 29 [(0, .ref (gA G 268)), (3, .int l3_9), (4, .int l4_10)] [] := by
  unfold fX7_needed_L29s at h
  refine g_iload hw 2 dX7_needed_29 rfl ?_
  refine g_i2l hw dX7_needed_31 ?_
  refine g_aload_n hw 0 dX7_needed_32 rfl ?_
  obtain ⟨hk11, h⟩ := h
  refine gfX7_295 hw rfl dX7_needed_33 hk11 ?_
  refine g_lcmp hw dX7_needed_36 ?_
  refine g_if_gt (tgt := 85) hw dX7_needed_37 (by decide) (fun hb12 => ?_) (fun hb12 => ?_)
  · have h := gT h hb12
    refine g_sub hw (lv2 := []) [] rfl ?_
    exact hK85_29 M h
  · have h := gF h hb12
    refine g_iload hw 2 dX7_needed_40 rfl ?_
    refine g_i2l hw dX7_needed_42 ?_
    refine g_aload_n hw 0 dX7_needed_43 rfl ?_
    refine gfX7_301 hw rfl dX7_needed_44 hk11 ?_
    refine g_lcmp hw dX7_needed_47 ?_
    refine g_if_gt (tgt := 85) hw dX7_needed_48 (by decide) (fun hb13 => ?_) (fun hb13 => ?_)
    · have h := gT h hb13
      refine g_sub hw (lv2 := []) [] rfl ?_
      exact hK85_29 M h
    · have h := gF h hb13
      refine g_aload_n hw 0 dX7_needed_51 rfl ?_
      refine g_iload hw 2 dX7_needed_52 rfl ?_
      refine sX7_485 hw rfl dX7_needed_54 rfl (gK2 hkf) hk11 h (fun M14 h => ?_)
      refine g_ldc2 hw dX7_needed_57 q1729 ?_
      refine g_aload_n hw 0 dX7_needed_60 rfl ?_
      obtain ⟨hk16, h⟩ := h
      refine gfX7_281 hw rfl dX7_needed_61 hk16 ?_
      refine g_lmul hw dX7_needed_64 ?_
      refine g_iload_n hw 1 dX7_needed_65 rfl ?_
      refine g_i2l hw dX7_needed_66 ?_
      refine g_aload_n hw 0 dX7_needed_67 rfl ?_
      refine gfX7_285 hw rfl dX7_needed_68 hk16 ?_
      refine g_lmul hw dX7_needed_71 ?_
      refine g_lcmp hw dX7_needed_72 ?_
      refine g_if_lt (tgt := 79) hw dX7_needed_73 (by decide) (fun hb17 => ?_) (fun hb17 => ?_)
      · have h := gT h hb17
        refine g_iinc hw (lv2 := [(0, .ref (gA G 268)), (3, .int l3_9), (4, .int (l4_10 + 1))]) 2 [1, 2, 0] dX7_needed_79 rfl (by decide) rfl rfl ?_
        refine g_goto (tgt := 29) hw dX7_needed_82 (by decide) ?_
        exact hR29 (l4_10 + 1) M14 h
      · have h := gF h hb17
        refine g_sub hw (lv2 := [(4, .int l4_10)]) [2] rfl ?_
        exact hK76_29 l4_10 M14 h
theorem wX7_needed_L29 {kf : Nat} {G : gG} {w : gM → Nat → List (Nat × Value) → List Value → Prop} {Q : Int32 → gM → Prop} (hw : gX yX7_needed cX7_needed 5 (Option.some FieldType.int) [] kf G (gQi Q) gE0 w) (hkf : 6 ≤ kf) {K76_29 : Int32 → gM → Prop} {K85_29 : gM → Prop} {l3_9 : Int32} (hK76_29 : ∀ (v0 : Int32) (M : gM), K76_29 v0 M → w M 76 [(4, .int v0)] []) (hK85_29 : ∀  (M : gM), K85_29 M → w M 85 [] []) : ∀ (n : Nat) (l4_10 : Int32) (M : gM), fX7_needed_L29 K76_29 K85_29 l3_9 Q n l4_10 M → w M 29 [(0, .ref (gA G 268)), (3, .int l3_9), (4, .int l4_10)] [] := by
  intro n
  induction n with
  | zero => intro l4_10 M h; exact h.elim
  | succ n ih => intro l4_10 M h; exact wX7_needed_L29s hw hkf ih hK76_29 hK85_29 h
def fX7_needed (p1 : Int32) (p2 : Int32) (p3 : Int32) (M : gM) (Q : Int32 → gM → Prop) : Prop :=
  gk M 268 = 7 ∧ fX7_within p3 1 100 (gsI M 268 0 0) (fun r3 M2 => (if r3 = 0 then Q (-1) M2 else gk M2 268 = 7 ∧ fX7_laysLots p1 p2 M2 (fun r7 M6 => (if r7 = 0 then Q (-1) M6 else ∃ n, fX7_needed_L29 (fun l4_18 M19 => Q l4_18 M19) (fun M20 => Q (-1) M20) p3 Q n 1 M6))))
theorem mX7_needed {kf : Nat} (hkf : 6 ≤ kf) (G : gG) (p1 : Int32) (p2 : Int32) (p3 : Int32) (M : gM) (Q : Int32 → gM → Prop) (h : fX7_needed p1 p2 p3 M Q) : gMet yX7_needed cX7_needed 5 (Option.some FieldType.int) kf G M [.ref (gA G 268), .int p1, .int p2, .int p3] (gQi Q) gE0 := by
  refine g_intro (lv := [(0, .ref (gA G 268)), (1, .int p1), (2, .int p2), (3, .int p3)]) (by decide) rfl rfl (fun w hw => ?_)
  unfold fX7_needed at h
  refine g_aload_n hw 0 dX7_needed_0 rfl ?_
  refine g_iconst (v := 0) hw dX7_needed_1 (by decide) ?_
  obtain ⟨hk1, h⟩ := h
  refine pfX7_1 hw rfl dX7_needed_2 hk1 ?_
  refine g_iload_n hw 3 dX7_needed_5 rfl ?_
  refine g_iconst (v := 1) hw dX7_needed_6 (by decide) ?_
  refine g_bipush (v := 100) hw dX7_needed_7 (by decide) ?_
  refine sX7_253 hw rfl dX7_needed_9 rfl (gK2 hkf) h (fun r3 M2 h => ?_)
  refine g_if_eq (tgt := 24) hw dX7_needed_12 (by decide) (fun hb4 => ?_) (fun hb4 => ?_)
  · have h := gT h hb4
    refine g_iconst (v := (-1)) hw dX7_needed_24 (by decide) ?_
    exact g_iret hw dX7_needed_25 rfl ⟨_, rfl, h⟩
  · have h := gF h hb4
    refine g_aload_n hw 0 dX7_needed_15 rfl ?_
    refine g_iload_n hw 1 dX7_needed_16 rfl ?_
    refine g_iload_n hw 2 dX7_needed_17 rfl ?_
    obtain ⟨hk5, h⟩ := h
    refine sX7_482 hw rfl dX7_needed_18 rfl (gK2 hkf) hk5 h (fun r7 M6 h => ?_)
    refine g_if_ne (tgt := 26) hw dX7_needed_21 (by decide) (fun hb8 => ?_) (fun hb8 => ?_)
    · have h := gF h hb8
      refine g_iconst (v := 1) hw dX7_needed_26 (by decide) ?_
      refine g_istore hw (lv2 := [(0, .ref (gA G 268)), (3, .int p3), (4, .int 1)]) [1, 4, 0] dX7_needed_27 rfl rfl ?_
      obtain ⟨n9, h⟩ := h
      refine wX7_needed_L29 hw hkf (fun l4_18 M19 h => ?_) (fun M20 h => ?_) n9 1 M6 h
      · refine g_iload hw 0 dX7_needed_76 rfl ?_
        exact g_iret hw dX7_needed_78 rfl ⟨_, rfl, h⟩
      · refine g_iconst (v := (-1)) hw dX7_needed_85 (by decide) ?_
        exact g_iret hw dX7_needed_86 rfl ⟨_, rfl, h⟩
    · have h := gT h hb8
      refine g_iconst (v := (-1)) hw dX7_needed_24 (by decide) ?_
      exact g_iret hw dX7_needed_25 rfl ⟨_, rfl, h⟩
def fX7_sheetHands (p1 : Int32) (M : gM) (Q : Int32 → gM → Prop) : Prop :=
  gk M 268 = 7 ∧ gdr (gR M 268 22) (fun a2 => gk M a2 = 40 ∧ vp_in p1 (gl M a2) ∧ gdr (gR M 268 23) (fun a6 => gk M a6 = 40 ∧ vp_in p1 (gl M a6) ∧ fX7_handsBy (gI M a2 p1.toNatClampNeg) (gI M a6 p1.toNatClampNeg) M (fun r11 M10 => Q r11 M10)))
theorem mX7_sheetHands {kf : Nat} (hkf : 2 ≤ kf) (G : gG) (p1 : Int32) (M : gM) (Q : Int32 → gM → Prop) (h : fX7_sheetHands p1 M Q) : gMet yX7_sheetHands cX7_sheetHands 2 (Option.some FieldType.int) kf G M [.ref (gA G 268), .int p1] (gQi Q) gE0 := by
  refine g_intro (lv := [(0, .ref (gA G 268)), (1, .int p1)]) (by decide) rfl rfl (fun w hw => ?_)
  unfold fX7_sheetHands at h
  refine g_aload_n hw 0 dX7_sheetHands_0 rfl ?_
  refine g_aload_n hw 0 dX7_sheetHands_1 rfl ?_
  obtain ⟨hk1, h⟩ := h
  obtain ⟨a2, e3, h⟩ := h
  refine gfX7_127 (q := some a2) hw rfl dX7_sheetHands_2 hk1 e3 ?_
  refine g_iload_n hw 1 dX7_sheetHands_5 rfl ?_
  obtain ⟨hk4, h⟩ := h
  obtain ⟨hi5, h⟩ := h
  refine g_iald (n := p1.toNatClampNeg) hw dX7_sheetHands_6 hk4 hi5 rfl ?_
  refine g_aload_n hw 0 dX7_sheetHands_7 rfl ?_
  obtain ⟨a6, e7, h⟩ := h
  refine gfX7_130 (q := some a6) hw rfl dX7_sheetHands_8 hk1 e7 ?_
  refine g_iload_n hw 1 dX7_sheetHands_11 rfl ?_
  obtain ⟨hk8, h⟩ := h
  obtain ⟨hi9, h⟩ := h
  refine g_iald (n := p1.toNatClampNeg) hw dX7_sheetHands_12 hk8 hi9 rfl ?_
  refine sX7_263 hw rfl dX7_sheetHands_13 rfl (gK2 hkf) hk1 h (fun r11 M10 h => ?_)
  exact g_iret hw dX7_sheetHands_16 rfl ⟨_, rfl, h⟩
theorem sX7_490 {y0 : MethodName} {cc : ByteArray} {nL : Nat} {ret : Option FieldType} {hh : List (Nat × Nat × Nat × Nat)} {kf : Nat} {G : gG} {Qv : Option Value → gM → Prop} {E : String → Nat → gM → Prop} {w : gM → Nat → List (Nat × Value) → List Value → Prop} {M : gM} {pc : Nat} {lv : List (Nat × Value)} {rest : List Value} (hw : gX y0 cc nL ret hh kf G Qv E w) (hy : y0.cls = RX7) {p1 : Int32} {Q : Int32 → gM → Prop} (d : decode cc pc = .ok (.invokevirtual 490, 3)) (hrest : Nat.ble ((rest.map Value.category).sum) 8 = true) (hk : 2 + 1 ≤ kf) (hkd : gk M 268 = 7) (h : fX7_sheetHands p1 M Q) (kk : ∀ r M1, Q r M1 → w M1 (pc + 3) lv (.int r :: rest)) : w M pc lv (.int p1 :: .ref (gA G 268) :: rest) := by
  obtain ⟨cls9, nm9, ds9⟩ := y0
  subst hy
  exact g_callV (r := (RX7, TX7, 58)) (ci := 6) hw [.int p1] (nA := 1) rfl d q1734 q1736 qs94 q104 q1737 (by decide +kernel) rfl rfl hrest rfl (by omega : kf - 1 + 1 ≤ kf) hkd (mX7_sheetHands (kf := kf - 1) (by omega) G p1 M Q h) (fun _ _ _ q => q.elim) (fun v M1 h => by obtain ⟨r, rfl, h⟩ := h; exact kk r M1 h)
def fX7_slips_b146 (R34 : Int32 → Int32 → Int32 → Int32 → gM → Prop) (l1_8 : Int32) (l2_9 : Int32) (l3_21 : Int32) (l4_22 : Int32) (l5_23 : Int32) (l6_24 : Int32) (M : gM) (Q : Int32 → gM → Prop) : Prop :=
  R34 l3_21 l4_22 l5_23 (l6_24 + 1) M
theorem wX7_slips_b146 {kf : Nat} {G : gG} {w : gM → Nat → List (Nat × Value) → List Value → Prop} {Q : Int32 → gM → Prop} (hw : gX yX7_slips cX7_slips 9 (Option.some FieldType.int) [] kf G (gQi Q) gE0 w) (hkf : 3 ≤ kf) {R34 : Int32 → Int32 → Int32 → Int32 → gM → Prop} {l1_8 : Int32} {l2_9 : Int32} {l3_21 : Int32} {l4_22 : Int32} {l5_23 : Int32} {l6_24 : Int32} {M : gM} (hR34 : ∀ (v0 : Int32) (v1 : Int32) (v2 : Int32) (v3 : Int32) (M : gM), R34 v0 v1 v2 v3 M → w M 34 [(0, .ref (gA G 268)), (1, .int l1_8), (2, .int l2_9), (3, .int v0), (4, .int v1), (5, .int v2), (6, .int v3)] []) (h : fX7_slips_b146 R34 l1_8 l2_9 l3_21 l4_22 l5_23 l6_24 M Q) : w M 146 [(0, .ref (gA G 268)), (1, .int l1_8), (2, .int l2_9), (3, .int l3_21), (4, .int l4_22), (5, .int l5_23), (6, .int l6_24)] [] := by
  unfold fX7_slips_b146 at h
  refine g_iinc hw (lv2 := [(0, .ref (gA G 268)), (1, .int l1_8), (2, .int l2_9), (3, .int l3_21), (4, .int l4_22), (5, .int l5_23), (6, .int (l6_24 + 1))]) 6 [1, 2, 3, 4, 5, 6, 0] dX7_slips_146 rfl (by decide) rfl rfl ?_
  refine g_goto (tgt := 34) hw dX7_slips_149 (by decide) ?_
  exact hR34 l3_21 l4_22 l5_23 (l6_24 + 1) M h
def fX7_slips_b144 (R34 : Int32 → Int32 → Int32 → Int32 → gM → Prop) (l1_8 : Int32) (l2_9 : Int32) (l3_54 : Int32) (l4_55 : Int32) (l6_56 : Int32) (s0_57 : Int32) (M : gM) (Q : Int32 → gM → Prop) : Prop :=
  fX7_slips_b146 R34 l1_8 l2_9 l3_54 l4_55 s0_57 l6_56 M Q
theorem wX7_slips_b144 {kf : Nat} {G : gG} {w : gM → Nat → List (Nat × Value) → List Value → Prop} {Q : Int32 → gM → Prop} (hw : gX yX7_slips cX7_slips 9 (Option.some FieldType.int) [] kf G (gQi Q) gE0 w) (hkf : 3 ≤ kf) {R34 : Int32 → Int32 → Int32 → Int32 → gM → Prop} {l1_8 : Int32} {l2_9 : Int32} {l3_54 : Int32} {l4_55 : Int32} {l6_56 : Int32} {s0_57 : Int32} {M : gM} (hR34 : ∀ (v0 : Int32) (v1 : Int32) (v2 : Int32) (v3 : Int32) (M : gM), R34 v0 v1 v2 v3 M → w M 34 [(0, .ref (gA G 268)), (1, .int l1_8), (2, .int l2_9), (3, .int v0), (4, .int v1), (5, .int v2), (6, .int v3)] []) (h : fX7_slips_b144 R34 l1_8 l2_9 l3_54 l4_55 l6_56 s0_57 M Q) : w M 144 [(0, .ref (gA G 268)), (1, .int l1_8), (2, .int l2_9), (3, .int l3_54), (4, .int l4_55), (6, .int l6_56)] [.int s0_57] := by
  unfold fX7_slips_b144 at h
  refine g_istore hw (lv2 := [(0, .ref (gA G 268)), (1, .int l1_8), (2, .int l2_9), (3, .int l3_54), (4, .int l4_55), (5, .int s0_57), (6, .int l6_56)]) [1, 2, 3, 4, 5, 0, 6] dX7_slips_144 rfl rfl ?_
  exact wX7_slips_b146 hw hkf hR34 h
def fX7_slips_b127 (R34 : Int32 → Int32 → Int32 → Int32 → gM → Prop) (l1_8 : Int32) (l2_9 : Int32) (l3_47 : Int32) (l5_48 : Int32) (l6_49 : Int32) (l8_50 : Int32) (s0_51 : Int32) (s1_52 : Int32) (M : gM) (Q : Int32 → gM → Prop) : Prop :=
  (if l8_50 ≤ l5_48 then fX7_slips_b144 R34 l1_8 l2_9 l3_47 (s0_51 + s1_52) l6_49 l5_48 M Q else fX7_slips_b144 R34 l1_8 l2_9 l3_47 (s0_51 + s1_52) l6_49 l8_50 M Q)
theorem wX7_slips_b127 {kf : Nat} {G : gG} {w : gM → Nat → List (Nat × Value) → List Value → Prop} {Q : Int32 → gM → Prop} (hw : gX yX7_slips cX7_slips 9 (Option.some FieldType.int) [] kf G (gQi Q) gE0 w) (hkf : 3 ≤ kf) {R34 : Int32 → Int32 → Int32 → Int32 → gM → Prop} {l1_8 : Int32} {l2_9 : Int32} {l3_47 : Int32} {l5_48 : Int32} {l6_49 : Int32} {l8_50 : Int32} {s0_51 : Int32} {s1_52 : Int32} {M : gM} (hR34 : ∀ (v0 : Int32) (v1 : Int32) (v2 : Int32) (v3 : Int32) (M : gM), R34 v0 v1 v2 v3 M → w M 34 [(0, .ref (gA G 268)), (1, .int l1_8), (2, .int l2_9), (3, .int v0), (4, .int v1), (5, .int v2), (6, .int v3)] []) (h : fX7_slips_b127 R34 l1_8 l2_9 l3_47 l5_48 l6_49 l8_50 s0_51 s1_52 M Q) : w M 127 [(0, .ref (gA G 268)), (1, .int l1_8), (2, .int l2_9), (3, .int l3_47), (5, .int l5_48), (6, .int l6_49), (8, .int l8_50)] [.int s1_52, .int s0_51] := by
  unfold fX7_slips_b127 at h
  refine g_iadd hw dX7_slips_127 ?_
  refine g_istore hw (lv2 := [(0, .ref (gA G 268)), (1, .int l1_8), (2, .int l2_9), (3, .int l3_47), (4, .int (s0_51 + s1_52)), (5, .int l5_48), (6, .int l6_49), (8, .int l8_50)]) [1, 2, 3, 4, 0, 5, 6, 7] dX7_slips_128 rfl rfl ?_
  refine g_iload hw 7 dX7_slips_130 rfl ?_
  refine g_iload hw 5 dX7_slips_132 rfl ?_
  refine g_icmp_le (tgt := 142) hw dX7_slips_134 (by decide) (fun hb53 => ?_) (fun hb53 => ?_)
  · have h := gT h hb53
    refine g_iload hw 5 dX7_slips_142 rfl ?_
    refine g_sub hw (lv2 := [(0, .ref (gA G 268)), (1, .int l1_8), (2, .int l2_9), (3, .int l3_47), (4, .int (s0_51 + s1_52)), (6, .int l6_49)]) [0, 1, 2, 3, 4, 6] rfl ?_
    exact wX7_slips_b144 hw hkf hR34 h
  · have h := gF h hb53
    refine g_iload hw 7 dX7_slips_137 rfl ?_
    refine g_goto (tgt := 144) hw dX7_slips_139 (by decide) ?_
    refine g_sub hw (lv2 := [(0, .ref (gA G 268)), (1, .int l1_8), (2, .int l2_9), (3, .int l3_47), (4, .int (s0_51 + s1_52)), (6, .int l6_49)]) [0, 1, 2, 3, 4, 6] rfl ?_
    exact wX7_slips_b144 hw hkf hR34 h
def fX7_slips_b110 (R34 : Int32 → Int32 → Int32 → Int32 → gM → Prop) (l1_8 : Int32) (l2_9 : Int32) (l3_41 : Int32) (l4_42 : Int32) (l5_43 : Int32) (l6_44 : Int32) (s0_45 : Int32) (M : gM) (Q : Int32 → gM → Prop) : Prop :=
  (if s0_45 ≤ 0 then fX7_slips_b127 R34 l1_8 l2_9 (l3_41 + 1) l5_43 l6_44 s0_45 l4_42 0 M Q else fX7_slips_b127 R34 l1_8 l2_9 (l3_41 + 1) l5_43 l6_44 s0_45 l4_42 1 M Q)
theorem wX7_slips_b110 {kf : Nat} {G : gG} {w : gM → Nat → List (Nat × Value) → List Value → Prop} {Q : Int32 → gM → Prop} (hw : gX yX7_slips cX7_slips 9 (Option.some FieldType.int) [] kf G (gQi Q) gE0 w) (hkf : 3 ≤ kf) {R34 : Int32 → Int32 → Int32 → Int32 → gM → Prop} {l1_8 : Int32} {l2_9 : Int32} {l3_41 : Int32} {l4_42 : Int32} {l5_43 : Int32} {l6_44 : Int32} {s0_45 : Int32} {M : gM} (hR34 : ∀ (v0 : Int32) (v1 : Int32) (v2 : Int32) (v3 : Int32) (M : gM), R34 v0 v1 v2 v3 M → w M 34 [(0, .ref (gA G 268)), (1, .int l1_8), (2, .int l2_9), (3, .int v0), (4, .int v1), (5, .int v2), (6, .int v3)] []) (h : fX7_slips_b110 R34 l1_8 l2_9 l3_41 l4_42 l5_43 l6_44 s0_45 M Q) : w M 110 [(0, .ref (gA G 268)), (1, .int l1_8), (2, .int l2_9), (3, .int l3_41), (4, .int l4_42), (5, .int l5_43), (6, .int l6_44)] [.int s0_45] := by
  unfold fX7_slips_b110 at h
  refine g_istore hw (lv2 := [(0, .ref (gA G 268)), (1, .int l1_8), (2, .int l2_9), (3, .int l3_41), (4, .int l4_42), (5, .int l5_43), (6, .int l6_44), (8, .int s0_45)]) [1, 2, 3, 4, 5, 6, 7, 0] dX7_slips_110 rfl rfl ?_
  refine g_iinc hw (lv2 := [(0, .ref (gA G 268)), (1, .int l1_8), (2, .int l2_9), (3, .int (l3_41 + 1)), (4, .int l4_42), (5, .int l5_43), (6, .int l6_44), (8, .int s0_45)]) 3 [1, 2, 3, 0, 4, 5, 6, 7] dX7_slips_112 rfl (by decide) rfl rfl ?_
  refine g_iload hw 4 dX7_slips_115 rfl ?_
  refine g_iload hw 7 dX7_slips_117 rfl ?_
  refine g_if_le (tgt := 126) hw dX7_slips_119 (by decide) (fun hb46 => ?_) (fun hb46 => ?_)
  · have h := gT h hb46
    refine g_iconst (v := 0) hw dX7_slips_126 (by decide) ?_
    refine g_sub hw (lv2 := [(0, .ref (gA G 268)), (1, .int l1_8), (2, .int l2_9), (3, .int (l3_41 + 1)), (5, .int l5_43), (6, .int l6_44), (8, .int s0_45)]) [0, 1, 2, 3, 5, 6, 7] rfl ?_
    exact wX7_slips_b127 hw hkf hR34 h
  · have h := gF h hb46
    refine g_iconst (v := 1) hw dX7_slips_122 (by decide) ?_
    refine g_goto (tgt := 127) hw dX7_slips_123 (by decide) ?_
    refine g_sub hw (lv2 := [(0, .ref (gA G 268)), (1, .int l1_8), (2, .int l2_9), (3, .int (l3_41 + 1)), (5, .int l5_43), (6, .int l6_44), (8, .int s0_45)]) [0, 1, 2, 3, 5, 6, 7] rfl ?_
    exact wX7_slips_b127 hw hkf hR34 h
def fX7_slips_L34s (R34 : Int32 → Int32 → Int32 → Int32 → gM → Prop) (K152_34 : Int32 → Int32 → Int32 → gM → Prop) (l1_8 : Int32) (l2_9 : Int32) (l3_10 : Int32) (l4_11 : Int32) (l5_12 : Int32) (l6_13 : Int32) (M : gM) (Q : Int32 → gM → Prop) : Prop :=
  (if 24 ≤ l6_13 then K152_34 l3_10 l4_11 l5_12 M else gk M 268 = 7 ∧ gdr (gR M 268 10) (fun a16 => gk M a16 = 43 ∧ vp_in l6_13 (gl M a16) ∧ (if (gI M a16 l6_13.toNatClampNeg) = 0 then fX7_slips_b146 R34 l1_8 l2_9 l3_10 l4_11 l5_12 l6_13 M Q else gdr (gR M 268 18) (fun a25 => gk M a25 = 40 ∧ vp_in ((12 * l6_13) + l1_8) (gl M a25) ∧ (if (gI M a25 (((12 * l6_13) + l1_8).toNatClampNeg)) = 0 then fX7_slips_b146 R34 l1_8 l2_9 l3_10 l4_11 l5_12 l6_13 M Q else gdr (gR M 268 21) (fun a30 => gk M a30 = 40 ∧ vp_in ((12 * l6_13) + l1_8) (gl M a30) ∧ (if (gI M a30 (((12 * l6_13) + l1_8).toNatClampNeg)) = 1 then fX7_handsOf l6_13 l1_8 M (fun r36 M35 => gk M35 268 = 7 ∧ fX7_sheetHands ((12 * l6_13) + l1_8) M35 (fun r39 M38 => (if 0 ≤ (r36 - r39) then fX7_slips_b110 R34 l1_8 l2_9 l3_10 l4_11 l5_12 l6_13 (r36 - r39) M38 Q else fX7_slips_b110 R34 l1_8 l2_9 l3_10 l4_11 l5_12 l6_13 (-(r36 - r39)) M38 Q))) else fX7_slips_b146 R34 l1_8 l2_9 l3_10 l4_11 l5_12 l6_13 M Q)))))))
def fX7_slips_L34 (K152_34 : Int32 → Int32 → Int32 → gM → Prop) (l1_8 : Int32) (l2_9 : Int32) (Q : Int32 → gM → Prop) : Nat → Int32 → Int32 → Int32 → Int32 → gM → Prop
  | 0 => fun _ _ _ _ _ => False
  | n + 1 => fun l3_10 l4_11 l5_12 l6_13 M => fX7_slips_L34s (fX7_slips_L34 K152_34 l1_8 l2_9 Q n) K152_34 l1_8 l2_9 l3_10 l4_11 l5_12 l6_13 M Q
theorem wX7_slips_L34s {kf : Nat} {G : gG} {w : gM → Nat → List (Nat × Value) → List Value → Prop} {Q : Int32 → gM → Prop} (hw : gX yX7_slips cX7_slips 9 (Option.some FieldType.int) [] kf G (gQi Q) gE0 w) (hkf : 3 ≤ kf) {R34 : Int32 → Int32 → Int32 → Int32 → gM → Prop} {K152_34 : Int32 → Int32 → Int32 → gM → Prop} {l1_8 : Int32} {l2_9 : Int32} {l3_10 : Int32} {l4_11 : Int32} {l5_12 : Int32} {l6_13 : Int32} {M : gM} (hR34 : ∀ (v0 : Int32) (v1 : Int32) (v2 : Int32) (v3 : Int32) (M : gM), R34 v0 v1 v2 v3 M → w M 34 [(0, .ref (gA G 268)), (1, .int l1_8), (2, .int l2_9), (3, .int v0), (4, .int v1), (5, .int v2), (6, .int v3)] []) (hK152_34 : ∀ (v0 : Int32) (v1 : Int32) (v2 : Int32) (M : gM), K152_34 v0 v1 v2 M → w M 152 [(2, .int l2_9), (3, .int v0), (4, .int v1), (5, .int v2)] []) (h : fX7_slips_L34s R34 K152_34 l1_8 l2_9 l3_10 l4_11 l5_12 l6_13 M Q) : w M 34 [(0, .ref (gA G 268)), (1, .int l1_8), (2, .int l2_9), (3, .int l3_10), (4, .int l4_11), (5, .int l5_12), (6, .int l6_13)] [] := by
  unfold fX7_slips_L34s at h
  refine g_iload hw 6 dX7_slips_34 rfl ?_
  refine g_bipush (v := 24) hw dX7_slips_36 (by decide) ?_
  refine g_icmp_ge (tgt := 152) hw dX7_slips_38 (by decide) (fun hb14 => ?_) (fun hb14 => ?_)
  · have h := gT h hb14
    refine g_sub hw (lv2 := [(2, .int l2_9), (3, .int l3_10), (4, .int l4_11), (5, .int l5_12)]) [2, 3, 4, 5] rfl ?_
    exact hK152_34 l3_10 l4_11 l5_12 M h
  · have h := gF h hb14
    refine g_bipush (v := 12) hw dX7_slips_41 (by decide) ?_
    refine g_iload hw 6 dX7_slips_43 rfl ?_
    refine g_imul hw dX7_slips_45 ?_
    refine g_iload_n hw 1 dX7_slips_46 rfl ?_
    refine g_iadd hw dX7_slips_47 ?_
    refine g_istore hw (lv2 := [(0, .ref (gA G 268)), (1, .int l1_8), (2, .int l2_9), (3, .int l3_10), (4, .int l4_11), (5, .int l5_12), (6, .int l6_13), (7, .int ((12 * l6_13) + l1_8))]) [1, 2, 3, 4, 5, 6, 7, 0] dX7_slips_48 rfl rfl ?_
    refine g_aload_n hw 0 dX7_slips_50 rfl ?_
    obtain ⟨hk15, h⟩ := h
    obtain ⟨a16, e17, h⟩ := h
    refine gfX7_93 (q := some a16) hw rfl dX7_slips_51 hk15 e17 ?_
    refine g_iload hw 6 dX7_slips_54 rfl ?_
    obtain ⟨hk18, h⟩ := h
    obtain ⟨hi19, h⟩ := h
    refine g_zald (n := l6_13.toNatClampNeg) hw dX7_slips_56 hk18 hi19 rfl ?_
    refine g_if_eq (tgt := 146) hw dX7_slips_57 (by decide) (fun hb20 => ?_) (fun hb20 => ?_)
    · have h := gT h hb20
      refine g_sub hw (lv2 := [(0, .ref (gA G 268)), (1, .int l1_8), (2, .int l2_9), (3, .int l3_10), (4, .int l4_11), (5, .int l5_12), (6, .int l6_13)]) [0, 1, 2, 3, 4, 5, 6] rfl ?_
      exact wX7_slips_b146 hw hkf hR34 h
    · have h := gF h hb20
      refine g_aload_n hw 0 dX7_slips_60 rfl ?_
      obtain ⟨a25, e26, h⟩ := h
      refine gfX7_115 (q := some a25) hw rfl dX7_slips_61 hk15 e26 ?_
      refine g_iload hw 7 dX7_slips_64 rfl ?_
      obtain ⟨hk27, h⟩ := h
      obtain ⟨hi28, h⟩ := h
      refine g_iald (n := ((12 * l6_13) + l1_8).toNatClampNeg) hw dX7_slips_66 hk27 hi28 rfl ?_
      refine g_if_eq (tgt := 146) hw dX7_slips_67 (by decide) (fun hb29 => ?_) (fun hb29 => ?_)
      · have h := gT h hb29
        refine g_sub hw (lv2 := [(0, .ref (gA G 268)), (1, .int l1_8), (2, .int l2_9), (3, .int l3_10), (4, .int l4_11), (5, .int l5_12), (6, .int l6_13)]) [0, 1, 2, 3, 4, 5, 6] rfl ?_
        exact wX7_slips_b146 hw hkf hR34 h
      · have h := gF h hb29
        refine g_aload_n hw 0 dX7_slips_70 rfl ?_
        obtain ⟨a30, e31, h⟩ := h
        refine gfX7_124 (q := some a30) hw rfl dX7_slips_71 hk15 e31 ?_
        refine g_iload hw 7 dX7_slips_74 rfl ?_
        obtain ⟨hk32, h⟩ := h
        obtain ⟨hi33, h⟩ := h
        refine g_iald (n := ((12 * l6_13) + l1_8).toNatClampNeg) hw dX7_slips_76 hk32 hi33 rfl ?_
        refine g_iconst (v := 1) hw dX7_slips_77 (by decide) ?_
        refine g_icmp_ne (tgt := 146) hw dX7_slips_78 (by decide) (fun hb34 => ?_) (fun hb34 => ?_)
        · have h := gF h hb34
          refine g_sub hw (lv2 := [(0, .ref (gA G 268)), (1, .int l1_8), (2, .int l2_9), (3, .int l3_10), (4, .int l4_11), (5, .int l5_12), (6, .int l6_13)]) [0, 1, 2, 3, 4, 5, 6] rfl ?_
          exact wX7_slips_b146 hw hkf hR34 h
        · have h := gT h hb34
          refine g_aload_n hw 0 dX7_slips_81 rfl ?_
          refine g_iload hw 6 dX7_slips_82 rfl ?_
          refine g_iload_n hw 1 dX7_slips_84 rfl ?_
          refine sX7_267 hw rfl dX7_slips_85 rfl (gK2 hkf) hk15 h (fun r36 M35 h => ?_)
          refine g_aload_n hw 0 dX7_slips_88 rfl ?_
          refine g_iload hw 7 dX7_slips_89 rfl ?_
          obtain ⟨hk37, h⟩ := h
          refine sX7_490 hw rfl dX7_slips_91 rfl (gK2 hkf) hk37 h (fun r39 M38 h => ?_)
          refine g_isub hw dX7_slips_94 ?_
          refine g_istore hw (lv2 := [(0, .ref (gA G 268)), (1, .int l1_8), (2, .int l2_9), (3, .int l3_10), (4, .int l4_11), (5, .int l5_12), (6, .int l6_13), (8, .int (r36 - r39))]) [1, 2, 3, 4, 5, 6, 7, 0] dX7_slips_95 rfl rfl ?_
          refine g_iload hw 7 dX7_slips_97 rfl ?_
          refine g_if_ge (tgt := 108) hw dX7_slips_99 (by decide) (fun hb40 => ?_) (fun hb40 => ?_)
          · have h := gT h hb40
            refine g_iload hw 7 dX7_slips_108 rfl ?_
            refine g_sub hw (lv2 := [(0, .ref (gA G 268)), (1, .int l1_8), (2, .int l2_9), (3, .int l3_10), (4, .int l4_11), (5, .int l5_12), (6, .int l6_13)]) [0, 1, 2, 3, 4, 5, 6] rfl ?_
            exact wX7_slips_b110 hw hkf hR34 h
          · have h := gF h hb40
            refine g_iload hw 7 dX7_slips_102 rfl ?_
            refine g_ineg hw dX7_slips_104 ?_
            refine g_goto (tgt := 110) hw dX7_slips_105 (by decide) ?_
            refine g_sub hw (lv2 := [(0, .ref (gA G 268)), (1, .int l1_8), (2, .int l2_9), (3, .int l3_10), (4, .int l4_11), (5, .int l5_12), (6, .int l6_13)]) [0, 1, 2, 3, 4, 5, 6] rfl ?_
            exact wX7_slips_b110 hw hkf hR34 h
theorem wX7_slips_L34 {kf : Nat} {G : gG} {w : gM → Nat → List (Nat × Value) → List Value → Prop} {Q : Int32 → gM → Prop} (hw : gX yX7_slips cX7_slips 9 (Option.some FieldType.int) [] kf G (gQi Q) gE0 w) (hkf : 3 ≤ kf) {K152_34 : Int32 → Int32 → Int32 → gM → Prop} {l1_8 : Int32} {l2_9 : Int32} (hK152_34 : ∀ (v0 : Int32) (v1 : Int32) (v2 : Int32) (M : gM), K152_34 v0 v1 v2 M → w M 152 [(2, .int l2_9), (3, .int v0), (4, .int v1), (5, .int v2)] []) : ∀ (n : Nat) (l3_10 : Int32) (l4_11 : Int32) (l5_12 : Int32) (l6_13 : Int32) (M : gM), fX7_slips_L34 K152_34 l1_8 l2_9 Q n l3_10 l4_11 l5_12 l6_13 M → w M 34 [(0, .ref (gA G 268)), (1, .int l1_8), (2, .int l2_9), (3, .int l3_10), (4, .int l4_11), (5, .int l5_12), (6, .int l6_13)] [] := by
  intro n
  induction n with
  | zero => intro l3_10 l4_11 l5_12 l6_13 M h; exact h.elim
  | succ n ih => intro l3_10 l4_11 l5_12 l6_13 M h; exact wX7_slips_L34s hw hkf ih hK152_34 h
def fX7_slips (p1 : Int32) (p2 : Int32) (M : gM) (Q : Int32 → gM → Prop) : Prop :=
  gk M 268 = 7 ∧ fX7_isMonth p1 (gsI M 268 0 0) (fun r3 M2 => (if r3 = 0 then Q (-1) M2 else fX7_within p2 0 2 M2 (fun r6 M5 => (if r6 = 0 then Q (-1) M5 else ∃ n, fX7_slips_L34 (fun l3_58 l4_59 l5_60 M61 => (if p2 = 0 then Q l3_58 M61 else (if p2 = 1 then Q l4_59 M61 else Q l5_60 M61))) p1 p2 Q n 0 0 0 0 M5))))
theorem mX7_slips {kf : Nat} (hkf : 3 ≤ kf) (G : gG) (p1 : Int32) (p2 : Int32) (M : gM) (Q : Int32 → gM → Prop) (h : fX7_slips p1 p2 M Q) : gMet yX7_slips cX7_slips 9 (Option.some FieldType.int) kf G M [.ref (gA G 268), .int p1, .int p2] (gQi Q) gE0 := by
  refine g_intro (lv := [(0, .ref (gA G 268)), (1, .int p1), (2, .int p2)]) (by decide) rfl rfl (fun w hw => ?_)
  unfold fX7_slips at h
  refine g_aload_n hw 0 dX7_slips_0 rfl ?_
  refine g_iconst (v := 0) hw dX7_slips_1 (by decide) ?_
  obtain ⟨hk1, h⟩ := h
  refine pfX7_1 hw rfl dX7_slips_2 hk1 ?_
  refine g_iload_n hw 1 dX7_slips_5 rfl ?_
  refine sX7_260 hw rfl dX7_slips_6 rfl (gK2 hkf) h (fun r3 M2 h => ?_)
  refine g_if_eq (tgt := 21) hw dX7_slips_9 (by decide) (fun hb4 => ?_) (fun hb4 => ?_)
  · have h := gT h hb4
    refine g_iconst (v := (-1)) hw dX7_slips_21 (by decide) ?_
    exact g_iret hw dX7_slips_22 rfl ⟨_, rfl, h⟩
  · have h := gF h hb4
    refine g_iload_n hw 2 dX7_slips_12 rfl ?_
    refine g_iconst (v := 0) hw dX7_slips_13 (by decide) ?_
    refine g_iconst (v := 2) hw dX7_slips_14 (by decide) ?_
    refine sX7_253 hw rfl dX7_slips_15 rfl (gK2 hkf) h (fun r6 M5 h => ?_)
    refine g_if_ne (tgt := 23) hw dX7_slips_18 (by decide) (fun hb7 => ?_) (fun hb7 => ?_)
    · have h := gF h hb7
      refine g_iconst (v := 0) hw dX7_slips_23 (by decide) ?_
      refine g_istore_n hw (lv2 := [(0, .ref (gA G 268)), (1, .int p1), (2, .int p2), (3, .int 0)]) [1, 2, 3, 0] dX7_slips_24 rfl rfl ?_
      refine g_iconst (v := 0) hw dX7_slips_25 (by decide) ?_
      refine g_istore hw (lv2 := [(0, .ref (gA G 268)), (1, .int p1), (2, .int p2), (3, .int 0), (4, .int 0)]) [1, 2, 3, 4, 0] dX7_slips_26 rfl rfl ?_
      refine g_iconst (v := 0) hw dX7_slips_28 (by decide) ?_
      refine g_istore hw (lv2 := [(0, .ref (gA G 268)), (1, .int p1), (2, .int p2), (3, .int 0), (4, .int 0), (5, .int 0)]) [1, 2, 3, 4, 5, 0] dX7_slips_29 rfl rfl ?_
      refine g_iconst (v := 0) hw dX7_slips_31 (by decide) ?_
      refine g_istore hw (lv2 := [(0, .ref (gA G 268)), (1, .int p1), (2, .int p2), (3, .int 0), (4, .int 0), (5, .int 0), (6, .int 0)]) [1, 2, 3, 4, 5, 6, 0] dX7_slips_32 rfl rfl ?_
      obtain ⟨n9, h⟩ := h
      refine wX7_slips_L34 hw hkf (fun l3_58 l4_59 l5_60 M61 h => ?_) n9 0 0 0 0 M5 h
      refine g_iload_n hw 0 dX7_slips_152 rfl ?_
      refine g_if_ne (tgt := 160) hw dX7_slips_153 (by decide) (fun hb62 => ?_) (fun hb62 => ?_)
      · have h := gF h hb62
        refine g_iload_n hw 0 dX7_slips_160 rfl ?_
        refine g_iconst (v := 1) hw dX7_slips_161 (by decide) ?_
        refine g_icmp_ne (tgt := 170) hw dX7_slips_162 (by decide) (fun hb63 => ?_) (fun hb63 => ?_)
        · have h := gF h hb63
          refine g_iload hw 3 dX7_slips_170 rfl ?_
          exact g_iret hw dX7_slips_172 rfl ⟨_, rfl, h⟩
        · have h := gT h hb63
          refine g_iload hw 2 dX7_slips_165 rfl ?_
          refine g_goto (tgt := 172) hw dX7_slips_167 (by decide) ?_
          exact g_iret hw dX7_slips_172 rfl ⟨_, rfl, h⟩
      · have h := gT h hb62
        refine g_iload_n hw 1 dX7_slips_156 rfl ?_
        refine g_goto (tgt := 172) hw dX7_slips_157 (by decide) ?_
        exact g_iret hw dX7_slips_172 rfl ⟨_, rfl, h⟩
    · have h := gT h hb7
      refine g_iconst (v := (-1)) hw dX7_slips_21 (by decide) ?_
      exact g_iret hw dX7_slips_22 rfl ⟨_, rfl, h⟩
def fX7_mixed_b210 (R42 : Int32 → gM → Prop) (l1_15 : Int32) (l2_16 : Int32) (l3_17 : Int32) (l4_24 : Int32) (M : gM) (Q : Int64 → gM → Prop) : Prop :=
  R42 (l4_24 + 1) M
theorem wX7_mixed_b210 {kf : Nat} {G : gG} {w : gM → Nat → List (Nat × Value) → List Value → Prop} {Q : Int64 → gM → Prop} (hw : gX yX7_mixed cX7_mixed 10 (Option.some FieldType.long) [] kf G (gQl Q) gE0 w) (hkf : 4 ≤ kf) {R42 : Int32 → gM → Prop} {l1_15 : Int32} {l2_16 : Int32} {l3_17 : Int32} {l4_24 : Int32} {M : gM} (hR42 : ∀ (v0 : Int32) (M : gM), R42 v0 M → w M 42 [(0, .ref (gA G 268)), (1, .int l1_15), (2, .int l2_16), (3, .int l3_17), (4, .int v0)] []) (h : fX7_mixed_b210 R42 l1_15 l2_16 l3_17 l4_24 M Q) : w M 210 [(0, .ref (gA G 268)), (1, .int l1_15), (2, .int l2_16), (3, .int l3_17), (4, .int l4_24)] [] := by
  unfold fX7_mixed_b210 at h
  refine g_iinc hw (lv2 := [(0, .ref (gA G 268)), (1, .int l1_15), (2, .int l2_16), (3, .int l3_17), (4, .int (l4_24 + 1))]) 4 [1, 2, 3, 4, 0] dX7_mixed_210 rfl (by decide) rfl rfl ?_
  refine g_goto (tgt := 42) hw dX7_mixed_213 (by decide) ?_
  exact hR42 (l4_24 + 1) M h
def fX7_mixed_b207 (R42 : Int32 → gM → Prop) (l1_15 : Int32) (l2_16 : Int32) (l3_17 : Int32) (l4_79 : Int32) (s1_80 : Int32) (s2_81 : Int64) (M : gM) (Q : Int64 → gM → Prop) : Prop :=
  gk M 268 = 7 ∧ fX7_adds s1_80 s2_81 M (fun M83 => fX7_mixed_b210 R42 l1_15 l2_16 l3_17 l4_79 M83 Q)
theorem wX7_mixed_b207 {kf : Nat} {G : gG} {w : gM → Nat → List (Nat × Value) → List Value → Prop} {Q : Int64 → gM → Prop} (hw : gX yX7_mixed cX7_mixed 10 (Option.some FieldType.long) [] kf G (gQl Q) gE0 w) (hkf : 4 ≤ kf) {R42 : Int32 → gM → Prop} {l1_15 : Int32} {l2_16 : Int32} {l3_17 : Int32} {l4_79 : Int32} {s1_80 : Int32} {s2_81 : Int64} {M : gM} (hR42 : ∀ (v0 : Int32) (M : gM), R42 v0 M → w M 42 [(0, .ref (gA G 268)), (1, .int l1_15), (2, .int l2_16), (3, .int l3_17), (4, .int v0)] []) (h : fX7_mixed_b207 R42 l1_15 l2_16 l3_17 l4_79 s1_80 s2_81 M Q) : w M 207 [(0, .ref (gA G 268)), (1, .int l1_15), (2, .int l2_16), (3, .int l3_17), (4, .int l4_79)] [.long s2_81, .int s1_80, .ref (gA G 268)] := by
  unfold fX7_mixed_b207 at h
  obtain ⟨hk82, h⟩ := h
  refine sX7_307 hw rfl dX7_mixed_207 rfl (gK2 hkf) hk82 h (fun M83 h => ?_)
  exact wX7_mixed_b210 hw hkf hR42 h
def fX7_mixed_b195 (R42 : Int32 → gM → Prop) (l1_15 : Int32) (l2_16 : Int32) (l3_17 : Int32) (l4_72 : Int32) (l7_73 : Int32) (l8_74 : Int32) (s1_75 : Int32) (s2_76 : Int32) (s3_77 : Int32) (M : gM) (Q : Int64 → gM → Prop) : Prop :=
  (if s2_76 = s3_77 then fX7_mixed_b207 R42 l1_15 l2_16 l3_17 l4_72 s1_75 l7_73.toInt64 M Q else fX7_mixed_b207 R42 l1_15 l2_16 l3_17 l4_72 s1_75 l8_74.toInt64 M Q)
theorem wX7_mixed_b195 {kf : Nat} {G : gG} {w : gM → Nat → List (Nat × Value) → List Value → Prop} {Q : Int64 → gM → Prop} (hw : gX yX7_mixed cX7_mixed 10 (Option.some FieldType.long) [] kf G (gQl Q) gE0 w) (hkf : 4 ≤ kf) {R42 : Int32 → gM → Prop} {l1_15 : Int32} {l2_16 : Int32} {l3_17 : Int32} {l4_72 : Int32} {l7_73 : Int32} {l8_74 : Int32} {s1_75 : Int32} {s2_76 : Int32} {s3_77 : Int32} {M : gM} (hR42 : ∀ (v0 : Int32) (M : gM), R42 v0 M → w M 42 [(0, .ref (gA G 268)), (1, .int l1_15), (2, .int l2_16), (3, .int l3_17), (4, .int v0)] []) (h : fX7_mixed_b195 R42 l1_15 l2_16 l3_17 l4_72 l7_73 l8_74 s1_75 s2_76 s3_77 M Q) : w M 195 [(0, .ref (gA G 268)), (1, .int l1_15), (2, .int l2_16), (3, .int l3_17), (4, .int l4_72), (7, .int l7_73), (8, .int l8_74)] [.int s3_77, .int s2_76, .int s1_75, .ref (gA G 268)] := by
  unfold fX7_mixed_b195 at h
  refine g_icmp_ne (tgt := 204) hw dX7_mixed_195 (by decide) (fun hb78 => ?_) (fun hb78 => ?_)
  · have h := gF h hb78
    refine g_iload hw 6 dX7_mixed_204 rfl ?_
    refine g_i2l hw dX7_mixed_206 ?_
    refine g_sub hw (lv2 := [(0, .ref (gA G 268)), (1, .int l1_15), (2, .int l2_16), (3, .int l3_17), (4, .int l4_72)]) [0, 1, 2, 3, 4] rfl ?_
    exact wX7_mixed_b207 hw hkf hR42 h
  · have h := gT h hb78
    refine g_iload hw 5 dX7_mixed_198 rfl ?_
    refine g_i2l hw dX7_mixed_200 ?_
    refine g_goto (tgt := 207) hw dX7_mixed_201 (by decide) ?_
    refine g_sub hw (lv2 := [(0, .ref (gA G 268)), (1, .int l1_15), (2, .int l2_16), (3, .int l3_17), (4, .int l4_72)]) [0, 1, 2, 3, 4] rfl ?_
    exact wX7_mixed_b207 hw hkf hR42 h
def fX7_mixed_b181 (R42 : Int32 → gM → Prop) (l1_15 : Int32) (l2_16 : Int32) (l3_17 : Int32) (l4_66 : Int32) (l7_67 : Int32) (l8_68 : Int32) (l9_69 : Int32) (s1_70 : Int32) (M : gM) (Q : Int64 → gM → Prop) : Prop :=
  (if l8_68 ≤ l7_67 then fX7_mixed_b195 R42 l1_15 l2_16 l3_17 l4_66 l7_67 l8_68 s1_70 l9_69 0 M Q else fX7_mixed_b195 R42 l1_15 l2_16 l3_17 l4_66 l7_67 l8_68 s1_70 l9_69 1 M Q)
theorem wX7_mixed_b181 {kf : Nat} {G : gG} {w : gM → Nat → List (Nat × Value) → List Value → Prop} {Q : Int64 → gM → Prop} (hw : gX yX7_mixed cX7_mixed 10 (Option.some FieldType.long) [] kf G (gQl Q) gE0 w) (hkf : 4 ≤ kf) {R42 : Int32 → gM → Prop} {l1_15 : Int32} {l2_16 : Int32} {l3_17 : Int32} {l4_66 : Int32} {l7_67 : Int32} {l8_68 : Int32} {l9_69 : Int32} {s1_70 : Int32} {M : gM} (hR42 : ∀ (v0 : Int32) (M : gM), R42 v0 M → w M 42 [(0, .ref (gA G 268)), (1, .int l1_15), (2, .int l2_16), (3, .int l3_17), (4, .int v0)] []) (h : fX7_mixed_b181 R42 l1_15 l2_16 l3_17 l4_66 l7_67 l8_68 l9_69 s1_70 M Q) : w M 181 [(0, .ref (gA G 268)), (1, .int l1_15), (2, .int l2_16), (3, .int l3_17), (4, .int l4_66), (7, .int l7_67), (8, .int l8_68), (9, .int l9_69)] [.int s1_70, .ref (gA G 268)] := by
  unfold fX7_mixed_b181 at h
  refine g_iload hw 7 dX7_mixed_181 rfl ?_
  refine g_iload hw 5 dX7_mixed_183 rfl ?_
  refine g_iload hw 6 dX7_mixed_185 rfl ?_
  refine g_icmp_ge (tgt := 194) hw dX7_mixed_187 (by decide) (fun hb71 => ?_) (fun hb71 => ?_)
  · have h := gT h hb71
    refine g_iconst (v := 0) hw dX7_mixed_194 (by decide) ?_
    refine g_sub hw (lv2 := [(0, .ref (gA G 268)), (1, .int l1_15), (2, .int l2_16), (3, .int l3_17), (4, .int l4_66), (7, .int l7_67), (8, .int l8_68)]) [0, 1, 2, 3, 4, 5, 6] rfl ?_
    exact wX7_mixed_b195 hw hkf hR42 h
  · have h := gF h hb71
    refine g_iconst (v := 1) hw dX7_mixed_190 (by decide) ?_
    refine g_goto (tgt := 195) hw dX7_mixed_191 (by decide) ?_
    refine g_sub hw (lv2 := [(0, .ref (gA G 268)), (1, .int l1_15), (2, .int l2_16), (3, .int l3_17), (4, .int l4_66), (7, .int l7_67), (8, .int l8_68)]) [0, 1, 2, 3, 4, 5, 6] rfl ?_
    exact wX7_mixed_b195 hw hkf hR42 h
def fX7_mixed_b163 (R42 : Int32 → gM → Prop) (l1_15 : Int32) (l2_16 : Int32) (l3_17 : Int32) (l4_56 : Int32) (l7_57 : Int32) (l8_58 : Int32) (s0_59 : Int32) (M : gM) (Q : Int64 → gM → Prop) : Prop :=
  gk M 268 = 7 ∧ gdr (gR M 268 11) (fun a61 => gk M a61 = 40 ∧ vp_in l4_56 (gl M a61) ∧ (if (gI M a61 l4_56.toNatClampNeg) = 0 then fX7_mixed_b181 R42 l1_15 l2_16 l3_17 l4_56 l7_57 l8_58 s0_59 1 M Q else fX7_mixed_b181 R42 l1_15 l2_16 l3_17 l4_56 l7_57 l8_58 s0_59 0 M Q))
theorem wX7_mixed_b163 {kf : Nat} {G : gG} {w : gM → Nat → List (Nat × Value) → List Value → Prop} {Q : Int64 → gM → Prop} (hw : gX yX7_mixed cX7_mixed 10 (Option.some FieldType.long) [] kf G (gQl Q) gE0 w) (hkf : 4 ≤ kf) {R42 : Int32 → gM → Prop} {l1_15 : Int32} {l2_16 : Int32} {l3_17 : Int32} {l4_56 : Int32} {l7_57 : Int32} {l8_58 : Int32} {s0_59 : Int32} {M : gM} (hR42 : ∀ (v0 : Int32) (M : gM), R42 v0 M → w M 42 [(0, .ref (gA G 268)), (1, .int l1_15), (2, .int l2_16), (3, .int l3_17), (4, .int v0)] []) (h : fX7_mixed_b163 R42 l1_15 l2_16 l3_17 l4_56 l7_57 l8_58 s0_59 M Q) : w M 163 [(0, .ref (gA G 268)), (1, .int l1_15), (2, .int l2_16), (3, .int l3_17), (4, .int l4_56), (7, .int l7_57), (8, .int l8_58)] [.int s0_59] := by
  unfold fX7_mixed_b163 at h
  refine g_istore hw (lv2 := [(0, .ref (gA G 268)), (1, .int l1_15), (2, .int l2_16), (3, .int l3_17), (4, .int l4_56), (7, .int l7_57), (8, .int l8_58), (9, .int s0_59)]) [1, 2, 3, 4, 5, 6, 7, 0] dX7_mixed_163 rfl rfl ?_
  refine g_aload_n hw 0 dX7_mixed_165 rfl ?_
  refine g_aload_n hw 0 dX7_mixed_166 rfl ?_
  obtain ⟨hk60, h⟩ := h
  obtain ⟨a61, e62, h⟩ := h
  refine gfX7_97 (q := some a61) hw rfl dX7_mixed_167 hk60 e62 ?_
  refine g_iload hw 4 dX7_mixed_170 rfl ?_
  obtain ⟨hk63, h⟩ := h
  obtain ⟨hi64, h⟩ := h
  refine g_iald (n := l4_56.toNatClampNeg) hw dX7_mixed_172 hk63 hi64 rfl ?_
  refine g_if_ne (tgt := 180) hw dX7_mixed_173 (by decide) (fun hb65 => ?_) (fun hb65 => ?_)
  · have h := gF h hb65
    refine g_iconst (v := 0) hw dX7_mixed_180 (by decide) ?_
    exact wX7_mixed_b181 hw hkf hR42 h
  · have h := gT h hb65
    refine g_iconst (v := 1) hw dX7_mixed_176 (by decide) ?_
    refine g_goto (tgt := 181) hw dX7_mixed_177 (by decide) ?_
    exact wX7_mixed_b181 hw hkf hR42 h
def fX7_mixed_b155 (R42 : Int32 → gM → Prop) (l1_15 : Int32) (l2_16 : Int32) (l3_17 : Int32) (l4_50 : Int32) (l7_51 : Int32) (l8_52 : Int32) (s0_53 : Int32) (s1_54 : Int32) (M : gM) (Q : Int64 → gM → Prop) : Prop :=
  (if s0_53 = s1_54 then fX7_mixed_b163 R42 l1_15 l2_16 l3_17 l4_50 l7_51 l8_52 1 M Q else fX7_mixed_b163 R42 l1_15 l2_16 l3_17 l4_50 l7_51 l8_52 0 M Q)
theorem wX7_mixed_b155 {kf : Nat} {G : gG} {w : gM → Nat → List (Nat × Value) → List Value → Prop} {Q : Int64 → gM → Prop} (hw : gX yX7_mixed cX7_mixed 10 (Option.some FieldType.long) [] kf G (gQl Q) gE0 w) (hkf : 4 ≤ kf) {R42 : Int32 → gM → Prop} {l1_15 : Int32} {l2_16 : Int32} {l3_17 : Int32} {l4_50 : Int32} {l7_51 : Int32} {l8_52 : Int32} {s0_53 : Int32} {s1_54 : Int32} {M : gM} (hR42 : ∀ (v0 : Int32) (M : gM), R42 v0 M → w M 42 [(0, .ref (gA G 268)), (1, .int l1_15), (2, .int l2_16), (3, .int l3_17), (4, .int v0)] []) (h : fX7_mixed_b155 R42 l1_15 l2_16 l3_17 l4_50 l7_51 l8_52 s0_53 s1_54 M Q) : w M 155 [(0, .ref (gA G 268)), (1, .int l1_15), (2, .int l2_16), (3, .int l3_17), (4, .int l4_50), (7, .int l7_51), (8, .int l8_52)] [.int s1_54, .int s0_53] := by
  unfold fX7_mixed_b155 at h
  refine g_icmp_ne (tgt := 162) hw dX7_mixed_155 (by decide) (fun hb55 => ?_) (fun hb55 => ?_)
  · have h := gF h hb55
    refine g_iconst (v := 0) hw dX7_mixed_162 (by decide) ?_
    exact wX7_mixed_b163 hw hkf hR42 h
  · have h := gT h hb55
    refine g_iconst (v := 1) hw dX7_mixed_158 (by decide) ?_
    refine g_goto (tgt := 163) hw dX7_mixed_159 (by decide) ?_
    exact wX7_mixed_b163 hw hkf hR42 h
def fX7_mixed_b140 (R42 : Int32 → gM → Prop) (l1_15 : Int32) (l2_16 : Int32) (l3_17 : Int32) (l4_40 : Int32) (l7_41 : Int32) (l8_42 : Int32) (s0_43 : Int32) (M : gM) (Q : Int64 → gM → Prop) : Prop :=
  gk M 268 = 7 ∧ gdr (gR M 268 11) (fun a45 => gk M a45 = 40 ∧ vp_in l4_40 (gl M a45) ∧ (if (gI M a45 l4_40.toNatClampNeg) = 0 then fX7_mixed_b155 R42 l1_15 l2_16 l3_17 l4_40 l7_41 l8_42 s0_43 1 M Q else fX7_mixed_b155 R42 l1_15 l2_16 l3_17 l4_40 l7_41 l8_42 s0_43 0 M Q))
theorem wX7_mixed_b140 {kf : Nat} {G : gG} {w : gM → Nat → List (Nat × Value) → List Value → Prop} {Q : Int64 → gM → Prop} (hw : gX yX7_mixed cX7_mixed 10 (Option.some FieldType.long) [] kf G (gQl Q) gE0 w) (hkf : 4 ≤ kf) {R42 : Int32 → gM → Prop} {l1_15 : Int32} {l2_16 : Int32} {l3_17 : Int32} {l4_40 : Int32} {l7_41 : Int32} {l8_42 : Int32} {s0_43 : Int32} {M : gM} (hR42 : ∀ (v0 : Int32) (M : gM), R42 v0 M → w M 42 [(0, .ref (gA G 268)), (1, .int l1_15), (2, .int l2_16), (3, .int l3_17), (4, .int v0)] []) (h : fX7_mixed_b140 R42 l1_15 l2_16 l3_17 l4_40 l7_41 l8_42 s0_43 M Q) : w M 140 [(0, .ref (gA G 268)), (1, .int l1_15), (2, .int l2_16), (3, .int l3_17), (4, .int l4_40), (7, .int l7_41), (8, .int l8_42)] [.int s0_43] := by
  unfold fX7_mixed_b140 at h
  refine g_aload_n hw 0 dX7_mixed_140 rfl ?_
  obtain ⟨hk44, h⟩ := h
  obtain ⟨a45, e46, h⟩ := h
  refine gfX7_97 (q := some a45) hw rfl dX7_mixed_141 hk44 e46 ?_
  refine g_iload hw 4 dX7_mixed_144 rfl ?_
  obtain ⟨hk47, h⟩ := h
  obtain ⟨hi48, h⟩ := h
  refine g_iald (n := l4_40.toNatClampNeg) hw dX7_mixed_146 hk47 hi48 rfl ?_
  refine g_if_ne (tgt := 154) hw dX7_mixed_147 (by decide) (fun hb49 => ?_) (fun hb49 => ?_)
  · have h := gF h hb49
    refine g_iconst (v := 0) hw dX7_mixed_154 (by decide) ?_
    exact wX7_mixed_b155 hw hkf hR42 h
  · have h := gT h hb49
    refine g_iconst (v := 1) hw dX7_mixed_150 (by decide) ?_
    refine g_goto (tgt := 155) hw dX7_mixed_151 (by decide) ?_
    exact wX7_mixed_b155 hw hkf hR42 h
def fX7_mixed_b128 (R42 : Int32 → gM → Prop) (l1_15 : Int32) (l2_16 : Int32) (l3_17 : Int32) (l4_36 : Int32) (l7_37 : Int32) (s0_38 : Int32) (M : gM) (Q : Int64 → gM → Prop) : Prop :=
  (if 2 ≤ l3_17 then fX7_mixed_b140 R42 l1_15 l2_16 l3_17 l4_36 l7_37 s0_38 0 M Q else fX7_mixed_b140 R42 l1_15 l2_16 l3_17 l4_36 l7_37 s0_38 1 M Q)
theorem wX7_mixed_b128 {kf : Nat} {G : gG} {w : gM → Nat → List (Nat × Value) → List Value → Prop} {Q : Int64 → gM → Prop} (hw : gX yX7_mixed cX7_mixed 10 (Option.some FieldType.long) [] kf G (gQl Q) gE0 w) (hkf : 4 ≤ kf) {R42 : Int32 → gM → Prop} {l1_15 : Int32} {l2_16 : Int32} {l3_17 : Int32} {l4_36 : Int32} {l7_37 : Int32} {s0_38 : Int32} {M : gM} (hR42 : ∀ (v0 : Int32) (M : gM), R42 v0 M → w M 42 [(0, .ref (gA G 268)), (1, .int l1_15), (2, .int l2_16), (3, .int l3_17), (4, .int v0)] []) (h : fX7_mixed_b128 R42 l1_15 l2_16 l3_17 l4_36 l7_37 s0_38 M Q) : w M 128 [(0, .ref (gA G 268)), (1, .int l1_15), (2, .int l2_16), (3, .int l3_17), (4, .int l4_36), (7, .int l7_37)] [.int s0_38] := by
  unfold fX7_mixed_b128 at h
  refine g_istore hw (lv2 := [(0, .ref (gA G 268)), (1, .int l1_15), (2, .int l2_16), (3, .int l3_17), (4, .int l4_36), (7, .int l7_37), (8, .int s0_38)]) [1, 2, 3, 4, 5, 6, 0] dX7_mixed_128 rfl rfl ?_
  refine g_iload_n hw 3 dX7_mixed_130 rfl ?_
  refine g_iconst (v := 2) hw dX7_mixed_131 (by decide) ?_
  refine g_icmp_ge (tgt := 139) hw dX7_mixed_132 (by decide) (fun hb39 => ?_) (fun hb39 => ?_)
  · have h := gT h hb39
    refine g_iconst (v := 0) hw dX7_mixed_139 (by decide) ?_
    exact wX7_mixed_b140 hw hkf hR42 h
  · have h := gF h hb39
    refine g_iconst (v := 1) hw dX7_mixed_135 (by decide) ?_
    refine g_goto (tgt := 140) hw dX7_mixed_136 (by decide) ?_
    exact wX7_mixed_b140 hw hkf hR42 h
def fX7_mixed_b126 (R42 : Int32 → gM → Prop) (l1_15 : Int32) (l2_16 : Int32) (l3_17 : Int32) (l4_34 : Int32) (l7_35 : Int32) (M : gM) (Q : Int64 → gM → Prop) : Prop :=
  fX7_mixed_b128 R42 l1_15 l2_16 l3_17 l4_34 l7_35 l7_35 M Q
theorem wX7_mixed_b126 {kf : Nat} {G : gG} {w : gM → Nat → List (Nat × Value) → List Value → Prop} {Q : Int64 → gM → Prop} (hw : gX yX7_mixed cX7_mixed 10 (Option.some FieldType.long) [] kf G (gQl Q) gE0 w) (hkf : 4 ≤ kf) {R42 : Int32 → gM → Prop} {l1_15 : Int32} {l2_16 : Int32} {l3_17 : Int32} {l4_34 : Int32} {l7_35 : Int32} {M : gM} (hR42 : ∀ (v0 : Int32) (M : gM), R42 v0 M → w M 42 [(0, .ref (gA G 268)), (1, .int l1_15), (2, .int l2_16), (3, .int l3_17), (4, .int v0)] []) (h : fX7_mixed_b126 R42 l1_15 l2_16 l3_17 l4_34 l7_35 M Q) : w M 126 [(0, .ref (gA G 268)), (1, .int l1_15), (2, .int l2_16), (3, .int l3_17), (4, .int l4_34), (7, .int l7_35)] [] := by
  unfold fX7_mixed_b126 at h
  refine g_iload hw 5 dX7_mixed_126 rfl ?_
  exact wX7_mixed_b128 hw hkf hR42 h
def fX7_mixed_L42s (R42 : Int32 → gM → Prop) (K216_42 : gM → Prop) (l1_15 : Int32) (l2_16 : Int32) (l3_17 : Int32) (l4_18 : Int32) (M : gM) (Q : Int64 → gM → Prop) : Prop :=
  (if 24 ≤ l4_18 then K216_42 M else gk M 268 = 7 ∧ fX7_isCounted l4_18 l1_15 l2_16 M (fun r22 M21 => (if r22 = 0 then fX7_mixed_b210 R42 l1_15 l2_16 l3_17 l4_18 M21 Q else gk M21 268 = 7 ∧ fX7_changeOf l4_18 l1_15 l2_16 M21 (fun r27 M26 => gk M26 268 = 7 ∧ gdr (gR M26 268 21) (fun a29 => gk M26 a29 = 40 ∧ vp_in ((12 * l4_18) + l1_15) (gl M26 a29) ∧ (if (gI M26 a29 (((12 * l4_18) + l1_15).toNatClampNeg)) = 1 then gdr (gR M26 268 21) (fun a85 => gk M26 a85 = 40 ∧ vp_in ((12 * l4_18) + l2_16) (gl M26 a85) ∧ (if (gI M26 a85 (((12 * l4_18) + l2_16).toNatClampNeg)) = 1 then fX7_sheetHands ((12 * l4_18) + l2_16) M26 (fun r91 M90 => gk M90 268 = 7 ∧ fX7_sheetHands ((12 * l4_18) + l1_15) M90 (fun r94 M93 => fX7_mixed_b128 R42 l1_15 l2_16 l3_17 l4_18 r27 (r91 - r94) M93 Q)) else fX7_mixed_b126 R42 l1_15 l2_16 l3_17 l4_18 r27 M26 Q)) else fX7_mixed_b126 R42 l1_15 l2_16 l3_17 l4_18 r27 M26 Q))))))
def fX7_mixed_L42 (K216_42 : gM → Prop) (l1_15 : Int32) (l2_16 : Int32) (l3_17 : Int32) (Q : Int64 → gM → Prop) : Nat → Int32 → gM → Prop
  | 0 => fun _ _ => False
  | n + 1 => fun l4_18 M => fX7_mixed_L42s (fX7_mixed_L42 K216_42 l1_15 l2_16 l3_17 Q n) K216_42 l1_15 l2_16 l3_17 l4_18 M Q
theorem wX7_mixed_L42s {kf : Nat} {G : gG} {w : gM → Nat → List (Nat × Value) → List Value → Prop} {Q : Int64 → gM → Prop} (hw : gX yX7_mixed cX7_mixed 10 (Option.some FieldType.long) [] kf G (gQl Q) gE0 w) (hkf : 4 ≤ kf) {R42 : Int32 → gM → Prop} {K216_42 : gM → Prop} {l1_15 : Int32} {l2_16 : Int32} {l3_17 : Int32} {l4_18 : Int32} {M : gM} (hR42 : ∀ (v0 : Int32) (M : gM), R42 v0 M → w M 42 [(0, .ref (gA G 268)), (1, .int l1_15), (2, .int l2_16), (3, .int l3_17), (4, .int v0)] []) (hK216_42 : ∀  (M : gM), K216_42 M → w M 216 [(0, .ref (gA G 268)), (3, .int l3_17)] []) (h : fX7_mixed_L42s R42 K216_42 l1_15 l2_16 l3_17 l4_18 M Q) : w M 42 [(0, .ref (gA G 268)), (1, .int l1_15), (2, .int l2_16), (3, .int l3_17), (4, .int l4_18)] [] := by
  unfold fX7_mixed_L42s at h
  refine g_iload hw 4 dX7_mixed_42 rfl ?_
  refine g_bipush (v := 24) hw dX7_mixed_44 (by decide) ?_
  refine g_icmp_ge (tgt := 216) hw dX7_mixed_46 (by decide) (fun hb19 => ?_) (fun hb19 => ?_)
  · have h := gT h hb19
    refine g_sub hw (lv2 := [(0, .ref (gA G 268)), (3, .int l3_17)]) [0, 3] rfl ?_
    exact hK216_42 M h
  · have h := gF h hb19
    refine g_aload_n hw 0 dX7_mixed_49 rfl ?_
    refine g_iload hw 4 dX7_mixed_50 rfl ?_
    refine g_iload_n hw 1 dX7_mixed_52 rfl ?_
    refine g_iload_n hw 2 dX7_mixed_53 rfl ?_
    obtain ⟨hk20, h⟩ := h
    refine sX7_274 hw rfl dX7_mixed_54 rfl (gK2 hkf) hk20 h (fun r22 M21 h => ?_)
    refine g_if_eq (tgt := 210) hw dX7_mixed_57 (by decide) (fun hb23 => ?_) (fun hb23 => ?_)
    · have h := gT h hb23
      exact wX7_mixed_b210 hw hkf hR42 h
    · have h := gF h hb23
      refine g_bipush (v := 12) hw dX7_mixed_60 (by decide) ?_
      refine g_iload hw 4 dX7_mixed_62 rfl ?_
      refine g_imul hw dX7_mixed_64 ?_
      refine g_iload_n hw 1 dX7_mixed_65 rfl ?_
      refine g_iadd hw dX7_mixed_66 ?_
      refine g_istore hw (lv2 := [(0, .ref (gA G 268)), (1, .int l1_15), (2, .int l2_16), (3, .int l3_17), (4, .int l4_18), (5, .int ((12 * l4_18) + l1_15))]) [1, 2, 3, 4, 5, 0] dX7_mixed_67 rfl rfl ?_
      refine g_bipush (v := 12) hw dX7_mixed_69 (by decide) ?_
      refine g_iload hw 4 dX7_mixed_71 rfl ?_
      refine g_imul hw dX7_mixed_73 ?_
      refine g_iload_n hw 2 dX7_mixed_74 rfl ?_
      refine g_iadd hw dX7_mixed_75 ?_
      refine g_istore hw (lv2 := [(0, .ref (gA G 268)), (1, .int l1_15), (2, .int l2_16), (3, .int l3_17), (4, .int l4_18), (5, .int ((12 * l4_18) + l1_15)), (6, .int ((12 * l4_18) + l2_16))]) [1, 2, 3, 4, 5, 6, 0] dX7_mixed_76 rfl rfl ?_
      refine g_aload_n hw 0 dX7_mixed_78 rfl ?_
      refine g_iload hw 4 dX7_mixed_79 rfl ?_
      refine g_iload_n hw 1 dX7_mixed_81 rfl ?_
      refine g_iload_n hw 2 dX7_mixed_82 rfl ?_
      obtain ⟨hk25, h⟩ := h
      refine sX7_277 hw rfl dX7_mixed_83 rfl (gK2 hkf) hk25 h (fun r27 M26 h => ?_)
      refine g_istore hw (lv2 := [(0, .ref (gA G 268)), (1, .int l1_15), (2, .int l2_16), (3, .int l3_17), (4, .int l4_18), (5, .int ((12 * l4_18) + l1_15)), (6, .int ((12 * l4_18) + l2_16)), (7, .int r27)]) [1, 2, 3, 4, 5, 6, 7, 0] dX7_mixed_86 rfl rfl ?_
      refine g_aload_n hw 0 dX7_mixed_88 rfl ?_
      obtain ⟨hk28, h⟩ := h
      obtain ⟨a29, e30, h⟩ := h
      refine gfX7_124 (q := some a29) hw rfl dX7_mixed_89 hk28 e30 ?_
      refine g_iload hw 5 dX7_mixed_92 rfl ?_
      obtain ⟨hk31, h⟩ := h
      obtain ⟨hi32, h⟩ := h
      refine g_iald (n := ((12 * l4_18) + l1_15).toNatClampNeg) hw dX7_mixed_94 hk31 hi32 rfl ?_
      refine g_iconst (v := 1) hw dX7_mixed_95 (by decide) ?_
      refine g_icmp_ne (tgt := 126) hw dX7_mixed_96 (by decide) (fun hb33 => ?_) (fun hb33 => ?_)
      · have h := gF h hb33
        refine g_sub hw (lv2 := [(0, .ref (gA G 268)), (1, .int l1_15), (2, .int l2_16), (3, .int l3_17), (4, .int l4_18), (7, .int r27)]) [0, 1, 2, 3, 4, 7] rfl ?_
        exact wX7_mixed_b126 hw hkf hR42 h
      · have h := gT h hb33
        refine g_aload_n hw 0 dX7_mixed_99 rfl ?_
        obtain ⟨a85, e86, h⟩ := h
        refine gfX7_124 (q := some a85) hw rfl dX7_mixed_100 hk28 e86 ?_
        refine g_iload hw 6 dX7_mixed_103 rfl ?_
        obtain ⟨hk87, h⟩ := h
        obtain ⟨hi88, h⟩ := h
        refine g_iald (n := ((12 * l4_18) + l2_16).toNatClampNeg) hw dX7_mixed_105 hk87 hi88 rfl ?_
        refine g_iconst (v := 1) hw dX7_mixed_106 (by decide) ?_
        refine g_icmp_ne (tgt := 126) hw dX7_mixed_107 (by decide) (fun hb89 => ?_) (fun hb89 => ?_)
        · have h := gF h hb89
          refine g_sub hw (lv2 := [(0, .ref (gA G 268)), (1, .int l1_15), (2, .int l2_16), (3, .int l3_17), (4, .int l4_18), (7, .int r27)]) [0, 1, 2, 3, 4, 7] rfl ?_
          exact wX7_mixed_b126 hw hkf hR42 h
        · have h := gT h hb89
          refine g_aload_n hw 0 dX7_mixed_110 rfl ?_
          refine g_iload hw 6 dX7_mixed_111 rfl ?_
          refine sX7_490 hw rfl dX7_mixed_113 rfl (gK2 hkf) hk28 h (fun r91 M90 h => ?_)
          refine g_aload_n hw 0 dX7_mixed_116 rfl ?_
          refine g_iload hw 5 dX7_mixed_117 rfl ?_
          obtain ⟨hk92, h⟩ := h
          refine sX7_490 hw rfl dX7_mixed_119 rfl (gK2 hkf) hk92 h (fun r94 M93 h => ?_)
          refine g_isub hw dX7_mixed_122 ?_
          refine g_goto (tgt := 128) hw dX7_mixed_123 (by decide) ?_
          refine g_sub hw (lv2 := [(0, .ref (gA G 268)), (1, .int l1_15), (2, .int l2_16), (3, .int l3_17), (4, .int l4_18), (7, .int r27)]) [0, 1, 2, 3, 4, 7] rfl ?_
          exact wX7_mixed_b128 hw hkf hR42 h
theorem wX7_mixed_L42 {kf : Nat} {G : gG} {w : gM → Nat → List (Nat × Value) → List Value → Prop} {Q : Int64 → gM → Prop} (hw : gX yX7_mixed cX7_mixed 10 (Option.some FieldType.long) [] kf G (gQl Q) gE0 w) (hkf : 4 ≤ kf) {K216_42 : gM → Prop} {l1_15 : Int32} {l2_16 : Int32} {l3_17 : Int32} (hK216_42 : ∀  (M : gM), K216_42 M → w M 216 [(0, .ref (gA G 268)), (3, .int l3_17)] []) : ∀ (n : Nat) (l4_18 : Int32) (M : gM), fX7_mixed_L42 K216_42 l1_15 l2_16 l3_17 Q n l4_18 M → w M 42 [(0, .ref (gA G 268)), (1, .int l1_15), (2, .int l2_16), (3, .int l3_17), (4, .int l4_18)] [] := by
  intro n
  induction n with
  | zero => intro l4_18 M h; exact h.elim
  | succ n ih => intro l4_18 M h; exact wX7_mixed_L42s hw hkf ih hK216_42 h
def fX7_mixed_b229 (l3_100 : Int32) (s1_101 : Int32) (M : gM) (Q : Int64 → gM → Prop) : Prop :=
  gk M 268 = 7 ∧ (if (gI (gsI M 268 0 s1_101) 268 0) ≤ 0 then fX7_lowest (l3_100 - l3_100 / 2 * 2) (gsI M 268 0 s1_101) (fun r105 M104 => Q r105 M104) else Q 0 (gsI M 268 0 s1_101))
theorem wX7_mixed_b229 {kf : Nat} {G : gG} {w : gM → Nat → List (Nat × Value) → List Value → Prop} {Q : Int64 → gM → Prop} (hw : gX yX7_mixed cX7_mixed 10 (Option.some FieldType.long) [] kf G (gQl Q) gE0 w) (hkf : 4 ≤ kf)  {l3_100 : Int32} {s1_101 : Int32} {M : gM}  (h : fX7_mixed_b229 l3_100 s1_101 M Q) : w M 229 [(0, .ref (gA G 268)), (3, .int l3_100)] [.int s1_101, .ref (gA G 268)] := by
  unfold fX7_mixed_b229 at h
  obtain ⟨hk102, h⟩ := h
  refine pfX7_1 hw rfl dX7_mixed_229 hk102 ?_
  refine g_aload_n hw 0 dX7_mixed_232 rfl ?_
  refine gfX7_1 hw rfl dX7_mixed_233 hk102 ?_
  refine g_if_le (tgt := 243) hw dX7_mixed_236 (by decide) (fun hb103 => ?_) (fun hb103 => ?_)
  · have h := gT h hb103
    refine g_aload_n hw 0 dX7_mixed_243 rfl ?_
    refine g_iload_n hw 1 dX7_mixed_244 rfl ?_
    refine g_iconst (v := 2) hw dX7_mixed_245 (by decide) ?_
    refine g_irem hw dX7_mixed_246 (by decide) ?_
    refine sX7_321 hw rfl dX7_mixed_247 rfl (gK2 hkf) hk102 h (fun r105 M104 h => ?_)
    exact g_lret hw dX7_mixed_250 ⟨_, rfl, h⟩
  · have h := gF h hb103
    refine g_lconst (v := 0) hw dX7_mixed_239 (by decide) ?_
    refine g_goto (tgt := 250) hw dX7_mixed_240 (by decide) ?_
    exact g_lret hw dX7_mixed_250 ⟨_, rfl, h⟩
def fX7_mixed_b23 (l1_7 : Int32) (l2_8 : Int32) (l3_9 : Int32) (s1_10 : Int32) (M : gM) (Q : Int64 → gM → Prop) : Prop :=
  gk M 268 = 7 ∧ (if (gI (gsI M 268 0 s1_10) 268 0) ≤ 0 then fX7_beginsSums (gsI M 268 0 s1_10) (fun M13 => ∃ n, fX7_mixed_L42 (fun M95 => gk M95 268 = 7 ∧ fX7_differs M95 (fun r98 M97 => (if r98 = 0 then fX7_mixed_b229 l3_9 1 M97 Q else fX7_mixed_b229 l3_9 0 M97 Q))) l1_7 l2_8 l3_9 Q n 0 M13) else Q 0 (gsI M 268 0 s1_10))
theorem wX7_mixed_b23 {kf : Nat} {G : gG} {w : gM → Nat → List (Nat × Value) → List Value → Prop} {Q : Int64 → gM → Prop} (hw : gX yX7_mixed cX7_mixed 10 (Option.some FieldType.long) [] kf G (gQl Q) gE0 w) (hkf : 4 ≤ kf)  {l1_7 : Int32} {l2_8 : Int32} {l3_9 : Int32} {s1_10 : Int32} {M : gM}  (h : fX7_mixed_b23 l1_7 l2_8 l3_9 s1_10 M Q) : w M 23 [(0, .ref (gA G 268)), (1, .int l1_7), (2, .int l2_8), (3, .int l3_9)] [.int s1_10, .ref (gA G 268)] := by
  unfold fX7_mixed_b23 at h
  obtain ⟨hk11, h⟩ := h
  refine pfX7_1 hw rfl dX7_mixed_23 hk11 ?_
  refine g_aload_n hw 0 dX7_mixed_26 rfl ?_
  refine gfX7_1 hw rfl dX7_mixed_27 hk11 ?_
  refine g_if_le (tgt := 35) hw dX7_mixed_30 (by decide) (fun hb12 => ?_) (fun hb12 => ?_)
  · have h := gT h hb12
    refine g_aload_n hw 0 dX7_mixed_35 rfl ?_
    refine sX7_304 hw rfl dX7_mixed_36 rfl (gK2 hkf) hk11 h (fun M13 h => ?_)
    refine g_iconst (v := 0) hw dX7_mixed_39 (by decide) ?_
    refine g_istore hw (lv2 := [(0, .ref (gA G 268)), (1, .int l1_7), (2, .int l2_8), (3, .int l3_9), (4, .int 0)]) [1, 2, 3, 4, 0] dX7_mixed_40 rfl rfl ?_
    obtain ⟨n9, h⟩ := h
    refine wX7_mixed_L42 hw hkf (fun M95 h => ?_) n9 0 M13 h
    refine g_aload_n hw 0 dX7_mixed_216 rfl ?_
    refine g_aload_n hw 0 dX7_mixed_217 rfl ?_
    obtain ⟨hk96, h⟩ := h
    refine sX7_311 hw rfl dX7_mixed_218 rfl (gK2 hkf) hk96 h (fun r98 M97 h => ?_)
    refine g_if_eq (tgt := 228) hw dX7_mixed_221 (by decide) (fun hb99 => ?_) (fun hb99 => ?_)
    · have h := gT h hb99
      refine g_iconst (v := 1) hw dX7_mixed_228 (by decide) ?_
      exact wX7_mixed_b229 hw hkf h
    · have h := gF h hb99
      refine g_iconst (v := 0) hw dX7_mixed_224 (by decide) ?_
      refine g_goto (tgt := 229) hw dX7_mixed_225 (by decide) ?_
      exact wX7_mixed_b229 hw hkf h
  · have h := gF h hb12
    refine g_lconst (v := 0) hw dX7_mixed_33 (by decide) ?_
    exact g_lret hw dX7_mixed_34 ⟨_, rfl, h⟩
def fX7_mixed_b22 (l1_4 : Int32) (l2_5 : Int32) (l3_6 : Int32) (M : gM) (Q : Int64 → gM → Prop) : Prop :=
  fX7_mixed_b23 l1_4 l2_5 l3_6 1 M Q
theorem wX7_mixed_b22 {kf : Nat} {G : gG} {w : gM → Nat → List (Nat × Value) → List Value → Prop} {Q : Int64 → gM → Prop} (hw : gX yX7_mixed cX7_mixed 10 (Option.some FieldType.long) [] kf G (gQl Q) gE0 w) (hkf : 4 ≤ kf)  {l1_4 : Int32} {l2_5 : Int32} {l3_6 : Int32} {M : gM}  (h : fX7_mixed_b22 l1_4 l2_5 l3_6 M Q) : w M 22 [(0, .ref (gA G 268)), (1, .int l1_4), (2, .int l2_5), (3, .int l3_6)] [.ref (gA G 268)] := by
  unfold fX7_mixed_b22 at h
  refine g_iconst (v := 1) hw dX7_mixed_22 (by decide) ?_
  exact wX7_mixed_b23 hw hkf h
def fX7_mixed (p1 : Int32) (p2 : Int32) (p3 : Int32) (M : gM) (Q : Int64 → gM → Prop) : Prop :=
  fX7_areMonths p1 p2 M (fun r2 M1 => (if r2 = 0 then fX7_mixed_b22 p1 p2 p3 M1 Q else fX7_within p3 0 3 M1 (fun r107 M106 => (if r107 = 0 then fX7_mixed_b22 p1 p2 p3 M106 Q else fX7_mixed_b23 p1 p2 p3 0 M106 Q))))
theorem mX7_mixed {kf : Nat} (hkf : 4 ≤ kf) (G : gG) (p1 : Int32) (p2 : Int32) (p3 : Int32) (M : gM) (Q : Int64 → gM → Prop) (h : fX7_mixed p1 p2 p3 M Q) : gMet yX7_mixed cX7_mixed 10 (Option.some FieldType.long) kf G M [.ref (gA G 268), .int p1, .int p2, .int p3] (gQl Q) gE0 := by
  refine g_intro (lv := [(0, .ref (gA G 268)), (1, .int p1), (2, .int p2), (3, .int p3)]) (by decide) rfl rfl (fun w hw => ?_)
  unfold fX7_mixed at h
  refine g_aload_n hw 0 dX7_mixed_0 rfl ?_
  refine g_iload_n hw 1 dX7_mixed_1 rfl ?_
  refine g_iload_n hw 2 dX7_mixed_2 rfl ?_
  refine sX7_270 hw rfl dX7_mixed_3 rfl (gK2 hkf) h (fun r2 M1 h => ?_)
  refine g_if_eq (tgt := 22) hw dX7_mixed_6 (by decide) (fun hb3 => ?_) (fun hb3 => ?_)
  · have h := gT h hb3
    exact wX7_mixed_b22 hw hkf h
  · have h := gF h hb3
    refine g_iload_n hw 3 dX7_mixed_9 rfl ?_
    refine g_iconst (v := 0) hw dX7_mixed_10 (by decide) ?_
    refine g_iconst (v := 3) hw dX7_mixed_11 (by decide) ?_
    refine sX7_253 hw rfl dX7_mixed_12 rfl (gK2 hkf) h (fun r107 M106 h => ?_)
    refine g_if_eq (tgt := 22) hw dX7_mixed_15 (by decide) (fun hb108 => ?_) (fun hb108 => ?_)
    · have h := gT h hb108
      exact wX7_mixed_b22 hw hkf h
    · have h := gF h hb108
      refine g_iconst (v := 0) hw dX7_mixed_18 (by decide) ?_
      refine g_goto (tgt := 23) hw dX7_mixed_19 (by decide) ?_
      exact wX7_mixed_b23 hw hkf h
def fX7_weightOf_b158 (R66 : Int32 → Int32 → Int32 → gM → Prop) (l1_22 : Int32) (l4_23 : Int32) (l5_45 : Int32) (l7_46 : Int32) (s0_47 : Int32) (s1_48 : Int32) (M : gM) (Q : Int32 → gM → Prop) : Prop :=
  R66 l5_45 (s0_47 + s1_48) (l7_46 + 1) M
theorem wX7_weightOf_b158 {kf : Nat} {G : gG} {w : gM → Nat → List (Nat × Value) → List Value → Prop} {Q : Int32 → gM → Prop} (hw : gX yX7_weightOf cX7_weightOf 9 (Option.some FieldType.int) [] kf G (gQi Q) gE0 w) (hkf : 2 ≤ kf) {R66 : Int32 → Int32 → Int32 → gM → Prop} {l1_22 : Int32} {l4_23 : Int32} {l5_45 : Int32} {l7_46 : Int32} {s0_47 : Int32} {s1_48 : Int32} {M : gM} (hR66 : ∀ (v0 : Int32) (v1 : Int32) (v2 : Int32) (M : gM), R66 v0 v1 v2 M → w M 66 [(0, .ref (gA G 268)), (1, .int l1_22), (4, .int l4_23), (5, .int v0), (6, .int v1), (7, .int v2)] []) (h : fX7_weightOf_b158 R66 l1_22 l4_23 l5_45 l7_46 s0_47 s1_48 M Q) : w M 158 [(0, .ref (gA G 268)), (1, .int l1_22), (4, .int l4_23), (5, .int l5_45), (7, .int l7_46)] [.int s1_48, .int s0_47] := by
  unfold fX7_weightOf_b158 at h
  refine g_iadd hw dX7_weightOf_158 ?_
  refine g_istore hw (lv2 := [(0, .ref (gA G 268)), (1, .int l1_22), (4, .int l4_23), (5, .int l5_45), (6, .int (s0_47 + s1_48)), (7, .int l7_46)]) [1, 2, 3, 4, 0, 5] dX7_weightOf_159 rfl rfl ?_
  refine g_iinc hw (lv2 := [(0, .ref (gA G 268)), (1, .int l1_22), (4, .int l4_23), (5, .int l5_45), (6, .int (s0_47 + s1_48)), (7, .int (l7_46 + 1))]) 5 [1, 2, 3, 4, 5, 0] dX7_weightOf_161 rfl (by decide) rfl rfl ?_
  refine g_goto (tgt := 66) hw dX7_weightOf_164 (by decide) ?_
  exact hR66 l5_45 (s0_47 + s1_48) (l7_46 + 1) M h
def fX7_weightOf_b157 (R66 : Int32 → Int32 → Int32 → gM → Prop) (l1_22 : Int32) (l4_23 : Int32) (l5_42 : Int32) (l7_43 : Int32) (s0_44 : Int32) (M : gM) (Q : Int32 → gM → Prop) : Prop :=
  fX7_weightOf_b158 R66 l1_22 l4_23 l5_42 l7_43 s0_44 0 M Q
theorem wX7_weightOf_b157 {kf : Nat} {G : gG} {w : gM → Nat → List (Nat × Value) → List Value → Prop} {Q : Int32 → gM → Prop} (hw : gX yX7_weightOf cX7_weightOf 9 (Option.some FieldType.int) [] kf G (gQi Q) gE0 w) (hkf : 2 ≤ kf) {R66 : Int32 → Int32 → Int32 → gM → Prop} {l1_22 : Int32} {l4_23 : Int32} {l5_42 : Int32} {l7_43 : Int32} {s0_44 : Int32} {M : gM} (hR66 : ∀ (v0 : Int32) (v1 : Int32) (v2 : Int32) (M : gM), R66 v0 v1 v2 M → w M 66 [(0, .ref (gA G 268)), (1, .int l1_22), (4, .int l4_23), (5, .int v0), (6, .int v1), (7, .int v2)] []) (h : fX7_weightOf_b157 R66 l1_22 l4_23 l5_42 l7_43 s0_44 M Q) : w M 157 [(0, .ref (gA G 268)), (1, .int l1_22), (4, .int l4_23), (5, .int l5_42), (7, .int l7_43)] [.int s0_44] := by
  unfold fX7_weightOf_b157 at h
  refine g_iconst (v := 0) hw dX7_weightOf_157 (by decide) ?_
  exact wX7_weightOf_b158 hw hkf hR66 h
def fX7_weightOf_b131 (R66 : Int32 → Int32 → Int32 → gM → Prop) (l1_22 : Int32) (l4_23 : Int32) (l6_36 : Int32) (l7_37 : Int32) (l8_38 : Int32) (s0_39 : Int32) (s1_40 : Int32) (M : gM) (Q : Int32 → gM → Prop) : Prop :=
  (if l8_38 = 0 then fX7_weightOf_b157 R66 l1_22 l4_23 (s0_39 + s1_40) l7_37 l6_36 M Q else gk M 268 = 7 ∧ gdr (gR M 268 11) (fun a50 => gk M a50 = 40 ∧ vp_in l7_37 (gl M a50) ∧ (if (gI M a50 l7_37.toNatClampNeg) = l4_23 then fX7_weightOf_b157 R66 l1_22 l4_23 (s0_39 + s1_40) l7_37 l6_36 M Q else fX7_weightOf_b158 R66 l1_22 l4_23 (s0_39 + s1_40) l7_37 l6_36 1 M Q)))
theorem wX7_weightOf_b131 {kf : Nat} {G : gG} {w : gM → Nat → List (Nat × Value) → List Value → Prop} {Q : Int32 → gM → Prop} (hw : gX yX7_weightOf cX7_weightOf 9 (Option.some FieldType.int) [] kf G (gQi Q) gE0 w) (hkf : 2 ≤ kf) {R66 : Int32 → Int32 → Int32 → gM → Prop} {l1_22 : Int32} {l4_23 : Int32} {l6_36 : Int32} {l7_37 : Int32} {l8_38 : Int32} {s0_39 : Int32} {s1_40 : Int32} {M : gM} (hR66 : ∀ (v0 : Int32) (v1 : Int32) (v2 : Int32) (M : gM), R66 v0 v1 v2 M → w M 66 [(0, .ref (gA G 268)), (1, .int l1_22), (4, .int l4_23), (5, .int v0), (6, .int v1), (7, .int v2)] []) (h : fX7_weightOf_b131 R66 l1_22 l4_23 l6_36 l7_37 l8_38 s0_39 s1_40 M Q) : w M 131 [(0, .ref (gA G 268)), (1, .int l1_22), (4, .int l4_23), (6, .int l6_36), (7, .int l7_37), (8, .int l8_38)] [.int s1_40, .int s0_39] := by
  unfold fX7_weightOf_b131 at h
  refine g_iadd hw dX7_weightOf_131 ?_
  refine g_istore hw (lv2 := [(0, .ref (gA G 268)), (1, .int l1_22), (4, .int l4_23), (5, .int (s0_39 + s1_40)), (6, .int l6_36), (7, .int l7_37), (8, .int l8_38)]) [1, 2, 3, 0, 4, 5, 6] dX7_weightOf_132 rfl rfl ?_
  refine g_iload hw 4 dX7_weightOf_134 rfl ?_
  refine g_iload hw 6 dX7_weightOf_136 rfl ?_
  refine g_if_eq (tgt := 157) hw dX7_weightOf_138 (by decide) (fun hb41 => ?_) (fun hb41 => ?_)
  · have h := gT h hb41
    refine g_sub hw (lv2 := [(0, .ref (gA G 268)), (1, .int l1_22), (4, .int l4_23), (5, .int (s0_39 + s1_40)), (7, .int l7_37)]) [0, 1, 2, 3, 5] rfl ?_
    exact wX7_weightOf_b157 hw hkf hR66 h
  · have h := gF h hb41
    refine g_aload_n hw 0 dX7_weightOf_141 rfl ?_
    obtain ⟨hk49, h⟩ := h
    obtain ⟨a50, e51, h⟩ := h
    refine gfX7_97 (q := some a50) hw rfl dX7_weightOf_142 hk49 e51 ?_
    refine g_iload hw 5 dX7_weightOf_145 rfl ?_
    obtain ⟨hk52, h⟩ := h
    obtain ⟨hi53, h⟩ := h
    refine g_iald (n := l7_37.toNatClampNeg) hw dX7_weightOf_147 hk52 hi53 rfl ?_
    refine g_iload hw 2 dX7_weightOf_148 rfl ?_
    refine g_icmp_eq (tgt := 157) hw dX7_weightOf_150 (by decide) (fun hb54 => ?_) (fun hb54 => ?_)
    · have h := gT h hb54
      refine g_sub hw (lv2 := [(0, .ref (gA G 268)), (1, .int l1_22), (4, .int l4_23), (5, .int (s0_39 + s1_40)), (7, .int l7_37)]) [0, 1, 2, 3, 5] rfl ?_
      exact wX7_weightOf_b157 hw hkf hR66 h
    · have h := gF h hb54
      refine g_iconst (v := 1) hw dX7_weightOf_153 (by decide) ?_
      refine g_goto (tgt := 158) hw dX7_weightOf_154 (by decide) ?_
      refine g_sub hw (lv2 := [(0, .ref (gA G 268)), (1, .int l1_22), (4, .int l4_23), (5, .int (s0_39 + s1_40)), (7, .int l7_37)]) [0, 1, 2, 3, 5] rfl ?_
      exact wX7_weightOf_b158 hw hkf hR66 h
def fX7_weightOf_b130 (R66 : Int32 → Int32 → Int32 → gM → Prop) (l1_22 : Int32) (l4_23 : Int32) (l6_32 : Int32) (l7_33 : Int32) (l8_34 : Int32) (s0_35 : Int32) (M : gM) (Q : Int32 → gM → Prop) : Prop :=
  fX7_weightOf_b131 R66 l1_22 l4_23 l6_32 l7_33 l8_34 s0_35 0 M Q
theorem wX7_weightOf_b130 {kf : Nat} {G : gG} {w : gM → Nat → List (Nat × Value) → List Value → Prop} {Q : Int32 → gM → Prop} (hw : gX yX7_weightOf cX7_weightOf 9 (Option.some FieldType.int) [] kf G (gQi Q) gE0 w) (hkf : 2 ≤ kf) {R66 : Int32 → Int32 → Int32 → gM → Prop} {l1_22 : Int32} {l4_23 : Int32} {l6_32 : Int32} {l7_33 : Int32} {l8_34 : Int32} {s0_35 : Int32} {M : gM} (hR66 : ∀ (v0 : Int32) (v1 : Int32) (v2 : Int32) (M : gM), R66 v0 v1 v2 M → w M 66 [(0, .ref (gA G 268)), (1, .int l1_22), (4, .int l4_23), (5, .int v0), (6, .int v1), (7, .int v2)] []) (h : fX7_weightOf_b130 R66 l1_22 l4_23 l6_32 l7_33 l8_34 s0_35 M Q) : w M 130 [(0, .ref (gA G 268)), (1, .int l1_22), (4, .int l4_23), (6, .int l6_32), (7, .int l7_33), (8, .int l8_34)] [.int s0_35] := by
  unfold fX7_weightOf_b130 at h
  refine g_iconst (v := 0) hw dX7_weightOf_130 (by decide) ?_
  exact wX7_weightOf_b131 hw hkf hR66 h
def fX7_weightOf_L66s (R66 : Int32 → Int32 → Int32 → gM → Prop) (K167_66 : Int32 → Int32 → gM → Prop) (l1_22 : Int32) (l4_23 : Int32) (l5_24 : Int32) (l6_25 : Int32) (l7_26 : Int32) (M : gM) (Q : Int32 → gM → Prop) : Prop :=
  (if 24 ≤ l7_26 then K167_66 l5_24 l6_25 M else gk M 268 = 7 ∧ fX7_isCounted l7_26 (l1_22 - 1) l1_22 M (fun r30 M29 => (if r30 = 0 then fX7_weightOf_b130 R66 l1_22 l4_23 l6_25 l7_26 r30 l5_24 M29 Q else gk M29 268 = 7 ∧ gdr (gR M29 268 11) (fun a56 => gk M29 a56 = 40 ∧ vp_in l7_26 (gl M29 a56) ∧ (if (gI M29 a56 l7_26.toNatClampNeg) = l4_23 then gdr (gR M29 268 12) (fun a61 => gk M29 a61 = 40 ∧ vp_in l7_26 (gl M29 a61) ∧ gdr (gR M29 268 16) (fun a65 => gk M29 a65 = 40 ∧ vp_in ((12 * l4_23) + l1_22) (gl M29 a65) ∧ (if (gI M29 a65 (((12 * l4_23) + l1_22).toNatClampNeg)) ≤ (gI M29 a61 l7_26.toNatClampNeg) then fX7_weightOf_b130 R66 l1_22 l4_23 l6_25 l7_26 r30 l5_24 M29 Q else fX7_weightOf_b131 R66 l1_22 l4_23 l6_25 l7_26 r30 l5_24 1 M29 Q))) else fX7_weightOf_b130 R66 l1_22 l4_23 l6_25 l7_26 r30 l5_24 M29 Q)))))
def fX7_weightOf_L66 (K167_66 : Int32 → Int32 → gM → Prop) (l1_22 : Int32) (l4_23 : Int32) (Q : Int32 → gM → Prop) : Nat → Int32 → Int32 → Int32 → gM → Prop
  | 0 => fun _ _ _ _ => False
  | n + 1 => fun l5_24 l6_25 l7_26 M => fX7_weightOf_L66s (fX7_weightOf_L66 K167_66 l1_22 l4_23 Q n) K167_66 l1_22 l4_23 l5_24 l6_25 l7_26 M Q
theorem wX7_weightOf_L66s {kf : Nat} {G : gG} {w : gM → Nat → List (Nat × Value) → List Value → Prop} {Q : Int32 → gM → Prop} (hw : gX yX7_weightOf cX7_weightOf 9 (Option.some FieldType.int) [] kf G (gQi Q) gE0 w) (hkf : 2 ≤ kf) {R66 : Int32 → Int32 → Int32 → gM → Prop} {K167_66 : Int32 → Int32 → gM → Prop} {l1_22 : Int32} {l4_23 : Int32} {l5_24 : Int32} {l6_25 : Int32} {l7_26 : Int32} {M : gM} (hR66 : ∀ (v0 : Int32) (v1 : Int32) (v2 : Int32) (M : gM), R66 v0 v1 v2 M → w M 66 [(0, .ref (gA G 268)), (1, .int l1_22), (4, .int l4_23), (5, .int v0), (6, .int v1), (7, .int v2)] []) (hK167_66 : ∀ (v0 : Int32) (v1 : Int32) (M : gM), K167_66 v0 v1 M → w M 167 [(5, .int v0), (6, .int v1)] []) (h : fX7_weightOf_L66s R66 K167_66 l1_22 l4_23 l5_24 l6_25 l7_26 M Q) : w M 66 [(0, .ref (gA G 268)), (1, .int l1_22), (4, .int l4_23), (5, .int l5_24), (6, .int l6_25), (7, .int l7_26)] [] := by
  unfold fX7_weightOf_L66s at h
  refine g_iload hw 5 dX7_weightOf_66 rfl ?_
  refine g_bipush (v := 24) hw dX7_weightOf_68 (by decide) ?_
  refine g_icmp_ge (tgt := 167) hw dX7_weightOf_70 (by decide) (fun hb27 => ?_) (fun hb27 => ?_)
  · have h := gT h hb27
    refine g_sub hw (lv2 := [(5, .int l5_24), (6, .int l6_25)]) [3, 4] rfl ?_
    exact hK167_66 l5_24 l6_25 M h
  · have h := gF h hb27
    refine g_aload_n hw 0 dX7_weightOf_73 rfl ?_
    refine g_iload hw 5 dX7_weightOf_74 rfl ?_
    refine g_iload_n hw 1 dX7_weightOf_76 rfl ?_
    refine g_iconst (v := 1) hw dX7_weightOf_77 (by decide) ?_
    refine g_isub hw dX7_weightOf_78 ?_
    refine g_iload_n hw 1 dX7_weightOf_79 rfl ?_
    obtain ⟨hk28, h⟩ := h
    refine sX7_274 hw rfl dX7_weightOf_80 rfl (gK2 hkf) hk28 h (fun r30 M29 h => ?_)
    refine g_istore hw (lv2 := [(0, .ref (gA G 268)), (1, .int l1_22), (4, .int l4_23), (5, .int l5_24), (6, .int l6_25), (7, .int l7_26), (8, .int r30)]) [1, 2, 3, 4, 5, 6, 0] dX7_weightOf_83 rfl rfl ?_
    refine g_iload hw 3 dX7_weightOf_85 rfl ?_
    refine g_iload hw 6 dX7_weightOf_87 rfl ?_
    refine g_if_eq (tgt := 130) hw dX7_weightOf_89 (by decide) (fun hb31 => ?_) (fun hb31 => ?_)
    · have h := gT h hb31
      refine g_sub hw (lv2 := [(0, .ref (gA G 268)), (1, .int l1_22), (4, .int l4_23), (6, .int l6_25), (7, .int l7_26), (8, .int r30)]) [0, 1, 2, 4, 5, 6] rfl ?_
      exact wX7_weightOf_b130 hw hkf hR66 h
    · have h := gF h hb31
      refine g_aload_n hw 0 dX7_weightOf_92 rfl ?_
      obtain ⟨hk55, h⟩ := h
      obtain ⟨a56, e57, h⟩ := h
      refine gfX7_97 (q := some a56) hw rfl dX7_weightOf_93 hk55 e57 ?_
      refine g_iload hw 5 dX7_weightOf_96 rfl ?_
      obtain ⟨hk58, h⟩ := h
      obtain ⟨hi59, h⟩ := h
      refine g_iald (n := l7_26.toNatClampNeg) hw dX7_weightOf_98 hk58 hi59 rfl ?_
      refine g_iload hw 2 dX7_weightOf_99 rfl ?_
      refine g_icmp_ne (tgt := 130) hw dX7_weightOf_101 (by decide) (fun hb60 => ?_) (fun hb60 => ?_)
      · have h := gF h hb60
        refine g_sub hw (lv2 := [(0, .ref (gA G 268)), (1, .int l1_22), (4, .int l4_23), (6, .int l6_25), (7, .int l7_26), (8, .int r30)]) [0, 1, 2, 4, 5, 6] rfl ?_
        exact wX7_weightOf_b130 hw hkf hR66 h
      · have h := gT h hb60
        refine g_aload_n hw 0 dX7_weightOf_104 rfl ?_
        obtain ⟨a61, e62, h⟩ := h
        refine gfX7_100 (q := some a61) hw rfl dX7_weightOf_105 hk55 e62 ?_
        refine g_iload hw 5 dX7_weightOf_108 rfl ?_
        obtain ⟨hk63, h⟩ := h
        obtain ⟨hi64, h⟩ := h
        refine g_iald (n := l7_26.toNatClampNeg) hw dX7_weightOf_110 hk63 hi64 rfl ?_
        refine g_aload_n hw 0 dX7_weightOf_111 rfl ?_
        obtain ⟨a65, e66, h⟩ := h
        refine gfX7_109 (q := some a65) hw rfl dX7_weightOf_112 hk55 e66 ?_
        refine g_bipush (v := 12) hw dX7_weightOf_115 (by decide) ?_
        refine g_iload hw 2 dX7_weightOf_117 rfl ?_
        refine g_imul hw dX7_weightOf_119 ?_
        refine g_iload_n hw 1 dX7_weightOf_120 rfl ?_
        refine g_iadd hw dX7_weightOf_121 ?_
        obtain ⟨hk67, h⟩ := h
        obtain ⟨hi68, h⟩ := h
        refine g_iald (n := ((12 * l4_23) + l1_22).toNatClampNeg) hw dX7_weightOf_122 hk67 hi68 rfl ?_
        refine g_icmp_ge (tgt := 130) hw dX7_weightOf_123 (by decide) (fun hb69 => ?_) (fun hb69 => ?_)
        · have h := gT h hb69
          refine g_sub hw (lv2 := [(0, .ref (gA G 268)), (1, .int l1_22), (4, .int l4_23), (6, .int l6_25), (7, .int l7_26), (8, .int r30)]) [0, 1, 2, 4, 5, 6] rfl ?_
          exact wX7_weightOf_b130 hw hkf hR66 h
        · have h := gF h hb69
          refine g_iconst (v := 1) hw dX7_weightOf_126 (by decide) ?_
          refine g_goto (tgt := 131) hw dX7_weightOf_127 (by decide) ?_
          refine g_sub hw (lv2 := [(0, .ref (gA G 268)), (1, .int l1_22), (4, .int l4_23), (6, .int l6_25), (7, .int l7_26), (8, .int r30)]) [0, 1, 2, 4, 5, 6] rfl ?_
          exact wX7_weightOf_b131 hw hkf hR66 h
theorem wX7_weightOf_L66 {kf : Nat} {G : gG} {w : gM → Nat → List (Nat × Value) → List Value → Prop} {Q : Int32 → gM → Prop} (hw : gX yX7_weightOf cX7_weightOf 9 (Option.some FieldType.int) [] kf G (gQi Q) gE0 w) (hkf : 2 ≤ kf) {K167_66 : Int32 → Int32 → gM → Prop} {l1_22 : Int32} {l4_23 : Int32} (hK167_66 : ∀ (v0 : Int32) (v1 : Int32) (M : gM), K167_66 v0 v1 M → w M 167 [(5, .int v0), (6, .int v1)] []) : ∀ (n : Nat) (l5_24 : Int32) (l6_25 : Int32) (l7_26 : Int32) (M : gM), fX7_weightOf_L66 K167_66 l1_22 l4_23 Q n l5_24 l6_25 l7_26 M → w M 66 [(0, .ref (gA G 268)), (1, .int l1_22), (4, .int l4_23), (5, .int l5_24), (6, .int l6_25), (7, .int l7_26)] [] := by
  intro n
  induction n with
  | zero => intro l5_24 l6_25 l7_26 M h; exact h.elim
  | succ n ih => intro l5_24 l6_25 l7_26 M h; exact wX7_weightOf_L66s hw hkf ih hK167_66 h
def fX7_weightOf_b55 (l1_20 : Int32) (s0_21 : Int32) (M : gM) (Q : Int32 → gM → Prop) : Prop :=
  ∃ n, fX7_weightOf_L66 (fun l5_70 l6_71 M72 => Q (l5_70 * l6_71) M72) l1_20 s0_21 Q n 0 0 0 M
theorem wX7_weightOf_b55 {kf : Nat} {G : gG} {w : gM → Nat → List (Nat × Value) → List Value → Prop} {Q : Int32 → gM → Prop} (hw : gX yX7_weightOf cX7_weightOf 9 (Option.some FieldType.int) [] kf G (gQi Q) gE0 w) (hkf : 2 ≤ kf)  {l1_20 : Int32} {s0_21 : Int32} {M : gM}  (h : fX7_weightOf_b55 l1_20 s0_21 M Q) : w M 55 [(0, .ref (gA G 268)), (1, .int l1_20)] [.int s0_21] := by
  unfold fX7_weightOf_b55 at h
  refine g_istore hw (lv2 := [(0, .ref (gA G 268)), (1, .int l1_20), (4, .int s0_21)]) [1, 2, 0] dX7_weightOf_55 rfl rfl ?_
  refine g_iconst (v := 0) hw dX7_weightOf_57 (by decide) ?_
  refine g_istore hw (lv2 := [(0, .ref (gA G 268)), (1, .int l1_20), (4, .int s0_21), (5, .int 0)]) [1, 2, 3, 0] dX7_weightOf_58 rfl rfl ?_
  refine g_iconst (v := 0) hw dX7_weightOf_60 (by decide) ?_
  refine g_istore hw (lv2 := [(0, .ref (gA G 268)), (1, .int l1_20), (4, .int s0_21), (5, .int 0), (6, .int 0)]) [1, 2, 3, 4, 0] dX7_weightOf_61 rfl rfl ?_
  refine g_iconst (v := 0) hw dX7_weightOf_63 (by decide) ?_
  refine g_istore hw (lv2 := [(0, .ref (gA G 268)), (1, .int l1_20), (4, .int s0_21), (5, .int 0), (6, .int 0), (7, .int 0)]) [1, 2, 3, 4, 5, 0] dX7_weightOf_64 rfl rfl ?_
  obtain ⟨n9, h⟩ := h
  refine wX7_weightOf_L66 hw hkf (fun l5_70 l6_71 M72 h => ?_) n9 0 0 0 M h
  refine g_iload hw 0 dX7_weightOf_167 rfl ?_
  refine g_iload hw 1 dX7_weightOf_169 rfl ?_
  refine g_imul hw dX7_weightOf_171 ?_
  exact g_iret hw dX7_weightOf_172 rfl ⟨_, rfl, h⟩
def fX7_weightOf (p1 : Int32) (M : gM) (Q : Int32 → gM → Prop) : Prop :=
  gk M 268 = 7 ∧ gdr (gR M 268 16) (fun a2 => gk M a2 = 40 ∧ vp_in p1 (gl M a2) ∧ gdr (gR M 268 16) (fun a6 => gk M a6 = 40 ∧ vp_in (p1 - 1) (gl M a6) ∧ gdr (gR M 268 16) (fun a10 => gk M a10 = 40 ∧ vp_in (12 + p1) (gl M a10) ∧ gdr (gR M 268 16) (fun a14 => gk M a14 = 40 ∧ vp_in ((12 + p1) - 1) (gl M a14) ∧ (if ((gI M a2 p1.toNatClampNeg) - (gI M a6 ((p1 - 1).toNatClampNeg))) = ((gI M a10 ((12 + p1).toNatClampNeg)) - (gI M a14 (((12 + p1) - 1).toNatClampNeg))) then Q 0 M else (if ((gI M a2 p1.toNatClampNeg) - (gI M a6 ((p1 - 1).toNatClampNeg))) ≤ ((gI M a10 ((12 + p1).toNatClampNeg)) - (gI M a14 (((12 + p1) - 1).toNatClampNeg))) then fX7_weightOf_b55 p1 1 M Q else fX7_weightOf_b55 p1 0 M Q))))))
theorem mX7_weightOf {kf : Nat} (hkf : 2 ≤ kf) (G : gG) (p1 : Int32) (M : gM) (Q : Int32 → gM → Prop) (h : fX7_weightOf p1 M Q) : gMet yX7_weightOf cX7_weightOf 9 (Option.some FieldType.int) kf G M [.ref (gA G 268), .int p1] (gQi Q) gE0 := by
  refine g_intro (lv := [(0, .ref (gA G 268)), (1, .int p1)]) (by decide) rfl rfl (fun w hw => ?_)
  unfold fX7_weightOf at h
  refine g_aload_n hw 0 dX7_weightOf_0 rfl ?_
  obtain ⟨hk1, h⟩ := h
  obtain ⟨a2, e3, h⟩ := h
  refine gfX7_109 (q := some a2) hw rfl dX7_weightOf_1 hk1 e3 ?_
  refine g_iload_n hw 1 dX7_weightOf_4 rfl ?_
  obtain ⟨hk4, h⟩ := h
  obtain ⟨hi5, h⟩ := h
  refine g_iald (n := p1.toNatClampNeg) hw dX7_weightOf_5 hk4 hi5 rfl ?_
  refine g_aload_n hw 0 dX7_weightOf_6 rfl ?_
  obtain ⟨a6, e7, h⟩ := h
  refine gfX7_109 (q := some a6) hw rfl dX7_weightOf_7 hk1 e7 ?_
  refine g_iload_n hw 1 dX7_weightOf_10 rfl ?_
  refine g_iconst (v := 1) hw dX7_weightOf_11 (by decide) ?_
  refine g_isub hw dX7_weightOf_12 ?_
  obtain ⟨hk8, h⟩ := h
  obtain ⟨hi9, h⟩ := h
  refine g_iald (n := (p1 - 1).toNatClampNeg) hw dX7_weightOf_13 hk8 hi9 rfl ?_
  refine g_isub hw dX7_weightOf_14 ?_
  refine g_istore_n hw (lv2 := [(0, .ref (gA G 268)), (1, .int p1), (2, .int ((gI M a2 p1.toNatClampNeg) - (gI M a6 ((p1 - 1).toNatClampNeg))))]) [1, 2, 0] dX7_weightOf_15 rfl rfl ?_
  refine g_aload_n hw 0 dX7_weightOf_16 rfl ?_
  obtain ⟨a10, e11, h⟩ := h
  refine gfX7_109 (q := some a10) hw rfl dX7_weightOf_17 hk1 e11 ?_
  refine g_bipush (v := 12) hw dX7_weightOf_20 (by decide) ?_
  refine g_iload_n hw 1 dX7_weightOf_22 rfl ?_
  refine g_iadd hw dX7_weightOf_23 ?_
  obtain ⟨hk12, h⟩ := h
  obtain ⟨hi13, h⟩ := h
  refine g_iald (n := (12 + p1).toNatClampNeg) hw dX7_weightOf_24 hk12 hi13 rfl ?_
  refine g_aload_n hw 0 dX7_weightOf_25 rfl ?_
  obtain ⟨a14, e15, h⟩ := h
  refine gfX7_109 (q := some a14) hw rfl dX7_weightOf_26 hk1 e15 ?_
  refine g_bipush (v := 12) hw dX7_weightOf_29 (by decide) ?_
  refine g_iload_n hw 1 dX7_weightOf_31 rfl ?_
  refine g_iadd hw dX7_weightOf_32 ?_
  refine g_iconst (v := 1) hw dX7_weightOf_33 (by decide) ?_
  refine g_isub hw dX7_weightOf_34 ?_
  obtain ⟨hk16, h⟩ := h
  obtain ⟨hi17, h⟩ := h
  refine g_iald (n := ((12 + p1) - 1).toNatClampNeg) hw dX7_weightOf_35 hk16 hi17 rfl ?_
  refine g_isub hw dX7_weightOf_36 ?_
  refine g_istore_n hw (lv2 := [(0, .ref (gA G 268)), (1, .int p1), (2, .int ((gI M a2 p1.toNatClampNeg) - (gI M a6 ((p1 - 1).toNatClampNeg)))), (3, .int ((gI M a10 ((12 + p1).toNatClampNeg)) - (gI M a14 (((12 + p1) - 1).toNatClampNeg))))]) [1, 2, 3, 0] dX7_weightOf_37 rfl rfl ?_
  refine g_iload_n hw 2 dX7_weightOf_38 rfl ?_
  refine g_iload_n hw 3 dX7_weightOf_39 rfl ?_
  refine g_icmp_ne (tgt := 45) hw dX7_weightOf_40 (by decide) (fun hb18 => ?_) (fun hb18 => ?_)
  · have h := gF h hb18
    refine g_iload_n hw 2 dX7_weightOf_45 rfl ?_
    refine g_iload_n hw 3 dX7_weightOf_46 rfl ?_
    refine g_icmp_le (tgt := 54) hw dX7_weightOf_47 (by decide) (fun hb19 => ?_) (fun hb19 => ?_)
    · have h := gT h hb19
      refine g_iconst (v := 1) hw dX7_weightOf_54 (by decide) ?_
      refine g_sub hw (lv2 := [(0, .ref (gA G 268)), (1, .int p1)]) [0, 1] rfl ?_
      exact wX7_weightOf_b55 hw hkf h
    · have h := gF h hb19
      refine g_iconst (v := 0) hw dX7_weightOf_50 (by decide) ?_
      refine g_goto (tgt := 55) hw dX7_weightOf_51 (by decide) ?_
      refine g_sub hw (lv2 := [(0, .ref (gA G 268)), (1, .int p1)]) [0, 1] rfl ?_
      exact wX7_weightOf_b55 hw hkf h
  · have h := gT h hb18
    refine g_iconst (v := 0) hw dX7_weightOf_43 (by decide) ?_
    exact g_iret hw dX7_weightOf_44 rfl ⟨_, rfl, h⟩
theorem sX7_493 {y0 : MethodName} {cc : ByteArray} {nL : Nat} {ret : Option FieldType} {hh : List (Nat × Nat × Nat × Nat)} {kf : Nat} {G : gG} {Qv : Option Value → gM → Prop} {E : String → Nat → gM → Prop} {w : gM → Nat → List (Nat × Value) → List Value → Prop} {M : gM} {pc : Nat} {lv : List (Nat × Value)} {rest : List Value} (hw : gX y0 cc nL ret hh kf G Qv E w) (hy : y0.cls = RX7) {p1 : Int32} {Q : Int32 → gM → Prop} (d : decode cc pc = .ok (.invokevirtual 493, 3)) (hrest : Nat.ble ((rest.map Value.category).sum) 8 = true) (hk : 2 + 1 ≤ kf) (hkd : gk M 268 = 7) (h : fX7_weightOf p1 M Q) (kk : ∀ r M1, Q r M1 → w M1 (pc + 3) lv (.int r :: rest)) : w M pc lv (.int p1 :: .ref (gA G 268) :: rest) := by
  obtain ⟨cls9, nm9, ds9⟩ := y0
  subst hy
  exact g_callV (r := (RX7, TX7, 58)) (ci := 6) hw [.int p1] (nA := 1) rfl d q1746 q1748 qs95 q104 q1749 (by decide +kernel) rfl rfl hrest rfl (by omega : kf - 1 + 1 ≤ kf) hkd (mX7_weightOf (kf := kf - 1) (by omega) G p1 M Q h) (fun _ _ _ q => q.elim) (fun v M1 h => by obtain ⟨r, rfl, h⟩ := h; exact kk r M1 h)
def fX7_where_b48 (R21 : Int32 → Int32 → Int32 → gM → Prop) (l1_5 : Int32) (l2_14 : Int32) (l3_15 : Int32) (l4_16 : Int32) (M : gM) (Q : Int32 → gM → Prop) : Prop :=
  R21 l2_14 l3_15 (l4_16 + 1) M
theorem wX7_where_b48 {kf : Nat} {G : gG} {w : gM → Nat → List (Nat × Value) → List Value → Prop} {Q : Int32 → gM → Prop} (hw : gX yX7_where cX7_where 5 (Option.some FieldType.int) [] kf G (gQi Q) gE0 w) (hkf : 3 ≤ kf) {R21 : Int32 → Int32 → Int32 → gM → Prop} {l1_5 : Int32} {l2_14 : Int32} {l3_15 : Int32} {l4_16 : Int32} {M : gM} (hR21 : ∀ (v0 : Int32) (v1 : Int32) (v2 : Int32) (M : gM), R21 v0 v1 v2 M → w M 21 [(0, .ref (gA G 268)), (1, .int l1_5), (2, .int v0), (3, .int v1), (4, .int v2)] []) (h : fX7_where_b48 R21 l1_5 l2_14 l3_15 l4_16 M Q) : w M 48 [(0, .ref (gA G 268)), (1, .int l1_5), (2, .int l2_14), (3, .int l3_15), (4, .int l4_16)] [] := by
  unfold fX7_where_b48 at h
  refine g_iinc hw (lv2 := [(0, .ref (gA G 268)), (1, .int l1_5), (2, .int l2_14), (3, .int l3_15), (4, .int (l4_16 + 1))]) 4 [1, 2, 3, 4, 0] dX7_where_48 rfl (by decide) rfl rfl ?_
  refine g_goto (tgt := 21) hw dX7_where_51 (by decide) ?_
  exact hR21 l2_14 l3_15 (l4_16 + 1) M h
def fX7_where_L21s (R21 : Int32 → Int32 → Int32 → gM → Prop) (K54_21 : Int32 → Int32 → gM → Prop) (l1_5 : Int32) (l2_6 : Int32) (l3_7 : Int32) (l4_8 : Int32) (M : gM) (Q : Int32 → gM → Prop) : Prop :=
  (if 12 ≤ l4_8 then K54_21 l2_6 l3_7 M else gk M 268 = 7 ∧ fX7_weightOf l4_8 M (fun r12 M11 => (if r12 ≤ l3_7 then fX7_where_b48 R21 l1_5 l2_6 l3_7 l4_8 M11 Q else gk M11 268 = 7 ∧ fX7_weightOf l4_8 M11 (fun r19 M18 => fX7_where_b48 R21 l1_5 l4_8 r19 l4_8 M18 Q))))
def fX7_where_L21 (K54_21 : Int32 → Int32 → gM → Prop) (l1_5 : Int32) (Q : Int32 → gM → Prop) : Nat → Int32 → Int32 → Int32 → gM → Prop
  | 0 => fun _ _ _ _ => False
  | n + 1 => fun l2_6 l3_7 l4_8 M => fX7_where_L21s (fX7_where_L21 K54_21 l1_5 Q n) K54_21 l1_5 l2_6 l3_7 l4_8 M Q
theorem wX7_where_L21s {kf : Nat} {G : gG} {w : gM → Nat → List (Nat × Value) → List Value → Prop} {Q : Int32 → gM → Prop} (hw : gX yX7_where cX7_where 5 (Option.some FieldType.int) [] kf G (gQi Q) gE0 w) (hkf : 3 ≤ kf) {R21 : Int32 → Int32 → Int32 → gM → Prop} {K54_21 : Int32 → Int32 → gM → Prop} {l1_5 : Int32} {l2_6 : Int32} {l3_7 : Int32} {l4_8 : Int32} {M : gM} (hR21 : ∀ (v0 : Int32) (v1 : Int32) (v2 : Int32) (M : gM), R21 v0 v1 v2 M → w M 21 [(0, .ref (gA G 268)), (1, .int l1_5), (2, .int v0), (3, .int v1), (4, .int v2)] []) (hK54_21 : ∀ (v0 : Int32) (v1 : Int32) (M : gM), K54_21 v0 v1 M → w M 54 [(1, .int l1_5), (2, .int v0), (3, .int v1)] []) (h : fX7_where_L21s R21 K54_21 l1_5 l2_6 l3_7 l4_8 M Q) : w M 21 [(0, .ref (gA G 268)), (1, .int l1_5), (2, .int l2_6), (3, .int l3_7), (4, .int l4_8)] [] := by
  unfold fX7_where_L21s at h
  refine g_iload hw 4 dX7_where_21 rfl ?_
  refine g_bipush (v := 12) hw dX7_where_23 (by decide) ?_
  refine g_icmp_ge (tgt := 54) hw dX7_where_25 (by decide) (fun hb9 => ?_) (fun hb9 => ?_)
  · have h := gT h hb9
    refine g_sub hw (lv2 := [(1, .int l1_5), (2, .int l2_6), (3, .int l3_7)]) [1, 2, 3] rfl ?_
    exact hK54_21 l2_6 l3_7 M h
  · have h := gF h hb9
    refine g_aload_n hw 0 dX7_where_28 rfl ?_
    refine g_iload hw 4 dX7_where_29 rfl ?_
    obtain ⟨hk10, h⟩ := h
    refine sX7_493 hw rfl dX7_where_31 rfl (gK2 hkf) hk10 h (fun r12 M11 h => ?_)
    refine g_iload_n hw 3 dX7_where_34 rfl ?_
    refine g_icmp_le (tgt := 48) hw dX7_where_35 (by decide) (fun hb13 => ?_) (fun hb13 => ?_)
    · have h := gT h hb13
      exact wX7_where_b48 hw hkf hR21 h
    · have h := gF h hb13
      refine g_aload_n hw 0 dX7_where_38 rfl ?_
      refine g_iload hw 4 dX7_where_39 rfl ?_
      obtain ⟨hk17, h⟩ := h
      refine sX7_493 hw rfl dX7_where_41 rfl (gK2 hkf) hk17 h (fun r19 M18 h => ?_)
      refine g_istore_n hw (lv2 := [(0, .ref (gA G 268)), (1, .int l1_5), (3, .int r19), (4, .int l4_8)]) [1, 2, 0, 4] dX7_where_44 rfl rfl ?_
      refine g_iload hw 3 dX7_where_45 rfl ?_
      refine g_istore_n hw (lv2 := [(0, .ref (gA G 268)), (1, .int l1_5), (2, .int l4_8), (3, .int r19), (4, .int l4_8)]) [1, 2, 0, 3, 4] dX7_where_47 rfl rfl ?_
      exact wX7_where_b48 hw hkf hR21 h
theorem wX7_where_L21 {kf : Nat} {G : gG} {w : gM → Nat → List (Nat × Value) → List Value → Prop} {Q : Int32 → gM → Prop} (hw : gX yX7_where cX7_where 5 (Option.some FieldType.int) [] kf G (gQi Q) gE0 w) (hkf : 3 ≤ kf) {K54_21 : Int32 → Int32 → gM → Prop} {l1_5 : Int32} (hK54_21 : ∀ (v0 : Int32) (v1 : Int32) (M : gM), K54_21 v0 v1 M → w M 54 [(1, .int l1_5), (2, .int v0), (3, .int v1)] []) : ∀ (n : Nat) (l2_6 : Int32) (l3_7 : Int32) (l4_8 : Int32) (M : gM), fX7_where_L21 K54_21 l1_5 Q n l2_6 l3_7 l4_8 M → w M 21 [(0, .ref (gA G 268)), (1, .int l1_5), (2, .int l2_6), (3, .int l3_7), (4, .int l4_8)] [] := by
  intro n
  induction n with
  | zero => intro l2_6 l3_7 l4_8 M h; exact h.elim
  | succ n ih => intro l2_6 l3_7 l4_8 M h; exact wX7_where_L21s hw hkf ih hK54_21 h
def fX7_where (p1 : Int32) (M : gM) (Q : Int32 → gM → Prop) : Prop :=
  gk M 268 = 7 ∧ fX7_isWhat p1 (gsI M 268 0 0) (fun r3 M2 => (if r3 = 0 then Q (-1) M2 else ∃ n, fX7_where_L21 (fun l2_20 l3_21 M22 => (if 0 ≤ l2_20 then (if p1 = 0 then Q l2_20 M22 else Q l3_21 M22) else Q (-1) M22)) p1 Q n (-1) 0 1 M2))
theorem mX7_where {kf : Nat} (hkf : 3 ≤ kf) (G : gG) (p1 : Int32) (M : gM) (Q : Int32 → gM → Prop) (h : fX7_where p1 M Q) : gMet yX7_where cX7_where 5 (Option.some FieldType.int) kf G M [.ref (gA G 268), .int p1] (gQi Q) gE0 := by
  refine g_intro (lv := [(0, .ref (gA G 268)), (1, .int p1)]) (by decide) rfl rfl (fun w hw => ?_)
  unfold fX7_where at h
  refine g_aload_n hw 0 dX7_where_0 rfl ?_
  refine g_iconst (v := 0) hw dX7_where_1 (by decide) ?_
  obtain ⟨hk1, h⟩ := h
  refine pfX7_1 hw rfl dX7_where_2 hk1 ?_
  refine g_iload_n hw 1 dX7_where_5 rfl ?_
  refine sX7_315 hw rfl dX7_where_6 rfl (gK2 hkf) h (fun r3 M2 h => ?_)
  refine g_if_ne (tgt := 14) hw dX7_where_9 (by decide) (fun hb4 => ?_) (fun hb4 => ?_)
  · have h := gF h hb4
    refine g_iconst (v := (-1)) hw dX7_where_14 (by decide) ?_
    refine g_istore_n hw (lv2 := [(0, .ref (gA G 268)), (1, .int p1), (2, .int (-1))]) [1, 2, 0] dX7_where_15 rfl rfl ?_
    refine g_iconst (v := 0) hw dX7_where_16 (by decide) ?_
    refine g_istore_n hw (lv2 := [(0, .ref (gA G 268)), (1, .int p1), (2, .int (-1)), (3, .int 0)]) [1, 2, 3, 0] dX7_where_17 rfl rfl ?_
    refine g_iconst (v := 1) hw dX7_where_18 (by decide) ?_
    refine g_istore hw (lv2 := [(0, .ref (gA G 268)), (1, .int p1), (2, .int (-1)), (3, .int 0), (4, .int 1)]) [1, 2, 3, 4, 0] dX7_where_19 rfl rfl ?_
    obtain ⟨n9, h⟩ := h
    refine wX7_where_L21 hw hkf (fun l2_20 l3_21 M22 h => ?_) n9 (-1) 0 1 M2 h
    refine g_iload_n hw 1 dX7_where_54 rfl ?_
    refine g_if_ge (tgt := 62) hw dX7_where_55 (by decide) (fun hb23 => ?_) (fun hb23 => ?_)
    · have h := gT h hb23
      refine g_iload_n hw 0 dX7_where_62 rfl ?_
      refine g_if_ne (tgt := 70) hw dX7_where_63 (by decide) (fun hb24 => ?_) (fun hb24 => ?_)
      · have h := gF h hb24
        refine g_iload_n hw 2 dX7_where_70 rfl ?_
        exact g_iret hw dX7_where_71 rfl ⟨_, rfl, h⟩
      · have h := gT h hb24
        refine g_iload_n hw 1 dX7_where_66 rfl ?_
        refine g_goto (tgt := 71) hw dX7_where_67 (by decide) ?_
        exact g_iret hw dX7_where_71 rfl ⟨_, rfl, h⟩
    · have h := gF h hb23
      refine g_iconst (v := (-1)) hw dX7_where_58 (by decide) ?_
      refine g_goto (tgt := 71) hw dX7_where_59 (by decide) ?_
      exact g_iret hw dX7_where_71 rfl ⟨_, rfl, h⟩
  · have h := gT h hb4
    refine g_iconst (v := (-1)) hw dX7_where_12 (by decide) ?_
    exact g_iret hw dX7_where_13 rfl ⟨_, rfl, h⟩
theorem gfX7_205 {y0 : MethodName} {cc : ByteArray} {nL : Nat} {ret : Option FieldType} {hh : List (Nat × Nat × Nat × Nat)} {kf : Nat} {G : gG} {Qv : Option Value → gM → Prop} {E : String → Nat → gM → Prop} {w : gM → Nat → List (Nat × Value) → List Value → Prop} {M : gM} {pc : Nat} {lv : List (Nat × Value)} {rest : List Value} (hw : gX y0 cc nL ret hh kf G Qv E w) (hy : y0.cls = RX7) {c : Nat} {q : Option Nat} (d : decode cc pc = .ok (.getfield 205, 3)) (hk : gk M c = 7) (hq : gR M c 57 = q) (kk : w M (pc + 3) lv (va_rf (q.map (gA G)) :: rest)) : w M pc lv (.ref (gA G c) :: rest) := by
  obtain ⟨cls9, nm9, ds9⟩ := y0
  subst hy
  subst hq
  exact g_getC (C := RX7) (T := TX7) (N := 58) (ci := 6) hw in_X7 rfl 57 (by decide) (Or.inl q1213) rfl d hk kk
def fX7_keeps_b44 (R3 : Int32 → gM → Prop) (l1_1 : Int32) (l2_2 : Nat) (l3_3 : Int32) (l4_14 : Int32) (M : gM) (Q : gM → Prop) : Prop :=
  R3 (l4_14 + 1) M
theorem wX7_keeps_b44 {kf : Nat} {G : gG} {w : gM → Nat → List (Nat × Value) → List Value → Prop} {Q : gM → Prop} (hw : gX yX7_keeps cX7_keeps 5 (Option.none : Option FieldType) [] kf G (gQv Q) gE0 w) (hkf : 1 ≤ kf) {R3 : Int32 → gM → Prop} {l1_1 : Int32} {l2_2 : Nat} {l3_3 : Int32} {l4_14 : Int32} {M : gM} (hR3 : ∀ (v0 : Int32) (M : gM), R3 v0 M → w M 3 [(0, .ref (gA G 268)), (1, .int l1_1), (2, .ref (gA G l2_2)), (3, .int l3_3), (4, .int v0)] []) (h : fX7_keeps_b44 R3 l1_1 l2_2 l3_3 l4_14 M Q) : w M 44 [(0, .ref (gA G 268)), (1, .int l1_1), (2, .ref (gA G l2_2)), (3, .int l3_3), (4, .int l4_14)] [] := by
  unfold fX7_keeps_b44 at h
  refine g_iinc hw (lv2 := [(0, .ref (gA G 268)), (1, .int l1_1), (2, .ref (gA G l2_2)), (3, .int l3_3), (4, .int (l4_14 + 1))]) 4 [1, 2, 3, 4, 0] dX7_keeps_44 rfl (by decide) rfl rfl ?_
  refine g_goto (tgt := 3) hw dX7_keeps_47 (by decide) ?_
  exact hR3 (l4_14 + 1) M h
def fX7_keeps_L3s (R3 : Int32 → gM → Prop) (K50_3 : gM → Prop) (l1_1 : Int32) (l2_2 : Nat) (l3_3 : Int32) (l4_4 : Int32) (M : gM) (Q : gM → Prop) : Prop :=
  (if 288 ≤ l4_4 then K50_3 M else (if l3_3 = 0 then gk M 268 = 7 ∧ gdr (gR M 268 57) (fun a8 => gk M l2_2 = 40 ∧ vp_in l4_4 (gl M l2_2) ∧ gk M a8 = 40 ∧ vp_in (l1_1 + l4_4) (gl M a8) ∧ fX7_keeps_b44 R3 l1_1 l2_2 l3_3 l4_4 (gsI M a8 ((l1_1 + l4_4).toNatClampNeg) (gI M l2_2 l4_4.toNatClampNeg)) Q) else gk M 268 = 7 ∧ gdr (gR M 268 57) (fun a16 => gk M a16 = 40 ∧ vp_in (l1_1 + l4_4) (gl M a16) ∧ gk M l2_2 = 40 ∧ vp_in l4_4 (gl M l2_2) ∧ fX7_keeps_b44 R3 l1_1 l2_2 l3_3 l4_4 (gsI M l2_2 l4_4.toNatClampNeg (gI M a16 ((l1_1 + l4_4).toNatClampNeg))) Q)))
def fX7_keeps_L3 (K50_3 : gM → Prop) (l1_1 : Int32) (l2_2 : Nat) (l3_3 : Int32) (Q : gM → Prop) : Nat → Int32 → gM → Prop
  | 0 => fun _ _ => False
  | n + 1 => fun l4_4 M => fX7_keeps_L3s (fX7_keeps_L3 K50_3 l1_1 l2_2 l3_3 Q n) K50_3 l1_1 l2_2 l3_3 l4_4 M Q
theorem wX7_keeps_L3s {kf : Nat} {G : gG} {w : gM → Nat → List (Nat × Value) → List Value → Prop} {Q : gM → Prop} (hw : gX yX7_keeps cX7_keeps 5 (Option.none : Option FieldType) [] kf G (gQv Q) gE0 w) (hkf : 1 ≤ kf) {R3 : Int32 → gM → Prop} {K50_3 : gM → Prop} {l1_1 : Int32} {l2_2 : Nat} {l3_3 : Int32} {l4_4 : Int32} {M : gM} (hR3 : ∀ (v0 : Int32) (M : gM), R3 v0 M → w M 3 [(0, .ref (gA G 268)), (1, .int l1_1), (2, .ref (gA G l2_2)), (3, .int l3_3), (4, .int v0)] []) (hK50_3 : ∀  (M : gM), K50_3 M → w M 50 [] []) (h : fX7_keeps_L3s R3 K50_3 l1_1 l2_2 l3_3 l4_4 M Q) : w M 3 [(0, .ref (gA G 268)), (1, .int l1_1), (2, .ref (gA G l2_2)), (3, .int l3_3), (4, .int l4_4)] [] := by
  unfold fX7_keeps_L3s at h
  refine g_iload hw 4 dX7_keeps_3 rfl ?_
  refine g_sipush (v := 288) hw dX7_keeps_5 (by decide) ?_
  refine g_icmp_ge (tgt := 50) hw dX7_keeps_8 (by decide) (fun hb5 => ?_) (fun hb5 => ?_)
  · have h := gT h hb5
    refine g_sub hw (lv2 := []) [] rfl ?_
    exact hK50_3 M h
  · have h := gF h hb5
    refine g_iload_n hw 3 dX7_keeps_11 rfl ?_
    refine g_if_eq (tgt := 31) hw dX7_keeps_12 (by decide) (fun hb6 => ?_) (fun hb6 => ?_)
    · have h := gT h hb6
      refine g_aload_n hw 0 dX7_keeps_31 rfl ?_
      obtain ⟨hk7, h⟩ := h
      obtain ⟨a8, e9, h⟩ := h
      refine gfX7_205 (q := some a8) hw rfl dX7_keeps_32 hk7 e9 ?_
      refine g_iload_n hw 1 dX7_keeps_35 rfl ?_
      refine g_iload hw 4 dX7_keeps_36 rfl ?_
      refine g_iadd hw dX7_keeps_38 ?_
      refine g_aload_n hw 2 dX7_keeps_39 rfl ?_
      refine g_iload hw 4 dX7_keeps_40 rfl ?_
      obtain ⟨hk10, h⟩ := h
      obtain ⟨hi11, h⟩ := h
      refine g_iald (n := l4_4.toNatClampNeg) hw dX7_keeps_42 hk10 hi11 rfl ?_
      obtain ⟨hk12, h⟩ := h
      obtain ⟨hi13, h⟩ := h
      refine g_iast (n := (l1_1 + l4_4).toNatClampNeg) hw dX7_keeps_43 hk12 hi13 rfl ?_
      exact wX7_keeps_b44 hw hkf hR3 h
    · have h := gF h hb6
      refine g_aload_n hw 2 dX7_keeps_15 rfl ?_
      refine g_iload hw 4 dX7_keeps_16 rfl ?_
      refine g_aload_n hw 0 dX7_keeps_18 rfl ?_
      obtain ⟨hk15, h⟩ := h
      obtain ⟨a16, e17, h⟩ := h
      refine gfX7_205 (q := some a16) hw rfl dX7_keeps_19 hk15 e17 ?_
      refine g_iload_n hw 1 dX7_keeps_22 rfl ?_
      refine g_iload hw 4 dX7_keeps_23 rfl ?_
      refine g_iadd hw dX7_keeps_25 ?_
      obtain ⟨hk18, h⟩ := h
      obtain ⟨hi19, h⟩ := h
      refine g_iald (n := (l1_1 + l4_4).toNatClampNeg) hw dX7_keeps_26 hk18 hi19 rfl ?_
      obtain ⟨hk20, h⟩ := h
      obtain ⟨hi21, h⟩ := h
      refine g_iast (n := l4_4.toNatClampNeg) hw dX7_keeps_27 hk20 hi21 rfl ?_
      refine g_goto (tgt := 44) hw dX7_keeps_28 (by decide) ?_
      exact wX7_keeps_b44 hw hkf hR3 h
theorem wX7_keeps_L3 {kf : Nat} {G : gG} {w : gM → Nat → List (Nat × Value) → List Value → Prop} {Q : gM → Prop} (hw : gX yX7_keeps cX7_keeps 5 (Option.none : Option FieldType) [] kf G (gQv Q) gE0 w) (hkf : 1 ≤ kf) {K50_3 : gM → Prop} {l1_1 : Int32} {l2_2 : Nat} {l3_3 : Int32} (hK50_3 : ∀  (M : gM), K50_3 M → w M 50 [] []) : ∀ (n : Nat) (l4_4 : Int32) (M : gM), fX7_keeps_L3 K50_3 l1_1 l2_2 l3_3 Q n l4_4 M → w M 3 [(0, .ref (gA G 268)), (1, .int l1_1), (2, .ref (gA G l2_2)), (3, .int l3_3), (4, .int l4_4)] [] := by
  intro n
  induction n with
  | zero => intro l4_4 M h; exact h.elim
  | succ n ih => intro l4_4 M h; exact wX7_keeps_L3s hw hkf ih hK50_3 h
def fX7_keeps (p1 : Int32) (p2 : Nat) (p3 : Int32) (M : gM) (Q : gM → Prop) : Prop :=
  ∃ n, fX7_keeps_L3 (fun M22 => Q M22) p1 p2 p3 Q n 0 M
theorem mX7_keeps {kf : Nat} (hkf : 1 ≤ kf) (G : gG) (p1 : Int32) (p2 : Nat) (p3 : Int32) (M : gM) (Q : gM → Prop) (h : fX7_keeps p1 p2 p3 M Q) : gMet yX7_keeps cX7_keeps 5 (Option.none : Option FieldType) kf G M [.ref (gA G 268), .int p1, .ref (gA G p2), .int p3] (gQv Q) gE0 := by
  refine g_intro (lv := [(0, .ref (gA G 268)), (1, .int p1), (2, .ref (gA G p2)), (3, .int p3)]) (by decide) rfl rfl (fun w hw => ?_)
  unfold fX7_keeps at h
  refine g_iconst (v := 0) hw dX7_keeps_0 (by decide) ?_
  refine g_istore hw (lv2 := [(0, .ref (gA G 268)), (1, .int p1), (2, .ref (gA G p2)), (3, .int p3), (4, .int 0)]) [1, 2, 3, 4, 0] dX7_keeps_1 rfl rfl ?_
  obtain ⟨n9, h⟩ := h
  refine wX7_keeps_L3 hw hkf (fun M22 h => ?_) n9 0 M h
  exact g_vret hw dX7_keeps_50 ⟨rfl, h⟩
theorem gfX7_199 {y0 : MethodName} {cc : ByteArray} {nL : Nat} {ret : Option FieldType} {hh : List (Nat × Nat × Nat × Nat)} {kf : Nat} {G : gG} {Qv : Option Value → gM → Prop} {E : String → Nat → gM → Prop} {w : gM → Nat → List (Nat × Value) → List Value → Prop} {M : gM} {pc : Nat} {lv : List (Nat × Value)} {rest : List Value} (hw : gX y0 cc nL ret hh kf G Qv E w) (hy : y0.cls = RX7) {c : Nat} {q : Option Nat} (d : decode cc pc = .ok (.getfield 199, 3)) (hk : gk M c = 7) (hq : gR M c 55 = q) (kk : w M (pc + 3) lv (va_rf (q.map (gA G)) :: rest)) : w M pc lv (.ref (gA G c) :: rest) := by
  obtain ⟨cls9, nm9, ds9⟩ := y0
  subst hy
  subst hq
  exact g_getC (C := RX7) (T := TX7) (N := 58) (ci := 6) hw in_X7 rfl 55 (by decide) (Or.inl q1211) rfl d hk kk
theorem gfX7_202 {y0 : MethodName} {cc : ByteArray} {nL : Nat} {ret : Option FieldType} {hh : List (Nat × Nat × Nat × Nat)} {kf : Nat} {G : gG} {Qv : Option Value → gM → Prop} {E : String → Nat → gM → Prop} {w : gM → Nat → List (Nat × Value) → List Value → Prop} {M : gM} {pc : Nat} {lv : List (Nat × Value)} {rest : List Value} (hw : gX y0 cc nL ret hh kf G Qv E w) (hy : y0.cls = RX7) {c : Nat} {q : Option Nat} (d : decode cc pc = .ok (.getfield 202, 3)) (hk : gk M c = 7) (hq : gR M c 56 = q) (kk : w M (pc + 3) lv (va_rf (q.map (gA G)) :: rest)) : w M pc lv (.ref (gA G c) :: rest) := by
  obtain ⟨cls9, nm9, ds9⟩ := y0
  subst hy
  subst hq
  exact g_getC (C := RX7) (T := TX7) (N := 58) (ci := 6) hw in_X7 rfl 56 (by decide) (Or.inl q1212) rfl d hk kk
theorem sX7_496 {y0 : MethodName} {cc : ByteArray} {nL : Nat} {ret : Option FieldType} {hh : List (Nat × Nat × Nat × Nat)} {kf : Nat} {G : gG} {Qv : Option Value → gM → Prop} {E : String → Nat → gM → Prop} {w : gM → Nat → List (Nat × Value) → List Value → Prop} {M : gM} {pc : Nat} {lv : List (Nat × Value)} {rest : List Value} (hw : gX y0 cc nL ret hh kf G Qv E w) (hy : y0.cls = RX7) {p1 : Int32} {p2 : Nat} {p3 : Int32} {Q : gM → Prop} (d : decode cc pc = .ok (.invokevirtual 496, 3)) (hrest : Nat.ble ((rest.map Value.category).sum) 8 = true) (hk : 1 + 1 ≤ kf) (hkd : gk M 268 = 7) (h : fX7_keeps p1 p2 p3 M Q) (kk : ∀ M1, Q M1 → w M1 (pc + 3) lv rest) : w M pc lv (.int p3 :: .ref (gA G p2) :: .int p1 :: .ref (gA G 268) :: rest) := by
  obtain ⟨cls9, nm9, ds9⟩ := y0
  subst hy
  exact g_callV (r := (RX7, TX7, 58)) (ci := 6) hw [.int p1, .ref (gA G p2), .int p3] (nA := 3) rfl d q1754 q1756 qs96 q104 q1757 (by decide +kernel) rfl rfl hrest rfl (by omega : kf - 1 + 1 ≤ kf) hkd (mX7_keeps (kf := kf - 1) (by omega) G p1 p2 p3 M Q h) (fun _ _ _ q => q.elim) (fun v M1 h => by obtain ⟨rfl, h⟩ := h; exact kk M1 h)
def fX7_mark_b76 (l1_18 : Int32) (l2_19 : Int32) (M : gM) (Q : Int32 → gM → Prop) : Prop :=
  gk M 268 = 7 ∧ gdr (gR M 268 18) (fun a21 => fX7_keeps (1728 * l1_18) a21 l2_19 M (fun M23 => gk M23 268 = 7 ∧ gdr (gR M23 268 19) (fun a26 => fX7_keeps ((1728 * l1_18) + 288) a26 l2_19 M23 (fun M28 => gk M28 268 = 7 ∧ gdr (gR M28 268 20) (fun a31 => fX7_keeps ((1728 * l1_18) + 576) a31 l2_19 M28 (fun M33 => gk M33 268 = 7 ∧ gdr (gR M33 268 21) (fun a36 => fX7_keeps ((1728 * l1_18) + 864) a36 l2_19 M33 (fun M38 => gk M38 268 = 7 ∧ gdr (gR M38 268 22) (fun a41 => fX7_keeps ((1728 * l1_18) + 1152) a41 l2_19 M38 (fun M43 => gk M43 268 = 7 ∧ gdr (gR M43 268 23) (fun a46 => fX7_keeps ((1728 * l1_18) + 1440) a46 l2_19 M43 (fun M48 => Q 1 M48))))))))))))
theorem wX7_mark_b76 {kf : Nat} {G : gG} {w : gM → Nat → List (Nat × Value) → List Value → Prop} {Q : Int32 → gM → Prop} (hw : gX yX7_mark cX7_mark 4 (Option.some FieldType.boolean) [] kf G (gQi Q) gE0 w) (hkf : 2 ≤ kf)  {l1_18 : Int32} {l2_19 : Int32} {M : gM}  (h : fX7_mark_b76 l1_18 l2_19 M Q) : w M 76 [(0, .ref (gA G 268)), (1, .int l1_18), (2, .int l2_19)] [] := by
  unfold fX7_mark_b76 at h
  refine g_sipush (v := 1728) hw dX7_mark_76 (by decide) ?_
  refine g_iload_n hw 1 dX7_mark_79 rfl ?_
  refine g_imul hw dX7_mark_80 ?_
  refine g_istore_n hw (lv2 := [(0, .ref (gA G 268)), (2, .int l2_19), (3, .int (1728 * l1_18))]) [1, 3, 0] dX7_mark_81 rfl rfl ?_
  refine g_aload_n hw 0 dX7_mark_82 rfl ?_
  refine g_iload_n hw 2 dX7_mark_83 rfl ?_
  refine g_aload_n hw 0 dX7_mark_84 rfl ?_
  obtain ⟨hk20, h⟩ := h
  obtain ⟨a21, e22, h⟩ := h
  refine gfX7_115 (q := some a21) hw rfl dX7_mark_85 hk20 e22 ?_
  refine g_iload_n hw 1 dX7_mark_88 rfl ?_
  refine sX7_496 hw rfl dX7_mark_89 rfl (gK2 hkf) hk20 h (fun M23 h => ?_)
  refine g_aload_n hw 0 dX7_mark_92 rfl ?_
  refine g_iload_n hw 2 dX7_mark_93 rfl ?_
  refine g_sipush (v := 288) hw dX7_mark_94 (by decide) ?_
  refine g_iadd hw dX7_mark_97 ?_
  refine g_aload_n hw 0 dX7_mark_98 rfl ?_
  obtain ⟨hk25, h⟩ := h
  obtain ⟨a26, e27, h⟩ := h
  refine gfX7_118 (q := some a26) hw rfl dX7_mark_99 hk25 e27 ?_
  refine g_iload_n hw 1 dX7_mark_102 rfl ?_
  refine sX7_496 hw rfl dX7_mark_103 rfl (gK2 hkf) hk25 h (fun M28 h => ?_)
  refine g_aload_n hw 0 dX7_mark_106 rfl ?_
  refine g_iload_n hw 2 dX7_mark_107 rfl ?_
  refine g_sipush (v := 576) hw dX7_mark_108 (by decide) ?_
  refine g_iadd hw dX7_mark_111 ?_
  refine g_aload_n hw 0 dX7_mark_112 rfl ?_
  obtain ⟨hk30, h⟩ := h
  obtain ⟨a31, e32, h⟩ := h
  refine gfX7_121 (q := some a31) hw rfl dX7_mark_113 hk30 e32 ?_
  refine g_iload_n hw 1 dX7_mark_116 rfl ?_
  refine sX7_496 hw rfl dX7_mark_117 rfl (gK2 hkf) hk30 h (fun M33 h => ?_)
  refine g_aload_n hw 0 dX7_mark_120 rfl ?_
  refine g_iload_n hw 2 dX7_mark_121 rfl ?_
  refine g_sipush (v := 864) hw dX7_mark_122 (by decide) ?_
  refine g_iadd hw dX7_mark_125 ?_
  refine g_aload_n hw 0 dX7_mark_126 rfl ?_
  obtain ⟨hk35, h⟩ := h
  obtain ⟨a36, e37, h⟩ := h
  refine gfX7_124 (q := some a36) hw rfl dX7_mark_127 hk35 e37 ?_
  refine g_iload_n hw 1 dX7_mark_130 rfl ?_
  refine sX7_496 hw rfl dX7_mark_131 rfl (gK2 hkf) hk35 h (fun M38 h => ?_)
  refine g_aload_n hw 0 dX7_mark_134 rfl ?_
  refine g_iload_n hw 2 dX7_mark_135 rfl ?_
  refine g_sipush (v := 1152) hw dX7_mark_136 (by decide) ?_
  refine g_iadd hw dX7_mark_139 ?_
  refine g_aload_n hw 0 dX7_mark_140 rfl ?_
  obtain ⟨hk40, h⟩ := h
  obtain ⟨a41, e42, h⟩ := h
  refine gfX7_127 (q := some a41) hw rfl dX7_mark_141 hk40 e42 ?_
  refine g_iload_n hw 1 dX7_mark_144 rfl ?_
  refine sX7_496 hw rfl dX7_mark_145 rfl (gK2 hkf) hk40 h (fun M43 h => ?_)
  refine g_aload_n hw 0 dX7_mark_148 rfl ?_
  refine g_iload_n hw 2 dX7_mark_149 rfl ?_
  refine g_sipush (v := 1440) hw dX7_mark_150 (by decide) ?_
  refine g_iadd hw dX7_mark_153 ?_
  refine g_aload_n hw 0 dX7_mark_154 rfl ?_
  obtain ⟨hk45, h⟩ := h
  obtain ⟨a46, e47, h⟩ := h
  refine gfX7_130 (q := some a46) hw rfl dX7_mark_155 hk45 e47 ?_
  refine g_iload_n hw 1 dX7_mark_158 rfl ?_
  refine sX7_496 hw rfl dX7_mark_159 rfl (gK2 hkf) hk45 h (fun M48 h => ?_)
  refine g_iconst (v := 1) hw dX7_mark_162 (by decide) ?_
  exact g_iret hw dX7_mark_163 (by decide +kernel) ⟨_, rfl, h⟩
def fX7_mark_b42 (l1_6 : Int32) (l2_7 : Int32) (M : gM) (Q : Int32 → gM → Prop) : Prop :=
  (if l2_7 = 0 then gk M 268 = 7 ∧ gdr (gR M 268 55) (fun a10 => gk M a10 = 43 ∧ vp_in l1_6 (gl M a10) ∧ gdr (gR (gsI M a10 l1_6.toNatClampNeg 1) 268 56) (fun a14 => gk (gsI M a10 l1_6.toNatClampNeg 1) a14 = 40 ∧ vp_in l1_6 (gl (gsI M a10 l1_6.toNatClampNeg 1) a14) ∧ fX7_mark_b76 l1_6 l2_7 (gsI (gsI M a10 l1_6.toNatClampNeg 1) a14 l1_6.toNatClampNeg (gI (gsI M a10 l1_6.toNatClampNeg 1) 268 41)) Q)) else gk M 268 = 7 ∧ gdr (gR M 268 56) (fun a51 => gk M a51 = 40 ∧ vp_in l1_6 (gl M a51) ∧ fX7_mark_b76 l1_6 l2_7 (gsI M 268 41 (gI M a51 l1_6.toNatClampNeg)) Q))
theorem wX7_mark_b42 {kf : Nat} {G : gG} {w : gM → Nat → List (Nat × Value) → List Value → Prop} {Q : Int32 → gM → Prop} (hw : gX yX7_mark cX7_mark 4 (Option.some FieldType.boolean) [] kf G (gQi Q) gE0 w) (hkf : 2 ≤ kf)  {l1_6 : Int32} {l2_7 : Int32} {M : gM}  (h : fX7_mark_b42 l1_6 l2_7 M Q) : w M 42 [(0, .ref (gA G 268)), (1, .int l1_6), (2, .int l2_7)] [] := by
  unfold fX7_mark_b42 at h
  refine g_iload_n hw 2 dX7_mark_42 rfl ?_
  refine g_if_eq (tgt := 59) hw dX7_mark_43 (by decide) (fun hb8 => ?_) (fun hb8 => ?_)
  · have h := gT h hb8
    refine g_aload_n hw 0 dX7_mark_59 rfl ?_
    obtain ⟨hk9, h⟩ := h
    obtain ⟨a10, e11, h⟩ := h
    refine gfX7_199 (q := some a10) hw rfl dX7_mark_60 hk9 e11 ?_
    refine g_iload_n hw 1 dX7_mark_63 rfl ?_
    refine g_iconst (v := 1) hw dX7_mark_64 (by decide) ?_
    obtain ⟨hk12, h⟩ := h
    obtain ⟨hi13, h⟩ := h
    refine g_zast (n := l1_6.toNatClampNeg) hw dX7_mark_65 hk12 hi13 rfl (by decide +kernel) ?_
    refine g_aload_n hw 0 dX7_mark_66 rfl ?_
    obtain ⟨a14, e15, h⟩ := h
    refine gfX7_202 (q := some a14) hw rfl dX7_mark_67 hk9 e15 ?_
    refine g_iload_n hw 1 dX7_mark_70 rfl ?_
    refine g_aload_n hw 0 dX7_mark_71 rfl ?_
    refine gfX7_428 hw rfl dX7_mark_72 hk9 ?_
    obtain ⟨hk16, h⟩ := h
    obtain ⟨hi17, h⟩ := h
    refine g_iast (n := l1_6.toNatClampNeg) hw dX7_mark_75 hk16 hi17 rfl ?_
    exact wX7_mark_b76 hw hkf h
  · have h := gF h hb8
    refine g_aload_n hw 0 dX7_mark_46 rfl ?_
    refine g_aload_n hw 0 dX7_mark_47 rfl ?_
    obtain ⟨hk50, h⟩ := h
    obtain ⟨a51, e52, h⟩ := h
    refine gfX7_202 (q := some a51) hw rfl dX7_mark_48 hk50 e52 ?_
    refine g_iload_n hw 1 dX7_mark_51 rfl ?_
    obtain ⟨hk53, h⟩ := h
    obtain ⟨hi54, h⟩ := h
    refine g_iald (n := l1_6.toNatClampNeg) hw dX7_mark_52 hk53 hi54 rfl ?_
    refine pfX7_428 hw rfl dX7_mark_53 hk50 ?_
    refine g_goto (tgt := 76) hw dX7_mark_56 (by decide) ?_
    exact wX7_mark_b76 hw hkf h
def fX7_mark (p1 : Int32) (p2 : Int32) (M : gM) (Q : Int32 → gM → Prop) : Prop :=
  gk M 268 = 7 ∧ fX7_within p1 0 3 (gsI M 268 0 0) (fun r3 M2 => (if r3 = 0 then Q 0 M2 else (if p2 = 0 then fX7_mark_b42 p1 p2 M2 Q else gk M2 268 = 7 ∧ gdr (gR M2 268 55) (fun a56 => gk M2 a56 = 43 ∧ vp_in p1 (gl M2 a56) ∧ (if (gI M2 a56 p1.toNatClampNeg) = 0 then Q 0 M2 else gdr (gR M2 268 56) (fun a61 => gk M2 a61 = 40 ∧ vp_in p1 (gl M2 a61) ∧ (if (gI M2 a61 p1.toNatClampNeg) ≤ (gI M2 268 41) then fX7_mark_b42 p1 p2 M2 Q else Q 0 M2)))))))
theorem mX7_mark {kf : Nat} (hkf : 2 ≤ kf) (G : gG) (p1 : Int32) (p2 : Int32) (M : gM) (Q : Int32 → gM → Prop) (h : fX7_mark p1 p2 M Q) : gMet yX7_mark cX7_mark 4 (Option.some FieldType.boolean) kf G M [.ref (gA G 268), .int p1, .int p2] (gQi Q) gE0 := by
  refine g_intro (lv := [(0, .ref (gA G 268)), (1, .int p1), (2, .int p2)]) (by decide) rfl rfl (fun w hw => ?_)
  unfold fX7_mark at h
  refine g_aload_n hw 0 dX7_mark_0 rfl ?_
  refine g_iconst (v := 0) hw dX7_mark_1 (by decide) ?_
  obtain ⟨hk1, h⟩ := h
  refine pfX7_1 hw rfl dX7_mark_2 hk1 ?_
  refine g_iload_n hw 1 dX7_mark_5 rfl ?_
  refine g_iconst (v := 0) hw dX7_mark_6 (by decide) ?_
  refine g_iconst (v := 3) hw dX7_mark_7 (by decide) ?_
  refine sX7_253 hw rfl dX7_mark_8 rfl (gK2 hkf) h (fun r3 M2 h => ?_)
  refine g_if_eq (tgt := 40) hw dX7_mark_11 (by decide) (fun hb4 => ?_) (fun hb4 => ?_)
  · have h := gT h hb4
    refine g_iconst (v := 0) hw dX7_mark_40 (by decide) ?_
    exact g_iret hw dX7_mark_41 (by decide +kernel) ⟨_, rfl, h⟩
  · have h := gF h hb4
    refine g_iload_n hw 2 dX7_mark_14 rfl ?_
    refine g_if_eq (tgt := 42) hw dX7_mark_15 (by decide) (fun hb5 => ?_) (fun hb5 => ?_)
    · have h := gT h hb5
      exact wX7_mark_b42 hw hkf h
    · have h := gF h hb5
      refine g_aload_n hw 0 dX7_mark_18 rfl ?_
      obtain ⟨hk55, h⟩ := h
      obtain ⟨a56, e57, h⟩ := h
      refine gfX7_199 (q := some a56) hw rfl dX7_mark_19 hk55 e57 ?_
      refine g_iload_n hw 1 dX7_mark_22 rfl ?_
      obtain ⟨hk58, h⟩ := h
      obtain ⟨hi59, h⟩ := h
      refine g_zald (n := p1.toNatClampNeg) hw dX7_mark_23 hk58 hi59 rfl ?_
      refine g_if_eq (tgt := 40) hw dX7_mark_24 (by decide) (fun hb60 => ?_) (fun hb60 => ?_)
      · have h := gT h hb60
        refine g_iconst (v := 0) hw dX7_mark_40 (by decide) ?_
        exact g_iret hw dX7_mark_41 (by decide +kernel) ⟨_, rfl, h⟩
      · have h := gF h hb60
        refine g_aload_n hw 0 dX7_mark_27 rfl ?_
        refine gfX7_428 hw rfl dX7_mark_28 hk55 ?_
        refine g_aload_n hw 0 dX7_mark_31 rfl ?_
        obtain ⟨a61, e62, h⟩ := h
        refine gfX7_202 (q := some a61) hw rfl dX7_mark_32 hk55 e62 ?_
        refine g_iload_n hw 1 dX7_mark_35 rfl ?_
        obtain ⟨hk63, h⟩ := h
        obtain ⟨hi64, h⟩ := h
        refine g_iald (n := p1.toNatClampNeg) hw dX7_mark_36 hk63 hi64 rfl ?_
        refine g_icmp_ge (tgt := 42) hw dX7_mark_37 (by decide) (fun hb65 => ?_) (fun hb65 => ?_)
        · have h := gT h hb65
          exact wX7_mark_b42 hw hkf h
        · have h := gF h hb65
          refine g_iconst (v := 0) hw dX7_mark_40 (by decide) ?_
          exact g_iret hw dX7_mark_41 (by decide +kernel) ⟨_, rfl, h⟩
def fX7_count_b92 (R58 : Int32 → Int32 → gM → Prop) (l1_2 : Int32) (l3_14 : Int32) (s0_15 : Int32) (s1_16 : Int32) (M : gM) (Q : Int32 → gM → Prop) : Prop :=
  R58 (s0_15 + s1_16) (l3_14 + 1) M
theorem wX7_count_b92 {kf : Nat} {G : gG} {w : gM → Nat → List (Nat × Value) → List Value → Prop} {Q : Int32 → gM → Prop} (hw : gX yX7_count cX7_count 4 (Option.some FieldType.int) [] kf G (gQi Q) gE0 w) (hkf : 1 ≤ kf) {R58 : Int32 → Int32 → gM → Prop} {l1_2 : Int32} {l3_14 : Int32} {s0_15 : Int32} {s1_16 : Int32} {M : gM} (hR58 : ∀ (v0 : Int32) (v1 : Int32) (M : gM), R58 v0 v1 M → w M 58 [(0, .ref (gA G 268)), (1, .int l1_2), (2, .int v0), (3, .int v1)] []) (h : fX7_count_b92 R58 l1_2 l3_14 s0_15 s1_16 M Q) : w M 92 [(0, .ref (gA G 268)), (1, .int l1_2), (3, .int l3_14)] [.int s1_16, .int s0_15] := by
  unfold fX7_count_b92 at h
  refine g_iadd hw dX7_count_92 ?_
  refine g_istore_n hw (lv2 := [(0, .ref (gA G 268)), (1, .int l1_2), (2, .int (s0_15 + s1_16)), (3, .int l3_14)]) [1, 2, 0, 3] dX7_count_93 rfl rfl ?_
  refine g_iinc hw (lv2 := [(0, .ref (gA G 268)), (1, .int l1_2), (2, .int (s0_15 + s1_16)), (3, .int (l3_14 + 1))]) 3 [1, 2, 3, 0] dX7_count_94 rfl (by decide) rfl rfl ?_
  refine g_goto (tgt := 58) hw dX7_count_97 (by decide) ?_
  exact hR58 (s0_15 + s1_16) (l3_14 + 1) M h
def fX7_count_b91 (R58 : Int32 → Int32 → gM → Prop) (l1_2 : Int32) (l3_12 : Int32) (s0_13 : Int32) (M : gM) (Q : Int32 → gM → Prop) : Prop :=
  fX7_count_b92 R58 l1_2 l3_12 s0_13 0 M Q
theorem wX7_count_b91 {kf : Nat} {G : gG} {w : gM → Nat → List (Nat × Value) → List Value → Prop} {Q : Int32 → gM → Prop} (hw : gX yX7_count cX7_count 4 (Option.some FieldType.int) [] kf G (gQi Q) gE0 w) (hkf : 1 ≤ kf) {R58 : Int32 → Int32 → gM → Prop} {l1_2 : Int32} {l3_12 : Int32} {s0_13 : Int32} {M : gM} (hR58 : ∀ (v0 : Int32) (v1 : Int32) (M : gM), R58 v0 v1 M → w M 58 [(0, .ref (gA G 268)), (1, .int l1_2), (2, .int v0), (3, .int v1)] []) (h : fX7_count_b91 R58 l1_2 l3_12 s0_13 M Q) : w M 91 [(0, .ref (gA G 268)), (1, .int l1_2), (3, .int l3_12)] [.int s0_13] := by
  unfold fX7_count_b91 at h
  refine g_iconst (v := 0) hw dX7_count_91 (by decide) ?_
  exact wX7_count_b92 hw hkf hR58 h
def fX7_count_b87 (R58 : Int32 → Int32 → gM → Prop) (l1_2 : Int32) (l3_18 : Int32) (s0_19 : Int32) (M : gM) (Q : Int32 → gM → Prop) : Prop :=
  fX7_count_b92 R58 l1_2 l3_18 s0_19 1 M Q
theorem wX7_count_b87 {kf : Nat} {G : gG} {w : gM → Nat → List (Nat × Value) → List Value → Prop} {Q : Int32 → gM → Prop} (hw : gX yX7_count cX7_count 4 (Option.some FieldType.int) [] kf G (gQi Q) gE0 w) (hkf : 1 ≤ kf) {R58 : Int32 → Int32 → gM → Prop} {l1_2 : Int32} {l3_18 : Int32} {s0_19 : Int32} {M : gM} (hR58 : ∀ (v0 : Int32) (v1 : Int32) (M : gM), R58 v0 v1 M → w M 58 [(0, .ref (gA G 268)), (1, .int l1_2), (2, .int v0), (3, .int v1)] []) (h : fX7_count_b87 R58 l1_2 l3_18 s0_19 M Q) : w M 87 [(0, .ref (gA G 268)), (1, .int l1_2), (3, .int l3_18)] [.int s0_19] := by
  unfold fX7_count_b87 at h
  refine g_iconst (v := 1) hw dX7_count_87 (by decide) ?_
  refine g_goto (tgt := 92) hw dX7_count_88 (by decide) ?_
  exact wX7_count_b92 hw hkf hR58 h
def fX7_count_L58s (R58 : Int32 → Int32 → gM → Prop) (K100_58 : Int32 → gM → Prop) (l1_2 : Int32) (l2_3 : Int32) (l3_4 : Int32) (M : gM) (Q : Int32 → gM → Prop) : Prop :=
  (if 24 ≤ l3_4 then K100_58 l2_3 M else gk M 268 = 7 ∧ gdr (gR M 268 10) (fun a7 => gk M a7 = 43 ∧ vp_in l3_4 (gl M a7) ∧ (if (gI M a7 l3_4.toNatClampNeg) = 0 then fX7_count_b91 R58 l1_2 l3_4 l2_3 M Q else (if l1_2 = 0 then fX7_count_b87 R58 l1_2 l3_4 l2_3 M Q else gdr (gR M 268 14) (fun a20 => gk M a20 = 43 ∧ vp_in l3_4 (gl M a20) ∧ (if (gI M a20 l3_4.toNatClampNeg) = 0 then fX7_count_b91 R58 l1_2 l3_4 l2_3 M Q else fX7_count_b87 R58 l1_2 l3_4 l2_3 M Q))))))
def fX7_count_L58 (K100_58 : Int32 → gM → Prop) (l1_2 : Int32) (Q : Int32 → gM → Prop) : Nat → Int32 → Int32 → gM → Prop
  | 0 => fun _ _ _ => False
  | n + 1 => fun l2_3 l3_4 M => fX7_count_L58s (fX7_count_L58 K100_58 l1_2 Q n) K100_58 l1_2 l2_3 l3_4 M Q
theorem wX7_count_L58s {kf : Nat} {G : gG} {w : gM → Nat → List (Nat × Value) → List Value → Prop} {Q : Int32 → gM → Prop} (hw : gX yX7_count cX7_count 4 (Option.some FieldType.int) [] kf G (gQi Q) gE0 w) (hkf : 1 ≤ kf) {R58 : Int32 → Int32 → gM → Prop} {K100_58 : Int32 → gM → Prop} {l1_2 : Int32} {l2_3 : Int32} {l3_4 : Int32} {M : gM} (hR58 : ∀ (v0 : Int32) (v1 : Int32) (M : gM), R58 v0 v1 M → w M 58 [(0, .ref (gA G 268)), (1, .int l1_2), (2, .int v0), (3, .int v1)] []) (hK100_58 : ∀ (v0 : Int32) (M : gM), K100_58 v0 M → w M 100 [(2, .int v0)] []) (h : fX7_count_L58s R58 K100_58 l1_2 l2_3 l3_4 M Q) : w M 58 [(0, .ref (gA G 268)), (1, .int l1_2), (2, .int l2_3), (3, .int l3_4)] [] := by
  unfold fX7_count_L58s at h
  refine g_iload_n hw 3 dX7_count_58 rfl ?_
  refine g_bipush (v := 24) hw dX7_count_59 (by decide) ?_
  refine g_icmp_ge (tgt := 100) hw dX7_count_61 (by decide) (fun hb5 => ?_) (fun hb5 => ?_)
  · have h := gT h hb5
    refine g_sub hw (lv2 := [(2, .int l2_3)]) [2] rfl ?_
    exact hK100_58 l2_3 M h
  · have h := gF h hb5
    refine g_iload_n hw 2 dX7_count_64 rfl ?_
    refine g_aload_n hw 0 dX7_count_65 rfl ?_
    obtain ⟨hk6, h⟩ := h
    obtain ⟨a7, e8, h⟩ := h
    refine gfX7_93 (q := some a7) hw rfl dX7_count_66 hk6 e8 ?_
    refine g_iload_n hw 3 dX7_count_69 rfl ?_
    obtain ⟨hk9, h⟩ := h
    obtain ⟨hi10, h⟩ := h
    refine g_zald (n := l3_4.toNatClampNeg) hw dX7_count_70 hk9 hi10 rfl ?_
    refine g_if_eq (tgt := 91) hw dX7_count_71 (by decide) (fun hb11 => ?_) (fun hb11 => ?_)
    · have h := gT h hb11
      refine g_sub hw (lv2 := [(0, .ref (gA G 268)), (1, .int l1_2), (3, .int l3_4)]) [0, 1, 3] rfl ?_
      exact wX7_count_b91 hw hkf hR58 h
    · have h := gF h hb11
      refine g_iload_n hw 1 dX7_count_74 rfl ?_
      refine g_if_eq (tgt := 87) hw dX7_count_75 (by decide) (fun hb17 => ?_) (fun hb17 => ?_)
      · have h := gT h hb17
        refine g_sub hw (lv2 := [(0, .ref (gA G 268)), (1, .int l1_2), (3, .int l3_4)]) [0, 1, 3] rfl ?_
        exact wX7_count_b87 hw hkf hR58 h
      · have h := gF h hb17
        refine g_aload_n hw 0 dX7_count_78 rfl ?_
        obtain ⟨a20, e21, h⟩ := h
        refine gfX7_106 (q := some a20) hw rfl dX7_count_79 hk6 e21 ?_
        refine g_iload_n hw 3 dX7_count_82 rfl ?_
        obtain ⟨hk22, h⟩ := h
        obtain ⟨hi23, h⟩ := h
        refine g_zald (n := l3_4.toNatClampNeg) hw dX7_count_83 hk22 hi23 rfl ?_
        refine g_if_eq (tgt := 91) hw dX7_count_84 (by decide) (fun hb24 => ?_) (fun hb24 => ?_)
        · have h := gT h hb24
          refine g_sub hw (lv2 := [(0, .ref (gA G 268)), (1, .int l1_2), (3, .int l3_4)]) [0, 1, 3] rfl ?_
          exact wX7_count_b91 hw hkf hR58 h
        · have h := gF h hb24
          refine g_sub hw (lv2 := [(0, .ref (gA G 268)), (1, .int l1_2), (3, .int l3_4)]) [0, 1, 3] rfl ?_
          exact wX7_count_b87 hw hkf hR58 h
theorem wX7_count_L58 {kf : Nat} {G : gG} {w : gM → Nat → List (Nat × Value) → List Value → Prop} {Q : Int32 → gM → Prop} (hw : gX yX7_count cX7_count 4 (Option.some FieldType.int) [] kf G (gQi Q) gE0 w) (hkf : 1 ≤ kf) {K100_58 : Int32 → gM → Prop} {l1_2 : Int32} (hK100_58 : ∀ (v0 : Int32) (M : gM), K100_58 v0 M → w M 100 [(2, .int v0)] []) : ∀ (n : Nat) (l2_3 : Int32) (l3_4 : Int32) (M : gM), fX7_count_L58 K100_58 l1_2 Q n l2_3 l3_4 M → w M 58 [(0, .ref (gA G 268)), (1, .int l1_2), (2, .int l2_3), (3, .int l3_4)] [] := by
  intro n
  induction n with
  | zero => intro l2_3 l3_4 M h; exact h.elim
  | succ n ih => intro l2_3 l3_4 M h; exact wX7_count_L58s hw hkf ih hK100_58 h
def fX7_count_b140 (R104 : Int32 → Int32 → gM → Prop) (l1_27 : Int32) (l3_37 : Int32) (s0_38 : Int32) (s1_39 : Int32) (M : gM) (Q : Int32 → gM → Prop) : Prop :=
  R104 (s0_38 + s1_39) (l3_37 + 1) M
theorem wX7_count_b140 {kf : Nat} {G : gG} {w : gM → Nat → List (Nat × Value) → List Value → Prop} {Q : Int32 → gM → Prop} (hw : gX yX7_count cX7_count 4 (Option.some FieldType.int) [] kf G (gQi Q) gE0 w) (hkf : 1 ≤ kf) {R104 : Int32 → Int32 → gM → Prop} {l1_27 : Int32} {l3_37 : Int32} {s0_38 : Int32} {s1_39 : Int32} {M : gM} (hR104 : ∀ (v0 : Int32) (v1 : Int32) (M : gM), R104 v0 v1 M → w M 104 [(0, .ref (gA G 268)), (1, .int l1_27), (2, .int v0), (3, .int v1)] []) (h : fX7_count_b140 R104 l1_27 l3_37 s0_38 s1_39 M Q) : w M 140 [(0, .ref (gA G 268)), (1, .int l1_27), (3, .int l3_37)] [.int s1_39, .int s0_38] := by
  unfold fX7_count_b140 at h
  refine g_iadd hw dX7_count_140 ?_
  refine g_istore_n hw (lv2 := [(0, .ref (gA G 268)), (1, .int l1_27), (2, .int (s0_38 + s1_39)), (3, .int l3_37)]) [1, 2, 0, 3] dX7_count_141 rfl rfl ?_
  refine g_iinc hw (lv2 := [(0, .ref (gA G 268)), (1, .int l1_27), (2, .int (s0_38 + s1_39)), (3, .int (l3_37 + 1))]) 3 [1, 2, 3, 0] dX7_count_142 rfl (by decide) rfl rfl ?_
  refine g_goto (tgt := 104) hw dX7_count_145 (by decide) ?_
  exact hR104 (s0_38 + s1_39) (l3_37 + 1) M h
def fX7_count_L104s (R104 : Int32 → Int32 → gM → Prop) (K148_104 : Int32 → gM → Prop) (l1_27 : Int32) (l2_28 : Int32) (l3_29 : Int32) (M : gM) (Q : Int32 → gM → Prop) : Prop :=
  (if 288 ≤ l3_29 then K148_104 l2_28 M else (if l1_27 = 1 then gk M 268 = 7 ∧ gdr (gR M 268 18) (fun a41 => gk M a41 = 40 ∧ vp_in l3_29 (gl M a41) ∧ (if (gI M a41 l3_29.toNatClampNeg) = 0 then fX7_count_b140 R104 l1_27 l3_29 l2_28 0 M Q else fX7_count_b140 R104 l1_27 l3_29 l2_28 1 M Q)) else gk M 268 = 7 ∧ gdr (gR M 268 21) (fun a33 => gk M a33 = 40 ∧ vp_in l3_29 (gl M a33) ∧ fX7_count_b140 R104 l1_27 l3_29 l2_28 (gI M a33 l3_29.toNatClampNeg) M Q)))
def fX7_count_L104 (K148_104 : Int32 → gM → Prop) (l1_27 : Int32) (Q : Int32 → gM → Prop) : Nat → Int32 → Int32 → gM → Prop
  | 0 => fun _ _ _ => False
  | n + 1 => fun l2_28 l3_29 M => fX7_count_L104s (fX7_count_L104 K148_104 l1_27 Q n) K148_104 l1_27 l2_28 l3_29 M Q
theorem wX7_count_L104s {kf : Nat} {G : gG} {w : gM → Nat → List (Nat × Value) → List Value → Prop} {Q : Int32 → gM → Prop} (hw : gX yX7_count cX7_count 4 (Option.some FieldType.int) [] kf G (gQi Q) gE0 w) (hkf : 1 ≤ kf) {R104 : Int32 → Int32 → gM → Prop} {K148_104 : Int32 → gM → Prop} {l1_27 : Int32} {l2_28 : Int32} {l3_29 : Int32} {M : gM} (hR104 : ∀ (v0 : Int32) (v1 : Int32) (M : gM), R104 v0 v1 M → w M 104 [(0, .ref (gA G 268)), (1, .int l1_27), (2, .int v0), (3, .int v1)] []) (hK148_104 : ∀ (v0 : Int32) (M : gM), K148_104 v0 M → w M 148 [(2, .int v0)] []) (h : fX7_count_L104s R104 K148_104 l1_27 l2_28 l3_29 M Q) : w M 104 [(0, .ref (gA G 268)), (1, .int l1_27), (2, .int l2_28), (3, .int l3_29)] [] := by
  unfold fX7_count_L104s at h
  refine g_iload_n hw 3 dX7_count_104 rfl ?_
  refine g_sipush (v := 288) hw dX7_count_105 (by decide) ?_
  refine g_icmp_ge (tgt := 148) hw dX7_count_108 (by decide) (fun hb30 => ?_) (fun hb30 => ?_)
  · have h := gT h hb30
    refine g_sub hw (lv2 := [(2, .int l2_28)]) [2] rfl ?_
    exact hK148_104 l2_28 M h
  · have h := gF h hb30
    refine g_iload_n hw 2 dX7_count_111 rfl ?_
    refine g_iload_n hw 1 dX7_count_112 rfl ?_
    refine g_iconst (v := 1) hw dX7_count_113 (by decide) ?_
    refine g_icmp_ne (tgt := 134) hw dX7_count_114 (by decide) (fun hb31 => ?_) (fun hb31 => ?_)
    · have h := gF h hb31
      refine g_aload_n hw 0 dX7_count_134 rfl ?_
      obtain ⟨hk32, h⟩ := h
      obtain ⟨a33, e34, h⟩ := h
      refine gfX7_124 (q := some a33) hw rfl dX7_count_135 hk32 e34 ?_
      refine g_iload_n hw 3 dX7_count_138 rfl ?_
      obtain ⟨hk35, h⟩ := h
      obtain ⟨hi36, h⟩ := h
      refine g_iald (n := l3_29.toNatClampNeg) hw dX7_count_139 hk35 hi36 rfl ?_
      refine g_sub hw (lv2 := [(0, .ref (gA G 268)), (1, .int l1_27), (3, .int l3_29)]) [0, 1, 3] rfl ?_
      exact wX7_count_b140 hw hkf hR104 h
    · have h := gT h hb31
      refine g_aload_n hw 0 dX7_count_117 rfl ?_
      obtain ⟨hk40, h⟩ := h
      obtain ⟨a41, e42, h⟩ := h
      refine gfX7_115 (q := some a41) hw rfl dX7_count_118 hk40 e42 ?_
      refine g_iload_n hw 3 dX7_count_121 rfl ?_
      obtain ⟨hk43, h⟩ := h
      obtain ⟨hi44, h⟩ := h
      refine g_iald (n := l3_29.toNatClampNeg) hw dX7_count_122 hk43 hi44 rfl ?_
      refine g_if_eq (tgt := 130) hw dX7_count_123 (by decide) (fun hb45 => ?_) (fun hb45 => ?_)
      · have h := gT h hb45
        refine g_iconst (v := 0) hw dX7_count_130 (by decide) ?_
        refine g_goto (tgt := 140) hw dX7_count_131 (by decide) ?_
        refine g_sub hw (lv2 := [(0, .ref (gA G 268)), (1, .int l1_27), (3, .int l3_29)]) [0, 1, 3] rfl ?_
        exact wX7_count_b140 hw hkf hR104 h
      · have h := gF h hb45
        refine g_iconst (v := 1) hw dX7_count_126 (by decide) ?_
        refine g_goto (tgt := 140) hw dX7_count_127 (by decide) ?_
        refine g_sub hw (lv2 := [(0, .ref (gA G 268)), (1, .int l1_27), (3, .int l3_29)]) [0, 1, 3] rfl ?_
        exact wX7_count_b140 hw hkf hR104 h
theorem wX7_count_L104 {kf : Nat} {G : gG} {w : gM → Nat → List (Nat × Value) → List Value → Prop} {Q : Int32 → gM → Prop} (hw : gX yX7_count cX7_count 4 (Option.some FieldType.int) [] kf G (gQi Q) gE0 w) (hkf : 1 ≤ kf) {K148_104 : Int32 → gM → Prop} {l1_27 : Int32} (hK148_104 : ∀ (v0 : Int32) (M : gM), K148_104 v0 M → w M 148 [(2, .int v0)] []) : ∀ (n : Nat) (l2_28 : Int32) (l3_29 : Int32) (M : gM), fX7_count_L104 K148_104 l1_27 Q n l2_28 l3_29 M → w M 104 [(0, .ref (gA G 268)), (1, .int l1_27), (2, .int l2_28), (3, .int l3_29)] [] := by
  intro n
  induction n with
  | zero => intro l2_28 l3_29 M h; exact h.elim
  | succ n ih => intro l2_28 l3_29 M h; exact wX7_count_L104s hw hkf ih hK148_104 h
def fX7_count_b180 (R157 : Int32 → Int32 → gM → Prop) (l3_59 : Int32) (s0_60 : Int32) (s1_61 : Int32) (M : gM) (Q : Int32 → gM → Prop) : Prop :=
  R157 (s0_60 + s1_61) (l3_59 + 1) M
theorem wX7_count_b180 {kf : Nat} {G : gG} {w : gM → Nat → List (Nat × Value) → List Value → Prop} {Q : Int32 → gM → Prop} (hw : gX yX7_count cX7_count 4 (Option.some FieldType.int) [] kf G (gQi Q) gE0 w) (hkf : 1 ≤ kf) {R157 : Int32 → Int32 → gM → Prop} {l3_59 : Int32} {s0_60 : Int32} {s1_61 : Int32} {M : gM} (hR157 : ∀ (v0 : Int32) (v1 : Int32) (M : gM), R157 v0 v1 M → w M 157 [(0, .ref (gA G 268)), (2, .int v0), (3, .int v1)] []) (h : fX7_count_b180 R157 l3_59 s0_60 s1_61 M Q) : w M 180 [(0, .ref (gA G 268)), (3, .int l3_59)] [.int s1_61, .int s0_60] := by
  unfold fX7_count_b180 at h
  refine g_iadd hw dX7_count_180 ?_
  refine g_istore_n hw (lv2 := [(0, .ref (gA G 268)), (2, .int (s0_60 + s1_61)), (3, .int l3_59)]) [1, 0, 2] dX7_count_181 rfl rfl ?_
  refine g_iinc hw (lv2 := [(0, .ref (gA G 268)), (2, .int (s0_60 + s1_61)), (3, .int (l3_59 + 1))]) 2 [1, 2, 0] dX7_count_182 rfl (by decide) rfl rfl ?_
  refine g_goto (tgt := 157) hw dX7_count_185 (by decide) ?_
  exact hR157 (s0_60 + s1_61) (l3_59 + 1) M h
def fX7_count_L157s (R157 : Int32 → Int32 → gM → Prop) (K188_157 : Int32 → gM → Prop) (l2_50 : Int32) (l3_51 : Int32) (M : gM) (Q : Int32 → gM → Prop) : Prop :=
  gk M 268 = 7 ∧ (if (gI M 268 41) ≤ l3_51 then K188_157 l2_50 M else gdr (gR M 268 44) (fun a54 => gk M a54 = 43 ∧ vp_in l3_51 (gl M a54) ∧ (if (gI M a54 l3_51.toNatClampNeg) = 0 then fX7_count_b180 R157 l3_51 l2_50 0 M Q else fX7_count_b180 R157 l3_51 l2_50 1 M Q)))
def fX7_count_L157 (K188_157 : Int32 → gM → Prop) (Q : Int32 → gM → Prop) : Nat → Int32 → Int32 → gM → Prop
  | 0 => fun _ _ _ => False
  | n + 1 => fun l2_50 l3_51 M => fX7_count_L157s (fX7_count_L157 K188_157 Q n) K188_157 l2_50 l3_51 M Q
theorem wX7_count_L157s {kf : Nat} {G : gG} {w : gM → Nat → List (Nat × Value) → List Value → Prop} {Q : Int32 → gM → Prop} (hw : gX yX7_count cX7_count 4 (Option.some FieldType.int) [] kf G (gQi Q) gE0 w) (hkf : 1 ≤ kf) {R157 : Int32 → Int32 → gM → Prop} {K188_157 : Int32 → gM → Prop} {l2_50 : Int32} {l3_51 : Int32} {M : gM} (hR157 : ∀ (v0 : Int32) (v1 : Int32) (M : gM), R157 v0 v1 M → w M 157 [(0, .ref (gA G 268)), (2, .int v0), (3, .int v1)] []) (hK188_157 : ∀ (v0 : Int32) (M : gM), K188_157 v0 M → w M 188 [(2, .int v0)] []) (h : fX7_count_L157s R157 K188_157 l2_50 l3_51 M Q) : w M 157 [(0, .ref (gA G 268)), (2, .int l2_50), (3, .int l3_51)] [] := by
  unfold fX7_count_L157s at h
  refine g_iload_n hw 2 dX7_count_157 rfl ?_
  refine g_aload_n hw 0 dX7_count_158 rfl ?_
  obtain ⟨hk52, h⟩ := h
  refine gfX7_428 hw rfl dX7_count_159 hk52 ?_
  refine g_icmp_ge (tgt := 188) hw dX7_count_162 (by decide) (fun hb53 => ?_) (fun hb53 => ?_)
  · have h := gT h hb53
    refine g_sub hw (lv2 := [(2, .int l2_50)]) [1] rfl ?_
    exact hK188_157 l2_50 M h
  · have h := gF h hb53
    refine g_iload_n hw 1 dX7_count_165 rfl ?_
    refine g_aload_n hw 0 dX7_count_166 rfl ?_
    obtain ⟨a54, e55, h⟩ := h
    refine gfX7_169 (q := some a54) hw rfl dX7_count_167 hk52 e55 ?_
    refine g_iload_n hw 2 dX7_count_170 rfl ?_
    obtain ⟨hk56, h⟩ := h
    obtain ⟨hi57, h⟩ := h
    refine g_zald (n := l3_51.toNatClampNeg) hw dX7_count_171 hk56 hi57 rfl ?_
    refine g_if_eq (tgt := 179) hw dX7_count_172 (by decide) (fun hb58 => ?_) (fun hb58 => ?_)
    · have h := gT h hb58
      refine g_iconst (v := 0) hw dX7_count_179 (by decide) ?_
      refine g_sub hw (lv2 := [(0, .ref (gA G 268)), (3, .int l3_51)]) [0, 2] rfl ?_
      exact wX7_count_b180 hw hkf hR157 h
    · have h := gF h hb58
      refine g_iconst (v := 1) hw dX7_count_175 (by decide) ?_
      refine g_goto (tgt := 180) hw dX7_count_176 (by decide) ?_
      refine g_sub hw (lv2 := [(0, .ref (gA G 268)), (3, .int l3_51)]) [0, 2] rfl ?_
      exact wX7_count_b180 hw hkf hR157 h
theorem wX7_count_L157 {kf : Nat} {G : gG} {w : gM → Nat → List (Nat × Value) → List Value → Prop} {Q : Int32 → gM → Prop} (hw : gX yX7_count cX7_count 4 (Option.some FieldType.int) [] kf G (gQi Q) gE0 w) (hkf : 1 ≤ kf) {K188_157 : Int32 → gM → Prop} (hK188_157 : ∀ (v0 : Int32) (M : gM), K188_157 v0 M → w M 188 [(2, .int v0)] []) : ∀ (n : Nat) (l2_50 : Int32) (l3_51 : Int32) (M : gM), fX7_count_L157 K188_157 Q n l2_50 l3_51 M → w M 157 [(0, .ref (gA G 268)), (2, .int l2_50), (3, .int l3_51)] [] := by
  intro n
  induction n with
  | zero => intro l2_50 l3_51 M h; exact h.elim
  | succ n ih => intro l2_50 l3_51 M h; exact wX7_count_L157s hw hkf ih hK188_157 h
def fX7_count (p1 : Int32) (M : gM) (Q : Int32 → gM → Prop) : Prop :=
  gk M 268 = 7 ∧ (if p1 = 0 then ∃ n, fX7_count_L58 (fun l2_25 M26 => Q l2_25 M26) p1 Q n 0 0 (gsI M 268 0 0) else (if p1 = 1 then ∃ n, fX7_count_L104 (fun l2_46 M47 => Q l2_46 M47) p1 Q n 0 0 (gsI M 268 0 0) else (if p1 = 2 then ∃ n, fX7_count_L104 (fun l2_48 M49 => Q l2_48 M49) p1 Q n 0 0 (gsI M 268 0 0) else (if p1 = 3 then Q (gI (gsI M 268 0 0) 268 41) (gsI M 268 0 0) else (if p1 = 4 then ∃ n, fX7_count_L157 (fun l2_62 M63 => Q l2_62 M63) Q n 0 0 (gsI M 268 0 0) else (if p1 = 5 then Q (gI (gsI M 268 0 0) 268 15) (gsI M 268 0 0) else (if p1 = 6 then Q (gI (gsI M 268 0 0) 268 2) (gsI M 268 0 0) else (if p1 = 7 then ∃ n, fX7_count_L58 (fun l2_64 M65 => Q l2_64 M65) p1 Q n 0 0 (gsI M 268 0 0) else Q (-1) (gsI M 268 0 0)))))))))
theorem mX7_count {kf : Nat} (hkf : 1 ≤ kf) (G : gG) (p1 : Int32) (M : gM) (Q : Int32 → gM → Prop) (h : fX7_count p1 M Q) : gMet yX7_count cX7_count 4 (Option.some FieldType.int) kf G M [.ref (gA G 268), .int p1] (gQi Q) gE0 := by
  refine g_intro (lv := [(0, .ref (gA G 268)), (1, .int p1)]) (by decide) rfl rfl (fun w hw => ?_)
  unfold fX7_count at h
  refine g_aload_n hw 0 dX7_count_0 rfl ?_
  refine g_iconst (v := 0) hw dX7_count_1 (by decide) ?_
  obtain ⟨hk1, h⟩ := h
  refine pfX7_1 hw rfl dX7_count_2 hk1 ?_
  refine g_iconst (v := 0) hw dX7_count_5 (by decide) ?_
  refine g_istore_n hw (lv2 := [(0, .ref (gA G 268)), (1, .int p1), (2, .int 0)]) [1, 2, 0] dX7_count_6 rfl rfl ?_
  refine g_iload_n hw 1 dX7_count_7 rfl ?_
  by_cases hb66 : p1 = 0
  · have h := gT h hb66
    refine g_tabIn (tgt := 56) hw dX7_count_8 (by rw [hb66]; decide) (by rw [hb66]; decide) (by rw [hb66] <;> rfl) (by decide) ?_
    refine g_iconst (v := 0) hw dX7_count_56 (by decide) ?_
    refine g_istore_n hw (lv2 := [(0, .ref (gA G 268)), (1, .int p1), (2, .int 0), (3, .int 0)]) [1, 2, 3, 0] dX7_count_57 rfl rfl ?_
    obtain ⟨n9, h⟩ := h
    refine wX7_count_L58 hw hkf (fun l2_25 M26 h => ?_) n9 0 0 (gsI M 268 0 0) h
    refine g_iload_n hw 0 dX7_count_100 rfl ?_
    exact g_iret hw dX7_count_101 rfl ⟨_, rfl, h⟩
  · have h := gF h hb66
    by_cases hb67 : p1 = 1
    · have h := gT h hb67
      refine g_tabIn (tgt := 102) hw dX7_count_8 (by rw [hb67]; decide) (by rw [hb67]; decide) (by rw [hb67] <;> rfl) (by decide) ?_
      refine g_iconst (v := 0) hw dX7_count_102 (by decide) ?_
      refine g_istore_n hw (lv2 := [(0, .ref (gA G 268)), (1, .int p1), (2, .int 0), (3, .int 0)]) [1, 2, 3, 0] dX7_count_103 rfl rfl ?_
      obtain ⟨n9, h⟩ := h
      refine wX7_count_L104 hw hkf (fun l2_46 M47 h => ?_) n9 0 0 (gsI M 268 0 0) h
      refine g_iload_n hw 0 dX7_count_148 rfl ?_
      exact g_iret hw dX7_count_149 rfl ⟨_, rfl, h⟩
    · have h := gF h hb67
      by_cases hb68 : p1 = 2
      · have h := gT h hb68
        refine g_tabIn (tgt := 102) hw dX7_count_8 (by rw [hb68]; decide) (by rw [hb68]; decide) (by rw [hb68] <;> rfl) (by decide) ?_
        refine g_iconst (v := 0) hw dX7_count_102 (by decide) ?_
        refine g_istore_n hw (lv2 := [(0, .ref (gA G 268)), (1, .int p1), (2, .int 0), (3, .int 0)]) [1, 2, 3, 0] dX7_count_103 rfl rfl ?_
        obtain ⟨n9, h⟩ := h
        refine wX7_count_L104 hw hkf (fun l2_48 M49 h => ?_) n9 0 0 (gsI M 268 0 0) h
        refine g_iload_n hw 0 dX7_count_148 rfl ?_
        exact g_iret hw dX7_count_149 rfl ⟨_, rfl, h⟩
      · have h := gF h hb68
        by_cases hb69 : p1 = 3
        · have h := gT h hb69
          refine g_tabIn (tgt := 150) hw dX7_count_8 (by rw [hb69]; decide) (by rw [hb69]; decide) (by rw [hb69] <;> rfl) (by decide) ?_
          refine g_aload_n hw 0 dX7_count_150 rfl ?_
          refine gfX7_428 hw rfl dX7_count_151 hk1 ?_
          exact g_iret hw dX7_count_154 rfl ⟨_, rfl, h⟩
        · have h := gF h hb69
          by_cases hb70 : p1 = 4
          · have h := gT h hb70
            refine g_tabIn (tgt := 155) hw dX7_count_8 (by rw [hb70]; decide) (by rw [hb70]; decide) (by rw [hb70] <;> rfl) (by decide) ?_
            refine g_iconst (v := 0) hw dX7_count_155 (by decide) ?_
            refine g_istore_n hw (lv2 := [(0, .ref (gA G 268)), (2, .int 0), (3, .int 0)]) [1, 3, 0] dX7_count_156 rfl rfl ?_
            obtain ⟨n9, h⟩ := h
            refine wX7_count_L157 hw hkf (fun l2_62 M63 h => ?_) n9 0 0 (gsI M 268 0 0) h
            refine g_iload_n hw 0 dX7_count_188 rfl ?_
            exact g_iret hw dX7_count_189 rfl ⟨_, rfl, h⟩
          · have h := gF h hb70
            by_cases hb71 : p1 = 5
            · have h := gT h hb71
              refine g_tabIn (tgt := 190) hw dX7_count_8 (by rw [hb71]; decide) (by rw [hb71]; decide) (by rw [hb71] <;> rfl) (by decide) ?_
              refine g_aload_n hw 0 dX7_count_190 rfl ?_
              refine gfX7_208 hw rfl dX7_count_191 hk1 ?_
              exact g_iret hw dX7_count_194 rfl ⟨_, rfl, h⟩
            · have h := gF h hb71
              by_cases hb72 : p1 = 6
              · have h := gT h hb72
                refine g_tabIn (tgt := 195) hw dX7_count_8 (by rw [hb72]; decide) (by rw [hb72]; decide) (by rw [hb72] <;> rfl) (by decide) ?_
                refine g_aload_n hw 0 dX7_count_195 rfl ?_
                refine gfX7_11 hw rfl dX7_count_196 hk1 ?_
                exact g_iret hw dX7_count_199 rfl ⟨_, rfl, h⟩
              · have h := gF h hb72
                by_cases hb73 : p1 = 7
                · have h := gT h hb73
                  refine g_tabIn (tgt := 56) hw dX7_count_8 (by rw [hb73]; decide) (by rw [hb73]; decide) (by rw [hb73] <;> rfl) (by decide) ?_
                  refine g_iconst (v := 0) hw dX7_count_56 (by decide) ?_
                  refine g_istore_n hw (lv2 := [(0, .ref (gA G 268)), (1, .int p1), (2, .int 0), (3, .int 0)]) [1, 2, 3, 0] dX7_count_57 rfl rfl ?_
                  obtain ⟨n9, h⟩ := h
                  refine wX7_count_L58 hw hkf (fun l2_64 M65 h => ?_) n9 0 0 (gsI M 268 0 0) h
                  refine g_iload_n hw 0 dX7_count_100 rfl ?_
                  exact g_iret hw dX7_count_101 rfl ⟨_, rfl, h⟩
                · have h := gF h hb73
                  refine g_tabOut (tgt := 200) hw dX7_count_8 (by have z0 := gNeI (k := 0) hb66 rfl; have z1 := gNeI (k := 1) hb67 rfl; have z2 := gNeI (k := 2) hb68 rfl; have z3 := gNeI (k := 3) hb69 rfl; have z4 := gNeI (k := 4) hb70 rfl; have z5 := gNeI (k := 5) hb71 rfl; have z6 := gNeI (k := 6) hb72 rfl; have z7 := gNeI (k := 7) hb73 rfl; omega) (by decide) ?_
                  refine g_iconst (v := (-1)) hw dX7_count_200 (by decide) ?_
                  exact g_iret hw dX7_count_201 rfl ⟨_, rfl, h⟩
