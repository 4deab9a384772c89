/-! need: nothing, or a NoSuchElementException -/
abbrev nsE : String := "java/util/NoSuchElementException"
abbrev nsN : List String := ["java/lang/RuntimeException", "java/lang/Exception"]
set_option maxRecDepth 100000 in
theorem ns_good : ∀ w ∈ (vx_at0 RX1 111 nsE nsN).filter goodWord, w ∈ lw_all := lw_in _ [106, 663, 672, 675, 678, 680, 664, 665, 129, 130, 666, 671, 676, 697, 653, 698, 655, 699, 657, 667, 669, 659, 984, 985, 986, 987, 987, 988, 989, 990, 990, 991, 992, 664, 983, 975, 977, 674, 978, 979, 980, 981, 662, 661, 982] (by decide +kernel) (by decide +kernel)
set_option maxRecDepth 100000 in
theorem ns_rest : ∀ w ∈ (vx_at0 RX1 111 nsE nsN).filter (fun w => !goodWord w), w ∈ [Cond.declares ⟨"java/lang/RuntimeException", "<init>", "()V"⟩, Cond.declares ⟨"java/lang/Exception", "<init>", "()V"⟩, Cond.declares ⟨"java/lang/Throwable", "<init>", "()V"⟩, Cond.castable nsE nsE] := by decide +kernel
set_option maxRecDepth 100000 in
theorem ns_ot : ∀ w ∈ Cond.classLink RX1 109 nsE :: Cond.initialized nsE :: vx_at0 RX1 111 nsE nsN, vx_ot w = true := by decide +kernel
def fX1_need (p1 : Int32) (M : gM) (Q : gM → Prop) (E : Nat → gM → Prop) : Prop :=
  if p1 = 0 then gn M < gLC ∧ gs M + 6 ≤ gLS ∧ ∀ sz, sz ≤ 6 → E (gn M) (gnew M 0 0 sz) else Q M
theorem mX1_need {kf : Nat} (hkf : 8 ≤ kf) (G : gG) (p1 : Int32) (M : gM) (Q : gM → Prop) (E : Nat → gM → Prop) (h : fX1_need p1 M Q E) : gMet yX1_need cX1_need 1 (Option.none : Option FieldType) kf G M [.int p1] (gQv Q) (gEx nsE E) := by
  intro l hl
  refine vx_ofW (cc := cX1_need) (maxL := 1) (ret := none) (by decide) rfl ?_
  intro p e s m args below meth c s₁ B hml hex hv
  obtain ⟨rfl, hK, hH⟩ := hv
  have hts := atoms_spec (ws := ws_ yX1_need cX1_need 1 none) B.pre
  have hts : ∀ w ∈ lw_all, w.before _ s = true := fun w h => hts w (List.mem_cons_of_mem _ h)
  have hown : s.vm.findClass RX1 = some m.cls := findClass_of_methodNamed B.named
  have hx := B.exec
  have hb := B.bytes
  have hr := B.returns
  have hlk := B.notSynchronized
  have hl0 := lv_entry [Value.int p1] (n := 1) (Nat.le_of_ble_eq_true rfl)
  rw [lg_entry_eq]
  generalize (lg_sl [Value.int p1] ++ List.replicate (1 - (lg_sl [Value.int p1]).length) Slot.unset).toArray = ls at hl0 ⊢
  have hlv : lv_has ls 1 [(0, .int p1)] := hl0
  refine lv_iload_n hx hb dX1_need_0 rfl (lv_at hlv 0 rfl) ?_
  refine lv_if_ne (tgt := 12) hx hb dX1_need_1 (by decide) (fun hb1 => ?_) (fun hb1 => ?_)
  · have h := gF h hb1
    refine W_tight hH hH fun q1 q2 => ?_
    obtain ⟨-, -, -, -, -, e6, e7⟩ := id hH
    refine W.widen (k := gLC - gn M) (n := gLS - gs M) (by omega) (by omega) (vx_ret ?_)
    exact W.vret hx hb hr (fun t ht hW => ⟨_, M, rfl, ⟨rfl, h⟩, by rw [ht]; exact hH⟩) (fun _ h => by cases h) dX1_need_12 hlk
  · have h := gT h (by first | exact hb1 | exact Decidable.not_not.mp hb1)
    obtain ⟨h1, h2, h⟩ := h
    have hbS : G.1 ≤ s.heap.size := by
      obtain ⟨e1, -, -, -, e5, -, -⟩ := hH
      omega
    have hZk : ∀ a : Nat, a < G.2.2.1.size → s.heap[a]? = G.2.2.1[a]? := fun a ha => gH_old ⟨s, hK⟩ hH ha
    have hU0 := hK.2.2.2.2.2.2.2.2.2.2.1
    have hN0 := hK.2.2.2.2.2.2.2.2.2.2.2.1
    have hA0 : ∀ q : Nat, s.heap.size ≤ q → G.1 ≤ q := fun q h => Nat.le_trans hbS h
    have hat : ∀ w ∈ vx_at0 RX1 111 nsE nsN, w.before [Value.int p1].toArray s = true :=
      vx_hat (fun w hw => hts w (ns_good w hw)) ns_rest (vx_c (va_Nw.use rfl (hK.2.2.2.2.2.1 _ q644)) (vx_c (va_Nw.use rfl (hK.2.2.2.2.2.1 _ q646)) (vx_c (va_Nw.use rfl (hK.2.2.2.2.2.1 _ q648)) (vx_c (va_Nw.use rfl (hK.2.2.2.2.1 _ _ q976)) vx_n))))
    have hd0 : va_D (fun q : Nat => s.heap.size ≤ q) [] := ⟨fun i j p q h => by simp at h, fun k q h => by simp at h⟩
    obtain ⟨cC, iS, hKn⟩ := u_known (C := nsE) (T := TX1) (N := 0) (n := 6) hts (fun w h => by simp [u_ws] at h) (hts _ q975)
    have hP0 : va_P (fun _ => cC, fun _ => iS) [(nsE, TX1, 0)] [] s.heap := fun k q h => by simp at h
    have hK0 : va_K (fun _ => cC, fun _ => iS) [(nsE, TX1, 0)] [] s := ⟨fun k q h => by
      match k, h with
      | 0, h => cases h; exact hKn
      | k + 1, h => simp at h, fun k q h => by simp at h⟩
    refine vx_make0 (A := fun q => s.heap.size ≤ q) (D := (fun _ => cC, fun _ => iS)) (cl := [(nsE, TX1, 0)]) (ws := []) (tys := []) (ci := 0) (T0 := TX1) (names := nsN) (ik := 109) (ic := 111) hx hb hl hown (by decide +kernel) (by decide +kernel) (hts _ q974) (hts _ q109) hat ns_ot ((hU0.kept fun a ha _ => hZk a ha).narrow hA0) ((hN0.kept fun a ha _ => hZk a ha).narrow hA0) va_S.rf (hlv.1.trans hml.symm) dX1_need_4 dX1_need_7 dX1_need_8 hK0 hP0 hd0 (fun _ h => h) rfl ?_ ?_ ?_ ?_ ?_
    · show 2 + 3 < kf
      omega
    · show 0 + (13 * (2 + 1) + 42) ≤ 64 * kf
      omega
    · show 0 + 1 ≤ gLC - gn M
      omega
    · show 0 + 6 ≤ gLS - gs M
      omega
    · intro q H1 hP1 hD1 hS1 T hT X
      obtain ⟨z1, z2, z3, z4, z5, z6⟩ := id X.same
      have b1 := X.book
      have b0 : s.slotsTrue = true := by
        have h := X.room
        simp only [State.hasRoom, Bool.and_eq_true] at h
        exact h.2
      have t1 : T.slotsUsed = gtot H1 := by
        rw [← hT]
        simpa [State.slotsTrue, gtot] using b1
      have t0 : s.slotsUsed = gtot s.heap := by simpa [State.slotsTrue, gtot] using b0
      have z3' : H1.size ≤ s.heap.size + (0 + 1) := by rw [← hT]; exact z3
      have z4' : T.slotsUsed = s.slotsUsed + (((T.setVm s.vm).heap.toList.drop s.heap.size).map (·.slots.size)).sum := z4
      have hq1 : s.heap.size ≤ q := hD1.2 0 (q, .inr (0, [])) rfl
      obtain ⟨r9, hr9, ce, c1, c2, c3, -⟩ := hP1 0 (q, .inr (0, [])) rfl
      have c1 : H1[q]? = some ce := c1
      have hq2 : q < H1.size := (Array.getElem?_eq_some_iff.mp c1).1
      have hqe : q = s.heap.size := by omega
      subst hqe
      have hz1 : H1.size = s.heap.size + 1 := by omega
      have ho1 : ∀ a : Nat, a < s.heap.size → H1[a]? = s.heap[a]? := fun a ha => hS1.2.1 a ha (Nat.not_le.mpr ha)
      have hsz := gtot_push c1 hz1 ho1
      have hle : ce.slots.size ≤ 6 := by omega
      have hH1 : gH G (gnew M 0 0 ce.slots.size) H1 := gH_new hH c1 hz1 ho1 rfl h1 (by omega) (fun h => absurd rfl h)
      have ha := gH_addr hH
      refine (?_ : W p l e (gRm kf M) s m [Value.int p1].toArray below meth c H1 [] (0 + 1) (0 + 6) (vx_MQ below (gQ G (gQv Q)) (gXC G (gEx nsE E)) [Value.int p1].toArray s (gLC - gn M) (gLS - gs M) (gFree G)) (F0 m 11 ls [.ref s.heap.size])) T hT X
      rw [← ha]
      exact vx_athrow hx hb dX1_need_11 (gW_out (a := #[]) (M := gnew M 0 0 ce.slots.size) hH hlk hex hH1 (fun _ h => by cases h) ⟨rfl, h _ hle⟩ (by rw [ha]; exact c1) c3 (by rw [c2]; exact hKn.2.1))
