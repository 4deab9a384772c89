/-! THE START: from the law's entry to the law's predicate over the typed memory (what stands ahead of gM0: SKELETON's) -/
set_option maxRecDepth 100000
def R_law : String := "RiverWageLaw"
def lw_P (b : Addr) (xs : List Int32) (args : Array Value) (s : State) : Prop := args = #[.ref b] ∧ s.IntsAt b xs ∧ xs.length ≤ 448 ∧ (Jvm.Cond.and given_1 narrow_1).before args s = true
def lw_Q (_ : Array Value) (s : State) (o : Outcome) (t : State) : Prop := o = .returned (some (.int 1)) ∧ Framed s o t [] 1200128 5501098
def lw_Z (below : List Frame) (a : Array Value) (s : State) : State → Prop := fun t => ∃ o, t.status = .running ∧ Ended t below o ∧ lw_Q a s o t
/-- what holds at the law's entry: the machine, the code, the tables' words (any of lw_tbl by 'hts w (by decide +kernel)'), the script of L ints xs at the cell b, what the Statement gives of the start (any of its parts by flat_of_before) -/
def lw_At (p : Program) (s : State) (m : MethodId) (meth : Method) (c : Code) (b L : Nat) (xs : Nat → Int32) : Prop :=
  p.tables.exec = Jvm.exec ∧ c.code = code ∧ meth.sig.returnType = ret ∧ c.maxLocals = 8 ∧ s.vm.findClass R_law = some m.cls ∧ (∀ w ∈ lw_tbl, w.before #[Value.ref b] s = true) ∧ va_X b L xs s s.heap ∧ b < s.heap.size ∧ meth.locks = false ∧ (Jvm.Cond.and given_1 narrow_1).before #[Value.ref b] s = true ∧ (∀ x ∈ c.exceptionTable.toList, False) ∧ meth.name = "law"
def gM0 : gM := (16, 0, fun _ => (0, 0), fun _ _ => 0, fun _ _ => 0, fun _ _ => none)
theorem gArrP {args : Array Value} {s : State} {t : FieldType} (h : (Cond.arrayClass t).before args s = true) : ∃ c : ClassId, ArrOfT s c t ∧ s.vm.findClass ("[" ++ t.toString) = some c := by
  obtain ⟨c, k, comp, h1, h2, h3⟩ := Cond.arrayClass_spec h
  exact ⟨c, fun N z => ⟨fun k h => (by cases h), k, h2, comp, h3⟩, h1⟩
theorem gArrO {args : Array Value} {s : State} {C : String} (h : (Cond.arrayOver (.object C)).before args s = true) : ∃ c : ClassId, ArrOfT s c (.object C) ∧ s.vm.findClass ("[" ++ (FieldType.object C).toString) = some c ∧ gRef s c (.object C) := by
  obtain ⟨comp, c, k, h1, -, h2, h3, h4⟩ := Cond.arrayOver_spec h
  obtain ⟨k9, h9, -⟩ := Vm.findClass_spec h1
  exact ⟨c, fun N z => ⟨fun k h => (by cases h), k, h2, comp, h3⟩, h4, k, comp, k9, h2, h3, h1, h9⟩
theorem gArrA {args : Array Value} {s : State} {t : FieldType} (h : (Cond.arrayOver (.array t)).before args s = true) : ∃ c : ClassId, ArrOfT s c (.array t) ∧ s.vm.findClass ("[" ++ (FieldType.array t).toString) = some c ∧ gRef s c (.array t) := by
  obtain ⟨comp, c, k, h1, h2, h3, h4⟩ := Cond.arrayOver_specA h
  obtain ⟨k9, h9, -⟩ := Vm.findClass_spec h1
  exact ⟨c, fun N z => ⟨fun k h => (by cases h), k, h2, comp, h3⟩, h4, k, comp, k9, h2, h3, h1, h9⟩
theorem gArrs {args : Array Value} {s : State} (hts : ∀ w ∈ lw_tbl, w.before args s = true) (c9 : ClassId) : ∃ dA : Nat → ClassId, dA 9 = c9 ∧ ∀ j : Nat, j < 9 → ArrOfT s (dA j) (gEt j) ∧ s.vm.findClass ("[" ++ (gEt j).toString) = some (dA j) ∧ (4 ≤ j → gRef s (dA j) (gEt j)) := by
  obtain ⟨d0, e0⟩ := gArrP (hts _ (lw_all_tbl q166))
  obtain ⟨d1, e1⟩ := gArrP (hts _ (lw_all_tbl q1331))
  obtain ⟨d2, e2⟩ := gArrP (hts _ (lw_all_tbl q167))
  obtain ⟨d3, e3⟩ := gArrP (hts _ (lw_all_tbl q234))
  obtain ⟨d4, e4⟩ := gArrO (hts _ q132)
  obtain ⟨d5, e5⟩ := gArrO (hts _ q169)
  obtain ⟨d6, e6⟩ := gArrO (hts _ q171)
  obtain ⟨d7, e7⟩ := gArrO (hts _ q241)
  obtain ⟨d8, e8⟩ := gArrA (hts _ q134)
  refine ⟨fun j => match j with | 0 => d0 | 1 => d1 | 2 => d2 | 3 => d3 | 4 => d4 | 5 => d5 | 6 => d6 | 7 => d7 | 8 => d8 | _ => c9, rfl, fun j hj => ?_⟩
  match j, hj with
  | 0, _ => exact ⟨e0.1, e0.2, fun h => absurd h (by decide)⟩
  | 1, _ => exact ⟨e1.1, e1.2, fun h => absurd h (by decide)⟩
  | 2, _ => exact ⟨e2.1, e2.2, fun h => absurd h (by decide)⟩
  | 3, _ => exact ⟨e3.1, e3.2, fun h => absurd h (by decide)⟩
  | 4, _ => exact ⟨e4.1, e4.2.1, fun _ => e4.2.2⟩
  | 5, _ => exact ⟨e5.1, e5.2.1, fun _ => e5.2.2⟩
  | 6, _ => exact ⟨e6.1, e6.2.1, fun _ => e6.2.2⟩
  | 7, _ => exact ⟨e7.1, e7.2.1, fun _ => e7.2.2⟩
  | 8, _ => exact ⟨e8.1, e8.2.1, fun _ => e8.2.2⟩
  | n + 9, hj => exact absurd hj (by omega)
theorem gCls {args : Array Value} {s : State} (hts : ∀ w ∈ lw_all, w.before args s = true) : ∃ q : Nat → ClassId × (Nat → Nat), ∀ (ci : Nat) (r : vw_C), gCl[ci]? = some r → u_Kn s r.1 r.2.1 r.2.2 (q ci).1 (q ci).2 := by
  have h0 : ∀ ci : Nat, ∃ q : ClassId × (Nat → Nat), ∀ r : vw_C, gCl[ci]? = some r → u_Kn s r.1 r.2.1 r.2.2 q.1 q.2 := by
    intro ci
    match ci with
    | 0 => obtain ⟨c, i, h⟩ := u_known (C := RX1) (T := TX1) (N := 28) hts in_X1 (hts _ q124); exact ⟨(c, i), fun r hr => by cases hr; exact h⟩
    | 1 => obtain ⟨c, i, h⟩ := u_known (C := RX2) (T := TX2) (N := 8) hts in_X2 (hts _ q136); exact ⟨(c, i), fun r hr => by cases hr; exact h⟩
    | 2 => obtain ⟨c, i, h⟩ := u_known (C := RX3) (T := TX3) (N := 2) hts in_X3 (hts _ q173); exact ⟨(c, i), fun r hr => by cases hr; exact h⟩
    | 3 => obtain ⟨c, i, h⟩ := u_known (C := RX4) (T := TX4) (N := 11) hts in_X4 (hts _ q188); exact ⟨(c, i), fun r hr => by cases hr; exact h⟩
    | 4 => obtain ⟨c, i, h⟩ := u_known (C := RX5) (T := TX5) (N := 1) hts in_X5 (hts _ q235); exact ⟨(c, i), fun r hr => by cases hr; exact h⟩
    | 5 => obtain ⟨c, i, h⟩ := u_known (C := RX6) (T := TX6) (N := 4) hts in_X6 (hts _ q248); exact ⟨(c, i), fun r hr => by cases hr; exact h⟩
    | 6 => obtain ⟨c, i, h⟩ := u_known (C := RX7) (T := TX7) (N := 58) hts in_X7 (hts _ q1121); exact ⟨(c, i), fun r hr => by cases hr; exact h⟩
    | 7 => obtain ⟨c, i, h⟩ := u_known (C := RX8) (T := TX8) (N := 7) hts in_X8 (hts _ q642); exact ⟨(c, i), fun r hr => by cases hr; exact h⟩
    | 8 => obtain ⟨c, i, h⟩ := u_known (C := RX10) (T := TX10) (N := 1) hts in_X10 (hts _ q741); exact ⟨(c, i), fun r hr => by cases hr; exact h⟩
    | 9 => obtain ⟨c, i, h⟩ := u_known (C := RX11) (T := TX11) (N := 1) hts in_X11 (hts _ q758); exact ⟨(c, i), fun r hr => by cases hr; exact h⟩
    | 10 => obtain ⟨c, i, h⟩ := u_known (C := RX12) (T := TX12) (N := 1) hts in_X12 (hts _ q768); exact ⟨(c, i), fun r hr => by cases hr; exact h⟩
    | 11 => obtain ⟨c, i, h⟩ := u_known (C := RX13) (T := TX13) (N := 3) hts in_X13 (hts _ q782); exact ⟨(c, i), fun r hr => by cases hr; exact h⟩
    | n + 12 => exact ⟨(0, fun _ => 0), fun r hr => by simp at hr⟩
  obtain ⟨q, hq⟩ := Classical.axiomOfChoice h0
  exact ⟨q, hq⟩
def gTm (i : Nat) : Term := .string "RiverWage$Reader" (match i with | 0 => 48 | 1 => 86 | 2 => 92 | 3 => 98 | 4 => 149 | 5 => 133 | 6 => 114 | _ => 116)
def gBlk (i : Nat) : List Cond := [Cond.exactly (gTm i) "java/lang/String", Cond.eq (.field (gTm i) "java/lang/String" "coder" "B") (.int 0), Cond.arrayOf (.field (gTm i) "java/lang/String" "value" "[B") .byte, Cond.eq (.length (.field (gTm i) "java/lang/String" "value" "[B")) (.int (Int32.ofNat (gSl.getD i 0)))] ++
  ((List.range (gSl.getD i 0)).map fun j => Cond.eq (.elem (.field (gTm i) "java/lang/String" "value" "[B") (.int (Int32.ofNat j))) (.int ((gSb.getD i []).getD j 0))) ++ ((List.range i).map fun j => Cond.not (Cond.eq (gTm j) (gTm i)))
theorem gBlk_ok : (flatC (Jvm.Cond.and given_1 narrow_1)).drop 35 = (List.range 8).flatMap gBlk := by decide +kernel
theorem gBlk_in {i : Nat} {w : Cond} (hi : i < 8) (h : w ∈ gBlk i) : w ∈ flatC (Jvm.Cond.and given_1 narrow_1) := by
  refine List.mem_of_mem_drop (i := 35) ?_
  rw [gBlk_ok]
  exact List.mem_flatMap.mpr ⟨i, List.mem_range.mpr hi, h⟩
theorem gStrs {args : Array Value} {s : State} (hs : ∀ w ∈ flatC (Jvm.Cond.and given_1 narrow_1), w.before args s = true) : ∃ adK adV : Nat → Nat, vk_S 8 gSl gSb adK adV (fun q => s.heap.size ≤ q) s s.heap ∧ ∀ i : Nat, i < 8 → (gTm i).eval args s none [] s = some (.ref (adK i)) := by
  have hb : ∀ i : Nat, i < 8 → ∀ w ∈ gBlk i, w.before args s = true := fun i hi w hw => hs _ (gBlk_in hi hw)
  refine vk_Sof (fun i hi => ?_) (fun i hi => hb i hi _ (by simp [gBlk])) (fun i hi => hb i hi _ (by simp [gBlk])) (fun i hi => hb i hi _ (by simp [gBlk])) (fun i hi => hb i hi _ (by simp [gBlk])) (fun i hi j hj => hb i hi _ ?_) (fun i j hi hj hij => ?_) (fun a ha => by show ¬ s.heap.size ≤ a; omega)
  · match i, hi with
    | 0, _ => decide
    | 1, _ => decide
    | 2, _ => decide
    | 3, _ => decide
    | 4, _ => decide
    | 5, _ => decide
    | 6, _ => decide
    | 7, _ => decide
    | n + 8, hi => exact absurd hi (by omega)
  · exact List.mem_append_left _ (List.mem_append_right _ (List.mem_map.mpr ⟨j, List.mem_range.mpr hj, rfl⟩))
  · rcases Nat.lt_or_gt_of_ne hij with h | h
    · exact Or.inl (hb j hj _ (List.mem_append_right _ (List.mem_map.mpr ⟨i, List.mem_range.mpr h, rfl⟩)))
    · exact Or.inr (hb i hi _ (List.mem_append_right _ (List.mem_map.mpr ⟨j, List.mem_range.mpr h, rfl⟩)))
def gRefs : List (String × Nat × String) := lw_tbl.filterMap fun w => match w with
  | .stringRef own k tx => some (own, k, tx)
  | _ => none
theorem gRefs_ok : (gRefs.all fun q => (List.range 8).all fun i => !decide (gStr[i]? = some q.2.2) || decide (Term.string q.1 q.2.1 = gTm i)) = true := by decide +kernel
theorem gRefs_tm {i k : Nat} {own tx : String} (h : Cond.stringRef own k tx ∈ lw_tbl) (ht : gStr[i]? = some tx) : i < 8 ∧ Term.string own k = gTm i := by
  have hi : i < 8 := (List.getElem?_eq_some_iff.mp ht).1
  have h1 := gRefs_ok
  rw [List.all_eq_true] at h1
  have h2 := h1 (own, k, tx) (List.mem_filterMap.mpr ⟨_, h, rfl⟩)
  rw [List.all_eq_true] at h2
  have h3 := h2 i (List.mem_range.mpr hi)
  simp only [Bool.or_eq_true, Bool.not_eq_true', decide_eq_false_iff_not, decide_eq_true_eq] at h3
  exact ⟨hi, h3.resolve_left fun z => z ht⟩
theorem gMem1 : Cond.eq (.static "java/lang/String" "COMPACT_STRINGS" "Z") (.int 1) ∈ flatC (Jvm.Cond.and given_1 narrow_1) := by decide +kernel
theorem gMem2 : Cond.isRef (.static "java/lang/Throwable" "UNASSIGNED_STACK" "[Ljava/lang/StackTraceElement;") ∈ flatC (Jvm.Cond.and given_1 narrow_1) := by decide +kernel
theorem gMem3 : Cond.isRef (.static "java/lang/Throwable" "SUPPRESSED_SENTINEL" "Ljava/util/List;") ∈ flatC (Jvm.Cond.and given_1 narrow_1) := by decide +kernel
theorem gMem4 : Cond.isRef (.static "jdk/internal/util/Preconditions" "SIOOBE_FORMATTER" "Ljava/util/function/BiFunction;") ∈ flatC (Jvm.Cond.and given_1 narrow_1) := by decide +kernel
/-- the tables' picture at the start -/
theorem gStart {p : Program} {s : State} {m : MethodId} {meth : Method} {c : Code} {b L : Nat} {xs : Nat → Int32} (hL : L ≤ 448) (C0 : lw_At p s m meth c b L xs) : ∃ G : gG, G.1 = s.heap.size ∧ gK G s ∧ gH G gM0 s.heap ∧ gScr G b L xs := by
  obtain ⟨hx, hb, hr, hml, hown, htb, ⟨scr, x1, x2, x3, x4, x5⟩, hbl, hlk, hgv, -⟩ := C0
  have hs := flat_of_before _ hgv
  have hts : ∀ w ∈ lw_all, w.before #[Value.ref b] s = true := fun w hw => htb w (lw_all_tbl hw)
  obtain ⟨dC, hC⟩ := gCls hts
  obtain ⟨dA, hA9, hA⟩ := gArrs htb scr.cls
  obtain ⟨adK, adV, hS, hT⟩ := gStrs hs
  have hn : ∀ a : Nat, a < s.heap.size → ¬ (fun q => s.heap.size ≤ q) a := fun a ha => by show ¬ s.heap.size ≤ a; omega
  refine ⟨(s.heap.size, gtot s.heap, s.heap, fun c => (dC c).1, fun c => (dC c).2, dA, fun i => if i < 8 then adK i else adV (i - 8)), rfl, ?_, ?_, ?_⟩
  · refine ⟨hC, hA, ?_, ?_, ?_, ?_, ?_, ?_, ?_, ?_, ?_, ?_, ?_, ?_, rfl, ?_⟩
    · exact fun a i b n d h hm => va_tabs rfl rfl (htb _ hm)
    · exact fun a i x h hm => va_tabs rfl rfl (htb _ hm)
    · exact fun a b hm => va_tabs rfl rfl (htb _ hm)
    · exact fun x hm => va_tabs rfl rfl (htb _ hm)
    · exact fun C hm => htb _ hm
    · intro i own k tx hm ht
      obtain ⟨hi, he⟩ := gRefs_tm hm ht
      have h9 := hT i hi
      rw [← he] at h9
      show vk_R own k tx (if i < 8 then adK i else adV (i - 8)) s
      rw [if_pos hi]
      exact vk_R.of (htb _ hm) h9
    · refine ⟨fun i hi => ?_, fun i j hi hj e => ?_⟩
      · obtain ⟨a1, a2, a3, a4⟩ := hS.1 i hi
        show va_O _ (if i < 8 then adK i else _) _ _ _ ∧ va_OF _ _ _ _ (if i < 8 then adK i else _) _ _ _ ∧ va_OF _ _ _ (.ref (if 8 + i < 8 then _ else adV (8 + i - 8))) (if i < 8 then adK i else _) _ _ _ ∧ va_T _ (if 8 + i < 8 then _ else adV (8 + i - 8)) _ _ _ _ _
        rw [if_pos hi, if_neg (by omega), Nat.add_sub_cancel_left]
        exact ⟨a1, a2, a3, a4⟩
      · have e : (if i < 8 then adK i else adV (i - 8)) = (if j < 8 then adK j else adV (j - 8)) := e
        rw [if_pos hi, if_pos hj] at e
        exact hS.2 i j hi hj e
    · exact va_Zof (htb _ q532) (hts _ q110) (va_eqi (hs _ gMem1)) hn
    · exact vx_Zqof (htb _ q668) (hts _ q106) (hs _ gMem2) hn
    · exact vx_Zqof (htb _ q670) (hts _ q106) (hs _ gMem3) hn
    · exact va_Zqof (htb _ q573) (hts _ q113) (hs _ gMem4) hn
    · exact fun ty hm => htb _ hm
    · obtain ⟨k9, z1, comp, z2⟩ := x2.2
      exact ⟨k9, comp, by show s.vm.classes[dA 9]? = _; rw [hA9]; exact z1, z2⟩
  · refine ⟨rfl, rfl, fun q _ => rfl, fun c h => absurd rfl h, Nat.le_refl _, Nat.le_of_ble_eq_true rfl, Nat.zero_le _⟩
  · exact ⟨scr, x1, ⟨x3, x2.1, hA9.symm⟩, x4, by omega, x5⟩
theorem gHr {s : State} {pl : Platform} {r r' : Room} (hf : r.frames ≤ r'.frames) (hl : r.locals ≤ r'.locals) (hc : r.cells ≤ r'.cells) (hs : r.slots ≤ r'.slots) (h : s.hasRoom pl r' = true) : s.hasRoom pl r = true := by
  simp only [State.hasRoom, Bool.and_eq_true, decide_eq_true_eq] at h ⊢
  obtain ⟨⟨⟨⟨h1, h2, h3, h4, h5, h6⟩, h7⟩, h8⟩, h9⟩ := h
  exact ⟨⟨⟨⟨by omega, by omega, by omega, by omega, by omega, h6⟩, by omega⟩, by omega⟩, h9⟩
/-- the claim's walk, out of the law's predicate -/
theorem gRun {p : Program} {e : Env} {s : State} {m : MethodId} {below : List Frame} {meth : Method} {c : Code} (l : Launch) (hflags : l.flags = flags0) {b L : Nat} {xs : Nat → Int32} (hL : L ≤ 448) (C0 : lw_At p s m meth c b L xs) (hF : fL_law L xs gM0 (fun r _ => r = 1)) : W p l e room_1 s m #[Value.ref b] below meth c s.heap [] 0 0 (lw_Z below #[Value.ref b] s) (entryFrame m ([Value.ref b] : List Value).toArray 8) := by
  obtain ⟨G, hG, hK, hH, hS⟩ := gStart hL C0
  obtain ⟨hx, hb, hr, hml, hown, htb, -, hbl, hlk, -, hne, hnm⟩ := C0
  have hts : ∀ w ∈ lw_all, w.before #[Value.ref b] s = true := fun w hw => htb w (lw_all_tbl hw)
  have hl : l.stackTraces = false := by
    unfold Launch.stackTraces
    rw [hflags]
    decide +kernel
  have key := wL_law (kf := 1562) (hw := ⟨gM0, p, l, e, s, m, #[Value.ref b], below, meth, c, hx, hb, hml, hr, hlk, hown, hnm, hts, hl, hK, hH, fun _ => hne, fun h => absurd rfl h, rfl⟩) (Q := fun r _ => r = 1) (by decide) hS hF
  have key := key s.heap [] _ 0 0 hH (fun _ h => by cases h) (by rw [gA_ext]; exact lv_entry [.ref b] (n := 8) (Nat.le_of_ble_eq_true rfl))
  rw [lg_entry_eq]
  intro T hT X
  have X9 : Stand p l e (gRm 1562 gM0) s m #[Value.ref b] below meth c T [] 0 0 := { X with room := gHr (by decide) (by decide) (by decide) (by decide) X.room }
  obtain ⟨t, a1, o, a2, a3, a4⟩ := key T hT X9
  refine ⟨t, a1, o, a2, a3, ?_⟩
  rcases a4 with ⟨⟨v, M, rfl, ⟨r, rfl, rfl⟩, hM⟩, Lo, ⟨f1, f2, f3⟩, hLo⟩ | ⟨q, rfl, cls, ce, Lo, ⟨c9, M, rfl, hE, -⟩, -⟩
  · refine ⟨rfl, f1, f2, ?_⟩
    obtain ⟨z1, z2, z3, z4, z5, z6⟩ := f3
    refine ⟨z1, z2, z3, z4, z5, fun a c9 ha => ?_⟩
    obtain ⟨c8, w1, w2, w3, w4⟩ := z6 a c9 ha
    have hlt := (Array.getElem?_eq_some_iff.mp ha).1
    refine ⟨c8, w1, w2, w3, fun i _ => w4 i fun hm => ?_⟩
    have h9 : G.1 ≤ a := hLo _ hm
    omega
  · exact hE.elim
