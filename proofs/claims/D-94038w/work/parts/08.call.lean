/-! CALLS, ENDS, NEW CELLS over w -/
section GCR
variable {y0 : MethodName} {cc : ByteArray} {nL : Nat} {ret : Option FieldType} {hh : List (Nat × Nat × Nat × Nat)} {kf : Nat} {G : gG} {Qv : Option Value → gM → Prop} {E : String → Nat → gM → Prop} {w : gM → Nat → List (Nat × Value) → List Value → Prop} {M : gM} {pc : Nat} {lv : List (Nat × Value)} {st : List Value}
theorem vxW_tight {p : Program} {l : Launch} {e : Env} {R : Room} {s : State} {m : MethodId} {args : Array Value} {below : List Frame} {meth : Method} {c : Code} {H : Heap} {locs : List Loc} {cells slots : Nat} {Z : State → Prop} {g : JFrame} {M0 : gM} {q : Addr} (h0 : gH G M0 s.heap) (h : gH G M H)
    (k : gn M0 ≤ gn M → gs M0 ≤ gs M → vx_W p l e R s m args below meth c H locs (gn M - gn M0) (gs M - gs M0) Z g q) : vx_W p l e R s m args below meth c H locs cells slots Z g q := by
  intro T hT X
  have hs := X.same
  obtain ⟨z1, z2, z3, z4, z5, z6⟩ := id hs
  have b1 := X.book
  have b0 : s.slotsTrue = true := by
    have h := X.room
    simp only [State.hasRoom, Bool.and_eq_true] at h
    exact h.2
  have t1 : T.slotsUsed = gtot H := by
    rw [← hT]
    simpa [State.slotsTrue, gtot] using b1
  have t0 : s.slotsUsed = gtot s.heap := by simpa [State.slotsTrue, gtot] using b0
  have z2' : s.heap.size ≤ H.size := by rw [← hT]; exact z2
  have z4' : T.slotsUsed = s.slotsUsed + (((T.setVm s.vm).heap.toList.drop s.heap.size).map (·.slots.size)).sum := z4
  obtain ⟨e1, e2, -, -, e5, e6, e7⟩ := h
  obtain ⟨f1, f2, -, -, f5, f6, f7⟩ := h0
  rw [t1, t0, e2, f2] at z4'
  have q1 : gn M0 ≤ gn M := by omega
  have q2 : gs M0 ≤ gs M := by omega
  refine k q1 q2 T hT { X with same := ⟨z1, z2, ?_, z4, ?_, z6⟩ }
  · show T.heap.size ≤ _
    rw [hT]
    omega
  · omega
section ARUN
variable {p : Program} {l : Launch} {e : Env} {s : State} {m : MethodId} {args : Array Value} {below : List Frame} {meth : Method} {c : Code} {H : Heap} {locs : List Loc} {cells slots : Nat} {Z : State → Prop} {M0 : gM}
/-- the callee's room out of what is left -/
theorem gRoom (k1 : Nat) (q1 : gn M0 ≤ gn M) (q2 : gs M0 ≤ gs M) (h : gH G M H) : (gn M - gn M0) + (gLC - gn M) ≤ (gRm kf M0).cells ∧ (gs M - gs M0) + (gLS - gs M) ≤ (gRm kf M0).slots := by
  obtain ⟨-, -, -, -, -, e6, e7⟩ := h
  show (gn M - gn M0) + (gLC - gn M) ≤ gLC - gn M0 ∧ (gs M - gs M0) + (gLS - gs M) ≤ gLS - gs M0
  omega
theorem gW_run {R : Room} {mc ms : Nat} {ls : Array Slot} {st0 rest : List Value} {a : Array Value} {Q1 : Option Value → gM → Prop} {E1 : String → Nat → gM → Prop} (hz : ∀ z ∈ locs, G.1 ≤ z.base) (hr : vx_Run p l e R s m args below meth c H locs cells slots mc ms (F0 m pc ls st0) rest (gQ G Q1 a) (gXC G E1) (gFree G))
    (kx : ∀ (cls : String) (o : Nat) (M1 : gM) (H1 : Heap) (locs1 : List Loc) (ce : Cell), E1 cls o M1 → gH G M1 H1 → (∀ z ∈ locs1, G.1 ≤ z.base) → H1[gA G o]? = some ce → ce.vm = .none → s.vm.findClass cls = some ce.cls → vx_W p l e R s m args below meth c H1 locs1 (cells + mc) (slots + ms) Z (F0 m pc ls rest) (gA G o))
    (kk : ∀ (v : Option Value) (M1 : gM) (H1 : Heap) (locs1 : List Loc), Q1 v M1 → gH G M1 H1 → (∀ z ∈ locs1, G.1 ≤ z.base) → W p l e R s m args below meth c H1 locs1 (cells + mc) (slots + ms) Z (F0 m (pc + 3) ls (v.toList ++ rest))) : W p l e R s m args below meth c H locs cells slots Z (F0 m pc ls st0) := by
  intro T hT X
  have hzz : ∀ {L : List Loc}, (∀ q ∈ L, gFree G q.base) → ∀ z ∈ locs ++ L, G.1 ≤ z.base := by
    intro L hL z h
    rcases List.mem_append.mp h with h | h
    · exact hz z h
    · exact hL z h
  rcases hr T hT X with ⟨v, st₀, t, T', L, h0, X', hL, e1, e2, ⟨v', M1, hv, hq, hH1⟩, st⟩ | ⟨q, st₀, t, T', L, cls, ce, h0, X', hL, e1, e2, ⟨o, M1, rfl, hE, hH1⟩, hce, hcv, hcl, st⟩
  · cases hv
    obtain ⟨t2, a1, b1⟩ := kk v M1 T'.heap (locs ++ L) hq (by rw [e1]; exact hH1) (hzz hL) T' rfl X'
    exact ⟨t2, st t2 a1, b1⟩
  · obtain ⟨t2, a1, b1⟩ := kx cls o M1 T'.heap (locs ++ L) ce hE (by rw [e1]; exact hH1) (hzz hL) (by rw [e1]; exact hce) hcv hcl T' rfl X'
    exact ⟨t2, st.trans a1, b1⟩
/-- thrown on to the caller -/
theorem gW_out {a : Array Value} {o : Nat} {cls : String} {ce : Cell} {ls : Array Slot} {rest : List Value} (hH0 : gH G M0 s.heap) (hlk : meth.locks = false) (hex : ∀ x ∈ c.exceptionTable.toList, False) (hH : gH G M H) (hz : ∀ z ∈ locs, G.1 ≤ z.base) (hE : E cls o M) (hce : H[gA G o]? = some ce) (hcv : ce.vm = .none) (hcl : s.vm.findClass cls = some ce.cls) :
    vx_W p l e (gRm kf M0) s m args below meth c H locs cells slots (vx_MQ below (gQ G Qv) (gXC G E) args s (gLC - gn M0) (gLS - gs M0) (gFree G)) (F0 m pc ls rest) (gA G o) := by
  refine vxW_tight hH0 hH fun q1 q2 => ?_
  obtain ⟨-, -, -, -, -, e6, e7⟩ := id hH
  exact vx_out (fun x hx => (hex x hx).elim) hlk hce hcv hcl (fun t ht _ => ⟨o, M, rfl, hE, by rw [ht]; exact hH⟩) hz (by omega) (by omega)
end ARUN
/-- what becomes of what a callee throws: on to the caller, or into the method's one handler -/
def gCat (own : String) (hh : List (Nat × Nat × Nat × Nat)) (G : gG) (E : String → Nat → gM → Prop) (w : gM → Nat → List (Nat × Value) → List Value → Prop) (pc : Nat) (lv : List (Nat × Value)) (cls : String) (o : Nat) (M : gM) : Prop :=
  (hh = [] ∧ E cls o M) ∨ ∃ s0 e0 hp ct, hh = [(s0, e0, hp, ct)] ∧ (Nat.ble s0 pc = true ∧ Nat.ble (pc + 1) e0 = true) ∧ ct ≠ 0 ∧ Cond.classLink own ct cls ∈ lw_all ∧ Cond.castable cls cls ∈ lw_tbl ∧ w M hp lv [.ref (gA G o)]
theorem gCat0 {own : String} {w : gM → Nat → List (Nat × Value) → List Value → Prop} {cls : String} {o : Nat} (h : E cls o M) : gCat own [] G E w pc lv cls o M := Or.inl ⟨rfl, h⟩
theorem gW_thr {p : Program} {l : Launch} {e : Env} {s : State} {m : MethodId} {args : Array Value} {below : List Frame} {meth : Method} {c : Code} {H : Heap} {locs : List Loc} {cells slots : Nat} {M0 : gM} {o : Nat} {cls : String} {ce : Cell} {ls : Array Slot} {rest : List Value} (hH0 : gH G M0 s.heap) (hlk : meth.locks = false) (hown : s.vm.findClass y0.cls = some m.cls) (hts : ∀ w ∈ lw_all, w.before args s = true) (hK : gK G s)
    (hex : hh = [] → ∀ x ∈ c.exceptionTable.toList, False) (hhx : hh ≠ [] → (Cond.codeWith y0 cc nL ret hh).before args s = true ∧ s.methodNamed? y0 = some m ∧ s.vm.method? m = some meth ∧ meth.code = some c) (hH : gH G M H) (hz : ∀ z ∈ locs, G.1 ≤ z.base) (hlv : lv_has ls nL lv) (hce : H[gA G o]? = some ce) (hcv : ce.vm = .none) (hcl : s.vm.findClass cls = some ce.cls)
    (hc : gCat y0.cls hh G E (gW p l e (gRm kf M0) s m args below meth c (vx_MQ below (gQ G Qv) (gXC G E) args s (gLC - gn M0) (gLS - gs M0) (gFree G)) G nL) pc lv cls o M) :
    vx_W p l e (gRm kf M0) s m args below meth c H locs cells slots (vx_MQ below (gQ G Qv) (gXC G E) args s (gLC - gn M0) (gLS - gs M0) (gFree G)) (F0 m pc ls rest) (gA G o) := by
  rcases hc with ⟨h0, hE⟩ | ⟨s0, e0, hp, ct, rfl, ⟨c1, c2⟩, h0, hq, hcast, kk⟩
  · exact gW_out (a := args) hH0 hlk (hex h0) hH hz hE hce hcv hcl
  · obtain ⟨t1, t2, t3, t4⟩ := hhx (by simp)
    have htab : c.exceptionTable.toList = tableOf [(s0, e0, hp, ct)] := by
      obtain ⟨m9, meth9, c9, hn9, h5, h6, -, -, h7, -⟩ := Cond.codeWith_spec t1
      cases Option.some.inj (hn9.symm.trans t2)
      cases Option.some.inj (h5.symm.trans t3)
      cases Option.some.inj (h6.symm.trans t4)
      rw [← h7, table_eq]
    exact vx_catch hown [] ⟨s0, e0, hp, ct⟩ [] htab (fun z h => by cases h) (by
      have := Nat.le_of_ble_eq_true c1
      have := Nat.le_of_ble_eq_true c2
      simp [covers]; omega) h0 (hts _ hq) (va_Nw.use rfl (hK.2.2.2.2.1 _ _ hcast)) hce hcv hcl (kk H locs ls cells slots hH hz hlv)
-- the receiver
theorem gRecv {s : State} {H : Heap} {c ci : Nat} {r : vw_C} (hK : gK G s) (hH : gH G M H) (hci : gCl[ci]? = some r) (hkd : gk M c = ci + 1) : ∃ cell : Cell, H[gA G c]? = some cell ∧ cell.vm.isStatics = false ∧ s.vm.findClass r.1 = some cell.cls := by
  obtain ⟨c16, cn, hcell⟩ := gH_cell hH hkd
  obtain ⟨cell, q1, q2, q3, -⟩ := hcell.1 ci _ hkd hci
  exact ⟨cell, q1, by rw [q3]; rfl, by rw [q2]; exact (hK.1 ci r hci).2.1⟩
theorem gPS {s : State} {H : Heap} {as : List Value} (hK : gK G s) (hH : gH G M H) : PreS s H (va_Pc as (fun U => gK G U ∧ gH G M U.heap)) as := ⟨gPc_blind, fun U hU hW => ⟨rfl, hK.warm hW, by rw [hU]; exact hH⟩⟩
theorem gRest {rest : List Value} (h : Nat.ble ((rest.map Value.category).sum) 8 = true) : (rest.map fun v => v.category).sum ≤ 8 := Nat.le_of_ble_eq_true h
theorem gLoc {k1 maxL : Nat} (hk : k1 + 1 ≤ kf) (hm : Nat.ble maxL 45 = true) : (gRm k1 M).frames + 1 ≤ kf ∧ 8 + (maxL + 11) + (gRm k1 M).locals ≤ 64 * kf := by
  have := Nat.le_of_ble_eq_true hm
  show k1 + 1 ≤ kf ∧ 8 + (maxL + 11) + 64 * k1 ≤ 64 * kf
  omega
-- calls of a method without handlers, by methods without handlers
theorem g_callV (hw : gX y0 cc nL ret hh kf G Qv E w) {idx c ci maxL k1 : Nat} {r : vw_C} {y1 : MethodName} {b1 : ByteArray} {ret1 : Option FieldType} {rest : List Value} {Q1 : Option Value → gM → Prop} {E1 : String → Nat → gM → Prop} (As : List Value) {nA : Nat} (hA : As.length = nA) (d : decode cc pc = .ok (.invokevirtual idx, 3)) (q1 : Cond.methodLink y0.cls idx y1 ∈ lw_all) (q2 : Cond.instanceMethod y1 ∈ lw_all) (q3 : Cond.selects r.1 y1 y1 ∈ lw_all) (q4 : Cond.initialized r.1 ∈ lw_all) (q5 : Cond.code y1 b1 maxL ret1 ∈ lw_all)
    (hd : y1.cls = r.1 ∧ y1.cls ≠ "java/lang/invoke/MethodHandle" ∧ y1.cls ≠ "java/lang/invoke/VarHandle" ∧ (parseMethodDescriptor y1.desc).map (fun d => d.parameters.length) = some nA)
    (hci : gCl[ci]? = some r) (hm : Nat.ble maxL 45 = true) (hrest : Nat.ble ((rest.map Value.category).sum) 8 = true) (hst : st = As.reverse ++ .ref (gA G c) :: rest) (hk : k1 + 1 ≤ kf) (hkd : gk M c = ci + 1)
    (hM : gMet y1 b1 maxL ret1 k1 G M (.ref (gA G c) :: As) Q1 E1) (kx : ∀ cls o M1, E1 cls o M1 → gCat y0.cls hh G E w pc lv cls o M1) (kk : ∀ v M1, Q1 v M1 → w M1 (pc + 3) lv (v.toList ++ rest)) : w M pc lv st := by
  subst hst
  obtain ⟨M0, p, l, e, s, m, args, below, meth, c9, hx, hb, hml, hr, hlk, hown, hnm, hts, hst9, hK9, hH0, hex, hhx, rfl⟩ := hw
  intro H locs ls cells slots hH hz hlv
  refine W_tight hH0 hH fun g1 g2 => ?_
  refine gW_run hz (vx_runV (As := As) (rest := rest) (C := r.1) ⟨hx, hb, hml, hown, hts⟩ (hM l hst9) (cwV nA hts (lw_V q1 q2 q3 q4 q5) rfl rfl rfl hd (gLoc hk hm)) ⟨gPc_blind, gRecv hK9 hH hci hkd, fun U hU hW => ⟨rfl, hK9.warm hW, by rw [hU]; exact hH⟩⟩ rfl hA hlv.1 rfl (lv_room (gRest hrest)) d (gRoom k1 g1 g2 hH)) ?_ ?_
  · exact fun cls o M1 H1 locs1 ce hE hH1 hz1 hce hcv hcl => gW_thr hH0 hlk hown hts hK9 hex hhx hH1 hz1 hlv hce hcv hcl (kx _ _ _ hE)
  · exact fun v M1 H1 locs1 hq hH1 hz1 => kk v M1 hq H1 locs1 ls _ _ hH1 hz1 hlv
theorem g_callS (hw : gX y0 cc nL ret hh kf G Qv E w) {idx maxL k1 : Nat} {y1 : MethodName} {b1 : ByteArray} {ret1 : Option FieldType} {rest : List Value} {Q1 : Option Value → gM → Prop} {E1 : String → Nat → gM → Prop} (As : List Value) {nA : Nat} (hA : As.length = nA) (d : decode cc pc = .ok (.invokestatic idx, 3)) (q1 : Cond.methodLink y0.cls idx y1 ∈ lw_all) (q2 : Cond.static y1 ∈ lw_all) (q4 : Cond.initialized y1.cls ∈ lw_all) (q5 : Cond.code y1 b1 maxL ret1 ∈ lw_all)
    (hd : y1.cls ≠ "java/lang/invoke/MethodHandle" ∧ y1.cls ≠ "java/lang/invoke/VarHandle" ∧ (parseMethodDescriptor y1.desc).map (fun d => d.parameters.length) = some nA)
    (hm : Nat.ble maxL 45 = true) (hrest : Nat.ble ((rest.map Value.category).sum) 8 = true) (hst : st = As.reverse ++ rest) (hk : k1 + 1 ≤ kf)
    (hM : gMet y1 b1 maxL ret1 k1 G M As Q1 E1) (kx : ∀ cls o M1, E1 cls o M1 → gCat y0.cls hh G E w pc lv cls o M1) (kk : ∀ v M1, Q1 v M1 → w M1 (pc + 3) lv (v.toList ++ rest)) : w M pc lv st := by
  subst hst
  obtain ⟨M0, p, l, e, s, m, args, below, meth, c9, hx, hb, hml, hr, hlk, hown, hnm, hts, hst9, hK9, hH0, hex, hhx, rfl⟩ := hw
  intro H locs ls cells slots hH hz hlv
  refine W_tight hH0 hH fun g1 g2 => ?_
  refine gW_run hz (vx_runS (As := As) (rest := rest) ⟨hx, hb, hml, hown, hts⟩ (hM l hst9) (va_cwS nA hts (lw_S q1 q2 q4 q5) rfl rfl rfl hd (gLoc hk hm)) (gPS hK9 hH) rfl hA hlv.1 rfl (lv_room (gRest hrest)) d (gRoom k1 g1 g2 hH)) ?_ ?_
  · exact fun cls o M1 H1 locs1 ce hE hH1 hz1 hce hcv hcl => gW_thr hH0 hlk hown hts hK9 hex hhx hH1 hz1 hlv hce hcv hcl (kx _ _ _ hE)
  · exact fun v M1 H1 locs1 hq hH1 hz1 => kk v M1 hq H1 locs1 ls _ _ hH1 hz1 hlv
theorem g_callI (hw : gX y0 cc nL ret hh kf G Qv E w) {idx c maxL k1 : Nat} {y1 : MethodName} {b1 : ByteArray} {rest : List Value} {Q1 : Option Value → gM → Prop} {E1 : String → Nat → gM → Prop} (As : List Value) {nA : Nat} (hA : As.length = nA) (d : decode cc pc = .ok (.invokespecial idx, 3)) (q1 : Cond.methodLink y0.cls idx y1 ∈ lw_all ∨ ∃ host : String, Cond.methodLinkNest y0.cls idx y1 host ∈ lw_tbl) (q2 : Cond.instanceMethod y1 ∈ lw_all) (q4 : Cond.initialized y1.cls ∈ lw_all) (q5 : Cond.code y1 b1 maxL none ∈ lw_all)
    (hd : y1.cls ≠ "java/lang/invoke/MethodHandle" ∧ y1.cls ≠ "java/lang/invoke/VarHandle" ∧ (parseMethodDescriptor y1.desc).map (fun d => d.parameters.length) = some nA) (hy1 : y1.name = "<init>")
    (hm : Nat.ble maxL 45 = true) (hrest : Nat.ble ((rest.map Value.category).sum) 8 = true) (hst : st = As.reverse ++ .ref (gA G c) :: rest) (hk : k1 + 1 ≤ kf)
    (hM : gMet y1 b1 maxL none k1 G M (.ref (gA G c) :: As) Q1 E1) (kx : ∀ cls o M1, E1 cls o M1 → gCat y0.cls hh G E w pc lv cls o M1) (kk : ∀ v M1, Q1 v M1 → w M1 (pc + 3) lv (v.toList ++ rest)) : w M pc lv st := by
  subst hst
  obtain ⟨M0, p, l, e, s, m, args, below, meth, c9, hx, hb, hml, hr, hlk, hown, hnm, hts, hst9, hK9, hH0, hex, hhx, rfl⟩ := hw
  intro H locs ls cells slots hH hz hlv
  refine W_tight hH0 hH fun g1 g2 => ?_
  rcases q1 with q1 | ⟨host, q1⟩
  · refine gW_run hz (vx_runI (As := As) (rest := rest) ⟨hx, hb, hml, hown, hts⟩ (hM l hst9) (cwI nA hts (lw_meth q5) rfl rfl rfl (hts _ q4) (hts _ q1) (hts _ q2) hy1 hd (gLoc hk hm)) (gPS hK9 hH) rfl hA hlv.1 rfl (lv_room (gRest hrest)) d (gRoom k1 g1 g2 hH)) ?_ ?_
    · exact fun cls o M1 H1 locs1 ce hE hH1 hz1 hce hcv hcl => gW_thr hH0 hlk hown hts hK9 hex hhx hH1 hz1 hlv hce hcv hcl (kx _ _ _ hE)
    · exact fun v M1 H1 locs1 hq hH1 hz1 => kk v M1 hq H1 locs1 ls _ _ hH1 hz1 hlv
  · refine gW_run hz (vx_runIN (As := As) (rest := rest) ⟨hx, hb, hml, hown, hts⟩ (hM l hst9) ⟨va_cnB nA hts (lw_meth q5) rfl rfl rfl (hK9.2.2.2.1 _ _ _ _ q1) (hts _ q4) hd (gLoc hk hm), hy1, hts _ q2⟩ (gPS hK9 hH) rfl hA hlv.1 rfl (lv_room (gRest hrest)) d (gRoom k1 g1 g2 hH)) ?_ ?_
    · exact fun cls o M1 H1 locs1 ce hE hH1 hz1 hce hcv hcl => gW_thr hH0 hlk hown hts hK9 hex hhx hH1 hz1 hlv hce hcv hcl (kx _ _ _ hE)
    · exact fun v M1 H1 locs1 hq hH1 hz1 => kk v M1 hq H1 locs1 ls _ _ hH1 hz1 hlv
/-- Object's constructor does nothing -/
theorem g_objInit (hw : gX y0 cc nL ret hh kf G Qv E w) {idx a : Nat} (d : decode cc pc = .ok (.invokespecial idx, 3)) (q1 : Cond.methodLink y0.cls idx objectInit ∈ lw_all) (q2 : Cond.instanceMethod objectInit ∈ lw_all) (q3 : Cond.code objectInit ⟨#[0xb1]⟩ 1 none ∈ lw_all) (hrest : Nat.ble ((st.map Value.category).sum) 8 = true) (hk : 1 ≤ kf) (kk : w M (pc + 3) lv st) : w M pc lv (.ref a :: st) := by
  obtain ⟨M0, p, l, e, s, m, args, below, meth, c9, hx, hb, hml, hr, hlk, hown, hnm, hts, hst9, hK9, hH0, hex, hhx, rfl⟩ := hw
  intro H locs ls cells slots hH hz hlv
  refine W.objInit hx hb hown (hts _ q1) (hts _ q2) (hts _ q3) rfl (by rw [hml]; exact hlv.1) rfl d hk ?_ (kk H locs ls cells slots hH hz hlv)
  have h9 : 2 * (F0 m pc ls (Value.ref a :: st)).monitorRoom + (List.map (fun v => v.category) st).sum ≤ 8 := lv_room (gRest hrest)
  show 2 * (F0 m pc ls (Value.ref a :: st)).monitorRoom + (List.map (fun v => v.category) st).sum + 12 ≤ 64 * kf
  omega
-- ends
theorem gBool {v : Int32} (h : v = 0 ∨ v = 1) : narrow .boolean (.int v) = .int v := by rcases h with rfl | rfl <;> decide +kernel
theorem g_iret {ty : FieldType} {v : Int32} (hw : gX y0 cc nL (some ty) hh kf G Qv E w) (d : decode cc pc = .ok (.ireturn, 1)) (hn : narrow ty (.int v) = .int v) (h : Qv (some (.int v)) M) : w M pc lv [.int v] := by
  obtain ⟨M0, p, l, e, s, m, args, below, meth, c9, hx, hb, hml, hr, hlk, hown, hnm, hts, hst9, hK9, hH0, hex, hhx, rfl⟩ := hw
  intro H locs ls cells slots hH hz hlv
  refine W_tight hH0 hH fun q1 q2 => ?_
  obtain ⟨-, -, -, -, -, e6, e7⟩ := id hH
  refine W.widen (k := gLC - gn M0) (n := gLS - gs M0) (by omega) (by omega) (vx_ret ?_)
  exact W.zret hx hb hr hn (fun t ht hW => ⟨_, M, rfl, h, by rw [ht]; exact hH⟩) hz d hlk
theorem g_lret {v : Int64} (hw : gX y0 cc nL (some .long) hh kf G Qv E w) (d : decode cc pc = .ok (.lreturn, 1)) (h : Qv (some (.long v)) M) : w M pc lv [.long v] := by
  obtain ⟨M0, p, l, e, s, m, args, below, meth, c9, hx, hb, hml, hr, hlk, hown, hnm, hts, hst9, hK9, hH0, hex, hhx, rfl⟩ := hw
  intro H locs ls cells slots hH hz hlv
  refine W_tight hH0 hH fun q1 q2 => ?_
  obtain ⟨-, -, -, -, -, e6, e7⟩ := id hH
  refine W.widen (k := gLC - gn M0) (n := gLS - gs M0) (by omega) (by omega) (vx_ret ?_)
  exact W.lret hx hb hr (fun t ht hW => ⟨_, M, rfl, h, by rw [ht]; exact hH⟩) hz d hlk
theorem g_aret {n : String} {a : Nat} (hw : gX y0 cc nL (some (.object n)) hh kf G Qv E w) (d : decode cc pc = .ok (.areturn, 1)) (h : Qv (some (.ref a)) M) : w M pc lv [.ref a] := by
  obtain ⟨M0, p, l, e, s, m, args, below, meth, c9, hx, hb, hml, hr, hlk, hown, hnm, hts, hst9, hK9, hH0, hex, hhx, rfl⟩ := hw
  intro H locs ls cells slots hH hz hlv
  refine W_tight hH0 hH fun q1 q2 => ?_
  obtain ⟨-, -, -, -, -, e6, e7⟩ := id hH
  refine W.widen (k := gLC - gn M0) (n := gLS - gs M0) (by omega) (by omega) (vx_ret ?_)
  exact W.aret hx hb hr (Or.inl ⟨n, rfl⟩) (Or.inr ⟨a, rfl⟩) (fun t ht hW => ⟨_, M, rfl, h, by rw [ht]; exact hH⟩) hz d hlk
theorem g_vret (hw : gX y0 cc nL none hh kf G Qv E w) (d : decode cc pc = .ok (.return_, 1)) (h : Qv none M) : w M pc lv [] := by
  obtain ⟨M0, p, l, e, s, m, args, below, meth, c9, hx, hb, hml, hr, hlk, hown, hnm, hts, hst9, hK9, hH0, hex, hhx, rfl⟩ := hw
  intro H locs ls cells slots hH hz hlv
  refine W_tight hH0 hH fun q1 q2 => ?_
  obtain ⟨-, -, -, -, -, e6, e7⟩ := id hH
  refine W.widen (k := gLC - gn M0) (n := gLS - gs M0) (by omega) (by omega) (vx_ret ?_)
  exact W.vret hx hb hr (fun t ht hW => ⟨_, M, rfl, h, by rw [ht]; exact hH⟩) hz d hlk
-- new cells
theorem gDef (G : gG) {M : gM} {kd len sz : Nat} (ty : FieldType) (hty : ty ≠ .float ∧ ty ≠ .double) (j : Nat) : defaultValue ty = gV G (gnew M kd len sz) ty (gn M) j := by
  have e1 : gI (gnew M kd len sz) (gn M) j = 0 := by rw [gI_new, if_pos rfl]
  have e2 : gL (gnew M kd len sz) (gn M) j = 0 := by rw [gL_new, if_pos rfl]
  have e3 : gR (gnew M kd len sz) (gn M) j = none := by rw [gR_new, if_pos rfl]
  unfold gV
  rw [e1, e2, e3]
  cases ty <;> first | rfl | exact absurd rfl hty.1 | exact absurd rfl hty.2
theorem g_new (hw : gX y0 cc nL ret hh kf G Qv E w) {C : String} {T : u_T} {N ci idx : Nat} (hin : ∀ w ∈ u_ws C T N, w ∈ lw_all) (ty0 : Nat → FieldType) (hty : ∀ k, k < N → parseFieldDescriptor (T k).2.2.1 = some (ty0 k)) (hci : gCl[ci]? = some (C, T, N)) (ht0 : ty0 = gTy ci) (hfl : ∀ k, k < N → ty0 k ≠ .float ∧ ty0 k ≠ .double) (d : decode cc pc = .ok (.new idx, 3)) (q1 : Cond.classLink y0.cls idx C ∈ lw_all) (q2 : Cond.instantiable C N ∈ lw_all) (q3 : Cond.initialized C ∈ lw_all)
    (h1 : gn M < gLC) (h2 : gs M + N ≤ gLS) (kk : w (gnew M (ci + 1) 0 N) (pc + 3) lv (.ref (gA G (gn M)) :: st)) : w M pc lv st := by
  subst ht0
  obtain ⟨M0, p, l, e, s, m, args, below, meth, c9, hx, hb, hml, hr, hlk, hown, hnm, hts, hst9, hK9, hH0, hex, hhx, rfl⟩ := hw
  intro H locs ls cells slots hH hz hlv
  refine W_tight hH0 hH fun g1 g2 => ?_
  have hKn := hK9.1 ci _ hci
  have ha := gH_addr hH
  refine W.newc hx hb hown (hts _ q1) (hts _ q2) (hts _ q3) rfl d (by show gn M - gn M0 + 1 ≤ gLC - gn M0; omega) (by show gs M - gs M0 + N ≤ gLS - gs M0; omega) fun cC kC k1 k2 k3 k4 => ?_
  cases Option.some.inj (k1.symm.trans hKn.2.1)
  have e1 : (H.push (blank (G.2.2.2.1 ci) kC))[H.size]? = some (blank (G.2.2.2.1 ci) kC) := by simp
  have hb9 := u_born (gTy ci) hts hin hKn k2 e1 hty
  have hfin := kk (H.push (blank (G.2.2.2.1 ci) kC)) locs ls (gn M - gn M0 + 1) (gs M - gs M0 + N) (gH_new (cell := blank (G.2.2.2.1 ci) kC) hH e1 (by simp) (fun q hq => by rw [Array.getElem?_push, if_neg (Nat.ne_of_lt hq)]) (by simp [blank, k4]) h1 h2 (fun _ => ⟨fun ci' r i1 i2 => ?_, fun j i1 => ?_⟩)) hz hlv
  · rw [ha] at hfin
    exact hfin
  · rw [gk_new, if_pos rfl] at i1
    have hcc : ci' = ci := by omega
    subst hcc
    cases i2.symm.trans hci
    rw [ha]
    exact hb9.to fun k hk => gDef G _ (hfl k hk) k
  · rw [gk_new, if_pos rfl] at i1
    have : ci < 12 := (List.getElem?_eq_some_iff.mp hci).1
    omega
/-- a new array of a kind -/
theorem gH_arr {H : Heap} {j n : Nat} {x : Value} (hH : gH G M H) (hj : j < 9) (hx : ∀ q, x = gV G (gnew M (40 + j) n n) (gEt j) (gn M) q) (h1 : gn M < gLC) (h2 : gs M + n ≤ gLS) : gH G (gnew M (40 + j) n n) (H.push { cls := G.2.2.2.2.2.1 j, slots := Array.replicate n x, vm := .none }) := by
  refine gH_new (cell := { cls := G.2.2.2.2.2.1 j, slots := Array.replicate n x, vm := .none }) hH (by simp) (by simp) (fun q hq => by rw [Array.getElem?_push, if_neg (Nat.ne_of_lt hq)]) (by simp) h1 h2 (fun _ => ⟨fun ci r i1 i2 => ?_, fun j' i1 => ?_⟩)
  · rw [gk_new, if_pos rfl] at i1
    have : ci < 12 := (List.getElem?_eq_some_iff.mp i2).1
    omega
  · rw [gk_new, if_pos rfl] at i1
    have hjj : j' = j := by omega
    subst hjj
    rw [gH_addr hH, gl_new, if_pos rfl, arrV_new]
    rw [Array.getElem?_push_size]
    congr 2
    funext q
    exact hx q
theorem g_newa (hw : gX y0 cc nL ret hh kf G Qv E w) {atype : ArrayType} {n : Int32} {N : Nat} (j : Nat) (d : decode cc pc = .ok (.newarray atype, 2)) (hq : Cond.arrayClass (newarray.typeOf atype) ∈ lw_all) (hty : newarray.typeOf atype = gEt j) (hfl : gEt j ≠ .float ∧ gEt j ≠ .double) (hj : Nat.ble (j + 1) 9 = true) (hn : ¬ n < 0) (hN : n.toNatClampNeg = N) (hby : N * componentBytes (newarray.typeOf atype) ≤ 536870912)
    (h1 : gn M < gLC) (h2 : gs M + N ≤ gLS) (kk : w (gnew M (40 + j) N N) (pc + 2) lv (.ref (gA G (gn M)) :: st)) : w M pc lv (.int n :: st) := by
  subst hN
  obtain ⟨M0, p, l, e, s, m, args, below, meth, c9, hx, hb, hml, hr, hlk, hown, hnm, hts, hst9, hK9, hH0, hex, hhx, rfl⟩ := hw
  intro H locs ls cells slots hH hz hlv
  refine W_tight hH0 hH fun g1 g2 => ?_
  have j9 : j < 9 := Nat.le_of_ble_eq_true hj
  have ha := gH_addr hH
  refine W.newa hx hb (hts _ hq) rfl d rfl hn hby (by show gn M - gn M0 + 1 ≤ gLC - gn M0; omega) (by show gs M - gs M0 + n.toNatClampNeg ≤ gLS - gs M0; omega) fun cA kA comp k1 k2 k3 => ?_
  rw [hty] at k1
  cases Option.some.inj (k1.symm.trans (hK9.2.1 j j9).2.1)
  have hfin := kk _ locs ls (gn M - gn M0 + 1) (gs M - gs M0 + n.toNatClampNeg) (gH_arr (x := defaultValue (newarray.typeOf atype)) hH j9 (fun q => by rw [hty]; exact gDef G _ hfl q) h1 h2) hz hlv
  rw [ha] at hfin
  exact hfin
theorem g_anew (hw : gX y0 cc nL ret hh kf G Qv E w) {C : String} {n : Int32} {N idx : Nat} (j : Nat) (d : decode cc pc = .ok (.anewarray idx, 3)) (q1 : Cond.classLink y0.cls idx C ∈ lw_all) (hq : Cond.arrayOver (.object C) ∈ lw_tbl) (hty : FieldType.object C = gEt j) (hj : Nat.ble (j + 1) 9 = true) (hn : ¬ n < 0) (hN : n.toNatClampNeg = N) (hby : N * 4 ≤ 536870912)
    (h1 : gn M < gLC) (h2 : gs M + N ≤ gLS) (kk : w (gnew M (40 + j) N N) (pc + 3) lv (.ref (gA G (gn M)) :: st)) : w M pc lv (.int n :: st) := by
  subst hN
  obtain ⟨M0, p, l, e, s, m, args, below, meth, c9, hx, hb, hml, hr, hlk, hown, hnm, hts, hst9, hK9, hH0, hex, hhx, rfl⟩ := hw
  intro H locs ls cells slots hH hz hlv
  refine W_tight hH0 hH fun g1 g2 => ?_
  have j9 : j < 9 := Nat.le_of_ble_eq_true hj
  have ha := gH_addr hH
  refine W.anew hx hb hown (hts _ q1) (va_AO.use (hK9.2.2.2.2.2.2.1 _ hq)) rfl d rfl hn hby (by show gn M - gn M0 + 1 ≤ gLC - gn M0; omega) (by show gs M - gs M0 + n.toNatClampNeg ≤ gLS - gs M0; omega) fun cA kA comp k1 k2 k3 k4 => ?_
  rw [hty] at k1
  cases Option.some.inj (k1.symm.trans (hK9.2.1 j j9).2.1)
  have hfin := kk _ locs ls (gn M - gn M0 + 1) (gs M - gs M0 + n.toNatClampNeg) (gH_arr (x := .null) hH j9 (fun q => by rw [← hty]; exact gDef G (.object C) ⟨fun h => (by cases h), fun h => (by cases h)⟩ q) h1 h2) hz hlv
  rw [ha] at hfin
  exact hfin
end GCR
