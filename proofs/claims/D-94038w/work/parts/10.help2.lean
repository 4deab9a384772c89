/-! MORE HELP: switches, String constants, statics, abstract calls, arrays of arrays -/
theorem gNeI {a b : Int32} {k : Int} (h : ¬ a = b) (hk : b.toInt = k) : a.toInt ≠ k := fun e => h (Int32.toInt_inj.mp (e.trans hk.symm))
theorem gA_lo {G : gG} {c : Nat} (h : c < 16) : gA G c = G.2.2.2.2.2.2 c := by unfold gA; rw [if_pos h]
section GH2
variable {y0 : MethodName} {cc : ByteArray} {nL : Nat} {ret : Option FieldType} {hh : List (Nat × Nat × Nat × Nat)} {kf : Nat} {G : gG} {Qv : Option Value → gM → Prop} {E : String → Nat → gM → Prop} {w : gM → Nat → List (Nat × Value) → List Value → Prop} {M : gM} {pc : Nat} {lv : List (Nat × Value)} {st : List Value}
theorem gH_old {H : Heap} {a : Nat} (hK : ∃ s, gK G s) (hH : gH G M H) (h : a < G.2.2.1.size) : H[a]? = G.2.2.1[a]? := by
  obtain ⟨s, hK⟩ := hK
  have e := hK.2.2.2.2.2.2.2.2.2.2.2.2.2.2.1
  exact hH.2.2.1 a (by rw [← e]; exact h)
theorem g_ldcS (hw : gX y0 cc nL ret hh kf G Qv E w) {idx : Nat} {tx : String} (i : Nat) (d : decode cc pc = .ok (.ldc idx, 2)) (hq : Cond.stringRef y0.cls idx tx ∈ lw_tbl) (hi : gStr[i]? = some tx) (kk : w M (pc + 2) lv (.ref (gA G i) :: st)) : w M pc lv st := by
  obtain ⟨M0, p, l, e, s, m, args, below, meth, c9, hx, hb, hml, hr, hlk, hown, hnm, hts, hst9, hK9, hH0, hex, hhx, rfl⟩ := hw
  intro H locs ls cells slots hH hz hlv
  have h9 := kk H locs ls cells slots hH hz hlv
  rw [gA_lo (show i < 16 from Nat.lt_of_lt_of_le (List.getElem?_eq_some_iff.mp hi).1 (by decide))] at h9
  exact va_ldcS hx hb hown (hK9.2.2.2.2.2.2.2.1 i _ _ _ hq hi) d h9
theorem g_strV (hw : gX y0 cc nL ret hh kf G Qv E w) {c idx : Nat} (d : decode cc pc = .ok (.getfield idx, 3)) (hq : Cond.fieldLink y0.cls idx "java/lang/String" "value" "[B" ∈ lw_all) (hc : c < 8) (kk : w M (pc + 3) lv (.ref (gA G (8 + c)) :: st)) : w M pc lv (.ref (gA G c) :: st) := by
  obtain ⟨M0, p, l, e, s, m, args, below, meth, c9, hx, hb, hml, hr, hlk, hown, hnm, hts, hst9, hK9, hH0, hex, hhx, rfl⟩ := hw
  intro H locs ls cells slots hH hz hlv
  have h9 := kk H locs ls cells slots hH hz hlv
  rw [gA_lo (by omega)] at h9
  rw [gA_lo (by omega)]
  obtain ⟨cf, k, fi, f, cell, h1, h2, h3, h4, h5, h6⟩ := ((hK9.2.2.2.2.2.2.2.2.1).1 c hc).2.2.1
  exact W.getf hx hb hown (hts _ hq) h1 h2 (by rw [gH_old ⟨s, hK9⟩ hH (Array.getElem?_eq_some_iff.mp h3).1]; exact h3) h4 h5 rfl rfl d h9
theorem g_strC (hw : gX y0 cc nL ret hh kf G Qv E w) {c idx : Nat} (d : decode cc pc = .ok (.getfield idx, 3)) (hq : Cond.fieldLink y0.cls idx "java/lang/String" "coder" "B" ∈ lw_all) (hc : c < 8) (kk : w M (pc + 3) lv (.int 0 :: st)) : w M pc lv (.ref (gA G c) :: st) := by
  obtain ⟨M0, p, l, e, s, m, args, below, meth, c9, hx, hb, hml, hr, hlk, hown, hnm, hts, hst9, hK9, hH0, hex, hhx, rfl⟩ := hw
  intro H locs ls cells slots hH hz hlv
  have h9 := kk H locs ls cells slots hH hz hlv
  rw [gA_lo (by omega)]
  obtain ⟨cf, k, fi, f, cell, h1, h2, h3, h4, h5, h6⟩ := ((hK9.2.2.2.2.2.2.2.2.1).1 c hc).2.1
  exact W.getf hx hb hown (hts _ hq) h1 h2 (by rw [gH_old ⟨s, hK9⟩ hH (Array.getElem?_eq_some_iff.mp h3).1]; exact h3) h4 h5 rfl rfl d h9
/-- the bytes of a String constant -/
def gSL (c : Nat) : Nat := gSl.getD (c - 8) 0
def gSB (c j : Nat) : Int32 := (gSb.getD (c - 8) []).getD j 0
theorem g_sbald (hw : gX y0 cc nL ret hh kf G Qv E w) {c n : Nat} {i : Int32} (d : decode cc pc = .ok (.baload, 1)) (hc : 8 ≤ c ∧ c < 16) (hin : vp_in i (gSL c)) (hn : i.toNatClampNeg = n) (kk : w M (pc + 1) lv (.int (gSB c n) :: st)) : w M pc lv (.int i :: .ref (gA G c) :: st) := by
  subst hn
  obtain ⟨M0, p, l, e, s, m, args, below, meth, c9, hx, hb, hml, hr, hlk, hown, hnm, hts, hst9, hK9, hH0, hex, hhx, rfl⟩ := hw
  intro H locs ls cells slots hH hz hlv
  have h9 := kk H locs ls cells slots hH hz hlv
  rw [gA_lo (by omega)]
  obtain ⟨cell, h1, h2, h3, h4, h5, h6, h7⟩ := ((hK9.2.2.2.2.2.2.2.2.1).1 (c - 8) (by omega)).2.2.2
  have hcc : 8 + (c - 8) = c := by omega
  simp only [hcc] at h1
  have hlt := gix_lt hin
  exact W.bald (v := .int (gSB c i.toNatClampNeg)) hx hb (by rw [gH_old ⟨s, hK9⟩ hH (Array.getElem?_eq_some_iff.mp h1).1]; exact h1) h2 h3 (fun q => hin (q.elim Or.inl (fun q => Or.inr (Nat.le_trans h4 q)))) (h6 _ hlt) rfl rfl d h9
theorem g_salen (hw : gX y0 cc nL ret hh kf G Qv E w) {c : Nat} (d : decode cc pc = .ok (.arraylength, 1)) (hc : 8 ≤ c ∧ c < 16) (kk : w M (pc + 1) lv (.int (nI (gSL c)) :: st)) : w M pc lv (.ref (gA G c) :: st) := by
  obtain ⟨M0, p, l, e, s, m, args, below, meth, c9, hx, hb, hml, hr, hlk, hown, hnm, hts, hst9, hK9, hH0, hex, hhx, rfl⟩ := hw
  intro H locs ls cells slots hH hz hlv
  have h9 := kk H locs ls cells slots hH hz hlv
  rw [gA_lo (by omega)]
  obtain ⟨cell, h1, h2, h3, h4, h5, h6, h7⟩ := ((hK9.2.2.2.2.2.2.2.2.1).1 (c - 8) (by omega)).2.2.2
  have hcc : 8 + (c - 8) = c := by omega
  simp only [hcc] at h1
  exact W.alen (n := nI (gSL c)) hx hb (by rw [gH_old ⟨s, hK9⟩ hH (Array.getElem?_eq_some_iff.mp h1).1]; exact h1) h2 h5 rfl rfl d h9
theorem g_getsI (hw : gX y0 cc nL ret hh kf G Qv E w) {idx : Nat} (d : decode cc pc = .ok (.getstatic idx, 3)) (hq : Cond.fieldLink y0.cls idx "java/lang/String" "COMPACT_STRINGS" "Z" ∈ lw_all) (kk : w M (pc + 3) lv (.int 1 :: st)) : w M pc lv st := by
  obtain ⟨M0, p, l, e, s, m, args, below, meth, c9, hx, hb, hml, hr, hlk, hown, hnm, hts, hst9, hK9, hH0, hex, hhx, rfl⟩ := hw
  intro H locs ls cells slots hH hz hlv
  obtain ⟨cf, kf', fi, f, a, cell, h1, h2, h3, h4, h5, h6, h7, h8⟩ := hK9.2.2.2.2.2.2.2.2.2.1
  exact W.gets hx hb hown (hts _ hq) h1 h2 h3 h4 (by rw [gH_old ⟨s, hK9⟩ hH (Array.getElem?_eq_some_iff.mp h5).1]; exact h5) (fun e => by rw [e] at h6; cases h6) h7 rfl d (kk H locs ls cells slots hH hz hlv)
theorem g_getsQ0 {C n d9 : String} (hZ : ∀ s : State, gK G s → va_Zq C n d9 (fun q => G.1 ≤ q) s G.2.2.1) (hw : gX y0 cc nL ret hh kf G Qv E w) {idx : Nat} (d : decode cc pc = .ok (.getstatic idx, 3)) (hq : Cond.fieldLink y0.cls idx C n d9 ∈ lw_all) (kk : ∀ q : Option Nat, w M (pc + 3) lv (va_rf (q.map (gA G)) :: st)) : w M pc lv st := by
  obtain ⟨M0, p, l, e, s, m, args, below, meth, c9, hx, hb, hml, hr, hlk, hown, hnm, hts, hst9, hK9, hH0, hex, hhx, rfl⟩ := hw
  intro H locs ls cells slots hH hz hlv
  rcases hZ s hK9 with ⟨cf, kf', fi, f, a, cell, h1, h2, h3, h4, h5, h6, h7, h8⟩ | ⟨t, cf, kf', fi, f, a, cell, h1, h2, h3, h4, h5, h6, h7, h8⟩
  · exact W.gets hx hb hown (hts _ hq) h1 h2 h3 h4 (by rw [gH_old ⟨s, hK9⟩ hH (Array.getElem?_eq_some_iff.mp h5).1]; exact h5) (fun e => by rw [e] at h6; cases h6) h7 rfl d (kk none H locs ls cells slots hH hz hlv)
  · have h9 := kk (some (gBig + t)) H locs ls cells slots hH hz hlv
    have e9 : va_rf ((some (gBig + t)).map (gA G)) = .ref t := by show Value.ref (gA G (gBig + t)) = _; rw [gA_ext]
    rw [e9] at h9
    exact W.gets hx hb hown (hts _ hq) h1 h2 h3 h4 (by rw [gH_old ⟨s, hK9⟩ hH (Array.getElem?_eq_some_iff.mp h5).1]; exact h5) (fun e => by rw [e] at h6; cases h6) h7 rfl d h9
theorem g_getsU (hw : gX y0 cc nL ret hh kf G Qv E w) {idx : Nat} (d : decode cc pc = .ok (.getstatic idx, 3)) (hq : Cond.fieldLink y0.cls idx "java/lang/Throwable" "UNASSIGNED_STACK" "[Ljava/lang/StackTraceElement;" ∈ lw_all) (kk : ∀ q : Option Nat, w M (pc + 3) lv (va_rf (q.map (gA G)) :: st)) : w M pc lv st :=
  g_getsQ0 (fun _ h => h.2.2.2.2.2.2.2.2.2.2.1.1) hw d hq kk
theorem g_getsN (hw : gX y0 cc nL ret hh kf G Qv E w) {idx : Nat} (d : decode cc pc = .ok (.getstatic idx, 3)) (hq : Cond.fieldLink y0.cls idx "java/lang/Throwable" "SUPPRESSED_SENTINEL" "Ljava/util/List;" ∈ lw_all) (kk : ∀ q : Option Nat, w M (pc + 3) lv (va_rf (q.map (gA G)) :: st)) : w M pc lv st :=
  g_getsQ0 (fun _ h => h.2.2.2.2.2.2.2.2.2.2.2.1.1) hw d hq kk
theorem g_getsF (hw : gX y0 cc nL ret hh kf G Qv E w) {idx : Nat} (d : decode cc pc = .ok (.getstatic idx, 3)) (hq : Cond.fieldLink y0.cls idx "jdk/internal/util/Preconditions" "SIOOBE_FORMATTER" "Ljava/util/function/BiFunction;" ∈ lw_all) (kk : ∀ q : Option Nat, w M (pc + 3) lv (va_rf (q.map (gA G)) :: st)) : w M pc lv st :=
  g_getsQ0 (fun _ h => h.2.2.2.2.2.2.2.2.2.2.2.2.1) hw d hq kk
/-- a call of a String's method -/
theorem g_callVS (hw : gX y0 cc nL ret hh kf G Qv E w) {idx c maxL k1 : Nat} {y1 : MethodName} {b1 : ByteArray} {ret1 : Option FieldType} {rest : List Value} {Q1 : Option Value → gM → Prop} {E1 : String → Nat → gM → Prop} (As : List Value) {nA : Nat} (hA : As.length = nA) (d : decode cc pc = .ok (.invokevirtual idx, 3)) (q1 : Cond.methodLink y0.cls idx y1 ∈ lw_all) (q2 : Cond.instanceMethod y1 ∈ lw_all) (q3 : Cond.selects "java/lang/String" y1 y1 ∈ lw_all) (q4 : Cond.initialized "java/lang/String" ∈ lw_all) (q5 : Cond.code y1 b1 maxL ret1 ∈ lw_all)
    (hd : y1.cls = "java/lang/String" ∧ y1.cls ≠ "java/lang/invoke/MethodHandle" ∧ y1.cls ≠ "java/lang/invoke/VarHandle" ∧ (parseMethodDescriptor y1.desc).map (fun d => d.parameters.length) = some nA)
    (hm : Nat.ble maxL 45 = true) (hrest : Nat.ble ((rest.map Value.category).sum) 8 = true) (hst : st = As.reverse ++ .ref (gA G c) :: rest) (hk : k1 + 1 ≤ kf) (hc : c < 8)
    (hM : gMet y1 b1 maxL ret1 k1 G M (.ref (gA G c) :: As) Q1 E1) (kx : ∀ cls o M1, E1 cls o M1 → gCat y0.cls hh G E w pc lv cls o M1) (kk : ∀ v M1, Q1 v M1 → w M1 (pc + 3) lv (v.toList ++ rest)) : w M pc lv st := by
  subst hst
  obtain ⟨M0, p, l, e, s, m, args, below, meth, c9, hx, hb, hml, hr, hlk, hown, hnm, hts, hst9, hK9, hH0, hex, hhx, rfl⟩ := hw
  intro H locs ls cells slots hH hz hlv
  refine W_tight hH0 hH fun g1 g2 => ?_
  have hrecv : ∃ cell : Cell, H[gA G c]? = some cell ∧ cell.vm.isStatics = false ∧ s.vm.findClass "java/lang/String" = some cell.cls := by
    obtain ⟨cell, h1, h2, h3, h4⟩ := ((hK9.2.2.2.2.2.2.2.2.1).1 c hc).1
    rw [gA_lo (by omega)]
    exact ⟨cell, by rw [gH_old ⟨s, hK9⟩ hH (Array.getElem?_eq_some_iff.mp h1).1]; exact h1, h2, h3⟩
  refine gW_run hz (vx_runV (As := As) (rest := rest) (C := "java/lang/String") ⟨hx, hb, hml, hown, hts⟩ (hM l hst9) (cwV nA hts (lw_V q1 q2 q3 q4 q5) rfl rfl rfl hd (gLoc hk hm)) ⟨gPc_blind, hrecv, fun U hU hW => ⟨rfl, hK9.warm hW, by rw [hU]; exact hH⟩⟩ rfl hA hlv.1 rfl (lv_room (gRest hrest)) d (gRoom k1 g1 g2 hH)) ?_ ?_
  · exact fun cls o M1 H1 locs1 ce hE hH1 hz1 hce hcv hcl => gW_thr hH0 hlk hown hts hK9 hex hhx hH1 hz1 hlv hce hcv hcl (kx _ _ _ hE)
  · exact fun v M1 H1 locs1 hq hH1 hz1 => kk v M1 hq H1 locs1 ls _ _ hH1 hz1 hlv
/-- an abstract method's call: x as it is named, y as the receiver's class has it -/
theorem g_callA (hw : gX y0 cc nL ret hh kf G Qv E w) {idx c ci maxL k1 : Nat} {r : vw_C} {x1 y1 : MethodName} {b1 : ByteArray} {ret1 : Option FieldType} {rest : List Value} {Q1 : Option Value → gM → Prop} {E1 : String → Nat → gM → Prop} (As : List Value) {nA : Nat} (hA : As.length = nA) (d : decode cc pc = .ok (.invokevirtual idx, 3)) (q1 : Cond.methodLink y0.cls idx x1 ∈ lw_all) (qs : Cond.sameMethod x1.cls x1.cls x1.name x1.desc ∈ lw_all) (qd : Cond.declares x1 ∈ lw_tbl) (q2 : Cond.instanceMethod y1 ∈ lw_all) (q3 : Cond.selects r.1 x1 y1 ∈ lw_all) (q4 : Cond.initialized y1.cls ∈ lw_all) (q5 : Cond.code y1 b1 maxL ret1 ∈ lw_all)
    (hd : x1.cls ≠ "java/lang/invoke/MethodHandle" ∧ x1.cls ≠ "java/lang/invoke/VarHandle" ∧ (parseMethodDescriptor x1.desc).map (fun d => d.parameters.length) = some nA)
    (hci : gCl[ci]? = some r) (hm : Nat.ble maxL 45 = true) (hrest : Nat.ble ((rest.map Value.category).sum) 8 = true) (hst : st = As.reverse ++ .ref (gA G c) :: rest) (hk : k1 + 1 ≤ kf) (hkd : gk M c = ci + 1)
    (hM : gMet y1 b1 maxL ret1 k1 G M (.ref (gA G c) :: As) Q1 E1) (kx : ∀ cls o M1, E1 cls o M1 → gCat y0.cls hh G E w pc lv cls o M1) (kk : ∀ v M1, Q1 v M1 → w M1 (pc + 3) lv (v.toList ++ rest)) : w M pc lv st := by
  subst hst
  obtain ⟨M0, p, l, e, s, m, args, below, meth, c9, hx, hb, hml, hr, hlk, hown, hnm, hts, hst9, hK9, hH0, hex, hhx, rfl⟩ := hw
  intro H locs ls cells slots hH hz hlv
  refine W_tight hH0 hH fun g1 g2 => ?_
  have hG : GoodIn lw_all (va_wsU y0.cls idx r.1 x1.cls x1 y1 (ws_ y1 b1 maxL ret1)) := lw_app (fun w h => by
    simp only [List.mem_cons, List.not_mem_nil, or_false] at h
    rcases h with rfl | rfl | rfl | rfl | rfl
    · exact q1
    · exact qs
    · exact q3
    · exact q2
    · exact q4) (lw_meth q5)
  refine gW_run hz (vx_runU (As := As) (rest := rest) (C := r.1) (owner := x1.cls) (x := x1) ⟨hx, hb, hml, hown, hts⟩ (hM l hst9) (va_cwA nA hts hG rfl rfl rfl (hK9.2.2.2.2.2.1 _ qd) hd (gLoc hk hm)) ⟨gPc_blind, gRecv hK9 hH hci hkd, fun U hU hW => ⟨rfl, hK9.warm hW, by rw [hU]; exact hH⟩⟩ rfl hA hlv.1 rfl (lv_room (gRest hrest)) d (gRoom k1 g1 g2 hH)) ?_ ?_
  · exact fun cls o M1 H1 locs1 ce hE hH1 hz1 hce hcv hcl => gW_thr hH0 hlk hown hts hK9 hex hhx hH1 hz1 hlv hce hcv hcl (kx _ _ _ hE)
  · exact fun v M1 H1 locs1 hq hH1 hz1 => kk v M1 hq H1 locs1 ls _ _ hH1 hz1 hlv
theorem g_anewA (hw : gX y0 cc nL ret hh kf G Qv E w) {n : Int32} {N idx : Nat} (d : decode cc pc = .ok (.anewarray idx, 3)) (q1 : Cond.classLink y0.cls idx "[I" ∈ lw_all) (hq : Cond.arrayOver (.array .int) ∈ lw_tbl) (hn : ¬ n < 0) (hN : n.toNatClampNeg = N) (hby : N * 4 ≤ 536870912)
    (h1 : gn M < gLC) (h2 : gs M + N ≤ gLS) (kk : w (gnew M 48 N N) (pc + 3) lv (.ref (gA G (gn M)) :: st)) : w M pc lv (.int n :: st) := by
  subst hN
  obtain ⟨M0, p, l, e, s, m, args, below, meth, c9, hx, hb, hml, hr, hlk, hown, hnm, hts, hst9, hK9, hH0, hex, hhx, rfl⟩ := hw
  intro H locs ls cells slots hH hz hlv
  refine W_tight hH0 hH fun g1 g2 => ?_
  have ha := gH_addr hH
  refine W.anewA (t := .int) hx hb hown (hts _ q1) (hK9.2.2.2.2.2.2.2.2.2.2.2.2.2.1 _ hq) rfl d rfl hn hby (by show gn M - gn M0 + 1 ≤ gLC - gn M0; omega) (by show gs M - gs M0 + n.toNatClampNeg ≤ gLS - gs M0; omega) fun cA kA comp k1 k2 k3 k4 => ?_
  cases Option.some.inj (k1.symm.trans (hK9.2.1 8 (by decide)).2.1)
  have hfin := kk _ locs ls (gn M - gn M0 + 1) (gs M - gs M0 + n.toNatClampNeg) (gH_arr (j := 8) (x := .null) hH (by decide) (fun q => gDef G (.array .int) ⟨fun h => (by cases h), fun h => (by cases h)⟩ q) h1 h2) hz hlv
  rw [ha] at hfin
  exact hfin
end GH2
