/-! CALLS of methods with handlers; the law's script -/
section GHW
variable {y0 : MethodName} {cc : ByteArray} {nL : Nat} {ret : Option FieldType} {hh : List (Nat × Nat × Nat × Nat)} {kf : Nat} {G : gG} {Qv : Option Value → gM → Prop} {E : String → Nat → gM → Prop} {w : gM → Nat → List (Nat × Value) → List Value → Prop} {M : gM} {pc : Nat} {lv : List (Nat × Value)} {st : List Value}
theorem g_callVW (hw : gX y0 cc nL ret hh kf G Qv E w) {idx c ci maxL k1 : Nat} {r : vw_C} {y1 : MethodName} {b1 : ByteArray} {ret1 : Option FieldType} {hh1 : List (Nat × Nat × Nat × Nat)} {rest : List Value} {Q1 : Option Value → gM → Prop} {E1 : String → Nat → gM → Prop} (As : List Value) {nA : Nat} (hA : As.length = nA) (d : decode cc pc = .ok (.invokevirtual idx, 3)) (q1 : Cond.methodLink y0.cls idx y1 ∈ lw_all) (q2 : Cond.instanceMethod y1 ∈ lw_all) (q3 : Cond.selects r.1 y1 y1 ∈ lw_all) (q4 : Cond.initialized r.1 ∈ lw_all) (q5 : Cond.codeWith y1 b1 maxL ret1 hh1 ∈ lw_all)
    (hd : y1.cls = r.1 ∧ y1.cls ≠ "java/lang/invoke/MethodHandle" ∧ y1.cls ≠ "java/lang/invoke/VarHandle" ∧ (parseMethodDescriptor y1.desc).map (fun d => d.parameters.length) = some nA)
    (hci : gCl[ci]? = some r) (hm : Nat.ble maxL 45 = true) (hrest : Nat.ble ((rest.map Value.category).sum) 8 = true) (hst : st = As.reverse ++ .ref (gA G c) :: rest) (hk : k1 + 1 ≤ kf) (hkd : gk M c = ci + 1)
    (hM : gMetW y1 b1 maxL ret1 hh1 k1 G M (.ref (gA G c) :: As) Q1 E1) (kx : ∀ cls o M1, E1 cls o M1 → gCat y0.cls hh G E w pc lv cls o M1) (kk : ∀ v M1, Q1 v M1 → w M1 (pc + 3) lv (v.toList ++ rest)) : w M pc lv st := by
  subst hst
  obtain ⟨M0, p, l, e, s, m, args, below, meth, c9, hx, hb, hml, hr, hlk, hown, hnm, hts, hst9, hK9, hH0, hex, hhx, rfl⟩ := hw
  intro H locs ls cells slots hH hz hlv
  refine W_tight hH0 hH fun g1 g2 => ?_
  refine gW_run hz (vx_runVX (As := As) (rest := rest) (C := r.1) (hh := hh1) ⟨hx, hb, hml, hown, hts⟩ (hM l hst9) (vx_cwVW nA hts (lw_VW q1 q2 q3 q4 q5) rfl rfl rfl hd (gLoc hk hm)) ⟨gPc_blind, gRecv hK9 hH hci hkd, fun U hU hW => ⟨rfl, hK9.warm hW, by rw [hU]; exact hH⟩⟩ rfl hA hlv.1 rfl (lv_room (gRest hrest)) d (gRoom k1 g1 g2 hH)) ?_ ?_
  · exact fun cls o M1 H1 locs1 ce hE hH1 hz1 hce hcv hcl => gW_thr hH0 hlk hown hts hK9 hex hhx hH1 hz1 hlv hce hcv hcl (kx _ _ _ hE)
  · exact fun v M1 H1 locs1 hq hH1 hz1 => kk v M1 hq H1 locs1 ls _ _ hH1 hz1 hlv
theorem g_callSW (hw : gX y0 cc nL ret hh kf G Qv E w) {idx maxL k1 : Nat} {y1 : MethodName} {b1 : ByteArray} {ret1 : Option FieldType} {hh1 : List (Nat × Nat × Nat × Nat)} {rest : List Value} {Q1 : Option Value → gM → Prop} {E1 : String → Nat → gM → Prop} (As : List Value) {nA : Nat} (hA : As.length = nA) (d : decode cc pc = .ok (.invokestatic idx, 3)) (q1 : Cond.methodLink y0.cls idx y1 ∈ lw_all) (q2 : Cond.static y1 ∈ lw_all) (q4 : Cond.initialized y1.cls ∈ lw_all) (q5 : Cond.codeWith y1 b1 maxL ret1 hh1 ∈ lw_all)
    (hd : y1.cls ≠ "java/lang/invoke/MethodHandle" ∧ y1.cls ≠ "java/lang/invoke/VarHandle" ∧ (parseMethodDescriptor y1.desc).map (fun d => d.parameters.length) = some nA)
    (hm : Nat.ble maxL 45 = true) (hrest : Nat.ble ((rest.map Value.category).sum) 8 = true) (hst : st = As.reverse ++ rest) (hk : k1 + 1 ≤ kf)
    (hM : gMetW y1 b1 maxL ret1 hh1 k1 G M As Q1 E1) (kx : ∀ cls o M1, E1 cls o M1 → gCat y0.cls hh G E w pc lv cls o M1) (kk : ∀ v M1, Q1 v M1 → w M1 (pc + 3) lv (v.toList ++ rest)) : w M pc lv st := by
  subst hst
  obtain ⟨M0, p, l, e, s, m, args, below, meth, c9, hx, hb, hml, hr, hlk, hown, hnm, hts, hst9, hK9, hH0, hex, hhx, rfl⟩ := hw
  intro H locs ls cells slots hH hz hlv
  refine W_tight hH0 hH fun g1 g2 => ?_
  refine gW_run hz (vx_runSX (As := As) (rest := rest) (hh := hh1) ⟨hx, hb, hml, hown, hts⟩ (hM l hst9) (vx_cwSW nA hts (lw_SW q1 q2 q4 q5) rfl rfl rfl hd (gLoc hk hm)) (gPS hK9 hH) rfl hA hlv.1 rfl (lv_room (gRest hrest)) d (gRoom k1 g1 g2 hH)) ?_ ?_
  · exact fun cls o M1 H1 locs1 ce hE hH1 hz1 hce hcv hcl => gW_thr hH0 hlk hown hts hK9 hex hhx hH1 hz1 hlv hce hcv hcl (kx _ _ _ hE)
  · exact fun v M1 H1 locs1 hq hH1 hz1 => kk v M1 hq H1 locs1 ls _ _ hH1 hz1 hlv
/-- into the one handler -/
theorem gCatH {own : String} {s0 e0 hp ct : Nat} {cls : String} {E1 : Nat → gM → Prop} (hc : (Nat.ble s0 pc = true ∧ Nat.ble (pc + 1) e0 = true) ∧ ct ≠ 0) (hq : Cond.classLink own ct cls ∈ lw_all) (hcast : Cond.castable cls cls ∈ lw_tbl) (kk : ∀ o M1, E1 o M1 → w M1 hp lv [.ref (gA G o)]) : ∀ (cls' : String) (o : Nat) (M1 : gM), gEx cls E1 cls' o M1 → gCat own [(s0, e0, hp, ct)] G E w pc lv cls' o M1 :=
  fun cls' o M1 h => by
    obtain ⟨rfl, h⟩ := h
    exact Or.inr ⟨s0, e0, hp, ct, rfl, hc.1, hc.2, hq, hcast, kk o M1 h⟩
/-- the law's script: L ints at b, in the old heap -/
def gScr (G : gG) (b L : Nat) (xs : Nat → Int32) : Prop := ∃ scr : Cell, G.2.2.1[b]? = some scr ∧ (scr.vm ≠ .unknown ∧ (∀ k, scr.vm ≠ .statics k) ∧ scr.cls = G.2.2.2.2.2.1 9) ∧ scr.slots.size = L ∧ L < 2147483648 ∧ ∀ j : Nat, j < L → scr.slots[j]? = some (.int (xs j))
theorem g_sciald (hw : gX y0 cc nL ret hh kf G Qv E w) {b L n : Nat} {xs : Nat → Int32} {i : Int32} (hS : gScr G b L xs) (d : decode cc pc = .ok (.iaload, 1)) (hin : vp_in i L) (hn : i.toNatClampNeg = n) (kk : w M (pc + 1) lv (.int (xs n) :: st)) : w M pc lv (.int i :: .ref (gA G (gBig + b)) :: st) := by
  subst hn
  obtain ⟨M0, p, l, e, s, m, args, below, meth, c9, hx, hb, hml, hr, hlk, hown, hnm, hts, hst9, hK9, hH0, hex, hhx, rfl⟩ := hw
  intro H locs ls cells slots hH hz hlv
  have h9 := kk H locs ls cells slots hH hz hlv
  rw [gA_ext]
  obtain ⟨scr, h1, ⟨h2, h6, h7⟩, h3, h4, h5⟩ := hS
  have h8 : s.isArrayOf scr .int := by
    obtain ⟨k9, comp9, a1, a2⟩ := hK9.2.2.2.2.2.2.2.2.2.2.2.2.2.2.2
    exact ⟨h6, k9, by rw [h7]; exact a1, comp9, a2⟩
  exact W.iald hx hb (by rw [gH_old ⟨s, hK9⟩ hH (Array.getElem?_eq_some_iff.mp h1).1]; exact h1) h8 h2 (by rw [h3]; exact hin) (h5 _ (gix_lt hin)) rfl rfl d h9
theorem g_sclen (hw : gX y0 cc nL ret hh kf G Qv E w) {b L : Nat} {xs : Nat → Int32} (hS : gScr G b L xs) (d : decode cc pc = .ok (.arraylength, 1)) (kk : w M (pc + 1) lv (.int (nI L) :: st)) : w M pc lv (.ref (gA G (gBig + b)) :: st) := by
  obtain ⟨M0, p, l, e, s, m, args, below, meth, c9, hx, hb, hml, hr, hlk, hown, hnm, hts, hst9, hK9, hH0, hex, hhx, rfl⟩ := hw
  intro H locs ls cells slots hH hz hlv
  have h9 := kk H locs ls cells slots hH hz hlv
  rw [gA_ext]
  obtain ⟨scr, h1, ⟨h2, h6, h7⟩, h3, h4, h5⟩ := hS
  have h8 : s.isArrayOf scr .int := by
    obtain ⟨k9, comp9, a1, a2⟩ := hK9.2.2.2.2.2.2.2.2.2.2.2.2.2.2.2
    exact ⟨h6, k9, by rw [h7]; exact a1, comp9, a2⟩
  exact W.alen (n := nI L) hx hb (by rw [gH_old ⟨s, hK9⟩ hH (Array.getElem?_eq_some_iff.mp h1).1]; exact h1) h8 (by rw [h3] <;> rfl) rfl rfl d h9
end GHW
def yL_law : MethodName := ⟨RX0, "law", "([I)Z"⟩
