/-! MEMORY ROWS over w -/
section GMR
variable {y0 : MethodName} {cc : ByteArray} {nL : Nat} {ret : Option FieldType} {hh : List (Nat × Nat × Nat × Nat)} {kf : Nat} {G : gG} {Qv : Option Value → gM → Prop} {E : String → Nat → gM → Prop} {w : gM → Nat → List (Nat × Value) → List Value → Prop} {M : gM} {pc : Nat} {lv : List (Nat × Value)} {st : List Value}
theorem gH_cell {H : Heap} {c kd : Nat} (h : gH G M H) (hk : gk M c = kd + 1) : 16 ≤ c ∧ c < gn M ∧ gcell G M H c := h.2.2.2.1 c (by rw [hk]; omega)
theorem g_getC (hw : gX y0 cc nL ret hh kf G Qv E w) {C : String} {T : u_T} {N ci idx c : Nat} {v : Value} (hin : ∀ w ∈ u_ws C T N, w ∈ lw_all) (hci : gCl[ci]? = some (C, T, N)) (k : Nat) (hk : k < N)
    (hlink : Cond.fieldLink y0.cls idx (T k).1 (T k).2.1 (T k).2.2.1 ∈ lw_all ∨ ∃ host : String, Cond.fieldLinkNest y0.cls idx (T k).1 (T k).2.1 (T k).2.2.1 host ∈ lw_tbl)
    (hv : gV G M (gTy ci k) c k = v) (d : decode cc pc = .ok (.getfield idx, 3)) (hkd : gk M c = ci + 1) (kk : w M (pc + 3) lv (v :: st)) : w M pc lv (.ref (gA G c) :: st) := by
  obtain ⟨M0, p, l, e, s, m, args, below, meth, c9, hx, hb, hml, hr, hlk, hown, hnm, hts, hst9, hK9, hH0, hex, hhx, rfl⟩ := hw
  intro H locs ls cells slots hH hz hlv
  obtain ⟨c16, cn, hcell⟩ := gH_cell hH hkd
  obtain ⟨cell, q1, q2, q3, q4⟩ := hcell.1 ci _ hkd hci
  obtain ⟨hS, hfc, kC, hkC, hkind⟩ := hK9.1 ci _ hci
  obtain ⟨cf, kf', fi, f, hi, hsl⟩ := hS k hk
  have hst := (u_facts hfc hkC (u_lays hts hin hk) hi).1
  have hslot : cell.slots[f.slot]? = some v := by rw [hsl, q4 k hk]; exact congrArg some hv
  rcases hlink with h | ⟨host, h⟩
  · exact W.getf hx hb hown (hts _ h) hi hst q1 (by rw [q3]; exact fun h => by cases h) hslot rfl rfl d (kk H locs ls cells slots hH hz hlv)
  · exact va_Wgetf hx hb hown (va_Nw.use rfl (hK9.2.2.1 _ _ _ _ _ _ h)) hi hst q1 (by rw [q3]; exact fun h => by cases h) hslot rfl rfl d (kk H locs ls cells slots hH hz hlv)
/-- one place changes -/
def gOne (M M1 : gM) (c k : Nat) : Prop := gn M1 = gn M ∧ gs M1 = gs M ∧ gk M1 = gk M ∧ gl M1 = gl M ∧ (∀ d j, ¬ (d = c ∧ j = k) → gI M1 d j = gI M d j) ∧ (∀ d j, ¬ (d = c ∧ j = k) → gL M1 d j = gL M d j) ∧ ∀ d j, ¬ (d = c ∧ j = k) → gR M1 d j = gR M d j
theorem gOne_I (M : gM) (c k : Nat) (x : Int32) : gOne M (gsI M c k x) c k := ⟨rfl, rfl, rfl, rfl, fun d j h => by rw [gI_sI, if_neg h], fun _ _ _ => rfl, fun _ _ _ => rfl⟩
theorem gOne_L (M : gM) (c k : Nat) (x : Int64) : gOne M (gsL M c k x) c k := ⟨rfl, rfl, rfl, rfl, fun _ _ _ => rfl, fun d j h => by rw [gL_sL, if_neg h], fun _ _ _ => rfl⟩
theorem gOne_R (M : gM) (c k : Nat) (x : Option Nat) : gOne M (gsR M c k x) c k := ⟨rfl, rfl, rfl, rfl, fun _ _ _ => rfl, fun _ _ _ => rfl, fun d j h => by rw [gR_sR, if_neg h]⟩
theorem gOne_V {M1 : gM} {c k : Nat} (h : gOne M M1 c k) (ty : FieldType) {j : Nat} (hj : j ≠ k) : gV G M1 ty c j = gV G M ty c j := by
  obtain ⟨-, -, -, -, h1, h2, h3⟩ := h
  unfold gV
  rw [h1 c j (fun q => hj q.2), h2 c j (fun q => hj q.2), h3 c j (fun q => hj q.2)]
/-- a field's store -/
theorem gH_putO {M1 : gM} {H H1 : Heap} {C : String} {T : u_T} {N ci c k i : Nat} {v : Value} {cell : Cell} (hH : gH G M H) (hci : gCl[ci]? = some (C, T, N)) (hkd : gk M c = ci + 1) (hone : gOne M M1 c k) (hV : gV G M1 (gTy ci k) c k = v) (q1 : H[gA G c]? = some cell) (q2 : cell.cls = G.2.2.2.1 ci) (q3 : cell.vm = .none) (q4 : ∀ j, j < N → cell.slots[G.2.2.2.2.1 ci j]? = some (gV G M (gTy ci j) c j)) (hk : k < N) (hap : ∀ a b, a < N → b < N → a ≠ b → G.2.2.2.2.1 ci a ≠ G.2.2.2.2.1 ci b) (hi : i = G.2.2.2.2.1 ci k)
    (e1 : H1[gA G c]? = some (cell.setSlot i v)) (e2 : H1.size = H.size) (e3 : ∀ q, q ≠ gA G c → H1[q]? = H[q]?) : gH G M1 H1 := by
  subst hi
  obtain ⟨o1, o2, o3, o4, o5, o6, o7⟩ := id hone
  refine gH_put hH (by rw [hkd]; omega) o1 o2 o3 o4 (fun d j hd => o5 d j (fun q => hd q.1)) (fun d j hd => o6 d j (fun q => hd q.1)) (fun d j hd => o7 d j (fun q => hd q.1)) q1 e1 (by simp [Cell.setSlot]) e2 e3 ⟨fun ci' r h1 h2 => ?_, fun j h1 => ?_⟩
  · rw [o3, hkd] at h1
    have hcc : ci' = ci := by omega
    subst hcc
    cases h2.symm.trans hci
    refine t_OB.to (V := updV (fun j => gV G M (gTy ci' j) c j) k v) ⟨_, e1, q2, q3, t_set q4 hap hk v⟩ (fun j _ => ?_)
    unfold updV
    by_cases hj : j = k
    · subst hj; rw [if_pos rfl, hV]
    · rw [if_neg hj, gOne_V hone _ hj]
  · rw [o3, hkd] at h1
    have : ci < 12 := (List.getElem?_eq_some_iff.mp hci).1
    omega
theorem g_putC (hw : gX y0 cc nL ret hh kf G Qv E w) {C : String} {T : u_T} {N ci idx c : Nat} {v : Value} {M1 : gM} (hin : ∀ w ∈ u_ws C T N, w ∈ lw_all) (ty0 : Nat → FieldType) (hty : ∀ k, k < N → parseFieldDescriptor (T k).2.2.1 = some (ty0 k)) (hnm : ∀ a, a < N → ∀ b, b < N → a ≠ b → (T a).2.1 ≠ (T b).2.1) (hci : gCl[ci]? = some (C, T, N)) (k : Nat) (hk : k < N)
    (hlink : (Cond.fieldLink y0.cls idx (T k).1 (T k).2.1 (T k).2.2.1 ∈ lw_all ∧ ((T k).2.2.2 = false ∨ ((T k).2.2.2 = true ∧ y0.name = "<init>" ∧ (T k).1 = y0.cls))) ∨ (T k).2.2.2 = false ∧ ∃ host : String, Cond.fieldLinkNest y0.cls idx (T k).1 (T k).2.1 (T k).2.2.1 host ∈ lw_tbl)
    (hn : narrow (ty0 k) v = v) (hfit : fits (ty0 k) v = true) (hone : gOne M M1 c k) (hV : gV G M1 (gTy ci k) c k = v) (d : decode cc pc = .ok (.putfield idx, 3)) (hkd : gk M c = ci + 1) (kk : w M1 (pc + 3) lv st) : w M pc lv (v :: .ref (gA G c) :: st) := by
  obtain ⟨M0, p, l, e, s, m, args, below, meth, c9, hx, hb, hml, hr, hlk, hown, hnm9, hts, hst9, hK9, hH0, hex, hhx, rfl⟩ := hw
  intro H locs ls cells slots hH hz hlv
  obtain ⟨c16, cn, hcell⟩ := gH_cell hH hkd
  obtain ⟨cell, q1, q2, q3, q4⟩ := hcell.1 ci _ hkd hci
  obtain ⟨hS, hfc, kC, hkC, hkind⟩ := hK9.1 ci _ hci
  obtain ⟨cf, kf', fi, f, hi, hsl⟩ := hS k hk
  have hap : ∀ a b, a < N → b < N → a ≠ b → G.2.2.2.2.1 ci a ≠ G.2.2.2.2.1 ci b := by
    intro x y hx hy hne
    obtain ⟨_, _, _, fa, hia, ea⟩ := hS x hx
    obtain ⟨_, _, _, fb, hib, eb⟩ := hS y hy
    rw [← ea, ← eb]
    refine u_apart (u_lays hts hin hx) (u_lays hts hin hy) hia hib ?_
    rw [(State.fieldFound?_type hia (hty x hx)).1, (State.fieldFound?_type hib (hty y hy)).1]
    exact hnm x hx y hy hne
  have hlay := hts _ (hin _ (u_in_lay hk))
  unfold u_lay at hlay
  have hst := (u_facts hfc hkC (u_lays hts hin hk) hi).1
  have c2 : c < gBig := by have := hH.2.2.2.2.2.1; have := gBB; omega
  have hz' : ∀ z ∈ locs ++ [⟨gA G c, f.slot⟩], G.1 ≤ z.base := by
    intro z h
    rcases List.mem_append.mp h with h | h
    · exact hz z h
    · rw [List.mem_singleton.mp h, gA_hi c16 c2]; exact Nat.le_add_right _ _
  have hlt : f.slot < cell.slots.size := by rw [hsl]; exact k2_hasslot (q4 k hk)
  have fin : ∀ H' : Heap, H'[gA G c]? = some (cell.setSlot f.slot v) → H'.size = H.size → (∀ q, q ≠ gA G c → H'[q]? = H[q]?) → W p l e (gRm kf M0) s m args below meth c9 H' (locs ++ [⟨gA G c, f.slot⟩]) cells slots (vx_MQ below (gQ G Qv) (gXC G E) args s (gLC - gn M0) (gLS - gs M0) (gFree G)) (F0 m (pc + 3) ls st) := fun H' e1 e2 e3 =>
    kk H' _ ls cells slots (gH_putO hH hci hkd hone hV q1 q2 q3 q4 hk hap hsl e1 e2 e3) hz' hlv
  rcases hlink with ⟨h, hf | ⟨hf, hini, hdecl⟩⟩ | ⟨hf, host, h⟩
  · rw [if_neg (by rw [hf]; decide)] at hlay
    have h6 := u_store hfc hkC hkind hlay hi (hty k hk) hn hfit
    exact W.putK hx hb (f := f) ⟨hown, hts _ h, ⟨_, _, _, hi⟩, hst⟩ (by rw [q2]; exact h6) q1 q3 hlt rfl rfl d fin
  · rw [if_pos hf] at hlay
    have hcf : m.cls = cf := by
      obtain ⟨_, _, c', _, _, _, -, -, hf', -, -, -, hown2, -⟩ := Cond.laysFinal_spec hlay
      have e1 : c' = cf := by have := hi.symm.trans hf'; simp at this; exact this.1.symm
      rw [hdecl] at hown2
      rw [← e1]; exact Option.some.inj (hown.symm.trans hown2)
    have h6 := u_fits hfc hkC hkind (Or.inr hlay) hi (hty k hk) hn hfit
    exact W.putFinK hx hb hown (hts _ h) hi hst hcf (hnm9.trans hini) (by rw [q2]; exact h6) q1 q3 hlt rfl rfl d fin
  · rw [if_neg (by rw [hf]; decide)] at hlay
    have h6 := u_store hfc hkC hkind hlay hi (hty k hk) hn hfit
    exact va_WputK hx hb (f := f) hown (va_Nw.use rfl (hK9.2.2.1 _ _ _ _ _ _ h)) hi hst (by rw [q2]; exact h6) q1 q3 hlt rfl rfl d fin
-- arrays
theorem gix_lt {i : Int32} {n : Nat} (h : vp_in i n) : i.toNatClampNeg < n := Nat.not_le.mp fun q => h (Or.inr q)
theorem g_iald (hw : gX y0 cc nL ret hh kf G Qv E w) {c n : Nat} {i : Int32} (d : decode cc pc = .ok (.iaload, 1)) (hkd : gk M c = 40) (hin : vp_in i (gl M c)) (hn : i.toNatClampNeg = n) (kk : w M (pc + 1) lv (.int (gI M c n) :: st)) : w M pc lv (.int i :: .ref (gA G c) :: st) := by
  subst hn
  obtain ⟨M0, p, l, e, s, m, args, below, meth, c9, hx, hb, hml, hr, hlk, hown, hnm, hts, hst9, hK9, hH0, hex, hhx, rfl⟩ := hw
  intro H locs ls cells slots hH hz hlv
  obtain ⟨c16, cn, hcell⟩ := gH_cell hH (kd := 39) hkd
  exact W.iald (v := .int (gI M c i.toNatClampNeg)) hx hb (hcell.2 0 hkd) ((hK9.2.1 0 (by decide)).1 _ _) (fun q => by cases q) (by rw [arrV_size]; exact hin) (by rw [arrV_read _ _ (gix_lt hin)]; rfl) rfl rfl d (kk H locs ls cells slots hH hz hlv)
theorem g_lald (hw : gX y0 cc nL ret hh kf G Qv E w) {c n : Nat} {i : Int32} (d : decode cc pc = .ok (.laload, 1)) (hkd : gk M c = 41) (hin : vp_in i (gl M c)) (hn : i.toNatClampNeg = n) (kk : w M (pc + 1) lv (.long (gL M c n) :: st)) : w M pc lv (.int i :: .ref (gA G c) :: st) := by
  subst hn
  obtain ⟨M0, p, l, e, s, m, args, below, meth, c9, hx, hb, hml, hr, hlk, hown, hnm, hts, hst9, hK9, hH0, hex, hhx, rfl⟩ := hw
  intro H locs ls cells slots hH hz hlv
  obtain ⟨c16, cn, hcell⟩ := gH_cell hH (kd := 40) hkd
  exact W.lald (v := .long (gL M c i.toNatClampNeg)) hx hb (hcell.2 1 hkd) ((hK9.2.1 1 (by decide)).1 _ _) (fun q => by cases q) (by rw [arrV_size]; exact hin) (by rw [arrV_read _ _ (gix_lt hin)]; rfl) rfl rfl d (kk H locs ls cells slots hH hz hlv)
theorem g_bald (hw : gX y0 cc nL ret hh kf G Qv E w) {c n : Nat} {i : Int32} (d : decode cc pc = .ok (.baload, 1)) (hkd : gk M c = 42) (hin : vp_in i (gl M c)) (hn : i.toNatClampNeg = n) (kk : w M (pc + 1) lv (.int (gI M c n) :: st)) : w M pc lv (.int i :: .ref (gA G c) :: st) := by
  subst hn
  obtain ⟨M0, p, l, e, s, m, args, below, meth, c9, hx, hb, hml, hr, hlk, hown, hnm, hts, hst9, hK9, hH0, hex, hhx, rfl⟩ := hw
  intro H locs ls cells slots hH hz hlv
  obtain ⟨c16, cn, hcell⟩ := gH_cell hH (kd := 41) hkd
  exact W.bald (v := .int (gI M c i.toNatClampNeg)) hx hb (hcell.2 2 hkd) ((hK9.2.1 2 (by decide)).1 _ _) (fun q => by cases q) (by rw [arrV_size]; exact hin) (by rw [arrV_read _ _ (gix_lt hin)]; rfl) rfl rfl d (kk H locs ls cells slots hH hz hlv)
theorem g_zald (hw : gX y0 cc nL ret hh kf G Qv E w) {c n : Nat} {i : Int32} (d : decode cc pc = .ok (.baload, 1)) (hkd : gk M c = 43) (hin : vp_in i (gl M c)) (hn : i.toNatClampNeg = n) (kk : w M (pc + 1) lv (.int (gI M c n) :: st)) : w M pc lv (.int i :: .ref (gA G c) :: st) := by
  subst hn
  obtain ⟨M0, p, l, e, s, m, args, below, meth, c9, hx, hb, hml, hr, hlk, hown, hnm, hts, hst9, hK9, hH0, hex, hhx, rfl⟩ := hw
  intro H locs ls cells slots hH hz hlv
  obtain ⟨c16, cn, hcell⟩ := gH_cell hH (kd := 42) hkd
  exact W.zald (v := .int (gI M c i.toNatClampNeg)) hx hb (hcell.2 3 hkd) ((hK9.2.1 3 (by decide)).1 _ _) (fun q => by cases q) (by rw [arrV_size]; exact hin) (by rw [arrV_read _ _ (gix_lt hin)]; rfl) rfl rfl d (kk H locs ls cells slots hH hz hlv)
theorem gV_ref {j : Nat} (h4 : 4 ≤ j) (hj : j < 9) (M : gM) (c k : Nat) : gV G M (gEt j) c k = va_rf ((gR M c k).map (gA G)) := by
  match j, h4, hj with
  | 4, _, _ => rfl
  | 5, _, _ => rfl
  | 6, _, _ => rfl
  | 7, _, _ => rfl
  | 8, _, _ => rfl
theorem gEt_ref {j : Nat} (h4 : 4 ≤ j) (hj : j < 9) : (gEt j).isReference = true := by
  match j, h4, hj with
  | 4, _, _ => rfl
  | 5, _, _ => rfl
  | 6, _, _ => rfl
  | 7, _, _ => rfl
  | 8, _, _ => rfl
theorem g_aald (hw : gX y0 cc nL ret hh kf G Qv E w) {c n : Nat} {i : Int32} (j : Nat) (d : decode cc pc = .ok (.aaload, 1)) (hj : Nat.ble 4 j = true ∧ Nat.ble (j + 1) 9 = true) (hkd : gk M c = 40 + j) (hin : vp_in i (gl M c)) (hn : i.toNatClampNeg = n) (kk : w M (pc + 1) lv (va_rf ((gR M c n).map (gA G)) :: st)) : w M pc lv (.int i :: .ref (gA G c) :: st) := by
  subst hn
  obtain ⟨M0, p, l, e, s, m, args, below, meth, c9, hx, hb, hml, hr, hlk, hown, hnm, hts, hst9, hK9, hH0, hex, hhx, rfl⟩ := hw
  intro H locs ls cells slots hH hz hlv
  have j4 := Nat.le_of_ble_eq_true hj.1
  have j9 : j < 9 := Nat.le_of_ble_eq_true hj.2
  obtain ⟨c16, cn, hcell⟩ := gH_cell (c := c) hH (kd := 39 + j) (by omega)
  exact W.aald hx hb (hcell.2 j hkd) ((hK9.2.1 j j9).1 _ _) (gEt_ref j4 j9) (fun q => by cases q) (by rw [arrV_size]; exact hin) (by rw [arrV_read _ _ (gix_lt hin), gV_ref j4 j9]) rfl rfl d (kk H locs ls cells slots hH hz hlv)
/-- an array's store -/
theorem gH_putA {M1 : gM} {H H1 : Heap} {c n j : Nat} {v : Value} (hH : gH G M H) (hkd : gk M c = 40 + j) (hone : gOne M M1 c n) (hV : gV G M1 (gEt j) c n = v)
    (e1 : H1[gA G c]? = some ((arrV (G.2.2.2.2.2.1 j) (gl M c) (fun k => gV G M (gEt j) c k)).setSlot n v)) (e2 : H1.size = H.size) (e3 : ∀ q, q ≠ gA G c → H1[q]? = H[q]?) : gH G M1 H1 := by
  obtain ⟨o1, o2, o3, o4, o5, o6, o7⟩ := id hone
  obtain ⟨c16, cn, hcell⟩ := gH_cell (c := c) hH (kd := 39 + j) (by omega)
  refine gH_put hH (by rw [hkd]; omega) o1 o2 o3 o4 (fun d j hd => o5 d j (fun q => hd q.1)) (fun d j hd => o6 d j (fun q => hd q.1)) (fun d j hd => o7 d j (fun q => hd q.1)) (hcell.2 j hkd) e1 (by simp [Cell.setSlot]) e2 e3 ⟨fun ci' r h1 h2 => ?_, fun j' h1 => ?_⟩
  · rw [o3, hkd] at h1
    have : ci' < 12 := (List.getElem?_eq_some_iff.mp h2).1
    omega
  · rw [o3, hkd] at h1
    have hjj : j' = j := by omega
    subst hjj
    rw [e1, arrV_store, o4]
    congr 2
    funext q
    unfold updV
    by_cases hq : q = n
    · subst hq; rw [if_pos rfl, hV]
    · rw [if_neg hq, gOne_V hone _ hq]
theorem gH_big {H : Heap} {c : Nat} (hH : gH G M H) (cn : c < gn M) : c < gBig := by have := hH.2.2.2.2.2.1; have := gBB; omega
theorem gz_app {locs : List Loc} {c n : Nat} (hz : ∀ z ∈ locs, G.1 ≤ z.base) (c16 : 16 ≤ c) (c2 : c < gBig) : ∀ z ∈ locs ++ [⟨gA G c, n⟩], G.1 ≤ z.base := by
  intro z h
  rcases List.mem_append.mp h with h | h
  · exact hz z h
  · rw [List.mem_singleton.mp h, gA_hi c16 c2]; exact Nat.le_add_right _ _
theorem g_iast (hw : gX y0 cc nL ret hh kf G Qv E w) {c n : Nat} {i x : Int32} (d : decode cc pc = .ok (.iastore, 1)) (hkd : gk M c = 40) (hin : vp_in i (gl M c)) (hn : i.toNatClampNeg = n) (kk : w (gsI M c n x) (pc + 1) lv st) : w M pc lv (.int x :: .int i :: .ref (gA G c) :: st) := by
  subst hn
  obtain ⟨M0, p, l, e, s, m, args, below, meth, c9, hx, hb, hml, hr, hlk, hown, hnm, hts, hst9, hK9, hH0, hex, hhx, rfl⟩ := hw
  intro H locs ls cells slots hH hz hlv
  obtain ⟨c16, cn, hcell⟩ := gH_cell hH (kd := 39) hkd
  refine W.iast hx hb (hcell.2 0 hkd) ((hK9.2.1 0 (by decide)).1 _ _) (fun q => by cases q) (by rw [arrV_size]; exact hin) rfl rfl d fun H1 e z oq => ?_
  exact kk H1 _ ls cells slots (gH_putA (j := 0) hH hkd (gOne_I M c _ x) (by show Value.int (gI (gsI M c _ x) c _) = _; rw [gI_sI, if_pos ⟨rfl, rfl⟩]) e z oq) (gz_app hz c16 (gH_big hH cn)) hlv
theorem g_last (hw : gX y0 cc nL ret hh kf G Qv E w) {c n : Nat} {i : Int32} {x : Int64} (d : decode cc pc = .ok (.lastore, 1)) (hkd : gk M c = 41) (hin : vp_in i (gl M c)) (hn : i.toNatClampNeg = n) (kk : w (gsL M c n x) (pc + 1) lv st) : w M pc lv (.long x :: .int i :: .ref (gA G c) :: st) := by
  subst hn
  obtain ⟨M0, p, l, e, s, m, args, below, meth, c9, hx, hb, hml, hr, hlk, hown, hnm, hts, hst9, hK9, hH0, hex, hhx, rfl⟩ := hw
  intro H locs ls cells slots hH hz hlv
  obtain ⟨c16, cn, hcell⟩ := gH_cell hH (kd := 40) hkd
  refine W.last hx hb (hcell.2 1 hkd) ((hK9.2.1 1 (by decide)).1 _ _) (fun q => by cases q) (by rw [arrV_size]; exact hin) rfl rfl d fun H1 e z oq => ?_
  exact kk H1 _ ls cells slots (gH_putA (j := 1) hH hkd (gOne_L M c _ x) (by show Value.long (gL (gsL M c _ x) c _) = _; rw [gL_sL, if_pos ⟨rfl, rfl⟩]) e z oq) (gz_app hz c16 (gH_big hH cn)) hlv
theorem g_bast (hw : gX y0 cc nL ret hh kf G Qv E w) {c n : Nat} {i x : Int32} (d : decode cc pc = .ok (.bastore, 1)) (hkd : gk M c = 42) (hin : vp_in i (gl M c)) (hn : i.toNatClampNeg = n) (hx9 : narrow .byte (.int x) = .int x) (kk : w (gsI M c n x) (pc + 1) lv st) : w M pc lv (.int x :: .int i :: .ref (gA G c) :: st) := by
  subst hn
  obtain ⟨M0, p, l, e, s, m, args, below, meth, c9, hx, hb, hml, hr, hlk, hown, hnm, hts, hst9, hK9, hH0, hex, hhx, rfl⟩ := hw
  intro H locs ls cells slots hH hz hlv
  obtain ⟨c16, cn, hcell⟩ := gH_cell hH (kd := 41) hkd
  refine W.bast hx hb (hcell.2 2 hkd) ((hK9.2.1 2 (by decide)).1 _ _) (fun q => by cases q) (by rw [arrV_size]; exact hin) rfl rfl d fun H1 e z oq => ?_
  rw [hx9] at e
  exact kk H1 _ ls cells slots (gH_putA (j := 2) hH hkd (gOne_I M c _ x) (by show Value.int (gI (gsI M c _ x) c _) = _; rw [gI_sI, if_pos ⟨rfl, rfl⟩]) e z oq) (gz_app hz c16 (gH_big hH cn)) hlv
theorem g_zast (hw : gX y0 cc nL ret hh kf G Qv E w) {c n : Nat} {i x : Int32} (d : decode cc pc = .ok (.bastore, 1)) (hkd : gk M c = 43) (hin : vp_in i (gl M c)) (hn : i.toNatClampNeg = n) (hx9 : narrow .boolean (.int x) = .int x) (kk : w (gsI M c n x) (pc + 1) lv st) : w M pc lv (.int x :: .int i :: .ref (gA G c) :: st) := by
  subst hn
  obtain ⟨M0, p, l, e, s, m, args, below, meth, c9, hx, hb, hml, hr, hlk, hown, hnm, hts, hst9, hK9, hH0, hex, hhx, rfl⟩ := hw
  intro H locs ls cells slots hH hz hlv
  obtain ⟨c16, cn, hcell⟩ := gH_cell hH (kd := 42) hkd
  refine W.zast hx hb (hcell.2 3 hkd) ((hK9.2.1 3 (by decide)).1 _ _) (fun q => by cases q) (by rw [arrV_size]; exact hin) rfl rfl d fun H1 e z oq => ?_
  rw [hx9] at e
  exact kk H1 _ ls cells slots (gH_putA (j := 3) hH hkd (gOne_I M c _ x) (by show Value.int (gI (gsI M c _ x) c _) = _; rw [gI_sI, if_pos ⟨rfl, rfl⟩]) e z oq) (gz_app hz c16 (gH_big hH cn)) hlv
/-- an object into an array of references of its own class, or of one that it can be cast to -/
theorem g_aast (hw : gX y0 cc nL ret hh kf G Qv E w) {c n o : Nat} {i : Int32} {C D : String} {T : u_T} {N ci : Nat} (j : Nat) (d : decode cc pc = .ok (.aastore, 1)) (hj : Nat.ble 4 j = true ∧ Nat.ble (j + 1) 9 = true) (het : gEt j = .object D) (hkd : gk M c = 40 + j) (hin : vp_in i (gl M c)) (hn : i.toNatClampNeg = n) (hci : gCl[ci]? = some (C, T, N)) (hko : gk M o = ci + 1) (hcast : C = D ∨ Cond.castable C D ∈ lw_tbl)
    (kk : w (gsR M c n (some o)) (pc + 1) lv st) : w M pc lv (.ref (gA G o) :: .int i :: .ref (gA G c) :: st) := by
  subst hn
  obtain ⟨M0, p, l, e, s, m, args, below, meth, c9, hx, hb, hml, hr, hlk, hown, hnm, hts, hst9, hK9, hH0, hex, hhx, rfl⟩ := hw
  intro H locs ls cells slots hH hz hlv
  have j4 := Nat.le_of_ble_eq_true hj.1
  have j9 : j < 9 := Nat.le_of_ble_eq_true hj.2
  obtain ⟨c16, cn, hcell⟩ := gH_cell (c := c) hH (kd := 39 + j) (by omega)
  obtain ⟨o16, on, hobj⟩ := gH_cell hH hko
  obtain ⟨cellV, g1, g2, g3, -⟩ := hobj.1 ci _ hko hci
  obtain ⟨kA, comp, kc, k1, k2, k3, k4⟩ := (hK9.2.1 j j9).2.2 j4
  have hcls := (hK9.1 ci _ hci).2
  obtain ⟨kC, hkC, -⟩ := id hcls.2
  have hasg : s.vm.assignable cellV.cls comp = true := by
    rw [g2]
    rw [het] at k3
    rcases hcast with rfl | hc
    · cases Option.some.inj (k3.symm.trans hcls.1)
      exact va_assign hcls
    · obtain ⟨c3, c4, hc3, hc4, ha⟩ := Cond.castable_spec (va_Nw.use (A := args) rfl (hK9.2.2.2.2.1 _ _ hc))
      cases Option.some.inj (hc3.symm.trans hcls.1)
      cases Option.some.inj (hc4.symm.trans k3)
      exact ha
  refine W.aast hx hb (hcell.2 j hkd) (fun q h => by cases h) (fun h => by cases h) k1 k2 (gEt_ref j4 j9) k4 ⟨fun q => hin (Or.inl q), by show _ < (arrV _ _ _).slots.size; rw [arrV_size]; exact gix_lt hin⟩ g1 (fun q h => by rw [g3] at h; cases h) (by rw [g2]; exact hkC) hasg rfl rfl d fun H1 e z oq => ?_
  exact kk H1 _ ls cells slots (gH_putA (j := j) hH hkd (gOne_R M c _ (some o)) (by rw [gV_ref j4 j9, gR_sR, if_pos ⟨rfl, rfl⟩]; rfl) e z oq) (gz_app hz c16 (gH_big hH cn)) hlv
/-- an int array into an array of int arrays -/
theorem g_aastA (hw : gX y0 cc nL ret hh kf G Qv E w) {c n o : Nat} {i : Int32} (d : decode cc pc = .ok (.aastore, 1)) (hkd : gk M c = 48) (hin : vp_in i (gl M c)) (hn : i.toNatClampNeg = n) (hko : gk M o = 40)
    (kk : w (gsR M c n (some o)) (pc + 1) lv st) : w M pc lv (.ref (gA G o) :: .int i :: .ref (gA G c) :: st) := by
  subst hn
  obtain ⟨M0, p, l, e, s, m, args, below, meth, c9, hx, hb, hml, hr, hlk, hown, hnm, hts, hst9, hK9, hH0, hex, hhx, rfl⟩ := hw
  intro H locs ls cells slots hH hz hlv
  obtain ⟨c16, cn, hcell⟩ := gH_cell hH (kd := 47) hkd
  obtain ⟨o16, on, hobj⟩ := gH_cell hH (kd := 39) hko
  obtain ⟨kA, comp, kc, k1, k2, k3, k4⟩ := (hK9.2.1 8 (by decide)).2.2 (by decide)
  have k5 := (hK9.2.1 0 (by decide)).2.1
  have hcomp : comp = G.2.2.2.2.2.1 0 := Option.some.inj (k3.symm.trans k5)
  subst hcomp
  obtain ⟨-, kI, kI1, compI, kI2⟩ := (hK9.2.1 0 (by decide)).1 0 (fun _ => .null)
  have kI1 : s.vm.classes[G.2.2.2.2.2.1 0]? = some kI := kI1
  refine W.aast hx hb (hcell.2 8 hkd) (fun q h => by cases h) (fun h => by cases h) k1 k2 rfl k4 ⟨fun q => hin (Or.inl q), by show _ < (arrV _ _ _).slots.size; rw [arrV_size]; exact gix_lt hin⟩ (hobj.2 0 hko) (fun q h => by cases h) kI1 (by show s.vm.assignable (G.2.2.2.2.2.1 0) (G.2.2.2.2.2.1 0) = true; unfold Vm.assignable Vm.assignableAux; simp) rfl rfl d fun H1 e z oq => ?_
  exact kk H1 _ ls cells slots (gH_putA (j := 8) hH hkd (gOne_R M c _ (some o)) (by rw [gV_ref (by decide) (by decide), gR_sR, if_pos ⟨rfl, rfl⟩]; rfl) e z oq) (gz_app hz c16 (gH_big hH cn)) hlv
theorem g_alen (hw : gX y0 cc nL ret hh kf G Qv E w) {c : Nat} (j : Nat) (d : decode cc pc = .ok (.arraylength, 1)) (hj : Nat.ble (j + 1) 9 = true) (hkd : gk M c = 40 + j) (kk : w M (pc + 1) lv (.int (nI (gl M c)) :: st)) : w M pc lv (.ref (gA G c) :: st) := by
  obtain ⟨M0, p, l, e, s, m, args, below, meth, c9, hx, hb, hml, hr, hlk, hown, hnm, hts, hst9, hK9, hH0, hex, hhx, rfl⟩ := hw
  intro H locs ls cells slots hH hz hlv
  have j9 : j < 9 := Nat.le_of_ble_eq_true hj
  obtain ⟨c16, cn, hcell⟩ := gH_cell (c := c) hH (kd := 39 + j) (by omega)
  exact W.alen (n := nI (gl M c)) hx hb (hcell.2 j hkd) ((hK9.2.1 j j9).1 _ _) (by rw [arrV_size]; rfl) rfl rfl d (kk H locs ls cells slots hH hz hlv)
end GMR
