/-! ONE TYPED MEMORY for the whole run: cells by number (16 on: the cells that the law makes, in the order of their making; 0..7 the String constants, 8..15 their bytes); of each its kind and length, its whole numbers, longs, references (numbers of cells). -/
abbrev gM : Type := Nat × Nat × (Nat → Nat × Nat) × (Nat → Nat → Int32) × (Nat → Nat → Int64) × (Nat → Nat → Option Nat)
def gn (M : gM) : Nat := M.1
def gs (M : gM) : Nat := M.2.1
def gk (M : gM) (c : Nat) : Nat := (M.2.2.1 c).1
def gl (M : gM) (c : Nat) : Nat := (M.2.2.1 c).2
def gI (M : gM) (c k : Nat) : Int32 := M.2.2.2.1 c k
def gL (M : gM) (c k : Nat) : Int64 := M.2.2.2.2.1 c k
def gR (M : gM) (c k : Nat) : Option Nat := M.2.2.2.2.2 c k
def gup {α : Type} (f : Nat → Nat → α) (c k : Nat) (v : α) : Nat → Nat → α := fun c' k' => if c' = c ∧ k' = k then v else f c' k'
def gsI (M : gM) (c k : Nat) (v : Int32) : gM := (M.1, M.2.1, M.2.2.1, gup M.2.2.2.1 c k v, M.2.2.2.2.1, M.2.2.2.2.2)
def gsL (M : gM) (c k : Nat) (v : Int64) : gM := (M.1, M.2.1, M.2.2.1, M.2.2.2.1, gup M.2.2.2.2.1 c k v, M.2.2.2.2.2)
def gsR (M : gM) (c k : Nat) (v : Option Nat) : gM := (M.1, M.2.1, M.2.2.1, M.2.2.2.1, M.2.2.2.2.1, gup M.2.2.2.2.2 c k v)
/-- a new cell of a kind, of a length, of so many slots: all its places are 0 or null -/
def gnew (M : gM) (kd len sz : Nat) : gM := (M.1 + 1, M.2.1 + sz, fun c => if c = M.1 then (kd, len) else M.2.2.1 c, fun c k => if c = M.1 then 0 else M.2.2.2.1 c k, fun c k => if c = M.1 then 0 else M.2.2.2.2.1 c k, fun c k => if c = M.1 then none else M.2.2.2.2.2 c k)
-- the classes whose objects are cells: kind = place + 1; arrays: kind = 40 + place
abbrev gCl : List vw_C := [(RX1, TX1, 28), (RX2, TX2, 8), (RX3, TX3, 2), (RX4, TX4, 11), (RX5, TX5, 1), (RX6, TX6, 4), (RX7, TX7, 58), (RX8, TX8, 7), (RX10, TX10, 1), (RX11, TX11, 1), (RX12, TX12, 1), (RX13, TX13, 3)]
def gTy (ci : Nat) : Nat → FieldType := match ci with
  | 0 => tyX1 | 1 => tyX2 | 2 => tyX3 | 3 => tyX4 | 4 => tyX5 | 5 => tyX6 | 6 => tyX7 | 7 => tyX8 | 8 => tyX10 | 9 => tyX11 | 10 => tyX12 | _ => tyX13
def gEt (j : Nat) : FieldType := match j with
  | 0 => .int | 1 => .long | 2 => .byte | 3 => .boolean | 4 => .object RX4 | 5 => .object RX5 | 6 => .object RX6 | 7 => .object RX9 | _ => .array .int
/-- the run's own numbers: where the law's cells begin, the slots in use there, the heap there; classes, slots, array classes; the String constants' addresses -/
abbrev gG : Type := Nat × Nat × Heap × (Nat → ClassId) × (Nat → Nat → Nat) × (Nat → ClassId) × (Nat → Nat)
/-- a cell's address; from gBig on: an object elsewhere, by its address -/
abbrev gBig : Nat := 1125899906842624
abbrev gLC : Nat := 1200128 + 16
abbrev gLS : Nat := 5501098
theorem gBB : gLC < gBig ∧ 16 < gBig := ⟨Nat.le_of_ble_eq_true rfl, Nat.le_of_ble_eq_true rfl⟩
def gA (G : gG) (c : Nat) : Nat := if c < 16 then G.2.2.2.2.2.2 c else if c < gBig then G.1 + (c - 16) else c - gBig
def gV (G : gG) (M : gM) (ty : FieldType) (c k : Nat) : Value := match ty with
  | .long => .long (gL M c k)
  | .object _ => va_rf ((gR M c k).map (gA G))
  | .array _ => va_rf ((gR M c k).map (gA G))
  | _ => .int (gI M c k)
def gtot (H : Heap) : Nat := H.foldl (fun n c => n + c.slots.size) 0
def gcell (G : gG) (M : gM) (H : Heap) (c : Nat) : Prop :=
  (∀ (ci : Nat) (r : vw_C), gk M c = ci + 1 → gCl[ci]? = some r → t_OB (gA G c) (G.2.2.2.1 ci) r.2.2 (G.2.2.2.2.1 ci) H (fun k => gV G M (gTy ci k) c k)) ∧
  ∀ j : Nat, gk M c = 40 + j → H[gA G c]? = some (arrV (G.2.2.2.2.2.1 j) (gl M c) (fun k => gV G M (gEt j) c k))
def gH (G : gG) (M : gM) (H : Heap) : Prop :=
  H.size + 16 = G.1 + gn M ∧ gtot H = G.2.1 + gs M ∧ (∀ q : Nat, q < G.1 → H[q]? = G.2.2.1[q]?) ∧ (∀ c : Nat, gk M c ≠ 0 → 16 ≤ c ∧ c < gn M ∧ gcell G M H c) ∧ 16 ≤ gn M ∧ gn M ≤ gLC ∧ gs M ≤ gLS
-- sums of slots
theorem gtot_eq (H : Heap) : gtot H = (H.toList.map (fun c => c.slots.size)).sum := by
  have key : ∀ (l : List Cell) (n : Nat), l.foldl (fun n c => n + c.slots.size) n = n + (l.map (fun c => c.slots.size)).sum := by
    intro l
    induction l with
    | nil => intro n; simp
    | cons a l ih => intro n; simp [ih, Nat.add_assoc]
  unfold gtot
  rw [← Array.foldl_toList, key]
  simp
theorem gtot_put {H H1 : Heap} {a : Nat} {cell cell1 : Cell} (hc : H[a]? = some cell) (h1 : H1[a]? = some cell1) (hs : cell1.slots.size = cell.slots.size) (hz : H1.size = H.size) (ho : ∀ q : Nat, q ≠ a → H1[q]? = H[q]?) : gtot H1 = gtot H := by
  rw [gtot_eq, gtot_eq]
  have e : H1.toList.map (fun c => c.slots.size) = H.toList.map (fun c => c.slots.size) := by
    refine List.ext_getElem? fun i => ?_
    rw [List.getElem?_map, List.getElem?_map, Array.getElem?_toList, Array.getElem?_toList]
    by_cases hi : i = a
    · subst hi
      rw [hc, h1]
      simp [hs]
    · rw [ho i hi]
  rw [e]
theorem gtot_push {H H1 : Heap} {cell : Cell} (h1 : H1[H.size]? = some cell) (hz : H1.size = H.size + 1) (ho : ∀ q : Nat, q < H.size → H1[q]? = H[q]?) : gtot H1 = gtot H + cell.slots.size := by
  rw [gtot_eq, gtot_eq]
  have e : H1.toList = H.toList ++ [cell] := by
    refine List.ext_getElem? fun i => ?_
    rw [Array.getElem?_toList]
    rcases Nat.lt_trichotomy i H.size with h | h | h
    · rw [ho i h, List.getElem?_append_left (by simpa using h), Array.getElem?_toList]
    · subst h
      rw [h1, List.getElem?_append_right (by simp)]
      simp
    · rw [List.getElem?_eq_none (by simp; omega)]
      exact Array.getElem?_eq_none (by omega)
  rw [e]
  simp
-- addresses
theorem gA_hi {G : gG} {c : Nat} (h : 16 ≤ c) (h2 : c < gBig) : gA G c = G.1 + (c - 16) := by unfold gA; rw [if_neg (by omega), if_pos h2]
theorem gA_ne {G : gG} {c d : Nat} (hc : 16 ≤ c) (hd : 16 ≤ d) (hc2 : c < gBig) (hd2 : d < gBig) (h : c ≠ d) : gA G c ≠ gA G d := by rw [gA_hi hc hc2, gA_hi hd hd2]; omega
theorem gA_ext {G : gG} {a : Nat} : gA G (gBig + a) = a := by unfold gA; have := gBB; rw [if_neg (by omega), if_neg (by omega)]; omega
-- reading back
theorem gI_sI {M : gM} {c k c' k' : Nat} {v : Int32} : gI (gsI M c k v) c' k' = if c' = c ∧ k' = k then v else gI M c' k' := rfl
theorem gL_sL {M : gM} {c k c' k' : Nat} {v : Int64} : gL (gsL M c k v) c' k' = if c' = c ∧ k' = k then v else gL M c' k' := rfl
theorem gR_sR {M : gM} {c k c' k' : Nat} {v : Option Nat} : gR (gsR M c k v) c' k' = if c' = c ∧ k' = k then v else gR M c' k' := rfl
theorem gI_sL {M : gM} {c k : Nat} {v : Int64} : gI (gsL M c k v) = gI M := rfl
theorem gI_sR {M : gM} {c k : Nat} {v : Option Nat} : gI (gsR M c k v) = gI M := rfl
theorem gL_sI {M : gM} {c k : Nat} {v : Int32} : gL (gsI M c k v) = gL M := rfl
theorem gL_sR {M : gM} {c k : Nat} {v : Option Nat} : gL (gsR M c k v) = gL M := rfl
theorem gR_sI {M : gM} {c k : Nat} {v : Int32} : gR (gsI M c k v) = gR M := rfl
theorem gR_sL {M : gM} {c k : Nat} {v : Int64} : gR (gsL M c k v) = gR M := rfl
theorem gk_sI {M : gM} {c k : Nat} {v : Int32} : gk (gsI M c k v) = gk M := rfl
theorem gk_sL {M : gM} {c k : Nat} {v : Int64} : gk (gsL M c k v) = gk M := rfl
theorem gk_sR {M : gM} {c k : Nat} {v : Option Nat} : gk (gsR M c k v) = gk M := rfl
theorem gl_sI {M : gM} {c k : Nat} {v : Int32} : gl (gsI M c k v) = gl M := rfl
theorem gl_sL {M : gM} {c k : Nat} {v : Int64} : gl (gsL M c k v) = gl M := rfl
theorem gl_sR {M : gM} {c k : Nat} {v : Option Nat} : gl (gsR M c k v) = gl M := rfl
theorem gn_sI {M : gM} {c k : Nat} {v : Int32} : gn (gsI M c k v) = gn M := rfl
theorem gn_sL {M : gM} {c k : Nat} {v : Int64} : gn (gsL M c k v) = gn M := rfl
theorem gn_sR {M : gM} {c k : Nat} {v : Option Nat} : gn (gsR M c k v) = gn M := rfl
theorem gs_sI {M : gM} {c k : Nat} {v : Int32} : gs (gsI M c k v) = gs M := rfl
theorem gs_sL {M : gM} {c k : Nat} {v : Int64} : gs (gsL M c k v) = gs M := rfl
theorem gs_sR {M : gM} {c k : Nat} {v : Option Nat} : gs (gsR M c k v) = gs M := rfl
theorem gn_new {M : gM} {kd len sz : Nat} : gn (gnew M kd len sz) = gn M + 1 := rfl
theorem gs_new {M : gM} {kd len sz : Nat} : gs (gnew M kd len sz) = gs M + sz := rfl
theorem gk_new {M : gM} {kd len sz c : Nat} : gk (gnew M kd len sz) c = if c = gn M then kd else gk M c := by
  show (if c = M.1 then (kd, len) else M.2.2.1 c).1 = _
  unfold gn gk; split <;> rfl
theorem gl_new {M : gM} {kd len sz c : Nat} : gl (gnew M kd len sz) c = if c = gn M then len else gl M c := by
  show (if c = M.1 then (kd, len) else M.2.2.1 c).2 = _
  unfold gn gl; split <;> rfl
theorem gI_new {M : gM} {kd len sz c k : Nat} : gI (gnew M kd len sz) c k = if c = gn M then 0 else gI M c k := rfl
theorem gL_new {M : gM} {kd len sz c k : Nat} : gL (gnew M kd len sz) c k = if c = gn M then 0 else gL M c k := rfl
theorem gR_new {M : gM} {kd len sz c k : Nat} : gR (gnew M kd len sz) c k = if c = gn M then none else gR M c k := rfl
/-- two memories that differ at most in the numbers of one cell -/
theorem gcell_same {G : gG} {M M1 : gM} {H H1 : Heap} {c : Nat} (hk : gk M1 c = gk M c) (hl : gl M1 c = gl M c) (hI : ∀ k, gI M1 c k = gI M c k) (hL : ∀ k, gL M1 c k = gL M c k) (hR : ∀ k, gR M1 c k = gR M c k) (hH : H1[gA G c]? = H[gA G c]?) (h : gcell G M H c) : gcell G M1 H1 c := by
  have hV : ∀ (ty : FieldType) (k : Nat), gV G M1 ty c k = gV G M ty c k := by
    intro ty k
    unfold gV
    rw [hI, hL, hR]
  refine ⟨fun ci r h1 h2 => ?_, fun j h1 => ?_⟩
  · have h3 := (h.1 ci r (hk ▸ h1) h2).kept hH
    exact h3.to fun k _ => (hV _ k).symm
  · rw [hH, h.2 j (hk ▸ h1), hl]
    congr 2
    funext k
    exact (hV _ k).symm
/-- a store in the cell c -/
theorem gH_put {G : gG} {M M1 : gM} {H H1 : Heap} {c : Nat} {cell cell1 : Cell} (h : gH G M H) (hc0 : gk M c ≠ 0) (hn : gn M1 = gn M) (hs : gs M1 = gs M) (hk : gk M1 = gk M) (hl : gl M1 = gl M)
    (hI : ∀ d k, d ≠ c → gI M1 d k = gI M d k) (hL : ∀ d k, d ≠ c → gL M1 d k = gL M d k) (hR : ∀ d k, d ≠ c → gR M1 d k = gR M d k)
    (hc : H[gA G c]? = some cell) (h1 : H1[gA G c]? = some cell1) (hsz : cell1.slots.size = cell.slots.size) (hz : H1.size = H.size) (ho : ∀ q : Nat, q ≠ gA G c → H1[q]? = H[q]?) (hcell : gcell G M1 H1 c) : gH G M1 H1 := by
  obtain ⟨e1, e2, e3, e4, e5, e6, e7⟩ := h
  have c16 := (e4 c hc0).1
  have c2 : c < gBig := by have := (e4 c hc0).2.1; have := gBB; omega
  refine ⟨by rw [hz, hn]; exact e1, by rw [gtot_put hc h1 hsz hz ho, hs]; exact e2, fun q hq => ?_, fun d hd => ?_, by rw [hn]; exact e5, by rw [hn]; exact e6, by rw [hs]; exact e7⟩
  · rw [ho q (by rw [gA_hi c16 c2]; omega)]
    exact e3 q hq
  · rw [hk] at hd
    obtain ⟨d1, d2, d3⟩ := e4 d hd
    refine ⟨d1, by rw [hn]; exact d2, ?_⟩
    by_cases hdc : d = c
    · subst hdc; exact hcell
    · exact gcell_same (by rw [hk]) (by rw [hl]) (fun k => hI d k hdc) (fun k => hL d k hdc) (fun k => hR d k hdc) (ho _ (gA_ne d1 c16 (by have := gBB; omega) c2 hdc)) d3
/-- a new cell -/
theorem gH_new {G : gG} {M : gM} {H H1 : Heap} {kd len sz : Nat} {cell : Cell} (h : gH G M H) (h1 : H1[H.size]? = some cell) (hz : H1.size = H.size + 1) (ho : ∀ q : Nat, q < H.size → H1[q]? = H[q]?) (hsz : cell.slots.size = sz) (hn : gn M < gLC) (hs : gs M + sz ≤ gLS) (hcell : kd ≠ 0 → gcell G (gnew M kd len sz) H1 (gn M)) : gH G (gnew M kd len sz) H1 := by
  obtain ⟨e1, e2, e3, e4, e5, e6, e7⟩ := h
  refine ⟨by rw [hz, gn_new]; omega, by rw [gtot_push h1 hz ho, gs_new, hsz, e2]; omega, fun q hq => ?_, fun d hd => ?_, by rw [gn_new]; omega, by rw [gn_new]; omega, by rw [gs_new]; exact hs⟩
  · rw [ho q (by omega)]
    exact e3 q hq
  · rw [gk_new] at hd
    by_cases hdc : d = gn M
    · subst hdc
      rw [if_pos rfl] at hd
      exact ⟨e5, by rw [gn_new]; omega, hcell hd⟩
    · rw [if_neg hdc] at hd
      obtain ⟨d1, d2, d3⟩ := e4 d hd
      refine ⟨d1, by rw [gn_new]; omega, gcell_same (by rw [gk_new, if_neg hdc]) (by rw [gl_new, if_neg hdc]) (fun k => by rw [gI_new, if_neg hdc]) (fun k => by rw [gL_new, if_neg hdc]) (fun k => by rw [gR_new, if_neg hdc]) (ho _ ?_) d3⟩
      rw [gA_hi d1 (by have := gBB; omega)]
      omega
theorem gH_addr {G : gG} {M : gM} {H : Heap} (h : gH G M H) : gA G (gn M) = H.size := by
  obtain ⟨e1, e2, e3, e4, e5, e6, e7⟩ := h
  rw [gA_hi e5 (by have := gBB; omega)]
  omega
