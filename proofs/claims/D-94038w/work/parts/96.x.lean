/-! expressions: what codes are worth -/
set_option maxRecDepth 100000
def bo9 (c a b : Int32) : Int32 := if c = 4 then a + b else if c = 5 then a - b else if c = 6 then a * b else if c = 7 then (if b ≤ a then 0 else 1) else if c = 8 then (if a = b then 1 else 0) else if c = 9 then (if a = 0 then 0 else if b = 0 then 0 else 1) else (if a = 0 then (if b = 0 then 0 else 1) else 1)
def ev (F : Nat → Int32) : List (Int32 × Int32) → List Int32 → List Int32
  | [], s => s
  | (c, x) :: t, s => if c = 1 then ev F t (x :: s) else if c = 2 then ev F t (F x.toNatClampNeg :: s) else if c = 3 then (match s with
    | [] => []
    | a :: r => ev F t ((if a = 0 then 1 else 0) :: r)) else (match s with
    | b :: a :: r => ev F t (bo9 c a b :: r)
    | _ => [])
/-- codes of one expression, by depth, its facts below K -/
def wfE (K : Nat) : Nat → List (Int32 × Int32) → Prop
  | 0, _ => False
  | n + 1, L => (∃ a, L = [(1, a)]) ∨ (∃ i, L = [(2, i)] ∧ vp_in i K) ∨ (∃ L1, wfE K n L1 ∧ L = L1 ++ [(3, 0)]) ∨ (∃ La Lb o, wfE K n La ∧ wfE K n Lb ∧ (o = 4 ∨ o = 5 ∨ o = 6 ∨ o = 7 ∨ o = 8 ∨ o = 9 ∨ o = 10) ∧ L = La ++ (Lb ++ [(o, 0)]))
/-- what it is worth -/
def vE (F : Nat → Int32) (L : List (Int32 × Int32)) : Int32 := (ev F L []).headD 0
theorem ev_wf {K : Nat} {F : Nat → Int32} : ∀ (n : Nat) (L : List (Int32 × Int32)), wfE K n L → ∃ v, ∀ (t : List (Int32 × Int32)) (s : List Int32), ev F (L ++ t) s = ev F t (v :: s) := by
  intro n
  induction n with
  | zero => intro L h; exact h.elim
  | succ n ih =>
    intro L h
    rcases h with ⟨a, rfl⟩ | ⟨i, rfl, -⟩ | ⟨L1, h1, rfl⟩ | ⟨La, Lb, o, h1, h2, ho, rfl⟩
    · exact ⟨a, fun t s => rfl⟩
    · exact ⟨F i.toNatClampNeg, fun t s => rfl⟩
    · obtain ⟨v, hv⟩ := ih L1 h1
      refine ⟨if v = 0 then 1 else 0, fun t s => ?_⟩
      rw [List.append_assoc, hv]
      rfl
    · obtain ⟨va, ha⟩ := ih La h1
      obtain ⟨vb, hb⟩ := ih Lb h2
      refine ⟨bo9 o va vb, fun t s => ?_⟩
      rw [List.append_assoc, ha, List.append_assoc, hb]
      rcases ho with rfl | rfl | rfl | rfl | rfl | rfl | rfl <;> rfl
theorem vE_wf {K n : Nat} {F : Nat → Int32} {L : List (Int32 × Int32)} (h : wfE K n L) (t : List (Int32 × Int32)) (s : List Int32) : ev F (L ++ t) s = ev F t (vE F L :: s) := by
  obtain ⟨v, hv⟩ := ev_wf (F := F) n L h
  have e := hv [] []
  rw [List.append_nil] at e
  have : vE F L = v := by unfold vE; rw [e]; rfl
  rw [this]
  exact hv t s
theorem wfE_len {K n : Nat} {L : List (Int32 × Int32)} (h : wfE K n L) : 1 ≤ L.length := by
  cases n with
  | zero => exact h.elim
  | succ n =>
    rcases h with ⟨a, rfl⟩ | ⟨i, rfl, -⟩ | ⟨L1, -, rfl⟩ | ⟨La, Lb, o, -, -, -, rfl⟩
    · exact Nat.le_refl _
    · exact Nat.le_refl _
    · simp
    · simp; omega
theorem vE_1 {F : Nat → Int32} {a : Int32} : vE F [(1, a)] = a := rfl
theorem vE_2 {F : Nat → Int32} {i : Int32} : vE F [(2, i)] = F i.toNatClampNeg := rfl
theorem vE_3 {K n : Nat} {F : Nat → Int32} {L : List (Int32 × Int32)} (h : wfE K n L) : vE F (L ++ [(3, 0)]) = if vE F L = 0 then 1 else 0 := by
  show (ev F (L ++ [(3, 0)]) []).headD 0 = _
  rw [vE_wf h]
  rfl
theorem vE_4 {K n m : Nat} {F : Nat → Int32} {La Lb : List (Int32 × Int32)} {o : Int32} (h1 : wfE K n La) (h2 : wfE K m Lb) (ho : o = 4 ∨ o = 5 ∨ o = 6 ∨ o = 7 ∨ o = 8 ∨ o = 9 ∨ o = 10) : vE F (La ++ (Lb ++ [(o, 0)])) = bo9 o (vE F La) (vE F Lb) := by
  show (ev F (La ++ (Lb ++ [(o, 0)])) []).headD 0 = _
  rw [vE_wf h1, vE_wf h2]
  rcases ho with rfl | rfl | rfl | rfl | rfl | rfl | rfl <;> rfl
theorem wfE_x {M : gM} {n0 K : Nat} : ∀ (n c : Nat) (L : List (Int32 × Int32)), xT M n0 K n c L → wfE K n L := by
  intro n
  induction n with
  | zero => intro c L h; exact h.elim
  | succ n ih =>
    intro c L h
    obtain ⟨-, -, q⟩ := h
    rcases q with ⟨-, q⟩ | ⟨-, q, r⟩ | ⟨-, c1, L1, -, r2, r3⟩ | ⟨-, a, b, La, Lb, -, -, r3, r4, r5⟩
    · exact Or.inl ⟨_, q⟩
    · exact Or.inr (Or.inl ⟨_, q, r⟩)
    · exact Or.inr (Or.inr (Or.inl ⟨L1, ih _ _ r2, r3⟩))
    · refine Or.inr (Or.inr (Or.inr ⟨La, Lb, _, ih _ _ r3, ih _ _ r4, ?_, r5⟩))
      unfold xOp
      split
      · simp
      · split
        · simp
        · split
          · simp
          · split
            · simp
            · split
              · simp
              · split <;> simp
theorem vp_le {x : Int32} {n m : Nat} (h : vp_in x n) (hm : n ≤ m) : vp_in x m := by
  rw [vp_in_iff] at h ⊢
  omega
/-- x works a tree -/
theorem ex_x {M : gM} (hf : gFix M) {n0 K : Nat} (hK : K ≤ 10) : ∀ (n c : Nat) (L : List (Int32 × Int32)), xT M n0 K n c L → ∀ Q : Int32 → gM → Prop, Q (vE (fun i => gI M 81 i) L) M → fEw n c 81 M Q := by
  intro n
  induction n with
  | zero => intro c L h; exact h.elim
  | succ n ih =>
    intro c L h Q hq
    obtain ⟨-, -, q⟩ := h
    rcases q with ⟨k, rfl⟩ | ⟨k, rfl, r⟩ | ⟨k, c1, L1, r1, r2, rfl⟩ | ⟨k, a, b, La, Lb, r1, r2, r3, r4, rfl⟩
    · exact Or.inl ⟨k, k, hq⟩
    · refine Or.inr (Or.inl ⟨k, k, fk81 hf, ?_, hq⟩)
      rw [fl81 hf]
      exact vp_le r hK
    · refine Or.inr (Or.inr (Or.inl ⟨k, k, ?_⟩))
      rw [r1, gdr_some]
      rw [vE_3 (wfE_x _ _ _ r2)] at hq
      refine ih c1 L1 r2 _ ?_
      by_cases e : vE (fun i => gI M 81 i) L1 = 0
      · rw [if_pos e] at hq ⊢; exact hq
      · rw [if_neg e] at hq ⊢; exact hq
    · refine Or.inr (Or.inr (Or.inr ⟨k, k, ?_⟩))
      rw [r1, gdr_some]
      have ho : xOp (gI M c 0) = 4 ∨ xOp (gI M c 0) = 5 ∨ xOp (gI M c 0) = 6 ∨ xOp (gI M c 0) = 7 ∨ xOp (gI M c 0) = 8 ∨ xOp (gI M c 0) = 9 ∨ xOp (gI M c 0) = 10 := by
        unfold xOp
        split
        · simp
        · split
          · simp
          · split
            · simp
            · split
              · simp
              · split
                · simp
                · split <;> simp
      rw [vE_4 (wfE_x _ _ _ r3) (wfE_x _ _ _ r4) ho] at hq
      refine ih a La r3 _ ⟨k, ?_⟩
      rw [r2, gdr_some]
      refine ih b Lb r4 _ ⟨k, ?_⟩
      generalize vE (fun i => gI M 81 i) La = x at *
      generalize vE (fun i => gI M 81 i) Lb = y at *
      unfold bo9 xOp at hq
      unfold fX13_worked_b126 fX13_worked_b136
      generalize gI M c 0 = g at *
      by_cases e38 : g = 38
      · subst e38
        rw [if_pos rfl]
        simp only [show ¬ (38 : Int32) = 43 by decide, show ¬ (38 : Int32) = 45 by decide, show ¬ (38 : Int32) = 42 by decide, show ¬ (38 : Int32) = 60 by decide, show ¬ (38 : Int32) = 61 by decide, if_false, if_true, show ¬ (9 : Int32) = 4 by decide, show ¬ (9 : Int32) = 5 by decide, show ¬ (9 : Int32) = 6 by decide, show ¬ (9 : Int32) = 7 by decide, show ¬ (9 : Int32) = 8 by decide] at hq
        by_cases ex : x = 0
        · rw [if_pos ex] at hq ⊢; exact hq
        · rw [if_neg ex] at hq ⊢
          by_cases ey : y = 0
          · rw [if_pos ey] at hq ⊢; exact hq
          · rw [if_neg ey] at hq ⊢; exact hq
      rw [if_neg e38]
      rw [if_neg e38] at hq
      by_cases e42 : g = 42
      · subst e42
        rw [if_pos rfl]
        exact hq
      rw [if_neg e42]
      rw [if_neg e42] at hq
      by_cases e43 : g = 43
      · subst e43
        rw [if_pos rfl]
        exact hq
      rw [if_neg e43]
      rw [if_neg e43] at hq
      by_cases e45 : g = 45
      · subst e45
        rw [if_pos rfl]
        exact hq
      rw [if_neg e45]
      rw [if_neg e45] at hq
      by_cases e60 : g = 60
      · subst e60
        rw [if_pos rfl]
        simp only [if_true, show ¬ (7 : Int32) = 4 by decide, show ¬ (7 : Int32) = 5 by decide, show ¬ (7 : Int32) = 6 by decide, if_false] at hq
        by_cases ex : y ≤ x
        · rw [if_pos ex] at hq ⊢; exact hq
        · rw [if_neg ex] at hq ⊢; exact hq
      rw [if_neg e60]
      rw [if_neg e60] at hq
      by_cases e61 : g = 61
      · subst e61
        rw [if_pos rfl]
        simp only [if_true, show ¬ (8 : Int32) = 4 by decide, show ¬ (8 : Int32) = 5 by decide, show ¬ (8 : Int32) = 6 by decide, show ¬ (8 : Int32) = 7 by decide, if_false] at hq
        by_cases ex : x = y
        · rw [if_pos ex] at hq ⊢; exact hq
        · rw [if_neg ex] at hq ⊢; exact hq
      rw [if_neg e61]
      rw [if_neg e61] at hq
      simp only [show ¬ (10 : Int32) = 4 by decide, show ¬ (10 : Int32) = 5 by decide, show ¬ (10 : Int32) = 6 by decide, show ¬ (10 : Int32) = 7 by decide, show ¬ (10 : Int32) = 8 by decide, show ¬ (10 : Int32) = 9 by decide, if_false] at hq
      by_cases ex : x = 0
      · rw [if_pos ex] at hq ⊢
        by_cases ey : y = 0
        · rw [if_pos ey] at hq ⊢; exact hq
        · rw [if_neg ey] at hq ⊢; exact hq
      · rw [if_neg ex] at hq ⊢; exact hq
/-! m's pile -/
def pile (M : gM) : List Int32 → Prop
  | [] => True
  | v :: s => gI M 293 s.length = v ∧ pile M s
theorem pile_sI {M : gM} {k : Nat} {x : Int32} : ∀ s : List Int32, s.length ≤ k → pile M s → pile (gsI M 293 k x) s := by
  intro s
  induction s with
  | nil => intro _ _; trivial
  | cons v s ih =>
    intro hk h
    have hk : s.length + 1 ≤ k := hk
    exact ⟨by rw [gI_sI, if_neg (by omega)]; exact h.1, ih (by omega) h.2⟩
/-- the codes lie from p on -/
def codM (M : gM) (p : Nat) (L : List (Int32 × Int32)) : Prop := ∀ i : Nat, i < L.length → gI M 289 (p + i) = (L.getD i (0, 0)).1 ∧ gI M 290 (p + i) = (L.getD i (0, 0)).2
theorem codM_l {M : gM} {p : Nat} {A B : List (Int32 × Int32)} (h : codM M p (A ++ B)) : codM M p A := fun i hi => by
  have e := h i (by rw [List.length_append]; omega)
  rw [List.getD_eq_getElem?_getD, List.getElem?_append_left hi, ← List.getD_eq_getElem?_getD] at e
  exact e
theorem codM_r {M : gM} {p : Nat} {A B : List (Int32 × Int32)} (h : codM M p (A ++ B)) : codM M (p + A.length) B := fun i hi => by
  have e := h (A.length + i) (by rw [List.length_append]; omega)
  rw [List.getD_eq_getElem?_getD, List.getElem?_append_right (by omega), show A.length + i - A.length = i by omega, ← List.getD_eq_getElem?_getD, ← Nat.add_assoc] at e
  exact e
/-- nothing but the pile has changed -/
def fr293 (M M1 : gM) : Prop := ∀ c k, c ≠ 293 → gI M1 c k = gI M c k
theorem fr293.trans {M M1 M2 : gM} (h : fr293 M M1) (h2 : fr293 M1 M2) : fr293 M M2 := fun c k hc => (h2 c k hc).trans (h c k hc)
theorem codM_fr {M M1 : gM} {p : Nat} {L : List (Int32 × Int32)} (f : fr293 M M1) (h : codM M p L) : codM M1 p L := fun i hi => by
  rw [f _ _ (by decide), f _ _ (by decide)]
  exact h i hi
section
variable {N : gM} {D : gD}
theorem wm_1 {M : gM} (h : RM N D M) {p : Nat} {c x : Int32} (hp : p < 9900) (hc : gI M 289 p = c) (hx : gI M 290 p = x) {s : List Int32} (hs : s.length < 1100) (hp9 : pile M s) {F : Nat → Int32} (hF : ∀ i, i < 10 → gI M 292 i = F i) (h12 : c = 1 ∨ (c = 2 ∧ vp_in x 10)) {R : Int32 → Int32 → gM → Prop} {K : gM → Prop} {Q : Int32 → gM → Prop} (hn : ∀ M', RM N D M' → fr293 M M' → pile M' ((if c = 1 then x else F x.toNatClampNeg) :: s) → R (nI (s.length + 1)) (nI (p + 1)) M') : fX7_worthAt_L4s R K (nI s.length) (nI p) M Q := by
  have w : ∀ v, v = (if c = 1 then x else F x.toNatClampNeg) → fX7_worthAt_b64 R (nI s.length) (nI p) 293 (nI s.length) v M Q := by
    intro v hv
    unfold fX7_worthAt_b64 fX7_worthAt_b134
    refine ⟨fk293 h.1, by rw [fl293 h.1]; exact vp_in_nI hs (by decide), ?_⟩
    rw [nI_clamp (by omega), ← nI_succ, ← nI_succ]
    refine hn _ (h.sI (by unfold mScr; omega)) (fun c k q => by rw [gI_sI, if_neg (by omega)]) ⟨?_, pile_sI s (Nat.le_refl _) hp9⟩
    rw [gI_sI, if_pos ⟨rfl, rfl⟩, hv]
  unfold fX7_worthAt_L4s
  simp only [mk268 h, frm33 h.1, fk289 h.1, fl289 h.1, vp_in_nI hp (N := 9900) (by decide), nI_clamp (Nat.lt_trans hp (by decide : 9900 < 2 ^ 31)), gdr_some, gk_sI, gk_sL, gk_sR, gl_sI, gl_sL, gl_sR, gn_sI, gn_sL, gn_sR, gs_sI, gs_sL, gs_sR, gR_sI, gR_sL, gI_sL, gI_sR, gL_sI, gL_sR, bi_ite, bi_01, true_and, and_true, hc]
  rcases h12 with rfl | ⟨rfl, hv⟩
  · rw [if_neg (by decide), if_pos rfl]
    unfold fX7_worthAt_b33
    simp only [mk268 h, frm33 h.1, fk289 h.1, fl289 h.1, frm34 h.1, fk290 h.1, fl290 h.1, frm36 h.1, fk292 h.1, fl292 h.1, frm37 h.1, fk293 h.1, fl293 h.1, vp_in_nI hp (N := 9900) (by decide), nI_clamp (Nat.lt_trans hp (by decide : 9900 < 2 ^ 31)), gdr_some, gk_sI, gk_sL, gk_sR, gl_sI, gl_sL, gl_sR, gn_sI, gn_sL, gn_sR, gs_sI, gs_sL, gs_sR, gR_sI, gR_sL, gI_sL, gI_sR, gL_sI, gL_sR, bi_ite, bi_01, true_and, and_true, hc, hx]
    rw [if_pos trivial]
    exact w _ (by simp)
  · rw [if_neg (by decide), if_neg (by decide), if_pos rfl]
    unfold fX7_worthAt_b33
    simp only [mk268 h, frm33 h.1, fk289 h.1, fl289 h.1, frm34 h.1, fk290 h.1, fl290 h.1, frm36 h.1, fk292 h.1, fl292 h.1, frm37 h.1, fk293 h.1, fl293 h.1, vp_in_nI hp (N := 9900) (by decide), nI_clamp (Nat.lt_trans hp (by decide : 9900 < 2 ^ 31)), gdr_some, gk_sI, gk_sL, gk_sR, gl_sI, gl_sL, gl_sR, gn_sI, gn_sL, gn_sR, gs_sI, gs_sL, gs_sR, gR_sI, gR_sL, gI_sL, gI_sR, gL_sI, gL_sR, bi_ite, bi_01, true_and, and_true, hc, hx]
    rw [if_neg (by decide)]
    refine ⟨hv, w _ ?_⟩
    rw [if_neg (by decide)]
    rw [vp_in_iff] at hv
    exact hF _ (by
      have := (vp_in_iff (x := x) (n := 10)).mpr hv
      exact Nat.not_le.mp fun q => this (Or.inr q))
theorem wm_3 {M : gM} (h : RM N D M) {p : Nat} (hp : p < 9900) (hc : gI M 289 p = 3) {s : List Int32} {v : Int32} (hs : s.length < 1100) (hp9 : pile M (v :: s)) {R : Int32 → Int32 → gM → Prop} {K : gM → Prop} {Q : Int32 → gM → Prop} (hn : ∀ M', RM N D M' → fr293 M M' → pile M' ((if v = 0 then 1 else 0) :: s) → R (nI (s.length + 1)) (nI (p + 1)) M') : fX7_worthAt_L4s R K (nI (s.length + 1)) (nI p) M Q := by
  obtain ⟨p1, p2⟩ := hp9
  have w : ∀ x, x = (if v = 0 then 1 else 0) → fX7_worthAt_b100 R (nI (s.length + 1)) (nI p) 293 (nI s.length) x M Q := by
    intro x hx
    unfold fX7_worthAt_b100 fX7_worthAt_b134
    refine ⟨fk293 h.1, by rw [fl293 h.1]; exact vp_in_nI hs (by decide), ?_⟩
    rw [nI_clamp (by omega), ← nI_succ]
    refine hn _ (h.sI (by unfold mScr; omega)) (fun c k q => by rw [gI_sI, if_neg (by omega)]) ⟨?_, pile_sI s (Nat.le_refl _) p2⟩
    rw [gI_sI, if_pos ⟨rfl, rfl⟩, hx]
  unfold fX7_worthAt_L4s
  simp only [mk268 h, frm33 h.1, fk289 h.1, fl289 h.1, frm37 h.1, fk293 h.1, fl293 h.1, vp_in_nI hp (N := 9900) (by decide), nI_clamp (Nat.lt_trans hp (by decide : 9900 < 2 ^ 31)), vp_in_nI hs (N := 1100) (by decide), nI_clamp (Nat.lt_trans hs (by decide : 1100 < 2 ^ 31)), gdr_some, gk_sI, gk_sL, gk_sR, gl_sI, gl_sL, gl_sR, gn_sI, gn_sL, gn_sR, gs_sI, gs_sL, gs_sR, gR_sI, gR_sL, gI_sL, gI_sR, gL_sI, gL_sR, bi_ite, bi_01, true_and, and_true, hc, nI_pred, p1]
  rw [if_neg (by decide), if_neg (by decide), if_neg (by decide), if_pos trivial]
  by_cases e : v = 0
  · rw [if_pos e]; exact w _ (by rw [if_pos e])
  · rw [if_neg e]; exact w _ (by rw [if_neg e])
theorem pX7_both {c a b : Int32} (hc : c = 4 ∨ c = 5 ∨ c = 6 ∨ c = 7 ∨ c = 8 ∨ c = 9 ∨ c = 10) {M : gM} {Q : Int32 → gM → Prop} : fX7_both c a b M Q = Q (bo9 c a b) M := by
  unfold fX7_both fX7_both_b86 fX7_both_b96 bo9
  rcases hc with rfl | rfl | rfl | rfl | rfl | rfl | rfl
  · rfl
  · rfl
  · rfl
  · show (if b ≤ a then Q 0 M else Q 1 M) = Q (if b ≤ a then 0 else 1) M
    split <;> rfl
  · show (if a = b then Q 1 M else Q 0 M) = Q (if a = b then 1 else 0) M
    split <;> rfl
  · show (if a = 0 then Q 0 M else if b = 0 then Q 0 M else Q 1 M) = Q (if a = 0 then 0 else if b = 0 then 0 else 1) M
    split
    · rfl
    · split <;> rfl
  · show (if a = 0 then (if b = 0 then Q 0 M else Q 1 M) else Q 1 M) = Q (if a = 0 then (if b = 0 then 0 else 1) else 1) M
    split
    · split <;> rfl
    · rfl
theorem wm_4 {M : gM} (h : RM N D M) {p : Nat} {c : Int32} (hp : p < 9900) (hc : gI M 289 p = c) (ho : c = 4 ∨ c = 5 ∨ c = 6 ∨ c = 7 ∨ c = 8 ∨ c = 9 ∨ c = 10) {s : List Int32} {x y : Int32} (hs : s.length + 1 < 1100) (hp9 : pile M (y :: x :: s)) {R : Int32 → Int32 → gM → Prop} {K : gM → Prop} {Q : Int32 → gM → Prop} (hn : ∀ M', RM N D M' → fr293 M M' → pile M' (bo9 c x y :: s) → R (nI (s.length + 1)) (nI (p + 1)) M') : fX7_worthAt_L4s R K (nI (s.length + 2)) (nI p) M Q := by
  obtain ⟨p1, p2, p3⟩ := hp9
  have p1 : gI M 293 (s.length + 1) = y := p1
  have hs0 : s.length < 1100 := by omega
  have n0 : ¬ c = 0 := by rcases ho with rfl | rfl | rfl | rfl | rfl | rfl | rfl <;> decide
  have n1 : ¬ c = 1 := by rcases ho with rfl | rfl | rfl | rfl | rfl | rfl | rfl <;> decide
  have n2 : ¬ c = 2 := by rcases ho with rfl | rfl | rfl | rfl | rfl | rfl | rfl <;> decide
  have n3 : ¬ c = 3 := by rcases ho with rfl | rfl | rfl | rfl | rfl | rfl | rfl <;> decide
  have em : nI (s.length + 2) + (-1) = nI (s.length + 1) := pk_m1 (s.length + 1)
  unfold fX7_worthAt_L4s
  simp only [mk268 h, frm33 h.1, fk289 h.1, fl289 h.1, frm37 h.1, fk293 h.1, fl293 h.1, vp_in_nI hp (N := 9900) (by decide), nI_clamp (Nat.lt_trans hp (by decide : 9900 < 2 ^ 31)), vp_in_nI hs (N := 1100) (by decide), nI_clamp (Nat.lt_trans hs (by decide : 1100 < 2 ^ 31)), vp_in_nI hs0 (N := 1100) (by decide), nI_clamp (Nat.lt_trans hs0 (by decide : 1100 < 2 ^ 31)), gdr_some, gk_sI, gk_sL, gk_sR, gl_sI, gl_sL, gl_sR, gn_sI, gn_sL, gn_sR, gs_sI, gs_sL, gs_sR, gR_sI, gR_sL, gI_sL, gI_sR, gL_sI, gL_sR, bi_ite, bi_01, true_and, and_true, hc, em, nI_pred, p1, p2, pX7_both ho]
  rw [if_neg n0, if_neg n1, if_neg n2, if_neg n3]
  unfold fX7_worthAt_b134
  rw [← nI_succ]
  refine hn _ (h.sI (by unfold mScr; omega)) (fun c k q => by rw [gI_sI, if_neg (by omega)]) ⟨?_, pile_sI s (Nat.le_refl _) p3⟩
  rw [gI_sI, if_pos ⟨rfl, rfl⟩]
/-- m runs one expression's codes -/
theorem wm_E {F : Nat → Int32} {KF : Nat} (hKF : KF ≤ 10) {K : gM → Prop} {Q : Int32 → gM → Prop} : ∀ (n : Nat) (L : List (Int32 × Int32)), wfE KF n L → ∀ (p f : Nat) (s : List Int32) (M : gM), RM N D M → codM M p L → (∀ i, i < 10 → gI M 292 i = F i) → pile M s → s.length + L.length ≤ 1100 → p + L.length ≤ 9900 → (∀ M', RM N D M' → fr293 M M' → pile M' (vE F L :: s) → fX7_worthAt_L4 K Q f (nI (s.length + 1)) (nI (p + L.length)) M') → fX7_worthAt_L4 K Q (f + L.length) (nI s.length) (nI p) M := by
  intro n
  induction n with
  | zero => intro L h; exact h.elim
  | succ n ih =>
    intro L h p f s M hM hc hF hs h1 h2 hn
    rcases h with ⟨a, rfl⟩ | ⟨i, rfl, hi⟩ | ⟨L1, w1, rfl⟩ | ⟨La, Lb, o, w1, w2, ho, rfl⟩
    · have c0 := hc 0 (by simp)
      have h1 : s.length + 1 ≤ 1100 := h1
      have h2 : p + 1 ≤ 9900 := h2
      exact wm_1 hM (by omega) c0.1 c0.2 (by omega) hs hF (Or.inl rfl) fun M' a1 a2 a3 => hn M' a1 a2 a3
    · have c0 := hc 0 (by simp)
      have h1 : s.length + 1 ≤ 1100 := h1
      have h2 : p + 1 ≤ 9900 := h2
      exact wm_1 hM (by omega) c0.1 c0.2 (by omega) hs hF (Or.inr ⟨rfl, vp_le hi hKF⟩) fun M' a1 a2 a3 => hn M' a1 a2 a3
    · rw [List.length_append] at h1 h2
      have h1 : s.length + (L1.length + 1) ≤ 1100 := h1
      have h2 : p + (L1.length + 1) ≤ 9900 := h2
      have cl1 := codM_l hc
      have cr := codM_r hc 0 (by simp)
      have e : f + (L1 ++ [((3 : Int32), (0 : Int32))]).length = (f + 1) + L1.length := by rw [List.length_append]; show f + (L1.length + 1) = _; omega
      rw [e]
      refine ih L1 w1 p (f + 1) s M hM cl1 hF hs (by omega) (by omega) fun M1 a1 a2 a3 => ?_
      have c3 : gI M1 289 (p + L1.length) = 3 := by rw [a2 _ _ (by decide)]; exact cr.1
      refine wm_3 a1 (by omega) c3 (by omega) a3 fun M2 b1 b2 b3 => ?_
      rw [← vE_3 w1] at b3
      have key := hn M2 b1 (a2.trans b2) b3
      rw [List.length_append] at key
      exact key
    · have q1 := wfE_len w1
      have q2 := wfE_len w2
      rw [List.length_append, List.length_append] at h1 h2
      have h1 : s.length + (La.length + (Lb.length + 1)) ≤ 1100 := h1
      have h2 : p + (La.length + (Lb.length + 1)) ≤ 9900 := h2
      have ca := codM_l hc
      have cbr := codM_r hc
      have cb := codM_l cbr
      have co := codM_r cbr 0 (by simp)
      have e : f + (La ++ (Lb ++ [(o, (0 : Int32))])).length = ((f + 1) + Lb.length) + La.length := by rw [List.length_append, List.length_append]; show f + (La.length + (Lb.length + 1)) = _; omega
      rw [e]
      refine ih La w1 p _ s M hM ca hF hs (by omega) (by omega) fun M1 a1 a2 a3 => ?_
      refine ih Lb w2 (p + La.length) (f + 1) (vE F La :: s) M1 a1 (codM_fr a2 cb) (fun i hi => by rw [a2 _ _ (by decide)]; exact hF i hi) a3 (by show s.length + 1 + Lb.length ≤ 1100; omega) (by omega) fun M2 b1 b2 b3 => ?_
      have c4 : gI M2 289 (p + La.length + Lb.length) = o := by rw [b2 _ _ (by decide), a2 _ _ (by decide)]; exact co.1
      refine wm_4 b1 (by omega) c4 ho (by omega) b3 fun M3 d1 d2 d3 => ?_
      rw [← vE_4 w1 w2 ho] at d3
      have key := hn M3 d1 ((a2.trans b2).trans d2) d3
      rw [List.length_append, List.length_append, ← Nat.add_assoc] at key
      exact key
theorem pX7_worthAt {M : gM} (h : RM N D M) {KF n p : Nat} (hKF : KF ≤ 10) {L : List (Int32 × Int32)} (hw : wfE KF n L) (hc : codM M p L) (he : gI M 289 (p + L.length) = 0) (hl : L.length ≤ 1100) (hp : p + L.length < 9900) {Q : Int32 → gM → Prop} (hq : ∀ M', RM N D M' → fr293 M M' → Q (vE (fun i => gI M 292 i) L) M') : fX7_worthAt (nI p) M Q := by
  unfold fX7_worthAt
  refine ⟨1 + L.length, ?_⟩
  refine wm_E hKF n L hw p 1 [] M h hc (fun i _ => rfl) trivial (by simpa using hl) (by omega) fun M1 h1 f1 p1 => ?_
  unfold fX7_worthAt_L4 fX7_worthAt_L4s
  simp only [mk268 h1, frm33 h1.1, fk289 h1.1, fl289 h1.1, vp_in_nI hp (N := 9900) (by decide), nI_clamp (Nat.lt_trans hp (by decide : 9900 < 2 ^ 31)), gdr_some, gk_sI, gk_sL, gk_sR, gl_sI, gl_sL, gl_sR, gn_sI, gn_sL, gn_sR, gs_sI, gs_sL, gs_sR, gR_sI, gR_sL, gI_sL, gI_sR, gL_sI, gL_sR, bi_ite, bi_01, true_and, and_true]
  rw [if_pos (by rw [f1 _ _ (by decide)]; exact he)]
  have v0 : vp_in 0 1100 := vp_in_nI (n := 0) (by decide) (by decide)
  simp only [mk268 h1, frm37 h1.1, fk293 h1.1, fl293 h1.1, v0, gdr_some, gk_sI, gk_sL, gk_sR, gl_sI, gl_sL, gl_sR, gn_sI, gn_sL, gn_sR, gs_sI, gs_sL, gs_sR, gR_sI, gR_sL, gI_sL, gI_sR, gL_sI, gL_sR, bi_ite, bi_01, true_and, and_true]
  rw [show gI M1 293 0 = vE (fun i => gI M 292 i) L from p1.1]
  exact hq M1 h1 f1
end
/-! worlds: one kitchen, one month, in x -/
set_option maxRecDepth 100000
theorem ev_congr {K : Nat} {F G : Nat → Int32} (h : ∀ i, i < K → F i = G i) : ∀ (n : Nat) (L : List (Int32 × Int32)), wfE K n L → vE F L = vE G L := by
  intro n
  induction n with
  | zero => intro L q; exact q.elim
  | succ n ih =>
    intro L q
    rcases q with ⟨a, rfl⟩ | ⟨i, rfl, hi⟩ | ⟨L1, w1, rfl⟩ | ⟨La, Lb, o, w1, w2, ho, rfl⟩
    · rfl
    · rw [vE_2, vE_2]
      exact h _ (Nat.not_le.mp fun q => hi (Or.inr q))
    · rw [vE_3 w1, vE_3 w1, ih L1 w1]
    · rw [vE_4 w1 w2 ho, vE_4 w1 w2 ho, ih La w1, ih Lb w2]
def soF (F : Nat → Int32) (o : Option (List (Int32 × Int32))) : Bool := match o with
  | none => false
  | some L => decide (vE F L ≠ 0)
def hiF (F : Nat → Int32) (o : Option (List (Int32 × Int32))) (were : Int32) : Int32 := match o with
  | none => were
  | some L => imax 0 (imin 99 (vE F L))
/-- the facts of a kitchen in a month: was it shut, hands then, the draw -/
def waF (d : Nat → Nat → Nat → Int32) (k m : Nat) (w h dr : Int32) (i : Nat) : Int32 :=
  if i = 0 then (if w = -2 then 0 else w) else if i = 1 then (if w = -2 then 0 else h) else if i = 2 then d 1 k 0 else if i = 3 then d 11 (bk d k) m else if i = 4 then imax 0 (d 11 (bk d k) m - d 1 k 0) else if i = 5 then d 0 k 0 else if i = 6 then nI m else if i = 7 then d 12 (bk d k) m else if i = 8 then dr else (if w = -2 then 1 else 0)
def goS (d : Nat → Nat → Nat → Int32) (W : Nat → Option (List (Int32 × Int32))) (k m : Nat) (w h dr : Int32) : Bool := if w = -2 then !(soF (waF d k m w h dr) (W 3)) else soF (waF d k m w h dr) (W 2)
def goW (d : Nat → Nat → Nat → Int32) (W : Nat → Option (List (Int32 × Int32))) (k m : Nat) (w h dr : Int32) : Int32 := if goS d W k m w h dr = true then -2 else hiF (waF d k m w h dr) (W 0) (waF d k m w h dr 0)
def goH (d : Nat → Nat → Nat → Int32) (W : Nat → Option (List (Int32 × Int32))) (k m : Nat) (w h dr : Int32) : Int32 := if goS d W k m w h dr = true then 0 else hiF (waF d k m w h dr) (W 1) (waF d k m w h dr 1)
section
variable {N M : gM} {n0 a9 : Nat} {D : gD}
/-- facts alone are written -/
def fr81 (M M' : gM) : Prop := (∀ c k, c ≠ 81 → gI M' c k = gI M c k) ∧ ∀ c, gk M' c = gk M c ∧ gl M' c = gl M c
theorem xf81 (h : RX N n0 a9 D M) {j : Nat} {v : Int32} : RX N n0 a9 D (gsI M 81 j v) := h.sI (by unfold xScr; omega) (by omega)
theorem xlaw (h : RX N n0 a9 D M) {l c : Nat} (hl : l < 4) (hc : gR M 26 l = some c) : gk M c = 5 ∧ ∃ e, gR M c 0 = some e ∧ gk M e = 47 ∧ gl M e = 4 ∧ ∀ w : Nat, w < 4 → xTo M n0 10 (gR M e w) (dL D l w) := by
  obtain ⟨c', e, q1, q2, q3, q4, q5, q6, q7, q8⟩ := h.2.2.2.2.2.1 l hl
  rw [hc] at q1
  cases q1
  exact ⟨q3, e, q4, q6, q7, q8⟩
theorem so_x (h : RX N n0 a9 D M) {F : Nat → Int32} (hF : ∀ i, i < 10 → gI M 81 i = F i) {r : Option Nat} {o : Option (List (Int32 × Int32))} (q : xTo M n0 10 r o) {Q : Int32 → gM → Prop} (hq : Q (bi (soF F o)) M) : fX1_isSo r M Q := by
  unfold fX1_isSo fX1_isSo_b19
  rcases q with ⟨rfl, rfl⟩ | ⟨c, L, n, rfl, rfl, q3, q4⟩
  · rw [if_pos rfl]; exact hq
  · rw [if_neg (by simp)]
    refine ⟨xk16 h, ?_⟩
    rw [frx18 h.1, gdr_some, gdr_some]
    refine ⟨n, q3, ex_x h.1 (Nat.le_refl _) n c L q4 _ ?_⟩
    have e : vE (fun i => gI M 81 i) L = vE F L := ev_congr hF n L (wfE_x _ _ _ q4)
    rw [e]
    unfold soF at hq
    by_cases z : vE F L = 0
    · rw [if_pos z]; simpa [z, bi] using hq
    · rw [if_neg z]; simpa [z, bi] using hq
theorem hi_x (h : RX N n0 a9 D M) {F : Nat → Int32} (hF : ∀ i, i < 10 → gI M 81 i = F i) {r : Option Nat} {o : Option (List (Int32 × Int32))} (q : xTo M n0 10 r o) {v : Int32} {Q : Int32 → gM → Prop} (hq : Q (hiF F o v) M) : fX1_hired r v M Q := by
  unfold fX1_hired
  rcases q with ⟨rfl, rfl⟩ | ⟨c, L, n, rfl, rfl, q3, q4⟩
  · rw [if_pos rfl]; exact hq
  · rw [if_neg (by simp)]
    refine ⟨xk16 h, ?_⟩
    rw [frx18 h.1, gdr_some, gdr_some]
    refine ⟨n, q3, ex_x h.1 (Nat.le_refl _) n c L q4 _ ?_⟩
    have e : vE (fun i => gI M 81 i) L = vE F L := ev_congr hF n L (wfE_x _ _ _ q4)
    rw [e, pJ0_min, pJ0_max]
    exact hq
theorem xTo_sI {c k : Nat} {v : Int32} {K : Nat} {r : Option Nat} {o : Option (List (Int32 × Int32))} (hc : c < 312) (q : xTo M n0 K r o) : xTo (gsI M c k v) n0 K r o :=
  xTo_keep (M := M) (M1 := gsI M c k v) (fun c' h1 h2 => ⟨rfl, fun k' => by rw [gI_sI, if_neg (by omega)], fun _ => rfl⟩) q
theorem xw_r (h : RX N n0 a9 D M) {k : Nat} (hk : k < 24) : gR M 31 k = some (32 + k) ∧ gk M (32 + k) = 40 ∧ gl M (32 + k) = 12 ∧ gR M 56 k = some (57 + k) ∧ gk M (57 + k) = 40 ∧ gl M (57 + k) = 12 := ⟨frW h.1 hk, fkW h.1 hk, flW h.1 hk, frH h.1 hk, fkH h.1 hk, flH h.1 hk⟩
theorem gx266 (h : RX N n0 a9 D M) {l c k m : Nat} (hl : l < 4) (hc : gR M 26 l = some c) (hk : k < 24) (hm : m < 12) {F : Nat → Int32} (hF : ∀ i, i < 10 → gI M 81 i = F i) {sh : Bool} {w : Int32} {Q : gM → Prop} (hq : Q (gsI (gsI M (32 + k) m w) (57 + k) m (if sh = true then 0 else hiF F (dL D l 1) (F 1)))) : fX1_goes_b266 c (nI k) (nI m) (bi sh) (32 + k) (nI m) w M Q := by
  obtain ⟨r1, r2, r3, r4, r5, r6⟩ := xw_r h hk
  obtain ⟨c1, e, c2, c3, c4, c5⟩ := xlaw h hl hc
  have h1 : RX N n0 a9 D (gsI M (32 + k) m w) := h.sI (by unfold xScr; omega) (by omega)
  have v1 : vp_in 1 4 := vp_in_nI (n := 1) (by decide) (by decide)
  have v2 : vp_in 1 10 := vp_in_nI (n := 1) (by decide) (by decide)
  have f1 : gI (gsI M (32 + k) m w) 81 1 = F 1 := by rw [gI_sI, if_neg (by omega)]; exact hF 1 (by decide)
  unfold fX1_goes_b266
  simp only [xk16 h, frx17 h.1, fk56 h.1, fl56 h.1, frx18 h.1, fk81 h.1, fl81 h.1, vp_in_nI hk (N := 24) (by decide), nI_clamp (Nat.lt_trans hk (by decide : 24 < 2 ^ 31)), vp_in_nI hm (N := 12) (by decide), nI_clamp (Nat.lt_trans hm (by decide : 12 < 2 ^ 31)), r2, r3, r4, r5, r6, c1, c2, c3, c4, v1, v2, f1, gdr_some, gk_sI, gk_sL, gk_sR, gl_sI, gl_sL, gl_sR, gn_sI, gn_sL, gn_sR, gs_sI, gs_sL, gs_sR, gR_sI, gR_sL, gI_sL, gI_sR, gL_sI, gL_sR, bi_ite, bi_01, true_and, and_true]
  cases sh
  · simp only [Bool.false_eq_true, if_false]
    refine hi_x h1 (F := F) (o := dL D l 1) (fun i hi => by rw [gI_sI, if_neg (by omega)]; exact hF i hi) (xTo_sI (by omega) (c5 1 (by decide))) ?_
    simp only [r5, r6, vp_in_nI hm (N := 12) (by decide), nI_clamp (Nat.lt_trans hm (by decide : 12 < 2 ^ 31)), gdr_some, gk_sI, gk_sL, gk_sR, gl_sI, gl_sL, gl_sR, gn_sI, gn_sL, gn_sR, gs_sI, gs_sL, gs_sR, gR_sI, gR_sL, gI_sL, gI_sR, gL_sI, gL_sR, bi_ite, bi_01, true_and, and_true]
    exact hq
  · simp only [if_true]
    exact hq
theorem gx231 (h : RX N n0 a9 D M) {l c k m : Nat} (hl : l < 4) (hc : gR M 26 l = some c) (hk : k < 24) (hm : m < 12) {F : Nat → Int32} (hF : ∀ i, i < 10 → gI M 81 i = F i) {sh : Bool} {Q : gM → Prop} (hq : Q (gsI (gsI M (32 + k) m (if sh = true then -2 else hiF F (dL D l 0) (F 0))) (57 + k) m (if sh = true then 0 else hiF F (dL D l 1) (F 1)))) : fX1_goes_b231 c (nI k) (nI m) (bi sh) M Q := by
  obtain ⟨r1, r2, r3, r4, r5, r6⟩ := xw_r h hk
  obtain ⟨c1, e, c2, c3, c4, c5⟩ := xlaw h hl hc
  have v0 : vp_in 0 4 := vp_in_nI (n := 0) (by decide) (by decide)
  have v2 : vp_in 0 10 := vp_in_nI (n := 0) (by decide) (by decide)
  unfold fX1_goes_b231
  simp only [xk16 h, frx16 h.1, fk31 h.1, fl31 h.1, frx18 h.1, fk81 h.1, fl81 h.1, vp_in_nI hk (N := 24) (by decide), nI_clamp (Nat.lt_trans hk (by decide : 24 < 2 ^ 31)), r1, c1, c2, c3, c4, v0, v2, hF 0 (by decide), gdr_some, gk_sI, gk_sL, gk_sR, gl_sI, gl_sL, gl_sR, gn_sI, gn_sL, gn_sR, gs_sI, gs_sL, gs_sR, gR_sI, gR_sL, gI_sL, gI_sR, gL_sI, gL_sR, bi_ite, bi_01, true_and, and_true]
  cases sh
  · simp only [Bool.false_eq_true, if_false] at hq ⊢
    refine hi_x h (F := F) (o := dL D l 0) hF (c5 0 (by decide)) ?_
    exact gx266 h hl hc hk hm hF (sh := false) hq
  · simp only [if_true] at hq ⊢
    exact gx266 h hl hc hk hm hF (sh := true) hq
theorem gx178 (h : RX N n0 a9 D M) {l c k m : Nat} (hl : l < 4) (hc : gR M 26 l = some c) (hk : k < 24) (hm : m < 12) {w hh dr : Int32} (hF : ∀ i, i < 9 → gI M 81 i = waF (dd D) k m w hh dr i) {Q : gM → Prop} (hq : Q (gsI (gsI (gsI M 81 9 (if w = -2 then 1 else 0)) (32 + k) m (goW (dd D) (dL D l) k m w hh dr)) (57 + k) m (goH (dd D) (dL D l) k m w hh dr))) : fX1_goes_b178 c (nI k) (nI m) (bi (decide (w = -2))) M Q := by
  have v9 : vp_in 9 10 := vp_in_nI (n := 9) (by decide) (by decide)
  have v2 : vp_in 2 4 := vp_in_nI (n := 2) (by decide) (by decide)
  have v3 : vp_in 3 4 := vp_in_nI (n := 3) (by decide) (by decide)
  have h1 : RX N n0 a9 D (gsI M 81 9 (if w = -2 then 1 else 0)) := xf81 h
  have c9 : (9 : Int32).toNatClampNeg = 9 := rfl
  have hF1 : ∀ i, i < 10 → gI (gsI M 81 9 (if w = -2 then 1 else 0)) 81 i = waF (dd D) k m w hh dr i := by
    intro i hi
    rw [gI_sI]
    by_cases e : i = 9
    · rw [if_pos ⟨rfl, e⟩, e]; rfl
    · rw [if_neg (by omega)]; exact hF i (by omega)
  obtain ⟨c1, e, c2, c3, c4, c5⟩ := xlaw h1 hl hc
  have c1 : gk M c = 5 := c1
  have c2 : gR M c 0 = some e := c2
  have c3 : gk M e = 47 := c3
  have c4 : gl M e = 4 := c4
  unfold goW goH goS at hq
  unfold fX1_goes_b178 fX1_goes_b194
  simp only [xk16 h, frx18 h.1, fk81 h.1, fl81 h.1, v9, c9, gdr_some, gk_sI, gk_sL, gk_sR, gl_sI, gl_sL, gl_sR, gn_sI, gn_sL, gn_sR, gs_sI, gs_sL, gs_sR, gR_sI, gR_sL, gI_sL, gI_sR, gL_sI, gL_sR, bi_ite, bi_01, true_and, and_true]
  by_cases ew : w = -2
  · simp only [ew, if_true, decide_true] at hq hF1 h1 c5 ⊢
    simp only [c1, c2, c3, c4, v3, xk16 h, frx18 h.1, fk81 h.1, fl81 h.1, gdr_some, gk_sI, gk_sL, gk_sR, gl_sI, gl_sL, gl_sR, gn_sI, gn_sL, gn_sR, gs_sI, gs_sL, gs_sR, gR_sI, gR_sL, gI_sL, gI_sR, gL_sI, gL_sR, bi_ite, bi_01, true_and, and_true]
    refine so_x h1 hF1 (c5 3 (by decide)) ?_
    cases es : soF (waF (dd D) k m (-2) hh dr) (dL D l 3)
    · rw [if_pos bi_f]
      rw [es] at hq
      exact gx231 h1 hl hc hk hm hF1 (sh := true) hq
    · rw [if_neg (by decide)]
      rw [es] at hq
      exact gx231 h1 hl hc hk hm hF1 (sh := false) hq
  · simp only [ew, if_false, decide_false] at hq hF1 h1 c5 ⊢
    simp only [c1, c2, c3, c4, v2, xk16 h, frx18 h.1, fk81 h.1, fl81 h.1, gdr_some, gk_sI, gk_sL, gk_sR, gl_sI, gl_sL, gl_sR, gn_sI, gn_sL, gn_sR, gs_sI, gs_sL, gs_sR, gR_sI, gR_sL, gI_sL, gI_sR, gL_sI, gL_sR, bi_ite, bi_01, true_and, and_true]
    refine so_x h1 hF1 (c5 2 (by decide)) ?_
    exact gx231 h1 hl hc hk hm hF1 hq
theorem gx109 (h : RX N n0 a9 D M) (ok : okD (dd D)) {l c k m : Nat} (hl : l < 4) (hc : gR M 26 l = some c) (hk : k < 24) (hm : m < 12) {w hh dr : Int32} (hF : ∀ i, i < 4 → gI M 81 i = waF (dd D) k m w hh dr i) {Q : gM → Prop} (hq : ∀ M', RX N n0 a9 D M' → gR M' 26 l = some c → fr81 M M' → Q (gsI (gsI M' (32 + k) m (goW (dd D) (dL D l) k m w hh dr)) (57 + k) m (goH (dd D) (dL D l) k m w hh dr))) : fX1_goes_b109 c (nI k) (nI m) dr (88 + 7 * k) (bi (decide (w = -2))) M Q := by
  obtain ⟨e0, hb⟩ := bk_ok ok hk
  have b0 : vp_in (nI (bk (dd D) k)) 2 := vp_in_nI hb (by decide)
  have b1 : (nI (bk (dd D) k)).toNatClampNeg = bk (dd D) k := nI_clamp (by omega)
  have v3 : vp_in 3 10 := vp_in_nI (n := 3) (by decide) (by decide)
  have v4 : vp_in 4 10 := vp_in_nI (n := 4) (by decide) (by decide)
  have v5 : vp_in 5 10 := vp_in_nI (n := 5) (by decide) (by decide)
  have v6 : vp_in 6 10 := vp_in_nI (n := 6) (by decide) (by decide)
  have v7 : vp_in 7 10 := vp_in_nI (n := 7) (by decide) (by decide)
  have v8 : vp_in 8 10 := vp_in_nI (n := 8) (by decide) (by decide)
  have f3 : gI M 81 3 = dd D 11 (bk (dd D) k) m := hF 3 (by decide)
  unfold fX1_goes_b109
  simp only [kr h hk, kk h hk, kr5 h hk, kr6 h hk, kr7 h hk, kr8 h hk, kr9 h hk, kr10 h hk, kk5 h hk, kk6 h hk, kk7 h hk, kk8 h hk, kk9 h hk, kk10 h hk, kl5 h hk, kl6 h hk, kl7 h hk, kl8 h hk, kl9 h hk, kl10 h hk, ki0 h hk, ki1 h hk, ki2 h hk, ki3 h hk, ki4 h hk, xk16 h, frx18 h.1, fk81 h.1, fl81 h.1, v3, v4, f3, pJ0_max, gdr_some, gk_sI, gk_sL, gk_sR, gl_sI, gl_sL, gl_sR, gn_sI, gn_sL, gn_sR, gs_sI, gs_sL, gs_sR, gR_sI, gR_sL, gI_sL, gI_sR, gL_sI, gL_sR, bi_ite, bi_01, true_and, and_true]
  have h4 : RX N n0 a9 D (gsI M 81 4 (imax 0 (dd D 11 (bk (dd D) k) m - dd D 1 k 0))) := xf81 h
  have h5 : RX N n0 a9 D (gsI (gsI M 81 4 (imax 0 (dd D 11 (bk (dd D) k) m - dd D 1 k 0))) 81 5 (nI (bk (dd D) k))) := xf81 h4
  have h6 : RX N n0 a9 D (gsI (gsI (gsI M 81 4 (imax 0 (dd D 11 (bk (dd D) k) m - dd D 1 k 0))) 81 5 (nI (bk (dd D) k))) 81 6 (nI m)) := xf81 h5
  have h7 : RX N n0 a9 D (gsI (gsI (gsI (gsI M 81 4 (imax 0 (dd D 11 (bk (dd D) k) m - dd D 1 k 0))) 81 5 (nI (bk (dd D) k))) 81 6 (nI m)) 81 7 (dd D 12 (bk (dd D) k) m)) := xf81 h6
  have h8 : RX N n0 a9 D (gsI (gsI (gsI (gsI (gsI M 81 4 (imax 0 (dd D 11 (bk (dd D) k) m - dd D 1 k 0))) 81 5 (nI (bk (dd D) k))) 81 6 (nI m)) 81 7 (dd D 12 (bk (dd D) k) m)) 81 8 dr) := xf81 h7
  have t0 := ki0 h4 hk
  have t6 := ki0 h6 hk
  have tt := xtr h6 hb hm
  simp only [t0, t6, e0, b0, b1, tt, kr h hk, kk h hk, kr5 h hk, kr6 h hk, kr7 h hk, kr8 h hk, kr9 h hk, kr10 h hk, kk5 h hk, kk6 h hk, kk7 h hk, kk8 h hk, kk9 h hk, kk10 h hk, kl5 h hk, kl6 h hk, kl7 h hk, kl8 h hk, kl9 h hk, kl10 h hk, ki0 h hk, ki1 h hk, ki2 h hk, ki3 h hk, ki4 h hk, xk16 h, frx2 h.1, fk21 h.1, fl21 h.1, frx18 h.1, fk81 h.1, fl81 h.1, frT h.1 hb, fkT h.1 hb, flT h.1 hb, vp_in_nI hm (N := 12) (by decide), nI_clamp (Nat.lt_trans hm (by decide : 12 < 2 ^ 31)), v5, v6, v7, v8, gdr_some, gk_sI, gk_sL, gk_sR, gl_sI, gl_sL, gl_sR, gn_sI, gn_sL, gn_sR, gs_sI, gs_sL, gs_sR, gR_sI, gR_sL, gI_sL, gI_sR, gL_sI, gL_sR, bi_ite, bi_01, true_and, and_true]
  refine gx178 h8 hl hc hk hm (w := w) (hh := hh) (dr := dr) (fun i hi => ?_) (hq _ (xf81 h8) hc ⟨fun c k q => ?_, fun c => ⟨rfl, rfl⟩⟩)
  · simp only [gI_sI]
    have : i < 4 ∨ i = 4 ∨ i = 5 ∨ i = 6 ∨ i = 7 ∨ i = 8 := by omega
    rcases this with hi4 | rfl | rfl | rfl | rfl | rfl
    · rw [if_neg (by omega), if_neg (by omega), if_neg (by omega), if_neg (by omega), if_neg (by omega)]; exact hF i hi4
    · simp [waF]
    · simp [waF, e0]
    · simp [waF]
    · simp [waF]
    · simp [waF]
  · rw [gI_sI, if_neg (by omega), gI_sI, if_neg (by omega), gI_sI, if_neg (by omega), gI_sI, if_neg (by omega), gI_sI, if_neg (by omega), gI_sI, if_neg (by omega)]
end
/-! worlds: runs, in x -/
set_option maxRecDepth 100000
/-- after one kitchen's month: its two places are written, beside them only facts -/
def wkX (M : gM) (k m : Nat) (w h : Int32) (M' : gM) : Prop := (∀ c q, c ≠ 81 → ¬ (c = 32 + k ∧ q = m) → ¬ (c = 57 + k ∧ q = m) → gI M' c q = gI M c q) ∧ gI M' (32 + k) m = w ∧ gI M' (57 + k) m = h ∧ ∀ c, gk M' c = gk M c ∧ gl M' c = gl M c
/-- new cells stay -/
def frD (M M' : gM) : Prop := (∀ c q, 312 ≤ c → gI M' c q = gI M c q) ∧ ∀ c, gk M' c = gk M c ∧ gl M' c = gl M c
section
variable {N M : gM} {n0 a9 : Nat} {D : gD}
theorem gx79 (h : RX N n0 a9 D M) (ok : okD (dd D)) {l c k m : Nat} (hl : l < 4) (hc : gR M 26 l = some c) (hk : k < 24) (hm : m < 12) {w hh dr v : Int32} (hv : v = waF (dd D) k m w hh dr 1) (hF : gI M 81 0 = waF (dd D) k m w hh dr 0) {Q : gM → Prop} (hq : ∀ M', RX N n0 a9 D M' → gR M' 26 l = some c → fr81 M M' → Q (gsI (gsI M' (32 + k) m (goW (dd D) (dL D l) k m w hh dr)) (57 + k) m (goH (dd D) (dL D l) k m w hh dr))) : fX1_goes_b79 c (nI k) (nI m) dr (88 + 7 * k) (bi (decide (w = -2))) 81 1 v M Q := by
  obtain ⟨e0, hb⟩ := bk_ok ok hk
  have b0 : vp_in (nI (bk (dd D) k)) 2 := vp_in_nI hb (by decide)
  have b1 : (nI (bk (dd D) k)).toNatClampNeg = bk (dd D) k := nI_clamp (by omega)
  have v1 : vp_in 1 10 := vp_in_nI (n := 1) (by decide) (by decide)
  have v2 : vp_in 2 10 := vp_in_nI (n := 2) (by decide) (by decide)
  have v3 : vp_in 3 10 := vp_in_nI (n := 3) (by decide) (by decide)
  have k1 : (1 : Int32).toNatClampNeg = 1 := rfl
  have h1 : RX N n0 a9 D (gsI M 81 1 v) := xf81 h
  have h2 : RX N n0 a9 D (gsI (gsI M 81 1 v) 81 2 (dd D 1 k 0)) := xf81 h1
  have h3 : RX N n0 a9 D (gsI (gsI (gsI M 81 1 v) 81 2 (dd D 1 k 0)) 81 3 (dd D 11 (bk (dd D) k) m)) := xf81 h2
  have t1 := ki1 h1 hk
  have t0 := ki0 h2 hk
  have tt := xfl h2 hb hm
  unfold fX1_goes_b79
  simp only [t0, t1, k1, e0, b0, b1, tt, kr h hk, kk h hk, kr5 h hk, kr6 h hk, kr7 h hk, kr8 h hk, kr9 h hk, kr10 h hk, kk5 h hk, kk6 h hk, kk7 h hk, kk8 h hk, kk9 h hk, kk10 h hk, kl5 h hk, kl6 h hk, kl7 h hk, kl8 h hk, kl9 h hk, kl10 h hk, ki0 h hk, ki1 h hk, ki2 h hk, ki3 h hk, ki4 h hk, xk16 h, frx1 h.1, fk18 h.1, fl18 h.1, frx18 h.1, fk81 h.1, fl81 h.1, frF h.1 hb, fkF h.1 hb, flF h.1 hb, vp_in_nI hm (N := 12) (by decide), nI_clamp (Nat.lt_trans hm (by decide : 12 < 2 ^ 31)), v1, v2, v3, gdr_some, gk_sI, gk_sL, gk_sR, gl_sI, gl_sL, gl_sR, gn_sI, gn_sL, gn_sR, gs_sI, gs_sL, gs_sR, gR_sI, gR_sL, gI_sL, gI_sR, gL_sI, gL_sR, bi_ite, bi_01, true_and, and_true]
  refine gx109 h3 ok hl hc hk hm (w := w) (hh := hh) (dr := dr) (fun i hi => ?_) fun M' a1 a2 a3 => hq M' a1 a2 ⟨fun c k q => ?_, a3.2⟩
  · simp only [gI_sI]
    have : i = 0 ∨ i = 1 ∨ i = 2 ∨ i = 3 := by omega
    rcases this with rfl | rfl | rfl | rfl
    · simpa using hF
    · simpa using hv
    · simp [waF]
    · simp [waF]
  · rw [a3.1 c k q, gI_sI, if_neg (by omega), gI_sI, if_neg (by omega), gI_sI, if_neg (by omega)]
theorem pX1_goes (h : RX N n0 a9 D M) (ok : okD (dd D)) {l c k m : Nat} (hl : l < 4) (hc : gR M 26 l = some c) (hk : k < 24) (hm : m + 1 < 12) {w hh dr : Int32} (hw : gI M (32 + k) m = w) (hh9 : gI M (57 + k) m = hh) {Q : gM → Prop} (hq : ∀ M', RX N n0 a9 D M' → gR M' 26 l = some c → wkX M k (m + 1) (goW (dd D) (dL D l) k (m + 1) w hh dr) (goH (dd D) (dL D l) k (m + 1) w hh dr) M' → Q M') : fX1_goes c (nI k) (nI (m + 1)) dr M Q := by
  obtain ⟨r1, r2, r3, r4, r5, r6⟩ := xw_r h hk
  have hm0 : m < 12 := by omega
  have v0 : vp_in 0 10 := vp_in_nI (n := 0) (by decide) (by decide)
  have k0 : (0 : Int32).toNatClampNeg = 0 := rfl
  have fin : ∀ M', RX N n0 a9 D M' → gR M' 26 l = some c → fr81 M M' → Q (gsI (gsI M' (32 + k) (m + 1) (goW (dd D) (dL D l) k (m + 1) w hh dr)) (57 + k) (m + 1) (goH (dd D) (dL D l) k (m + 1) w hh dr)) := by
    intro M' a1 a2 a3
    refine hq _ ((a1.sI (by unfold xScr; omega) (by omega)).sI (by unfold xScr; omega) (by omega)) a2 ⟨fun c q c1 c2 c3 => ?_, ?_, ?_, a3.2⟩
    · rw [gI_sI, if_neg c3, gI_sI, if_neg c2]; exact a3.1 c q c1
    · rw [gI_sI, if_neg (by omega), gI_sI, if_pos ⟨rfl, rfl⟩]
    · rw [gI_sI, if_pos ⟨rfl, rfl⟩]
  have b54 : ∀ v, v = waF (dd D) k (m + 1) w hh dr 0 → fX1_goes_b54 c (nI k) (nI (m + 1)) dr (88 + 7 * k) (bi (decide (w = -2))) 81 0 v M Q := by
    intro v hv
    have h1 : RX N n0 a9 D (gsI M 81 0 v) := xf81 h
    have f0 : gI (gsI M 81 0 v) 81 0 = waF (dd D) k (m + 1) w hh dr 0 := by rw [gI_sI, if_pos ⟨rfl, rfl⟩]; exact hv
    have t7 : gI (gsI M 81 0 v) (57 + k) m = hh := by rw [gI_sI, if_neg (by omega)]; exact hh9
    have go : ∀ v', v' = waF (dd D) k (m + 1) w hh dr 1 → fX1_goes_b79 c (nI k) (nI (m + 1)) dr (88 + 7 * k) (bi (decide (w = -2))) 81 1 v' (gsI M 81 0 v) Q := fun v' hv' => gx79 h1 ok hl hc hk hm hv' f0 fun M' a1 a2 a3 => fin M' a1 a2 ⟨fun c k q => by rw [a3.1 c k q, gI_sI, if_neg (by omega)], a3.2⟩
    unfold fX1_goes_b54
    simp only [v0, k0, nI_pred, xk16 h, frx17 h.1, fk56 h.1, fl56 h.1, frx18 h.1, fk81 h.1, fl81 h.1, vp_in_nI hk (N := 24) (by decide), nI_clamp (Nat.lt_trans hk (by decide : 24 < 2 ^ 31)), vp_in_nI hm0 (N := 12) (by decide), nI_clamp (Nat.lt_trans hm0 (by decide : 12 < 2 ^ 31)), r4, r5, r6, t7, gdr_some, gk_sI, gk_sL, gk_sR, gl_sI, gl_sL, gl_sR, gn_sI, gn_sL, gn_sR, gs_sI, gs_sL, gs_sR, gR_sI, gR_sL, gI_sL, gI_sR, gL_sI, gL_sR, bi_ite, bi_01, true_and, and_true]
    by_cases ew : w = -2
    · rw [if_pos (by simp [ew])]
      exact go _ (by simp [waF, ew])
    · rw [if_neg (by simp [ew])]
      exact go _ (by simp [waF, ew])
  have b28 : fX1_goes_b28 c (nI k) (nI (m + 1)) dr (88 + 7 * k) (bi (decide (w = -2))) M Q := by
    unfold fX1_goes_b28
    simp only [nI_pred, xk16 h, frx16 h.1, fk31 h.1, fl31 h.1, frx18 h.1, fk81 h.1, fl81 h.1, vp_in_nI hk (N := 24) (by decide), nI_clamp (Nat.lt_trans hk (by decide : 24 < 2 ^ 31)), vp_in_nI hm0 (N := 12) (by decide), nI_clamp (Nat.lt_trans hm0 (by decide : 12 < 2 ^ 31)), r1, r2, r3, hw, gdr_some, gk_sI, gk_sL, gk_sR, gl_sI, gl_sL, gl_sR, gn_sI, gn_sL, gn_sR, gs_sI, gs_sL, gs_sR, gR_sI, gR_sL, gI_sL, gI_sR, gL_sI, gL_sR, bi_ite, bi_01, true_and, and_true]
    by_cases ew : w = -2
    · rw [if_pos (by simp [ew])]
      exact b54 _ (by simp [waF, ew])
    · rw [if_neg (by simp [ew])]
      exact b54 _ (by simp [waF, ew])
  unfold fX1_goes
  simp only [nI_pred, xk16 h, xk17 h, xl17 h, xr0 h, xr10 h, xr11 h, xk28 h, xk29 h, xten h, xby h, kr h hk, kk h hk, kr5 h hk, kr6 h hk, kr7 h hk, kr8 h hk, kr9 h hk, kr10 h hk, kk5 h hk, kk6 h hk, kk7 h hk, kk8 h hk, kk9 h hk, kk10 h hk, kl5 h hk, kl6 h hk, kl7 h hk, kl8 h hk, kl9 h hk, kl10 h hk, ki0 h hk, ki1 h hk, ki2 h hk, ki3 h hk, ki4 h hk, xk16 h, frx16 h.1, fk31 h.1, fl31 h.1, vp_in_nI hk (N := 24) (by decide), nI_clamp (Nat.lt_trans hk (by decide : 24 < 2 ^ 31)), vp_in_nI hm0 (N := 12) (by decide), nI_clamp (Nat.lt_trans hm0 (by decide : 12 < 2 ^ 31)), r1, r2, r3, hw, gdr_some, gk_sI, gk_sL, gk_sR, gl_sI, gl_sL, gl_sR, gn_sI, gn_sL, gn_sR, gs_sI, gs_sL, gs_sR, gR_sI, gR_sL, gI_sL, gI_sR, gL_sI, gL_sR, bi_ite, bi_01, true_and, and_true]
  by_cases ew : w = -2
  · rw [if_pos ew]; simpa [ew, bi] using b28
  · rw [if_neg ew]; simpa [ew, bi] using b28
end
/-! the run -/
def lcg (g : Nat) : Nat := (g * 1103515245 + 12345) % 2147483648
def drw (g : Nat) : Int32 := nI (g / 65536 % 10)
/-- the world after t kitchens' months (24 in each month from the second on): the seed, hands -/
def wrl (d : Nat → Nat → Nat → Int32) (W : Nat → Option (List (Int32 × Int32))) (seed : Nat) : Nat → Nat × (Nat → Nat → Int32 × Int32)
  | 0 => (seed, fun k _ => (if d 5 k 0 = -1 then 0 else d 5 k 0, if d 5 k 0 = -1 then 0 else d 6 k 0))
  | t + 1 => if d 3 (t % 24) 0 = 0 then wrl d W seed t else
      (lcg (wrl d W seed t).1, fun k m => if k = t % 24 ∧ m = t / 24 + 1 then (goW d W k m ((wrl d W seed t).2 k (m - 1)).1 ((wrl d W seed t).2 k (m - 1)).2 (drw (lcg (wrl d W seed t).1)), goH d W k m ((wrl d W seed t).2 k (m - 1)).1 ((wrl d W seed t).2 k (m - 1)).2 (drw (lcg (wrl d W seed t).1))) else (wrl d W seed t).2 k m)
theorem wrl_s {d : Nat → Nat → Nat → Int32} {W : Nat → Option (List (Int32 × Int32))} {seed t : Nat} : wrl d W seed (t + 1) = if d 3 (t % 24) 0 = 0 then wrl d W seed t else
      (lcg (wrl d W seed t).1, fun k m => if k = t % 24 ∧ m = t / 24 + 1 then (goW d W k m ((wrl d W seed t).2 k (m - 1)).1 ((wrl d W seed t).2 k (m - 1)).2 (drw (lcg (wrl d W seed t).1)), goH d W k m ((wrl d W seed t).2 k (m - 1)).1 ((wrl d W seed t).2 k (m - 1)).2 (drw (lcg (wrl d W seed t).1))) else (wrl d W seed t).2 k m) := rfl
theorem lcg_lt (g : Nat) : lcg g < 2147483648 := Nat.mod_lt _ (by decide)
theorem wrl_lt {d : Nat → Nat → Nat → Int32} {W : Nat → Option (List (Int32 × Int32))} {seed : Nat} (hs : seed < 2147483648) : ∀ t, (wrl d W seed t).1 < 2147483648 := by
  intro t
  induction t with
  | zero => exact hs
  | succ t ih =>
    rw [wrl_s]
    split
    · exact ih
    · exact lcg_lt _
theorem lcg_J {g : Nat} (hg : g < 2147483648) : (nJ g * 1103515245 + 12345) - (nJ g * 1103515245 + 12345) / 2147483648 * 2147483648 = nJ (lcg g) := by
  have e1 : nJ g * 1103515245 = nJ (g * 1103515245) := nJ_mul (a := g) (b := 1103515245)
  have e2 : nJ (g * 1103515245) + 12345 = nJ (g * 1103515245 + 12345) := by unfold nJ; rw [Int64.ofNat_add]; rfl
  rw [e1, e2]
  exact nJ_mod (A := g * 1103515245 + 12345) (B := 2147483648) (by omega) (by decide) (by decide)
theorem lcg_I {g : Nat} (hg : g < 2147483648) : (((nI g).toInt64 * 1103515245 + 12345) - ((nI g).toInt64 * 1103515245 + 12345) / 2147483648 * 2147483648).toInt32 = nI (lcg g) := by
  rw [nI_J hg, lcg_J hg]
  exact lN_i _
theorem drw_I {g : Nat} (hg : g < 2147483648) : nI g / 65536 - nI g / 65536 / 10 * 10 = drw g := by
  have e1 : nI g / 65536 = nI (g / 65536) := pk_div (a := g) (d := 65536) hg (by decide) (by decide)
  rw [e1]
  have : g / 65536 < 2147483648 := Nat.lt_of_le_of_lt (Nat.div_le_self _ _) hg
  exact pk_rem (a := g / 65536) (d := 10) this (by decide) (by decide)
section
variable {N M : gM} {n0 a9 : Nat} {D : gD}
/-- x's rows hold the world after t -/
def wsX (D : gD) (W : Nat → Option (List (Int32 × Int32))) (seed t : Nat) (M : gM) : Prop := ∀ k m : Nat, k < 24 → (m = 0 ∨ (dd D 3 k 0 ≠ 0 ∧ 24 * (m - 1) + k < t)) → m < 12 → gI M (32 + k) m = ((wrl (dd D) W seed t).2 k m).1 ∧ gI M (57 + k) m = ((wrl (dd D) W seed t).2 k m).2
theorem rux_s (h : RX N n0 a9 D M) (ok : okD (dd D)) {l c k m seed : Nat} (hl : l < 4) (hc : gR M 26 l = some c) (hk : k < 24) (hm : m + 1 < 12) (hs : seed < 2147483648) (ws : wsX D (dL D l) seed (24 * m + k) M) {R : Int32 → Int32 → gM → Prop} {K : Int32 → gM → Prop} {Q : gM → Prop} {M0 : gM} (f0 : frD M0 M) (hn : ∀ M', RX N n0 a9 D M' ∧ gR M' 26 l = some c ∧ wsX D (dL D l) seed (24 * m + (k + 1)) M' ∧ frD M0 M' → R (nI (wrl (dd D) (dL D l) seed (24 * m + (k + 1))).1) (nI (k + 1)) M') : fX1_runs_L111s R K c (nI (m + 1)) (nI (wrl (dd D) (dL D l) seed (24 * m + k)).1) (nI k) M Q := by
  have hg := wrl_lt (d := dd D) (W := dL D l) hs (24 * m + k)
  have e1 : (24 * m + k) % 24 = k := by omega
  have e2 : (24 * m + k) / 24 = m := by omega
  have er := wrl_s (d := dd D) (W := dL D l) (seed := seed) (t := 24 * m + k)
  rw [e1, e2] at er
  rw [show 24 * m + (k + 1) = 24 * m + k + 1 by omega, er] at hn
  unfold fX1_runs_L111s fX1_runs_b167
  rw [if_neg (nge24 hk)]
  simp only [xk16 h, xk17 h, xl17 h, xr0 h, xr10 h, xr11 h, xk28 h, xk29 h, xten h, xby h, kr h hk, kk h hk, kr5 h hk, kr6 h hk, kr7 h hk, kr8 h hk, kr9 h hk, kr10 h hk, kk5 h hk, kk6 h hk, kk7 h hk, kk8 h hk, kk9 h hk, kk10 h hk, kl5 h hk, kl6 h hk, kl7 h hk, kl8 h hk, kl9 h hk, kl10 h hk, ki0 h hk, ki1 h hk, ki2 h hk, ki3 h hk, ki4 h hk, vp_in_nI hk (N := 24) (by decide), nI_clamp (Nat.lt_trans hk (by decide : 24 < 2 ^ 31)), gdr_some, gk_sI, gk_sL, gk_sR, gl_sI, gl_sL, gl_sR, gn_sI, gn_sL, gn_sR, gs_sI, gs_sL, gs_sR, gR_sI, gR_sL, gI_sL, gI_sR, gL_sI, gL_sR, bi_ite, bi_01, true_and, and_true, lcg_I hg, drw_I (lcg_lt _), ← nI_succ]
  by_cases e3 : dd D 3 k 0 = 0
  · rw [if_pos e3]
    rw [if_pos e3] at hn
    refine hn M ⟨h, hc, fun k' m' hk' hm' h12 => ?_, f0⟩
    rw [er, if_pos e3]
    refine ws k' m' hk' ?_ h12
    rcases hm' with q | ⟨q1, q2⟩
    · exact Or.inl q
    · refine Or.inr ⟨q1, ?_⟩
      have : ¬ (24 * (m' - 1) + k' = 24 * m + k) := fun q => by
        have : k' = k := by omega
        rw [this] at q1
        exact q1 e3
      omega
  · rw [if_neg e3]
    rw [if_neg e3] at hn
    have w0 := ws k m hk (by
      by_cases z : m = 0
      · exact Or.inl z
      · exact Or.inr ⟨e3, by omega⟩) (by omega)
    refine pX1_goes h ok hl hc hk hm (dr := drw (lcg (wrl (dd D) (dL D l) seed (24 * m + k)).1)) w0.1 w0.2 fun M' a1 a2 a3 => ?_
    obtain ⟨b1, b2, b3, b4⟩ := a3
    refine hn M' ⟨a1, a2, fun k' m' hk' hm' h12 => ?_, ⟨fun c q hc9 => by rw [b1 c q (by omega) (by omega) (by omega)]; exact f0.1 c q hc9, fun c => ⟨(b4 c).1.trans (f0.2 c).1, (b4 c).2.trans (f0.2 c).2⟩⟩⟩
    rw [er, if_neg e3]
    show gI M' (32 + k') m' = (if k' = k ∧ m' = m + 1 then _ else _ : Int32 × Int32).1 ∧ gI M' (57 + k') m' = (if k' = k ∧ m' = m + 1 then _ else _ : Int32 × Int32).2
    by_cases e : k' = k ∧ m' = m + 1
    · rw [if_pos e, e.1, e.2]
      exact ⟨b2, b3⟩
    · rw [if_neg e, b1 _ _ (by omega) (by omega) (by omega), b1 _ _ (by omega) (by omega) (by omega)]
      refine ws k' m' hk' ?_ h12
      rcases hm' with q | ⟨q1, q2⟩
      · exact Or.inl q
      · by_cases z : m' = 0
        · exact Or.inl z
        · exact Or.inr ⟨q1, by omega⟩
theorem pX1_runs (h : RX N n0 a9 D M) (ok : okD (dd D)) {l c seed : Nat} (hl : l < 4) (hc : gR M 26 l = some c) (hs : seed < 2147483648) {Q : gM → Prop} (hq : ∀ M', RX N n0 a9 D M' → gR M' 26 l = some c → wsX D (dL D l) seed 264 M' → frD M M' → Q M') : fX1_runs c (nI seed) M Q := by
  unfold fX1_runs
  have hM0 : ∃ M0, M0 = M := ⟨M, rfl⟩
  obtain ⟨M0, eM0⟩ := hM0
  rw [← eM0] at hq
  refine ⟨25, ?_⟩
  have v0 : vp_in 0 12 := vp_in_nI (n := 0) (by decide) (by decide)
  have k0 : (0 : Int32).toNatClampNeg = 0 := rfl
  refine loop24 (I := fun k M => RX N n0 a9 D M ∧ gR M 26 l = some c ∧ (∀ k', k' < k → gI M (32 + k') 0 = ((wrl (dd D) (dL D l) seed 0).2 k' 0).1 ∧ gI M (57 + k') 0 = ((wrl (dd D) (dL D l) seed 0).2 k' 0).2) ∧ frD M0 M) (fun n M hI => ?_) (fun n k M hk hI hn => ?_) 24 0 M rfl ⟨h, hc, fun k' q => absurd q (by omega), by rw [eM0]; exact ⟨fun _ _ _ => rfl, fun _ => ⟨rfl, rfl⟩⟩⟩
  · obtain ⟨h1, c1, i1, fm⟩ := hI
    unfold fX1_runs_L5 fX1_runs_L5s
    rw [if_pos ge24]
    refine ⟨12, ?_⟩
    refine loopN (T := 11) (G := fun n m M => fX1_runs_L101 (fun M100 => Q M100) c Q n (nI (wrl (dd D) (dL D l) seed (24 * m)).1) (nI (m + 1)) M) (I := fun m M => RX N n0 a9 D M ∧ gR M 26 l = some c ∧ wsX D (dL D l) seed (24 * m) M ∧ frD M0 M) (fun n M hI => ?_) (fun n m M hm hI hn => ?_) 11 0 M rfl ⟨h1, c1, fun k m hk hm h12 => ?_, fm⟩
    · show fX1_runs_L101 _ _ _ _ _ _ _
      unfold fX1_runs_L101 fX1_runs_L101s
      rw [if_pos (by decide)]
      exact hq M hI.1 hI.2.1 hI.2.2.1 hI.2.2.2
    · have hm12 : m + 1 < 12 := by omega
      show fX1_runs_L101 _ _ _ _ _ _ _
      unfold fX1_runs_L101 fX1_runs_L101s
      rw [if_neg (nge12 hm12)]
      refine ⟨25, ?_⟩
      refine loopN (T := 24) (G := fun n2 k M => fX1_runs_L111 (fun l3_98 M99 => fX1_runs_L101 (fun M100 => Q M100) c Q n l3_98 (nI (m + 1) + 1) M99) c (nI (m + 1)) Q n2 (nI (wrl (dd D) (dL D l) seed (24 * m + k)).1) (nI k) M) (I := fun k M => RX N n0 a9 D M ∧ gR M 26 l = some c ∧ wsX D (dL D l) seed (24 * m + k) M ∧ frD M0 M) (fun n2 M hI => ?_) (fun n2 k M hk hI hn2 => ?_) 24 0 M rfl hI
      · unfold fX1_runs_L111 fX1_runs_L111s
        rw [if_pos ge24]
        show fX1_runs_L101 _ _ _ _ _ (nI (m + 1) + 1) _
        rw [← nI_succ]
        exact hn M hI
      · show fX1_runs_L111 _ _ _ _ _ _ _ _
        unfold fX1_runs_L111
        exact rux_s hI.1 ok hl hI.2.1 hk hm12 hs hI.2.2.1 hI.2.2.2 hn2
    · rcases hm with rfl | q
      · exact i1 k hk
      · omega
  · obtain ⟨h1, c1, i1, fm⟩ := hI
    obtain ⟨r1, r2, r3, r4, r5, r6⟩ := xw_r h1 hk
    have z12 : 0 < 12 := by decide
    have u5 : gI M (89 + 7 * k) 0 = dd D 5 k 0 := ki5 h1 hk z12
    have u6 : ∀ x, gI (gsI M (32 + k) 0 x) (90 + 7 * k) 0 = dd D 6 k 0 := fun x => by rw [gI_sI, if_neg (by omega)]; exact ki6 h1 hk z12
    have b52 : ∀ x, x = (if dd D 5 k 0 = -1 then 0 else dd D 5 k 0) → fX1_runs_b52 (fX1_runs_L5 (fun M76 => ∃ n, fX1_runs_L101 (fun M100 => Q M100) c Q n (nI seed) 1 M76) c (nI seed) Q n) c (nI seed) (nI k) (32 + k) 0 x M Q := by
      intro x hx
      have h2 : RX N n0 a9 D (gsI M (32 + k) 0 x) := h1.sI (by unfold xScr; omega) (by omega)
      have b91 : ∀ y, y = (if dd D 5 k 0 = -1 then 0 else dd D 6 k 0) → fX1_runs_b91 (fX1_runs_L5 (fun M76 => ∃ n, fX1_runs_L101 (fun M100 => Q M100) c Q n (nI seed) 1 M76) c (nI seed) Q n) c (nI seed) (nI k) (57 + k) 0 y (gsI M (32 + k) 0 x) Q := by
        intro y hy
        unfold fX1_runs_b91
        simp only [r5, r6, v0, k0, ← nI_succ, gdr_some, gk_sI, gk_sL, gk_sR, gl_sI, gl_sL, gl_sR, gn_sI, gn_sL, gn_sR, gs_sI, gs_sL, gs_sR, gR_sI, gR_sL, gI_sL, gI_sR, gL_sI, gL_sR, bi_ite, bi_01, true_and, and_true]
        refine hn _ ⟨h2.sI (by unfold xScr; omega) (by omega), c1, fun k' hk' => ?_, ⟨fun c q hc9 => by rw [gI_sI, if_neg (by omega), gI_sI, if_neg (by omega)]; exact fm.1 c q hc9, fm.2⟩⟩
        by_cases e : k' = k
        · rw [e]
          refine ⟨?_, ?_⟩
          · rw [gI_sI, if_neg (by omega), gI_sI, if_pos ⟨rfl, rfl⟩]; exact hx
          · rw [gI_sI, if_pos ⟨rfl, rfl⟩]; exact hy
        · rw [gI_sI, if_neg (by omega), gI_sI, if_neg (by omega), gI_sI, if_neg (by omega), gI_sI, if_neg (by omega)]
          exact i1 k' (by omega)
      have sil := fun {Q : Int32 → gM → Prop} => pX4_isSilent (b := 0) (Q := Q) h2 hk z12
      have sil : ∀ {Q : Int32 → gM → Prop}, fX4_isSilent (88 + 7 * k) 0 (gsI M (32 + k) 0 x) Q = Q (bi (decide (dd D 5 k 0 = -1))) (gsI M (32 + k) 0 x) := sil
      unfold fX1_runs_b52
      simp only [r2, r3, r4, v0, k0, sil, u6, xk16 h1, xk17 h1, xl17 h1, xr0 h1, xr10 h1, xr11 h1, xk28 h1, xk29 h1, xten h1, xby h1, kr h1 hk, kk h1 hk, kr5 h1 hk, kr6 h1 hk, kr7 h1 hk, kr8 h1 hk, kr9 h1 hk, kr10 h1 hk, kk5 h1 hk, kk6 h1 hk, kk7 h1 hk, kk8 h1 hk, kk9 h1 hk, kk10 h1 hk, kl5 h1 hk, kl6 h1 hk, kl7 h1 hk, kl8 h1 hk, kl9 h1 hk, kl10 h1 hk, ki0 h1 hk, ki1 h1 hk, ki2 h1 hk, ki3 h1 hk, ki4 h1 hk, xk16 h1, frx17 h1.1, fk56 h1.1, fl56 h1.1, vp_in_nI hk (N := 24) (by decide), nI_clamp (Nat.lt_trans hk (by decide : 24 < 2 ^ 31)), gdr_some, gk_sI, gk_sL, gk_sR, gl_sI, gl_sL, gl_sR, gn_sI, gn_sL, gn_sR, gs_sI, gs_sL, gs_sR, gR_sI, gR_sL, gI_sL, gI_sR, gL_sI, gL_sR, bi_ite, bi_01, true_and, and_true]
      by_cases e : dd D 5 k 0 = -1
      · rw [if_pos (by simp [e])]
        exact b91 _ (by rw [if_pos e])
      · rw [if_neg (by simp [e])]
        exact b91 _ (by rw [if_neg e])
    unfold fX1_runs_L5 fX1_runs_L5s
    rw [if_neg (nge24 hk)]
    simp only [r1, u5, v0, xk16 h1, xk17 h1, xl17 h1, xr0 h1, xr10 h1, xr11 h1, xk28 h1, xk29 h1, xten h1, xby h1, kr h1 hk, kk h1 hk, kr5 h1 hk, kr6 h1 hk, kr7 h1 hk, kr8 h1 hk, kr9 h1 hk, kr10 h1 hk, kk5 h1 hk, kk6 h1 hk, kk7 h1 hk, kk8 h1 hk, kk9 h1 hk, kk10 h1 hk, kl5 h1 hk, kl6 h1 hk, kl7 h1 hk, kl8 h1 hk, kl9 h1 hk, kl10 h1 hk, ki0 h1 hk, ki1 h1 hk, ki2 h1 hk, ki3 h1 hk, ki4 h1 hk, xk16 h1, frx16 h1.1, fk31 h1.1, fl31 h1.1, vp_in_nI hk (N := 24) (by decide), nI_clamp (Nat.lt_trans hk (by decide : 24 < 2 ^ 31)), gdr_some, gk_sI, gk_sL, gk_sR, gl_sI, gl_sL, gl_sR, gn_sI, gn_sL, gn_sR, gs_sI, gs_sL, gs_sR, gR_sI, gR_sL, gI_sL, gI_sR, gL_sI, gL_sR, bi_ite, bi_01, true_and, and_true]
    by_cases e : dd D 5 k 0 = -1
    · rw [if_pos e]; exact b52 _ (by rw [if_pos e])
    · rw [if_neg e]; exact b52 _ (by rw [if_neg e])
theorem pX1_worldHands (h : RX N n0 a9 D M) {W : Nat → Option (List (Int32 × Int32))} {seed k m : Nat} (hk : k < 24) (hm : m < 12) (ht : dd D 3 k 0 ≠ 0) (ws : wsX D W seed 264 M) {Q : Int32 → gM → Prop} : fX1_worldHands (nI k) (nI m) M Q = Q (hOf (dd D 13 0 1) ((wrl (dd D) W seed 264).2 k m).1 ((wrl (dd D) W seed 264).2 k m).2) M := by
  obtain ⟨r1, r2, r3, r4, r5, r6⟩ := xw_r h hk
  obtain ⟨w1, w2⟩ := ws k m hk (by
    by_cases z : m = 0
    · exact Or.inl z
    · exact Or.inr ⟨ht, by omega⟩) hm
  unfold fX1_worldHands
  simp only [r1, r2, r3, r4, r5, r6, w1, w2, xk16 h, frx16 h.1, fk31 h.1, fl31 h.1, frx17 h.1, fk56 h.1, fl56 h.1, vp_in_nI hk (N := 24) (by decide), nI_clamp (Nat.lt_trans hk (by decide : 24 < 2 ^ 31)), vp_in_nI hm (N := 12) (by decide), nI_clamp (Nat.lt_trans hm (by decide : 12 < 2 ^ 31)), gdr_some, gk_sI, gk_sL, gk_sR, gl_sI, gl_sL, gl_sR, gn_sI, gn_sL, gn_sR, gs_sI, gs_sL, gs_sR, gR_sI, gR_sL, gI_sL, gI_sR, gL_sI, gL_sR, bi_ite, bi_01, true_and, and_true, pX1_handsOf_2 h]
end
/-! worlds: one kitchen, one month, in m -/
set_option maxRecDepth 100000
/-- laws' and writers' codes are those of expressions -/
def wfD (D : gD) : Prop := (∀ l w L, l < 4 → w < 4 → dL D l w = some L → ∃ n, wfE 10 n L) ∧ ∀ i L, i < 4 → (dW D i).1 = some L → ∃ n, wfE 9 n L
theorem RX.wf {N M : gM} {n0 a : Nat} {D : gD} (h : RX N n0 a D M) : wfD D := by
  refine ⟨fun l w L hl hw e => ?_, fun i L hi e => ?_⟩
  · obtain ⟨c, d, -, -, -, -, -, -, -, q⟩ := h.2.2.2.2.2.1 l hl
    rcases q w hw with ⟨-, q⟩ | ⟨c', L', n, -, q2, -, q4⟩
    · rw [q] at e; cases e
    · rw [q2] at e; cases e
      exact ⟨n, wfE_x _ _ _ q4⟩
  · obtain ⟨c, -, -, -, q, -⟩ := h.2.2.2.2.2.2.1 i hi
    rcases q with ⟨-, q⟩ | ⟨c', L', n, -, q2, -, q4⟩
    · rw [q] at e; cases e
    · rw [q2] at e; cases e
      exact ⟨n, wfE_x _ _ _ q4⟩
theorem nI_4 {k m : Nat} : 4 * nI k + nI m = nI (4 * k + m) := by
  unfold nI
  rw [Int32.ofNat_add, Int32.ofNat_mul]
  rfl
theorem nI_1100 {k m : Nat} : 1100 * nI k + nI m = nI (1100 * k + m) := by
  unfold nI
  rw [Int32.ofNat_add, Int32.ofNat_mul]
  rfl
theorem mx0 {f w : Int32} (hf : 0 ≤ f ∧ f ≤ 999) (hw : 0 ≤ w ∧ w ≤ 999) : (if f ≤ w then 0 else f - w) = imax 0 (f - w) := by
  simp only [Int32.le_iff_toInt_le] at hf hw
  have e1 : (0 : Int32).toInt = 0 := rfl
  have e2 : (999 : Int32).toInt = 999 := rfl
  have e : (f - w).toInt = f.toInt - w.toInt := by rw [Int32.toInt_sub, Int.bmod_eq_of_le (by omega) (by omega)]
  unfold imax
  by_cases c : f ≤ w
  · rw [if_pos c]
    rw [Int32.le_iff_toInt_le] at c
    rw [if_neg (by rw [Int32.lt_iff_toInt_lt, e]; omega)]
  · rw [if_neg c]
    rw [Int32.le_iff_toInt_le] at c
    rw [if_pos (by rw [Int32.lt_iff_toInt_lt, e]; omega)]
section
variable {N M : gM} {D : gD}
theorem mlin (h : RM N D M) {l w : Nat} (hl : l < 4) (hw : w < 4) : mLin M (1100 * l) (gI M 288 (4 * l + w)) (dL D l w) := h.2.2.2.2.2.1 l w hl hw
theorem wo_m (h : RM N D M) (wf : wfD D) {F : Nat → Int32} (hF : ∀ i, i < 10 → gI M 292 i = F i) {l w p : Nat} (hl : l < 4) (hw : w < 4) {L : List (Int32 × Int32)} (e1 : gI M 288 (4 * l + w) = nI p) (e2 : dL D l w = some L) (e3 : p + L.length < 1100) (e4 : mCod M (1100 * l + p) L) {Q : Int32 → gM → Prop} (hq : ∀ M', RM N D M' → fr293 M M' → Q (vE F L) M') : fX7_worthOf (nI l) (nI w) M Q := by
  obtain ⟨n, hn⟩ := wf.1 l w L hl hw e2
  have v : 4 * l + w < 20 := by omega
  unfold fX7_worthOf
  simp only [nI_4, nI_1100, e1, mk268 h, frm31 h.1, fk288 h.1, fl288 h.1, vp_in_nI v (N := 20) (by decide), nI_clamp (Nat.lt_trans v (by decide : 20 < 2 ^ 31)), gdr_some, gk_sI, gk_sL, gk_sR, gl_sI, gl_sL, gl_sR, gn_sI, gn_sL, gn_sR, gs_sI, gs_sL, gs_sR, gR_sI, gR_sL, gI_sL, gI_sR, gL_sI, gL_sR, bi_ite, bi_01, true_and, and_true]
  refine pX7_worthAt h (Nat.le_refl _) hn e4.1 e4.2 (by omega) (by omega) fun M' h' f' => ?_
  rw [ev_congr hF n L hn]
  exact hq M' h' f'
theorem so_m (h : RM N D M) (wf : wfD D) {F : Nat → Int32} (hF : ∀ i, i < 10 → gI M 292 i = F i) {l w : Nat} (hl : l < 4) (hw : w < 4) {Q : Int32 → gM → Prop} (hq : ∀ M', RM N D M' → fr293 M M' → Q (bi (soF F (dL D l w))) M') : fX7_isSo (nI l) (nI w) M Q := by
  have v : 4 * l + w < 20 := by omega
  unfold fX7_isSo fX7_isSo_b26
  simp only [nI_4, mk268 h, frm31 h.1, fk288 h.1, fl288 h.1, vp_in_nI v (N := 20) (by decide), nI_clamp (Nat.lt_trans v (by decide : 20 < 2 ^ 31)), gdr_some, gk_sI, gk_sL, gk_sR, gl_sI, gl_sL, gl_sR, gn_sI, gn_sL, gn_sR, gs_sI, gs_sL, gs_sR, gR_sI, gR_sL, gI_sL, gI_sR, gL_sI, gL_sR, bi_ite, bi_01, true_and, and_true]
  rcases mlin h hl hw with ⟨e1, e2⟩ | ⟨p, L, e1, e2, e3, e4⟩
  · rw [e1, if_pos (by decide)]
    rw [e2] at hq
    exact hq M h fun _ _ _ => rfl
  · rw [e1, if_neg (nI_neg (by omega))]
    refine wo_m h wf hF hl hw e1 e2 e3 e4 fun M' h' f' => ?_
    have hq := hq M' h' f'
    rw [e2] at hq
    unfold soF at hq
    by_cases z : vE F L = 0
    · rw [if_pos z]; simpa [z, bi] using hq
    · rw [if_neg z]; simpa [z, bi] using hq
theorem hi_m (h : RM N D M) (wf : wfD D) {F : Nat → Int32} (hF : ∀ i, i < 10 → gI M 292 i = F i) {l w : Nat} (hl : l < 4) (hw : w < 4) {v : Int32} {Q : Int32 → gM → Prop} (hq : ∀ M', RM N D M' → fr293 M M' → Q (hiF F (dL D l w) v) M') : fX7_handsByLine (nI l) (nI w) v M Q := by
  have v9 : 4 * l + w < 20 := by omega
  unfold fX7_handsByLine
  simp only [nI_4, mk268 h, frm31 h.1, fk288 h.1, fl288 h.1, vp_in_nI v9 (N := 20) (by decide), nI_clamp (Nat.lt_trans v9 (by decide : 20 < 2 ^ 31)), gdr_some, gk_sI, gk_sL, gk_sR, gl_sI, gl_sL, gl_sR, gn_sI, gn_sL, gn_sR, gs_sI, gs_sL, gs_sR, gR_sI, gR_sL, gI_sL, gI_sR, gL_sI, gL_sR, bi_ite, bi_01, true_and, and_true]
  rcases mlin h hl hw with ⟨e1, e2⟩ | ⟨p, L, e1, e2, e3, e4⟩
  · rw [e1, if_neg (by decide)]
    rw [e2] at hq
    exact hq M h fun _ _ _ => rfl
  · rw [e1, if_pos (nI_pos' (by omega))]
    refine wo_m h wf hF hl hw e1 e2 e3 e4 fun M' h' f' => ?_
    have hq := hq M' h' f'
    rw [e2] at hq
    have hq : Q (imax 0 (imin 99 (vE F L))) M' := hq
    unfold imax imin at hq
    by_cases z : 0 ≤ vE F L
    · rw [if_pos z]
      by_cases z2 : vE F L ≤ 99
      · rw [if_pos z2]
        have e : (if vE F L < 99 then vE F L else 99) = vE F L := by
          by_cases z3 : vE F L < 99
          · rw [if_pos z3]
          · rw [if_neg z3]; exact Int32.le_antisymm (Int32.not_lt.mp z3) z2
        rw [e] at hq
        by_cases z4 : 0 < vE F L
        · rw [if_pos z4] at hq; exact hq
        · rw [if_neg z4] at hq
          rw [Int32.le_antisymm (Int32.not_lt.mp z4) z]
          exact hq
      · rw [if_neg z2]
        rw [if_neg fun q => z2 (Int32.le_of_lt q), if_pos (by decide)] at hq
        exact hq
    · rw [if_neg z]
      have z5 := Int32.not_le.mp z
      rw [if_pos (Int32.lt_of_lt_of_le z5 (by decide)), if_neg fun q => z (Int32.le_of_lt q)] at hq
      exact hq
/-- what one kitchen's month may change in m -/
def frG (M M1 : gM) : Prop := ∀ c k, c ≠ 292 → c ≠ 293 → c ≠ 294 → c ≠ 295 → c ≠ 296 → gI M1 c k = gI M c k
def wkM (M : gM) (c : Nat) (w h : Int32) (M' : gM) : Prop := (∀ x q, (x = 294 ∨ x = 295 ∨ x = 296) → q ≠ c → gI M' x q = gI M x q) ∧ gI M' 294 c = (if w = -2 then 0 else w) ∧ gI M' 295 c = h ∧ gI M' 296 c = bi (decide (w = -2))
theorem gm252 (h : RM N D M) (wf : wfD D) {F : Nat → Int32} (hF : ∀ i, i < 10 → gI M 292 i = F i) {l c : Nat} (hl : l < 4) (hc : c < 288) {sh : Bool} {w : Int32} {Q : gM → Prop} (hq : ∀ M', RM N D M' → (∀ x q, (x = 294 ∨ x = 295 ∨ x = 296) → q ≠ c → gI M' x q = gI M x q) → gI M' 294 c = w → gI M' 295 c = (if sh = true then 0 else hiF F (dL D l 1) (F 1)) → gI M' 296 c = gI M 296 c → Q M') : fX7_goesOn_b252 (nI l) (nI c) (bi sh) 294 (nI c) w M Q := by
  have h1 : RM N D (gsI M 294 c w) := h.sI (by unfold mScr; omega)
  have v1 : vp_in 1 10 := vp_in_nI (n := 1) (by decide) (by decide)
  have f1 : gI (gsI M 294 c w) 292 1 = F 1 := by rw [gI_sI, if_neg (by omega)]; exact hF 1 (by decide)
  have hF1 : ∀ i, i < 10 → gI (gsI M 294 c w) 292 i = F i := fun i hi => by rw [gI_sI, if_neg (by omega)]; exact hF i hi
  unfold fX7_goesOn_b252
  simp only [mk268 h, frm36 h.1, fk292 h.1, fl292 h.1, frm38 h.1, fk294 h.1, fl294 h.1, frm39 h.1, fk295 h.1, fl295 h.1, vp_in_nI hc (N := 288) (by decide), nI_clamp (Nat.lt_trans hc (by decide : 288 < 2 ^ 31)), v1, f1, gdr_some, gk_sI, gk_sL, gk_sR, gl_sI, gl_sL, gl_sR, gn_sI, gn_sL, gn_sR, gs_sI, gs_sL, gs_sR, gR_sI, gR_sL, gI_sL, gI_sR, gL_sI, gL_sR, bi_ite, bi_01, true_and, and_true]
  cases sh
  · simp only [Bool.false_eq_true, if_false] at hq ⊢
    refine hi_m (l := l) (w := 1) h1 wf hF1 hl (by decide) fun M2 h2 f2 => ?_
    simp only [mk268 h2, frm39 h2.1, fk295 h2.1, fl295 h2.1, vp_in_nI hc (N := 288) (by decide), nI_clamp (Nat.lt_trans hc (by decide : 288 < 2 ^ 31)), gdr_some, gk_sI, gk_sL, gk_sR, gl_sI, gl_sL, gl_sR, gn_sI, gn_sL, gn_sR, gs_sI, gs_sL, gs_sR, gR_sI, gR_sL, gI_sL, gI_sR, gL_sI, gL_sR, bi_ite, bi_01, true_and, and_true]
    refine hq _ (h2.sI (by unfold mScr; omega)) (fun x q hx hqc => ?_) ?_ ?_ ?_
    · rw [gI_sI, if_neg (by omega), f2 _ _ (by omega), gI_sI, if_neg (by omega)]
    · rw [gI_sI, if_neg (by omega), f2 _ _ (by omega), gI_sI, if_pos ⟨rfl, rfl⟩]
    · rw [gI_sI, if_pos ⟨rfl, rfl⟩]
    · rw [gI_sI, if_neg (by omega), f2 _ _ (by omega), gI_sI, if_neg (by omega)]
  · simp only [if_true] at hq ⊢
    refine hq _ (h1.sI (by unfold mScr; omega)) (fun x q hx hqc => ?_) ?_ ?_ ?_
    · rw [gI_sI, if_neg (by omega), gI_sI, if_neg (by omega)]
    · rw [gI_sI, if_neg (by omega), gI_sI, if_pos ⟨rfl, rfl⟩]
    · rw [gI_sI, if_pos ⟨rfl, rfl⟩]
    · rw [gI_sI, if_neg (by omega), gI_sI, if_neg (by omega)]
theorem gm214 (h : RM N D M) (wf : wfD D) {F : Nat → Int32} (hF : ∀ i, i < 10 → gI M 292 i = F i) {l c : Nat} (hl : l < 4) (hc : c < 288) {sh : Bool} {Q : gM → Prop} (hq : ∀ M', RM N D M' → (∀ x q, (x = 294 ∨ x = 295 ∨ x = 296) → q ≠ c → gI M' x q = gI M x q) → gI M' 294 c = (if sh = true then 0 else hiF F (dL D l 0) (F 0)) → gI M' 295 c = (if sh = true then 0 else hiF F (dL D l 1) (F 1)) → gI M' 296 c = bi sh → Q M') : fX7_goesOn_b214 (nI l) (nI c) (bi sh) M Q := by
  have h1 : RM N D (gsI M 296 c (bi sh)) := h.sI (by unfold mScr; omega)
  have v0 : vp_in 0 10 := vp_in_nI (n := 0) (by decide) (by decide)
  have f0 : gI (gsI M 296 c (bi sh)) 292 0 = F 0 := by rw [gI_sI, if_neg (by omega)]; exact hF 0 (by decide)
  have hF1 : ∀ i, i < 10 → gI (gsI M 296 c (bi sh)) 292 i = F i := fun i hi => by rw [gI_sI, if_neg (by omega)]; exact hF i hi
  unfold fX7_goesOn_b214
  simp only [mk268 h, frm36 h.1, fk292 h.1, fl292 h.1, frm38 h.1, fk294 h.1, fl294 h.1, frm40 h.1, fk296 h.1, fl296 h.1, vp_in_nI hc (N := 288) (by decide), nI_clamp (Nat.lt_trans hc (by decide : 288 < 2 ^ 31)), v0, f0, gdr_some, gk_sI, gk_sL, gk_sR, gl_sI, gl_sL, gl_sR, gn_sI, gn_sL, gn_sR, gs_sI, gs_sL, gs_sR, gR_sI, gR_sL, gI_sL, gI_sR, gL_sI, gL_sR, bi_ite, bi_01, true_and, and_true]
  cases sh
  · simp only [Bool.false_eq_true, if_false] at hq ⊢
    refine hi_m (l := l) (w := 0) h1 wf hF1 hl (by decide) fun M2 h2 f2 => ?_
    refine gm252 h2 wf (F := F) (fun i hi => by rw [f2 _ _ (by omega)]; exact hF1 i hi) hl hc (sh := false) fun M3 h3 a1 a2 a3 a4 => ?_
    refine hq M3 h3 (fun x q hx hqc => ?_) a2 a3 ?_
    · rw [a1 x q hx hqc, f2 _ _ (by omega), gI_sI, if_neg (by omega)]
    · rw [a4, f2 _ _ (by omega), gI_sI, if_pos ⟨rfl, rfl⟩]
  · simp only [if_true] at hq ⊢
    refine gm252 h1 wf hF1 hl hc (sh := true) fun M3 h3 a1 a2 a3 a4 => ?_
    refine hq M3 h3 (fun x q hx hqc => ?_) a2 a3 ?_
    · rw [a1 x q hx hqc, gI_sI, if_neg (by omega)]
    · rw [a4, gI_sI, if_pos ⟨rfl, rfl⟩]
theorem hiF_ne {F : Nat → Int32} {o : Option (List (Int32 × Int32))} {v : Int32} (hv : v = -2 ∨ 0 ≤ v) (h : hiF F o v = -2) : v = -2 := by
  cases o with
  | none => exact h
  | some L =>
    have h : imax 0 (imin 99 (vE F L)) = -2 := h
    unfold imax at h
    split at h
    · next q => rw [h] at q; exact absurd q (by decide)
    · exact absurd h (by decide)
theorem waF_0 {d : Nat → Nat → Nat → Int32} {k m : Nat} {w h dr : Int32} : waF d k m w h dr 0 ≠ -2 := by
  show (if w = -2 then 0 else w) ≠ -2
  by_cases e : w = -2
  · rw [if_pos e]; decide
  · rw [if_neg e]; exact e
theorem goW_m {d : Nat → Nat → Nat → Int32} {W : Nat → Option (List (Int32 × Int32))} {k m : Nat} {w h dr : Int32} (hw : w = -2 ∨ 0 ≤ w) : (goW d W k m w h dr = -2 ↔ goS d W k m w h dr = true) ∧ (if goW d W k m w h dr = -2 then 0 else goW d W k m w h dr) = (if goS d W k m w h dr = true then 0 else hiF (waF d k m w h dr) (W 0) (waF d k m w h dr 0)) := by
  have hv : waF d k m w h dr 0 = -2 ∨ 0 ≤ waF d k m w h dr 0 := by
    right
    show 0 ≤ (if w = -2 then 0 else w)
    rcases hw with q | q
    · rw [if_pos q]; decide
    · by_cases e : w = -2
      · rw [if_pos e]; decide
      · rw [if_neg e]; exact q
  unfold goW
  by_cases e : goS d W k m w h dr = true
  · rw [if_pos e]
    simp [e]
  · rw [if_neg e]
    have ne : hiF (waF d k m w h dr) (W 0) (waF d k m w h dr 0) ≠ -2 := fun q => waF_0 (hiF_ne hv q)
    exact ⟨⟨fun q => absurd q ne, fun q => absurd q e⟩, by rw [if_neg ne, if_neg e]⟩
theorem gm160 (h : RM N D M) (wf : wfD D) {l k m : Nat} (hl : l < 4) (hk : k < 24) (hm : m < 12) {w hh dr : Int32} (hw : w = -2 ∨ 0 ≤ w) (hF : ∀ i, i < 8 → gI M 292 i = waF (dd D) k m w hh dr i) {Q : gM → Prop} (hq : ∀ M', RM N D M' → wkM M (12 * k + m) (goW (dd D) (dL D l) k m w hh dr) (goH (dd D) (dL D l) k m w hh dr) M' → Q M') : fX7_goesOn_b160 (nI l) dr (nI (12 * k + m)) (bi (decide (w = -2))) M Q := by
  have hc : 12 * k + m < 288 := by omega
  have v8 : vp_in 8 10 := vp_in_nI (n := 8) (by decide) (by decide)
  have v9 : vp_in 9 10 := vp_in_nI (n := 9) (by decide) (by decide)
  have c9 : (9 : Int32).toNatClampNeg = 9 := rfl
  have h8 : RM N D (gsI M 292 8 dr) := h.sI (by unfold mScr; omega)
  have h9 : ∀ x, RM N D (gsI (gsI M 292 8 dr) 292 9 x) := fun x => h8.sI (by unfold mScr; omega)
  obtain ⟨g1, g2⟩ := goW_m (d := dd D) (W := dL D l) (k := k) (m := m) (w := w) (h := hh) (dr := dr) hw
  have fF : ∀ i, i < 10 → gI (gsI (gsI M 292 8 dr) 292 9 (if w = -2 then 1 else 0)) 292 i = waF (dd D) k m w hh dr i := by
    intro i hi
    rw [gI_sI]
    by_cases e : i = 9
    · rw [if_pos ⟨rfl, e⟩, e]; rfl
    · rw [if_neg (by omega), gI_sI]
      by_cases e8 : i = 8
      · rw [if_pos ⟨rfl, e8⟩, e8]; rfl
      · rw [if_neg (by omega)]; exact hF i (by omega)
  have b214 : ∀ (M2 : gM) (x : Int32), x = (if w = -2 then 1 else 0) → RM N D M2 → fr293 (gsI (gsI M 292 8 dr) 292 9 x) M2 → fX7_goesOn_b214 (nI l) (nI (12 * k + m)) (bi (goS (dd D) (dL D l) k m w hh dr)) M2 Q := by
    intro M2 x hx h2 f2
    subst hx
    refine gm214 h2 wf (F := waF (dd D) k m w hh dr) (fun i hi => by rw [f2 _ _ (by omega)]; exact fF i hi) hl hc fun M3 h3 a1 a2 a3 a4 => ?_
    refine hq M3 h3 ⟨fun x q hx hqc => ?_, ?_, ?_, ?_⟩
    · rw [a1 x q hx hqc, f2 _ _ (by omega), gI_sI, if_neg (by omega), gI_sI, if_neg (by omega)]
    · rw [a2]; exact g2.symm
    · rw [a3]; rfl
    · rw [a4]
      congr 1
      rw [Bool.eq_iff_iff, decide_eq_true_eq]
      exact g1.symm
  have z2 : (nI 2 : Int32) = 2 := rfl
  have z3 : (nI 3 : Int32) = 3 := rfl
  unfold fX7_goesOn_b160 fX7_goesOn_b185
  simp only [mk268 h, frm36 h.1, fk292 h.1, fl292 h.1, v8, v9, c9, gdr_some, gk_sI, gk_sL, gk_sR, gl_sI, gl_sL, gl_sR, gn_sI, gn_sL, gn_sR, gs_sI, gs_sL, gs_sR, gR_sI, gR_sL, gI_sL, gI_sR, gL_sI, gL_sR, bi_ite, bi_01, true_and, and_true]
  by_cases ew : w = -2
  · rw [if_pos (by simp [ew]), if_pos (by simp [ew])]
    show fX7_isSo (nI l) (nI 3) _ _
    refine so_m (h9 1) wf (F := waF (dd D) k m w hh dr) (fun i hi => by have := fF i hi; rw [if_pos ew] at this; exact this) hl (by decide) fun M2 h2 f2 => ?_
    have b := b214 M2 1 (by rw [if_pos ew]) h2 f2
    unfold goS at b
    rw [if_pos ew] at b
    cases es : soF (waF (dd D) k m w hh dr) (dL D l 3)
    · rw [if_pos bi_f]
      rw [es] at b
      exact b
    · rw [if_neg (by decide)]
      rw [es] at b
      exact b
  · rw [if_neg (by simp [ew]), if_neg (by simp [ew])]
    show fX7_isSo (nI l) (nI 2) _ _
    refine so_m (h9 0) wf (F := waF (dd D) k m w hh dr) (fun i hi => by have := fF i hi; rw [if_neg ew] at this; exact this) hl (by decide) fun M2 h2 f2 => ?_
    have b := b214 M2 0 (by rw [if_neg ew]) h2 f2
    unfold goS at b
    rw [if_neg ew] at b
    exact b
theorem pX7_goesOn (h : RM N D M) (ok : okD (dd D)) (wf : wfD D) {l k m : Nat} (hl : l < 4) (hk : k < 24) (hm : m + 1 < 12) {w hh dr : Int32} (hw : (w = -2 ∧ hh = 0) ∨ 0 ≤ w) (w1 : gI M 294 (12 * k + m) = (if w = -2 then 0 else w)) (w2 : gI M 295 (12 * k + m) = hh) (w3 : gI M 296 (12 * k + m) = bi (decide (w = -2))) {Q : gM → Prop} (hq : ∀ M', RM N D M' → wkM M (12 * k + (m + 1)) (goW (dd D) (dL D l) k (m + 1) w hh dr) (goH (dd D) (dL D l) k (m + 1) w hh dr) M' → Q M') : fX7_goesOn (nI l) (nI k) (nI (m + 1)) dr M Q := by
  obtain ⟨e0, hb⟩ := bk_ok ok hk
  have hb24 : 12 * bk (dd D) k + (m + 1) < 24 := by omega
  have hc1 : 12 * k + (m + 1) < 288 := by omega
  have hc0 : 12 * k + m < 288 := by omega
  have em : nI (12 * k + (m + 1)) - 1 = nI (12 * k + m) := nI_pred (12 * k + m)
  have v : ∀ j : Nat, j < 10 → vp_in (nI j) 10 := fun j hj => vp_in_nI hj (by decide)
  have v0 : vp_in 0 10 := v 0 (by decide)
  have v1 : vp_in 1 10 := v 1 (by decide)
  have v2 : vp_in 2 10 := v 2 (by decide)
  have v3 : vp_in 3 10 := v 3 (by decide)
  have v4 : vp_in 4 10 := v 4 (by decide)
  have v5 : vp_in 5 10 := v 5 (by decide)
  have v6 : vp_in 6 10 := v 6 (by decide)
  have v7 : vp_in 7 10 := v 7 (by decide)
  have s : ∀ {M1 : gM} {j : Nat} {x : Int32}, RM N D M1 → RM N D (gsI M1 292 j x) := fun h1 => h1.sI (by unfold mScr; omega)
  have z : ∀ {M1 : gM} {j : Nat} {x : Int32} {c q : Nat}, c ≠ 292 → gI (gsI M1 292 j x) c q = gI M1 c q := fun hc => by rw [gI_sI, if_neg (by omega)]
  have z295 : ∀ {M1 : gM} {j : Nat} {x : Int32} {q : Nat}, gI (gsI M1 292 j x) 295 q = gI M1 295 q := z (by decide)
  have z276 : ∀ {M1 : gM} {j : Nat} {x : Int32} {q : Nat}, gI (gsI M1 292 j x) 276 q = gI M1 276 q := z (by decide)
  have z275 : ∀ {M1 : gM} {j : Nat} {x : Int32} {q : Nat}, gI (gsI M1 292 j x) 275 q = gI M1 275 q := z (by decide)
  have z280 : ∀ {M1 : gM} {j : Nat} {x : Int32} {q : Nat}, gI (gsI M1 292 j x) 280 q = gI M1 280 q := z (by decide)
  have k4 : (4 : Int32).toNatClampNeg = 4 := rfl
  obtain ⟨o1, o2, o3, -⟩ := ok
  have m0 := mx0 (o3 (bk (dd D) k) (m + 1) hb hm).1 (o1 k hk).2.1
  have b116 : ∀ x, x = imax 0 (dd D 11 (bk (dd D) k) (m + 1) - dd D 1 k 0) → fX7_goesOn_b116 (nI l) (nI k) (nI (m + 1)) dr (nI (12 * k + (m + 1))) (bi (decide (w = -2))) 292 4 x (gsI (gsI (gsI (gsI M 292 0 (if w = -2 then 0 else w)) 292 1 hh) 292 2 (dd D 1 k 0)) 292 3 (dd D 11 (bk (dd D) k) (m + 1))) Q := by
    intro x hx
    unfold fX7_goesOn_b116
    simp only [z275, z280, mk268 h, frm11 h.1, fk275 h.1, fl275 h.1, frm17 h.1, fk280 h.1, fl280 h.1, frm36 h.1, fk292 h.1, fl292 h.1, vp_in_nI hk (N := 24) (by decide), nI_clamp (Nat.lt_trans hk (by decide : 24 < 2 ^ 31)), mK h hk, e0, nI_12, vp_in_nI hb24 (N := 24) (by decide), nI_clamp (Nat.lt_trans hb24 (by decide : 24 < 2 ^ 31)), mtr h hb hm, v4, v5, v6, v7, k4, gdr_some, gk_sI, gk_sL, gk_sR, gl_sI, gl_sL, gl_sR, gn_sI, gn_sL, gn_sR, gs_sI, gs_sL, gs_sR, gR_sI, gR_sL, gI_sL, gI_sR, gL_sI, gL_sR, bi_ite, bi_01, true_and, and_true]
    have hall : RM N D (gsI (gsI (gsI (gsI (gsI (gsI (gsI (gsI M 292 0 (if w = -2 then 0 else w)) 292 1 hh) 292 2 (dd D 1 k 0)) 292 3 (dd D 11 (bk (dd D) k) (m + 1))) 292 4 x) 292 5 (nI (bk (dd D) k))) 292 6 (nI (m + 1))) 292 7 (dd D 12 (bk (dd D) k) (m + 1))) := s (s (s (s (s (s (s (s h)))))))
    refine gm160 hall wf hl hk hm (hh := hh) (by rcases hw with q | q
                                                 · exact Or.inl q.1
                                                 · exact Or.inr q) (fun i hi => ?_) fun M' h' w' => hq M' h' ⟨fun y q hy hqc => ?_, w'.2⟩
    · simp only [gI_sI]
      have : i = 0 ∨ i = 1 ∨ i = 2 ∨ i = 3 ∨ i = 4 ∨ i = 5 ∨ i = 6 ∨ i = 7 := by omega
      rcases this with rfl | rfl | rfl | rfl | rfl | rfl | rfl | rfl
      · simp [waF]
      · rcases hw with q | q
        · simp [waF, q.1, q.2]
        · have : w ≠ -2 := fun e => by rw [e] at q; exact absurd q (by decide)
          simp [waF, this]
      · simp [waF]
      · simp [waF]
      · simp [waF, hx]
      · simp [waF, e0]
      · simp [waF]
      · simp [waF]
    · rw [w'.1 y q hy hqc, z (by omega), z (by omega), z (by omega), z (by omega), z (by omega), z (by omega), z (by omega), z (by omega)]
  unfold fX7_goesOn
  simp only [nI_12, em, mk268 h, frm11 h.1, fk275 h.1, fl275 h.1, frm12 h.1, fk276 h.1, fl276 h.1, frm16 h.1, fk279 h.1, fl279 h.1, frm36 h.1, fk292 h.1, fl292 h.1, frm38 h.1, fk294 h.1, fl294 h.1, frm39 h.1, fk295 h.1, fl295 h.1, frm40 h.1, fk296 h.1, fl296 h.1, vp_in_nI hk (N := 24) (by decide), nI_clamp (Nat.lt_trans hk (by decide : 24 < 2 ^ 31)), mK h hk, e0, vp_in_nI hb24 (N := 24) (by decide), nI_clamp (Nat.lt_trans hb24 (by decide : 24 < 2 ^ 31)), mfl h hb hm, vp_in_nI hc0 (N := 288) (by decide), nI_clamp (Nat.lt_trans hc0 (by decide : 288 < 2 ^ 31)), z295, z276, w1, w2, w3, v0, v1, v2, gdr_some, gk_sI, gk_sL, gk_sR, gl_sI, gl_sL, gl_sR, gn_sI, gn_sL, gn_sR, gs_sI, gs_sL, gs_sR, gR_sI, gR_sL, gI_sL, gI_sR, gL_sI, gL_sR, bi_ite, bi_01, true_and, and_true]
  unfold fX7_goesOn_b79
  simp only [mk268 h, frm12 h.1, fk276 h.1, fl276 h.1, frm36 h.1, fk292 h.1, fl292 h.1, vp_in_nI hk (N := 24) (by decide), nI_clamp (Nat.lt_trans hk (by decide : 24 < 2 ^ 31)), mK h hk, z276, v3, gdr_some, gk_sI, gk_sL, gk_sR, gl_sI, gl_sL, gl_sR, gn_sI, gn_sL, gn_sR, gs_sI, gs_sL, gs_sR, gR_sI, gR_sL, gI_sL, gI_sR, gL_sI, gL_sR, bi_ite, bi_01, true_and, and_true]
  by_cases c : dd D 11 (bk (dd D) k) (m + 1) ≤ dd D 1 k 0
  · rw [if_pos c]
    rw [if_pos c] at m0
    exact b116 _ m0
  · rw [if_neg c]
    rw [if_neg c] at m0
    exact b116 _ m0
end
/-! worlds: runs in m; op world -/
set_option maxRecDepth 100000
theorem wrl_ok {d : Nat → Nat → Nat → Int32} (ok : okD d) {W : Nat → Option (List (Int32 × Int32))} {seed : Nat} : ∀ t k m : Nat, k < 24 → ((((wrl d W seed t).2 k m).1 = -2 ∧ ((wrl d W seed t).2 k m).2 = 0) ∨ 0 ≤ ((wrl d W seed t).2 k m).1) := by
  intro t
  induction t with
  | zero =>
    intro k m hk
    obtain ⟨q1, q2, q3, -⟩ := ok.2.1 k 0 hk (by decide)
    show ((if d 5 k 0 = -1 then 0 else d 5 k 0) = -2 ∧ (if d 5 k 0 = -1 then 0 else d 6 k 0) = 0) ∨ 0 ≤ (if d 5 k 0 = -1 then 0 else d 5 k 0)
    by_cases e : d 5 k 0 = -1
    · rw [if_pos e]; right; decide
    · rw [if_neg e, if_neg e]
      by_cases e2 : 0 ≤ d 5 k 0
      · exact Or.inr e2
      · refine Or.inl ⟨?_, q3 e2⟩
        have a1 := q1.1
        rw [Int32.le_iff_toInt_le] at a1 e2
        have b1 : (-2 : Int32).toInt = -2 := rfl
        have b2 : (0 : Int32).toInt = 0 := rfl
        have b3 : (d 5 k 0).toInt ≠ -1 := fun q => e (Int32.toInt_inj.mp (by rw [q]; rfl))
        exact Int32.toInt_inj.mp (by omega)
  | succ t ih =>
    intro k m hk
    rw [wrl_s]
    by_cases e : d 3 (t % 24) 0 = 0
    · rw [if_pos e]; exact ih k m hk
    · rw [if_neg e]
      have ihk := ih k (m - 1) hk
      show (((if k = t % 24 ∧ m = t / 24 + 1 then (goW d W k m ((wrl d W seed t).2 k (m - 1)).1 ((wrl d W seed t).2 k (m - 1)).2 (drw (lcg (wrl d W seed t).1)), goH d W k m ((wrl d W seed t).2 k (m - 1)).1 ((wrl d W seed t).2 k (m - 1)).2 (drw (lcg (wrl d W seed t).1))) else (wrl d W seed t).2 k m) : Int32 × Int32).1 = -2 ∧ ((if k = t % 24 ∧ m = t / 24 + 1 then (goW d W k m ((wrl d W seed t).2 k (m - 1)).1 ((wrl d W seed t).2 k (m - 1)).2 (drw (lcg (wrl d W seed t).1)), goH d W k m ((wrl d W seed t).2 k (m - 1)).1 ((wrl d W seed t).2 k (m - 1)).2 (drw (lcg (wrl d W seed t).1))) else (wrl d W seed t).2 k m) : Int32 × Int32).2 = 0) ∨ 0 ≤ ((if k = t % 24 ∧ m = t / 24 + 1 then (goW d W k m ((wrl d W seed t).2 k (m - 1)).1 ((wrl d W seed t).2 k (m - 1)).2 (drw (lcg (wrl d W seed t).1)), goH d W k m ((wrl d W seed t).2 k (m - 1)).1 ((wrl d W seed t).2 k (m - 1)).2 (drw (lcg (wrl d W seed t).1))) else (wrl d W seed t).2 k m) : Int32 × Int32).1
      generalize ((wrl d W seed t).2 k (m - 1)).1 = w at *
      generalize ((wrl d W seed t).2 k (m - 1)).2 = hh at *
      generalize drw (lcg (wrl d W seed t).1) = dr at *
      by_cases e2 : k = t % 24 ∧ m = t / 24 + 1
      · rw [if_pos e2]
        show (goW d W k m w hh dr = -2 ∧ goH d W k m w hh dr = 0) ∨ 0 ≤ goW d W k m w hh dr
        unfold goW goH
        by_cases e3 : goS d W k m w hh dr = true
        · rw [if_pos e3, if_pos e3]; exact Or.inl ⟨rfl, rfl⟩
        · rw [if_neg e3, if_neg e3]
          right
          have hv : 0 ≤ waF d k m w hh dr 0 := by
            show 0 ≤ (if w = -2 then 0 else w)
            rcases ihk with q | q
            · rw [if_pos q.1]; decide
            · by_cases e4 : w = -2
              · rw [if_pos e4]; decide
              · rw [if_neg e4]; exact q
          cases W 0 with
          | none => exact hv
          | some L =>
            show 0 ≤ imax 0 (imin 99 (vE (waF d k m w hh dr) L))
            unfold imax
            split
            · next q => exact Int32.le_of_lt q
            · decide
      · rw [if_neg e2]; exact ih k m hk
theorem nI_12' {k : Nat} : 12 * nI k = nI (12 * k) := pk_mul 12 k
theorem drw_J {g : Nat} (hg : g < 2147483648) : (nJ g / 65536 - nJ g / 65536 / 10 * 10).toInt32 = drw g := by
  have e1 : nJ g / 65536 = nJ (g / 65536) := pk_lDiv (a := g) (b := 65536) (by omega) (by decide) (by decide)
  rw [e1]
  have h9 : g / 65536 < 2147483648 := Nat.lt_of_le_of_lt (Nat.div_le_self _ _) hg
  have e2 := nJ_mod (A := g / 65536) (B := 10) (by omega) (by decide) (by decide)
  have e3 : nJ (g / 65536) - nJ (g / 65536) / 10 * 10 = nJ (g / 65536 % 10) := e2
  rw [e3]
  exact lN_i _
section
variable {N M : gM} {D : gD}
def wsM (D : gD) (W : Nat → Option (List (Int32 × Int32))) (seed t : Nat) (M : gM) : Prop := ∀ k m : Nat, k < 24 → (m = 0 ∨ (dd D 3 k 0 ≠ 0 ∧ 24 * (m - 1) + k < t)) → m < 12 → gI M 294 (12 * k + m) = (if ((wrl (dd D) W seed t).2 k m).1 = -2 then 0 else ((wrl (dd D) W seed t).2 k m).1) ∧ gI M 295 (12 * k + m) = ((wrl (dd D) W seed t).2 k m).2 ∧ gI M 296 (12 * k + m) = bi (decide (((wrl (dd D) W seed t).2 k m).1 = -2))
theorem rum_s (h : RM N D M) (ok : okD (dd D)) (wf : wfD D) {l k m seed : Nat} (hl : l < 4) (hk : k < 24) (hm : m + 1 < 12) (hs : seed < 2147483648) (ws : wsM D (dL D l) seed (24 * m + k) M) {R : Int64 → Int32 → gM → Prop} {K : Int64 → gM → Prop} {Q : gM → Prop} (hn : ∀ M', RM N D M' ∧ wsM D (dL D l) seed (24 * m + (k + 1)) M' → R (nJ (wrl (dd D) (dL D l) seed (24 * m + (k + 1))).1) (nI (k + 1)) M') : fX7_runs_L101s R K (nI l) (nI (m + 1)) (nJ (wrl (dd D) (dL D l) seed (24 * m + k)).1) (nI k) M Q := by
  have hg := wrl_lt (d := dd D) (W := dL D l) hs (24 * m + k)
  have e1 : (24 * m + k) % 24 = k := by omega
  have e2 : (24 * m + k) / 24 = m := by omega
  have er := wrl_s (d := dd D) (W := dL D l) (seed := seed) (t := 24 * m + k)
  rw [e1, e2] at er
  rw [show 24 * m + (k + 1) = 24 * m + k + 1 by omega, er] at hn
  unfold fX7_runs_L101s fX7_runs_b151
  rw [if_neg (nge24 hk)]
  simp only [mk268 h, frm10 h.1, fk274 h.1, fl274 h.1, vp_in_nI hk (N := 24) (by decide), nI_clamp (Nat.lt_trans hk (by decide : 24 < 2 ^ 31)), mK h hk, gdr_some, gk_sI, gk_sL, gk_sR, gl_sI, gl_sL, gl_sR, gn_sI, gn_sL, gn_sR, gs_sI, gs_sL, gs_sR, gR_sI, gR_sL, gI_sL, gI_sR, gL_sI, gL_sR, bi_ite, bi_01, true_and, and_true, lcg_J hg, drw_J (lcg_lt _), ← nI_succ]
  by_cases e3 : dd D 3 k 0 = 0
  · rw [if_pos e3]
    rw [if_pos e3] at hn
    refine hn M ⟨h, fun k' m' hk' hm' h12 => ?_⟩
    rw [er, if_pos e3]
    refine ws k' m' hk' ?_ h12
    rcases hm' with q | ⟨q1, q2⟩
    · exact Or.inl q
    · refine Or.inr ⟨q1, ?_⟩
      have : ¬ (24 * (m' - 1) + k' = 24 * m + k) := fun q => by
        have : k' = k := by omega
        rw [this] at q1
        exact q1 e3
      omega
  · rw [if_neg e3]
    rw [if_neg e3] at hn
    have w0 := ws k m hk (by
      by_cases z : m = 0
      · exact Or.inl z
      · exact Or.inr ⟨e3, by omega⟩) (by omega)
    refine pX7_goesOn h ok wf hl hk hm (dr := drw (lcg (wrl (dd D) (dL D l) seed (24 * m + k)).1)) (wrl_ok ok (24 * m + k) k m hk) w0.1 w0.2.1 w0.2.2 fun M' a1 a3 => ?_
    refine hn M' ⟨a1, fun k' m' hk' hm' h12 => ?_⟩
    obtain ⟨b1, b2, b3, b4⟩ := a3
    rw [er, if_neg e3]
    show gI M' 294 (12 * k' + m') = (if (if k' = k ∧ m' = m + 1 then (goW (dd D) (dL D l) k' m' ((wrl (dd D) (dL D l) seed (24 * m + k)).2 k' (m' - 1)).1 ((wrl (dd D) (dL D l) seed (24 * m + k)).2 k' (m' - 1)).2 (drw (lcg (wrl (dd D) (dL D l) seed (24 * m + k)).1)), goH (dd D) (dL D l) k' m' ((wrl (dd D) (dL D l) seed (24 * m + k)).2 k' (m' - 1)).1 ((wrl (dd D) (dL D l) seed (24 * m + k)).2 k' (m' - 1)).2 (drw (lcg (wrl (dd D) (dL D l) seed (24 * m + k)).1))) else (wrl (dd D) (dL D l) seed (24 * m + k)).2 k' m' : Int32 × Int32).1 = -2 then 0 else (if k' = k ∧ m' = m + 1 then (goW (dd D) (dL D l) k' m' ((wrl (dd D) (dL D l) seed (24 * m + k)).2 k' (m' - 1)).1 ((wrl (dd D) (dL D l) seed (24 * m + k)).2 k' (m' - 1)).2 (drw (lcg (wrl (dd D) (dL D l) seed (24 * m + k)).1)), goH (dd D) (dL D l) k' m' ((wrl (dd D) (dL D l) seed (24 * m + k)).2 k' (m' - 1)).1 ((wrl (dd D) (dL D l) seed (24 * m + k)).2 k' (m' - 1)).2 (drw (lcg (wrl (dd D) (dL D l) seed (24 * m + k)).1))) else (wrl (dd D) (dL D l) seed (24 * m + k)).2 k' m' : Int32 × Int32).1) ∧ gI M' 295 (12 * k' + m') = (if k' = k ∧ m' = m + 1 then (goW (dd D) (dL D l) k' m' ((wrl (dd D) (dL D l) seed (24 * m + k)).2 k' (m' - 1)).1 ((wrl (dd D) (dL D l) seed (24 * m + k)).2 k' (m' - 1)).2 (drw (lcg (wrl (dd D) (dL D l) seed (24 * m + k)).1)), goH (dd D) (dL D l) k' m' ((wrl (dd D) (dL D l) seed (24 * m + k)).2 k' (m' - 1)).1 ((wrl (dd D) (dL D l) seed (24 * m + k)).2 k' (m' - 1)).2 (drw (lcg (wrl (dd D) (dL D l) seed (24 * m + k)).1))) else (wrl (dd D) (dL D l) seed (24 * m + k)).2 k' m' : Int32 × Int32).2 ∧ gI M' 296 (12 * k' + m') = bi (decide ((if k' = k ∧ m' = m + 1 then (goW (dd D) (dL D l) k' m' ((wrl (dd D) (dL D l) seed (24 * m + k)).2 k' (m' - 1)).1 ((wrl (dd D) (dL D l) seed (24 * m + k)).2 k' (m' - 1)).2 (drw (lcg (wrl (dd D) (dL D l) seed (24 * m + k)).1)), goH (dd D) (dL D l) k' m' ((wrl (dd D) (dL D l) seed (24 * m + k)).2 k' (m' - 1)).1 ((wrl (dd D) (dL D l) seed (24 * m + k)).2 k' (m' - 1)).2 (drw (lcg (wrl (dd D) (dL D l) seed (24 * m + k)).1))) else (wrl (dd D) (dL D l) seed (24 * m + k)).2 k' m' : Int32 × Int32).1 = -2))
    by_cases e : k' = k ∧ m' = m + 1
    · simp only [if_pos e]
      rw [e.1, e.2]
      exact ⟨b2, b3, b4⟩
    · simp only [if_neg e]
      rw [b1 294 _ (by omega) (by omega), b1 295 _ (by omega) (by omega), b1 296 _ (by omega) (by omega)]
      refine ws k' m' hk' ?_ h12
      rcases hm' with q | ⟨q1, q2⟩
      · exact Or.inl q
      · by_cases z : m' = 0
        · exact Or.inl z
        · exact Or.inr ⟨q1, by omega⟩
theorem pX7_runs (h : RM N D M) (ok : okD (dd D)) (wf : wfD D) {l seed : Nat} (hl : l < 4) (hs : seed < 2147483648) {Q : gM → Prop} (hq : ∀ M', RM N D M' → wsM D (dL D l) seed 264 M' → Q M') : fX7_runs (nI l) (nI seed) M Q := by
  unfold fX7_runs
  refine ⟨25, ?_⟩
  rw [nI_J hs]
  refine loop24 (I := fun k M => RM N D M ∧ ∀ k', k' < k → gI M 294 (12 * k') = (if ((wrl (dd D) (dL D l) seed 0).2 k' 0).1 = -2 then 0 else ((wrl (dd D) (dL D l) seed 0).2 k' 0).1) ∧ gI M 295 (12 * k') = ((wrl (dd D) (dL D l) seed 0).2 k' 0).2 ∧ gI M 296 (12 * k') = bi (decide (((wrl (dd D) (dL D l) seed 0).2 k' 0).1 = -2))) (fun n M hI => ?_) (fun n k M hk hI hn => ?_) 24 0 M rfl ⟨h, fun k' q => absurd q (by omega)⟩
  · obtain ⟨h1, i1⟩ := hI
    unfold fX7_runs_L6 fX7_runs_L6s
    rw [if_pos ge24]
    refine ⟨12, ?_⟩
    refine loopN (T := 11) (G := fun n m M => fX7_runs_L91 (fun M60 => Q M60) (nI l) Q n (nJ (wrl (dd D) (dL D l) seed (24 * m)).1) (nI (m + 1)) M) (I := fun m M => RM N D M ∧ wsM D (dL D l) seed (24 * m) M) (fun n M hI => ?_) (fun n m M hm hI hn => ?_) 11 0 M rfl ⟨h1, fun k m hk hm h12 => ?_⟩
    · show fX7_runs_L91 _ _ _ _ _ _ _
      unfold fX7_runs_L91 fX7_runs_L91s
      rw [if_pos (by decide)]
      exact hq M hI.1 hI.2
    · have hm12 : m + 1 < 12 := by omega
      show fX7_runs_L91 _ _ _ _ _ _ _
      unfold fX7_runs_L91 fX7_runs_L91s
      rw [if_neg (nge12 hm12)]
      refine ⟨25, ?_⟩
      refine loopN (T := 24) (G := fun n2 k M => fX7_runs_L101 (fun l3_55 M56 => fX7_runs_L91 (fun M60 => Q M60) (nI l) Q n l3_55 (nI (m + 1) + 1) M56) (nI l) (nI (m + 1)) Q n2 (nJ (wrl (dd D) (dL D l) seed (24 * m + k)).1) (nI k) M) (I := fun k M => RM N D M ∧ wsM D (dL D l) seed (24 * m + k) M) (fun n2 M hI => ?_) (fun n2 k M hk hI hn2 => ?_) 24 0 M rfl hI
      · unfold fX7_runs_L101 fX7_runs_L101s
        rw [if_pos ge24]
        show fX7_runs_L91 _ _ _ _ _ (nI (m + 1) + 1) _
        rw [← nI_succ]
        exact hn M hI
      · show fX7_runs_L101 _ _ _ _ _ _ _ _
        unfold fX7_runs_L101
        exact rum_s hI.1 ok wf hl hk hm12 hs hI.2 hn2
    · rcases hm with rfl | q
      · exact i1 k hk
      · omega
  · obtain ⟨h1, i1⟩ := hI
    have z12 : 0 < 12 := by decide
    have hc : 12 * k < 288 := by omega
    obtain ⟨y1, y2, y3, -⟩ := mKM h1 hk z12
    rw [show 12 * k + 0 = 12 * k by omega] at y1 y2 y3
    have h2 : RM N D (gsI M 294 (12 * k) (whM (dd D 5 k 0))) := h1.sI (by unfold mScr; omega)
    have h3 : RM N D (gsI (gsI M 294 (12 * k) (whM (dd D 5 k 0))) 295 (12 * k) (dd D 6 k 0)) := h2.sI (by unfold mScr; omega)
    have u3 : gI (gsI M 294 (12 * k) (whM (dd D 5 k 0))) 283 (12 * k) = dd D 6 k 0 := by rw [gI_sI, if_neg (by omega)]; exact y3
    have u1 : gI (gsI (gsI M 294 (12 * k) (whM (dd D 5 k 0))) 295 (12 * k) (dd D 6 k 0)) 281 (12 * k) = stM (dd D 5 k 0) := by rw [gI_sI, if_neg (by omega), gI_sI, if_neg (by omega)]; exact y1
    obtain ⟨q1, q2, q3, -⟩ := ok.2.1 k 0 hk z12
    have b81 : ∀ x, x = bi (decide (dd D 5 k 0 = -2)) → fX7_runs_b81 (fX7_runs_L6 (fun M31 => ∃ n, fX7_runs_L91 (fun M60 => Q M60) (nI l) Q n (nJ seed) 1 M31) (nI l) (nJ seed) Q n) (nI l) (nJ seed) (nI k) 296 (nI (12 * k)) x (gsI (gsI M 294 (12 * k) (whM (dd D 5 k 0))) 295 (12 * k) (dd D 6 k 0)) Q := by
      intro x hx
      subst hx
      unfold fX7_runs_b81
      simp only [mk268 h1, frm40 h1.1, fk296 h1.1, fl296 h1.1, vp_in_nI hc (N := 288) (by decide), nI_clamp (Nat.lt_trans hc (by decide : 288 < 2 ^ 31)), ← nI_succ, gdr_some, gk_sI, gk_sL, gk_sR, gl_sI, gl_sL, gl_sR, gn_sI, gn_sL, gn_sR, gs_sI, gs_sL, gs_sR, gR_sI, gR_sL, gI_sL, gI_sR, gL_sI, gL_sR, bi_ite, bi_01, true_and, and_true]
      refine hn _ ⟨h3.sI (by unfold mScr; omega), fun k' hk' => ?_⟩
      by_cases e : k' = k
      · subst e
        show _ = (if (if dd D 5 k' 0 = -1 then 0 else dd D 5 k' 0) = -2 then 0 else (if dd D 5 k' 0 = -1 then 0 else dd D 5 k' 0)) ∧ _ = (if dd D 5 k' 0 = -1 then 0 else dd D 6 k' 0) ∧ _ = bi (decide ((if dd D 5 k' 0 = -1 then 0 else dd D 5 k' 0) = -2))
        refine ⟨?_, ?_, ?_⟩
        · rw [gI_sI, if_neg (by omega), gI_sI, if_neg (by omega), gI_sI, if_pos ⟨rfl, rfl⟩]
          unfold whM
          by_cases e1 : dd D 5 k' 0 = -1
          · rw [e1]; decide
          · simp only [if_neg e1]
            by_cases e2 : dd D 5 k' 0 = -2
            · rw [e2]; decide
            · rw [if_neg e2]
              have : 0 ≤ dd D 5 k' 0 := by
                have a1 := q1.1
                rw [Int32.le_iff_toInt_le] at a1 ⊢
                have b1 : (-2 : Int32).toInt = -2 := rfl
                have b2 : (0 : Int32).toInt = 0 := rfl
                have b3 : (dd D 5 k' 0).toInt ≠ -1 := fun q => e1 (Int32.toInt_inj.mp (by rw [q]; rfl))
                have b4 : (dd D 5 k' 0).toInt ≠ -2 := fun q => e2 (Int32.toInt_inj.mp (by rw [q]; rfl))
                omega
              rw [if_pos this]
        · rw [gI_sI, if_neg (by omega), gI_sI, if_pos ⟨rfl, rfl⟩]
          by_cases e1 : dd D 5 k' 0 = -1
          · rw [if_pos e1]; exact q3 (by rw [e1]; decide)
          · rw [if_neg e1]
        · rw [gI_sI, if_pos ⟨rfl, rfl⟩]
          by_cases e1 : dd D 5 k' 0 = -1
          · rw [e1]; decide
          · rw [if_neg e1]
      · have e294 : ∀ c q, q ≠ 12 * k → gI (gsI (gsI (gsI M 294 (12 * k) (whM (dd D 5 k 0))) 295 (12 * k) (dd D 6 k 0)) 296 (12 * k) (bi (decide (dd D 5 k 0 = -2)))) c q = gI M c q := fun c q hq => by
          rw [gI_sI, if_neg fun z => hq z.2, gI_sI, if_neg fun z => hq z.2, gI_sI, if_neg fun z => hq z.2]
        rw [e294 _ _ (by omega), e294 _ _ (by omega), e294 _ _ (by omega)]
        exact i1 k' (by omega)
    unfold fX7_runs_L6 fX7_runs_L6s
    rw [if_neg (nge24 hk)]
    simp only [nI_12', y2, u3, u1, stM_2, mk268 h1, frm18 h1.1, fk281 h1.1, fl281 h1.1, frm19 h1.1, fk282 h1.1, fl282 h1.1, frm20 h1.1, fk283 h1.1, fl283 h1.1, frm38 h1.1, fk294 h1.1, fl294 h1.1, frm39 h1.1, fk295 h1.1, fl295 h1.1, frm40 h1.1, fk296 h1.1, fl296 h1.1, vp_in_nI hc (N := 288) (by decide), nI_clamp (Nat.lt_trans hc (by decide : 288 < 2 ^ 31)), gdr_some, gk_sI, gk_sL, gk_sR, gl_sI, gl_sL, gl_sR, gn_sI, gn_sL, gn_sR, gs_sI, gs_sL, gs_sR, gR_sI, gR_sL, gI_sL, gI_sR, gL_sI, gL_sR, bi_ite, bi_01, true_and, and_true]
    by_cases e : dd D 5 k 0 = -2
    · rw [if_pos e]; exact b81 1 (by simp [e, bi])
    · rw [if_neg e]; exact b81 0 (by simp [e, bi])
theorem pX7_worldHands (h : RM N D M) (ok : okD (dd D)) {W : Nat → Option (List (Int32 × Int32))} {seed k m : Nat} (hk : k < 24) (hm : m < 12) (ht : dd D 3 k 0 ≠ 0) (ws : wsM D W seed 264 M) {Q : Int32 → gM → Prop} : fX7_worldHands (nI k) (nI m) M Q = Q (hOf (dd D 13 0 1) ((wrl (dd D) W seed 264).2 k m).1 ((wrl (dd D) W seed 264).2 k m).2) M := by
  have hc : 12 * k + m < 288 := by omega
  obtain ⟨w1, w2, -⟩ := ws k m hk (by
    by_cases z : m = 0
    · exact Or.inl z
    · exact Or.inr ⟨ht, by omega⟩) hm
  have e : ∀ w hh : Int32, (w = -2 ∧ hh = 0) ∨ 0 ≤ w → 10 * (if w = -2 then 0 else w) + dd D 13 0 0 * hh = hOf (dd D 13 0 1) w hh := by
    intro w hh q
    unfold hOf
    rw [ok.2.2.2.2]
    rcases q with ⟨rfl, rfl⟩ | q
    · rw [if_pos rfl, if_neg (by decide)]; simp
    · rw [if_pos q, if_neg fun z => by rw [z] at q; exact absurd q (by decide)]
  unfold fX7_worldHands fX7_handsBy
  simp only [nI_12, w1, w2, mten h, mk268 h, frm38 h.1, fk294 h.1, fl294 h.1, frm39 h.1, fk295 h.1, fl295 h.1, vp_in_nI hc (N := 288) (by decide), nI_clamp (Nat.lt_trans hc (by decide : 288 < 2 ^ 31)), gdr_some, gk_sI, gk_sL, gk_sR, gl_sI, gl_sL, gl_sR, gn_sI, gn_sL, gn_sR, gs_sI, gs_sL, gs_sR, gR_sI, gR_sL, gI_sL, gI_sR, gL_sI, gL_sR, bi_ite, bi_01, true_and, and_true]
  rw [e _ _ (wrl_ok ok 264 k m hk)]
end
/-! ops world, fits, best -/
set_option maxRecDepth 100000
theorem in4 {p : Int32} (h : in9 0 3 p = true) : ∃ k : Nat, k < 4 ∧ p = nI k ∧ cl p = k := by
  obtain ⟨k, hk, rfl⟩ := in9_nI (n := 3) rfl (by decide) h
  exact ⟨k, hk, rfl, nI_clamp (by omega)⟩
theorem in9999 {p : Int32} (h : in9 0 9999 p = true) : ∃ k : Nat, k < 10000 ∧ p = nI k ∧ cl p = k := by
  obtain ⟨k, hk, rfl⟩ := in9_nI (n := 9999) rfl (by decide) h
  exact ⟨k, hk, rfl, nI_clamp (by omega)⟩
theorem in20 {p : Int32} (h : in9 1 20 p = true) : ∃ k : Nat, k < 21 ∧ 1 ≤ k ∧ p = nI k ∧ cl p = k := by
  have h1 := in9_iff.mp h
  have h2 : in9 0 20 p = true := in9_iff.mpr ⟨Int32.le_trans (by decide) h1.1, h1.2⟩
  obtain ⟨k, hk, rfl⟩ := in9_nI (n := 20) rfl (by decide) h2
  refine ⟨k, hk, ?_, rfl, nI_clamp (by omega)⟩
  have := h1.1
  rw [Int32.le_iff_toInt_le, nI_toInt (by omega)] at this
  have e1 : (1 : Int32).toInt = 1 := rfl
  omega
theorem isKp_c {d : Nat → Nat → Nat → Int32} {p : Int32} (h : isKp d p = true) : ∃ k : Nat, k < 24 ∧ p = nI k ∧ d 3 k 0 ≠ 0 ∧ cl p = k := by
  obtain ⟨k, hk, rfl, h3⟩ := isKp_n h
  exact ⟨k, hk, rfl, h3, cl_nI (by omega)⟩
theorem in12c {p : Int32} (h : in9 0 11 p = true) : ∃ k : Nat, k < 12 ∧ p = nI k ∧ cl p = k := by
  obtain ⟨k, hk, rfl⟩ := in12 h
  exact ⟨k, hk, rfl, nI_clamp (by omega)⟩
def wHo (d : Nat → Nat → Nat → Int32) (wr : Nat → Nat → Int32 × Int32) (k m : Nat) : Int32 := hOf (d 13 0 1) (wr k m).1 (wr k m).2
def rWor (D : gD) (l s k m : Int32) : Int32 := if (in9 0 3 l && in9 0 9999 s && isKp (dd D) k && in9 0 11 m) = true then wHo (dd D) (wrl (dd D) (dL D (cl l)) (cl s) 264).2 (cl k) (cl m) else -1
section
variable {N M : gM} {n0 a9 : Nat} {D : gD}
theorem xlw (h : RX N n0 a9 D M) {l : Nat} (hl : l < 4) : ∃ c, gR M 26 l = some c := by
  obtain ⟨c, d, q, -⟩ := h.2.2.2.2.2.1 l hl
  exact ⟨c, by first | exact q | exact q.1⟩
theorem pX1_isLaw {p : Int32} {Q : Int32 → gM → Prop} : fX1_isLaw p M Q = Q (bi (in9 0 3 p)) M := by
  unfold fX1_isLaw
  simp only [pX1_in, gdr_some, gk_sI, gk_sL, gk_sR, gl_sI, gl_sL, gl_sR, gn_sI, gn_sL, gn_sR, gs_sI, gs_sL, gs_sR, gR_sI, gR_sL, gI_sL, gI_sR, gL_sI, gL_sR, bi_ite, bi_01, true_and, and_true]
theorem pX7_areSeeds {p : Int32} {Q : Int32 → gM → Prop} : fX7_areSeeds p M Q = Q (bi (in9 1 20 p)) M := by
  unfold fX7_areSeeds
  simp only [pX7_within, gdr_some, gk_sI, gk_sL, gk_sR, gl_sI, gl_sL, gl_sR, gn_sI, gn_sL, gn_sR, gs_sI, gs_sL, gs_sR, gR_sI, gR_sL, gI_sL, gI_sR, gL_sI, gL_sR, bi_ite, bi_01, true_and, and_true]
theorem pX1_world (h : RX N n0 a9 D M) (ok : okD (dd D)) {l s k m : Int32} {Q : Int32 → gM → Prop} (hq : ∀ M', RX N n0 a9 D M' → Q (rWor D l s k m) M') : fX1_world l s k m M Q := by
  unfold fX1_world
  simp only [pX1_isLaw, pX1_in, pX1_isKitchen h, pX1_isMonth, gdr_some, gk_sI, gk_sL, gk_sR, gl_sI, gl_sL, gl_sR, gn_sI, gn_sL, gn_sR, gs_sI, gs_sL, gs_sR, gR_sI, gR_sL, gI_sL, gI_sR, gL_sI, gL_sR, bi_ite, bi_01, true_and, and_true]
  unfold rWor at hq
  cases q1 : in9 0 3 l
  · rw [if_neg (by decide)]; rw [q1] at hq; exact hq M h
  cases q2 : in9 0 9999 s
  · rw [if_pos rfl, if_neg (by decide)]; rw [q1, q2] at hq; exact hq M h
  rw [if_pos rfl, if_pos rfl]
  simp only [xk16 h, xk17 h, xl17 h, xr0 h, xr10 h, xr11 h, xk28 h, xk29 h, xten h, xby h, gdr_some, gk_sI, gk_sL, gk_sR, gl_sI, gl_sL, gl_sR, gn_sI, gn_sL, gn_sR, gs_sI, gs_sL, gs_sR, gR_sI, gR_sL, gI_sL, gI_sR, gL_sI, gL_sR, bi_ite, bi_01, true_and, and_true]
  cases q3 : isKp (dd D) k
  · rw [if_neg (by decide)]; rw [q1, q2, q3] at hq; exact hq M h
  cases q4 : in9 0 11 m
  · rw [if_pos rfl, if_neg (by decide)]; rw [q1, q2, q3, q4] at hq; exact hq M h
  rw [q1, q2, q3, q4] at hq
  obtain ⟨l, hl, rfl, e1⟩ := in4 q1
  obtain ⟨s, hs, rfl, e2⟩ := in9999 q2
  obtain ⟨k, hk, rfl, h3, e3⟩ := isKp_c q3
  obtain ⟨m, hm, rfl, e4⟩ := in12c q4
  rw [e1, e2, e3, e4] at hq
  obtain ⟨c, hc⟩ := xlw h hl
  rw [if_pos rfl, if_pos rfl]
  simp only [xk16 h, xk17 h, xl17 h, xr0 h, xr10 h, xr11 h, xk28 h, xk29 h, xten h, xby h, xk16 h, frx5 h.1, fk26 h.1, fl26 h.1, vp_in_nI hl (N := 4) (by decide), nI_clamp (Nat.lt_trans hl (by decide : 4 < 2 ^ 31)), hc, gdr_some, gk_sI, gk_sL, gk_sR, gl_sI, gl_sL, gl_sR, gn_sI, gn_sL, gn_sR, gs_sI, gs_sL, gs_sR, gR_sI, gR_sL, gI_sL, gI_sR, gL_sI, gL_sR, bi_ite, bi_01, true_and, and_true]
  refine pX1_runs h ok hl hc (seed := s) (by omega) fun M1 h1 _ w1 _ => ?_
  rw [pX1_worldHands h1 hk hm h3 w1]
  exact ⟨xk16 h1, hq M1 h1⟩
end
section
variable {N M : gM} {D : gD}
theorem pX7_world (h : RM N D M) (ok : okD (dd D)) (wf : wfD D) {l s k m : Int32} {Q : Int32 → gM → Prop} (hq : ∀ M', RM N D M' → Q (rWor D l s k m) M') : fX7_world l s k m M Q := by
  have h0 : RM N D (gsI M 268 0 0) := h.thr9
  unfold fX7_world
  simp only [mk268 h, mk268 h0, pX7_within, pX7_isKitchen h0, pX7_isMonth, gdr_some, gk_sI, gk_sL, gk_sR, gl_sI, gl_sL, gl_sR, gn_sI, gn_sL, gn_sR, gs_sI, gs_sL, gs_sR, gR_sI, gR_sL, gI_sL, gI_sR, gL_sI, gL_sR, bi_ite, bi_01, true_and, and_true]
  unfold rWor at hq
  cases q1 : in9 0 3 l
  · rw [if_neg (by decide)]; rw [q1] at hq; exact hq _ h0
  cases q2 : in9 0 9999 s
  · rw [if_pos rfl, if_neg (by decide)]; rw [q1, q2] at hq; exact hq _ h0
  rw [if_pos rfl, if_pos rfl]
  cases q3 : isKp (dd D) k
  · rw [if_neg (by decide)]; rw [q1, q2, q3] at hq; exact hq _ h0
  cases q4 : in9 0 11 m
  · rw [if_pos rfl, if_neg (by decide)]; rw [q1, q2, q3, q4] at hq; exact hq _ h0
  rw [if_pos rfl, if_pos rfl]
  rw [q1, q2, q3, q4] at hq
  obtain ⟨l, hl, rfl, e1⟩ := in4 q1
  obtain ⟨s, hs, rfl, e2⟩ := in9999 q2
  obtain ⟨k, hk, rfl, h3, e3⟩ := isKp_c q3
  obtain ⟨m, hm, rfl, e4⟩ := in12c q4
  rw [e1, e2, e3, e4] at hq
  refine pX7_runs h0 ok wf hl (seed := s) (by omega) fun M1 h1 w1 => ?_
  rw [pX7_worldHands h1 ok hk hm h3 w1]
  exact ⟨mk268 h1, hq M1 h1⟩
end
/-! fits -/
def fitZ (d : Nat → Nat → Nat → Int32) (t : Nat) : Bool := decide (d 3 (t / 12) 0 = 0) || (decide (t % 12 = 0) || decide (d 5 (t / 12) (t % 12) = -1))
def fitV (d : Nat → Nat → Nat → Int32) (wr : Nat → Nat → Int32 × Int32) (A : Int64) : Nat → Int64
  | 0 => A
  | t + 1 => if fitZ d t = true then fitV d wr A t else fitV d wr A t + (iabs (wHo d wr (t / 12) (t % 12) - hK d (t / 12) (t % 12))).toInt64
def fitS (d : Nat → Nat → Nat → Int32) (W : Nat → Option (List (Int32 × Int32))) : Nat → Int64
  | 0 => 0
  | s + 1 => fitV d (wrl d W s 264).2 (fitS d W s) 288
theorem fitV_s {d : Nat → Nat → Nat → Int32} {wr : Nat → Nat → Int32 × Int32} {A : Int64} {t : Nat} : fitV d wr A (t + 1) = if fitZ d t = true then fitV d wr A t else fitV d wr A t + (iabs (wHo d wr (t / 12) (t % 12) - hK d (t / 12) (t % 12))).toInt64 := rfl
theorem fitZ_km {d : Nat → Nat → Nat → Int32} {k m : Nat} (hm : m < 12) : fitZ d (12 * k + m) = (decide (d 3 k 0 = 0) || (decide (m = 0) || decide (d 5 k m = -1))) := by
  unfold fitZ
  rw [show (12 * k + m) / 12 = k by omega, show (12 * k + m) % 12 = m by omega]
theorem fitV_km {d : Nat → Nat → Nat → Int32} {wr : Nat → Nat → Int32 × Int32} {A : Int64} {k m : Nat} (hm : m < 12) : fitV d wr A (12 * k + (m + 1)) = if (decide (d 3 k 0 = 0) || (decide (m = 0) || decide (d 5 k m = -1))) = true then fitV d wr A (12 * k + m) else fitV d wr A (12 * k + m) + (iabs (wHo d wr k m - hK d k m)).toInt64 := by
  rw [show 12 * k + (m + 1) = 12 * k + m + 1 by omega, fitV_s, fitZ_km hm, show (12 * k + m) / 12 = k by omega, show (12 * k + m) % 12 = m by omega]
theorem fitV_un {d : Nat → Nat → Nat → Int32} {wr : Nat → Nat → Int32 × Int32} {A : Int64} {k : Nat} (h : d 3 k 0 = 0) : ∀ m, m ≤ 12 → fitV d wr A (12 * k + m) = fitV d wr A (12 * k) := by
  intro m
  induction m with
  | zero => intro _; rfl
  | succ m ih => intro hm; rw [fitV_km (by omega), h]; exact ih (by omega)
def rFit (D : gD) (l s : Int32) : Int64 := if (in9 0 3 l && in9 1 20 s) = true then fitS (dd D) (dL D (cl l)) (cl s) else -1
section
variable {N M : gM} {n0 a9 : Nat} {D : gD}
theorem pX1_fitsOf (h : RX N n0 a9 D M) (ok : okD (dd D)) {l s : Nat} (hl : l < 4) (hs : s < 21) {Q : Int64 → gM → Prop} (hq : ∀ M', RX N n0 a9 D M' → Q (fitS (dd D) (dL D l) s) M') : fX1_fitsOf (nI l) (nI s) M Q := by
  unfold fX1_fitsOf
  refine ⟨s + 1, ?_⟩
  refine loopN (T := s) (G := fun n t M => fX1_fitsOf_L5 (fun l3_64 M65 => Q l3_64 M65) (nI l) (nI s) Q n (fitS (dd D) (dL D l) t) (nI t) M) (I := fun t M => RX N n0 a9 D M) (fun n M hI => ?_) (fun n t M ht hI hn => ?_) s 0 M (by omega) h
  · show fX1_fitsOf_L5 _ _ _ _ _ _ _ _
    unfold fX1_fitsOf_L5 fX1_fitsOf_L5s
    rw [if_pos (Int32.le_refl _)]
    exact hq M hI
  obtain ⟨c, hc⟩ := xlw hI hl
  unfold fX1_fitsOf_L5 fX1_fitsOf_L5s
  rw [if_neg (nI_ge ht (by omega : s < 2 ^ 31))]
  simp only [xk16 hI, xk17 hI, xl17 hI, xr0 hI, xr10 hI, xr11 hI, xk28 hI, xk29 hI, xten hI, xby hI, xk16 hI, frx5 hI.1, fk26 hI.1, fl26 hI.1, vp_in_nI hl (N := 4) (by decide), nI_clamp (Nat.lt_trans hl (by decide : 4 < 2 ^ 31)), hc, ← nI_succ, gdr_some, gk_sI, gk_sL, gk_sR, gl_sI, gl_sL, gl_sR, gn_sI, gn_sL, gn_sR, gs_sI, gs_sL, gs_sR, gR_sI, gR_sL, gI_sL, gI_sR, gL_sI, gL_sR, bi_ite, bi_01, true_and, and_true]
  refine pX1_runs hI ok hl hc (seed := t) (by omega) fun M1 h1 _ w1 _ => ?_
  refine ⟨25, ?_⟩
  refine loopN (T := 24) (G := fun n2 k M => fX1_fitsOf_L26 (fun l3_62 M63 => fX1_fitsOf_L5 (fun l3_64 M65 => Q l3_64 M65) (nI l) (nI s) Q n l3_62 (nI (t + 1)) M63) (nI l) (nI s) (nI t) Q n2 (fitV (dd D) (wrl (dd D) (dL D l) t 264).2 (fitS (dd D) (dL D l) t) (12 * k)) (nI k) M) (I := fun k M => RX N n0 a9 D M ∧ wsX D (dL D l) t 264 M) (fun n2 M hI2 => ?_) (fun n2 k M hk hI2 hn2 => ?_) 24 0 M1 rfl ⟨h1, w1⟩
  · show fX1_fitsOf_L26 _ _ _ _ _ _ _ _ _
    unfold fX1_fitsOf_L26 fX1_fitsOf_L26s
    rw [if_pos ge24]
    exact hn M hI2.1
  obtain ⟨h2, w2⟩ := hI2
  have hn2 : fX1_fitsOf_L26 (fun l3_62 M63 => fX1_fitsOf_L5 (fun l3_64 M65 => Q l3_64 M65) (nI l) (nI s) Q n l3_62 (nI (t + 1)) M63) (nI l) (nI s) (nI t) Q n2 (fitV (dd D) (wrl (dd D) (dL D l) t 264).2 (fitS (dd D) (dL D l) t) (12 * k + 12)) (nI (k + 1)) M := hn2 M ⟨h2, w2⟩
  unfold fX1_fitsOf_L26 fX1_fitsOf_L26s
  rw [if_neg (nge24 hk)]
  refine ⟨12, ?_⟩
  have f1 : fitV (dd D) (wrl (dd D) (dL D l) t 264).2 (fitS (dd D) (dL D l) t) (12 * k + 1) = fitV (dd D) (wrl (dd D) (dL D l) t 264).2 (fitS (dd D) (dL D l) t) (12 * k) := by
    have := fitV_km (d := dd D) (wr := (wrl (dd D) (dL D l) t 264).2) (A := fitS (dd D) (dL D l) t) (k := k) (m := 0) (by decide)
    rw [if_pos (by simp)] at this
    exact this
  rw [← f1]
  refine loopN (T := 11) (G := fun n3 m M => fX1_fitsOf_L36 (fun l3_58 M59 => fX1_fitsOf_b106 (fX1_fitsOf_L26 (fun l3_62 M63 => fX1_fitsOf_L5 (fun l3_64 M65 => Q l3_64 M65) (nI l) (nI s) Q n l3_62 (nI (t + 1)) M63) (nI l) (nI s) (nI t) Q n2) (nI l) (nI s) l3_58 (nI t) (nI k) M59 Q) (nI l) (nI s) (nI t) (nI k) Q n3 (fitV (dd D) (wrl (dd D) (dL D l) t 264).2 (fitS (dd D) (dL D l) t) (12 * k + (m + 1))) (nI (m + 1)) M) (I := fun m M' => M' = M) (fun n3 M' hI3 => ?_) (fun n3 m M' hm hI3 hn3 => ?_) 11 0 M rfl rfl
  · subst hI3
    show fX1_fitsOf_L36 _ _ _ _ _ _ _ _ _ _
    unfold fX1_fitsOf_L36 fX1_fitsOf_L36s fX1_fitsOf_b106
    rw [if_pos (by decide), ← nI_succ]
    exact hn2
  subst hI3
  have hm12 : m + 1 < 12 := by omega
  have hn3 := hn3 M' rfl
  unfold fX1_fitsOf_L36 fX1_fitsOf_L36s
  rw [if_neg (nge12 hm12)]
  have fk := fitV_km (d := dd D) (wr := (wrl (dd D) (dL D l) t 264).2) (A := fitS (dd D) (dL D l) t) (k := k) (m := m + 1) hm12
  simp only [xk16 h2, xk17 h2, xl17 h2, xr0 h2, xr10 h2, xr11 h2, xk28 h2, xk29 h2, xten h2, xby h2, kr h2 hk, kk h2 hk, kr5 h2 hk, kr6 h2 hk, kr7 h2 hk, kr8 h2 hk, kr9 h2 hk, kr10 h2 hk, kk5 h2 hk, kk6 h2 hk, kk7 h2 hk, kk8 h2 hk, kk9 h2 hk, kk10 h2 hk, kl5 h2 hk, kl6 h2 hk, kl7 h2 hk, kl8 h2 hk, kl9 h2 hk, kl10 h2 hk, ki0 h2 hk, ki1 h2 hk, ki2 h2 hk, ki3 h2 hk, ki4 h2 hk, vp_in_nI hk (N := 24) (by decide), nI_clamp (Nat.lt_trans hk (by decide : 24 < 2 ^ 31)), pX4_isSilent h2 hk hm12, gdr_some, gk_sI, gk_sL, gk_sR, gl_sI, gl_sL, gl_sR, gn_sI, gn_sL, gn_sR, gs_sI, gs_sL, gs_sR, gR_sI, gR_sL, gI_sL, gI_sR, gL_sI, gL_sR, bi_ite, bi_01, true_and, and_true]
  by_cases e3 : dd D 3 k 0 = 0
  · rw [if_pos e3]
    unfold fX1_fitsOf_b106
    rw [← nI_succ, fitV_un e3 (m + 1) (by omega), ← fitV_un e3 12 (by omega)]
    exact hn2
  rw [if_neg e3]
  simp only [fX1_fitsOf_b100, gdr_some, gk_sI, gk_sL, gk_sR, gl_sI, gl_sL, gl_sR, gn_sI, gn_sL, gn_sR, gs_sI, gs_sL, gs_sR, gR_sI, gR_sL, gI_sL, gI_sR, gL_sI, gL_sR, bi_ite, bi_01, true_and, and_true, ← nI_succ]
  by_cases e5 : dd D 5 k (m + 1) = -1
  · rw [if_pos (by simp [e5])] at fk
    rw [if_pos (by simp [e5]), ← fk]
    exact hn3
  · rw [if_neg (by simp [e3, e5])] at fk
    rw [if_neg (by simp [e5])]
    rw [pX1_worldHands h2 hk hm12 e3 w2]
    simp only [pX1_handsOf h2 hk hm12, pJ0_abs_2, fX1_fitsOf_b100, xk16 h2, xk17 h2, xl17 h2, xr0 h2, xr10 h2, xr11 h2, xk28 h2, xk29 h2, xten h2, xby h2, kr h2 hk, kk h2 hk, kr5 h2 hk, kr6 h2 hk, kr7 h2 hk, kr8 h2 hk, kr9 h2 hk, kr10 h2 hk, kk5 h2 hk, kk6 h2 hk, kk7 h2 hk, kk8 h2 hk, kk9 h2 hk, kk10 h2 hk, kl5 h2 hk, kl6 h2 hk, kl7 h2 hk, kl8 h2 hk, kl9 h2 hk, kl10 h2 hk, ki0 h2 hk, ki1 h2 hk, ki2 h2 hk, ki3 h2 hk, ki4 h2 hk, vp_in_nI hk (N := 24) (by decide), nI_clamp (Nat.lt_trans hk (by decide : 24 < 2 ^ 31)), gdr_some, gk_sI, gk_sL, gk_sR, gl_sI, gl_sL, gl_sR, gn_sI, gn_sL, gn_sR, gs_sI, gs_sL, gs_sR, gR_sI, gR_sL, gI_sL, gI_sR, gL_sI, gL_sR, bi_ite, bi_01, true_and, and_true, ← nI_succ]
    simp only [wHo] at fk
    rw [← fk]
    exact hn3
theorem pX1_fits (h : RX N n0 a9 D M) (ok : okD (dd D)) {l s : Int32} {Q : Int64 → gM → Prop} (hq : ∀ M', RX N n0 a9 D M' → Q (rFit D l s) M') : fX1_fits l s M Q := by
  unfold fX1_fits fX1_fits_b26
  simp only [pX1_isLaw, pX1_in, gdr_some, gk_sI, gk_sL, gk_sR, gl_sI, gl_sL, gl_sR, gn_sI, gn_sL, gn_sR, gs_sI, gs_sL, gs_sR, gR_sI, gR_sL, gI_sL, gI_sR, gL_sI, gL_sR, bi_ite, bi_01, true_and, and_true]
  unfold rFit at hq
  cases q1 : in9 0 3 l
  · rw [if_neg (by decide)]; rw [q1] at hq; exact hq M h
  cases q2 : in9 1 20 s
  · rw [if_pos rfl, if_neg (by decide)]; rw [q1, q2] at hq; exact hq M h
  rw [q1, q2] at hq
  obtain ⟨l, hl, rfl, e1⟩ := in4 q1
  obtain ⟨s, hs, hs1, rfl, e2⟩ := in20 q2
  rw [e1, e2] at hq
  rw [if_pos rfl, if_pos rfl]
  exact ⟨xk16 h, pX1_fitsOf h ok hl hs fun M' h' => hq M' h'⟩
end
section
variable {N M : gM} {D : gD}
theorem pX7_fitOf (h : RM N D M) (ok : okD (dd D)) (wf : wfD D) {l s : Nat} (hl : l < 4) (hs : s < 21) {Q : Int64 → gM → Prop} (hq : ∀ M', RM N D M' → Q (fitS (dd D) (dL D l) s) M') : fX7_fitOf (nI l) (nI s) M Q := by
  unfold fX7_fitOf
  refine ⟨s + 1, ?_⟩
  refine loopN (T := s) (G := fun n t M => fX7_fitOf_L5 (fun l3_64 M65 => Q l3_64 M65) (nI l) (nI s) Q n (fitS (dd D) (dL D l) t) (nI t) M) (I := fun t M => RM N D M) (fun n M hI => ?_) (fun n t M ht hI hn => ?_) s 0 M (by omega) h
  · show fX7_fitOf_L5 _ _ _ _ _ _ _ _
    unfold fX7_fitOf_L5 fX7_fitOf_L5s
    rw [if_pos (Int32.le_refl _)]
    exact hq M hI
  unfold fX7_fitOf_L5 fX7_fitOf_L5s
  rw [if_neg (nI_ge ht (by omega : s < 2 ^ 31))]
  simp only [← nI_succ]
  refine ⟨mk268 hI, ?_⟩
  refine pX7_runs hI ok wf hl (seed := t) (by omega) fun M1 h1 w1 => ?_
  refine ⟨289, ?_⟩
  refine loopN (T := 288) (G := fun n2 t2 M => fX7_fitOf_L21 (fun l3_62 M63 => fX7_fitOf_L5 (fun l3_64 M65 => Q l3_64 M65) (nI l) (nI s) Q n l3_62 (nI (t + 1)) M63) (nI l) (nI s) (nI t) Q n2 (fitV (dd D) (wrl (dd D) (dL D l) t 264).2 (fitS (dd D) (dL D l) t) t2) (nI t2) M) (I := fun t2 M => RM N D M ∧ wsM D (dL D l) t 264 M) (fun n2 M hI2 => ?_) (fun n2 t2 M hk hI2 hn2 => ?_) 288 0 M1 rfl ⟨h1, w1⟩
  · show fX7_fitOf_L21 _ _ _ _ _ _ _ _ _
    unfold fX7_fitOf_L21 fX7_fitOf_L21s
    rw [if_pos (by decide)]
    exact hn M hI2.1
  have hn2 := hn2 M hI2
  obtain ⟨h2, w2⟩ := hI2
  obtain ⟨k, m, hk24, hm, rfl⟩ : ∃ k m : Nat, k < 24 ∧ m < 12 ∧ t2 = 12 * k + m := ⟨t2 / 12, t2 % 12, by omega, by omega, by omega⟩
  have d1 : nI (12 * k + m) / 12 = nI k := by
    have : nI (12 * k + m) / 12 = nI ((12 * k + m) / 12) := pk_div (a := 12 * k + m) (d := 12) (by omega) (by decide) (by decide)
    rw [this, show (12 * k + m) / 12 = k by omega]
  have d2 : nI (12 * k + m) - nI k * 12 = nI m := by
    have : nI (12 * k + m) - nI (12 * k + m) / 12 * 12 = nI ((12 * k + m) % 12) := pk_rem (a := 12 * k + m) (d := 12) (by omega) (by decide) (by decide)
    rw [d1] at this
    rw [this, show (12 * k + m) % 12 = m by omega]
  have d3 : (nI m ≤ 0) = (m = 0) := by
    apply propext
    rw [Int32.le_iff_toInt_le, nI_toInt (by omega)]
    have : (0 : Int32).toInt = 0 := rfl
    omega
  unfold fX7_fitOf_L21 fX7_fitOf_L21s
  rw [if_neg (show ¬ (288 : Int32) ≤ nI (12 * k + m) from nI_ge (b := 288) hk (by decide))]
  have fk := fitV_km (d := dd D) (wr := (wrl (dd D) (dL D l) t 264).2) (A := fitS (dd D) (dL D l) t) (k := k) (m := m) hm
  rw [show 12 * k + m + 1 = 12 * k + (m + 1) by omega] at hn2
  simp only [d1, d2, d3, mk268 h2, frm10 h2.1, fk274 h2.1, fl274 h2.1, frm18 h2.1, fk281 h2.1, fl281 h2.1, vp_in_nI hk24 (N := 24) (by decide), nI_clamp (Nat.lt_trans hk24 (by decide : 24 < 2 ^ 31)), vp_in_nI hk (N := 288) (by decide), nI_clamp (Nat.lt_trans hk (by decide : 288 < 2 ^ 31)), mK h2 hk24, mKM h2 hk24 hm, stM_0, gdr_some, gk_sI, gk_sL, gk_sR, gl_sI, gl_sL, gl_sR, gn_sI, gn_sL, gn_sR, gs_sI, gs_sL, gs_sR, gR_sI, gR_sL, gI_sL, gI_sR, gL_sI, gL_sR, bi_ite, bi_01, true_and, and_true, fX7_fitOf_b109, fX7_fitOf_b107, ← nI_succ]
  by_cases e3 : dd D 3 k 0 = 0
  · rw [if_pos e3]
    rw [if_pos (by simp [e3])] at fk
    rw [← fk]
    exact hn2
  rw [if_neg e3]
  by_cases em : m = 0
  · rw [if_pos em]
    rw [if_pos (by simp [em])] at fk
    rw [← fk]
    exact hn2
  rw [if_neg em]
  by_cases e5 : dd D 5 k m = -1
  · rw [if_pos e5]
    rw [if_pos (by simp [e5])] at fk
    rw [← fk]
    exact hn2
  rw [if_neg e5]
  rw [if_neg (by simp [e3, e5, em])] at fk
  rw [pX7_worldHands h2 ok hk24 hm e3 w2]
  simp only [pX7_handsOf h2 ok hk24 hm, mk268 h2, gdr_some, gk_sI, gk_sL, gk_sR, gl_sI, gl_sL, gl_sR, gn_sI, gn_sL, gn_sR, gs_sI, gs_sL, gs_sR, gR_sI, gR_sL, gI_sL, gI_sR, gL_sI, gL_sR, bi_ite, bi_01, true_and, and_true]
  rw [show hOf (dd D 13 0 1) ((wrl (dd D) (dL D l) t 264).2 k m).1 ((wrl (dd D) (dL D l) t 264).2 k m).2 = wHo (dd D) (wrl (dd D) (dL D l) t 264).2 k m from rfl]
  generalize wHo (dd D) (wrl (dd D) (dL D l) t 264).2 k m - hK (dd D) k m = z at fk ⊢
  by_cases e9 : 0 ≤ z
  · rw [if_pos e9]
    rw [show iabs z = z from if_pos e9] at fk
    rw [← fk]
    exact hn2
  · rw [if_neg e9]
    rw [show iabs z = -z from if_neg e9] at fk
    rw [← fk]
    exact hn2
theorem pX7_fits (h : RM N D M) (ok : okD (dd D)) (wf : wfD D) {l s : Int32} {Q : Int64 → gM → Prop} (hq : ∀ M', RM N D M' → Q (rFit D l s) M') : fX7_fits l s M Q := by
  have h0 : RM N D (gsI M 268 0 0) := h.thr9
  unfold fX7_fits fX7_fits_b30
  simp only [mk268 h, mk268 h0, pX7_within, pX7_areSeeds, gdr_some, gk_sI, gk_sL, gk_sR, gl_sI, gl_sL, gl_sR, gn_sI, gn_sL, gn_sR, gs_sI, gs_sL, gs_sR, gR_sI, gR_sL, gI_sL, gI_sR, gL_sI, gL_sR, bi_ite, bi_01, true_and, and_true]
  unfold rFit at hq
  cases q1 : in9 0 3 l
  · rw [if_neg (by decide)]; rw [q1] at hq; exact hq _ h0
  cases q2 : in9 1 20 s
  · rw [if_pos rfl, if_neg (by decide)]; rw [q1, q2] at hq; exact hq _ h0
  rw [q1, q2] at hq
  obtain ⟨l, hl, rfl, e1⟩ := in4 q1
  obtain ⟨s, hs, hs1, rfl, e2⟩ := in20 q2
  rw [e1, e2] at hq
  rw [if_pos rfl, if_pos rfl]
  exact pX7_fitOf h0 ok wf hl hs fun M' h' => hq M' h'
end
/-! best -/
def besT (d : Nat → Nat → Nat → Int32) (W : Nat → Nat → Option (List (Int32 × Int32))) (s : Nat) : Nat → Nat
  | 0 => 0
  | t + 1 => if fitS d (W (besT d W s t)) s ≤ fitS d (W (t + 1)) s then besT d W s t else t + 1
theorem besT_s {d : Nat → Nat → Nat → Int32} {W : Nat → Nat → Option (List (Int32 × Int32))} {s t : Nat} : besT d W s (t + 1) = if fitS d (W (besT d W s t)) s ≤ fitS d (W (t + 1)) s then besT d W s t else t + 1 := rfl
theorem besT_le {d : Nat → Nat → Nat → Int32} {W : Nat → Nat → Option (List (Int32 × Int32))} {s : Nat} : ∀ t, besT d W s t ≤ t := by
  intro t
  induction t with
  | zero => exact Nat.le_refl _
  | succ t ih => rw [besT_s]; split <;> omega
def rBes (D : gD) (s : Int32) : Int32 := if in9 1 20 s = true then nI (besT (dd D) (dL D) (cl s) 3) else -1
theorem pX1_best {N M : gM} {n0 a9 : Nat} {D : gD} (h : RX N n0 a9 D M) (ok : okD (dd D)) {s : Int32} {Q : Int32 → gM → Prop} (hq : ∀ M', RX N n0 a9 D M' → Q (rBes D s) M') : fX1_best s M Q := by
  unfold fX1_best
  simp only [pX1_in, gdr_some, gk_sI, gk_sL, gk_sR, gl_sI, gl_sL, gl_sR, gn_sI, gn_sL, gn_sR, gs_sI, gs_sL, gs_sR, gR_sI, gR_sL, gI_sL, gI_sR, gL_sI, gL_sR, bi_ite, bi_01, true_and, and_true]
  unfold rBes at hq
  cases q2 : in9 1 20 s
  · rw [if_neg (by decide)]; rw [q2] at hq; exact hq M h
  rw [q2] at hq
  obtain ⟨s, hs, hs1, rfl, e2⟩ := in20 q2
  rw [e2] at hq
  rw [if_pos rfl]
  refine ⟨4, ?_⟩
  refine loopN (T := 3) (G := fun n t M => fX1_best_L16 (fun l2_17 M18 => Q l2_17 M18) (nI s) Q n (nI (besT (dd D) (dL D) s t)) (nI (t + 1)) M) (I := fun t M => RX N n0 a9 D M) (fun n M hI => ?_) (fun n t M ht hI hn => ?_) 3 0 M rfl h
  · show fX1_best_L16 _ _ _ _ _ _ _
    unfold fX1_best_L16 fX1_best_L16s
    rw [if_pos (by decide)]
    exact hq M hI
  have hb : besT (dd D) (dL D) s t < 4 := Nat.lt_of_le_of_lt (besT_le t) (by omega)
  unfold fX1_best_L16 fX1_best_L16s
  rw [if_neg (show ¬ (4 : Int32) ≤ nI (t + 1) from nI_ge (a := t + 1) (b := 4) (by omega) (by decide))]
  refine ⟨xk16 hI, pX1_fitsOf hI ok (l := t + 1) (by omega) hs fun M1 h1 => ⟨xk16 h1, pX1_fitsOf h1 ok hb hs fun M2 h2 => ?_⟩⟩
  have hn := hn M2 h2
  rw [besT_s] at hn
  unfold fX1_best_b39
  rw [← nI_succ]
  by_cases e : fitS (dd D) (dL D (besT (dd D) (dL D) s t)) s ≤ fitS (dd D) (dL D (t + 1)) s
  · rw [if_pos e] at hn
    rw [if_pos ((lg_cmp_ge _ _).mpr e)]
    exact hn
  · rw [if_neg e] at hn
    rw [if_neg fun q => e ((lg_cmp_ge _ _).mp q)]
    exact hn
theorem pX7_best {N M : gM} {D : gD} (h : RM N D M) (ok : okD (dd D)) (wf : wfD D) {s : Int32} {Q : Int32 → gM → Prop} (hq : ∀ M', RM N D M' → Q (rBes D s) M') : fX7_best s M Q := by
  have h0 : RM N D (gsI M 268 0 0) := h.thr9
  unfold fX7_best
  simp only [mk268 h, mk268 h0, pX7_areSeeds, gdr_some, gk_sI, gk_sL, gk_sR, gl_sI, gl_sL, gl_sR, gn_sI, gn_sL, gn_sR, gs_sI, gs_sL, gs_sR, gR_sI, gR_sL, gI_sL, gI_sR, gL_sI, gL_sR, bi_ite, bi_01, true_and, and_true]
  unfold rBes at hq
  cases q2 : in9 1 20 s
  · rw [if_neg (by decide)]; rw [q2] at hq; exact hq _ h0
  rw [q2] at hq
  obtain ⟨s, hs, hs1, rfl, e2⟩ := in20 q2
  rw [e2] at hq
  rw [if_pos rfl]
  show fX7_fitOf (nI 0) (nI s) _ _
  refine pX7_fitOf h0 ok wf (l := 0) (by decide) hs fun M1 h1 => ?_
  refine ⟨4, ?_⟩
  refine loopN (T := 3) (G := fun n t M => fX7_best_L26 (fun l2_17 M18 => Q l2_17 M18) (nI s) Q n (nI (besT (dd D) (dL D) s t)) (fitS (dd D) (dL D (besT (dd D) (dL D) s t)) s) (nI (t + 1)) M) (I := fun t M => RM N D M) (fun n M hI => ?_) (fun n t M ht hI hn => ?_) 3 0 M1 rfl h1
  · show fX7_best_L26 _ _ _ _ _ _ _ _
    unfold fX7_best_L26 fX7_best_L26s
    rw [if_pos (by decide)]
    exact hq M hI
  unfold fX7_best_L26 fX7_best_L26s
  rw [if_neg (show ¬ (4 : Int32) ≤ nI (t + 1) from nI_ge (a := t + 1) (b := 4) (by omega) (by decide))]
  refine ⟨mk268 hI, pX7_fitOf hI ok wf (l := t + 1) (by omega) hs fun M2 h2 => ?_⟩
  have hn := hn M2 h2
  rw [besT_s] at hn
  unfold fX7_best_b54
  rw [← nI_succ]
  by_cases e : fitS (dd D) (dL D (besT (dd D) (dL D) s t)) s ≤ fitS (dd D) (dL D (t + 1)) s
  · rw [if_pos e] at hn
    rw [if_pos ((lg_cmp_ge _ _).mpr e)]
    exact hn
  · rw [if_neg e] at hn
    rw [if_neg fun q => e ((lg_cmp_ge _ _).mp q)]
    exact hn
/-! op rivers of a world -/
set_option maxRecDepth 100000
def wCh (d : Nat → Nat → Nat → Int32) (wr : Nat → Nat → Int32 × Int32) (b a k : Nat) : Int64 := (wHo d wr k a - wHo d wr k b).toInt64
def sgR (x : Int64) : Nat := if x < 0 then 0 else if x = 0 then 1 else 2
def wUp (d : Nat → Nat → Nat → Int32) (W : Nat → Option (List (Int32 × Int32))) (b a s : Nat) : Int64 := upR (cnW d b a (-1)) (fs0 d) (wCh d (wrl d W s 264).2 b a)
def rvN (d : Nat → Nat → Nat → Int32) (W : Nat → Option (List (Int32 × Int32))) (b a p : Nat) : Nat → Nat
  | 0 => 0
  | s + 1 => if sgR (wUp d W b a s) = p then rvN d W b a p s + 1 else rvN d W b a p s
theorem rvN_s {d : Nat → Nat → Nat → Int32} {W : Nat → Option (List (Int32 × Int32))} {b a p s : Nat} : rvN d W b a p (s + 1) = if sgR (wUp d W b a s) = p then rvN d W b a p s + 1 else rvN d W b a p s := rfl
def rRi2 (D : gD) (l s b a p : Int32) : Int32 := if (in9 0 3 l && in9 1 20 s && arM b a && in9 0 2 p) = true then (if thr (cnW (dd D) (cl b) (cl a) (-1)) (fs0 (dd D)) = true then nI (rvN (dd D) (dL D (cl l)) (cl b) (cl a) (cl p) (cl s)) else -1) else -1
theorem wCh_b {d : Nat → Nat → Nat → Int32} {wr : Nat → Nat → Int32 × Int32} {b a : Nat} : ∀ k, k < 24 → -(2147483648 : Int) ≤ (wCh d wr b a k).toInt ∧ (wCh d wr b a k).toInt ≤ 2147483648 := by
  intro k _
  unfold wCh
  rw [Int32.toInt_toInt64]
  have h1 := Int32.le_toInt (wHo d wr k a - wHo d wr k b)
  have h2 := Int32.toInt_lt (wHo d wr k a - wHo d wr k b)
  omega
theorem wUp_b {d : Nat → Nat → Nat → Int32} {W : Nat → Option (List (Int32 × Int32))} {b a s : Nat} : -(2 ^ 62) ≤ (wUp d W b a s).toInt ∧ (wUp d W b a s).toInt ≤ 2 ^ 62 := by
  have := upR_b (sel := cnW d b a (-1)) (fst := fs0 d) (v := wCh d (wrl d W s 264).2 b a) (B := 2147483648) (by decide) (by decide) wCh_b
  unfold wUp
  omega
theorem sgR_x {x : Int64} : 1 + sg3 x.toInt = nI (sgR x) := by
  unfold sg3 sgR
  by_cases c : x < 0
  · rw [if_pos c, if_pos (by rw [Int64.lt_iff_toInt_lt] at c; exact c)]; rfl
  · rw [if_neg c, if_neg (by rw [Int64.lt_iff_toInt_lt] at c; exact c)]
    by_cases c2 : x = 0
    · rw [if_pos c2, if_pos (by rw [c2]; rfl)]; rfl
    · rw [if_neg c2, if_neg (show ¬ x.toInt = 0 from fun q => c2 (Int64.toInt_inj.mp q))]; rfl
theorem sgR_lt {x : Int64} : sgR x < 3 := by unfold sgR; split; omega; split <;> omega
theorem cnt_3 {d : Nat → Nat → Nat → Int32} {k b a : Nat} (h : cnt d k b a = true) : d 3 k 0 ≠ 0 := by
  unfold cnt at h
  simp only [Bool.and_eq_true, decide_eq_true_eq] at h
  exact h.1.1
theorem cnW_m1 {d : Nat → Nat → Nat → Int32} {k b a : Nat} (hk : k < 24) : cnW d b a (-1) k = cnt d k b a := by
  unfold cnW
  have : nI k ≠ -1 := fun q => by
    have := congrArg Int32.toInt q
    rw [nI_toInt (by omega)] at this
    have e : (-1 : Int32).toInt = -1 := rfl
    omega
  simp [this]
section
variable {N M : gM} {n0 a9 : Nat} {D : gD} {sel fst : Nat → Bool} {v : Nat → Int64} {n : Nat}
def fr28 (M M' : gM) : Prop := (∀ c q, c ≠ 28 → c ≠ 29 → gI M' c q = gI M c q) ∧ ∀ c, gk M' c = gk M c ∧ gl M' c = gl M c
theorem fr28.trans {M M' M2 : gM} (h1 : fr28 M M') (h2 : fr28 M' M2) : fr28 M M2 := ⟨fun c q a b => (h2.1 c q a b).trans (h1.1 c q a b), fun c => ⟨(h2.2 c).1.trans (h1.2 c).1, (h2.2 c).2.trans (h1.2 c).2⟩⟩
theorem pX1_beginsF (h : RX N n0 a9 D M) (sel fst : Nat → Bool) (v : Nat → Int64) {Q : gM → Prop} (hq : ∀ M', RX N n0 a9 D M' → mns sel fst v 0 M' → fr28 M M' → Q M') : fX1_begins M Q := by
  unfold fX1_begins fX3_begin
  simp only [xk16 h, xk17 h, xl17 h, xr0 h, xr10 h, xr11 h, xk28 h, xk29 h, xten h, xby h, gdr_some, gk_sI, gk_sL, gk_sR, gl_sI, gl_sL, gl_sR, gn_sI, gn_sL, gn_sR, gs_sI, gs_sL, gs_sR, gR_sI, gR_sL, gI_sL, gI_sR, gL_sI, gL_sR, bi_ite, bi_01, true_and, and_true]
  refine hq _ h.s28.s29 ⟨?_, ?_, ?_, ?_⟩ ⟨fun c q c1 c2 => ?_, fun c => ⟨rfl, rfl⟩⟩
  all_goals first | rfl | skip
  rw [gI_sI, if_neg (by omega), gI_sL, gI_sI, if_neg (by omega), gI_sL]
theorem mns_tF (h : RX N n0 a9 D M) (hm : mns sel fst v n M) (hs : sel n = true) (p : Int32) (hp : fst n = decide (p = 0)) {Q : gM → Prop} (hq : ∀ M', RX N n0 a9 D M' → mns sel fst v (n + 1) M' → fr28 M M' → Q M') : (if p = 0 then fX3_adds 28 (v n) M Q else fX3_adds 29 (v n) M Q) := by
  obtain ⟨h1, h2, h3, h4⟩ := hm
  unfold fX3_adds
  simp only [xk16 h, xk17 h, xl17 h, xr0 h, xr10 h, xr11 h, xk28 h, xk29 h, xten h, xby h, gdr_some, gk_sI, gk_sL, gk_sR, gl_sI, gl_sL, gl_sR, gn_sI, gn_sL, gn_sR, gs_sI, gs_sL, gs_sR, gR_sI, gR_sL, gI_sL, gI_sR, gL_sI, gL_sR, bi_ite, bi_01, true_and, and_true]
  by_cases e : p = 0
  · rw [if_pos e]
    have hf : fst n = true := by rw [hp]; simp [e]
    refine hq _ h.s28 ⟨?_, ?_, ?_, ?_⟩ ⟨fun c q c1 c2 => ?_, fun c => ⟨rfl, rfl⟩⟩
    · simp [cs, hs, hf, gL_sI, gL_sL, h1]
    · simp [cn, hs, hf, gI_sI, gI_sL, h2, nI_succ]
    · simp [cs, hs, hf, gL_sI, gL_sL, h3]
    · simp [cn, hs, hf, gI_sI, gI_sL, h4]
    · rw [gI_sI, if_neg (by omega), gI_sL]
  · rw [if_neg e]
    have hf : fst n = false := by rw [hp]; simp [e]
    refine hq _ h.s29 ⟨?_, ?_, ?_, ?_⟩ ⟨fun c q c1 c2 => ?_, fun c => ⟨rfl, rfl⟩⟩
    · simp [cs, hs, hf, gL_sI, gL_sL, h1]
    · simp [cn, hs, hf, gI_sI, gI_sL, h2]
    · simp [cs, hs, hf, gL_sI, gL_sL, h3]
    · simp [cn, hs, hf, gI_sI, gI_sL, h4, nI_succ]
    · rw [gI_sI, if_neg (by omega), gI_sL]
theorem wsX_28 {W : Nat → Option (List (Int32 × Int32))} {seed t : Nat} {M' : gM} (h : wsX D W seed t M) (f : fr28 M M') : wsX D W seed t M' := fun k m hk hm h12 => by
  rw [f.1 _ _ (by omega) (by omega), f.1 _ _ (by omega) (by omega)]
  exact h k m hk hm h12
end
section
variable {N M : gM} {n0 a9 : Nat} {D : gD}
/-- x's sums over one world -/
theorem rv2_x (h : RX N n0 a9 D M) {W : Nat → Option (List (Int32 × Int32))} {l s p : Int32} {u : Int32} {c9 b a t : Nat} (hb : b < 12) (ha : a < 12) (w : wsX D W t 264 M) (m : mns (cnW (dd D) b a (-1)) (fs0 (dd D)) (wCh (dd D) (wrl (dd D) W t 264).2 b a) 0 M) {K : gM → Prop} {Q : Int32 → gM → Prop} (hK : ∀ M', RX N n0 a9 D M' → mns (cnW (dd D) b a (-1)) (fs0 (dd D)) (wCh (dd D) (wrl (dd D) W t 264).2 b a) 24 M' → fr28 M M' → K M') : fX1_rivers_2_L82 K l s (nI b) (nI a) p c9 u Q 25 0 M := by
  refine loop24 (F := fun n k M => fX1_rivers_2_L82 K l s (nI b) (nI a) p c9 u Q n k M) (I := fun k M' => RX N n0 a9 D M' ∧ mns (cnW (dd D) b a (-1)) (fs0 (dd D)) (wCh (dd D) (wrl (dd D) W t 264).2 b a) k M' ∧ fr28 M M') (fun n M' hI => ?_) (fun n k M' hk hI hn => ?_) 24 0 M rfl ⟨h, m, ⟨fun _ _ _ _ => rfl, fun _ => ⟨rfl, rfl⟩⟩⟩
  · show fX1_rivers_2_L82 _ _ _ _ _ _ _ _ _ _ _ _
    unfold fX1_rivers_2_L82 fX1_rivers_2_L82s
    rw [if_pos ge24]
    exact hK M' hI.1 hI.2.1 hI.2.2
  · obtain ⟨h2, m2, f2⟩ := hI
    have w2 := wsX_28 w f2
    show fX1_rivers_2_L82 _ _ _ _ _ _ _ _ _ _ _ _
    unfold fX1_rivers_2_L82 fX1_rivers_2_L82s
    rw [if_neg (nge24 hk)]
    simp only [xk16 h2, xk17 h2, xl17 h2, xr0 h2, xr10 h2, xr11 h2, xk28 h2, xk29 h2, xten h2, xby h2, kr h2 hk, kk h2 hk, kr5 h2 hk, kr6 h2 hk, kr7 h2 hk, kr8 h2 hk, kr9 h2 hk, kr10 h2 hk, kk5 h2 hk, kk6 h2 hk, kk7 h2 hk, kk8 h2 hk, kk9 h2 hk, kk10 h2 hk, kl5 h2 hk, kl6 h2 hk, kl7 h2 hk, kl8 h2 hk, kl9 h2 hk, kl10 h2 hk, ki0 h2 hk, ki1 h2 hk, ki2 h2 hk, ki3 h2 hk, ki4 h2 hk, vp_in_nI hk (N := 24) (by decide), nI_clamp (Nat.lt_trans hk (by decide : 24 < 2 ^ 31)), pX4_isCounted h2 hk hb ha, fX1_rivers_2_b139, ← nI_succ, gdr_some, gk_sI, gk_sL, gk_sR, gl_sI, gl_sL, gl_sR, gn_sI, gn_sL, gn_sR, gs_sI, gs_sL, gs_sR, gR_sI, gR_sL, gI_sL, gI_sR, gL_sI, gL_sR, bi_ite, bi_01, true_and, and_true]
    cases e : cnt (dd D) k b a
    · rw [if_neg (by decide)]
      exact hn M' ⟨h2, mns_f m2 (by rw [cnW_m1 hk]; exact e), f2⟩
    · rw [if_pos rfl]
      rw [pX1_of h2]
      have e3 := cnt_3 e
      simp only [pX1_worldHands h2 hk ha e3 w2, pX1_worldHands h2 hk hb e3 w2, xk16 h2, xk17 h2, xl17 h2, xr0 h2, xr10 h2, xr11 h2, xk28 h2, xk29 h2, xten h2, xby h2, gdr_some, gk_sI, gk_sL, gk_sR, gl_sI, gl_sL, gl_sR, gn_sI, gn_sL, gn_sR, gs_sI, gs_sL, gs_sR, gR_sI, gR_sL, gI_sL, gI_sR, gL_sI, gL_sR, bi_ite, bi_01, true_and, and_true]
      refine mns_tF h2 m2 (by rw [cnW_m1 hk]; exact e) (dd D 0 k 0) rfl fun M3 h3 m3 f3 => ?_
      exact hn M3 ⟨h3, m3, f2.trans f3⟩
theorem pX1_rivers_2 (h : RX N n0 a9 D M) (ok : okD (dd D)) (h9 : 4 ≤ a9) {l s b a p : Int32} {Q : Int32 → gM → Prop} (hq : ∀ M', RX N n0 (a9 - 4) D M' → Q (rRi2 D l s b a p) M') : fX1_rivers_2 l s b a p M Q := by
  unfold fX1_rivers_2
  simp only [pX1_isLaw, pX1_in, pX1_areMonths, gdr_some, gk_sI, gk_sL, gk_sR, gl_sI, gl_sL, gl_sR, gn_sI, gn_sL, gn_sR, gs_sI, gs_sL, gs_sR, gR_sI, gR_sL, gI_sL, gI_sR, gL_sI, gL_sR, bi_ite, bi_01, true_and, and_true]
  unfold rRi2 at hq
  have hl : RX N n0 (a9 - 4) D M := h.less (by omega)
  cases q1 : in9 0 3 l
  · rw [if_neg (by decide)]; rw [q1] at hq; exact hq M hl
  cases q2 : in9 1 20 s
  · rw [if_pos rfl, if_neg (by decide)]; rw [q1, q2] at hq; exact hq M hl
  cases q3 : arM b a
  · rw [if_pos rfl, if_pos rfl, if_neg (by decide)]; rw [q1, q2, q3] at hq; exact hq M hl
  cases q4 : in9 0 2 p
  · rw [if_pos rfl, if_pos rfl, if_pos rfl, if_neg (by decide)]; rw [q1, q2, q3, q4] at hq; exact hq M hl
  rw [q1, q2, q3, q4] at hq
  obtain ⟨l, hl, rfl, e1⟩ := in4 q1
  obtain ⟨s, hs, hs1, rfl, e2⟩ := in20 q2
  obtain ⟨b, a, hb, ha, -, rfl, rfl⟩ := arM_n q3
  obtain ⟨p, hp, rfl⟩ := in9_nI (n := 2) rfl (by decide) q4
  rw [e1, e2, cl_nI (by omega), cl_nI (by omega), cl_nI (by omega)] at hq
  rw [if_pos rfl, if_pos rfl, if_pos rfl, if_pos rfl]
  simp only [xk16 h, xk17 h, xl17 h, xr0 h, xr10 h, xr11 h, xk28 h, xk29 h, xten h, xby h, gdr_some, gk_sI, gk_sL, gk_sR, gl_sI, gl_sL, gl_sR, gn_sI, gn_sL, gn_sR, gs_sI, gs_sL, gs_sR, gR_sI, gR_sL, gI_sL, gI_sR, gL_sI, gL_sR, bi_ite, bi_01, true_and, and_true]
  refine pX1_rivers h hb ha fun M1 h1 m1 => ?_
  cases q5 : thr (cnW (dd D) b a (-1)) (fs0 (dd D))
  · rw [if_pos (by decide)]; rw [q5] at hq; exact hq M1 (h1.less (by omega))
  rw [q5] at hq
  rw [if_neg (by decide)]
  obtain ⟨u1, u2, u3, u4⟩ := h1.2.1
  refine ⟨by omega, by omega, s + 1, ?_⟩
  generalize ec : gn M1 = c
  have hc : 312 ≤ c ∧ n0 ≤ c := by omega
  have h2 : RX N n0 (a9 - 4) D (gnew M1 40 3 3) := h1.new (by omega) (by omega)
  refine loopN (T := s) (G := fun n t M => fX1_rivers_2_L57 (fun M82 => gk M82 c = 40 ∧ vp_in (nI p) (gl M82 c) ∧ Q (gI M82 c (nI p).toNatClampNeg) M82) (nI l) (nI s) (nI b) (nI a) (nI p) c Q n (nI t) M) (I := fun t M => RX N n0 (a9 - 4) D M ∧ gk M c = 40 ∧ gl M c = 3 ∧ ∀ j : Nat, j < 3 → gI M c j = nI (rvN (dd D) (dL D l) b a j t)) (fun n M hI => ?_) (fun n t M ht hI hn => ?_) s 0 _ (by omega) ⟨h2, ?_, ?_, fun j hj => ?_⟩
  · obtain ⟨i1, i2, i3, i4⟩ := hI
    show fX1_rivers_2_L57 _ _ _ _ _ _ _ _ _ _ _
    unfold fX1_rivers_2_L57 fX1_rivers_2_L57s
    rw [if_pos (Int32.le_refl _)]
    show gk M c = 40 ∧ vp_in (nI p) (gl M c) ∧ Q (gI M c (nI p).toNatClampNeg) M
    have hp3 : p < 3 := by omega
    simp only [i2, i3, i4 p hp3, vp_in_nI hp3 (N := 3) (by decide), nI_clamp (Nat.lt_trans hp3 (by decide : 3 < 2 ^ 31)), gdr_some, gk_sI, gk_sL, gk_sR, gl_sI, gl_sL, gl_sR, gn_sI, gn_sL, gn_sR, gs_sI, gs_sL, gs_sR, gR_sI, gR_sL, gI_sL, gI_sR, gL_sI, gL_sR, bi_ite, bi_01, true_and, and_true]
    exact hq M i1
  · obtain ⟨i1, i2, i3, i4⟩ := hI
    obtain ⟨cc, hcc⟩ := xlw i1 hl
    show fX1_rivers_2_L57 _ _ _ _ _ _ _ _ _ _ _
    unfold fX1_rivers_2_L57 fX1_rivers_2_L57s
    rw [if_neg (nI_ge ht (by omega : s < 2 ^ 31))]
    simp only [xk16 i1, xk17 i1, xl17 i1, xr0 i1, xr10 i1, xr11 i1, xk28 i1, xk29 i1, xten i1, xby i1, xk16 i1, frx5 i1.1, fk26 i1.1, fl26 i1.1, vp_in_nI hl (N := 4) (by decide), nI_clamp (Nat.lt_trans hl (by decide : 4 < 2 ^ 31)), hcc, gdr_some, gk_sI, gk_sL, gk_sR, gl_sI, gl_sL, gl_sR, gn_sI, gn_sL, gn_sR, gs_sI, gs_sL, gs_sR, gR_sI, gR_sL, gI_sL, gI_sR, gL_sI, gL_sR, bi_ite, bi_01, true_and, and_true]
    refine pX1_runs i1 ok hl hcc (seed := t) (by omega) fun M3 h3 _ w3 f3 => ?_
    refine ⟨xk16 h3, ?_⟩
    refine pX1_beginsF h3 (cnW (dd D) b a (-1)) (fs0 (dd D)) (wCh (dd D) (wrl (dd D) (dL D l) t 264).2 b a) fun M4 h4 m4 f4 => ?_
    refine ⟨25, ?_⟩
    refine rv2_x h4 hb ha (wsX_28 w3 f4) m4 fun M5 h5 m5 f5 => ?_
    have ub := wUp_b (d := dd D) (W := dL D l) (b := b) (a := a) (s := t)
    have k5 : gk M5 c = 40 := by rw [(f5.2 c).1, (f4.2 c).1, (f3.2 c).1]; exact i2
    have l5 : gl M5 c = 3 := by rw [(f5.2 c).2, (f4.2 c).2, (f3.2 c).2]; exact i3
    have g5 : ∀ j, gI M5 c j = gI M c j := fun j => by rw [f5.1 _ _ (by omega) (by omega), f4.1 _ _ (by omega) (by omega), f3.1 _ _ (by omega)]
    show gk M5 16 = 1 ∧ fX1_above M5 _
    rw [pX1_above h5 m5, show upR (cnW (dd D) b a (-1)) (fs0 (dd D)) (wCh (dd D) (wrl (dd D) (dL D l) t 264).2 b a) = wUp (dd D) (dL D l) b a t from rfl]
    refine ⟨xk16 h5, ?_⟩
    rw [pJ10_signum ub.1 ub.2]
    show gk M5 c = 40 ∧ vp_in (1 + sg3 (wUp (dd D) (dL D l) b a t).toInt) (gl M5 c) ∧ vp_in (1 + sg3 (wUp (dd D) (dL D l) b a t).toInt) (gl M5 c) ∧ fX1_rivers_2_L57 _ _ _ _ _ _ _ _ _ _ (gsI M5 c ((1 + sg3 (wUp (dd D) (dL D l) b a t).toInt).toNatClampNeg) ((gI M5 c ((1 + sg3 (wUp (dd D) (dL D l) b a t).toInt).toNatClampNeg)) + 1))
    rw [sgR_x]
    have hj := sgR_lt (x := wUp (dd D) (dL D l) b a t)
    simp only [k5, l5, g5, i4 _ hj, vp_in_nI hj (N := 3) (by decide), nI_clamp (Nat.lt_trans hj (by decide : 3 < 2 ^ 31)), ← nI_succ, gdr_some, gk_sI, gk_sL, gk_sR, gl_sI, gl_sL, gl_sR, gn_sI, gn_sL, gn_sR, gs_sI, gs_sL, gs_sR, gR_sI, gR_sL, gI_sL, gI_sR, gL_sI, gL_sR, bi_ite, bi_01, true_and, and_true]
    refine hn _ ⟨h5.sI (by unfold xScr; omega) (by omega), k5, l5, fun j hj3 => ?_⟩
    rw [gI_sI, rvN_s]
    by_cases e : sgR (wUp (dd D) (dL D l) b a t) = j
    · rw [if_pos ⟨rfl, e.symm⟩, if_pos e, e]
    · rw [if_neg fun q => e q.2.symm, if_neg e, g5]
      exact i4 j hj3
  · rw [gk_new, if_pos ec.symm]
  · rw [gl_new, if_pos ec.symm]
  · rw [gI_new, if_pos ec.symm]; rfl
end
section
variable {N M : gM} {D : gD} {sel fst : Nat → Bool} {v : Nat → Int64} {n : Nat}
theorem pX7_beginsSumsF (h : RM N D M) (sel fst : Nat → Bool) (v : Nat → Int64) {Q : gM → Prop} (hq : ∀ M', RM N D M' → mnm sel fst v 0 M' → (∀ c q, gI M' c q = gI M c q) → Q M') : fX7_beginsSums M Q := by
  unfold fX7_beginsSums
  simp only [mk268 h, gdr_some, gk_sI, gk_sL, gk_sR, gl_sI, gl_sL, gl_sR, gn_sI, gn_sL, gn_sR, gs_sI, gs_sL, gs_sR, gR_sI, gR_sL, gI_sL, gI_sR, gL_sI, gL_sR, bi_ite, bi_01, true_and, and_true]
  refine hq _ h.s4 ⟨?_, ?_, ?_, ?_⟩ (fun _ _ => rfl) <;> rfl
theorem pX7_addsF (h : RM N D M) (hm : mnm sel fst v n M) (hs : sel n = true) {Q : gM → Prop} (hq : ∀ M', RM N D M' → mnm sel fst v (n + 1) M' → (∀ c q, gI M' c q = gI M c q) → Q M') : fX7_adds (bi (fst n)) (v n) M Q := by
  obtain ⟨h1, h2, h3, h4⟩ := hm
  unfold fX7_adds fX7_adds_b14 fX7_adds_b32 fX7_adds_b50
  simp only [mk268 h, gdr_some, gk_sI, gk_sL, gk_sR, gl_sI, gl_sL, gl_sR, gn_sI, gn_sL, gn_sR, gs_sI, gs_sL, gs_sR, gR_sI, gR_sL, gI_sL, gI_sR, gL_sI, gL_sR, bi_ite, bi_01, true_and, and_true, gL_sL]
  cases hf : fst n
  · simp only [Bool.false_eq_true, if_false]
    refine hq _ h.s4 ⟨?_, ?_, ?_, ?_⟩ (fun _ _ => rfl)
    · simp [cs, hs, hf, gL_sL, h1]
    · simp [cn, hs, hf, gL_sL, h2]
    · simp [cs, hs, hf, gL_sL, h3]
    · simp [cn, hs, hf, gL_sL, h4, nJ_succ]
  · simp only [if_true]
    refine hq _ h.s4 ⟨?_, ?_, ?_, ?_⟩ (fun _ _ => rfl)
    · simp [cs, hs, hf, gL_sL, h1]
    · simp [cn, hs, hf, gL_sL, h2, nJ_succ]
    · simp [cs, hs, hf, gL_sL, h3]
    · simp [cn, hs, hf, gL_sL, h4]
theorem wsM_I {W : Nat → Option (List (Int32 × Int32))} {seed t : Nat} {M' : gM} (h : wsM D W seed t M) (f : ∀ c q, gI M' c q = gI M c q) : wsM D W seed t M' := fun k m hk hm h12 => by
  rw [f, f, f]
  exact h k m hk hm h12
end
section
variable {N M : gM} {D : gD}
theorem rv2_m (h : RM N D M) (ok : okD (dd D)) {W : Nat → Option (List (Int32 × Int32))} {l s p : Int32} {u1 u2 : Int32} {b a t : Nat} (hb : b < 12) (ha : a < 12) (w : wsM D W t 264 M) (m : mnm (cnW (dd D) b a (-1)) (fs0 (dd D)) (wCh (dd D) (wrl (dd D) W t 264).2 b a) 0 M) {K : gM → Prop} {Q : Int32 → gM → Prop} (hK : ∀ M', RM N D M' → mnm (cnW (dd D) b a (-1)) (fs0 (dd D)) (wCh (dd D) (wrl (dd D) W t 264).2 b a) 24 M' → K M') : fX7_rivers_L79 K l s (nI b) (nI a) p u1 u2 Q 25 0 M := by
  refine loop24 (F := fun n k M => fX7_rivers_L79 K l s (nI b) (nI a) p u1 u2 Q n k M) (I := fun k M' => RM N D M' ∧ mnm (cnW (dd D) b a (-1)) (fs0 (dd D)) (wCh (dd D) (wrl (dd D) W t 264).2 b a) k M' ∧ ∀ c q, gI M' c q = gI M c q) (fun n M' hI => ?_) (fun n k M' hk hI hn => ?_) 24 0 M rfl ⟨h, m, fun _ _ => rfl⟩
  · show fX7_rivers_L79 _ _ _ _ _ _ _ _ _ _ _ _
    unfold fX7_rivers_L79 fX7_rivers_L79s
    rw [if_pos ge24]
    exact hK M' hI.1 hI.2.1
  · obtain ⟨h2, m2, f2⟩ := hI
    have w2 := wsM_I w f2
    show fX7_rivers_L79 _ _ _ _ _ _ _ _ _ _ _ _
    unfold fX7_rivers_L79 fX7_rivers_L79s
    rw [if_neg (nge24 hk)]
    simp only [mk268 h2, frm11 h2.1, fk275 h2.1, fl275 h2.1, vp_in_nI hk (N := 24) (by decide), nI_clamp (Nat.lt_trans hk (by decide : 24 < 2 ^ 31)), mK h2 hk, pX7_isCounted h2 hk hb ha, fX7_rivers_b134, fX7_rivers_b114, ← nI_succ, gdr_some, gk_sI, gk_sL, gk_sR, gl_sI, gl_sL, gl_sR, gn_sI, gn_sL, gn_sR, gs_sI, gs_sL, gs_sR, gR_sI, gR_sL, gI_sL, gI_sR, gL_sI, gL_sR, bi_ite, bi_01, true_and, and_true]
    cases e : cnt (dd D) k b a
    · rw [if_neg (by decide)]
      exact hn M' ⟨h2, mnm_f m2 (by rw [cnW_m1 hk]; exact e), f2⟩
    · rw [if_pos rfl]
      have e3 := cnt_3 e
      simp only [pX7_worldHands h2 ok hk ha e3 w2, pX7_worldHands h2 ok hk hb e3 w2, mk268 h2, gdr_some, gk_sI, gk_sL, gk_sR, gl_sI, gl_sL, gl_sR, gn_sI, gn_sL, gn_sR, gs_sI, gs_sL, gs_sR, gR_sI, gR_sL, gI_sL, gI_sR, gL_sI, gL_sR, bi_ite, bi_01, true_and, and_true]
      have key : fX7_adds (bi (fs0 (dd D) k)) (wCh (dd D) (wrl (dd D) W t 264).2 b a k) M' (fun M56 => fX7_rivers_L79 K l s (nI b) (nI a) p u1 u2 Q n (nI (k + 1)) M56) := pX7_addsF h2 m2 (by rw [cnW_m1 hk]; exact e) fun M3 h3 m3 f3 => hn M3 ⟨h3, m3, fun c q => (f3 c q).trans (f2 c q)⟩
      unfold fs0 at key
      by_cases e4 : dd D 0 k 0 = 0
      · rw [if_pos e4]
        rw [decide_eq_true e4] at key
        exact key
      · rw [if_neg e4]
        rw [decide_eq_false e4] at key
        exact key
theorem pX7_rivers (h : RM N D M) (ok : okD (dd D)) (wf : wfD D) {l s b a p : Int32} {Q : Int32 → gM → Prop} (hq : ∀ M', RM N D M' → Q (rRi2 D l s b a p) M') : fX7_rivers l s b a p M Q := by
  have h0 : RM N D (gsI M 268 0 0) := h.thr9
  unfold fX7_rivers
  simp only [mk268 h, mk268 h0, pX7_within, pX7_areSeeds, pX7_areMonths, gdr_some, gk_sI, gk_sL, gk_sR, gl_sI, gl_sL, gl_sR, gn_sI, gn_sL, gn_sR, gs_sI, gs_sL, gs_sR, gR_sI, gR_sL, gI_sL, gI_sR, gL_sI, gL_sR, bi_ite, bi_01, true_and, and_true]
  unfold rRi2 at hq
  cases q1 : in9 0 3 l
  · rw [if_neg (by decide)]; rw [q1] at hq; exact hq _ h0
  cases q2 : in9 1 20 s
  · rw [if_pos rfl, if_neg (by decide)]; rw [q1, q2] at hq; exact hq _ h0
  cases q3 : arM b a
  · rw [if_pos rfl, if_pos rfl, if_neg (by decide)]; rw [q1, q2, q3] at hq; exact hq _ h0
  cases q4 : in9 0 2 p
  · rw [if_pos rfl, if_pos rfl, if_pos rfl, if_neg (by decide)]; rw [q1, q2, q3, q4] at hq; exact hq _ h0
  rw [q1, q2, q3, q4] at hq
  obtain ⟨l, hl, rfl, e1⟩ := in4 q1
  obtain ⟨s, hs, hs1, rfl, e2⟩ := in20 q2
  obtain ⟨b, a, hb, ha, -, rfl, rfl⟩ := arM_n q3
  obtain ⟨p, hp, rfl⟩ := in9_nI (n := 2) rfl (by decide) q4
  rw [e1, e2, cl_nI (by omega), cl_nI (by omega), cl_nI (by omega)] at hq
  rw [if_pos rfl, if_pos rfl, if_pos rfl, if_pos rfl]
  refine pX7_findRiver h0 ok hb ha fun M1 h1 m1 u1 => ?_
  cases q5 : thr (cnW (dd D) b a (-1)) (fs0 (dd D))
  · rw [if_pos (by decide)]; rw [q5] at hq; exact hq M1 h1
  rw [q5] at hq
  rw [if_neg (by decide)]
  refine ⟨s + 1, ?_⟩
  refine loopN (T := s) (G := fun n t M => fX7_rivers_L59 (fun l6_72 M73 => Q l6_72 M73) (nI l) (nI s) (nI b) (nI a) (nI p) Q n (nI (rvN (dd D) (dL D l) b a p t)) (nI t) M) (I := fun t M => RM N D M) (fun n M hI => ?_) (fun n t M ht hI hn => ?_) s 0 _ (by omega) h1
  · show fX7_rivers_L59 _ _ _ _ _ _ _ _ _ _ _
    unfold fX7_rivers_L59 fX7_rivers_L59s
    rw [if_pos (Int32.le_refl _)]
    exact hq M hI
  · show fX7_rivers_L59 _ _ _ _ _ _ _ _ _ _ _
    unfold fX7_rivers_L59 fX7_rivers_L59s
    rw [if_neg (nI_ge ht (by omega : s < 2 ^ 31))]
    refine ⟨mk268 hI, ?_⟩
    refine pX7_runs hI ok wf hl (seed := t) (by omega) fun M3 h3 w3 => ?_
    refine ⟨mk268 h3, ?_⟩
    refine pX7_beginsSumsF h3 (cnW (dd D) b a (-1)) (fs0 (dd D)) (wCh (dd D) (wrl (dd D) (dL D l) t 264).2 b a) fun M4 h4 m4 f4 => ?_
    refine ⟨25, ?_⟩
    refine rv2_m h4 ok hb ha (wsM_I w3 f4) m4 fun M5 h5 m5 => ?_
    refine ⟨mk268 h5, ?_⟩
    refine pX7_differs h5 m5 fun M6 h6 m6 u6 => ?_
    have hn := hn M6 h6
    have eu : gL M6 268 24 = wUp (dd D) (dL D l) b a t := u6.1
    rw [rvN_s] at hn
    simp only [eu, fX7_rivers_b172, fX7_rivers_b188, ← nI_succ]
    refine ⟨mk268 h6, ?_⟩
    have fin : ∀ (x : Int32), x = nI (sgR (wUp (dd D) (dL D l) b a t)) → (if x = nI p then fX7_rivers_L59 (fun l6_72 M73 => Q l6_72 M73) (nI l) (nI s) (nI b) (nI a) (nI p) Q n (nI (rvN (dd D) (dL D l) b a p t + 1)) (nI (t + 1)) M6 else fX7_rivers_L59 (fun l6_72 M73 => Q l6_72 M73) (nI l) (nI s) (nI b) (nI a) (nI p) Q n (nI (rvN (dd D) (dL D l) b a p t) + 0) (nI (t + 1)) M6) := by
      intro x hx
      subst hx
      have hj := sgR_lt (x := wUp (dd D) (dL D l) b a t)
      by_cases e : sgR (wUp (dd D) (dL D l) b a t) = p
      · rw [if_pos e] at hn
        rw [if_pos (by rw [e])]
        exact hn
      · rw [if_neg e] at hn
        rw [if_neg fun q => e (by have := congrArg Int32.toInt q; rw [nI_toInt (by omega), nI_toInt (by omega)] at this; omega), Int32.add_zero]
        exact hn
    by_cases c : 0 ≤ wUp (dd D) (dL D l) b a t
    · rw [if_pos ((lg_cmp_ge _ _).mpr c)]
      have nc : ¬ wUp (dd D) (dL D l) b a t < 0 := Int64.not_lt.mpr c
      by_cases c2 : wUp (dd D) (dL D l) b a t = 0
      · rw [if_pos ((lg_cmp_eq _ _).mpr c2)]
        exact fin 1 (by unfold sgR; rw [if_neg nc, if_pos c2]; rfl)
      · rw [if_neg fun q => c2 ((lg_cmp_eq _ _).mp q)]
        exact fin 2 (by unfold sgR; rw [if_neg nc, if_neg c2]; rfl)
    · rw [if_neg fun q => c ((lg_cmp_ge _ _).mp q)]
      exact fin 0 (by unfold sgR; rw [if_pos (Int64.not_le.mp c)]; rfl)
end
