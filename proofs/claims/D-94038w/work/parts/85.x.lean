/-! sorted changes -/
set_option maxRecDepth 100000
def insP (L : List Int32) (v : Int32) : Nat → Nat
  | 0 => 0
  | p + 1 => if L.getD p 0 ≤ v then p + 1 else insP L v p
def insL (L : List Int32) (v : Int32) : List Int32 := L.insertIdx (insP L v L.length) v
def insN (sel : Nat → Bool) (v : Nat → Int32) : Nat → List Int32
  | 0 => []
  | n + 1 => if sel n = true then insL (insN sel v n) (v n) else insN sel v n
/-- the chosen ones in their order -/
def selN (sel : Nat → Bool) (v : Nat → Int32) : Nat → List Int32
  | 0 => []
  | n + 1 => if sel n = true then selN sel v n ++ [v n] else selN sel v n
theorem insP_le {L : List Int32} {v : Int32} : ∀ p, insP L v p ≤ p := by
  intro p
  induction p with
  | zero => exact Nat.le_refl _
  | succ p ih => unfold insP; split <;> omega
theorem insL_len {L : List Int32} {v : Int32} : (insL L v).length = L.length + 1 := by
  unfold insL
  exact List.length_insertIdx_of_le_length (insP_le _) _
theorem insL_get {L : List Int32} {v : Int32} {i : Nat} (hi : i ≤ L.length) : (insL L v).getD i 0 = if i < insP L v L.length then L.getD i 0 else if i = insP L v L.length then v else L.getD (i - 1) 0 := by
  have hp := insP_le (L := L) (v := v) L.length
  unfold insL
  rw [List.getD_eq_getElem?_getD, List.getElem?_insertIdx]
  by_cases e1 : i < insP L v L.length
  · rw [if_pos e1, if_pos e1, List.getD_eq_getElem?_getD]
  · rw [if_neg e1, if_neg e1]
    by_cases e2 : i = insP L v L.length
    · rw [if_pos e2, if_pos e2, if_pos hi]; rfl
    · rw [if_neg e2, if_neg e2, List.getD_eq_getElem?_getD]
theorem insertIdx_perm {α : Type} {v : α} : ∀ (L : List α) (p : Nat), p ≤ L.length → (L.insertIdx p v).Perm (v :: L) := by
  intro L
  induction L with
  | nil => intro p hp; have : p = 0 := by simpa using hp
           subst this; exact List.Perm.refl _
  | cons a L ih =>
    intro p hp
    cases p with
    | zero => exact List.Perm.refl _
    | succ p =>
      rw [List.insertIdx_succ_cons]
      exact ((ih p (by simpa using hp)).cons a).trans (List.Perm.swap v a L)
theorem insL_perm {L : List Int32} {v : Int32} : (insL L v).Perm (v :: L) := insertIdx_perm L _ (insP_le _)
theorem insN_perm {sel : Nat → Bool} {v : Nat → Int32} : ∀ n, (insN sel v n).Perm (selN sel v n) := by
  intro n
  induction n with
  | zero => exact List.Perm.refl _
  | succ n ih =>
    unfold insN selN
    split
    · exact insL_perm.trans ((ih.cons _).trans (List.perm_append_singleton _ _).symm)
    · exact ih
theorem selN_len {sel : Nat → Bool} {v : Nat → Int32} : ∀ n, (selN sel v n).length = cn sel n := by
  intro n
  induction n with
  | zero => rfl
  | succ n ih =>
    unfold selN cn
    split
    · simp [ih]
    · exact ih
theorem insN_len {sel : Nat → Bool} {v : Nat → Int32} (n : Nat) : (insN sel v n).length = cn sel n := (insN_perm n).length_eq.trans (selN_len n)
def srtd (L : List Int32) : Prop := ∀ i j : Nat, i < j → j < L.length → L.getD i 0 ≤ L.getD j 0
theorem insP_lo {L : List Int32} {v : Int32} : ∀ p, insP L v p = 0 ∨ L.getD (insP L v p - 1) 0 ≤ v := by
  intro p
  induction p with
  | zero => exact Or.inl rfl
  | succ p ih =>
    unfold insP
    split
    · next h => exact Or.inr h
    · exact ih
theorem insP_hi {L : List Int32} {v : Int32} : ∀ p q, insP L v p ≤ q → q < p → v < L.getD q 0 := by
  intro p
  induction p with
  | zero => intro q _ h; omega
  | succ p ih =>
    intro q h1 h2
    unfold insP at h1
    by_cases e : L.getD p 0 ≤ v
    · rw [if_pos e] at h1; omega
    · rw [if_neg e] at h1
      by_cases e2 : q = p
      · subst e2; exact Int32.not_le.mp e
      · exact ih q h1 (by omega)
theorem insL_srtd {L : List Int32} {v : Int32} (h : srtd L) : srtd (insL L v) := by
  intro i j hij hj
  rw [insL_len] at hj
  rw [insL_get (by omega), insL_get (by omega)]
  have hp := insP_le (L := L) (v := v) L.length
  have h1 := insP_lo (L := L) (v := v) L.length
  have h2 := insP_hi (L := L) (v := v) L.length
  generalize insP L v L.length = p at *
  have le' : ∀ i j : Nat, i ≤ j → j < L.length → L.getD i 0 ≤ L.getD j 0 := fun i j a b => by
    by_cases e : i = j
    · rw [e]; exact Int32.le_refl _
    · exact h i j (by omega) b
  by_cases c1 : i < p
  · rw [if_pos c1]
    by_cases c2 : j < p
    · rw [if_pos c2]; exact h i j hij (by omega)
    · rw [if_neg c2]
      have h3 : L.getD (p - 1) 0 ≤ v := by
        rcases h1 with h1 | h1
        · omega
        · exact h1
      by_cases c3 : j = p
      · rw [if_pos c3]; exact Int32.le_trans (le' i (p - 1) (by omega) (by omega)) h3
      · rw [if_neg c3]; exact le' i (j - 1) (by omega) (by omega)
  · rw [if_neg c1, if_neg (show ¬ j < p by omega), if_neg (show ¬ j = p by omega)]
    by_cases c3 : i = p
    · rw [if_pos c3]; exact Int32.le_of_lt (h2 (j - 1) (by omega) (by omega))
    · rw [if_neg c3]; exact le' (i - 1) (j - 1) (by omega) (by omega)
theorem insN_srtd {sel : Nat → Bool} {v : Nat → Int32} : ∀ n, srtd (insN sel v n) := by
  intro n
  induction n with
  | zero => intro i j _ h; exact absurd h (by simp [insN])
  | succ n ih =>
    unfold insN
    split
    · exact insL_srtd ih
    · exact ih
theorem srtd_pw {L : List Int32} (h : srtd L) : L.Pairwise (· ≤ ·) := by
  rw [List.pairwise_iff_getElem]
  intro i j hi hj hij
  have := h i j hij hj
  simpa [List.getD_eq_getElem?_getD, hi, hj] using this
theorem pw_uniq : ∀ {L1 L2 : List Int32}, L1.Pairwise (· ≤ ·) → L2.Pairwise (· ≤ ·) → L1.Perm L2 → L1 = L2 := by
  intro L1
  induction L1 with
  | nil => intro L2 _ _ h; exact (List.Perm.nil_eq h)
  | cons a t1 ih =>
    intro L2 h1 h2 h
    cases L2 with
    | nil => exact absurd h.length_eq (by simp)
    | cons b t2 =>
      have e : a = b := by
        rw [List.pairwise_cons] at h1 h2
        have m1 : a ∈ b :: t2 := h.mem_iff.mp List.mem_cons_self
        have m2 : b ∈ a :: t1 := h.mem_iff.mpr List.mem_cons_self
        rcases List.mem_cons.mp m1 with q | q
        · exact q
        · rcases List.mem_cons.mp m2 with q2 | q2
          · exact q2.symm
          · exact Int32.le_antisymm (h1.1 b q2) (h2.1 a q)
      subst e
      rw [ih (List.pairwise_cons.mp h1).2 (List.pairwise_cons.mp h2).2 h.cons_inv]
/-- the least of the negated are the greatest, negated -/
theorem insN_neg {sel : Nat → Bool} {v : Nat → Int32} {n : Nat} (hb : ∀ k, k < n → -2000 ≤ (v k).toInt ∧ (v k).toInt ≤ 2000) : insN sel (fun k => -(v k)) n = ((insN sel v n).map (fun x => -x)).reverse := by
  have e1 : selN sel (fun k => -(v k)) n = (selN sel v n).map (fun x => -x) := by
    clear hb
    induction n with
    | zero => rfl
    | succ n ih =>
      unfold selN
      split
      · rw [ih]; simp
      · exact ih
  have hm : ∀ x ∈ insN sel v n, -2000 ≤ x.toInt ∧ x.toInt ≤ 2000 := by
    intro x hx
    replace hx := (insN_perm (sel := sel) (v := v) n).mem_iff.mp hx
    clear e1
    induction n with
    | zero => exact absurd hx (by simp [selN])
    | succ n ih =>
      unfold selN at hx
      split at hx
      · rcases List.mem_append.mp hx with q | q
        · exact ih (fun k hk => hb k (by omega)) q
        · rw [List.mem_singleton.mp q]; exact hb n (by omega)
      · exact ih (fun k hk => hb k (by omega)) hx
  refine pw_uniq (srtd_pw (insN_srtd n)) ?_ ?_
  · rw [List.pairwise_reverse, List.pairwise_map]
    refine List.Pairwise.imp_of_mem (fun {a b} ha hb' hab => ?_) (srtd_pw (insN_srtd (sel := sel) (v := v) n))
    have h1 := hm a ha
    have h2 := hm b hb'
    rw [Int32.le_iff_toInt_le] at hab ⊢
    rw [Int32.toInt_neg, Int32.toInt_neg, Int.bmod_eq_of_le (by omega) (by omega), Int.bmod_eq_of_le (by omega) (by omega)]
    omega
  · refine (insN_perm n).trans ?_
    rw [e1]
    exact ((insN_perm (sel := sel) (v := v) n).symm.map _).trans (List.reverse_perm _).symm
/-- an array's places hold a list -/
def arr (c : Nat) (L : List Int32) (M : gM) : Prop := ∀ i : Nat, i < L.length → gI M c i = L.getD i 0
/-- between: the places from p on are moved by one -/
def arrI (c : Nat) (L : List Int32) (p : Nat) (M : gM) : Prop := (∀ i : Nat, i < p → gI M c i = L.getD i 0) ∧ ∀ i : Nat, p < i → i ≤ L.length → gI M c i = L.getD (i - 1) 0
theorem arrI_n {c : Nat} {L : List Int32} {M : gM} (h : arr c L M) : arrI c L L.length M := ⟨fun i hi => h i hi, fun i h1 h2 => by omega⟩
theorem arrI_s {c : Nat} {L : List Int32} {p : Nat} {M : gM} (h : arrI c L (p + 1) M) : arrI c L p (gsI M c (p + 1) (gI M c p)) := by
  refine ⟨fun i hi => ?_, fun i h1 h2 => ?_⟩
  · rw [gI_sI, if_neg (by omega)]; exact h.1 i (by omega)
  · by_cases e : i = p + 1
    · rw [gI_sI, if_pos ⟨rfl, e⟩, h.1 p (by omega), e]; rfl
    · rw [gI_sI, if_neg (by omega)]; exact h.2 i (by omega) h2
theorem arrI_e {c : Nat} {L : List Int32} {v : Int32} {M : gM} (h : arrI c L (insP L v L.length) M) : arr c (insL L v) (gsI M c (insP L v L.length) v) := by
  intro i hi
  rw [insL_len] at hi
  rw [insL_get (by omega), gI_sI]
  have hp := insP_le (L := L) (v := v) L.length
  generalize insP L v L.length = p at *
  by_cases c1 : i < p
  · rw [if_neg (by omega), if_pos c1]; exact h.1 i c1
  · rw [if_neg c1]
    by_cases c2 : i = p
    · rw [if_pos ⟨rfl, c2⟩, if_pos c2]
    · rw [if_neg (by omega), if_neg c2]; exact h.2 i (by omega) (by omega)
section
variable {N M : gM} {n0 a9 : Nat} {D : gD}
theorem srx_i {F : gM → Prop} (hF : ∀ M k v, F M → F (gsI M 30 k v)) {L : List Int32} {v p1 p2 p3 k4 k5 : Int32} {K Q : Int32 → gM → Prop} (hL : L.length < 24) (hK : ∀ M', RX N n0 a9 D M' → arrI 30 L (insP L v L.length) M' → F M' → K (nI (insP L v L.length)) M') : ∀ (p : Nat) (M : gM), p ≤ L.length → insP L v p = insP L v L.length → RX N n0 a9 D M → arrI 30 L p M → F M → fX1_sorts_L67 K p1 p2 p3 k4 k5 v Q (p + 1) (nI p) M := by
  intro p
  induction p with
  | zero =>
    intro M _ e h m f9
    unfold fX1_sorts_L67 fX1_sorts_L67s
    rw [if_pos (by decide)]
    have e : 0 = insP L v L.length := e
    rw [← e] at hK
    exact hK M h m f9
  | succ p ih =>
    intro M hp e h m f9
    unfold fX1_sorts_L67 fX1_sorts_L67s
    rw [if_neg (nI_nle (by omega) (by omega))]
    have hp1 : p + 1 < 24 := by omega
    have hp0 : p < 24 := by omega
    have gp : gI M 30 p = L.getD p 0 := m.1 p (by omega)
    simp only [nI_pred, xk16 h, frx12 h.1, fk30 h.1, fl30 h.1, vp_in_nI hp1 (N := 24) (by decide), nI_clamp (Nat.lt_trans hp1 (by decide : 24 < 2 ^ 31)), vp_in_nI hp0 (N := 24) (by decide), nI_clamp (Nat.lt_trans hp0 (by decide : 24 < 2 ^ 31)), gdr_some, gk_sI, gk_sL, gk_sR, gl_sI, gl_sL, gl_sR, gn_sI, gn_sL, gn_sR, gs_sI, gs_sL, gs_sR, gR_sI, gR_sL, gI_sL, gI_sR, gL_sI, gL_sR, bi_ite, bi_01, true_and, and_true, gp]
    have e3 : insP L v (p + 1) = if L.getD p 0 ≤ v then p + 1 else insP L v p := rfl
    rw [e3] at e
    by_cases c : L.getD p 0 ≤ v
    · rw [if_pos c] at e ⊢
      rw [← e] at hK
      exact hK M h m f9
    · rw [if_neg c] at e ⊢
      rw [pk_m1]
      have key := arrI_s m
      rw [gp] at key
      exact ih _ (by omega) e (h.sI (by unfold xScr; omega) (by omega)) key (hF _ _ _ f9)
theorem srx_s {F : gM → Prop} (hF : ∀ M k v, F M → F (gsI M 30 k v)) (h : RX N n0 a9 D M) (f9 : F M) {bk9 : Int32} {b a k : Nat} (hb : b < 12) (ha : a < 12) (hk : k < 24) (m : arr 30 (insN (clSel (dd D) bk9 b a) (fun k => chg (dd D) k b a) k) M) {R : Int32 → Int32 → gM → Prop} {K : Int32 → gM → Prop} {Q : Int32 → gM → Prop} (hn : ∀ M', RX N n0 a9 D M' ∧ arr 30 (insN (clSel (dd D) bk9 b a) (fun k => chg (dd D) k b a) (k + 1)) M' ∧ F M' → R (nI (cn (clSel (dd D) bk9 b a) (k + 1))) (nI (k + 1)) M') : fX1_sorts_L6s R K bk9 (nI b) (nI a) (nI (cn (clSel (dd D) bk9 b a) k)) (nI k) M Q := by
  have hl := insN_len (sel := clSel (dd D) bk9 b a) (v := fun k => chg (dd D) k b a) k
  have hc := cn_le (clSel (dd D) bk9 b a) k
  unfold fX1_sorts_L6s
  rw [if_neg (nge24 hk)]
  have no : clSel (dd D) bk9 b a k = false → fX1_sorts_b117 R bk9 (nI b) (nI a) (nI (cn (clSel (dd D) bk9 b a) k)) (nI k) M Q := by
    intro e
    unfold fX1_sorts_b117
    rw [← nI_succ]
    have e2 : insN (clSel (dd D) bk9 b a) (fun k => chg (dd D) k b a) (k + 1) = insN (clSel (dd D) bk9 b a) (fun k => chg (dd D) k b a) k := by
      show (if clSel (dd D) bk9 b a k = true then _ else _) = _
      rw [e]; rfl
    rw [e2, cn_f e] at hn
    exact hn M ⟨h, m, f9⟩
  simp only [xk16 h, xk17 h, xl17 h, xr0 h, xr10 h, xr11 h, xk28 h, xk29 h, xten h, xby h, kr h hk, kk h hk, kr5 h hk, kr6 h hk, kr7 h hk, kr8 h hk, kr9 h hk, kr10 h hk, kk5 h hk, kk6 h hk, kk7 h hk, kk8 h hk, kk9 h hk, kk10 h hk, kl5 h hk, kl6 h hk, kl7 h hk, kl8 h hk, kl9 h hk, kl10 h hk, ki0 h hk, ki1 h hk, ki2 h hk, ki3 h hk, ki4 h hk, vp_in_nI hk (N := 24) (by decide), nI_clamp (Nat.lt_trans hk (by decide : 24 < 2 ^ 31)), gdr_some, gk_sI, gk_sL, gk_sR, gl_sI, gl_sL, gl_sR, gn_sI, gn_sL, gn_sR, gs_sI, gs_sL, gs_sR, gR_sI, gR_sL, gI_sL, gI_sR, gL_sI, gL_sR, bi_ite, bi_01, true_and, and_true, pX4_isCounted h hk hb ha, pX1_change h hk hb ha]
  cases e : cnt (dd D) k b a
  · simp only [Bool.false_eq_true, if_false]
    exact no (by simp [clSel, e])
  simp only [if_true]
  by_cases e0 : dd D 0 k 0 = bk9
  · rw [if_pos e0]
    have es : clSel (dd D) bk9 b a k = true := by simp [clSel, e, e0]
    have e2 : insN (clSel (dd D) bk9 b a) (fun k => chg (dd D) k b a) (k + 1) = insL (insN (clSel (dd D) bk9 b a) (fun k => chg (dd D) k b a) k) (chg (dd D) k b a) := by
      show (if clSel (dd D) bk9 b a k = true then _ else _) = _
      rw [es]; rfl
    rw [e2, cn_t es] at hn
    refine ⟨cn (clSel (dd D) bk9 b a) k + 1, ?_⟩
    generalize insN (clSel (dd D) bk9 b a) (fun k => chg (dd D) k b a) k = L at *
    rw [← hl] at hn ⊢
    refine srx_i hF (by omega) (fun M' h' m' f' => ?_) L.length M (Nat.le_refl _) rfl h (arrI_n m) f9
    have hp := insP_le (L := L) (v := chg (dd D) k b a) L.length
    have hp24 : insP L (chg (dd D) k b a) L.length < 24 := by omega
    unfold fX1_sorts_b108 fX1_sorts_b117
    simp only [xk16 h', frx12 h'.1, fk30 h'.1, fl30 h'.1, vp_in_nI hp24 (N := 24) (by decide), nI_clamp (Nat.lt_trans hp24 (by decide : 24 < 2 ^ 31)), gdr_some, gk_sI, gk_sL, gk_sR, gl_sI, gl_sL, gl_sR, gn_sI, gn_sL, gn_sR, gs_sI, gs_sL, gs_sR, gR_sI, gR_sL, gI_sL, gI_sR, gL_sI, gL_sR, bi_ite, bi_01, true_and, and_true, ← nI_succ]
    exact hn _ ⟨h'.sI (by unfold xScr; omega) (by omega), arrI_e m', hF _ _ _ f'⟩
  · rw [if_neg e0]
    exact no (by simp [clSel, e0])
theorem pX1_sorts (F : gM → Prop) (hF : ∀ M k v, F M → F (gsI M 30 k v)) (h : RX N n0 a9 D M) (f9 : F M) {bk9 : Int32} {b a : Nat} (hb : b < 12) (ha : a < 12) {Q : Int32 → gM → Prop} (hq : ∀ M', RX N n0 a9 D M' → arr 30 (insN (clSel (dd D) bk9 b a) (fun k => chg (dd D) k b a) 24) M' → F M' → Q (nI (cn (clSel (dd D) bk9 b a) 24)) M') : fX1_sorts bk9 (nI b) (nI a) M Q := by
  unfold fX1_sorts
  refine ⟨25, ?_⟩
  refine loopN (T := 24) (G := fun n k M => fX1_sorts_L6 (fun l4_67 M68 => Q l4_67 M68) bk9 (nI b) (nI a) Q n (nI (cn (clSel (dd D) bk9 b a) k)) (nI k) M) (I := fun k M => RX N n0 a9 D M ∧ arr 30 (insN (clSel (dd D) bk9 b a) (fun k => chg (dd D) k b a) k) M ∧ F M) (fun n M hI => ?_) (fun n k M hk hI hn => ?_) 24 0 M rfl ⟨h, fun i hi => absurd hi (by simp [insN]), f9⟩
  · unfold fX1_sorts_L6 fX1_sorts_L6s
    rw [if_pos ge24]
    exact hq M hI.1 hI.2.1 hI.2.2
  · show fX1_sorts_L6 _ _ _ _ _ _ _ _ _
    unfold fX1_sorts_L6
    exact srx_s hF hI.1 hI.2.2 hb ha hk hI.2.1 hn
end
/-! op: choosing -/
set_option maxRecDepth 100000
def smJ (f : Nat → Int32) : Nat → Int64
  | 0 => 0
  | i + 1 => smJ f i + (f i).toInt64
def cxA (L : List Int32) (g : Bool) (i : Nat) : Int32 := if g = true then L.getD (L.length - 1 - i) 0 else L.getD i 0
def chL (d : Nat → Nat → Nat → Int32) (b a q : Nat) : List Int32 := insN (clSel d (nI q) b a) (fun k => chg d k b a) 24
def chU (d : Nat → Nat → Nat → Int32) (b a q : Nat) (g : Bool) (k : Nat) : Int64 := smJ (cxA (chL d b a q) g) k
def chN (d : Nat → Nat → Nat → Int32) (b a q : Nat) : Nat := cn (clSel d (nI q) b a) 24
def rCho (d : Nat → Nat → Nat → Int32) (b a k what : Int32) : Option Int64 := if (arM b a && in9 1 12 k && in9 0 3 what && decide (cl k ≤ chN d (cl b) (cl a) 0) && decide (cl k ≤ chN d (cl b) (cl a) 1)) = true then some (low (chU d (cl b) (cl a) 0 (bdG what) (cl k) - chU d (cl b) (cl a) 1 (!bdG what) (cl k)) (nJ (cl k)) (what - what / 2 * 2)) else none
theorem smJ_b {f : Nat → Int32} {B : Int} : ∀ n : Nat, n ≤ 24 → (∀ i, i < n → -B ≤ (f i).toInt ∧ (f i).toInt ≤ B) → 0 ≤ B → B ≤ 2 ^ 31 → -(B * n) ≤ (smJ f n).toInt ∧ (smJ f n).toInt ≤ B * n := by
  intro n
  induction n with
  | zero => intro _ _ _ _; simp [smJ]
  | succ n ih =>
    intro hn h h0 hB
    have h1 := ih (by omega) (fun i hi => h i (by omega)) h0 hB
    have h2 := h n (by omega)
    have h3 : B * ((n + 1 : Nat) : Int) = B * n + B := by rw [Int.natCast_add, Int.mul_add]; simp
    have h4 : B * (n : Int) ≤ 2 ^ 31 * 24 := Int.mul_le_mul hB (by omega) (by omega) (by omega)
    have h5 : 0 ≤ B * (n : Int) := Int.mul_nonneg h0 (by omega)
    rw [h3]
    unfold smJ
    rw [Int64.toInt_add, Int32.toInt_toInt64, Int.bmod_eq_of_le (by omega) (by omega)]
    omega
theorem insN_b {sel : Nat → Bool} {v : Nat → Int32} {n : Nat} (hb : ∀ k, k < n → -2000 ≤ (v k).toInt ∧ (v k).toInt ≤ 2000) {x : Int32} (hx : x ∈ insN sel v n) : -2000 ≤ x.toInt ∧ x.toInt ≤ 2000 := by
  replace hx := (insN_perm (sel := sel) (v := v) n).mem_iff.mp hx
  induction n with
  | zero => exact absurd hx (by simp [selN])
  | succ n ih =>
    unfold selN at hx
    split at hx
    · rcases List.mem_append.mp hx with q | q
      · exact ih (fun k hk => hb k (by omega)) q
      · rw [List.mem_singleton.mp q]; exact hb n (by omega)
    · exact ih (fun k hk => hb k (by omega)) hx
theorem ch_v {d : Nat → Nat → Nat → Int32} (ok : okD d) {b a : Nat} (hb : b < 12) (ha : a < 12) : ∀ k, k < 24 → -2000 ≤ (chg d k b a).toInt ∧ (chg d k b a).toInt ≤ 2000 := fun k hk => by
  have := chg_b ok hk hb ha
  omega
theorem getD_mem9 {L : List Int32} {i : Nat} (h : i < L.length) : L.getD i 0 ∈ L := by
  rw [List.getD_eq_getElem?_getD, List.getElem?_eq_getElem h]
  exact List.getElem_mem h
theorem chL_len {d : Nat → Nat → Nat → Int32} {b a q : Nat} : (chL d b a q).length = chN d b a q := insN_len 24
theorem cxA_b {d : Nat → Nat → Nat → Int32} (ok : okD d) {b a q i : Nat} {g : Bool} (hb : b < 12) (ha : a < 12) (hi : i < chN d b a q) : -2000 ≤ (cxA (chL d b a q) g i).toInt ∧ (cxA (chL d b a q) g i).toInt ≤ 2000 := by
  have hl := chL_len (d := d) (b := b) (a := a) (q := q)
  unfold cxA
  split
  · have := getD_mem9 (L := chL d b a q) (i := (chL d b a q).length - 1 - i) (by omega)
    exact insN_b (ch_v ok hb ha) this
  · have := getD_mem9 (L := chL d b a q) (i := i) (by omega)
    exact insN_b (ch_v ok hb ha) this
theorem chU_b {d : Nat → Nat → Nat → Int32} (ok : okD d) {b a q k : Nat} {g : Bool} (hb : b < 12) (ha : a < 12) (hk : k ≤ chN d b a q) : -48000 ≤ (chU d b a q g k).toInt ∧ (chU d b a q g k).toInt ≤ 48000 := by
  have h24 : chN d b a q ≤ 24 := cn_le _ 24
  have h := smJ_b (f := cxA (chL d b a q) g) (B := 2000) k (by omega) (fun i hi => cxA_b ok hb ha (by omega)) (by decide) (by decide)
  unfold chU
  omega
/-- what is drawn from both rows alike falls away -/
theorem low_mul {u : Int64} {k : Nat} {w : Int32} (hk : 0 < k) (hk2 : k ≤ 24) (hu : -100000 ≤ u.toInt ∧ u.toInt ≤ 100000) : low (u * nJ k) (nJ k * nJ k) w = low u (nJ k) w := by
  obtain ⟨m1, m2, m3⟩ := J_mul (x := u) (y := nJ k) (A := 100000) (B := 24) (by omega) (by omega) (by decide) (by omega) (by omega) (by rw [nJ_toInt (by omega)]; omega) (by rw [nJ_toInt (by omega)]; omega)
  have hkk : k * k ≤ 24 * 24 := Nat.mul_le_mul hk2 hk2
  have e1 : (u * nJ k).toInt.natAbs = u.toInt.natAbs * k := by rw [m1, Int.natAbs_mul, nJ_toInt (by omega)]; rfl
  have e2 : (nJ k * nJ k).toInt.toNat = k * k := by rw [nJ_mul, nJ_toInt (by omega)]; rfl
  have e3 : (nJ k).toInt.toNat = k := by rw [nJ_toInt (by omega)]; rfl
  have g0 : Nat.gcd u.toInt.natAbs k ≠ 0 := fun q => by
    have := Nat.eq_zero_of_gcd_eq_zero_right q
    omega
  have g1 : Nat.gcd u.toInt.natAbs k ≤ k := Nat.gcd_le_right _ hk
  have g2 : Nat.gcd u.toInt.natAbs k * k ≤ 24 * 24 := Nat.mul_le_mul (by omega) hk2
  have dv : ∀ x : Int64, -100000 ≤ x.toInt → x.toInt ≤ 100000 → (x * nJ k) / nJ (Nat.gcd u.toInt.natAbs k * k) = x / nJ (Nat.gcd u.toInt.natAbs k) := by
    intro x x1 x2
    obtain ⟨n1, n2, n3⟩ := J_mul (x := x) (y := nJ k) (A := 100000) (B := 24) (by omega) (by omega) (by decide) (by omega) (by omega) (by rw [nJ_toInt (by omega)]; omega) (by rw [nJ_toInt (by omega)]; omega)
    refine Int64.toInt_inj.mp ?_
    have p0 : (0 : Int) < (k : Int) := by omega
    rw [Int64.toInt_div_of_ne_left, Int64.toInt_div_of_ne_left]
    · rw [n1, nJ_toInt (by omega), nJ_toInt (by omega), nJ_toInt (by omega), Int.natCast_mul, Int.mul_tdiv_mul_of_pos_left _ _ p0]
    · exact ne_min (by omega)
    · exact ne_min (by omega)
  unfold low
  rw [e1, e2, e3, Nat.gcd_mul_right]
  by_cases c : w = 0
  · rw [if_pos c, if_pos c]; exact dv u hu.1 hu.2
  · rw [if_neg c, if_neg c]
    exact dv (nJ k) (by rw [nJ_toInt (by omega)]; omega) (by rw [nJ_toInt (by omega)]; omega)
/-- both means stand so -/
def chS (u0 : Int64) (m0 : Nat) (u1 : Int64) (m1 : Nat) (M : gM) : Prop := gL M 28 0 = u0 ∧ gI M 28 1 = nI m0 ∧ gL M 29 0 = u1 ∧ gI M 29 1 = nI m1
section
variable {N M : gM} {n0 a9 : Nat} {D : gD}
theorem chx_i {L : List Int32} (hL : L.length ≤ 24) {k q : Nat} (hq : q < 2) (hk : k ≤ L.length) {g : Bool} {u : Int64} {m : Nat} {p1 p2 p4 : Int32} {K : gM → Prop} {Q : Int64 → gM → Prop} {E : Nat → gM → Prop} (h : RX N n0 a9 D M) (hA : arr 30 L M) (hM : if q = 0 then chS 0 0 u m M else chS u m 0 0 M)
    (hK : ∀ M', RX N n0 a9 D M' → (if q = 0 then chS (smJ (cxA L g) k) k u m M' else chS u m (smJ (cxA L g) k) k M') → K M') : ∃ n, fX1_choosing_L107 K p1 p2 (nI k) p4 (nI q) (nI L.length) (bi g) Q E n 0 M := by
  refine ⟨k + 1, ?_⟩
  refine loopN (T := k) (G := fun n i M => fX1_choosing_L107 K p1 p2 (nI k) p4 (nI q) (nI L.length) (bi g) Q E n (nI i) M) (I := fun i M => RX N n0 a9 D M ∧ arr 30 L M ∧ (if q = 0 then chS (smJ (cxA L g) i) i u m M else chS u m (smJ (cxA L g) i) i M)) (fun n M hI => ?_) (fun n i M hi hI hn => ?_) k 0 M (by omega) ⟨h, hA, hM⟩
  · unfold fX1_choosing_L107 fX1_choosing_L107s
    rw [if_pos (nI_le (Nat.le_refl _) (by omega))]
    exact hK M hI.1 hI.2.2
  · obtain ⟨h1, h2, h3⟩ := hI
    have key : ∀ M', M' = gsI (gsL M (28 + q) 0 (gL M (28 + q) 0 + (cxA L g i).toInt64)) (28 + q) 1 (gI M (28 + q) 1 + 1) → fX1_choosing_L107 K p1 p2 (nI k) p4 (nI q) (nI L.length) (bi g) Q E n (nI (i + 1)) M' := by
      intro M' e
      subst e
      refine hn _ ⟨?_, fun j hj => ?_, ?_⟩
      · have : q = 0 ∨ q = 1 := by omega
        rcases this with rfl | rfl
        · exact h1.s28
        · exact h1.s29
      · rw [gI_sI, if_neg (by omega), gI_sL]; exact h2 j hj
      · have : q = 0 ∨ q = 1 := by omega
        rcases this with rfl | rfl
        · rw [if_pos rfl] at h3 ⊢
          obtain ⟨e1, e2, e3, e4⟩ := h3
          refine ⟨?_, ?_, ?_, ?_⟩
          · rw [gL_sI, gL_sL, if_pos ⟨rfl, rfl⟩, e1]; rfl
          · rw [gI_sI, if_pos ⟨rfl, rfl⟩, e2, ← nI_succ]
          · rw [gL_sI, gL_sL, if_neg (by omega)]; exact e3
          · rw [gI_sI, if_neg (by omega), gI_sL]; exact e4
        · rw [if_neg (by decide)] at h3 ⊢
          obtain ⟨e1, e2, e3, e4⟩ := h3
          refine ⟨?_, ?_, ?_, ?_⟩
          · rw [gL_sI, gL_sL, if_neg (by omega)]; exact e1
          · rw [gI_sI, if_neg (by omega), gI_sL]; exact e2
          · rw [gL_sI, gL_sL, if_pos ⟨rfl, rfl⟩, e3]; rfl
          · rw [gI_sI, if_pos ⟨rfl, rfl⟩, e4, ← nI_succ]
    have oc : ofC (nI q) = 28 + q := by
      have : q = 0 ∨ q = 1 := by omega
      rcases this with rfl | rfl <;> rfl
    have kc : gk M (28 + q) = 3 := by rw [← oc]; exact ofC_k h1
    have hi24 : i < 24 := by omega
    have hj24 : L.length - 1 - i < 24 := by omega
    have ei : (nI L.length - 1 - nI i : Int32) = nI (L.length - 1 - i) := by
      have e1 : (nI L.length - 1 : Int32) = nI (L.length - 1) := pk_sub (a := L.length) (b := 1) (by omega)
      rw [e1, pk_sub (by omega)]
    show fX1_choosing_L107 _ _ _ _ _ _ _ _ _ _ _ _ _
    unfold fX1_choosing_L107 fX1_choosing_L107s fX1_choosing_b148 fX3_adds
    rw [if_neg (nI_ge (by omega) (by omega))]
    simp only [pX1_ofC h1, oc, kc, xk16 h1, xk17 h1, xl17 h1, xr0 h1, xr10 h1, xr11 h1, xk28 h1, xk29 h1, xten h1, xby h1, xk16 h1, frx12 h1.1, fk30 h1.1, fl30 h1.1, vp_in_nI hi24 (N := 24) (by decide), nI_clamp (Nat.lt_trans hi24 (by decide : 24 < 2 ^ 31)), vp_in_nI hj24 (N := 24) (by decide), nI_clamp (Nat.lt_trans hj24 (by decide : 24 < 2 ^ 31)), ei, gdr_some, gk_sI, gk_sL, gk_sR, gl_sI, gl_sL, gl_sR, gn_sI, gn_sL, gn_sR, gs_sI, gs_sL, gs_sR, gR_sI, gR_sL, gI_sL, gI_sR, gL_sI, gL_sR, bi_ite, bi_01, true_and, and_true, ← nI_succ]
    cases g
    · simp only [Bool.false_eq_true, if_false]
      refine key _ ?_
      rw [h2 i (by omega)]
      rfl
    · simp only [if_true]
      refine key _ ?_
      rw [h2 _ (by omega)]
      rfl
theorem pX1_choosing (h : RX N n0 a9 D M) (ok : okD (dd D)) (ha : 12 ≤ a9) {b a k what : Int32} {Q : Int64 → gM → Prop} {E : Nat → gM → Prop} (hq : ∀ v, rCho (dd D) b a k what = some v → ∀ M', RX N n0 (a9 - 12) D M' → Q v M') (he : rCho (dd D) b a k what = none → ∀ o M', RX N n0 (a9 - 12) D M' → E o M') : fX1_choosing b a k what M Q E := by
  have kn : rCho (dd D) b a k what = none → fX1_choosing_b33 b a k what 0 M Q E := by
    intro e
    unfold fX1_choosing_b33
    exact x_no h (by omega) fun o M' h' => he e o M' (h'.less (by omega))
  unfold fX1_choosing fX1_choosing_b32
  simp only [pX1_areMonths, pX1_in, gdr_some, gk_sI, gk_sL, gk_sR, gl_sI, gl_sL, gl_sR, gn_sI, gn_sL, gn_sR, gs_sI, gs_sL, gs_sR, gR_sI, gR_sL, gI_sL, gI_sR, gL_sI, gL_sR, bi_ite, bi_01, true_and, and_true]
  cases q1 : arM b a
  · simp only [Bool.false_eq_true, if_false]
    exact kn (by unfold rCho; rw [q1]; simp)
  cases q2 : in9 1 12 k
  · simp only [Bool.false_eq_true, if_false, if_true]
    exact kn (by unfold rCho; rw [q2]; simp)
  cases q3 : in9 0 3 what
  · simp only [Bool.false_eq_true, if_false, if_true]
    exact kn (by unfold rCho; rw [q3]; simp)
  simp only [if_true]
  have q1' := q1
  obtain ⟨i, j, hi, hj, -, rfl, rfl⟩ := arM_n q1
  obtain ⟨w, hw, rfl⟩ : ∃ w : Nat, (1 ≤ w ∧ w ≤ 12) ∧ k = nI w := by
    have g := in9_iff.mp q2
    obtain ⟨w, hw, e⟩ := in_nI (N := 12) (by decide) (Int32.le_trans (by decide) g.1) g.2
    refine ⟨w, ⟨?_, hw⟩, e⟩
    have := g.1
    rw [e, Int32.le_iff_toInt_le, nI_toInt (by omega)] at this
    have e1 : (1 : Int32).toInt = 1 := rfl
    omega
  have e1 := cl_nI (k := i) (by omega)
  have e2 := cl_nI (k := j) (by omega)
  have e3 := cl_nI (k := w) (by omega)
  have eR : rCho (dd D) (nI i) (nI j) (nI w) what = if (decide (w ≤ chN (dd D) i j 0) && decide (w ≤ chN (dd D) i j 1)) = true then some (low (chU (dd D) i j 0 (bdG what) w - chU (dd D) i j 1 (!bdG what) w) (nJ w) (what - what / 2 * 2)) else none := by
    unfold rCho
    rw [q1', q2, q3, e1, e2, e3]
    simp
  rw [eR] at hq he
  unfold fX1_choosing_b33
  refine x_yes ?_
  refine ⟨xk16 h, ?_⟩
  refine pX1_begins h (fun _ => false) (fun _ => false) (fun _ => 0) fun M1 h1 m1 => ⟨3, ?_⟩
  have m1 : chS 0 0 0 0 M1 := m1
  -- one bank
  have bank : ∀ (q : Nat) (u : Int64) (m : Nat) (K : gM → Prop) (n : Nat) (M2 : gM), q < 2 → RX N n0 a9 D M2 → (if q = 0 then chS 0 0 u m M2 else chS u m 0 0 M2) → (w ≤ chN (dd D) i j q → ∀ M', RX N n0 a9 D M' → (if q = 0 then chS (chU (dd D) i j 0 (bdG what) w) w u m M' else chS u m (chU (dd D) i j 1 (!bdG what) w) w M') → fX1_choosing_L43 K (nI i) (nI j) (nI w) what Q E n (nI (q + 1)) M') → (¬ w ≤ chN (dd D) i j q → ∀ o M', RX N n0 (a9 - 12) D M' → E o M') → fX1_choosing_L43 K (nI i) (nI j) (nI w) what Q E (n + 1) (nI q) M2 := by
    intro q u m K n M2 hq2 h2 m2 hn hno
    have c24 : chN (dd D) i j q ≤ 24 := cn_le _ 24
    show fX1_choosing_L43 _ _ _ _ _ _ _ _ _ _
    unfold fX1_choosing_L43 fX1_choosing_L43s
    have q2 : ¬ (2 : Int32) ≤ nI q := nI_ge (b := 2) hq2 (by decide)
    rw [if_neg q2]
    have hF : ∀ M k v, (if q = 0 then chS 0 0 u m M else chS u m 0 0 M) → (if q = 0 then chS 0 0 u m (gsI M 30 k v) else chS u m 0 0 (gsI M 30 k v)) := by
      intro M k v hM
      have g : ∀ {u0 u1 : Int64} {m0 m1 : Nat}, chS u0 m0 u1 m1 M → chS u0 m0 u1 m1 (gsI M 30 k v) := fun ⟨x1, x2, x3, x4⟩ => ⟨x1, by rw [gI_sI, if_neg (by omega)]; exact x2, x3, by rw [gI_sI, if_neg (by omega)]; exact x4⟩
      split
      · next e => rw [if_pos e] at hM; exact g hM
      · next e => rw [if_neg e] at hM; exact g hM
    refine ⟨xk16 h2, pX1_sorts (fun M => if q = 0 then chS 0 0 u m M else chS u m 0 0 M) hF h2 m2 hi hj fun M3 h3 a3 m3 => ?_⟩
    have ll : (chL (dd D) i j q).length = chN (dd D) i j q := chL_len
    have lt : (nI (cn (clSel (dd D) (nI q) i j) 24) < nI w) ↔ chN (dd D) i j q < w := nI_ltI (a := chN (dd D) i j q) (by omega) (by omega)
    by_cases cw : w ≤ chN (dd D) i j q
    · rw [if_neg fun g => absurd (lt.mp g) (by omega)]
      have hn := hn cw
      have b102 : ∀ g : Bool, g = (if q = 0 then bdG what else !bdG what) → fX1_choosing_b102 (fX1_choosing_L43 K (nI i) (nI j) (nI w) what Q E n) (nI i) (nI j) (nI w) what (nI q) (nI (cn (clSel (dd D) (nI q) i j) 24)) (bi g) M3 Q E := by
        intro g hg
        unfold fX1_choosing_b102
        rw [show cn (clSel (dd D) (nI q) i j) 24 = (chL (dd D) i j q).length from ll.symm]
        refine chx_i (L := chL (dd D) i j q) (by omega) hq2 (by omega) (u := u) (m := m) (g := g) h3 a3 m3 fun M4 h4 m4 => ?_
        rw [← nI_succ]
        refine hn M4 h4 ?_
        have : q = 0 ∨ q = 1 := by omega
        rcases this with rfl | rfl
        · rw [if_pos rfl] at hg m4 ⊢; rw [hg] at m4; exact m4
        · rw [if_neg (by decide)] at hg m4 ⊢; rw [hg] at m4; exact m4
      unfold fX1_choosing_b70
      refine x_yes ?_
      unfold fX1_choosing_b84 fX1_choosing_b94
      have : q = 0 ∨ q = 1 := by omega
      by_cases c1 : what ≤ 1
      · rw [if_pos c1]
        rcases this with rfl | rfl
        · rw [if_pos (show nI 0 = 0 from rfl), if_neg (show ¬ (0 : Int32) = 1 by decide)]
          exact b102 false (by simp [bdG, c1])
        · rw [if_neg (show ¬ nI 1 = 0 by decide), if_pos (show (0 : Int32) = 0 from rfl)]
          exact b102 true (by simp [bdG, c1])
      · rw [if_neg c1]
        rcases this with rfl | rfl
        · rw [if_pos (show nI 0 = 0 from rfl), if_pos (show (1 : Int32) = 1 from rfl)]
          exact b102 true (by simp [bdG, c1])
        · rw [if_neg (show ¬ nI 1 = 0 by decide), if_neg (show ¬ (1 : Int32) = 0 by decide)]
          exact b102 false (by simp [bdG, c1])
    · rw [if_pos (lt.mpr (by omega))]
      unfold fX1_choosing_b70
      exact x_no h3 (by omega) fun o M' h' => hno cw o M' (h'.less (by omega))
  refine bank 0 0 0 _ 2 M1 (by decide) h1 m1 (fun c0 M2 h2 m2 => ?_) (fun c0 o M' h' => he (by simp [c0]) o M' h')
  refine bank 1 _ w _ 1 M2 (by decide) h2 m2 (fun c1 M3 h3 m3 => ?_) (fun c1 o M' h' => he (by simp [c1]) o M' h')
  show fX1_choosing_L43 _ _ _ _ _ _ _ _ _ _
  unfold fX1_choosing_L43 fX1_choosing_L43s
  rw [if_pos (by decide)]
  obtain ⟨x1, x2, x3, x4⟩ := m3
  refine ⟨xk16 h3, ?_⟩
  unfold fX1_above fX1_below
  have j1 : (nI w).toInt64 = nJ w := nI_J (by omega)
  simp only [xk16 h3, xk17 h3, xl17 h3, xr0 h3, xr10 h3, xr11 h3, xk28 h3, xk29 h3, xten h3, xby h3, gdr_some, gk_sI, gk_sL, gk_sR, gl_sI, gl_sL, gl_sR, gn_sI, gn_sL, gn_sR, gs_sI, gs_sL, gs_sR, gR_sI, gR_sL, gI_sL, gI_sR, gL_sI, gL_sR, bi_ite, bi_01, true_and, and_true, x1, x2, x3, x4, j1]
  have b0 := chU_b ok (g := bdG what) hi hj c0
  have b1 := chU_b ok (g := !bdG what) hi hj c1
  have hq := hq _ (if_pos (by simp [c0, c1])) M3 (h3.less (by omega))
  generalize chU (dd D) i j 0 (bdG what) w = s0 at *
  generalize chU (dd D) i j 1 (!bdG what) w = s1 at *
  have ed : (s0 - s1).toInt = s0.toInt - s1.toInt := by rw [Int64.toInt_sub, Int.bmod_eq_of_le (by omega) (by omega)]
  have eu : s0 * nJ w - s1 * nJ w = (s0 - s1) * nJ w := by grind
  rw [eu]
  obtain ⟨m1, m2, m3⟩ := J_mul (x := s0 - s1) (y := nJ w) (A := 96000) (B := 24) (by omega) (by omega) (by decide) (by omega) (by omega) (by rw [nJ_toInt (by omega)]; omega) (by rw [nJ_toInt (by omega)]; omega)
  have p1 : 0 < w * w := Nat.mul_pos (by omega) (by omega)
  have p2 : w * w ≤ 12 * 12 := Nat.mul_le_mul (by omega) (by omega)
  refine pX1_lowest (ne_min (by omega)) (by rw [nJ_mul, nJ_toInt (by omega)]; omega) (by rw [nJ_mul, nJ_toInt (by omega)]; omega) ?_
  rw [low_mul (by omega) (by omega) (by omega)]
  exact hq
end
/-! choosing, in m -/
set_option maxRecDepth 100000
section
variable {N M : gM} {D : gD}
theorem srm_i {F : gM → Prop} (hF : ∀ M k v, F M → F (gsI M 287 k v)) {L : List Int32} {v p1 p2 p3 p4 p5 k6 k7 : Int32} {K : Int32 → gM → Prop} {Q : Int64 → gM → Prop} (hL : L.length < 24) (hK : ∀ M', RM N D M' → arrI 287 L (insP L v L.length) M' → F M' → K (nI (insP L v L.length)) M') : ∀ (p : Nat) (M : gM), p ≤ L.length → insP L v p = insP L v L.length → RM N D M → arrI 287 L p M → F M → fX7_sumOf_L52 K p1 p2 p3 p4 p5 k6 k7 v Q (p + 1) (nI p) M := by
  intro p
  induction p with
  | zero =>
    intro M _ e h m f9
    unfold fX7_sumOf_L52 fX7_sumOf_L52s
    rw [if_pos (by decide)]
    have e : 0 = insP L v L.length := e
    rw [← e] at hK
    exact hK M h m f9
  | succ p ih =>
    intro M hp e h m f9
    unfold fX7_sumOf_L52 fX7_sumOf_L52s
    rw [if_neg (nI_nle (by omega) (by omega))]
    have hp1 : p + 1 < 24 := by omega
    have hp0 : p < 24 := by omega
    have gp : gI M 287 p = L.getD p 0 := m.1 p (by omega)
    simp only [nI_pred, mk268 h, frm30 h.1, fk287 h.1, fl287 h.1, vp_in_nI hp1 (N := 24) (by decide), nI_clamp (Nat.lt_trans hp1 (by decide : 24 < 2 ^ 31)), vp_in_nI hp0 (N := 24) (by decide), nI_clamp (Nat.lt_trans hp0 (by decide : 24 < 2 ^ 31)), gdr_some, gk_sI, gk_sL, gk_sR, gl_sI, gl_sL, gl_sR, gn_sI, gn_sL, gn_sR, gs_sI, gs_sL, gs_sR, gR_sI, gR_sL, gI_sL, gI_sR, gL_sI, gL_sR, bi_ite, bi_01, true_and, and_true, gp]
    have e3 : insP L v (p + 1) = if L.getD p 0 ≤ v then p + 1 else insP L v p := rfl
    rw [e3] at e
    by_cases c : L.getD p 0 ≤ v
    · rw [if_pos c] at e ⊢
      rw [← e] at hK
      exact hK M h m f9
    · rw [if_neg c] at e ⊢
      rw [pk_m1]
      have key := arrI_s m
      rw [gp] at key
      exact ih _ (by omega) e (h.sI (by unfold mScr; omega)) key (hF _ _ _ f9)
theorem srm_s (ok : okD (dd D)) {F : gM → Prop} (hF : ∀ M k v, F M → F (gsI M 287 k v)) (h : RM N D M) (f9 : F M) {bk9 sg p4 : Int32} {b a k : Nat} (hb : b < 12) (ha : a < 12) (hk : k < 24) (m : arr 287 (insN (clSel (dd D) bk9 b a) (fun k => sg * chg (dd D) k b a) k) M) {R : Int32 → Int32 → gM → Prop} {K : Int32 → gM → Prop} {Q : Int64 → gM → Prop} (hn : ∀ M', RM N D M' ∧ arr 287 (insN (clSel (dd D) bk9 b a) (fun k => sg * chg (dd D) k b a) (k + 1)) M' ∧ F M' → R (nI (cn (clSel (dd D) bk9 b a) (k + 1))) (nI (k + 1)) M') : fX7_sumOf_L6s R K bk9 (nI b) (nI a) p4 sg (nI (cn (clSel (dd D) bk9 b a) k)) (nI k) M Q := by
  have hl := insN_len (sel := clSel (dd D) bk9 b a) (v := fun k => sg * chg (dd D) k b a) k
  have hc := cn_le (clSel (dd D) bk9 b a) k
  unfold fX7_sumOf_L6s
  rw [if_neg (nge24 hk)]
  have no : clSel (dd D) bk9 b a k = false → fX7_sumOf_b105 R bk9 (nI b) (nI a) p4 sg (nI (cn (clSel (dd D) bk9 b a) k)) (nI k) M Q := by
    intro e
    unfold fX7_sumOf_b105
    rw [← nI_succ]
    have e2 : insN (clSel (dd D) bk9 b a) (fun k => sg * chg (dd D) k b a) (k + 1) = insN (clSel (dd D) bk9 b a) (fun k => sg * chg (dd D) k b a) k := by
      show (if clSel (dd D) bk9 b a k = true then _ else _) = _
      rw [e]; rfl
    rw [e2, cn_f e] at hn
    exact hn M ⟨h, m, f9⟩
  simp only [mk268 h, frm11 h.1, fk275 h.1, fl275 h.1, vp_in_nI hk (N := 24) (by decide), nI_clamp (Nat.lt_trans hk (by decide : 24 < 2 ^ 31)), mK h hk, gdr_some, gk_sI, gk_sL, gk_sR, gl_sI, gl_sL, gl_sR, gn_sI, gn_sL, gn_sR, gs_sI, gs_sL, gs_sR, gR_sI, gR_sL, gI_sL, gI_sR, gL_sI, gL_sR, bi_ite, bi_01, true_and, and_true, pX7_isCounted h hk hb ha, pX7_changeOf h ok hk hb ha]
  cases e : cnt (dd D) k b a
  · simp only [Bool.false_eq_true, if_false]
    exact no (by simp [clSel, e])
  simp only [if_true]
  by_cases e0 : dd D 0 k 0 = bk9
  · rw [if_pos e0]
    have es : clSel (dd D) bk9 b a k = true := by simp [clSel, e, e0]
    have e2 : insN (clSel (dd D) bk9 b a) (fun k => sg * chg (dd D) k b a) (k + 1) = insL (insN (clSel (dd D) bk9 b a) (fun k => sg * chg (dd D) k b a) k) (sg * chg (dd D) k b a) := by
      show (if clSel (dd D) bk9 b a k = true then _ else _) = _
      rw [es]; rfl
    rw [e2, cn_t es] at hn
    refine ⟨cn (clSel (dd D) bk9 b a) k + 1, ?_⟩
    generalize insN (clSel (dd D) bk9 b a) (fun k => sg * chg (dd D) k b a) k = L at *
    rw [← hl] at hn ⊢
    refine srm_i hF (by omega) (fun M' h' m' f' => ?_) L.length M (Nat.le_refl _) rfl h (arrI_n m) f9
    have hp := insP_le (L := L) (v := sg * chg (dd D) k b a) L.length
    have hp24 : insP L (sg * chg (dd D) k b a) L.length < 24 := by omega
    unfold fX7_sumOf_b93 fX7_sumOf_b105
    simp only [mk268 h', frm30 h'.1, fk287 h'.1, fl287 h'.1, vp_in_nI hp24 (N := 24) (by decide), nI_clamp (Nat.lt_trans hp24 (by decide : 24 < 2 ^ 31)), gdr_some, gk_sI, gk_sL, gk_sR, gl_sI, gl_sL, gl_sR, gn_sI, gn_sL, gn_sR, gs_sI, gs_sL, gs_sR, gR_sI, gR_sL, gI_sL, gI_sR, gL_sI, gL_sR, bi_ite, bi_01, true_and, and_true, ← nI_succ]
    exact hn _ ⟨h'.sI (by unfold mScr; omega), arrI_e m', hF _ _ _ f'⟩
  · rw [if_neg e0]
    exact no (by simp [clSel, e0])
theorem pX7_sumOf (ok : okD (dd D)) (F : gM → Prop) (hF : ∀ M k v, F M → F (gsI M 287 k v)) (h : RM N D M) (f9 : F M) {bk9 sg : Int32} {b a k : Nat} (hb : b < 12) (ha : a < 12) (hk : k ≤ cn (clSel (dd D) bk9 b a) 24) {Q : Int64 → gM → Prop} (hq : ∀ M', RM N D M' → F M' → Q (sg.toInt64 * smJ (fun i => (insN (clSel (dd D) bk9 b a) (fun k => sg * chg (dd D) k b a) 24).getD i 0) k) M') : fX7_sumOf bk9 (nI b) (nI a) (nI k) sg M Q := by
  have hc := cn_le (clSel (dd D) bk9 b a) 24
  have hl := insN_len (sel := clSel (dd D) bk9 b a) (v := fun k => sg * chg (dd D) k b a) 24
  unfold fX7_sumOf
  refine ⟨25, ?_⟩
  refine loopN (T := 24) (G := fun n j M => fX7_sumOf_L6 (fun l6_53 M54 => ∃ n, fX7_sumOf_L117 (fun l7_67 M68 => fX7_sumOf_b150 sg l7_67 M68 Q) (nI k) sg l6_53 Q n 0 0 M54) bk9 (nI b) (nI a) (nI k) sg Q n (nI (cn (clSel (dd D) bk9 b a) j)) (nI j) M) (I := fun j M => RM N D M ∧ arr 287 (insN (clSel (dd D) bk9 b a) (fun k => sg * chg (dd D) k b a) j) M ∧ F M) (fun n M hI => ?_) (fun n j M hj hI hn => ?_) 24 0 M rfl ⟨h, fun i hi => absurd hi (by simp [insN]), f9⟩
  · unfold fX7_sumOf_L6 fX7_sumOf_L6s
    rw [if_pos ge24]
    obtain ⟨h1, h2, h3⟩ := hI
    have hq := hq M h1 h3
    refine ⟨k + 1, ?_⟩
    generalize insN (clSel (dd D) bk9 b a) (fun k => sg * chg (dd D) k b a) 24 = L at *
    refine loopN (T := k) (G := fun n i M => fX7_sumOf_L117 (fun l7_67 M68 => fX7_sumOf_b150 sg l7_67 M68 Q) (nI k) sg (nI (cn (clSel (dd D) bk9 b a) 24)) Q n (smJ (fun i => L.getD i 0) i) (nI i) M) (I := fun i M1 => M1 = M) (fun n M1 hI => ?_) (fun n i M1 hi hI hn => ?_) k 0 M (by omega) rfl
    · subst hI
      unfold fX7_sumOf_L117 fX7_sumOf_L117s
      rw [if_pos (nI_le (Nat.le_refl _) (by omega))]
      unfold fX7_sumOf_b150
      exact hq
    · subst hI
      have hn := hn _ rfl
      have hi24 : i < 24 := by omega
      show fX7_sumOf_L117 _ _ _ _ _ _ _ _ _
      unfold fX7_sumOf_L117 fX7_sumOf_L117s
      rw [if_neg (nI_ge (by omega) (by omega)), if_neg (nI_ge (by omega) (by omega))]
      simp only [mk268 h1, frm30 h1.1, fk287 h1.1, fl287 h1.1, vp_in_nI hi24 (N := 24) (by decide), nI_clamp (Nat.lt_trans hi24 (by decide : 24 < 2 ^ 31)), gdr_some, gk_sI, gk_sL, gk_sR, gl_sI, gl_sL, gl_sR, gn_sI, gn_sL, gn_sR, gs_sI, gs_sL, gs_sR, gR_sI, gR_sL, gI_sL, gI_sR, gL_sI, gL_sR, bi_ite, bi_01, true_and, and_true, ← nI_succ]
      rw [h2 i (by omega)]
      exact hn
  · show fX7_sumOf_L6 _ _ _ _ _ _ _ _ _ _ _
    unfold fX7_sumOf_L6
    exact srm_s ok hF hI.1 hI.2.2 hb ha hj hI.2.1 hn
theorem smJ_eq {f g : Nat → Int32} : ∀ n : Nat, (∀ i, i < n → f i = g i) → smJ f n = smJ g n := by
  intro n
  induction n with
  | zero => intro _; rfl
  | succ n ih =>
    intro h
    unfold smJ
    rw [ih fun i hi => h i (by omega), h n (by omega)]
theorem smJ_neg {f g : Nat → Int32} : ∀ n : Nat, (∀ i, i < n → (f i).toInt64 = -(g i).toInt64) → smJ f n = -smJ g n := by
  intro n
  induction n with
  | zero => intro _; show (0 : Int64) = -0; decide
  | succ n ih =>
    intro h
    unfold smJ
    rw [ih fun i hi => h i (by omega), h n (by omega)]
    grind
theorem sum_pos {d : Nat → Nat → Nat → Int32} {b a q k : Nat} : (1 : Int32).toInt64 * smJ (fun i => (insN (clSel d (nI q) b a) (fun k => 1 * chg d k b a) 24).getD i 0) k = chU d b a q false k := by
  have e : (fun k => 1 * chg d k b a) = fun k => chg d k b a := by funext k; exact Int32.one_mul _
  rw [e]
  show (1 : Int64) * _ = _
  rw [Int64.one_mul]
  rfl
theorem sum_neg {d : Nat → Nat → Nat → Int32} (ok : okD d) {b a q k : Nat} (hb : b < 12) (ha : a < 12) (hk : k ≤ chN d b a q) : (-1 : Int32).toInt64 * smJ (fun i => (insN (clSel d (nI q) b a) (fun k => -1 * chg d k b a) 24).getD i 0) k = chU d b a q true k := by
  have e : (fun k => -1 * chg d k b a) = fun k => -(chg d k b a) := by funext k; grind
  have hl := chL_len (d := d) (b := b) (a := a) (q := q)
  rw [e, insN_neg (ch_v ok hb ha)]
  show (-1 : Int64) * _ = _
  have e2 : smJ (fun i => ((insN (clSel d (nI q) b a) (fun k => chg d k b a) 24).map (fun x => -x)).reverse.getD i 0) k = -smJ (cxA (chL d b a q) true) k := by
    refine smJ_neg k fun i hi => ?_
    have hi2 : i < (chL d b a q).length := by omega
    have hm := getD_mem9 (L := chL d b a q) (i := (chL d b a q).length - 1 - i) (by omega)
    have hbd := insN_b (ch_v ok hb ha) hm
    have e3 : ((insN (clSel d (nI q) b a) (fun k => chg d k b a) 24).map (fun x => -x)).reverse.getD i 0 = -((chL d b a q).getD ((chL d b a q).length - 1 - i) 0) := by
      show ((chL d b a q).map (fun x => -x)).reverse.getD i 0 = _
      rw [List.getD_eq_getElem?_getD, List.getElem?_reverse (by simpa using hi2), List.getElem?_map, List.length_map, List.getD_eq_getElem?_getD, List.getElem?_eq_getElem (by omega)]
      rfl
    show (((insN (clSel d (nI q) b a) (fun k => chg d k b a) 24).map (fun x => -x)).reverse.getD i 0).toInt64 = _
    rw [e3]
    show _ = -((chL d b a q).getD ((chL d b a q).length - 1 - i) 0).toInt64
    generalize (chL d b a q).getD ((chL d b a q).length - 1 - i) 0 = x at *
    refine Int64.toInt_inj.mp ?_
    rw [Int32.toInt_toInt64, Int32.toInt_neg, Int64.toInt_neg, Int32.toInt_toInt64, Int.bmod_eq_of_le (by omega) (by omega), Int.bmod_eq_of_le (by omega) (by omega)]
  rw [e2]
  show (-1 : Int64) * -(chU d b a q true k) = _
  grind
theorem cn_ext {s t : Nat → Bool} : ∀ n : Nat, (∀ k, k < n → s k = t k) → cn s n = cn t n := by
  intro n
  induction n with
  | zero => intro _; rfl
  | succ n ih =>
    intro h
    unfold cn
    rw [ih fun k hk => h k (by omega), h n (by omega)]
theorem chN_0 {d : Nat → Nat → Nat → Int32} {b a : Nat} : cn (fun k => cnW d b a (-1) k && fs0 d k) 24 = chN d b a 0 := by
  refine cn_ext 24 fun k hk => ?_
  have z : nI k ≠ -1 := nI_ne1 hk
  have z0 : (nI 0 : Int32) = 0 := rfl
  unfold cnW fs0 clSel
  rw [z0]
  simp [z]
theorem chN_1 {d : Nat → Nat → Nat → Int32} (ok : okD d) {b a : Nat} : cn (fun k => cnW d b a (-1) k && !fs0 d k) 24 = chN d b a 1 := by
  refine cn_ext 24 fun k hk => ?_
  have z : nI k ≠ -1 := nI_ne1 hk
  have z0 : (nI 1 : Int32) = 1 := rfl
  unfold cnW fs0 clSel
  rw [z0]
  rcases (ok.1 k hk).1 with e | e <;> simp [z, e]
theorem pX7_choosing (h : RM N D M) (ok : okD (dd D)) {b a k what : Int32} {Q : Int64 → gM → Prop} (hq : ∀ v, rCho (dd D) b a k what = some v → ∀ M', RM N D M' → gI M' 268 0 = 0 → Q v M') (he : rCho (dd D) b a k what = none → ∀ M', RM N D M' → gI M' 268 0 = 1 → Q 0 M') : fX7_choosing b a k what M Q := by
  have kn : rCho (dd D) b a k what = none → fX7_choosing_b34 b a k what 1 M Q := by
    intro e
    unfold fX7_choosing_b34
    exact m_no h (he e)
  have kn2 : ∀ M1, RM N D M1 → rCho (dd D) b a k what = none → fX7_choosing_b75 b a k what M1 Q := by
    intro M1 h1 e
    unfold fX7_choosing_b75 fX7_choosing_b80
    exact m_no h1 (he e)
  unfold fX7_choosing fX7_choosing_b33
  simp only [pX7_areMonths, pX7_within, gdr_some, gk_sI, gk_sL, gk_sR, gl_sI, gl_sL, gl_sR, gn_sI, gn_sL, gn_sR, gs_sI, gs_sL, gs_sR, gR_sI, gR_sL, gI_sL, gI_sR, gL_sI, gL_sR, bi_ite, bi_01, true_and, and_true]
  cases q1 : arM b a
  · simp only [Bool.false_eq_true, if_false]
    exact kn (by unfold rCho; rw [q1]; simp)
  cases q2 : in9 1 12 k
  · simp only [Bool.false_eq_true, if_false, if_true]
    exact kn (by unfold rCho; rw [q2]; simp)
  cases q3 : in9 0 3 what
  · simp only [Bool.false_eq_true, if_false, if_true]
    exact kn (by unfold rCho; rw [q3]; simp)
  simp only [if_true]
  have q1' := q1
  obtain ⟨i, j, hi, hj, -, rfl, rfl⟩ := arM_n q1
  obtain ⟨w, hw, rfl⟩ : ∃ w : Nat, (1 ≤ w ∧ w ≤ 12) ∧ k = nI w := by
    have g := in9_iff.mp q2
    obtain ⟨w, hw, e⟩ := in_nI (N := 12) (by decide) (Int32.le_trans (by decide) g.1) g.2
    refine ⟨w, ⟨?_, hw⟩, e⟩
    have := g.1
    rw [e, Int32.le_iff_toInt_le, nI_toInt (by omega)] at this
    have e1 : (1 : Int32).toInt = 1 := rfl
    omega
  have e1 := cl_nI (k := i) (by omega)
  have e2 := cl_nI (k := j) (by omega)
  have e3 := cl_nI (k := w) (by omega)
  have eR : rCho (dd D) (nI i) (nI j) (nI w) what = if (decide (w ≤ chN (dd D) i j 0) && decide (w ≤ chN (dd D) i j 1)) = true then some (low (chU (dd D) i j 0 (bdG what) w - chU (dd D) i j 1 (!bdG what) w) (nJ w) (what - what / 2 * 2)) else none := by
    unfold rCho
    rw [q1', q2, q3, e1, e2, e3]
    simp
  rw [eR] at hq kn2
  unfold fX7_choosing_b34
  refine m_yes h (A := fun M => fX7_findRiver (nI i) (nI j) (-1) M _) fun M0 h0 t0 => ?_
  refine pX7_findRiver h0 ok hi hj fun M1 h1 m1 u1 => ?_
  obtain ⟨m1, m2, m3, m4⟩ := m1
  rw [chN_0] at m2
  rw [chN_1 ok] at m4
  have c24 : chN (dd D) i j 0 ≤ 24 := cn_le _ 24
  have d24 : chN (dd D) i j 1 ≤ 24 := cn_le _ 24
  have ej : (nI w).toInt64 = nJ w := nI_J (by omega)
  have lt0 : lg_cmp (nJ (chN (dd D) i j 0)) (nJ w) < 0 ↔ chN (dd D) i j 0 < w := by rw [lg_cmp_lt, Int64.lt_iff_toInt_lt, nJ_toInt (by omega), nJ_toInt (by omega)]; omega
  have ge1 : 0 ≤ lg_cmp (nJ (chN (dd D) i j 1)) (nJ w) ↔ w ≤ chN (dd D) i j 1 := by rw [lg_cmp_ge, Int64.le_iff_toInt_le, nJ_toInt (by omega), nJ_toInt (by omega)]; omega
  refine ⟨mk268 h1, ?_⟩
  rw [m2, m4, ej]
  by_cases c0 : w ≤ chN (dd D) i j 0
  · rw [if_neg fun q => absurd (lt0.mp q) (by omega)]
    by_cases c1 : w ≤ chN (dd D) i j 1
    · rw [if_pos (ge1.mpr c1)]
      have hq := hq _ (if_pos (by simp [c0, c1]))
      have b103 : ∀ (g : Bool) (M2 : gM), g = bdG what → RM N D M2 → gI M2 268 0 = 0 → fX7_choosing_b103 (nI i) (nI j) (nI w) what (if g = true then -1 else 1) M2 Q := by
        intro g M2 hg h2 t2
        subst hg
        unfold fX7_choosing_b103
        have F9 : ∀ M k v, gI M 268 0 = 0 → gI (gsI M 287 k v) 268 0 = 0 := fun M k v e => by rw [gI_sI, if_neg (by omega)]; exact e
        refine ⟨mk268 h2, pX7_sumOf (bk9 := nI 0) ok (fun M => gI M 268 0 = 0) F9 h2 t2 hi hj c0 fun M3 h3 t3 => ?_⟩
        refine ⟨mk268 h3, pX7_sumOf (bk9 := nI 1) ok (fun M => gI M 268 0 = 0) F9 h3 t3 hi hj c1 fun M4 h4 t4 => ?_⟩
        refine ⟨mk268 h4, ?_⟩
        have b0 := chU_b ok (g := bdG what) hi hj c0
        have b1 := chU_b ok (g := !bdG what) hi hj c1
        have fin : ∀ s0 s1, s0 = chU (dd D) i j 0 (bdG what) w → s1 = chU (dd D) i j 1 (!bdG what) w → fX7_lowest (what - what / 2 * 2) (gsL (gsL M4 268 24 (s0 - s1)) 268 25 (nI w).toInt64) (fun r44 M43 => Q r44 M43) := by
          intro s0 s1 x0 x1
          have ed : (s0 - s1).toInt = s0.toInt - s1.toInt := by rw [x0, x1, Int64.toInt_sub, Int.bmod_eq_of_le (by omega) (by omega)]
          refine pX7_lowest ((h4.sL (Or.inl rfl)).sL (Or.inl rfl)) (up := s0 - s1) (dn := nJ w) ⟨?_, ?_⟩ (ne_min (by rw [ed, x0, x1]; omega)) (by rw [nJ_toInt (by omega)]; omega) (by rw [nJ_toInt (by omega)]; omega) ?_
          · rw [gL_sL, if_neg (by omega), gL_sL, if_pos ⟨rfl, rfl⟩]
          · rw [gL_sL, if_pos ⟨rfl, rfl⟩, ej]
          · subst x0 x1
            exact hq _ ((h4.sL (Or.inl rfl)).sL (Or.inl rfl)) t4
        cases eg : bdG what
        · rw [eg] at fin
          simp only [Bool.false_eq_true, if_false]
          refine fin _ _ sum_pos ?_
          exact sum_neg ok hi hj c1
        · rw [eg] at fin
          simp only [if_true]
          refine fin _ _ (sum_neg ok hi hj c0) ?_
          exact sum_pos
      unfold fX7_choosing_b80
      refine m_yes h1 (A := fun M2 => if 2 ≤ what then fX7_choosing_b103 (nI i) (nI j) (nI w) what (-1) M2 Q else fX7_choosing_b103 (nI i) (nI j) (nI w) what 1 M2 Q) fun M2 h2 t2 => ?_
      show (if 2 ≤ what then _ else _)
      by_cases c2 : what ≤ 1
      · rw [if_neg (by rw [two_le]; exact fun q => q c2)]
        exact b103 false M2 (by simp [bdG, c2]) h2 t2
      · rw [if_pos (by rw [two_le]; exact c2)]
        exact b103 true M2 (by simp [bdG, c2]) h2 t2
    · rw [if_neg fun q => c1 (ge1.mp q)]
      exact kn2 M1 h1 (if_neg (by simp [c1]))
  · rw [if_pos (lt0.mpr (by omega))]
    exact kn2 M1 h1 (if_neg (by simp [c0]))
end
