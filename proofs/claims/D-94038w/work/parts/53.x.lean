/-! ROWS to read the picture; x's methods without loops -/
set_option maxRecDepth 100000
section
variable {N M : gM} {n0 a : Nat} {D : gD}
theorem xk16 (h : RX N n0 a D M) : gk M 16 = 1 := fk16 h.1
theorem xk17 (h : RX N n0 a D M) : gk M 17 = 44 := fk17 h.1
theorem xl17 (h : RX N n0 a D M) : gl M 17 = 24 := fl17 h.1
theorem xr0 (h : RX N n0 a D M) : gR M 16 0 = some 17 := frx0 h.1
theorem xr10 (h : RX N n0 a D M) : gR M 16 10 = some 28 := frx10 h.1
theorem xr11 (h : RX N n0 a D M) : gR M 16 11 = some 29 := frx11 h.1
theorem xk28 (h : RX N n0 a D M) : gk M 28 = 3 := fk28 h.1
theorem xk29 (h : RX N n0 a D M) : gk M 29 = 3 := fk29 h.1
theorem xten (h : RX N n0 a D M) : gI M 16 8 = dd D 13 0 0 := h.2.2.1.2.2.2.1
theorem xby (h : RX N n0 a D M) : gI M 16 9 = dd D 13 0 1 := h.2.2.1.2.2.2.2
variable {k m : Nat}
theorem kr (h : RX N n0 a D M) (hk : k < 24) : gR M 17 k = some (88 + 7 * k) := frK h.1 hk
theorem kk (h : RX N n0 a D M) (hk : k < 24) : gk M (88 + 7 * k) = 4 := fkK h.1 hk
theorem kr5 (h : RX N n0 a D M) (hk : k < 24) : gR M (88 + 7 * k) 5 = some (89 + 7 * k) := by
  have e := frA h.1 hk (j := 0) (by decide)
  rw [show 89 + 7 * k + 0 = 89 + 7 * k by omega] at e; exact e
theorem kk5 (h : RX N n0 a D M) (hk : k < 24) : gk M (89 + 7 * k) = 40 := by
  have e := fkA h.1 hk (j := 0) (by decide)
  rw [show 89 + 7 * k + 0 = 89 + 7 * k by omega] at e; exact e
theorem kl5 (h : RX N n0 a D M) (hk : k < 24) : gl M (89 + 7 * k) = 12 := by
  have e := flA h.1 hk (j := 0) (by decide)
  rw [show 89 + 7 * k + 0 = 89 + 7 * k by omega] at e; exact e
theorem ki5 (h : RX N n0 a D M) (hk : k < 24) (hm : m < 12) : gI M (89 + 7 * k) m = dd D 5 k m := by
  have e := h.2.2.1.2.1 0 k m (by decide) hk hm
  rw [show 89 + 7 * k + 0 = 89 + 7 * k by omega] at e; exact e
theorem kr6 (h : RX N n0 a D M) (hk : k < 24) : gR M (88 + 7 * k) 6 = some (90 + 7 * k) := by
  have e := frA h.1 hk (j := 1) (by decide)
  rw [show 89 + 7 * k + 1 = 90 + 7 * k by omega] at e; exact e
theorem kk6 (h : RX N n0 a D M) (hk : k < 24) : gk M (90 + 7 * k) = 40 := by
  have e := fkA h.1 hk (j := 1) (by decide)
  rw [show 89 + 7 * k + 1 = 90 + 7 * k by omega] at e; exact e
theorem kl6 (h : RX N n0 a D M) (hk : k < 24) : gl M (90 + 7 * k) = 12 := by
  have e := flA h.1 hk (j := 1) (by decide)
  rw [show 89 + 7 * k + 1 = 90 + 7 * k by omega] at e; exact e
theorem ki6 (h : RX N n0 a D M) (hk : k < 24) (hm : m < 12) : gI M (90 + 7 * k) m = dd D 6 k m := by
  have e := h.2.2.1.2.1 1 k m (by decide) hk hm
  rw [show 89 + 7 * k + 1 = 90 + 7 * k by omega] at e; exact e
theorem kr7 (h : RX N n0 a D M) (hk : k < 24) : gR M (88 + 7 * k) 7 = some (91 + 7 * k) := by
  have e := frA h.1 hk (j := 2) (by decide)
  rw [show 89 + 7 * k + 2 = 91 + 7 * k by omega] at e; exact e
theorem kk7 (h : RX N n0 a D M) (hk : k < 24) : gk M (91 + 7 * k) = 40 := by
  have e := fkA h.1 hk (j := 2) (by decide)
  rw [show 89 + 7 * k + 2 = 91 + 7 * k by omega] at e; exact e
theorem kl7 (h : RX N n0 a D M) (hk : k < 24) : gl M (91 + 7 * k) = 12 := by
  have e := flA h.1 hk (j := 2) (by decide)
  rw [show 89 + 7 * k + 2 = 91 + 7 * k by omega] at e; exact e
theorem ki7 (h : RX N n0 a D M) (hk : k < 24) (hm : m < 12) : gI M (91 + 7 * k) m = dd D 7 k m := by
  have e := h.2.2.1.2.1 2 k m (by decide) hk hm
  rw [show 89 + 7 * k + 2 = 91 + 7 * k by omega] at e; exact e
theorem kr8 (h : RX N n0 a D M) (hk : k < 24) : gR M (88 + 7 * k) 8 = some (92 + 7 * k) := by
  have e := frA h.1 hk (j := 3) (by decide)
  rw [show 89 + 7 * k + 3 = 92 + 7 * k by omega] at e; exact e
theorem kk8 (h : RX N n0 a D M) (hk : k < 24) : gk M (92 + 7 * k) = 40 := by
  have e := fkA h.1 hk (j := 3) (by decide)
  rw [show 89 + 7 * k + 3 = 92 + 7 * k by omega] at e; exact e
theorem kl8 (h : RX N n0 a D M) (hk : k < 24) : gl M (92 + 7 * k) = 12 := by
  have e := flA h.1 hk (j := 3) (by decide)
  rw [show 89 + 7 * k + 3 = 92 + 7 * k by omega] at e; exact e
theorem ki8 (h : RX N n0 a D M) (hk : k < 24) (hm : m < 12) : gI M (92 + 7 * k) m = dd D 8 k m := by
  have e := h.2.2.1.2.1 3 k m (by decide) hk hm
  rw [show 89 + 7 * k + 3 = 92 + 7 * k by omega] at e; exact e
theorem kr9 (h : RX N n0 a D M) (hk : k < 24) : gR M (88 + 7 * k) 9 = some (93 + 7 * k) := by
  have e := frA h.1 hk (j := 4) (by decide)
  rw [show 89 + 7 * k + 4 = 93 + 7 * k by omega] at e; exact e
theorem kk9 (h : RX N n0 a D M) (hk : k < 24) : gk M (93 + 7 * k) = 40 := by
  have e := fkA h.1 hk (j := 4) (by decide)
  rw [show 89 + 7 * k + 4 = 93 + 7 * k by omega] at e; exact e
theorem kl9 (h : RX N n0 a D M) (hk : k < 24) : gl M (93 + 7 * k) = 12 := by
  have e := flA h.1 hk (j := 4) (by decide)
  rw [show 89 + 7 * k + 4 = 93 + 7 * k by omega] at e; exact e
theorem ki9 (h : RX N n0 a D M) (hk : k < 24) (hm : m < 12) : gI M (93 + 7 * k) m = dd D 9 k m := by
  have e := h.2.2.1.2.1 4 k m (by decide) hk hm
  rw [show 89 + 7 * k + 4 = 93 + 7 * k by omega] at e; exact e
theorem kr10 (h : RX N n0 a D M) (hk : k < 24) : gR M (88 + 7 * k) 10 = some (94 + 7 * k) := by
  have e := frA h.1 hk (j := 5) (by decide)
  rw [show 89 + 7 * k + 5 = 94 + 7 * k by omega] at e; exact e
theorem kk10 (h : RX N n0 a D M) (hk : k < 24) : gk M (94 + 7 * k) = 40 := by
  have e := fkA h.1 hk (j := 5) (by decide)
  rw [show 89 + 7 * k + 5 = 94 + 7 * k by omega] at e; exact e
theorem kl10 (h : RX N n0 a D M) (hk : k < 24) : gl M (94 + 7 * k) = 12 := by
  have e := flA h.1 hk (j := 5) (by decide)
  rw [show 89 + 7 * k + 5 = 94 + 7 * k by omega] at e; exact e
theorem ki10 (h : RX N n0 a D M) (hk : k < 24) (hm : m < 12) : gI M (94 + 7 * k) m = dd D 10 k m := by
  have e := h.2.2.1.2.1 5 k m (by decide) hk hm
  rw [show 89 + 7 * k + 5 = 94 + 7 * k by omega] at e; exact e
theorem ki0 (h : RX N n0 a D M) (hk : k < 24) : gI M (88 + 7 * k) 0 = dd D 0 k 0 := h.2.2.1.1 0 k (by decide) hk
theorem ki1 (h : RX N n0 a D M) (hk : k < 24) : gI M (88 + 7 * k) 1 = dd D 1 k 0 := h.2.2.1.1 1 k (by decide) hk
theorem ki2 (h : RX N n0 a D M) (hk : k < 24) : gI M (88 + 7 * k) 2 = dd D 2 k 0 := h.2.2.1.1 2 k (by decide) hk
theorem ki3 (h : RX N n0 a D M) (hk : k < 24) : gI M (88 + 7 * k) 3 = dd D 3 k 0 := h.2.2.1.1 3 k (by decide) hk
theorem ki4 (h : RX N n0 a D M) (hk : k < 24) : gI M (88 + 7 * k) 4 = dd D 4 k 0 := h.2.2.1.1 4 k (by decide) hk
end
theorem nge24 {k : Nat} (h : k < 24) : ¬ (24 : Int32) ≤ nI k := nI_ge (b := 24) h (by decide)
theorem nge12 {k : Nat} (h : k < 12) : ¬ (12 : Int32) ≤ nI k := nI_ge (b := 12) h (by decide)
theorem ge24 : (24 : Int32) ≤ nI 24 := by decide
theorem ge12 : (12 : Int32) ≤ nI 12 := by decide
theorem bi_Q {c : Prop} [inst9 : Decidable c] {Q : Int32 → gM → Prop} {M : gM} : (if c then Q 1 M else Q 0 M) = Q (bi (decide c)) M := by
  by_cases h : c <;> simp [bi, h]
theorem bi_Qn {c : Prop} [inst9 : Decidable c] {Q : Int32 → gM → Prop} {M : gM} : (if c then Q 0 M else Q 1 M) = Q (bi (decide (¬ c))) M := by
  by_cases h : c <;> simp [bi, h]
def in9 (lo hi p : Int32) : Bool := decide (lo ≤ p) && decide (p ≤ hi)
theorem in9_iff {lo hi p : Int32} : in9 lo hi p = true ↔ lo ≤ p ∧ p ≤ hi := by simp [in9]
theorem in9_nI {n : Nat} {hi p : Int32} (hn : hi = nI n) (h2 : n < 2 ^ 31) (h : in9 0 hi p = true) : ∃ k : Nat, k < n + 1 ∧ p = nI k := by
  subst hn
  have h := in9_iff.mp h
  obtain ⟨k, hk, e⟩ := in_nI h2 h.1 h.2
  exact ⟨k, by omega, e⟩
theorem in24 {p : Int32} (h : in9 0 23 p = true) : ∃ k : Nat, k < 24 ∧ p = nI k := in9_nI (n := 23) rfl (by decide) h
theorem in12 {p : Int32} (h : in9 0 11 p = true) : ∃ k : Nat, k < 12 ∧ p = nI k := in9_nI (n := 11) rfl (by decide) h
theorem nI_in9 {n k : Nat} {hi : Int32} (hn : hi = nI n) (h2 : n < 2 ^ 31) (h : k ≤ n) : in9 0 hi (nI k) = true := by
  subst hn
  exact in9_iff.mpr ⟨nI_pos' (by omega), nI_le h h2⟩
theorem pX1_in {p lo hi : Int32} {M : gM} {Q : Int32 → gM → Prop} : fX1_in p lo hi M Q = Q (bi (in9 lo hi p)) M := by
  unfold fX1_in fX1_in_b14 bi in9
  by_cases h1 : p < lo <;> by_cases h2 : hi < p <;> simp [h1, h2, ← Int32.not_lt]
theorem pX1_isMonth {p : Int32} {M : gM} {Q : Int32 → gM → Prop} : fX1_isMonth p M Q = Q (bi (in9 0 11 p)) M := by
  unfold fX1_isMonth
  simp only [pX1_in, gdr_some, gk_sI, gk_sL, gk_sR, gl_sI, gl_sL, gl_sR, gn_sI, gn_sL, gn_sR, gs_sI, gs_sL, gs_sR, gR_sI, gR_sL, gI_sL, gI_sR, gL_sI, gL_sR, bi_ite, bi_01, true_and, and_true]
def arM (b a : Int32) : Bool := in9 0 11 b && in9 0 11 a && decide (a ≠ b)
theorem arM_n {b a : Int32} (h : arM b a = true) : ∃ i j : Nat, i < 12 ∧ j < 12 ∧ i ≠ j ∧ b = nI i ∧ a = nI j := by
  simp only [arM, Bool.and_eq_true, decide_eq_true_eq] at h
  obtain ⟨i, hi, rfl⟩ := in12 h.1.1
  obtain ⟨j, hj, rfl⟩ := in12 h.1.2
  exact ⟨i, j, hi, hj, fun e => h.2 (by rw [e]), rfl, rfl⟩
theorem pX1_areMonths {b a : Int32} {M : gM} {Q : Int32 → gM → Prop} : fX1_areMonths b a M Q = Q (bi (arM b a)) M := by
  unfold fX1_areMonths fX1_areMonths_b23
  simp only [pX1_isMonth, gdr_some, gk_sI, gk_sL, gk_sR, gl_sI, gl_sL, gl_sR, gn_sI, gn_sL, gn_sR, gs_sI, gs_sL, gs_sR, gR_sI, gR_sL, gI_sL, gI_sR, gL_sI, gL_sR, bi_ite, bi_01, true_and, and_true]
  unfold arM
  cases h1 : in9 0 11 b <;> cases h2 : in9 0 11 a <;> by_cases h3 : a = b <;> simp [bi, h3]
def isKp (d : Nat → Nat → Nat → Int32) (p : Int32) : Bool := in9 0 23 p && decide (d 3 p.toNatClampNeg 0 ≠ 0)
theorem isKp_n {d : Nat → Nat → Nat → Int32} {p : Int32} (h : isKp d p = true) : ∃ k : Nat, k < 24 ∧ p = nI k ∧ d 3 k 0 ≠ 0 := by
  simp only [isKp, Bool.and_eq_true, decide_eq_true_eq] at h
  obtain ⟨k, hk, rfl⟩ := in24 h.1
  exact ⟨k, hk, rfl, by rw [nI_clamp (Nat.lt_trans hk (by decide))] at h; exact h.2⟩
theorem pX1_isKitchen {N M : gM} {n0 a : Nat} {D : gD} (h : RX N n0 a D M) {p : Int32} {Q : Int32 → gM → Prop} : fX1_isKitchen p M Q = Q (bi (isKp (dd D) p)) M := by
  unfold fX1_isKitchen fX1_isKitchen_b26 isKp
  simp only [pX1_in, gdr_some, gk_sI, gk_sL, gk_sR, gl_sI, gl_sL, gl_sR, gn_sI, gn_sL, gn_sR, gs_sI, gs_sL, gs_sR, gR_sI, gR_sL, gI_sL, gI_sR, gL_sI, gL_sR, bi_ite, bi_01, true_and, and_true]
  cases h1 : in9 0 23 p
  · simp [bi]
  · obtain ⟨k, hk, rfl⟩ := in24 h1
    simp only [xk16 h, xk17 h, xl17 h, xr0 h, xr10 h, xr11 h, xk28 h, xk29 h, xten h, xby h, kr h hk, kk h hk, kr5 h hk, kr6 h hk, kr7 h hk, kr8 h hk, kr9 h hk, kr10 h hk, kk5 h hk, kk6 h hk, kk7 h hk, kk8 h hk, kk9 h hk, kk10 h hk, kl5 h hk, kl6 h hk, kl7 h hk, kl8 h hk, kl9 h hk, kl10 h hk, ki0 h hk, ki1 h hk, ki2 h hk, ki3 h hk, ki4 h hk, vp_in_nI hk (N := 24) (by decide), nI_clamp (Nat.lt_trans hk (by decide : 24 < 2 ^ 31)), gdr_some, gk_sI, gk_sL, gk_sR, gl_sI, gl_sL, gl_sR, gn_sI, gn_sL, gn_sR, gs_sI, gs_sL, gs_sR, gR_sI, gR_sL, gI_sL, gI_sR, gL_sI, gL_sR, bi_ite, bi_01, true_and, and_true, if_true]
    by_cases h2 : dd D 3 k 0 = 0 <;> simp [bi, h2]
section
variable {N M : gM} {n0 a : Nat} {D : gD} {Q : Int32 → gM → Prop} {k b c : Nat}
theorem pX4_isSilent (h : RX N n0 a D M) (hk : k < 24) (hm : b < 12) : fX4_isSilent (88 + 7 * k) (nI b) M Q = Q (bi (decide (dd D 5 k b = -1))) M := by
  unfold fX4_isSilent
  simp only [kr h hk, kk h hk, kr5 h hk, kr6 h hk, kr7 h hk, kr8 h hk, kr9 h hk, kr10 h hk, kk5 h hk, kk6 h hk, kk7 h hk, kk8 h hk, kk9 h hk, kk10 h hk, kl5 h hk, kl6 h hk, kl7 h hk, kl8 h hk, kl9 h hk, kl10 h hk, ki0 h hk, ki1 h hk, ki2 h hk, ki3 h hk, ki4 h hk, ki5 h hk hm, ki6 h hk hm, ki7 h hk hm, ki8 h hk hm, ki9 h hk hm, ki10 h hk hm, vp_in_nI hm (N := 12) (by decide), nI_clamp (Nat.lt_trans hm (by decide : 12 < 2 ^ 31)), gdr_some, gk_sI, gk_sL, gk_sR, gl_sI, gl_sL, gl_sR, gn_sI, gn_sL, gn_sR, gs_sI, gs_sL, gs_sR, gR_sI, gR_sL, gI_sL, gI_sR, gL_sI, gL_sR, bi_ite, bi_01, true_and, and_true, bi_Q]
def cnt (d : Nat → Nat → Nat → Int32) (k b a : Nat) : Bool := decide (d 3 k 0 ≠ 0) && decide (d 5 k b ≠ -1) && decide (d 5 k a ≠ -1)
theorem pX4_isCounted (h : RX N n0 a D M) (hk : k < 24) (hb : b < 12) (hc : c < 12) : fX4_isCounted (88 + 7 * k) (nI b) (nI c) M Q = Q (bi (cnt (dd D) k b c)) M := by
  unfold fX4_isCounted fX4_isCounted_b27 cnt
  simp only [pX4_isSilent h hk hb, pX4_isSilent h hk hc, kr h hk, kk h hk, kr5 h hk, kr6 h hk, kr7 h hk, kr8 h hk, kr9 h hk, kr10 h hk, kk5 h hk, kk6 h hk, kk7 h hk, kk8 h hk, kk9 h hk, kk10 h hk, kl5 h hk, kl6 h hk, kl7 h hk, kl8 h hk, kl9 h hk, kl10 h hk, ki0 h hk, ki1 h hk, ki2 h hk, ki3 h hk, ki4 h hk, gdr_some, gk_sI, gk_sL, gk_sR, gl_sI, gl_sL, gl_sR, gn_sI, gn_sL, gn_sR, gs_sI, gs_sL, gs_sR, gR_sI, gR_sL, gI_sL, gI_sR, gL_sI, gL_sR, bi_ite, bi_01, true_and, and_true]
  by_cases h1 : dd D 3 k 0 = 0 <;> by_cases h2 : dd D 5 k b = -1 <;> by_cases h3 : dd D 5 k c = -1 <;> simp [bi, h1, h2, h3]
def hOf (by9 w h : Int32) : Int32 := if 0 ≤ w then 10 * w + by9 * h else 0
theorem pX1_handsOf_2 (h : RX N n0 a D M) {w v : Int32} : fX1_handsOf_2 w v M Q = Q (hOf (dd D 13 0 1) w v) M := by
  unfold fX1_handsOf_2 hOf
  simp only [xk16 h, xk17 h, xl17 h, xr0 h, xr10 h, xr11 h, xk28 h, xk29 h, xten h, xby h, gdr_some, gk_sI, gk_sL, gk_sR, gl_sI, gl_sL, gl_sR, gn_sI, gn_sL, gn_sR, gs_sI, gs_sL, gs_sR, gR_sI, gR_sL, gI_sL, gI_sR, gL_sI, gL_sR, bi_ite, bi_01, true_and, and_true]
  split <;> rfl
def hK (d : Nat → Nat → Nat → Int32) (k m : Nat) : Int32 := hOf (d 13 0 1) (d 5 k m) (d 6 k m)
theorem pX1_handsOf (h : RX N n0 a D M) (hk : k < 24) (hm : b < 12) : fX1_handsOf (88 + 7 * k) (nI b) M Q = Q (hK (dd D) k b) M := by
  unfold fX1_handsOf
  simp only [xk16 h, xk17 h, xl17 h, xr0 h, xr10 h, xr11 h, xk28 h, xk29 h, xten h, xby h, kr h hk, kk h hk, kr5 h hk, kr6 h hk, kr7 h hk, kr8 h hk, kr9 h hk, kr10 h hk, kk5 h hk, kk6 h hk, kk7 h hk, kk8 h hk, kk9 h hk, kk10 h hk, kl5 h hk, kl6 h hk, kl7 h hk, kl8 h hk, kl9 h hk, kl10 h hk, ki0 h hk, ki1 h hk, ki2 h hk, ki3 h hk, ki4 h hk, ki5 h hk hm, ki6 h hk hm, ki7 h hk hm, ki8 h hk hm, ki9 h hk hm, ki10 h hk hm, vp_in_nI hm (N := 12) (by decide), nI_clamp (Nat.lt_trans hm (by decide : 12 < 2 ^ 31)), gdr_some, gk_sI, gk_sL, gk_sR, gl_sI, gl_sL, gl_sR, gn_sI, gn_sL, gn_sR, gs_sI, gs_sL, gs_sR, gR_sI, gR_sL, gI_sL, gI_sR, gL_sI, gL_sR, bi_ite, bi_01, true_and, and_true, pX1_handsOf_2 h]
  rfl
def chg (d : Nat → Nat → Nat → Int32) (k b a : Nat) : Int32 := hK d k a - hK d k b
theorem pX1_change (h : RX N n0 a D M) (hk : k < 24) (hb : b < 12) (hc : c < 12) : fX1_change (88 + 7 * k) (nI b) (nI c) M Q = Q (chg (dd D) k b c) M := by
  unfold fX1_change
  simp only [xk16 h, xk17 h, xl17 h, xr0 h, xr10 h, xr11 h, xk28 h, xk29 h, xten h, xby h, gdr_some, gk_sI, gk_sL, gk_sR, gl_sI, gl_sL, gl_sR, gn_sI, gn_sL, gn_sR, gs_sI, gs_sL, gs_sR, gR_sI, gR_sL, gI_sL, gI_sR, gL_sI, gL_sR, bi_ite, bi_01, true_and, and_true, pX1_handsOf h hk hb, pX1_handsOf h hk hc]
  rfl
end
/-! MEANS: two sums over the kitchens -/
set_option maxRecDepth 100000
def cs (sel : Nat → Bool) (v : Nat → Int64) : Nat → Int64
  | 0 => 0
  | n + 1 => if sel n = true then cs sel v n + v n else cs sel v n
def cn (sel : Nat → Bool) : Nat → Nat
  | 0 => 0
  | n + 1 => if sel n = true then cn sel n + 1 else cn sel n
theorem cn_le (sel : Nat → Bool) : ∀ n, cn sel n ≤ n := by
  intro n
  induction n with
  | zero => exact Nat.le_refl _
  | succ n ih => unfold cn; split <;> omega
/-- the two means stand at n kitchens: what is chosen (sel), which belong to the first (fst), what each adds -/
def mns (sel fst : Nat → Bool) (v : Nat → Int64) (n : Nat) (M : gM) : Prop :=
  gL M 28 0 = cs (fun k => sel k && fst k) v n ∧ gI M 28 1 = nI (cn (fun k => sel k && fst k) n) ∧ gL M 29 0 = cs (fun k => sel k && !fst k) v n ∧ gI M 29 1 = nI (cn (fun k => sel k && !fst k) n)
section
variable {N M : gM} {n0 a : Nat} {D : gD} {sel fst : Nat → Bool} {v : Nat → Int64} {n : Nat}
theorem RX.s28 (h : RX N n0 a D M) {x : Int64} {y : Int32} : RX N n0 a D (gsI (gsL M 28 0 x) 28 1 y) := (h.sL (by omega)).sI (by unfold xScr; omega) (by omega)
theorem RX.s29 (h : RX N n0 a D M) {x : Int64} {y : Int32} : RX N n0 a D (gsI (gsL M 29 0 x) 29 1 y) := (h.sL (by omega)).sI (by unfold xScr; omega) (by omega)
theorem pX1_begins (h : RX N n0 a D M) (sel fst : Nat → Bool) (v : Nat → Int64) {Q : gM → Prop} (hq : ∀ M', RX N n0 a D M' → mns sel fst v 0 M' → Q M') : fX1_begins M Q := by
  unfold fX1_begins fX3_begin
  simp only [xk16 h, xk17 h, xl17 h, xr0 h, xr10 h, xr11 h, xk28 h, xk29 h, xten h, xby h, gdr_some, gk_sI, gk_sL, gk_sR, gl_sI, gl_sL, gl_sR, gn_sI, gn_sL, gn_sR, gs_sI, gs_sL, gs_sR, gR_sI, gR_sL, gI_sL, gI_sR, gL_sI, gL_sR, bi_ite, bi_01, true_and, and_true]
  refine hq _ h.s28.s29 ⟨?_, ?_, ?_, ?_⟩ <;> rfl
theorem pX1_of (h : RX N n0 a D M) {p : Int32} {Q : Nat → gM → Prop} : fX1_of p M Q = if p = 0 then Q 28 M else Q 29 M := by
  unfold fX1_of
  simp only [xk16 h, xk17 h, xl17 h, xr0 h, xr10 h, xr11 h, xk28 h, xk29 h, xten h, xby h, gdr_some, gk_sI, gk_sL, gk_sR, gl_sI, gl_sL, gl_sR, gn_sI, gn_sL, gn_sR, gs_sI, gs_sL, gs_sR, gR_sI, gR_sL, gI_sL, gI_sR, gL_sI, gL_sR, bi_ite, bi_01, true_and, and_true]
/-- one kitchen more, that adds -/
theorem mns_t (h : RX N n0 a D M) (hm : mns sel fst v n M) (hs : sel n = true) (p : Int32) (hp : fst n = decide (p = 0)) {Q : gM → Prop} (hq : ∀ M', RX N n0 a D M' → mns sel fst v (n + 1) M' → Q M') : (if p = 0 then fX3_adds 28 (v n) M Q else fX3_adds 29 (v n) M Q) := by
  obtain ⟨h1, h2, h3, h4⟩ := hm
  unfold fX3_adds
  simp only [xk16 h, xk17 h, xl17 h, xr0 h, xr10 h, xr11 h, xk28 h, xk29 h, xten h, xby h, gdr_some, gk_sI, gk_sL, gk_sR, gl_sI, gl_sL, gl_sR, gn_sI, gn_sL, gn_sR, gs_sI, gs_sL, gs_sR, gR_sI, gR_sL, gI_sL, gI_sR, gL_sI, gL_sR, bi_ite, bi_01, true_and, and_true]
  by_cases e : p = 0
  · rw [if_pos e]
    have hf : fst n = true := by rw [hp]; simp [e]
    refine hq _ h.s28 ⟨?_, ?_, ?_, ?_⟩
    · simp [cs, hs, hf, gL_sI, gL_sL, h1]
    · simp [cn, hs, hf, gI_sI, gI_sL, h2, nI_succ]
    · simp [cs, hs, hf, gL_sI, gL_sL, h3]
    · simp [cn, hs, hf, gI_sI, gI_sL, h4]
  · rw [if_neg e]
    have hf : fst n = false := by rw [hp]; simp [e]
    refine hq _ h.s29 ⟨?_, ?_, ?_, ?_⟩
    · simp [cs, hs, hf, gL_sI, gL_sL, h1]
    · simp [cn, hs, hf, gI_sI, gI_sL, h2]
    · simp [cs, hs, hf, gL_sI, gL_sL, h3]
    · simp [cn, hs, hf, gI_sI, gI_sL, h4, nI_succ]
theorem mns_f (hm : mns sel fst v n M) (hs : sel n = false) : mns sel fst v (n + 1) M := by
  unfold mns cs cn
  simp only [hs, Bool.false_and, Bool.false_eq_true, if_false]
  exact hm
/-- both means have some -/
def thr (sel fst : Nat → Bool) : Bool := decide (0 < cn (fun k => sel k && fst k) 24) && decide (0 < cn (fun k => sel k && !fst k) 24)
theorem nI_le0 {n : Nat} (h : n ≤ 24) : (nI n ≤ 0) = (n = 0) := by
  refine propext ⟨fun q => ?_, fun q => by subst q; decide⟩
  rw [Int32.le_iff_toInt_le, nI_toInt (by omega), Int32.toInt_zero] at q
  omega
theorem pX1_isThere (h : RX N n0 a D M) (hm : mns sel fst v 24 M) {Q : Int32 → gM → Prop} : fX1_isThere M Q = Q (bi (thr sel fst)) M := by
  obtain ⟨h1, h2, h3, h4⟩ := hm
  unfold fX1_isThere fX1_isThere_b24 thr
  simp only [xk16 h, xk17 h, xl17 h, xr0 h, xr10 h, xr11 h, xk28 h, xk29 h, xten h, xby h, gdr_some, gk_sI, gk_sL, gk_sR, gl_sI, gl_sL, gl_sR, gn_sI, gn_sL, gn_sR, gs_sI, gs_sL, gs_sR, gR_sI, gR_sL, gI_sL, gI_sR, gL_sI, gL_sR, bi_ite, bi_01, true_and, and_true, h2, h4, nI_le0 (cn_le _ 24)]
  by_cases e1 : cn (fun k => sel k && fst k) 24 = 0 <;> by_cases e2 : cn (fun k => sel k && !fst k) 24 = 0 <;> simp [bi, e1, e2, Nat.pos_iff_ne_zero]
def nJ (n : Nat) : Int64 := Int64.ofNat n
theorem nI_J {n : Nat} (h : n < 2 ^ 31) : (nI n).toInt64 = nJ n := by
  refine Int64.toInt_inj.mp ?_
  rw [Int32.toInt_toInt64, nI_toInt h]
  unfold nJ
  rw [Int64.toInt_ofNat_of_lt (by omega)]
/-- a river's numbers -/
def upR (sel fst : Nat → Bool) (v : Nat → Int64) : Int64 := cs (fun k => sel k && fst k) v 24 * nJ (cn (fun k => sel k && !fst k) 24) - cs (fun k => sel k && !fst k) v 24 * nJ (cn (fun k => sel k && fst k) 24)
def dnR (sel fst : Nat → Bool) : Int64 := nJ (cn (fun k => sel k && fst k) 24) * nJ (cn (fun k => sel k && !fst k) 24)
theorem cn_31 (sel : Nat → Bool) : cn sel 24 < 2 ^ 31 := Nat.lt_of_le_of_lt (cn_le sel 24) (by decide)
theorem pX1_above (h : RX N n0 a D M) (hm : mns sel fst v 24 M) {Q : Int64 → gM → Prop} : fX1_above M Q = Q (upR sel fst v) M := by
  obtain ⟨h1, h2, h3, h4⟩ := hm
  unfold fX1_above upR
  simp only [xk16 h, xk17 h, xl17 h, xr0 h, xr10 h, xr11 h, xk28 h, xk29 h, xten h, xby h, gdr_some, gk_sI, gk_sL, gk_sR, gl_sI, gl_sL, gl_sR, gn_sI, gn_sL, gn_sR, gs_sI, gs_sL, gs_sR, gR_sI, gR_sL, gI_sL, gI_sR, gL_sI, gL_sR, bi_ite, bi_01, true_and, and_true, h1, h2, h3, h4, nI_J (cn_31 _)]
theorem pX1_below (h : RX N n0 a D M) (hm : mns sel fst v 24 M) {Q : Int64 → gM → Prop} : fX1_below M Q = Q (dnR sel fst) M := by
  obtain ⟨h1, h2, h3, h4⟩ := hm
  unfold fX1_below dnR
  simp only [xk16 h, xk17 h, xl17 h, xr0 h, xr10 h, xr11 h, xk28 h, xk29 h, xten h, xby h, gdr_some, gk_sI, gk_sL, gk_sR, gl_sI, gl_sL, gl_sR, gn_sI, gn_sL, gn_sR, gs_sI, gs_sL, gs_sR, gR_sI, gR_sL, gI_sL, gI_sR, gL_sI, gL_sR, bi_ite, bi_01, true_and, and_true, h1, h2, h3, h4, nI_J (cn_31 _)]
end
section
variable {N M : gM} {n0 a : Nat} {D : gD}
def fs0 (d : Nat → Nat → Nat → Int32) (k : Nat) : Bool := decide (d 0 k 0 = 0)
def chJ (d : Nat → Nat → Nat → Int32) (b a : Nat) (k : Nat) : Int64 := (chg d k b a).toInt64
/-- counted, but for one -/
def cnW (d : Nat → Nat → Nat → Int32) (b a : Nat) (p : Int32) (k : Nat) : Bool := decide (nI k ≠ p) && cnt d k b a
theorem pX1_rivers_L {b c : Nat} {p : Int32} {K : gM → Prop} {Q : Int32 → gM → Prop} (hb : b < 12) (hc : c < 12) (hK : ∀ M', RX N n0 a D M' → mns (cnW (dd D) b c p) (fs0 (dd D)) (chJ (dd D) b c) 24 M' → K M') : ∀ (j k : Nat) (M : gM), k + j = 24 → RX N n0 a D M → mns (cnW (dd D) b c p) (fs0 (dd D)) (chJ (dd D) b c) k M → fX1_rivers_L7 K (nI b) (nI c) p Q (j + 1) (nI k) M := by
  intro j
  induction j with
  | zero =>
    intro k M hj h hm
    have : k = 24 := by omega
    subst this
    unfold fX1_rivers_L7 fX1_rivers_L7s
    rw [if_pos (by decide)]
    exact hK M h hm
  | succ j ih =>
    intro k M hj h hm
    have hk : k < 24 := by omega
    unfold fX1_rivers_L7 fX1_rivers_L7s
    rw [if_neg (nge24 hk)]
    by_cases e : nI k = p
    · rw [if_pos e]
      unfold fX1_rivers_b66
      rw [← nI_succ]
      exact ih _ _ (by omega) h (mns_f hm (by simp [cnW, e]))
    · rw [if_neg e]
      simp only [xk16 h, xk17 h, xl17 h, xr0 h, xr10 h, xr11 h, xk28 h, xk29 h, xten h, xby h, kr h hk, kk h hk, kr5 h hk, kr6 h hk, kr7 h hk, kr8 h hk, kr9 h hk, kr10 h hk, kk5 h hk, kk6 h hk, kk7 h hk, kk8 h hk, kk9 h hk, kk10 h hk, kl5 h hk, kl6 h hk, kl7 h hk, kl8 h hk, kl9 h hk, kl10 h hk, ki0 h hk, ki1 h hk, ki2 h hk, ki3 h hk, ki4 h hk, vp_in_nI hk (N := 24) (by decide), nI_clamp (Nat.lt_trans hk (by decide : 24 < 2 ^ 31)), gdr_some, gk_sI, gk_sL, gk_sR, gl_sI, gl_sL, gl_sR, gn_sI, gn_sL, gn_sR, gs_sI, gs_sL, gs_sR, gR_sI, gR_sL, gI_sL, gI_sR, gL_sI, gL_sR, bi_ite, bi_01, true_and, and_true, pX4_isCounted h hk hb hc]
      cases e2 : cnt (dd D) k b c
      · simp only [Bool.false_eq_true, if_false]
        unfold fX1_rivers_b66
        rw [← nI_succ]
        exact ih _ _ (by omega) h (mns_f hm (by simp [cnW, e2]))
      · simp only [if_true, pX1_of h, xk16 h, xk17 h, xl17 h, xr0 h, xr10 h, xr11 h, xk28 h, xk29 h, xten h, xby h, kr h hk, kk h hk, kr5 h hk, kr6 h hk, kr7 h hk, kr8 h hk, kr9 h hk, kr10 h hk, kk5 h hk, kk6 h hk, kk7 h hk, kk8 h hk, kk9 h hk, kk10 h hk, kl5 h hk, kl6 h hk, kl7 h hk, kl8 h hk, kl9 h hk, kl10 h hk, ki0 h hk, ki1 h hk, ki2 h hk, ki3 h hk, ki4 h hk, vp_in_nI hk (N := 24) (by decide), nI_clamp (Nat.lt_trans hk (by decide : 24 < 2 ^ 31)), gdr_some, gk_sI, gk_sL, gk_sR, gl_sI, gl_sL, gl_sR, gn_sI, gn_sL, gn_sR, gs_sI, gs_sL, gs_sR, gR_sI, gR_sL, gI_sL, gI_sR, gL_sI, gL_sR, bi_ite, bi_01, true_and, and_true, pX1_change h hk hb hc]
        refine mns_t h hm (by simp [cnW, e, e2]) (dd D 0 k 0) rfl fun M' h' hm' => ?_
        unfold fX1_rivers_b66
        rw [← nI_succ]
        exact ih _ _ (by omega) h' hm'
end
section
variable {N M : gM} {n0 a : Nat} {D : gD}
theorem pX1_rivers {b c : Nat} {p : Int32} {Q : Int32 → gM → Prop} (h : RX N n0 a D M) (hb : b < 12) (hc : c < 12) (hq : ∀ M', RX N n0 a D M' → mns (cnW (dd D) b c p) (fs0 (dd D)) (chJ (dd D) b c) 24 M' → Q (bi (thr (cnW (dd D) b c p) (fs0 (dd D)))) M') : fX1_rivers (nI b) (nI c) p M Q := by
  unfold fX1_rivers
  simp only [xk16 h, xk17 h, xl17 h, xr0 h, xr10 h, xr11 h, xk28 h, xk29 h, xten h, xby h, gdr_some, gk_sI, gk_sL, gk_sR, gl_sI, gl_sL, gl_sR, gn_sI, gn_sL, gn_sR, gs_sI, gs_sL, gs_sR, gR_sI, gR_sL, gI_sL, gI_sR, gL_sI, gL_sR, bi_ite, bi_01, true_and, and_true]
  refine pX1_begins h (cnW (dd D) b c p) (fs0 (dd D)) (chJ (dd D) b c) fun M1 h1 m1 => ⟨25, ?_⟩
  refine pX1_rivers_L hb hc (fun M' h' m' => ?_) 24 0 M1 rfl h1 m1
  simp only [xk16 h', xk17 h', xl17 h', xr0 h', xr10 h', xr11 h', xk28 h', xk29 h', xten h', xby h', gdr_some, gk_sI, gk_sL, gk_sR, gl_sI, gl_sL, gl_sR, gn_sI, gn_sL, gn_sR, gs_sI, gs_sL, gs_sR, gR_sI, gR_sL, gI_sL, gI_sR, gL_sI, gL_sR, bi_ite, bi_01, true_and, and_true, pX1_isThere h' m']
  exact hq M' h' m'
/-- what is needed, or the exception -/
theorem pX1_need (h : RX N n0 a D M) (ha : 6 ≤ a) {b : Bool} {Q : gM → Prop} {E : Nat → gM → Prop} (hq : b = true → Q M) (he : b = false → ∀ o M', RX N n0 (a - 6) D M' → E o M') : fX1_need (bi b) M Q E := by
  unfold fX1_need
  cases b
  · rw [if_pos bi_f]
    have h5 := h.2.1
    exact ⟨by omega, by omega, fun sz hs => he rfl _ _ (h.new (by omega) (by omega))⟩
  · rw [if_neg (by decide)]
    exact hq rfl
end
/-! LOWEST TERMS -/
set_option maxRecDepth 100000
theorem nJ_toInt {n : Nat} (h : n < 2 ^ 63) : (nJ n).toInt = (n : Int) := by
  unfold nJ
  rw [Int64.toInt_ofNat_of_lt (by omega)]
theorem nJ_0 {n : Nat} (h : n < 2 ^ 63) : (nJ n = 0) = (n = 0) := by
  refine propext ⟨fun q => ?_, fun q => by subst q; rfl⟩
  have := nJ_toInt h
  rw [q, Int64.toInt_zero] at this
  omega
theorem nJ_mod {A B : Nat} (hA : A < 2 ^ 63) (hB : B < 2 ^ 63) (h0 : B ≠ 0) : nJ A - nJ A / nJ B * nJ B = nJ (A % B) := by
  refine Int64.toInt_inj.mp ?_
  have h1 : A % B < B := Nat.mod_lt _ (by omega)
  have h4 : A % B ≤ A := Nat.mod_le _ _
  have h5 : A / B ≤ A := Nat.div_le_self _ _
  have h6 : (A / B) * B = A - A % B := by
    have := Nat.div_add_mod A B
    rw [Nat.mul_comm]
    omega
  have e1 : (nJ A / nJ B).toInt = ((A / B : Nat) : Int) := by
    rw [Int64.toInt_div, nJ_toInt hA, nJ_toInt hB, ← Int.ofNat_tdiv]
    generalize A / B = q at h5
    rw [Int.bmod_eq_of_le (by omega) (by omega)]
  generalize A % B = r at *
  have e2 : ((A / B : Nat) : Int) * (B : Int) = ((A - r : Nat) : Int) := by rw [← Int.natCast_mul, h6]
  rw [nJ_toInt (by omega), Int64.toInt_sub, Int64.toInt_mul, e1, nJ_toInt hA, nJ_toInt hB, e2]
  rw [Int.bmod_eq_of_le (n := ((A - r : Nat) : Int)) (by omega) (by omega), Int.bmod_eq_of_le (by omega) (by omega)]
  omega
theorem lg0 {x : Int64} : (lg_cmp x 0 = 0) = (x = 0) := propext (lg_cmp_eq x 0)
theorem lgn {x : Int64} : (0 ≤ lg_cmp x 0) = (0 ≤ x) := propext (lg_cmp_ge x 0)
theorem lgB {B : Nat} (h : B < 2 ^ 63) : lg_cmp (nJ B) 0 = 0 ↔ B = 0 := by rw [lg_cmp_eq]; exact iff_of_eq (nJ_0 h)
theorem pX1_gcd : ∀ (n A B : Nat) (M : gM) (Q : Int64 → gM → Prop), A < 2 ^ 63 → B < 2 ^ n → n ≤ 60 → Q (nJ (Nat.gcd A B)) M → fX1_gcd (2 * n + 2) (nJ A) (nJ B) M Q := by
  intro n
  induction n with
  | zero =>
    intro A B M Q hA hB hn hq
    have : B = 0 := by omega
    subst this
    show fX1_gcd_s _ _ _ _ _
    unfold fX1_gcd_s
    rw [if_pos ((lgB (by decide)).mpr rfl)]
    simpa using hq
  | succ n ih =>
    intro A B M Q hA hB hn hq
    have hp : 2 ^ (n + 1) ≤ 2 ^ 60 := Nat.pow_le_pow_right (by decide) hn
    have hp2 : (2 : Nat) ^ 60 < 2 ^ 63 := by decide
    have hp3 : 2 ^ (n + 1) = 2 * 2 ^ n := by rw [Nat.pow_succ, Nat.mul_comm]
    show fX1_gcd_s _ _ _ _ _
    unfold fX1_gcd_s
    by_cases h0 : B = 0
    · rw [if_pos ((lgB (by omega)).mpr h0)]
      subst h0
      simpa using hq
    · rw [if_neg fun q => h0 ((lgB (by omega)).mp q)]
      refine ⟨fun q => h0 ((iff_of_eq (nJ_0 (by omega))).mp q), ?_⟩
      rw [nJ_mod hA (by omega) h0]
      show fX1_gcd_s _ _ _ _ _
      unfold fX1_gcd_s
      have h1 : A % B < B := Nat.mod_lt _ (by omega)
      by_cases h2 : A % B = 0
      · rw [if_pos ((lgB (by omega)).mpr h2)]
        have : Nat.gcd A B = B := by rw [Nat.gcd_comm, Nat.gcd_rec, h2, Nat.gcd_zero_left]
        rw [← this]; exact hq
      · rw [if_neg fun q => h2 ((lgB (by omega)).mp q)]
        refine ⟨fun q => h2 ((iff_of_eq (nJ_0 (by omega))).mp q), ?_⟩
        rw [nJ_mod (by omega) (by omega) h2]
        have h3 : B % (A % B) < A % B := Nat.mod_lt _ (by omega)
        have h4 := Nat.div_add_mod B (A % B)
        have h5 : 1 ≤ B / (A % B) := (Nat.one_le_div_iff (by omega)).mpr (by omega)
        have h6 : (A % B) * 1 ≤ (A % B) * (B / (A % B)) := Nat.mul_le_mul_left _ h5
        refine ih (A % B) (B % (A % B)) M _ (by omega) (by omega) (by omega) ?_
        have : Nat.gcd (A % B) (B % (A % B)) = Nat.gcd A B := by
          rw [Nat.gcd_comm (A % B), ← Nat.gcd_rec, ← Nat.gcd_rec, Nat.gcd_comm]
        rw [this]; exact hq
/-- its lowest terms: above, below -/
def ab9 (x : Int64) : Int64 := if 0 ≤ x then x else -x
def low (up dn : Int64) (what : Int32) : Int64 := if what = 0 then up / nJ (Nat.gcd up.toInt.natAbs dn.toInt.toNat) else dn / nJ (Nat.gcd up.toInt.natAbs dn.toInt.toNat)
theorem ab9_nJ {x : Int64} (h : x ≠ Int64.minValue) : ab9 x = nJ x.toInt.natAbs := by
  refine Int64.toInt_inj.mp ?_
  have h1 : x.toInt ≠ -2 ^ 63 := fun e => h (Int64.toInt_inj.mp (by rw [e]; rfl))
  have h2 := Int64.le_toInt x
  have h3 := Int64.toInt_lt x
  rw [nJ_toInt (by omega)]
  unfold ab9
  by_cases h0 : 0 ≤ x
  · rw [if_pos h0]
    have := Int64.le_iff_toInt_le.mp h0
    rw [Int64.toInt_zero] at this
    omega
  · rw [if_neg h0]
    have := Int64.lt_iff_toInt_lt.mp (Int64.not_le.mp h0)
    rw [Int64.toInt_zero] at this
    rw [Int64.toInt_neg, Int.bmod_eq_of_le (by omega) (by omega)]
    omega
theorem nJ_of {x : Int64} (h : 0 ≤ x) : x = nJ x.toInt.toNat := by
  refine Int64.toInt_inj.mp ?_
  have := Int64.le_iff_toInt_le.mp h
  rw [Int64.toInt_zero] at this
  have h3 := Int64.toInt_lt x
  rw [nJ_toInt (by omega)]
  omega
theorem pX1_lowest {up dn : Int64} {what : Int32} {M : gM} {Q : Int64 → gM → Prop} (hu : up ≠ Int64.minValue) (h0 : 0 < dn.toInt) (h1 : dn.toInt < 2 ^ 48) (hq : Q (low up dn what) M) : fX1_lowest up dn what M Q := by
  unfold fX1_lowest fJ0_abs
  have hd : 0 ≤ dn := by rw [Int64.le_iff_toInt_le, Int64.toInt_zero]; omega
  have h2 := Int64.le_toInt up
  have h3 := Int64.toInt_lt up
  have h4 : up.toInt ≠ -2 ^ 63 := fun e => hu (Int64.toInt_inj.mp (by rw [e]; rfl))
  have key : ∀ x : Int64, x = nJ up.toInt.natAbs → ∃ n9, n9 ≤ 100 ∧ fX1_gcd n9 x dn M (fun r4 M3 => (if what = 0 then (¬ r4 = 0) ∧ Q (up / r4) M3 else (¬ r4 = 0) ∧ Q (dn / r4) M3)) := by
    intro x hx
    refine ⟨2 * 48 + 2, by decide, ?_⟩
    rw [hx]
    have e : dn = nJ dn.toInt.toNat := nJ_of hd
    rw [show fX1_gcd (2 * 48 + 2) (nJ up.toInt.natAbs) dn = fX1_gcd (2 * 48 + 2) (nJ up.toInt.natAbs) (nJ dn.toInt.toNat) by rw [← e]]
    refine pX1_gcd 48 _ _ M _ (by omega) (by omega) (by decide) ?_
    have hg : Nat.gcd up.toInt.natAbs dn.toInt.toNat ≠ 0 := by
      intro q
      have := Nat.eq_zero_of_gcd_eq_zero_right q
      omega
    have hg2 : Nat.gcd up.toInt.natAbs dn.toInt.toNat ≤ dn.toInt.toNat := Nat.gcd_le_right _ (by omega)
    have hg3 : ¬ nJ (Nat.gcd up.toInt.natAbs dn.toInt.toNat) = 0 := by rw [nJ_0 (by omega)]; exact hg
    unfold low at hq
    by_cases hw : what = 0
    · rw [if_pos hw] at hq ⊢; exact ⟨hg3, hq⟩
    · rw [if_neg hw] at hq ⊢; exact ⟨hg3, hq⟩
  have e9 := ab9_nJ hu
  unfold ab9 at e9
  by_cases hp : 0 ≤ up
  · rw [if_pos hp] at e9
    rw [if_pos ((lg_cmp_ge _ _).mpr hp)]; exact key _ e9
  · rw [if_neg hp] at e9
    rw [if_neg fun q => hp ((lg_cmp_ge _ _).mp q)]; exact key _ e9
/-! THE PICTURE of m (class RiverWageModel): told data D, ghost N (x's cells are as there) -/
set_option maxRecDepth 100000
def stM (w : Int32) : Int32 := if w = -1 then 0 else if w = -2 then 2 else 1
def whM (w : Int32) : Int32 := if 0 ≤ w then w else 0
def isM (w : Int32) : Int32 := if 0 ≤ w then 1 else 0
def mNum (d : Nat → Nat → Nat → Int32) (M : gM) : Prop :=
  (∀ k : Nat, k < 24 → gI M 274 k = d 3 k 0 ∧ gI M 275 k = d 0 k 0 ∧ gI M 276 k = d 1 k 0 ∧ gI M 277 k = d 2 k 0 ∧ gI M 278 k = d 4 k 0) ∧
  (∀ b m : Nat, b < 2 → m < 12 → gI M 279 (12 * b + m) = d 11 b m ∧ gI M 280 (12 * b + m) = d 12 b m) ∧
  (∀ k m : Nat, k < 24 → m < 12 → gI M 281 (12 * k + m) = stM (d 5 k m) ∧ gI M 282 (12 * k + m) = whM (d 5 k m) ∧ gI M 283 (12 * k + m) = d 6 k m ∧ gI M 284 (12 * k + m) = isM (d 7 k m) ∧ gI M 285 (12 * k + m) = whM (d 7 k m) ∧ gI M 286 (12 * k + m) = d 8 k m ∧ gI M 305 (12 * k + m) = d 9 k m ∧ gI M 306 (12 * k + m) = d 10 k m) ∧
  gI M 268 15 = d 13 0 0
def mTape (t : Nat × (Nat → Int32)) (M : gM) : Prop := gI M 268 2 = nI t.1 ∧ t.1 ≤ 1000 ∧ ∀ i : Nat, i < t.1 → gI M 269 i = t.2 i
def mOth (o : Nat × (Nat → Nat → Int32)) (M : gM) : Prop := gI M 268 41 = nI o.1 ∧ o.1 ≤ 20 ∧ ∀ i : Nat, i < 20 → gI M 297 i = o.2 0 i ∧ gI M 298 i = o.2 1 i ∧ gI M 299 i = o.2 2 i
def mWords : List Int64 := [418216, 812503, 974156, 28930245, 1176170, 1891, 573, 19741, 43531911, 407043, 1166652, 11873910, 9636, 103204, 25143802, 38396496, 227314, 31543, 1014841, 329128, 755, 1396986782, 679747, 223811164, 1335017851, 4537388, 15063274, 1010834209]
def mFacts : List Int32 := [13, 10, 22, 23, 24, 2, 25, 26, 27]
def mCon (M : gM) : Prop := (∀ i : Nat, i < 28 → gL M 273 i = mWords.getD i 0) ∧ ∀ i : Nat, i < 9 → gI M 291 i = mFacts.getD i 0
/-- the codes L lie from p on, an end behind them -/
def mCod (M : gM) (p : Nat) (L : List (Int32 × Int32)) : Prop := (∀ i : Nat, i < L.length → gI M 289 (p + i) = (L.getD i (0, 0)).1 ∧ gI M 290 (p + i) = (L.getD i (0, 0)).2) ∧ gI M 289 (p + L.length) = 0
def mLin (M : gM) (base : Nat) (v : Int32) (o : Option (List (Int32 × Int32))) : Prop := (v = -1 ∧ o = none) ∨ ∃ p L, v = nI p ∧ o = some L ∧ p + L.length < 1100 ∧ mCod M (base + p) L
def mLaw (W : Nat → Nat → Option (List (Int32 × Int32))) (M : gM) : Prop := ∀ l w : Nat, l < 4 → w < 4 → mLin M (1100 * l) (gI M 288 (4 * l + w)) (W l w)
def mWri (V : Nat → Option (List (Int32 × Int32)) × (Nat → Int32)) (M : gM) : Prop := ∀ i : Nat, i < 4 → mLin M (1100 * (5 + i)) (gI M 300 i) (V i).1 ∧ gI M 301 i = (V i).2 0 ∧ gI M 302 i = (V i).2 1 ∧ gI M 303 i = (V i).2 2
def mMar (K : Nat → Option (Nat × (Nat → Nat → Nat → Int32))) (M : gM) : Prop := ∀ i : Nat, i < 4 → (gI M 309 i = 0 ∧ K i = none) ∨ ∃ o, gI M 309 i = 1 ∧ K i = some o ∧ gI M 310 i = nI o.1 ∧ o.1 ≤ 20 ∧ ∀ k m : Nat, k < 24 → m < 12 →
  gI M 311 (1728 * i + (12 * k + m)) = stM (o.2 5 k m) ∧ gI M 311 (1728 * i + 288 + (12 * k + m)) = whM (o.2 5 k m) ∧ gI M 311 (1728 * i + 576 + (12 * k + m)) = o.2 6 k m ∧ gI M 311 (1728 * i + 864 + (12 * k + m)) = isM (o.2 7 k m) ∧ gI M 311 (1728 * i + 1152 + (12 * k + m)) = whM (o.2 7 k m) ∧ gI M 311 (1728 * i + 1440 + (12 * k + m)) = o.2 8 k m
def RM (N : gM) (D : gD) (M : gM) : Prop :=
  gFix M ∧ (gn M = gn N ∧ gs M = gs N) ∧ mNum (dd D) M ∧ mTape (dT D) M ∧ mOth (dO D) M ∧ mLaw (dL D) M ∧ mWri (dW D) M ∧ mMar (dM D) M ∧ mCon M ∧ ∀ c : Nat, (c < 268 ∨ 312 ≤ c) → gEqC M N c
/-- places that m may write at will -/
def mScr (c k : Nat) : Prop := (c = 268 ∧ k ≠ 2 ∧ k ≠ 15 ∧ k ≠ 41) ∨ c = 270 ∨ c = 271 ∨ c = 287 ∨ (292 ≤ c ∧ c < 297) ∨ c = 304 ∨ c = 307 ∨ c = 308 ∨ (c = 288 ∧ 16 ≤ k) ∨ ((c = 289 ∨ c = 290) ∧ 4400 ≤ k ∧ k < 5500)
theorem mLin_keep {M M1 : gM} {base : Nat} (hb : base ≤ 3300 ∨ 5500 ≤ base) (h : ∀ c k, c = 289 ∨ c = 290 → k < 4400 ∨ 5500 ≤ k → gI M1 c k = gI M c k) {v : Int32} {o : Option (List (Int32 × Int32))} (q : mLin M base v o) : mLin M1 base v o := by
  rcases q with q | ⟨p, L, q1, q2, q3, q4, q5⟩
  · exact Or.inl q
  · refine Or.inr ⟨p, L, q1, q2, q3, fun i hi => ?_, ?_⟩
    · rw [h _ _ (Or.inl rfl) (by omega), h _ _ (Or.inr rfl) (by omega)]; exact q4 i hi
    · rw [h _ _ (Or.inl rfl) (by omega)]; exact q5
theorem RM.keep {N M M1 : gM} {D : gD} (h : RM N D M) (hf : gFix M1) (hn : gn M1 = gn M ∧ gs M1 = gs M) (hI : ∀ c k, 268 ≤ c → c < 312 → ¬ mScr c k → gI M1 c k = gI M c k) (hL : ∀ k, gL M1 273 k = gL M 273 k) (hm : ∀ c : Nat, (c < 268 ∨ 312 ≤ c) → gEqC M1 M c) : RM N D M1 := by
  obtain ⟨h1, h2, ⟨k1, k2, k3, k4⟩, ⟨t1, t2, t3⟩, ⟨o1, o2, o3⟩, hl, hw, hM, hc, hN⟩ := h
  have hT : ∀ c k, c = 289 ∨ c = 290 → k < 4400 ∨ 5500 ≤ k → gI M1 c k = gI M c k := fun c k q r => hI c k (by omega) (by omega) (by unfold mScr; omega)
  have e : ∀ c k, (268 < c ∧ c < 312 ∧ c ≠ 270 ∧ c ≠ 271 ∧ c ≠ 287 ∧ (c < 288 ∨ 297 ≤ c) ∧ c ≠ 304 ∧ c ≠ 307 ∧ c ≠ 308) → gI M1 c k = gI M c k := fun c k q => hI c k (by omega) (by omega) (by unfold mScr; omega)
  refine ⟨hf, ⟨hn.1.trans h2.1, hn.2.trans h2.2⟩, ⟨fun k hk => ?_, fun b m hb hm => ?_, fun k m hk hm => ?_, ?_⟩, ⟨?_, t2, fun i hi => ?_⟩, ⟨?_, o2, fun i hi => ?_⟩, fun l w hl9 hw9 => ?_, fun i hi => ?_, fun i hi => ?_, ⟨fun i hi => ?_, fun i hi => ?_⟩, fun c q => ?_⟩
  · rw [e 274 _ (by omega), e 275 _ (by omega), e 276 _ (by omega), e 277 _ (by omega), e 278 _ (by omega)]; exact k1 k hk
  · rw [e 279 _ (by omega), e 280 _ (by omega)]; exact k2 b m hb hm
  · rw [e 281 _ (by omega), e 282 _ (by omega), e 283 _ (by omega), e 284 _ (by omega), e 285 _ (by omega), e 286 _ (by omega), e 305 _ (by omega), e 306 _ (by omega)]; exact k3 k m hk hm
  · rw [hI _ _ (by omega) (by omega) (by unfold mScr; omega)]; exact k4
  · rw [hI _ _ (by omega) (by omega) (by unfold mScr; omega)]; exact t1
  · rw [e 269 _ (by omega)]; exact t3 i hi
  · rw [hI _ _ (by omega) (by omega) (by unfold mScr; omega)]; exact o1
  · rw [e 297 _ (by omega), e 298 _ (by omega), e 299 _ (by omega)]; exact o3 i hi
  · rw [hI 288 _ (by omega) (by omega) (by unfold mScr; omega)]
    exact mLin_keep (by omega) hT (hl l w hl9 hw9)
  · rw [e 300 _ (by omega), e 301 _ (by omega), e 302 _ (by omega), e 303 _ (by omega)]
    exact ⟨mLin_keep (by omega) hT (hw i hi).1, (hw i hi).2⟩
  · rw [e 309 _ (by omega), e 310 _ (by omega)]
    rcases hM i hi with q | ⟨o, q1, q2, q3, q4, q5⟩
    · exact Or.inl q
    · refine Or.inr ⟨o, q1, q2, q3, q4, fun k m hk hm => ?_⟩
      rw [e 311 _ (by omega), e 311 _ (by omega), e 311 _ (by omega), e 311 _ (by omega), e 311 _ (by omega), e 311 _ (by omega)]
      exact q5 k m hk hm
  · rw [hL]; exact hc.1 i hi
  · rw [hI 291 _ (by omega) (by omega) (by unfold mScr; omega)]; exact hc.2 i hi
  · obtain ⟨e1, e2, e3, e4, e5⟩ := hm c q
    obtain ⟨f1, f2, f3, f4, f5⟩ := hN c q
    exact ⟨e1.trans f1, e2.trans f2, fun k => (e3 k).trans (f3 k), fun k => (e4 k).trans (f4 k), fun k => (e5 k).trans (f5 k)⟩
theorem RM.sI {N M : gM} {D : gD} {c k : Nat} {v : Int32} (h : RM N D M) (hs : mScr c k) : RM N D (gsI M c k v) := by
  have hc : 268 ≤ c ∧ c < 312 := by unfold mScr at hs; omega
  refine h.keep h.1 ⟨rfl, rfl⟩ (fun c' k' _ _ q => ?_) (fun _ => rfl) (fun c' q => ⟨rfl, rfl, fun k' => ?_, fun _ => rfl, fun _ => rfl⟩)
  · rw [gI_sI, if_neg fun e => q (by rw [e.1, e.2]; exact hs)]
  · rw [gI_sI, if_neg (by omega)]
theorem RM.sL {N M : gM} {D : gD} {c k : Nat} {v : Int64} (h : RM N D M) (hc : c = 268 ∨ c = 272) : RM N D (gsL M c k v) := by
  refine h.keep h.1 ⟨rfl, rfl⟩ (fun c' k' _ _ q => rfl) (fun k' => ?_) (fun c' q => ⟨rfl, rfl, fun _ => rfl, fun k' => ?_, fun _ => rfl⟩)
  · rw [gL_sL, if_neg (by omega)]
  · rw [gL_sL, if_neg (by omega)]
/-- x's and m's pictures stay while the other one works -/
theorem RX.byM {N M M1 : gM} {n0 a : Nat} {D D1 : gD} (h : RX N n0 a D M) (h1 : RM M D1 M1) : RX M1 n0 a D M1 := by
  obtain ⟨g1, g2, -, -, -, -, -, -, -, g9⟩ := h1
  have h5 := h.2.1
  refine h.keepN g1 (by omega) ⟨by omega, by omega⟩ (fun c q => ⟨(g9 c (by omega)).1, (g9 c (by omega)).2.1⟩) (fun c k q _ => (g9 c (by omega)).2.2.1 k) (fun c k q => (g9 c ?_).2.2.2.2 k) fun c _ _ => gEqC_rfl M1 c
  unfold xDyn at q
  omega
theorem RM.byX {N M M1 : gM} {n0 a : Nat} {D D1 : gD} (h : RM N D M) (h1 : RX M n0 a D1 M1) : RM M1 D M1 := by
  obtain ⟨g1, -, -, -, -, -, -, -, g9⟩ := h1
  obtain ⟨h1, h2, ⟨k1, k2, k3, k4⟩, ⟨t1, t2, t3⟩, ⟨o1, o2, o3⟩, hl, hw, hM, hc, hN⟩ := h
  have e : ∀ c k, 268 ≤ c ∧ c < 312 → gI M1 c k = gI M c k := fun c k q => (g9 c q.1 q.2).2.2.1 k
  have hT : ∀ c k, c = 289 ∨ c = 290 → k < 4400 ∨ 5500 ≤ k → gI M1 c k = gI M c k := fun c k q _ => e c k (by omega)
  refine ⟨g1, ⟨rfl, rfl⟩, ⟨fun k hk => ?_, fun b m hb hm => ?_, fun k m hk hm => ?_, ?_⟩, ⟨?_, t2, fun i hi => ?_⟩, ⟨?_, o2, fun i hi => ?_⟩, fun l w hl9 hw9 => ?_, fun i hi => ?_, fun i hi => ?_, ⟨fun i hi => ?_, fun i hi => ?_⟩, fun c _ => gEqC_rfl M1 c⟩
  · rw [e 274 _ (by omega), e 275 _ (by omega), e 276 _ (by omega), e 277 _ (by omega), e 278 _ (by omega)]; exact k1 k hk
  · rw [e 279 _ (by omega), e 280 _ (by omega)]; exact k2 b m hb hm
  · rw [e 281 _ (by omega), e 282 _ (by omega), e 283 _ (by omega), e 284 _ (by omega), e 285 _ (by omega), e 286 _ (by omega), e 305 _ (by omega), e 306 _ (by omega)]; exact k3 k m hk hm
  · rw [e _ _ (by omega)]; exact k4
  · rw [e _ _ (by omega)]; exact t1
  · rw [e 269 _ (by omega)]; exact t3 i hi
  · rw [e _ _ (by omega)]; exact o1
  · rw [e 297 _ (by omega), e 298 _ (by omega), e 299 _ (by omega)]; exact o3 i hi
  · rw [e 288 _ (by omega)]
    exact mLin_keep (by omega) hT (hl l w hl9 hw9)
  · rw [e 300 _ (by omega), e 301 _ (by omega), e 302 _ (by omega), e 303 _ (by omega)]
    exact ⟨mLin_keep (by omega) hT (hw i hi).1, (hw i hi).2⟩
  · rw [e 309 _ (by omega), e 310 _ (by omega)]
    rcases hM i hi with q | ⟨o, q1, q2, q3, q4, q5⟩
    · exact Or.inl q
    · refine Or.inr ⟨o, q1, q2, q3, q4, fun k m hk hm => ?_⟩
      rw [e 311 _ (by omega), e 311 _ (by omega), e 311 _ (by omega), e 311 _ (by omega), e 311 _ (by omega), e 311 _ (by omega)]
      exact q5 k m hk hm
  · rw [(g9 273 (by omega) (by omega)).2.2.2.1]; exact hc.1 i hi
  · rw [e 291 _ (by omega)]; exact hc.2 i hi
/-! m's methods: rows to read its picture, simple ones, its rivers -/
set_option maxRecDepth 100000
/-- told data are in bounds; by is tenths -/
def okD (d : Nat → Nat → Nat → Int32) : Prop :=
  (∀ k : Nat, k < 24 → (d 0 k 0 = 0 ∨ d 0 k 0 = 1) ∧ (0 ≤ d 1 k 0 ∧ d 1 k 0 ≤ 999) ∧ (0 ≤ d 2 k 0 ∧ d 2 k 0 ≤ 99) ∧ (d 3 k 0 = 0 ∨ d 3 k 0 = 1) ∧ (d 4 k 0 = 0 ∨ d 4 k 0 = 1)) ∧
  (∀ k m : Nat, k < 24 → m < 12 → (-2 ≤ d 5 k m ∧ d 5 k m ≤ 99) ∧ (0 ≤ d 6 k m ∧ d 6 k m ≤ 99) ∧ (¬ 0 ≤ d 5 k m → d 6 k m = 0) ∧ (-1 ≤ d 7 k m ∧ d 7 k m ≤ 99) ∧ (0 ≤ d 8 k m ∧ d 8 k m ≤ 99) ∧ (0 ≤ d 9 k m ∧ d 9 k m ≤ 999) ∧ (0 ≤ d 10 k m ∧ d 10 k m ≤ 99999)) ∧
  (∀ b m : Nat, b < 2 → m < 12 → (0 ≤ d 11 b m ∧ d 11 b m ≤ 999) ∧ (-99 ≤ d 12 b m ∧ d 12 b m ≤ 99)) ∧ (0 ≤ d 13 0 0 ∧ d 13 0 0 ≤ 10) ∧ d 13 0 1 = d 13 0 0
theorem nI_12 {k m : Nat} : 12 * nI k + nI m = nI (12 * k + m) := by
  unfold nI
  rw [Int32.ofNat_add, Int32.ofNat_mul]
  rfl
theorem in288 {k m : Nat} (hk : k < 24) (hm : m < 12) : vp_in (nI (12 * k + m)) 288 := vp_in_nI (by omega) (by decide)
theorem cl288 {k m : Nat} (hk : k < 24) (hm : m < 12) : (nI (12 * k + m)).toNatClampNeg = 12 * k + m := nI_clamp (by omega)
section
variable {N M : gM} {D : gD} {Q : Int32 → gM → Prop} {k b c : Nat}
theorem mk268 (h : RM N D M) : gk M 268 = 7 := fk268 h.1
theorem mK (h : RM N D M) (hk : k < 24) : gI M 274 k = dd D 3 k 0 ∧ gI M 275 k = dd D 0 k 0 ∧ gI M 276 k = dd D 1 k 0 ∧ gI M 277 k = dd D 2 k 0 ∧ gI M 278 k = dd D 4 k 0 := h.2.2.1.1 k hk
theorem mKM (h : RM N D M) (hk : k < 24) (hm : b < 12) : gI M 281 (12 * k + b) = stM (dd D 5 k b) ∧ gI M 282 (12 * k + b) = whM (dd D 5 k b) ∧ gI M 283 (12 * k + b) = dd D 6 k b ∧ gI M 284 (12 * k + b) = isM (dd D 7 k b) ∧ gI M 285 (12 * k + b) = whM (dd D 7 k b) ∧ gI M 286 (12 * k + b) = dd D 8 k b ∧ gI M 305 (12 * k + b) = dd D 9 k b ∧ gI M 306 (12 * k + b) = dd D 10 k b := h.2.2.1.2.2.1 k b hk hm
theorem mten (h : RM N D M) : gI M 268 15 = dd D 13 0 0 := h.2.2.1.2.2.2
theorem pX7_within {p lo hi : Int32} : fX7_within p lo hi M Q = Q (bi (in9 lo hi p)) M := by
  unfold fX7_within fX7_within_b14 bi in9
  by_cases h1 : p < lo <;> by_cases h2 : hi < p <;> simp [h1, h2, ← Int32.not_lt]
theorem pX7_isMonth {p : Int32} : fX7_isMonth p M Q = Q (bi (in9 0 11 p)) M := by
  unfold fX7_isMonth
  simp only [pX7_within, gdr_some, gk_sI, gk_sL, gk_sR, gl_sI, gl_sL, gl_sR, gn_sI, gn_sL, gn_sR, gs_sI, gs_sL, gs_sR, gR_sI, gR_sL, gI_sL, gI_sR, gL_sI, gL_sR, bi_ite, bi_01, true_and, and_true]
theorem pX7_isWhat {p : Int32} : fX7_isWhat p M Q = Q (bi (in9 0 1 p)) M := by
  unfold fX7_isWhat
  simp only [pX7_within, gdr_some, gk_sI, gk_sL, gk_sR, gl_sI, gl_sL, gl_sR, gn_sI, gn_sL, gn_sR, gs_sI, gs_sL, gs_sR, gR_sI, gR_sL, gI_sL, gI_sR, gL_sI, gL_sR, bi_ite, bi_01, true_and, and_true]
theorem pX7_areMonths {b a : Int32} : fX7_areMonths b a M Q = Q (bi (arM b a)) M := by
  unfold fX7_areMonths fX7_areMonths_b23
  simp only [pX7_isMonth, gdr_some, gk_sI, gk_sL, gk_sR, gl_sI, gl_sL, gl_sR, gn_sI, gn_sL, gn_sR, gs_sI, gs_sL, gs_sR, gR_sI, gR_sL, gI_sL, gI_sR, gL_sI, gL_sR, bi_ite, bi_01, true_and, and_true]
  unfold arM
  by_cases h3 : a = b
  · subst h3
    cases h1 : in9 0 11 a <;> simp [bi]
  · have h4 : ¬ b = a := fun e => h3 e.symm
    cases h1 : in9 0 11 b <;> cases h2 : in9 0 11 a <;> simp [bi, h3, h4]
theorem pX7_isKitchen (h : RM N D M) {p : Int32} : fX7_isKitchen p M Q = Q (bi (isKp (dd D) p)) M := by
  unfold fX7_isKitchen fX7_isKitchen_b23 isKp
  simp only [pX7_within, gdr_some, gk_sI, gk_sL, gk_sR, gl_sI, gl_sL, gl_sR, gn_sI, gn_sL, gn_sR, gs_sI, gs_sL, gs_sR, gR_sI, gR_sL, gI_sL, gI_sR, gL_sI, gL_sR, bi_ite, bi_01, true_and, and_true]
  cases h1 : in9 0 23 p
  · simp [bi]
  · obtain ⟨k, hk, rfl⟩ := in24 h1
    simp only [mk268 h, frm10 h.1, fk274 h.1, fl274 h.1, vp_in_nI hk (N := 24) (by decide), nI_clamp (Nat.lt_trans hk (by decide : 24 < 2 ^ 31)), gdr_some, gk_sI, gk_sL, gk_sR, gl_sI, gl_sL, gl_sR, gn_sI, gn_sL, gn_sR, gs_sI, gs_sL, gs_sR, gR_sI, gR_sL, gI_sL, gI_sR, gL_sI, gL_sR, bi_ite, bi_01, true_and, and_true, if_true, mK h hk]
    by_cases h2 : dd D 3 k 0 = 0 <;> simp [bi, h2]
theorem stM_0 {w : Int32} : (stM w = 0) = (w = -1) := by
  unfold stM
  by_cases h1 : w = -1 <;> by_cases h2 : w = -2 <;> simp [h1, h2]
theorem pX7_isCounted (h : RM N D M) (hk : k < 24) (hb : b < 12) (hc : c < 12) : fX7_isCounted (nI k) (nI b) (nI c) M Q = Q (bi (cnt (dd D) k b c)) M := by
  unfold fX7_isCounted fX7_isCounted_b41 cnt
  simp only [nI_12, mk268 h, frm10 h.1, fk274 h.1, fl274 h.1, frm18 h.1, fk281 h.1, fl281 h.1, vp_in_nI hk (N := 24) (by decide), nI_clamp (Nat.lt_trans hk (by decide : 24 < 2 ^ 31)), in288 hk hb, in288 hk hc, cl288 hk hb, cl288 hk hc, gdr_some, gk_sI, gk_sL, gk_sR, gl_sI, gl_sL, gl_sR, gn_sI, gn_sL, gn_sR, gs_sI, gs_sL, gs_sR, gR_sI, gR_sL, gI_sL, gI_sR, gL_sI, gL_sR, bi_ite, bi_01, true_and, and_true, mK h hk, mKM h hk hb, mKM h hk hc, stM_0]
  by_cases h1 : dd D 3 k 0 = 0 <;> by_cases h2 : dd D 5 k b = -1 <;> by_cases h3 : dd D 5 k c = -1 <;> simp [bi, h1, h2, h3]
theorem hK_m (ok : okD (dd D)) (hk : k < 24) (hm : b < 12) : 10 * whM (dd D 5 k b) + dd D 13 0 0 * dd D 6 k b = hK (dd D) k b := by
  obtain ⟨-, o2, -, -, o5⟩ := ok
  have h3 := (o2 k b hk hm).2.2.1
  unfold hK hOf whM
  rw [o5]
  by_cases h : 0 ≤ dd D 5 k b
  · rw [if_pos h, if_pos h]
  · rw [if_neg h, if_neg h, h3 h]; simp
theorem pX7_handsOf (h : RM N D M) (ok : okD (dd D)) (hk : k < 24) (hm : b < 12) : fX7_handsOf (nI k) (nI b) M Q = Q (hK (dd D) k b) M := by
  unfold fX7_handsOf fX7_handsBy
  simp only [nI_12, mk268 h, frm19 h.1, fk282 h.1, fl282 h.1, frm20 h.1, fk283 h.1, fl283 h.1, in288 hk hm, cl288 hk hm, gdr_some, gk_sI, gk_sL, gk_sR, gl_sI, gl_sL, gl_sR, gn_sI, gn_sL, gn_sR, gs_sI, gs_sL, gs_sR, gR_sI, gR_sL, gI_sL, gI_sR, gL_sI, gL_sR, bi_ite, bi_01, true_and, and_true, mKM h hk hm, mten h, hK_m ok hk hm]
theorem pX7_changeOf (h : RM N D M) (ok : okD (dd D)) (hk : k < 24) (hb : b < 12) (hc : c < 12) : fX7_changeOf (nI k) (nI b) (nI c) M Q = Q (chg (dd D) k b c) M := by
  unfold fX7_changeOf
  simp only [mk268 h, gdr_some, gk_sI, gk_sL, gk_sR, gl_sI, gl_sL, gl_sR, gn_sI, gn_sL, gn_sR, gs_sI, gs_sL, gs_sR, gR_sI, gR_sL, gI_sL, gI_sR, gL_sI, gL_sR, bi_ite, bi_01, true_and, and_true, pX7_handsOf h ok hk hb, pX7_handsOf h ok hk hc]
  rfl
end
/-- m's two sums at n kitchens -/
def mnm (sel fst : Nat → Bool) (v : Nat → Int64) (n : Nat) (M : gM) : Prop :=
  gL M 268 26 = cs (fun k => sel k && fst k) v n ∧ gL M 268 27 = nJ (cn (fun k => sel k && fst k) n) ∧ gL M 268 28 = cs (fun k => sel k && !fst k) v n ∧ gL M 268 29 = nJ (cn (fun k => sel k && !fst k) n)
theorem nJ_succ (n : Nat) : nJ (n + 1) = nJ n + 1 := by
  unfold nJ
  rw [Int64.ofNat_add]
  rfl
section
variable {N M : gM} {D : gD} {sel fst : Nat → Bool} {v : Nat → Int64} {n : Nat}
theorem RM.s4 (h : RM N D M) {w x y z : Int64} : RM N D (gsL (gsL (gsL (gsL M 268 26 w) 268 27 x) 268 28 y) 268 29 z) := (((h.sL (Or.inl rfl)).sL (Or.inl rfl)).sL (Or.inl rfl)).sL (Or.inl rfl)
theorem pX7_beginsSums (h : RM N D M) (sel fst : Nat → Bool) (v : Nat → Int64) {Q : gM → Prop} (hq : ∀ M', RM N D M' → mnm sel fst v 0 M' → Q M') : fX7_beginsSums M Q := by
  unfold fX7_beginsSums
  simp only [mk268 h, gdr_some, gk_sI, gk_sL, gk_sR, gl_sI, gl_sL, gl_sR, gn_sI, gn_sL, gn_sR, gs_sI, gs_sL, gs_sR, gR_sI, gR_sL, gI_sL, gI_sR, gL_sI, gL_sR, bi_ite, bi_01, true_and, and_true]
  refine hq _ h.s4 ⟨?_, ?_, ?_, ?_⟩ <;> rfl
theorem pX7_adds (h : RM N D M) (hm : mnm sel fst v n M) (hs : sel n = true) {Q : gM → Prop} (hq : ∀ M', RM N D M' → mnm sel fst v (n + 1) M' → Q M') : fX7_adds (bi (fst n)) (v n) M Q := by
  obtain ⟨h1, h2, h3, h4⟩ := hm
  unfold fX7_adds fX7_adds_b14 fX7_adds_b32 fX7_adds_b50
  simp only [mk268 h, gdr_some, gk_sI, gk_sL, gk_sR, gl_sI, gl_sL, gl_sR, gn_sI, gn_sL, gn_sR, gs_sI, gs_sL, gs_sR, gR_sI, gR_sL, gI_sL, gI_sR, gL_sI, gL_sR, bi_ite, bi_01, true_and, and_true, gL_sL]
  cases hf : fst n
  · simp only [Bool.false_eq_true, if_false]
    refine hq _ h.s4 ⟨?_, ?_, ?_, ?_⟩
    · simp [cs, hs, hf, gL_sL, h1]
    · simp [cn, hs, hf, gL_sL, h2]
    · simp [cs, hs, hf, gL_sL, h3]
    · simp [cn, hs, hf, gL_sL, h4, nJ_succ]
  · simp only [if_true]
    refine hq _ h.s4 ⟨?_, ?_, ?_, ?_⟩
    · simp [cs, hs, hf, gL_sL, h1]
    · simp [cn, hs, hf, gL_sL, h2, nJ_succ]
    · simp [cs, hs, hf, gL_sL, h3]
    · simp [cn, hs, hf, gL_sL, h4]
theorem mnm_f (hm : mnm sel fst v n M) (hs : sel n = false) : mnm sel fst v (n + 1) M := by
  unfold mnm cs cn
  simp only [hs, Bool.false_and, Bool.false_eq_true, if_false]
  exact hm
/-- the river's numbers lie in m -/
def mud (up dn : Int64) (M : gM) : Prop := gL M 268 24 = up ∧ gL M 268 25 = dn
theorem nJ_mul {a b : Nat} : nJ a * nJ b = nJ (a * b) := by
  unfold nJ
  rw [Int64.ofNat_mul]
theorem nJ_le0 {n : Nat} (h : n < 2 ^ 63) : (nJ n ≤ 0) = (n = 0) := by
  refine propext ⟨fun q => ?_, fun q => by subst q; decide⟩
  rw [Int64.le_iff_toInt_le, nJ_toInt h, Int64.toInt_zero] at q
  omega
theorem cn2_lt (s t : Nat → Bool) : cn s 24 * cn t 24 < 2 ^ 48 := by
  have h := Nat.mul_le_mul (cn_le s 24) (cn_le t 24)
  omega
theorem pX7_differs (h : RM N D M) (hm : mnm sel fst v 24 M) {Q : Int32 → gM → Prop} (hq : ∀ M', RM N D M' → mnm sel fst v 24 M' → mud (upR sel fst v) (dnR sel fst) M' → Q (bi (thr sel fst)) M') : fX7_differs M Q := by
  obtain ⟨h1, h2, h3, h4⟩ := hm
  have key := hq (gsL (gsL M 268 24 (upR sel fst v)) 268 25 (dnR sel fst)) ((h.sL (Or.inl rfl)).sL (Or.inl rfl)) ⟨h1, h2, h3, h4⟩ ⟨rfl, rfl⟩
  unfold fX7_differs fX7_differs_b36
  simp only [mk268 h, gdr_some, gk_sI, gk_sL, gk_sR, gl_sI, gl_sL, gl_sR, gn_sI, gn_sL, gn_sR, gs_sI, gs_sL, gs_sR, gR_sI, gR_sL, gI_sL, gI_sR, gL_sI, gL_sR, bi_ite, bi_01, true_and, and_true, gL_sL, h1, h2, h3, h4, show ¬ ((26 : Nat) = 24) by decide, show ¬ ((27 : Nat) = 24) by decide, show ¬ ((28 : Nat) = 24) by decide, show ¬ ((29 : Nat) = 24) by decide, show ¬ ((25 : Nat) = 24) by decide, and_self, and_false, if_true, if_false]
  have e : dnR sel fst = nJ (cn (fun k => sel k && fst k) 24 * cn (fun k => sel k && !fst k) 24) := nJ_mul
  have h9 := cn2_lt (fun k => sel k && fst k) (fun k => sel k && !fst k)
  have e2 : lg_cmp (dnR sel fst) 0 ≤ 0 ↔ thr sel fst = false := by
    rw [lg_cmp_le, e, nJ_le0 (by omega)]
    unfold thr
    simp only [Nat.mul_eq_zero, Bool.and_eq_false_iff, decide_eq_false_iff_not, Nat.pos_iff_ne_zero, Classical.not_not, ne_eq]
  show (if lg_cmp (dnR sel fst) 0 ≤ 0 then _ else _)
  cases ht : thr sel fst
  · rw [ht] at key
    rw [if_pos (e2.mpr ht)]
    exact key
  · rw [ht] at key
    rw [if_neg fun q => by rw [e2, ht] at q; cases q]
    exact key
/-- m's and x's river are one -/
theorem pX7_findRiver_L {N : gM} {D : gD} (ok : okD (dd D)) {b c : Nat} {p : Int32} {K : gM → Prop} {Q : Int32 → gM → Prop} (hb : b < 12) (hc : c < 12) (hK : ∀ M', RM N D M' → mnm (cnW (dd D) b c p) (fs0 (dd D)) (chJ (dd D) b c) 24 M' → K M') : ∀ (j k : Nat) (M : gM), k + j = 24 → RM N D M → mnm (cnW (dd D) b c p) (fs0 (dd D)) (chJ (dd D) b c) k M → fX7_findRiver_L7 K (nI b) (nI c) p Q (j + 1) (nI k) M := by
  intro j
  induction j with
  | zero =>
    intro k M hj h hm
    have : k = 24 := by omega
    subst this
    unfold fX7_findRiver_L7 fX7_findRiver_L7s
    rw [if_pos (by decide)]
    exact hK M h hm
  | succ j ih =>
    intro k M hj h hm
    have hk : k < 24 := by omega
    unfold fX7_findRiver_L7 fX7_findRiver_L7s
    rw [if_neg (nge24 hk)]
    by_cases e : nI k = p
    · rw [if_pos e]
      unfold fX7_findRiver_b59
      rw [← nI_succ]
      exact ih _ _ (by omega) h (mnm_f hm (by simp [cnW, e]))
    · rw [if_neg e]
      simp only [mk268 h, frm11 h.1, fk275 h.1, fl275 h.1, vp_in_nI hk (N := 24) (by decide), nI_clamp (Nat.lt_trans hk (by decide : 24 < 2 ^ 31)), gdr_some, gk_sI, gk_sL, gk_sR, gl_sI, gl_sL, gl_sR, gn_sI, gn_sL, gn_sR, gs_sI, gs_sL, gs_sR, gR_sI, gR_sL, gI_sL, gI_sR, gL_sI, gL_sR, bi_ite, bi_01, true_and, and_true, mK h hk, pX7_isCounted h hk hb hc]
      cases e2 : cnt (dd D) k b c
      · simp only [Bool.false_eq_true, if_false]
        unfold fX7_findRiver_b59
        rw [← nI_succ]
        exact ih _ _ (by omega) h (mnm_f hm (by simp [cnW, e2]))
      · simp only [if_true, fX7_findRiver_b47, mk268 h, gdr_some, gk_sI, gk_sL, gk_sR, gl_sI, gl_sL, gl_sR, gn_sI, gn_sL, gn_sR, gs_sI, gs_sL, gs_sR, gR_sI, gR_sL, gI_sL, gI_sR, gL_sI, gL_sR, bi_ite, bi_01, true_and, and_true, pX7_changeOf h ok hk hb hc]
        have e3 : (if dd D 0 k 0 = 0 then fX7_adds 1 (chg (dd D) k b c).toInt64 M (fun M27 => fX7_findRiver_b59 (fX7_findRiver_L7 K (nI b) (nI c) p Q (j + 1)) (nI b) (nI c) p (nI k) M27 Q) else fX7_adds 0 (chg (dd D) k b c).toInt64 M (fun M27 => fX7_findRiver_b59 (fX7_findRiver_L7 K (nI b) (nI c) p Q (j + 1)) (nI b) (nI c) p (nI k) M27 Q)) = fX7_adds (bi (fs0 (dd D) k)) (chJ (dd D) b c k) M (fun M27 => fX7_findRiver_b59 (fX7_findRiver_L7 K (nI b) (nI c) p Q (j + 1)) (nI b) (nI c) p (nI k) M27 Q) := by
          unfold fs0 chJ
          by_cases e4 : dd D 0 k 0 = 0 <;> simp [e4, bi]
        rw [e3]
        refine pX7_adds h hm (by simp [cnW, e, e2]) fun M' h' hm' => ?_
        unfold fX7_findRiver_b59
        rw [← nI_succ]
        exact ih _ _ (by omega) h' hm'
theorem pX7_findRiver (h : RM N D M) (ok : okD (dd D)) {b c : Nat} {p : Int32} {Q : Int32 → gM → Prop} (hb : b < 12) (hc : c < 12) (hq : ∀ M', RM N D M' → mnm (cnW (dd D) b c p) (fs0 (dd D)) (chJ (dd D) b c) 24 M' → mud (upR (cnW (dd D) b c p) (fs0 (dd D)) (chJ (dd D) b c)) (dnR (cnW (dd D) b c p) (fs0 (dd D))) M' → Q (bi (thr (cnW (dd D) b c p) (fs0 (dd D)))) M') : fX7_findRiver (nI b) (nI c) p M Q := by
  unfold fX7_findRiver
  simp only [mk268 h, gdr_some, gk_sI, gk_sL, gk_sR, gl_sI, gl_sL, gl_sR, gn_sI, gn_sL, gn_sR, gs_sI, gs_sL, gs_sR, gR_sI, gR_sL, gI_sL, gI_sR, gL_sI, gL_sR, bi_ite, bi_01, true_and, and_true]
  refine pX7_beginsSums h (cnW (dd D) b c p) (fs0 (dd D)) (chJ (dd D) b c) fun M1 h1 m1 => ⟨25, ?_⟩
  refine pX7_findRiver_L ok hb hc (fun M' h' m' => ?_) 24 0 M1 rfl h1 m1
  simp only [mk268 h', gdr_some, gk_sI, gk_sL, gk_sR, gl_sI, gl_sL, gl_sR, gn_sI, gn_sL, gn_sR, gs_sI, gs_sL, gs_sR, gR_sI, gR_sL, gI_sL, gI_sR, gL_sI, gL_sR, bi_ite, bi_01, true_and, and_true]
  exact pX7_differs h' m' fun M2 h2 m2 u2 => by
    simp only [bi_01, true_and]
    exact hq M2 h2 m2 u2
end
/-! m's lowest terms; bounds of hands, changes, sums -/
set_option maxRecDepth 100000
theorem pX7_common_L : ∀ (n A B : Nat) (M : gM) (K Q : Int64 → gM → Prop), A < 2 ^ 63 → B < 2 ^ n → n ≤ 60 → K (nJ (Nat.gcd A B)) M → fX7_common_L28 K Q (2 * n + 2) (nJ A) (nJ B) M := by
  intro n
  induction n with
  | zero =>
    intro A B M K Q hA hB hn hq
    have : B = 0 := by omega
    subst this
    show fX7_common_L28s _ _ _ _ _ Q
    unfold fX7_common_L28s
    rw [if_pos ((lgB (by decide)).mpr rfl)]
    simpa using hq
  | succ n ih =>
    intro A B M K Q hA hB hn hq
    have hp : 2 ^ (n + 1) ≤ 2 ^ 60 := Nat.pow_le_pow_right (by decide) hn
    have hp2 : (2 : Nat) ^ 60 < 2 ^ 63 := by decide
    have hp3 : 2 ^ (n + 1) = 2 * 2 ^ n := by rw [Nat.pow_succ, Nat.mul_comm]
    show fX7_common_L28s _ _ _ _ _ Q
    unfold fX7_common_L28s
    by_cases h0 : B = 0
    · rw [if_pos ((lgB (by omega)).mpr h0)]
      subst h0
      simpa using hq
    · rw [if_neg fun q => h0 ((lgB (by omega)).mp q)]
      refine ⟨fun q => h0 ((iff_of_eq (nJ_0 (by omega))).mp q), ?_⟩
      rw [nJ_mod hA (by omega) h0]
      show fX7_common_L28s _ _ _ _ _ Q
      unfold fX7_common_L28s
      have h1 : A % B < B := Nat.mod_lt _ (by omega)
      by_cases h2 : A % B = 0
      · rw [if_pos ((lgB (by omega)).mpr h2)]
        have : Nat.gcd A B = B := by rw [Nat.gcd_comm, Nat.gcd_rec, h2, Nat.gcd_zero_left]
        rw [← this]; exact hq
      · rw [if_neg fun q => h2 ((lgB (by omega)).mp q)]
        refine ⟨fun q => h2 ((iff_of_eq (nJ_0 (by omega))).mp q), ?_⟩
        rw [nJ_mod (by omega) (by omega) h2]
        have h3 : B % (A % B) < A % B := Nat.mod_lt _ (by omega)
        have h4 := Nat.div_add_mod B (A % B)
        have h5 : 1 ≤ B / (A % B) := (Nat.one_le_div_iff (by omega)).mpr (by omega)
        have h6 : (A % B) * 1 ≤ (A % B) * (B / (A % B)) := Nat.mul_le_mul_left _ h5
        refine ih (A % B) (B % (A % B)) M _ _ (by omega) (by omega) (by omega) ?_
        have : Nat.gcd (A % B) (B % (A % B)) = Nat.gcd A B := by
          rw [Nat.gcd_comm (A % B), ← Nat.gcd_rec, ← Nat.gcd_rec, Nat.gcd_comm]
        rw [this]; exact hq
theorem ab9_alt {x : Int64} {A B : Prop} (h : A) (hab : A = B) : B := hab ▸ h
theorem pX7_lowest {N M : gM} {D : gD} (h : RM N D M) {up dn : Int64} {what : Int32} {Q : Int64 → gM → Prop} (hm : mud up dn M) (hu : up ≠ Int64.minValue) (h0 : 0 < dn.toInt) (h1 : dn.toInt < 2 ^ 48) (hq : Q (low up dn what) M) : fX7_lowest what M Q := by
  obtain ⟨m1, m2⟩ := hm
  unfold fX7_lowest fX7_common fX7_common_b12 fX7_common_b26
  simp only [mk268 h, gdr_some, gk_sI, gk_sL, gk_sR, gl_sI, gl_sL, gl_sR, gn_sI, gn_sL, gn_sR, gs_sI, gs_sL, gs_sR, gR_sI, gR_sL, gI_sL, gI_sR, gL_sI, gL_sR, bi_ite, bi_01, true_and, and_true, m1, m2]
  have hd : 0 ≤ dn := by rw [Int64.le_iff_toInt_le, Int64.toInt_zero]; omega
  have h2 := Int64.le_toInt up
  have h3 := Int64.toInt_lt up
  have h4 : up.toInt ≠ -2 ^ 63 := fun e => hu (Int64.toInt_inj.mp (by rw [e]; rfl))
  have hg : Nat.gcd up.toInt.natAbs dn.toInt.toNat ≠ 0 := by
    intro q
    have := Nat.eq_zero_of_gcd_eq_zero_right q
    omega
  have hg2 : Nat.gcd up.toInt.natAbs dn.toInt.toNat ≤ dn.toInt.toNat := Nat.gcd_le_right _ (by omega)
  have hg3 : ¬ nJ (Nat.gcd up.toInt.natAbs dn.toInt.toNat) = 0 := by rw [nJ_0 (by omega)]; exact hg
  have key : ∀ x : Int64, x = nJ up.toInt.natAbs → ∃ n, fX7_common_L28 (fun l4_11 M12 => if what = 0 then gk M12 268 = 7 ∧ ¬l4_11 = 0 ∧ Q (gL M12 268 24 / l4_11) M12 else gk M12 268 = 7 ∧ ¬l4_11 = 0 ∧ Q (gL M12 268 25 / l4_11) M12) (fun r3 M2 => if what = 0 then gk M2 268 = 7 ∧ ¬r3 = 0 ∧ Q (gL M2 268 24 / r3) M2 else gk M2 268 = 7 ∧ ¬r3 = 0 ∧ Q (gL M2 268 25 / r3) M2) n x dn M := by
    intro x hx
    refine ⟨2 * 48 + 2, ?_⟩
    have e : dn = nJ dn.toInt.toNat := nJ_of hd
    rw [hx]
    rw [show dn = nJ dn.toInt.toNat from e] at hq ⊢
    rw [← e]
    rw [← e] at hq
    have e2 := pX7_common_L 48 up.toInt.natAbs dn.toInt.toNat M (fun l4_11 M12 => if what = 0 then gk M12 268 = 7 ∧ ¬l4_11 = 0 ∧ Q (gL M12 268 24 / l4_11) M12 else gk M12 268 = 7 ∧ ¬l4_11 = 0 ∧ Q (gL M12 268 25 / l4_11) M12) (fun r3 M2 => if what = 0 then gk M2 268 = 7 ∧ ¬r3 = 0 ∧ Q (gL M2 268 24 / r3) M2 else gk M2 268 = 7 ∧ ¬r3 = 0 ∧ Q (gL M2 268 25 / r3) M2) (by omega) (by omega) (by decide) (by
      unfold low at hq
      by_cases hw : what = 0
      · rw [if_pos hw] at hq ⊢; exact ⟨mk268 h, hg3, by rw [m1]; exact hq⟩
      · rw [if_neg hw] at hq ⊢; exact ⟨mk268 h, hg3, by rw [m2]; exact hq⟩)
    rw [← e] at e2
    exact e2
  have e9 := ab9_nJ hu
  unfold ab9 at e9
  by_cases hp : 0 ≤ up
  · rw [if_pos hp] at e9
    rw [if_pos ((lg_cmp_ge _ _).mpr hp), if_pos ((lg_cmp_ge _ _).mpr hd)]; exact key _ e9
  · rw [if_neg hp] at e9
    rw [if_neg fun q => hp ((lg_cmp_ge _ _).mp q), if_pos ((lg_cmp_ge _ _).mpr hd)]; exact key _ e9
-- bounds
theorem hK_b {d : Nat → Nat → Nat → Int32} (ok : okD d) {k m : Nat} (hk : k < 24) (hm : m < 12) : 0 ≤ (hK d k m).toInt ∧ (hK d k m).toInt ≤ 1980 := by
  obtain ⟨-, o2, -, o4, o5⟩ := ok
  obtain ⟨q1, q2, -⟩ := o2 k m hk hm
  unfold hK hOf
  rw [o5]
  simp only [Int32.le_iff_toInt_le] at q1 q2 o4
  have e0 : (0 : Int32).toInt = 0 := rfl
  have e99 : (99 : Int32).toInt = 99 := rfl
  have e10 : (10 : Int32).toInt = 10 := rfl
  by_cases h : 0 ≤ d 5 k m
  · rw [if_pos h]
    rw [Int32.le_iff_toInt_le] at h
    rw [Int32.toInt_add, Int32.toInt_mul, Int32.toInt_mul]
    have a1 : 0 ≤ (d 13 0 0).toInt * (d 6 k m).toInt := Int.mul_nonneg (by omega) (by omega)
    have a2 : (d 13 0 0).toInt * (d 6 k m).toInt ≤ 10 * 99 := Int.mul_le_mul (by omega) (by omega) (by omega) (by omega)
    rw [e10, Int.bmod_eq_of_le (n := 10 * (d 5 k m).toInt) (by omega) (by omega), Int.bmod_eq_of_le (n := (d 13 0 0).toInt * (d 6 k m).toInt) (by omega) (by omega), Int.bmod_eq_of_le (by omega) (by omega)]
    omega
  · rw [if_neg h]; decide
theorem chg_b {d : Nat → Nat → Nat → Int32} (ok : okD d) {k b a : Nat} (hk : k < 24) (hb : b < 12) (ha : a < 12) : -1980 ≤ (chg d k b a).toInt ∧ (chg d k b a).toInt ≤ 1980 := by
  have h1 := hK_b ok hk hb
  have h2 := hK_b ok hk ha
  unfold chg
  rw [Int32.toInt_sub, Int.bmod_eq_of_le (by omega) (by omega)]
  omega
theorem cs_b {sel : Nat → Bool} {v : Nat → Int64} {B : Int} (h0 : 0 ≤ B) (hB : B ≤ 2 ^ 40) (hv : ∀ k, k < 24 → -B ≤ (v k).toInt ∧ (v k).toInt ≤ B) : ∀ n : Nat, n ≤ 24 → -(B * n) ≤ (cs sel v n).toInt ∧ (cs sel v n).toInt ≤ B * n := by
  intro n
  induction n with
  | zero => intro _; simp [cs]
  | succ n ih =>
    intro hn
    have h1 := ih (by omega)
    have h2 := hv n (by omega)
    have h3 : B * ((n + 1 : Nat) : Int) = B * n + B := by rw [Int.natCast_add, Int.mul_add]; simp
    have h4 : B * (n : Int) ≤ 2 ^ 40 * 24 := Int.mul_le_mul hB (by omega) (by omega) (by omega)
    have h5 : 0 ≤ B * (n : Int) := Int.mul_nonneg h0 (by omega)
    rw [h3]
    unfold cs
    split
    · rw [Int64.toInt_add, Int.bmod_eq_of_le (by omega) (by omega)]
      omega
    · omega
/-- a river's numbers are small -/
theorem upR_b {sel fst : Nat → Bool} {v : Nat → Int64} {B : Int} (h0 : 0 ≤ B) (hB : B ≤ 2 ^ 40) (hv : ∀ k, k < 24 → -B ≤ (v k).toInt ∧ (v k).toInt ≤ B) : -(B * 1152) ≤ (upR sel fst v).toInt ∧ (upR sel fst v).toInt ≤ B * 1152 := by
  have a1 := cs_b (sel := fun k => sel k && fst k) h0 hB hv 24 (Nat.le_refl _)
  have a2 := cs_b (sel := fun k => sel k && !fst k) h0 hB hv 24 (Nat.le_refl _)
  have c1 := cn_le (fun k => sel k && fst k) 24
  have c2 := cn_le (fun k => sel k && !fst k) 24
  unfold upR
  generalize cs (fun k => sel k && fst k) v 24 = x at *
  generalize cs (fun k => sel k && !fst k) v 24 = y at *
  generalize cn (fun k => sel k && fst k) 24 = p at *
  generalize cn (fun k => sel k && !fst k) 24 = q at *
  have m : ∀ (z : Int64) (r : Nat), r ≤ 24 → -(B * 24) ≤ z.toInt → z.toInt ≤ B * 24 → (z * nJ r).toInt = z.toInt * r ∧ -(B * 576) ≤ z.toInt * r ∧ z.toInt * r ≤ B * 576 := by
    intro z r hr z1 z2
    have w1 : z.toInt * r ≤ B * 24 * r := Int.mul_le_mul_of_nonneg_right z2 (by omega)
    have w2 : -(B * 24) * r ≤ z.toInt * r := Int.mul_le_mul_of_nonneg_right z1 (by omega)
    have w3 : B * 24 * (r : Int) ≤ B * 24 * 24 := Int.mul_le_mul_of_nonneg_left (by omega) (by omega)
    rw [Int.neg_mul] at w2
    refine ⟨?_, by omega, by omega⟩
    rw [Int64.toInt_mul, nJ_toInt (by omega), Int.bmod_eq_of_le (by omega) (by omega)]
  obtain ⟨e1, e2, e3⟩ := m x q (by omega) (by omega) (by omega)
  obtain ⟨f1, f2, f3⟩ := m y p (by omega) (by omega) (by omega)
  rw [Int64.toInt_sub, e1, f1, Int.bmod_eq_of_le (by omega) (by omega)]
  omega
theorem ne_min {x : Int64} (h : -(2 ^ 62) ≤ x.toInt) : x ≠ Int64.minValue := by
  intro e
  rw [e] at h
  revert h
  decide
theorem dnR_b {sel fst : Nat → Bool} (h : thr sel fst = true) : 0 < (dnR sel fst).toInt ∧ (dnR sel fst).toInt ≤ 576 := by
  unfold thr at h
  simp only [Bool.and_eq_true, decide_eq_true_eq] at h
  have h1 := Nat.mul_le_mul (cn_le (fun k => sel k && fst k) 24) (cn_le (fun k => sel k && !fst k) 24)
  have h2 := Nat.mul_pos h.1 h.2
  unfold dnR
  rw [nJ_mul, nJ_toInt (by omega)]
  omega
theorem chJ_b {d : Nat → Nat → Nat → Int32} (ok : okD d) {b a : Nat} (hb : b < 12) (ha : a < 12) : ∀ k, k < 24 → -1980 ≤ (chJ d b a k).toInt ∧ (chJ d b a k).toInt ≤ 1980 := by
  intro k hk
  unfold chJ
  rw [Int32.toInt_toInt64]
  exact chg_b ok hk hb ha
/-! ops: river, part, apart -/
set_option maxRecDepth 100000
theorem RX.less {N M : gM} {n0 a b : Nat} {D : gD} (h : RX N n0 a D M) (hb : b ≤ a) : RX N n0 b D M := by
  have h5 := h.2.1
  exact ⟨h.1, ⟨by omega, by omega, h5.2.2.1, h5.2.2.2⟩, h.2.2⟩
def cl (p : Int32) : Nat := p.toNatClampNeg
theorem cl_nI {k : Nat} (h : k < 24) : cl (nI k) = k := nI_clamp (by omega)
abbrev selR (d : Nat → Nat → Nat → Int32) (b a p : Int32) : Nat → Bool := cnW d (cl b) (cl a) p
abbrev chR (d : Nat → Nat → Nat → Int32) (b a : Int32) : Nat → Int64 := chJ d (cl b) (cl a)
/-- the river without p is there -/
def rvT (d : Nat → Nat → Nat → Int32) (b a p : Int32) : Bool := thr (selR d b a p) (fs0 d)
def rvU (d : Nat → Nat → Nat → Int32) (b a p : Int32) : Int64 := upR (selR d b a p) (fs0 d) (chR d b a)
def rvD (d : Nat → Nat → Nat → Int32) (b a p : Int32) : Int64 := dnR (selR d b a p) (fs0 d)
theorem rv_ok {d : Nat → Nat → Nat → Int32} (ok : okD d) {b a p : Int32} (h : arM b a = true) (ht : rvT d b a p = true) : (-2280960 ≤ (rvU d b a p).toInt ∧ (rvU d b a p).toInt ≤ 2280960) ∧ 0 < (rvD d b a p).toInt ∧ (rvD d b a p).toInt ≤ 576 := by
  obtain ⟨i, j, hi, hj, -, rfl, rfl⟩ := arM_n h
  refine ⟨?_, dnR_b ht⟩
  have := upR_b (sel := selR d (nI i) (nI j) p) (fst := fs0 d) (v := chR d (nI i) (nI j)) (B := 1980) (by decide) (by decide) (fun k hk => by
    have e1 := cl_nI (k := i) (by omega)
    have e2 := cl_nI (k := j) (by omega)
    unfold chR
    rw [e1, e2]
    exact chJ_b ok hi hj k hk)
  unfold rvU
  omega
section
variable {N M : gM} {n0 a9 : Nat} {D : gD}
theorem pX1_needRiver (h : RX N n0 a9 D M) (ha : 12 ≤ a9) {b a p what : Int32} {Q : gM → Prop} {E : Nat → gM → Prop}
    (hq : arM b a = true → in9 0 1 what = true → rvT (dd D) b a p = true → ∀ M', RX N n0 a9 D M' → mns (selR (dd D) b a p) (fs0 (dd D)) (chR (dd D) b a) 24 M' → Q M')
    (he : (arM b a && in9 0 1 what && rvT (dd D) b a p) = false → ∀ o M', RX N n0 (a9 - 6) D M' → E o M') : fX1_needRiver b a p what M Q E := by
  unfold fX1_needRiver fX1_needRiver_b22 fX1_needRiver_b23
  simp only [pX1_areMonths, pX1_in, gdr_some, gk_sI, gk_sL, gk_sR, gl_sI, gl_sL, gl_sR, gn_sI, gn_sL, gn_sR, gs_sI, gs_sL, gs_sR, gR_sI, gR_sL, gI_sL, gI_sR, gL_sI, gL_sR, bi_ite, bi_01, true_and, and_true]
  cases h1 : arM b a
  · simp only [Bool.false_eq_true, if_false]
    rw [← bi_f]
    exact pX1_need h (by omega) (fun q => by cases q) (fun _ => he (by simp [h1]))
  · cases h2 : in9 0 1 what
    · simp only [Bool.false_eq_true, if_false, if_true]
      rw [← bi_f]
      exact pX1_need h (by omega) (fun q => by cases q) (fun _ => he (by simp [h2]))
    · simp only [if_true]
      rw [← bi_t]
      refine pX1_need h (by omega) (fun _ => ?_) (fun q => by cases q)
      simp only [xk16 h, xk17 h, xl17 h, xr0 h, xr10 h, xr11 h, xk28 h, xk29 h, xten h, xby h, gdr_some, gk_sI, gk_sL, gk_sR, gl_sI, gl_sL, gl_sR, gn_sI, gn_sL, gn_sR, gs_sI, gs_sL, gs_sR, gR_sI, gR_sL, gI_sL, gI_sR, gL_sI, gL_sR, bi_ite, bi_01, true_and, and_true]
      obtain ⟨i, j, hi, hj, -, rfl, rfl⟩ := arM_n h1
      have e1 := cl_nI (k := i) (by omega)
      have e2 := cl_nI (k := j) (by omega)
      refine pX1_rivers h hi hj fun M' h' m' => ?_
      have e3 : rvT (dd D) (nI i) (nI j) p = thr (cnW (dd D) i j p) (fs0 (dd D)) := by unfold rvT selR; rw [e1, e2]
      rw [← e3]
      refine pX1_need h' (by omega) (fun ht => hq h1 h2 ht M' h' ?_) (fun ht => he (by rw [ht]; simp))
      unfold selR chR
      rw [e1, e2]
      exact m'
/-- the answer of river -/
def rRiv (d : Nat → Nat → Nat → Int32) (b a p what : Int32) : Option Int64 := if ((decide (p = -1) || isKp d p) && (arM b a && in9 0 1 what && rvT d b a p)) = true then some (low (rvU d b a p) (rvD d b a p) what) else none
theorem pX1_river (h : RX N n0 a9 D M) (ok : okD (dd D)) (ha : 12 ≤ a9) {b a p what : Int32} {Q : Int64 → gM → Prop} {E : Nat → gM → Prop} (hq : ∀ v, rRiv (dd D) b a p what = some v → ∀ M', RX N n0 (a9 - 12) D M' → Q v M') (he : rRiv (dd D) b a p what = none → ∀ o M', RX N n0 (a9 - 12) D M' → E o M') : fX1_river b a p what M Q E := by
  have key : ∀ s : Bool, s = (decide (p = -1) || isKp (dd D) p) → fX1_river_b18 b a p what (bi s) M Q E := by
    intro s hs
    unfold fX1_river_b18
    refine pX1_need h (by omega) (fun h1 => ?_) (fun h1 o M' h' => he (by unfold rRiv; rw [← hs, h1]; simp) o M' (h'.less (by omega)))
    simp only [xk16 h, xk17 h, xl17 h, xr0 h, xr10 h, xr11 h, xk28 h, xk29 h, xten h, xby h, gdr_some, gk_sI, gk_sL, gk_sR, gl_sI, gl_sL, gl_sR, gn_sI, gn_sL, gn_sR, gs_sI, gs_sL, gs_sR, gR_sI, gR_sL, gI_sL, gI_sR, gL_sI, gL_sR, bi_ite, bi_01, true_and, and_true]
    refine pX1_needRiver h ha (fun q1 q2 q3 M' h' m' => ?_) (fun q o M' h' => he (by unfold rRiv; rw [q]; simp) o M' (h'.less (by omega)))
    simp only [xk16 h', xk17 h', xl17 h', xr0 h', xr10 h', xr11 h', xk28 h', xk29 h', xten h', xby h', gdr_some, gk_sI, gk_sL, gk_sR, gl_sI, gl_sL, gl_sR, gn_sI, gn_sL, gn_sR, gs_sI, gs_sL, gs_sR, gR_sI, gR_sL, gI_sL, gI_sR, gL_sI, gL_sR, bi_ite, bi_01, true_and, and_true, pX1_above h' m', pX1_below h' m']
    obtain ⟨u1, u2, u3⟩ := rv_ok ok q1 q3
    refine pX1_lowest (ne_min (by show _ ≤ (rvU (dd D) b a p).toInt; omega)) u2 (by show (rvD (dd D) b a p).toInt < _; omega) ?_
    exact hq _ (by unfold rRiv; rw [← hs, h1, q1, q2, q3]; rfl) M' (h'.less (by omega))
  unfold fX1_river fX1_river_b13
  by_cases e : p = -1
  · rw [if_pos e, ← bi_t]
    exact key true (by simp [e])
  · rw [if_neg e]
    simp only [xk16 h, xk17 h, xl17 h, xr0 h, xr10 h, xr11 h, xk28 h, xk29 h, xten h, xby h, gdr_some, gk_sI, gk_sL, gk_sR, gl_sI, gl_sL, gl_sR, gn_sI, gn_sL, gn_sR, gs_sI, gs_sL, gs_sR, gR_sI, gR_sL, gI_sL, gI_sR, gL_sI, gL_sR, bi_ite, bi_01, true_and, and_true, pX1_isKitchen h]
    cases e2 : isKp (dd D) p
    · simp only [Bool.false_eq_true, if_false]
      rw [← bi_f]
      exact key false (by simp [e, e2])
    · simp only [if_true]
      rw [← bi_t]
      exact key true (by simp [e2])
end
section
variable {N M : gM} {D : gD}
theorem pX7_river (h : RM N D M) (ok : okD (dd D)) {b a p what : Int32} {Q : Int64 → gM → Prop} (hq : ∀ v, rRiv (dd D) b a p what = some v → ∀ M', RM N D M' → gI M' 268 0 = 0 → Q v M') (he : rRiv (dd D) b a p what = none → ∀ M', RM N D M' → gI M' 268 0 = 1 → Q 0 M') : fX7_river b a p what M Q := by
  have hs : ∀ {M1 : gM} {x : Int32}, RM N D M1 → RM N D (gsI M1 268 0 x) := fun h1 => h1.sI (Or.inl ⟨rfl, by omega, by omega, by omega⟩)
  have kn : ∀ M1, RM N D M1 → rRiv (dd D) b a p what = none → fX7_river_b44 what M1 Q := by
    intro M1 h1 e
    unfold fX7_river_b44 fX7_river_b45
    simp only [mk268 h1, gdr_some, gk_sI, gk_sL, gk_sR, gl_sI, gl_sL, gl_sR, gn_sI, gn_sL, gn_sR, gs_sI, gs_sL, gs_sR, gR_sI, gR_sL, gI_sL, gI_sR, gL_sI, gL_sR, bi_ite, bi_01, true_and, and_true, gI_sI, and_self, if_true]
    rw [if_neg (by decide)]
    exact he e _ (hs h1) rfl
  have kb : arM b a = true → (decide (p = -1) || isKp (dd D) p) = true → fX7_river_b22 b a p what M Q := by
    intro q1 q0
    unfold fX7_river_b22
    simp only [pX7_isWhat, gdr_some, gk_sI, gk_sL, gk_sR, gl_sI, gl_sL, gl_sR, gn_sI, gn_sL, gn_sR, gs_sI, gs_sL, gs_sR, gR_sI, gR_sL, gI_sL, gI_sR, gL_sI, gL_sR, bi_ite, bi_01, true_and, and_true]
    cases q2 : in9 0 1 what
    · simp only [Bool.false_eq_true, if_false]
      exact kn M h (by unfold rRiv; rw [q2]; simp)
    · simp only [if_true, mk268 h, gdr_some, gk_sI, gk_sL, gk_sR, gl_sI, gl_sL, gl_sR, gn_sI, gn_sL, gn_sR, gs_sI, gs_sL, gs_sR, gR_sI, gR_sL, gI_sL, gI_sR, gL_sI, gL_sR, bi_ite, bi_01, true_and, and_true]
      obtain ⟨i, j, hi, hj, -, rfl, rfl⟩ := arM_n q1
      have e1 := cl_nI (k := i) (by omega)
      have e2 := cl_nI (k := j) (by omega)
      refine pX7_findRiver h ok hi hj fun M' h' m' u' => ?_
      have e3 : rvT (dd D) (nI i) (nI j) p = thr (cnW (dd D) i j p) (fs0 (dd D)) := by unfold rvT selR; rw [e1, e2]
      rw [← e3]
      cases q3 : rvT (dd D) (nI i) (nI j) p
      · simp only [gdr_some, gk_sI, gk_sL, gk_sR, gl_sI, gl_sL, gl_sR, gn_sI, gn_sL, gn_sR, gs_sI, gs_sL, gs_sR, gR_sI, gR_sL, gI_sL, gI_sR, gL_sI, gL_sR, bi_ite, bi_01, true_and, and_true, Bool.false_eq_true, if_false]
        exact kn M' h' (by unfold rRiv; rw [q3]; simp)
      · simp only [gdr_some, gk_sI, gk_sL, gk_sR, gl_sI, gl_sL, gl_sR, gn_sI, gn_sL, gn_sR, gs_sI, gs_sL, gs_sR, gR_sI, gR_sL, gI_sL, gI_sR, gL_sI, gL_sR, bi_ite, bi_01, true_and, and_true, if_true]
        unfold fX7_river_b45
        simp only [mk268 h', gdr_some, gk_sI, gk_sL, gk_sR, gl_sI, gl_sL, gl_sR, gn_sI, gn_sL, gn_sR, gs_sI, gs_sL, gs_sR, gR_sI, gR_sL, gI_sL, gI_sR, gL_sI, gL_sR, bi_ite, bi_01, true_and, and_true, gI_sI, and_self, if_true]
        rw [if_pos (by decide)]
        obtain ⟨u1, u2, u3⟩ := rv_ok ok q1 q3
        have eU : rvU (dd D) (nI i) (nI j) p = upR (cnW (dd D) i j p) (fs0 (dd D)) (chJ (dd D) i j) := by unfold rvU selR chR; rw [e1, e2]
        have eD : rvD (dd D) (nI i) (nI j) p = dnR (cnW (dd D) i j p) (fs0 (dd D)) := by unfold rvD selR; rw [e1, e2]
        rw [← eU, ← eD] at u'
        refine pX7_lowest (hs h') (up := rvU (dd D) (nI i) (nI j) p) (dn := rvD (dd D) (nI i) (nI j) p) u' (ne_min (by omega)) u2 (by omega) ?_
        exact hq _ (by unfold rRiv; rw [q0, q1, q2, q3]; rfl) _ (hs h') rfl
  unfold fX7_river
  simp only [pX7_areMonths, gdr_some, gk_sI, gk_sL, gk_sR, gl_sI, gl_sL, gl_sR, gn_sI, gn_sL, gn_sR, gs_sI, gs_sL, gs_sR, gR_sI, gR_sL, gI_sL, gI_sR, gL_sI, gL_sR, bi_ite, bi_01, true_and, and_true]
  cases q1 : arM b a
  · simp only [Bool.false_eq_true, if_false]
    exact kn M h (by unfold rRiv; rw [q1]; simp)
  · simp only [if_true]
    by_cases e : p = -1
    · rw [if_pos e]
      exact kb q1 (by simp [e])
    · rw [if_neg e]
      simp only [mk268 h, gdr_some, gk_sI, gk_sL, gk_sR, gl_sI, gl_sL, gl_sR, gn_sI, gn_sL, gn_sR, gs_sI, gs_sL, gs_sR, gR_sI, gR_sL, gI_sL, gI_sR, gL_sI, gL_sR, bi_ite, bi_01, true_and, and_true, pX7_isKitchen h]
      cases e2 : isKp (dd D) p
      · simp only [Bool.false_eq_true, if_false]
        exact kn M h (by unfold rRiv; rw [e2]; simp [e])
      · simp only [if_true]
        exact kb q1 (by simp [e2])
end
/-! ONE OP of the law, by its two answers -/
set_option maxRecDepth 100000
theorem RM.self {N M : gM} {D : gD} (h : RM N D M) : RM M D M := ⟨h.1, ⟨rfl, rfl⟩, h.2.2.1, h.2.2.2.1, h.2.2.2.2.1, h.2.2.2.2.2.1, h.2.2.2.2.2.2.1, h.2.2.2.2.2.2.2.1, h.2.2.2.2.2.2.2.2.1, fun c _ => gEqC_rfl M c⟩
theorem RX.self {N M : gM} {n0 a : Nat} {D : gD} (h : RX N n0 a D M) : RX M n0 a D M := ⟨h.1, h.2.1, h.2.2.1, h.2.2.2.1, h.2.2.2.2.1, h.2.2.2.2.2.1, h.2.2.2.2.2.2.1, h.2.2.2.2.2.2.2.1, fun c _ _ => gEqC_rfl M c⟩
/-- the other told data are in bounds -/
def okO (o : Nat × (Nat → Nat → Int32)) : Prop := ∀ i : Nat, i < 20 → (-9999 ≤ o.2 0 i ∧ o.2 0 i ≤ 9999) ∧ (0 ≤ o.2 1 i ∧ o.2 1 i ≤ 999) ∧ (o.2 2 i = 0 ∨ o.2 2 i = 1)
def okW (V : Nat → Option (List (Int32 × Int32)) × (Nat → Int32)) : Prop := ∀ i : Nat, i < 4 → in9 0 11 ((V i).2 0) = true ∧ in9 0 11 ((V i).2 1) = true ∧ in9 (-1) 10 ((V i).2 2) = true
def okM (K : Nat → Option (Nat × (Nat → Nat → Nat → Int32))) : Prop := ∀ i o, i < 4 → K i = some o → ∀ k m : Nat, k < 24 → m < 12 → (-2 ≤ o.2 5 k m ∧ o.2 5 k m ≤ 99) ∧ (0 ≤ o.2 6 k m ∧ o.2 6 k m ≤ 99) ∧ (¬ 0 ≤ o.2 5 k m → o.2 6 k m = 0) ∧ (-1 ≤ o.2 7 k m ∧ o.2 7 k m ≤ 99) ∧ (0 ≤ o.2 8 k m ∧ o.2 8 k m ≤ 99)
def okT (t : Nat × (Nat → Int32)) : Prop := ∀ i : Nat, i < t.1 → t.2 i = 10 ∨ (32 ≤ t.2 i ∧ t.2 i ≤ 126)
def okA (D : gD) : Prop := okD (dd D) ∧ okO (dO D) ∧ okW (dW D) ∧ okM (dM D) ∧ okT (dT D)
/-- between two ops -/
def LI (a : Nat) (M : gM) : Prop := ∃ (D : gD) (n0 : Nat), RX M n0 a D M ∧ RM M D M ∧ okA D
theorem LI.of {N M : gM} {n0 a b : Nat} {D : gD} (hx : RX N n0 a D M) (hm : RM M D M) (ok : okA D) (hb : b ≤ a) : LI b M := ⟨D, n0, hx.self.less hb, hm, ok⟩
section
variable {M : gM} {n0 a : Nat} {D : gD}
theorem vpz {M : gM} (h : gFix M) : vp_in 0 (gl M 312) := by
  rw [fl312 h]
  exact vp_in_nI (n := 0) (by decide) (by decide)
/-- an op that may throw, its answer a long -/
theorem opJ (hX : RX M n0 a D M) (hM : RM M D M) (ok : okA D) (ha : 18000 ≤ a) {r : Option Int64} {FX : (Int64 → gM → Prop) → (Nat → gM → Prop) → Prop} {FM : gM → (Int64 → gM → Prop) → Prop} {R K1 K2 : gM → Prop}
    (hx : ∀ Q E, (∀ v, r = some v → ∀ M', RX M n0 (a - 18000) D M' → Q v M') → (r = none → ∀ o M', RX M n0 (a - 18000) D M' → E o M') → FX Q E)
    (hm : ∀ M1 Q, RM M1 D M1 → (∀ v, r = some v → ∀ M', RM M1 D M' → gI M' 268 0 = 0 → Q v M') → (r = none → ∀ M', RM M1 D M' → gI M' 268 0 = 1 → Q 0 M') → FM M1 Q) (hR : ∀ M', LI (a - 18000) M' → R M')
    {KK : Int32 → gM → Prop} {FX0 : (Int32 → gM → Prop) → Prop} (hF : ∀ Q, gk M 16 = 1 ∧ FX (fun r3 M2 => gk M2 312 = 41 ∧ vp_in 0 (gl M2 312) ∧ Q 0 (gsL M2 312 0 r3)) (fun o4 M5 => Q 1 M5) → FX0 Q) (hK : ∀ k M1, (gk M1 268 = 7 ∧ FM M1 (fun r157 M156 => gk M156 268 = 7 ∧ fX7_thrown M156 (fun r160 M159 => (if r160 = k then (if k = 0 then gk M159 312 = 41 ∧ vp_in 0 (gl M159 312) ∧ (if (lg_cmp (gL M159 312 0) r157) = 0 then R M159 else K1 M159) else R M159) else K2 M159)))) → KK k M1) :
    FX0 KK := by
  refine hF _ ⟨xk16 hX, hx _ _ (fun v hv M1 h1 => ⟨fk312 h1.1, vpz h1.1, hK _ _ ?_⟩) (fun hv o M1 h1 => hK _ _ ?_)⟩
  · have h2 : RX M n0 (a - 18000) D (gsL M1 312 0 v) := h1.sL (by omega)
    have m2 := hM.byX h2
    refine ⟨mk268 m2, hm _ _ m2 (fun w hw M' m' ht => ?_) (fun e => by rw [hv] at e; cases e)⟩
    rw [hv] at hw
    cases hw
    unfold fX7_thrown
    refine ⟨mk268 m', mk268 m', ?_⟩
    have hx' := h2.byM m'
    show (if gI M' 268 0 = 0 then (if (0 : Int32) = 0 then _ else _) else _)
    rw [if_pos ht, if_pos rfl]
    refine ⟨fk312 hx'.1, vpz hx'.1, ?_⟩
    have e := (m'.2.2.2.2.2.2.2.2.2 312 (by omega)).2.2.2.1 0
    rw [gL_sL, if_pos ⟨rfl, rfl⟩] at e
    rw [e, if_pos ((lg_cmp_eq _ _).mpr rfl)]
    exact hR _ (LI.of hx' m'.self ok (Nat.le_refl _))
  · have m2 := hM.byX h1
    refine ⟨mk268 m2, hm _ _ m2 (fun w hw => by rw [hv] at hw; cases hw) (fun _ M' m' ht => ?_)⟩
    unfold fX7_thrown
    refine ⟨mk268 m', mk268 m', ?_⟩
    have hx' := h1.byM m'
    show (if gI M' 268 0 = 1 then (if (1 : Int32) = 0 then _ else _) else _)
    rw [if_pos ht, if_neg (by decide)]
    exact hR _ (LI.of hx' m'.self ok (Nat.le_refl _))
end
/-- the script's places -/
theorem scr_in {L n j : Nat} (hL : L ≤ 448) (h : n + 7 ≤ L) (hj : j < 7) : vp_in (nI (n + j)) L := vp_in_nI (by omega) (by omega)
theorem scr_p {n : Nat} : nI n + 1 = nI (n + 1) ∧ nI n + 2 = nI (n + 2) ∧ nI n + 3 = nI (n + 3) ∧ nI n + 4 = nI (n + 4) ∧ nI n + 5 = nI (n + 5) ∧ nI n + 6 = nI (n + 6) ∧ nI n + 7 = nI (n + 7) := by
  unfold nI
  refine ⟨?_, ?_, ?_, ?_, ?_, ?_, ?_⟩ <;> (rw [Int32.ofNat_add]; rfl)
/-- river, in the law -/
theorem op_river {L n a : Nat} {xs : Nat → Int32} {M : gM} {R : Int32 → gM → Prop} {K1 K2 : gM → Prop} {Q : Int32 → gM → Prop} (hL : L ≤ 448) (hn : n + 7 ≤ L) (h : LI a M) (ha : 18000 ≤ a) (hR : ∀ M', LI (a - 18000) M' → R (nI (n + 7)) M') : fL_law_b646 L xs R K1 K2 312 (nI n) M Q := by
  obtain ⟨D, n0, hX, hM, ok⟩ := h
  unfold fL_law_b646
  rw [scr_p.1, scr_p.2.1, scr_p.2.2.1, scr_p.2.2.2.1]
  have i1 := scr_in hL hn (by decide : 1 < 7)
  have i2 := scr_in hL hn (by decide : 2 < 7)
  have i3 := scr_in hL hn (by decide : 3 < 7)
  have i4 := scr_in hL hn (by decide : 4 < 7)
  refine ⟨i1, i2, i3, i4, ?_⟩
  generalize xs (nI (n + 1)).toNatClampNeg = p1
  generalize xs (nI (n + 2)).toNatClampNeg = p2
  generalize xs (nI (n + 3)).toNatClampNeg = p3
  generalize xs (nI (n + 4)).toNatClampNeg = p4
  exact opJ hX hM ok ha (r := rRiv (dd D) p1 p2 p3 p4) (FX := fX1_river p1 p2 p3 p4 M) (FM := fX7_river p1 p2 p3 p4) (R := fun M' => fL_law_b734 L xs R 312 (nI n) M' Q) (K1 := K2) (K2 := K1)
    (fun _ _ hq he => pX1_river hX ok.1 (by omega) (fun v hv M' h' => hq v hv M' (h'.less (by omega))) (fun hv o M' h' => he hv o M' (h'.less (by omega))))
    (fun _ _ m1 hq he => pX7_river m1 ok.1 hq he) (fun M' h' => by unfold fL_law_b734 fL_law_b2724; rw [scr_p.2.2.2.2.2.2]; exact hR M' h') (fun _ h => h) (fun _ _ h => ⟨i1, i2, i3, i4, h⟩)
/-! op: apart -/
set_option maxRecDepth 100000
theorem J_mul {x y : Int64} {A B : Int} (hA : 0 ≤ A) (hB : 0 ≤ B) (h : A * B < 2 ^ 62) (x1 : -A ≤ x.toInt) (x2 : x.toInt ≤ A) (y1 : -B ≤ y.toInt) (y2 : y.toInt ≤ B) : (x * y).toInt = x.toInt * y.toInt ∧ -(A * B) ≤ x.toInt * y.toInt ∧ x.toInt * y.toInt ≤ A * B := by
  have h9 : (x.toInt * y.toInt).natAbs ≤ (A * B).natAbs := by
    rw [Int.natAbs_mul, Int.natAbs_mul]
    exact Nat.mul_le_mul (by omega) (by omega)
  have h8 : 0 ≤ A * B := Int.mul_nonneg hA hB
  generalize A * B = C at *
  rw [Int64.toInt_mul]
  generalize x.toInt * y.toInt = z at *
  refine ⟨?_, by omega, by omega⟩
  rw [Int.bmod_eq_of_le (by omega) (by omega)]
def apU (d : Nat → Nat → Nat → Int32) (b a p : Int32) : Int64 := rvU d b a (-1) - p.toInt64 * (a - b).toInt64 * rvD d b a (-1)
def rApa (d : Nat → Nat → Nat → Int32) (b a p what : Int32) : Option Int64 := if (in9 (-99) 99 p && (arM b a && in9 0 1 what && rvT d b a (-1))) = true then some (low (apU d b a p) (rvD d b a (-1)) what) else none
theorem apU_ok {d : Nat → Nat → Nat → Int32} (ok : okD d) {b a p : Int32} (hp : in9 (-99) 99 p = true) (h : arM b a = true) (ht : rvT d b a (-1) = true) : apU d b a p ≠ Int64.minValue := by
  obtain ⟨u1, u2, u3⟩ := rv_ok ok h ht
  obtain ⟨i, j, hi, hj, -, rfl, rfl⟩ := arM_n h
  have hp := in9_iff.mp hp
  simp only [Int32.le_iff_toInt_le] at hp
  have e1 : (-99 : Int32).toInt = -99 := rfl
  have e2 : (99 : Int32).toInt = 99 := rfl
  have e3 : (nI j - nI i).toInt = (j : Int) - i := by
    rw [Int32.toInt_sub, nI_toInt (by omega), nI_toInt (by omega), Int.bmod_eq_of_le (by omega) (by omega)]
  obtain ⟨m1, m2, m3⟩ := J_mul (x := p.toInt64) (y := (nI j - nI i).toInt64) (A := 99) (B := 12) (by omega) (by omega) (by decide) (by rw [Int32.toInt_toInt64]; omega) (by rw [Int32.toInt_toInt64]; omega) (by rw [Int32.toInt_toInt64, e3]; omega) (by rw [Int32.toInt_toInt64, e3]; omega)
  obtain ⟨n1, n2, n3⟩ := J_mul (x := p.toInt64 * (nI j - nI i).toInt64) (y := rvD d (nI i) (nI j) (-1)) (A := 1188) (B := 576) (by omega) (by omega) (by decide) (by rw [m1]; omega) (by rw [m1]; omega) (by omega) (by omega)
  refine ne_min ?_
  unfold apU
  rw [Int64.toInt_sub, n1, Int.bmod_eq_of_le (by omega) (by omega)]
  omega
section
variable {N M : gM} {n0 a9 : Nat} {D : gD}
theorem pX1_apart (h : RX N n0 a9 D M) (ok : okD (dd D)) (ha : 12 ≤ a9) {b a p what : Int32} {Q : Int64 → gM → Prop} {E : Nat → gM → Prop} (hq : ∀ v, rApa (dd D) b a p what = some v → ∀ M', RX N n0 (a9 - 12) D M' → Q v M') (he : rApa (dd D) b a p what = none → ∀ o M', RX N n0 (a9 - 12) D M' → E o M') : fX1_apart b a p what M Q E := by
  unfold fX1_apart
  simp only [pX1_in]
  refine pX1_need h (by omega) (fun h1 => ?_) (fun h1 o M' h' => he (by unfold rApa; rw [h1]; simp) o M' (h'.less (by omega)))
  simp only [xk16 h, xk17 h, xl17 h, xr0 h, xr10 h, xr11 h, xk28 h, xk29 h, xten h, xby h, gdr_some, gk_sI, gk_sL, gk_sR, gl_sI, gl_sL, gl_sR, gn_sI, gn_sL, gn_sR, gs_sI, gs_sL, gs_sR, gR_sI, gR_sL, gI_sL, gI_sR, gL_sI, gL_sR, bi_ite, bi_01, true_and, and_true]
  refine pX1_needRiver h ha (fun q1 q2 q3 M' h' m' => ?_) (fun q o M' h' => he (by unfold rApa; rw [q]; simp) o M' (h'.less (by omega)))
  simp only [xk16 h', xk17 h', xl17 h', xr0 h', xr10 h', xr11 h', xk28 h', xk29 h', xten h', xby h', gdr_some, gk_sI, gk_sL, gk_sR, gl_sI, gl_sL, gl_sR, gn_sI, gn_sL, gn_sR, gs_sI, gs_sL, gs_sR, gR_sI, gR_sL, gI_sL, gI_sR, gL_sI, gL_sR, bi_ite, bi_01, true_and, and_true, pX1_above h' m', pX1_below h' m']
  obtain ⟨u1, u2, u3⟩ := rv_ok ok q1 q3
  refine pX1_lowest (apU_ok ok h1 q1 q3) u2 (by show (rvD (dd D) b a (-1)).toInt < _; omega) ?_
  exact hq _ (by unfold rApa; rw [h1, q1, q2, q3]; rfl) M' (h'.less (by omega))
end
section
variable {N M : gM} {D : gD}
theorem RM.thrown {x : Int32} (h : RM N D M) : RM N D (gsI M 268 0 x) := h.sI (Or.inl ⟨rfl, by omega, by omega, by omega⟩)
theorem pX7_apart (h : RM N D M) (ok : okD (dd D)) {b a p what : Int32} {Q : Int64 → gM → Prop} (hq : ∀ v, rApa (dd D) b a p what = some v → ∀ M', RM N D M' → gI M' 268 0 = 0 → Q v M') (he : rApa (dd D) b a p what = none → ∀ M', RM N D M' → gI M' 268 0 = 1 → Q 0 M') : fX7_apart b a p what M Q := by
  have kn : ∀ M1, RM N D M1 → rApa (dd D) b a p what = none → fX7_apart_b42 b a p what M1 Q := by
    intro M1 h1 e
    unfold fX7_apart_b42 fX7_apart_b43
    simp only [mk268 h1, gdr_some, gk_sI, gk_sL, gk_sR, gl_sI, gl_sL, gl_sR, gn_sI, gn_sL, gn_sR, gs_sI, gs_sL, gs_sR, gR_sI, gR_sL, gI_sL, gI_sR, gL_sI, gL_sR, bi_ite, bi_01, true_and, and_true, gI_sI, and_self, if_true]
    rw [if_neg (by decide)]
    exact he e _ h1.thrown rfl
  unfold fX7_apart
  simp only [pX7_areMonths, pX7_within, pX7_isWhat, gdr_some, gk_sI, gk_sL, gk_sR, gl_sI, gl_sL, gl_sR, gn_sI, gn_sL, gn_sR, gs_sI, gs_sL, gs_sR, gR_sI, gR_sL, gI_sL, gI_sR, gL_sI, gL_sR, bi_ite, bi_01, true_and, and_true]
  cases q1 : arM b a
  · simp only [Bool.false_eq_true, if_false]
    exact kn M h (by unfold rApa; rw [q1]; simp)
  cases q0 : in9 (-99) 99 p
  · simp only [Bool.false_eq_true, if_false, if_true]
    exact kn M h (by unfold rApa; rw [q0]; simp)
  cases q2 : in9 0 1 what
  · simp only [Bool.false_eq_true, if_false, if_true]
    exact kn M h (by unfold rApa; rw [q2]; simp)
  simp only [if_true, mk268 h, gdr_some, gk_sI, gk_sL, gk_sR, gl_sI, gl_sL, gl_sR, gn_sI, gn_sL, gn_sR, gs_sI, gs_sL, gs_sR, gR_sI, gR_sL, gI_sL, gI_sR, gL_sI, gL_sR, bi_ite, bi_01, true_and, and_true]
  obtain ⟨i, j, hi, hj, -, rfl, rfl⟩ := arM_n q1
  have e1 := cl_nI (k := i) (by omega)
  have e2 := cl_nI (k := j) (by omega)
  refine pX7_findRiver h ok hi hj fun M' h' m' u' => ?_
  have e3 : rvT (dd D) (nI i) (nI j) (-1) = thr (cnW (dd D) i j (-1)) (fs0 (dd D)) := by unfold rvT selR; rw [e1, e2]
  rw [← e3]
  cases q3 : rvT (dd D) (nI i) (nI j) (-1)
  · simp only [gdr_some, gk_sI, gk_sL, gk_sR, gl_sI, gl_sL, gl_sR, gn_sI, gn_sL, gn_sR, gs_sI, gs_sL, gs_sR, gR_sI, gR_sL, gI_sL, gI_sR, gL_sI, gL_sR, bi_ite, bi_01, true_and, and_true, Bool.false_eq_true, if_false]
    exact kn M' h' (by unfold rApa; rw [q3]; simp)
  · simp only [gdr_some, gk_sI, gk_sL, gk_sR, gl_sI, gl_sL, gl_sR, gn_sI, gn_sL, gn_sR, gs_sI, gs_sL, gs_sR, gR_sI, gR_sL, gI_sL, gI_sR, gL_sI, gL_sR, bi_ite, bi_01, true_and, and_true, if_true]
    unfold fX7_apart_b43
    simp only [mk268 h', gdr_some, gk_sI, gk_sL, gk_sR, gl_sI, gl_sL, gl_sR, gn_sI, gn_sL, gn_sR, gs_sI, gs_sL, gs_sR, gR_sI, gR_sL, gI_sL, gI_sR, gL_sI, gL_sR, bi_ite, bi_01, true_and, and_true, gI_sI, and_self, if_true]
    rw [if_pos (by decide)]
    obtain ⟨u1, u2, u3⟩ := rv_ok ok q1 q3
    have eU : rvU (dd D) (nI i) (nI j) (-1) = upR (cnW (dd D) i j (-1)) (fs0 (dd D)) (chJ (dd D) i j) := by unfold rvU selR chR; rw [e1, e2]
    have eD : rvD (dd D) (nI i) (nI j) (-1) = dnR (cnW (dd D) i j (-1)) (fs0 (dd D)) := by unfold rvD selR; rw [e1, e2]
    rw [← eU, ← eD] at u'
    refine pX7_lowest (h'.thrown.sL (Or.inl rfl)) (up := apU (dd D) (nI i) (nI j) p) (dn := rvD (dd D) (nI i) (nI j) (-1)) ⟨?_, u'.2⟩ (apU_ok ok q0 q1 q3) u2 (by omega) ?_
    · rw [gL_sL, if_pos ⟨rfl, rfl⟩, u'.1, u'.2]; rfl
    · exact hq _ (by unfold rApa; rw [q0, q1, q2, q3]; rfl) _ (h'.thrown.sL (Or.inl rfl)) rfl
end
/-! op: part -/
set_option maxRecDepth 100000
theorem cn_mono {s t : Nat → Bool} : ∀ n : Nat, (∀ k, k < n → s k = true → t k = true) → cn s n ≤ cn t n := by
  intro n
  induction n with
  | zero => intro _; exact Nat.le_refl _
  | succ n ih =>
    intro h
    have h1 := ih fun k hk => h k (by omega)
    unfold cn
    by_cases e : s n = true
    · rw [if_pos e, if_pos (h n (by omega) e)]; omega
    · rw [if_neg e]; split <;> omega
theorem nI_ne1 {k : Nat} (h : k < 24) : nI k ≠ -1 := by
  intro e
  have := nI_toInt (n := k) (by omega)
  rw [e] at this
  have e2 : (-1 : Int32).toInt = -1 := rfl
  omega
theorem rvT_mono {d : Nat → Nat → Nat → Int32} {b a p : Int32} (h : rvT d b a p = true) : rvT d b a (-1) = true := by
  unfold rvT thr at *
  simp only [Bool.and_eq_true, decide_eq_true_eq] at *
  have key : ∀ k, k < 24 → selR d b a p k = true → selR d b a (-1) k = true := by
    intro k hk h
    unfold selR cnW at *
    simp only [Bool.and_eq_true, decide_eq_true_eq] at *
    exact ⟨nI_ne1 hk, h.2⟩
  have h1 := cn_mono (s := fun k => selR d b a p k && fs0 d k) (t := fun k => selR d b a (-1) k && fs0 d k) 24 (fun k hk h => by
    simp only [Bool.and_eq_true] at *
    exact ⟨key k hk h.1, h.2⟩)
  have h2 := cn_mono (s := fun k => selR d b a p k && !fs0 d k) (t := fun k => selR d b a (-1) k && !fs0 d k) 24 (fun k hk h => by
    simp only [Bool.and_eq_true] at *
    exact ⟨key k hk h.1, h.2⟩)
  omega
def paU (d : Nat → Nat → Nat → Int32) (b a p : Int32) : Int64 := rvU d b a (-1) * rvD d b a p - rvU d b a p * rvD d b a (-1)
def paD (d : Nat → Nat → Nat → Int32) (b a p : Int32) : Int64 := rvD d b a (-1) * rvD d b a p
def rPar (d : Nat → Nat → Nat → Int32) (b a p what : Int32) : Option Int64 := if (isKp d p && (arM b a && in9 0 1 what && rvT d b a p) && cnt d (cl p) (cl b) (cl a)) = true then some (low (paU d b a p) (paD d b a p) what) else none
theorem pa_ok {d : Nat → Nat → Nat → Int32} (ok : okD d) {b a p : Int32} (h : arM b a = true) (ht : rvT d b a p = true) : paU d b a p ≠ Int64.minValue ∧ 0 < (paD d b a p).toInt ∧ (paD d b a p).toInt < 2 ^ 48 := by
  obtain ⟨u1, u2, u3⟩ := rv_ok ok h ht
  obtain ⟨w1, w2, w3⟩ := rv_ok ok h (rvT_mono ht)
  unfold paU paD
  generalize rvU d b a p = x1 at *
  generalize rvU d b a (-1) = x0 at *
  generalize rvD d b a p = y1 at *
  generalize rvD d b a (-1) = y0 at *
  obtain ⟨m1, m2, m3⟩ := J_mul (x := x0) (y := y1) (A := 2280960) (B := 576) (by omega) (by omega) (by decide) (by omega) (by omega) (by omega) (by omega)
  obtain ⟨n1, n2, n3⟩ := J_mul (x := x1) (y := y0) (A := 2280960) (B := 576) (by omega) (by omega) (by decide) (by omega) (by omega) (by omega) (by omega)
  obtain ⟨o1, o2, o3⟩ := J_mul (x := y0) (y := y1) (A := 576) (B := 576) (by omega) (by omega) (by decide) (by omega) (by omega) (by omega) (by omega)
  refine ⟨ne_min ?_, ?_, ?_⟩
  · rw [Int64.toInt_sub, m1, n1, Int.bmod_eq_of_le (by omega) (by omega)]
    omega
  · rw [o1]; exact Int.mul_pos w2 u2
  · rw [o1]; omega
section
variable {N M : gM} {n0 a9 : Nat} {D : gD}
theorem pX1_part (h : RX N n0 a9 D M) (ok : okD (dd D)) (ha : 12 ≤ a9) {b a p what : Int32} {Q : Int64 → gM → Prop} {E : Nat → gM → Prop} (hq : ∀ v, rPar (dd D) b a p what = some v → ∀ M', RX N n0 (a9 - 12) D M' → Q v M') (he : rPar (dd D) b a p what = none → ∀ o M', RX N n0 (a9 - 12) D M' → E o M') : fX1_part b a p what M Q E := by
  unfold fX1_part
  simp only [pX1_isKitchen h, xk16 h, xk17 h, xl17 h, xr0 h, xr10 h, xr11 h, xk28 h, xk29 h, xten h, xby h, gdr_some, gk_sI, gk_sL, gk_sR, gl_sI, gl_sL, gl_sR, gn_sI, gn_sL, gn_sR, gs_sI, gs_sL, gs_sR, gR_sI, gR_sL, gI_sL, gI_sR, gL_sI, gL_sR, bi_ite, bi_01, true_and, and_true]
  refine pX1_need h (by omega) (fun h1 => ?_) (fun h1 o M' h' => he (by unfold rPar; rw [h1]; simp) o M' (h'.less (by omega)))
  simp only [xk16 h, xk17 h, xl17 h, xr0 h, xr10 h, xr11 h, xk28 h, xk29 h, xten h, xby h, gdr_some, gk_sI, gk_sL, gk_sR, gl_sI, gl_sL, gl_sR, gn_sI, gn_sL, gn_sR, gs_sI, gs_sL, gs_sR, gR_sI, gR_sL, gI_sL, gI_sR, gL_sI, gL_sR, bi_ite, bi_01, true_and, and_true]
  refine pX1_needRiver h ha (fun q1 q2 q3 M' h' m' => ?_) (fun q o M' h' => he (by unfold rPar; rw [q]; simp) o M' (h'.less (by omega)))
  obtain ⟨k, hk, rfl, hk3⟩ := isKp_n h1
  obtain ⟨i, j, hi, hj, -, rfl, rfl⟩ := arM_n q1
  have e1 := cl_nI (k := i) (by omega)
  have e2 := cl_nI (k := j) (by omega)
  have e3 := cl_nI hk
  simp only [xk16 h', xk17 h', xl17 h', xr0 h', xr10 h', xr11 h', xk28 h', xk29 h', xten h', xby h', kr h' hk, kk h' hk, kr5 h' hk, kr6 h' hk, kr7 h' hk, kr8 h' hk, kr9 h' hk, kr10 h' hk, kk5 h' hk, kk6 h' hk, kk7 h' hk, kk8 h' hk, kk9 h' hk, kk10 h' hk, kl5 h' hk, kl6 h' hk, kl7 h' hk, kl8 h' hk, kl9 h' hk, kl10 h' hk, ki0 h' hk, ki1 h' hk, ki2 h' hk, ki3 h' hk, ki4 h' hk, vp_in_nI hk (N := 24) (by decide), nI_clamp (Nat.lt_trans hk (by decide : 24 < 2 ^ 31)), gdr_some, gk_sI, gk_sL, gk_sR, gl_sI, gl_sL, gl_sR, gn_sI, gn_sL, gn_sR, gs_sI, gs_sL, gs_sR, gR_sI, gR_sL, gI_sL, gI_sR, gL_sI, gL_sR, bi_ite, bi_01, true_and, and_true, pX4_isCounted h' hk hi hj]
  refine pX1_need h' (by omega) (fun h4 => ?_) (fun h4 o M' h' => he (by unfold rPar; rw [e1, e2, e3, h4]; simp) o M' (h'.less (by omega)))
  simp only [xk16 h', xk17 h', xl17 h', xr0 h', xr10 h', xr11 h', xk28 h', xk29 h', xten h', xby h', gdr_some, gk_sI, gk_sL, gk_sR, gl_sI, gl_sL, gl_sR, gn_sI, gn_sL, gn_sR, gs_sI, gs_sL, gs_sR, gR_sI, gR_sL, gI_sL, gI_sR, gL_sI, gL_sR, bi_ite, bi_01, true_and, and_true, pX1_above h' m', pX1_below h' m']
  refine pX1_rivers h' hi hj fun M2 h2 m2 => ?_
  simp only [xk16 h2, xk17 h2, xl17 h2, xr0 h2, xr10 h2, xr11 h2, xk28 h2, xk29 h2, xten h2, xby h2, gdr_some, gk_sI, gk_sL, gk_sR, gl_sI, gl_sL, gl_sR, gn_sI, gn_sL, gn_sR, gs_sI, gs_sL, gs_sR, gR_sI, gR_sL, gI_sL, gI_sR, gL_sI, gL_sR, bi_ite, bi_01, true_and, and_true, pX1_above h2 m2, pX1_below h2 m2]
  obtain ⟨u1, u2, u3⟩ := pa_ok ok q1 q3
  have w : paU (dd D) (nI i) (nI j) (nI k) = upR (cnW (dd D) i j (-1)) (fs0 (dd D)) (chJ (dd D) i j) * dnR (selR (dd D) (nI i) (nI j) (nI k)) (fs0 (dd D)) - upR (selR (dd D) (nI i) (nI j) (nI k)) (fs0 (dd D)) (chR (dd D) (nI i) (nI j)) * dnR (cnW (dd D) i j (-1)) (fs0 (dd D)) := by
    unfold paU rvU rvD selR chR; rw [e1, e2]
  have w2 : paD (dd D) (nI i) (nI j) (nI k) = dnR (cnW (dd D) i j (-1)) (fs0 (dd D)) * dnR (selR (dd D) (nI i) (nI j) (nI k)) (fs0 (dd D)) := by
    unfold paD rvD selR; rw [e1, e2]
  rw [← w, ← w2]
  refine pX1_lowest u1 u2 u3 ?_
  exact hq _ (by unfold rPar; rw [e1, e2, e3, h1, q1, q2, q3, h4]; rfl) M2 (h2.less (by omega))
end
section
variable {N M : gM} {D : gD}
theorem pX7_part (h : RM N D M) (ok : okD (dd D)) {b a p what : Int32} {Q : Int64 → gM → Prop} (hq : ∀ v, rPar (dd D) b a p what = some v → ∀ M', RM N D M' → gI M' 268 0 = 0 → Q v M') (he : rPar (dd D) b a p what = none → ∀ M', RM N D M' → gI M' 268 0 = 1 → Q 0 M') : fX7_part b a p what M Q := by
  have k83 : ∀ M1 x y, RM N D M1 → rPar (dd D) b a p what = none → fX7_part_b83 what x y M1 Q := by
    intro M1 x y h1 e
    unfold fX7_part_b83 fX7_part_b88
    simp only [mk268 h1, gdr_some, gk_sI, gk_sL, gk_sR, gl_sI, gl_sL, gl_sR, gn_sI, gn_sL, gn_sR, gs_sI, gs_sL, gs_sR, gR_sI, gR_sL, gI_sL, gI_sR, gL_sI, gL_sR, bi_ite, bi_01, true_and, and_true, gI_sI, and_self, if_true]
    rw [if_neg (by decide)]
    exact he e _ h1.thrown rfl
  have kn : ∀ M1, RM N D M1 → rPar (dd D) b a p what = none → fX7_part_b49 b a p what M1 Q := by
    intro M1 h1 e
    unfold fX7_part_b49 fX7_part_b50
    simp only [mk268 h1, gdr_some, gk_sI, gk_sL, gk_sR, gl_sI, gl_sL, gl_sR, gn_sI, gn_sL, gn_sR, gs_sI, gs_sL, gs_sR, gR_sI, gR_sL, gI_sL, gI_sR, gL_sI, gL_sR, bi_ite, bi_01, true_and, and_true, gI_sI, and_self, if_true]
    rw [if_pos (by decide)]
    exact k83 _ _ _ h1.thrown e
  unfold fX7_part
  simp only [pX7_areMonths, gdr_some, gk_sI, gk_sL, gk_sR, gl_sI, gl_sL, gl_sR, gn_sI, gn_sL, gn_sR, gs_sI, gs_sL, gs_sR, gR_sI, gR_sL, gI_sL, gI_sR, gL_sI, gL_sR, bi_ite, bi_01, true_and, and_true]
  cases q1 : arM b a
  · simp only [Bool.false_eq_true, if_false]
    exact kn M h (by unfold rPar; rw [q1]; simp)
  simp only [if_true, mk268 h, gdr_some, gk_sI, gk_sL, gk_sR, gl_sI, gl_sL, gl_sR, gn_sI, gn_sL, gn_sR, gs_sI, gs_sL, gs_sR, gR_sI, gR_sL, gI_sL, gI_sR, gL_sI, gL_sR, bi_ite, bi_01, true_and, and_true, pX7_isKitchen h]
  cases q0 : isKp (dd D) p
  · simp only [Bool.false_eq_true, if_false]
    exact kn M h (by unfold rPar; rw [q0]; simp)
  obtain ⟨k, hk, rfl, hk3⟩ := isKp_n q0
  obtain ⟨i, j, hi, hj, -, rfl, rfl⟩ := arM_n q1
  have e1 := cl_nI (k := i) (by omega)
  have e2 := cl_nI (k := j) (by omega)
  have e3 := cl_nI hk
  simp only [if_true, mk268 h, gdr_some, gk_sI, gk_sL, gk_sR, gl_sI, gl_sL, gl_sR, gn_sI, gn_sL, gn_sR, gs_sI, gs_sL, gs_sR, gR_sI, gR_sL, gI_sL, gI_sR, gL_sI, gL_sR, bi_ite, bi_01, true_and, and_true, pX7_isCounted h hk hi hj]
  cases q4 : cnt (dd D) k i j
  · simp only [Bool.false_eq_true, if_false]
    exact kn M h (by unfold rPar; rw [e1, e2, e3, q4]; simp)
  simp only [if_true, pX7_isWhat, gdr_some, gk_sI, gk_sL, gk_sR, gl_sI, gl_sL, gl_sR, gn_sI, gn_sL, gn_sR, gs_sI, gs_sL, gs_sR, gR_sI, gR_sL, gI_sL, gI_sR, gL_sI, gL_sR, bi_ite, bi_01, true_and, and_true]
  cases q2 : in9 0 1 what
  · simp only [Bool.false_eq_true, if_false]
    exact kn M h (by unfold rPar; rw [q2]; simp)
  simp only [if_true, mk268 h, gdr_some, gk_sI, gk_sL, gk_sR, gl_sI, gl_sL, gl_sR, gn_sI, gn_sL, gn_sR, gs_sI, gs_sL, gs_sR, gR_sI, gR_sL, gI_sL, gI_sR, gL_sI, gL_sR, bi_ite, bi_01, true_and, and_true]
  refine pX7_findRiver h ok hi hj fun M' h' m' u' => ?_
  have f0 : rvT (dd D) (nI i) (nI j) (-1) = thr (cnW (dd D) i j (-1)) (fs0 (dd D)) := by unfold rvT selR; rw [e1, e2]
  have f1 : rvT (dd D) (nI i) (nI j) (nI k) = thr (cnW (dd D) i j (nI k)) (fs0 (dd D)) := by unfold rvT selR; rw [e1, e2]
  rw [← f0]
  cases q3 : rvT (dd D) (nI i) (nI j) (-1)
  · simp only [gdr_some, gk_sI, gk_sL, gk_sR, gl_sI, gl_sL, gl_sR, gn_sI, gn_sL, gn_sR, gs_sI, gs_sL, gs_sR, gR_sI, gR_sL, gI_sL, gI_sR, gL_sI, gL_sR, bi_ite, bi_01, true_and, and_true, Bool.false_eq_true, if_false]
    refine kn M' h' ?_
    have : rvT (dd D) (nI i) (nI j) (nI k) = false := by
      cases q : rvT (dd D) (nI i) (nI j) (nI k)
      · rfl
      · rw [rvT_mono q] at q3; cases q3
    unfold rPar; rw [this]; simp
  simp only [gdr_some, gk_sI, gk_sL, gk_sR, gl_sI, gl_sL, gl_sR, gn_sI, gn_sL, gn_sR, gs_sI, gs_sL, gs_sR, gR_sI, gR_sL, gI_sL, gI_sR, gL_sI, gL_sR, bi_ite, bi_01, true_and, and_true, if_true]
  unfold fX7_part_b50
  simp only [mk268 h', gdr_some, gk_sI, gk_sL, gk_sR, gl_sI, gl_sL, gl_sR, gn_sI, gn_sL, gn_sR, gs_sI, gs_sL, gs_sR, gR_sI, gR_sL, gI_sL, gI_sR, gL_sI, gL_sR, bi_ite, bi_01, true_and, and_true, gI_sI, and_self, if_true]
  rw [if_neg (by decide)]
  refine pX7_findRiver h'.thrown ok hi hj fun M2 h2 m2 u2 => ?_
  rw [← f1]
  cases q5 : rvT (dd D) (nI i) (nI j) (nI k)
  · simp only [gdr_some, gk_sI, gk_sL, gk_sR, gl_sI, gl_sL, gl_sR, gn_sI, gn_sL, gn_sR, gs_sI, gs_sL, gs_sR, gR_sI, gR_sL, gI_sL, gI_sR, gL_sI, gL_sR, bi_ite, bi_01, true_and, and_true, Bool.false_eq_true, if_false]
    exact k83 _ _ _ h2 (by unfold rPar; rw [q5]; simp)
  simp only [gdr_some, gk_sI, gk_sL, gk_sR, gl_sI, gl_sL, gl_sR, gn_sI, gn_sL, gn_sR, gs_sI, gs_sL, gs_sR, gR_sI, gR_sL, gI_sL, gI_sR, gL_sI, gL_sR, bi_ite, bi_01, true_and, and_true, if_true]
  unfold fX7_part_b88 fX7_part_b130
  simp only [mk268 h2, gdr_some, gk_sI, gk_sL, gk_sR, gl_sI, gl_sL, gl_sR, gn_sI, gn_sL, gn_sR, gs_sI, gs_sL, gs_sR, gR_sI, gR_sL, gI_sL, gI_sR, gL_sI, gL_sR, bi_ite, bi_01, true_and, and_true, gI_sI, and_self, if_true]
  rw [if_pos (by decide)]
  obtain ⟨w1, w2, w3⟩ := pa_ok ok q1 q5
  have g0 : rvU (dd D) (nI i) (nI j) (-1) = upR (cnW (dd D) i j (-1)) (fs0 (dd D)) (chJ (dd D) i j) ∧ rvD (dd D) (nI i) (nI j) (-1) = dnR (cnW (dd D) i j (-1)) (fs0 (dd D)) := by unfold rvU rvD selR chR; rw [e1, e2]; exact ⟨rfl, rfl⟩
  have g1 : rvU (dd D) (nI i) (nI j) (nI k) = upR (cnW (dd D) i j (nI k)) (fs0 (dd D)) (chJ (dd D) i j) ∧ rvD (dd D) (nI i) (nI j) (nI k) = dnR (cnW (dd D) i j (nI k)) (fs0 (dd D)) := by unfold rvU rvD selR chR; rw [e1, e2]; exact ⟨rfl, rfl⟩
  rw [← g0.1, ← g0.2] at u'
  rw [← g1.1, ← g1.2] at u2
  refine pX7_lowest ((h2.thrown.sL (Or.inl rfl)).sL (Or.inl rfl)) (up := paU (dd D) (nI i) (nI j) (nI k)) (dn := paD (dd D) (nI i) (nI j) (nI k)) ⟨?_, ?_⟩ w1 w2 w3 ?_
  · rw [gL_sL, if_neg (by decide), gL_sL, if_pos ⟨rfl, rfl⟩]
    show gL M' 268 24 * gL M2 268 25 - gL M2 268 24 * gL M' 268 25 = _
    rw [u'.1, u'.2, u2.1, u2.2]; rfl
  · rw [gL_sL, if_pos ⟨rfl, rfl⟩]
    show gL M' 268 25 * gL M2 268 25 = _
    rw [u'.2, u2.2]; rfl
  · exact hq _ (by unfold rPar; rw [e1, e2, e3, q0, q1, q2, q4, q5]; rfl) _ ((h2.thrown.sL (Or.inl rfl)).sL (Or.inl rfl)) rfl
end
/-! op: bounds (and swings, next on it) -/
set_option maxRecDepth 100000
/-- a loop over the kitchens -/
theorem loop24 {F : Nat → Int32 → gM → Prop} {I : Nat → gM → Prop} (he : ∀ n M, I 24 M → F (n + 1) (nI 24) M) (hs : ∀ n k M, k < 24 → I k M → (∀ M', I (k + 1) M' → F n (nI (k + 1)) M') → F (n + 1) (nI k) M) : ∀ (n k : Nat) (M : gM), k + n = 24 → I k M → F (n + 1) (nI k) M := by
  intro n
  induction n with
  | zero => intro k M hk h; have : k = 24 := by omega
            subst this; exact he 0 M h
  | succ n ih => intro k M hk h; exact hs _ k M (by omega) h fun M' h' => ih _ _ (by omega) h'
def mayD (d : Nat → Nat → Nat → Int32) (k m : Nat) (u : Bool) : Int32 := if d 5 k m = -1 then (if u = true then 10 * d 2 k 0 else 0) else hK d k m
def selT (d : Nat → Nat → Nat → Int32) (k : Nat) : Bool := decide (d 3 k 0 ≠ 0)
def endV (d : Nat → Nat → Nat → Int32) (b a : Nat) (g : Bool) (k : Nat) : Int64 := (mayD d k a (g == fs0 d k) - mayD d k b (!(g == fs0 d k))).toInt64
section
variable {N M : gM} {n0 a9 : Nat} {D : gD}
theorem pX1_may (h : RX N n0 a9 D M) {k m : Nat} (hk : k < 24) (hm : m < 12) {u : Bool} {Q : Int32 → gM → Prop} : fX1_may (88 + 7 * k) (nI m) (bi u) M Q = Q (mayD (dd D) k m u) M := by
  unfold fX1_may mayD
  simp only [pX4_isSilent h hk hm, xk16 h, xk17 h, xl17 h, xr0 h, xr10 h, xr11 h, xk28 h, xk29 h, xten h, xby h, kr h hk, kk h hk, kr5 h hk, kr6 h hk, kr7 h hk, kr8 h hk, kr9 h hk, kr10 h hk, kk5 h hk, kk6 h hk, kk7 h hk, kk8 h hk, kk9 h hk, kk10 h hk, kl5 h hk, kl6 h hk, kl7 h hk, kl8 h hk, kl9 h hk, kl10 h hk, ki0 h hk, ki1 h hk, ki2 h hk, ki3 h hk, ki4 h hk, gdr_some, gk_sI, gk_sL, gk_sR, gl_sI, gl_sL, gl_sR, gn_sI, gn_sL, gn_sR, gs_sI, gs_sL, gs_sR, gR_sI, gR_sL, gI_sL, gI_sR, gL_sI, gL_sR, bi_ite, bi_01, true_and, and_true, pX1_handsOf h hk hm]
  by_cases e : dd D 5 k m = -1 <;> cases u <;> simp [e]
theorem pX1_ends (h : RX N n0 a9 D M) {b a : Nat} (hb : b < 12) (ha : a < 12) {g : Bool} {Q : Int32 → gM → Prop} (hq : ∀ M', RX N n0 a9 D M' → mns (selT (dd D)) (fs0 (dd D)) (endV (dd D) b a g) 24 M' → Q (bi (thr (selT (dd D)) (fs0 (dd D)))) M') : fX1_ends (nI b) (nI a) (bi g) M Q := by
  unfold fX1_ends
  simp only [xk16 h, xk17 h, xl17 h, xr0 h, xr10 h, xr11 h, xk28 h, xk29 h, xten h, xby h, gdr_some, gk_sI, gk_sL, gk_sR, gl_sI, gl_sL, gl_sR, gn_sI, gn_sL, gn_sR, gs_sI, gs_sL, gs_sR, gR_sI, gR_sL, gI_sL, gI_sR, gL_sI, gL_sR, bi_ite, bi_01, true_and, and_true]
  refine pX1_begins h (selT (dd D)) (fs0 (dd D)) (endV (dd D) b a g) fun M1 h1 m1 => ⟨25, ?_⟩
  refine loop24 (I := fun k M => RX N n0 a9 D M ∧ mns (selT (dd D)) (fs0 (dd D)) (endV (dd D) b a g) k M) (fun n M hI => ?_) (fun n k M hk hI hn => ?_) 24 0 M1 rfl ⟨h1, m1⟩
  · obtain ⟨h2, m2⟩ := hI
    unfold fX1_ends_L7 fX1_ends_L7s
    rw [if_pos ge24]
    simp only [xk16 h2, xk17 h2, xl17 h2, xr0 h2, xr10 h2, xr11 h2, xk28 h2, xk29 h2, xten h2, xby h2, gdr_some, gk_sI, gk_sL, gk_sR, gl_sI, gl_sL, gl_sR, gn_sI, gn_sL, gn_sR, gs_sI, gs_sL, gs_sR, gR_sI, gR_sL, gI_sL, gI_sR, gL_sI, gL_sR, bi_ite, bi_01, true_and, and_true, pX1_isThere h2 m2]
    exact hq M h2 m2
  · obtain ⟨h2, m2⟩ := hI
    unfold fX1_ends_L7 fX1_ends_L7s
    rw [if_neg (nge24 hk)]
    simp only [xk16 h2, xk17 h2, xl17 h2, xr0 h2, xr10 h2, xr11 h2, xk28 h2, xk29 h2, xten h2, xby h2, kr h2 hk, kk h2 hk, kr5 h2 hk, kr6 h2 hk, kr7 h2 hk, kr8 h2 hk, kr9 h2 hk, kr10 h2 hk, kk5 h2 hk, kk6 h2 hk, kk7 h2 hk, kk8 h2 hk, kk9 h2 hk, kk10 h2 hk, kl5 h2 hk, kl6 h2 hk, kl7 h2 hk, kl8 h2 hk, kl9 h2 hk, kl10 h2 hk, ki0 h2 hk, ki1 h2 hk, ki2 h2 hk, ki3 h2 hk, ki4 h2 hk, vp_in_nI hk (N := 24) (by decide), nI_clamp (Nat.lt_trans hk (by decide : 24 < 2 ^ 31)), gdr_some, gk_sI, gk_sL, gk_sR, gl_sI, gl_sL, gl_sR, gn_sI, gn_sL, gn_sR, gs_sI, gs_sL, gs_sR, gR_sI, gR_sL, gI_sL, gI_sR, gL_sI, gL_sR, bi_ite, bi_01, true_and, and_true]
    by_cases e : dd D 3 k 0 = 0
    · rw [if_pos e]
      unfold fX1_ends_b98
      rw [← nI_succ]
      exact hn M ⟨h2, mns_f m2 (by simp [selT, e])⟩
    · rw [if_neg e]
      have key : ∀ u : Bool, u = (g == fs0 (dd D) k) → fX1_ends_b56 (fX1_ends_L7 (fun M48 => gk M48 16 = 1 ∧ fX1_isThere M48 (fun r51 M50 => (r51 = 0 ∨ r51 = 1) ∧ Q r51 M50)) (nI b) (nI a) (bi g) Q n) (nI b) (nI a) (bi g) (nI k) (88 + 7 * k) (bi u) M Q := by
        intro u hu
        have e9 : (mayD (dd D) k a u - mayD (dd D) k b (!u)).toInt64 = endV (dd D) b a g k := by unfold endV; rw [← hu]
        unfold fX1_ends_b56 fX1_ends_b90
        simp only [xk16 h2, xk17 h2, xl17 h2, xr0 h2, xr10 h2, xr11 h2, xk28 h2, xk29 h2, xten h2, xby h2, kr h2 hk, kk h2 hk, kr5 h2 hk, kr6 h2 hk, kr7 h2 hk, kr8 h2 hk, kr9 h2 hk, kr10 h2 hk, kk5 h2 hk, kk6 h2 hk, kk7 h2 hk, kk8 h2 hk, kk9 h2 hk, kk10 h2 hk, kl5 h2 hk, kl6 h2 hk, kl7 h2 hk, kl8 h2 hk, kl9 h2 hk, kl10 h2 hk, ki0 h2 hk, ki1 h2 hk, ki2 h2 hk, ki3 h2 hk, ki4 h2 hk, gdr_some, gk_sI, gk_sL, gk_sR, gl_sI, gl_sL, gl_sR, gn_sI, gn_sL, gn_sR, gs_sI, gs_sL, gs_sR, gR_sI, gR_sL, gI_sL, gI_sR, gL_sI, gL_sR, bi_ite, bi_01, true_and, and_true, pX1_of h2, pX1_may h2 hk ha]
        have fin : ∀ M', RX N n0 a9 D M' → mns (selT (dd D)) (fs0 (dd D)) (endV (dd D) b a g) (k + 1) M' → fX1_ends_b98 (fX1_ends_L7 (fun M48 => gk M48 16 = 1 ∧ fX1_isThere M48 (fun r51 M50 => (r51 = 0 ∨ r51 = 1) ∧ Q r51 M50)) (nI b) (nI a) (bi g) Q n) (nI b) (nI a) (bi g) (nI k) M' Q := by
          intro M' h' m'
          unfold fX1_ends_b98
          rw [← nI_succ]
          exact hn M' ⟨h', m'⟩
        cases u
        · simp only [Bool.false_eq_true, if_false, ← bi_t, pX1_may h2 hk hb, xk16 h2, xk17 h2, xl17 h2, xr0 h2, xr10 h2, xr11 h2, xk28 h2, xk29 h2, xten h2, xby h2, gdr_some, gk_sI, gk_sL, gk_sR, gl_sI, gl_sL, gl_sR, gn_sI, gn_sL, gn_sR, gs_sI, gs_sL, gs_sR, gR_sI, gR_sL, gI_sL, gI_sR, gL_sI, gL_sR, bi_ite, bi_01, true_and, and_true]
          simp only [Bool.not_false] at e9
          rw [e9]
          exact mns_t h2 m2 (by simp [selT, e]) (dd D 0 k 0) rfl fin
        · simp only [if_true, ← bi_f, pX1_may h2 hk hb, xk16 h2, xk17 h2, xl17 h2, xr0 h2, xr10 h2, xr11 h2, xk28 h2, xk29 h2, xten h2, xby h2, gdr_some, gk_sI, gk_sL, gk_sR, gl_sI, gl_sL, gl_sR, gn_sI, gn_sL, gn_sR, gs_sI, gs_sL, gs_sR, gR_sI, gR_sL, gI_sL, gI_sR, gL_sI, gL_sR, bi_ite, bi_01, true_and, and_true]
          simp only [Bool.not_true] at e9
          rw [e9]
          exact mns_t h2 m2 (by simp [selT, e]) (dd D 0 k 0) rfl fin
      unfold fX1_ends_b48
      by_cases e4 : dd D 0 k 0 = 0
      · rw [if_pos e4]
        cases g
        · rw [if_neg (by decide), ← bi_f]; exact key false (by simp [fs0, e4])
        · rw [if_pos (by decide), ← bi_t]; exact key true (by simp [fs0, e4])
      · rw [if_neg e4]
        cases g
        · rw [if_pos (by decide), ← bi_t]; exact key true (by simp [fs0, e4])
        · rw [if_neg (by decide), ← bi_f]; exact key false (by simp [fs0, e4])
end
def sg9 (u : Bool) : Int32 := if u = true then 1 else -1
section
variable {N M : gM} {D : gD}
theorem pX7_mayChange (h : RM N D M) (ok : okD (dd D)) {k b a : Nat} (hk : k < 24) (hb : b < 12) (ha : a < 12) {u : Bool} {Q : Int32 → gM → Prop} : fX7_mayChange (nI k) (nI b) (nI a) (sg9 u) M Q = Q (mayD (dd D) k a u - mayD (dd D) k b (!u)) M := by
  unfold fX7_mayChange fX7_mayChange_b37 fX7_mayChange_b54 fX7_mayChange_b88 mayD
  simp only [nI_12, mk268 h, frm18 h.1, fk281 h.1, fl281 h.1, frm13 h.1, fk277 h.1, fl277 h.1, in288 hk hb, in288 hk ha, cl288 hk hb, cl288 hk ha, vp_in_nI hk (N := 24) (by decide), nI_clamp (Nat.lt_trans hk (by decide : 24 < 2 ^ 31)), gdr_some, gk_sI, gk_sL, gk_sR, gl_sI, gl_sL, gl_sR, gn_sI, gn_sL, gn_sR, gs_sI, gs_sL, gs_sR, gR_sI, gR_sL, gI_sL, gI_sR, gL_sI, gL_sR, bi_ite, bi_01, true_and, and_true, mKM h hk hb, mKM h hk ha, mK h hk, stM_0, pX7_handsOf h ok hk hb, pX7_handsOf h ok hk ha]
  by_cases e1 : dd D 5 k a = -1 <;> by_cases e2 : dd D 5 k b = -1 <;> cases u <;> simp [e1, e2, sg9, show ¬ ((1 : Int32) ≤ 0) by decide, show ((-1 : Int32) ≤ 0) by decide]
end
section
variable {N M : gM} {D : gD}
theorem pX7_findBound (h : RM N D M) (ok : okD (dd D)) {b a : Nat} (hb : b < 12) (ha : a < 12) {g : Bool} {Q : Int32 → gM → Prop} (hq : ∀ M', RM N D M' → mnm (selT (dd D)) (fs0 (dd D)) (endV (dd D) b a g) 24 M' → mud (upR (selT (dd D)) (fs0 (dd D)) (endV (dd D) b a g)) (dnR (selT (dd D)) (fs0 (dd D))) M' → Q (bi (thr (selT (dd D)) (fs0 (dd D)))) M') : fX7_findBound (nI b) (nI a) (sg9 g) M Q := by
  unfold fX7_findBound
  simp only [mk268 h, gdr_some, gk_sI, gk_sL, gk_sR, gl_sI, gl_sL, gl_sR, gn_sI, gn_sL, gn_sR, gs_sI, gs_sL, gs_sR, gR_sI, gR_sL, gI_sL, gI_sR, gL_sI, gL_sR, bi_ite, bi_01, true_and, and_true]
  refine pX7_beginsSums h (selT (dd D)) (fs0 (dd D)) (endV (dd D) b a g) fun M1 h1 m1 => ⟨25, ?_⟩
  refine loop24 (I := fun k M => RM N D M ∧ mnm (selT (dd D)) (fs0 (dd D)) (endV (dd D) b a g) k M) (fun n M hI => ?_) (fun n k M hk hI hn => ?_) 24 0 M1 rfl ⟨h1, m1⟩
  · obtain ⟨h2, m2⟩ := hI
    unfold fX7_findBound_L7 fX7_findBound_L7s
    rw [if_pos ge24]
    simp only [mk268 h2, gdr_some, gk_sI, gk_sL, gk_sR, gl_sI, gl_sL, gl_sR, gn_sI, gn_sL, gn_sR, gs_sI, gs_sL, gs_sR, gR_sI, gR_sL, gI_sL, gI_sR, gL_sI, gL_sR, bi_ite, bi_01, true_and, and_true]
    exact pX7_differs h2 m2 fun M3 h3 m3 u3 => by
      simp only [bi_01, true_and]
      exact hq M3 h3 m3 u3
  · obtain ⟨h2, m2⟩ := hI
    unfold fX7_findBound_L7 fX7_findBound_L7s
    rw [if_neg (nge24 hk)]
    simp only [mk268 h2, frm10 h2.1, fk274 h2.1, fl274 h2.1, frm11 h2.1, fk275 h2.1, fl275 h2.1, vp_in_nI hk (N := 24) (by decide), nI_clamp (Nat.lt_trans hk (by decide : 24 < 2 ^ 31)), gdr_some, gk_sI, gk_sL, gk_sR, gl_sI, gl_sL, gl_sR, gn_sI, gn_sL, gn_sR, gs_sI, gs_sL, gs_sR, gR_sI, gR_sL, gI_sL, gI_sR, gL_sI, gL_sR, bi_ite, bi_01, true_and, and_true, mK h2 hk]
    by_cases e : dd D 3 k 0 = 0
    · rw [if_pos e]
      unfold fX7_findBound_b68
      rw [← nI_succ]
      exact hn M ⟨h2, mnm_f m2 (by simp [selT, e])⟩
    · rw [if_neg e]
      have key : ∀ (u f : Bool) (s : Int32), s = sg9 u → u = (g == fs0 (dd D) k) → f = fs0 (dd D) k → fX7_findBound_b61 (fX7_findBound_L7 (fun M41 => gk M41 268 = 7 ∧ fX7_differs M41 (fun r44 M43 => (r44 = 0 ∨ r44 = 1) ∧ Q r44 M43)) (nI b) (nI a) (sg9 g) Q n) (nI b) (nI a) (sg9 g) (nI k) (bi f) (nI k) (nI b) (nI a) s M Q := by
        intro u f s hs hu hf
        subst hs
        unfold fX7_findBound_b61
        simp only [mk268 h2, gdr_some, gk_sI, gk_sL, gk_sR, gl_sI, gl_sL, gl_sR, gn_sI, gn_sL, gn_sR, gs_sI, gs_sL, gs_sR, gR_sI, gR_sL, gI_sL, gI_sR, gL_sI, gL_sR, bi_ite, bi_01, true_and, and_true, pX7_mayChange h2 ok hk hb ha]
        have e9 : (mayD (dd D) k a u - mayD (dd D) k b (!u)).toInt64 = endV (dd D) b a g k := by unfold endV; rw [← hu]
        rw [e9, hf]
        refine pX7_adds h2 m2 (by simp [selT, e]) fun M' h' m' => ?_
        unfold fX7_findBound_b68
        rw [← nI_succ]
        exact hn M' ⟨h', m'⟩
      unfold fX7_findBound_b40
      simp only [mk268 h2, frm11 h2.1, fk275 h2.1, fl275 h2.1, vp_in_nI hk (N := 24) (by decide), nI_clamp (Nat.lt_trans hk (by decide : 24 < 2 ^ 31)), gdr_some, gk_sI, gk_sL, gk_sR, gl_sI, gl_sL, gl_sR, gn_sI, gn_sL, gn_sR, gs_sI, gs_sL, gs_sR, gR_sI, gR_sL, gI_sL, gI_sR, gL_sI, gL_sR, bi_ite, bi_01, true_and, and_true, mK h2 hk]
      by_cases e4 : dd D 0 k 0 = 0
      · rw [if_pos e4, if_pos e4, ← bi_t]
        exact key g true _ rfl (by simp [fs0, e4]) (by simp [fs0, e4])
      · rw [if_neg e4, if_neg e4, ← bi_f]
        exact key (!g) false _ (by cases g <;> rfl) (by simp [fs0, e4]) (by simp [fs0, e4])
end
/-! op: bounds -/
set_option maxRecDepth 100000
def bdG (what : Int32) : Bool := decide (¬ what ≤ 1)
def bdU (d : Nat → Nat → Nat → Int32) (b a : Int32) (g : Bool) : Int64 := upR (selT d) (fs0 d) (endV d (cl b) (cl a) g)
def bdD (d : Nat → Nat → Nat → Int32) : Int64 := dnR (selT d) (fs0 d)
def rBnd (d : Nat → Nat → Nat → Int32) (b a what : Int32) : Option Int64 := if (arM b a && in9 0 3 what && thr (selT d) (fs0 d)) = true then some (low (bdU d b a (bdG what)) (bdD d) (what - what / 2 * 2)) else none
theorem mayD_b {d : Nat → Nat → Nat → Int32} (ok : okD d) {k m : Nat} {u : Bool} (hk : k < 24) (hm : m < 12) : 0 ≤ (mayD d k m u).toInt ∧ (mayD d k m u).toInt ≤ 1980 := by
  have h1 := hK_b ok hk hm
  obtain ⟨-, -, q, -⟩ := ok.1 k hk
  simp only [Int32.le_iff_toInt_le] at q
  have e0 : (0 : Int32).toInt = 0 := rfl
  have e99 : (99 : Int32).toInt = 99 := rfl
  have e10 : (10 : Int32).toInt = 10 := rfl
  unfold mayD
  by_cases e : d 5 k m = -1
  · rw [if_pos e]
    cases u
    · simp
    · simp only [if_true]
      rw [Int32.toInt_mul, e10, Int.bmod_eq_of_le (by omega) (by omega)]
      omega
  · rw [if_neg e]; exact h1
theorem endV_b {d : Nat → Nat → Nat → Int32} (ok : okD d) {b a : Nat} (hb : b < 12) (ha : a < 12) {g : Bool} : ∀ k, k < 24 → -1980 ≤ (endV d b a g k).toInt ∧ (endV d b a g k).toInt ≤ 1980 := by
  intro k hk
  unfold endV
  have h1 := mayD_b ok (u := (g == fs0 d k)) hk ha
  have h2 := mayD_b ok (u := !(g == fs0 d k)) hk hb
  rw [Int32.toInt_toInt64, Int32.toInt_sub, Int.bmod_eq_of_le (by omega) (by omega)]
  omega
theorem bd_ok {d : Nat → Nat → Nat → Int32} (ok : okD d) {b a : Int32} {g : Bool} (h : arM b a = true) (ht : thr (selT d) (fs0 d) = true) : bdU d b a g ≠ Int64.minValue ∧ 0 < (bdD d).toInt ∧ (bdD d).toInt < 2 ^ 48 := by
  obtain ⟨i, j, hi, hj, -, rfl, rfl⟩ := arM_n h
  have e1 := cl_nI (k := i) (by omega)
  have e2 := cl_nI (k := j) (by omega)
  have h1 := upR_b (sel := selT d) (fst := fs0 d) (v := endV d i j g) (B := 1980) (by decide) (by decide) (endV_b ok hi hj)
  have h2 := dnR_b ht
  refine ⟨ne_min ?_, h2.1, by show (dnR (selT d) (fs0 d)).toInt < _; omega⟩
  unfold bdU
  rw [e1, e2]
  omega
section
variable {N M : gM} {n0 a9 : Nat} {D : gD}
theorem pX1_bounds (h : RX N n0 a9 D M) (ok : okD (dd D)) (ha : 12 ≤ a9) {b a what : Int32} {Q : Int64 → gM → Prop} {E : Nat → gM → Prop} (hq : ∀ v, rBnd (dd D) b a what = some v → ∀ M', RX N n0 (a9 - 12) D M' → Q v M') (he : rBnd (dd D) b a what = none → ∀ o M', RX N n0 (a9 - 12) D M' → E o M') : fX1_bounds b a what M Q E := by
  have kn : rBnd (dd D) b a what = none → fX1_bounds_b22 b a what 0 M Q E := by
    intro e
    unfold fX1_bounds_b22
    rw [← bi_f]
    exact pX1_need h (by omega) (fun q => by cases q) (fun _ o M' h' => he e o M' (h'.less (by omega)))
  unfold fX1_bounds fX1_bounds_b21
  simp only [pX1_areMonths, pX1_in, gdr_some, gk_sI, gk_sL, gk_sR, gl_sI, gl_sL, gl_sR, gn_sI, gn_sL, gn_sR, gs_sI, gs_sL, gs_sR, gR_sI, gR_sL, gI_sL, gI_sR, gL_sI, gL_sR, bi_ite, bi_01, true_and, and_true]
  cases q1 : arM b a
  · simp only [Bool.false_eq_true, if_false]
    exact kn (by unfold rBnd; rw [q1]; simp)
  cases q2 : in9 0 3 what
  · simp only [Bool.false_eq_true, if_false, if_true]
    exact kn (by unfold rBnd; rw [q2]; simp)
  simp only [if_true]
  have key : fX1_bounds_b38 what b a (bi (bdG what)) M Q E := by
    obtain ⟨u1, u2, u3⟩ : True ∧ True ∧ True := ⟨trivial, trivial, trivial⟩
    have q1' := q1
    obtain ⟨i, j, hi, hj, -, rfl, rfl⟩ := arM_n q1
    have e1 := cl_nI (k := i) (by omega)
    have e2 := cl_nI (k := j) (by omega)
    unfold fX1_bounds_b38
    simp only [xk16 h, xk17 h, xl17 h, xr0 h, xr10 h, xr11 h, xk28 h, xk29 h, xten h, xby h, gdr_some, gk_sI, gk_sL, gk_sR, gl_sI, gl_sL, gl_sR, gn_sI, gn_sL, gn_sR, gs_sI, gs_sL, gs_sR, gR_sI, gR_sL, gI_sL, gI_sR, gL_sI, gL_sR, bi_ite, bi_01, true_and, and_true]
    refine pX1_ends h hi hj fun M' h' m' => ?_
    refine pX1_need h' (by omega) (fun ht => ?_) (fun ht o M' h' => he (by unfold rBnd; rw [ht]; simp) o M' (h'.less (by omega)))
    simp only [xk16 h', xk17 h', xl17 h', xr0 h', xr10 h', xr11 h', xk28 h', xk29 h', xten h', xby h', gdr_some, gk_sI, gk_sL, gk_sR, gl_sI, gl_sL, gl_sR, gn_sI, gn_sL, gn_sR, gs_sI, gs_sL, gs_sR, gR_sI, gR_sL, gI_sL, gI_sR, gL_sI, gL_sR, bi_ite, bi_01, true_and, and_true, pX1_above h' m', pX1_below h' m']
    obtain ⟨w1, w2, w3⟩ := bd_ok ok (g := bdG what) q1' ht
    have eU : bdU (dd D) (nI i) (nI j) (bdG what) = upR (selT (dd D)) (fs0 (dd D)) (endV (dd D) i j (bdG what)) := by unfold bdU; rw [e1, e2]
    rw [← eU]
    refine pX1_lowest w1 w2 w3 ?_
    exact hq _ (by unfold rBnd; rw [q1', q2, ht]; rfl) M' (h'.less (by omega))
  unfold fX1_bounds_b22
  show fX1_need (bi true) M _ _
  refine pX1_need h (by omega) (fun _ => ?_) (fun q => by cases q)
  by_cases e : what ≤ 1
  · rw [if_pos e]
    have : bdG what = false := by simp [bdG, e]
    rw [this] at key; exact key
  · rw [if_neg e]
    have : bdG what = true := by simp [bdG, e]
    rw [this] at key; exact key
end
section
variable {N M : gM} {D : gD}
theorem RM.thr9 {x : Int32} (h : RM N D M) : RM N D (gsI M 268 0 x) := h.sI (Or.inl ⟨rfl, by omega, by omega, by omega⟩)
theorem pX7_bounds (h : RM N D M) (ok : okD (dd D)) {b a what : Int32} {Q : Int64 → gM → Prop} (hq : ∀ v, rBnd (dd D) b a what = some v → ∀ M', RM N D M' → gI M' 268 0 = 0 → Q v M') (he : rBnd (dd D) b a what = none → ∀ M', RM N D M' → gI M' 268 0 = 1 → Q 0 M') : fX7_bounds b a what M Q := by
  have kn : ∀ M1, RM N D M1 → rBnd (dd D) b a what = none → fX7_bounds_b41 what M1 Q := by
    intro M1 h1 e
    unfold fX7_bounds_b41 fX7_bounds_b42
    simp only [mk268 h1, gdr_some, gk_sI, gk_sL, gk_sR, gl_sI, gl_sL, gl_sR, gn_sI, gn_sL, gn_sR, gs_sI, gs_sL, gs_sR, gR_sI, gR_sL, gI_sL, gI_sR, gL_sI, gL_sR, bi_ite, bi_01, true_and, and_true, gI_sI, and_self, if_true]
    rw [if_neg (by decide)]
    exact he e _ h1.thr9 rfl
  unfold fX7_bounds
  simp only [pX7_areMonths, pX7_within, gdr_some, gk_sI, gk_sL, gk_sR, gl_sI, gl_sL, gl_sR, gn_sI, gn_sL, gn_sR, gs_sI, gs_sL, gs_sR, gR_sI, gR_sL, gI_sL, gI_sR, gL_sI, gL_sR, bi_ite, bi_01, true_and, and_true]
  cases q1 : arM b a
  · simp only [Bool.false_eq_true, if_false]
    exact kn M h (by unfold rBnd; rw [q1]; simp)
  cases q2 : in9 0 3 what
  · simp only [Bool.false_eq_true, if_false, if_true]
    exact kn M h (by unfold rBnd; rw [q2]; simp)
  simp only [if_true]
  have key : fX7_bounds_b31 what b a (sg9 (bdG what)) M Q := by
    have q1' := q1
    obtain ⟨i, j, hi, hj, -, rfl, rfl⟩ := arM_n q1
    have e1 := cl_nI (k := i) (by omega)
    have e2 := cl_nI (k := j) (by omega)
    unfold fX7_bounds_b31
    simp only [mk268 h, gdr_some, gk_sI, gk_sL, gk_sR, gl_sI, gl_sL, gl_sR, gn_sI, gn_sL, gn_sR, gs_sI, gs_sL, gs_sR, gR_sI, gR_sL, gI_sL, gI_sR, gL_sI, gL_sR, bi_ite, bi_01, true_and, and_true]
    refine pX7_findBound h ok hi hj fun M' h' m' u' => ?_
    cases q3 : thr (selT (dd D)) (fs0 (dd D))
    · simp only [gdr_some, gk_sI, gk_sL, gk_sR, gl_sI, gl_sL, gl_sR, gn_sI, gn_sL, gn_sR, gs_sI, gs_sL, gs_sR, gR_sI, gR_sL, gI_sL, gI_sR, gL_sI, gL_sR, bi_ite, bi_01, true_and, and_true, Bool.false_eq_true, if_false]
      exact kn M' h' (by unfold rBnd; rw [q3]; simp)
    · simp only [gdr_some, gk_sI, gk_sL, gk_sR, gl_sI, gl_sL, gl_sR, gn_sI, gn_sL, gn_sR, gs_sI, gs_sL, gs_sR, gR_sI, gR_sL, gI_sL, gI_sR, gL_sI, gL_sR, bi_ite, bi_01, true_and, and_true, if_true]
      unfold fX7_bounds_b42
      simp only [mk268 h', gdr_some, gk_sI, gk_sL, gk_sR, gl_sI, gl_sL, gl_sR, gn_sI, gn_sL, gn_sR, gs_sI, gs_sL, gs_sR, gR_sI, gR_sL, gI_sL, gI_sR, gL_sI, gL_sR, bi_ite, bi_01, true_and, and_true, gI_sI, and_self, if_true]
      rw [if_pos (by decide)]
      obtain ⟨w1, w2, w3⟩ := bd_ok ok (g := bdG what) q1' q3
      have eU : bdU (dd D) (nI i) (nI j) (bdG what) = upR (selT (dd D)) (fs0 (dd D)) (endV (dd D) i j (bdG what)) := by unfold bdU; rw [e1, e2]
      rw [← eU] at u'
      refine pX7_lowest h'.thr9 (up := bdU (dd D) (nI i) (nI j) (bdG what)) (dn := bdD (dd D)) u' w1 w2 w3 ?_
      exact hq _ (by unfold rBnd; rw [q1', q2, q3]; rfl) _ h'.thr9 rfl
  have e0 : (2 ≤ what) ↔ ¬ what ≤ 1 := by
    rw [Int32.le_iff_toInt_le, Int32.le_iff_toInt_le]
    have a1 : (2 : Int32).toInt = 2 := rfl
    have a2 : (1 : Int32).toInt = 1 := rfl
    omega
  by_cases e : what ≤ 1
  · rw [if_neg fun q => e0.mp q e]
    have : bdG what = false := by simp [bdG, e]
    rw [this] at key; exact key
  · rw [if_pos (e0.mpr e)]
    have : bdG what = true := by simp [bdG, e]
    rw [this] at key; exact key
end
/-! AN OP that doesn't throw, its answer an int or a long; it may change what is told -/
set_option maxRecDepth 100000
theorem opI {M : gM} {n0 n1 a : Nat} {D D1 : gD} (hX : RX M n0 a D M) (hM : RM M D M) (ok : okA D1) {r : Int32} {FX : (Int32 → gM → Prop) → Prop} {FM : gM → (Int32 → gM → Prop) → Prop} {R K1 : gM → Prop}
    (hx : ∀ Q, (∀ M', RX M n1 (a - 18000) D1 M' → Q r M') → FX Q) (hm : ∀ M1 Q, RM M1 D M1 → (∀ M', RM M1 D1 M' → Q r M') → FM M1 Q) (hR : ∀ M', LI (a - 18000) M' → R M')
    {KK : Int32 → gM → Prop} (hK : ∀ M1, (gk M1 268 = 7 ∧ FM M1 (fun r2 M2 => (if r = r2 then R M2 else K1 M2))) → KK r M1) : FX KK := by
  refine hx _ fun M1 h1 => hK M1 ?_
  have m1 := hM.byX h1
  refine ⟨mk268 m1, hm _ _ m1 fun M2 m2 => ?_⟩
  rw [if_pos rfl]
  exact hR M2 (LI.of (h1.byM m2) m2.self ok (Nat.le_refl _))
theorem opL {M : gM} {n0 n1 a : Nat} {D D1 : gD} (hX : RX M n0 a D M) (hM : RM M D M) (ok : okA D1) {r : Int64} {FX : (Int64 → gM → Prop) → Prop} {FM : gM → (Int64 → gM → Prop) → Prop} {R K1 : gM → Prop}
    (hx : ∀ Q, (∀ M', RX M n1 (a - 18000) D1 M' → Q r M') → FX Q) (hm : ∀ M1 Q, RM M1 D M1 → (∀ M', RM M1 D1 M' → Q r M') → FM M1 Q) (hR : ∀ M', LI (a - 18000) M' → R M')
    {KK : Int64 → gM → Prop} (hK : ∀ M1, (gk M1 268 = 7 ∧ FM M1 (fun r2 M2 => (if lg_cmp r r2 = 0 then R M2 else K1 M2))) → KK r M1) : FX KK := by
  refine hx _ fun M1 h1 => hK M1 ?_
  have m1 := hM.byX h1
  refine ⟨mk268 m1, hm _ _ m1 fun M2 m2 => ?_⟩
  rw [if_pos ((lg_cmp_eq _ _).mpr rfl)]
  exact hR M2 (LI.of (h1.byM m2) m2.self ok (Nat.le_refl _))
/-! op: swings -/
set_option maxRecDepth 100000
def rSwi (d : Nat → Nat → Nat → Int32) (b a : Int32) : Int32 := if (arM b a && thr (selT d) (fs0 d)) = true then bi (decide (bdU d b a false ≤ 0) && decide (0 ≤ bdU d b a true)) else -1
section
variable {N M : gM} {n0 a9 : Nat} {D : gD}
theorem pX1_swings (h : RX N n0 a9 D M) {b a : Int32} {Q : Int32 → gM → Prop} (hq : ∀ M', RX N n0 a9 D M' → Q (rSwi (dd D) b a) M') : fX1_swings b a M Q := by
  unfold fX1_swings
  simp only [pX1_areMonths, gdr_some, gk_sI, gk_sL, gk_sR, gl_sI, gl_sL, gl_sR, gn_sI, gn_sL, gn_sR, gs_sI, gs_sL, gs_sR, gR_sI, gR_sL, gI_sL, gI_sR, gL_sI, gL_sR, bi_ite, bi_01, true_and, and_true]
  cases q1 : arM b a
  · have e : rSwi (dd D) b a = -1 := by unfold rSwi; rw [q1]; simp
    rw [e] at hq
    simp only [Bool.false_eq_true, if_false]
    exact hq M h
  have q1' := q1
  obtain ⟨i, j, hi, hj, -, rfl, rfl⟩ := arM_n q1
  have e1 := cl_nI (k := i) (by omega)
  have e2 := cl_nI (k := j) (by omega)
  have eU : ∀ g, bdU (dd D) (nI i) (nI j) g = upR (selT (dd D)) (fs0 (dd D)) (endV (dd D) i j g) := fun g => by unfold bdU; rw [e1, e2]
  simp only [if_true, xk16 h, xk17 h, xl17 h, xr0 h, xr10 h, xr11 h, xk28 h, xk29 h, xten h, xby h, gdr_some, gk_sI, gk_sL, gk_sR, gl_sI, gl_sL, gl_sR, gn_sI, gn_sL, gn_sR, gs_sI, gs_sL, gs_sR, gR_sI, gR_sL, gI_sL, gI_sR, gL_sI, gL_sR, bi_ite, bi_01, true_and, and_true]
  show fX1_ends (nI i) (nI j) (bi false) M _
  refine pX1_ends h hi hj fun M1 h1 m1 => ?_
  cases q2 : thr (selT (dd D)) (fs0 (dd D))
  · have e : rSwi (dd D) (nI i) (nI j) = -1 := by unfold rSwi; rw [q2]; simp
    rw [e] at hq
    rw [if_pos bi_f]
    exact hq M1 h1
  have key : ∀ s : Bool, s = decide (bdU (dd D) (nI i) (nI j) false ≤ 0) → fX1_swings_b34 (nI i) (nI j) (bi s) M1 Q := by
    intro s hs
    have e : rSwi (dd D) (nI i) (nI j) = bi (s && decide (0 ≤ bdU (dd D) (nI i) (nI j) true)) := by unfold rSwi; rw [q1', q2, hs]; rfl
    rw [e, eU] at hq
    unfold fX1_swings_b34 fX1_swings_b60
    simp only [xk16 h1, xk17 h1, xl17 h1, xr0 h1, xr10 h1, xr11 h1, xk28 h1, xk29 h1, xten h1, xby h1, gdr_some, gk_sI, gk_sL, gk_sR, gl_sI, gl_sL, gl_sR, gn_sI, gn_sL, gn_sR, gs_sI, gs_sL, gs_sR, gR_sI, gR_sL, gI_sL, gI_sR, gL_sI, gL_sR, bi_ite, bi_01, true_and, and_true]
    show fX1_ends (nI i) (nI j) (bi true) M1 _
    refine pX1_ends h1 hi hj fun M2 h2 m2 => ?_
    have hq2 := hq M2 h2
    cases s
    · simp only [Bool.false_eq_true, if_false]
      exact hq2
    · simp only [if_true, xk16 h2, xk17 h2, xl17 h2, xr0 h2, xr10 h2, xr11 h2, xk28 h2, xk29 h2, xten h2, xby h2, gdr_some, gk_sI, gk_sL, gk_sR, gl_sI, gl_sL, gl_sR, gn_sI, gn_sL, gn_sR, gs_sI, gs_sL, gs_sR, gR_sI, gR_sL, gI_sL, gI_sR, gL_sI, gL_sR, bi_ite, bi_01, true_and, and_true, pX1_above h2 m2]
      by_cases c : 0 ≤ upR (selT (dd D)) (fs0 (dd D)) (endV (dd D) i j true)
      · rw [if_neg fun q => by rw [lg_cmp_lt] at q; exact absurd c (Int64.not_le.mpr q)]
        simpa [c, bi] using hq2
      · rw [if_pos ((lg_cmp_lt _ _).mpr (Int64.not_le.mp c))]
        simpa [c, bi] using hq2
  rw [if_neg (by decide)]
  simp only [xk16 h1, xk17 h1, xl17 h1, xr0 h1, xr10 h1, xr11 h1, xk28 h1, xk29 h1, xten h1, xby h1, gdr_some, gk_sI, gk_sL, gk_sR, gl_sI, gl_sL, gl_sR, gn_sI, gn_sL, gn_sR, gs_sI, gs_sL, gs_sR, gR_sI, gR_sL, gI_sL, gI_sR, gL_sI, gL_sR, bi_ite, bi_01, true_and, and_true, pX1_above h1 m1]
  rw [← eU]
  by_cases c : bdU (dd D) (nI i) (nI j) false ≤ 0
  · rw [if_neg fun q => by rw [lg_cmp_gt] at q; exact absurd c (Int64.not_le.mpr q)]
    exact key true (by simp [c])
  · rw [if_pos ((lg_cmp_gt _ _).mpr (Int64.not_le.mp c))]
    exact key false (by simp [c])
end
section
variable {N M : gM} {D : gD}
theorem pX7_swings (h : RM N D M) (ok : okD (dd D)) {b a : Int32} {Q : Int32 → gM → Prop} (hq : ∀ M', RM N D M' → Q (rSwi (dd D) b a) M') : fX7_swings b a M Q := by
  unfold fX7_swings
  simp only [mk268 h, pX7_areMonths, gdr_some, gk_sI, gk_sL, gk_sR, gl_sI, gl_sL, gl_sR, gn_sI, gn_sL, gn_sR, gs_sI, gs_sL, gs_sR, gR_sI, gR_sL, gI_sL, gI_sR, gL_sI, gL_sR, bi_ite, bi_01, true_and, and_true]
  have h0 : RM N D (gsI M 268 0 0) := h.thr9
  cases q1 : arM b a
  · have e : rSwi (dd D) b a = -1 := by unfold rSwi; rw [q1]; simp
    rw [e] at hq
    simp only [Bool.false_eq_true, if_false]
    exact hq _ h0
  have q1' := q1
  obtain ⟨i, j, hi, hj, -, rfl, rfl⟩ := arM_n q1
  have e1 := cl_nI (k := i) (by omega)
  have e2 := cl_nI (k := j) (by omega)
  have eU : ∀ g, bdU (dd D) (nI i) (nI j) g = upR (selT (dd D)) (fs0 (dd D)) (endV (dd D) i j g) := fun g => by unfold bdU; rw [e1, e2]
  simp only [if_true, mk268 h, gdr_some, gk_sI, gk_sL, gk_sR, gl_sI, gl_sL, gl_sR, gn_sI, gn_sL, gn_sR, gs_sI, gs_sL, gs_sR, gR_sI, gR_sL, gI_sL, gI_sR, gL_sI, gL_sR, bi_ite, bi_01, true_and, and_true]
  show fX7_findBound (nI i) (nI j) (sg9 false) _ _
  refine pX7_findBound h0 ok hi hj fun M1 h1 m1 u1 => ?_
  cases q2 : thr (selT (dd D)) (fs0 (dd D))
  · have e : rSwi (dd D) (nI i) (nI j) = -1 := by unfold rSwi; rw [q2]; simp
    rw [e] at hq
    rw [if_pos bi_f]
    exact hq M1 h1
  have key : ∀ s : Bool, s = decide (bdU (dd D) (nI i) (nI j) false ≤ 0) → fX7_swings_b39 (nI i) (nI j) (bi s) M1 Q := by
    intro s hs
    have e : rSwi (dd D) (nI i) (nI j) = bi (s && decide (0 ≤ bdU (dd D) (nI i) (nI j) true)) := by unfold rSwi; rw [q1', q2, hs]; rfl
    rw [e, eU] at hq
    unfold fX7_swings_b39 fX7_swings_b65
    simp only [mk268 h1, gdr_some, gk_sI, gk_sL, gk_sR, gl_sI, gl_sL, gl_sR, gn_sI, gn_sL, gn_sR, gs_sI, gs_sL, gs_sR, gR_sI, gR_sL, gI_sL, gI_sR, gL_sI, gL_sR, bi_ite, bi_01, true_and, and_true]
    show fX7_findBound (nI i) (nI j) (sg9 true) M1 _
    refine pX7_findBound h1 ok hi hj fun M2 h2 m2 u2 => ?_
    have hq2 := hq M2 h2
    cases s
    · simp only [Bool.false_eq_true, if_false]
      exact hq2
    · simp only [if_true, mk268 h2, gdr_some, gk_sI, gk_sL, gk_sR, gl_sI, gl_sL, gl_sR, gn_sI, gn_sL, gn_sR, gs_sI, gs_sL, gs_sR, gR_sI, gR_sL, gI_sL, gI_sR, gL_sI, gL_sR, bi_ite, bi_01, true_and, and_true, u2.1]
      by_cases c : 0 ≤ upR (selT (dd D)) (fs0 (dd D)) (endV (dd D) i j true)
      · rw [if_neg fun q => by rw [lg_cmp_lt] at q; exact absurd c (Int64.not_le.mpr q)]
        simpa [c, bi] using hq2
      · rw [if_pos ((lg_cmp_lt _ _).mpr (Int64.not_le.mp c))]
        simpa [c, bi] using hq2
  rw [if_neg (by decide)]
  simp only [mk268 h1, gdr_some, gk_sI, gk_sL, gk_sR, gl_sI, gl_sL, gl_sR, gn_sI, gn_sL, gn_sR, gs_sI, gs_sL, gs_sR, gR_sI, gR_sL, gI_sL, gI_sR, gL_sI, gL_sR, bi_ite, bi_01, true_and, and_true, u1.1]
  rw [← eU]
  by_cases c : bdU (dd D) (nI i) (nI j) false ≤ 0
  · rw [if_neg fun q => by rw [lg_cmp_gt] at q; exact absurd c (Int64.not_le.mpr q)]
    exact key true (by simp [c])
  · rw [if_pos ((lg_cmp_gt _ _).mpr (Int64.not_le.mp c))]
    exact key false (by simp [c])
end
