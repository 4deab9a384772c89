/-! ops: lots, needed: the draws -/
set_option maxRecDepth 100000
def sg3 (v : Int) : Int32 := if v < 0 then -1 else if v = 0 then 0 else 1
theorem shr63 (x : Int64) : (x >>> ((63 : Int32).toInt64 &&& 63)).toInt = x.toInt >>> 63 := by
  have e : ((63 : Int32).toInt64 &&& 63) = (63 : Int64) := by decide
  rw [e]
  show (x.toBitVec.sshiftRight ((63 : Int64).toBitVec.smod 64).toNat).toInt = _
  have e2 : ((63 : Int64).toBitVec.smod 64).toNat = 63 := by decide
  rw [e2, BitVec.toInt_sshiftRight]
  rfl
theorem ushr63 (x : Int64) : (x.toUInt64 >>> ((63 : Int32).toInt64.toUInt64 &&& Int64.toUInt64 63)).toInt64 = if x.toInt < 0 then 1 else 0 := by
  have e : (x.toUInt64 >>> ((63 : Int32).toInt64.toUInt64 &&& Int64.toUInt64 63)).toInt64.toBitVec = x.toBitVec >>> 63 := by
    have e1 : (((63 : Int32).toInt64.toUInt64 &&& Int64.toUInt64 63).toBitVec % 64).toNat = 63 := by decide
    rw [← e1]
    exact UInt64.toBitVec_shiftRight _ _
  have h1 := Int64.le_toInt x
  have h2 := Int64.toInt_lt x
  have e3 : x.toBitVec.toNat = if x.toInt < 0 then (x.toInt + 2 ^ 64).toNat else x.toInt.toNat := by
    have e4 : x.toInt = x.toBitVec.toInt := rfl
    rw [e4, BitVec.toInt_eq_toNat_cond]
    have := x.toBitVec.isLt
    split <;> split <;> omega
  apply Int64.toBitVec_inj.mp
  rw [e]
  apply BitVec.eq_of_toNat_eq
  rw [BitVec.toNat_ushiftRight, Nat.shiftRight_eq_div_pow, e3]
  by_cases c : x.toInt < 0
  · rw [if_pos c, if_pos c]
    show _ = 1
    omega
  · rw [if_neg c, if_neg c]
    show _ = 0
    omega
theorem pJ10_signum {x : Int64} (h1 : -(2 ^ 62) ≤ x.toInt) (h2 : x.toInt ≤ 2 ^ 62) {M : gM} {Q : Int32 → gM → Prop} : fJ10_signum x M Q = Q (sg3 x.toInt) M := by
  unfold fJ10_signum
  have e1 : (x >>> ((63 : Int32).toInt64 &&& 63)) = if x.toInt < 0 then -1 else 0 := by
    refine Int64.toInt_inj.mp ?_
    rw [shr63, Int.shiftRight_eq_div_pow]
    by_cases c : x.toInt < 0
    · rw [if_pos c]; show _ = (-1 : Int); omega
    · rw [if_neg c]; show _ = (0 : Int); omega
  have e2 : (-x).toInt = -x.toInt := by rw [Int64.toInt_neg, Int.bmod_eq_of_le (by omega) (by omega)]
  rw [e1, ushr63, e2]
  unfold sg3
  by_cases c : x.toInt < 0
  · rw [if_pos c, if_pos c, if_neg (by omega)]
    exact congrArg (fun v => Q v M) (by decide)
  · rw [if_neg c, if_neg c]
    by_cases c2 : x.toInt = 0
    · rw [if_neg (by omega), if_pos c2]
      exact congrArg (fun v => Q v M) (by decide)
    · rw [if_pos (by omega), if_neg c2]
      exact congrArg (fun v => Q v M) (by decide)
theorem pJ11_signum {x : Int32} (h1 : -(2 ^ 30) ≤ x.toInt) (h2 : x.toInt ≤ 2 ^ 30) {M : gM} {Q : Int32 → gM → Prop} : fJ11_signum x M Q = Q (sg3 x.toInt) M := by
  unfold fJ11_signum
  have e1 : (x >>> ((31 : Int32) &&& 31)) = if x.toInt < 0 then -1 else 0 := by
    refine Int32.toInt_inj.mp ?_
    rw [pk_shr x ((31 : Int32) &&& 31) 31 (by decide), Int.shiftRight_eq_div_pow]
    by_cases c : x.toInt < 0
    · rw [if_pos c]; show _ = (-1 : Int); omega
    · rw [if_neg c]; show _ = (0 : Int); omega
  have e2 : (-x).toInt = -x.toInt := by rw [Int32.toInt_neg, Int.bmod_eq_of_le (by omega) (by omega)]
  have e3 : ∀ y : Int32, (y.toUInt32 >>> ((31 : Int32).toUInt32 &&& Int32.toUInt32 31)).toInt32 = if y.toInt < 0 then 1 else 0 := by
    intro y
    have e : (y.toUInt32 >>> ((31 : Int32).toUInt32 &&& Int32.toUInt32 31)).toInt32.toBitVec = y.toBitVec >>> 31 := by
      have e1 : (((31 : Int32).toUInt32 &&& Int32.toUInt32 31).toBitVec % 32).toNat = 31 := by decide
      rw [← e1]
      exact UInt32.toBitVec_shiftRight _ _
    have e3 : y.toBitVec.toNat = if y.toInt < 0 then (y.toInt + 2 ^ 32).toNat else y.toInt.toNat := by
      have e4 : y.toInt = y.toBitVec.toInt := rfl
      rw [e4, BitVec.toInt_eq_toNat_cond]
      have := y.toBitVec.isLt
      split <;> split <;> omega
    have g1 := Int32.le_toInt y
    have g2 := Int32.toInt_lt y
    apply Int32.toBitVec_inj.mp
    rw [e]
    apply BitVec.eq_of_toNat_eq
    rw [BitVec.toNat_ushiftRight, Nat.shiftRight_eq_div_pow, e3]
    by_cases c : y.toInt < 0
    · rw [if_pos c, if_pos c]
      show _ = 1
      omega
    · rw [if_neg c, if_neg c]
      show _ = 0
      omega
  rw [e1, e3, e2]
  unfold sg3
  by_cases c : x.toInt < 0
  · rw [if_pos c, if_pos c, if_neg (by omega)]
    exact congrArg (fun v => Q v M) (by decide)
  · rw [if_neg c, if_neg c]
    by_cases c2 : x.toInt = 0
    · rw [if_neg (by omega), if_pos c2]
      exact congrArg (fun v => Q v M) (by decide)
    · rw [if_pos (by omega), if_neg c2]
      exact congrArg (fun v => Q v M) (by decide)
theorem pX7_signOf {x : Int64} {M : gM} {Q : Int32 → gM → Prop} : fX7_signOf x M Q = Q (sg3 x.toInt) M := by
  unfold fX7_signOf sg3
  have g1 : 0 ≤ lg_cmp x 0 ↔ ¬ x.toInt < 0 := by rw [lg_cmp_ge, Int64.le_iff_toInt_le, Int64.toInt_zero]; omega
  have g2 : lg_cmp x 0 ≤ 0 ↔ ¬ 0 < x.toInt := by rw [lg_cmp_le, Int64.le_iff_toInt_le, Int64.toInt_zero]; omega
  by_cases c : x.toInt < 0
  · rw [if_neg fun q => (g1.mp q) c, if_pos c]
  · rw [if_pos (g1.mpr c), if_neg c]
    by_cases c2 : x.toInt = 0
    · rw [if_pos (g2.mpr (by omega)), if_pos c2]
    · rw [if_neg fun q => (g2.mp q) (by omega), if_neg c2]
/-- Integer.bitCount -/
def bc1 (p : Int32) : Int32 := p - (((p.toUInt32 >>> ((1 : Int32).toUInt32 &&& Int32.toUInt32 31)).toInt32) &&& 1431655765)
def bc2 (p : Int32) : Int32 := (p &&& 858993459) + (((p.toUInt32 >>> ((2 : Int32).toUInt32 &&& Int32.toUInt32 31)).toInt32) &&& 858993459)
def bc3 (p : Int32) : Int32 := (p + ((p.toUInt32 >>> ((4 : Int32).toUInt32 &&& Int32.toUInt32 31)).toInt32)) &&& 252645135
def bc4 (p : Int32) : Int32 := p + ((p.toUInt32 >>> ((8 : Int32).toUInt32 &&& Int32.toUInt32 31)).toInt32)
def bc5 (p : Int32) : Int32 := p + ((p.toUInt32 >>> ((16 : Int32).toUInt32 &&& Int32.toUInt32 31)).toInt32)
def bcF (p : Int32) : Int32 := bc5 (bc4 (bc3 (bc2 (bc1 p)))) &&& 63
theorem bcF_n : ∀ t : Nat, t < 512 → bcF (nI t) = nI (bitsN 9 t) := by decide +kernel
theorem pJ11_bitCount {t : Nat} (ht : t < 512) {M : gM} {Q : Int32 → gM → Prop} : fJ11_bitCount (nI t) M Q = Q (nI (bitsN 9 t)) M := by
  rw [← bcF_n t ht]
  rfl
theorem bitsN_top {n t : Nat} (ht : t < 2 ^ n) : ∀ m, n ≤ m → bitsN m t = bitsN n t := by
  intro m
  induction m with
  | zero => intro h; have : n = 0 := by omega
            subst this; rfl
  | succ m ih =>
    intro h
    by_cases e : n = m + 1
    · rw [e]
    · have h1 : t < 2 ^ m := Nat.lt_of_lt_of_le ht (Nat.pow_le_pow_right (by decide) (by omega))
      show bitsN m t + t / 2 ^ m % 2 = _
      rw [Nat.div_eq_of_lt h1, ih (by omega)]
      omega
theorem sJ_top {L : List Int32} {n t : Nat} (ht : t < 2 ^ n) : ∀ m, n ≤ m → sJ L t m = sJ L t n := by
  intro m
  induction m with
  | zero => intro h; have : n = 0 := by omega
            subst this; rfl
  | succ m ih =>
    intro h
    by_cases e : n = m + 1
    · rw [e]
    · have h1 : t < 2 ^ m := Nat.lt_of_lt_of_le ht (Nat.pow_le_pow_right (by decide) (by omega))
      show sJ L t m + (if t / 2 ^ m % 2 = 1 then _ else _) = _
      rw [Nat.div_eq_of_lt h1, ih (by omega), if_neg (by decide), Int64.add_zero]
/-- x's sum of a set -/
def sI (L : List Int32) (t : Nat) : Nat → Int32
  | 0 => 0
  | i + 1 => if t / 2 ^ i % 2 = 1 then sI L t i + L.getD i 0 else sI L t i
theorem sI_top {L : List Int32} {i t : Nat} (ht : t / 2 ^ i = 0) : ∀ m, i ≤ m → sI L t m = sI L t i := by
  have ht2 : t < 2 ^ i := by
    rcases Nat.lt_or_ge t (2 ^ i) with h | h
    · exact h
    · have := Nat.div_pos h (Nat.two_pow_pos i); omega
  intro m
  induction m with
  | zero => intro h; have : i = 0 := by omega
            subst this; rfl
  | succ m ih =>
    intro h
    by_cases e : i = m + 1
    · rw [e]
    · have h1 : t < 2 ^ m := Nat.lt_of_lt_of_le ht2 (Nat.pow_le_pow_right (by decide) (by omega))
      show (if t / 2 ^ m % 2 = 1 then _ else _) = _
      rw [Nat.div_eq_of_lt h1, if_neg (by decide), ih (by omega)]
theorem sI_b {L : List Int32} {t : Nat} (hb : ∀ x ∈ L, -2000 ≤ x.toInt ∧ x.toInt ≤ 2000) : ∀ i : Nat, i ≤ L.length → L.length ≤ 24 → (sI L t i).toInt = sumN (fL9 L) i t ∧ -(2000 * i) ≤ sumN (fL9 L) i t ∧ sumN (fL9 L) i t ≤ 2000 * i := by
  intro i
  induction i with
  | zero => intro _ _; exact ⟨by show (0 : Int32).toInt = 0; decide, by show (-(2000 * 0) : Int) ≤ 0; decide, by show (0 : Int) ≤ 2000 * 0; decide⟩
  | succ i ih =>
    intro h1 h2
    obtain ⟨e1, e2, e3⟩ := ih (by omega) h2
    have xb := hb _ (getD_mem9 (L := L) (i := i) (by omega))
    show (if t / 2 ^ i % 2 = 1 then sI L t i + L.getD i 0 else sI L t i).toInt = sumN (fL9 L) i t + (if t / 2 ^ i % 2 = 1 then (L.getD i 0).toInt else 0) ∧ _ ≤ sumN (fL9 L) i t + (if t / 2 ^ i % 2 = 1 then (L.getD i 0).toInt else 0) ∧ sumN (fL9 L) i t + (if t / 2 ^ i % 2 = 1 then (L.getD i 0).toInt else 0) ≤ _
    by_cases c : t / 2 ^ i % 2 = 1
    · rw [if_pos c, if_pos c, Int32.toInt_add, e1, Int.bmod_eq_of_le (by omega) (by omega)]
      omega
    · rw [if_neg c, if_neg c, e1]
      omega
theorem shr_m {t k : Nat} (ht : t < 2 ^ 31) (hk : k < 31) : nI t >>> (nI k &&& 31) = nI (t / 2 ^ k) := by
  have e1 : nI k &&& 31 = nI k := by
    have := pk_andN (n := k) (by omega) (m := 31) 5 (by decide)
    rw [this, show k % 2 ^ 5 = k by omega]
  have e2 : ((nI k).toBitVec.smod 32).toNat = k := by
    have : ∀ k : Nat, k < 31 → ((nI k).toBitVec.smod 32).toNat = k := by decide
    exact this k hk
  rw [e1, pk_shrN ht (nI k) k e2]
theorem pX1_sum {M : gM} {r : Nat} {L : List Int32} {n t : Nat} (hr : gk M r = 40 ∧ gl M r = 9) (hA : arr r L M) (hL : L.length = n) (hn : n ≤ 9) (ht : t < 2 ^ n) {Q : Int32 → gM → Prop} (hq : Q (sI L t n) M) : fX1_sum r (nI t) M Q := by
  have hp : 2 ^ n ≤ 2 ^ 9 := Nat.pow_le_pow_right (by decide) hn
  have key : ∀ j i, i + j = n → fX1_sum_L4 (fun l2_11 M12 => Q l2_11 M12) r (nI t) Q (j + 1) (sI L t i) (nI i) M := by
    intro j
    induction j with
    | zero =>
      intro i hi
      have : i = n := by omega
      subst this
      show fX1_sum_L4s _ _ _ _ _ _ _ _
      unfold fX1_sum_L4s
      rw [shr_m (by omega) (by omega), Nat.div_eq_of_lt ht, if_pos (by decide)]
      exact hq
    | succ j ih =>
      intro i hi
      show fX1_sum_L4s _ _ _ _ _ _ _ _
      unfold fX1_sum_L4s fX1_sum_b25
      rw [shr_m (by omega) (by omega)]
      have hd : t / 2 ^ i ≤ t := Nat.div_le_self _ _
      by_cases c : t / 2 ^ i = 0
      · rw [if_pos (by rw [c]; decide)]
        rw [sI_top c n (by omega)] at hq
        exact hq
      · rw [if_neg (by rw [nI_z (by omega)]; exact c)]
        have e1 := pk_andN (n := t / 2 ^ i) (by omega) (m := 1) 1 (by decide)
        rw [e1, Nat.pow_one, ← nI_succ]
        have hn9 := ih (i + 1) (by omega)
        have es : sI L t (i + 1) = if t / 2 ^ i % 2 = 1 then sI L t i + L.getD i 0 else sI L t i := rfl
        rw [es] at hn9
        have c1 : nI (t / 2 ^ i % 2) = 1 ↔ t / 2 ^ i % 2 = 1 := nI_eq (b := 1) (by omega) (by decide)
        by_cases c2 : t / 2 ^ i % 2 = 1
        · rw [if_pos (c1.mpr c2)]
          rw [if_pos c2] at hn9
          refine ⟨hr.1, by rw [hr.2]; exact vp_in_nI (by omega) (by decide), ?_⟩
          rw [nI_clamp (by omega), hA i (by omega)]
          exact hn9
        · rw [if_neg fun g => c2 (c1.mp g)]
          rw [if_neg c2] at hn9
          exact hn9
  unfold fX1_sum
  exact ⟨n + 1, key n 0 (by omega)⟩
theorem pX7_sumIn {M : gM} {r : Nat} {L : List Int32} {n t : Nat} (hr : gk M r = 40 ∧ gl M r = 9) (hA : arr r L M) (hL : L.length = n) (hn : n ≤ 9) (ht : t < 2 ^ n) {Q : Int64 → gM → Prop} (hq : Q (sJ L t n) M) : fX7_sumIn r (nI t) M Q := by
  have hp : 2 ^ n ≤ 2 ^ 9 := Nat.pow_le_pow_right (by decide) hn
  rw [← sJ_top ht 9 hn] at hq
  unfold fX7_sumIn
  refine ⟨10, ?_⟩
  refine loopN (T := 9) (G := fun q i M => fX7_sumIn_L5 (fun l2_12 M13 => Q l2_12 M13) r (nI t) Q q (sJ L t i) (nI i) M) (I := fun i M1 => M1 = M) (fun q M1 hI => ?_) (fun q i M1 hi hI hn9 => ?_) 9 0 M rfl rfl
  · subst hI
    unfold fX7_sumIn_L5 fX7_sumIn_L5s
    rw [if_pos (by decide)]
    exact hq
  · subst hI
    have hn9 := hn9 _ rfl
    show fX7_sumIn_L5 _ _ _ _ _ _ _ _
    unfold fX7_sumIn_L5 fX7_sumIn_L5s fX7_sumIn_b32
    have q9 : ¬ (9 : Int32) ≤ nI i := nI_ge (b := 9) hi (by decide)
    rw [if_neg q9, bit_m (by omega) (by omega), ← nI_succ]
    have es : sJ L t (i + 1) = sJ L t i + if t / 2 ^ i % 2 = 1 then (L.getD i 0).toInt64 else 0 := rfl
    rw [es] at hn9
    have c1 : nI (t / 2 ^ i % 2) = 1 ↔ t / 2 ^ i % 2 = 1 := nI_eq (b := 1) (by omega) (by decide)
    by_cases c : t / 2 ^ i % 2 = 1
    · rw [if_pos (c1.mpr c)]
      rw [if_pos c] at hn9
      have hin : i < n := by
        rcases Nat.lt_or_ge i n with g | g
        · exact g
        · have : t < 2 ^ i := Nat.lt_of_lt_of_le ht (Nat.pow_le_pow_right (by decide) g)
          rw [Nat.div_eq_of_lt this] at c
          omega
      refine ⟨hr.1, by rw [hr.2]; exact vp_in_nI hi (by decide), ?_⟩
      rw [nI_clamp (by omega), hA i (by omega)]
      exact hn9
    · rw [if_neg fun g => c (c1.mp g)]
      rw [if_neg c] at hn9
      exact hn9
theorem pX7_bits {M : gM} {t : Nat} (ht : t < 512) {Q : Int32 → gM → Prop} (hq : Q (nI (bitsN 9 t)) M) : fX7_bits (nI t) M Q := by
  unfold fX7_bits
  refine ⟨10, ?_⟩
  refine loopN (T := 9) (G := fun q i M => fX7_bits_L4 (fun l1_5 M6 => Q l1_5 M6) (nI t) Q q (nI (bitsN i t)) (nI i) M) (I := fun i M1 => M1 = M) (fun q M1 hI => ?_) (fun q i M1 hi hI hn9 => ?_) 9 0 M rfl rfl
  · subst hI
    unfold fX7_bits_L4 fX7_bits_L4s
    rw [if_pos (by decide)]
    exact hq
  · subst hI
    have hn9 := hn9 _ rfl
    show fX7_bits_L4 _ _ _ _ _ _ _
    unfold fX7_bits_L4 fX7_bits_L4s
    have q9 : ¬ (9 : Int32) ≤ nI i := nI_ge (b := 9) hi (by decide)
    rw [if_neg q9, bit_m (by omega) (by omega), ← nI_succ, nI_add]
    exact hn9
/-! ops: lots, needed, in x -/
set_option maxRecDepth 100000
def ltI (sg : Int32) (B : List Int) (k : Nat) (u : Int) : Nat := cW (fun w => if sg3 (u - w) = sg then 1 else 0) k B 0
def ltAs (sg : Int32) (A B : List Int) (k : Nat) : Nat := cW (ltI sg B k) k A 0
def ltAl (A B : List Int) (k : Nat) : Nat := cW (fun _ => cW (fun _ => 1) k B 0) k A 0
def ltC (d : Nat → Nat → Nat → Int32) (b a : Nat) : Bool := thr (cnW d b a (-1)) (fs0 d) && decide (chN d b a 0 ≤ 9) && decide (chN d b a 1 ≤ 9)
def ltG (d : Nat → Nat → Nat → Int32) (b a : Nat) : Int32 := sg3 (upR (cnW d b a (-1)) (fs0 d) (chJ d b a)).toInt
def lt1 (d : Nat → Nat → Nat → Int32) (b a k : Nat) : Nat := ltAs (ltG d b a) (zL (chL d b a 0)) (zL (chL d b a 1)) k
def lt2 (d : Nat → Nat → Nat → Int32) (b a k : Nat) : Nat := ltAl (zL (chL d b a 0)) (zL (chL d b a 1)) k
def rLot (d : Nat → Nat → Nat → Int32) (b a k w : Int32) : Int64 := if (in9 1 9 k && in9 0 1 w && arM b a && ltC d (cl b) (cl a) && decide (cl k ≤ chN d (cl b) (cl a) 0) && decide (cl k ≤ chN d (cl b) (cl a) 1)) = true then low (nJ (lt1 d (cl b) (cl a) (cl k))) (nJ (lt2 d (cl b) (cl a) (cl k))) w else -1
def ndS (P : Nat → Bool) : Nat → Nat → Int32
  | 0, _ => -1
  | n + 1, k => if P k = true then nI k else ndS P n (k + 1)
def ndP (d : Nat → Nat → Nat → Int32) (b a : Nat) (p : Int32) (k : Nat) : Bool := decide (¬ 100 * nJ (lt1 d b a k) < p.toInt64 * nJ (lt2 d b a k))
def ndM (d : Nat → Nat → Nat → Int32) (b a : Nat) : Nat := if chN d b a 1 < chN d b a 0 then chN d b a 1 else chN d b a 0
def rNee (d : Nat → Nat → Nat → Int32) (b a p : Int32) : Int32 := if (in9 1 100 p && arM b a && ltC d (cl b) (cl a)) = true then ndS (ndP d (cl b) (cl a) p) (ndM d (cl b) (cl a)) 1 else -1
theorem lt_b {sg : Int32} {A B : List Int} {k : Nat} (hA : A.length ≤ 9) (hB : B.length ≤ 9) : ltAs sg A B k ≤ 262144 ∧ ltAl A B k ≤ 262144 := by
  have pA : 2 ^ A.length ≤ 2 ^ 9 := Nat.pow_le_pow_right (by decide) hA
  have pB : 2 ^ B.length ≤ 2 ^ 9 := Nat.pow_le_pow_right (by decide) hB
  have h1 : ∀ u, ltI sg B k u ≤ 512 := fun u => by
    have := cW_2 (B := 1) (g := fun w => if sg3 (u - w) = sg then 1 else 0) (fun s => by show (if _ then 1 else 0) ≤ 1; split <;> omega) B k 0
    unfold ltI
    omega
  have h2 : cW (fun _ => 1) k B 0 ≤ 512 := by
    have := cW_2 (B := 1) (g := fun _ => 1) (fun s => Nat.le_refl _) B k 0
    omega
  have h3 := cW_2 h1 A k 0
  have h4 := cW_2 (g := fun _ => cW (fun _ => 1) k B 0) (fun _ => h2) A k 0
  unfold ltAs ltAl
  omega
theorem cW_const {c : Nat} : ∀ (l : List Int) (j : Nat) (s : Int), cW (fun _ => c) j l s = c * cW (fun _ => 1) j l s := by
  intro l
  induction l with
  | nil => intro j s; cases j with
    | zero => simp [cW_0]
    | succ j => rfl
  | cons x t ih =>
    intro j s
    cases j with
    | zero => simp [cW_0]
    | succ j =>
      show cW _ j t (s + x) + cW _ (j + 1) t s = c * (cW _ j t (s + x) + cW _ (j + 1) t s)
      rw [ih, ih, Nat.mul_add]
theorem ltAl_pos {A B : List Int} {k : Nat} (hA : k ≤ A.length) (hB : k ≤ B.length) : 0 < ltAl A B k := by
  unfold ltAl
  rw [cW_const]
  exact Nat.mul_pos (cW_pos _ _ _ hB) (cW_pos _ _ _ hA)
section
variable {N M : gM} {n0 a9 : Nat} {D : gD}
/-- both rows lie there -/
def lsX (D : gD) (b a : Nat) (M : gM) : Prop := mns (cnW (dd D) b a (-1)) (fs0 (dd D)) (chJ (dd D) b a) 24 M ∧ gI M 16 25 = nI (chN (dd D) b a 0) ∧ gI M 16 26 = nI (chN (dd D) b a 1) ∧ arr 85 (chL (dd D) b a 0) M ∧ arr 86 (chL (dd D) b a 1) M
theorem mns_sI {sel fst : Nat → Bool} {v : Nat → Int64} {M : gM} {c k : Nat} {x : Int32} (h : mns sel fst v 24 M) (hc : c ≠ 28 ∧ c ≠ 29) : mns sel fst v 24 (gsI M c k x) := by
  obtain ⟨y1, y2, y3, y4⟩ := h
  exact ⟨y1, by rw [gI_sI, if_neg (by omega)]; exact y2, y3, by rw [gI_sI, if_neg (by omega)]; exact y4⟩
theorem arr_sI {c c' k : Nat} {L : List Int32} {M : gM} {x : Int32} (h : arr c L M) (hc : c' ≠ c) : arr c L (gsI M c' k x) := fun i hi => by rw [gI_sI, if_neg (by omega)]; exact h i hi
theorem pX1_lays (h : RX N n0 a9 D M) (ok : okD (dd D)) {b a : Int32} {Q : Int32 → gM → Prop} (h1 : (arM b a && ltC (dd D) (cl b) (cl a)) = true → ∀ M', RX N n0 a9 D M' → lsX D (cl b) (cl a) M' → Q 1 M') (h0 : (arM b a && ltC (dd D) (cl b) (cl a)) = false → ∀ M', RX N n0 a9 D M' → Q 0 M') : fX1_lays b a M Q := by
  unfold fX1_lays
  simp only [pX1_areMonths, gdr_some, gk_sI, gk_sL, gk_sR, gl_sI, gl_sL, gl_sR, gn_sI, gn_sL, gn_sR, gs_sI, gs_sL, gs_sR, gR_sI, gR_sL, gI_sL, gI_sR, gL_sI, gL_sR, bi_ite, bi_01, true_and, and_true]
  cases q1 : arM b a
  · simp only [Bool.false_eq_true, if_false]
    exact h0 (by rw [q1]; rfl) M h
  simp only [if_true]
  have q1' := q1
  obtain ⟨i, j, hi, hj, -, rfl, rfl⟩ := arM_n q1
  have e1 := cl_nI (k := i) (by omega)
  have e2 := cl_nI (k := j) (by omega)
  rw [q1', e1, e2] at h1 h0
  simp only [Bool.true_and] at h1 h0
  refine ⟨xk16 h, pX1_rivers h hi hj fun M1 g1 m1 => ?_⟩
  cases q3 : thr (cnW (dd D) i j (-1)) (fs0 (dd D))
  · rw [if_pos bi_f]
    exact h0 (by unfold ltC; rw [q3]; rfl) M1 g1
  rw [if_neg (by decide)]
  have m1' := m1
  obtain ⟨w1, w2, w3, w4⟩ := m1
  rw [chN_0] at w2
  rw [chN_1 ok] at w4
  have c24 : chN (dd D) i j 0 ≤ 24 := cn_le _ 24
  have d24 : chN (dd D) i j 1 ≤ 24 := cn_le _ 24
  simp only [xk16 g1, xk17 g1, xl17 g1, xr0 g1, xr10 g1, xr11 g1, xk28 g1, xk29 g1, xten g1, xby g1, gdr_some, gk_sI, gk_sL, gk_sR, gl_sI, gl_sL, gl_sR, gn_sI, gn_sL, gn_sR, gs_sI, gs_sL, gs_sR, gR_sI, gR_sL, gI_sL, gI_sR, gL_sI, gL_sR, bi_ite, bi_01, true_and, and_true, w2, w4]
  have l0 : (9 : Int32) < nI (chN (dd D) i j 0) ↔ 9 < chN (dd D) i j 0 := nI_ltI (a := 9) (by decide) (by omega)
  have l1 : nI (chN (dd D) i j 1) ≤ (9 : Int32) ↔ chN (dd D) i j 1 ≤ 9 := nI_leI (b := 9) (by omega) (by decide)
  by_cases c0 : 9 < chN (dd D) i j 0
  · rw [if_pos (l0.mpr c0)]
    exact h0 (by unfold ltC; simp [show ¬ chN (dd D) i j 0 ≤ 9 by omega]) M1 g1
  rw [if_neg fun q => c0 (l0.mp q)]
  by_cases c1 : chN (dd D) i j 1 ≤ 9
  · rw [if_pos (l1.mpr c1)]
    have hC : ltC (dd D) i j = true := by unfold ltC; rw [q3]; simp [c1, show chN (dd D) i j 0 ≤ 9 by omega]
    have h1 := h1 hC
    have ll0 : (chL (dd D) i j 0).length = chN (dd D) i j 0 := chL_len
    have ll1 : (chL (dd D) i j 1).length = chN (dd D) i j 1 := chL_len
    refine pX1_sorts (bk9 := nI 0) (fun M => mns (cnW (dd D) i j (-1)) (fs0 (dd D)) (chJ (dd D) i j) 24 M) (fun M k v m => mns_sI m (by omega)) g1 m1' hi hj fun M2 g2 a2 m2 => ?_
    have a2 : arr 30 (chL (dd D) i j 0) M2 := a2
    refine ⟨xk16 g2, chN (dd D) i j 0 + 1, ?_⟩
    have g3 : RX N n0 a9 D (gsI M2 16 25 (nI (chN (dd D) i j 0))) := g2.sI (by unfold xScr; omega) (by omega)
    refine loopN (T := chN (dd D) i j 0) (G := fun q t M => fX1_lays_L57 _ (nI i) (nI j) Q q (nI t) M) (I := fun t M => RX N n0 a9 D M ∧ mns (cnW (dd D) i j (-1)) (fs0 (dd D)) (chJ (dd D) i j) 24 M ∧ gI M 16 25 = nI (chN (dd D) i j 0) ∧ arr 30 (chL (dd D) i j 0) M ∧ ∀ r, r < t → gI M 85 r = (chL (dd D) i j 0).getD r 0) (fun q M hI => ?_) (fun q t M ht hI hn => ?_) (chN (dd D) i j 0) 0 _ (by omega) ⟨g3, mns_sI m2 (by omega), by rw [gI_sI, if_pos ⟨rfl, rfl⟩]; rfl, arr_sI a2 (by omega), fun r hr => absurd hr (by omega)⟩
    · obtain ⟨g4, m4, e4, -, b4⟩ := hI
      show fX1_lays_L57 _ _ _ _ _ _ _
      unfold fX1_lays_L57 fX1_lays_L57s
      refine ⟨xk16 g4, ?_⟩
      rw [e4, if_pos (nI_le (Nat.le_refl _) (by omega))]
      refine ⟨xk16 g4, ?_⟩
      refine pX1_sorts (bk9 := nI 1) (fun M => mns (cnW (dd D) i j (-1)) (fs0 (dd D)) (chJ (dd D) i j) 24 M ∧ gI M 16 25 = nI (chN (dd D) i j 0) ∧ ∀ r, r < chN (dd D) i j 0 → gI M 85 r = (chL (dd D) i j 0).getD r 0) (fun M k v m => ⟨mns_sI m.1 (by omega), by rw [gI_sI, if_neg (by omega)]; exact m.2.1, fun r hr => by rw [gI_sI, if_neg (by omega)]; exact m.2.2 r hr⟩) g4 ⟨m4, e4, b4⟩ hi hj fun M5 g5 a5 m5 => ?_
      obtain ⟨m5, e5, b5⟩ := m5
      have a5 : arr 30 (chL (dd D) i j 1) M5 := a5
      refine ⟨xk16 g5, chN (dd D) i j 1 + 1, ?_⟩
      have g6 : RX N n0 a9 D (gsI M5 16 26 (nI (chN (dd D) i j 1))) := g5.sI (by unfold xScr; omega) (by omega)
      refine loopN (T := chN (dd D) i j 1) (G := fun q t M => fX1_lays_L96 (fun M49 => Q 1 M49) Q q (nI t) M) (I := fun t M => RX N n0 a9 D M ∧ (mns (cnW (dd D) i j (-1)) (fs0 (dd D)) (chJ (dd D) i j) 24 M ∧ gI M 16 25 = nI (chN (dd D) i j 0) ∧ ∀ r, r < chN (dd D) i j 0 → gI M 85 r = (chL (dd D) i j 0).getD r 0) ∧ gI M 16 26 = nI (chN (dd D) i j 1) ∧ arr 30 (chL (dd D) i j 1) M ∧ ∀ r, r < t → gI M 86 r = (chL (dd D) i j 1).getD r 0) (fun q M hI => ?_) (fun q t M ht hI hn => ?_) (chN (dd D) i j 1) 0 _ (by omega) ⟨g6, ⟨mns_sI m5 (by omega), by rw [gI_sI, if_neg (by omega)]; exact e5, fun r hr => by rw [gI_sI, if_neg (by omega)]; exact b5 r hr⟩, by rw [gI_sI, if_pos ⟨rfl, rfl⟩]; rfl, arr_sI a5 (by omega), fun r hr => absurd hr (by omega)⟩
      · obtain ⟨g7, ⟨m7, e7, b7⟩, f7, -, d7⟩ := hI
        show fX1_lays_L96 _ _ _ _ _
        unfold fX1_lays_L96 fX1_lays_L96s
        refine ⟨xk16 g7, ?_⟩
        rw [f7, if_pos (nI_le (Nat.le_refl _) (by omega))]
        exact h1 M g7 ⟨m7, e7, f7, fun r hr => b7 r (by omega), fun r hr => d7 r (by omega)⟩
      · obtain ⟨g7, ⟨m7, e7, b7⟩, f7, a7, d7⟩ := hI
        have ht9 : t < 9 := by omega
        have ht24 : t < 24 := by omega
        show fX1_lays_L96 _ _ _ _ _
        unfold fX1_lays_L96 fX1_lays_L96s
        refine ⟨xk16 g7, ?_⟩
        rw [f7, if_neg (nI_ge (by omega) (by omega))]
        simp only [xk16 g7, frx12 g7.1, fk30 g7.1, fl30 g7.1, frx24 g7.1, fk86 g7.1, fl86 g7.1, vp_in_nI ht9 (N := 9) (by decide), nI_clamp (Nat.lt_trans ht9 (by decide : 9 < 2 ^ 31)), vp_in_nI ht24 (N := 24) (by decide), nI_clamp (Nat.lt_trans ht24 (by decide : 24 < 2 ^ 31)), gdr_some, gk_sI, gk_sL, gk_sR, gl_sI, gl_sL, gl_sR, gn_sI, gn_sL, gn_sR, gs_sI, gs_sL, gs_sR, gR_sI, gR_sL, gI_sL, gI_sR, gL_sI, gL_sR, bi_ite, bi_01, true_and, and_true, ← nI_succ]
        refine hn _ ⟨g7.sI (by unfold xScr; omega) (by omega), ⟨mns_sI m7 (by omega), by rw [gI_sI, if_neg (by omega)]; exact e7, fun r hr => by rw [gI_sI, if_neg (by omega)]; exact b7 r hr⟩, by rw [gI_sI, if_neg (by omega)]; exact f7, arr_sI a7 (by omega), fun r hr => ?_⟩
        rw [gI_sI]
        by_cases er : r = t
        · rw [if_pos ⟨rfl, er⟩, a7 t (by omega), er]
        · rw [if_neg (by omega)]; exact d7 r (by omega)
    · obtain ⟨g7, m7, f7, a7, d7⟩ := hI
      have ht9 : t < 9 := by omega
      have ht24 : t < 24 := by omega
      show fX1_lays_L57 _ _ _ _ _ _ _
      unfold fX1_lays_L57 fX1_lays_L57s
      refine ⟨xk16 g7, ?_⟩
      rw [f7, if_neg (nI_ge (by omega) (by omega))]
      simp only [xk16 g7, frx12 g7.1, fk30 g7.1, fl30 g7.1, frx23 g7.1, fk85 g7.1, fl85 g7.1, vp_in_nI ht9 (N := 9) (by decide), nI_clamp (Nat.lt_trans ht9 (by decide : 9 < 2 ^ 31)), vp_in_nI ht24 (N := 24) (by decide), nI_clamp (Nat.lt_trans ht24 (by decide : 24 < 2 ^ 31)), gdr_some, gk_sI, gk_sL, gk_sR, gl_sI, gl_sL, gl_sR, gn_sI, gn_sL, gn_sR, gs_sI, gs_sL, gs_sR, gR_sI, gR_sL, gI_sL, gI_sR, gL_sI, gL_sR, bi_ite, bi_01, true_and, and_true, ← nI_succ]
      refine hn _ ⟨g7.sI (by unfold xScr; omega) (by omega), mns_sI m7 (by omega), by rw [gI_sI, if_neg (by omega)]; exact f7, arr_sI a7 (by omega), fun r hr => ?_⟩
      rw [gI_sI]
      by_cases er : r = t
      · rw [if_pos ⟨rfl, er⟩, a7 t (by omega), er]
      · rw [if_neg (by omega)]; exact d7 r (by omega)
  · rw [if_neg fun q => c1 (l1.mp q)]
    exact h0 (by unfold ltC; simp [c1]) M1 g1
/-- the counters -/
def lcX (D : gD) (b a A B : Nat) (M : gM) : Prop := lsX D b a M ∧ gI M 16 15 = nI A ∧ gL M 16 13 = nJ B
theorem rs_s {h : Nat → Nat} {t : Nat} : rs h (t + 1) = rs h t + h t := rfl
theorem drx_i (h : RX N n0 a9 D M) (ok : okD (dd D)) {b a k s A B : Nat} (hb : b < 12) (ha : a < 12) (hk : k ≤ 9) (h9 : chN (dd D) b a 0 ≤ 9) (h8 : chN (dd D) b a 1 ≤ 9) (hs : s < 2 ^ chN (dd D) b a 0) {sg : Int32} (m : lcX D b a A B M) {K Q : gM → Prop} (hK : ∀ M', RX N n0 a9 D M' → lcX D b a (if bitsN (chN (dd D) b a 0) s = k then A + cW (fun _ => 1) k (zL (chL (dd D) b a 1)) 0 else A) (if bitsN (chN (dd D) b a 0) s = k then B + ltI sg (zL (chL (dd D) b a 1)) k (sumN (fL9 (chL (dd D) b a 0)) (chN (dd D) b a 0) s) else B) M' → K M') : ∃ n, fX1_draws_L33 K (nI k) sg (nI s) Q n 0 M := by
  have hp : 2 ^ chN (dd D) b a 0 ≤ 2 ^ 9 := Nat.pow_le_pow_right (by decide) h9
  have hp1 : 2 ^ chN (dd D) b a 1 ≤ 2 ^ 9 := Nat.pow_le_pow_right (by decide) h8
  have bt : bitsN 9 s = bitsN (chN (dd D) b a 0) s := bitsN_top hs 9 h9
  have bl := bitsN_le (t := s) (chN (dd D) b a 0)
  have ll0 : (chL (dd D) b a 0).length = chN (dd D) b a 0 := chL_len
  have ll1 : (chL (dd D) b a 1).length = chN (dd D) b a 1 := chL_len
  have z1 : 1 ≤ 2 ^ chN (dd D) b a 1 := Nat.one_le_two_pow
  have ek : nI (bitsN (chN (dd D) b a 0) s) = nI k ↔ bitsN (chN (dd D) b a 0) s = k := nI_eq (by omega) (by omega)
  by_cases ck : bitsN (chN (dd D) b a 0) s = k
  · rw [if_pos ck, if_pos ck] at hK
    have eA := rs_cW (g := fun _ => 1) (f := fL9 (chL (dd D) b a 1)) (chN (dd D) b a 1) k 0
    have eB := rs_cW (g := fun w => if sg3 (sumN (fL9 (chL (dd D) b a 0)) (chN (dd D) b a 0) s - w) = sg then 1 else 0) (f := fL9 (chL (dd D) b a 1)) (chN (dd D) b a 1) k 0
    rw [show (List.range (chN (dd D) b a 1)).map (fL9 (chL (dd D) b a 1)) = zL (chL (dd D) b a 1) by rw [← ll1]; exact fL9_z] at eA eB
    unfold ltI at hK
    rw [← eA, ← eB] at hK
    refine ⟨2 ^ chN (dd D) b a 1 + 1, ?_⟩
    refine loopN (T := 2 ^ chN (dd D) b a 1) (G := fun q t M => fX1_draws_L33 K (nI k) sg (nI s) Q q (nI t) M) (I := fun t M => RX N n0 a9 D M ∧ lcX D b a (A + rs (fun t => if bitsN (chN (dd D) b a 1) t = k then 1 else 0) t) (B + rs (fun t => if bitsN (chN (dd D) b a 1) t = k then (fun w => if sg3 (sumN (fL9 (chL (dd D) b a 0)) (chN (dd D) b a 0) s - w) = sg then 1 else 0) (0 + sumN (fL9 (chL (dd D) b a 1)) (chN (dd D) b a 1) t) else 0) t) M) (fun q M hI => ?_) (fun q t M ht hI hn => ?_) (2 ^ chN (dd D) b a 1) 0 M (by omega) ⟨h, m⟩
    · obtain ⟨g1, m1⟩ := hI
      show fX1_draws_L33 _ _ _ _ _ _ _ _
      unfold fX1_draws_L33 fX1_draws_L33s
      refine ⟨xk16 g1, ?_⟩
      rw [m1.1.2.2.1, shl_m (by omega), if_pos (nI_le (Nat.le_refl _) (by omega))]
      exact hK M g1 m1
    · obtain ⟨g1, ⟨⟨w1, w2, w3, w4, w5⟩, m2, m3⟩⟩ := hI
      rw [rs_s, rs_s] at hn
      have bt1 : bitsN 9 t = bitsN (chN (dd D) b a 1) t := bitsN_top ht 9 h8
      have bl1 := bitsN_le (t := t) (chN (dd D) b a 1)
      have ek1 : nI (bitsN (chN (dd D) b a 1) t) = nI k ↔ bitsN (chN (dd D) b a 1) t = k := nI_eq (by omega) (by omega)
      show fX1_draws_L33 _ _ _ _ _ _ _ _
      unfold fX1_draws_L33 fX1_draws_L33s fX1_draws_b109
      refine ⟨xk16 g1, ?_⟩
      rw [w3, shl_m (by omega), if_neg (nI_ge (by omega) (by omega)), pJ11_bitCount (by omega), bt, if_pos (ek.mpr ck), pJ11_bitCount (by omega), bt1, ← nI_succ]
      by_cases ct : bitsN (chN (dd D) b a 1) t = k
      · rw [if_pos (ek1.mpr ct)]
        rw [if_pos ct, if_pos ct] at hn
        have g2 : RX N n0 a9 D (gsI M 16 15 (gI M 16 15 + 1)) := g1.sI (by unfold xScr; omega) (by omega)
        have w4' : arr 85 (chL (dd D) b a 0) (gsI M 16 15 (gI M 16 15 + 1)) := arr_sI w4 (by omega)
        have w5' : arr 86 (chL (dd D) b a 1) (gsI M 16 15 (gI M 16 15 + 1)) := arr_sI w5 (by omega)
        have v15 : gI (gsI M 16 15 (gI M 16 15 + 1)) 16 15 = nI (A + (rs (fun t => if bitsN (chN (dd D) b a 1) t = k then 1 else 0) t + 1)) := by rw [gI_sI, if_pos ⟨rfl, rfl⟩, m2, ← nI_succ, Nat.add_assoc]
        have ls' : lsX D b a (gsI M 16 15 (gI M 16 15 + 1)) := ⟨mns_sI w1 (by omega), by rw [gI_sI, if_neg (by omega)]; exact w2, by rw [gI_sI, if_neg (by omega)]; exact w3, w4', w5'⟩
        refine ⟨xk16 g1, ?_⟩
        rw [show gR (gsI M 16 15 (gI M 16 15 + 1)) 16 23 = some 85 from frx23 g2.1, gdr_some]
        refine pX1_sum (n := chN (dd D) b a 0) ⟨fk85 g2.1, fl85 g2.1⟩ w4' ll0 h9 hs ?_
        refine ⟨xk16 g2, ?_⟩
        rw [show gR (gsI M 16 15 (gI M 16 15 + 1)) 16 24 = some 86 from frx24 g2.1, gdr_some]
        refine pX1_sum (n := chN (dd D) b a 1) ⟨fk86 g2.1, fl86 g2.1⟩ w5' ll1 h8 ht ?_
        have mb : ∀ q, ∀ x ∈ chL (dd D) b a q, -2000 ≤ x.toInt ∧ x.toInt ≤ 2000 := fun q x hx => insN_b (ch_v ok hb ha) hx
        obtain ⟨s1, s2, s3⟩ := sI_b (t := s) (mb 0) (chN (dd D) b a 0) (by omega) (by omega)
        obtain ⟨t1, t2, t3⟩ := sI_b (t := t) (mb 1) (chN (dd D) b a 1) (by omega) (by omega)
        have ed : (sI (chL (dd D) b a 0) s (chN (dd D) b a 0) - sI (chL (dd D) b a 1) t (chN (dd D) b a 1)).toInt = sumN (fL9 (chL (dd D) b a 0)) (chN (dd D) b a 0) s - sumN (fL9 (chL (dd D) b a 1)) (chN (dd D) b a 1) t := by rw [Int32.toInt_sub, s1, t1, Int.bmod_eq_of_le (by omega) (by omega)]
        rw [pJ11_signum (by rw [ed]; omega) (by rw [ed]; omega), ed]
        rw [show (0 : Int) + sumN (fL9 (chL (dd D) b a 1)) (chN (dd D) b a 1) t = sumN (fL9 (chL (dd D) b a 1)) (chN (dd D) b a 1) t by omega] at hn
        by_cases cs9 : sg3 (sumN (fL9 (chL (dd D) b a 0)) (chN (dd D) b a 0) s - sumN (fL9 (chL (dd D) b a 1)) (chN (dd D) b a 1) t) = sg
        · rw [if_pos cs9]
          simp only [cs9, if_true] at hn
          refine ⟨xk16 g2, ?_⟩
          refine hn _ ⟨g2.sL (by omega), ls', v15, ?_⟩
          rw [gL_sL, if_pos ⟨rfl, rfl⟩, show gL (gsI M 16 15 (gI M 16 15 + 1)) 16 13 = gL M 16 13 from rfl, m3, ← nJ_succ, Nat.add_assoc]
        · rw [if_neg cs9]
          simp only [cs9, if_false] at hn
          exact hn _ ⟨g2, ls', v15, m3⟩
      · rw [if_neg fun g => ct (ek1.mp g)]
        rw [if_neg ct, if_neg ct] at hn
        exact hn M ⟨g1, ⟨w1, w2, w3, w4, w5⟩, m2, m3⟩
  · rw [if_neg ck, if_neg ck] at hK
    refine ⟨1, ?_⟩
    unfold fX1_draws_L33 fX1_draws_L33s
    refine ⟨xk16 h, ?_⟩
    rw [m.1.2.2.1, shl_m (by omega), if_neg (nI_nle (by omega) (by omega))]
    rw [pJ11_bitCount (by omega), bt, if_neg fun g => ck (ek.mp g)]
    exact hK M h m
theorem pX1_draws (h : RX N n0 a9 D M) (ok : okD (dd D)) {b a k : Nat} (hb : b < 12) (ha : a < 12) (hk : k ≤ 9) (h9 : chN (dd D) b a 0 ≤ 9) (h8 : chN (dd D) b a 1 ≤ 9) (m : lsX D b a M) {Q : gM → Prop} (hq : ∀ M', RX N n0 a9 D M' → lcX D b a (lt2 (dd D) b a k) (lt1 (dd D) b a k) M' → Q M') : fX1_draws (nI k) M Q := by
  have hp : 2 ^ chN (dd D) b a 0 ≤ 2 ^ 9 := Nat.pow_le_pow_right (by decide) h9
  have ll0 : (chL (dd D) b a 0).length = chN (dd D) b a 0 := chL_len
  have ub := upR_b (sel := cnW (dd D) b a (-1)) (fst := fs0 (dd D)) (v := chJ (dd D) b a) (B := 1980) (by decide) (by decide) (chJ_b ok hb ha)
  have eA := rs_cW (g := fun _ => cW (fun _ => 1) k (zL (chL (dd D) b a 1)) 0) (f := fL9 (chL (dd D) b a 0)) (chN (dd D) b a 0) k 0
  have eB := rs_cW (g := ltI (ltG (dd D) b a) (zL (chL (dd D) b a 1)) k) (f := fL9 (chL (dd D) b a 0)) (chN (dd D) b a 0) k 0
  rw [show (List.range (chN (dd D) b a 0)).map (fL9 (chL (dd D) b a 0)) = zL (chL (dd D) b a 0) by rw [← ll0]; exact fL9_z] at eA eB
  unfold lt1 lt2 ltAs ltAl at hq
  rw [← eA, ← eB] at hq
  unfold fX1_draws
  refine ⟨xk16 h, ?_⟩
  rw [pX1_above h m.1, pJ10_signum (by omega) (by omega)]
  refine ⟨xk16 h, 2 ^ chN (dd D) b a 0 + 1, ?_⟩
  have g0 : RX N n0 a9 D (gsI (gsL M 16 13 0) 16 15 0) := (h.sL (by omega)).sI (by unfold xScr; omega) (by omega)
  obtain ⟨w1, w2, w3, w4, w5⟩ := m
  have w1' : mns (cnW (dd D) b a (-1)) (fs0 (dd D)) (chJ (dd D) b a) 24 (gsL M 16 13 0) := w1
  have ls0 : lsX D b a (gsI (gsL M 16 13 0) 16 15 0) := ⟨mns_sI w1' (by omega), by rw [gI_sI, if_neg (by omega)]; exact w2, by rw [gI_sI, if_neg (by omega)]; exact w3, arr_sI (M := gsL M 16 13 0) w4 (by omega), arr_sI (M := gsL M 16 13 0) w5 (by omega)⟩
  refine loopN (T := 2 ^ chN (dd D) b a 0) (G := fun q s M => fX1_draws_L20 (fun M39 => Q M39) (nI k) (ltG (dd D) b a) Q q (nI s) M) (I := fun s M => RX N n0 a9 D M ∧ lcX D b a (rs (fun t => if bitsN (chN (dd D) b a 0) t = k then (fun _ => cW (fun _ => 1) k (zL (chL (dd D) b a 1)) 0) (0 + sumN (fL9 (chL (dd D) b a 0)) (chN (dd D) b a 0) t) else 0) s) (rs (fun t => if bitsN (chN (dd D) b a 0) t = k then ltI (ltG (dd D) b a) (zL (chL (dd D) b a 1)) k (0 + sumN (fL9 (chL (dd D) b a 0)) (chN (dd D) b a 0) t) else 0) s) M) (fun q M hI => ?_) (fun q s M hs hI hn => ?_) (2 ^ chN (dd D) b a 0) 0 _ (by omega) ⟨g0, ls0, rfl, rfl⟩
  · obtain ⟨g1, m1⟩ := hI
    show fX1_draws_L20 _ _ _ _ _ _ _
    unfold fX1_draws_L20 fX1_draws_L20s
    refine ⟨xk16 g1, ?_⟩
    rw [m1.1.2.1, shl_m (by omega), if_pos (nI_le (Nat.le_refl _) (by omega))]
    exact hq M g1 m1
  · obtain ⟨g1, m1⟩ := hI
    rw [rs_s, rs_s, show (0 : Int) + sumN (fL9 (chL (dd D) b a 0)) (chN (dd D) b a 0) s = sumN (fL9 (chL (dd D) b a 0)) (chN (dd D) b a 0) s by omega] at hn
    show fX1_draws_L20 _ _ _ _ _ _ _
    unfold fX1_draws_L20 fX1_draws_L20s
    refine ⟨xk16 g1, ?_⟩
    rw [m1.1.2.1, shl_m (by omega), if_neg (nI_ge (by omega) (by omega))]
    refine drx_i g1 ok hb ha hk h9 h8 hs m1 fun M2 g2 m2 => ?_
    unfold fX1_draws_b115
    rw [← nI_succ]
    refine hn M2 ⟨g2, ?_⟩
    by_cases c : bitsN (chN (dd D) b a 0) s = k
    · rw [if_pos c, if_pos c] at m2 ⊢; exact m2
    · rw [if_neg c, if_neg c] at m2 ⊢; exact m2
end
/-! ops: lots, needed: x's answers; m's -/
set_option maxRecDepth 100000
theorem i19 {n : Nat} {lo hi k : Int32} (hn : hi = nI n) (h1 : lo = 1) (h2 : n < 2 ^ 31) (h : in9 lo hi k = true) : ∃ w : Nat, 1 ≤ w ∧ w ≤ n ∧ k = nI w := by
  subst hn h1
  have g := in9_iff.mp h
  obtain ⟨w, hw, e⟩ := in_nI (N := n) h2 (Int32.le_trans (by decide) g.1) g.2
  refine ⟨w, ?_, hw, e⟩
  have := g.1
  rw [e, Int32.le_iff_toInt_le, nI_toInt (by omega)] at this
  have e1 : (1 : Int32).toInt = 1 := rfl
  omega
theorem ltC_9 {d : Nat → Nat → Nat → Int32} {b a : Nat} (h : ltC d b a = true) : chN d b a 0 ≤ 9 ∧ chN d b a 1 ≤ 9 := by
  unfold ltC at h
  simp only [Bool.and_eq_true, decide_eq_true_eq] at h
  exact ⟨h.1.2, h.2⟩
theorem zL_len {L : List Int32} : (zL L).length = L.length := List.length_map _
theorem lt_ok {d : Nat → Nat → Nat → Int32} {b a k : Nat} (h : ltC d b a = true) : lt1 d b a k ≤ 262144 ∧ lt2 d b a k ≤ 262144 := by
  obtain ⟨h1, h2⟩ := ltC_9 h
  have e0 : (zL (chL d b a 0)).length ≤ 9 := by rw [zL_len, chL_len]; exact h1
  have e1 : (zL (chL d b a 1)).length ≤ 9 := by rw [zL_len, chL_len]; exact h2
  exact ⟨(lt_b e0 e1).1, (lt_b (sg := 0) e0 e1).2⟩
theorem lt_pos {d : Nat → Nat → Nat → Int32} {b a k : Nat} (h0 : k ≤ chN d b a 0) (h1 : k ≤ chN d b a 1) : 0 < lt2 d b a k :=
  ltAl_pos (by rw [zL_len, chL_len]; exact h0) (by rw [zL_len, chL_len]; exact h1)
section
variable {N M : gM} {n0 a9 : Nat} {D : gD}
theorem pX1_lots (h : RX N n0 a9 D M) (ok : okD (dd D)) {b a k w : Int32} {Q : Int64 → gM → Prop} (hq : ∀ M', RX N n0 a9 D M' → Q (rLot (dd D) b a k w) M') : fX1_lots b a k w M Q := by
  unfold fX1_lots
  simp only [pX1_in, gdr_some, gk_sI, gk_sL, gk_sR, gl_sI, gl_sL, gl_sR, gn_sI, gn_sL, gn_sR, gs_sI, gs_sL, gs_sR, gR_sI, gR_sL, gI_sL, gI_sR, gL_sI, gL_sR, bi_ite, bi_01, true_and, and_true]
  unfold rLot at hq
  cases q1 : in9 1 9 k
  · rw [q1] at hq; simpa using hq M h
  cases q2 : in9 0 1 w
  · rw [q2] at hq; simp only [Bool.and_false, Bool.false_and, Bool.false_eq_true, if_false] at hq; simpa using hq M h
  rw [q1, q2] at hq
  simp only [if_true]
  refine ⟨xk16 h, pX1_lays h ok (fun c M1 h1 m1 => ?_) (fun c M1 h1 => ?_)⟩
  · rw [if_neg (by decide)]
    obtain ⟨z, hz1, hz9, rfl⟩ := i19 (n := 9) rfl rfl (by decide) q1
    simp only [Bool.and_eq_true] at c
    obtain ⟨i, j, hi, hj, -, rfl, rfl⟩ := arM_n c.1
    have e1 := cl_nI (k := i) (by omega)
    have e2 := cl_nI (k := j) (by omega)
    have e3 := cl_nI (k := z) (by omega)
    rw [e1, e2] at c m1
    rw [e1, e2, e3, c.1, c.2] at hq
    simp only [Bool.and_self, Bool.true_and] at hq
    obtain ⟨h9, h8⟩ := ltC_9 c.2
    refine ⟨xk16 h1, ?_⟩
    rw [m1.2.1, m1.2.2.1, pJ0_min]
    unfold imin
    have lt := nI_ltI (a := chN (dd D) i j 1) (b := chN (dd D) i j 0) (by omega) (by omega)
    have go : (z ≤ chN (dd D) i j 0 ∧ z ≤ chN (dd D) i j 1) → (gk M1 16 = 1 ∧ fX1_draws (nI z) M1 (fun M16 => gk M16 16 = 1 ∧ fX1_lowest (gL M16 16 13) ((gI M16 16 15).toInt64) w M16 (fun r20 M19 => Q r20 M19))) := by
      intro g
      refine ⟨xk16 h1, pX1_draws h1 ok hi hj (by omega) h9 h8 m1 fun M2 h2 m2 => ?_⟩
      obtain ⟨b1, b2⟩ := lt_ok (k := z) c.2
      have p := lt_pos (d := dd D) g.1 g.2
      refine ⟨xk16 h2, ?_⟩
      rw [m2.2.1, m2.2.2, nI_J (by omega)]
      simp only [g.1, g.2, decide_true, Bool.and_self, if_true] at hq
      exact pX1_lowest (ne_min (by rw [nJ_toInt (by omega)]; omega)) (by rw [nJ_toInt (by omega)]; omega) (by rw [nJ_toInt (by omega)]; omega) (hq M2 h2)
    have no : ¬ (z ≤ chN (dd D) i j 0 ∧ z ≤ chN (dd D) i j 1) → Q (-1) M1 := by
      intro g
      rw [if_neg (by simp only [Bool.and_eq_true, decide_eq_true_eq]; exact g)] at hq
      exact hq M1 h1
    by_cases c1 : chN (dd D) i j 1 < chN (dd D) i j 0
    · rw [if_pos (lt.mpr c1)]
      have le := nI_leI (a := z) (b := chN (dd D) i j 1) (by omega) (by omega)
      by_cases c2 : z ≤ chN (dd D) i j 1
      · rw [if_pos (le.mpr c2)]; exact go (by omega)
      · rw [if_neg fun g => c2 (le.mp g)]; exact no (by omega)
    · rw [if_neg fun g => c1 (lt.mp g)]
      have le := nI_leI (a := z) (b := chN (dd D) i j 0) (by omega) (by omega)
      by_cases c2 : z ≤ chN (dd D) i j 0
      · rw [if_pos (le.mpr c2)]; exact go (by omega)
      · rw [if_neg fun g => c2 (le.mp g)]; exact no (by omega)
  · rw [if_pos rfl]
    have hq := hq M1 h1
    have e : (in9 1 9 k && in9 0 1 w && arM b a && ltC (dd D) (cl b) (cl a)) = false := by rw [q1, q2]; simpa using c
    rw [q1, q2] at e
    simp only [e, Bool.false_and, Bool.false_eq_true, if_false] at hq
    exact hq
theorem pX1_needed (h : RX N n0 a9 D M) (ok : okD (dd D)) {b a p : Int32} {Q : Int32 → gM → Prop} (hq : ∀ M', RX N n0 a9 D M' → Q (rNee (dd D) b a p) M') : fX1_needed b a p M Q := by
  unfold fX1_needed
  simp only [pX1_in, gdr_some, gk_sI, gk_sL, gk_sR, gl_sI, gl_sL, gl_sR, gn_sI, gn_sL, gn_sR, gs_sI, gs_sL, gs_sR, gR_sI, gR_sL, gI_sL, gI_sR, gL_sI, gL_sR, bi_ite, bi_01, true_and, and_true]
  unfold rNee at hq
  cases q1 : in9 1 100 p
  · rw [q1] at hq; simpa using hq M h
  rw [q1] at hq
  simp only [if_true]
  refine ⟨xk16 h, pX1_lays h ok (fun c M1 h1 m1 => ?_) (fun c M1 h1 => ?_)⟩
  · rw [if_neg (by decide)]
    simp only [Bool.and_eq_true] at c
    obtain ⟨i, j, hi, hj, -, rfl, rfl⟩ := arM_n c.1
    have e1 := cl_nI (k := i) (by omega)
    have e2 := cl_nI (k := j) (by omega)
    rw [e1, e2] at c m1
    rw [e1, e2, c.1, c.2] at hq
    simp only [Bool.and_self, if_true] at hq
    obtain ⟨h9, h8⟩ := ltC_9 c.2
    have key : ∀ (f k : Nat) (M1 : gM), 1 ≤ k → k + f = ndM (dd D) i j + 1 → RX N n0 a9 D M1 → lsX D i j M1 → (∀ M', RX N n0 a9 D M' → Q (ndS (ndP (dd D) i j p) f k) M') → fX1_needed_L24 (fun l4_19 M20 => Q l4_19 M20) (fun M21 => Q (-1) M21) p Q (f + 1) (nI k) M1 := by
      intro f
      have hm : ndM (dd D) i j ≤ 9 := by unfold ndM; split <;> omega
      have rmin : ∀ M1, lsX D i j M1 → imin (gI M1 16 25) (gI M1 16 26) = nI (ndM (dd D) i j) := by
        intro M1 m1
        have lt := nI_ltI (a := chN (dd D) i j 1) (b := chN (dd D) i j 0) (by omega) (by omega)
        rw [m1.2.1, m1.2.2.1]
        unfold imin ndM
        by_cases c1 : chN (dd D) i j 1 < chN (dd D) i j 0
        · rw [if_pos (lt.mpr c1), if_pos c1]
        · rw [if_neg fun g => c1 (lt.mp g), if_neg c1]
      induction f with
      | zero =>
        intro k M1 hk1 hk h1 m1 hq
        show fX1_needed_L24s _ _ _ _ _ _ Q
        unfold fX1_needed_L24s
        refine ⟨xk16 h1, ?_⟩
        rw [pJ0_min, rmin M1 m1, if_pos (nI_lt (by omega) (by omega))]
        exact hq M1 h1
      | succ f ih =>
        intro k M1 hk1 hk h1 m1 hq
        have g0 : k ≤ chN (dd D) i j 0 ∧ k ≤ chN (dd D) i j 1 := by
          have : k ≤ ndM (dd D) i j := by omega
          unfold ndM at this
          split at this <;> omega
        show fX1_needed_L24s _ _ _ _ _ _ Q
        unfold fX1_needed_L24s
        refine ⟨xk16 h1, ?_⟩
        rw [pJ0_min, rmin M1 m1, if_neg (nI_nlt (by omega) (by omega))]
        refine ⟨xk16 h1, pX1_draws h1 ok hi hj (by omega) h9 h8 m1 fun M2 h2 m2 => ⟨xk16 h2, ?_⟩⟩
        obtain ⟨b1, b2⟩ := lt_ok (k := k) c.2
        rw [m2.2.1, m2.2.2, nI_J (by omega)]
        unfold ndS ndP at hq
        by_cases cc : 100 * nJ (lt1 (dd D) i j k) < p.toInt64 * nJ (lt2 (dd D) i j k)
        · rw [if_pos ((lg_cmp_lt _ _).mpr cc), ← nI_succ]
          simp only [cc, not_true_eq_false, decide_false, Bool.false_eq_true, if_false] at hq
          exact ih (k + 1) M2 (by omega) (by omega) h2 m2.1 hq
        · rw [if_neg fun g => cc ((lg_cmp_lt _ _).mp g)]
          simp only [cc, not_false_eq_true, decide_true, if_true] at hq
          exact hq M2 h2
    exact ⟨_, key (ndM (dd D) i j) 1 M1 (by omega) (by omega) h1 m1 hq⟩
  · rw [if_pos rfl]
    have hq := hq M1 h1
    have e : (in9 1 100 p && arM b a && ltC (dd D) (cl b) (cl a)) = false := by rw [q1]; simpa using c
    rw [q1] at e
    simp only [e, Bool.false_eq_true, if_false] at hq
    exact hq
end
section
variable {N M : gM} {D : gD}
def mlL (d : Nat → Nat → Nat → Int32) (b a q : Nat) : List Int32 := selN (clSel d (nI q) b a) (fun k => chg d k b a) 24
theorem ml_len {d : Nat → Nat → Nat → Int32} {b a q : Nat} : (mlL d b a q).length = chN d b a q := selN_len 24
theorem ml_perm {d : Nat → Nat → Nat → Int32} {b a q : Nat} : (zL (chL d b a q)).Perm (zL (mlL d b a q)) := (insN_perm 24).map _
theorem lt1_m {d : Nat → Nat → Nat → Int32} {b a k : Nat} : lt1 d b a k = ltAs (ltG d b a) (zL (mlL d b a 0)) (zL (mlL d b a 1)) k := by
  unfold lt1 ltAs
  have e : ltI (ltG d b a) (zL (chL d b a 1)) k = ltI (ltG d b a) (zL (mlL d b a 1)) k := by
    funext u
    exact cW_perm ml_perm k 0
  rw [e]
  exact cW_perm ml_perm k 0
theorem lt2_m {d : Nat → Nat → Nat → Int32} {b a k : Nat} : lt2 d b a k = ltAl (zL (mlL d b a 0)) (zL (mlL d b a 1)) k := by
  unfold lt2 ltAl
  rw [cW_perm (g := fun _ => 1) (ml_perm (d := d) (b := b) (a := a) (q := 1)) k 0]
  exact cW_perm ml_perm k 0
def lsM (D : gD) (b a : Nat) (M : gM) : Prop := mnm (cnW (dd D) b a (-1)) (fs0 (dd D)) (chJ (dd D) b a) 24 M ∧ arr 307 (mlL (dd D) b a 0) M ∧ arr 308 (mlL (dd D) b a 1) M
theorem mnm_sI {sel fst : Nat → Bool} {v : Nat → Int64} {M : gM} {c k n : Nat} {x : Int32} (h : mnm sel fst v n M) : mnm sel fst v n (gsI M c k x) := h
theorem pX7_laysLots (h : RM N D M) (ok : okD (dd D)) {b a : Int32} {Q : Int32 → gM → Prop} (h1 : (arM b a && ltC (dd D) (cl b) (cl a)) = true → ∀ M', RM N D M' → lsM D (cl b) (cl a) M' → Q 1 M') (h0 : (arM b a && ltC (dd D) (cl b) (cl a)) = false → ∀ M', RM N D M' → Q 0 M') : fX7_laysLots b a M Q := by
  unfold fX7_laysLots
  simp only [pX7_areMonths, gdr_some, gk_sI, gk_sL, gk_sR, gl_sI, gl_sL, gl_sR, gn_sI, gn_sL, gn_sR, gs_sI, gs_sL, gs_sR, gR_sI, gR_sL, gI_sL, gI_sR, gL_sI, gL_sR, bi_ite, bi_01, true_and, and_true]
  cases q1 : arM b a
  · simp only [Bool.false_eq_true, if_false]
    exact h0 (by rw [q1]; rfl) M h
  simp only [if_true]
  have q1' := q1
  obtain ⟨i, j, hi, hj, -, rfl, rfl⟩ := arM_n q1
  have e1 := cl_nI (k := i) (by omega)
  have e2 := cl_nI (k := j) (by omega)
  rw [q1', e1, e2] at h1 h0
  simp only [Bool.true_and] at h1 h0
  refine ⟨mk268 h, pX7_findRiver h ok hi hj fun M1 g1 m1 u1 => ?_⟩
  cases q3 : thr (cnW (dd D) i j (-1)) (fs0 (dd D))
  · rw [if_pos bi_f]
    exact h0 (by unfold ltC; rw [q3]; rfl) M1 g1
  rw [if_neg (by decide)]
  have m1' := m1
  obtain ⟨w1, w2, w3, w4⟩ := m1
  rw [chN_0] at w2
  rw [chN_1 ok] at w4
  have c24 : chN (dd D) i j 0 ≤ 24 := cn_le _ 24
  have d24 : chN (dd D) i j 1 ≤ 24 := cn_le _ 24
  refine ⟨mk268 g1, ?_⟩
  rw [w2, w4]
  have e9 : (9 : Int64).toInt = 9 := by decide
  have l0 : 0 < lg_cmp (nJ (chN (dd D) i j 0)) 9 ↔ 9 < chN (dd D) i j 0 := by rw [lg_cmp_gt, Int64.lt_iff_toInt_lt, nJ_toInt (by omega)]; omega
  have l1 : lg_cmp (nJ (chN (dd D) i j 1)) 9 ≤ 0 ↔ chN (dd D) i j 1 ≤ 9 := by rw [lg_cmp_le, Int64.le_iff_toInt_le, nJ_toInt (by omega)]; omega
  by_cases c0 : 9 < chN (dd D) i j 0
  · rw [if_pos (l0.mpr c0)]
    exact h0 (by unfold ltC; simp [show ¬ chN (dd D) i j 0 ≤ 9 by omega]) M1 g1
  rw [if_neg fun q => c0 (l0.mp q)]
  by_cases c1 : chN (dd D) i j 1 ≤ 9
  · rw [if_pos (l1.mpr c1)]
    have hC : ltC (dd D) i j = true := by unfold ltC; rw [q3]; simp [c1, show chN (dd D) i j 0 ≤ 9 by omega]
    have h1 := h1 hC
    refine ⟨25, ?_⟩
    have mono : ∀ q k, k ≤ 24 → cn (clSel (dd D) (nI q) i j) k ≤ chN (dd D) i j q := by
      intro q k hk
      have : ∀ m, cn (clSel (dd D) (nI q) i j) k ≤ cn (clSel (dd D) (nI q) i j) (k + m) := by
        intro m
        induction m with
        | zero => exact Nat.le_refl _
        | succ m ih => exact Nat.le_trans ih (by show _ ≤ if clSel (dd D) (nI q) i j (k + m) = true then cn (clSel (dd D) (nI q) i j) (k + m) + 1 else cn (clSel (dd D) (nI q) i j) (k + m); split <;> omega)
      have := this (24 - k)
      rw [show k + (24 - k) = 24 by omega] at this
      exact this
    refine loopN (T := 24) (G := fun n k M => fX7_laysLots_L50 (fun M50 => Q 1 M50) (nI i) (nI j) Q n (nI (cn (clSel (dd D) (nI 0) i j) k)) (nI (cn (clSel (dd D) (nI 1) i j) k)) (nI k) M) (I := fun k M => RM N D M ∧ mnm (cnW (dd D) i j (-1)) (fs0 (dd D)) (chJ (dd D) i j) 24 M ∧ arr 307 (selN (clSel (dd D) (nI 0) i j) (fun k => chg (dd D) k i j) k) M ∧ arr 308 (selN (clSel (dd D) (nI 1) i j) (fun k => chg (dd D) k i j) k) M) (fun n M hI => ?_) (fun n k M hk hI hn => ?_) 24 0 M1 rfl ⟨g1, m1', fun i hi => absurd hi (by simp [selN]), fun i hi => absurd hi (by simp [selN])⟩
    · unfold fX7_laysLots_L50 fX7_laysLots_L50s
      rw [if_pos ge24]
      exact h1 M hI.1 ⟨hI.2.1, hI.2.2.1, hI.2.2.2⟩
    · obtain ⟨g2, m2, a2, b2⟩ := hI
      have la := selN_len (sel := clSel (dd D) (nI 0) i j) (v := fun k => chg (dd D) k i j) k
      have lb := selN_len (sel := clSel (dd D) (nI 1) i j) (v := fun k => chg (dd D) k i j) k
      have z0 : (nI 0 : Int32) = 0 := rfl
      have z1 : (nI 1 : Int32) = 1 := rfl
      show fX7_laysLots_L50 _ _ _ _ _ _ _ _ _
      unfold fX7_laysLots_L50 fX7_laysLots_L50s fX7_laysLots_b98 fX7_laysLots_b127
      rw [if_neg (nge24 hk)]
      simp only [mk268 g2, frm11 g2.1, fk275 g2.1, fl275 g2.1, vp_in_nI hk (N := 24) (by decide), nI_clamp (Nat.lt_trans hk (by decide : 24 < 2 ^ 31)), mK g2 hk, gdr_some, gk_sI, gk_sL, gk_sR, gl_sI, gl_sL, gl_sR, gn_sI, gn_sL, gn_sR, gs_sI, gs_sL, gs_sR, gR_sI, gR_sL, gI_sL, gI_sR, gL_sI, gL_sR, bi_ite, bi_01, true_and, and_true, pX7_isCounted g2 hk hi hj, pX7_changeOf g2 ok hk hi hj, ← nI_succ]
      cases e : cnt (dd D) k i j
      · simp only [Bool.false_eq_true, if_false]
        have es0 : clSel (dd D) (nI 0) i j k = false := by simp [clSel, e]
        have es1 : clSel (dd D) (nI 1) i j k = false := by simp [clSel, e]
        have key := hn M
        rw [selN_f es0, cn_f es0, selN_f es1, cn_f es1] at key
        exact key ⟨g2, m2, a2, b2⟩
      · simp only [if_true]
        by_cases e0 : dd D 0 k 0 = 0
        · rw [if_pos e0]
          have es0 : clSel (dd D) (nI 0) i j k = true := by simp [clSel, e, e0, z0]
          have es1 : clSel (dd D) (nI 1) i j k = false := by simp [clSel, e0, z1]
          have m9 := mono 0 (k + 1) (by omega)
          rw [cn_t es0] at m9
          have lt9 : cn (clSel (dd D) (nI 0) i j) k < 9 := by omega
          simp only [mk268 g2, frm53 g2.1, fk307 g2.1, fl307 g2.1, vp_in_nI lt9 (N := 9) (by decide), nI_clamp (Nat.lt_trans lt9 (by decide : 9 < 2 ^ 31)), gdr_some, gk_sI, gk_sL, gk_sR, gl_sI, gl_sL, gl_sR, gn_sI, gn_sL, gn_sR, gs_sI, gs_sL, gs_sR, gR_sI, gR_sL, gI_sL, gI_sR, gL_sI, gL_sR, bi_ite, bi_01, true_and, and_true]
          have key := hn (gsI M 307 (cn (clSel (dd D) (nI 0) i j) k) (chg (dd D) k i j))
          rw [selN_t es0, cn_t es0, selN_f es1, cn_f es1] at key
          refine key ⟨g2.sI (by unfold mScr; omega), mnm_sI m2, ?_, arr_sI b2 (by omega)⟩
          have := arr_snoc (v := chg (dd D) k i j) a2
          rw [la] at this
          exact this
        · rw [if_neg e0]
          have e01 : dd D 0 k 0 = 1 := (ok.1 k hk).1.resolve_left e0
          have es0 : clSel (dd D) (nI 0) i j k = false := by simp [clSel, e0, z0]
          have es1 : clSel (dd D) (nI 1) i j k = true := by simp [clSel, e, e01, z1]
          have m9 := mono 1 (k + 1) (by omega)
          rw [cn_t es1] at m9
          have lt9 : cn (clSel (dd D) (nI 1) i j) k < 9 := by omega
          simp only [mk268 g2, frm54 g2.1, fk308 g2.1, fl308 g2.1, vp_in_nI lt9 (N := 9) (by decide), nI_clamp (Nat.lt_trans lt9 (by decide : 9 < 2 ^ 31)), gdr_some, gk_sI, gk_sL, gk_sR, gl_sI, gl_sL, gl_sR, gn_sI, gn_sL, gn_sR, gs_sI, gs_sL, gs_sR, gR_sI, gR_sL, gI_sL, gI_sR, gL_sI, gL_sR, bi_ite, bi_01, true_and, and_true]
          have key := hn (gsI M 308 (cn (clSel (dd D) (nI 1) i j) k) (chg (dd D) k i j))
          rw [selN_f es0, cn_f es0, selN_t es1, cn_t es1] at key
          refine key ⟨g2.sI (by unfold mScr; omega), mnm_sI m2, arr_sI a2 (by omega), ?_⟩
          have := arr_snoc (v := chg (dd D) k i j) b2
          rw [lb] at this
          exact this
  · rw [if_neg fun q => c1 (l1.mp q)]
    exact h0 (by unfold ltC; simp [c1]) M1 g1
end
/-! ops: lots, needed, in m -/
set_option maxRecDepth 100000
section
variable {N M : gM} {D : gD}
def lcM (D : gD) (b a A B : Nat) (M : gM) : Prop := lsM D b a M ∧ gL M 268 25 = nJ A ∧ gL M 268 24 = nJ B
theorem lsM_sL {b a : Nat} {M : gM} {k : Nat} {x : Int64} (h : lsM D b a M) (hk : k = 24 ∨ k = 25) : lsM D b a (gsL M 268 k x) := by
  obtain ⟨⟨y1, y2, y3, y4⟩, y5, y6⟩ := h
  exact ⟨⟨by rw [gL_sL, if_neg (by omega)]; exact y1, by rw [gL_sL, if_neg (by omega)]; exact y2, by rw [gL_sL, if_neg (by omega)]; exact y3, by rw [gL_sL, if_neg (by omega)]; exact y4⟩, y5, y6⟩
theorem nJ_i {n : Nat} : (nJ n).toInt32 = nI n := lN_i n
theorem drm_i (h : RM N D M) (ok : okD (dd D)) {b a k A B : Nat} (hb : b < 12) (ha : a < 12) (hk : k ≤ 9) (h9 : chN (dd D) b a 0 ≤ 9) (h8 : chN (dd D) b a 1 ≤ 9) {u : Int64} (hu : -20000 ≤ u.toInt ∧ u.toInt ≤ 20000) {sg s9 : Int32} (m : lcM D b a A B M) {K Q : gM → Prop} (hK : ∀ M', RM N D M' → lcM D b a (A + cW (fun _ => 1) k (zL (mlL (dd D) b a 1)) 0) (B + ltI sg (zL (mlL (dd D) b a 1)) k u.toInt) M' → K M') : ∃ n, fX7_findLots_L67 K (nI k) sg s9 u Q n 0 M := by
  have hp1 : 2 ^ chN (dd D) b a 1 ≤ 2 ^ 9 := Nat.pow_le_pow_right (by decide) h8
  have ll1 : (mlL (dd D) b a 1).length = chN (dd D) b a 1 := ml_len
  have eA := rs_cW (g := fun _ => 1) (f := fL9 (mlL (dd D) b a 1)) (chN (dd D) b a 1) k 0
  have eB := rs_cW (g := fun w => if sg3 (u.toInt - w) = sg then 1 else 0) (f := fL9 (mlL (dd D) b a 1)) (chN (dd D) b a 1) k 0
  rw [show (List.range (chN (dd D) b a 1)).map (fL9 (mlL (dd D) b a 1)) = zL (mlL (dd D) b a 1) by rw [← ll1]; exact fL9_z] at eA eB
  unfold ltI at hK
  rw [← eA, ← eB] at hK
  refine ⟨2 ^ chN (dd D) b a 1 + 1, ?_⟩
  refine loopN (T := 2 ^ chN (dd D) b a 1) (G := fun q t M => fX7_findLots_L67 K (nI k) sg s9 u Q q (nI t) M) (I := fun t M => RM N D M ∧ lcM D b a (A + rs (fun t => if bitsN (chN (dd D) b a 1) t = k then 1 else 0) t) (B + rs (fun t => if bitsN (chN (dd D) b a 1) t = k then (fun w => if sg3 (u.toInt - w) = sg then 1 else 0) (0 + sumN (fL9 (mlL (dd D) b a 1)) (chN (dd D) b a 1) t) else 0) t) M) (fun q M hI => ?_) (fun q t M ht hI hn => ?_) (2 ^ chN (dd D) b a 1) 0 M (by omega) ⟨h, m⟩
  · obtain ⟨g1, m1⟩ := hI
    show fX7_findLots_L67 _ _ _ _ _ _ _ _ _
    unfold fX7_findLots_L67 fX7_findLots_L67s
    have w4 := m1.1.1.2.2.2
    rw [chN_1 ok] at w4
    refine ⟨mk268 g1, ?_⟩
    rw [w4, nJ_i, shl_m (by omega), if_pos (nI_le (Nat.le_refl _) (by omega))]
    exact hK M g1 m1
  · obtain ⟨g1, ⟨ls, m2, m3⟩⟩ := hI
    rw [rs_s, rs_s] at hn
    have bt1 : bitsN 9 t = bitsN (chN (dd D) b a 1) t := bitsN_top ht 9 h8
    have bl1 := bitsN_le (t := t) (chN (dd D) b a 1)
    have ek1 : nI (bitsN (chN (dd D) b a 1) t) = nI k ↔ bitsN (chN (dd D) b a 1) t = k := nI_eq (by omega) (by omega)
    have w4 := ls.1.2.2.2
    rw [chN_1 ok] at w4
    show fX7_findLots_L67 _ _ _ _ _ _ _ _ _
    unfold fX7_findLots_L67 fX7_findLots_L67s fX7_findLots_b131
    refine ⟨mk268 g1, ?_⟩
    rw [w4, nJ_i, shl_m (by omega), if_neg (nI_ge (by omega) (by omega)), ← nI_succ]
    refine pX7_bits (by omega) ?_
    rw [bt1]
    by_cases ct : bitsN (chN (dd D) b a 1) t = k
    · rw [if_pos (ek1.mpr ct)]
      rw [if_pos ct, if_pos ct] at hn
      have g2 : RM N D (gsL M 268 25 (gL M 268 25 + 1)) := g1.sL (Or.inl rfl)
      have ls2 := lsM_sL (x := gL M 268 25 + 1) ls (Or.inr rfl)
      have v25 : gL (gsL M 268 25 (gL M 268 25 + 1)) 268 25 = nJ (A + (rs (fun t => if bitsN (chN (dd D) b a 1) t = k then 1 else 0) t + 1)) := by rw [gL_sL, if_pos ⟨rfl, rfl⟩, m2, ← nJ_succ, Nat.add_assoc]
      have v24 : gL (gsL M 268 25 (gL M 268 25 + 1)) 268 24 = nJ (B + rs (fun t => if bitsN (chN (dd D) b a 1) t = k then (fun w => if sg3 (u.toInt - w) = sg then 1 else 0) (0 + sumN (fL9 (mlL (dd D) b a 1)) (chN (dd D) b a 1) t) else 0) t) := by rw [gL_sL, if_neg (by omega)]; exact m3
      generalize gsL M 268 25 (gL M 268 25 + 1) = M2 at *
      refine ⟨mk268 g1, ?_⟩
      rw [frm54 g2.1, gdr_some]
      refine pX7_sumIn (n := chN (dd D) b a 1) ⟨fk308 g2.1, fl308 g2.1⟩ ls2.2.2 ll1 h8 ht ?_
      have mb : ∀ x ∈ mlL (dd D) b a 1, -2000 ≤ x.toInt ∧ x.toInt ≤ 2000 := fun x hx => selN_b (ch_v ok hb ha) hx
      obtain ⟨t1, t2, t3⟩ := sJ_b (t := t) mb (chN (dd D) b a 1) (by omega) (by omega)
      have ed : (u - sJ (mlL (dd D) b a 1) t (chN (dd D) b a 1)).toInt = u.toInt - sumN (fL9 (mlL (dd D) b a 1)) (chN (dd D) b a 1) t := by rw [Int64.toInt_sub, t1, Int.bmod_eq_of_le (by omega) (by omega)]
      rw [pX7_signOf, ed, v24]
      rw [show (0 : Int) + sumN (fL9 (mlL (dd D) b a 1)) (chN (dd D) b a 1) t = sumN (fL9 (mlL (dd D) b a 1)) (chN (dd D) b a 1) t by omega] at hn
      unfold fX7_findLots_b127 fX7_findLots_b131
      rw [← nI_succ]
      by_cases cs9 : sg3 (u.toInt - sumN (fL9 (mlL (dd D) b a 1)) (chN (dd D) b a 1) t) = sg
      · rw [if_pos cs9]
        simp only [cs9, if_true] at hn
        refine ⟨mk268 g2, hn _ ⟨g2.sL (Or.inl rfl), lsM_sL ls2 (Or.inl rfl), ?_, ?_⟩⟩
        · rw [gL_sL, if_neg (by omega)]; exact v25
        · rw [gL_sL, if_pos ⟨rfl, rfl⟩, ← nJ_succ, Nat.add_assoc]
      · rw [if_neg cs9]
        simp only [cs9, if_false] at hn
        refine ⟨mk268 g2, hn _ ⟨g2.sL (Or.inl rfl), lsM_sL ls2 (Or.inl rfl), ?_, ?_⟩⟩
        · rw [gL_sL, if_neg (by omega)]; exact v25
        · rw [gL_sL, if_pos ⟨rfl, rfl⟩, Int64.add_zero, Nat.add_zero]
    · rw [if_neg fun g => ct (ek1.mp g)]
      rw [if_neg ct, if_neg ct] at hn
      exact hn M ⟨g1, ls, m2, m3⟩
theorem pX7_findLots (h : RM N D M) (ok : okD (dd D)) {b a k : Nat} (hb : b < 12) (ha : a < 12) (hk : k ≤ 9) (h9 : chN (dd D) b a 0 ≤ 9) (h8 : chN (dd D) b a 1 ≤ 9) (m : lsM D b a M) {Q : gM → Prop} (hq : ∀ M', RM N D M' → lcM D b a (lt2 (dd D) b a k) (lt1 (dd D) b a k) M' → Q M') : fX7_findLots (nI k) M Q := by
  have hp : 2 ^ chN (dd D) b a 0 ≤ 2 ^ 9 := Nat.pow_le_pow_right (by decide) h9
  have ll0 : (mlL (dd D) b a 0).length = chN (dd D) b a 0 := ml_len
  have eA := rs_cW (g := fun _ => cW (fun _ => 1) k (zL (mlL (dd D) b a 1)) 0) (f := fL9 (mlL (dd D) b a 0)) (chN (dd D) b a 0) k 0
  have eB := rs_cW (g := ltI (ltG (dd D) b a) (zL (mlL (dd D) b a 1)) k) (f := fL9 (mlL (dd D) b a 0)) (chN (dd D) b a 0) k 0
  rw [show (List.range (chN (dd D) b a 0)).map (fL9 (mlL (dd D) b a 0)) = zL (mlL (dd D) b a 0) by rw [← ll0]; exact fL9_z] at eA eB
  rw [lt1_m, lt2_m] at hq
  unfold ltAs ltAl at hq
  rw [← eA, ← eB] at hq
  unfold fX7_findLots
  refine ⟨mk268 h, ?_⟩
  have eU : gL M 268 26 * gL M 268 29 - gL M 268 28 * gL M 268 27 = upR (cnW (dd D) b a (-1)) (fs0 (dd D)) (chJ (dd D) b a) := by rw [m.1.1, m.1.2.1, m.1.2.2.1, m.1.2.2.2]; rfl
  rw [eU, pX7_signOf]
  refine ⟨mk268 h, 2 ^ chN (dd D) b a 0 + 1, ?_⟩
  have g0 : RM N D (gsL (gsL M 268 24 0) 268 25 0) := (h.sL (Or.inl rfl)).sL (Or.inl rfl)
  have ls0 : lsM D b a (gsL (gsL M 268 24 0) 268 25 0) := lsM_sL (lsM_sL m (Or.inl rfl)) (Or.inr rfl)
  refine loopN (T := 2 ^ chN (dd D) b a 0) (G := fun q s M => fX7_findLots_L35 (fun M41 => Q M41) (nI k) (ltG (dd D) b a) Q q (nI s) M) (I := fun s M => RM N D M ∧ lcM D b a (rs (fun t => if bitsN (chN (dd D) b a 0) t = k then (fun _ => cW (fun _ => 1) k (zL (mlL (dd D) b a 1)) 0) (0 + sumN (fL9 (mlL (dd D) b a 0)) (chN (dd D) b a 0) t) else 0) s) (rs (fun t => if bitsN (chN (dd D) b a 0) t = k then ltI (ltG (dd D) b a) (zL (mlL (dd D) b a 1)) k (0 + sumN (fL9 (mlL (dd D) b a 0)) (chN (dd D) b a 0) t) else 0) s) M) (fun q M hI => ?_) (fun q s M hs hI hn => ?_) (2 ^ chN (dd D) b a 0) 0 _ (by omega) ⟨g0, ls0, rfl, rfl⟩
  · obtain ⟨g1, m1⟩ := hI
    show fX7_findLots_L35 _ _ _ _ _ _ _
    unfold fX7_findLots_L35 fX7_findLots_L35s
    have w2 := m1.1.1.2.1
    rw [chN_0] at w2
    refine ⟨mk268 g1, ?_⟩
    rw [w2, nJ_i, shl_m (by omega), if_pos (nI_le (Nat.le_refl _) (by omega))]
    exact hq M g1 m1
  · obtain ⟨g1, m1⟩ := hI
    rw [rs_s, rs_s, show (0 : Int) + sumN (fL9 (mlL (dd D) b a 0)) (chN (dd D) b a 0) s = sumN (fL9 (mlL (dd D) b a 0)) (chN (dd D) b a 0) s by omega] at hn
    have w2 := m1.1.1.2.1
    rw [chN_0] at w2
    have bt : bitsN 9 s = bitsN (chN (dd D) b a 0) s := bitsN_top hs 9 h9
    have bl := bitsN_le (t := s) (chN (dd D) b a 0)
    have ek : nI (bitsN (chN (dd D) b a 0) s) = nI k ↔ bitsN (chN (dd D) b a 0) s = k := nI_eq (by omega) (by omega)
    show fX7_findLots_L35 _ _ _ _ _ _ _
    unfold fX7_findLots_L35 fX7_findLots_L35s
    refine ⟨mk268 g1, ?_⟩
    rw [w2, nJ_i, shl_m (by omega), if_neg (nI_ge (by omega) (by omega))]
    refine pX7_bits (by omega) ?_
    rw [bt]
    by_cases c : bitsN (chN (dd D) b a 0) s = k
    · rw [if_pos (ek.mpr c)]
      rw [if_pos c, if_pos c] at hn
      refine ⟨mk268 g1, ?_⟩
      rw [frm53 g1.1, gdr_some]
      refine pX7_sumIn (n := chN (dd D) b a 0) ⟨fk307 g1.1, fl307 g1.1⟩ m1.1.2.1 ll0 h9 hs ?_
      have mb : ∀ x ∈ mlL (dd D) b a 0, -2000 ≤ x.toInt ∧ x.toInt ≤ 2000 := fun x hx => selN_b (ch_v ok hb ha) hx
      obtain ⟨t1, t2, t3⟩ := sJ_b (t := s) mb (chN (dd D) b a 0) (by omega) (by omega)
      rw [← t1] at hn
      refine drm_i g1 ok hb ha hk h9 h8 (by omega) m1 fun M2 g2 m2 => ?_
      unfold fX7_findLots_b137
      rw [← nI_succ]
      exact hn M2 ⟨g2, m2⟩
    · rw [if_neg fun g => c (ek.mp g)]
      rw [if_neg c, if_neg c] at hn
      unfold fX7_findLots_b137
      rw [← nI_succ]
      exact hn M ⟨g1, m1⟩
theorem pX7_lots (h : RM N D M) (ok : okD (dd D)) {b a k w : Int32} {Q : Int64 → gM → Prop} (hq : ∀ M', RM N D M' → Q (rLot (dd D) b a k w) M') : fX7_lots b a k w M Q := by
  have h0 : RM N D (gsI M 268 0 0) := h.thr9
  unfold fX7_lots
  refine ⟨mk268 h, ?_⟩
  generalize gsI M 268 0 0 = M0 at *
  simp only [pX7_within, pX7_isWhat, gdr_some, gk_sI, gk_sL, gk_sR, gl_sI, gl_sL, gl_sR, gn_sI, gn_sL, gn_sR, gs_sI, gs_sL, gs_sR, gR_sI, gR_sL, gI_sL, gI_sR, gL_sI, gL_sR, bi_ite, bi_01, true_and, and_true]
  unfold rLot at hq
  cases q1 : in9 1 9 k
  · rw [q1] at hq; simpa using hq M0 h0
  cases q2 : in9 0 1 w
  · rw [q2] at hq; simp only [Bool.and_false, Bool.false_and, Bool.false_eq_true, if_false] at hq; simpa using hq M0 h0
  rw [q1, q2] at hq
  simp only [if_true]
  refine ⟨mk268 h0, pX7_laysLots h0 ok (fun c M1 h1 m1 => ?_) (fun c M1 h1 => ?_)⟩
  · rw [if_neg (by decide)]
    obtain ⟨z, hz1, hz9, rfl⟩ := i19 (n := 9) rfl rfl (by decide) q1
    simp only [Bool.and_eq_true] at c
    obtain ⟨i, j, hi, hj, -, rfl, rfl⟩ := arM_n c.1
    have e1 := cl_nI (k := i) (by omega)
    have e2 := cl_nI (k := j) (by omega)
    have e3 := cl_nI (k := z) (by omega)
    rw [e1, e2] at c m1
    rw [e1, e2, e3, c.1, c.2] at hq
    simp only [Bool.and_self, Bool.true_and] at hq
    obtain ⟨h9, h8⟩ := ltC_9 c.2
    have w2 := m1.1.2.1
    have w4 := m1.1.2.2.2
    rw [chN_0] at w2
    rw [chN_1 ok] at w4
    have no : ¬ (z ≤ chN (dd D) i j 0 ∧ z ≤ chN (dd D) i j 1) → Q (-1) M1 := by
      intro g
      rw [if_neg (by simp only [Bool.and_eq_true, decide_eq_true_eq]; exact g)] at hq
      exact hq M1 h1
    refine ⟨mk268 h1, ?_⟩
    rw [w2, w4, nI_J (by omega)]
    have l0 : 0 < lg_cmp (nJ z) (nJ (chN (dd D) i j 0)) ↔ ¬ z ≤ chN (dd D) i j 0 := by rw [lg_cmp_gt, Int64.lt_iff_toInt_lt, nJ_toInt (by omega), nJ_toInt (by omega)]; omega
    have l1 : lg_cmp (nJ z) (nJ (chN (dd D) i j 1)) ≤ 0 ↔ z ≤ chN (dd D) i j 1 := by rw [lg_cmp_le, Int64.le_iff_toInt_le, nJ_toInt (by omega), nJ_toInt (by omega)]; omega
    by_cases c0 : z ≤ chN (dd D) i j 0
    · rw [if_neg fun g => (l0.mp g) c0]
      by_cases c1 : z ≤ chN (dd D) i j 1
      · rw [if_pos (l1.mpr c1)]
        refine pX7_findLots h1 ok hi hj (by omega) h9 h8 m1 fun M2 h2 m2 => ⟨mk268 h2, ?_⟩
        obtain ⟨b1, b2⟩ := lt_ok (k := z) c.2
        have p := lt_pos (d := dd D) c0 c1
        simp only [c0, c1, decide_true, Bool.and_self, if_true] at hq
        exact pX7_lowest h2 (up := nJ (lt1 (dd D) i j z)) (dn := nJ (lt2 (dd D) i j z)) ⟨m2.2.2, m2.2.1⟩ (ne_min (by rw [nJ_toInt (by omega)]; omega)) (by rw [nJ_toInt (by omega)]; omega) (by rw [nJ_toInt (by omega)]; omega) (hq M2 h2)
      · rw [if_neg fun g => c1 (l1.mp g)]; exact no (by omega)
    · rw [if_pos (l0.mpr c0)]; exact no (by omega)
  · rw [if_pos rfl]
    have hq := hq M1 h1
    have e : (in9 1 9 k && in9 0 1 w && arM b a && ltC (dd D) (cl b) (cl a)) = false := by rw [q1, q2]; simpa using c
    rw [q1, q2] at e
    simp only [e, Bool.false_and, Bool.false_eq_true, if_false] at hq
    exact hq
theorem pX7_needed (h : RM N D M) (ok : okD (dd D)) {b a p : Int32} {Q : Int32 → gM → Prop} (hq : ∀ M', RM N D M' → Q (rNee (dd D) b a p) M') : fX7_needed b a p M Q := by
  have h0 : RM N D (gsI M 268 0 0) := h.thr9
  unfold fX7_needed
  refine ⟨mk268 h, ?_⟩
  generalize gsI M 268 0 0 = M0 at *
  simp only [pX7_within, gdr_some, gk_sI, gk_sL, gk_sR, gl_sI, gl_sL, gl_sR, gn_sI, gn_sL, gn_sR, gs_sI, gs_sL, gs_sR, gR_sI, gR_sL, gI_sL, gI_sR, gL_sI, gL_sR, bi_ite, bi_01, true_and, and_true]
  unfold rNee at hq
  cases q1 : in9 1 100 p
  · rw [q1] at hq; simpa using hq M0 h0
  rw [q1] at hq
  simp only [if_true]
  refine ⟨mk268 h0, pX7_laysLots h0 ok (fun c M1 h1 m1 => ?_) (fun c M1 h1 => ?_)⟩
  · rw [if_neg (by decide)]
    simp only [Bool.and_eq_true] at c
    obtain ⟨i, j, hi, hj, -, rfl, rfl⟩ := arM_n c.1
    have e1 := cl_nI (k := i) (by omega)
    have e2 := cl_nI (k := j) (by omega)
    rw [e1, e2] at c m1
    rw [e1, e2, c.1, c.2] at hq
    simp only [Bool.and_self, if_true] at hq
    obtain ⟨h9, h8⟩ := ltC_9 c.2
    have hm : ndM (dd D) i j ≤ 9 := by unfold ndM; split <;> omega
    have key : ∀ (f k : Nat) (M1 : gM), 1 ≤ k → k + f = ndM (dd D) i j + 1 → RM N D M1 → lsM D i j M1 → (∀ M', RM N D M' → Q (ndS (ndP (dd D) i j p) f k) M') → fX7_needed_L29 (fun l4_18 M19 => Q l4_18 M19) (fun M20 => Q (-1) M20) p Q (f + 1) (nI k) M1 := by
      intro f
      have hd : ∀ k, k ≤ 10 → (0 < lg_cmp (nI k).toInt64 (nJ (chN (dd D) i j 0)) ↔ ¬ k ≤ chN (dd D) i j 0) := fun k hk => by rw [nI_J (by omega), lg_cmp_gt, Int64.lt_iff_toInt_lt, nJ_toInt (by omega), nJ_toInt (by omega)]; omega
      have hd1 : ∀ k, k ≤ 10 → (0 < lg_cmp (nI k).toInt64 (nJ (chN (dd D) i j 1)) ↔ ¬ k ≤ chN (dd D) i j 1) := fun k hk => by rw [nI_J (by omega), lg_cmp_gt, Int64.lt_iff_toInt_lt, nJ_toInt (by omega), nJ_toInt (by omega)]; omega
      have gm : ∀ k, (k ≤ ndM (dd D) i j ↔ k ≤ chN (dd D) i j 0 ∧ k ≤ chN (dd D) i j 1) := fun k => by unfold ndM; split <;> omega
      induction f with
      | zero =>
        intro k M1 hk1 hk h1 m1 hq
        have w2 := m1.1.2.1
        have w4 := m1.1.2.2.2
        rw [chN_0] at w2
        rw [chN_1 ok] at w4
        show fX7_needed_L29s _ _ _ _ _ _ Q
        unfold fX7_needed_L29s
        refine ⟨mk268 h1, ?_⟩
        rw [w2, w4]
        have ng : ¬ (k ≤ chN (dd D) i j 0 ∧ k ≤ chN (dd D) i j 1) := fun g => by have := (gm k).mpr g; omega
        by_cases c0 : k ≤ chN (dd D) i j 0
        · rw [if_neg fun g => ((hd k (by omega)).mp g) c0, if_pos ((hd1 k (by omega)).mpr fun g => ng ⟨c0, g⟩)]
          exact hq M1 h1
        · rw [if_pos ((hd k (by omega)).mpr c0)]
          exact hq M1 h1
      | succ f ih =>
        intro k M1 hk1 hk h1 m1 hq
        have w2 := m1.1.2.1
        have w4 := m1.1.2.2.2
        rw [chN_0] at w2
        rw [chN_1 ok] at w4
        have g0 := (gm k).mp (by omega)
        show fX7_needed_L29s _ _ _ _ _ _ Q
        unfold fX7_needed_L29s
        refine ⟨mk268 h1, ?_⟩
        rw [w2, w4, if_neg fun g => ((hd k (by omega)).mp g) g0.1, if_neg fun g => ((hd1 k (by omega)).mp g) g0.2]
        refine pX7_findLots h1 ok hi hj (by omega) h9 h8 m1 fun M2 h2 m2 => ⟨mk268 h2, ?_⟩
        rw [m2.2.1, m2.2.2]
        unfold ndS ndP at hq
        by_cases cc : 100 * nJ (lt1 (dd D) i j k) < p.toInt64 * nJ (lt2 (dd D) i j k)
        · rw [if_pos ((lg_cmp_lt _ _).mpr cc), ← nI_succ]
          simp only [cc, not_true_eq_false, decide_false, Bool.false_eq_true, if_false] at hq
          exact ih (k + 1) M2 (by omega) (by omega) h2 m2.1 hq
        · rw [if_neg fun g => cc ((lg_cmp_lt _ _).mp g)]
          simp only [cc, not_false_eq_true, decide_true, if_true] at hq
          exact hq M2 h2
    exact ⟨_, key (ndM (dd D) i j) 1 M1 (by omega) (by omega) h1 m1 hq⟩
  · rw [if_pos rfl]
    have hq := hq M1 h1
    have e : (in9 1 100 p && arM b a && ltC (dd D) (cl b) (cl a)) = false := by rw [q1]; simpa using c
    rw [q1] at e
    simp only [e, Bool.false_eq_true, if_false] at hq
    exact hq
end
