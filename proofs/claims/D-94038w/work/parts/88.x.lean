/-! drawing from a row: counts over subsets -/
set_option maxRecDepth 100000
/-- g summed over all ways to draw j of l, s what is drawn before -/
def cW (g : Int → Nat) : Nat → List Int → Int → Nat
  | 0, _, s => g s
  | _ + 1, [], _ => 0
  | j + 1, x :: t, s => cW g j t (s + x) + cW g (j + 1) t s
theorem cW_0 {g : Int → Nat} {l : List Int} {s : Int} : cW g 0 l s = g s := by cases l <;> rfl
theorem cW_snoc {g : Int → Nat} {x : Int} : ∀ (l : List Int) (j : Nat) (s : Int), cW g (j + 1) (l ++ [x]) s = cW g (j + 1) l s + cW g j l (s + x) := by
  intro l
  induction l with
  | nil =>
    intro j s
    show cW g j [] (s + x) + 0 = 0 + cW g j [] (s + x)
    omega
  | cons y t ih =>
    intro j s
    show cW g j (t ++ [x]) (s + y) + cW g (j + 1) (t ++ [x]) s = cW g j t (s + y) + cW g (j + 1) t s + cW g j (y :: t) (s + x)
    rw [ih j s]
    cases j with
    | zero =>
      simp only [cW_0]
      omega
    | succ j =>
      rw [ih j (s + y)]
      show _ = _ + (cW g j t (s + x + y) + cW g (j + 1) t (s + x))
      have e : s + y + x = s + x + y := by omega
      rw [e]
      omega
theorem cW_perm {g : Int → Nat} {l1 l2 : List Int} (h : l1.Perm l2) : ∀ (j : Nat) (s : Int), cW g j l1 s = cW g j l2 s := by
  induction h with
  | nil => intro j s; rfl
  | cons x _ ih =>
    intro j s
    cases j with
    | zero => rw [cW_0, cW_0]
    | succ j =>
      show cW g j _ (s + x) + cW g (j + 1) _ s = cW g j _ (s + x) + cW g (j + 1) _ s
      rw [ih, ih]
  | swap x y l =>
    intro j s
    cases j with
    | zero => rw [cW_0, cW_0]
    | succ j =>
      cases j with
      | zero =>
        show cW g 0 (x :: l) (s + y) + (cW g 0 l (s + x) + cW g 1 l s) = cW g 0 (y :: l) (s + x) + (cW g 0 l (s + y) + cW g 1 l s)
        simp only [cW_0]
        omega
      | succ j =>
        show (cW g j l (s + y + x) + cW g (j + 1) l (s + y)) + (cW g (j + 1) l (s + x) + cW g (j + 2) l s) = (cW g j l (s + x + y) + cW g (j + 1) l (s + x)) + (cW g (j + 1) l (s + y) + cW g (j + 2) l s)
        have e : s + y + x = s + x + y := by omega
        rw [e]
        omega
  | trans _ _ ih1 ih2 => intro j s; rw [ih1, ih2]
theorem cW_short {g : Int → Nat} : ∀ (l : List Int) (j : Nat) (s : Int), l.length < j → cW g j l s = 0 := by
  intro l
  induction l with
  | nil => intro j s h; cases j with
    | zero => simp at h
    | succ j => rfl
  | cons x t ih =>
    intro j s h
    cases j with
    | zero => simp at h
    | succ j =>
      show cW g j t (s + x) + cW g (j + 1) t s = 0
      have : t.length < j := by simpa using h
      rw [ih j _ this, ih (j + 1) _ (by omega)]
theorem cW_pos : ∀ (l : List Int) (j : Nat) (s : Int), j ≤ l.length → 0 < cW (fun _ => 1) j l s := by
  intro l
  induction l with
  | nil => intro j s h; have : j = 0 := by simpa using h
           subst this; exact Nat.one_pos
  | cons x t ih =>
    intro j s h
    cases j with
    | zero => exact Nat.one_pos
    | succ j =>
      have := ih j (s + x) (by simpa using h)
      show 0 < cW _ j t (s + x) + _
      omega
theorem cW_le {g h : Int → Nat} (q : ∀ s, g s ≤ h s) : ∀ (l : List Int) (j : Nat) (s : Int), cW g j l s ≤ cW h j l s := by
  intro l
  induction l with
  | nil => intro j s; cases j with
    | zero => exact q s
    | succ j => exact Nat.le_refl _
  | cons x t ih =>
    intro j s
    cases j with
    | zero => exact q s
    | succ j => exact Nat.add_le_add (ih j _) (ih (j + 1) _)
theorem cW_2 {B : Nat} {g : Int → Nat} (q : ∀ s, g s ≤ B) : ∀ (l : List Int) (j : Nat) (s : Int), cW g j l s ≤ B * 2 ^ l.length := by
  intro l
  induction l with
  | nil => intro j s; cases j with
    | zero => have := q s; simpa [cW_0] using this
    | succ j => exact Nat.zero_le _
  | cons x t ih =>
    intro j s
    cases j with
    | zero =>
      rw [cW_0]
      have h1 := q s
      have h2 : B * 1 ≤ B * 2 ^ (x :: t).length := Nat.mul_le_mul_left _ (Nat.one_le_two_pow)
      omega
    | succ j =>
      have h1 := ih j (s + x)
      have h2 := ih (j + 1) s
      show cW g j t (s + x) + cW g (j + 1) t s ≤ B * 2 ^ (t.length + 1)
      rw [Nat.pow_succ, ← Nat.mul_assoc]
      omega
theorem cW_congr {g h : Int → Nat} (P : Int → Prop) : ∀ (l : List Int) (j : Nat) (s : Int), (∀ u : Int, P u → g u = h u) → (∀ (t : List Int), t.Sublist l → P (s + t.sum)) → cW g j l s = cW h j l s := by
  intro l
  induction l with
  | nil =>
    intro j s hg hP
    cases j with
    | zero => have := hP [] (List.Sublist.refl _); rw [cW_0, cW_0]; exact hg s (by simpa using this)
    | succ j => rfl
  | cons x t ih =>
    intro j s hg hP
    cases j with
    | zero => have := hP [] (List.nil_sublist _); rw [cW_0, cW_0]; exact hg s (by simpa using this)
    | succ j =>
      show cW g j t (s + x) + cW g (j + 1) t s = cW h j t (s + x) + cW h (j + 1) t s
      rw [ih j (s + x) hg (fun u hu => by
        have := hP (x :: u) (hu.cons_cons x)
        rw [List.sum_cons] at this
        rw [show s + x + u.sum = s + (x + u.sum) by omega]
        exact this), ih (j + 1) s hg (fun u hu => hP u (hu.cons x))]
/-! by sets of bits -/
def bitsN : Nat → Nat → Nat
  | 0, _ => 0
  | i + 1, t => bitsN i t + t / 2 ^ i % 2
def sumN (f : Nat → Int) : Nat → Nat → Int
  | 0, _ => 0
  | i + 1, t => sumN f i t + if t / 2 ^ i % 2 = 1 then f i else 0
def rs (h : Nat → Nat) : Nat → Nat
  | 0 => 0
  | t + 1 => rs h t + h t
theorem rs_add {h : Nat → Nat} {a : Nat} : ∀ b, rs h (a + b) = rs h a + rs (fun t => h (a + t)) b := by
  intro b
  induction b with
  | zero => rfl
  | succ b ih =>
    show rs h (a + b) + h (a + b) = rs h a + (rs (fun t => h (a + t)) b + h (a + b))
    omega
theorem rs_congr {h g : Nat → Nat} : ∀ n, (∀ t, t < n → h t = g t) → rs h n = rs g n := by
  intro n
  induction n with
  | zero => intro _; rfl
  | succ n ih =>
    intro q
    show rs h n + h n = rs g n + g n
    rw [ih fun t ht => q t (by omega), q n (by omega)]
theorem bit_hi {i q t : Nat} (hq : q < i) : (2 ^ i + t) / 2 ^ q % 2 = t / 2 ^ q % 2 := by
  have e : 2 ^ i = 2 ^ q * (2 * 2 ^ (i - q - 1)) := by
    rw [← Nat.pow_succ', ← Nat.pow_add]
    congr 1
    omega
  rw [e, Nat.mul_add_div (Nat.two_pow_pos q), Nat.mul_add_mod]
theorem bitsN_hi {i t : Nat} : ∀ q, q ≤ i → bitsN q (2 ^ i + t) = bitsN q t := by
  intro q
  induction q with
  | zero => intro _; rfl
  | succ q ih =>
    intro hq
    show bitsN q (2 ^ i + t) + (2 ^ i + t) / 2 ^ q % 2 = bitsN q t + t / 2 ^ q % 2
    rw [ih (by omega), bit_hi (by omega)]
theorem sumN_hi {f : Nat → Int} {i t : Nat} : ∀ q, q ≤ i → sumN f q (2 ^ i + t) = sumN f q t := by
  intro q
  induction q with
  | zero => intro _; rfl
  | succ q ih =>
    intro hq
    show sumN f q (2 ^ i + t) + (if (2 ^ i + t) / 2 ^ q % 2 = 1 then f q else 0) = sumN f q t + (if t / 2 ^ q % 2 = 1 then f q else 0)
    rw [ih (by omega), bit_hi (by omega)]
/-- all sets, by their bits -/
theorem rs_cW {g : Int → Nat} {f : Nat → Int} : ∀ (i j : Nat) (s : Int), rs (fun t => if bitsN i t = j then g (s + sumN f i t) else 0) (2 ^ i) = cW g j ((List.range i).map f) s := by
  intro i
  induction i with
  | zero =>
    intro j s
    show 0 + (if 0 = j then g (s + 0) else 0) = cW g j [] s
    cases j with
    | zero => rw [if_pos rfl, cW_0]; simp
    | succ j => rw [if_neg (by omega)]; rfl
  | succ i ih =>
    intro j s
    rw [show 2 ^ (i + 1) = 2 ^ i + 2 ^ i by rw [Nat.pow_succ]; omega, rs_add]
    have e1 : rs (fun t => if bitsN (i + 1) t = j then g (s + sumN f (i + 1) t) else 0) (2 ^ i) = cW g j ((List.range i).map f) s := by
      rw [← ih j s]
      refine rs_congr _ fun t ht => ?_
      have b : t / 2 ^ i % 2 = 0 := by rw [Nat.div_eq_of_lt ht]
      have e3 : bitsN (i + 1) t = bitsN i t := by show bitsN i t + t / 2 ^ i % 2 = _; omega
      have e4 : sumN f (i + 1) t = sumN f i t := by show sumN f i t + (if t / 2 ^ i % 2 = 1 then f i else 0) = _; rw [if_neg (by omega)]; simp
      rw [e3, e4]
    have e2 : rs (fun t => if bitsN (i + 1) (2 ^ i + t) = j then g (s + sumN f (i + 1) (2 ^ i + t)) else 0) (2 ^ i) = rs (fun t => if bitsN i t + 1 = j then g (s + f i + sumN f i t) else 0) (2 ^ i) := by
      refine rs_congr _ fun t ht => ?_
      have b : (2 ^ i + t) / 2 ^ i % 2 = 1 := by
        rw [Nat.add_div_left _ (Nat.two_pow_pos i), Nat.div_eq_of_lt ht]
      have e3 : bitsN (i + 1) (2 ^ i + t) = bitsN i t + 1 := by show bitsN i (2 ^ i + t) + (2 ^ i + t) / 2 ^ i % 2 = _; rw [b, bitsN_hi i (Nat.le_refl _)]
      have e4 : sumN f (i + 1) (2 ^ i + t) = sumN f i t + f i := by show sumN f i (2 ^ i + t) + (if (2 ^ i + t) / 2 ^ i % 2 = 1 then f i else 0) = _; rw [if_pos b, sumN_hi i (Nat.le_refl _)]
      rw [e3, e4, show s + (sumN f i t + f i) = s + f i + sumN f i t by omega]
    rw [e1, e2, List.range_succ, List.map_append]
    show _ = cW g j ((List.range i).map f ++ [f i]) s
    cases j with
    | zero =>
      rw [cW_0, cW_0]
      have : rs (fun t => if bitsN i t + 1 = 0 then g (s + f i + sumN f i t) else 0) (2 ^ i) = 0 := by
        generalize 2 ^ i = T
        induction T with
        | zero => rfl
        | succ T ih2 => show rs _ T + _ = 0; rw [ih2]; simp
      rw [this]; omega
    | succ j =>
      rw [cW_snoc, ← ih j (s + f i)]
      congr 1
      refine rs_congr _ fun t ht => ?_
      by_cases e : bitsN i t = j
      · rw [if_pos (by omega), if_pos e]
      · rw [if_neg (by omega), if_neg e]
/-! op: odds, in x -/
set_option maxRecDepth 100000
def odS (d : Nat → Nat → Nat → Int32) (b a k : Nat) : Bool := cnt d k b a
def odL (d : Nat → Nat → Nat → Int32) (b a : Nat) : List Int32 := selN (odS d b a) (fun k => chg d k b a) 24
def zL (L : List Int32) : List Int := L.map Int32.toInt
def odP (z n : Nat) (T : Int) (far : Nat) (s : Int) : Nat := if far ≤ (s * ((n : Int) - z) - (T - s) * z).natAbs then 1 else 0
/-- those of the first bank; of both -/
def odN (d : Nat → Nat → Nat → Int32) (b a : Nat) : Nat := cn (fun k => cnW d b a (-1) k && fs0 d k) 24
def odT (d : Nat → Nat → Nat → Int32) (b a : Nat) : Int64 := cs (fun k => cnW d b a (-1) k && fs0 d k) (chJ d b a) 24 + cs (fun k => cnW d b a (-1) k && !fs0 d k) (chJ d b a) 24
def odF (d : Nat → Nat → Nat → Int32) (b a : Nat) : Nat := (upR (cnW d b a (-1)) (fs0 d) (chJ d b a)).toInt.natAbs
def odA (d : Nat → Nat → Nat → Int32) (b a : Nat) : Nat := cW (fun _ => 1) (odN d b a) (zL (odL d b a)) 0
def odB (d : Nat → Nat → Nat → Int32) (b a : Nat) : Nat := cW (odP (odN d b a) (odL d b a).length (odT d b a).toInt (odF d b a)) (odN d b a) (zL (odL d b a)) 0
def rOdd (d : Nat → Nat → Nat → Int32) (b a what : Int32) : Int64 := if (arM b a && in9 0 1 what && thr (cnW d (cl b) (cl a) (-1)) (fs0 d) && decide ((odL d (cl b) (cl a)).length ≤ 14)) = true then low (nJ (odB d (cl b) (cl a))) (nJ (odA d (cl b) (cl a))) what else -1
theorem cn_split {s t : Nat → Bool} : ∀ n, cn s n = cn (fun k => s k && t k) n + cn (fun k => s k && !t k) n := by
  intro n
  induction n with
  | zero => rfl
  | succ n ih =>
    unfold cn
    cases s n <;> cases t n <;> simp <;> omega
theorem odL_len {d : Nat → Nat → Nat → Int32} {b a : Nat} : (odL d b a).length = odN d b a + cn (fun k => cnW d b a (-1) k && !fs0 d k) 24 := by
  have e : cn (odS d b a) 24 = cn (cnW d b a (-1)) 24 := cn_ext 24 fun k hk => by
    have z : nI k ≠ -1 := nI_ne1 hk
    simp [odS, cnW, z]
  unfold odL odN
  rw [selN_len, e]
  exact cn_split 24
theorem zL_drop {L : List Int32} {k : Nat} (h : k < L.length) : (zL L).drop k = (L.getD k 0).toInt :: (zL L).drop (k + 1) := by
  unfold zL
  rw [List.drop_eq_getElem_cons (by simpa using h), List.getElem_map, List.getD_eq_getElem?_getD, List.getElem?_eq_getElem h]
  rfl
theorem J_abs9 {x : Int64} {far : Nat} (h1 : -(2 ^ 40) ≤ x.toInt) (h2 : x.toInt ≤ 2 ^ 40) (hf : far < 2 ^ 40) : lg_cmp (ab9 x) (nJ far) < 0 ↔ ¬ far ≤ x.toInt.natAbs := by
  rw [lg_cmp_lt, Int64.lt_iff_toInt_lt, ab9_nJ (ne_min (by omega)), nJ_toInt (by omega), nJ_toInt (by omega)]
  omega
theorem od_v {s T : Int64} {z n : Nat} (hz : z ≤ n) (hn : n ≤ 14) (hs : -28000 ≤ s.toInt ∧ s.toInt ≤ 28000) (hT : -100000 ≤ T.toInt ∧ T.toInt ≤ 100000) {a c : Int64} (ha : a.toInt = (n : Int) - z) (hc : c.toInt = z) : (s * a - (T - s) * c).toInt = s.toInt * ((n : Int) - z) - (T.toInt - s.toInt) * z ∧ -(2 ^ 40) ≤ s.toInt * ((n : Int) - z) - (T.toInt - s.toInt) * z ∧ s.toInt * ((n : Int) - z) - (T.toInt - s.toInt) * z ≤ 2 ^ 40 := by
  have e1 : (T - s).toInt = T.toInt - s.toInt := by rw [Int64.toInt_sub, Int.bmod_eq_of_le (by omega) (by omega)]
  obtain ⟨m1, m2, m3⟩ := J_mul (x := s) (y := a) (A := 28000) (B := 14) (by omega) (by omega) (by decide) (by omega) (by omega) (by omega) (by omega)
  obtain ⟨n1, n2, n3⟩ := J_mul (x := T - s) (y := c) (A := 128000) (B := 14) (by omega) (by omega) (by decide) (by omega) (by omega) (by omega) (by omega)
  rw [ha] at m1 m2 m3
  rw [hc, e1] at n1 n2 n3
  refine ⟨?_, by omega, by omega⟩
  rw [Int64.toInt_sub, m1, n1, Int.bmod_eq_of_le (by omega) (by omega)]
section
variable {N M : gM} {n0 a9 : Nat} {D : gD}
/-- the counters stand so -/
def dSt (L : List Int32) (far A B : Nat) (M : gM) : Prop := arr 30 L M ∧ gL M 16 14 = nJ far ∧ gI M 16 15 = nI A ∧ gL M 16 13 = nJ B
theorem dlx {L : List Int32} {n z far : Nat} {T : Int64} (hL : L.length = n) (hn : n ≤ 14) (hz : z ≤ n) (hb : ∀ x ∈ L, -2000 ≤ x.toInt ∧ x.toInt ≤ 2000) (hT : -100000 ≤ T.toInt ∧ T.toInt ≤ 100000) (hf : far < 2 ^ 40) : ∀ (left fr : Nat) (s : Int64) (M : gM) (A B : Nat) (Q : gM → Prop), fr + left ≤ n → -(2000 * fr) ≤ s.toInt → s.toInt ≤ 2000 * fr → RX N n0 a9 D M → dSt L far A B M →
    (∀ M', RX N n0 a9 D M' → dSt L far (A + cW (fun _ => 1) left ((zL L).drop fr) s.toInt) (B + cW (odP z n T.toInt far) left ((zL L).drop fr) s.toInt) M' → Q M') → fX1_deals (left + 1) (nI fr) (nI left) s (nI z) (nI n) T M Q := by
  intro left
  induction left with
  | zero =>
    intro fr s M A B Q hfr s1 s2 h m hq
    obtain ⟨m1, m2, m3, m4⟩ := m
    simp only [cW_0] at hq
    show fX1_deals_s _ _ _ _ _ _ _ _ _
    unfold fX1_deals_s
    rw [if_pos (by decide)]
    refine ⟨xk16 h, ?_⟩
    rw [pJ0_abs]
    have ez : (nI z).toInt64.toInt = z := by rw [Int32.toInt_toInt64, nI_toInt (by omega)]
    have en : (nI n - nI z).toInt64.toInt = (n : Int) - z := by rw [Int32.toInt_toInt64, pk_sub hz, nI_toInt (by omega)]; omega
    obtain ⟨v1, v2, v3⟩ := od_v (s := s) (T := T) hz hn (by omega) hT en ez
    have hx : RX N n0 a9 D (gsI M 16 15 (gI M 16 15 + 1)) := h.sI (by unfold xScr; omega) (by omega)
    refine ⟨xk16 hx, ?_⟩
    have ec := J_abs9 (x := s * (nI n - nI z).toInt64 - (T - s) * (nI z).toInt64) (far := far) (by omega) (by omega) hf
    rw [v1] at ec
    have e15 : gI (gsI M 16 15 (gI M 16 15 + 1)) 16 15 = nI (A + 1) := by rw [gI_sI, if_pos ⟨rfl, rfl⟩, m3, ← nI_succ]
    have ea : arr 30 L (gsI M 16 15 (gI M 16 15 + 1)) := fun i hi => by rw [gI_sI, if_neg (by omega)]; exact m1 i hi
    rw [show gL (gsI M 16 15 (gI M 16 15 + 1)) 16 14 = nJ far from m2]
    unfold odP at hq
    by_cases c : far ≤ (s.toInt * ((n : Int) - z) - (T.toInt - s.toInt) * z).natAbs
    · rw [if_neg fun q => (ec.mp q) c]
      rw [if_pos c] at hq
      refine hq _ (hx.sL (by omega)) ⟨ea, ?_, e15, ?_⟩
      · rw [gL_sL, if_neg (by omega)]; exact m2
      · rw [gL_sL, if_pos ⟨rfl, rfl⟩, show gL (gsI M 16 15 (gI M 16 15 + 1)) 16 13 = nJ B from m4, ← nJ_succ]
    · rw [if_pos (ec.mpr c)]
      rw [if_neg c] at hq
      exact hq _ hx ⟨ea, m2, e15, m4⟩
  | succ left ih =>
    intro fr s M A B Q hfr s1 s2 h m hq
    show fX1_deals_s (fX1_deals (left + 1)) _ _ _ _ _ _ _ _
    unfold fX1_deals_s
    rw [if_neg (by rw [nI_z (by omega)]; omega)]
    refine ⟨n - left - fr + 1, ?_⟩
    refine loopN (T := n - left - fr) (G := fun q i M => fX1_deals_L56 (fX1_deals (left + 1)) (fun M16 => Q M16) (nI (left + 1)) s (nI z) (nI n) T Q q (nI (fr + i)) M) (I := fun i M => RX N n0 a9 D M ∧ ∃ A' B', dSt L far A' B' M ∧ A' + cW (fun _ => 1) (left + 1) ((zL L).drop (fr + i)) s.toInt = A + cW (fun _ => 1) (left + 1) ((zL L).drop fr) s.toInt ∧ B' + cW (odP z n T.toInt far) (left + 1) ((zL L).drop (fr + i)) s.toInt = B + cW (odP z n T.toInt far) (left + 1) ((zL L).drop fr) s.toInt) (fun q M hI => ?_) (fun q i M hi hI hn9 => ?_) (n - left - fr) 0 M (by omega) ⟨h, A, B, m, rfl, rfl⟩
    · obtain ⟨h1, A', B', m1, eA, eB⟩ := hI
      have sh : ((zL L).drop (fr + (n - left - fr))).length < left + 1 := by
        rw [List.length_drop]
        show (L.map Int32.toInt).length - _ < _
        rw [List.length_map]
        omega
      rw [cW_short _ _ _ sh] at eA eB
      show fX1_deals_L56 _ _ _ _ _ _ _ _ _ _ _
      unfold fX1_deals_L56 fX1_deals_L56s
      rw [pk_sub (by omega), if_pos (nI_lt (by omega) (by omega))]
      refine hq M h1 ?_
      rw [← eA, ← eB]
      exact m1
    · obtain ⟨h1, A', B', m1, eA, eB⟩ := hI
      have hk : fr + i < L.length := by omega
      have hk24 : fr + i < 24 := by omega
      show fX1_deals_L56 _ _ _ _ _ _ _ _ _ _ _
      unfold fX1_deals_L56 fX1_deals_L56s
      rw [pk_sub (by omega), if_neg (nI_nlt (by omega) (by omega))]
      simp only [xk16 h1, xk17 h1, xl17 h1, xr0 h1, xr10 h1, xr11 h1, xk28 h1, xk29 h1, xten h1, xby h1, xk16 h1, frx12 h1.1, fk30 h1.1, fl30 h1.1, vp_in_nI hk24 (N := 24) (by decide), nI_clamp (Nat.lt_trans hk24 (by decide : 24 < 2 ^ 31)), gdr_some, gk_sI, gk_sL, gk_sR, gl_sI, gl_sL, gl_sR, gn_sI, gn_sL, gn_sR, gs_sI, gs_sL, gs_sR, gR_sI, gR_sL, gI_sL, gI_sR, gL_sI, gL_sR, bi_ite, bi_01, true_and, and_true, ← nI_succ, nI_pred]
      rw [m1.1 _ hk]
      have xb := hb _ (getD_mem9 hk)
      have es : (s + (L.getD (fr + i) 0).toInt64).toInt = s.toInt + (L.getD (fr + i) 0).toInt := by rw [Int64.toInt_add, Int32.toInt_toInt64, Int.bmod_eq_of_le (by omega) (by omega)]
      have cA : ∀ g : Int → Nat, cW g (left + 1) ((zL L).drop (fr + i)) s.toInt = cW g left ((zL L).drop (fr + i + 1)) (s.toInt + (L.getD (fr + i) 0).toInt) + cW g (left + 1) ((zL L).drop (fr + i + 1)) s.toInt := fun g => by rw [zL_drop hk]; rfl
      rw [cA] at eA eB
      refine ih (fr + i + 1) _ M A' B' _ (by omega) (by rw [es]; omega) (by rw [es]; omega) h1 m1 fun M2 h2 m2 => ?_
      rw [es] at m2
      refine hn9 M2 ⟨h2, _, _, m2, ?_, ?_⟩
      · rw [← eA, show fr + (i + 1) = fr + i + 1 by omega]; omega
      · rw [← eB, show fr + (i + 1) = fr + i + 1 by omega]; omega
end
/-! op: odds, x's and m's -/
set_option maxRecDepth 100000
theorem selN_t {sel : Nat → Bool} {v : Nat → Int32} {n : Nat} (h : sel n = true) : selN sel v (n + 1) = selN sel v n ++ [v n] := by
  show (if sel n = true then _ else _) = _
  rw [if_pos h]
theorem selN_f {sel : Nat → Bool} {v : Nat → Int32} {n : Nat} (h : sel n = false) : selN sel v (n + 1) = selN sel v n := by
  show (if sel n = true then _ else _) = _
  rw [h]; rfl
theorem arr_snoc {c : Nat} {L : List Int32} {v : Int32} {M : gM} (h : arr c L M) : arr c (L ++ [v]) (gsI M c L.length v) := by
  intro i hi
  rw [List.length_append] at hi
  have hi : i < L.length + 1 := hi
  rw [gI_sI, List.getD_eq_getElem?_getD]
  by_cases e : i = L.length
  · rw [if_pos ⟨rfl, e⟩, e]; simp
  · rw [if_neg (by omega), List.getElem?_append_left (by omega), ← List.getD_eq_getElem?_getD]
    exact h i (by omega)
theorem selN_b {sel : Nat → Bool} {v : Nat → Int32} {n : Nat} (hb : ∀ k, k < n → -2000 ≤ (v k).toInt ∧ (v k).toInt ≤ 2000) {x : Int32} (hx : x ∈ selN sel v n) : -2000 ≤ x.toInt ∧ x.toInt ≤ 2000 := by
  induction n with
  | zero => exact absurd hx (by simp [selN])
  | succ n ih =>
    unfold selN at hx
    split at hx
    · rcases List.mem_append.mp hx with q | q
      · exact ih (fun k hk => hb k (by omega)) q
      · rw [List.mem_singleton.mp q]; exact hb n (by omega)
    · exact ih (fun k hk => hb k (by omega)) hx
theorem odT_b {d : Nat → Nat → Nat → Int32} (ok : okD d) {b a : Nat} (hb : b < 12) (ha : a < 12) : -100000 ≤ (odT d b a).toInt ∧ (odT d b a).toInt ≤ 100000 := by
  have a1 := cs_b (sel := fun k => cnW d b a (-1) k && fs0 d k) (v := chJ d b a) (B := 1980) (by decide) (by decide) (chJ_b ok hb ha) 24 (Nat.le_refl _)
  have a2 := cs_b (sel := fun k => cnW d b a (-1) k && !fs0 d k) (v := chJ d b a) (B := 1980) (by decide) (by decide) (chJ_b ok hb ha) 24 (Nat.le_refl _)
  unfold odT
  rw [Int64.toInt_add, Int.bmod_eq_of_le (by omega) (by omega)]
  omega
theorem odF_b {d : Nat → Nat → Nat → Int32} (ok : okD d) {b a : Nat} (hb : b < 12) (ha : a < 12) : odF d b a < 2 ^ 40 ∧ upR (cnW d b a (-1)) (fs0 d) (chJ d b a) ≠ Int64.minValue := by
  have h1 := upR_b (sel := cnW d b a (-1)) (fst := fs0 d) (v := chJ d b a) (B := 1980) (by decide) (by decide) (chJ_b ok hb ha)
  unfold odF
  exact ⟨by omega, ne_min (by omega)⟩
theorem odAB {d : Nat → Nat → Nat → Int32} {b a : Nat} (hn : (odL d b a).length ≤ 14) : 0 < odA d b a ∧ odA d b a ≤ 16384 ∧ odB d b a ≤ 16384 := by
  have hl := odL_len (d := d) (b := b) (a := a)
  have e : (zL (odL d b a)).length = (odL d b a).length := List.length_map _
  have p : 2 ^ (zL (odL d b a)).length ≤ 2 ^ 14 := Nat.pow_le_pow_right (by decide) (by omega)
  have h1 := cW_2 (g := fun _ => 1) (B := 1) (fun _ => Nat.le_refl _) (zL (odL d b a)) (odN d b a) 0
  have h2 := cW_2 (g := odP (odN d b a) (odL d b a).length (odT d b a).toInt (odF d b a)) (B := 1) (fun s => by unfold odP; split <;> omega) (zL (odL d b a)) (odN d b a) 0
  exact ⟨cW_pos _ _ _ (by omega), by unfold odA; omega, by unfold odB; omega⟩
section
variable {N M : gM} {n0 a9 : Nat} {D : gD}
theorem pX1_odds (h : RX N n0 a9 D M) (ok : okD (dd D)) {b a what : Int32} {Q : Int64 → gM → Prop} (hq : ∀ M', RX N n0 a9 D M' → Q (rOdd (dd D) b a what) M') : fX1_odds b a what M Q := by
  unfold fX1_odds
  simp only [pX1_areMonths, pX1_in, gdr_some, gk_sI, gk_sL, gk_sR, gl_sI, gl_sL, gl_sR, gn_sI, gn_sL, gn_sR, gs_sI, gs_sL, gs_sR, gR_sI, gR_sL, gI_sL, gI_sR, gL_sI, gL_sR, bi_ite, bi_01, true_and, and_true]
  cases q1 : arM b a
  · simp only [Bool.false_eq_true, if_false]
    unfold rOdd at hq; rw [q1] at hq; exact hq M h
  cases q2 : in9 0 1 what
  · simp only [Bool.false_eq_true, if_false, if_true]
    unfold rOdd at hq; rw [q2] at hq; simp only [Bool.and_false, Bool.false_and, Bool.false_eq_true, if_false] at hq; exact hq M h
  simp only [if_true, xk16 h, xk17 h, xl17 h, xr0 h, xr10 h, xr11 h, xk28 h, xk29 h, xten h, xby h, gdr_some, gk_sI, gk_sL, gk_sR, gl_sI, gl_sL, gl_sR, gn_sI, gn_sL, gn_sR, gs_sI, gs_sL, gs_sR, gR_sI, gR_sL, gI_sL, gI_sR, gL_sI, gL_sR, bi_ite, bi_01, true_and, and_true]
  have q1' := q1
  obtain ⟨i, j, hi, hj, -, rfl, rfl⟩ := arM_n q1
  have e1 := cl_nI (k := i) (by omega)
  have e2 := cl_nI (k := j) (by omega)
  unfold rOdd at hq
  rw [q1', q2, e1, e2] at hq
  refine pX1_rivers h hi hj fun M1 h1 m1 => ?_
  cases q3 : thr (cnW (dd D) i j (-1)) (fs0 (dd D))
  · rw [if_pos bi_f]
    rw [q3] at hq; simp only [Bool.and_false, Bool.false_and, Bool.false_eq_true, if_false] at hq; exact hq M1 h1
  rw [if_neg (by decide)]
  rw [q3] at hq
  have m1' := m1
  obtain ⟨w1, w2, w3, w4⟩ := m1
  have c1 := cn_le (fun k => cnW (dd D) i j (-1) k && fs0 (dd D) k) 24
  have c2 := cn_le (fun k => cnW (dd D) i j (-1) k && !fs0 (dd D) k) 24
  have hl := odL_len (d := dd D) (b := i) (a := j)
  simp only [xk16 h1, xk17 h1, xl17 h1, xr0 h1, xr10 h1, xr11 h1, xk28 h1, xk29 h1, xten h1, xby h1, gdr_some, gk_sI, gk_sL, gk_sR, gl_sI, gl_sL, gl_sR, gn_sI, gn_sL, gn_sR, gs_sI, gs_sL, gs_sR, gR_sI, gR_sL, gI_sL, gI_sR, gL_sI, gL_sR, bi_ite, bi_01, true_and, and_true, w2, w4, nI_add]
  have e14 : (nI (cn (fun k => cnW (dd D) i j (-1) k && fs0 (dd D) k) 24 + cn (fun k => cnW (dd D) i j (-1) k && !fs0 (dd D) k) 24) ≤ 14) ↔ (odL (dd D) i j).length ≤ 14 := by
    have := nI_leI (a := cn (fun k => cnW (dd D) i j (-1) k && fs0 (dd D) k) 24 + cn (fun k => cnW (dd D) i j (-1) k && !fs0 (dd D) k) 24) (b := 14) (by omega) (by decide)
    rw [hl]
    exact this
  by_cases c14 : (odL (dd D) i j).length ≤ 14
  · rw [if_pos (e14.mpr c14)]
    simp only [c14, decide_true, Bool.and_self, if_true] at hq
    refine ⟨25, ?_⟩
    refine loopN (T := 24) (G := fun n k M => fX1_odds_L57 _ (nI i) (nI j) what Q n (nI (cn (odS (dd D) i j) k)) (nI k) M) (I := fun k M => RX N n0 a9 D M ∧ arr 30 (selN (odS (dd D) i j) (fun k => chg (dd D) k i j) k) M ∧ mns (cnW (dd D) i j (-1)) (fs0 (dd D)) (chJ (dd D) i j) 24 M) (fun n M hI => ?_) (fun n k M hk hI hn => ?_) 24 0 M1 rfl ⟨h1, fun i hi => absurd hi (by simp [selN]), m1'⟩
    · obtain ⟨h2, a2, m2⟩ := hI
      have a2 : arr 30 (odL (dd D) i j) M := a2
      unfold fX1_odds_L57 fX1_odds_L57s
      rw [if_pos ge24]
      show gk M 16 = 1 ∧ _
      have h3 : RX N n0 a9 D (gsI (gsL M 16 13 0) 16 15 0) := (h2.sL (by omega)).sI (by unfold xScr; omega) (by omega)
      have m3 : mns (cnW (dd D) i j (-1)) (fs0 (dd D)) (chJ (dd D) i j) 24 (gsI (gsL M 16 13 0) 16 15 0) := m2
      obtain ⟨y1, y2, y3, y4⟩ := m3
      refine ⟨xk16 h2, ?_⟩
      rw [pX1_above h3 m2, pJ0_abs]
      refine ⟨xk16 h3, ?_⟩
      obtain ⟨f1, f2⟩ := odF_b ok hi hj
      rw [ab9_nJ f2, show (upR (cnW (dd D) i j (-1)) (fs0 (dd D)) (chJ (dd D) i j)).toInt.natAbs = odF (dd D) i j from rfl]
      have h4 : RX N n0 a9 D (gsL (gsI (gsL M 16 13 0) 16 15 0) 16 14 (nJ (odF (dd D) i j))) := h3.sL (by omega)
      have y1' : gL (gsL (gsI (gsL M 16 13 0) 16 15 0) 16 14 (nJ (odF (dd D) i j))) 28 0 = cs (fun k => cnW (dd D) i j (-1) k && fs0 (dd D) k) (chJ (dd D) i j) 24 := y1
      have y2' : gI (gsI (gsL M 16 13 0) 16 15 0) 28 1 = nI (odN (dd D) i j) := y2
      have y3' : gL (gsL (gsI (gsL M 16 13 0) 16 15 0) 16 14 (nJ (odF (dd D) i j))) 29 0 = cs (fun k => cnW (dd D) i j (-1) k && !fs0 (dd D) k) (chJ (dd D) i j) 24 := y3
      show gdr (gR (gsL (gsI (gsL M 16 13 0) 16 15 0) 16 14 (nJ (odF (dd D) i j))) 16 10) _
      have s4 : dSt (odL (dd D) i j) (odF (dd D) i j) 0 0 (gsL (gsI (gsL M 16 13 0) 16 15 0) 16 14 (nJ (odF (dd D) i j))) := ⟨a2, rfl, rfl, rfl⟩
      have nl : cn (odS (dd D) i j) 24 = (odL (dd D) i j).length := (selN_len 24).symm
      simp only [xk16 h2, xk17 h2, xl17 h2, xr0 h2, xr10 h2, xr11 h2, xk28 h2, xk29 h2, xten h2, xby h2, xk16 h4, xk17 h4, xl17 h4, xr0 h4, xr10 h4, xr11 h4, xk28 h4, xk29 h4, xten h4, xby h4, gdr_some, gk_sI, gk_sL, gk_sR, gl_sI, gl_sL, gl_sR, gn_sI, gn_sL, gn_sR, gs_sI, gs_sL, gs_sR, gR_sI, gR_sL, gI_sL, gI_sR, gL_sI, gL_sR, bi_ite, bi_01, true_and, and_true, y1', y2', y3', nl]
      refine ⟨odN (dd D) i j + 1, by have : odN (dd D) i j ≤ (odL (dd D) i j).length := by omega
                                     omega, ?_⟩
      refine dlx (L := odL (dd D) i j) (z := odN (dd D) i j) rfl c14 (by omega) (fun x hx => selN_b (ch_v ok hi hj) hx) (odT_b ok hi hj) f1 (odN (dd D) i j) 0 0 _ 0 0 _ (by omega) (by decide) (by decide) h4 s4 fun M6 h6 m6 => ?_
      obtain ⟨-, -, z3, z4⟩ := m6
      refine ⟨xk16 h6, ?_⟩
      obtain ⟨ab1, ab2, ab3⟩ := odAB (d := dd D) (b := i) (a := j) c14
      have z3 : gI M6 16 15 = nI (0 + odA (dd D) i j) := z3
      have z4 : gL M6 16 13 = nJ (0 + odB (dd D) i j) := z4
      rw [Nat.zero_add] at z3 z4
      rw [z3, z4, nI_J (by omega)]
      exact pX1_lowest (ne_min (by rw [nJ_toInt (by omega)]; omega)) (by rw [nJ_toInt (by omega)]; omega) (by rw [nJ_toInt (by omega)]; omega) (hq M6 h6)
    · obtain ⟨h2, a2, m2⟩ := hI
      have ll := selN_len (sel := odS (dd D) i j) (v := fun k => chg (dd D) k i j) k
      have lc := cn_le (odS (dd D) i j) k
      have l24 : cn (odS (dd D) i j) k < 24 := by omega
      show fX1_odds_L57 _ _ _ _ _ _ _ _ _
      unfold fX1_odds_L57 fX1_odds_L57s fX1_odds_b102
      rw [if_neg (nge24 hk)]
      simp only [xk16 h2, xk17 h2, xl17 h2, xr0 h2, xr10 h2, xr11 h2, xk28 h2, xk29 h2, xten h2, xby h2, kr h2 hk, kk h2 hk, kr5 h2 hk, kr6 h2 hk, kr7 h2 hk, kr8 h2 hk, kr9 h2 hk, kr10 h2 hk, kk5 h2 hk, kk6 h2 hk, kk7 h2 hk, kk8 h2 hk, kk9 h2 hk, kk10 h2 hk, kl5 h2 hk, kl6 h2 hk, kl7 h2 hk, kl8 h2 hk, kl9 h2 hk, kl10 h2 hk, ki0 h2 hk, ki1 h2 hk, ki2 h2 hk, ki3 h2 hk, ki4 h2 hk, xk16 h2, frx12 h2.1, fk30 h2.1, fl30 h2.1, vp_in_nI hk (N := 24) (by decide), nI_clamp (Nat.lt_trans hk (by decide : 24 < 2 ^ 31)), vp_in_nI l24 (N := 24) (by decide), nI_clamp (Nat.lt_trans l24 (by decide : 24 < 2 ^ 31)), gdr_some, gk_sI, gk_sL, gk_sR, gl_sI, gl_sL, gl_sR, gn_sI, gn_sL, gn_sR, gs_sI, gs_sL, gs_sR, gR_sI, gR_sL, gI_sL, gI_sR, gL_sI, gL_sR, bi_ite, bi_01, true_and, and_true, pX4_isCounted h2 hk hi hj, pX1_change h2 hk hi hj, ← nI_succ]
      cases e : cnt (dd D) k i j
      · simp only [Bool.false_eq_true, if_false]
        have es : odS (dd D) i j k = false := e
        have key := hn M
        rw [selN_f es, cn_f es] at key
        exact key ⟨h2, a2, m2⟩
      · simp only [if_true]
        have es : odS (dd D) i j k = true := e
        have key := hn (gsI M 30 (cn (odS (dd D) i j) k) (chg (dd D) k i j))
        rw [selN_t es, cn_t es] at key
        refine key ⟨h2.sI (by unfold xScr; omega) (by omega), ?_, ?_⟩
        · have := arr_snoc (v := chg (dd D) k i j) a2
          rw [ll] at this
          exact this
        · obtain ⟨y1, y2, y3, y4⟩ := m2
          exact ⟨y1, by rw [gI_sI, if_neg (by omega)]; exact y2, y3, by rw [gI_sI, if_neg (by omega)]; exact y4⟩
  · rw [if_neg fun q => c14 (e14.mp q)]
    simp only [c14, decide_false, Bool.and_false, Bool.false_eq_true, if_false] at hq
    exact hq M1 h1
end
/-! op: odds, in m -/
set_option maxRecDepth 100000
theorem bit_m {t k : Nat} (ht : t < 2 ^ 31) (hk : k < 31) : (nI t >>> (nI k &&& 31)) &&& 1 = nI (t / 2 ^ k % 2) := by
  have e1 : nI k &&& 31 = nI k := by
    have := pk_andN (n := k) (by omega) (m := 31) 5 (by decide)
    rw [this, show k % 2 ^ 5 = k by omega]
  have e2 : ((nI k).toBitVec.smod 32).toNat = k := by
    have : ∀ k : Nat, k < 31 → ((nI k).toBitVec.smod 32).toNat = k := by decide
    exact this k hk
  rw [e1, pk_shrN ht (nI k) k e2]
  have h9 : t / 2 ^ k ≤ t := Nat.div_le_self _ _
  have := pk_andN (n := t / 2 ^ k) (by omega) (m := 1) 1 (by decide)
  rw [this, Nat.pow_one]
theorem shl_m {n : Nat} (hn : n < 31) : (1 : Int32) <<< (nI n &&& 31) = nI (2 ^ n) := by
  have : ∀ k : Nat, k < 31 → (1 : Int32) <<< (nI k &&& 31) = nI (2 ^ k) := by decide
  exact this n hn
def sJ (L : List Int32) (t : Nat) : Nat → Int64
  | 0 => 0
  | i + 1 => sJ L t i + if t / 2 ^ i % 2 = 1 then (L.getD i 0).toInt64 else 0
def fL9 (L : List Int32) (i : Nat) : Int := (L.getD i 0).toInt
theorem fL9_z {L : List Int32} : (List.range L.length).map (fL9 L) = zL L := by
  refine List.ext_getElem (by simp [zL]) fun i h1 h2 => ?_
  have hi : i < L.length := by simpa using h1
  simp [zL, fL9, List.getD_eq_getElem?_getD, hi]
theorem sJ_b {L : List Int32} {t : Nat} (hb : ∀ x ∈ L, -2000 ≤ x.toInt ∧ x.toInt ≤ 2000) : ∀ i : Nat, i ≤ L.length → L.length ≤ 24 → (sJ L t i).toInt = sumN (fL9 L) i t ∧ -(2000 * i) ≤ sumN (fL9 L) i t ∧ sumN (fL9 L) i t ≤ 2000 * i := by
  intro i
  induction i with
  | zero => intro _ _; exact ⟨by show (0 : Int64).toInt = 0; decide, by show (-(2000 * 0) : Int) ≤ 0; decide, by show (0 : Int) ≤ 2000 * 0; decide⟩
  | succ i ih =>
    intro h1 h2
    obtain ⟨e1, e2, e3⟩ := ih (by omega) h2
    have xb := hb _ (getD_mem9 (L := L) (i := i) (by omega))
    show (sJ L t i + if t / 2 ^ i % 2 = 1 then (L.getD i 0).toInt64 else 0).toInt = sumN (fL9 L) i t + (if t / 2 ^ i % 2 = 1 then (L.getD i 0).toInt else 0) ∧ _ ≤ sumN (fL9 L) i t + (if t / 2 ^ i % 2 = 1 then (L.getD i 0).toInt else 0) ∧ sumN (fL9 L) i t + (if t / 2 ^ i % 2 = 1 then (L.getD i 0).toInt else 0) ≤ _
    by_cases c : t / 2 ^ i % 2 = 1
    · rw [if_pos c, if_pos c, Int64.toInt_add, Int32.toInt_toInt64, e1, Int.bmod_eq_of_le (by omega) (by omega)]
      omega
    · rw [if_neg c, if_neg c, Int64.toInt_add, Int64.toInt_zero, e1, Int.bmod_eq_of_le (by omega) (by omega)]
      omega
theorem bitsN_le {t : Nat} : ∀ i, bitsN i t ≤ i := by
  intro i
  induction i with
  | zero => exact Nat.le_refl _
  | succ i ih => show bitsN i t + t / 2 ^ i % 2 ≤ i + 1; omega
section
variable {N M : gM} {D : gD}
theorem odm_i (h : RM N D M) {L : List Int32} {n t : Nat} (hL : L.length = n) (hn : n ≤ 14) (ht31 : t < 2 ^ 31) (hA : arr 287 L M) {w : Int32} {far nz J T s1 s2 : Int64} {KK : Int32 → Int64 → gM → Prop} {Q : Int64 → gM → Prop} (fin : KK (nI (bitsN n t)) (sJ L t n) M) : ∃ r, fX7_odds_L171 KK w far nz J T (nI n) s1 s2 (nI t) Q r 0 0 0 M := by
  refine ⟨n + 1, ?_⟩
  refine loopN (T := n) (G := fun r i M => fX7_odds_L171 KK w far nz J T (nI n) s1 s2 (nI t) Q r (nI (bitsN i t)) (sJ L t i) (nI i) M) (I := fun i M2 => M2 = M) (fun r M2 hI => ?_) (fun r i M2 hi hI hn8 => ?_) n 0 M (by omega) rfl
  · subst hI
    show fX7_odds_L171 _ _ _ _ _ _ _ _ _ _ _ _ _ _ _ _
    unfold fX7_odds_L171 fX7_odds_L171s
    rw [if_pos (nI_le (Nat.le_refl _) (by omega))]
    exact fin
  · subst hI
    have hn8 := hn8 _ rfl
    have hi24 : i < 24 := by omega
    show fX7_odds_L171 _ _ _ _ _ _ _ _ _ _ _ _ _ _ _ _
    unfold fX7_odds_L171 fX7_odds_L171s fX7_odds_b215
    rw [if_neg (nI_ge (by omega) (by omega)), bit_m ht31 (by omega), nI_add, ← nI_succ]
    have es : sJ L t (i + 1) = sJ L t i + if t / 2 ^ i % 2 = 1 then (L.getD i 0).toInt64 else 0 := rfl
    have eb : bitsN (i + 1) t = bitsN i t + t / 2 ^ i % 2 := rfl
    rw [es, eb] at hn8
    have c1 : nI (t / 2 ^ i % 2) = 1 ↔ t / 2 ^ i % 2 = 1 := nI_eq (b := 1) (by omega) (by decide)
    by_cases c : t / 2 ^ i % 2 = 1
    · rw [if_pos (c1.mpr c)]
      rw [if_pos c] at hn8
      simp only [mk268 h, frm30 h.1, fk287 h.1, fl287 h.1, vp_in_nI hi24 (N := 24) (by decide), nI_clamp (Nat.lt_trans hi24 (by decide : 24 < 2 ^ 31)), gdr_some, gk_sI, gk_sL, gk_sR, gl_sI, gl_sL, gl_sR, gn_sI, gn_sL, gn_sR, gs_sI, gs_sL, gs_sR, gR_sI, gR_sL, gI_sL, gI_sR, gL_sI, gL_sR, bi_ite, bi_01, true_and, and_true]
      rw [hA i (by omega)]
      exact hn8
    · rw [if_neg fun g => c (c1.mp g)]
      rw [if_neg c] at hn8
      exact hn8
/-- counting over the sets -/
theorem odm_w (h : RM N D M) {L : List Int32} {n z : Nat} {far : Nat} {T : Int64} (hL : L.length = n) (hn : n ≤ 14) (hz : z ≤ n) (hb : ∀ x ∈ L, -2000 ≤ x.toInt ∧ x.toInt ≤ 2000) (hT : -100000 ≤ T.toInt ∧ T.toInt ≤ 100000) (hf : far < 2 ^ 40) (hA : arr 287 L M) {w : Int32} {J : Int64} (hJ : J.toInt = (n : Int) - z) {K : Int64 → Int64 → gM → Prop} {Q : Int64 → gM → Prop}
    (hK : K (nJ (cW (odP z n T.toInt far) z (zL L) 0)) (nJ (cW (fun _ => 1) z (zL L) 0)) M) : ∃ q, fX7_odds_L153 K w (nJ far) (nJ z) J T (nI n) Q q 0 0 0 M := by
  have hp : 2 ^ n ≤ 2 ^ 14 := Nat.pow_le_pow_right (by decide) hn
  have eB := rs_cW (g := odP z n T.toInt far) (f := fL9 L) n z 0
  have eA := rs_cW (g := fun _ => 1) (f := fL9 L) n z 0
  rw [show (List.range n).map (fL9 L) = zL L by rw [← hL]; exact fL9_z] at eA eB
  rw [← eA, ← eB] at hK
  refine ⟨2 ^ n + 1, ?_⟩
  refine loopN (T := 2 ^ n) (G := fun q t M => fX7_odds_L153 K w (nJ far) (nJ z) J T (nI n) Q q (nJ (rs (fun t => if bitsN n t = z then odP z n T.toInt far (0 + sumN (fL9 L) n t) else 0) t)) (nJ (rs (fun t => if bitsN n t = z then 1 else 0) t)) (nI t) M) (I := fun t M1 => M1 = M) (fun q M1 hI => ?_) (fun q t M1 ht hI hn9 => ?_) (2 ^ n) 0 M (by omega) rfl
  · subst hI
    show fX7_odds_L153 _ _ _ _ _ _ _ _ _ _ _ _ _
    unfold fX7_odds_L153 fX7_odds_L153s
    rw [shl_m (by omega), if_pos (nI_le (Nat.le_refl _) (by omega))]
    exact hK
  · subst hI
    have hn9 := hn9 _ rfl
    have ht31 : t < 2 ^ 31 := by omega
    show fX7_odds_L153 _ _ _ _ _ _ _ _ _ _ _ _ _
    unfold fX7_odds_L153 fX7_odds_L153s
    rw [shl_m (by omega), if_neg (nI_ge ht (by omega))]
    refine odm_i h hL hn ht31 hA ?_
    have b9 := bitsN_le (t := t) n
    obtain ⟨s1, s2, s3⟩ := sJ_b (t := t) hb n (by omega) (by omega)
    have ez : (nJ z).toInt = z := nJ_toInt (by omega)
    obtain ⟨v1, v2, v3⟩ := od_v (s := sJ L t n) (T := T) hz hn (by omega) hT hJ ez
    rw [s1] at v1 v2 v3
    have rA : rs (fun t => if bitsN n t = z then 1 else 0) (t + 1) = rs (fun t => if bitsN n t = z then 1 else 0) t + if bitsN n t = z then 1 else 0 := rfl
    have rB : rs (fun t => if bitsN n t = z then odP z n T.toInt far (0 + sumN (fL9 L) n t) else 0) (t + 1) = rs (fun t => if bitsN n t = z then odP z n T.toInt far (0 + sumN (fL9 L) n t) else 0) t + if bitsN n t = z then odP z n T.toInt far (0 + sumN (fL9 L) n t) else 0 := rfl
    rw [rA, rB] at hn9
    have ec : lg_cmp (nI (bitsN n t)).toInt64 (nJ z) = 0 ↔ bitsN n t = z := by
      rw [lg_cmp_eq, nI_J (by omega)]
      refine ⟨fun g => ?_, fun g => by rw [g]⟩
      have := congrArg Int64.toInt g
      rw [nJ_toInt (by omega), nJ_toInt (by omega)] at this
      omega
    show (if (lg_cmp (nI (bitsN n t)).toInt64 (nJ z)) = 0 then _ else _)
    by_cases c : bitsN n t = z
    · rw [if_pos (ec.mpr c)]
      rw [if_pos c, if_pos c] at hn9
      unfold odP at hn9
      rw [show (0 : Int) + sumN (fL9 L) n t = sumN (fL9 L) n t by omega] at hn9
      have g1 : 0 ≤ lg_cmp (sJ L t n * J - (T - sJ L t n) * nJ z) (nJ far) ↔ (far : Int) ≤ sumN (fL9 L) n t * ((n : Int) - z) - (T.toInt - sumN (fL9 L) n t) * z := by
        rw [lg_cmp_ge, Int64.le_iff_toInt_le, nJ_toInt (by omega), v1]
      have g2 : lg_cmp (-(sJ L t n * J - (T - sJ L t n) * nJ z)) (nJ far) < 0 ↔ ¬ (far : Int) ≤ -(sumN (fL9 L) n t * ((n : Int) - z) - (T.toInt - sumN (fL9 L) n t) * z) := by
        rw [lg_cmp_lt, Int64.lt_iff_toInt_lt, nJ_toInt (by omega), Int64.toInt_neg, v1, Int.bmod_eq_of_le (by omega) (by omega)]
        omega
      unfold fX7_odds_b274 fX7_odds_b279 fX7_odds_b282
      generalize sumN (fL9 L) n t * ((n : Int) - z) - (T.toInt - sumN (fL9 L) n t) * z = v at *
      by_cases c1 : (far : Int) ≤ v
      · rw [if_pos (g1.mpr c1)]
        rw [if_pos (by omega)] at hn9
        rw [← nI_succ, ← nJ_succ, ← nJ_succ]
        exact hn9
      · rw [if_neg fun g => c1 (g1.mp g)]
        by_cases c2 : (far : Int) ≤ -v
        · rw [if_neg fun g => (g2.mp g) c2]
          rw [if_pos (by omega)] at hn9
          rw [← nI_succ, ← nJ_succ, ← nJ_succ]
          exact hn9
        · rw [if_pos (g2.mpr c2)]
          rw [if_neg (by omega)] at hn9
          rw [← nI_succ, ← nJ_succ, Int64.add_zero]
          exact hn9
    · rw [if_neg fun g => c (ec.mp g)]
      rw [if_neg c, if_neg c] at hn9
      unfold fX7_odds_b282
      rw [← nI_succ]
      exact hn9
theorem pX7_odds (h : RM N D M) (ok : okD (dd D)) {b a what : Int32} {Q : Int64 → gM → Prop} (hq : ∀ M', RM N D M' → Q (rOdd (dd D) b a what) M') : fX7_odds b a what M Q := by
  have h0 : RM N D (gsI M 268 0 0) := h.thr9
  unfold fX7_odds
  refine ⟨mk268 h, ?_⟩
  generalize gsI M 268 0 0 = M0 at *
  simp only [pX7_areMonths, pX7_isWhat, gdr_some, gk_sI, gk_sL, gk_sR, gl_sI, gl_sL, gl_sR, gn_sI, gn_sL, gn_sR, gs_sI, gs_sL, gs_sR, gR_sI, gR_sL, gI_sL, gI_sR, gL_sI, gL_sR, bi_ite, bi_01, true_and, and_true]
  cases q1 : arM b a
  · simp only [Bool.false_eq_true, if_false]
    unfold rOdd at hq; rw [q1] at hq; exact hq M0 h0
  cases q2 : in9 0 1 what
  · simp only [Bool.false_eq_true, if_false, if_true]
    unfold rOdd at hq; rw [q2] at hq; simp only [Bool.and_false, Bool.false_and, Bool.false_eq_true, if_false] at hq; exact hq M0 h0
  simp only [if_true]
  have q1' := q1
  obtain ⟨i, j, hi, hj, -, rfl, rfl⟩ := arM_n q1
  have e1 := cl_nI (k := i) (by omega)
  have e2 := cl_nI (k := j) (by omega)
  unfold rOdd at hq
  rw [q1', q2, e1, e2] at hq
  refine ⟨mk268 h0, pX7_findRiver h0 ok hi hj fun M1 h1 m1 u1 => ?_⟩
  cases q3 : thr (cnW (dd D) i j (-1)) (fs0 (dd D))
  · rw [if_pos bi_f]
    rw [q3] at hq; simp only [Bool.and_false, Bool.false_and, Bool.false_eq_true, if_false] at hq; exact hq M1 h1
  rw [if_neg (by decide)]
  rw [q3] at hq
  obtain ⟨w1, w2, w3, w4⟩ := m1
  have c1 := cn_le (fun k => cnW (dd D) i j (-1) k && fs0 (dd D) k) 24
  have c2 := cn_le (fun k => cnW (dd D) i j (-1) k && !fs0 (dd D) k) 24
  have hl := odL_len (d := dd D) (b := i) (a := j)
  have c1' : odN (dd D) i j ≤ 24 := c1
  refine ⟨mk268 h1, ?_⟩
  have eadd : nJ (cn (fun k => cnW (dd D) i j (-1) k && fs0 (dd D) k) 24) + nJ (cn (fun k => cnW (dd D) i j (-1) k && !fs0 (dd D) k) 24) = nJ (odL (dd D) i j).length := by
    rw [hl]; unfold odN nJ; rw [Int64.ofNat_add]
  have e14 : lg_cmp (gL M1 268 27 + gL M1 268 29) 14 ≤ 0 ↔ (odL (dd D) i j).length ≤ 14 := by
    rw [w2, w4, eadd, lg_cmp_le, Int64.le_iff_toInt_le, nJ_toInt (by omega)]
    have : (14 : Int64).toInt = 14 := by decide
    omega
  by_cases c14 : (odL (dd D) i j).length ≤ 14
  · rw [if_pos (e14.mpr c14)]
    simp only [c14, decide_true, Bool.and_self, if_true] at hq
    obtain ⟨f1, f2⟩ := odF_b ok hi hj
    obtain ⟨ab1, ab2, ab3⟩ := odAB (d := dd D) (b := i) (a := j) c14
    have key : ∀ x, x = ab9 (upR (cnW (dd D) i j (-1)) (fs0 (dd D)) (chJ (dd D) i j)) → fX7_odds_b71 (nI i) (nI j) what x M1 Q := by
      intro x hx
      rw [ab9_nJ f2, show (upR (cnW (dd D) i j (-1)) (fs0 (dd D)) (chJ (dd D) i j)).toInt.natAbs = odF (dd D) i j from rfl] at hx
      subst hx
      unfold fX7_odds_b71
      rw [w1, w2, w3, w4]
      refine ⟨mk268 h1, 25, ?_⟩
      refine loopN (T := 24) (G := fun n k M => fX7_odds_L102 _ (nI i) (nI j) what (nJ (odF (dd D) i j)) _ _ _ Q n (nI (cn (odS (dd D) i j) k)) (nI k) M) (I := fun k M => RM N D M ∧ arr 287 (selN (odS (dd D) i j) (fun k => chg (dd D) k i j) k) M) (fun n M hI => ?_) (fun n k M hk hI hn => ?_) 24 0 M1 rfl ⟨h1, fun i hi => absurd hi (by simp [selN])⟩
      · obtain ⟨h2, a2⟩ := hI
        have a2 : arr 287 (odL (dd D) i j) M := a2
        have nl : cn (odS (dd D) i j) 24 = (odL (dd D) i j).length := (selN_len 24).symm
        show fX7_odds_L102 _ _ _ _ _ _ _ _ _ _ _ _ _
        unfold fX7_odds_L102 fX7_odds_L102s
        rw [if_pos ge24]
        show ∃ n, _
        rw [nl]
        have e9 : odN (dd D) i j ≤ (odL (dd D) i j).length := by omega
        refine odm_w h2 (z := odN (dd D) i j) rfl c14 e9 (fun x hx => selN_b (ch_v ok hi hj) hx) (odT_b ok hi hj) f1 a2 ?_ ?_
        · rw [nJ_toInt (by omega)]
          unfold odN at hl ⊢
          omega
        · refine ⟨mk268 h2, ?_⟩
          refine pX7_lowest ((h2.sL (Or.inl rfl)).sL (Or.inl rfl)) (up := nJ (odB (dd D) i j)) (dn := nJ (odA (dd D) i j)) ⟨?_, ?_⟩ (ne_min (by rw [nJ_toInt (by omega)]; omega)) (by rw [nJ_toInt (by omega)]; omega) (by rw [nJ_toInt (by omega)]; omega) (hq _ ((h2.sL (Or.inl rfl)).sL (Or.inl rfl)))
          · rw [gL_sL, if_neg (by omega), gL_sL, if_pos ⟨rfl, rfl⟩]; rfl
          · rw [gL_sL, if_pos ⟨rfl, rfl⟩]; rfl
      · obtain ⟨h2, a2⟩ := hI
        have ll := selN_len (sel := odS (dd D) i j) (v := fun k => chg (dd D) k i j) k
        have lc := cn_le (odS (dd D) i j) k
        have l24 : cn (odS (dd D) i j) k < 24 := by omega
        show fX7_odds_L102 _ _ _ _ _ _ _ _ _ _ _ _ _
        unfold fX7_odds_L102 fX7_odds_L102s fX7_odds_b138
        rw [if_neg (nge24 hk)]
        simp only [mk268 h2, frm30 h2.1, fk287 h2.1, fl287 h2.1, vp_in_nI hk (N := 24) (by decide), nI_clamp (Nat.lt_trans hk (by decide : 24 < 2 ^ 31)), vp_in_nI l24 (N := 24) (by decide), nI_clamp (Nat.lt_trans l24 (by decide : 24 < 2 ^ 31)), gdr_some, gk_sI, gk_sL, gk_sR, gl_sI, gl_sL, gl_sR, gn_sI, gn_sL, gn_sR, gs_sI, gs_sL, gs_sR, gR_sI, gR_sL, gI_sL, gI_sR, gL_sI, gL_sR, bi_ite, bi_01, true_and, and_true, pX7_isCounted h2 hk hi hj, pX7_changeOf h2 ok hk hi hj, ← nI_succ]
        cases e : cnt (dd D) k i j
        · simp only [Bool.false_eq_true, if_false]
          have es : odS (dd D) i j k = false := e
          have key := hn M
          rw [selN_f es, cn_f es] at key
          exact key ⟨h2, a2⟩
        · simp only [if_true]
          have es : odS (dd D) i j k = true := e
          have key := hn (gsI M 287 (cn (odS (dd D) i j) k) (chg (dd D) k i j))
          rw [selN_t es, cn_t es] at key
          refine key ⟨h2.sI (by unfold mScr; omega), ?_⟩
          have := arr_snoc (v := chg (dd D) k i j) a2
          rw [ll] at this
          exact this
    rw [u1.1]
    unfold ab9 at key
    by_cases c : 0 ≤ upR (cnW (dd D) i j (-1)) (fs0 (dd D)) (chJ (dd D) i j)
    · rw [if_pos ((lg_cmp_ge _ _).mpr c)]
      exact key _ (by rw [if_pos c])
    · rw [if_neg fun q => c ((lg_cmp_ge _ _).mp q)]
      exact key _ (by rw [if_neg c])
  · rw [if_neg fun q => c14 (e14.mp q)]
    simp only [c14, decide_false, Bool.and_false, Bool.false_eq_true, if_false] at hq
    exact hq M1 h1
end
