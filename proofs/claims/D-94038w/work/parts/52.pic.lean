/-! THE PICTURE of x (class RiverWage) in the typed memory: told data D, ghosts N (m's cells are as there), n0 (dynamic cells in use lie below), a (what may still be allocated) -/
set_option maxRecDepth 100000
def bi (b : Bool) : Int32 := if b = true then 1 else 0
theorem bi_01 (b : Bool) : (bi b = 0 ∨ bi b = 1) = True := by cases b <;> simp [bi]
theorem bi_ite (b : Bool) {A B : Prop} : (if bi b = 0 then A else B) = (if b = true then B else A) := by cases b <;> simp [bi]
theorem bi_t : bi true = 1 := rfl
theorem bi_f : bi false = 0 := rfl
theorem in_nI {N : Nat} {p : Int32} (hN : N < 2 ^ 31) (h1 : 0 ≤ p) (h2 : p ≤ nI N) : ∃ k : Nat, k ≤ N ∧ p = nI k := by
  have h3 : vp_in p (N + 1) := by
    rw [vp_in_iff]
    rw [Int32.le_iff_toInt_le, Int32.toInt_zero] at h1
    rw [Int32.le_iff_toInt_le, nI_toInt hN] at h2
    omega
  by_cases h : N + 1 < 2 ^ 31
  · obtain ⟨j, hj, e⟩ := vp_in_of h3 h
    exact ⟨j, by omega, e⟩
  · refine ⟨p.toNatClampNeg, ?_, ?_⟩
    · have := Nat.not_le.mp fun q => h3 (Or.inr q)
      omega
    · have h4 := (vp_in_iff.mp h3).1
      refine Int32.toInt_inj.mp ?_
      have h5 : p.toNatClampNeg < N + 1 := Nat.not_le.mp fun q => h3 (Or.inr q)
      rw [nI_toInt (by omega)]
      show p.toInt = ((p.toInt).toNat : Int)
      omega
-- told data: by field (Kitchen's number; 11 floors, 12 trades, 13 tenths and by), kitchen, month
abbrev gD : Type := (Nat → Nat → Nat → Int32) × (Nat × (Nat → Int32)) × (Nat × (Nat → Nat → Int32)) × (Nat → Nat → Option (List (Int32 × Int32))) × (Nat → Option (List (Int32 × Int32)) × (Nat → Int32)) × (Nat → Option (Nat × (Nat → Nat → Nat → Int32)))
def dd (D : gD) : Nat → Nat → Nat → Int32 := D.1
def dT (D : gD) : Nat × (Nat → Int32) := D.2.1
def dO (D : gD) : Nat × (Nat → Nat → Int32) := D.2.2.1
def dL (D : gD) : Nat → Nat → Option (List (Int32 × Int32)) := D.2.2.2.1
def dW (D : gD) : Nat → Option (List (Int32 × Int32)) × (Nat → Int32) := D.2.2.2.2.1
def dM (D : gD) : Nat → Option (Nat × (Nat → Nat → Nat → Int32)) := D.2.2.2.2.2
def xNum (d : Nat → Nat → Nat → Int32) (M : gM) : Prop :=
  (∀ f k : Nat, f < 5 → k < 24 → gI M (88 + 7 * k) f = d f k 0) ∧
  (∀ j k m : Nat, j < 6 → k < 24 → m < 12 → gI M (89 + 7 * k + j) m = d (5 + j) k m) ∧
  (∀ b m : Nat, b < 2 → m < 12 → gI M (19 + b) m = d 11 b m ∧ gI M (22 + b) m = d 12 b m) ∧
  gI M 16 8 = d 13 0 0 ∧ gI M 16 9 = d 13 0 1
def xTape (t : Nat × (Nat → Int32)) (M : gM) : Prop := gI M 16 7 = nI t.1 ∧ t.1 ≤ 1000 ∧ ∀ i : Nat, i < t.1 → gI M 24 i = t.2 i
def xOth (o : Nat × (Nat → Nat → Int32)) (M : gM) : Prop := gI M 16 22 = nI o.1 ∧ o.1 ≤ 20 ∧ ∀ i : Nat, i < 20 → gI M 82 i = o.2 0 i ∧ gI M 83 i = o.2 1 i ∧ gI M 84 i = o.2 2 i
-- the codes: 1 number, 2 fact, 3 not, 4 + 5 - 6 * 7 < 8 = 9 and 10 or
def xOp (c : Int32) : Int32 := if c = 43 then 4 else if c = 45 then 5 else if c = 42 then 6 else if c = 60 then 7 else if c = 61 then 8 else if c = 38 then 9 else 10
/-- the tree at c, by depth, is what the codes say (facts below F) -/
def xT (M : gM) (n0 F : Nat) : Nat → Nat → List (Int32 × Int32) → Prop
  | 0, _, _ => False
  | n + 1, c, L => 312 ≤ c ∧ c < n0 ∧ ((gk M c = 9 ∧ L = [(1, gI M c 0)]) ∨ (gk M c = 10 ∧ L = [(2, gI M c 0)] ∧ vp_in (gI M c 0) F) ∨
      (gk M c = 11 ∧ ∃ c1 L1, gR M c 0 = some c1 ∧ xT M n0 F n c1 L1 ∧ L = L1 ++ [(3, 0)]) ∨
      (gk M c = 12 ∧ ∃ a b La Lb, gR M c 1 = some a ∧ gR M c 2 = some b ∧ xT M n0 F n a La ∧ xT M n0 F n b Lb ∧ L = La ++ (Lb ++ [(xOp (gI M c 0), 0)])))
def xTo (M : gM) (n0 F : Nat) (r : Option Nat) (o : Option (List (Int32 × Int32))) : Prop := (r = none ∧ o = none) ∨ ∃ c L n, r = some c ∧ o = some L ∧ n ≤ 1010 ∧ xT M n0 F n c L
/-- where dynamic cells lie: the constructors' laws and writers, or new ones -/
def xDyn (n0 c : Nat) : Prop := (256 ≤ c ∧ c < 268) ∨ (312 ≤ c ∧ c < n0)
def xLaw (n0 : Nat) (W : Nat → Nat → Option (List (Int32 × Int32))) (M : gM) : Prop := ∀ l : Nat, l < 4 → ∃ c d, gR M 26 l = some c ∧ xDyn n0 c ∧ gk M c = 5 ∧ gR M c 0 = some d ∧ xDyn n0 d ∧ gk M d = 47 ∧ gl M d = 4 ∧ ∀ w : Nat, w < 4 → xTo M n0 10 (gR M d w) (W l w)
def xWri (n0 : Nat) (V : Nat → Option (List (Int32 × Int32)) × (Nat → Int32)) (M : gM) : Prop := ∀ i : Nat, i < 4 → ∃ c, gR M 27 i = some c ∧ xDyn n0 c ∧ gk M c = 6 ∧ xTo M n0 9 (gR M c 0) (V i).1 ∧ gI M c 1 = (V i).2 0 ∧ gI M c 2 = (V i).2 1 ∧ gI M c 3 = (V i).2 2
def xMar (n0 : Nat) (K : Nat → Option (Nat × (Nat → Nat → Nat → Int32))) (M : gM) : Prop := (∀ i j : Nat, i < 4 → j < 4 → i ≠ j → gR M 87 i = none ∨ gR M 87 i ≠ gR M 87 j) ∧ ∀ i : Nat, i < 4 → (gR M 87 i = none ∧ K i = none) ∨ ∃ c o, gR M 87 i = some c ∧ K i = some o ∧ (312 ≤ c ∧ c < n0) ∧ gk M c = 40 ∧ gl M c = 1153 ∧ gI M c 0 = nI o.1 ∧ o.1 ≤ 20 ∧ ∀ j k m : Nat, j < 4 → k < 24 → m < 12 → gI M c (1 + 48 * k + 12 * j + m) = o.2 (5 + j) k m
/-- two memories agree on a cell -/
def gEqC (M N : gM) (c : Nat) : Prop := gk M c = gk N c ∧ gl M c = gl N c ∧ (∀ k, gI M c k = gI N c k) ∧ (∀ k, gL M c k = gL N c k) ∧ ∀ k, gR M c k = gR N c k
/-- the picture of x -/
def RX (N : gM) (n0 a : Nat) (D : gD) (M : gM) : Prop :=
  gFix M ∧ (gn M + a ≤ gLC ∧ gs M + a ≤ gLS ∧ 312 ≤ n0 ∧ n0 ≤ gn M) ∧ xNum (dd D) M ∧ xTape (dT D) M ∧ xOth (dO D) M ∧ xLaw n0 (dL D) M ∧ xWri n0 (dW D) M ∧ xMar n0 (dM D) M ∧ ∀ c : Nat, 268 ≤ c → c < 312 → gEqC M N c
/-- what x tells in no cell that lasts: a place that may be written at will -/
def xScr (n0 c k : Nat) : Prop := (c = 16 ∧ (k = 13 ∨ k = 14 ∨ k = 15 ∨ k = 25 ∨ k = 26)) ∨ c = 25 ∨ c = 28 ∨ c = 29 ∨ c = 30 ∨ (32 ≤ c ∧ c < 56) ∨ (57 ≤ c ∧ c < 82) ∨ c = 85 ∨ c = 86 ∨ (n0 ≤ c ∧ 312 ≤ c)
theorem xT_keep {M M1 : gM} {n0 F : Nat} (h : ∀ c, 312 ≤ c → c < n0 → gk M1 c = gk M c ∧ (∀ k, gI M1 c k = gI M c k) ∧ ∀ k, gR M1 c k = gR M c k) : ∀ (n c : Nat) (L : List (Int32 × Int32)), xT M n0 F n c L → xT M1 n0 F n c L := by
  intro n
  induction n with
  | zero => intro c L q; exact q
  | succ n ih =>
    intro c L q
    obtain ⟨h1, h2, q⟩ := q
    obtain ⟨e1, e2, e3⟩ := h c h1 h2
    refine ⟨h1, h2, ?_⟩
    rw [e1, e2 0, e3 0, e3 1, e3 2]
    rcases q with q | q | ⟨q, c1, L1, r1, r2, r3⟩ | ⟨q, a, b, La, Lb, r1, r2, r3, r4, r5⟩
    · exact Or.inl q
    · exact Or.inr (Or.inl q)
    · exact Or.inr (Or.inr (Or.inl ⟨q, c1, L1, r1, ih _ _ r2, r3⟩))
    · exact Or.inr (Or.inr (Or.inr ⟨q, a, b, La, Lb, r1, r2, ih _ _ r3, ih _ _ r4, r5⟩))
theorem xTo_keep {M M1 : gM} {n0 F : Nat} (h : ∀ c, 312 ≤ c → c < n0 → gk M1 c = gk M c ∧ (∀ k, gI M1 c k = gI M c k) ∧ ∀ k, gR M1 c k = gR M c k) {r : Option Nat} {o : Option (List (Int32 × Int32))} (q : xTo M n0 F r o) : xTo M1 n0 F r o := by
  rcases q with q | ⟨c, L, n, q1, q2, q3, q4⟩
  · exact Or.inl q
  · exact Or.inr ⟨c, L, n, q1, q2, q3, xT_keep h _ _ _ q4⟩
/-- memories that agree in all that lasts -/
theorem RX.keepN {N N1 M M1 : gM} {n0 a a1 : Nat} {D : gD} (h : RX N n0 a D M) (hf : gFix M1) (hn : gn M ≤ gn M1) (ha : gn M1 + a1 ≤ gLC ∧ gs M1 + a1 ≤ gLS)
    (hk : ∀ c, c < 268 ∨ (312 ≤ c ∧ c < n0) → gk M1 c = gk M c ∧ gl M1 c = gl M c) (hI : ∀ c k, c < 268 ∨ (312 ≤ c ∧ c < n0) → ¬ xScr n0 c k → gI M1 c k = gI M c k) (hR : ∀ c k, (c = 26 ∨ c = 27 ∨ c = 87 ∨ xDyn n0 c) → gR M1 c k = gR M c k) (hm : ∀ c : Nat, 268 ≤ c → c < 312 → gEqC M1 N1 c) : RX N1 n0 a1 D M1 := by
  obtain ⟨h1, ⟨h2, h3, h4, h5⟩, ⟨k1, k2, k3, k4, k5⟩, ⟨t1, t2, t3⟩, ⟨o1, o2, o3⟩, hl, hw, hM, hN⟩ := h
  have hT : ∀ c, 312 ≤ c → c < n0 → gk M1 c = gk M c ∧ (∀ k, gI M1 c k = gI M c k) ∧ ∀ k, gR M1 c k = gR M c k := fun c c1 c2 =>
    ⟨(hk c (Or.inr ⟨c1, c2⟩)).1, fun k => hI c k (Or.inr ⟨c1, c2⟩) (by unfold xScr; omega), fun k => hR c k (by unfold xDyn; omega)⟩
  have hD : ∀ c, xDyn n0 c → gk M1 c = gk M c ∧ gl M1 c = gl M c ∧ (∀ k, gI M1 c k = gI M c k) ∧ ∀ k, gR M1 c k = gR M c k := fun c q => by
    unfold xDyn at q
    exact ⟨(hk c (by omega)).1, (hk c (by omega)).2, fun k => hI c k (by omega) (by unfold xScr; omega), fun k => hR c k (by unfold xDyn; omega)⟩
  refine ⟨hf, ⟨ha.1, ha.2, h4, by omega⟩, ⟨fun f k hf hk => ?_, fun j k m hj hk hm => ?_, fun b m hb hm => ⟨?_, ?_⟩, ?_, ?_⟩, ⟨?_, t2, fun i hi => ?_⟩, ⟨?_, o2, fun i hi => ⟨?_, ?_, ?_⟩⟩, fun l hl9 => ?_, fun i hi => ?_, ⟨fun i j hi hj hij => by rw [hR _ _ (Or.inr (Or.inr (Or.inl rfl))), hR _ _ (Or.inr (Or.inr (Or.inl rfl)))]; exact hM.1 i j hi hj hij, fun i hi => ?_⟩, hm⟩
  · rw [hI _ _ (by omega) (by unfold xScr; omega)]; exact k1 f k hf hk
  · rw [hI _ _ (by omega) (by unfold xScr; omega)]; exact k2 j k m hj hk hm
  · rw [hI _ _ (by omega) (by unfold xScr; omega)]; exact (k3 b m hb hm).1
  · rw [hI _ _ (by omega) (by unfold xScr; omega)]; exact (k3 b m hb hm).2
  · rw [hI _ _ (by omega) (by unfold xScr; omega)]; exact k4
  · rw [hI _ _ (by omega) (by unfold xScr; omega)]; exact k5
  · rw [hI _ _ (by omega) (by unfold xScr; omega)]; exact t1
  · rw [hI _ _ (by omega) (by unfold xScr; omega)]; exact t3 i hi
  · rw [hI _ _ (by omega) (by unfold xScr; omega)]; exact o1
  · rw [hI _ _ (by omega) (by unfold xScr; omega)]; exact (o3 i hi).1
  · rw [hI _ _ (by omega) (by unfold xScr; omega)]; exact (o3 i hi).2.1
  · rw [hI _ _ (by omega) (by unfold xScr; omega)]; exact (o3 i hi).2.2
  · obtain ⟨c, d, q1, q2, q3, q4, q5, q6, q7, q8⟩ := hl l hl9
    refine ⟨c, d, by rw [hR _ _ (Or.inl rfl)]; exact q1, q2, by rw [(hD c q2).1]; exact q3, by rw [(hD c q2).2.2.2]; exact q4, q5, by rw [(hD d q5).1]; exact q6, by rw [(hD d q5).2.1]; exact q7, fun w hw => ?_⟩
    rw [(hD d q5).2.2.2]
    exact xTo_keep hT (q8 w hw)
  · obtain ⟨c, q1, q2, q3, q4, q5, q6, q7⟩ := hw i hi
    refine ⟨c, by rw [hR _ _ (Or.inr (Or.inl rfl))]; exact q1, q2, by rw [(hD c q2).1]; exact q3, ?_, by rw [(hD c q2).2.2.1]; exact q5, by rw [(hD c q2).2.2.1]; exact q6, by rw [(hD c q2).2.2.1]; exact q7⟩
    rw [(hD c q2).2.2.2]
    exact xTo_keep hT q4
  · rw [hR _ _ (Or.inr (Or.inr (Or.inl rfl)))]
    rcases hM.2 i hi with q | ⟨c, o, q1, q2, q3, q4, q5, q6, q7, q8⟩
    · exact Or.inl q
    · refine Or.inr ⟨c, o, q1, q2, q3, by rw [(hD c (Or.inr q3)).1]; exact q4, by rw [(hD c (Or.inr q3)).2.1]; exact q5, by rw [(hD c (Or.inr q3)).2.2.1]; exact q6, q7, fun j k m hj hk hm => ?_⟩
      rw [(hD c (Or.inr q3)).2.2.1]
      exact q8 j k m hj hk hm
theorem gEqC.trans {M N K : gM} {c : Nat} (h : gEqC M N c) (h2 : gEqC N K c) : gEqC M K c :=
  ⟨h.1.trans h2.1, h.2.1.trans h2.2.1, fun k => (h.2.2.1 k).trans (h2.2.2.1 k), fun k => (h.2.2.2.1 k).trans (h2.2.2.2.1 k), fun k => (h.2.2.2.2 k).trans (h2.2.2.2.2 k)⟩
theorem RX.keep {N M M1 : gM} {n0 a a1 : Nat} {D : gD} (h : RX N n0 a D M) (hf : gFix M1) (hn : gn M ≤ gn M1) (ha : gn M1 + a1 ≤ gLC ∧ gs M1 + a1 ≤ gLS)
    (hk : ∀ c, c < 268 ∨ (312 ≤ c ∧ c < n0) → gk M1 c = gk M c ∧ gl M1 c = gl M c) (hI : ∀ c k, c < n0 → ¬ xScr n0 c k → gI M1 c k = gI M c k) (hR : ∀ c k, (c = 26 ∨ c = 27 ∨ c = 87 ∨ xDyn n0 c) → gR M1 c k = gR M c k) (hm : ∀ c : Nat, 268 ≤ c → c < 312 → gEqC M1 M c) : RX N n0 a1 D M1 :=
  h.keepN hf hn ha hk (fun c k q => hI c k (by have := h.2.1; omega)) hR fun c c1 c2 => (hm c c1 c2).trans (h.2.2.2.2.2.2.2.2 c c1 c2)
theorem gEqC_rfl (M : gM) (c : Nat) : gEqC M M c := ⟨rfl, rfl, fun _ => rfl, fun _ => rfl, fun _ => rfl⟩
theorem RX.sI {N M : gM} {n0 a : Nat} {D : gD} {c k : Nat} {v : Int32} (h : RX N n0 a D M) (hs : xScr n0 c k) (hc : c < 268 ∨ 312 ≤ c) : RX N n0 a D (gsI M c k v) := by
  refine h.keep h.1 (Nat.le_refl _) ⟨h.2.1.1, h.2.1.2.1⟩ (fun _ _ => ⟨rfl, rfl⟩) (fun c' k' _ q => ?_) (fun _ _ _ => rfl) (fun c' c1 c2 => ⟨rfl, rfl, fun k' => ?_, fun _ => rfl, fun _ => rfl⟩)
  · rw [gI_sI, if_neg fun e => q (by rw [e.1, e.2]; exact hs)]
  · rw [gI_sI, if_neg (by omega)]
theorem RX.sL {N M : gM} {n0 a : Nat} {D : gD} {c k : Nat} {v : Int64} (h : RX N n0 a D M) (hc : c < 268 ∨ 312 ≤ c) : RX N n0 a D (gsL M c k v) := by
  refine h.keep h.1 (Nat.le_refl _) ⟨h.2.1.1, h.2.1.2.1⟩ (fun _ _ => ⟨rfl, rfl⟩) (fun c' k' _ q => rfl) (fun _ _ _ => rfl) (fun c' c1 c2 => ⟨rfl, rfl, fun _ => rfl, fun k' => ?_, fun _ => rfl⟩)
  rw [gL_sL, if_neg (by omega)]
theorem RX.new {N M : gM} {n0 a b : Nat} {D : gD} {kd len sz : Nat} (h : RX N n0 a D M) (h1 : b + 1 ≤ a) (h2 : b + sz ≤ a) : RX N n0 b D (gnew M kd len sz) := by
  have h5 := h.2.1
  have h6 := h.1.1
  refine h.keep (gFix_new h.1) (by rw [gn_new]; omega) ⟨by rw [gn_new]; omega, by rw [gs_new]; omega⟩ (fun c q => ⟨?_, ?_⟩) (fun c' k' q _ => ?_) (fun c' k' q => ?_) (fun c' c1 c2 => ⟨?_, ?_, fun k' => ?_, fun k' => ?_, fun k' => ?_⟩)
  · rw [gk_new, if_neg (by omega)]
  · rw [gl_new, if_neg (by omega)]
  · rw [gI_new, if_neg (by omega)]
  · unfold xDyn at q; rw [gR_new, if_neg (by omega)]
  · rw [gk_new, if_neg (by omega)]
  · rw [gl_new, if_neg (by omega)]
  · rw [gI_new, if_neg (by omega)]
  · rw [gL_new, if_neg (by omega)]
  · rw [gR_new, if_neg (by omega)]
