/-! what changes what is told: pictures of changed data; ops kitchen, call, sheet, tenths, book -/
set_option maxRecDepth 100000
def upD (D : gD) (f k m : Nat) (v : Int32) : gD := (fun f' k' m' => if f' = f ∧ k' = k ∧ m' = m then v else dd D f' k' m', D.2)
theorem dd_up {D : gD} {f k m : Nat} {v : Int32} {f' k' m' : Nat} : dd (upD D f k m v) f' k' m' = if f' = f ∧ k' = k ∧ m' = m then v else dd D f' k' m' := rfl
theorem RX.gen {N N1 M M1 : gM} {n0 a a1 : Nat} {D D1 : gD} (h : RX N n0 a D M) (hf : gFix M1) (hn : gn M ≤ gn M1) (ha : gn M1 + a1 ≤ gLC ∧ gs M1 + a1 ≤ gLS) (hk : ∀ c, xDyn n0 c → gk M1 c = gk M c ∧ gl M1 c = gl M c) (hI : ∀ c k, xDyn n0 c → gI M1 c k = gI M c k) (hR : ∀ c k, (c = 26 ∨ c = 27 ∨ c = 87 ∨ xDyn n0 c) → gR M1 c k = gR M c k) (hm : ∀ c : Nat, 268 ≤ c → c < 312 → gEqC M1 N1 c)
    (eL : dL D1 = dL D) (eW : dW D1 = dW D) (eM : dM D1 = dM D) (k1 : xNum (dd D1) M1) (t1 : xTape (dT D1) M1) (o1 : xOth (dO D1) M1) : RX N1 n0 a1 D1 M1 := by
  obtain ⟨-, ⟨h2, h3, h4, h5⟩, -, -, -, hl, hw, hM, hN⟩ := h
  have hT : ∀ c, 312 ≤ c → c < n0 → gk M1 c = gk M c ∧ (∀ k, gI M1 c k = gI M c k) ∧ ∀ k, gR M1 c k = gR M c k := fun c c1 c2 =>
    ⟨(hk c (Or.inr ⟨c1, c2⟩)).1, fun k => hI c k (Or.inr ⟨c1, c2⟩), fun k => hR c k (by unfold xDyn; omega)⟩
  have hD : ∀ c, xDyn n0 c → gk M1 c = gk M c ∧ gl M1 c = gl M c ∧ (∀ k, gI M1 c k = gI M c k) ∧ ∀ k, gR M1 c k = gR M c k := fun c q =>
    ⟨(hk c q).1, (hk c q).2, fun k => hI c k q, fun k => hR c k (Or.inr (Or.inr (Or.inr q)))⟩
  refine ⟨hf, ⟨ha.1, ha.2, h4, by omega⟩, k1, t1, o1, fun l hl9 => ?_, fun i hi => ?_, ⟨fun i j hi hj hij => by rw [hR _ _ (Or.inr (Or.inr (Or.inl rfl))), hR _ _ (Or.inr (Or.inr (Or.inl rfl)))]; exact hM.1 i j hi hj hij, fun i hi => ?_⟩, hm⟩
  · rw [eL]
    obtain ⟨c, d, q1, q2, q3, q4, q5, q6, q7, q8⟩ := hl l hl9
    refine ⟨c, d, by rw [hR _ _ (Or.inl rfl)]; exact q1, q2, by rw [(hD c q2).1]; exact q3, by rw [(hD c q2).2.2.2]; exact q4, q5, by rw [(hD d q5).1]; exact q6, by rw [(hD d q5).2.1]; exact q7, fun w hw => ?_⟩
    rw [(hD d q5).2.2.2]
    exact xTo_keep hT (q8 w hw)
  · rw [eW]
    obtain ⟨c, q1, q2, q3, q4, q5, q6, q7⟩ := hw i hi
    refine ⟨c, by rw [hR _ _ (Or.inr (Or.inl rfl))]; exact q1, q2, by rw [(hD c q2).1]; exact q3, ?_, by rw [(hD c q2).2.2.1]; exact q5, by rw [(hD c q2).2.2.1]; exact q6, by rw [(hD c q2).2.2.1]; exact q7⟩
    rw [(hD c q2).2.2.2]
    exact xTo_keep hT q4
  · rw [eM, hR _ _ (Or.inr (Or.inr (Or.inl rfl)))]
    rcases hM.2 i hi with q | ⟨c, o, q1, q2, q3, q4, q5, q6, q7, q8⟩
    · exact Or.inl q
    · refine Or.inr ⟨c, o, q1, q2, q3, by rw [(hD c (Or.inr q3)).1]; exact q4, by rw [(hD c (Or.inr q3)).2.1]; exact q5, by rw [(hD c (Or.inr q3)).2.2.1]; exact q6, q7, fun j k m hj hk hm => ?_⟩
      rw [(hD c (Or.inr q3)).2.2.1]
      exact q8 j k m hj hk hm
/-- one int written to a cell of the constructor's, in x -/
theorem RX.wr {N M : gM} {n0 a : Nat} {D D1 : gD} {c k : Nat} {v : Int32} (h : RX N n0 a D M) (hc : c < 256) (eL : dL D1 = dL D) (eW : dW D1 = dW D) (eM : dM D1 = dM D) (k1 : xNum (dd D1) (gsI M c k v)) (t1 : xTape (dT D1) (gsI M c k v)) (o1 : xOth (dO D1) (gsI M c k v)) : RX N n0 a D1 (gsI M c k v) :=
  h.gen (by rw [gFix_sI]; exact h.1) (Nat.le_refl _) ⟨h.2.1.1, h.2.1.2.1⟩ (fun _ _ => ⟨rfl, rfl⟩) (fun c' k' q => by unfold xDyn at q; rw [gI_sI, if_neg (by omega)]) (fun _ _ _ => rfl) (fun c' c1 c2 => by
    obtain ⟨e1, e2, e3, e4, e5⟩ := h.2.2.2.2.2.2.2.2 c' c1 c2
    exact ⟨e1, e2, fun k' => by rw [gI_sI, if_neg (by omega)]; exact e3 k', e4, e5⟩) eL eW eM k1 t1 o1
theorem xTape_sI {t : Nat × (Nat → Int32)} {M : gM} {c k : Nat} {v : Int32} (h : xTape t M) (hc : c ≠ 24 ∧ ¬ (c = 16 ∧ k = 7)) : xTape t (gsI M c k v) :=
  ⟨by rw [gI_sI, if_neg (by omega)]; exact h.1, h.2.1, fun i hi => by rw [gI_sI, if_neg (by omega)]; exact h.2.2 i hi⟩
theorem xOth_sI {o : Nat × (Nat → Nat → Int32)} {M : gM} {c k : Nat} {v : Int32} (h : xOth o M) (hc : ¬ (82 ≤ c ∧ c ≤ 84) ∧ ¬ (c = 16 ∧ k = 22)) : xOth o (gsI M c k v) :=
  ⟨by rw [gI_sI, if_neg (by omega)]; exact h.1, h.2.1, fun i hi => by rw [gI_sI, if_neg (by omega), gI_sI, if_neg (by omega), gI_sI, if_neg (by omega)]; exact h.2.2 i hi⟩
section
variable {N M : gM} {n0 a : Nat} {D : gD}
theorem RX.putK (h : RX N n0 a D M) {f k : Nat} (hf : f < 5) (hk : k < 24) {v : Int32} : RX N n0 a (upD D f k 0 v) (gsI M (88 + 7 * k) f v) := by
  refine h.wr (by omega) rfl rfl rfl ?_ (xTape_sI h.2.2.2.1 (by omega)) (xOth_sI h.2.2.2.2.1 (by omega))
  obtain ⟨n1, n2, n3, n4, n5⟩ := h.2.2.1
  refine ⟨fun f' k' h1 h2 => ?_, fun j k' m h1 h2 h3 => ?_, fun b m h1 h2 => ⟨?_, ?_⟩, ?_, ?_⟩
  · rw [gI_sI, dd_up]
    by_cases e : f' = f ∧ k' = k
    · rw [if_pos (by omega), if_pos ⟨e.1, e.2, rfl⟩]
    · rw [if_neg (by omega), if_neg (by omega)]; exact n1 f' k' h1 h2
  · rw [gI_sI, dd_up, if_neg (by omega), if_neg (by omega)]; exact n2 j k' m h1 h2 h3
  · rw [gI_sI, dd_up, if_neg (by omega), if_neg (by omega)]; exact (n3 b m h1 h2).1
  · rw [gI_sI, dd_up, if_neg (by omega), if_neg (by omega)]; exact (n3 b m h1 h2).2
  · rw [gI_sI, dd_up, if_neg (by omega), if_neg (by omega)]; exact n4
  · rw [gI_sI, dd_up, if_neg (by omega), if_neg (by omega)]; exact n5
theorem RX.putA (h : RX N n0 a D M) {j k m : Nat} (hj : j < 6) (hk : k < 24) (hm : m < 12) {v : Int32} : RX N n0 a (upD D (5 + j) k m v) (gsI M (89 + 7 * k + j) m v) := by
  refine h.wr (by omega) rfl rfl rfl ?_ (xTape_sI h.2.2.2.1 (by omega)) (xOth_sI h.2.2.2.2.1 (by omega))
  obtain ⟨n1, n2, n3, n4, n5⟩ := h.2.2.1
  refine ⟨fun f' k' h1 h2 => ?_, fun j' k' m' h1 h2 h3 => ?_, fun b m h1 h2 => ⟨?_, ?_⟩, ?_, ?_⟩
  · rw [gI_sI, dd_up, if_neg (by omega), if_neg (by omega)]; exact n1 f' k' h1 h2
  · rw [gI_sI, dd_up]
    by_cases e : j' = j ∧ k' = k ∧ m' = m
    · rw [if_pos (by omega), if_pos (by omega)]
    · rw [if_neg (by omega), if_neg (by omega)]; exact n2 j' k' m' h1 h2 h3
  · rw [gI_sI, dd_up, if_neg (by omega), if_neg (by omega)]; exact (n3 b m h1 h2).1
  · rw [gI_sI, dd_up, if_neg (by omega), if_neg (by omega)]; exact (n3 b m h1 h2).2
  · rw [gI_sI, dd_up, if_neg (by omega), if_neg (by omega)]; exact n4
  · rw [gI_sI, dd_up, if_neg (by omega), if_neg (by omega)]; exact n5
theorem RX.putF (h : RX N n0 a D M) {t b m : Nat} (ht : t < 2) (hb : b < 2) (hm : m < 12) {v : Int32} : RX N n0 a (upD D (11 + t) b m v) (gsI M (19 + 3 * t + b) m v) := by
  refine h.wr (by omega) rfl rfl rfl ?_ (xTape_sI h.2.2.2.1 (by omega)) (xOth_sI h.2.2.2.2.1 (by omega))
  obtain ⟨n1, n2, n3, n4, n5⟩ := h.2.2.1
  refine ⟨fun f' k' h1 h2 => ?_, fun j' k' m' h1 h2 h3 => ?_, fun b' m' h1 h2 => ⟨?_, ?_⟩, ?_, ?_⟩
  · rw [gI_sI, dd_up, if_neg (by omega), if_neg (by omega)]; exact n1 f' k' h1 h2
  · rw [gI_sI, dd_up, if_neg (by omega), if_neg (by omega)]; exact n2 j' k' m' h1 h2 h3
  · rw [gI_sI, dd_up]
    by_cases e : t = 0 ∧ b' = b ∧ m' = m
    · rw [if_pos (by omega), if_pos (by omega)]
    · rw [if_neg (by omega), if_neg (by omega)]; exact (n3 b' m' h1 h2).1
  · rw [gI_sI, dd_up]
    by_cases e : t = 1 ∧ b' = b ∧ m' = m
    · rw [if_pos (by omega), if_pos (by omega)]
    · rw [if_neg (by omega), if_neg (by omega)]; exact (n3 b' m' h1 h2).2
  · rw [gI_sI, dd_up, if_neg (by omega), if_neg (by omega)]; exact n4
  · rw [gI_sI, dd_up, if_neg (by omega), if_neg (by omega)]; exact n5
theorem RX.putT (h : RX N n0 a D M) {t : Nat} (ht : t < 2) {v : Int32} : RX N n0 a (upD D 13 0 t v) (gsI M 16 (8 + t) v) := by
  refine h.wr (by omega) rfl rfl rfl ?_ (xTape_sI h.2.2.2.1 (by omega)) (xOth_sI h.2.2.2.2.1 (by omega))
  obtain ⟨n1, n2, n3, n4, n5⟩ := h.2.2.1
  refine ⟨fun f' k' h1 h2 => ?_, fun j' k' m' h1 h2 h3 => ?_, fun b' m' h1 h2 => ⟨?_, ?_⟩, ?_, ?_⟩
  · rw [gI_sI, dd_up, if_neg (by omega), if_neg (by omega)]; exact n1 f' k' h1 h2
  · rw [gI_sI, dd_up, if_neg (by omega), if_neg (by omega)]; exact n2 j' k' m' h1 h2 h3
  · rw [gI_sI, dd_up, if_neg (by omega), if_neg (by omega)]; exact (n3 b' m' h1 h2).1
  · rw [gI_sI, dd_up, if_neg (by omega), if_neg (by omega)]; exact (n3 b' m' h1 h2).2
  · rw [gI_sI, dd_up]
    by_cases e : t = 0
    · rw [if_pos (by omega), if_pos (by omega)]
    · rw [if_neg (by omega), if_neg (by omega)]; exact n4
  · rw [gI_sI, dd_up]
    by_cases e : t = 1
    · rw [if_pos (by omega), if_pos (by omega)]
    · rw [if_neg (by omega), if_neg (by omega)]; exact n5
end
theorem RM.gen {N M M1 : gM} {D D1 : gD} (h : RM N D M) (hf : gFix M1) (hn : gn M1 = gn M ∧ gs M1 = gs M) (hI : ∀ c k, (288 ≤ c ∧ c < 292) ∨ (300 ≤ c ∧ c < 304) ∨ (309 ≤ c ∧ c < 312) → gI M1 c k = gI M c k) (hL : ∀ k, gL M1 273 k = gL M 273 k) (hm : ∀ c : Nat, (c < 268 ∨ 312 ≤ c) → gEqC M1 M c)
    (eL : dL D1 = dL D) (eW : dW D1 = dW D) (eM : dM D1 = dM D) (k1 : mNum (dd D1) M1) (t1 : mTape (dT D1) M1) (o1 : mOth (dO D1) M1) : RM N D1 M1 := by
  obtain ⟨h1, h2, -, -, -, hl, hw, hM, hc, hN⟩ := h
  have hT : ∀ c k, c = 289 ∨ c = 290 → k < 4400 ∨ 5500 ≤ k → gI M1 c k = gI M c k := fun c k q r => hI c k (by omega)
  refine ⟨hf, ⟨hn.1.trans h2.1, hn.2.trans h2.2⟩, k1, t1, o1, fun l w hl9 hw9 => ?_, fun i hi => ?_, fun i hi => ?_, ⟨fun i hi => ?_, fun i hi => ?_⟩, fun c q => ?_⟩
  · rw [eL, hI 288 _ (by omega)]
    exact mLin_keep (by omega) hT (hl l w hl9 hw9)
  · rw [eW, hI 300 _ (by omega), hI 301 _ (by omega), hI 302 _ (by omega), hI 303 _ (by omega)]
    exact ⟨mLin_keep (by omega) hT (hw i hi).1, (hw i hi).2⟩
  · rw [eM, hI 309 _ (by omega), hI 310 _ (by omega)]
    rcases hM i hi with q | ⟨o, q1, q2, q3, q4, q5⟩
    · exact Or.inl q
    · refine Or.inr ⟨o, q1, q2, q3, q4, fun k m hk hm => ?_⟩
      rw [hI 311 _ (by omega), hI 311 _ (by omega), hI 311 _ (by omega), hI 311 _ (by omega), hI 311 _ (by omega), hI 311 _ (by omega)]
      exact q5 k m hk hm
  · rw [hL]; exact hc.1 i hi
  · rw [hI 291 _ (by omega)]; exact hc.2 i hi
  · obtain ⟨e1, e2, e3, e4, e5⟩ := hm c q
    obtain ⟨f1, f2, f3, f4, f5⟩ := hN c q
    exact ⟨e1.trans f1, e2.trans f2, fun k => (e3 k).trans (f3 k), fun k => (e4 k).trans (f4 k), fun k => (e5 k).trans (f5 k)⟩
/-- ints written to cells of m -/
theorem RM.wr {N M : gM} {D D1 : gD} {c k : Nat} {v : Int32} (h : RM N D M) (hc : (268 ≤ c ∧ c < 288) ∨ (292 ≤ c ∧ c < 300) ∨ (304 ≤ c ∧ c < 309)) (eL : dL D1 = dL D) (eW : dW D1 = dW D) (eM : dM D1 = dM D) (k1 : mNum (dd D1) (gsI M c k v)) (t1 : mTape (dT D1) (gsI M c k v)) (o1 : mOth (dO D1) (gsI M c k v)) : RM N D1 (gsI M c k v) :=
  h.gen (by rw [gFix_sI]; exact h.1) ⟨rfl, rfl⟩ (fun c' k' q => by rw [gI_sI, if_neg (by omega)]) (fun _ => rfl) (fun c' q => ⟨rfl, rfl, fun k' => by rw [gI_sI, if_neg (by omega)], fun _ => rfl, fun _ => rfl⟩) eL eW eM k1 t1 o1
theorem RM.wr2 {N M : gM} {D D1 : gD} {c k c2 k2 : Nat} {v v2 : Int32} (h : RM N D M) (hc : (268 ≤ c ∧ c < 288) ∨ (292 ≤ c ∧ c < 300) ∨ (304 ≤ c ∧ c < 309)) (hc2 : (268 ≤ c2 ∧ c2 < 288) ∨ (292 ≤ c2 ∧ c2 < 300) ∨ (304 ≤ c2 ∧ c2 < 309)) (eL : dL D1 = dL D) (eW : dW D1 = dW D) (eM : dM D1 = dM D) (k1 : mNum (dd D1) (gsI (gsI M c k v) c2 k2 v2)) (t1 : mTape (dT D1) (gsI (gsI M c k v) c2 k2 v2)) (o1 : mOth (dO D1) (gsI (gsI M c k v) c2 k2 v2)) : RM N D1 (gsI (gsI M c k v) c2 k2 v2) :=
  h.gen (by rw [gFix_sI, gFix_sI]; exact h.1) ⟨rfl, rfl⟩ (fun c' k' q => by rw [gI_sI, if_neg (by omega), gI_sI, if_neg (by omega)]) (fun _ => rfl) (fun c' q => ⟨rfl, rfl, fun k' => by rw [gI_sI, if_neg (by omega), gI_sI, if_neg (by omega)], fun _ => rfl, fun _ => rfl⟩) eL eW eM k1 t1 o1
theorem mTape_sI {t : Nat × (Nat → Int32)} {M : gM} {c k : Nat} {v : Int32} (h : mTape t M) (hc : c ≠ 269 ∧ ¬ (c = 268 ∧ k = 2)) : mTape t (gsI M c k v) :=
  ⟨by rw [gI_sI, if_neg (by omega)]; exact h.1, h.2.1, fun i hi => by rw [gI_sI, if_neg (by omega)]; exact h.2.2 i hi⟩
theorem mOth_sI {o : Nat × (Nat → Nat → Int32)} {M : gM} {c k : Nat} {v : Int32} (h : mOth o M) (hc : ¬ (297 ≤ c ∧ c ≤ 299) ∧ ¬ (c = 268 ∧ k = 41)) : mOth o (gsI M c k v) :=
  ⟨by rw [gI_sI, if_neg (by omega)]; exact h.1, h.2.1, fun i hi => by rw [gI_sI, if_neg (by omega), gI_sI, if_neg (by omega), gI_sI, if_neg (by omega)]; exact h.2.2 i hi⟩
/-- mNum, place by place -/
theorem mNum_up {d d1 : Nat → Nat → Nat → Int32} {M M1 : gM} (h : mNum d M) (a1 : ∀ k : Nat, k < 24 → (gI M1 274 k = gI M 274 k ∧ d1 3 k 0 = d 3 k 0 ∨ gI M1 274 k = d1 3 k 0) ∧ (gI M1 275 k = gI M 275 k ∧ d1 0 k 0 = d 0 k 0 ∨ gI M1 275 k = d1 0 k 0) ∧ (gI M1 276 k = gI M 276 k ∧ d1 1 k 0 = d 1 k 0 ∨ gI M1 276 k = d1 1 k 0) ∧ (gI M1 277 k = gI M 277 k ∧ d1 2 k 0 = d 2 k 0 ∨ gI M1 277 k = d1 2 k 0) ∧ (gI M1 278 k = gI M 278 k ∧ d1 4 k 0 = d 4 k 0 ∨ gI M1 278 k = d1 4 k 0))
    (a2 : ∀ b m : Nat, b < 2 → m < 12 → (gI M1 279 (12 * b + m) = gI M 279 (12 * b + m) ∧ d1 11 b m = d 11 b m ∨ gI M1 279 (12 * b + m) = d1 11 b m) ∧ (gI M1 280 (12 * b + m) = gI M 280 (12 * b + m) ∧ d1 12 b m = d 12 b m ∨ gI M1 280 (12 * b + m) = d1 12 b m))
    (a3 : ∀ k m : Nat, k < 24 → m < 12 → (gI M1 281 (12 * k + m) = gI M 281 (12 * k + m) ∧ d1 5 k m = d 5 k m ∨ gI M1 281 (12 * k + m) = stM (d1 5 k m)) ∧ (gI M1 282 (12 * k + m) = gI M 282 (12 * k + m) ∧ d1 5 k m = d 5 k m ∨ gI M1 282 (12 * k + m) = whM (d1 5 k m)) ∧ (gI M1 283 (12 * k + m) = gI M 283 (12 * k + m) ∧ d1 6 k m = d 6 k m ∨ gI M1 283 (12 * k + m) = d1 6 k m) ∧ (gI M1 284 (12 * k + m) = gI M 284 (12 * k + m) ∧ d1 7 k m = d 7 k m ∨ gI M1 284 (12 * k + m) = isM (d1 7 k m)) ∧ (gI M1 285 (12 * k + m) = gI M 285 (12 * k + m) ∧ d1 7 k m = d 7 k m ∨ gI M1 285 (12 * k + m) = whM (d1 7 k m)) ∧ (gI M1 286 (12 * k + m) = gI M 286 (12 * k + m) ∧ d1 8 k m = d 8 k m ∨ gI M1 286 (12 * k + m) = d1 8 k m) ∧ (gI M1 305 (12 * k + m) = gI M 305 (12 * k + m) ∧ d1 9 k m = d 9 k m ∨ gI M1 305 (12 * k + m) = d1 9 k m) ∧ (gI M1 306 (12 * k + m) = gI M 306 (12 * k + m) ∧ d1 10 k m = d 10 k m ∨ gI M1 306 (12 * k + m) = d1 10 k m))
    (a4 : gI M1 268 15 = gI M 268 15 ∧ d1 13 0 0 = d 13 0 0 ∨ gI M1 268 15 = d1 13 0 0) : mNum d1 M1 := by
  obtain ⟨n1, n2, n3, n4⟩ := h
  have t : ∀ {x y u v : Int32}, x = u → (y = x ∧ v = u ∨ y = v) → y = v := by
    intro x y u v e q
    rcases q with ⟨q1, q2⟩ | q
    · rw [q1, q2, e]
    · exact q
  have s : ∀ (g : Int32 → Int32) {x y u v : Int32}, x = g u → (y = x ∧ v = u ∨ y = g v) → y = g v := by
    intro g x y u v e q
    rcases q with ⟨q1, q2⟩ | q
    · rw [q1, q2, e]
    · exact q
  refine ⟨fun k hk => ?_, fun b m hb hm => ?_, fun k m hk hm => ?_, t n4 a4⟩
  · obtain ⟨x1, x2, x3, x4, x5⟩ := n1 k hk
    obtain ⟨y1, y2, y3, y4, y5⟩ := a1 k hk
    exact ⟨t x1 y1, t x2 y2, t x3 y3, t x4 y4, t x5 y5⟩
  · obtain ⟨x1, x2⟩ := n2 b m hb hm
    obtain ⟨y1, y2⟩ := a2 b m hb hm
    exact ⟨t x1 y1, t x2 y2⟩
  · obtain ⟨x1, x2, x3, x4, x5, x6, x7, x8⟩ := n3 k m hk hm
    obtain ⟨y1, y2, y3, y4, y5, y6, y7, y8⟩ := a3 k m hk hm
    exact ⟨s stM x1 y1, s whM x2 y2, t x3 y3, s isM x4 y4, s whM x5 y5, t x6 y6, t x7 y7, t x8 y8⟩
/-! m's picture of changed data -/
set_option maxRecDepth 100000
section
variable {N M : gM} {D : gD}
def mcK (f : Nat) : Nat := if f = 3 then 274 else if f = 4 then 278 else 275 + f
theorem RM.putK (h : RM N D M) {f k : Nat} (hf : f < 5) (hk : k < 24) {v : Int32} : RM N (upD D f k 0 v) (gsI M (mcK f) k v) := by
  have hc : f = 0 ∨ f = 1 ∨ f = 2 ∨ f = 3 ∨ f = 4 := by omega
  have q : (f = 0 ∧ mcK f = 275) ∨ (f = 1 ∧ mcK f = 276) ∨ (f = 2 ∧ mcK f = 277) ∨ (f = 3 ∧ mcK f = 274) ∨ (f = 4 ∧ mcK f = 278) := by
    rcases hc with rfl | rfl | rfl | rfl | rfl <;> simp [mcK]
  generalize mcK f = c at *
  refine h.wr (by omega) rfl rfl rfl (mNum_up h.2.2.1 (fun k' hk' => ?_) (fun b m hb hm => ?_) (fun k' m hk' hm => ?_) ?_) (mTape_sI h.2.2.2.1 (by omega)) (mOth_sI h.2.2.2.2.1 (by omega))
  · by_cases e : k' = k
    · subst e
      refine ⟨?_, ?_, ?_, ?_, ?_⟩ <;> (rcases q with q | q | q | q | q <;> first | (left; exact ⟨by rw [gI_sI, if_neg (by omega)], by rw [dd_up, if_neg (by omega)]⟩) | (right; rw [gI_sI, if_pos (by omega), dd_up, if_pos (by omega)]))
    · refine ⟨?_, ?_, ?_, ?_, ?_⟩ <;> (left; exact ⟨by rw [gI_sI, if_neg (by omega)], by rw [dd_up, if_neg (by omega)]⟩)
  · refine ⟨?_, ?_⟩ <;> (left; exact ⟨by rw [gI_sI, if_neg (by omega)], by rw [dd_up, if_neg (by omega)]⟩)
  · refine ⟨?_, ?_, ?_, ?_, ?_, ?_, ?_, ?_⟩ <;> (left; exact ⟨by rw [gI_sI, if_neg (by omega)], by rw [dd_up, if_neg (by omega)]⟩)
  · left; exact ⟨by rw [gI_sI, if_neg (by omega)], by rw [dd_up, if_neg (by omega)]⟩
theorem RM.putF (h : RM N D M) {t b m : Nat} (ht : t < 2) (hb : b < 2) (hm : m < 12) {v : Int32} : RM N (upD D (11 + t) b m v) (gsI M (279 + t) (12 * b + m) v) := by
  refine h.wr (by omega) rfl rfl rfl (mNum_up h.2.2.1 (fun k' hk' => ?_) (fun b' m' hb' hm' => ?_) (fun k' m' hk' hm' => ?_) ?_) (mTape_sI h.2.2.2.1 (by omega)) (mOth_sI h.2.2.2.2.1 (by omega))
  · refine ⟨?_, ?_, ?_, ?_, ?_⟩ <;> (left; exact ⟨by rw [gI_sI, if_neg (by omega)], by rw [dd_up, if_neg (by omega)]⟩)
  · have ht2 : t = 0 ∨ t = 1 := by omega
    by_cases e : b' = b ∧ m' = m
    · obtain ⟨rfl, rfl⟩ := e
      rcases ht2 with rfl | rfl <;> refine ⟨?_, ?_⟩ <;> first | (left; exact ⟨by rw [gI_sI, if_neg (by omega)], by rw [dd_up, if_neg (by omega)]⟩) | (right; rw [gI_sI, if_pos (by omega), dd_up, if_pos (by omega)])
    · refine ⟨?_, ?_⟩ <;> (left; exact ⟨by rw [gI_sI, if_neg (by omega)], by rw [dd_up, if_neg (by omega)]⟩)
  · refine ⟨?_, ?_, ?_, ?_, ?_, ?_, ?_, ?_⟩ <;> (left; exact ⟨by rw [gI_sI, if_neg (by omega)], by rw [dd_up, if_neg (by omega)]⟩)
  · left; exact ⟨by rw [gI_sI, if_neg (by omega)], by rw [dd_up, if_neg (by omega)]⟩
def mcA (f : Nat) : Nat := if f = 6 then 283 else if f = 8 then 286 else if f = 9 then 305 else 306
theorem RM.putA (h : RM N D M) {f k m : Nat} (hf : f = 6 ∨ f = 8 ∨ f = 9 ∨ f = 10) (hk : k < 24) (hm : m < 12) {v : Int32} : RM N (upD D f k m v) (gsI M (mcA f) (12 * k + m) v) := by
  have q : (f = 6 ∧ mcA f = 283) ∨ (f = 8 ∧ mcA f = 286) ∨ (f = 9 ∧ mcA f = 305) ∨ (f = 10 ∧ mcA f = 306) := by
    rcases hf with rfl | rfl | rfl | rfl <;> simp [mcA]
  generalize mcA f = c at *
  refine h.wr (by omega) rfl rfl rfl (mNum_up h.2.2.1 (fun k' hk' => ?_) (fun b' m' hb' hm' => ?_) (fun k' m' hk' hm' => ?_) ?_) (mTape_sI h.2.2.2.1 (by omega)) (mOth_sI h.2.2.2.2.1 (by omega))
  · refine ⟨?_, ?_, ?_, ?_, ?_⟩ <;> (left; exact ⟨by rw [gI_sI, if_neg (by omega)], by rw [dd_up, if_neg (by omega)]⟩)
  · refine ⟨?_, ?_⟩ <;> (left; exact ⟨by rw [gI_sI, if_neg (by omega)], by rw [dd_up, if_neg (by omega)]⟩)
  · by_cases e : k' = k ∧ m' = m
    · obtain ⟨rfl, rfl⟩ := e
      refine ⟨?_, ?_, ?_, ?_, ?_, ?_, ?_, ?_⟩ <;> (rcases q with q | q | q | q <;> first | (left; exact ⟨by rw [gI_sI, if_neg (by omega)], by rw [dd_up, if_neg (by omega)]⟩) | (right; rw [gI_sI, if_pos (by omega), dd_up, if_pos (by omega)]))
    · refine ⟨?_, ?_, ?_, ?_, ?_, ?_, ?_, ?_⟩ <;> (left; exact ⟨by rw [gI_sI, if_neg (by omega)], by rw [dd_up, if_neg (by omega)]⟩)
  · left; exact ⟨by rw [gI_sI, if_neg (by omega)], by rw [dd_up, if_neg (by omega)]⟩
theorem RM.put5 (h : RM N D M) {k m : Nat} (hk : k < 24) (hm : m < 12) {v : Int32} : RM N (upD D 5 k m v) (gsI (gsI M 281 (12 * k + m) (stM v)) 282 (12 * k + m) (whM v)) := by
  refine h.wr2 (by omega) (by omega) rfl rfl rfl (mNum_up h.2.2.1 (fun k' hk' => ?_) (fun b' m' hb' hm' => ?_) (fun k' m' hk' hm' => ?_) ?_) (mTape_sI (mTape_sI h.2.2.2.1 (by omega)) (by omega)) (mOth_sI (mOth_sI h.2.2.2.2.1 (by omega)) (by omega))
  · refine ⟨?_, ?_, ?_, ?_, ?_⟩ <;> (left; exact ⟨by rw [gI_sI, if_neg (by omega), gI_sI, if_neg (by omega)], by rw [dd_up, if_neg (by omega)]⟩)
  · refine ⟨?_, ?_⟩ <;> (left; exact ⟨by rw [gI_sI, if_neg (by omega), gI_sI, if_neg (by omega)], by rw [dd_up, if_neg (by omega)]⟩)
  · by_cases e : k' = k ∧ m' = m
    · obtain ⟨rfl, rfl⟩ := e
      refine ⟨?_, ?_, ?_, ?_, ?_, ?_, ?_, ?_⟩ <;> first | (left; exact ⟨by rw [gI_sI, if_neg (by omega), gI_sI, if_neg (by omega)], by rw [dd_up, if_neg (by omega)]⟩) | (right; rw [gI_sI, if_pos (by omega), dd_up, if_pos (by omega)]) | (right; rw [gI_sI, if_neg (by omega), gI_sI, if_pos (by omega), dd_up, if_pos (by omega)])
    · refine ⟨?_, ?_, ?_, ?_, ?_, ?_, ?_, ?_⟩ <;> (left; exact ⟨by rw [gI_sI, if_neg (by omega), gI_sI, if_neg (by omega)], by rw [dd_up, if_neg (by omega)]⟩)
  · left; exact ⟨by rw [gI_sI, if_neg (by omega), gI_sI, if_neg (by omega)], by rw [dd_up, if_neg (by omega)]⟩
theorem RM.put7 (h : RM N D M) {k m : Nat} (hk : k < 24) (hm : m < 12) {v : Int32} : RM N (upD D 7 k m v) (gsI (gsI M 284 (12 * k + m) (isM v)) 285 (12 * k + m) (whM v)) := by
  refine h.wr2 (by omega) (by omega) rfl rfl rfl (mNum_up h.2.2.1 (fun k' hk' => ?_) (fun b' m' hb' hm' => ?_) (fun k' m' hk' hm' => ?_) ?_) (mTape_sI (mTape_sI h.2.2.2.1 (by omega)) (by omega)) (mOth_sI (mOth_sI h.2.2.2.2.1 (by omega)) (by omega))
  · refine ⟨?_, ?_, ?_, ?_, ?_⟩ <;> (left; exact ⟨by rw [gI_sI, if_neg (by omega), gI_sI, if_neg (by omega)], by rw [dd_up, if_neg (by omega)]⟩)
  · refine ⟨?_, ?_⟩ <;> (left; exact ⟨by rw [gI_sI, if_neg (by omega), gI_sI, if_neg (by omega)], by rw [dd_up, if_neg (by omega)]⟩)
  · by_cases e : k' = k ∧ m' = m
    · obtain ⟨rfl, rfl⟩ := e
      refine ⟨?_, ?_, ?_, ?_, ?_, ?_, ?_, ?_⟩ <;> first | (left; exact ⟨by rw [gI_sI, if_neg (by omega), gI_sI, if_neg (by omega)], by rw [dd_up, if_neg (by omega)]⟩) | (right; rw [gI_sI, if_pos (by omega), dd_up, if_pos (by omega)]) | (right; rw [gI_sI, if_neg (by omega), gI_sI, if_pos (by omega), dd_up, if_pos (by omega)])
    · refine ⟨?_, ?_, ?_, ?_, ?_, ?_, ?_, ?_⟩ <;> (left; exact ⟨by rw [gI_sI, if_neg (by omega), gI_sI, if_neg (by omega)], by rw [dd_up, if_neg (by omega)]⟩)
  · left; exact ⟨by rw [gI_sI, if_neg (by omega), gI_sI, if_neg (by omega)], by rw [dd_up, if_neg (by omega)]⟩
theorem RM.putT (h : RM N D M) {v : Int32} : RM N (upD (upD D 13 0 0 v) 13 0 1 v) (gsI M 268 15 v) := by
  refine h.wr (by omega) rfl rfl rfl (mNum_up h.2.2.1 (fun k' hk' => ?_) (fun b' m' hb' hm' => ?_) (fun k' m' hk' hm' => ?_) ?_) (mTape_sI h.2.2.2.1 (by omega)) (mOth_sI h.2.2.2.2.1 (by omega))
  · refine ⟨?_, ?_, ?_, ?_, ?_⟩ <;> (left; exact ⟨by rw [gI_sI, if_neg (by omega)], by rw [dd_up, if_neg (by omega), dd_up, if_neg (by omega)]⟩)
  · refine ⟨?_, ?_⟩ <;> (left; exact ⟨by rw [gI_sI, if_neg (by omega)], by rw [dd_up, if_neg (by omega), dd_up, if_neg (by omega)]⟩)
  · refine ⟨?_, ?_, ?_, ?_, ?_, ?_, ?_, ?_⟩ <;> (left; exact ⟨by rw [gI_sI, if_neg (by omega)], by rw [dd_up, if_neg (by omega), dd_up, if_neg (by omega)]⟩)
  · right; rw [gI_sI, if_pos (by omega), dd_up, if_neg (by omega), dd_up, if_pos (by omega)]
end
/-! ops: kitchen, call, sheet, tenths, book -/
set_option maxRecDepth 100000
theorem okD_K {D : gD} (ok : okD (dd D)) {f k : Nat} {v : Int32} (hf : f < 5) (hv : (f = 0 → v = 0 ∨ v = 1) ∧ (f = 1 → 0 ≤ v ∧ v ≤ 999) ∧ (f = 2 → 0 ≤ v ∧ v ≤ 99) ∧ (f = 3 → v = 0 ∨ v = 1) ∧ (f = 4 → v = 0 ∨ v = 1)) : okD (dd (upD D f k 0 v)) := by
  obtain ⟨o1, o2, o3, o4, o5⟩ := ok
  have n : ∀ f' k' m', f' ≠ f → dd (upD D f k 0 v) f' k' m' = dd D f' k' m' := fun f' k' m' q => by rw [dd_up, if_neg (by omega)]
  have s : ∀ (P : Int32 → Prop) f' k', P (dd D f' k' 0) → (f' = f → P v) → P (dd (upD D f k 0 v) f' k' 0) := by
    intro P f' k' h1 h2
    rw [dd_up]
    split
    · next e => exact h2 e.1
    · exact h1
  refine ⟨fun k' hk' => ?_, fun k' m' h1 h2 => ?_, fun b m h1 h2 => ?_, ?_, ?_⟩
  · obtain ⟨q1, q2, q3, q4, q5⟩ := o1 k' hk'
    exact ⟨s (fun x => x = 0 ∨ x = 1) 0 k' q1 fun e => hv.1 e.symm, s (fun x => 0 ≤ x ∧ x ≤ 999) 1 k' q2 fun e => hv.2.1 e.symm, s (fun x => 0 ≤ x ∧ x ≤ 99) 2 k' q3 fun e => hv.2.2.1 e.symm, s (fun x => x = 0 ∨ x = 1) 3 k' q4 fun e => hv.2.2.2.1 e.symm, s (fun x => x = 0 ∨ x = 1) 4 k' q5 fun e => hv.2.2.2.2 e.symm⟩
  · rw [n 5 _ _ (by omega), n 6 _ _ (by omega), n 7 _ _ (by omega), n 8 _ _ (by omega), n 9 _ _ (by omega), n 10 _ _ (by omega)]; exact o2 k' m' h1 h2
  · rw [n 11 _ _ (by omega), n 12 _ _ (by omega)]; exact o3 b m h1 h2
  · rw [n 13 _ _ (by omega)]; exact o4
  · rw [n 13 _ _ (by omega), n 13 _ _ (by omega)]; exact o5
theorem okD_A {D : gD} (ok : okD (dd D)) {f k m : Nat} {v : Int32} (hf : 7 ≤ f ∧ f < 11) (hv : (f = 7 → -1 ≤ v ∧ v ≤ 99) ∧ (f = 8 → 0 ≤ v ∧ v ≤ 99) ∧ (f = 9 → 0 ≤ v ∧ v ≤ 999) ∧ (f = 10 → 0 ≤ v ∧ v ≤ 99999)) : okD (dd (upD D f k m v)) := by
  obtain ⟨o1, o2, o3, o4, o5⟩ := ok
  have n : ∀ f' k' m', f' ≠ f → dd (upD D f k m v) f' k' m' = dd D f' k' m' := fun f' k' m' q => by rw [dd_up, if_neg (by omega)]
  have s : ∀ (P : Int32 → Prop) f' k' m', P (dd D f' k' m') → (f' = f → P v) → P (dd (upD D f k m v) f' k' m') := by
    intro P f' k' m' h1 h2
    rw [dd_up]
    split
    · next e => exact h2 e.1
    · exact h1
  refine ⟨fun k' hk' => ?_, fun k' m' h1 h2 => ?_, fun b m h1 h2 => ?_, ?_, ?_⟩
  · rw [n 0 _ _ (by omega), n 1 _ _ (by omega), n 2 _ _ (by omega), n 3 _ _ (by omega), n 4 _ _ (by omega)]; exact o1 k' hk'
  · obtain ⟨q1, q2, q3, q4, q5, q6, q7⟩ := o2 k' m' h1 h2
    rw [n 5 _ _ (by omega), n 6 _ _ (by omega)]
    exact ⟨q1, q2, q3, s (fun x => -1 ≤ x ∧ x ≤ 99) 7 k' m' q4 fun e => hv.1 e.symm, s (fun x => 0 ≤ x ∧ x ≤ 99) 8 k' m' q5 fun e => hv.2.1 e.symm, s (fun x => 0 ≤ x ∧ x ≤ 999) 9 k' m' q6 fun e => hv.2.2.1 e.symm, s (fun x => 0 ≤ x ∧ x ≤ 99999) 10 k' m' q7 fun e => hv.2.2.2 e.symm⟩
  · rw [n 11 _ _ (by omega), n 12 _ _ (by omega)]; exact o3 b m h1 h2
  · rw [n 13 _ _ (by omega)]; exact o4
  · rw [n 13 _ _ (by omega), n 13 _ _ (by omega)]; exact o5
theorem okD_C {D : gD} (ok : okD (dd D)) {k m : Nat} {v w : Int32} (h1 : -2 ≤ v ∧ v ≤ 99) (h2 : 0 ≤ w ∧ w ≤ 99) (h3 : ¬ 0 ≤ v → w = 0) : okD (dd (upD (upD D 5 k m v) 6 k m w)) := by
  obtain ⟨o1, o2, o3, o4, o5⟩ := ok
  have n : ∀ f' k' m', f' ≠ 5 → f' ≠ 6 → dd (upD (upD D 5 k m v) 6 k m w) f' k' m' = dd D f' k' m' := fun f' k' m' q q2 => by rw [dd_up, if_neg (by omega), dd_up, if_neg (by omega)]
  refine ⟨fun k' hk' => ?_, fun k' m' g1 g2 => ?_, fun b m h1 h2 => ?_, ?_, ?_⟩
  · rw [n 0 _ _ (by omega) (by omega), n 1 _ _ (by omega) (by omega), n 2 _ _ (by omega) (by omega), n 3 _ _ (by omega) (by omega), n 4 _ _ (by omega) (by omega)]; exact o1 k' hk'
  · obtain ⟨q1, q2, q3, q4⟩ := o2 k' m' g1 g2
    rw [n 7 _ _ (by omega) (by omega), n 8 _ _ (by omega) (by omega), n 9 _ _ (by omega) (by omega), n 10 _ _ (by omega) (by omega)]
    by_cases e : k' = k ∧ m' = m
    · rw [dd_up, if_neg (by omega), dd_up, if_pos (by omega), dd_up, if_pos (by omega)]
      exact ⟨h1, h2, h3, q4⟩
    · rw [dd_up, if_neg (by omega), dd_up, if_neg (by omega), dd_up, if_neg (by omega), dd_up, if_neg (by omega)]
      exact ⟨q1, q2, q3, q4⟩
  · rw [n 11 _ _ (by omega) (by omega), n 12 _ _ (by omega) (by omega)]; exact o3 b m h1 h2
  · rw [n 13 _ _ (by omega) (by omega)]; exact o4
  · rw [n 13 _ _ (by omega) (by omega), n 13 _ _ (by omega) (by omega)]; exact o5
theorem okA_n {D D1 : gD} (ok : okA D) (h : okD (dd D1)) (e : D1.2 = D.2) : okA D1 := by
  obtain ⟨-, h2, h3, h4, h5⟩ := ok
  have e2 : dO D1 = dO D := congrArg (fun x => x.2.1) e
  have e3 : dW D1 = dW D := congrArg (fun x => x.2.2.2.1) e
  have e4 : dM D1 = dM D := congrArg (fun x => x.2.2.2.2) e
  have e5 : dT D1 = dT D := congrArg (fun x => x.1) e
  exact ⟨h, by rw [e2]; exact h2, by rw [e3]; exact h3, by rw [e4]; exact h4, by rw [e5]; exact h5⟩
-- kitchen
def kiD (D : gD) (k : Nat) (b w m c : Int32) : gD := upD (upD (upD (upD (upD D 3 k 0 1) 0 k 0 b) 1 k 0 w) 2 k 0 m) 4 k 0 c
def rKit (D : gD) (k b w m c : Int32) : Int32 × gD := if (in9 0 23 k && in9 0 1 b && in9 0 999 w && in9 0 99 m) = true then (1, kiD D (cl k) b w m c) else (0, D)
theorem in01 {b : Int32} (h : in9 0 1 b = true) : b = 0 ∨ b = 1 := by
  obtain ⟨j, hj, rfl⟩ := in9_nI (n := 1) rfl (by decide) h
  have : j = 0 ∨ j = 1 := by omega
  rcases this with rfl | rfl
  · exact Or.inl rfl
  · exact Or.inr rfl
theorem rKit_ok {D : gD} (ok : okA D) {k b w m c : Int32} (hc : c = 0 ∨ c = 1) : okA (rKit D k b w m c).2 := by
  unfold rKit
  split
  · next h =>
    simp only [Bool.and_eq_true] at h
    obtain ⟨⟨⟨h1, h2⟩, h3⟩, h4⟩ := h
    refine okA_n ok ?_ rfl
    exact okD_K (okD_K (okD_K (okD_K (okD_K ok.1 (by decide) (by simp)) (by decide) (by simp; exact in01 h2)) (by decide) (by simp; exact in9_iff.mp h3)) (by decide) (by simp; exact in9_iff.mp h4)) (by decide) (by simp; exact hc)
  · exact ok
section
variable {N M : gM} {n0 a9 : Nat} {D : gD}
theorem pX1_kitchen (h : RX N n0 a9 D M) {k b w m c : Int32} (hc : c = 0 ∨ c = 1) {Q : Int32 → gM → Prop} (hq : ∀ M', RX N n0 a9 (rKit D k b w m c).2 M' → Q (rKit D k b w m c).1 M') : fX1_kitchen k b w m c M Q := by
  unfold fX1_kitchen
  unfold rKit at hq
  simp only [pX1_in, gdr_some, gk_sI, gk_sL, gk_sR, gl_sI, gl_sL, gl_sR, gn_sI, gn_sL, gn_sR, gs_sI, gs_sL, gs_sR, gR_sI, gR_sL, gI_sL, gI_sR, gL_sI, gL_sR, bi_ite, bi_01, true_and, and_true]
  cases q1 : in9 0 23 k
  · rw [q1] at hq; simpa using hq M h
  cases q2 : in9 0 1 b
  · rw [q2] at hq; simp only [Bool.and_false, Bool.false_and, Bool.false_eq_true, if_false] at hq; simpa using hq M h
  cases q3 : in9 0 999 w
  · rw [q3] at hq; simp only [Bool.and_false, Bool.false_and, Bool.false_eq_true, if_false] at hq; simpa using hq M h
  cases q4 : in9 0 99 m
  · rw [q4] at hq; simp only [Bool.and_false, Bool.false_and, Bool.false_eq_true, if_false] at hq; simpa using hq M h
  have q1' := q1
  obtain ⟨i, hi, rfl⟩ := in24 q1
  rw [q1', q2, q3, q4, cl_nI hi] at hq
  simp only [Bool.and_self, if_true] at hq
  simp only [if_true, xk16 h, xk17 h, xl17 h, xr0 h, xr10 h, xr11 h, xk28 h, xk29 h, xten h, xby h, kr h hi, kk h hi, kr5 h hi, kr6 h hi, kr7 h hi, kr8 h hi, kr9 h hi, kr10 h hi, kk5 h hi, kk6 h hi, kk7 h hi, kk8 h hi, kk9 h hi, kk10 h hi, kl5 h hi, kl6 h hi, kl7 h hi, kl8 h hi, kl9 h hi, kl10 h hi, ki0 h hi, ki1 h hi, ki2 h hi, ki3 h hi, ki4 h hi, vp_in_nI hi (N := 24) (by decide), nI_clamp (Nat.lt_trans hi (by decide : 24 < 2 ^ 31)), gdr_some, gk_sI, gk_sL, gk_sR, gl_sI, gl_sL, gl_sR, gn_sI, gn_sL, gn_sR, gs_sI, gs_sL, gs_sR, gR_sI, gR_sL, gI_sL, gI_sR, gL_sI, gL_sR, bi_ite, bi_01, true_and, and_true]
  refine ⟨hc, hq _ ?_⟩
  exact (((((h.putK (f := 3) (by decide) hi).putK (f := 0) (by decide) hi).putK (f := 1) (by decide) hi).putK (f := 2) (by decide) hi).putK (f := 4) (by decide) hi)
end
section
variable {N M : gM} {D : gD}
theorem pX7_kitchen (h : RM N D M) {k b w m c : Int32} (hc : c = 0 ∨ c = 1) {Q : Int32 → gM → Prop} (hq : ∀ M', RM N (rKit D k b w m c).2 M' → Q (rKit D k b w m c).1 M') : fX7_kitchen k b w m c M Q := by
  have h0 : RM N D (gsI M 268 0 0) := h.thr9
  unfold fX7_kitchen
  unfold rKit at hq
  refine ⟨mk268 h, ?_⟩
  generalize gsI M 268 0 0 = M0 at *
  simp only [pX7_within, gdr_some, gk_sI, gk_sL, gk_sR, gl_sI, gl_sL, gl_sR, gn_sI, gn_sL, gn_sR, gs_sI, gs_sL, gs_sR, gR_sI, gR_sL, gI_sL, gI_sR, gL_sI, gL_sR, bi_ite, bi_01, true_and, and_true]
  cases q1 : in9 0 23 k
  · rw [q1] at hq; simpa using hq M0 h0
  cases q2 : in9 0 1 b
  · rw [q2] at hq; simp only [Bool.and_false, Bool.false_and, Bool.false_eq_true, if_false] at hq; simpa using hq M0 h0
  cases q3 : in9 0 999 w
  · rw [q3] at hq; simp only [Bool.and_false, Bool.false_and, Bool.false_eq_true, if_false] at hq; simpa using hq M0 h0
  cases q4 : in9 0 99 m
  · rw [q4] at hq; simp only [Bool.and_false, Bool.false_and, Bool.false_eq_true, if_false] at hq; simpa using hq M0 h0
  have q1' := q1
  obtain ⟨i, hi, rfl⟩ := in24 q1
  rw [q1', q2, q3, q4, cl_nI hi] at hq
  simp only [Bool.and_self, if_true] at hq
  simp only [if_true, mk268 h0, frm10 h0.1, fk274 h0.1, fl274 h0.1, frm11 h0.1, fk275 h0.1, fl275 h0.1, frm12 h0.1, fk276 h0.1, fl276 h0.1, frm13 h0.1, fk277 h0.1, fl277 h0.1, frm14 h0.1, fk278 h0.1, fl278 h0.1, vp_in_nI hi (N := 24) (by decide), nI_clamp (Nat.lt_trans hi (by decide : 24 < 2 ^ 31)), gdr_some, gk_sI, gk_sL, gk_sR, gl_sI, gl_sL, gl_sR, gn_sI, gn_sL, gn_sR, gs_sI, gs_sL, gs_sR, gR_sI, gR_sL, gI_sL, gI_sR, gL_sI, gL_sR, bi_ite, bi_01, true_and, and_true]
  refine ⟨hc, hq _ ?_⟩
  exact (((((h0.putK (f := 3) (by decide) hi).putK (f := 0) (by decide) hi).putK (f := 1) (by decide) hi).putK (f := 2) (by decide) hi).putK (f := 4) (by decide) hi)
end
section
variable {N M : gM} {n0 a : Nat} {D : gD}
theorem RX.pA5 (h : RX N n0 a D M) {k m : Nat} (hk : k < 24) (hm : m < 12) {v : Int32} : RX N n0 a (upD D 5 k m v) (gsI M (89 + 7 * k) m v) := by
  have e := h.putA (j := 0) (v := v) (by decide) hk hm
  rw [show 89 + 7 * k + 0 = 89 + 7 * k by omega] at e
  exact e
theorem RX.pA6 (h : RX N n0 a D M) {k m : Nat} (hk : k < 24) (hm : m < 12) {v : Int32} : RX N n0 a (upD D 6 k m v) (gsI M (90 + 7 * k) m v) := by
  have e := h.putA (j := 1) (v := v) (by decide) hk hm
  rw [show 89 + 7 * k + 1 = 90 + 7 * k by omega] at e
  exact e
theorem RX.pA7 (h : RX N n0 a D M) {k m : Nat} (hk : k < 24) (hm : m < 12) {v : Int32} : RX N n0 a (upD D 7 k m v) (gsI M (91 + 7 * k) m v) := by
  have e := h.putA (j := 2) (v := v) (by decide) hk hm
  rw [show 89 + 7 * k + 2 = 91 + 7 * k by omega] at e
  exact e
theorem RX.pA8 (h : RX N n0 a D M) {k m : Nat} (hk : k < 24) (hm : m < 12) {v : Int32} : RX N n0 a (upD D 8 k m v) (gsI M (92 + 7 * k) m v) := by
  have e := h.putA (j := 3) (v := v) (by decide) hk hm
  rw [show 89 + 7 * k + 3 = 92 + 7 * k by omega] at e
  exact e
theorem RX.pA9 (h : RX N n0 a D M) {k m : Nat} (hk : k < 24) (hm : m < 12) {v : Int32} : RX N n0 a (upD D 9 k m v) (gsI M (93 + 7 * k) m v) := by
  have e := h.putA (j := 4) (v := v) (by decide) hk hm
  rw [show 89 + 7 * k + 4 = 93 + 7 * k by omega] at e
  exact e
theorem RX.pA10 (h : RX N n0 a D M) {k m : Nat} (hk : k < 24) (hm : m < 12) {v : Int32} : RX N n0 a (upD D 10 k m v) (gsI M (94 + 7 * k) m v) := by
  have e := h.putA (j := 5) (v := v) (by decide) hk hm
  rw [show 89 + 7 * k + 5 = 94 + 7 * k by omega] at e
  exact e
end
-- call
def clW (w h : Int32) : Int32 := if w = -1 then -2 else if h = -1 then -1 else w
def caC (w h : Int32) : Bool := (decide (w = -1) && decide (h = -1)) || (in9 0 99 w && in9 (-1) 99 h)
def rCal (D : gD) (k m w h : Int32) : Int32 × gD := if (isKp (dd D) k && in9 0 11 m && caC w h) = true then (1, upD (upD D 5 (cl k) (cl m) (clW w h)) 6 (cl k) (cl m) (imax 0 h)) else (0, D)
theorem in9_m1 {w : Int32} : in9 (-1) 99 w = (decide (w = -1) || in9 0 99 w) := by
  rw [Bool.eq_iff_iff]
  simp only [in9_iff, Bool.or_eq_true, decide_eq_true_eq, Int32.le_iff_toInt_le]
  have e1 : (-1 : Int32).toInt = -1 := rfl
  have e2 : (99 : Int32).toInt = 99 := rfl
  have e3 : (0 : Int32).toInt = 0 := rfl
  have e4 : w = -1 ↔ w.toInt = -1 := ⟨fun h => by rw [h]; rfl, fun h => Int32.toInt_inj.mp (by rw [h]; rfl)⟩
  rw [e4]
  omega
theorem m1_99 : in9 0 99 (-1) = false := by decide
theorem caC_x {w h : Int32} : caC w h = (in9 (-1) 99 w && in9 (-1) 99 h && !(decide (w = -1) && decide (h ≠ -1))) := by
  unfold caC
  rw [in9_m1, in9_m1]
  by_cases e1 : w = -1
  · subst e1
    by_cases e2 : h = -1 <;> simp [e2, m1_99]
  · by_cases e2 : h = -1 <;> simp [e1, e2]
theorem rCal_ok {D : gD} (ok : okA D) {k m w h : Int32} : okA (rCal D k m w h).2 := by
  unfold rCal
  split
  · next g =>
    simp only [Bool.and_eq_true] at g
    refine okA_n ok ?_ rfl
    have g3 := g.2
    unfold caC at g3
    simp only [Bool.or_eq_true, Bool.and_eq_true, decide_eq_true_eq, in9_iff] at g3
    have e1 : (-1 : Int32).toInt = -1 := rfl
    have e2 : (99 : Int32).toInt = 99 := rfl
    have e3 : (0 : Int32).toInt = 0 := rfl
    have e4 : (-2 : Int32).toInt = -2 := rfl
    refine okD_C ok.1 ?_ ?_ ?_
    · unfold clW
      split
      · decide
      · split
        · decide
        · rcases g3 with g3 | g3
          · exact absurd g3.1 (by assumption)
          · simp only [Int32.le_iff_toInt_le] at g3 ⊢; omega
    · unfold imax
      split
      · next q =>
        simp only [Int32.le_iff_toInt_le, Int32.lt_iff_toInt_lt] at g3 q ⊢
        rcases g3 with g3 | g3
        · rw [g3.2] at q; omega
        · omega
      · decide
    · intro q
      rcases g3 with g3 | g3
      · rw [g3.2]; rfl
      · unfold clW at q
        by_cases c1 : w = -1
        · rw [c1] at g3; exact absurd g3.1.1 (by decide)
        · rw [if_neg c1] at q
          by_cases c2 : h = -1
          · rw [c2]; rfl
          · rw [if_neg c2] at q; exact absurd g3.1.1 q
  · exact ok
section
variable {N M : gM} {n0 a9 : Nat} {D : gD}
theorem pX1_call (h : RX N n0 a9 D M) {k m w v : Int32} {Q : Int32 → gM → Prop} (hq : ∀ M', RX N n0 a9 (rCal D k m w v).2 M' → Q (rCal D k m w v).1 M') : fX1_call k m w v M Q := by
  unfold fX1_call
  unfold rCal at hq
  rw [caC_x] at hq
  simp only [xk16 h, xk17 h, xl17 h, xr0 h, xr10 h, xr11 h, xk28 h, xk29 h, xten h, xby h, pX1_isKitchen h, pX1_isMonth, pX1_in, gdr_some, gk_sI, gk_sL, gk_sR, gl_sI, gl_sL, gl_sR, gn_sI, gn_sL, gn_sR, gs_sI, gs_sL, gs_sR, gR_sI, gR_sL, gI_sL, gI_sR, gL_sI, gL_sR, bi_ite, bi_01, true_and, and_true]
  cases q1 : isKp (dd D) k
  · rw [q1] at hq; simpa using hq M h
  cases q2 : in9 0 11 m
  · rw [q2] at hq; simp only [Bool.and_false, Bool.false_and, Bool.false_eq_true, if_false] at hq; simpa using hq M h
  cases q3 : in9 (-1) 99 w
  · rw [q3] at hq; simp only [Bool.and_false, Bool.false_and, Bool.false_eq_true, if_false] at hq; simpa using hq M h
  cases q4 : in9 (-1) 99 v
  · rw [q4] at hq; simp only [Bool.and_false, Bool.false_and, Bool.false_eq_true, if_false] at hq; simpa using hq M h
  simp only [if_true]
  rw [q1, q2, q3, q4] at hq
  obtain ⟨i, hi, rfl, ei, -⟩ := i24 q1
  obtain ⟨j, hj, rfl, ej⟩ := i12 q2
  rw [ei, ej] at hq
  have key : (decide (w = -1) && decide (v ≠ -1)) = false → fX1_call_b49 (nI i) (nI j) w v M Q := by
    intro e
    rw [e] at hq
    simp only [Bool.and_self, Bool.not_false, if_true] at hq
    have fin : ∀ x, x = clW w v → fX1_call_b84 (nI j) v (88 + 7 * i) (89 + 7 * i) (nI j) x M Q := by
      intro x hx
      unfold fX1_call_b84
      simp only [xk16 h, xk17 h, xl17 h, xr0 h, xr10 h, xr11 h, xk28 h, xk29 h, xten h, xby h, kr h hi, kk h hi, kr5 h hi, kr6 h hi, kr7 h hi, kr8 h hi, kr9 h hi, kr10 h hi, kk5 h hi, kk6 h hi, kk7 h hi, kk8 h hi, kk9 h hi, kk10 h hi, kl5 h hi, kl6 h hi, kl7 h hi, kl8 h hi, kl9 h hi, kl10 h hi, ki0 h hi, ki1 h hi, ki2 h hi, ki3 h hi, ki4 h hi, vp_in_nI hj (N := 12) (by decide), nI_clamp (Nat.lt_trans hj (by decide : 12 < 2 ^ 31)), gdr_some, gk_sI, gk_sL, gk_sR, gl_sI, gl_sL, gl_sR, gn_sI, gn_sL, gn_sR, gs_sI, gs_sL, gs_sR, gR_sI, gR_sL, gI_sL, gI_sR, gL_sI, gL_sR, bi_ite, bi_01, true_and, and_true, pJ0_max]
      subst hx
      exact hq _ ((h.pA5 hi hj).pA6 hi hj)
    unfold fX1_call_b49
    simp only [xk16 h, xk17 h, xl17 h, xr0 h, xr10 h, xr11 h, xk28 h, xk29 h, xten h, xby h, kr h hi, kk h hi, kr5 h hi, kr6 h hi, kr7 h hi, kr8 h hi, kr9 h hi, kr10 h hi, kk5 h hi, kk6 h hi, kk7 h hi, kk8 h hi, kk9 h hi, kk10 h hi, kl5 h hi, kl6 h hi, kl7 h hi, kl8 h hi, kl9 h hi, kl10 h hi, ki0 h hi, ki1 h hi, ki2 h hi, ki3 h hi, ki4 h hi, vp_in_nI hi (N := 24) (by decide), nI_clamp (Nat.lt_trans hi (by decide : 24 < 2 ^ 31)), gdr_some, gk_sI, gk_sL, gk_sR, gl_sI, gl_sL, gl_sR, gn_sI, gn_sL, gn_sR, gs_sI, gs_sL, gs_sR, gR_sI, gR_sL, gI_sL, gI_sR, gL_sI, gL_sR, bi_ite, bi_01, true_and, and_true]
    by_cases c1 : w = -1
    · rw [if_pos c1]; exact fin _ (by unfold clW; rw [if_pos c1])
    · rw [if_neg c1]
      by_cases c2 : v = -1
      · rw [if_pos c2]; exact fin _ (by unfold clW; rw [if_neg c1, if_pos c2])
      · rw [if_neg c2]; exact fin _ (by unfold clW; rw [if_neg c1, if_neg c2])
  by_cases c1 : w = -1
  · rw [if_pos c1]
    by_cases c2 : v = -1
    · rw [if_pos c2]; exact key (by simp [c2])
    · rw [if_neg c2]
      simp only [c1, c2, ne_eq, not_false_eq_true, decide_true, Bool.and_self, Bool.not_true, Bool.and_false, Bool.false_eq_true, if_false] at hq
      exact hq M h
  · rw [if_neg c1]; exact key (by simp [c1])
end
section
variable {N M : gM} {D : gD}
theorem cam_b (h : RM N D M) {i j : Nat} (hi : i < 24) (hj : j < 12) {w v w1 v1 : Int32} {sh si : Bool} (e1 : stM w1 = if sh = true then 2 else if si = true then 0 else 1) (e2 : whM w1 = if (sh || si) = true then 0 else w) (e3 : v1 = if (sh || si) = true then 0 else v) {Q : Int32 → gM → Prop} (hq : ∀ M', RM N (upD (upD D 5 i j w1) 6 i j v1) M' → Q 1 M') : fX7_call_b96 (nI i) (nI j) w v (bi sh) (bi si) M Q := by
  unfold fX7_call_b96 fX7_call_b129 fX7_call_b146 fX7_call_b151 fX7_call_b168
  simp only [nI_12, mk268 h, frm18 h.1, fk281 h.1, fl281 h.1, frm19 h.1, fk282 h.1, fl282 h.1, frm20 h.1, fk283 h.1, fl283 h.1, in288 hi hj, cl288 hi hj, gdr_some, gk_sI, gk_sL, gk_sR, gl_sI, gl_sL, gl_sR, gn_sI, gn_sL, gn_sR, gs_sI, gs_sL, gs_sR, gR_sI, gR_sL, gI_sL, gI_sR, gL_sI, gL_sR, bi_ite, bi_01, true_and, and_true]
  have hq := hq _ ((h.put5 hi hj).putA (Or.inl rfl) hi hj)
  rw [e1, e2, e3] at hq
  cases sh <;> cases si <;> simp [bi] at hq ⊢ <;> exact hq
theorem pX7_call (h : RM N D M) {k m w v : Int32} {Q : Int32 → gM → Prop} (hq : ∀ M', RM N (rCal D k m w v).2 M' → Q (rCal D k m w v).1 M') : fX7_call k m w v M Q := by
  have h0 : RM N D (gsI M 268 0 0) := h.thr9
  unfold fX7_call
  unfold rCal at hq
  refine ⟨mk268 h, ?_⟩
  generalize gsI M 268 0 0 = M0 at *
  simp only [pX7_isKitchen h0, pX7_isMonth, gdr_some, gk_sI, gk_sL, gk_sR, gl_sI, gl_sL, gl_sR, gn_sI, gn_sL, gn_sR, gs_sI, gs_sL, gs_sR, gR_sI, gR_sL, gI_sL, gI_sR, gL_sI, gL_sR, bi_ite, bi_01, true_and, and_true]
  cases q1 : isKp (dd D) k
  · rw [q1] at hq; simpa using hq M0 h0
  cases q2 : in9 0 11 m
  · rw [q2] at hq; simp only [Bool.and_false, Bool.false_and, Bool.false_eq_true, if_false] at hq; simpa using hq M0 h0
  simp only [if_true]
  rw [q1, q2] at hq
  obtain ⟨i, hi, rfl, ei, -⟩ := i24 q1
  obtain ⟨j, hj, rfl, ej⟩ := i12 q2
  rw [ei, ej] at hq
  simp only [Bool.true_and] at hq
  have ca := @in9_m1 v
  unfold caC at hq
  have z : ∀ {x : Int32}, in9 0 99 x = true → 0 ≤ x ∧ x ≠ -1 ∧ x ≠ -2 := fun g => by
    have := (in9_iff.mp g).1
    refine ⟨this, ?_, ?_⟩ <;> (intro e; rw [e] at this; revert this; decide)
  by_cases c1 : w = -1
  · subst c1
    rw [if_pos rfl]
    by_cases c2 : v = -1
    · subst c2
      rw [if_pos rfl]
      unfold fX7_call_b38 fX7_call_b60 fX7_call_b61
      simp only [pX7_within, m1_99, bi_ite, Bool.false_eq_true, if_false]
      rw [if_neg (by decide)]
      exact cam_b h0 hi hj (w1 := -2) (v1 := 0) (sh := true) (si := false) (by decide) (by decide) rfl (fun M' h' => hq M' h')
    · rw [if_neg c2]
      unfold fX7_call_b37 fX7_call_b38 fX7_call_b60 fX7_call_b61
      simp only [pX7_within, m1_99, bi_ite, Bool.false_eq_true, if_false, if_true]
      simp only [m1_99, c2, decide_false, Bool.and_false, Bool.false_and, Bool.or_self, Bool.false_eq_true, if_false] at hq
      exact hq M0 h0
  · rw [if_neg c1]
    unfold fX7_call_b37 fX7_call_b38
    simp only [pX7_within, bi_ite]
    simp only [c1, decide_false, Bool.false_and, Bool.false_or] at hq
    cases q3 : in9 0 99 w
    · simp only [Bool.false_eq_true, if_false]
      rw [q3] at hq
      simp only [Bool.false_and, Bool.false_eq_true, if_false] at hq
      unfold fX7_call_b60 fX7_call_b61
      simp only [pX7_within, bi_ite, q3, Bool.false_eq_true, if_false, if_true]
      exact hq M0 h0
    · simp only [if_true]
      rw [q3, ca] at hq
      obtain ⟨z1, z2, z3⟩ := z q3
      by_cases c2 : v = -1
      · rw [if_pos c2]
        unfold fX7_call_b61
        rw [if_pos rfl, if_neg (by decide)]
        refine cam_b h0 hi hj (w1 := -1) (v1 := 0) (sh := false) (si := true) (by decide) rfl rfl (fun M' h' => ?_)
        simp only [c2, decide_true, Bool.true_or, Bool.and_self, if_true] at hq
        have e : clW w (-1) = -1 := by unfold clW; rw [if_neg c1, if_pos rfl]
        have e2 : imax 0 (-1) = 0 := by decide
        rw [e, e2] at hq
        exact hq M' h'
      · rw [if_neg c2]
        unfold fX7_call_b60 fX7_call_b61
        simp only [pX7_within, bi_ite, q3, if_true]
        cases q4 : in9 0 99 v
        · rw [q4] at hq
          simp only [c2, decide_false, Bool.or_self, Bool.and_false, Bool.false_eq_true, if_false] at hq
          simpa using hq M0 h0
        · rw [q4] at hq
          simp only [Bool.or_true, Bool.and_self, if_true] at hq
          simp only [if_true]
          obtain ⟨y1, y2, y3⟩ := z q4
          refine cam_b h0 hi hj (w1 := w) (v1 := v) (sh := false) (si := false) ?_ ?_ rfl (fun M' h' => ?_)
          · unfold stM; rw [if_neg z2, if_neg z3]; rfl
          · unfold whM; rw [if_pos z1]; rfl
          · have e : clW w v = w := by unfold clW; rw [if_neg c1, if_neg c2]
            have e2 : imax 0 v = v := by
              unfold imax
              by_cases g : 0 < v
              · rw [if_pos g]
              · rw [if_neg g]; exact Int32.le_antisymm y1 (Int32.not_lt.mp g)
            rw [e, e2] at hq
            exact hq M' h'
end
-- sheet
def rSht (D : gD) (k m w h : Int32) : Int32 × gD := if (isKp (dd D) k && in9 0 11 m && in9 0 99 w && in9 0 99 h) = true then (1, upD (upD D 7 (cl k) (cl m) w) 8 (cl k) (cl m) h) else (0, D)
theorem rSht_ok {D : gD} (ok : okA D) {k m w h : Int32} : okA (rSht D k m w h).2 := by
  unfold rSht
  split
  · next g =>
    simp only [Bool.and_eq_true] at g
    refine okA_n ok ?_ rfl
    have g3 := in9_iff.mp g.1.2
    exact okD_A (okD_A ok.1 (by omega) ⟨fun _ => ⟨Int32.le_trans (by decide) g3.1, g3.2⟩, by omega, by omega, by omega⟩) (by omega) ⟨by omega, fun _ => in9_iff.mp g.2, by omega, by omega⟩
  · exact ok
def rBok (D : gD) (k m w h : Int32) : Int32 × gD := if (isKp (dd D) k && in9 0 11 m && in9 0 999 w && in9 0 99999 h) = true then (1, upD (upD D 9 (cl k) (cl m) w) 10 (cl k) (cl m) h) else (0, D)
theorem rBok_ok {D : gD} (ok : okA D) {k m w h : Int32} : okA (rBok D k m w h).2 := by
  unfold rBok
  split
  · next g =>
    simp only [Bool.and_eq_true] at g
    refine okA_n ok ?_ rfl
    exact okD_A (okD_A ok.1 (by omega) ⟨by omega, by omega, fun _ => in9_iff.mp g.1.2, by omega⟩) (by omega) ⟨by omega, by omega, by omega, fun _ => in9_iff.mp g.2⟩
  · exact ok
section
variable {N M : gM} {n0 a9 : Nat} {D : gD}
theorem pX1_sheet (h : RX N n0 a9 D M) {k m w v : Int32} {Q : Int32 → gM → Prop} (hq : ∀ M', RX N n0 a9 (rSht D k m w v).2 M' → Q (rSht D k m w v).1 M') : fX1_sheet k m w v M Q := by
  unfold fX1_sheet
  unfold rSht at hq
  simp only [xk16 h, xk17 h, xl17 h, xr0 h, xr10 h, xr11 h, xk28 h, xk29 h, xten h, xby h, pX1_isKitchen h, pX1_isMonth, pX1_in, gdr_some, gk_sI, gk_sL, gk_sR, gl_sI, gl_sL, gl_sR, gn_sI, gn_sL, gn_sR, gs_sI, gs_sL, gs_sR, gR_sI, gR_sL, gI_sL, gI_sR, gL_sI, gL_sR, bi_ite, bi_01, true_and, and_true]
  cases q1 : isKp (dd D) k
  · rw [q1] at hq; simpa using hq M h
  cases q2 : in9 0 11 m
  · rw [q2] at hq; simp only [Bool.and_false, Bool.false_and, Bool.false_eq_true, if_false] at hq; simpa using hq M h
  cases q3 : in9 0 99 w
  · rw [q3] at hq; simp only [Bool.and_false, Bool.false_and, Bool.false_eq_true, if_false] at hq; simpa using hq M h
  cases q4 : in9 0 99 v
  · rw [q4] at hq; simp only [Bool.and_false, Bool.false_and, Bool.false_eq_true, if_false] at hq; simpa using hq M h
  rw [q1, q2, q3, q4] at hq
  obtain ⟨i, hi, rfl, ei, -⟩ := i24 q1
  obtain ⟨j, hj, rfl, ej⟩ := i12 q2
  rw [ei, ej] at hq
  simp only [Bool.and_self, if_true] at hq
  simp only [if_true, xk16 h, xk17 h, xl17 h, xr0 h, xr10 h, xr11 h, xk28 h, xk29 h, xten h, xby h, kr h hi, kk h hi, kr5 h hi, kr6 h hi, kr7 h hi, kr8 h hi, kr9 h hi, kr10 h hi, kk5 h hi, kk6 h hi, kk7 h hi, kk8 h hi, kk9 h hi, kk10 h hi, kl5 h hi, kl6 h hi, kl7 h hi, kl8 h hi, kl9 h hi, kl10 h hi, ki0 h hi, ki1 h hi, ki2 h hi, ki3 h hi, ki4 h hi, vp_in_nI hi (N := 24) (by decide), nI_clamp (Nat.lt_trans hi (by decide : 24 < 2 ^ 31)), vp_in_nI hj (N := 12) (by decide), nI_clamp (Nat.lt_trans hj (by decide : 12 < 2 ^ 31)), gdr_some, gk_sI, gk_sL, gk_sR, gl_sI, gl_sL, gl_sR, gn_sI, gn_sL, gn_sR, gs_sI, gs_sL, gs_sR, gR_sI, gR_sL, gI_sL, gI_sR, gL_sI, gL_sR, bi_ite, bi_01, true_and, and_true]
  exact hq _ ((h.pA7 hi hj).pA8 hi hj)
theorem pX1_book (h : RX N n0 a9 D M) {k m w v : Int32} {Q : Int32 → gM → Prop} (hq : ∀ M', RX N n0 a9 (rBok D k m w v).2 M' → Q (rBok D k m w v).1 M') : fX1_book k m w v M Q := by
  unfold fX1_book
  unfold rBok at hq
  simp only [xk16 h, xk17 h, xl17 h, xr0 h, xr10 h, xr11 h, xk28 h, xk29 h, xten h, xby h, pX1_isKitchen h, pX1_isMonth, pX1_in, gdr_some, gk_sI, gk_sL, gk_sR, gl_sI, gl_sL, gl_sR, gn_sI, gn_sL, gn_sR, gs_sI, gs_sL, gs_sR, gR_sI, gR_sL, gI_sL, gI_sR, gL_sI, gL_sR, bi_ite, bi_01, true_and, and_true]
  cases q1 : isKp (dd D) k
  · rw [q1] at hq; simpa using hq M h
  cases q2 : in9 0 11 m
  · rw [q2] at hq; simp only [Bool.and_false, Bool.false_and, Bool.false_eq_true, if_false] at hq; simpa using hq M h
  cases q3 : in9 0 999 w
  · rw [q3] at hq; simp only [Bool.and_false, Bool.false_and, Bool.false_eq_true, if_false] at hq; simpa using hq M h
  cases q4 : in9 0 99999 v
  · rw [q4] at hq; simp only [Bool.and_false, Bool.false_and, Bool.false_eq_true, if_false] at hq; simpa using hq M h
  rw [q1, q2, q3, q4] at hq
  obtain ⟨i, hi, rfl, ei, -⟩ := i24 q1
  obtain ⟨j, hj, rfl, ej⟩ := i12 q2
  rw [ei, ej] at hq
  simp only [Bool.and_self, if_true] at hq
  simp only [if_true, xk16 h, xk17 h, xl17 h, xr0 h, xr10 h, xr11 h, xk28 h, xk29 h, xten h, xby h, kr h hi, kk h hi, kr5 h hi, kr6 h hi, kr7 h hi, kr8 h hi, kr9 h hi, kr10 h hi, kk5 h hi, kk6 h hi, kk7 h hi, kk8 h hi, kk9 h hi, kk10 h hi, kl5 h hi, kl6 h hi, kl7 h hi, kl8 h hi, kl9 h hi, kl10 h hi, ki0 h hi, ki1 h hi, ki2 h hi, ki3 h hi, ki4 h hi, vp_in_nI hi (N := 24) (by decide), nI_clamp (Nat.lt_trans hi (by decide : 24 < 2 ^ 31)), vp_in_nI hj (N := 12) (by decide), nI_clamp (Nat.lt_trans hj (by decide : 12 < 2 ^ 31)), gdr_some, gk_sI, gk_sL, gk_sR, gl_sI, gl_sL, gl_sR, gn_sI, gn_sL, gn_sR, gs_sI, gs_sL, gs_sR, gR_sI, gR_sL, gI_sL, gI_sR, gL_sI, gL_sR, bi_ite, bi_01, true_and, and_true]
  exact hq _ ((h.pA9 hi hj).pA10 hi hj)
end
section
variable {N M : gM} {D : gD}
theorem pX7_sheet (h : RM N D M) {k m w v : Int32} {Q : Int32 → gM → Prop} (hq : ∀ M', RM N (rSht D k m w v).2 M' → Q (rSht D k m w v).1 M') : fX7_sheet k m w v M Q := by
  have h0 : RM N D (gsI M 268 0 0) := h.thr9
  unfold fX7_sheet
  unfold rSht at hq
  refine ⟨mk268 h, ?_⟩
  generalize gsI M 268 0 0 = M0 at *
  simp only [pX7_isKitchen h0, pX7_isMonth, pX7_within, gdr_some, gk_sI, gk_sL, gk_sR, gl_sI, gl_sL, gl_sR, gn_sI, gn_sL, gn_sR, gs_sI, gs_sL, gs_sR, gR_sI, gR_sL, gI_sL, gI_sR, gL_sI, gL_sR, bi_ite, bi_01, true_and, and_true]
  cases q1 : isKp (dd D) k
  · rw [q1] at hq; simpa using hq M0 h0
  cases q2 : in9 0 11 m
  · rw [q2] at hq; simp only [Bool.and_false, Bool.false_and, Bool.false_eq_true, if_false] at hq; simpa using hq M0 h0
  cases q3 : in9 0 99 w
  · rw [q3] at hq; simp only [Bool.and_false, Bool.false_and, Bool.false_eq_true, if_false] at hq; simpa using hq M0 h0
  cases q4 : in9 0 99 v
  · rw [q4] at hq; simp only [Bool.and_false, Bool.false_and, Bool.false_eq_true, if_false] at hq; simpa using hq M0 h0
  rw [q1, q2, q3, q4] at hq
  obtain ⟨i, hi, rfl, ei, -⟩ := i24 q1
  obtain ⟨j, hj, rfl, ej⟩ := i12 q2
  rw [ei, ej] at hq
  simp only [Bool.and_self, if_true] at hq
  simp only [if_true, nI_12, mk268 h0, frm21 h0.1, fk284 h0.1, fl284 h0.1, frm22 h0.1, fk285 h0.1, fl285 h0.1, frm23 h0.1, fk286 h0.1, fl286 h0.1, in288 hi hj, cl288 hi hj, gdr_some, gk_sI, gk_sL, gk_sR, gl_sI, gl_sL, gl_sR, gn_sI, gn_sL, gn_sR, gs_sI, gs_sL, gs_sR, gR_sI, gR_sL, gI_sL, gI_sR, gL_sI, gL_sR, bi_ite, bi_01, true_and, and_true]
  have key := hq _ ((h0.put7 (v := w) hi hj).putA (Or.inr (Or.inl rfl)) hi hj)
  have z := (in9_iff.mp q3).1
  unfold isM whM at key
  rw [if_pos z, if_pos z] at key
  exact key
theorem pX7_book (h : RM N D M) {k m w v : Int32} {Q : Int32 → gM → Prop} (hq : ∀ M', RM N (rBok D k m w v).2 M' → Q (rBok D k m w v).1 M') : fX7_book k m w v M Q := by
  have h0 : RM N D (gsI M 268 0 0) := h.thr9
  unfold fX7_book
  unfold rBok at hq
  refine ⟨mk268 h, ?_⟩
  generalize gsI M 268 0 0 = M0 at *
  simp only [pX7_isKitchen h0, pX7_isMonth, pX7_within, gdr_some, gk_sI, gk_sL, gk_sR, gl_sI, gl_sL, gl_sR, gn_sI, gn_sL, gn_sR, gs_sI, gs_sL, gs_sR, gR_sI, gR_sL, gI_sL, gI_sR, gL_sI, gL_sR, bi_ite, bi_01, true_and, and_true]
  cases q1 : isKp (dd D) k
  · rw [q1] at hq; simpa using hq M0 h0
  cases q2 : in9 0 11 m
  · rw [q2] at hq; simp only [Bool.and_false, Bool.false_and, Bool.false_eq_true, if_false] at hq; simpa using hq M0 h0
  cases q3 : in9 0 999 w
  · rw [q3] at hq; simp only [Bool.and_false, Bool.false_and, Bool.false_eq_true, if_false] at hq; simpa using hq M0 h0
  cases q4 : in9 0 99999 v
  · rw [q4] at hq; simp only [Bool.and_false, Bool.false_and, Bool.false_eq_true, if_false] at hq; simpa using hq M0 h0
  rw [q1, q2, q3, q4] at hq
  obtain ⟨i, hi, rfl, ei, -⟩ := i24 q1
  obtain ⟨j, hj, rfl, ej⟩ := i12 q2
  rw [ei, ej] at hq
  simp only [Bool.and_self, if_true] at hq
  simp only [if_true, nI_12, mk268 h0, frm51 h0.1, fk305 h0.1, fl305 h0.1, frm52 h0.1, fk306 h0.1, fl306 h0.1, in288 hi hj, cl288 hi hj, gdr_some, gk_sI, gk_sL, gk_sR, gl_sI, gl_sL, gl_sR, gn_sI, gn_sL, gn_sR, gs_sI, gs_sL, gs_sR, gR_sI, gR_sL, gI_sL, gI_sR, gL_sI, gL_sR, bi_ite, bi_01, true_and, and_true]
  exact hq _ ((h0.putA (Or.inr (Or.inr (Or.inl rfl))) hi hj).putA (Or.inr (Or.inr (Or.inr rfl))) hi hj)
end
/-! ops: tenths, floor, other -/
set_option maxRecDepth 100000
def rTen (D : gD) (n : Int32) : Int32 × gD := if in9 0 10 n = true then (1, upD (upD D 13 0 0 n) 13 0 1 n) else (0, D)
theorem rTen_ok {D : gD} (ok : okA D) {n : Int32} : okA (rTen D n).2 := by
  unfold rTen
  split
  · next g =>
    refine okA_n ok ?_ rfl
    obtain ⟨o1, o2, o3, o4, o5⟩ := ok.1
    have n : ∀ f' k' m', f' ≠ 13 → dd (upD (upD D 13 0 0 n) 13 0 1 n) f' k' m' = dd D f' k' m' := fun f' k' m' q => by rw [dd_up, if_neg (by omega), dd_up, if_neg (by omega)]
    refine ⟨fun k' hk' => ?_, fun k' m' h1 h2 => ?_, fun b m h1 h2 => ?_, ?_, ?_⟩
    · rw [n 0 _ _ (by omega), n 1 _ _ (by omega), n 2 _ _ (by omega), n 3 _ _ (by omega), n 4 _ _ (by omega)]; exact o1 k' hk'
    · rw [n 5 _ _ (by omega), n 6 _ _ (by omega), n 7 _ _ (by omega), n 8 _ _ (by omega), n 9 _ _ (by omega), n 10 _ _ (by omega)]; exact o2 k' m' h1 h2
    · rw [n 11 _ _ (by omega), n 12 _ _ (by omega)]; exact o3 b m h1 h2
    · rw [dd_up, if_neg (by omega), dd_up, if_pos ⟨rfl, rfl, rfl⟩]; exact in9_iff.mp g
    · rw [dd_up, if_pos ⟨rfl, rfl, rfl⟩, dd_up, if_neg (by omega), dd_up, if_pos ⟨rfl, rfl, rfl⟩]
  · exact ok
def flD (D : gD) (b : Nat) (f t : Int32) (m : Nat) : Nat → gD
  | 0 => D
  | j + 1 => upD (upD (flD D b f t m j) 11 b (m + j) f) 12 b (m + j) t
theorem flD_2 {D : gD} {b : Nat} {f t : Int32} {m : Nat} : ∀ j, (flD D b f t m j).2 = D.2 := by
  intro j
  induction j with
  | zero => rfl
  | succ j ih => exact ih
theorem okD_F {D : gD} (ok : okD (dd D)) {b m : Nat} {f t : Int32} (hf : 0 ≤ f ∧ f ≤ 999) (ht : -99 ≤ t ∧ t ≤ 99) : okD (dd (upD (upD D 11 b m f) 12 b m t)) := by
  obtain ⟨o1, o2, o3, o4, o5⟩ := ok
  have n : ∀ f' k' m', f' ≠ 11 → f' ≠ 12 → dd (upD (upD D 11 b m f) 12 b m t) f' k' m' = dd D f' k' m' := fun f' k' m' q q2 => by rw [dd_up, if_neg (by omega), dd_up, if_neg (by omega)]
  refine ⟨fun k' hk' => ?_, fun k' m' h1 h2 => ?_, fun b' m' h1 h2 => ?_, ?_, ?_⟩
  · rw [n 0 _ _ (by omega) (by omega), n 1 _ _ (by omega) (by omega), n 2 _ _ (by omega) (by omega), n 3 _ _ (by omega) (by omega), n 4 _ _ (by omega) (by omega)]; exact o1 k' hk'
  · rw [n 5 _ _ (by omega) (by omega), n 6 _ _ (by omega) (by omega), n 7 _ _ (by omega) (by omega), n 8 _ _ (by omega) (by omega), n 9 _ _ (by omega) (by omega), n 10 _ _ (by omega) (by omega)]; exact o2 k' m' h1 h2
  · by_cases e : b' = b ∧ m' = m
    · rw [dd_up, if_neg (by omega), dd_up, if_pos (by omega), dd_up, if_pos (by omega)]
      exact ⟨hf, ht⟩
    · rw [dd_up, if_neg (by omega), dd_up, if_neg (by omega), dd_up, if_neg (by omega), dd_up, if_neg (by omega)]
      exact o3 b' m' h1 h2
  · rw [n 13 _ _ (by omega) (by omega)]; exact o4
  · rw [n 13 _ _ (by omega) (by omega), n 13 _ _ (by omega) (by omega)]; exact o5
def rFlo (D : gD) (b m f t : Int32) : Int32 × gD := if (in9 0 1 b && in9 0 11 m && in9 0 999 f && in9 (-99) 99 t) = true then (1, flD D (cl b) f t (cl m) (12 - cl m)) else (0, D)
theorem rFlo_ok {D : gD} (ok : okA D) {b m f t : Int32} : okA (rFlo D b m f t).2 := by
  unfold rFlo
  split
  · next g =>
    simp only [Bool.and_eq_true] at g
    refine okA_n ok ?_ (flD_2 _)
    generalize 12 - cl m = n
    induction n with
    | zero => exact ok.1
    | succ n ih => exact okD_F ih (in9_iff.mp g.1.2) (in9_iff.mp g.2)
  · exact ok
theorem i2 {b : Int32} (h : in9 0 1 b = true) : ∃ i, i < 2 ∧ b = nI i ∧ cl b = i := by
  obtain ⟨i, hi, rfl⟩ := in9_nI (n := 1) rfl (by decide) h
  exact ⟨i, hi, rfl, cl_nI (by omega)⟩
section
variable {N M : gM} {n0 a9 : Nat} {D : gD}
theorem RX.pF0 (h : RX N n0 a9 D M) {b m : Nat} (hb : b < 2) (hm : m < 12) {v : Int32} : RX N n0 a9 (upD D 11 b m v) (gsI M (19 + b) m v) := by
  have e := h.putF (t := 0) (v := v) (by decide) hb hm
  rw [show 19 + 3 * 0 + b = 19 + b by omega] at e
  exact e
theorem RX.pF1 (h : RX N n0 a9 D M) {b m : Nat} (hb : b < 2) (hm : m < 12) {v : Int32} : RX N n0 a9 (upD D 12 b m v) (gsI M (22 + b) m v) := by
  have e := h.putF (t := 1) (v := v) (by decide) hb hm
  rw [show 19 + 3 * 1 + b = 22 + b by omega] at e
  exact e
theorem pX1_tenths (h : RX N n0 a9 D M) {n : Int32} {Q : Int32 → gM → Prop} (hq : ∀ M', RX N n0 a9 (rTen D n).2 M' → Q (rTen D n).1 M') : fX1_tenths n M Q := by
  unfold fX1_tenths
  unfold rTen at hq
  simp only [pX1_in, gdr_some, gk_sI, gk_sL, gk_sR, gl_sI, gl_sL, gl_sR, gn_sI, gn_sL, gn_sR, gs_sI, gs_sL, gs_sR, gR_sI, gR_sL, gI_sL, gI_sR, gL_sI, gL_sR, bi_ite, bi_01, true_and, and_true]
  cases q1 : in9 0 10 n
  · rw [q1] at hq; simpa using hq M h
  rw [q1] at hq
  simp only [if_true] at hq ⊢
  exact ⟨xk16 h, hq _ ((h.putT (t := 0) (by decide)).putT (t := 1) (by decide))⟩
theorem pX1_floor (h : RX N n0 a9 D M) {b m f t : Int32} {Q : Int32 → gM → Prop} (hq : ∀ M', RX N n0 a9 (rFlo D b m f t).2 M' → Q (rFlo D b m f t).1 M') : fX1_floor b m f t M Q := by
  unfold fX1_floor
  unfold rFlo at hq
  simp only [pX1_in, pX1_isMonth, gdr_some, gk_sI, gk_sL, gk_sR, gl_sI, gl_sL, gl_sR, gn_sI, gn_sL, gn_sR, gs_sI, gs_sL, gs_sR, gR_sI, gR_sL, gI_sL, gI_sR, gL_sI, gL_sR, bi_ite, bi_01, true_and, and_true]
  cases q1 : in9 0 1 b
  · rw [q1] at hq; simpa using hq M h
  cases q2 : in9 0 11 m
  · rw [q2] at hq; simp only [Bool.and_false, Bool.false_and, Bool.false_eq_true, if_false] at hq; simpa using hq M h
  cases q3 : in9 0 999 f
  · rw [q3] at hq; simp only [Bool.and_false, Bool.false_and, Bool.false_eq_true, if_false] at hq; simpa using hq M h
  cases q4 : in9 (-99) 99 t
  · rw [q4] at hq; simp only [Bool.and_false, Bool.false_and, Bool.false_eq_true, if_false] at hq; simpa using hq M h
  rw [q1, q2, q3, q4] at hq
  obtain ⟨i, hi, rfl, ei⟩ := i2 q1
  obtain ⟨j, hj, rfl, ej⟩ := i12 q2
  rw [ei, ej] at hq
  simp only [Bool.and_self, if_true] at hq
  simp only [if_true]
  refine ⟨12 - j + 1, ?_⟩
  refine loopN (T := 12 - j) (G := fun n q M => fX1_floor_L44 (fun M35 => Q 1 M35) (nI i) f t Q n (nI (j + q)) M) (I := fun q M => RX N n0 a9 (flD D i f t j q) M) (fun n M hI => ?_) (fun n q M hk hI hn => ?_) (12 - j) 0 M (by omega) h
  · rw [show j + (12 - j) = 12 by omega]
    unfold fX1_floor_L44 fX1_floor_L44s
    rw [if_pos ge12]
    exact hq M hI
  · have hm : j + q < 12 := by omega
    have v0 : vp_in (nI i) 2 := vp_in_nI hi (by decide)
    have c0 : (nI i).toNatClampNeg = i := nI_clamp (by omega)
    show fX1_floor_L44 _ _ _ _ _ _ _ _
    unfold fX1_floor_L44 fX1_floor_L44s
    rw [if_neg (nge12 hm)]
    simp only [xk16 hI, frx1 hI.1, fk18 hI.1, fl18 hI.1, frx2 hI.1, fk21 hI.1, fl21 hI.1, frF hI.1 hi, fkF hI.1 hi, flF hI.1 hi, frT hI.1 hi, fkT hI.1 hi, flT hI.1 hi, xfl hI hi hm, xtr hI hi hm, v0, c0, vp_in_nI hm (N := 12) (by decide), nI_clamp (Nat.lt_trans hm (by decide : 12 < 2 ^ 31)), gdr_some, gk_sI, gk_sL, gk_sR, gl_sI, gl_sL, gl_sR, gn_sI, gn_sL, gn_sR, gs_sI, gs_sL, gs_sR, gR_sI, gR_sL, gI_sL, gI_sR, gL_sI, gL_sR, bi_ite, bi_01, true_and, and_true, ← nI_succ]
    exact hn _ ((hI.pF0 hi hm).pF1 hi hm)
end
section
variable {N M : gM} {D : gD}
theorem pX7_tenths (h : RM N D M) {n : Int32} {Q : Int32 → gM → Prop} (hq : ∀ M', RM N (rTen D n).2 M' → Q (rTen D n).1 M') : fX7_tenths n M Q := by
  have h0 : RM N D (gsI M 268 0 0) := h.thr9
  unfold fX7_tenths
  unfold rTen at hq
  refine ⟨mk268 h, ?_⟩
  generalize gsI M 268 0 0 = M0 at *
  simp only [pX7_within, gdr_some, gk_sI, gk_sL, gk_sR, gl_sI, gl_sL, gl_sR, gn_sI, gn_sL, gn_sR, gs_sI, gs_sL, gs_sR, gR_sI, gR_sL, gI_sL, gI_sR, gL_sI, gL_sR, bi_ite, bi_01, true_and, and_true]
  cases q1 : in9 0 10 n
  · rw [q1] at hq; simpa using hq M0 h0
  rw [q1] at hq
  simp only [if_true] at hq ⊢
  exact ⟨mk268 h0, hq _ h0.putT⟩
theorem pX7_floor (h : RM N D M) {b m f t : Int32} {Q : Int32 → gM → Prop} (hq : ∀ M', RM N (rFlo D b m f t).2 M' → Q (rFlo D b m f t).1 M') : fX7_floor b m f t M Q := by
  have h0 : RM N D (gsI M 268 0 0) := h.thr9
  unfold fX7_floor
  unfold rFlo at hq
  refine ⟨mk268 h, ?_⟩
  generalize gsI M 268 0 0 = M0 at *
  simp only [pX7_within, pX7_isMonth, gdr_some, gk_sI, gk_sL, gk_sR, gl_sI, gl_sL, gl_sR, gn_sI, gn_sL, gn_sR, gs_sI, gs_sL, gs_sR, gR_sI, gR_sL, gI_sL, gI_sR, gL_sI, gL_sR, bi_ite, bi_01, true_and, and_true]
  cases q1 : in9 0 1 b
  · rw [q1] at hq; simpa using hq M0 h0
  cases q2 : in9 0 11 m
  · rw [q2] at hq; simp only [Bool.and_false, Bool.false_and, Bool.false_eq_true, if_false] at hq; simpa using hq M0 h0
  cases q3 : in9 0 999 f
  · rw [q3] at hq; simp only [Bool.and_false, Bool.false_and, Bool.false_eq_true, if_false] at hq; simpa using hq M0 h0
  cases q4 : in9 (-99) 99 t
  · rw [q4] at hq; simp only [Bool.and_false, Bool.false_and, Bool.false_eq_true, if_false] at hq; simpa using hq M0 h0
  rw [q1, q2, q3, q4] at hq
  obtain ⟨i, hi, rfl, ei⟩ := i2 q1
  obtain ⟨j, hj, rfl, ej⟩ := i12 q2
  rw [ei, ej] at hq
  simp only [Bool.and_self, if_true] at hq
  simp only [if_true]
  refine ⟨12 - j + 1, ?_⟩
  refine loopN (T := 12 - j) (G := fun n q M => fX7_floor_L49 (fun M35 => Q 1 M35) (nI i) f t Q n (nI (j + q)) M) (I := fun q M => RM N (flD D i f t j q) M) (fun n M hI => ?_) (fun n q M hk hI hn => ?_) (12 - j) 0 M0 (by omega) h0
  · rw [show j + (12 - j) = 12 by omega]
    unfold fX7_floor_L49 fX7_floor_L49s
    rw [if_pos ge12]
    exact hq M hI
  · have hm : j + q < 12 := by omega
    have hb : 12 * i + (j + q) < 24 := by omega
    show fX7_floor_L49 _ _ _ _ _ _ _ _
    unfold fX7_floor_L49 fX7_floor_L49s
    rw [if_neg (nge12 hm)]
    simp only [nI_12, mk268 hI, frm16 hI.1, fk279 hI.1, fl279 hI.1, frm17 hI.1, fk280 hI.1, fl280 hI.1, vp_in_nI hb (N := 24) (by decide), nI_clamp (Nat.lt_trans hb (by decide : 24 < 2 ^ 31)), gdr_some, gk_sI, gk_sL, gk_sR, gl_sI, gl_sL, gl_sR, gn_sI, gn_sL, gn_sR, gs_sI, gs_sL, gs_sR, gR_sI, gR_sL, gI_sL, gI_sR, gL_sI, gL_sR, bi_ite, bi_01, true_and, and_true, ← nI_succ]
    exact hn _ ((hI.putF (t := 0) (by decide) hi hm).putF (t := 1) (by decide) hi hm)
end
-- other
def otD1 (o : Nat × (Nat → Nat → Int32)) (s n p : Int32) : Nat × (Nat → Nat → Int32) := (o.1 + 1, fun f i => if i = o.1 then (if f = 0 then s else if f = 1 then n else p) else o.2 f i)
def rOtr (D : gD) (s n p : Int32) : Int32 × gD := if (in9 (-9999) 9999 s && in9 1 999 n && decide ((dO D).1 ≠ 20)) = true then (nI (dO D).1, (dd D, dT D, otD1 (dO D) s n p, D.2.2.2)) else (-1, D)
theorem rOtr_ok {D : gD} (ok : okA D) {s n p : Int32} (hp : p = 0 ∨ p = 1) : okA (rOtr D s n p).2 := by
  unfold rOtr
  split
  · next g =>
    simp only [Bool.and_eq_true, in9_iff] at g
    obtain ⟨h1, h2, h3⟩ := ok
    refine ⟨h1, fun i hi => ?_, h3⟩
    show (-9999 ≤ (otD1 (dO D) s n p).2 0 i ∧ (otD1 (dO D) s n p).2 0 i ≤ 9999) ∧ (0 ≤ (otD1 (dO D) s n p).2 1 i ∧ (otD1 (dO D) s n p).2 1 i ≤ 999) ∧ ((otD1 (dO D) s n p).2 2 i = 0 ∨ (otD1 (dO D) s n p).2 2 i = 1)
    unfold otD1
    simp only
    by_cases e : i = (dO D).1
    · simp only [e, if_true, show ¬ (1 : Nat) = 0 by decide, show ¬ (2 : Nat) = 0 by decide, show ¬ (2 : Nat) = 1 by decide, if_false]
      exact ⟨g.1.1, ⟨Int32.le_trans (by decide) g.1.2.1, g.1.2.2⟩, hp⟩
    · simp only [e, if_false]
      exact h2 i hi
  · exact ok
theorem xNum_sI {d : Nat → Nat → Nat → Int32} {M : gM} {c k : Nat} {v : Int32} (h : xNum d M) (hc : ¬ (88 ≤ c ∧ c < 256) ∧ ¬ (19 ≤ c ∧ c < 24) ∧ ¬ (c = 16 ∧ (k = 8 ∨ k = 9))) : xNum d (gsI M c k v) := by
  obtain ⟨n1, n2, n3, n4, n5⟩ := h
  refine ⟨fun f' k' h1 h2 => ?_, fun j' k' m' h1 h2 h3 => ?_, fun b' m' h1 h2 => ⟨?_, ?_⟩, ?_, ?_⟩
  · rw [gI_sI, if_neg (by omega)]; exact n1 f' k' h1 h2
  · rw [gI_sI, if_neg (by omega)]; exact n2 j' k' m' h1 h2 h3
  · rw [gI_sI, if_neg (by omega)]; exact (n3 b' m' h1 h2).1
  · rw [gI_sI, if_neg (by omega)]; exact (n3 b' m' h1 h2).2
  · rw [gI_sI, if_neg (by omega)]; exact n4
  · rw [gI_sI, if_neg (by omega)]; exact n5
theorem mNum_sI {d : Nat → Nat → Nat → Int32} {M : gM} {c k : Nat} {v : Int32} (h : mNum d M) (hc : ¬ (274 ≤ c ∧ c < 287) ∧ c ≠ 305 ∧ c ≠ 306 ∧ ¬ (c = 268 ∧ k = 15)) : mNum d (gsI M c k v) := by
  refine mNum_up h (fun k' hk' => ?_) (fun b' m' hb' hm' => ?_) (fun k' m' hk' hm' => ?_) ?_
  · refine ⟨?_, ?_, ?_, ?_, ?_⟩ <;> (left; exact ⟨by rw [gI_sI, if_neg (by omega)], rfl⟩)
  · refine ⟨?_, ?_⟩ <;> (left; exact ⟨by rw [gI_sI, if_neg (by omega)], rfl⟩)
  · refine ⟨?_, ?_, ?_, ?_, ?_, ?_, ?_, ?_⟩ <;> (left; exact ⟨by rw [gI_sI, if_neg (by omega)], rfl⟩)
  · left; exact ⟨by rw [gI_sI, if_neg (by omega)], rfl⟩
section
variable {N M : gM} {n0 a9 : Nat} {D : gD}
theorem RX.oth (h : RX N n0 a9 D M) {s n p : Int32} (ho : (dO D).1 < 20) : RX N n0 a9 (dd D, dT D, otD1 (dO D) s n p, D.2.2.2) (gsI (gsI (gsI (gsI M 82 (dO D).1 s) 83 (dO D).1 n) 84 (dO D).1 p) 16 22 (nI ((dO D).1 + 1))) := by
  refine h.gen (by rw [gFix_sI, gFix_sI, gFix_sI, gFix_sI]; exact h.1) (Nat.le_refl _) ⟨h.2.1.1, h.2.1.2.1⟩ (fun _ _ => ⟨rfl, rfl⟩) (fun c' k' q => by unfold xDyn at q; rw [gI_sI, if_neg (by omega), gI_sI, if_neg (by omega), gI_sI, if_neg (by omega), gI_sI, if_neg (by omega)]) (fun _ _ _ => rfl) (fun c' c1 c2 => ?_) rfl rfl rfl
    (xNum_sI (xNum_sI (xNum_sI (xNum_sI h.2.2.1 (by omega)) (by omega)) (by omega)) (by omega)) (xTape_sI (xTape_sI (xTape_sI (xTape_sI h.2.2.2.1 (by omega)) (by omega)) (by omega)) (by omega)) ⟨?_, ?_, fun i hi => ?_⟩
  · obtain ⟨e1, e2, e3, e4, e5⟩ := h.2.2.2.2.2.2.2.2 c' c1 c2
    exact ⟨e1, e2, fun k' => by rw [gI_sI, if_neg (by omega), gI_sI, if_neg (by omega), gI_sI, if_neg (by omega), gI_sI, if_neg (by omega)]; exact e3 k', e4, e5⟩
  · rw [gI_sI, if_pos ⟨rfl, rfl⟩]; rfl
  · show (dO D).1 + 1 ≤ 20; omega
  · obtain ⟨x1, x2, x3⟩ := xo h hi
    show _ = (otD1 (dO D) s n p).2 0 i ∧ _ = (otD1 (dO D) s n p).2 1 i ∧ _ = (otD1 (dO D) s n p).2 2 i
    unfold otD1
    simp only [gI_sI]
    by_cases e : i = (dO D).1
    · simp [e]
    · simp [e, x1, x2, x3]
theorem pX1_other (h : RX N n0 a9 D M) {s n p : Int32} (hp : p = 0 ∨ p = 1) {Q : Int32 → gM → Prop} (hq : ∀ M', RX N n0 a9 (rOtr D s n p).2 M' → Q (rOtr D s n p).1 M') : fX1_other s n p M Q := by
  unfold fX1_other
  unfold rOtr at hq
  simp only [pX1_in, gdr_some, gk_sI, gk_sL, gk_sR, gl_sI, gl_sL, gl_sR, gn_sI, gn_sL, gn_sR, gs_sI, gs_sL, gs_sR, gR_sI, gR_sL, gI_sL, gI_sR, gL_sI, gL_sR, bi_ite, bi_01, true_and, and_true]
  cases q1 : in9 (-9999) 9999 s
  · rw [q1] at hq; simpa using hq M h
  cases q2 : in9 1 999 n
  · rw [q2] at hq; simp only [Bool.and_false, Bool.false_and, Bool.false_eq_true, if_false] at hq; simpa using hq M h
  rw [q1, q2] at hq
  have o20 := xo20 h
  have e20 : (nI (dO D).1 = 20) ↔ (dO D).1 = 20 := nI_eq (b := 20) (by omega) (by decide)
  simp only [if_true, xk16 h, xk17 h, xl17 h, xr0 h, xr10 h, xr11 h, xk28 h, xk29 h, xten h, xby h, xon h, gdr_some, gk_sI, gk_sL, gk_sR, gl_sI, gl_sL, gl_sR, gn_sI, gn_sL, gn_sR, gs_sI, gs_sL, gs_sR, gR_sI, gR_sL, gI_sL, gI_sR, gL_sI, gL_sR, bi_ite, bi_01, true_and, and_true, e20]
  by_cases e : (dO D).1 = 20
  · rw [if_pos e]
    simp only [e, ne_eq, not_true_eq_false, decide_false, Bool.and_false, Bool.false_eq_true, if_false] at hq
    exact hq M h
  · rw [if_neg e]
    have hi : (dO D).1 < 20 := by omega
    simp only [e, ne_eq, not_false_eq_true, decide_true, Bool.and_self, if_true] at hq
    have z : ∀ {M1 : gM} {c : Nat} {v : Int32}, gI M1 16 22 = nI (dO D).1 → c ≠ 16 → gI (gsI M1 c (dO D).1 v) 16 22 = nI (dO D).1 := fun h1 h2 => by rw [gI_sI, if_neg (by omega)]; exact h1
    have z1 := z (v := s) (xon h) (show 82 ≠ 16 by decide)
    have z2 := z (v := n) z1 (show 83 ≠ 16 by decide)
    have z3 := z (v := p) z2 (show 84 ≠ 16 by decide)
    simp only [xk16 h, xk17 h, xl17 h, xr0 h, xr10 h, xr11 h, xk28 h, xk29 h, xten h, xby h, xk16 h, frx19 h.1, fk82 h.1, fl82 h.1, frx20 h.1, fk83 h.1, fl83 h.1, frx21 h.1, fk84 h.1, fl84 h.1, vp_in_nI hi (N := 20) (by decide), nI_clamp (Nat.lt_trans hi (by decide : 20 < 2 ^ 31)), z1, z2, z3, gdr_some, gk_sI, gk_sL, gk_sR, gl_sI, gl_sL, gl_sR, gn_sI, gn_sL, gn_sR, gs_sI, gs_sL, gs_sR, gR_sI, gR_sL, gI_sL, gI_sR, gL_sI, gL_sR, bi_ite, bi_01, true_and, and_true, fX1_other_b65]
    refine ⟨hp, ?_⟩
    rw [← nI_succ]
    exact hq _ (h.oth hi)
end
section
variable {N M : gM} {D : gD}
theorem RM.oth (h : RM N D M) {s n p : Int32} (ho : (dO D).1 < 20) : RM N (dd D, dT D, otD1 (dO D) s n p, D.2.2.2) (gsI (gsI (gsI (gsI M 297 (dO D).1 s) 298 (dO D).1 n) 299 (dO D).1 p) 268 41 (nI ((dO D).1 + 1))) := by
  refine h.gen (by rw [gFix_sI, gFix_sI, gFix_sI, gFix_sI]; exact h.1) ⟨rfl, rfl⟩ (fun c' k' q => by rw [gI_sI, if_neg (by omega), gI_sI, if_neg (by omega), gI_sI, if_neg (by omega), gI_sI, if_neg (by omega)]) (fun _ => rfl) (fun c' q => ⟨rfl, rfl, fun k' => by rw [gI_sI, if_neg (by omega), gI_sI, if_neg (by omega), gI_sI, if_neg (by omega), gI_sI, if_neg (by omega)], fun _ => rfl, fun _ => rfl⟩) rfl rfl rfl
    (mNum_sI (mNum_sI (mNum_sI (mNum_sI h.2.2.1 (by omega)) (by omega)) (by omega)) (by omega)) (mTape_sI (mTape_sI (mTape_sI (mTape_sI h.2.2.2.1 (by omega)) (by omega)) (by omega)) (by omega)) ⟨?_, ?_, fun i hi => ?_⟩
  · rw [gI_sI, if_pos ⟨rfl, rfl⟩]; rfl
  · show (dO D).1 + 1 ≤ 20; omega
  · obtain ⟨x1, x2, x3⟩ := mo h hi
    show _ = (otD1 (dO D) s n p).2 0 i ∧ _ = (otD1 (dO D) s n p).2 1 i ∧ _ = (otD1 (dO D) s n p).2 2 i
    unfold otD1
    simp only [gI_sI]
    by_cases e : i = (dO D).1
    · simp [e]
    · simp [e, x1, x2, x3]
theorem pX7_other (h : RM N D M) {s n p : Int32} (hp : p = 0 ∨ p = 1) {Q : Int32 → gM → Prop} (hq : ∀ M', RM N (rOtr D s n p).2 M' → Q (rOtr D s n p).1 M') : fX7_other s n p M Q := by
  have h0 : RM N D (gsI M 268 0 0) := h.thr9
  unfold fX7_other
  unfold rOtr at hq
  refine ⟨mk268 h, ?_⟩
  generalize gsI M 268 0 0 = M0 at *
  simp only [pX7_within, gdr_some, gk_sI, gk_sL, gk_sR, gl_sI, gl_sL, gl_sR, gn_sI, gn_sL, gn_sR, gs_sI, gs_sL, gs_sR, gR_sI, gR_sL, gI_sL, gI_sR, gL_sI, gL_sR, bi_ite, bi_01, true_and, and_true]
  cases q1 : in9 (-9999) 9999 s
  · rw [q1] at hq; simpa using hq M0 h0
  cases q2 : in9 1 999 n
  · rw [q2] at hq; simp only [Bool.and_false, Bool.false_and, Bool.false_eq_true, if_false] at hq; simpa using hq M0 h0
  rw [q1, q2] at hq
  have o20 := mo20 h
  have e20 : (nI (dO D).1 = 20) ↔ (dO D).1 = 20 := nI_eq (b := 20) (by omega) (by decide)
  simp only [if_true, mk268 h0, mon h0, gdr_some, gk_sI, gk_sL, gk_sR, gl_sI, gl_sL, gl_sR, gn_sI, gn_sL, gn_sR, gs_sI, gs_sL, gs_sR, gR_sI, gR_sL, gI_sL, gI_sR, gL_sI, gL_sR, bi_ite, bi_01, true_and, and_true, e20]
  by_cases e : (dO D).1 = 20
  · rw [if_pos e]
    simp only [e, ne_eq, not_true_eq_false, decide_false, Bool.and_false, Bool.false_eq_true, if_false] at hq
    exact hq M0 h0
  · rw [if_neg e]
    have hi : (dO D).1 < 20 := by omega
    simp only [e, ne_eq, not_false_eq_true, decide_true, Bool.and_self, if_true] at hq
    have z : ∀ {M1 : gM} {c : Nat} {v : Int32}, gI M1 268 41 = nI (dO D).1 → c ≠ 268 → gI (gsI M1 c (dO D).1 v) 268 41 = nI (dO D).1 := fun h1 h2 => by rw [gI_sI, if_neg (by omega)]; exact h1
    have z1 := z (v := s) (mon h0) (show 297 ≠ 268 by decide)
    have z2 := z (v := n) z1 (show 298 ≠ 268 by decide)
    have z3 := z (v := p) z2 (show 299 ≠ 268 by decide)
    simp only [mk268 h0, frm42 h0.1, fk297 h0.1, fl297 h0.1, frm43 h0.1, fk298 h0.1, fl298 h0.1, frm44 h0.1, fk299 h0.1, fl299 h0.1, vp_in_nI hi (N := 20) (by decide), nI_clamp (Nat.lt_trans hi (by decide : 20 < 2 ^ 31)), z1, z2, z3, gdr_some, gk_sI, gk_sL, gk_sR, gl_sI, gl_sL, gl_sR, gn_sI, gn_sL, gn_sR, gs_sI, gs_sL, gs_sR, gR_sI, gR_sL, gI_sL, gI_sR, gL_sI, gL_sR, bi_ite, bi_01, true_and, and_true, fX7_other_b70]
    refine ⟨hp, ?_⟩
    rw [gI_sI, if_pos ⟨rfl, rfl⟩, ← nI_succ, nI_pred]
    exact hq _ (h0.oth hi)
end
/-! op: feed -/
set_option maxRecDepth 100000
def fdOk (s : Int32) : Bool := decide (s = 10) || (decide (¬ s < 32) && decide (¬ 126 < s))
def put9 (t : Nat × (Nat → Int32)) (s : Int32) : Nat × (Nat → Int32) := if (fdOk s && decide (t.1 < 1000)) = true then (t.1 + 1, fun i => if i = t.1 then s else t.2 i) else t
def chr9 (v : Int64) (j : Nat) : Int32 := (v >>> ((nI (56 - 8 * j)).toInt64 &&& 63)).toInt32 &&& 255
def sel9 (a b c : Int64) (k : Nat) : Int64 := if k < 8 then a else if k < 16 then b else c
def fdN (a b c : Int64) (t : Nat × (Nat → Int32)) : Nat → Nat × (Nat → Int32)
  | 0 => t
  | k + 1 => put9 (fdN a b c t k) (chr9 (sel9 a b c k) (k % 8))
def fdD (D : gD) (a b c : Int64) (k : Nat) : gD := (dd D, fdN a b c (dT D) k, D.2.2)
def rFee (D : gD) (a b c : Int64) : Int32 × gD := (nI (fdN a b c (dT D) 24).1, fdD D a b c 24)
theorem fdN_s {a b c : Int64} {t : Nat × (Nat → Int32)} {k : Nat} : fdN a b c t (k + 1) = put9 (fdN a b c t k) (chr9 (sel9 a b c k) (k % 8)) := rfl
theorem okT_put {t : Nat × (Nat → Int32)} {s : Int32} (ok : okT t) : okT (put9 t s) := by
  unfold put9
  split
  · next g =>
    simp only [Bool.and_eq_true, fdOk, Bool.or_eq_true, decide_eq_true_eq, Int32.not_lt] at g
    intro i hi
    simp only at hi ⊢
    by_cases e : i = t.1
    · rw [if_pos e]; exact g.1
    · rw [if_neg e]; exact ok i (by omega)
  · exact ok
theorem rFee_ok {D : gD} (ok : okA D) {a b c : Int64} : okA (rFee D a b c).2 := by
  obtain ⟨h1, h2, h3, h4, h5⟩ := ok
  refine ⟨h1, h2, h3, h4, ?_⟩
  show okT (fdN a b c (dT D) 24)
  generalize 24 = n
  induction n with
  | zero => exact h5
  | succ n ih => exact okT_put ih
theorem fd_8 {s : Int32} (h : fdOk s = true) : s.toInt8.toInt32 = s := by
  simp only [fdOk, Bool.or_eq_true, Bool.and_eq_true, decide_eq_true_eq, Int32.not_lt, Int32.le_iff_toInt_le] at h
  have e1 : (32 : Int32).toInt = 32 := rfl
  have e2 : (126 : Int32).toInt = 126 := rfl
  rcases h with h | h
  · rw [h]; decide
  · refine Int32.toInt_inj.mp ?_
    rw [Int8.toInt_toInt32, Int32.toInt_toInt8, Int.bmod_eq_of_le (by omega) (by omega)]
theorem fd_ix {k : Nat} (hk : k < 24) : (56 - (8 * (nI k - nI k / 8 * 8)) : Int32) = nI (56 - 8 * (k % 8)) := by
  have e1 : nI k - nI k / 8 * 8 = nI (k % 8) := pk_rem (a := k) (d := 8) (by omega) (by decide) (by decide)
  have e2 : 8 * nI (k % 8) = nI (8 * (k % 8)) := pk_mul 8 (k % 8)
  rw [e1, e2]
  exact pk_sub (a := 56) (b := 8 * (k % 8)) (by omega)
section
variable {N M : gM} {n0 a9 : Nat} {D : gD}
theorem xtn (h : RX N n0 a9 D M) : gI M 16 7 = nI (dT D).1 := h.2.2.2.1.1
theorem xt1000 (h : RX N n0 a9 D M) : (dT D).1 ≤ 1000 := h.2.2.2.1.2.1
theorem xt (h : RX N n0 a9 D M) {i : Nat} (hi : i < (dT D).1) : gI M 24 i = (dT D).2 i := h.2.2.2.1.2.2 i hi
theorem RX.tap (h : RX N n0 a9 D M) {s : Int32} (ho : (dT D).1 < 1000) : RX N n0 a9 (dd D, ((dT D).1 + 1, fun i => if i = (dT D).1 then s else (dT D).2 i), D.2.2) (gsI (gsI M 16 7 (nI ((dT D).1 + 1))) 24 (dT D).1 s) := by
  refine h.gen (by rw [gFix_sI, gFix_sI]; exact h.1) (Nat.le_refl _) ⟨h.2.1.1, h.2.1.2.1⟩ (fun _ _ => ⟨rfl, rfl⟩) (fun c' k' q => by unfold xDyn at q; rw [gI_sI, if_neg (by omega), gI_sI, if_neg (by omega)]) (fun _ _ _ => rfl) (fun c' c1 c2 => ?_) rfl rfl rfl
    (xNum_sI (xNum_sI h.2.2.1 (by omega)) (by omega)) ⟨?_, ?_, fun i hi => ?_⟩ (xOth_sI (xOth_sI h.2.2.2.2.1 (by omega)) (by omega))
  · obtain ⟨e1, e2, e3, e4, e5⟩ := h.2.2.2.2.2.2.2.2 c' c1 c2
    exact ⟨e1, e2, fun k' => by rw [gI_sI, if_neg (by omega), gI_sI, if_neg (by omega)]; exact e3 k', e4, e5⟩
  · rw [gI_sI, if_neg (by omega), gI_sI, if_pos ⟨rfl, rfl⟩]; rfl
  · show (dT D).1 + 1 ≤ 1000; omega
  · show _ = if i = (dT D).1 then s else (dT D).2 i
    by_cases e : i = (dT D).1
    · rw [gI_sI, if_pos ⟨rfl, e⟩, if_pos e]
    · rw [gI_sI, if_neg (by omega), if_neg e, gI_sI, if_neg (by omega)]
      have hi : i < (dT D).1 + 1 := hi
      exact xt h (by omega)
theorem fdx_s (h : RX N n0 a9 D M) {s : Int32} (hs : fdOk s = true) {k : Nat} {R : Int32 → gM → Prop} {a b c : Int64} {Q : Int32 → gM → Prop} (hn : ∀ M', RX N n0 a9 (dd D, put9 (dT D) s, D.2.2) M' → R (nI (k + 1)) M') : fX1_feed_b74 R a b c (nI k) s M Q := by
  have t9 := xt1000 h
  unfold fX1_feed_b74 fX1_feed_b103
  rw [xtn h, ← nI_succ]
  refine ⟨xk16 h, ?_⟩
  unfold put9 at hn
  rw [hs] at hn
  by_cases e : (dT D).1 < 1000
  · have q : ¬ (1000 : Int32) ≤ nI (dT D).1 := nI_ge (b := 1000) e (by decide)
    rw [if_neg q]
    simp only [xk16 h, frx3 h.1, fk24 h.1, fl24 h.1, vp_in_nI e (N := 1000) (by decide), nI_clamp (Nat.lt_trans e (by decide : 1000 < 2 ^ 31)), gdr_some, gk_sI, gk_sL, gk_sR, gl_sI, gl_sL, gl_sR, gn_sI, gn_sL, gn_sR, gs_sI, gs_sL, gs_sR, gR_sI, gR_sL, gI_sL, gI_sR, gL_sI, gL_sR, bi_ite, bi_01, true_and, and_true, fd_8 hs, ← nI_succ]
    simp only [e, decide_true, Bool.and_self, if_true] at hn
    exact hn _ (h.tap e)
  · have q : (1000 : Int32) ≤ nI (dT D).1 := nI_le (a := 1000) (by omega) (by omega)
    rw [if_pos q]
    simp only [e, decide_false, Bool.and_false, Bool.false_eq_true, if_false] at hn
    exact hn M h
theorem pX1_feed (h : RX N n0 a9 D M) {a b c : Int64} {Q : Int32 → gM → Prop} (hq : ∀ M', RX N n0 a9 (rFee D a b c).2 M' → Q (rFee D a b c).1 M') : fX1_feed a b c M Q := by
  unfold fX1_feed
  refine ⟨25, ?_⟩
  refine loop24 (I := fun k M => RX N n0 a9 (fdD D a b c k) M) (fun n M hI => ?_) (fun n k M hk hI hn => ?_) 24 0 M rfl h
  · unfold fX1_feed_L3 fX1_feed_L3s
    rw [if_pos ge24]
    refine ⟨xk16 hI, ?_⟩
    rw [xtn hI]
    exact hq M hI
  · unfold fX1_feed_L3 fX1_feed_L3s
    rw [if_neg (nge24 hk)]
    have hn : ∀ M', RX N n0 a9 (dd (fdD D a b c k), put9 (dT (fdD D a b c k)) (chr9 (sel9 a b c k) (k % 8)), (fdD D a b c k).2.2) M' → _ := hn
    have key : ∀ v, v = sel9 a b c k → fX1_feed_b34 (fX1_feed_L3 (fun M22 => gk M22 16 = 1 ∧ Q (gI M22 16 7) M22) a b c Q n) a b c (nI k) v M Q := by
      intro v hv
      subst hv
      unfold fX1_feed_b34
      rw [fd_ix hk]
      show (if chr9 (sel9 a b c k) (k % 8) = 10 then fX1_feed_b74 _ a b c (nI k) (chr9 (sel9 a b c k) (k % 8)) M Q else if chr9 (sel9 a b c k) (k % 8) < 32 then _ else if 126 < chr9 (sel9 a b c k) (k % 8) then _ else fX1_feed_b74 _ a b c (nI k) (chr9 (sel9 a b c k) (k % 8)) M Q)
      generalize chr9 (sel9 a b c k) (k % 8) = s at *
      have no : fdOk s = false → fX1_feed_b103 (fX1_feed_L3 (fun M22 => gk M22 16 = 1 ∧ Q (gI M22 16 7) M22) a b c Q n) a b c (nI k) M Q := by
        intro e
        unfold fX1_feed_b103
        rw [← nI_succ]
        unfold put9 at hn
        rw [e] at hn
        exact hn M hI
      by_cases c1 : s = 10
      · rw [if_pos c1]; exact fdx_s hI (by simp [fdOk, c1]) hn
      rw [if_neg c1]
      by_cases c2 : s < 32
      · rw [if_pos c2]; exact no (by simp [fdOk, c1, c2])
      rw [if_neg c2]
      by_cases c3 : 126 < s
      · rw [if_pos c3]; exact no (by simp [fdOk, c1, c3])
      · rw [if_neg c3]; exact fdx_s hI (by simp [fdOk, c2, c3]) hn
    have l8 : ((8 : Int32) ≤ nI k) ↔ 8 ≤ k := nI_leI (a := 8) (by decide) (by omega)
    have l16 : ((16 : Int32) ≤ nI k) ↔ 16 ≤ k := nI_leI (a := 16) (by decide) (by omega)
    unfold sel9 at key
    by_cases c8 : 8 ≤ k
    · rw [if_pos (l8.mpr c8)]
      by_cases c16 : 16 ≤ k
      · rw [if_pos (l16.mpr c16)]; exact key _ (by rw [if_neg (by omega), if_neg (by omega)])
      · rw [if_neg fun q => c16 (l16.mp q)]; exact key _ (by rw [if_neg (by omega), if_pos (by omega)])
    · rw [if_neg fun q => c8 (l8.mp q)]; exact key _ (by rw [if_pos (by omega)])
end
section
variable {N M : gM} {D : gD}
theorem mtn (h : RM N D M) : gI M 268 2 = nI (dT D).1 := h.2.2.2.1.1
theorem mt1000 (h : RM N D M) : (dT D).1 ≤ 1000 := h.2.2.2.1.2.1
theorem mt (h : RM N D M) {i : Nat} (hi : i < (dT D).1) : gI M 269 i = (dT D).2 i := h.2.2.2.1.2.2 i hi
theorem RM.tap (h : RM N D M) {s : Int32} (ho : (dT D).1 < 1000) : RM N (dd D, ((dT D).1 + 1, fun i => if i = (dT D).1 then s else (dT D).2 i), D.2.2) (gsI (gsI M 269 (dT D).1 s) 268 2 (nI ((dT D).1 + 1))) := by
  refine h.wr2 (by omega) (by omega) rfl rfl rfl (mNum_sI (mNum_sI h.2.2.1 (by omega)) (by omega)) ⟨?_, ?_, fun i hi => ?_⟩ (mOth_sI (mOth_sI h.2.2.2.2.1 (by omega)) (by omega))
  · rw [gI_sI, if_pos ⟨rfl, rfl⟩]; rfl
  · show (dT D).1 + 1 ≤ 1000; omega
  · show _ = if i = (dT D).1 then s else (dT D).2 i
    rw [gI_sI, if_neg (by omega)]
    by_cases e : i = (dT D).1
    · rw [gI_sI, if_pos ⟨rfl, e⟩, if_pos e]
    · rw [if_neg e, gI_sI, if_neg (by omega)]
      have hi : i < (dT D).1 + 1 := hi
      exact mt h (by omega)
theorem fdm_s (h : RM N D M) {s l : Int32} (hs : fdOk s = true) {R : Int32 → gM → Prop} {v : Int64} {Q : gM → Prop} (hn : ∀ M', RM N (dd D, put9 (dT D) s, D.2.2) M' → R (l + (-8)) M') : fX7_lay_b38 R v l s M Q := by
  have t9 := mt1000 h
  unfold fX7_lay_b38 fX7_lay_b69
  rw [mtn h]
  refine ⟨mk268 h, ?_⟩
  unfold put9 at hn
  rw [hs] at hn
  by_cases e : (dT D).1 < 1000
  · have q : ¬ (1000 : Int32) ≤ nI (dT D).1 := nI_ge (b := 1000) e (by decide)
    rw [if_neg q]
    have z : gI (gsI M 269 (dT D).1 s) 268 2 = nI (dT D).1 := by rw [gI_sI, if_neg (by omega)]; exact mtn h
    simp only [mk268 h, frm1 h.1, fk269 h.1, fl269 h.1, vp_in_nI e (N := 1000) (by decide), nI_clamp (Nat.lt_trans e (by decide : 1000 < 2 ^ 31)), z, gdr_some, gk_sI, gk_sL, gk_sR, gl_sI, gl_sL, gl_sR, gn_sI, gn_sL, gn_sR, gs_sI, gs_sL, gs_sR, gR_sI, gR_sL, gI_sL, gI_sR, gL_sI, gL_sR, bi_ite, bi_01, true_and, and_true, ← nI_succ]
    simp only [e, decide_true, Bool.and_self, if_true] at hn
    exact hn _ (h.tap e)
  · have q : (1000 : Int32) ≤ nI (dT D).1 := nI_le (a := 1000) (by omega) (by omega)
    rw [if_pos q]
    simp only [e, decide_false, Bool.and_false, Bool.false_eq_true, if_false] at hn
    exact hn M h
def fdI (j : Nat) : Int32 := if j < 8 then nI (56 - 8 * j) else -8
theorem fdI_s : ∀ j, j < 8 → fdI j + (-8) = fdI (j + 1) := by decide
theorem pX7_lay {a b c p : Int64} {q : Nat} (h : RM N (fdD D a b c (8 * q)) M) (hp : ∀ j, j < 8 → p = sel9 a b c (8 * q + j)) {Q : gM → Prop} (hq : ∀ M', RM N (fdD D a b c (8 * q + 8)) M' → Q M') : fX7_lay p M Q := by
  unfold fX7_lay
  refine ⟨9, ?_⟩
  refine loopN (T := 8) (G := fun n j M => fX7_lay_L3 (fun M16 => Q M16) p Q n (fdI j) M) (I := fun j M => RM N (fdD D a b c (8 * q + j)) M) (fun n M hI => ?_) (fun n j M hj hI hn => ?_) 8 0 M rfl h
  · unfold fX7_lay_L3 fX7_lay_L3s
    rw [if_pos (by decide)]
    exact hq M hI
  · have e1 : (8 * q + j) % 8 = j := by omega
    have hn : ∀ M', RM N (dd (fdD D a b c (8 * q + j)), put9 (dT (fdD D a b c (8 * q + j))) (chr9 (sel9 a b c (8 * q + j)) ((8 * q + j) % 8)), (fdD D a b c (8 * q + j)).2.2) M' → _ := hn
    rw [← hp j hj, e1] at hn
    show fX7_lay_L3 _ _ _ _ _ _
    unfold fX7_lay_L3 fX7_lay_L3s
    have ei : fdI j = nI (56 - 8 * j) := by unfold fdI; rw [if_pos hj]
    rw [if_neg (by rw [ei]; exact nI_neg (by omega))]
    have ec : (p >>> ((fdI j).toInt64 &&& 63)).toInt32 &&& 255 = chr9 p j := by rw [ei]; rfl
    rw [ec]
    rw [← fdI_s j hj] at hn
    generalize chr9 p j = s at *
    have no : fdOk s = false → fX7_lay_b69 (fX7_lay_L3 (fun M16 => Q M16) p Q n) p (fdI j) M Q := by
      intro e
      unfold fX7_lay_b69
      unfold put9 at hn
      rw [e] at hn
      exact hn M hI
    by_cases c1 : s = 10
    · rw [if_pos c1]; exact fdm_s hI (by simp [fdOk, c1]) hn
    rw [if_neg c1]
    by_cases c2 : s < 32
    · rw [if_pos c2]; exact no (by simp [fdOk, c1, c2])
    rw [if_neg c2]
    by_cases c3 : 126 < s
    · rw [if_pos c3]; exact no (by simp [fdOk, c1, c3])
    · rw [if_neg c3]; exact fdm_s hI (by simp [fdOk, c2, c3]) hn
theorem pX7_feed (h : RM N D M) {a b c : Int64} {Q : Int32 → gM → Prop} (hq : ∀ M', RM N (rFee D a b c).2 M' → Q (rFee D a b c).1 M') : fX7_feed a b c M Q := by
  have h0 : RM N (fdD D a b c (8 * 0)) (gsI M 268 0 0) := h.thr9
  unfold fX7_feed
  refine ⟨mk268 h, pX7_lay (q := 0) h0 (fun j hj => by unfold sel9; rw [if_pos (by omega)]) fun M1 h1 => ?_⟩
  refine ⟨mk268 h1, pX7_lay (q := 1) h1 (fun j hj => by unfold sel9; rw [if_neg (by omega), if_pos (by omega)]) fun M2 h2 => ?_⟩
  refine ⟨mk268 h2, pX7_lay (q := 2) h2 (fun j hj => by unfold sel9; rw [if_neg (by omega), if_neg (by omega)]) fun M3 h3 => ?_⟩
  refine ⟨mk268 h3, ?_⟩
  rw [mtn h3]
  exact hq M3 h3
end
/-! op: mark -/
set_option maxRecDepth 100000
/-- n ints copied from one cell to another -/
def mov (M : gM) (d p s q n : Nat) : gM := (M.1, M.2.1, M.2.2.1, fun c k => if c = d ∧ p ≤ k ∧ k < p + n then gI M s (q + (k - p)) else gI M c k, M.2.2.2.2.1, M.2.2.2.2.2)
theorem gI_mov {M : gM} {d p s q n c k : Nat} : gI (mov M d p s q n) c k = if c = d ∧ p ≤ k ∧ k < p + n then gI M s (q + (k - p)) else gI M c k := rfl
theorem gk_mov {M : gM} {d p s q n : Nat} : gk (mov M d p s q n) = gk M := rfl
theorem gl_mov {M : gM} {d p s q n : Nat} : gl (mov M d p s q n) = gl M := rfl
theorem gR_mov {M : gM} {d p s q n : Nat} : gR (mov M d p s q n) = gR M := rfl
theorem gL_mov {M : gM} {d p s q n : Nat} : gL (mov M d p s q n) = gL M := rfl
theorem gn_mov {M : gM} {d p s q n : Nat} : gn (mov M d p s q n) = gn M := rfl
theorem gs_mov {M : gM} {d p s q n : Nat} : gs (mov M d p s q n) = gs M := rfl
theorem gFix_mov {M : gM} {d p s q n : Nat} : gFix (mov M d p s q n) = gFix M := rfl
theorem mov_0 {M : gM} {d p s q : Nat} : mov M d p s q 0 = M := by
  obtain ⟨a, b, c, e, f, g⟩ := M
  show (a, b, c, _, f, g) = (a, b, c, e, f, g)
  have : (fun c' k => if c' = d ∧ p ≤ k ∧ k < p + 0 then gI (a, b, c, e, f, g) s (q + (k - p)) else gI (a, b, c, e, f, g) c' k) = e := by
    funext c' k
    rw [if_neg (by omega)]
    rfl
  rw [this]
theorem mov_s {M : gM} {d p s q n : Nat} (h : d ≠ s) {v : Int32} (hv : v = gI M s (q + n)) : gsI (mov M d p s q n) d (p + n) v = mov M d p s q (n + 1) := by
  subst hv
  obtain ⟨a, b, c, e, f, g⟩ := M
  show (a, b, c, _, f, g) = (a, b, c, _, f, g)
  have : (fun c' k' => if c' = d ∧ k' = p + n then gI (a, b, c, e, f, g) s (q + n) else (if c' = d ∧ p ≤ k' ∧ k' < p + n then gI (a, b, c, e, f, g) s (q + (k' - p)) else gI (a, b, c, e, f, g) c' k')) = (fun c' k' => if c' = d ∧ p ≤ k' ∧ k' < p + (n + 1) then gI (a, b, c, e, f, g) s (q + (k' - p)) else gI (a, b, c, e, f, g) c' k') := by
    funext c' k'
    by_cases e1 : c' = d ∧ k' = p + n
    · rw [if_pos e1, if_pos (by omega), show q + (k' - p) = q + n by omega]
    · rw [if_neg e1]
      by_cases e2 : c' = d ∧ p ≤ k' ∧ k' < p + n
      · rw [if_pos e2, if_pos (by omega)]
      · rw [if_neg e2, if_neg (by omega)]
  exact congrArg (fun x => ((a, b, c, x, f, g) : gM)) this
theorem pX1_moves {M : gM} {r c p : Nat} {b : Int32} (hr : gk M r = 40 ∧ gl M r = 12) (hc : gk M c = 40 ∧ gl M c = 1153) (hp : p + 12 ≤ 1153) (h : r ≠ c) {Q : gM → Prop} (hq : Q (if b = 0 then mov M c p r 0 12 else mov M r 0 c p 12)) : fX1_moves r c (nI p) b M Q := by
  unfold fX1_moves
  refine ⟨13, ?_⟩
  refine loopN (T := 12) (G := fun n m M => fX1_moves_L3 (fun M17 => Q M17) r c (nI p) b Q n (nI m) M) (I := fun m M1 => M1 = if b = 0 then mov M c p r 0 m else mov M r 0 c p m) (fun n M1 hI => ?_) (fun n m M1 hm hI hn => ?_) 12 0 M (by omega) (by split <;> rw [mov_0])
  · unfold fX1_moves_L3 fX1_moves_L3s
    rw [if_pos ge12]
    subst hI
    exact hq
  · have hn := hn _ rfl
    have hm9 : p + m < 1153 := by omega
    have ep : nI p + nI m = nI (p + m) := nI_add p m
    have z1 : vp_in (nI (p + m)) 1153 := vp_in_nI hm9 (by decide)
    have z2 : (nI (p + m)).toNatClampNeg = p + m := nI_clamp (by omega)
    show fX1_moves_L3 _ _ _ _ _ _ _ _ _
    unfold fX1_moves_L3 fX1_moves_L3s fX1_moves_b37
    rw [if_neg (nge12 hm)]
    by_cases eb : b = 0
    · rw [if_pos eb] at hI hn
      rw [if_pos eb]
      subst hI
      simp only [gk_mov, gl_mov, hr.1, hr.2, hc.1, hc.2, ep, z1, z2, vp_in_nI hm (N := 12) (by decide), nI_clamp (Nat.lt_trans hm (by decide : 12 < 2 ^ 31)), true_and]
      rw [← nI_succ]
      have e := mov_s (M := M) (d := c) (p := p) (s := r) (q := 0) (n := m) (fun q => h q.symm) (v := gI (mov M c p r 0 m) r m) (by rw [gI_mov, if_neg (by omega)]; simp)
      rw [e]
      exact hn
    · rw [if_neg eb] at hI hn
      rw [if_neg eb]
      subst hI
      simp only [gk_mov, gl_mov, hr.1, hr.2, hc.1, hc.2, ep, z1, z2, vp_in_nI hm (N := 12) (by decide), nI_clamp (Nat.lt_trans hm (by decide : 12 < 2 ^ 31)), true_and]
      rw [← nI_succ]
      have e := mov_s (M := M) (d := r) (p := 0) (s := c) (q := p) (n := m) h (v := gI (mov M r 0 c p m) c (p + m)) (by rw [gI_mov, if_neg (by omega)])
      rw [show 0 + m = m by omega] at e
      rw [e]
      exact hn
/-- all four rows of a kitchen -/
def mv4 (b : Int32) (c : Nat) (M : gM) (k : Nat) : Nat → gM
  | 0 => M
  | j + 1 => if b = 0 then mov (mv4 b c M k j) c (1 + 48 * k + 12 * j) (89 + 7 * k + j) 0 12 else mov (mv4 b c M k j) (89 + 7 * k + j) 0 c (1 + 48 * k + 12 * j) 12
def mvK (b : Int32) (c : Nat) (M : gM) : Nat → gM
  | 0 => M
  | k + 1 => mv4 b c (mvK b c M k) k 4
/-- the same cells, other ints -/
def same9 (M M1 : gM) : Prop := gk M1 = gk M ∧ gl M1 = gl M ∧ gR M1 = gR M ∧ gL M1 = gL M ∧ gn M1 = gn M ∧ gs M1 = gs M ∧ gFix M1 = gFix M
theorem same9_r (M : gM) : same9 M M := ⟨rfl, rfl, rfl, rfl, rfl, rfl, rfl⟩
theorem same9_mov {M M1 : gM} {d p s q n : Nat} (h : same9 M M1) : same9 M (mov M1 d p s q n) := h
theorem mv4_same {b : Int32} {c : Nat} {M : gM} {k : Nat} : ∀ j, same9 M (mv4 b c M k j) := by
  intro j
  induction j with
  | zero => exact same9_r M
  | succ j ih =>
    unfold mv4
    split
    · exact same9_mov ih
    · exact same9_mov ih
theorem same9.trans {M M1 M2 : gM} (h : same9 M M1) (h2 : same9 M1 M2) : same9 M M2 :=
  ⟨h2.1.trans h.1, h2.2.1.trans h.2.1, h2.2.2.1.trans h.2.2.1, h2.2.2.2.1.trans h.2.2.2.1, h2.2.2.2.2.1.trans h.2.2.2.2.1, h2.2.2.2.2.2.1.trans h.2.2.2.2.2.1, h2.2.2.2.2.2.2.trans h.2.2.2.2.2.2⟩
theorem mvK_same {b : Int32} {c : Nat} {M : gM} : ∀ k, same9 M (mvK b c M k) := by
  intro k
  induction k with
  | zero => exact same9_r M
  | succ k ih => exact ih.trans (mv4_same 4)
theorem mv4_0 {c : Nat} {M : gM} {k : Nat} {b : Int32} (hb : b = 0) (hc : 256 ≤ c) (hk : k < 24) : ∀ j, j ≤ 4 → ∀ c' q, gI (mv4 b c M k j) c' q = if c' = c ∧ 1 + 48 * k ≤ q ∧ q < 1 + 48 * k + 12 * j then gI M (89 + 7 * k + (q - 1 - 48 * k) / 12) ((q - 1 - 48 * k) % 12) else gI M c' q := by
  intro j
  induction j with
  | zero => intro _ c' q; rw [if_neg (by omega)]; rfl
  | succ j ih =>
    intro hj c' q
    have ih := ih (by omega)
    unfold mv4
    rw [if_pos hb, gI_mov]
    by_cases e : c' = c ∧ 1 + 48 * k + 12 * j ≤ q ∧ q < 1 + 48 * k + 12 * j + 12
    · rw [if_pos e, if_pos (by omega), ih, if_neg (by omega), show (q - 1 - 48 * k) / 12 = j by omega, show 0 + (q - (1 + 48 * k + 12 * j)) = (q - 1 - 48 * k) % 12 by omega]
    · rw [if_neg e, ih]
      by_cases e2 : c' = c ∧ 1 + 48 * k ≤ q ∧ q < 1 + 48 * k + 12 * j
      · rw [if_pos e2, if_pos (by omega)]
      · rw [if_neg e2, if_neg (by omega)]
theorem mvK_0 {c : Nat} {M : gM} {b : Int32} (hb : b = 0) (hc : 256 ≤ c) : ∀ k, k ≤ 24 → ∀ c' q, gI (mvK b c M k) c' q = if c' = c ∧ 1 ≤ q ∧ q < 1 + 48 * k then gI M (89 + 7 * ((q - 1) / 48) + ((q - 1) % 48) / 12) ((q - 1) % 12) else gI M c' q := by
  intro k
  induction k with
  | zero => intro _ c' q; rw [if_neg (by omega)]; rfl
  | succ k ih =>
    intro hk c' q
    have ih := ih (by omega)
    show gI (mv4 b c (mvK b c M k) k 4) c' q = _
    rw [mv4_0 hb hc (by omega) 4 (by omega)]
    by_cases e : c' = c ∧ 1 + 48 * k ≤ q ∧ q < 1 + 48 * k + 12 * 4
    · rw [if_pos e, if_pos (by omega), ih, if_neg (by omega), show (q - 1) / 48 = k by omega, show (q - 1) % 48 = q - 1 - 48 * k by omega, show (q - 1) % 12 = (q - 1 - 48 * k) % 12 by omega]
    · rw [if_neg e, ih]
      by_cases e2 : c' = c ∧ 1 ≤ q ∧ q < 1 + 48 * k
      · rw [if_pos e2, if_pos (by omega)]
      · rw [if_neg e2, if_neg (by omega)]
theorem mv4_1 {c : Nat} {M : gM} {k : Nat} {b : Int32} (hb : b ≠ 0) (hc : 256 ≤ c) (hk : k < 24) : ∀ j, j ≤ 4 → ∀ c' q, gI (mv4 b c M k j) c' q = if 89 + 7 * k ≤ c' ∧ c' < 89 + 7 * k + j ∧ q < 12 then gI M c (1 + 48 * k + 12 * (c' - 89 - 7 * k) + q) else gI M c' q := by
  intro j
  induction j with
  | zero => intro _ c' q; rw [if_neg (by omega)]; rfl
  | succ j ih =>
    intro hj c' q
    have ih := ih (by omega)
    unfold mv4
    rw [if_neg hb, gI_mov]
    by_cases e : c' = 89 + 7 * k + j ∧ 0 ≤ q ∧ q < 0 + 12
    · rw [if_pos e, if_pos (by omega), ih, if_neg (by omega), show c' - 89 - 7 * k = j by omega, show q - 0 = q by omega]
    · rw [if_neg e, ih]
      by_cases e2 : 89 + 7 * k ≤ c' ∧ c' < 89 + 7 * k + j ∧ q < 12
      · rw [if_pos e2, if_pos (by omega)]
      · rw [if_neg e2, if_neg (by omega)]
theorem mvK_1 {c : Nat} {M : gM} {b : Int32} (hb : b ≠ 0) (hc : 256 ≤ c) : ∀ k, k ≤ 24 → ∀ c' q, gI (mvK b c M k) c' q = if 89 ≤ c' ∧ (c' - 89) / 7 < k ∧ (c' - 89) % 7 < 4 ∧ q < 12 then gI M c (1 + 48 * ((c' - 89) / 7) + 12 * ((c' - 89) % 7) + q) else gI M c' q := by
  intro k
  induction k with
  | zero => intro _ c' q; rw [if_neg (by omega)]; rfl
  | succ k ih =>
    intro hk c' q
    have ih := ih (by omega)
    show gI (mv4 b c (mvK b c M k) k 4) c' q = _
    rw [mv4_1 hb hc (by omega) 4 (by omega)]
    by_cases e : 89 + 7 * k ≤ c' ∧ c' < 89 + 7 * k + 4 ∧ q < 12
    · rw [if_pos e, if_pos (by omega), ih, if_neg (by omega), show (c' - 89) / 7 = k by omega, show (c' - 89) % 7 = c' - 89 - 7 * k by omega]
    · rw [if_neg e, ih]
      by_cases e2 : 89 ≤ c' ∧ (c' - 89) / 7 < k ∧ (c' - 89) % 7 < 4 ∧ q < 12
      · rw [if_pos e2, if_pos (by omega)]
      · rw [if_neg e2, if_neg (by omega)]
/-- the loop of mark -/
theorem pX1_mark_b87 {M : gM} (hf : gFix M) {c : Nat} {b : Int32} (hc9 : 256 ≤ c) (hc : gk M c = 40 ∧ gl M c = 1153) {Q : Int32 → gM → Prop} (hq : Q 1 (mvK b c M 24)) : fX1_mark_b87 b c M Q := by
  unfold fX1_mark_b87
  refine ⟨25, ?_⟩
  refine loop24 (I := fun k M1 => M1 = mvK b c M k) (fun n M1 hI => ?_) (fun n k M1 hk hI hn => ?_) 24 0 M rfl rfl
  · unfold fX1_mark_L90 fX1_mark_L90s
    rw [if_pos ge24]
    subst hI
    exact hq
  · have hn := hn _ rfl
    have s1 : same9 M M1 := by rw [hI]; exact mvK_same k
    have tr : ∀ j, same9 M (mv4 b c M1 k j) := fun j => s1.trans (mv4_same j)
    have row : ∀ {M2 : gM}, same9 M M2 → gk M2 16 = 1 ∧ gR M2 16 0 = some 17 ∧ gk M2 17 = 44 ∧ gl M2 17 = 24 ∧ gR M2 17 k = some (88 + 7 * k) ∧ gk M2 (88 + 7 * k) = 4 ∧ ∀ j, j < 4 → gR M2 (88 + 7 * k) (5 + j) = some (89 + 7 * k + j) ∧ gk M2 (89 + 7 * k + j) = 40 ∧ gl M2 (89 + 7 * k + j) = 12 := by
      intro M2 s
      have f2 : gFix M2 := by rw [s.2.2.2.2.2.2]; exact hf
      exact ⟨fk16 f2, frx0 f2, fk17 f2, fl17 f2, frK f2 hk, fkK f2 hk, fun j hj => ⟨frA f2 hk (by omega), fkA f2 hk (by omega), flA f2 hk (by omega)⟩⟩
    have cc : ∀ {M2 : gM}, same9 M M2 → gk M2 c = 40 ∧ gl M2 c = 1153 := fun s => ⟨by rw [s.1]; exact hc.1, by rw [s.2.1]; exact hc.2⟩
    have ea : ∀ j : Nat, (1 + 48 * nI k : Int32) + nI (12 * j) = nI (1 + 48 * k + 12 * j) := by
      intro j
      have e1 : (48 : Int32) * nI k = nI (48 * k) := pk_mul 48 k
      have e2 : (1 : Int32) + nI (48 * k) = nI (1 + 48 * k) := nI_add 1 (48 * k)
      rw [e1, e2, nI_add]
    have mj : ∀ j, j < 4 → ∀ {Q : gM → Prop}, Q (mv4 b c M1 k (j + 1)) → fX1_moves (89 + 7 * k + j) c ((1 + 48 * nI k : Int32) + nI (12 * j)) b (mv4 b c M1 k j) Q := by
      intro j hj Q hq
      rw [ea]
      have r := (row (tr j)).2.2.2.2.2.2 j hj
      exact pX1_moves r.2 (cc (tr j)) (by omega) (by omega) hq
    unfold fX1_mark_L90 fX1_mark_L90s
    rw [if_neg (nge24 hk)]
    obtain ⟨r1, r2, r3, r4, r5, r6, r7⟩ := row s1
    rw [r2, gdr_some, r3, r4]
    have w : ∀ j, j < 4 → gR (mv4 b c M1 k j) (88 + 7 * k) (5 + j) = some (89 + 7 * k + j) ∧ gk (mv4 b c M1 k j) (88 + 7 * k) = 4 := fun j hj => ⟨((row (tr j)).2.2.2.2.2.2 j hj).1, (row (tr j)).2.2.2.2.2.1⟩
    refine ⟨r1, rfl, vp_in_nI hk (by decide), ?_⟩
    rw [nI_clamp (by omega), r5, gdr_some, r6]
    refine ⟨rfl, ?_⟩
    have z0 : (1 + 48 * nI k : Int32) + nI (12 * 0) = 1 + 48 * nI k := by
      show (1 + 48 * nI k : Int32) + 0 = _
      rw [Int32.add_zero]
    have m0 := fun {Q} => mj 0 (by decide) (Q := Q)
    rw [z0] at m0
    have w0 := (w 0 (by decide)).1
    have w1 := w 1 (by decide)
    have w2 := w 2 (by decide)
    have w3 := w 3 (by decide)
    rw [show gR M1 (88 + 7 * k) 5 = some (89 + 7 * k + 0) from w0, gdr_some]
    refine m0 ⟨w1.2, ?_⟩
    rw [show gR (mv4 b c M1 k 1) (88 + 7 * k) 6 = some (89 + 7 * k + 1) from w1.1, gdr_some]
    refine mj 1 (by decide) ⟨w2.2, ?_⟩
    rw [show gR (mv4 b c M1 k 2) (88 + 7 * k) 7 = some (89 + 7 * k + 2) from w2.1, gdr_some]
    refine mj 2 (by decide) ⟨w3.2, ?_⟩
    rw [show gR (mv4 b c M1 k 3) (88 + 7 * k) 8 = some (89 + 7 * k + 3) from w3.1, gdr_some]
    refine mj 3 (by decide) ?_
    rw [← nI_succ]
    subst hI
    exact hn
/-! mark: pictures -/
set_option maxRecDepth 100000
/-- dynamic cells that are no marks stay -/
def keep9 (n0 : Nat) (M M1 : gM) : Prop := ∀ c, xDyn n0 c → gk M c ≠ 40 → gk M1 c = gk M c ∧ gl M1 c = gl M c ∧ (∀ k, gI M1 c k = gI M c k) ∧ ∀ k, gR M1 c k = gR M c k
theorem xT_kind {M : gM} {n0 F n c : Nat} {L : List (Int32 × Int32)} (h : xT M n0 F n c L) : gk M c ≠ 40 := by
  cases n with
  | zero => exact h.elim
  | succ n =>
    obtain ⟨-, -, q⟩ := h
    rcases q with ⟨q, -⟩ | ⟨q, -⟩ | ⟨q, -⟩ | ⟨q, -⟩ <;> omega
theorem xT_keep2 {M M1 : gM} {n0 n1 F : Nat} (hn : n0 ≤ n1) (h : keep9 n0 M M1) : ∀ (n c : Nat) (L : List (Int32 × Int32)), xT M n0 F n c L → xT M1 n1 F n c L := by
  intro n
  induction n with
  | zero => intro c L q; exact q
  | succ n ih =>
    intro c L q
    have hk := xT_kind q
    obtain ⟨h1, h2, q⟩ := q
    obtain ⟨e1, -, e2, e3⟩ := h c (Or.inr ⟨h1, h2⟩) hk
    refine ⟨h1, by omega, ?_⟩
    rw [e1, e2 0, e3 0, e3 1, e3 2]
    rcases q with q | q | ⟨q, c1, L1, r1, r2, r3⟩ | ⟨q, a, b, La, Lb, r1, r2, r3, r4, r5⟩
    · exact Or.inl q
    · exact Or.inr (Or.inl q)
    · exact Or.inr (Or.inr (Or.inl ⟨q, c1, L1, r1, ih _ _ r2, r3⟩))
    · exact Or.inr (Or.inr (Or.inr ⟨q, a, b, La, Lb, r1, r2, ih _ _ r3, ih _ _ r4, r5⟩))
theorem xTo_keep2 {M M1 : gM} {n0 n1 F : Nat} (hn : n0 ≤ n1) (h : keep9 n0 M M1) {r : Option Nat} {o : Option (List (Int32 × Int32))} (q : xTo M n0 F r o) : xTo M1 n1 F r o := by
  rcases q with q | ⟨c, L, n, q1, q2, q3, q4⟩
  · exact Or.inl q
  · exact Or.inr ⟨c, L, n, q1, q2, q3, xT_keep2 hn h _ _ _ q4⟩
theorem xDyn_le {n0 n1 c : Nat} (hn : n0 ≤ n1) (h : xDyn n0 c) : xDyn n1 c := by
  unfold xDyn at *
  omega
theorem xLaw_keep2 {M M1 : gM} {n0 n1 : Nat} {W : Nat → Nat → Option (List (Int32 × Int32))} (hn : n0 ≤ n1) (h : keep9 n0 M M1) {l : Nat} (hl : l < 4) (e : gR M1 26 l = gR M 26 l) (q : xLaw n0 W M) : ∃ c d, gR M1 26 l = some c ∧ xDyn n1 c ∧ gk M1 c = 5 ∧ gR M1 c 0 = some d ∧ xDyn n1 d ∧ gk M1 d = 47 ∧ gl M1 d = 4 ∧ ∀ w : Nat, w < 4 → xTo M1 n1 10 (gR M1 d w) (W l w) := by
  obtain ⟨c, d, q1, q2, q3, q4, q5, q6, q7, q8⟩ := q l hl
  have hc := h c q2 (by omega)
  have hd := h d q5 (by omega)
  refine ⟨c, d, by rw [e]; exact q1, xDyn_le hn q2, by rw [hc.1]; exact q3, by rw [hc.2.2.2]; exact q4, xDyn_le hn q5, by rw [hd.1]; exact q6, by rw [hd.2.1]; exact q7, fun w hw => ?_⟩
  rw [hd.2.2.2]
  exact xTo_keep2 hn h (q8 w hw)
theorem xWri_keep2 {M M1 : gM} {n0 n1 : Nat} {V : Nat → Option (List (Int32 × Int32)) × (Nat → Int32)} (hn : n0 ≤ n1) (h : keep9 n0 M M1) {i : Nat} (hi : i < 4) (e : gR M1 27 i = gR M 27 i) (q : xWri n0 V M) : ∃ c, gR M1 27 i = some c ∧ xDyn n1 c ∧ gk M1 c = 6 ∧ xTo M1 n1 9 (gR M1 c 0) (V i).1 ∧ gI M1 c 1 = (V i).2 0 ∧ gI M1 c 2 = (V i).2 1 ∧ gI M1 c 3 = (V i).2 2 := by
  obtain ⟨c, q1, q2, q3, q4, q5, q6, q7⟩ := q i hi
  have hc := h c q2 (by omega)
  refine ⟨c, by rw [e]; exact q1, xDyn_le hn q2, by rw [hc.1]; exact q3, ?_, by rw [hc.2.2.1]; exact q5, by rw [hc.2.2.1]; exact q6, by rw [hc.2.2.1]; exact q7⟩
  rw [hc.2.2.2]
  exact xTo_keep2 hn h q4
def setM (D : gD) (i : Nat) (v : Option (Nat × (Nat → Nat → Nat → Int32))) : gD := (dd D, dT D, dO D, dL D, dW D, fun j => if j = i then v else dM D j)
theorem setM_2 {D : gD} {i : Nat} {v w : Option (Nat × (Nat → Nat → Nat → Int32))} : setM (setM D i v) i w = setM D i w := by
  have : (fun j => if j = i then w else if j = i then v else dM D j) = fun j => if j = i then w else dM D j := by
    funext j
    by_cases e : j = i <;> simp [e]
  exact congrArg (fun x => ((dd D, dT D, dO D, dL D, dW D, x) : gD)) this
def bakD (D : gD) (o : Nat × (Nat → Nat → Nat → Int32)) : gD := (fun f k m => if 5 ≤ f ∧ f < 9 ∧ k < 24 ∧ m < 12 then o.2 f k m else dd D f k m, dT D, (o.1, (dO D).2), dL D, dW D, dM D)
section
variable {N M : gM} {n0 a : Nat} {D : gD}
theorem xm87 (h : RX N n0 a D M) {i : Nat} (hi : i < 4) : (gR M 87 i = none ∧ dM D i = none) ∨ ∃ c o, gR M 87 i = some c ∧ dM D i = some o ∧ (312 ≤ c ∧ c < n0) ∧ gk M c = 40 ∧ gl M c = 1153 ∧ gI M c 0 = nI o.1 ∧ o.1 ≤ 20 ∧ ∀ j k m : Nat, j < 4 → k < 24 → m < 12 → gI M c (1 + 48 * k + 12 * j + m) = o.2 (5 + j) k m := h.2.2.2.2.2.2.2.1.2 i hi
/-- a new mark's cell -/
theorem RX.mk1 (h : RX N n0 a D M) {i : Nat} (hi : i < 4) (hr : gR M 87 i = none) (ha : 1200 ≤ a) : RX N (gn M + 1) (a - 1200) (setM D i (some (0, fun _ _ _ => 0))) (gsR (gnew M 40 1153 1153) 87 i (some (gn M))) := by
  have hf := h.1
  obtain ⟨-, ⟨h2, h3, h4, h5⟩, k1, t1, o1, hl, hw, ⟨hj, hM⟩, hN⟩ := h
  have g313 := hf.1
  have eI : ∀ c k, c < gn M → gI (gsR (gnew M 40 1153 1153) 87 i (some (gn M))) c k = gI M c k := fun c k hc => by rw [gI_sR, gI_new, if_neg (by omega)]
  have eK : ∀ c, c < gn M → gk (gsR (gnew M 40 1153 1153) 87 i (some (gn M))) c = gk M c := fun c hc => by rw [gk_sR, gk_new, if_neg (by omega)]
  have eLn : ∀ c, c < gn M → gl (gsR (gnew M 40 1153 1153) 87 i (some (gn M))) c = gl M c := fun c hc => by rw [gl_sR, gl_new, if_neg (by omega)]
  have eR : ∀ c k, c < gn M → ¬ (c = 87 ∧ k = i) → gR (gsR (gnew M 40 1153 1153) 87 i (some (gn M))) c k = gR M c k := fun c k hc q => by rw [gR_sR, if_neg q, gR_new, if_neg (by omega)]
  have eD : ∀ c, xDyn n0 c → c < gn M ∧ c ≠ 87 := fun c q => by unfold xDyn at q; omega
  have K : keep9 n0 M (gsR (gnew M 40 1153 1153) 87 i (some (gn M))) := fun c q _ => by
    obtain ⟨c1, c2⟩ := eD c q
    exact ⟨eK c c1, eLn c c1, fun k => eI c k c1, fun k => eR c k c1 (by omega)⟩
  refine ⟨gFix_sR (by unfold gFree9; omega) (gFix_new hf), ⟨?_, ?_, by omega, ?_⟩, ⟨?_, ?_, ?_, ?_, ?_⟩, ⟨?_, t1.2.1, fun j hj => ?_⟩, ⟨?_, o1.2.1, fun j hj => ?_⟩, fun l hl9 => xLaw_keep2 (by omega) K hl9 (eR 26 l (by omega) (by omega)) hl, fun j hj9 => xWri_keep2 (by omega) K hj9 (eR 27 j (by omega) (by omega)) hw, ⟨fun p q hp hq hpq => ?_, fun p hp => ?_⟩, fun c c1 c2 => ?_⟩
  · rw [gn_sR, gn_new]; omega
  · rw [gs_sR, gs_new]; omega
  · rw [gn_sR, gn_new]; exact Nat.le_refl _
  · intro f k hf hk; rw [eI _ _ (by omega)]; exact k1.1 f k hf hk
  · intro j k m hj hk hm; rw [eI _ _ (by omega)]; exact k1.2.1 j k m hj hk hm
  · intro b m hb hm; rw [eI _ _ (by omega), eI _ _ (by omega)]; exact k1.2.2.1 b m hb hm
  · rw [eI _ _ (by omega)]; exact k1.2.2.2.1
  · rw [eI _ _ (by omega)]; exact k1.2.2.2.2
  · rw [eI _ _ (by omega)]; exact t1.1
  · rw [eI _ _ (by omega)]; exact t1.2.2 j hj
  · rw [eI _ _ (by omega)]; exact o1.1
  · rw [eI _ _ (by omega), eI _ _ (by omega), eI _ _ (by omega)]; exact o1.2.2 j hj
  · have lt : ∀ p c, p < 4 → gR M 87 p = some c → c < gn M := fun p c hp e => by
      rcases hM p hp with q | ⟨c', o, q1, q2, q3, -⟩
      · rw [q.1] at e; cases e
      · rw [q1] at e; cases e; omega
    by_cases ep : p = i
    · right
      rw [gR_sR, if_pos ⟨rfl, ep⟩, eR _ _ (by omega) (by omega)]
      intro e
      have := lt q _ hq e.symm
      omega
    · by_cases eq : q = i
      · rw [eR _ _ (by omega) (by omega), gR_sR, if_pos ⟨rfl, eq⟩]
        right
        intro e
        have := lt p _ hp e
        omega
      · rw [eR _ _ (by omega) (by omega), eR _ _ (by omega) (by omega)]
        exact hj p q hp hq hpq
  · by_cases ep : p = i
    · right
      refine ⟨gn M, (0, fun _ _ _ => 0), by rw [gR_sR, if_pos ⟨rfl, ep⟩], ?_, ⟨by omega, by omega⟩, by rw [gk_sR, gk_new, if_pos rfl], by rw [gl_sR, gl_new, if_pos rfl], by rw [gI_sR, gI_new, if_pos rfl]; rfl, by omega, fun j k m _ _ _ => by rw [gI_sR, gI_new, if_pos rfl]⟩
      show (if p = i then _ else _) = _
      rw [if_pos ep]
    · have eMd : dM (setM D i (some (0, fun _ _ _ => 0))) p = dM D p := by show (if p = i then _ else _) = _; rw [if_neg ep]
      rw [eMd, eR _ _ (by omega) (by omega)]
      rcases hM p hp with q | ⟨c, o, q1, q2, q3, q4, q5, q6, q7, q8⟩
      · exact Or.inl q
      · refine Or.inr ⟨c, o, q1, q2, ⟨by omega, by omega⟩, by rw [eK _ (by omega)]; exact q4, by rw [eLn _ (by omega)]; exact q5, by rw [eI _ _ (by omega)]; exact q6, q7, fun j k m hj hk hm => ?_⟩
        rw [eI _ _ (by omega)]; exact q8 j k m hj hk hm
  · obtain ⟨e1, e2, e3, e4, e5⟩ := hN c c1 c2
    exact ⟨(eK c (by omega)).trans e1, (eLn c (by omega)).trans e2, fun k => (eI c k (by omega)).trans (e3 k), fun k => by rw [gL_sR, gL_new, if_neg (by omega)]; exact e4 k, fun k => (eR c k (by omega) (by omega)).trans (e5 k)⟩
/-- what is told is laid into a mark's cell -/
theorem RX.mk2 (h : RX N n0 a D M) {i c : Nat} {b : Int32} (hb : b = 0) (hi : i < 4) (hr : gR M 87 i = some c) : RX N n0 a (setM D i (some ((dO D).1, dd D))) (mvK b c (gsI M c 0 (gI M 16 22)) 24) := by
  have hf := h.1
  have hon := xon h
  obtain ⟨-, ⟨h2, h3, h4, h5⟩, k1, t1, o1, hl, hw, ⟨hj, hM⟩, hN⟩ := h
  obtain ⟨hc1, hc2, hc3, hc4⟩ : 312 ≤ c ∧ c < n0 ∧ gk M c = 40 ∧ gl M c = 1153 := by
    rcases hM i hi with q | ⟨c', o, q1, q2, q3, q4, q5, -⟩
    · rw [q.1] at hr; cases hr
    · rw [q1] at hr; cases hr; exact ⟨q3.1, q3.2, q4, q5⟩
  have s9 : same9 M (mvK b c (gsI M c 0 (gI M 16 22)) 24) := (show same9 M (gsI M c 0 (gI M 16 22)) from ⟨rfl, rfl, rfl, rfl, rfl, rfl, rfl⟩).trans (mvK_same 24)
  have eV := mvK_0 (M := gsI M c 0 (gI M 16 22)) (c := c) hb (by omega) 24 (Nat.le_refl _)
  generalize mvK b c (gsI M c 0 (gI M 16 22)) 24 = M2 at *
  obtain ⟨s1, s2, s3, s4, s5, s6, s7⟩ := s9
  have eI : ∀ c' q, c' ≠ c → gI M2 c' q = gI M c' q := fun c' q hc => by rw [eV, if_neg (by omega), gI_sI, if_neg (by omega)]
  have K : keep9 n0 M M2 := fun c' q hk => ⟨by rw [s1], by rw [s2], fun k => eI c' k (fun e => hk (by rw [e]; exact hc3)), fun k => by rw [s3]⟩
  refine ⟨by rw [s7]; exact hf, ⟨by omega, by omega, h4, by omega⟩, ⟨?_, ?_, ?_, ?_, ?_⟩, ⟨?_, t1.2.1, fun j hj => ?_⟩, ⟨?_, o1.2.1, fun j hj => ?_⟩, fun l hl9 => xLaw_keep2 (Nat.le_refl _) K hl9 (by rw [s3]) hl, fun j hj9 => xWri_keep2 (Nat.le_refl _) K hj9 (by rw [s3]) hw, ⟨fun p q hp hq hpq => ?_, fun p hp => ?_⟩, fun c' c1 c2 => ?_⟩
  · intro f k hf hk; rw [eI _ _ (by omega)]; exact k1.1 f k hf hk
  · intro j k m hj hk hm; rw [eI _ _ (by omega)]; exact k1.2.1 j k m hj hk hm
  · intro b m hb hm; rw [eI _ _ (by omega), eI _ _ (by omega)]; exact k1.2.2.1 b m hb hm
  · rw [eI _ _ (by omega)]; exact k1.2.2.2.1
  · rw [eI _ _ (by omega)]; exact k1.2.2.2.2
  · rw [eI _ _ (by omega)]; exact t1.1
  · rw [eI _ _ (by omega)]; exact t1.2.2 j hj
  · rw [eI _ _ (by omega)]; exact o1.1
  · rw [eI _ _ (by omega), eI _ _ (by omega), eI _ _ (by omega)]; exact o1.2.2 j hj
  · rw [s3]; exact hj p q hp hq hpq
  · rw [s3]
    by_cases ep : p = i
    · right
      subst ep
      refine ⟨c, ((dO D).1, dd D), hr, ?_, ⟨hc1, hc2⟩, by rw [s1]; exact hc3, by rw [s2]; exact hc4, ?_, o1.2.1, fun j k m hj hk hm => ?_⟩
      · show (if p = p then _ else _) = _
        rw [if_pos rfl]
      · rw [eV, if_neg (by omega), gI_sI, if_pos ⟨rfl, rfl⟩, hon]
      · rw [eV, if_pos (by omega), gI_sI, if_neg (by omega), show (1 + 48 * k + 12 * j + m - 1) / 48 = k by omega, show (1 + 48 * k + 12 * j + m - 1) % 48 / 12 = j by omega, show (1 + 48 * k + 12 * j + m - 1) % 12 = m by omega]
        exact k1.2.1 j k m (by omega) hk hm
    · have eMd : dM (setM D i (some ((dO D).1, dd D))) p = dM D p := by show (if p = i then _ else _) = _; rw [if_neg ep]
      rw [eMd]
      rcases hM p hp with q | ⟨c', o, q1, q2, q3, q4, q5, q6, q7, q8⟩
      · exact Or.inl q
      · have hne : c' ≠ c := by
          rcases hj p i hp hi ep with e | e
          · rw [q1] at e; cases e
          · rw [q1, hr] at e; exact fun e2 => e (by rw [e2])
        refine Or.inr ⟨c', o, q1, q2, q3, by rw [s1]; exact q4, by rw [s2]; exact q5, by rw [eI _ _ hne]; exact q6, q7, fun j k m hj hk hm => ?_⟩
        rw [eI _ _ hne]; exact q8 j k m hj hk hm
  · obtain ⟨e1, e2, e3, e4, e5⟩ := hN c' c1 c2
    exact ⟨by rw [s1]; exact e1, by rw [s2]; exact e2, fun k => (eI c' k (by omega)).trans (e3 k), fun k => by rw [s4]; exact e4 k, fun k => by rw [s3]; exact e5 k⟩
/-- what a mark holds is told again -/
theorem RX.mk3 (h : RX N n0 a D M) {i c : Nat} {o : Nat × (Nat → Nat → Nat → Int32)} {b : Int32} (hb : b ≠ 0) (hi : i < 4) (hr : gR M 87 i = some c) (ho : dM D i = some o) : RX N n0 a (bakD D o) (mvK b c (gsI M 16 22 (gI M c 0)) 24) := by
  have hf := h.1
  obtain ⟨-, ⟨h2, h3, h4, h5⟩, k1, t1, o1, hl, hw, ⟨hj, hM⟩, hN⟩ := h
  obtain ⟨hc1, hc2, hc3, hc4, hc5, hc6, hc7⟩ : 312 ≤ c ∧ c < n0 ∧ gk M c = 40 ∧ gl M c = 1153 ∧ gI M c 0 = nI o.1 ∧ o.1 ≤ 20 ∧ ∀ j k m : Nat, j < 4 → k < 24 → m < 12 → gI M c (1 + 48 * k + 12 * j + m) = o.2 (5 + j) k m := by
    rcases hM i hi with q | ⟨c', o', q1, q2, q3, q4, q5, q6, q7, q8⟩
    · rw [q.1] at hr; cases hr
    · rw [q1] at hr; cases hr
      rw [q2] at ho; cases ho
      exact ⟨q3.1, q3.2, q4, q5, q6, q7, q8⟩
  have s9 : same9 M (mvK b c (gsI M 16 22 (gI M c 0)) 24) := (show same9 M (gsI M 16 22 (gI M c 0)) from ⟨rfl, rfl, rfl, rfl, rfl, rfl, rfl⟩).trans (mvK_same 24)
  have eV := mvK_1 (M := gsI M 16 22 (gI M c 0)) (c := c) hb (by omega) 24 (Nat.le_refl _)
  generalize mvK b c (gsI M 16 22 (gI M c 0)) 24 = M2 at *
  obtain ⟨s1, s2, s3, s4, s5, s6, s7⟩ := s9
  have eI : ∀ c' q, (c' < 89 ∨ 256 ≤ c' ∨ 4 ≤ (c' - 89) % 7) → ¬ (c' = 16 ∧ q = 22) → gI M2 c' q = gI M c' q := fun c' q hc hq => by rw [eV, if_neg (by omega), gI_sI, if_neg hq]
  have eD : ∀ c' q, xDyn n0 c' → gI M2 c' q = gI M c' q := fun c' q hc => by unfold xDyn at hc; exact eI c' q (by omega) (by omega)
  have K : keep9 n0 M M2 := fun c' q hk => ⟨by rw [s1], by rw [s2], fun k => eD c' k q, fun k => by rw [s3]⟩
  refine ⟨by rw [s7]; exact hf, ⟨by omega, by omega, h4, by omega⟩, ⟨?_, ?_, ?_, ?_, ?_⟩, ⟨?_, t1.2.1, fun j hj => ?_⟩, ⟨?_, hc6, fun j hj => ?_⟩, fun l hl9 => xLaw_keep2 (Nat.le_refl _) K hl9 (by rw [s3]) hl, fun j hj9 => xWri_keep2 (Nat.le_refl _) K hj9 (by rw [s3]) hw, ⟨fun p q hp hq hpq => ?_, fun p hp => ?_⟩, fun c' c1 c2 => ?_⟩
  · intro f k hf hk
    show gI M2 _ _ = if 5 ≤ f ∧ f < 9 ∧ k < 24 ∧ 0 < 12 then _ else _
    rw [if_neg (by omega), eI _ _ (by omega) (by omega)]; exact k1.1 f k hf hk
  · intro j k m hj hk hm
    show gI M2 _ _ = if 5 ≤ 5 + j ∧ 5 + j < 9 ∧ k < 24 ∧ m < 12 then _ else _
    by_cases e : j < 4
    · rw [if_pos (by omega), eV, if_pos (by omega), show (89 + 7 * k + j - 89) / 7 = k by omega, show (89 + 7 * k + j - 89) % 7 = j by omega, gI_sI, if_neg (by omega)]
      exact hc7 j k m e hk hm
    · rw [if_neg (by omega), eI _ _ (by omega) (by omega)]; exact k1.2.1 j k m hj hk hm
  · intro b m hb hm
    show gI M2 (19 + b) m = dd D 11 b m ∧ gI M2 (22 + b) m = dd D 12 b m
    rw [eI _ _ (by omega) (by omega), eI _ _ (by omega) (by omega)]; exact k1.2.2.1 b m hb hm
  · show gI M2 16 8 = dd D 13 0 0
    rw [eI _ _ (by omega) (by omega)]; exact k1.2.2.2.1
  · show gI M2 16 9 = dd D 13 0 1
    rw [eI _ _ (by omega) (by omega)]; exact k1.2.2.2.2
  · rw [eI _ _ (by omega) (by omega)]; exact t1.1
  · rw [eI _ _ (by omega) (by omega)]; exact t1.2.2 j hj
  · rw [eV, if_neg (by omega), gI_sI, if_pos ⟨rfl, rfl⟩, hc5]; rfl
  · rw [eI _ _ (by omega) (by omega), eI _ _ (by omega) (by omega), eI _ _ (by omega) (by omega)]; exact o1.2.2 j hj
  · rw [s3]; exact hj p q hp hq hpq
  · rw [s3]
    show (_ ∧ dM D p = none) ∨ ∃ c' o', _ ∧ dM D p = some o' ∧ _
    rcases hM p hp with q | ⟨c', o', q1, q2, q3, q4, q5, q6, q7, q8⟩
    · exact Or.inl q
    · refine Or.inr ⟨c', o', q1, q2, q3, by rw [s1]; exact q4, by rw [s2]; exact q5, by rw [eI _ _ (by omega) (by omega)]; exact q6, q7, fun j k m hj hk hm => ?_⟩
      rw [eI _ _ (by omega) (by omega)]; exact q8 j k m hj hk hm
  · obtain ⟨e1, e2, e3, e4, e5⟩ := hN c' c1 c2
    exact ⟨by rw [s1]; exact e1, by rw [s2]; exact e2, fun k => (eI c' k (by omega) (by omega)).trans (e3 k), fun k => by rw [s4]; exact e4 k, fun k => by rw [s3]; exact e5 k⟩
def rMrk (D : gD) (i b : Int32) : Int32 × gD := if in9 0 3 i = true then (if b = 0 then (1, setM D (cl i) (some ((dO D).1, dd D))) else match dM D (cl i) with
  | none => (0, D)
  | some o => if o.1 ≤ (dO D).1 then (1, bakD D o) else (0, D)) else (0, D)
theorem i4 {b : Int32} (h : in9 0 3 b = true) : ∃ i, i < 4 ∧ b = nI i ∧ cl b = i := by
  obtain ⟨i, hi, rfl⟩ := in9_nI (n := 3) rfl (by decide) h
  exact ⟨i, hi, rfl, cl_nI (by omega)⟩
theorem pX1_mark_b59 (h : RX N n0 a D M) {i c : Nat} {b : Int32} (hi : i < 4) (hr : gR M 87 i = some c) {Q : Int32 → gM → Prop} (h0 : b = 0 → ∀ M', RX N n0 a (setM D i (some ((dO D).1, dd D))) M' → Q 1 M') (h1 : b ≠ 0 → ∀ o M', dM D i = some o → RX N n0 a (bakD D o) M' → Q 1 M') : fX1_mark_b59 (nI i) b M Q := by
  obtain ⟨c', o, hc, ho, q3, q4, q5, -⟩ : ∃ c o, gR M 87 i = some c ∧ dM D i = some o ∧ (312 ≤ c ∧ c < n0) ∧ gk M c = 40 ∧ gl M c = 1153 ∧ True := by
    rcases xm87 h hi with q | ⟨c, o, q1, q2, q3, q4, q5, -⟩
    · rw [q.1] at hr; cases hr
    · exact ⟨c, o, q1, q2, q3, q4, q5, trivial⟩
  rw [hr] at hc; cases hc
  have v0 : vp_in 0 1153 := vp_in_nI (n := 0) (by decide) (by decide)
  unfold fX1_mark_b59
  simp only [xk16 h, frx27 h.1, fk87 h.1, fl87 h.1, vp_in_nI hi (N := 4) (by decide), nI_clamp (Nat.lt_trans hi (by decide : 4 < 2 ^ 31)), hr, q4, q5, v0, gdr_some, gk_sI, gk_sL, gk_sR, gl_sI, gl_sL, gl_sR, gn_sI, gn_sL, gn_sR, gs_sI, gs_sL, gs_sR, gR_sI, gR_sL, gI_sL, gI_sR, gL_sI, gL_sR, bi_ite, bi_01, true_and, and_true]
  by_cases e : b = 0
  · rw [if_pos e]
    have key := h0 e _ (h.mk2 e hi hr)
    have hfx : gFix (gsI M c 0 (gI M 16 22)) := by rw [gFix_sI]; exact h.1
    have hcc : gk (gsI M c 0 (gI M 16 22)) c = 40 ∧ gl (gsI M c 0 (gI M 16 22)) c = 1153 := by rw [gk_sI, gl_sI]; exact ⟨q4, q5⟩
    exact pX1_mark_b87 hfx (by omega) hcc key
  · rw [if_neg e]
    have key := h1 e o _ ho (h.mk3 e hi hr ho)
    have hfx : gFix (gsI M 16 22 (gI M c 0)) := by rw [gFix_sI]; exact h.1
    have hcc : gk (gsI M 16 22 (gI M c 0)) c = 40 ∧ gl (gsI M 16 22 (gI M c 0)) c = 1153 := by rw [gk_sI, gl_sI]; exact ⟨q4, q5⟩
    exact pX1_mark_b87 hfx (by omega) hcc key
theorem pX1_mark (h : RX N n0 a D M) (ha : 1200 ≤ a) {i b : Int32} {Q : Int32 → gM → Prop} (hq : ∀ n1 M', RX N n1 (a - 1200) (rMrk D i b).2 M' → Q (rMrk D i b).1 M') : fX1_mark i b M Q := by
  unfold fX1_mark
  unfold rMrk at hq
  simp only [pX1_in, gdr_some, gk_sI, gk_sL, gk_sR, gl_sI, gl_sL, gl_sR, gn_sI, gn_sL, gn_sR, gs_sI, gs_sL, gs_sR, gR_sI, gR_sL, gI_sL, gI_sR, gL_sI, gL_sR, bi_ite, bi_01, true_and, and_true]
  cases q1 : in9 0 3 i
  · rw [q1] at hq; simpa using hq n0 M (h.less (by omega))
  rw [q1] at hq
  simp only [if_true] at hq ⊢
  obtain ⟨j, hj, rfl, ej⟩ := i4 q1
  rw [ej] at hq
  by_cases e : b = 0
  · rw [if_pos e] at hq ⊢
    unfold fX1_mark_b39
    simp only [xk16 h, frx27 h.1, fk87 h.1, fl87 h.1, vp_in_nI hj (N := 4) (by decide), nI_clamp (Nat.lt_trans hj (by decide : 4 < 2 ^ 31)), gdr_some, gk_sI, gk_sL, gk_sR, gl_sI, gl_sL, gl_sR, gn_sI, gn_sL, gn_sR, gs_sI, gs_sL, gs_sR, gR_sI, gR_sL, gI_sL, gI_sR, gL_sI, gL_sR, bi_ite, bi_01, true_and, and_true]
    by_cases er : gR M 87 j = none
    · rw [if_pos er]
      have h5 := h.2.1
      refine ⟨by omega, by omega, by rw [gk_new, if_neg (by omega)]; exact fk87 h.1, by rw [gl_new, if_neg (by omega), fl87 h.1]; exact vp_in_nI hj (by decide), by rw [gk_new, if_pos rfl], ?_⟩
      refine pX1_mark_b59 (c := gn M) (h.mk1 hj er ha) hj (by rw [gR_sR, if_pos ⟨rfl, rfl⟩]) (fun _ M' h' => hq (gn M + 1) M' (by rw [setM_2] at h'; exact h')) (fun q => absurd e q)
    · rw [if_neg er]
      cases ec : gR M 87 j with
      | none => exact absurd ec er
      | some c => exact pX1_mark_b59 (c := c) h hj ec (fun _ M' h' => hq _ M' (h'.less (by omega))) (fun q => absurd e q)
  · rw [if_neg e] at hq ⊢
    simp only [xk16 h, frx27 h.1, fk87 h.1, fl87 h.1, vp_in_nI hj (N := 4) (by decide), nI_clamp (Nat.lt_trans hj (by decide : 4 < 2 ^ 31)), gdr_some, gk_sI, gk_sL, gk_sR, gl_sI, gl_sL, gl_sR, gn_sI, gn_sL, gn_sR, gs_sI, gs_sL, gs_sR, gR_sI, gR_sL, gI_sL, gI_sR, gL_sI, gL_sR, bi_ite, bi_01, true_and, and_true, xon h]
    rcases xm87 h hj with ⟨m1, m2⟩ | ⟨c, o, m1, m2, m3, m4, m5, m6, m7, -⟩
    · rw [if_pos m1]
      rw [m2] at hq
      exact hq n0 M (h.less (by omega))
    · have v0 : vp_in 0 1153 := vp_in_nI (n := 0) (by decide) (by decide)
      rw [if_neg (by rw [m1]; exact fun q => by cases q)]
      rw [m2] at hq
      simp only [m1, gdr_some, m4, m5, m6, v0, true_and]
      have o20 := xo20 h
      have el : (nI o.1 ≤ nI (dO D).1) ↔ o.1 ≤ (dO D).1 := nI_leI (by omega) (by omega)
      simp only at hq
      by_cases c2 : o.1 ≤ (dO D).1
      · rw [if_pos (el.mpr c2)]
        rw [if_pos c2] at hq
        unfold fX1_mark_b39
        simp only [xk16 h, frx27 h.1, fk87 h.1, fl87 h.1, vp_in_nI hj (N := 4) (by decide), nI_clamp (Nat.lt_trans hj (by decide : 4 < 2 ^ 31)), gdr_some, gk_sI, gk_sL, gk_sR, gl_sI, gl_sL, gl_sR, gn_sI, gn_sL, gn_sR, gs_sI, gs_sL, gs_sR, gR_sI, gR_sL, gI_sL, gI_sR, gL_sI, gL_sR, bi_ite, bi_01, true_and, and_true]
        rw [if_neg (by rw [m1]; exact fun q => by cases q)]
        exact pX1_mark_b59 (c := c) h hj m1 (fun q => absurd q e) (fun _ o' M' ho' h' => by rw [m2] at ho'; cases ho'; exact hq _ M' (h'.less (by omega)))
      · rw [if_neg fun q => c2 (el.mp q)]
        rw [if_neg c2] at hq
        exact hq n0 M (h.less (by omega))
end
/-! mark, in m -/
set_option maxRecDepth 100000
theorem pX7_keeps {M : gM} (hf : gFix M) {r p : Nat} {b : Int32} (hr : gk M r = 40 ∧ gl M r = 288) (hp : p + 288 ≤ 6912) (h : r ≠ 311) {Q : gM → Prop} (hq : Q (if b = 0 then mov M 311 p r 0 288 else mov M r 0 311 p 288)) : fX7_keeps (nI p) r b M Q := by
  have k1 := fk268 hf
  have k2 := frm57 hf
  have k3 := fk311 hf
  have k4 := fl311 hf
  unfold fX7_keeps
  refine ⟨289, ?_⟩
  refine loopN (T := 288) (G := fun n m M => fX7_keeps_L3 (fun M22 => Q M22) (nI p) r b Q n (nI m) M) (I := fun m M1 => M1 = if b = 0 then mov M 311 p r 0 m else mov M r 0 311 p m) (fun n M1 hI => ?_) (fun n m M1 hm hI hn => ?_) 288 0 M (by omega) (by split <;> rw [mov_0])
  · unfold fX7_keeps_L3 fX7_keeps_L3s
    rw [if_pos (by decide)]
    subst hI
    exact hq
  · have hn := hn _ rfl
    have hm9 : p + m < 6912 := by omega
    have ep : nI p + nI m = nI (p + m) := nI_add p m
    have z1 : vp_in (nI (p + m)) 6912 := vp_in_nI hm9 (by decide)
    have z2 : (nI (p + m)).toNatClampNeg = p + m := nI_clamp (by omega)
    have q288 : ¬ (288 : Int32) ≤ nI m := nI_ge (b := 288) hm (by decide)
    show fX7_keeps_L3 _ _ _ _ _ _ _ _
    unfold fX7_keeps_L3 fX7_keeps_L3s fX7_keeps_b44
    rw [if_neg q288]
    by_cases eb : b = 0
    · rw [if_pos eb] at hI hn
      rw [if_pos eb]
      subst hI
      simp only [gk_mov, gl_mov, gR_mov, k1, k2, k3, k4, gdr_some, hr.1, hr.2, ep, z1, z2, vp_in_nI hm (N := 288) (by decide), nI_clamp (Nat.lt_trans hm (by decide : 288 < 2 ^ 31)), true_and]
      rw [← nI_succ]
      have e := mov_s (M := M) (d := 311) (p := p) (s := r) (q := 0) (n := m) (fun q => h q.symm) (v := gI (mov M 311 p r 0 m) r m) (by rw [gI_mov, if_neg (by omega)]; simp)
      rw [e]
      exact hn
    · rw [if_neg eb] at hI hn
      rw [if_neg eb]
      subst hI
      simp only [gk_mov, gl_mov, gR_mov, k1, k2, k3, k4, gdr_some, hr.1, hr.2, ep, z1, z2, vp_in_nI hm (N := 288) (by decide), nI_clamp (Nat.lt_trans hm (by decide : 288 < 2 ^ 31)), true_and]
      rw [← nI_succ]
      have e := mov_s (M := M) (d := r) (p := 0) (s := 311) (q := p) (n := m) h (v := gI (mov M r 0 311 p m) 311 (p + m)) (by rw [gI_mov, if_neg (by omega)])
      rw [show 0 + m = m by omega] at e
      rw [e]
      exact hn
def mvM (b : Int32) (i : Nat) (M : gM) : Nat → gM
  | 0 => M
  | t + 1 => if b = 0 then mov (mvM b i M t) 311 (1728 * i + 288 * t) (281 + t) 0 288 else mov (mvM b i M t) (281 + t) 0 311 (1728 * i + 288 * t) 288
theorem mvM_same {b : Int32} {i : Nat} {M : gM} : ∀ t, same9 M (mvM b i M t) := by
  intro t
  induction t with
  | zero => exact same9_r M
  | succ t ih =>
    unfold mvM
    split
    · exact same9_mov ih
    · exact same9_mov ih
theorem mvM_0 {i : Nat} {M : gM} {b : Int32} (hb : b = 0) : ∀ t, t ≤ 6 → ∀ c' q, gI (mvM b i M t) c' q = if c' = 311 ∧ 1728 * i ≤ q ∧ q < 1728 * i + 288 * t then gI M (281 + (q - 1728 * i) / 288) ((q - 1728 * i) % 288) else gI M c' q := by
  intro t
  induction t with
  | zero => intro _ c' q; rw [if_neg (by omega)]; rfl
  | succ t ih =>
    intro ht c' q
    have ih := ih (by omega)
    unfold mvM
    rw [if_pos hb, gI_mov]
    by_cases e : c' = 311 ∧ 1728 * i + 288 * t ≤ q ∧ q < 1728 * i + 288 * t + 288
    · rw [if_pos e, if_pos (by omega), ih, if_neg (by omega), show (q - 1728 * i) / 288 = t by omega, show 0 + (q - (1728 * i + 288 * t)) = (q - 1728 * i) % 288 by omega]
    · rw [if_neg e, ih]
      by_cases e2 : c' = 311 ∧ 1728 * i ≤ q ∧ q < 1728 * i + 288 * t
      · rw [if_pos e2, if_pos (by omega)]
      · rw [if_neg e2, if_neg (by omega)]
theorem mvM_1 {i : Nat} {M : gM} {b : Int32} (hb : b ≠ 0) : ∀ t, t ≤ 6 → ∀ c' q, gI (mvM b i M t) c' q = if 281 ≤ c' ∧ c' < 281 + t ∧ q < 288 then gI M 311 (1728 * i + 288 * (c' - 281) + q) else gI M c' q := by
  intro t
  induction t with
  | zero => intro _ c' q; rw [if_neg (by omega)]; rfl
  | succ t ih =>
    intro ht c' q
    have ih := ih (by omega)
    unfold mvM
    rw [if_neg hb, gI_mov]
    by_cases e : c' = 281 + t ∧ 0 ≤ q ∧ q < 0 + 288
    · rw [if_pos e, if_pos (by omega), ih, if_neg (by omega), show c' - 281 = t by omega, show q - 0 = q by omega]
    · rw [if_neg e, ih]
      by_cases e2 : 281 ≤ c' ∧ c' < 281 + t ∧ q < 288
      · rw [if_pos e2, if_pos (by omega)]
      · rw [if_neg e2, if_neg (by omega)]
theorem pX7_mark_b76 {M : gM} (hf : gFix M) {i : Nat} {b : Int32} (hi : i < 4) {Q : Int32 → gM → Prop} (hq : Q 1 (mvM b i M 6)) : fX7_mark_b76 (nI i) b M Q := by
  have ff : ∀ t, gFix (mvM b i M t) := fun t => by rw [(mvM_same t).2.2.2.2.2.2]; exact hf
  have ea : ∀ t : Nat, (1728 * nI i : Int32) + nI (288 * t) = nI (1728 * i + 288 * t) := by
    intro t
    have e1 : (1728 : Int32) * nI i = nI (1728 * i) := pk_mul 1728 i
    rw [e1, nI_add]
  have mj : ∀ t, t < 6 → ∀ {Q : gM → Prop}, gk (mvM b i M t) (281 + t) = 40 ∧ gl (mvM b i M t) (281 + t) = 288 → Q (mvM b i M (t + 1)) → fX7_keeps ((1728 * nI i : Int32) + nI (288 * t)) (281 + t) b (mvM b i M t) Q := by
    intro t ht Q hk hq
    rw [ea]
    exact pX7_keeps (ff t) hk (by omega) (by omega) hq
  have z0 : (1728 * nI i : Int32) + nI (288 * 0) = 1728 * nI i := by
    show (1728 * nI i : Int32) + 0 = _
    rw [Int32.add_zero]
  have m0 := fun {Q} => mj 0 (by decide) (Q := Q)
  rw [z0] at m0
  unfold fX7_mark_b76
  refine ⟨fk268 hf, ?_⟩
  rw [frm18 hf, gdr_some]
  refine m0 ⟨fk281 (ff 0), fl281 (ff 0)⟩ ⟨fk268 (ff 1), ?_⟩
  rw [show gR (mvM b i M (0 + 1)) 268 19 = some 282 from frm19 (ff 1), gdr_some]
  refine mj 1 (by decide) ⟨fk282 (ff 1), fl282 (ff 1)⟩ ⟨fk268 (ff 2), ?_⟩
  rw [show gR (mvM b i M (1 + 1)) 268 20 = some 283 from frm20 (ff 2), gdr_some]
  refine mj 2 (by decide) ⟨fk283 (ff 2), fl283 (ff 2)⟩ ⟨fk268 (ff 3), ?_⟩
  rw [show gR (mvM b i M (2 + 1)) 268 21 = some 284 from frm21 (ff 3), gdr_some]
  refine mj 3 (by decide) ⟨fk284 (ff 3), fl284 (ff 3)⟩ ⟨fk268 (ff 4), ?_⟩
  rw [show gR (mvM b i M (3 + 1)) 268 22 = some 285 from frm22 (ff 4), gdr_some]
  refine mj 4 (by decide) ⟨fk285 (ff 4), fl285 (ff 4)⟩ ⟨fk268 (ff 5), ?_⟩
  rw [show gR (mvM b i M (4 + 1)) 268 23 = some 286 from frm23 (ff 5), gdr_some]
  exact mj 5 (by decide) ⟨fk286 (ff 5), fl286 (ff 5)⟩ hq
section
variable {N M : gM} {D : gD}
theorem mm309 (h : RM N D M) {i : Nat} (hi : i < 4) : (gI M 309 i = 0 ∧ dM D i = none) ∨ ∃ o, gI M 309 i = 1 ∧ dM D i = some o ∧ gI M 310 i = nI o.1 ∧ o.1 ≤ 20 ∧ ∀ k m : Nat, k < 24 → m < 12 →
  gI M 311 (1728 * i + (12 * k + m)) = stM (o.2 5 k m) ∧ gI M 311 (1728 * i + 288 + (12 * k + m)) = whM (o.2 5 k m) ∧ gI M 311 (1728 * i + 576 + (12 * k + m)) = o.2 6 k m ∧ gI M 311 (1728 * i + 864 + (12 * k + m)) = isM (o.2 7 k m) ∧ gI M 311 (1728 * i + 1152 + (12 * k + m)) = whM (o.2 7 k m) ∧ gI M 311 (1728 * i + 1440 + (12 * k + m)) = o.2 8 k m := h.2.2.2.2.2.2.2.1 i hi
theorem RM.mk2 (h : RM N D M) {i : Nat} {b : Int32} (hb : b = 0) (hi : i < 4) : RM N (setM D i (some ((dO D).1, dd D))) (mvM b i (gsI (gsI M 309 i 1) 310 i (nI (dO D).1)) 6) := by
  have hf := h.1
  obtain ⟨-, h2, k1, t1, o1, hl, hw, hM, hc, hN⟩ := h
  have s9 : same9 M (mvM b i (gsI (gsI M 309 i 1) 310 i (nI (dO D).1)) 6) := (show same9 M (gsI (gsI M 309 i 1) 310 i (nI (dO D).1)) from ⟨rfl, rfl, rfl, rfl, rfl, rfl, rfl⟩).trans (mvM_same 6)
  have eV := mvM_0 (M := gsI (gsI M 309 i 1) 310 i (nI (dO D).1)) (i := i) hb 6 (Nat.le_refl _)
  generalize mvM b i (gsI (gsI M 309 i 1) 310 i (nI (dO D).1)) 6 = M2 at *
  obtain ⟨s1, s2, s3, s4, s5, s6, s7⟩ := s9
  have eI : ∀ c' q, c' ≠ 309 → c' ≠ 310 → c' ≠ 311 → gI M2 c' q = gI M c' q := fun c' q a1 a2 a3 => by rw [eV, if_neg (by omega), gI_sI, if_neg (by omega), gI_sI, if_neg (by omega)]
  have hT : ∀ c k, c = 289 ∨ c = 290 → k < 4400 ∨ 5500 ≤ k → gI M2 c k = gI M c k := fun c k q r => eI c k (by omega) (by omega) (by omega)
  refine ⟨by rw [s7]; exact hf, ⟨by rw [s5]; exact h2.1, by rw [s6]; exact h2.2⟩, ?_, ⟨?_, t1.2.1, fun j hj => ?_⟩, ⟨?_, o1.2.1, fun j hj => ?_⟩, fun l w hl9 hw9 => ?_, fun j hj => ?_, fun p hp => ?_, ⟨fun j hj => ?_, fun j hj => ?_⟩, fun c q => ?_⟩
  · refine mNum_up k1 (fun k' hk' => ?_) (fun b' m' hb' hm' => ?_) (fun k' m' hk' hm' => ?_) ?_
    · refine ⟨?_, ?_, ?_, ?_, ?_⟩ <;> (left; exact ⟨eI _ _ (by omega) (by omega) (by omega), rfl⟩)
    · refine ⟨?_, ?_⟩ <;> (left; exact ⟨eI _ _ (by omega) (by omega) (by omega), rfl⟩)
    · refine ⟨?_, ?_, ?_, ?_, ?_, ?_, ?_, ?_⟩ <;> (left; exact ⟨eI _ _ (by omega) (by omega) (by omega), rfl⟩)
    · left; exact ⟨eI _ _ (by omega) (by omega) (by omega), rfl⟩
  · rw [eI _ _ (by omega) (by omega) (by omega)]; exact t1.1
  · rw [eI _ _ (by omega) (by omega) (by omega)]; exact t1.2.2 j hj
  · rw [eI _ _ (by omega) (by omega) (by omega)]; exact o1.1
  · rw [eI _ _ (by omega) (by omega) (by omega), eI _ _ (by omega) (by omega) (by omega), eI _ _ (by omega) (by omega) (by omega)]; exact o1.2.2 j hj
  · rw [eI _ _ (by omega) (by omega) (by omega)]
    exact mLin_keep (by omega) hT (hl l w hl9 hw9)
  · rw [eI _ _ (by omega) (by omega) (by omega), eI _ _ (by omega) (by omega) (by omega), eI _ _ (by omega) (by omega) (by omega), eI _ _ (by omega) (by omega) (by omega)]
    exact ⟨mLin_keep (by omega) hT (hw j hj).1, (hw j hj).2⟩
  · by_cases ep : p = i
    · right
      subst ep
      refine ⟨((dO D).1, dd D), by rw [eV, if_neg (by omega), gI_sI, if_neg (by omega), gI_sI, if_pos ⟨rfl, rfl⟩], ?_, by rw [eV, if_neg (by omega), gI_sI, if_pos ⟨rfl, rfl⟩], o1.2.1, fun k m hk hm => ?_⟩
      · show (if p = p then _ else _) = _
        rw [if_pos rfl]
      · obtain ⟨y1, y2, y3, y4, y5, y6, -⟩ := k1.2.2.1 k m hk hm
        have g : ∀ t x : Nat, t < 6 → x < 288 → gI M2 311 (1728 * p + 288 * t + x) = gI M (281 + t) x := by
          intro t x ht hx
          rw [eV, if_pos (by omega), show (1728 * p + 288 * t + x - 1728 * p) / 288 = t by omega, show (1728 * p + 288 * t + x - 1728 * p) % 288 = x by omega, gI_sI, if_neg (by omega), gI_sI, if_neg (by omega)]
        have hx : 12 * k + m < 288 := by omega
        exact ⟨(g 0 _ (by omega) hx).trans y1, (g 1 _ (by omega) hx).trans y2, (g 2 _ (by omega) hx).trans y3, (g 3 _ (by omega) hx).trans y4, (g 4 _ (by omega) hx).trans y5, (g 5 _ (by omega) hx).trans y6⟩
    · have eMd : dM (setM D i (some ((dO D).1, dd D))) p = dM D p := by show (if p = i then _ else _) = _; rw [if_neg ep]
      rw [eMd]
      have g1 : gI M2 309 p = gI M 309 p := by rw [eV, if_neg (by omega), gI_sI, if_neg (by omega), gI_sI, if_neg (by omega)]
      have g2 : gI M2 310 p = gI M 310 p := by rw [eV, if_neg (by omega), gI_sI, if_neg (by omega), gI_sI, if_neg (by omega)]
      have g3 : ∀ x, x < 1728 → gI M2 311 (1728 * p + x) = gI M 311 (1728 * p + x) := fun x hx => by rw [eV, if_neg (by omega), gI_sI, if_neg (by omega), gI_sI, if_neg (by omega)]
      rw [g1, g2]
      rcases hM p hp with q | ⟨o, q1, q2, q3, q4, q5⟩
      · exact Or.inl q
      · refine Or.inr ⟨o, q1, q2, q3, q4, fun k m hk hm => ?_⟩
        obtain ⟨y1, y2, y3, y4, y5, y6⟩ := q5 k m hk hm
        have n := fun x hx => g3 x hx
        refine ⟨(g3 _ (by omega)).trans y1, ?_, ?_, ?_, ?_, ?_⟩
        · rw [Nat.add_assoc] at y2 ⊢; exact (g3 _ (by omega)).trans y2
        · rw [Nat.add_assoc] at y3 ⊢; exact (g3 _ (by omega)).trans y3
        · rw [Nat.add_assoc] at y4 ⊢; exact (g3 _ (by omega)).trans y4
        · rw [Nat.add_assoc] at y5 ⊢; exact (g3 _ (by omega)).trans y5
        · rw [Nat.add_assoc] at y6 ⊢; exact (g3 _ (by omega)).trans y6
  · rw [s4]; exact hc.1 j hj
  · rw [eI _ _ (by omega) (by omega) (by omega)]; exact hc.2 j hj
  · obtain ⟨f1, f2, f3, f4, f5⟩ := hN c q
    exact ⟨by rw [s1]; exact f1, by rw [s2]; exact f2, fun k => (eI c k (by omega) (by omega) (by omega)).trans (f3 k), fun k => by rw [s4]; exact f4 k, fun k => by rw [s3]; exact f5 k⟩
theorem RM.mk3 (h : RM N D M) {i : Nat} {o : Nat × (Nat → Nat → Nat → Int32)} {b : Int32} (hb : b ≠ 0) (hi : i < 4) (ho : dM D i = some o) : RM N (bakD D o) (mvM b i (gsI M 268 41 (nI o.1)) 6) := by
  have hf := h.1
  obtain ⟨-, h2, k1, t1, o1, hl, hw, hM, hc, hN⟩ := h
  obtain ⟨hc6, hc7⟩ : o.1 ≤ 20 ∧ ∀ k m : Nat, k < 24 → m < 12 →
    gI M 311 (1728 * i + (12 * k + m)) = stM (o.2 5 k m) ∧ gI M 311 (1728 * i + 288 + (12 * k + m)) = whM (o.2 5 k m) ∧ gI M 311 (1728 * i + 576 + (12 * k + m)) = o.2 6 k m ∧ gI M 311 (1728 * i + 864 + (12 * k + m)) = isM (o.2 7 k m) ∧ gI M 311 (1728 * i + 1152 + (12 * k + m)) = whM (o.2 7 k m) ∧ gI M 311 (1728 * i + 1440 + (12 * k + m)) = o.2 8 k m := by
    rcases hM i hi with q | ⟨o', q1, q2, q3, q4, q5⟩
    · rw [q.2] at ho; cases ho
    · rw [q2] at ho; cases ho
      exact ⟨q4, q5⟩
  have s9 : same9 M (mvM b i (gsI M 268 41 (nI o.1)) 6) := (show same9 M (gsI M 268 41 (nI o.1)) from ⟨rfl, rfl, rfl, rfl, rfl, rfl, rfl⟩).trans (mvM_same 6)
  have eV := mvM_1 (M := gsI M 268 41 (nI o.1)) (i := i) hb 6 (Nat.le_refl _)
  generalize mvM b i (gsI M 268 41 (nI o.1)) 6 = M2 at *
  obtain ⟨s1, s2, s3, s4, s5, s6, s7⟩ := s9
  have eI : ∀ c' q, (c' < 281 ∨ 287 ≤ c') → ¬ (c' = 268 ∧ q = 41) → gI M2 c' q = gI M c' q := fun c' q a1 a2 => by rw [eV, if_neg (by omega), gI_sI, if_neg a2]
  have hT : ∀ c k, c = 289 ∨ c = 290 → k < 4400 ∨ 5500 ≤ k → gI M2 c k = gI M c k := fun c k q r => eI c k (by omega) (by omega)
  refine ⟨by rw [s7]; exact hf, ⟨by rw [s5]; exact h2.1, by rw [s6]; exact h2.2⟩, ⟨fun k hk => ?_, fun b m hb hm => ?_, fun k m hk hm => ?_, ?_⟩, ⟨?_, t1.2.1, fun j hj => ?_⟩, ⟨?_, hc6, fun j hj => ?_⟩, fun l w hl9 hw9 => ?_, fun j hj => ?_, fun p hp => ?_, ⟨fun j hj => ?_, fun j hj => ?_⟩, fun c q => ?_⟩
  · show gI M2 274 k = dd D 3 k 0 ∧ gI M2 275 k = dd D 0 k 0 ∧ gI M2 276 k = dd D 1 k 0 ∧ gI M2 277 k = dd D 2 k 0 ∧ gI M2 278 k = dd D 4 k 0
    rw [eI _ _ (by omega) (by omega), eI _ _ (by omega) (by omega), eI _ _ (by omega) (by omega), eI _ _ (by omega) (by omega), eI _ _ (by omega) (by omega)]
    exact k1.1 k hk
  · show gI M2 279 (12 * b + m) = dd D 11 b m ∧ gI M2 280 (12 * b + m) = dd D 12 b m
    rw [eI _ _ (by omega) (by omega), eI _ _ (by omega) (by omega)]
    exact k1.2.1 b m hb hm
  · have g : ∀ t x : Nat, t < 6 → x < 288 → gI M2 (281 + t) x = gI M 311 (1728 * i + 288 * t + x) := by
      intro t x ht hx
      rw [eV, if_pos (by omega), show 281 + t - 281 = t by omega, gI_sI, if_neg (by omega)]
    have hx : 12 * k + m < 288 := by omega
    obtain ⟨y1, y2, y3, y4, y5, y6⟩ := hc7 k m hk hm
    obtain ⟨-, -, -, -, -, -, z7, z8⟩ := k1.2.2.1 k m hk hm
    have e5 : dd (bakD D o) 5 k m = o.2 5 k m := if_pos ⟨by omega, by omega, hk, hm⟩
    have e6 : dd (bakD D o) 6 k m = o.2 6 k m := if_pos ⟨by omega, by omega, hk, hm⟩
    have e7 : dd (bakD D o) 7 k m = o.2 7 k m := if_pos ⟨by omega, by omega, hk, hm⟩
    have e8 : dd (bakD D o) 8 k m = o.2 8 k m := if_pos ⟨by omega, by omega, hk, hm⟩
    rw [e5, e6, e7, e8]
    refine ⟨(g 0 _ (by omega) hx).trans y1, (g 1 _ (by omega) hx).trans y2, (g 2 _ (by omega) hx).trans y3, (g 3 _ (by omega) hx).trans y4, (g 4 _ (by omega) hx).trans y5, (g 5 _ (by omega) hx).trans y6, ?_, ?_⟩
    · show gI M2 305 (12 * k + m) = dd D 9 k m
      rw [eI _ _ (by omega) (by omega)]; exact z7
    · show gI M2 306 (12 * k + m) = dd D 10 k m
      rw [eI _ _ (by omega) (by omega)]; exact z8
  · show gI M2 268 15 = dd D 13 0 0
    rw [eI _ _ (by omega) (by omega)]; exact k1.2.2.2
  · rw [eI _ _ (by omega) (by omega)]; exact t1.1
  · rw [eI _ _ (by omega) (by omega)]; exact t1.2.2 j hj
  · rw [eV, if_neg (by omega), gI_sI, if_pos ⟨rfl, rfl⟩]; rfl
  · rw [eI _ _ (by omega) (by omega), eI _ _ (by omega) (by omega), eI _ _ (by omega) (by omega)]; exact o1.2.2 j hj
  · rw [eI _ _ (by omega) (by omega)]
    exact mLin_keep (by omega) hT (hl l w hl9 hw9)
  · rw [eI _ _ (by omega) (by omega), eI _ _ (by omega) (by omega), eI _ _ (by omega) (by omega), eI _ _ (by omega) (by omega)]
    exact ⟨mLin_keep (by omega) hT (hw j hj).1, (hw j hj).2⟩
  · rw [eI _ _ (by omega) (by omega), eI _ _ (by omega) (by omega)]
    show (_ ∧ dM D p = none) ∨ ∃ o', _ ∧ dM D p = some o' ∧ _
    rcases hM p hp with q | ⟨o', q1, q2, q3, q4, q5⟩
    · exact Or.inl q
    · refine Or.inr ⟨o', q1, q2, q3, q4, fun k m hk hm => ?_⟩
      rw [eI 311 _ (by omega) (by omega), eI 311 _ (by omega) (by omega), eI 311 _ (by omega) (by omega), eI 311 _ (by omega) (by omega), eI 311 _ (by omega) (by omega), eI 311 _ (by omega) (by omega)]
      exact q5 k m hk hm
  · rw [s4]; exact hc.1 j hj
  · rw [eI _ _ (by omega) (by omega)]; exact hc.2 j hj
  · obtain ⟨f1, f2, f3, f4, f5⟩ := hN c q
    exact ⟨by rw [s1]; exact f1, by rw [s2]; exact f2, fun k => (eI c k (by omega) (by omega)).trans (f3 k), fun k => by rw [s4]; exact f4 k, fun k => by rw [s3]; exact f5 k⟩
theorem pX7_mark (h : RM N D M) {i b : Int32} {Q : Int32 → gM → Prop} (hq : ∀ M', RM N (rMrk D i b).2 M' → Q (rMrk D i b).1 M') : fX7_mark i b M Q := by
  have h0 : RM N D (gsI M 268 0 0) := h.thr9
  unfold fX7_mark
  unfold rMrk at hq
  refine ⟨mk268 h, ?_⟩
  generalize gsI M 268 0 0 = M0 at *
  simp only [pX7_within, gdr_some, gk_sI, gk_sL, gk_sR, gl_sI, gl_sL, gl_sR, gn_sI, gn_sL, gn_sR, gs_sI, gs_sL, gs_sR, gR_sI, gR_sL, gI_sL, gI_sR, gL_sI, gL_sR, bi_ite, bi_01, true_and, and_true]
  cases q1 : in9 0 3 i
  · rw [q1] at hq; simpa using hq M0 h0
  rw [q1] at hq
  simp only [if_true] at hq ⊢
  obtain ⟨j, hj, rfl, ej⟩ := i4 q1
  rw [ej] at hq
  by_cases e : b = 0
  · rw [if_pos e] at hq ⊢
    unfold fX7_mark_b42
    rw [if_pos e]
    have z : gI (gsI M0 309 j 1) 268 41 = nI (dO D).1 := by rw [gI_sI, if_neg (by omega)]; exact mon h0
    simp only [mk268 h0, frm55 h0.1, fk309 h0.1, fl309 h0.1, frm56 h0.1, fk310 h0.1, fl310 h0.1, vp_in_nI hj (N := 4) (by decide), nI_clamp (Nat.lt_trans hj (by decide : 4 < 2 ^ 31)), z, gdr_some, gk_sI, gk_sL, gk_sR, gl_sI, gl_sL, gl_sR, gn_sI, gn_sL, gn_sR, gs_sI, gs_sL, gs_sR, gR_sI, gR_sL, gI_sL, gI_sR, gL_sI, gL_sR, bi_ite, bi_01, true_and, and_true]
    have key := hq _ (h0.mk2 e hj)
    have hfx : gFix (gsI (gsI M0 309 j 1) 310 j (nI (dO D).1)) := by rw [gFix_sI, gFix_sI]; exact h0.1
    exact pX7_mark_b76 hfx hj key
  · rw [if_neg e] at hq ⊢
    simp only [mk268 h0, frm55 h0.1, fk309 h0.1, fl309 h0.1, frm56 h0.1, fk310 h0.1, fl310 h0.1, vp_in_nI hj (N := 4) (by decide), nI_clamp (Nat.lt_trans hj (by decide : 4 < 2 ^ 31)), mon h0, gdr_some, gk_sI, gk_sL, gk_sR, gl_sI, gl_sL, gl_sR, gn_sI, gn_sL, gn_sR, gs_sI, gs_sL, gs_sR, gR_sI, gR_sL, gI_sL, gI_sR, gL_sI, gL_sR, bi_ite, bi_01, true_and, and_true]
    rcases mm309 h0 hj with ⟨m1, m2⟩ | ⟨o, m1, m2, m3, m4, -⟩
    · rw [if_pos m1]
      rw [m2] at hq
      exact hq M0 h0
    · rw [if_neg (by rw [m1]; decide)]
      rw [m2] at hq
      have o20 := mo20 h0
      have el : (nI o.1 ≤ nI (dO D).1) ↔ o.1 ≤ (dO D).1 := nI_leI (by omega) (by omega)
      rw [m3]
      simp only at hq
      by_cases c2 : o.1 ≤ (dO D).1
      · rw [if_pos (el.mpr c2)]
        rw [if_pos c2] at hq
        unfold fX7_mark_b42
        rw [if_neg e]
        simp only [mk268 h0, frm55 h0.1, fk309 h0.1, fl309 h0.1, frm56 h0.1, fk310 h0.1, fl310 h0.1, vp_in_nI hj (N := 4) (by decide), nI_clamp (Nat.lt_trans hj (by decide : 4 < 2 ^ 31)), m3, gdr_some, gk_sI, gk_sL, gk_sR, gl_sI, gl_sL, gl_sR, gn_sI, gn_sL, gn_sR, gs_sI, gs_sL, gs_sR, gR_sI, gR_sL, gI_sL, gI_sR, gL_sI, gL_sR, bi_ite, bi_01, true_and, and_true]
        have key := hq _ (h0.mk3 e hj m2)
        have hfx : gFix (gsI M0 268 41 (nI o.1)) := by rw [gFix_sI]; exact h0.1
        exact pX7_mark_b76 hfx hj key
      · rw [if_neg fun q => c2 (el.mp q)]
        rw [if_neg c2] at hq
        exact hq M0 h0
end
theorem rMrk_ok {D : gD} (ok : okA D) {i b : Int32} : okA (rMrk D i b).2 := by
  unfold rMrk
  split
  · next g =>
    split
    · obtain ⟨h1, h2, h3, h4, h5⟩ := ok
      refine ⟨h1, h2, h3, fun j o hj ho => ?_, h5⟩
      have ho : (if j = cl i then some ((dO D).1, dd D) else dM D j) = some o := ho
      by_cases e : j = cl i
      · rw [if_pos e] at ho
        cases ho
        intro k m hk hm
        obtain ⟨q1, q2, q3, q4, q5, -⟩ := h1.2.1 k m hk hm
        exact ⟨q1, q2, q3, q4, q5⟩
      · rw [if_neg e] at ho
        exact h4 j o hj ho
    · split
      · exact ok
      · next o ho =>
        split
        · obtain ⟨h1, h2, h3, h4, h5⟩ := ok
          obtain ⟨j, hj, -, ej⟩ := i4 g
          rw [ej] at ho
          obtain ⟨o1, o2, o3, o4, o5⟩ := h1
          refine ⟨⟨o1, fun k m hk hm => ?_, o3, o4, o5⟩, h2, h3, h4, h5⟩
          have q := h4 j o hj ho k m hk hm
          have q2 := (o2 k m hk hm).2.2.2.2.2
          have e5 : dd (bakD D o) 5 k m = o.2 5 k m := if_pos ⟨by omega, by omega, hk, hm⟩
          have e6 : dd (bakD D o) 6 k m = o.2 6 k m := if_pos ⟨by omega, by omega, hk, hm⟩
          have e7 : dd (bakD D o) 7 k m = o.2 7 k m := if_pos ⟨by omega, by omega, hk, hm⟩
          have e8 : dd (bakD D o) 8 k m = o.2 8 k m := if_pos ⟨by omega, by omega, hk, hm⟩
          rw [e5, e6, e7, e8]
          exact ⟨q.1, q.2.1, q.2.2.1, q.2.2.2.1, q.2.2.2.2, q2⟩
        · exact ok
  · exact ok
