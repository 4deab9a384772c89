/-! AN ARRAY OF int ARRAYS, made at once -/
def gfill (M : gM) (n k : Nat) : Nat → gM
  | 0 => gnew M 48 n n
  | i + 1 => gsR (gnew (gfill M n k i) 40 k k) (gn M) i (some (gn M + 1 + i))
def gmulti (M : gM) (n k : Nat) : gM := gfill M n k n
theorem gfill_n (M : gM) (n k : Nat) : ∀ i, gn (gfill M n k i) = gn M + 1 + i ∧ gs (gfill M n k i) = gs M + n + i * k ∧ gk (gfill M n k i) (gn M) = 48 ∧ gl (gfill M n k i) (gn M) = n
  | 0 => ⟨rfl, by show gs M + n = _; omega, by show gk (gnew M 48 n n) (gn M) = 48; rw [gk_new, if_pos rfl], by show gl (gnew M 48 n n) (gn M) = n; rw [gl_new, if_pos rfl]⟩
  | i + 1 => by
    obtain ⟨a, b, c, d⟩ := gfill_n M n k i
    refine ⟨?_, ?_, ?_, ?_⟩
    · show gn (gfill M n k i) + 1 = _; omega
    · show gs (gfill M n k i) + k = _; rw [b, Nat.succ_mul]; omega
    · show gk (gnew (gfill M n k i) 40 k k) (gn M) = 48
      rw [gk_new, if_neg (by omega), c]
    · show gl (gnew (gfill M n k i) 40 k k) (gn M) = n
      rw [gl_new, if_neg (by omega), d]
theorem gH_fill {G : gG} {M : gM} {T : State} {n k : Nat} {dv : Value} (hH : gH G M T.heap) (hdv : dv = .int 0) (hcomp : True) (h1 : gn M + n < gLC) (h2 : gs M + (n + n * k) ≤ gLS) : ∀ i, i ≤ n → gH G (gfill M n k i) (Multi.fill T (G.2.2.2.2.2.1 8) (G.2.2.2.2.2.1 0) n k dv i).heap
  | 0, _ => by
    show gH G (gnew M (40 + 8) n n) (T.heap.push { cls := G.2.2.2.2.2.1 8, slots := Array.replicate n .null, vm := .none })
    exact gH_arr (j := 8) (x := .null) hH (by decide) (fun q => gDef G (.array .int) ⟨fun h => (by cases h), fun h => (by cases h)⟩ q) (by omega) (by omega)
  | i + 1, hi => by
    have ih := gH_fill (n := n) (k := k) (dv := dv) hH hdv hcomp h1 h2 i (by omega)
    obtain ⟨a, b, c, d⟩ := gfill_n M n k i
    have hik : (i + 1) * k ≤ n * k := Nat.mul_le_mul_right k hi
    have hsk : (i + 1) * k = i * k + k := Nat.succ_mul i k
    have hp : gH G (gnew (gfill M n k i) (40 + 0) k k) ((Multi.fill T (G.2.2.2.2.2.1 8) (G.2.2.2.2.2.1 0) n k dv i).heap.push { cls := G.2.2.2.2.2.1 0, slots := Array.replicate k dv, vm := .none }) :=
      gH_arr (j := 0) (x := dv) ih (by decide) (fun q => by rw [hdv]; exact gDef G .int ⟨fun h => (by cases h), fun h => (by cases h)⟩ q) (by omega) (by omega)
    have ha := gH_addr hH
    obtain ⟨f1, f2, -, -⟩ := Multi.fill_facts T (G.2.2.2.2.2.1 8) (G.2.2.2.2.2.1 0) n k dv i
    have hk9 : gk (gnew (gfill M n k i) (40 + 0) k k) (gn M) = 40 + 8 := by rw [gk_new, if_neg (by omega), c]
    have hl9 : gl (gnew (gfill M n k i) (40 + 0) k k) (gn M) = n := by rw [gl_new, if_neg (by omega), d]
    obtain ⟨-, -, hcell⟩ := gH_cell (c := gn M) hp (kd := 47) hk9
    have hc8 := hcell.2 8 hk9
    have hold : ((Multi.fill T (G.2.2.2.2.2.1 8) (G.2.2.2.2.2.1 0) n k dv i).heap.push { cls := G.2.2.2.2.2.1 0, slots := Array.replicate k dv, vm := .none })[gA G (gn M)]? = some (Multi.outerC (G.2.2.2.2.2.1 8) n T.heap.size i) := by
      rw [ha, Array.getElem?_push, if_neg (by omega)]
      exact f2
    have hcc := Option.some.inj (hold.symm.trans hc8)
    have hn9 : gA G (gn M + 1 + i) = T.heap.size + 1 + i := by
      have e5 := hH.2.2.2.2.1
      have := gBB
      rw [gA_hi (by omega) (by omega)]
      rw [gA_hi e5 (by omega)] at ha
      omega
    refine gH_putA (M := gnew (gfill M n k i) (40 + 0) k k) (c := gn M) (j := 8) (n := i) (v := .ref (T.heap.size + 1 + i)) hp hk9 (gOne_R _ _ _ _) ?_ ?_ ?_ ?_
    · rw [gV_ref (by decide) (by decide)]
      have e9 : gR (gfill M n k (i + 1)) (gn M) i = some (gn M + 1 + i) := (gR_sR (M := gnew (gfill M n k i) 40 k k)).trans (if_pos ⟨rfl, rfl⟩)
      rw [e9]
      show Value.ref (gA G (gn M + 1 + i)) = _
      rw [hn9]
    · rw [← hcc]
      show (((Multi.fill T _ _ n k dv i).heap.push (Multi.innerC _ k dv)).setIfInBounds T.heap.size (Multi.outerC _ n T.heap.size (i + 1)))[gA G (gn M)]? = _
      rw [ha]
      simp [Array.getElem?_setIfInBounds, f1, Multi.outerC]
      omega
    · show (((Multi.fill T _ _ n k dv i).heap.push (Multi.innerC _ k dv)).setIfInBounds T.heap.size (Multi.outerC _ n T.heap.size (i + 1))).size = _
      simp
    · intro q hq
      rw [ha] at hq
      show (((Multi.fill T _ _ n k dv i).heap.push (Multi.innerC _ k dv)).setIfInBounds T.heap.size (Multi.outerC _ n T.heap.size (i + 1)))[q]? = _
      simp [Array.getElem?_setIfInBounds, Ne.symm hq, Multi.innerC]
theorem g_multi {y0 : MethodName} {cc : ByteArray} {nL : Nat} {ret : Option FieldType} {hh : List (Nat × Nat × Nat × Nat)} {kf : Nat} {G : gG} {Qv : Option Value → gM → Prop} {E : String → Nat → gM → Prop} {w : gM → Nat → List (Nat × Value) → List Value → Prop} {M : gM} {pc : Nat} {lv : List (Nat × Value)} {st : List Value} (hw : gX y0 cc nL ret hh kf G Qv E w) {a b : Int32} {n k idx : Nat} (d : decode cc pc = .ok (.multianewarray idx 2, 4)) (q1 : Cond.classLink y0.cls idx "[[I" ∈ lw_all) (hq : Cond.arrayOver (.array .int) ∈ lw_tbl) (hqc : Cond.arrayClass .int ∈ lw_all) (ha0 : ¬ a < 0) (hb0 : ¬ b < 0) (hn : a.toNatClampNeg = n) (hk : b.toNatClampNeg = k) (hn4 : n * 4 ≤ 536870912) (hk4 : k * 4 ≤ 536870912)
    (h1 : gn M + n < gLC) (h2 : gs M + (n + n * k) ≤ gLS) (kk : w (gmulti M n k) (pc + 4) lv (.ref (gA G (gn M)) :: st)) : w M pc lv (.int b :: .int a :: st) := by
  subst hn
  subst hk
  obtain ⟨M0, p, l, e, s, m, args, below, meth, c9, hx, hb, hml, hr, hlk, hown, hnm, hts, hst9, hK9, hH0, hex, hhx, rfl⟩ := hw
  intro H locs ls cells slots hH hz hlv
  refine W_tight hH0 hH fun g1 g2 => ?_
  have ha := gH_addr hH
  intro T hT X
  obtain ⟨vm₁, cA, comp, hW1, hfA, hfC, hO, hI, X1, step⟩ := X.multianewarray2F hx (own := y0.cls) (index := idx) (ty := .int) hown (hts _ q1) (hK9.2.2.2.2.2.2.2.2.2.2.2.2.2.1 _ hq) (hts _ hqc) (g := F0 m pc ls (.int b :: .int a :: st)) rfl (by rw [hb]; exact d) (n := a) (k := b) (rest := st) rfl ha0 hb0 hn4 hk4 (by omega) rfl rfl (by show gn M - gn M0 + (1 + a.toNatClampNeg) ≤ gLC - gn M0; omega) (by show gs M - gs M0 + (a.toNatClampNeg + a.toNatClampNeg * b.toNatClampNeg) ≤ gLS - gs M0; omega)
  cases Option.some.inj (hfA.symm.trans (hK9.2.1 8 (by decide)).2.1)
  cases Option.some.inj (hfC.symm.trans (hK9.2.1 0 (by decide)).2.1)
  have hH1 := gH_fill (T := T.setVm vm₁) (n := a.toNatClampNeg) (k := b.toNatClampNeg) (dv := defaultValue .int) (by rw [← hT] at hH; exact hH) rfl trivial h1 h2 a.toNatClampNeg (Nat.le_refl _)
  obtain ⟨t, a1, b1⟩ := kk _ locs ls _ _ hH1 hz hlv _ rfl X1
  refine ⟨t, step t ?_, b1⟩
  have e9 : T.heap.size = gA G (gn M) := by rw [ha, hT]
  rw [e9]
  exact a1
theorem g_ifnullM {y0 : MethodName} {cc : ByteArray} {nL : Nat} {ret : Option FieldType} {hh : List (Nat × Nat × Nat × Nat)} {kf : Nat} {G : gG} {Qv : Option Value → gM → Prop} {E : String → Nat → gM → Prop} {w : gM → Nat → List (Nat × Value) → List Value → Prop} {M : gM} {pc : Nat} {lv : List (Nat × Value)} {st : List Value} (hw : gX y0 cc nL ret hh kf G Qv E w) {x : Option Nat} {off : Int} {tgt : Nat} (d : decode cc pc = .ok (.ifnull off, 3)) (ht : (pc : Int) + off = (tgt : Int)) (kt : x = none → w M tgt lv st) (kf9 : ¬ x = none → w M (pc + 3) lv st) : w M pc lv (va_rf (x.map (gA G)) :: st) :=
  g_ifnull hw d ht (fun h => kt (Option.map_eq_none_iff.mp h)) (fun h => kf9 (fun e => h (Option.map_eq_none_iff.mpr e)))
theorem g_ifnonnullM {y0 : MethodName} {cc : ByteArray} {nL : Nat} {ret : Option FieldType} {hh : List (Nat × Nat × Nat × Nat)} {kf : Nat} {G : gG} {Qv : Option Value → gM → Prop} {E : String → Nat → gM → Prop} {w : gM → Nat → List (Nat × Value) → List Value → Prop} {M : gM} {pc : Nat} {lv : List (Nat × Value)} {st : List Value} (hw : gX y0 cc nL ret hh kf G Qv E w) {x : Option Nat} {off : Int} {tgt : Nat} (d : decode cc pc = .ok (.ifnonnull off, 3)) (ht : (pc : Int) + off = (tgt : Int)) (kt : ¬ x = none → w M tgt lv st) (kf9 : x = none → w M (pc + 3) lv st) : w M pc lv (va_rf (x.map (gA G)) :: st) :=
  g_ifnonnull hw d ht (fun h => kt (fun e => h (Option.map_eq_none_iff.mpr e))) (fun h => kf9 (Option.map_eq_none_iff.mp h))
