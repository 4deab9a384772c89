/-! HELP for the printed walks -/
def gdr (o : Option Nat) (K : Nat → Prop) : Prop := ∃ a, o = some a ∧ K a
theorem gdr_some {a : Nat} {K : Nat → Prop} : gdr (some a) K = K a := propext ⟨fun ⟨b, h, k⟩ => by cases h; exact k, fun k => ⟨a, rfl, k⟩⟩
theorem gT {c : Prop} [inst9 : Decidable c] {A B : Prop} (h : if c then A else B) (hc : c) : A := by rw [if_pos hc] at h; exact h
theorem gF {c : Prop} [inst9 : Decidable c] {A B : Prop} (h : if c then A else B) (hc : ¬ c) : B := by rw [if_neg hc] at h; exact h
def gEx (cls : String) (E : Nat → gM → Prop) : String → Nat → gM → Prop := fun c o M => c = cls ∧ E o M
theorem gBoolF {v : Int32} (h : v = 0 ∨ v = 1) : fits .boolean (.int v) = true := by rcases h with rfl | rfl <;> decide +kernel
theorem gK1 {b kf : Nat} (h : b ≤ kf) (hb : Nat.ble 1 b = true := by rfl) : 1 ≤ kf := Nat.le_trans (Nat.le_of_ble_eq_true hb) h
theorem gK2 {a b kf : Nat} (h : b ≤ kf) (hb : Nat.ble (a + 1) b = true := by rfl) : a + 1 ≤ kf := Nat.le_trans (Nat.le_of_ble_eq_true hb) h
section GJ
theorem vx_ofWF {l : Launch} {y : MethodName} {ws ws' : List Cond} {rm : Room} {Pc : Array Value → State → Prop} {Qc : Array Value → State → Outcome → State → Prop} {XC : String → Addr → State → State → Prop} {mc ms : Nat} {free : Addr → Prop} {cc : ByteArray} {maxL : Nat} {ret : Option FieldType}
    (hy : plainFor y = true) (hw : ws = Cond.code y cc maxL ret :: ws')
    (body : ∀ p e s m args below meth c s₁, BodyLoose p l y (headSpec ws rm) cc maxL ret e s m args below meth c s₁ → c.maxLocals = maxL → (∀ x ∈ c.exceptionTable.toList, False) → Pc args s →
      W p l e (headSpec ws rm).room s m args below meth c s.heap [] 0 0 (vx_MQ below Qc XC args s mc ms free) (entryFrame m args maxL)) : vx_Met l y ws rm Pc Qc XC mc ms free := by
  refine MetFree.of_bodySF (code := cc) (maxLocals := maxL) (ret := ret) hy ?_ ?_
  · intro args s m h hn
    obtain ⟨meth, c, h1, h2, h3, h4, h5, h6, -, -⟩ := Cond.code_spec hn (atoms_spec (ws := ws) h _ (by rw [hw]; exact List.mem_cons_self))
    exact ⟨meth, c, h1, h2, h3, h4, h5, h6⟩
  · intro p e s m args below meth c s₁ B hml hP _
    have hh0 : s₁.heap = s.heap := by rw [B.state]; rfl
    have ht : ∀ x ∈ c.exceptionTable.toList, False := by
      obtain ⟨meth9, c9, h1, h2, -, -, -, -, h7, -⟩ := Cond.code_spec B.named (atoms_spec (ws := ws) B.pre _ (by rw [hw]; exact List.mem_cons_self))
      cases Option.some.inj (h1.symm.trans B.method)
      cases Option.some.inj (h2.symm.trans (Stand.of_body B).code)
      intro x hx
      rw [Array.isEmpty_iff.mp h7] at hx
      cases hx
    obtain ⟨t, a1, o, b1, b2, b3⟩ := body p e s m args below meth c s₁ B hml ht hP s₁ hh0 (Stand.of_body B)
    exact ⟨t, o, a1, b1, b2, b3⟩
/-- a method's walk from its entry -/
theorem g_introJ {y : MethodName} {cc : ByteArray} {nL : Nat} {ret : Option FieldType} {k : Nat} {G : gG} {M : gM} {as : List Value} {Qv : Option Value → gM → Prop} {E : String → Nat → gM → Prop} {lv : List (Nat × Value)} (hy : plainFor y = true) (hn : Nat.ble (lg_sl as).length nL = true) (hlv : lv_args 0 as = lv)
    (body : ∀ w, gX y cc nL ret [] k G Qv E w → w M 0 lv []) : gMet y cc nL ret k G M as Qv E := by
  subst hlv
  intro l hl
  refine vx_ofWF (cc := cc) (maxL := nL) (ret := ret) hy rfl ?_
  intro p e s m args below meth c s₁ B hml hex hv
  obtain ⟨rfl, hK, hH⟩ := hv
  have hts := atoms_spec (ws := ws_ y cc nL ret) B.pre
  have hts : ∀ w ∈ lw_all, w.before as.toArray s = true := fun w h => hts w (List.mem_cons_of_mem _ h)
  have hl0 := lv_entry as (n := nL) (Nat.le_of_ble_eq_true hn)
  rw [lg_entry_eq]
  exact body _ ⟨M, p, l, e, s, m, as.toArray, below, meth, c, B.exec, B.bytes, hml, B.returns, B.notSynchronized, findClass_of_methodNamed B.named, (name_of_methodNamed B.named B.method).1, hts, hl, hK, hH, fun _ => hex, fun h => absurd rfl h, rfl⟩ s.heap [] _ 0 0 hH (fun _ h => by cases h) hl0
end GJ
section GHR
variable {y0 : MethodName} {cc : ByteArray} {nL : Nat} {ret : Option FieldType} {hh : List (Nat × Nat × Nat × Nat)} {kf : Nat} {G : gG} {Qv : Option Value → gM → Prop} {E : String → Nat → gM → Prop} {w : gM → Nat → List (Nat × Value) → List Value → Prop} {M : gM} {pc : Nat} {lv : List (Nat × Value)} {st : List Value}
theorem g_aaldS (hw : gX y0 cc nL ret hh kf G Qv E w) {c n b : Nat} {i : Int32} (j : Nat) (d : decode cc pc = .ok (.aaload, 1)) (hj : Nat.ble 4 j = true ∧ Nat.ble (j + 1) 9 = true) (hkd : gk M c = 40 + j) (hin : vp_in i (gl M c)) (hn : i.toNatClampNeg = n) (hb : gR M c n = some b) (kk : w M (pc + 1) lv (.ref (gA G b) :: st)) : w M pc lv (.int i :: .ref (gA G c) :: st) :=
  g_aald hw j d hj hkd hin hn (by rw [hb]; exact kk)
/-- a thrown object of a known class leaves the method -/
theorem g_athrow {cls : String} {E1 : Nat → gM → Prop} (hw : gX y0 cc nL ret [] kf G Qv (gEx cls E1) w) {c ci : Nat} {T : u_T} {N : Nat} (hci : gCl[ci]? = some (cls, T, N)) (d : decode cc pc = .ok (.athrow, 1)) (hkd : gk M c = ci + 1) (h : gEx cls E1 cls c M) : w M pc lv (.ref (gA G c) :: st) := by
  obtain ⟨M0, p, l, e, s, m, args, below, meth, c9, hx, hb, hml, hr, hlk, hown, hnm, hts, hst9, hK9, hH0, hex, hhx, rfl⟩ := hw
  intro H locs ls cells slots hH hz hlv
  obtain ⟨c16, cn, hcell⟩ := gH_cell hH hkd
  obtain ⟨cell, q1, q2, q3, q4⟩ := hcell.1 ci _ hkd hci
  exact vx_athrow hx hb d (gW_out (a := args) hH0 hlk (hex rfl) hH hz h q1 q3 (by rw [q2]; exact (hK9.1 ci _ hci).2.1))
def gExpr (k : Nat) : Prop := k = 9 ∨ k = 10 ∨ k = 11 ∨ k = 12
theorem g_aastE (hw : gX y0 cc nL ret hh kf G Qv E w) {c n o : Nat} {i : Int32} (d : decode cc pc = .ok (.aastore, 1)) (hkd : gk M c = 47) (hin : vp_in i (gl M c)) (hn : i.toNatClampNeg = n) (hko : gExpr (gk M o))
    (kk : w (gsR M c n (some o)) (pc + 1) lv st) : w M pc lv (.ref (gA G o) :: .int i :: .ref (gA G c) :: st) := by
  rcases hko with h | h | h | h
  · exact g_aast (ci := 8) hw 7 d ⟨rfl, rfl⟩ rfl hkd hin hn rfl h (Or.inr q1779) kk
  · exact g_aast (ci := 9) hw 7 d ⟨rfl, rfl⟩ rfl hkd hin hn rfl h (Or.inr q1780) kk
  · exact g_aast (ci := 10) hw 7 d ⟨rfl, rfl⟩ rfl hkd hin hn rfl h (Or.inr q1781) kk
  · exact g_aast (ci := 11) hw 7 d ⟨rfl, rfl⟩ rfl hkd hin hn rfl h (Or.inr q1782) kk
end GHR
