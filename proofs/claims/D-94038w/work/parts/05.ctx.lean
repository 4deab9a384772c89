/-! THE RUN's OWN TABLES, and the context of a method's walk: 'w M pc locals stack' says that the machine, come there with the memory M, comes to the method's good end. -/
def gNm (ty : FieldType) : String := match ty with
  | .object C => C
  | t => t.toString
def gRef (U : State) (cA : ClassId) (ty : FieldType) : Prop := ∃ (kA : Class) (comp : ClassId) (kc : Class), U.vm.classes[cA]? = some kA ∧ kA.kind = .array comp ty ∧ U.vm.findClass (gNm ty) = some comp ∧ U.vm.classes[comp]? = some kc
theorem gRef.moved {u U : State} (hvm : u.vm.Alike U.vm) {cA : ClassId} {ty : FieldType} (h : gRef u cA ty) : gRef U cA ty := by
  obtain ⟨kA, comp, kc, h1, h2, h3, h4⟩ := h
  obtain ⟨k', hk', he⟩ := hvm.2.2 _ _ h1
  obtain ⟨k2, hk2, -⟩ := hvm.2.2 _ _ h4
  exact ⟨k', comp, k2, hk', by rw [he]; exact h2, by rw [hvm.findClass]; exact h3, hk2⟩
/-- the String constants: texts, lengths, bytes -/
abbrev gStr : List String := ["()<=+-*;", "whole half wage floor gap bank month trade draw was ", "hire part shut opens ", "when ", "not ", "and or ", "bank wage most chosen silent shut bound hands number ", "take from to tenths "]
abbrev gSl : List Nat := [8, 52, 21, 5, 4, 7, 53, 20]
abbrev gSb : List (List Int32) := [[40, 41, 60, 61, 43, 45, 42, 59], [119, 104, 111, 108, 101, 32, 104, 97, 108, 102, 32, 119, 97, 103, 101, 32, 102, 108, 111, 111, 114, 32, 103, 97, 112, 32, 98, 97, 110, 107, 32, 109, 111, 110, 116, 104, 32, 116, 114, 97, 100, 101, 32, 100, 114, 97, 119, 32, 119, 97, 115, 32], [104, 105, 114, 101, 32, 112, 97, 114, 116, 32, 115, 104, 117, 116, 32, 111, 112, 101, 110, 115, 32], [119, 104, 101, 110, 32], [110, 111, 116, 32], [97, 110, 100, 32, 111, 114, 32], [98, 97, 110, 107, 32, 119, 97, 103, 101, 32, 109, 111, 115, 116, 32, 99, 104, 111, 115, 101, 110, 32, 115, 105, 108, 101, 110, 116, 32, 115, 104, 117, 116, 32, 98, 111, 117, 110, 100, 32, 104, 97, 110, 100, 115, 32, 110, 117, 109, 98, 101, 114, 32], [116, 97, 107, 101, 32, 102, 114, 111, 109, 32, 116, 111, 32, 116, 101, 110, 116, 104, 115, 32]]
theorem gAOA_moved {t : FieldType} {u U : State} (hvm : u.vm.Alike U.vm) (h : (Cond.arrayOver (.array t)).before #[] u = true) : (Cond.arrayOver (.array t)).before #[] U = true := by
  obtain ⟨comp, c0, k0, a1, -, -, -⟩ := Cond.arrayOver_specA h
  have h9 := h
  simp only [Cond.before, Cond.holds, Cond.value, beq_iff_eq] at h9
  rw [a1] at h9
  simp only [Option.bind_some, Option.bind_eq_some_iff, Option.map_eq_some_iff] at h9
  obtain ⟨c, hi, k, hk, hb⟩ := h9
  obtain ⟨k', hk', he⟩ := hvm.2.2 _ _ hk
  have hi2 : (U.vm.classes.findIdx? fun (x : Class) => match x.kind with | .array component _ => component == comp | _ => false) = some c := by
    have e1 := va_idx_bare U.vm comp
    have e2 := va_idx_bare u.vm comp
    first | rw [hvm.bare_eq] at e2 | rw [← hvm.bare_eq] at e2
    exact e1.symm.trans (e2.trans hi)
  have f1 : U.vm.findClass (FieldType.array t).toString = some comp := by rw [hvm.findClass]; exact a1
  have hkk : k'.kind = k.kind := by rw [he]
  cases hkd : k.kind with
  | array cc ty =>
    rw [hkd] at hb
    simp only [Bool.and_eq_true, decide_eq_true_eq] at hb
    have f2 : U.vm.findClass ("[" ++ (FieldType.array t).toString) = some c := by rw [hvm.findClass]; exact hb.2
    unfold Cond.before Cond.holds
    simp only [Cond.value]
    rw [f1, Option.bind_some]
    refine (congrArg (fun o : Option Nat => (o.bind (fun c => (U.vm.classes[c]?).map fun (k : Class) => match k.kind with | .array _ ty => decide (ty = FieldType.array t) && decide (U.vm.findClass ("[" ++ (FieldType.array t).toString) = some c) | _ => false) == some true)) hi2).trans ?_
    simp [hk', hkk, hkd, hb.1, f2]
  | _ => rw [hkd] at hb; cases hb
/-- what the tables say, all through the run -/
def gK (G : gG) (U : State) : Prop :=
  (∀ (ci : Nat) (r : vw_C), gCl[ci]? = some r → u_Kn U r.1 r.2.1 r.2.2 (G.2.2.2.1 ci) (G.2.2.2.2.1 ci)) ∧
  (∀ j : Nat, j < 9 → ArrOfT U (G.2.2.2.2.2.1 j) (gEt j) ∧ U.vm.findClass ("[" ++ (gEt j).toString) = some (G.2.2.2.2.2.1 j) ∧ (4 ≤ j → gRef U (G.2.2.2.2.2.1 j) (gEt j))) ∧
  (∀ a i b n d h, Cond.fieldLinkNest a i b n d h ∈ lw_tbl → va_Nw (.fieldLinkNest a i b n d h) U) ∧
  (∀ a i x h, Cond.methodLinkNest a i x h ∈ lw_tbl → va_Nw (.methodLinkNest a i x h) U) ∧
  (∀ a b, Cond.castable a b ∈ lw_tbl → va_Nw (.castable a b) U) ∧
  (∀ x, Cond.declares x ∈ lw_tbl → va_Nw (.declares x) U) ∧
  (∀ C, Cond.arrayOver (.object C) ∈ lw_tbl → va_AO C U) ∧
  (∀ (i : Nat) own k tx, Cond.stringRef own k tx ∈ lw_tbl → gStr[i]? = some tx → vk_R own k tx (G.2.2.2.2.2.2 i) U) ∧
  vk_S 8 gSl gSb (fun i => G.2.2.2.2.2.2 i) (fun i => G.2.2.2.2.2.2 (8 + i)) (fun q => G.1 ≤ q) U G.2.2.1 ∧
  va_Z "java/lang/String" "COMPACT_STRINGS" "Z" (.int 1) (fun q => G.1 ≤ q) U G.2.2.1 ∧
  vx_Zq "java/lang/Throwable" "UNASSIGNED_STACK" "[Ljava/lang/StackTraceElement;" (fun q => G.1 ≤ q) U G.2.2.1 ∧
  vx_Zq "java/lang/Throwable" "SUPPRESSED_SENTINEL" "Ljava/util/List;" (fun q => G.1 ≤ q) U G.2.2.1 ∧
  va_Zq "jdk/internal/util/Preconditions" "SIOOBE_FORMATTER" "Ljava/util/function/BiFunction;" (fun q => G.1 ≤ q) U G.2.2.1 ∧
  (∀ ty, Cond.arrayOver (.array ty) ∈ lw_tbl → (Cond.arrayOver (.array ty)).before #[] U = true) ∧ G.2.2.1.size = G.1 ∧
  ∃ k9 comp9, U.vm.classes[G.2.2.2.2.2.1 9]? = some k9 ∧ k9.kind = .array comp9 .int
theorem gK.warm {G : gG} {s U : State} (hW : s.WarmedH U.vm) (h : gK G s) : gK G U := by
  obtain ⟨h1, h2, h3, h4, h5, h6, h7, h8, h9, h10, h11, h12, h13, h14, h15, k9, comp9, h16, h17⟩ := h
  have hv : s.vm.Alike U.vm := hW.alike
  obtain ⟨k10, h18, h19⟩ := hv.2.2 _ _ h16
  exact ⟨fun ci r hr => u_Kn_moved hv (h1 ci r hr), fun j hj => ⟨arrOfT_moved hv (h2 j hj).1, by rw [hv.findClass]; exact (h2 j hj).2.1, fun h => ((h2 j hj).2.2 h).moved hv⟩,
    fun a i b n d h hm => va_Nw.warmF hW (h3 a i b n d h hm), fun a i x h hm => va_Nw.warmM hW (h4 a i x h hm), fun a b hm => va_Nw.warmC hW (h5 a b hm), fun x hm => va_Nw.warmD hW (h6 x hm), fun C hm => (h7 C hm).moved hv,
    fun i own k tx hm ht => (h8 i own k tx hm ht).warm hW, h9.moved hv, h10.moved hv, h11.moved hv, h12.moved hv, h13.moved hv, fun ty hm => gAOA_moved hv (h14 ty hm), h15, k10, comp9, h18, by rw [h19]; exact h17⟩
theorem gK.vm {G : gG} {s U : State} (hv : U.vm = s.vm) (h : gK G s) : gK G U := gK.warm (by rw [hv]; exact State.WarmedH.refl s) h
/-- how a method ends: by its answer and the memory; or thrown: the class, the cell -/
def gQ (G : gG) (Qv : Option Value → gM → Prop) : Array Value → State → Outcome → State → Prop := fun _ _ oc t => ∃ (v : Option Value) (M : gM), oc = .returned v ∧ Qv v M ∧ gH G M t.heap
def gXC (G : gG) (E : String → Nat → gM → Prop) : String → Addr → State → State → Prop := fun cls q _ t => ∃ (c : Nat) (M : gM), q = gA G c ∧ E cls c M ∧ gH G M t.heap
abbrev gRm (k : Nat) (M : gM) : Room := { frames := k, cells := gLC - gn M, slots := gLS - gs M, locals := 64 * k }
def gFree (G : gG) : Addr → Prop := fun q => G.1 ≤ q
def gMetL (ws : List Cond) (y : MethodName) (k : Nat) (G : gG) (M : gM) (as : List Value) (Qv : Option Value → gM → Prop) (E : String → Nat → gM → Prop) : Prop :=
  ∀ l : Launch, l.stackTraces = false → vx_Met l y ws (gRm k M) (va_Pc as (fun U => gK G U ∧ gH G M U.heap)) (gQ G Qv) (gXC G E) (gLC - gn M) (gLS - gs M) (gFree G)
abbrev gMet (y : MethodName) (cc : ByteArray) (nL : Nat) (ret : Option FieldType) (k : Nat) (G : gG) (M : gM) (as : List Value) (Qv : Option Value → gM → Prop) (E : String → Nat → gM → Prop) : Prop := gMetL (ws_ y cc nL ret) y k G M as Qv E
abbrev gMetW (y : MethodName) (cc : ByteArray) (nL : Nat) (ret : Option FieldType) (hh : List (Nat × Nat × Nat × Nat)) (k : Nat) (G : gG) (M : gM) (as : List Value) (Qv : Option Value → gM → Prop) (E : String → Nat → gM → Prop) : Prop := gMetL (wsW_ y cc nL ret hh) y k G M as Qv E
-- answers
def gQi (Q : Int32 → gM → Prop) : Option Value → gM → Prop := fun v M => ∃ r, v = some (.int r) ∧ Q r M
def gQl (Q : Int64 → gM → Prop) : Option Value → gM → Prop := fun v M => ∃ r, v = some (.long r) ∧ Q r M
def gQv (Q : gM → Prop) : Option Value → gM → Prop := fun v M => v = none ∧ Q M
def gQr (G : gG) (Q : Nat → gM → Prop) : Option Value → gM → Prop := fun v M => ∃ r, v = some (.ref (gA G r)) ∧ Q r M
def gE0 : String → Nat → gM → Prop := fun _ _ _ => False
def gW (p : Program) (l : Launch) (e : Env) (R : Room) (s : State) (m : MethodId) (args : Array Value) (below : List Frame) (meth : Method) (c : Code) (Z : State → Prop) (G : gG) (nL : Nat) (M : gM) (pc : Nat) (lv : List (Nat × Value)) (st : List Value) : Prop :=
  ∀ (H : Heap) (locs : List Loc) (ls : Array Slot) (cells slots : Nat), gH G M H → (∀ z ∈ locs, G.1 ≤ z.base) → lv_has ls nL lv → W p l e R s m args below meth c H locs cells slots Z (F0 m pc ls st)
def gX (y : MethodName) (cc : ByteArray) (nL : Nat) (ret : Option FieldType) (hh : List (Nat × Nat × Nat × Nat)) (k : Nat) (G : gG) (Qv : Option Value → gM → Prop) (E : String → Nat → gM → Prop) (w : gM → Nat → List (Nat × Value) → List Value → Prop) : Prop :=
  ∃ (M0 : gM) (p : Program) (l : Launch) (e : Env) (s : State) (m : MethodId) (args : Array Value) (below : List Frame) (meth : Method) (c : Code),
    p.tables.exec = Jvm.exec ∧ c.code = cc ∧ c.maxLocals = nL ∧ meth.sig.returnType = ret ∧ meth.locks = false ∧ s.vm.findClass y.cls = some m.cls ∧ meth.name = y.name ∧ (∀ w ∈ lw_all, w.before args s = true) ∧ l.stackTraces = false ∧ gK G s ∧ gH G M0 s.heap ∧
    (hh = [] → ∀ x ∈ c.exceptionTable.toList, False) ∧ (hh ≠ [] → (Cond.codeWith y cc nL ret hh).before args s = true ∧ s.methodNamed? y = some m ∧ s.vm.method? m = some meth ∧ meth.code = some c) ∧
    w = gW p l e (gRm k M0) s m args below meth c (vx_MQ below (gQ G Qv) (gXC G E) args s (gLC - gn M0) (gLS - gs M0) (gFree G)) G nL
/-- what the counters say is what the memory says -/
theorem W_tight {p : Program} {l : Launch} {e : Env} {R : Room} {s : State} {m : MethodId} {args : Array Value} {below : List Frame} {meth : Method} {c : Code} {H : Heap} {locs : List Loc} {cells slots : Nat} {Z : State → Prop} {g : JFrame} {G : gG} {M0 M : gM} (h0 : gH G M0 s.heap) (h : gH G M H)
    (k : gn M0 ≤ gn M → gs M0 ≤ gs M → W p l e R s m args below meth c H locs (gn M - gn M0) (gs M - gs M0) Z g) : W p l e R s m args below meth c H locs cells slots Z g := by
  intro T hT X
  have hs := X.same
  obtain ⟨z1, z2, z3, z4, z5, z6⟩ := id hs
  have b1 := X.book
  have b0 : s.slotsTrue = true := by
    have h := X.room
    simp only [State.hasRoom, Bool.and_eq_true] at h
    exact h.2
  have t1 : T.slotsUsed = gtot H := by
    rw [← hT]
    simpa [State.slotsTrue, gtot] using b1
  have t0 : s.slotsUsed = gtot s.heap := by simpa [State.slotsTrue, gtot] using b0
  have z2' : s.heap.size ≤ H.size := by rw [← hT]; exact z2
  have z4' : T.slotsUsed = s.slotsUsed + (((T.setVm s.vm).heap.toList.drop s.heap.size).map (·.slots.size)).sum := z4
  obtain ⟨e1, e2, -, -, e5, e6, e7⟩ := h
  obtain ⟨f1, f2, -, -, f5, f6, f7⟩ := h0
  rw [t1, t0, e2, f2] at z4'
  have q1 : gn M0 ≤ gn M := by omega
  have q2 : gs M0 ≤ gs M := by omega
  refine k q1 q2 T hT { X with same := ⟨z1, z2, ?_, z4, ?_, z6⟩ }
  · show T.heap.size ≤ _
    rw [hT]
    omega
  · omega
theorem gPc_blind {G : gG} {M : gM} {as : List Value} : FrameBlind (va_Pc as (fun U => gK G U ∧ gH G M U.heap)) := fun _ _ _ _ h => ⟨h.1, gK.vm (by rfl) h.2.1, h.2.2⟩
/-- a method's walk from its entry -/
theorem g_intro {y : MethodName} {cc : ByteArray} {nL : Nat} {ret : Option FieldType} {k : Nat} {G : gG} {M : gM} {as : List Value} {Qv : Option Value → gM → Prop} {E : String → Nat → gM → Prop} {lv : List (Nat × Value)} (hy : plainName y.cls = true) (hn : Nat.ble (lg_sl as).length nL = true) (hlv : lv_args 0 as = lv)
    (body : ∀ w, gX y cc nL ret [] k G Qv E w → w M 0 lv []) : gMet y cc nL ret k G M as Qv E := by
  subst hlv
  intro l hl
  refine vx_ofW (cc := cc) (maxL := nL) (ret := ret) hy rfl ?_
  intro p e s m args below meth c s₁ B hml hex hv
  obtain ⟨rfl, hK, hH⟩ := hv
  have hts := atoms_spec (ws := ws_ y cc nL ret) B.pre
  have hts : ∀ w ∈ lw_all, w.before as.toArray s = true := fun w h => hts w (List.mem_cons_of_mem _ h)
  have hl0 := lv_entry as (n := nL) (Nat.le_of_ble_eq_true hn)
  rw [lg_entry_eq]
  exact body _ ⟨M, p, l, e, s, m, as.toArray, below, meth, c, B.exec, B.bytes, hml, B.returns, B.notSynchronized, findClass_of_methodNamed B.named, (name_of_methodNamed B.named B.method).1, hts, hl, hK, hH, fun _ => hex, fun h => absurd rfl h, rfl⟩ s.heap [] _ 0 0 hH (fun _ h => by cases h) hl0
theorem g_introW {y : MethodName} {cc : ByteArray} {nL : Nat} {ret : Option FieldType} {hh : List (Nat × Nat × Nat × Nat)} {k : Nat} {G : gG} {M : gM} {as : List Value} {Qv : Option Value → gM → Prop} {E : String → Nat → gM → Prop} {lv : List (Nat × Value)} (hy : plainName y.cls = true) (hn : Nat.ble (lg_sl as).length nL = true) (hlv : lv_args 0 as = lv) (hne : hh ≠ [])
    (body : ∀ w, gX y cc nL ret hh k G Qv E w → w M 0 lv []) : gMetW y cc nL ret hh k G M as Qv E := by
  subst hlv
  intro l hl
  refine vx_ofWH (cc := cc) (maxL := nL) (ret := ret) (hh := hh) hy rfl ?_
  intro p e s m args below meth c s₁ B hml hv
  obtain ⟨rfl, hK, hH⟩ := hv
  have hts9 := atoms_spec (ws := wsW_ y cc nL ret hh) B.pre
  have hts : ∀ w ∈ lw_all, w.before as.toArray s = true := fun w h => hts9 w (List.mem_cons_of_mem _ h)
  have hl0 := lv_entry as (n := nL) (Nat.le_of_ble_eq_true hn)
  rw [lg_entry_eq]
  exact body _ ⟨M, p, l, e, s, m, as.toArray, below, meth, c, B.exec, B.bytes, hml, B.returns, B.notSynchronized, findClass_of_methodNamed B.named, (name_of_methodNamed B.named B.method).1, hts, hl, hK, hH, fun h => absurd h hne, fun _ => ⟨hts9 _ List.mem_cons_self, B.named, B.method, (Stand.of_body B).code⟩, rfl⟩ s.heap [] _ 0 0 hH (fun _ h => by cases h) hl0
