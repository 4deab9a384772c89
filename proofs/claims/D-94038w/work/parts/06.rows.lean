/-! PURE ROWS over the walk's own predicate w: each by the kit's row (printed by tools/rows.py) -/
section GRW
variable {y0 : MethodName} {cc : ByteArray} {nL : Nat} {ret : Option FieldType} {hh : List (Nat × Nat × Nat × Nat)} {kf : Nat} {G : gG} {Qv : Option Value → gM → Prop} {E : String → Nat → gM → Prop} {w : gM → Nat → List (Nat × Value) → List Value → Prop} {M : gM} {pc : Nat} {lv : List (Nat × Value)} {st : List Value}
theorem g_iadd (hw : gX y0 cc nL ret hh kf G Qv E w) {a b : Int32} (d : decode cc pc = .ok (.iadd, 1))  (kk : w M (pc + 1) lv (.int (a + b) :: st)) : w M pc lv (.int b :: .int a :: st) := by
  obtain ⟨M0, p, l, e, s, m, args, below, meth, c, hx, hb, hml, hr, hlk, hown, hnm, hts, hst9, hK9, hH0, hex, hhx, rfl⟩ := hw
  intro H locs ls cells slots hH hz hlv
  exact lv_iadd hx hb d (kk H locs ls cells slots hH hz hlv)
theorem g_isub (hw : gX y0 cc nL ret hh kf G Qv E w) {a b : Int32} (d : decode cc pc = .ok (.isub, 1))  (kk : w M (pc + 1) lv (.int (a - b) :: st)) : w M pc lv (.int b :: .int a :: st) := by
  obtain ⟨M0, p, l, e, s, m, args, below, meth, c, hx, hb, hml, hr, hlk, hown, hnm, hts, hst9, hK9, hH0, hex, hhx, rfl⟩ := hw
  intro H locs ls cells slots hH hz hlv
  exact lv_isub hx hb d (kk H locs ls cells slots hH hz hlv)
theorem g_imul (hw : gX y0 cc nL ret hh kf G Qv E w) {a b : Int32} (d : decode cc pc = .ok (.imul, 1))  (kk : w M (pc + 1) lv (.int (a * b) :: st)) : w M pc lv (.int b :: .int a :: st) := by
  obtain ⟨M0, p, l, e, s, m, args, below, meth, c, hx, hb, hml, hr, hlk, hown, hnm, hts, hst9, hK9, hH0, hex, hhx, rfl⟩ := hw
  intro H locs ls cells slots hH hz hlv
  exact lv_imul hx hb d (kk H locs ls cells slots hH hz hlv)
theorem g_iand (hw : gX y0 cc nL ret hh kf G Qv E w) {a b : Int32} (d : decode cc pc = .ok (.iand, 1))  (kk : w M (pc + 1) lv (.int (a &&& b) :: st)) : w M pc lv (.int b :: .int a :: st) := by
  obtain ⟨M0, p, l, e, s, m, args, below, meth, c, hx, hb, hml, hr, hlk, hown, hnm, hts, hst9, hK9, hH0, hex, hhx, rfl⟩ := hw
  intro H locs ls cells slots hH hz hlv
  exact lv_iand hx hb d (kk H locs ls cells slots hH hz hlv)
theorem g_ior (hw : gX y0 cc nL ret hh kf G Qv E w) {a b : Int32} (d : decode cc pc = .ok (.ior, 1))  (kk : w M (pc + 1) lv (.int (a ||| b) :: st)) : w M pc lv (.int b :: .int a :: st) := by
  obtain ⟨M0, p, l, e, s, m, args, below, meth, c, hx, hb, hml, hr, hlk, hown, hnm, hts, hst9, hK9, hH0, hex, hhx, rfl⟩ := hw
  intro H locs ls cells slots hH hz hlv
  exact lv_ior hx hb d (kk H locs ls cells slots hH hz hlv)
theorem g_ishl (hw : gX y0 cc nL ret hh kf G Qv E w) {a b : Int32} (d : decode cc pc = .ok (.ishl, 1))  (kk : w M (pc + 1) lv (.int (a <<< (b &&& 31)) :: st)) : w M pc lv (.int b :: .int a :: st) := by
  obtain ⟨M0, p, l, e, s, m, args, below, meth, c, hx, hb, hml, hr, hlk, hown, hnm, hts, hst9, hK9, hH0, hex, hhx, rfl⟩ := hw
  intro H locs ls cells slots hH hz hlv
  exact lv_ishl hx hb d (kk H locs ls cells slots hH hz hlv)
theorem g_ishr (hw : gX y0 cc nL ret hh kf G Qv E w) {a b : Int32} (d : decode cc pc = .ok (.ishr, 1))  (kk : w M (pc + 1) lv (.int (a >>> (b &&& 31)) :: st)) : w M pc lv (.int b :: .int a :: st) := by
  obtain ⟨M0, p, l, e, s, m, args, below, meth, c, hx, hb, hml, hr, hlk, hown, hnm, hts, hst9, hK9, hH0, hex, hhx, rfl⟩ := hw
  intro H locs ls cells slots hH hz hlv
  exact lv_ishr hx hb d (kk H locs ls cells slots hH hz hlv)
theorem g_iushr (hw : gX y0 cc nL ret hh kf G Qv E w) {a b : Int32} (d : decode cc pc = .ok (.iushr, 1))  (kk : w M (pc + 1) lv (.int (a.toUInt32 >>> (b.toUInt32 &&& Int32.toUInt32 31)).toInt32 :: st)) : w M pc lv (.int b :: .int a :: st) := by
  obtain ⟨M0, p, l, e, s, m, args, below, meth, c, hx, hb, hml, hr, hlk, hown, hnm, hts, hst9, hK9, hH0, hex, hhx, rfl⟩ := hw
  intro H locs ls cells slots hH hz hlv
  exact lv_iushr hx hb d rfl (kk H locs ls cells slots hH hz hlv)
theorem g_ineg (hw : gX y0 cc nL ret hh kf G Qv E w) {a : Int32} (d : decode cc pc = .ok (.ineg, 1))  (kk : w M (pc + 1) lv (.int (-a) :: st)) : w M pc lv (.int a :: st) := by
  obtain ⟨M0, p, l, e, s, m, args, below, meth, c, hx, hb, hml, hr, hlk, hown, hnm, hts, hst9, hK9, hH0, hex, hhx, rfl⟩ := hw
  intro H locs ls cells slots hH hz hlv
  exact lv_ineg hx hb d (kk H locs ls cells slots hH hz hlv)
theorem g_idiv (hw : gX y0 cc nL ret hh kf G Qv E w) {a b : Int32} (d : decode cc pc = .ok (.idiv, 1)) (hne : ¬ b = 0) (kk : w M (pc + 1) lv (.int (a / b) :: st)) : w M pc lv (.int b :: .int a :: st) := by
  obtain ⟨M0, p, l, e, s, m, args, below, meth, c, hx, hb, hml, hr, hlk, hown, hnm, hts, hst9, hK9, hH0, hex, hhx, rfl⟩ := hw
  intro H locs ls cells slots hH hz hlv
  exact lv_idiv hx hb d hne (kk H locs ls cells slots hH hz hlv)
theorem g_irem (hw : gX y0 cc nL ret hh kf G Qv E w) {a b : Int32} (d : decode cc pc = .ok (.irem, 1)) (hne : ¬ b = 0) (kk : w M (pc + 1) lv (.int (a - a / b * b) :: st)) : w M pc lv (.int b :: .int a :: st) := by
  obtain ⟨M0, p, l, e, s, m, args, below, meth, c, hx, hb, hml, hr, hlk, hown, hnm, hts, hst9, hK9, hH0, hex, hhx, rfl⟩ := hw
  intro H locs ls cells slots hH hz hlv
  exact lv_irem hx hb d hne (kk H locs ls cells slots hH hz hlv)
theorem g_ladd (hw : gX y0 cc nL ret hh kf G Qv E w) {a b : Int64} (d : decode cc pc = .ok (.ladd, 1))  (kk : w M (pc + 1) lv (.long (a + b) :: st)) : w M pc lv (.long b :: .long a :: st) := by
  obtain ⟨M0, p, l, e, s, m, args, below, meth, c, hx, hb, hml, hr, hlk, hown, hnm, hts, hst9, hK9, hH0, hex, hhx, rfl⟩ := hw
  intro H locs ls cells slots hH hz hlv
  exact lv_ladd hx hb d (kk H locs ls cells slots hH hz hlv)
theorem g_lsub (hw : gX y0 cc nL ret hh kf G Qv E w) {a b : Int64} (d : decode cc pc = .ok (.lsub, 1))  (kk : w M (pc + 1) lv (.long (a - b) :: st)) : w M pc lv (.long b :: .long a :: st) := by
  obtain ⟨M0, p, l, e, s, m, args, below, meth, c, hx, hb, hml, hr, hlk, hown, hnm, hts, hst9, hK9, hH0, hex, hhx, rfl⟩ := hw
  intro H locs ls cells slots hH hz hlv
  exact lv_lsub hx hb d (kk H locs ls cells slots hH hz hlv)
theorem g_lmul (hw : gX y0 cc nL ret hh kf G Qv E w) {a b : Int64} (d : decode cc pc = .ok (.lmul, 1))  (kk : w M (pc + 1) lv (.long (a * b) :: st)) : w M pc lv (.long b :: .long a :: st) := by
  obtain ⟨M0, p, l, e, s, m, args, below, meth, c, hx, hb, hml, hr, hlk, hown, hnm, hts, hst9, hK9, hH0, hex, hhx, rfl⟩ := hw
  intro H locs ls cells slots hH hz hlv
  exact lv_lmul hx hb d (kk H locs ls cells slots hH hz hlv)
theorem g_land (hw : gX y0 cc nL ret hh kf G Qv E w) {a b : Int64} (d : decode cc pc = .ok (.land, 1))  (kk : w M (pc + 1) lv (.long (a &&& b) :: st)) : w M pc lv (.long b :: .long a :: st) := by
  obtain ⟨M0, p, l, e, s, m, args, below, meth, c, hx, hb, hml, hr, hlk, hown, hnm, hts, hst9, hK9, hH0, hex, hhx, rfl⟩ := hw
  intro H locs ls cells slots hH hz hlv
  exact lv_land hx hb d (kk H locs ls cells slots hH hz hlv)
theorem g_lor (hw : gX y0 cc nL ret hh kf G Qv E w) {a b : Int64} (d : decode cc pc = .ok (.lor, 1))  (kk : w M (pc + 1) lv (.long (a ||| b) :: st)) : w M pc lv (.long b :: .long a :: st) := by
  obtain ⟨M0, p, l, e, s, m, args, below, meth, c, hx, hb, hml, hr, hlk, hown, hnm, hts, hst9, hK9, hH0, hex, hhx, rfl⟩ := hw
  intro H locs ls cells slots hH hz hlv
  exact lv_lor hx hb d (kk H locs ls cells slots hH hz hlv)
theorem g_ldiv (hw : gX y0 cc nL ret hh kf G Qv E w) {a b : Int64} (d : decode cc pc = .ok (.ldiv, 1)) (hne : ¬ b = 0) (kk : w M (pc + 1) lv (.long (a / b) :: st)) : w M pc lv (.long b :: .long a :: st) := by
  obtain ⟨M0, p, l, e, s, m, args, below, meth, c, hx, hb, hml, hr, hlk, hown, hnm, hts, hst9, hK9, hH0, hex, hhx, rfl⟩ := hw
  intro H locs ls cells slots hH hz hlv
  exact lv_ldiv hx hb d hne (kk H locs ls cells slots hH hz hlv)
theorem g_lrem (hw : gX y0 cc nL ret hh kf G Qv E w) {a b : Int64} (d : decode cc pc = .ok (.lrem, 1)) (hne : ¬ b = 0) (kk : w M (pc + 1) lv (.long (a - a / b * b) :: st)) : w M pc lv (.long b :: .long a :: st) := by
  obtain ⟨M0, p, l, e, s, m, args, below, meth, c, hx, hb, hml, hr, hlk, hown, hnm, hts, hst9, hK9, hH0, hex, hhx, rfl⟩ := hw
  intro H locs ls cells slots hH hz hlv
  exact lv_lrem hx hb d hne (kk H locs ls cells slots hH hz hlv)
theorem g_lneg (hw : gX y0 cc nL ret hh kf G Qv E w) {a : Int64} (d : decode cc pc = .ok (.lneg, 1))  (kk : w M (pc + 1) lv (.long (-a) :: st)) : w M pc lv (.long a :: st) := by
  obtain ⟨M0, p, l, e, s, m, args, below, meth, c, hx, hb, hml, hr, hlk, hown, hnm, hts, hst9, hK9, hH0, hex, hhx, rfl⟩ := hw
  intro H locs ls cells slots hH hz hlv
  exact lv_lneg hx hb d (kk H locs ls cells slots hH hz hlv)
theorem g_lshl (hw : gX y0 cc nL ret hh kf G Qv E w) {a : Int64} {b : Int32} (d : decode cc pc = .ok (.lshl, 1))  (kk : w M (pc + 1) lv (.long (a <<< (b.toInt64 &&& 63)) :: st)) : w M pc lv (.int b :: .long a :: st) := by
  obtain ⟨M0, p, l, e, s, m, args, below, meth, c, hx, hb, hml, hr, hlk, hown, hnm, hts, hst9, hK9, hH0, hex, hhx, rfl⟩ := hw
  intro H locs ls cells slots hH hz hlv
  exact lv_lshl hx hb d rfl (kk H locs ls cells slots hH hz hlv)
theorem g_lshr (hw : gX y0 cc nL ret hh kf G Qv E w) {a : Int64} {b : Int32} (d : decode cc pc = .ok (.lshr, 1))  (kk : w M (pc + 1) lv (.long (a >>> (b.toInt64 &&& 63)) :: st)) : w M pc lv (.int b :: .long a :: st) := by
  obtain ⟨M0, p, l, e, s, m, args, below, meth, c, hx, hb, hml, hr, hlk, hown, hnm, hts, hst9, hK9, hH0, hex, hhx, rfl⟩ := hw
  intro H locs ls cells slots hH hz hlv
  exact lv_lshr hx hb d rfl (kk H locs ls cells slots hH hz hlv)
theorem g_lushr (hw : gX y0 cc nL ret hh kf G Qv E w) {a : Int64} {b : Int32} (d : decode cc pc = .ok (.lushr, 1))  (kk : w M (pc + 1) lv (.long (a.toUInt64 >>> (b.toInt64.toUInt64 &&& Int64.toUInt64 63)).toInt64 :: st)) : w M pc lv (.int b :: .long a :: st) := by
  obtain ⟨M0, p, l, e, s, m, args, below, meth, c, hx, hb, hml, hr, hlk, hown, hnm, hts, hst9, hK9, hH0, hex, hhx, rfl⟩ := hw
  intro H locs ls cells slots hH hz hlv
  exact lv_lushr hx hb d rfl (kk H locs ls cells slots hH hz hlv)
theorem g_i2l (hw : gX y0 cc nL ret hh kf G Qv E w) {a : Int32} (d : decode cc pc = .ok (.i2l, 1))  (kk : w M (pc + 1) lv (.long a.toInt64 :: st)) : w M pc lv (.int a :: st) := by
  obtain ⟨M0, p, l, e, s, m, args, below, meth, c, hx, hb, hml, hr, hlk, hown, hnm, hts, hst9, hK9, hH0, hex, hhx, rfl⟩ := hw
  intro H locs ls cells slots hH hz hlv
  exact lv_i2l hx hb d rfl (kk H locs ls cells slots hH hz hlv)
theorem g_l2i (hw : gX y0 cc nL ret hh kf G Qv E w) {a : Int64} (d : decode cc pc = .ok (.l2i, 1))  (kk : w M (pc + 1) lv (.int a.toInt32 :: st)) : w M pc lv (.long a :: st) := by
  obtain ⟨M0, p, l, e, s, m, args, below, meth, c, hx, hb, hml, hr, hlk, hown, hnm, hts, hst9, hK9, hH0, hex, hhx, rfl⟩ := hw
  intro H locs ls cells slots hH hz hlv
  exact lv_l2i hx hb d rfl (kk H locs ls cells slots hH hz hlv)
theorem g_i2b (hw : gX y0 cc nL ret hh kf G Qv E w) {a : Int32} (d : decode cc pc = .ok (.i2b, 1))  (kk : w M (pc + 1) lv (.int a.toInt8.toInt32 :: st)) : w M pc lv (.int a :: st) := by
  obtain ⟨M0, p, l, e, s, m, args, below, meth, c, hx, hb, hml, hr, hlk, hown, hnm, hts, hst9, hK9, hH0, hex, hhx, rfl⟩ := hw
  intro H locs ls cells slots hH hz hlv
  exact lv_i2b hx hb d rfl (kk H locs ls cells slots hH hz hlv)
theorem g_i2c (hw : gX y0 cc nL ret hh kf G Qv E w) {a : Int32} (d : decode cc pc = .ok (.i2c, 1))  (kk : w M (pc + 1) lv (.int (a.toUInt32 % 65536).toInt32 :: st)) : w M pc lv (.int a :: st) := by
  obtain ⟨M0, p, l, e, s, m, args, below, meth, c, hx, hb, hml, hr, hlk, hown, hnm, hts, hst9, hK9, hH0, hex, hhx, rfl⟩ := hw
  intro H locs ls cells slots hH hz hlv
  exact lv_i2c hx hb d rfl (kk H locs ls cells slots hH hz hlv)
theorem g_lcmp (hw : gX y0 cc nL ret hh kf G Qv E w) {a b : Int64} (d : decode cc pc = .ok (.lcmp, 1))  (kk : w M (pc + 1) lv (.int (lg_cmp a b) :: st)) : w M pc lv (.long b :: .long a :: st) := by
  obtain ⟨M0, p, l, e, s, m, args, below, meth, c, hx, hb, hml, hr, hlk, hown, hnm, hts, hst9, hK9, hH0, hex, hhx, rfl⟩ := hw
  intro H locs ls cells slots hH hz hlv
  exact W.lcmp hx hb d (kk H locs ls cells slots hH hz hlv)
theorem g_iconst (hw : gX y0 cc nL ret hh kf G Qv E w) {n : Int} {v : Int32} (d : decode cc pc = .ok (.iconst n, 1)) (hv : Int32.ofInt n = v) (kk : w M (pc + 1) lv (.int v :: st)) : w M pc lv (st) := by
  obtain ⟨M0, p, l, e, s, m, args, below, meth, c, hx, hb, hml, hr, hlk, hown, hnm, hts, hst9, hK9, hH0, hex, hhx, rfl⟩ := hw
  intro H locs ls cells slots hH hz hlv
  exact lv_iconst hx hb d hv (kk H locs ls cells slots hH hz hlv)
theorem g_bipush (hw : gX y0 cc nL ret hh kf G Qv E w) {n : Int} {v : Int32} (d : decode cc pc = .ok (.bipush n, 2)) (hv : (Int8.ofInt n).toInt32 = v) (kk : w M (pc + 2) lv (.int v :: st)) : w M pc lv (st) := by
  obtain ⟨M0, p, l, e, s, m, args, below, meth, c, hx, hb, hml, hr, hlk, hown, hnm, hts, hst9, hK9, hH0, hex, hhx, rfl⟩ := hw
  intro H locs ls cells slots hH hz hlv
  exact lv_bipush hx hb d hv (kk H locs ls cells slots hH hz hlv)
theorem g_sipush (hw : gX y0 cc nL ret hh kf G Qv E w) {n : Int} {v : Int32} (d : decode cc pc = .ok (.sipush n, 3)) (hv : (Int16.ofInt n).toInt32 = v) (kk : w M (pc + 3) lv (.int v :: st)) : w M pc lv (st) := by
  obtain ⟨M0, p, l, e, s, m, args, below, meth, c, hx, hb, hml, hr, hlk, hown, hnm, hts, hst9, hK9, hH0, hex, hhx, rfl⟩ := hw
  intro H locs ls cells slots hH hz hlv
  exact lv_sipush hx hb d hv (kk H locs ls cells slots hH hz hlv)
theorem g_lconst (hw : gX y0 cc nL ret hh kf G Qv E w) {n : Fin 2} {v : Int64} (d : decode cc pc = .ok (.lconst n, 1)) (hv : Int64.ofNat (n : Nat) = v) (kk : w M (pc + 1) lv (.long v :: st)) : w M pc lv (st) := by
  obtain ⟨M0, p, l, e, s, m, args, below, meth, c, hx, hb, hml, hr, hlk, hown, hnm, hts, hst9, hK9, hH0, hex, hhx, rfl⟩ := hw
  intro H locs ls cells slots hH hz hlv
  exact lv_lconst hx hb d hv (kk H locs ls cells slots hH hz hlv)
theorem g_ldc (hw : gX y0 cc nL ret hh kf G Qv E w) {idx : Nat} {v : Int32} (d : decode cc pc = .ok (.ldc idx, 2)) (hq : Cond.constant y0.cls idx v ∈ lw_all) (kk : w M (pc + 2) lv (.int v :: st)) : w M pc lv (st) := by
  obtain ⟨M0, p, l, e, s, m, args, below, meth, c, hx, hb, hml, hr, hlk, hown, hnm, hts, hst9, hK9, hH0, hex, hhx, rfl⟩ := hw
  intro H locs ls cells slots hH hz hlv
  exact lv_ldc hx hb hown (hts _ hq) d (kk H locs ls cells slots hH hz hlv)
theorem g_ldcw (hw : gX y0 cc nL ret hh kf G Qv E w) {idx : Nat} {v : Int32} (d : decode cc pc = .ok (.ldc_w idx, 3)) (hq : Cond.constant y0.cls idx v ∈ lw_all) (kk : w M (pc + 3) lv (.int v :: st)) : w M pc lv (st) := by
  obtain ⟨M0, p, l, e, s, m, args, below, meth, c, hx, hb, hml, hr, hlk, hown, hnm, hts, hst9, hK9, hH0, hex, hhx, rfl⟩ := hw
  intro H locs ls cells slots hH hz hlv
  exact lv_ldcw hx hb hown (hts _ hq) d (kk H locs ls cells slots hH hz hlv)
theorem g_ldc2 (hw : gX y0 cc nL ret hh kf G Qv E w) {idx : Nat} {v : Int64} (d : decode cc pc = .ok (.ldc2_w idx, 3)) (hq : Cond.constantLong y0.cls idx v ∈ lw_all) (kk : w M (pc + 3) lv (.long v :: st)) : w M pc lv (st) := by
  obtain ⟨M0, p, l, e, s, m, args, below, meth, c, hx, hb, hml, hr, hlk, hown, hnm, hts, hst9, hK9, hH0, hex, hhx, rfl⟩ := hw
  intro H locs ls cells slots hH hz hlv
  exact lv_ldc2 hx hb hown (hts _ hq) d (kk H locs ls cells slots hH hz hlv)
theorem g_null (hw : gX y0 cc nL ret hh kf G Qv E w)  (d : decode cc pc = .ok (.aconst_null, 1))  (kk : w M (pc + 1) lv (.null :: st)) : w M pc lv (st) := by
  obtain ⟨M0, p, l, e, s, m, args, below, meth, c, hx, hb, hml, hr, hlk, hown, hnm, hts, hst9, hK9, hH0, hex, hhx, rfl⟩ := hw
  intro H locs ls cells slots hH hz hlv
  exact lv_null hx hb d (kk H locs ls cells slots hH hz hlv)
theorem g_dup (hw : gX y0 cc nL ret hh kf G Qv E w) {v : Value} (d : decode cc pc = .ok (.dup, 1)) (hv : v.category = 1) (kk : w M (pc + 1) lv (v :: v :: st)) : w M pc lv (v :: st) := by
  obtain ⟨M0, p, l, e, s, m, args, below, meth, c, hx, hb, hml, hr, hlk, hown, hnm, hts, hst9, hK9, hH0, hex, hhx, rfl⟩ := hw
  intro H locs ls cells slots hH hz hlv
  exact lv_dup hx hb d hv (kk H locs ls cells slots hH hz hlv)
theorem g_pop (hw : gX y0 cc nL ret hh kf G Qv E w) {v : Value} (d : decode cc pc = .ok (.pop, 1)) (hv : v.category = 1) (kk : w M (pc + 1) lv (st)) : w M pc lv (v :: st) := by
  obtain ⟨M0, p, l, e, s, m, args, below, meth, c, hx, hb, hml, hr, hlk, hown, hnm, hts, hst9, hK9, hH0, hex, hhx, rfl⟩ := hw
  intro H locs ls cells slots hH hz hlv
  exact lv_pop hx hb d hv (kk H locs ls cells slots hH hz hlv)
theorem g_dup_x1 (hw : gX y0 cc nL ret hh kf G Qv E w) {v u : Value} (d : decode cc pc = .ok (.dup_x1, 1)) (hv : v.category = 1) (hu : u.category = 1) (kk : w M (pc + 1) lv (v :: u :: v :: st)) : w M pc lv (v :: u :: st) := by
  obtain ⟨M0, p, l, e, s, m, args, below, meth, c, hx, hb, hml, hr, hlk, hown, hnm, hts, hst9, hK9, hH0, hex, hhx, rfl⟩ := hw
  intro H locs ls cells slots hH hz hlv
  exact lv_dup_x1 hx hb d hv hu (kk H locs ls cells slots hH hz hlv)
theorem g_dup2 (hw : gX y0 cc nL ret hh kf G Qv E w) {v u : Value} (d : decode cc pc = .ok (.dup2, 1)) (hv : v.category = 1) (hu : u.category = 1) (kk : w M (pc + 1) lv (v :: u :: v :: u :: st)) : w M pc lv (v :: u :: st) := by
  obtain ⟨M0, p, l, e, s, m, args, below, meth, c, hx, hb, hml, hr, hlk, hown, hnm, hts, hst9, hK9, hH0, hex, hhx, rfl⟩ := hw
  intro H locs ls cells slots hH hz hlv
  exact lv_dup2_11 hx hb d hv hu (kk H locs ls cells slots hH hz hlv)
theorem g_dup2l (hw : gX y0 cc nL ret hh kf G Qv E w) {v : Value} (d : decode cc pc = .ok (.dup2, 1)) (hv : v.category = 2) (kk : w M (pc + 1) lv (v :: v :: st)) : w M pc lv (v :: st) := by
  obtain ⟨M0, p, l, e, s, m, args, below, meth, c, hx, hb, hml, hr, hlk, hown, hnm, hts, hst9, hK9, hH0, hex, hhx, rfl⟩ := hw
  intro H locs ls cells slots hH hz hlv
  exact lv_dup2_2 hx hb d hv (kk H locs ls cells slots hH hz hlv)
theorem g_iload_n (hw : gX y0 cc nL ret hh kf G Qv E w) {i : Fin 4} {x : Int32} (k : Nat) (d : decode cc pc = .ok (.iload_n i, 1)) (hl : lv[k]? = some ((i : Nat), .int x)) (kk : w M (pc + 1) lv (.int x :: st)) : w M pc lv st := by
  obtain ⟨M0, p, l, e, s, m, args, below, meth, c, hx, hb, hml, hr, hlk, hown, hnm, hts, hst9, hK9, hH0, hex, hhx, rfl⟩ := hw
  intro H locs ls cells slots hH hz hlv
  exact lv_iload_n hx hb d rfl (lv_at hlv k hl) (kk H locs ls cells slots hH hz hlv)
theorem g_iload (hw : gX y0 cc nL ret hh kf G Qv E w) {i : Nat} {x : Int32} (k : Nat) (d : decode cc pc = .ok (.iload i, 2)) (hl : lv[k]? = some (i, .int x)) (kk : w M (pc + 2) lv (.int x :: st)) : w M pc lv st := by
  obtain ⟨M0, p, l, e, s, m, args, below, meth, c, hx, hb, hml, hr, hlk, hown, hnm, hts, hst9, hK9, hH0, hex, hhx, rfl⟩ := hw
  intro H locs ls cells slots hH hz hlv
  exact lv_iload hx hb d (lv_at hlv k hl) (kk H locs ls cells slots hH hz hlv)
theorem g_lload_n (hw : gX y0 cc nL ret hh kf G Qv E w) {i : Fin 4} {x : Int64} (k : Nat) (d : decode cc pc = .ok (.lload_n i, 1)) (hl : lv[k]? = some ((i : Nat), .long x)) (kk : w M (pc + 1) lv (.long x :: st)) : w M pc lv st := by
  obtain ⟨M0, p, l, e, s, m, args, below, meth, c, hx, hb, hml, hr, hlk, hown, hnm, hts, hst9, hK9, hH0, hex, hhx, rfl⟩ := hw
  intro H locs ls cells slots hH hz hlv
  exact lv_lload_n hx hb d rfl (lv_at hlv k hl) (kk H locs ls cells slots hH hz hlv)
theorem g_lload (hw : gX y0 cc nL ret hh kf G Qv E w) {i : Nat} {x : Int64} (k : Nat) (d : decode cc pc = .ok (.lload i, 2)) (hl : lv[k]? = some (i, .long x)) (kk : w M (pc + 2) lv (.long x :: st)) : w M pc lv st := by
  obtain ⟨M0, p, l, e, s, m, args, below, meth, c, hx, hb, hml, hr, hlk, hown, hnm, hts, hst9, hK9, hH0, hex, hhx, rfl⟩ := hw
  intro H locs ls cells slots hH hz hlv
  exact lv_lload hx hb d (lv_at hlv k hl) (kk H locs ls cells slots hH hz hlv)
theorem g_aload_n (hw : gX y0 cc nL ret hh kf G Qv E w) {i : Fin 4} {x : Nat} (k : Nat) (d : decode cc pc = .ok (.aload_n i, 1)) (hl : lv[k]? = some ((i : Nat), .ref x)) (kk : w M (pc + 1) lv (.ref x :: st)) : w M pc lv st := by
  obtain ⟨M0, p, l, e, s, m, args, below, meth, c, hx, hb, hml, hr, hlk, hown, hnm, hts, hst9, hK9, hH0, hex, hhx, rfl⟩ := hw
  intro H locs ls cells slots hH hz hlv
  exact lv_aload_n hx hb d rfl (lv_at hlv k hl) (kk H locs ls cells slots hH hz hlv)
theorem g_aload (hw : gX y0 cc nL ret hh kf G Qv E w) {i : Nat} {x : Nat} (k : Nat) (d : decode cc pc = .ok (.aload i, 2)) (hl : lv[k]? = some (i, .ref x)) (kk : w M (pc + 2) lv (.ref x :: st)) : w M pc lv st := by
  obtain ⟨M0, p, l, e, s, m, args, below, meth, c, hx, hb, hml, hr, hlk, hown, hnm, hts, hst9, hK9, hH0, hex, hhx, rfl⟩ := hw
  intro H locs ls cells slots hH hz hlv
  exact lv_aload hx hb d (lv_at hlv k hl) (kk H locs ls cells slots hH hz hlv)
theorem g_aload_nq (hw : gX y0 cc nL ret hh kf G Qv E w) {i : Fin 4} {x : Option Nat} (k : Nat) (d : decode cc pc = .ok (.aload_n i, 1)) (hl : lv[k]? = some ((i : Nat), va_rf x)) (kk : w M (pc + 1) lv (va_rf x :: st)) : w M pc lv st := by
  cases x with
  | none => 
    obtain ⟨M0, p, l, e, s, m, args, below, meth, c, hx, hb, hml, hr, hlk, hown, hnm, hts, hst9, hK9, hH0, hex, hhx, rfl⟩ := hw
    intro H locs ls cells slots hH hz hlv
    exact lv_aload_nN hx hb d rfl (lv_at hlv k hl) (kk H locs ls cells slots hH hz hlv)
  | some a => exact g_aload_n hw k d hl kk
theorem g_aloadq (hw : gX y0 cc nL ret hh kf G Qv E w) {i : Nat} {x : Option Nat} (k : Nat) (d : decode cc pc = .ok (.aload i, 2)) (hl : lv[k]? = some (i, va_rf x)) (kk : w M (pc + 2) lv (va_rf x :: st)) : w M pc lv st := by
  cases x with
  | none => 
    obtain ⟨M0, p, l, e, s, m, args, below, meth, c, hx, hb, hml, hr, hlk, hown, hnm, hts, hst9, hK9, hH0, hex, hhx, rfl⟩ := hw
    intro H locs ls cells slots hH hz hlv
    exact lv_aloadN hx hb d (lv_at hlv k hl) (kk H locs ls cells slots hH hz hlv)
  | some a => exact g_aload hw k d hl kk
theorem g_istore (hw : gX y0 cc nL ret hh kf G Qv E w) {i : Nat} {x : Int32} {lv2 : List (Nat × Value)} (ks : List Nat) (d : decode cc pc = .ok (.istore i, 2)) (hn : Nat.ble (i + 1) nL = true) (hl : lv_pick ((i, .int x) :: lv.filter (fun q => !(q.1 == i) && !(q.1 + 1 == i && q.2.category == 2))) ks = lv2) (kk : w M (pc + 2) lv2 st) : w M pc lv (.int x :: st) := by
  obtain ⟨M0, p, l, e, s, m, args, below, meth, c, hx, hb, hml, hr, hlk, hown, hnm, hts, hst9, hK9, hH0, hex, hhx, rfl⟩ := hw
  intro H locs ls cells slots hH hz hlv
  exact lv_istore hx hb d hlv (Nat.le_of_ble_eq_true hn) rfl (fun ls' h' => kk H locs ls' cells slots hH hz (lv_sub h' ks hl))
theorem g_istore_n (hw : gX y0 cc nL ret hh kf G Qv E w) {i : Fin 4} {x : Int32} {lv2 : List (Nat × Value)} (ks : List Nat) (d : decode cc pc = .ok (.istore_n i, 1)) (hn : Nat.ble ((i : Nat) + 1) nL = true) (hl : lv_pick (((i : Nat), .int x) :: lv.filter (fun q => !(q.1 == (i : Nat)) && !(q.1 + 1 == (i : Nat) && q.2.category == 2))) ks = lv2) (kk : w M (pc + 1) lv2 st) : w M pc lv (.int x :: st) := by
  obtain ⟨M0, p, l, e, s, m, args, below, meth, c, hx, hb, hml, hr, hlk, hown, hnm, hts, hst9, hK9, hH0, hex, hhx, rfl⟩ := hw
  intro H locs ls cells slots hH hz hlv
  exact lv_istore_n hx hb d rfl hlv (Nat.le_of_ble_eq_true hn) rfl (fun ls' h' => kk H locs ls' cells slots hH hz (lv_sub h' ks hl))
theorem g_astore (hw : gX y0 cc nL ret hh kf G Qv E w) {i : Nat} {x : Nat} {lv2 : List (Nat × Value)} (ks : List Nat) (d : decode cc pc = .ok (.astore i, 2)) (hn : Nat.ble (i + 1) nL = true) (hl : lv_pick ((i, .ref x) :: lv.filter (fun q => !(q.1 == i) && !(q.1 + 1 == i && q.2.category == 2))) ks = lv2) (kk : w M (pc + 2) lv2 st) : w M pc lv (.ref x :: st) := by
  obtain ⟨M0, p, l, e, s, m, args, below, meth, c, hx, hb, hml, hr, hlk, hown, hnm, hts, hst9, hK9, hH0, hex, hhx, rfl⟩ := hw
  intro H locs ls cells slots hH hz hlv
  exact lv_astore hx hb d hlv (Nat.le_of_ble_eq_true hn) rfl (fun ls' h' => kk H locs ls' cells slots hH hz (lv_sub h' ks hl))
theorem g_astore_n (hw : gX y0 cc nL ret hh kf G Qv E w) {i : Fin 4} {x : Nat} {lv2 : List (Nat × Value)} (ks : List Nat) (d : decode cc pc = .ok (.astore_n i, 1)) (hn : Nat.ble ((i : Nat) + 1) nL = true) (hl : lv_pick (((i : Nat), .ref x) :: lv.filter (fun q => !(q.1 == (i : Nat)) && !(q.1 + 1 == (i : Nat) && q.2.category == 2))) ks = lv2) (kk : w M (pc + 1) lv2 st) : w M pc lv (.ref x :: st) := by
  obtain ⟨M0, p, l, e, s, m, args, below, meth, c, hx, hb, hml, hr, hlk, hown, hnm, hts, hst9, hK9, hH0, hex, hhx, rfl⟩ := hw
  intro H locs ls cells slots hH hz hlv
  exact lv_astore_n hx hb d rfl hlv (Nat.le_of_ble_eq_true hn) rfl (fun ls' h' => kk H locs ls' cells slots hH hz (lv_sub h' ks hl))
theorem g_lstore (hw : gX y0 cc nL ret hh kf G Qv E w) {i : Nat} {x : Int64} {lv2 : List (Nat × Value)} (ks : List Nat) (d : decode cc pc = .ok (.lstore i, 2)) (hn : Nat.ble (i + 2) nL = true) (hl : lv_pick ((i, .long x) :: lv.filter (fun q => !(q.1 == i) && (!(q.1 == i + 1) && !(q.1 + 1 == i && q.2.category == 2)))) ks = lv2) (kk : w M (pc + 2) lv2 st) : w M pc lv (.long x :: st) := by
  obtain ⟨M0, p, l, e, s, m, args, below, meth, c, hx, hb, hml, hr, hlk, hown, hnm, hts, hst9, hK9, hH0, hex, hhx, rfl⟩ := hw
  intro H locs ls cells slots hH hz hlv
  exact lv_lstore hx hb d hlv (Nat.le_of_ble_eq_true hn) rfl (fun ls' h' => kk H locs ls' cells slots hH hz (lv_sub h' ks hl))
theorem g_lstore_n (hw : gX y0 cc nL ret hh kf G Qv E w) {i : Fin 4} {x : Int64} {lv2 : List (Nat × Value)} (ks : List Nat) (d : decode cc pc = .ok (.lstore_n i, 1)) (hn : Nat.ble ((i : Nat) + 2) nL = true) (hl : lv_pick (((i : Nat), .long x) :: lv.filter (fun q => !(q.1 == (i : Nat)) && (!(q.1 == (i : Nat) + 1) && !(q.1 + 1 == (i : Nat) && q.2.category == 2)))) ks = lv2) (kk : w M (pc + 1) lv2 st) : w M pc lv (.long x :: st) := by
  obtain ⟨M0, p, l, e, s, m, args, below, meth, c, hx, hb, hml, hr, hlk, hown, hnm, hts, hst9, hK9, hH0, hex, hhx, rfl⟩ := hw
  intro H locs ls cells slots hH hz hlv
  exact lv_lstore_n hx hb d rfl hlv (Nat.le_of_ble_eq_true hn) rfl (fun ls' h' => kk H locs ls' cells slots hH hz (lv_sub h' ks hl))
theorem g_iinc (hw : gX y0 cc nL ret hh kf G Qv E w) {i : Nat} {n : Int} {x v : Int32} {lv2 : List (Nat × Value)} (k : Nat) (ks : List Nat) (d : decode cc pc = .ok (.iinc i n, 3)) (hk : lv[k]? = some (i, .int x)) (hv : Int32.ofInt n = v) (hn : Nat.ble (i + 1) nL = true) (hl : lv_pick ((i, .int (x + v)) :: lv.filter (fun q => !(q.1 == i) && !(q.1 + 1 == i && q.2.category == 2))) ks = lv2) (kk : w M (pc + 3) lv2 st) : w M pc lv st := by
  subst hv
  obtain ⟨M0, p, l, e, s, m, args, below, meth, c, hx, hb, hml, hr, hlk, hown, hnm, hts, hst9, hK9, hH0, hex, hhx, rfl⟩ := hw
  intro H locs ls cells slots hH hz hlv
  exact lv_iinc hx hb d hlv hk rfl (Nat.le_of_ble_eq_true hn) rfl (fun ls' h' => kk H locs ls' cells slots hH hz (lv_sub h' ks hl))
theorem g_if_eq (hw : gX y0 cc nL ret hh kf G Qv E w) {a : Int32} {off : Int} {tgt : Nat} (d : decode cc pc = .ok (.ifCond .eq off, 3)) (ht : (pc : Int) + off = (tgt : Int)) (kt : a = 0 → w M tgt lv st) (kf : ¬ (a = 0) → w M (pc + 3) lv st) : w M pc lv (.int a :: st) := by
  obtain ⟨M0, p, l, e, s, m, args, below, meth, c, hx, hb, hml, hr, hlk, hown, hnm, hts, hst9, hK9, hH0, hex, hhx, rfl⟩ := hw
  intro H locs ls cells slots hH hz hlv
  exact lv_if_eq hx hb d ht (fun q => kt q H locs ls cells slots hH hz hlv) (fun q => kf q H locs ls cells slots hH hz hlv)
theorem g_icmp_eq (hw : gX y0 cc nL ret hh kf G Qv E w) {a b : Int32} {off : Int} {tgt : Nat} (d : decode cc pc = .ok (.if_icmp .eq off, 3)) (ht : (pc : Int) + off = (tgt : Int)) (kt : a = b → w M tgt lv st) (kf : ¬ (a = b) → w M (pc + 3) lv st) : w M pc lv (.int b :: .int a :: st) := by
  obtain ⟨M0, p, l, e, s, m, args, below, meth, c, hx, hb, hml, hr, hlk, hown, hnm, hts, hst9, hK9, hH0, hex, hhx, rfl⟩ := hw
  intro H locs ls cells slots hH hz hlv
  exact lv_icmp_eq hx hb d ht (fun q => kt q H locs ls cells slots hH hz hlv) (fun q => kf q H locs ls cells slots hH hz hlv)
theorem g_if_ne (hw : gX y0 cc nL ret hh kf G Qv E w) {a : Int32} {off : Int} {tgt : Nat} (d : decode cc pc = .ok (.ifCond .ne off, 3)) (ht : (pc : Int) + off = (tgt : Int)) (kt : ¬ a = 0 → w M tgt lv st) (kf : a = 0 → w M (pc + 3) lv st) : w M pc lv (.int a :: st) := by
  obtain ⟨M0, p, l, e, s, m, args, below, meth, c, hx, hb, hml, hr, hlk, hown, hnm, hts, hst9, hK9, hH0, hex, hhx, rfl⟩ := hw
  intro H locs ls cells slots hH hz hlv
  exact lv_if_ne hx hb d ht (fun q => kt q H locs ls cells slots hH hz hlv) (fun q => kf q H locs ls cells slots hH hz hlv)
theorem g_icmp_ne (hw : gX y0 cc nL ret hh kf G Qv E w) {a b : Int32} {off : Int} {tgt : Nat} (d : decode cc pc = .ok (.if_icmp .ne off, 3)) (ht : (pc : Int) + off = (tgt : Int)) (kt : ¬ a = b → w M tgt lv st) (kf : a = b → w M (pc + 3) lv st) : w M pc lv (.int b :: .int a :: st) := by
  obtain ⟨M0, p, l, e, s, m, args, below, meth, c, hx, hb, hml, hr, hlk, hown, hnm, hts, hst9, hK9, hH0, hex, hhx, rfl⟩ := hw
  intro H locs ls cells slots hH hz hlv
  exact lv_icmp_ne hx hb d ht (fun q => kt q H locs ls cells slots hH hz hlv) (fun q => kf q H locs ls cells slots hH hz hlv)
theorem g_if_lt (hw : gX y0 cc nL ret hh kf G Qv E w) {a : Int32} {off : Int} {tgt : Nat} (d : decode cc pc = .ok (.ifCond .lt off, 3)) (ht : (pc : Int) + off = (tgt : Int)) (kt : a < 0 → w M tgt lv st) (kf : ¬ (a < 0) → w M (pc + 3) lv st) : w M pc lv (.int a :: st) := by
  obtain ⟨M0, p, l, e, s, m, args, below, meth, c, hx, hb, hml, hr, hlk, hown, hnm, hts, hst9, hK9, hH0, hex, hhx, rfl⟩ := hw
  intro H locs ls cells slots hH hz hlv
  exact lv_if_lt hx hb d ht (fun q => kt q H locs ls cells slots hH hz hlv) (fun q => kf q H locs ls cells slots hH hz hlv)
theorem g_icmp_lt (hw : gX y0 cc nL ret hh kf G Qv E w) {a b : Int32} {off : Int} {tgt : Nat} (d : decode cc pc = .ok (.if_icmp .lt off, 3)) (ht : (pc : Int) + off = (tgt : Int)) (kt : a < b → w M tgt lv st) (kf : ¬ (a < b) → w M (pc + 3) lv st) : w M pc lv (.int b :: .int a :: st) := by
  obtain ⟨M0, p, l, e, s, m, args, below, meth, c, hx, hb, hml, hr, hlk, hown, hnm, hts, hst9, hK9, hH0, hex, hhx, rfl⟩ := hw
  intro H locs ls cells slots hH hz hlv
  exact lv_icmp_lt hx hb d ht (fun q => kt q H locs ls cells slots hH hz hlv) (fun q => kf q H locs ls cells slots hH hz hlv)
theorem g_if_ge (hw : gX y0 cc nL ret hh kf G Qv E w) {a : Int32} {off : Int} {tgt : Nat} (d : decode cc pc = .ok (.ifCond .ge off, 3)) (ht : (pc : Int) + off = (tgt : Int)) (kt : 0 ≤ a → w M tgt lv st) (kf : ¬ (0 ≤ a) → w M (pc + 3) lv st) : w M pc lv (.int a :: st) := by
  obtain ⟨M0, p, l, e, s, m, args, below, meth, c, hx, hb, hml, hr, hlk, hown, hnm, hts, hst9, hK9, hH0, hex, hhx, rfl⟩ := hw
  intro H locs ls cells slots hH hz hlv
  exact lv_if_ge hx hb d ht (fun q => kt q H locs ls cells slots hH hz hlv) (fun q => kf q H locs ls cells slots hH hz hlv)
theorem g_icmp_ge (hw : gX y0 cc nL ret hh kf G Qv E w) {a b : Int32} {off : Int} {tgt : Nat} (d : decode cc pc = .ok (.if_icmp .ge off, 3)) (ht : (pc : Int) + off = (tgt : Int)) (kt : b ≤ a → w M tgt lv st) (kf : ¬ (b ≤ a) → w M (pc + 3) lv st) : w M pc lv (.int b :: .int a :: st) := by
  obtain ⟨M0, p, l, e, s, m, args, below, meth, c, hx, hb, hml, hr, hlk, hown, hnm, hts, hst9, hK9, hH0, hex, hhx, rfl⟩ := hw
  intro H locs ls cells slots hH hz hlv
  exact lv_icmp_ge hx hb d ht (fun q => kt q H locs ls cells slots hH hz hlv) (fun q => kf q H locs ls cells slots hH hz hlv)
theorem g_if_gt (hw : gX y0 cc nL ret hh kf G Qv E w) {a : Int32} {off : Int} {tgt : Nat} (d : decode cc pc = .ok (.ifCond .gt off, 3)) (ht : (pc : Int) + off = (tgt : Int)) (kt : 0 < a → w M tgt lv st) (kf : ¬ (0 < a) → w M (pc + 3) lv st) : w M pc lv (.int a :: st) := by
  obtain ⟨M0, p, l, e, s, m, args, below, meth, c, hx, hb, hml, hr, hlk, hown, hnm, hts, hst9, hK9, hH0, hex, hhx, rfl⟩ := hw
  intro H locs ls cells slots hH hz hlv
  exact lv_if_gt hx hb d ht (fun q => kt q H locs ls cells slots hH hz hlv) (fun q => kf q H locs ls cells slots hH hz hlv)
theorem g_icmp_gt (hw : gX y0 cc nL ret hh kf G Qv E w) {a b : Int32} {off : Int} {tgt : Nat} (d : decode cc pc = .ok (.if_icmp .gt off, 3)) (ht : (pc : Int) + off = (tgt : Int)) (kt : b < a → w M tgt lv st) (kf : ¬ (b < a) → w M (pc + 3) lv st) : w M pc lv (.int b :: .int a :: st) := by
  obtain ⟨M0, p, l, e, s, m, args, below, meth, c, hx, hb, hml, hr, hlk, hown, hnm, hts, hst9, hK9, hH0, hex, hhx, rfl⟩ := hw
  intro H locs ls cells slots hH hz hlv
  exact lv_icmp_gt hx hb d ht (fun q => kt q H locs ls cells slots hH hz hlv) (fun q => kf q H locs ls cells slots hH hz hlv)
theorem g_if_le (hw : gX y0 cc nL ret hh kf G Qv E w) {a : Int32} {off : Int} {tgt : Nat} (d : decode cc pc = .ok (.ifCond .le off, 3)) (ht : (pc : Int) + off = (tgt : Int)) (kt : a ≤ 0 → w M tgt lv st) (kf : ¬ (a ≤ 0) → w M (pc + 3) lv st) : w M pc lv (.int a :: st) := by
  obtain ⟨M0, p, l, e, s, m, args, below, meth, c, hx, hb, hml, hr, hlk, hown, hnm, hts, hst9, hK9, hH0, hex, hhx, rfl⟩ := hw
  intro H locs ls cells slots hH hz hlv
  exact lv_if_le hx hb d ht (fun q => kt q H locs ls cells slots hH hz hlv) (fun q => kf q H locs ls cells slots hH hz hlv)
theorem g_icmp_le (hw : gX y0 cc nL ret hh kf G Qv E w) {a b : Int32} {off : Int} {tgt : Nat} (d : decode cc pc = .ok (.if_icmp .le off, 3)) (ht : (pc : Int) + off = (tgt : Int)) (kt : a ≤ b → w M tgt lv st) (kf : ¬ (a ≤ b) → w M (pc + 3) lv st) : w M pc lv (.int b :: .int a :: st) := by
  obtain ⟨M0, p, l, e, s, m, args, below, meth, c, hx, hb, hml, hr, hlk, hown, hnm, hts, hst9, hK9, hH0, hex, hhx, rfl⟩ := hw
  intro H locs ls cells slots hH hz hlv
  exact lv_icmp_le hx hb d ht (fun q => kt q H locs ls cells slots hH hz hlv) (fun q => kf q H locs ls cells slots hH hz hlv)
theorem g_goto (hw : gX y0 cc nL ret hh kf G Qv E w) {off : Int} {tgt : Nat} (d : decode cc pc = .ok (.goto off, 3)) (ht : (pc : Int) + off = (tgt : Int)) (kk : w M tgt lv st) : w M pc lv st := by
  obtain ⟨M0, p, l, e, s, m, args, below, meth, c, hx, hb, hml, hr, hlk, hown, hnm, hts, hst9, hK9, hH0, hex, hhx, rfl⟩ := hw
  intro H locs ls cells slots hH hz hlv
  exact lv_goto hx hb d ht (kk H locs ls cells slots hH hz hlv)
theorem g_tabOut (hw : gX y0 cc nL ret hh kf G Qv E w) {dflt lo hi : Int} {offs : Array Int} {len : Nat} {a : Int32} {tgt : Nat} (d : decode cc pc = .ok (.tableswitch dflt lo hi offs, len)) (h : a.toInt < lo ∨ hi < a.toInt) (ht : (pc : Int) + dflt = (tgt : Int)) (kk : w M tgt lv st) : w M pc lv (.int a :: st) := by
  obtain ⟨M0, p, l, e, s, m, args, below, meth, c, hx, hb, hml, hr, hlk, hown, hnm, hts, hst9, hK9, hH0, hex, hhx, rfl⟩ := hw
  intro H locs ls cells slots hH hz hlv
  exact lv_tableOut hx hb d h ht (kk H locs ls cells slots hH hz hlv)
theorem g_tabIn (hw : gX y0 cc nL ret hh kf G Qv E w) {dflt lo hi : Int} {offs : Array Int} {len : Nat} {a : Int32} {off : Int} {tgt : Nat} (d : decode cc pc = .ok (.tableswitch dflt lo hi offs, len)) (h1 : ¬ a.toInt < lo) (h2 : ¬ hi < a.toInt) (ho : offs[(a.toInt - lo).toNat]? = some off) (ht : (pc : Int) + off = (tgt : Int)) (kk : w M tgt lv st) : w M pc lv (.int a :: st) := by
  obtain ⟨M0, p, l, e, s, m, args, below, meth, c, hx, hb, hml, hr, hlk, hown, hnm, hts, hst9, hK9, hH0, hex, hhx, rfl⟩ := hw
  intro H locs ls cells slots hH hz hlv
  exact lv_tableIn hx hb d h1 h2 ho ht (kk H locs ls cells slots hH hz hlv)
theorem g_lookup (hw : gX y0 cc nL ret hh kf G Qv E w) {dflt : Int} {ps : Array (Int × Int)} {len : Nat} {a : Int32} {off : Int} {tgt : Nat} (d : decode cc pc = .ok (.lookupswitch dflt ps, len)) (hp : (ps.toList.zip (ps.toList.drop 1)).all (fun (a, next) => a.1 < next.1) = true) (ho : Op.lookupswitch.offset ps.toList dflt a.toInt = off) (ht : (pc : Int) + off = (tgt : Int)) (kk : w M tgt lv st) : w M pc lv (.int a :: st) := by
  obtain ⟨M0, p, l, e, s, m, args, below, meth, c, hx, hb, hml, hr, hlk, hown, hnm, hts, hst9, hK9, hH0, hex, hhx, rfl⟩ := hw
  intro H locs ls cells slots hH hz hlv
  exact lv_lookup hx hb d hp ho ht (kk H locs ls cells slots hH hz hlv)
theorem g_ifnull (hw : gX y0 cc nL ret hh kf G Qv E w) {x : Option Nat} {off : Int} {tgt : Nat} (d : decode cc pc = .ok (.ifnull off, 3)) (ht : (pc : Int) + off = (tgt : Int)) (kt : x = none → w M tgt lv st) (kf : ¬ x = none → w M (pc + 3) lv st) : w M pc lv (va_rf x :: st) := by
  cases x with
  | none => 
    obtain ⟨M0, p, l, e, s, m, args, below, meth, c, hx, hb, hml, hr, hlk, hown, hnm, hts, hst9, hK9, hH0, hex, hhx, rfl⟩ := hw
    intro H locs ls cells slots hH hz hlv
    exact lv_ifnullN hx hb d ht (kt rfl H locs ls cells slots hH hz hlv)
  | some a => 
    obtain ⟨M0, p, l, e, s, m, args, below, meth, c, hx, hb, hml, hr, hlk, hown, hnm, hts, hst9, hK9, hH0, hex, hhx, rfl⟩ := hw
    intro H locs ls cells slots hH hz hlv
    exact lv_ifnull hx hb d (kf (fun h => by cases h) H locs ls cells slots hH hz hlv)
theorem g_ifnonnull (hw : gX y0 cc nL ret hh kf G Qv E w) {x : Option Nat} {off : Int} {tgt : Nat} (d : decode cc pc = .ok (.ifnonnull off, 3)) (ht : (pc : Int) + off = (tgt : Int)) (kt : ¬ x = none → w M tgt lv st) (kf : x = none → w M (pc + 3) lv st) : w M pc lv (va_rf x :: st) := by
  cases x with
  | none => 
    obtain ⟨M0, p, l, e, s, m, args, below, meth, c, hx, hb, hml, hr, hlk, hown, hnm, hts, hst9, hK9, hH0, hex, hhx, rfl⟩ := hw
    intro H locs ls cells slots hH hz hlv
    exact lv_ifnonnullN hx hb d (kf rfl H locs ls cells slots hH hz hlv)
  | some a => 
    obtain ⟨M0, p, l, e, s, m, args, below, meth, c, hx, hb, hml, hr, hlk, hown, hnm, hts, hst9, hK9, hH0, hex, hhx, rfl⟩ := hw
    intro H locs ls cells slots hH hz hlv
    exact lv_ifnonnull hx hb d ht (kt (fun h => by cases h) H locs ls cells slots hH hz hlv)
theorem g_sub (hw : gX y0 cc nL ret hh kf G Qv E w) {lv2 : List (Nat × Value)} (ks : List Nat) (hl : lv_pick lv ks = lv2) (kk : w M pc lv2 st) : w M pc lv st := by
  obtain ⟨M0, p, l, e, s, m, args, below, meth, c, hx, hb, hml, hr, hlk, hown, hnm, hts, hst9, hK9, hH0, hex, hhx, rfl⟩ := hw
  intro H locs ls cells slots hH hz hlv
  exact kk H locs ls cells slots hH hz (lv_sub hlv ks hl)
end GRW
