section QR
variable {d : Nat} {y : My} {pc : Nat} {ls : Lo} {st : List Value} {σ : Sg} {Q : Ot → Sg → Prop}
theorem q_iadd {x y_ : Int32} (hd : decode y.2.1 pc = .ok (.iadd, 1))
    (k : WQ d y (pc + 1) ls (.int (x + y_) :: st) σ Q) : WQ d y pc ls (.int y_ :: .int x :: st) σ Q := by
  intro p l e R s m args below meth c H locs cells slots A ad ac D lsC F Wr hc hs hl
  exact lv_iadd F.1 F.2.2.1 hd (k p l e R s m args below meth c H locs cells slots A ad ac D lsC F Wr hc hs hl)
theorem q_isub {x y_ : Int32} (hd : decode y.2.1 pc = .ok (.isub, 1))
    (k : WQ d y (pc + 1) ls (.int (x - y_) :: st) σ Q) : WQ d y pc ls (.int y_ :: .int x :: st) σ Q := by
  intro p l e R s m args below meth c H locs cells slots A ad ac D lsC F Wr hc hs hl
  exact lv_isub F.1 F.2.2.1 hd (k p l e R s m args below meth c H locs cells slots A ad ac D lsC F Wr hc hs hl)
theorem q_imul {x y_ : Int32} (hd : decode y.2.1 pc = .ok (.imul, 1))
    (k : WQ d y (pc + 1) ls (.int (x * y_) :: st) σ Q) : WQ d y pc ls (.int y_ :: .int x :: st) σ Q := by
  intro p l e R s m args below meth c H locs cells slots A ad ac D lsC F Wr hc hs hl
  exact lv_imul F.1 F.2.2.1 hd (k p l e R s m args below meth c H locs cells slots A ad ac D lsC F Wr hc hs hl)
theorem q_iand {x y_ : Int32} (hd : decode y.2.1 pc = .ok (.iand, 1))
    (k : WQ d y (pc + 1) ls (.int (x &&& y_) :: st) σ Q) : WQ d y pc ls (.int y_ :: .int x :: st) σ Q := by
  intro p l e R s m args below meth c H locs cells slots A ad ac D lsC F Wr hc hs hl
  exact lv_iand F.1 F.2.2.1 hd (k p l e R s m args below meth c H locs cells slots A ad ac D lsC F Wr hc hs hl)
theorem q_ior {x y_ : Int32} (hd : decode y.2.1 pc = .ok (.ior, 1))
    (k : WQ d y (pc + 1) ls (.int (x ||| y_) :: st) σ Q) : WQ d y pc ls (.int y_ :: .int x :: st) σ Q := by
  intro p l e R s m args below meth c H locs cells slots A ad ac D lsC F Wr hc hs hl
  exact lv_ior F.1 F.2.2.1 hd (k p l e R s m args below meth c H locs cells slots A ad ac D lsC F Wr hc hs hl)
theorem q_ishl {x y_ : Int32} (hd : decode y.2.1 pc = .ok (.ishl, 1))
    (k : WQ d y (pc + 1) ls (.int (x <<< (y_ &&& 31)) :: st) σ Q) : WQ d y pc ls (.int y_ :: .int x :: st) σ Q := by
  intro p l e R s m args below meth c H locs cells slots A ad ac D lsC F Wr hc hs hl
  exact lv_ishl F.1 F.2.2.1 hd (k p l e R s m args below meth c H locs cells slots A ad ac D lsC F Wr hc hs hl)
theorem q_ishr {x y_ : Int32} (hd : decode y.2.1 pc = .ok (.ishr, 1))
    (k : WQ d y (pc + 1) ls (.int (x >>> (y_ &&& 31)) :: st) σ Q) : WQ d y pc ls (.int y_ :: .int x :: st) σ Q := by
  intro p l e R s m args below meth c H locs cells slots A ad ac D lsC F Wr hc hs hl
  exact lv_ishr F.1 F.2.2.1 hd (k p l e R s m args below meth c H locs cells slots A ad ac D lsC F Wr hc hs hl)
theorem q_iushr {x y_ : Int32} (hd : decode y.2.1 pc = .ok (.iushr, 1))
    (k : WQ d y (pc + 1) ls (.int ((x.toUInt32 >>> (y_.toUInt32 &&& Int32.toUInt32 31)).toInt32) :: st) σ Q) : WQ d y pc ls (.int y_ :: .int x :: st) σ Q := by
  intro p l e R s m args below meth c H locs cells slots A ad ac D lsC F Wr hc hs hl
  exact lv_iushr F.1 F.2.2.1 hd rfl (k p l e R s m args below meth c H locs cells slots A ad ac D lsC F Wr hc hs hl)
theorem q_idiv {x y_ : Int32} (hd : decode y.2.1 pc = .ok (.idiv, 1)) (hne : ¬ y_ = 0)
    (k : WQ d y (pc + 1) ls (.int (x / y_) :: st) σ Q) : WQ d y pc ls (.int y_ :: .int x :: st) σ Q := by
  intro p l e R s m args below meth c H locs cells slots A ad ac D lsC F Wr hc hs hl
  exact lv_idiv F.1 F.2.2.1 hd hne (k p l e R s m args below meth c H locs cells slots A ad ac D lsC F Wr hc hs hl)
theorem q_irem {x y_ : Int32} (hd : decode y.2.1 pc = .ok (.irem, 1)) (hne : ¬ y_ = 0)
    (k : WQ d y (pc + 1) ls (.int (x - x / y_ * y_) :: st) σ Q) : WQ d y pc ls (.int y_ :: .int x :: st) σ Q := by
  intro p l e R s m args below meth c H locs cells slots A ad ac D lsC F Wr hc hs hl
  exact lv_irem F.1 F.2.2.1 hd hne (k p l e R s m args below meth c H locs cells slots A ad ac D lsC F Wr hc hs hl)
theorem q_ineg {x : Int32} (hd : decode y.2.1 pc = .ok (.ineg, 1))
    (k : WQ d y (pc + 1) ls (.int (-x) :: st) σ Q) : WQ d y pc ls (.int x :: st) σ Q := by
  intro p l e R s m args below meth c H locs cells slots A ad ac D lsC F Wr hc hs hl
  exact lv_ineg F.1 F.2.2.1 hd (k p l e R s m args below meth c H locs cells slots A ad ac D lsC F Wr hc hs hl)
theorem q_lneg {x : Int64} (hd : decode y.2.1 pc = .ok (.lneg, 1))
    (k : WQ d y (pc + 1) ls (.long (-x) :: st) σ Q) : WQ d y pc ls (.long x :: st) σ Q := by
  intro p l e R s m args below meth c H locs cells slots A ad ac D lsC F Wr hc hs hl
  exact lv_lneg F.1 F.2.2.1 hd (k p l e R s m args below meth c H locs cells slots A ad ac D lsC F Wr hc hs hl)
theorem q_ladd {x y_ : Int64} (hd : decode y.2.1 pc = .ok (.ladd, 1))
    (k : WQ d y (pc + 1) ls (.long (x + y_) :: st) σ Q) : WQ d y pc ls (.long y_ :: .long x :: st) σ Q := by
  intro p l e R s m args below meth c H locs cells slots A ad ac D lsC F Wr hc hs hl
  exact lv_ladd F.1 F.2.2.1 hd (k p l e R s m args below meth c H locs cells slots A ad ac D lsC F Wr hc hs hl)
theorem q_lsub {x y_ : Int64} (hd : decode y.2.1 pc = .ok (.lsub, 1))
    (k : WQ d y (pc + 1) ls (.long (x - y_) :: st) σ Q) : WQ d y pc ls (.long y_ :: .long x :: st) σ Q := by
  intro p l e R s m args below meth c H locs cells slots A ad ac D lsC F Wr hc hs hl
  exact lv_lsub F.1 F.2.2.1 hd (k p l e R s m args below meth c H locs cells slots A ad ac D lsC F Wr hc hs hl)
theorem q_lmul {x y_ : Int64} (hd : decode y.2.1 pc = .ok (.lmul, 1))
    (k : WQ d y (pc + 1) ls (.long (x * y_) :: st) σ Q) : WQ d y pc ls (.long y_ :: .long x :: st) σ Q := by
  intro p l e R s m args below meth c H locs cells slots A ad ac D lsC F Wr hc hs hl
  exact lv_lmul F.1 F.2.2.1 hd (k p l e R s m args below meth c H locs cells slots A ad ac D lsC F Wr hc hs hl)
theorem q_land {x y_ : Int64} (hd : decode y.2.1 pc = .ok (.land, 1))
    (k : WQ d y (pc + 1) ls (.long (x &&& y_) :: st) σ Q) : WQ d y pc ls (.long y_ :: .long x :: st) σ Q := by
  intro p l e R s m args below meth c H locs cells slots A ad ac D lsC F Wr hc hs hl
  exact lv_land F.1 F.2.2.1 hd (k p l e R s m args below meth c H locs cells slots A ad ac D lsC F Wr hc hs hl)
theorem q_lor {x y_ : Int64} (hd : decode y.2.1 pc = .ok (.lor, 1))
    (k : WQ d y (pc + 1) ls (.long (x ||| y_) :: st) σ Q) : WQ d y pc ls (.long y_ :: .long x :: st) σ Q := by
  intro p l e R s m args below meth c H locs cells slots A ad ac D lsC F Wr hc hs hl
  exact lv_lor F.1 F.2.2.1 hd (k p l e R s m args below meth c H locs cells slots A ad ac D lsC F Wr hc hs hl)
theorem q_lxor {x y_ : Int64} (hd : decode y.2.1 pc = .ok (.lxor, 1))
    (k : WQ d y (pc + 1) ls (.long (x ^^^ y_) :: st) σ Q) : WQ d y pc ls (.long y_ :: .long x :: st) σ Q := by
  intro p l e R s m args below meth c H locs cells slots A ad ac D lsC F Wr hc hs hl
  exact lv_lxor F.1 F.2.2.1 hd (k p l e R s m args below meth c H locs cells slots A ad ac D lsC F Wr hc hs hl)
theorem q_lushr {x : Int64} {y_ : Int32} (hd : decode y.2.1 pc = .ok (.lushr, 1))
    (k : WQ d y (pc + 1) ls (.long ((x.toUInt64 >>> (y_.toInt64.toUInt64 &&& Int64.toUInt64 63)).toInt64) :: st) σ Q) : WQ d y pc ls (.int y_ :: .long x :: st) σ Q := by
  intro p l e R s m args below meth c H locs cells slots A ad ac D lsC F Wr hc hs hl
  exact lv_lushr F.1 F.2.2.1 hd rfl (k p l e R s m args below meth c H locs cells slots A ad ac D lsC F Wr hc hs hl)
theorem q_lshl {x : Int64} {y_ : Int32} (hd : decode y.2.1 pc = .ok (.lshl, 1))
    (k : WQ d y (pc + 1) ls (.long (x <<< (y_.toInt64 &&& 63)) :: st) σ Q) : WQ d y pc ls (.int y_ :: .long x :: st) σ Q := by
  intro p l e R s m args below meth c H locs cells slots A ad ac D lsC F Wr hc hs hl
  exact lv_lshl F.1 F.2.2.1 hd rfl (k p l e R s m args below meth c H locs cells slots A ad ac D lsC F Wr hc hs hl)
theorem q_lshr {x : Int64} {y_ : Int32} (hd : decode y.2.1 pc = .ok (.lshr, 1))
    (k : WQ d y (pc + 1) ls (.long (x >>> (y_.toInt64 &&& 63)) :: st) σ Q) : WQ d y pc ls (.int y_ :: .long x :: st) σ Q := by
  intro p l e R s m args below meth c H locs cells slots A ad ac D lsC F Wr hc hs hl
  exact lv_lshr F.1 F.2.2.1 hd rfl (k p l e R s m args below meth c H locs cells slots A ad ac D lsC F Wr hc hs hl)
theorem q_i2l {x : Int32} (hd : decode y.2.1 pc = .ok (.i2l, 1))
    (k : WQ d y (pc + 1) ls (.long x.toInt64 :: st) σ Q) : WQ d y pc ls (.int x :: st) σ Q := by
  intro p l e R s m args below meth c H locs cells slots A ad ac D lsC F Wr hc hs hl
  exact lv_i2l F.1 F.2.2.1 hd rfl (k p l e R s m args below meth c H locs cells slots A ad ac D lsC F Wr hc hs hl)
theorem q_l2i {x : Int64} (hd : decode y.2.1 pc = .ok (.l2i, 1))
    (k : WQ d y (pc + 1) ls (.int x.toInt32 :: st) σ Q) : WQ d y pc ls (.long x :: st) σ Q := by
  intro p l e R s m args below meth c H locs cells slots A ad ac D lsC F Wr hc hs hl
  exact lv_l2i F.1 F.2.2.1 hd rfl (k p l e R s m args below meth c H locs cells slots A ad ac D lsC F Wr hc hs hl)
theorem q_i2b {x : Int32} (hd : decode y.2.1 pc = .ok (.i2b, 1))
    (k : WQ d y (pc + 1) ls (.int x.toInt8.toInt32 :: st) σ Q) : WQ d y pc ls (.int x :: st) σ Q := by
  intro p l e R s m args below meth c H locs cells slots A ad ac D lsC F Wr hc hs hl
  exact lv_i2b F.1 F.2.2.1 hd rfl (k p l e R s m args below meth c H locs cells slots A ad ac D lsC F Wr hc hs hl)
theorem q_i2c {x : Int32} (hd : decode y.2.1 pc = .ok (.i2c, 1))
    (k : WQ d y (pc + 1) ls (.int (x.toUInt32 % 65536).toInt32 :: st) σ Q) : WQ d y pc ls (.int x :: st) σ Q := by
  intro p l e R s m args below meth c H locs cells slots A ad ac D lsC F Wr hc hs hl
  exact lv_i2c F.1 F.2.2.1 hd rfl (k p l e R s m args below meth c H locs cells slots A ad ac D lsC F Wr hc hs hl)
theorem q_iconst {n : Int} {v : Int32} (hd : decode y.2.1 pc = .ok (.iconst n, 1)) (hv : Int32.ofInt n = v)
    (k : WQ d y (pc + 1) ls (.int v :: st) σ Q) : WQ d y pc ls st σ Q := by
  intro p l e R s m args below meth c H locs cells slots A ad ac D lsC F Wr hc hs hl
  exact lv_iconst F.1 F.2.2.1 hd hv (k p l e R s m args below meth c H locs cells slots A ad ac D lsC F Wr hc hs hl)
theorem q_bipush {n : Int} {v : Int32} (hd : decode y.2.1 pc = .ok (.bipush n, 2)) (hv : (Int8.ofInt n).toInt32 = v)
    (k : WQ d y (pc + 2) ls (.int v :: st) σ Q) : WQ d y pc ls st σ Q := by
  intro p l e R s m args below meth c H locs cells slots A ad ac D lsC F Wr hc hs hl
  exact lv_bipush F.1 F.2.2.1 hd hv (k p l e R s m args below meth c H locs cells slots A ad ac D lsC F Wr hc hs hl)
theorem q_sipush {n : Int} {v : Int32} (hd : decode y.2.1 pc = .ok (.sipush n, 3)) (hv : (Int16.ofInt n).toInt32 = v)
    (k : WQ d y (pc + 3) ls (.int v :: st) σ Q) : WQ d y pc ls st σ Q := by
  intro p l e R s m args below meth c H locs cells slots A ad ac D lsC F Wr hc hs hl
  exact lv_sipush F.1 F.2.2.1 hd hv (k p l e R s m args below meth c H locs cells slots A ad ac D lsC F Wr hc hs hl)
theorem q_lconst {n : Fin 2} {v : Int64} (hd : decode y.2.1 pc = .ok (.lconst n, 1)) (hv : Int64.ofNat (n : Nat) = v)
    (k : WQ d y (pc + 1) ls (.long v :: st) σ Q) : WQ d y pc ls st σ Q := by
  intro p l e R s m args below meth c H locs cells slots A ad ac D lsC F Wr hc hs hl
  exact lv_lconst F.1 F.2.2.1 hd hv (k p l e R s m args below meth c H locs cells slots A ad ac D lsC F Wr hc hs hl)
theorem q_ldc2 {n : Nat} {v : Int64} (hd : decode y.2.1 pc = .ok (.ldc2_w n, 3)) (hw : Cond.constantLong y.1.cls n v ∈ lw_tbl)
    (k : WQ d y (pc + 3) ls (.long v :: st) σ Q) : WQ d y pc ls st σ Q := by
  intro p l e R s m args below meth c H locs cells slots A ad ac D lsC F Wr hc hs hl
  exact lv_ldc2 F.1 F.2.2.1 (own := y.1.cls) F.2.2.2.2.2.2.2.1 (F.2.2.2.2.2.2.2.2.2.1 _ hw rfl) hd (k p l e R s m args below meth c H locs cells slots A ad ac D lsC F Wr hc hs hl)
theorem q_ldc {n : Nat} {v : Int32} (hd : decode y.2.1 pc = .ok (.ldc n, 2)) (hw : Cond.constant y.1.cls n v ∈ lw_tbl)
    (k : WQ d y (pc + 2) ls (.int v :: st) σ Q) : WQ d y pc ls st σ Q := by
  intro p l e R s m args below meth c H locs cells slots A ad ac D lsC F Wr hc hs hl
  exact lv_ldc F.1 F.2.2.1 (own := y.1.cls) F.2.2.2.2.2.2.2.1 (F.2.2.2.2.2.2.2.2.2.1 _ hw rfl) hd (k p l e R s m args below meth c H locs cells slots A ad ac D lsC F Wr hc hs hl)
theorem q_iload_n {x : Int32} {n : Fin 4} (hd : decode y.2.1 pc = .ok (.iload_n n, 1)) (hv : ls[(n : Nat)]? = some (some (.int x)))
    (k : WQ d y (pc + 1) ls (.int x :: st) σ Q) : WQ d y pc ls st σ Q := by
  intro p l e R s m args below meth c H locs cells slots A ad ac D lsC F Wr hc hs hl
  exact lv_iload_n F.1 F.2.2.1 hd rfl (hl.2.2 _ _ hv) (k p l e R s m args below meth c H locs cells slots A ad ac D lsC F Wr hc hs hl)
theorem q_iload {x : Int32} {n : Nat} (hd : decode y.2.1 pc = .ok (.iload n, 2)) (hv : ls[n]? = some (some (.int x)))
    (k : WQ d y (pc + 2) ls (.int x :: st) σ Q) : WQ d y pc ls st σ Q := by
  intro p l e R s m args below meth c H locs cells slots A ad ac D lsC F Wr hc hs hl
  exact lv_iload F.1 F.2.2.1 hd (hl.2.2 _ _ hv) (k p l e R s m args below meth c H locs cells slots A ad ac D lsC F Wr hc hs hl)
theorem q_lload_n {x : Int64} {n : Fin 4} (hd : decode y.2.1 pc = .ok (.lload_n n, 1)) (hv : ls[(n : Nat)]? = some (some (.long x)))
    (k : WQ d y (pc + 1) ls (.long x :: st) σ Q) : WQ d y pc ls st σ Q := by
  intro p l e R s m args below meth c H locs cells slots A ad ac D lsC F Wr hc hs hl
  exact lv_lload_n F.1 F.2.2.1 hd rfl (hl.2.2 _ _ hv) (k p l e R s m args below meth c H locs cells slots A ad ac D lsC F Wr hc hs hl)
theorem q_lload {x : Int64} {n : Nat} (hd : decode y.2.1 pc = .ok (.lload n, 2)) (hv : ls[n]? = some (some (.long x)))
    (k : WQ d y (pc + 2) ls (.long x :: st) σ Q) : WQ d y pc ls st σ Q := by
  intro p l e R s m args below meth c H locs cells slots A ad ac D lsC F Wr hc hs hl
  exact lv_lload F.1 F.2.2.1 hd (hl.2.2 _ _ hv) (k p l e R s m args below meth c H locs cells slots A ad ac D lsC F Wr hc hs hl)
theorem q_aload_n {x : Nat} {n : Fin 4} (hd : decode y.2.1 pc = .ok (.aload_n n, 1)) (hv : ls[(n : Nat)]? = some (some (.ref x)))
    (k : WQ d y (pc + 1) ls (.ref x :: st) σ Q) : WQ d y pc ls st σ Q := by
  intro p l e R s m args below meth c H locs cells slots A ad ac D lsC F Wr hc hs hl
  exact lv_aload_n F.1 F.2.2.1 hd rfl (hl.2.2 _ _ hv) (k p l e R s m args below meth c H locs cells slots A ad ac D lsC F Wr hc hs hl)
theorem q_aload {x : Nat} {n : Nat} (hd : decode y.2.1 pc = .ok (.aload n, 2)) (hv : ls[n]? = some (some (.ref x)))
    (k : WQ d y (pc + 2) ls (.ref x :: st) σ Q) : WQ d y pc ls st σ Q := by
  intro p l e R s m args below meth c H locs cells slots A ad ac D lsC F Wr hc hs hl
  exact lv_aload F.1 F.2.2.1 hd (hl.2.2 _ _ hv) (k p l e R s m args below meth c H locs cells slots A ad ac D lsC F Wr hc hs hl)
theorem q_dup {a : Value} (hd : decode y.2.1 pc = .ok (.dup, 1)) (ha : a.category = 1)
    (k : WQ d y (pc + 1) ls (a :: a :: st) σ Q) : WQ d y pc ls (a :: st) σ Q := by
  intro p l e R s m args below meth c H locs cells slots A ad ac D lsC F Wr hc hs hl
  exact lv_dup F.1 F.2.2.1 hd (by rw [cv_cat]; exact ha) (k p l e R s m args below meth c H locs cells slots A ad ac D lsC F Wr hc hs hl)
theorem q_pop {a : Value} (hd : decode y.2.1 pc = .ok (.pop, 1)) (ha : a.category = 1)
    (k : WQ d y (pc + 1) ls st σ Q) : WQ d y pc ls (a :: st) σ Q := by
  intro p l e R s m args below meth c H locs cells slots A ad ac D lsC F Wr hc hs hl
  exact lv_pop F.1 F.2.2.1 hd (by rw [cv_cat]; exact ha) (k p l e R s m args below meth c H locs cells slots A ad ac D lsC F Wr hc hs hl)
theorem q_dup_x1 {a b : Value} (hd : decode y.2.1 pc = .ok (.dup_x1, 1)) (ha : a.category = 1) (hb : b.category = 1)
    (k : WQ d y (pc + 1) ls (a :: b :: a :: st) σ Q) : WQ d y pc ls (a :: b :: st) σ Q := by
  intro p l e R s m args below meth c H locs cells slots A ad ac D lsC F Wr hc hs hl
  exact lv_dup_x1 F.1 F.2.2.1 hd (by rw [cv_cat]; exact ha) (by rw [cv_cat]; exact hb) (k p l e R s m args below meth c H locs cells slots A ad ac D lsC F Wr hc hs hl)
theorem q_dup2 {a b : Value} (hd : decode y.2.1 pc = .ok (.dup2, 1)) (ha : a.category = 1) (hb : b.category = 1)
    (k : WQ d y (pc + 1) ls (a :: b :: a :: b :: st) σ Q) : WQ d y pc ls (a :: b :: st) σ Q := by
  intro p l e R s m args below meth c H locs cells slots A ad ac D lsC F Wr hc hs hl
  exact lv_dup2_11 F.1 F.2.2.1 hd (by rw [cv_cat]; exact ha) (by rw [cv_cat]; exact hb) (k p l e R s m args below meth c H locs cells slots A ad ac D lsC F Wr hc hs hl)
theorem q_icmp_eq {x y_ : Int32} {off : Int} (tgt : Nat) (hd : decode y.2.1 pc = .ok (.if_icmp .eq off, 3)) (ht : (pc : Int) + off = (tgt : Int))
    (kt : x = y_ → WQ d y tgt ls st σ Q) (kf : ¬ (x = y_) → WQ d y (pc + 3) ls st σ Q) : WQ d y pc ls (.int y_ :: .int x :: st) σ Q := by
  intro p l e R s m args below meth c H locs cells slots A ad ac D lsC F Wr hc hs hl
  exact lv_icmp_eq F.1 F.2.2.1 hd ht (fun z => kt z p l e R s m args below meth c H locs cells slots A ad ac D lsC F Wr hc hs hl) (fun z => kf z p l e R s m args below meth c H locs cells slots A ad ac D lsC F Wr hc hs hl)
theorem q_if_eq {x : Int32} {off : Int} (tgt : Nat) (hd : decode y.2.1 pc = .ok (.ifCond .eq off, 3)) (ht : (pc : Int) + off = (tgt : Int))
    (kt : x = 0 → WQ d y tgt ls st σ Q) (kf : ¬ (x = 0) → WQ d y (pc + 3) ls st σ Q) : WQ d y pc ls (.int x :: st) σ Q := by
  intro p l e R s m args below meth c H locs cells slots A ad ac D lsC F Wr hc hs hl
  exact lv_if_eq F.1 F.2.2.1 hd ht (fun z => kt z p l e R s m args below meth c H locs cells slots A ad ac D lsC F Wr hc hs hl) (fun z => kf z p l e R s m args below meth c H locs cells slots A ad ac D lsC F Wr hc hs hl)
theorem q_icmp_ne {x y_ : Int32} {off : Int} (tgt : Nat) (hd : decode y.2.1 pc = .ok (.if_icmp .ne off, 3)) (ht : (pc : Int) + off = (tgt : Int))
    (kt : x ≠ y_ → WQ d y tgt ls st σ Q) (kf : x = y_ → WQ d y (pc + 3) ls st σ Q) : WQ d y pc ls (.int y_ :: .int x :: st) σ Q := by
  intro p l e R s m args below meth c H locs cells slots A ad ac D lsC F Wr hc hs hl
  exact lv_icmp_ne F.1 F.2.2.1 hd ht (fun z => kt z p l e R s m args below meth c H locs cells slots A ad ac D lsC F Wr hc hs hl) (fun z => kf z p l e R s m args below meth c H locs cells slots A ad ac D lsC F Wr hc hs hl)
theorem q_if_ne {x : Int32} {off : Int} (tgt : Nat) (hd : decode y.2.1 pc = .ok (.ifCond .ne off, 3)) (ht : (pc : Int) + off = (tgt : Int))
    (kt : x ≠ 0 → WQ d y tgt ls st σ Q) (kf : x = 0 → WQ d y (pc + 3) ls st σ Q) : WQ d y pc ls (.int x :: st) σ Q := by
  intro p l e R s m args below meth c H locs cells slots A ad ac D lsC F Wr hc hs hl
  exact lv_if_ne F.1 F.2.2.1 hd ht (fun z => kt z p l e R s m args below meth c H locs cells slots A ad ac D lsC F Wr hc hs hl) (fun z => kf z p l e R s m args below meth c H locs cells slots A ad ac D lsC F Wr hc hs hl)
theorem q_icmp_lt {x y_ : Int32} {off : Int} (tgt : Nat) (hd : decode y.2.1 pc = .ok (.if_icmp .lt off, 3)) (ht : (pc : Int) + off = (tgt : Int))
    (kt : x < y_ → WQ d y tgt ls st σ Q) (kf : ¬ (x < y_) → WQ d y (pc + 3) ls st σ Q) : WQ d y pc ls (.int y_ :: .int x :: st) σ Q := by
  intro p l e R s m args below meth c H locs cells slots A ad ac D lsC F Wr hc hs hl
  exact lv_icmp_lt F.1 F.2.2.1 hd ht (fun z => kt z p l e R s m args below meth c H locs cells slots A ad ac D lsC F Wr hc hs hl) (fun z => kf z p l e R s m args below meth c H locs cells slots A ad ac D lsC F Wr hc hs hl)
theorem q_if_lt {x : Int32} {off : Int} (tgt : Nat) (hd : decode y.2.1 pc = .ok (.ifCond .lt off, 3)) (ht : (pc : Int) + off = (tgt : Int))
    (kt : x < 0 → WQ d y tgt ls st σ Q) (kf : ¬ (x < 0) → WQ d y (pc + 3) ls st σ Q) : WQ d y pc ls (.int x :: st) σ Q := by
  intro p l e R s m args below meth c H locs cells slots A ad ac D lsC F Wr hc hs hl
  exact lv_if_lt F.1 F.2.2.1 hd ht (fun z => kt z p l e R s m args below meth c H locs cells slots A ad ac D lsC F Wr hc hs hl) (fun z => kf z p l e R s m args below meth c H locs cells slots A ad ac D lsC F Wr hc hs hl)
theorem q_icmp_ge {x y_ : Int32} {off : Int} (tgt : Nat) (hd : decode y.2.1 pc = .ok (.if_icmp .ge off, 3)) (ht : (pc : Int) + off = (tgt : Int))
    (kt : y_ ≤ x → WQ d y tgt ls st σ Q) (kf : ¬ (y_ ≤ x) → WQ d y (pc + 3) ls st σ Q) : WQ d y pc ls (.int y_ :: .int x :: st) σ Q := by
  intro p l e R s m args below meth c H locs cells slots A ad ac D lsC F Wr hc hs hl
  exact lv_icmp_ge F.1 F.2.2.1 hd ht (fun z => kt z p l e R s m args below meth c H locs cells slots A ad ac D lsC F Wr hc hs hl) (fun z => kf z p l e R s m args below meth c H locs cells slots A ad ac D lsC F Wr hc hs hl)
theorem q_if_ge {x : Int32} {off : Int} (tgt : Nat) (hd : decode y.2.1 pc = .ok (.ifCond .ge off, 3)) (ht : (pc : Int) + off = (tgt : Int))
    (kt : 0 ≤ x → WQ d y tgt ls st σ Q) (kf : ¬ (0 ≤ x) → WQ d y (pc + 3) ls st σ Q) : WQ d y pc ls (.int x :: st) σ Q := by
  intro p l e R s m args below meth c H locs cells slots A ad ac D lsC F Wr hc hs hl
  exact lv_if_ge F.1 F.2.2.1 hd ht (fun z => kt z p l e R s m args below meth c H locs cells slots A ad ac D lsC F Wr hc hs hl) (fun z => kf z p l e R s m args below meth c H locs cells slots A ad ac D lsC F Wr hc hs hl)
theorem q_icmp_gt {x y_ : Int32} {off : Int} (tgt : Nat) (hd : decode y.2.1 pc = .ok (.if_icmp .gt off, 3)) (ht : (pc : Int) + off = (tgt : Int))
    (kt : y_ < x → WQ d y tgt ls st σ Q) (kf : ¬ (y_ < x) → WQ d y (pc + 3) ls st σ Q) : WQ d y pc ls (.int y_ :: .int x :: st) σ Q := by
  intro p l e R s m args below meth c H locs cells slots A ad ac D lsC F Wr hc hs hl
  exact lv_icmp_gt F.1 F.2.2.1 hd ht (fun z => kt z p l e R s m args below meth c H locs cells slots A ad ac D lsC F Wr hc hs hl) (fun z => kf z p l e R s m args below meth c H locs cells slots A ad ac D lsC F Wr hc hs hl)
theorem q_if_gt {x : Int32} {off : Int} (tgt : Nat) (hd : decode y.2.1 pc = .ok (.ifCond .gt off, 3)) (ht : (pc : Int) + off = (tgt : Int))
    (kt : 0 < x → WQ d y tgt ls st σ Q) (kf : ¬ (0 < x) → WQ d y (pc + 3) ls st σ Q) : WQ d y pc ls (.int x :: st) σ Q := by
  intro p l e R s m args below meth c H locs cells slots A ad ac D lsC F Wr hc hs hl
  exact lv_if_gt F.1 F.2.2.1 hd ht (fun z => kt z p l e R s m args below meth c H locs cells slots A ad ac D lsC F Wr hc hs hl) (fun z => kf z p l e R s m args below meth c H locs cells slots A ad ac D lsC F Wr hc hs hl)
theorem q_icmp_le {x y_ : Int32} {off : Int} (tgt : Nat) (hd : decode y.2.1 pc = .ok (.if_icmp .le off, 3)) (ht : (pc : Int) + off = (tgt : Int))
    (kt : x ≤ y_ → WQ d y tgt ls st σ Q) (kf : ¬ (x ≤ y_) → WQ d y (pc + 3) ls st σ Q) : WQ d y pc ls (.int y_ :: .int x :: st) σ Q := by
  intro p l e R s m args below meth c H locs cells slots A ad ac D lsC F Wr hc hs hl
  exact lv_icmp_le F.1 F.2.2.1 hd ht (fun z => kt z p l e R s m args below meth c H locs cells slots A ad ac D lsC F Wr hc hs hl) (fun z => kf z p l e R s m args below meth c H locs cells slots A ad ac D lsC F Wr hc hs hl)
theorem q_if_le {x : Int32} {off : Int} (tgt : Nat) (hd : decode y.2.1 pc = .ok (.ifCond .le off, 3)) (ht : (pc : Int) + off = (tgt : Int))
    (kt : x ≤ 0 → WQ d y tgt ls st σ Q) (kf : ¬ (x ≤ 0) → WQ d y (pc + 3) ls st σ Q) : WQ d y pc ls (.int x :: st) σ Q := by
  intro p l e R s m args below meth c H locs cells slots A ad ac D lsC F Wr hc hs hl
  exact lv_if_le F.1 F.2.2.1 hd ht (fun z => kt z p l e R s m args below meth c H locs cells slots A ad ac D lsC F Wr hc hs hl) (fun z => kf z p l e R s m args below meth c H locs cells slots A ad ac D lsC F Wr hc hs hl)
theorem q_goto {off : Int} (tgt : Nat) (hd : decode y.2.1 pc = .ok (.goto off, 3)) (ht : (pc : Int) + off = (tgt : Int))
    (k : WQ d y tgt ls st σ Q) : WQ d y pc ls st σ Q := by
  intro p l e R s m args below meth c H locs cells slots A ad ac D lsC F Wr hc hs hl
  exact lv_goto F.1 F.2.2.1 hd ht (k p l e R s m args below meth c H locs cells slots A ad ac D lsC F Wr hc hs hl)
theorem q_table {dflt lo hi : Int} {offs : Array Int} {len : Nat} {x : Int32} (hd : decode y.2.1 pc = .ok (.tableswitch dflt lo hi offs, len)) (off : Int) (tgt : Nat) (h1 : ¬ x.toInt < lo) (h2 : ¬ hi < x.toInt) (ho : offs[(x.toInt - lo).toNat]? = some off) (ht : (pc : Int) + off = (tgt : Int))
    (k : WQ d y tgt ls st σ Q) : WQ d y pc ls (.int x :: st) σ Q := by
  intro p l e R s m args below meth c H locs cells slots A ad ac D lsC F Wr hc hs hl
  exact lv_tableIn F.1 F.2.2.1 hd h1 h2 ho ht (k p l e R s m args below meth c H locs cells slots A ad ac D lsC F Wr hc hs hl)
theorem q_tableO {dflt lo hi : Int} {offs : Array Int} {len : Nat} {x : Int32} (hd : decode y.2.1 pc = .ok (.tableswitch dflt lo hi offs, len)) (tgt : Nat) (h : x.toInt < lo ∨ hi < x.toInt) (ht : (pc : Int) + dflt = (tgt : Int))
    (k : WQ d y tgt ls st σ Q) : WQ d y pc ls (.int x :: st) σ Q := by
  intro p l e R s m args below meth c H locs cells slots A ad ac D lsC F Wr hc hs hl
  exact lv_tableOut F.1 F.2.2.1 hd h ht (k p l e R s m args below meth c H locs cells slots A ad ac D lsC F Wr hc hs hl)
theorem q_lookup {dflt : Int} {ps : Array (Int × Int)} {len : Nat} {x : Int32} (hd : decode y.2.1 pc = .ok (.lookupswitch dflt ps, len)) (hp : (ps.toList.zip (ps.toList.drop 1)).all (fun (a, next) => a.1 < next.1) = true) (off : Int) (tgt : Nat) (ho : Op.lookupswitch.offset ps.toList dflt x.toInt = off) (ht : (pc : Int) + off = (tgt : Int))
    (k : WQ d y tgt ls st σ Q) : WQ d y pc ls (.int x :: st) σ Q := by
  intro p l e R s m args below meth c H locs cells slots A ad ac D lsC F Wr hc hs hl
  exact lv_lookup F.1 F.2.2.1 hd hp ho ht (k p l e R s m args below meth c H locs cells slots A ad ac D lsC F Wr hc hs hl)
theorem q_lcmp {x y_ : Int64} (hd : decode y.2.1 pc = .ok (.lcmp, 1))
    (k : WQ d y (pc + 1) ls (.int (lg_cmp x y_) :: st) σ Q) : WQ d y pc ls (.long y_ :: .long x :: st) σ Q := by
  intro p l e R s m args below meth c H locs cells slots A ad ac D lsC F Wr hc hs hl
  exact W.lcmp F.1 F.2.2.1 hd (k p l e R s m args below meth c H locs cells slots A ad ac D lsC F Wr hc hs hl)
end QR
