-- decoding by encoding
def byAt (b : ByteArray) (p x : Nat) : Prop := ∃ h : p < b.size, b[p].toNat = x
theorem u1_at {b : ByteArray} {p x : Nat} (h : byAt b p x) : (Reader.u1 : Decoder Nat) b p = .ok (x, p + 1) := by
  obtain ⟨h, rfl⟩ := h
  unfold Reader.u1
  show (dite (p < b.size) _ _ : Decoder Nat) b p = _
  rw [dif_pos h]
  rfl
theorem rd2_at {b : ByteArray} {p x y : Nat} (h : byAt b p x) (h2 : byAt b (p + 1) y) : (Reader.u2 : Decoder Nat) b p = .ok (x * 256 + y, p + 2) := by
  unfold Reader.u2
  show Except.bind ((Reader.u1 : Decoder Nat) b p) _ = _
  rw [u1_at h]
  show Except.bind ((Reader.u1 : Decoder Nat) b (p + 1)) _ = _
  rw [u1_at h2]
  rfl
theorem dec_bind {b : ByteArray} {pc x : Nat} (h0 : byAt b pc x) {f : Nat → Decoder Instr} (hf : Decoder.instr pc = (Reader.u1 >>= f)) {i : Instr} {len : Nat} (hi : f x b (pc + 1) = .ok (i, pc + len)) : decode b pc = .ok (i, len) := by
  unfold decode
  rw [hf]
  show Except.bind (Except.bind ((Reader.u1 : Decoder Nat) b pc) (fun q => f q.1 b q.2)) _ = _
  rw [u1_at h0]
  show Except.bind (f x b (pc + 1)) _ = _
  rw [hi]
  show Except.ok (i, pc + len - pc) = _
  rw [Nat.add_sub_cancel_left]
theorem bnd1 {α : Type} {b : ByteArray} {p x : Nat} (h : byAt b p x) (g : Nat → Decoder α) : ((Reader.u1 : Decoder Nat) >>= g) b p = g x b (p + 1) := by
  show Except.bind ((Reader.u1 : Decoder Nat) b p) (fun q => g q.1 b q.2) = _
  rw [u1_at h]; rfl
theorem bnd2 {α : Type} {b : ByteArray} {p x y : Nat} (h : byAt b p x) (h2 : byAt b (p + 1) y) (g : Nat → Decoder α) : ((Reader.u2 : Decoder Nat) >>= g) b p = g (x * 256 + y) b (p + 2) := by
  show Except.bind ((Reader.u2 : Decoder Nat) b p) (fun q => g q.1 b q.2) = _
  rw [rd2_at h h2]; rfl
theorem bns1 {α : Type} {b : ByteArray} {p x : Nat} (h : byAt b p x) (g : Int → Decoder α) : ((Reader.s1 : Decoder Int) >>= g) b p = g (Reader.signed 8 x) b (p + 1) := by
  show Except.bind ((Reader.s1 : Decoder Int) b p) (fun q => g q.1 b q.2) = _
  have : (Reader.s1 : Decoder Int) b p = .ok (Reader.signed 8 x, p + 1) := by
    unfold Reader.s1
    show Except.bind ((Reader.u1 : Decoder Nat) b p) _ = _
    rw [u1_at h]; rfl
  rw [this]; rfl
theorem bns2 {α : Type} {b : ByteArray} {p x y : Nat} (h : byAt b p x) (h2 : byAt b (p + 1) y) (g : Int → Decoder α) : ((Reader.s2 : Decoder Int) >>= g) b p = g (Reader.signed 16 (x * 256 + y)) b (p + 2) := by
  show Except.bind ((Reader.s2 : Decoder Int) b p) (fun q => g q.1 b q.2) = _
  have : (Reader.s2 : Decoder Int) b p = .ok (Reader.signed 16 (x * 256 + y), p + 2) := by
    unfold Reader.s2
    show Except.bind ((Reader.u2 : Decoder Nat) b p) _ = _
    rw [rd2_at h h2]; rfl
  rw [this]; rfl
theorem e_aconst_null {b : ByteArray} {pc : Nat} (h0 : byAt b pc 1) : decode b pc = .ok (.aconst_null, 1) := dec_bind h0 rfl rfl
theorem e_iaload {b : ByteArray} {pc : Nat} (h0 : byAt b pc 46) : decode b pc = .ok (.iaload, 1) := dec_bind h0 rfl rfl
theorem e_laload {b : ByteArray} {pc : Nat} (h0 : byAt b pc 47) : decode b pc = .ok (.laload, 1) := dec_bind h0 rfl rfl
theorem e_baload {b : ByteArray} {pc : Nat} (h0 : byAt b pc 51) : decode b pc = .ok (.baload, 1) := dec_bind h0 rfl rfl
theorem e_iastore {b : ByteArray} {pc : Nat} (h0 : byAt b pc 79) : decode b pc = .ok (.iastore, 1) := dec_bind h0 rfl rfl
theorem e_lastore {b : ByteArray} {pc : Nat} (h0 : byAt b pc 80) : decode b pc = .ok (.lastore, 1) := dec_bind h0 rfl rfl
theorem e_bastore {b : ByteArray} {pc : Nat} (h0 : byAt b pc 84) : decode b pc = .ok (.bastore, 1) := dec_bind h0 rfl rfl
theorem e_pop {b : ByteArray} {pc : Nat} (h0 : byAt b pc 87) : decode b pc = .ok (.pop, 1) := dec_bind h0 rfl rfl
theorem e_dup {b : ByteArray} {pc : Nat} (h0 : byAt b pc 89) : decode b pc = .ok (.dup, 1) := dec_bind h0 rfl rfl
theorem e_dup_x1 {b : ByteArray} {pc : Nat} (h0 : byAt b pc 90) : decode b pc = .ok (.dup_x1, 1) := dec_bind h0 rfl rfl
theorem e_dup_x2 {b : ByteArray} {pc : Nat} (h0 : byAt b pc 91) : decode b pc = .ok (.dup_x2, 1) := dec_bind h0 rfl rfl
theorem e_dup2 {b : ByteArray} {pc : Nat} (h0 : byAt b pc 92) : decode b pc = .ok (.dup2, 1) := dec_bind h0 rfl rfl
theorem e_iadd {b : ByteArray} {pc : Nat} (h0 : byAt b pc 96) : decode b pc = .ok (.iadd, 1) := dec_bind h0 rfl rfl
theorem e_ladd {b : ByteArray} {pc : Nat} (h0 : byAt b pc 97) : decode b pc = .ok (.ladd, 1) := dec_bind h0 rfl rfl
theorem e_isub {b : ByteArray} {pc : Nat} (h0 : byAt b pc 100) : decode b pc = .ok (.isub, 1) := dec_bind h0 rfl rfl
theorem e_lsub {b : ByteArray} {pc : Nat} (h0 : byAt b pc 101) : decode b pc = .ok (.lsub, 1) := dec_bind h0 rfl rfl
theorem e_imul {b : ByteArray} {pc : Nat} (h0 : byAt b pc 104) : decode b pc = .ok (.imul, 1) := dec_bind h0 rfl rfl
theorem e_lmul {b : ByteArray} {pc : Nat} (h0 : byAt b pc 105) : decode b pc = .ok (.lmul, 1) := dec_bind h0 rfl rfl
theorem e_idiv {b : ByteArray} {pc : Nat} (h0 : byAt b pc 108) : decode b pc = .ok (.idiv, 1) := dec_bind h0 rfl rfl
theorem e_irem {b : ByteArray} {pc : Nat} (h0 : byAt b pc 112) : decode b pc = .ok (.irem, 1) := dec_bind h0 rfl rfl
theorem e_ineg {b : ByteArray} {pc : Nat} (h0 : byAt b pc 116) : decode b pc = .ok (.ineg, 1) := dec_bind h0 rfl rfl
theorem e_lneg {b : ByteArray} {pc : Nat} (h0 : byAt b pc 117) : decode b pc = .ok (.lneg, 1) := dec_bind h0 rfl rfl
theorem e_ishl {b : ByteArray} {pc : Nat} (h0 : byAt b pc 120) : decode b pc = .ok (.ishl, 1) := dec_bind h0 rfl rfl
theorem e_lshl {b : ByteArray} {pc : Nat} (h0 : byAt b pc 121) : decode b pc = .ok (.lshl, 1) := dec_bind h0 rfl rfl
theorem e_ishr {b : ByteArray} {pc : Nat} (h0 : byAt b pc 122) : decode b pc = .ok (.ishr, 1) := dec_bind h0 rfl rfl
theorem e_lshr {b : ByteArray} {pc : Nat} (h0 : byAt b pc 123) : decode b pc = .ok (.lshr, 1) := dec_bind h0 rfl rfl
theorem e_iushr {b : ByteArray} {pc : Nat} (h0 : byAt b pc 124) : decode b pc = .ok (.iushr, 1) := dec_bind h0 rfl rfl
theorem e_lushr {b : ByteArray} {pc : Nat} (h0 : byAt b pc 125) : decode b pc = .ok (.lushr, 1) := dec_bind h0 rfl rfl
theorem e_iand {b : ByteArray} {pc : Nat} (h0 : byAt b pc 126) : decode b pc = .ok (.iand, 1) := dec_bind h0 rfl rfl
theorem e_land {b : ByteArray} {pc : Nat} (h0 : byAt b pc 127) : decode b pc = .ok (.land, 1) := dec_bind h0 rfl rfl
theorem e_ior {b : ByteArray} {pc : Nat} (h0 : byAt b pc 128) : decode b pc = .ok (.ior, 1) := dec_bind h0 rfl rfl
theorem e_lor {b : ByteArray} {pc : Nat} (h0 : byAt b pc 129) : decode b pc = .ok (.lor, 1) := dec_bind h0 rfl rfl
theorem e_ixor {b : ByteArray} {pc : Nat} (h0 : byAt b pc 130) : decode b pc = .ok (.ixor, 1) := dec_bind h0 rfl rfl
theorem e_lxor {b : ByteArray} {pc : Nat} (h0 : byAt b pc 131) : decode b pc = .ok (.lxor, 1) := dec_bind h0 rfl rfl
theorem e_i2l {b : ByteArray} {pc : Nat} (h0 : byAt b pc 133) : decode b pc = .ok (.i2l, 1) := dec_bind h0 rfl rfl
theorem e_l2i {b : ByteArray} {pc : Nat} (h0 : byAt b pc 136) : decode b pc = .ok (.l2i, 1) := dec_bind h0 rfl rfl
theorem e_i2b {b : ByteArray} {pc : Nat} (h0 : byAt b pc 145) : decode b pc = .ok (.i2b, 1) := dec_bind h0 rfl rfl
theorem e_i2c {b : ByteArray} {pc : Nat} (h0 : byAt b pc 146) : decode b pc = .ok (.i2c, 1) := dec_bind h0 rfl rfl
theorem e_lcmp {b : ByteArray} {pc : Nat} (h0 : byAt b pc 148) : decode b pc = .ok (.lcmp, 1) := dec_bind h0 rfl rfl
theorem e_ireturn {b : ByteArray} {pc : Nat} (h0 : byAt b pc 172) : decode b pc = .ok (.ireturn, 1) := dec_bind h0 rfl rfl
theorem e_lreturn {b : ByteArray} {pc : Nat} (h0 : byAt b pc 173) : decode b pc = .ok (.lreturn, 1) := dec_bind h0 rfl rfl
theorem e_areturn {b : ByteArray} {pc : Nat} (h0 : byAt b pc 176) : decode b pc = .ok (.areturn, 1) := dec_bind h0 rfl rfl
theorem e_return_ {b : ByteArray} {pc : Nat} (h0 : byAt b pc 177) : decode b pc = .ok (.return_, 1) := dec_bind h0 rfl rfl
theorem e_arraylength {b : ByteArray} {pc : Nat} (h0 : byAt b pc 190) : decode b pc = .ok (.arraylength, 1) := dec_bind h0 rfl rfl
theorem e_athrow {b : ByteArray} {pc : Nat} (h0 : byAt b pc 191) : decode b pc = .ok (.athrow, 1) := dec_bind h0 rfl rfl
theorem e_ldc {b : ByteArray} {pc : Nat} {x : Nat} (h0 : byAt b pc 18) (h1 : byAt b (pc + 1) x) : decode b pc = .ok (.ldc x, 2) := dec_bind h0 rfl (bnd1 h1 _)
theorem e_iload {b : ByteArray} {pc : Nat} {x : Nat} (h0 : byAt b pc 21) (h1 : byAt b (pc + 1) x) : decode b pc = .ok (.iload x, 2) := dec_bind h0 rfl (bnd1 h1 _)
theorem e_lload {b : ByteArray} {pc : Nat} {x : Nat} (h0 : byAt b pc 22) (h1 : byAt b (pc + 1) x) : decode b pc = .ok (.lload x, 2) := dec_bind h0 rfl (bnd1 h1 _)
theorem e_aload {b : ByteArray} {pc : Nat} {x : Nat} (h0 : byAt b pc 25) (h1 : byAt b (pc + 1) x) : decode b pc = .ok (.aload x, 2) := dec_bind h0 rfl (bnd1 h1 _)
theorem e_istore {b : ByteArray} {pc : Nat} {x : Nat} (h0 : byAt b pc 54) (h1 : byAt b (pc + 1) x) : decode b pc = .ok (.istore x, 2) := dec_bind h0 rfl (bnd1 h1 _)
theorem e_lstore {b : ByteArray} {pc : Nat} {x : Nat} (h0 : byAt b pc 55) (h1 : byAt b (pc + 1) x) : decode b pc = .ok (.lstore x, 2) := dec_bind h0 rfl (bnd1 h1 _)
theorem e_astore {b : ByteArray} {pc : Nat} {x : Nat} (h0 : byAt b pc 58) (h1 : byAt b (pc + 1) x) : decode b pc = .ok (.astore x, 2) := dec_bind h0 rfl (bnd1 h1 _)
theorem e_ldc_w {b : ByteArray} {pc : Nat} {x y : Nat} (h0 : byAt b pc 19) (h1 : byAt b (pc + 1) x) (h2 : byAt b (pc + 2) y) : decode b pc = .ok (.ldc_w (x * 256 + y), 3) := dec_bind h0 rfl (bnd2 h1 h2 _)
theorem e_ldc2_w {b : ByteArray} {pc : Nat} {x y : Nat} (h0 : byAt b pc 20) (h1 : byAt b (pc + 1) x) (h2 : byAt b (pc + 2) y) : decode b pc = .ok (.ldc2_w (x * 256 + y), 3) := dec_bind h0 rfl (bnd2 h1 h2 _)
theorem e_getstatic {b : ByteArray} {pc : Nat} {x y : Nat} (h0 : byAt b pc 178) (h1 : byAt b (pc + 1) x) (h2 : byAt b (pc + 2) y) : decode b pc = .ok (.getstatic (x * 256 + y), 3) := dec_bind h0 rfl (bnd2 h1 h2 _)
theorem e_getfield {b : ByteArray} {pc : Nat} {x y : Nat} (h0 : byAt b pc 180) (h1 : byAt b (pc + 1) x) (h2 : byAt b (pc + 2) y) : decode b pc = .ok (.getfield (x * 256 + y), 3) := dec_bind h0 rfl (bnd2 h1 h2 _)
theorem e_putfield {b : ByteArray} {pc : Nat} {x y : Nat} (h0 : byAt b pc 181) (h1 : byAt b (pc + 1) x) (h2 : byAt b (pc + 2) y) : decode b pc = .ok (.putfield (x * 256 + y), 3) := dec_bind h0 rfl (bnd2 h1 h2 _)
theorem e_invokevirtual {b : ByteArray} {pc : Nat} {x y : Nat} (h0 : byAt b pc 182) (h1 : byAt b (pc + 1) x) (h2 : byAt b (pc + 2) y) : decode b pc = .ok (.invokevirtual (x * 256 + y), 3) := dec_bind h0 rfl (bnd2 h1 h2 _)
theorem e_invokespecial {b : ByteArray} {pc : Nat} {x y : Nat} (h0 : byAt b pc 183) (h1 : byAt b (pc + 1) x) (h2 : byAt b (pc + 2) y) : decode b pc = .ok (.invokespecial (x * 256 + y), 3) := dec_bind h0 rfl (bnd2 h1 h2 _)
theorem e_invokestatic {b : ByteArray} {pc : Nat} {x y : Nat} (h0 : byAt b pc 184) (h1 : byAt b (pc + 1) x) (h2 : byAt b (pc + 2) y) : decode b pc = .ok (.invokestatic (x * 256 + y), 3) := dec_bind h0 rfl (bnd2 h1 h2 _)
theorem e_new {b : ByteArray} {pc : Nat} {x y : Nat} (h0 : byAt b pc 187) (h1 : byAt b (pc + 1) x) (h2 : byAt b (pc + 2) y) : decode b pc = .ok (.new (x * 256 + y), 3) := dec_bind h0 rfl (bnd2 h1 h2 _)
theorem e_iload_n0 {b : ByteArray} {pc : Nat} (h0 : byAt b pc 26) : decode b pc = .ok (.iload_n 0, 1) := dec_bind h0 rfl rfl
theorem e_iload_n1 {b : ByteArray} {pc : Nat} (h0 : byAt b pc 27) : decode b pc = .ok (.iload_n 1, 1) := dec_bind h0 rfl rfl
theorem e_iload_n2 {b : ByteArray} {pc : Nat} (h0 : byAt b pc 28) : decode b pc = .ok (.iload_n 2, 1) := dec_bind h0 rfl rfl
theorem e_iload_n3 {b : ByteArray} {pc : Nat} (h0 : byAt b pc 29) : decode b pc = .ok (.iload_n 3, 1) := dec_bind h0 rfl rfl
theorem e_lload_n0 {b : ByteArray} {pc : Nat} (h0 : byAt b pc 30) : decode b pc = .ok (.lload_n 0, 1) := dec_bind h0 rfl rfl
theorem e_lload_n1 {b : ByteArray} {pc : Nat} (h0 : byAt b pc 31) : decode b pc = .ok (.lload_n 1, 1) := dec_bind h0 rfl rfl
theorem e_lload_n2 {b : ByteArray} {pc : Nat} (h0 : byAt b pc 32) : decode b pc = .ok (.lload_n 2, 1) := dec_bind h0 rfl rfl
theorem e_lload_n3 {b : ByteArray} {pc : Nat} (h0 : byAt b pc 33) : decode b pc = .ok (.lload_n 3, 1) := dec_bind h0 rfl rfl
theorem e_aload_n0 {b : ByteArray} {pc : Nat} (h0 : byAt b pc 42) : decode b pc = .ok (.aload_n 0, 1) := dec_bind h0 rfl rfl
theorem e_aload_n1 {b : ByteArray} {pc : Nat} (h0 : byAt b pc 43) : decode b pc = .ok (.aload_n 1, 1) := dec_bind h0 rfl rfl
theorem e_aload_n2 {b : ByteArray} {pc : Nat} (h0 : byAt b pc 44) : decode b pc = .ok (.aload_n 2, 1) := dec_bind h0 rfl rfl
theorem e_aload_n3 {b : ByteArray} {pc : Nat} (h0 : byAt b pc 45) : decode b pc = .ok (.aload_n 3, 1) := dec_bind h0 rfl rfl
theorem e_istore_n0 {b : ByteArray} {pc : Nat} (h0 : byAt b pc 59) : decode b pc = .ok (.istore_n 0, 1) := dec_bind h0 rfl rfl
theorem e_istore_n1 {b : ByteArray} {pc : Nat} (h0 : byAt b pc 60) : decode b pc = .ok (.istore_n 1, 1) := dec_bind h0 rfl rfl
theorem e_istore_n2 {b : ByteArray} {pc : Nat} (h0 : byAt b pc 61) : decode b pc = .ok (.istore_n 2, 1) := dec_bind h0 rfl rfl
theorem e_istore_n3 {b : ByteArray} {pc : Nat} (h0 : byAt b pc 62) : decode b pc = .ok (.istore_n 3, 1) := dec_bind h0 rfl rfl
theorem e_lstore_n0 {b : ByteArray} {pc : Nat} (h0 : byAt b pc 63) : decode b pc = .ok (.lstore_n 0, 1) := dec_bind h0 rfl rfl
theorem e_lstore_n1 {b : ByteArray} {pc : Nat} (h0 : byAt b pc 64) : decode b pc = .ok (.lstore_n 1, 1) := dec_bind h0 rfl rfl
theorem e_lstore_n2 {b : ByteArray} {pc : Nat} (h0 : byAt b pc 65) : decode b pc = .ok (.lstore_n 2, 1) := dec_bind h0 rfl rfl
theorem e_lstore_n3 {b : ByteArray} {pc : Nat} (h0 : byAt b pc 66) : decode b pc = .ok (.lstore_n 3, 1) := dec_bind h0 rfl rfl
theorem e_astore_n0 {b : ByteArray} {pc : Nat} (h0 : byAt b pc 75) : decode b pc = .ok (.astore_n 0, 1) := dec_bind h0 rfl rfl
theorem e_astore_n1 {b : ByteArray} {pc : Nat} (h0 : byAt b pc 76) : decode b pc = .ok (.astore_n 1, 1) := dec_bind h0 rfl rfl
theorem e_astore_n2 {b : ByteArray} {pc : Nat} (h0 : byAt b pc 77) : decode b pc = .ok (.astore_n 2, 1) := dec_bind h0 rfl rfl
theorem e_astore_n3 {b : ByteArray} {pc : Nat} (h0 : byAt b pc 78) : decode b pc = .ok (.astore_n 3, 1) := dec_bind h0 rfl rfl
theorem e_lconst0 {b : ByteArray} {pc : Nat} (h0 : byAt b pc 9) : decode b pc = .ok (.lconst 0, 1) := dec_bind h0 rfl rfl
theorem e_lconst1 {b : ByteArray} {pc : Nat} (h0 : byAt b pc 10) : decode b pc = .ok (.lconst 1, 1) := dec_bind h0 rfl rfl
theorem e_iconst0 {b : ByteArray} {pc : Nat} (h0 : byAt b pc 2) : decode b pc = .ok (.iconst (-1), 1) := dec_bind h0 rfl rfl
theorem e_iconst1 {b : ByteArray} {pc : Nat} (h0 : byAt b pc 3) : decode b pc = .ok (.iconst (0), 1) := dec_bind h0 rfl rfl
theorem e_iconst2 {b : ByteArray} {pc : Nat} (h0 : byAt b pc 4) : decode b pc = .ok (.iconst (1), 1) := dec_bind h0 rfl rfl
theorem e_iconst3 {b : ByteArray} {pc : Nat} (h0 : byAt b pc 5) : decode b pc = .ok (.iconst (2), 1) := dec_bind h0 rfl rfl
theorem e_iconst4 {b : ByteArray} {pc : Nat} (h0 : byAt b pc 6) : decode b pc = .ok (.iconst (3), 1) := dec_bind h0 rfl rfl
theorem e_iconst5 {b : ByteArray} {pc : Nat} (h0 : byAt b pc 7) : decode b pc = .ok (.iconst (4), 1) := dec_bind h0 rfl rfl
theorem e_iconst6 {b : ByteArray} {pc : Nat} (h0 : byAt b pc 8) : decode b pc = .ok (.iconst (5), 1) := dec_bind h0 rfl rfl
theorem e_bipush {b : ByteArray} {pc : Nat} {x : Nat} (h0 : byAt b pc 16) (h1 : byAt b (pc + 1) x) : decode b pc = .ok (.bipush (Reader.signed 8 x), 2) := dec_bind h0 rfl (bns1 h1 _)
theorem e_iinc {b : ByteArray} {pc : Nat} {x y : Nat} (h0 : byAt b pc 132) (h1 : byAt b (pc + 1) x) (h2 : byAt b (pc + 2) y) : decode b pc = .ok (.iinc x (Reader.signed 8 y), 3) := dec_bind h0 rfl ((bnd1 h1 _).trans (bns1 h2 _))
theorem e_sipush {b : ByteArray} {pc : Nat} {x y : Nat} (h0 : byAt b pc 17) (h1 : byAt b (pc + 1) x) (h2 : byAt b (pc + 2) y) : decode b pc = .ok (.sipush (Reader.signed 16 (x * 256 + y)), 3) := dec_bind h0 rfl (bns2 h1 h2 _)
theorem e_goto {b : ByteArray} {pc : Nat} {x y : Nat} (h0 : byAt b pc 167) (h1 : byAt b (pc + 1) x) (h2 : byAt b (pc + 2) y) : decode b pc = .ok (.goto (Reader.signed 16 (x * 256 + y)), 3) := dec_bind h0 rfl (bns2 h1 h2 _)
theorem e_ifnull {b : ByteArray} {pc : Nat} {x y : Nat} (h0 : byAt b pc 198) (h1 : byAt b (pc + 1) x) (h2 : byAt b (pc + 2) y) : decode b pc = .ok (.ifnull (Reader.signed 16 (x * 256 + y)), 3) := dec_bind h0 rfl (bns2 h1 h2 _)
theorem e_ifnonnull {b : ByteArray} {pc : Nat} {x y : Nat} (h0 : byAt b pc 199) (h1 : byAt b (pc + 1) x) (h2 : byAt b (pc + 2) y) : decode b pc = .ok (.ifnonnull (Reader.signed 16 (x * 256 + y)), 3) := dec_bind h0 rfl (bns2 h1 h2 _)
theorem e_ifCond_eq {b : ByteArray} {pc : Nat} {x y : Nat} (h0 : byAt b pc 153) (h1 : byAt b (pc + 1) x) (h2 : byAt b (pc + 2) y) : decode b pc = .ok (.ifCond .eq (Reader.signed 16 (x * 256 + y)), 3) := dec_bind h0 rfl (bns2 h1 h2 _)
theorem e_ifCond_ne {b : ByteArray} {pc : Nat} {x y : Nat} (h0 : byAt b pc 154) (h1 : byAt b (pc + 1) x) (h2 : byAt b (pc + 2) y) : decode b pc = .ok (.ifCond .ne (Reader.signed 16 (x * 256 + y)), 3) := dec_bind h0 rfl (bns2 h1 h2 _)
theorem e_ifCond_lt {b : ByteArray} {pc : Nat} {x y : Nat} (h0 : byAt b pc 155) (h1 : byAt b (pc + 1) x) (h2 : byAt b (pc + 2) y) : decode b pc = .ok (.ifCond .lt (Reader.signed 16 (x * 256 + y)), 3) := dec_bind h0 rfl (bns2 h1 h2 _)
theorem e_ifCond_ge {b : ByteArray} {pc : Nat} {x y : Nat} (h0 : byAt b pc 156) (h1 : byAt b (pc + 1) x) (h2 : byAt b (pc + 2) y) : decode b pc = .ok (.ifCond .ge (Reader.signed 16 (x * 256 + y)), 3) := dec_bind h0 rfl (bns2 h1 h2 _)
theorem e_ifCond_gt {b : ByteArray} {pc : Nat} {x y : Nat} (h0 : byAt b pc 157) (h1 : byAt b (pc + 1) x) (h2 : byAt b (pc + 2) y) : decode b pc = .ok (.ifCond .gt (Reader.signed 16 (x * 256 + y)), 3) := dec_bind h0 rfl (bns2 h1 h2 _)
theorem e_ifCond_le {b : ByteArray} {pc : Nat} {x y : Nat} (h0 : byAt b pc 158) (h1 : byAt b (pc + 1) x) (h2 : byAt b (pc + 2) y) : decode b pc = .ok (.ifCond .le (Reader.signed 16 (x * 256 + y)), 3) := dec_bind h0 rfl (bns2 h1 h2 _)
theorem e_if_icmp_eq {b : ByteArray} {pc : Nat} {x y : Nat} (h0 : byAt b pc 159) (h1 : byAt b (pc + 1) x) (h2 : byAt b (pc + 2) y) : decode b pc = .ok (.if_icmp .eq (Reader.signed 16 (x * 256 + y)), 3) := dec_bind h0 rfl (bns2 h1 h2 _)
theorem e_if_icmp_ne {b : ByteArray} {pc : Nat} {x y : Nat} (h0 : byAt b pc 160) (h1 : byAt b (pc + 1) x) (h2 : byAt b (pc + 2) y) : decode b pc = .ok (.if_icmp .ne (Reader.signed 16 (x * 256 + y)), 3) := dec_bind h0 rfl (bns2 h1 h2 _)
theorem e_if_icmp_lt {b : ByteArray} {pc : Nat} {x y : Nat} (h0 : byAt b pc 161) (h1 : byAt b (pc + 1) x) (h2 : byAt b (pc + 2) y) : decode b pc = .ok (.if_icmp .lt (Reader.signed 16 (x * 256 + y)), 3) := dec_bind h0 rfl (bns2 h1 h2 _)
theorem e_if_icmp_ge {b : ByteArray} {pc : Nat} {x y : Nat} (h0 : byAt b pc 162) (h1 : byAt b (pc + 1) x) (h2 : byAt b (pc + 2) y) : decode b pc = .ok (.if_icmp .ge (Reader.signed 16 (x * 256 + y)), 3) := dec_bind h0 rfl (bns2 h1 h2 _)
theorem e_if_icmp_gt {b : ByteArray} {pc : Nat} {x y : Nat} (h0 : byAt b pc 163) (h1 : byAt b (pc + 1) x) (h2 : byAt b (pc + 2) y) : decode b pc = .ok (.if_icmp .gt (Reader.signed 16 (x * 256 + y)), 3) := dec_bind h0 rfl (bns2 h1 h2 _)
theorem e_if_icmp_le {b : ByteArray} {pc : Nat} {x y : Nat} (h0 : byAt b pc 164) (h1 : byAt b (pc + 1) x) (h2 : byAt b (pc + 2) y) : decode b pc = .ok (.if_icmp .le (Reader.signed 16 (x * 256 + y)), 3) := dec_bind h0 rfl (bns2 h1 h2 _)
theorem e_newarray_boolean {b : ByteArray} {pc : Nat} (h0 : byAt b pc 188) (h1 : byAt b (pc + 1) 4) : decode b pc = .ok (.newarray .boolean, 2) := dec_bind h0 rfl (bnd1 h1 _)
theorem e_newarray_char {b : ByteArray} {pc : Nat} (h0 : byAt b pc 188) (h1 : byAt b (pc + 1) 5) : decode b pc = .ok (.newarray .char, 2) := dec_bind h0 rfl (bnd1 h1 _)
theorem e_newarray_float {b : ByteArray} {pc : Nat} (h0 : byAt b pc 188) (h1 : byAt b (pc + 1) 6) : decode b pc = .ok (.newarray .float, 2) := dec_bind h0 rfl (bnd1 h1 _)
theorem e_newarray_double {b : ByteArray} {pc : Nat} (h0 : byAt b pc 188) (h1 : byAt b (pc + 1) 7) : decode b pc = .ok (.newarray .double, 2) := dec_bind h0 rfl (bnd1 h1 _)
theorem e_newarray_byte {b : ByteArray} {pc : Nat} (h0 : byAt b pc 188) (h1 : byAt b (pc + 1) 8) : decode b pc = .ok (.newarray .byte, 2) := dec_bind h0 rfl (bnd1 h1 _)
theorem e_newarray_short {b : ByteArray} {pc : Nat} (h0 : byAt b pc 188) (h1 : byAt b (pc + 1) 9) : decode b pc = .ok (.newarray .short, 2) := dec_bind h0 rfl (bnd1 h1 _)
theorem e_newarray_int {b : ByteArray} {pc : Nat} (h0 : byAt b pc 188) (h1 : byAt b (pc + 1) 10) : decode b pc = .ok (.newarray .int, 2) := dec_bind h0 rfl (bnd1 h1 _)
theorem e_newarray_long {b : ByteArray} {pc : Nat} (h0 : byAt b pc 188) (h1 : byAt b (pc + 1) 11) : decode b pc = .ok (.newarray .long, 2) := dec_bind h0 rfl (bnd1 h1 _)
def n8 (v : Int) : Nat := (v % 256).toNat
def n16 (v : Int) : Nat := (v % 65536).toNat
def enc : Instr → List Nat
  | .aconst_null => [1]
  | .iaload => [46]
  | .laload => [47]
  | .baload => [51]
  | .iastore => [79]
  | .lastore => [80]
  | .bastore => [84]
  | .pop => [87]
  | .dup => [89]
  | .dup_x1 => [90]
  | .dup_x2 => [91]
  | .dup2 => [92]
  | .iadd => [96]
  | .ladd => [97]
  | .isub => [100]
  | .lsub => [101]
  | .imul => [104]
  | .lmul => [105]
  | .idiv => [108]
  | .irem => [112]
  | .ineg => [116]
  | .lneg => [117]
  | .ishl => [120]
  | .lshl => [121]
  | .ishr => [122]
  | .lshr => [123]
  | .iushr => [124]
  | .lushr => [125]
  | .iand => [126]
  | .land => [127]
  | .ior => [128]
  | .lor => [129]
  | .ixor => [130]
  | .lxor => [131]
  | .i2l => [133]
  | .l2i => [136]
  | .i2b => [145]
  | .i2c => [146]
  | .lcmp => [148]
  | .ireturn => [172]
  | .lreturn => [173]
  | .areturn => [176]
  | .return_ => [177]
  | .arraylength => [190]
  | .athrow => [191]
  | .ldc x => [18, x]
  | .iload x => [21, x]
  | .lload x => [22, x]
  | .aload x => [25, x]
  | .istore x => [54, x]
  | .lstore x => [55, x]
  | .astore x => [58, x]
  | .ldc_w x => [19, x / 256, x % 256]
  | .ldc2_w x => [20, x / 256, x % 256]
  | .getstatic x => [178, x / 256, x % 256]
  | .getfield x => [180, x / 256, x % 256]
  | .putfield x => [181, x / 256, x % 256]
  | .invokevirtual x => [182, x / 256, x % 256]
  | .invokespecial x => [183, x / 256, x % 256]
  | .invokestatic x => [184, x / 256, x % 256]
  | .new x => [187, x / 256, x % 256]
  | .iload_n x => [26 + x.val]
  | .lload_n x => [30 + x.val]
  | .aload_n x => [42 + x.val]
  | .istore_n x => [59 + x.val]
  | .lstore_n x => [63 + x.val]
  | .astore_n x => [75 + x.val]
  | .lconst x => [9 + x.val]
  | .iconst v => if v = -1 then [2] else if v = 0 then [3] else if v = 1 then [4] else if v = 2 then [5] else if v = 3 then [6] else if v = 4 then [7] else if v = 5 then [8] else []
  | .bipush v => if Reader.signed 8 (n8 v) = v then [16, n8 v] else []
  | .iinc x v => if Reader.signed 8 (n8 v) = v then [132, x, n8 v] else []
  | .sipush v => if Reader.signed 16 (n16 v) = v then [17, n16 v / 256, n16 v % 256] else []
  | .goto v => if Reader.signed 16 (n16 v) = v then [167, n16 v / 256, n16 v % 256] else []
  | .ifnull v => if Reader.signed 16 (n16 v) = v then [198, n16 v / 256, n16 v % 256] else []
  | .ifnonnull v => if Reader.signed 16 (n16 v) = v then [199, n16 v / 256, n16 v % 256] else []
  | .ifCond .eq v => if Reader.signed 16 (n16 v) = v then [153, n16 v / 256, n16 v % 256] else []
  | .ifCond .ne v => if Reader.signed 16 (n16 v) = v then [154, n16 v / 256, n16 v % 256] else []
  | .ifCond .lt v => if Reader.signed 16 (n16 v) = v then [155, n16 v / 256, n16 v % 256] else []
  | .ifCond .ge v => if Reader.signed 16 (n16 v) = v then [156, n16 v / 256, n16 v % 256] else []
  | .ifCond .gt v => if Reader.signed 16 (n16 v) = v then [157, n16 v / 256, n16 v % 256] else []
  | .ifCond .le v => if Reader.signed 16 (n16 v) = v then [158, n16 v / 256, n16 v % 256] else []
  | .if_icmp .eq v => if Reader.signed 16 (n16 v) = v then [159, n16 v / 256, n16 v % 256] else []
  | .if_icmp .ne v => if Reader.signed 16 (n16 v) = v then [160, n16 v / 256, n16 v % 256] else []
  | .if_icmp .lt v => if Reader.signed 16 (n16 v) = v then [161, n16 v / 256, n16 v % 256] else []
  | .if_icmp .ge v => if Reader.signed 16 (n16 v) = v then [162, n16 v / 256, n16 v % 256] else []
  | .if_icmp .gt v => if Reader.signed 16 (n16 v) = v then [163, n16 v / 256, n16 v % 256] else []
  | .if_icmp .le v => if Reader.signed 16 (n16 v) = v then [164, n16 v / 256, n16 v % 256] else []
  | .newarray .boolean => [188, 4]
  | .newarray .char => [188, 5]
  | .newarray .float => [188, 6]
  | .newarray .double => [188, 7]
  | .newarray .byte => [188, 8]
  | .newarray .short => [188, 9]
  | .newarray .int => [188, 10]
  | .newarray .long => [188, 11]
  | _ => []
set_option maxHeartbeats 4000000 in
theorem enc_ok {b : ByteArray} {pc : Nat} (i : Instr) (hn : enc i ≠ []) (h : ∀ (j x : Nat), (enc i)[j]? = some x → byAt b (pc + j) x) : decode b pc = .ok (i, (enc i).length) := by
  cases i with
  | aconst_null => exact e_aconst_null (h 0 1 rfl)
  | iaload => exact e_iaload (h 0 46 rfl)
  | laload => exact e_laload (h 0 47 rfl)
  | baload => exact e_baload (h 0 51 rfl)
  | iastore => exact e_iastore (h 0 79 rfl)
  | lastore => exact e_lastore (h 0 80 rfl)
  | bastore => exact e_bastore (h 0 84 rfl)
  | pop => exact e_pop (h 0 87 rfl)
  | dup => exact e_dup (h 0 89 rfl)
  | dup_x1 => exact e_dup_x1 (h 0 90 rfl)
  | dup_x2 => exact e_dup_x2 (h 0 91 rfl)
  | dup2 => exact e_dup2 (h 0 92 rfl)
  | iadd => exact e_iadd (h 0 96 rfl)
  | ladd => exact e_ladd (h 0 97 rfl)
  | isub => exact e_isub (h 0 100 rfl)
  | lsub => exact e_lsub (h 0 101 rfl)
  | imul => exact e_imul (h 0 104 rfl)
  | lmul => exact e_lmul (h 0 105 rfl)
  | idiv => exact e_idiv (h 0 108 rfl)
  | irem => exact e_irem (h 0 112 rfl)
  | ineg => exact e_ineg (h 0 116 rfl)
  | lneg => exact e_lneg (h 0 117 rfl)
  | ishl => exact e_ishl (h 0 120 rfl)
  | lshl => exact e_lshl (h 0 121 rfl)
  | ishr => exact e_ishr (h 0 122 rfl)
  | lshr => exact e_lshr (h 0 123 rfl)
  | iushr => exact e_iushr (h 0 124 rfl)
  | lushr => exact e_lushr (h 0 125 rfl)
  | iand => exact e_iand (h 0 126 rfl)
  | land => exact e_land (h 0 127 rfl)
  | ior => exact e_ior (h 0 128 rfl)
  | lor => exact e_lor (h 0 129 rfl)
  | ixor => exact e_ixor (h 0 130 rfl)
  | lxor => exact e_lxor (h 0 131 rfl)
  | i2l => exact e_i2l (h 0 133 rfl)
  | l2i => exact e_l2i (h 0 136 rfl)
  | i2b => exact e_i2b (h 0 145 rfl)
  | i2c => exact e_i2c (h 0 146 rfl)
  | lcmp => exact e_lcmp (h 0 148 rfl)
  | ireturn => exact e_ireturn (h 0 172 rfl)
  | lreturn => exact e_lreturn (h 0 173 rfl)
  | areturn => exact e_areturn (h 0 176 rfl)
  | return_ => exact e_return_ (h 0 177 rfl)
  | arraylength => exact e_arraylength (h 0 190 rfl)
  | athrow => exact e_athrow (h 0 191 rfl)
  | ldc x => exact e_ldc (h 0 18 rfl) (h 1 x rfl)
  | iload x => exact e_iload (h 0 21 rfl) (h 1 x rfl)
  | lload x => exact e_lload (h 0 22 rfl) (h 1 x rfl)
  | aload x => exact e_aload (h 0 25 rfl) (h 1 x rfl)
  | istore x => exact e_istore (h 0 54 rfl) (h 1 x rfl)
  | lstore x => exact e_lstore (h 0 55 rfl) (h 1 x rfl)
  | astore x => exact e_astore (h 0 58 rfl) (h 1 x rfl)
  | ldc_w x =>
    have e := e_ldc_w (pc := pc) (h 0 19 rfl) (h 1 _ rfl) (h 2 _ rfl)
    rw [Nat.div_add_mod' x 256] at e
    exact e
  | ldc2_w x =>
    have e := e_ldc2_w (pc := pc) (h 0 20 rfl) (h 1 _ rfl) (h 2 _ rfl)
    rw [Nat.div_add_mod' x 256] at e
    exact e
  | getstatic x =>
    have e := e_getstatic (pc := pc) (h 0 178 rfl) (h 1 _ rfl) (h 2 _ rfl)
    rw [Nat.div_add_mod' x 256] at e
    exact e
  | getfield x =>
    have e := e_getfield (pc := pc) (h 0 180 rfl) (h 1 _ rfl) (h 2 _ rfl)
    rw [Nat.div_add_mod' x 256] at e
    exact e
  | putfield x =>
    have e := e_putfield (pc := pc) (h 0 181 rfl) (h 1 _ rfl) (h 2 _ rfl)
    rw [Nat.div_add_mod' x 256] at e
    exact e
  | invokevirtual x =>
    have e := e_invokevirtual (pc := pc) (h 0 182 rfl) (h 1 _ rfl) (h 2 _ rfl)
    rw [Nat.div_add_mod' x 256] at e
    exact e
  | invokespecial x =>
    have e := e_invokespecial (pc := pc) (h 0 183 rfl) (h 1 _ rfl) (h 2 _ rfl)
    rw [Nat.div_add_mod' x 256] at e
    exact e
  | invokestatic x =>
    have e := e_invokestatic (pc := pc) (h 0 184 rfl) (h 1 _ rfl) (h 2 _ rfl)
    rw [Nat.div_add_mod' x 256] at e
    exact e
  | new x =>
    have e := e_new (pc := pc) (h 0 187 rfl) (h 1 _ rfl) (h 2 _ rfl)
    rw [Nat.div_add_mod' x 256] at e
    exact e
  | iload_n x =>
    match x, h with
    | ⟨0, _⟩, h => exact e_iload_n0 (h 0 26 rfl)
    | ⟨1, _⟩, h => exact e_iload_n1 (h 0 27 rfl)
    | ⟨2, _⟩, h => exact e_iload_n2 (h 0 28 rfl)
    | ⟨3, _⟩, h => exact e_iload_n3 (h 0 29 rfl)
  | lload_n x =>
    match x, h with
    | ⟨0, _⟩, h => exact e_lload_n0 (h 0 30 rfl)
    | ⟨1, _⟩, h => exact e_lload_n1 (h 0 31 rfl)
    | ⟨2, _⟩, h => exact e_lload_n2 (h 0 32 rfl)
    | ⟨3, _⟩, h => exact e_lload_n3 (h 0 33 rfl)
  | aload_n x =>
    match x, h with
    | ⟨0, _⟩, h => exact e_aload_n0 (h 0 42 rfl)
    | ⟨1, _⟩, h => exact e_aload_n1 (h 0 43 rfl)
    | ⟨2, _⟩, h => exact e_aload_n2 (h 0 44 rfl)
    | ⟨3, _⟩, h => exact e_aload_n3 (h 0 45 rfl)
  | istore_n x =>
    match x, h with
    | ⟨0, _⟩, h => exact e_istore_n0 (h 0 59 rfl)
    | ⟨1, _⟩, h => exact e_istore_n1 (h 0 60 rfl)
    | ⟨2, _⟩, h => exact e_istore_n2 (h 0 61 rfl)
    | ⟨3, _⟩, h => exact e_istore_n3 (h 0 62 rfl)
  | lstore_n x =>
    match x, h with
    | ⟨0, _⟩, h => exact e_lstore_n0 (h 0 63 rfl)
    | ⟨1, _⟩, h => exact e_lstore_n1 (h 0 64 rfl)
    | ⟨2, _⟩, h => exact e_lstore_n2 (h 0 65 rfl)
    | ⟨3, _⟩, h => exact e_lstore_n3 (h 0 66 rfl)
  | astore_n x =>
    match x, h with
    | ⟨0, _⟩, h => exact e_astore_n0 (h 0 75 rfl)
    | ⟨1, _⟩, h => exact e_astore_n1 (h 0 76 rfl)
    | ⟨2, _⟩, h => exact e_astore_n2 (h 0 77 rfl)
    | ⟨3, _⟩, h => exact e_astore_n3 (h 0 78 rfl)
  | lconst x =>
    match x, h with
    | ⟨0, _⟩, h => exact e_lconst0 (h 0 9 rfl)
    | ⟨1, _⟩, h => exact e_lconst1 (h 0 10 rfl)
  | iconst v =>
    simp only [enc] at hn h ⊢
    split at hn
    · rename_i e; subst e; exact e_iconst0 (h 0 2 rfl)
    · split at hn
      · rename_i e; subst e; exact e_iconst1 (h 0 3 rfl)
      · split at hn
        · rename_i e; subst e; exact e_iconst2 (h 0 4 rfl)
        · split at hn
          · rename_i e; subst e; exact e_iconst3 (h 0 5 rfl)
          · split at hn
            · rename_i e; subst e; exact e_iconst4 (h 0 6 rfl)
            · split at hn
              · rename_i e; subst e; exact e_iconst5 (h 0 7 rfl)
              · split at hn
                · rename_i e; subst e; exact e_iconst6 (h 0 8 rfl)
                · exact absurd rfl hn
  | bipush v =>
    simp only [enc] at hn h ⊢
    split at hn
    · rename_i e
      rw [if_pos e] at h ⊢
      have := e_bipush (pc := pc) (h 0 16 rfl) (h 1 _ rfl)
      rw [e] at this
      exact this
    · exact absurd rfl hn
  | iinc x v =>
    simp only [enc] at hn h ⊢
    split at hn
    · rename_i e
      rw [if_pos e] at h ⊢
      have := e_iinc (pc := pc) (h 0 132 rfl) (h 1 _ rfl) (h 2 _ rfl)
      rw [e] at this
      exact this
    · exact absurd rfl hn
  | sipush v =>
    simp only [enc] at hn h ⊢
    split at hn
    · rename_i e
      rw [if_pos e] at h ⊢
      have := e_sipush (pc := pc) (h 0 17 rfl) (h 1 _ rfl) (h 2 _ rfl)
      rw [Nat.div_add_mod' (n16 v) 256, e] at this
      exact this
    · exact absurd rfl hn
  | goto v =>
    simp only [enc] at hn h ⊢
    split at hn
    · rename_i e
      rw [if_pos e] at h ⊢
      have := e_goto (pc := pc) (h 0 167 rfl) (h 1 _ rfl) (h 2 _ rfl)
      rw [Nat.div_add_mod' (n16 v) 256, e] at this
      exact this
    · exact absurd rfl hn
  | ifnull v =>
    simp only [enc] at hn h ⊢
    split at hn
    · rename_i e
      rw [if_pos e] at h ⊢
      have := e_ifnull (pc := pc) (h 0 198 rfl) (h 1 _ rfl) (h 2 _ rfl)
      rw [Nat.div_add_mod' (n16 v) 256, e] at this
      exact this
    · exact absurd rfl hn
  | ifnonnull v =>
    simp only [enc] at hn h ⊢
    split at hn
    · rename_i e
      rw [if_pos e] at h ⊢
      have := e_ifnonnull (pc := pc) (h 0 199 rfl) (h 1 _ rfl) (h 2 _ rfl)
      rw [Nat.div_add_mod' (n16 v) 256, e] at this
      exact this
    · exact absurd rfl hn
  | ifCond c v =>
    cases c with
    | eq =>
      simp only [enc] at hn h ⊢
      split at hn
      · rename_i e
        rw [if_pos e] at h ⊢
        have := e_ifCond_eq (pc := pc) (h 0 153 rfl) (h 1 _ rfl) (h 2 _ rfl)
        rw [Nat.div_add_mod' (n16 v) 256, e] at this
        exact this
      · exact absurd rfl hn
    | ne =>
      simp only [enc] at hn h ⊢
      split at hn
      · rename_i e
        rw [if_pos e] at h ⊢
        have := e_ifCond_ne (pc := pc) (h 0 154 rfl) (h 1 _ rfl) (h 2 _ rfl)
        rw [Nat.div_add_mod' (n16 v) 256, e] at this
        exact this
      · exact absurd rfl hn
    | lt =>
      simp only [enc] at hn h ⊢
      split at hn
      · rename_i e
        rw [if_pos e] at h ⊢
        have := e_ifCond_lt (pc := pc) (h 0 155 rfl) (h 1 _ rfl) (h 2 _ rfl)
        rw [Nat.div_add_mod' (n16 v) 256, e] at this
        exact this
      · exact absurd rfl hn
    | ge =>
      simp only [enc] at hn h ⊢
      split at hn
      · rename_i e
        rw [if_pos e] at h ⊢
        have := e_ifCond_ge (pc := pc) (h 0 156 rfl) (h 1 _ rfl) (h 2 _ rfl)
        rw [Nat.div_add_mod' (n16 v) 256, e] at this
        exact this
      · exact absurd rfl hn
    | gt =>
      simp only [enc] at hn h ⊢
      split at hn
      · rename_i e
        rw [if_pos e] at h ⊢
        have := e_ifCond_gt (pc := pc) (h 0 157 rfl) (h 1 _ rfl) (h 2 _ rfl)
        rw [Nat.div_add_mod' (n16 v) 256, e] at this
        exact this
      · exact absurd rfl hn
    | le =>
      simp only [enc] at hn h ⊢
      split at hn
      · rename_i e
        rw [if_pos e] at h ⊢
        have := e_ifCond_le (pc := pc) (h 0 158 rfl) (h 1 _ rfl) (h 2 _ rfl)
        rw [Nat.div_add_mod' (n16 v) 256, e] at this
        exact this
      · exact absurd rfl hn
  | if_icmp c v =>
    cases c with
    | eq =>
      simp only [enc] at hn h ⊢
      split at hn
      · rename_i e
        rw [if_pos e] at h ⊢
        have := e_if_icmp_eq (pc := pc) (h 0 159 rfl) (h 1 _ rfl) (h 2 _ rfl)
        rw [Nat.div_add_mod' (n16 v) 256, e] at this
        exact this
      · exact absurd rfl hn
    | ne =>
      simp only [enc] at hn h ⊢
      split at hn
      · rename_i e
        rw [if_pos e] at h ⊢
        have := e_if_icmp_ne (pc := pc) (h 0 160 rfl) (h 1 _ rfl) (h 2 _ rfl)
        rw [Nat.div_add_mod' (n16 v) 256, e] at this
        exact this
      · exact absurd rfl hn
    | lt =>
      simp only [enc] at hn h ⊢
      split at hn
      · rename_i e
        rw [if_pos e] at h ⊢
        have := e_if_icmp_lt (pc := pc) (h 0 161 rfl) (h 1 _ rfl) (h 2 _ rfl)
        rw [Nat.div_add_mod' (n16 v) 256, e] at this
        exact this
      · exact absurd rfl hn
    | ge =>
      simp only [enc] at hn h ⊢
      split at hn
      · rename_i e
        rw [if_pos e] at h ⊢
        have := e_if_icmp_ge (pc := pc) (h 0 162 rfl) (h 1 _ rfl) (h 2 _ rfl)
        rw [Nat.div_add_mod' (n16 v) 256, e] at this
        exact this
      · exact absurd rfl hn
    | gt =>
      simp only [enc] at hn h ⊢
      split at hn
      · rename_i e
        rw [if_pos e] at h ⊢
        have := e_if_icmp_gt (pc := pc) (h 0 163 rfl) (h 1 _ rfl) (h 2 _ rfl)
        rw [Nat.div_add_mod' (n16 v) 256, e] at this
        exact this
      · exact absurd rfl hn
    | le =>
      simp only [enc] at hn h ⊢
      split at hn
      · rename_i e
        rw [if_pos e] at h ⊢
        have := e_if_icmp_le (pc := pc) (h 0 164 rfl) (h 1 _ rfl) (h 2 _ rfl)
        rw [Nat.div_add_mod' (n16 v) 256, e] at this
        exact this
      · exact absurd rfl hn
  | newarray t =>
    cases t with
    | boolean => exact e_newarray_boolean (h 0 188 rfl) (h 1 4 rfl)
    | char => exact e_newarray_char (h 0 188 rfl) (h 1 5 rfl)
    | float => exact e_newarray_float (h 0 188 rfl) (h 1 6 rfl)
    | double => exact e_newarray_double (h 0 188 rfl) (h 1 7 rfl)
    | byte => exact e_newarray_byte (h 0 188 rfl) (h 1 8 rfl)
    | short => exact e_newarray_short (h 0 188 rfl) (h 1 9 rfl)
    | int => exact e_newarray_int (h 0 188 rfl) (h 1 10 rfl)
    | long => exact e_newarray_long (h 0 188 rfl) (h 1 11 rfl)
  | _ => exact absurd rfl hn
def isSw : Instr → Bool
  | .tableswitch .. => true
  | .lookupswitch .. => true
  | _ => false
def preD : List Nat → List UInt8 → Bool
  | [], _ => true
  | _ :: _, [] => false
  | n :: ns, x :: xs => Nat.beq n x.toNat && preD ns xs
def chkD : List UInt8 → Nat → List (Nat × Instr × Nat) → Bool
  | _, _, [] => true
  | bs, pc, (p, i, len) :: t => Nat.beq p pc && ((isSw i || (preD (enc i) bs && (Nat.beq (enc i).length len && !(enc i).isEmpty))) && chkD (bs.drop len) (pc + len) t)
theorem preD_at : ∀ (ns : List Nat) (xs : List UInt8), preD ns xs = true → ∀ (j n : Nat), ns[j]? = some n → ∃ x : UInt8, xs[j]? = some x ∧ x.toNat = n := by
  intro ns
  induction ns with
  | nil => intro xs _ j n h; simp at h
  | cons a t ih =>
    intro xs h j n hj
    cases xs with
    | nil => simp [preD] at h
    | cons y ys =>
      simp only [preD, Bool.and_eq_true] at h
      have ha : a = y.toNat := Nat.eq_of_beq_eq_true h.1
      cases j with
      | zero => simp at hj; subst hj; exact ⟨y, rfl, ha.symm⟩
      | succ j =>
        obtain ⟨x, h1, h2⟩ := ih ys h.2 j n (by simpa using hj)
        exact ⟨x, by simpa using h1, h2⟩
theorem chkD_ok {b : ByteArray} : ∀ (tab : List (Nat × Instr × Nat)) (pc0 : Nat), chkD (b.data.toList.drop pc0) pc0 tab = true → ∀ (k p : Nat) (i : Instr) (len : Nat), tab[k]? = some (p, i, len) → isSw i = false → decode b p = .ok (i, len) := by
  intro tab
  induction tab with
  | nil => intro pc0 _ k p i len h; simp at h
  | cons e t ih =>
    obtain ⟨p0, i0, l0⟩ := e
    intro pc0 h k p i len hk hs
    simp only [chkD, Bool.and_eq_true] at h
    obtain ⟨h1, h2, h3⟩ := h
    have hp : p0 = pc0 := Nat.eq_of_beq_eq_true h1
    cases k with
    | zero =>
      simp at hk
      obtain ⟨rfl, rfl, rfl⟩ := hk
      rw [hs, Bool.false_or] at h2
      simp only [Bool.and_eq_true] at h2
      obtain ⟨h4, h5, h6⟩ := h2
      have hl : (enc i0).length = l0 := Nat.eq_of_beq_eq_true h5
      rw [← hl]
      refine enc_ok i0 (fun z => by rw [z] at h6; cases h6) (fun j x hx => ?_)
      obtain ⟨w, g1, g2⟩ := preD_at _ _ h4 j x hx
      rw [List.getElem?_drop] at g1
      have g3 : b.data[p0 + j]? = some w := by rw [hp, ← Array.getElem?_toList]; exact g1
      obtain ⟨g4, g5⟩ := Array.getElem?_eq_some_iff.mp g3
      exact ⟨g4, by rw [← g2, ← g5]; rfl⟩
    | succ k =>
      rw [List.drop_drop] at h3
      exact ih (pc0 + l0) h3 k p i len (by simpa using hk) hs
