-- the cells after the constructors: cell = what
-- 0 x ArrayRecords 
-- 1 AR.tape byte 500
-- 2 Mach.m ArrayRecords$Meaning 
-- 3 Mean.kind int 7
-- 4 Mean.fields int 7
-- 5 Mean.field int 42
-- 6 Mean.bits int 42
-- 7 Mean.place int 42
-- 8 Mean.variable int 20
-- 9 Mean.value int 20
-- 10 Pars.in ArrayRecords$Scanner 
-- 11 Scan.text byte 500
-- 12 Scan.names ArrayRecords$Names 
-- 13 Name.all long 240
-- 14 Mach.code ArrayRecords$Code 
-- 15 Code.order int 700
-- 16 Code.with int 700
-- 17 Code.which int 150
-- 18 Code.kind int 150
-- 19 Code.field int 150
-- 20 Code.from int 150
-- 21 Code.to int 150
-- 22 Mach.s ArrayRecords$Statements 
-- 23 Stat.what int 160
-- 24 Stat.kind int 160
-- 25 Stat.field int 160
-- 26 Stat.from int 160
-- 27 Stat.to int 160
-- 28 Stat.inside int 160
-- 29 Stat.other int 160
-- 30 Stat.next int 160
-- 31 Stat.puts int 160
-- 32 Stat.many int 160
-- 33 Stat.put int 150
-- 34 Stat.putFrom int 150
-- 35 Stat.putTo int 150
-- 36 AR.parser ArrayRecords$Parser 
-- 37 Pars.cursors int 10
-- 38 AR.machine ArrayRecords$Machine 
-- 39 Mach.store ArrayRecords$Store 
-- 40 Stor.slice long 88
-- 41 Stor.birth int 64
-- 42 Mach.stack ArrayRecords$Stack 
-- 43 Stck.bit long 2560
-- 44 Stck.spare long 32
-- 45 Stck.rest long 32
-- 46 Mach.numbers int 80
-- 47 Mach.word int 10
-- 48 Mach.birth int 10
-- 49 Mach.list int 640
-- 50 Mach.births int 640
-- 51 Mach.kept int 64
-- 52 m ArrayRecordsModel 
-- 53 Mod.tape int 500
-- 54 Mod.kindName long 7
-- 55 Mod.fields int 7
-- 56 Mod.fieldName long 42
-- 57 Mod.fieldBits int 42
-- 58 Mod.varName long 20
-- 59 Mod.var int 20
-- 60 Mod.of int 64
-- 61 Mod.held int 384
-- 62 Mod.serial int 64
-- 63 Mod.tok int 152
-- 64 Mod.tokAt int 152
-- 65 Mod.tokIs long 152
-- 66 Mod.words long 20
-- 67 Mod.code int 3000
-- 68 Mod.pile int 160
-- 69 Mod.blockIs int 12
-- 70 Mod.blockJump int 12
-- 71 Mod.blockFrom int 12
-- 72 Mod.blockKind int 12
-- 73 Mod.values int 200
-- 74 Mod.main int 8
-- 75 Mod.eachWord int 768
-- 76 Mod.eachSerial int 768
-- 77 Mod.eachCount int 12
-- 78 Mod.eachAt int 12
-- 79 Mod.newValue int 384
-- 80 Mod.chosen boolean 64
-- 81 Mod.prints int 64
-- 82 out long 1
def SH : List Kd := [.inl 9, .inr (.byte, 500), .inl 0, .inr (.int, 7), .inr (.int, 7), .inr (.int, 42), .inr (.int, 42), .inr (.int, 42), .inr (.int, 20), .inr (.int, 20), .inl 1, .inr (.byte, 500), .inl 2, .inr (.long, 240), .inl 3, .inr (.int, 700), .inr (.int, 700), .inr (.int, 150), .inr (.int, 150), .inr (.int, 150), .inr (.int, 150), .inr (.int, 150), .inl 4, .inr (.int, 160), .inr (.int, 160), .inr (.int, 160), .inr (.int, 160), .inr (.int, 160), .inr (.int, 160), .inr (.int, 160), .inr (.int, 160), .inr (.int, 160), .inr (.int, 160), .inr (.int, 150), .inr (.int, 150), .inr (.int, 150), .inl 5, .inr (.int, 10), .inl 6, .inl 7, .inr (.long, 88), .inr (.int, 64), .inl 8, .inr (.long, 2560), .inr (.long, 32), .inr (.long, 32), .inr (.int, 80), .inr (.int, 10), .inr (.int, 10), .inr (.int, 640), .inr (.int, 640), .inr (.int, 64), .inl 10, .inr (.int, 500), .inr (.long, 7), .inr (.int, 7), .inr (.long, 42), .inr (.int, 42), .inr (.long, 20), .inr (.int, 20), .inr (.int, 64), .inr (.int, 384), .inr (.int, 64), .inr (.int, 152), .inr (.int, 152), .inr (.long, 152), .inr (.long, 20), .inr (.int, 3000), .inr (.int, 160), .inr (.int, 12), .inr (.int, 12), .inr (.int, 12), .inr (.int, 12), .inr (.int, 200), .inr (.int, 8), .inr (.int, 768), .inr (.int, 768), .inr (.int, 12), .inr (.int, 12), .inr (.int, 384), .inr (.boolean, 64), .inr (.int, 64), .inr (.long, 1)]
def rft : List (List (Option Nat)) := [[some 1, some 2, some 10, some 14, some 22, some 36, some 38, none, none, none], [], [some 3, some 4, some 5, some 6, some 7, some 8, some 9, none, none], [], [], [], [], [], [], [], [some 11, some 12, none, none, none, none, none, none, none, none], [], [some 13, none], [], [some 15, some 16, none, some 17, some 18, some 19, some 20, some 21, none], [], [], [], [], [], [], [], [some 23, some 24, some 25, some 26, some 27, some 28, some 29, some 30, some 31, some 32, some 33, some 34, some 35, none, none], [], [], [], [], [], [], [], [], [], [], [], [], [], [some 10, some 2, some 14, some 22, some 37, none, none, none], [], [some 2, some 14, some 22, some 39, some 42, some 46, none, none, none, none, some 47, some 48, some 49, some 50, none, some 51, none], [some 40, some 41, none], [], [], [some 43, some 44, some 45, none, none, none], [], [], [], [], [], [], [], [], [], [none, some 53, none, none, some 54, some 55, some 56, some 57, none, some 58, some 59, some 60, some 61, some 62, none, some 63, some 64, some 65, none, some 66, none, none, none, none, some 67, none, none, some 68, none, none, none, some 69, some 70, some 71, some 72, none, none, some 73, some 74, none, some 75, some 76, some 77, some 78, some 79, some 80, some 81, none], [], [], [], [], [], [], [], [], [], [], [], [], [], [], [], [], [], [], [], [], [], [], [], [], [], [], [], [], [], []]
def RF (i k : Nat) : Option Nat := (rft.getD i []).getD k none
/-- ints, longs, the script, cells left, slots left -/
abbrev Us : Type := (Nat → Nat → Int32) × (Nat → Nat → Int64) × (Nat × (Nat → Int32)) × Nat × Nat
abbrev aI (u : Us) : Nat → Nat → Int32 := u.1
abbrev aL (u : Us) : Nat → Nat → Int64 := u.2.1
abbrev aX (u : Us) : Nat × (Nat → Int32) := u.2.2.1
abbrev aC (u : Us) : Nat := u.2.2.2.1
abbrev aN (u : Us) : Nat := u.2.2.2.2
def st (u : Us) : Sg := (SH, u.1, u.2.1, RF, u.2.2.1, u.2.2.2.1, u.2.2.2.2)
def uI (u : Us) (i k : Nat) (v : Int32) : Us := (u2 u.1 i k v, u.2)
def uL (u : Us) (i k : Nat) (v : Int64) : Us := (u.1, u2 u.2.1 i k v, u.2.2)
def uS (u : Us) : Us := (u.1, u.2.1, u.2.2.1, u.2.2.2.1 - 1, u.2.2.2.2 - 6)
def uCp (u : Us) (i j a b n : Nat) : Us := ((fun q => if q = j then va_cpy (u.1 i) (u.1 j) a b n else u.1 q), u.2)
def WS (d : Nat) (y : My) (pc : Nat) (ls : Lo) (stk : List Value) (u : Us) (Q : Ot → Us → Prop) : Prop := WQ d y pc ls stk (st u) (fun o σ => ∃ u', σ = st u' ∧ Q o u')
theorem WS.mono {d : Nat} {y : My} {pc : Nat} {ls : Lo} {stk : List Value} {u : Us} {Q Q' : Ot → Us → Prop} (h : WS d y pc ls stk u Q) (hq : ∀ o u, Q o u → Q' o u) : WS d y pc ls stk u Q' := WQ.mono h (fun o _ ⟨u', e, q⟩ => ⟨u', e, hq o u' q⟩)
abbrev Ri (T : Int32 → Us → Prop) (E : Nat → Us → Prop) : Ot → Us → Prop
  | .inl (some (.int r)), u => T r u
  | .inr x, u => E x u
  | _, _ => False
abbrev Rl (T : Int64 → Us → Prop) (E : Nat → Us → Prop) : Ot → Us → Prop
  | .inl (some (.long r)), u => T r u
  | .inr x, u => E x u
  | _, _ => False
abbrev Rv (T : Us → Prop) (E : Nat → Us → Prop) : Ot → Us → Prop
  | .inl none, u => T u
  | .inr x, u => E x u
  | _, _ => False
def Cw (d : Nat) (y : My) (pc : Nat) (ls : Lo) (rest : List Value) (Q : Ot → Us → Prop) : Ot → Us → Prop
  | .inl v, u => WS d y (pc + 3) ls (v.toList ++ rest) u Q
  | .inr x, u => Q (.inr x) u
theorem Cw.cn {d : Nat} {y : My} {pc : Nat} {ls : Lo} {rest : List Value} {Q : Ot → Us → Prop} {o : Ot} {u : Us} (h : Cw d y pc ls rest Q o u) : Cn d y pc ls rest (fun o σ => ∃ u', σ = st u' ∧ Q o u') o (st u) := by
  cases o with
  | inl v => exact h
  | inr x => exact ⟨u, rfl, h⟩
section WR
variable {d : Nat} {y : My} {pc : Nat} {ls ls' : Lo} {stk : List Value} {u : Us} {Q : Ot → Us → Prop}
theorem w_iadd {x y_ : Int32} (hd : decode y.2.1 pc = .ok (.iadd, 1)) (k : WS d y (pc + 1) ls (.int (x + y_) :: stk) u Q) : WS d y pc ls (.int y_ :: .int x :: stk) u Q := q_iadd hd k
theorem w_isub {x y_ : Int32} (hd : decode y.2.1 pc = .ok (.isub, 1)) (k : WS d y (pc + 1) ls (.int (x - y_) :: stk) u Q) : WS d y pc ls (.int y_ :: .int x :: stk) u Q := q_isub hd k
theorem w_imul {x y_ : Int32} (hd : decode y.2.1 pc = .ok (.imul, 1)) (k : WS d y (pc + 1) ls (.int (x * y_) :: stk) u Q) : WS d y pc ls (.int y_ :: .int x :: stk) u Q := q_imul hd k
theorem w_iand {x y_ : Int32} (hd : decode y.2.1 pc = .ok (.iand, 1)) (k : WS d y (pc + 1) ls (.int (x &&& y_) :: stk) u Q) : WS d y pc ls (.int y_ :: .int x :: stk) u Q := q_iand hd k
theorem w_ior {x y_ : Int32} (hd : decode y.2.1 pc = .ok (.ior, 1)) (k : WS d y (pc + 1) ls (.int (x ||| y_) :: stk) u Q) : WS d y pc ls (.int y_ :: .int x :: stk) u Q := q_ior hd k
theorem w_ishl {x y_ : Int32} (hd : decode y.2.1 pc = .ok (.ishl, 1)) (k : WS d y (pc + 1) ls (.int (x <<< (y_ &&& 31)) :: stk) u Q) : WS d y pc ls (.int y_ :: .int x :: stk) u Q := q_ishl hd k
theorem w_ishr {x y_ : Int32} (hd : decode y.2.1 pc = .ok (.ishr, 1)) (k : WS d y (pc + 1) ls (.int (x >>> (y_ &&& 31)) :: stk) u Q) : WS d y pc ls (.int y_ :: .int x :: stk) u Q := q_ishr hd k
theorem w_iushr {x y_ : Int32} (hd : decode y.2.1 pc = .ok (.iushr, 1)) (k : WS d y (pc + 1) ls (.int ((x.toUInt32 >>> (y_.toUInt32 &&& Int32.toUInt32 31)).toInt32) :: stk) u Q) : WS d y pc ls (.int y_ :: .int x :: stk) u Q := q_iushr hd k
theorem w_idiv {x y_ : Int32} (hd : decode y.2.1 pc = .ok (.idiv, 1)) (hne : ¬ y_ = 0) (k : WS d y (pc + 1) ls (.int (x / y_) :: stk) u Q) : WS d y pc ls (.int y_ :: .int x :: stk) u Q := q_idiv hd hne k
theorem w_irem {x y_ : Int32} (hd : decode y.2.1 pc = .ok (.irem, 1)) (hne : ¬ y_ = 0) (k : WS d y (pc + 1) ls (.int (x - x / y_ * y_) :: stk) u Q) : WS d y pc ls (.int y_ :: .int x :: stk) u Q := q_irem hd hne k
theorem w_ineg {x : Int32} (hd : decode y.2.1 pc = .ok (.ineg, 1)) (k : WS d y (pc + 1) ls (.int (-x) :: stk) u Q) : WS d y pc ls (.int x :: stk) u Q := q_ineg hd k
theorem w_lneg {x : Int64} (hd : decode y.2.1 pc = .ok (.lneg, 1)) (k : WS d y (pc + 1) ls (.long (-x) :: stk) u Q) : WS d y pc ls (.long x :: stk) u Q := q_lneg hd k
theorem w_ladd {x y_ : Int64} (hd : decode y.2.1 pc = .ok (.ladd, 1)) (k : WS d y (pc + 1) ls (.long (x + y_) :: stk) u Q) : WS d y pc ls (.long y_ :: .long x :: stk) u Q := q_ladd hd k
theorem w_lsub {x y_ : Int64} (hd : decode y.2.1 pc = .ok (.lsub, 1)) (k : WS d y (pc + 1) ls (.long (x - y_) :: stk) u Q) : WS d y pc ls (.long y_ :: .long x :: stk) u Q := q_lsub hd k
theorem w_lmul {x y_ : Int64} (hd : decode y.2.1 pc = .ok (.lmul, 1)) (k : WS d y (pc + 1) ls (.long (x * y_) :: stk) u Q) : WS d y pc ls (.long y_ :: .long x :: stk) u Q := q_lmul hd k
theorem w_land {x y_ : Int64} (hd : decode y.2.1 pc = .ok (.land, 1)) (k : WS d y (pc + 1) ls (.long (x &&& y_) :: stk) u Q) : WS d y pc ls (.long y_ :: .long x :: stk) u Q := q_land hd k
theorem w_lor {x y_ : Int64} (hd : decode y.2.1 pc = .ok (.lor, 1)) (k : WS d y (pc + 1) ls (.long (x ||| y_) :: stk) u Q) : WS d y pc ls (.long y_ :: .long x :: stk) u Q := q_lor hd k
theorem w_lxor {x y_ : Int64} (hd : decode y.2.1 pc = .ok (.lxor, 1)) (k : WS d y (pc + 1) ls (.long (x ^^^ y_) :: stk) u Q) : WS d y pc ls (.long y_ :: .long x :: stk) u Q := q_lxor hd k
theorem w_lushr {x : Int64} {y_ : Int32} (hd : decode y.2.1 pc = .ok (.lushr, 1)) (k : WS d y (pc + 1) ls (.long ((x.toUInt64 >>> (y_.toInt64.toUInt64 &&& Int64.toUInt64 63)).toInt64) :: stk) u Q) : WS d y pc ls (.int y_ :: .long x :: stk) u Q := q_lushr hd k
theorem w_lshl {x : Int64} {y_ : Int32} (hd : decode y.2.1 pc = .ok (.lshl, 1)) (k : WS d y (pc + 1) ls (.long (x <<< (y_.toInt64 &&& 63)) :: stk) u Q) : WS d y pc ls (.int y_ :: .long x :: stk) u Q := q_lshl hd k
theorem w_lshr {x : Int64} {y_ : Int32} (hd : decode y.2.1 pc = .ok (.lshr, 1)) (k : WS d y (pc + 1) ls (.long (x >>> (y_.toInt64 &&& 63)) :: stk) u Q) : WS d y pc ls (.int y_ :: .long x :: stk) u Q := q_lshr hd k
theorem w_i2l {x : Int32} (hd : decode y.2.1 pc = .ok (.i2l, 1)) (k : WS d y (pc + 1) ls (.long (x.toInt64) :: stk) u Q) : WS d y pc ls (.int x :: stk) u Q := q_i2l hd k
theorem w_l2i {x : Int64} (hd : decode y.2.1 pc = .ok (.l2i, 1)) (k : WS d y (pc + 1) ls (.int (x.toInt32) :: stk) u Q) : WS d y pc ls (.long x :: stk) u Q := q_l2i hd k
theorem w_i2b {x : Int32} (hd : decode y.2.1 pc = .ok (.i2b, 1)) (k : WS d y (pc + 1) ls (.int (x.toInt8.toInt32) :: stk) u Q) : WS d y pc ls (.int x :: stk) u Q := q_i2b hd k
theorem w_i2c {x : Int32} (hd : decode y.2.1 pc = .ok (.i2c, 1)) (k : WS d y (pc + 1) ls (.int ((x.toUInt32 % 65536).toInt32) :: stk) u Q) : WS d y pc ls (.int x :: stk) u Q := q_i2c hd k
theorem w_iconst {n : Int} {v : Int32} (hd : decode y.2.1 pc = .ok (.iconst n, 1)) (hv : Int32.ofInt n = v) (k : WS d y (pc + 1) ls (.int v :: stk) u Q) : WS d y pc ls stk u Q := q_iconst hd hv k
theorem w_bipush {n : Int} {v : Int32} (hd : decode y.2.1 pc = .ok (.bipush n, 2)) (hv : (Int8.ofInt n).toInt32 = v) (k : WS d y (pc + 2) ls (.int v :: stk) u Q) : WS d y pc ls stk u Q := q_bipush hd hv k
theorem w_sipush {n : Int} {v : Int32} (hd : decode y.2.1 pc = .ok (.sipush n, 3)) (hv : (Int16.ofInt n).toInt32 = v) (k : WS d y (pc + 3) ls (.int v :: stk) u Q) : WS d y pc ls stk u Q := q_sipush hd hv k
theorem w_lconst {n : Fin 2} {v : Int64} (hd : decode y.2.1 pc = .ok (.lconst n, 1)) (hv : Int64.ofNat (n : Nat) = v) (k : WS d y (pc + 1) ls (.long v :: stk) u Q) : WS d y pc ls stk u Q := q_lconst hd hv k
theorem w_ldc2 {n : Nat} {v : Int64} (hd : decode y.2.1 pc = .ok (.ldc2_w n, 3)) (hw : Cond.constantLong y.1.cls n v ∈ lw_tbl) (k : WS d y (pc + 3) ls (.long v :: stk) u Q) : WS d y pc ls stk u Q := q_ldc2 hd hw k
theorem w_iload_n {x : Int32} {n : Fin 4} (hd : decode y.2.1 pc = .ok (.iload_n n, 1)) (hv : ls[(n : Nat)]? = some (some (.int x))) (k : WS d y (pc + 1) ls (.int x :: stk) u Q) : WS d y pc ls stk u Q := q_iload_n hd hv k
theorem w_iload {x : Int32} {n : Nat} (hd : decode y.2.1 pc = .ok (.iload n, 2)) (hv : ls[n]? = some (some (.int x))) (k : WS d y (pc + 2) ls (.int x :: stk) u Q) : WS d y pc ls stk u Q := q_iload hd hv k
theorem w_istore_n {x : Int32} {n : Fin 4} (hd : decode y.2.1 pc = .ok (.istore_n n, 1)) (hn : (n : Nat) < y.2.2.1) (hls : sto1 ls (n : Nat) (.int x) = ls') (k : WS d y (pc + 1) ls' stk u Q) : WS d y pc ls (.int x :: stk) u Q := q_istore_n hd hn hls k
theorem w_istore {x : Int32} {n : Nat} (hd : decode y.2.1 pc = .ok (.istore n, 2)) (hn : n < y.2.2.1) (hls : sto1 ls n (.int x) = ls') (k : WS d y (pc + 2) ls' stk u Q) : WS d y pc ls (.int x :: stk) u Q := q_istore hd hn hls k
theorem w_lload_n {x : Int64} {n : Fin 4} (hd : decode y.2.1 pc = .ok (.lload_n n, 1)) (hv : ls[(n : Nat)]? = some (some (.long x))) (k : WS d y (pc + 1) ls (.long x :: stk) u Q) : WS d y pc ls stk u Q := q_lload_n hd hv k
theorem w_lload {x : Int64} {n : Nat} (hd : decode y.2.1 pc = .ok (.lload n, 2)) (hv : ls[n]? = some (some (.long x))) (k : WS d y (pc + 2) ls (.long x :: stk) u Q) : WS d y pc ls stk u Q := q_lload hd hv k
theorem w_lstore_n {x : Int64} {n : Fin 4} (hd : decode y.2.1 pc = .ok (.lstore_n n, 1)) (hn : (n : Nat) + 1 < y.2.2.1) (hls : sto2 ls (n : Nat) (.long x) = ls') (k : WS d y (pc + 1) ls' stk u Q) : WS d y pc ls (.long x :: stk) u Q := q_lstore_n hd hn hls k
theorem w_lstore {x : Int64} {n : Nat} (hd : decode y.2.1 pc = .ok (.lstore n, 2)) (hn : n + 1 < y.2.2.1) (hls : sto2 ls n (.long x) = ls') (k : WS d y (pc + 2) ls' stk u Q) : WS d y pc ls (.long x :: stk) u Q := q_lstore hd hn hls k
theorem w_aload_n {x : Nat} {n : Fin 4} (hd : decode y.2.1 pc = .ok (.aload_n n, 1)) (hv : ls[(n : Nat)]? = some (some (.ref x))) (k : WS d y (pc + 1) ls (.ref x :: stk) u Q) : WS d y pc ls stk u Q := q_aload_n hd hv k
theorem w_aload {x : Nat} {n : Nat} (hd : decode y.2.1 pc = .ok (.aload n, 2)) (hv : ls[n]? = some (some (.ref x))) (k : WS d y (pc + 2) ls (.ref x :: stk) u Q) : WS d y pc ls stk u Q := q_aload hd hv k
theorem w_astore_n {x : Nat} {n : Fin 4} (hd : decode y.2.1 pc = .ok (.astore_n n, 1)) (hn : (n : Nat) < y.2.2.1) (hls : sto1 ls (n : Nat) (.ref x) = ls') (k : WS d y (pc + 1) ls' stk u Q) : WS d y pc ls (.ref x :: stk) u Q := q_astore_n hd hn hls k
theorem w_astore {x : Nat} {n : Nat} (hd : decode y.2.1 pc = .ok (.astore n, 2)) (hn : n < y.2.2.1) (hls : sto1 ls n (.ref x) = ls') (k : WS d y (pc + 2) ls' stk u Q) : WS d y pc ls (.ref x :: stk) u Q := q_astore hd hn hls k
theorem w_iinc {x v : Int32} {i : Nat} {n : Int} (hd : decode y.2.1 pc = .ok (.iinc i n, 3)) (hi : ls[i]? = some (some (.int x))) (hv : x + Int32.ofInt n = v) (hn : i < y.2.2.1) (hls : sto1 ls i (.int v) = ls') (k : WS d y (pc + 3) ls' stk u Q) : WS d y pc ls stk u Q := q_iinc hd hi hv hn hls k
theorem w_dup {a : Value} (hd : decode y.2.1 pc = .ok (.dup, 1)) (ha : a.category = 1) (k : WS d y (pc + 1) ls (a :: a :: stk) u Q) : WS d y pc ls (a :: stk) u Q := q_dup hd ha k
theorem w_pop {a : Value} (hd : decode y.2.1 pc = .ok (.pop, 1)) (ha : a.category = 1) (k : WS d y (pc + 1) ls stk u Q) : WS d y pc ls (a :: stk) u Q := q_pop hd ha k
theorem w_dup_x1 {a b : Value} (hd : decode y.2.1 pc = .ok (.dup_x1, 1)) (ha : a.category = 1) (hb : b.category = 1) (k : WS d y (pc + 1) ls (a :: b :: a :: stk) u Q) : WS d y pc ls (a :: b :: stk) u Q := q_dup_x1 hd ha hb k
theorem w_dup2 {a b : Value} (hd : decode y.2.1 pc = .ok (.dup2, 1)) (ha : a.category = 1) (hb : b.category = 1) (k : WS d y (pc + 1) ls (a :: b :: a :: b :: stk) u Q) : WS d y pc ls (a :: b :: stk) u Q := q_dup2 hd ha hb k
theorem w_icmp_eq {x y_ : Int32} {off : Int} (tgt : Nat) (hd : decode y.2.1 pc = .ok (.if_icmp .eq off, 3)) (ht : (pc : Int) + off = (tgt : Int)) (kt : x = y_ → WS d y tgt ls stk u Q) (kf : ¬ (x = y_) → WS d y (pc + 3) ls stk u Q) : WS d y pc ls (.int y_ :: .int x :: stk) u Q := q_icmp_eq tgt hd ht kt kf
theorem w_icmp_eq_t {x y_ : Int32} {off : Int} (tgt : Nat) (hd : decode y.2.1 pc = .ok (.if_icmp .eq off, 3)) (ht : (pc : Int) + off = (tgt : Int)) (hc : x = y_) (kt : WS d y tgt ls stk u Q) : WS d y pc ls (.int y_ :: .int x :: stk) u Q := q_icmp_eq tgt hd ht (fun _ => kt) (fun z => absurd hc z)
theorem w_icmp_eq_f {x y_ : Int32} {off : Int} (hd : decode y.2.1 pc = .ok (.if_icmp .eq off, 3)) (tgt : Nat) (ht : (pc : Int) + off = (tgt : Int)) (hc : ¬ (x = y_)) (kf : WS d y (pc + 3) ls stk u Q) : WS d y pc ls (.int y_ :: .int x :: stk) u Q := q_icmp_eq tgt hd ht (fun z => absurd z hc) (fun _ => kf)
theorem w_if_eq {x : Int32} {off : Int} (tgt : Nat) (hd : decode y.2.1 pc = .ok (.ifCond .eq off, 3)) (ht : (pc : Int) + off = (tgt : Int)) (kt : x = 0 → WS d y tgt ls stk u Q) (kf : ¬ (x = 0) → WS d y (pc + 3) ls stk u Q) : WS d y pc ls (.int x :: stk) u Q := q_if_eq tgt hd ht kt kf
theorem w_if_eq_t {x : Int32} {off : Int} (tgt : Nat) (hd : decode y.2.1 pc = .ok (.ifCond .eq off, 3)) (ht : (pc : Int) + off = (tgt : Int)) (hc : x = 0) (kt : WS d y tgt ls stk u Q) : WS d y pc ls (.int x :: stk) u Q := q_if_eq tgt hd ht (fun _ => kt) (fun z => absurd hc z)
theorem w_if_eq_f {x : Int32} {off : Int} (hd : decode y.2.1 pc = .ok (.ifCond .eq off, 3)) (tgt : Nat) (ht : (pc : Int) + off = (tgt : Int)) (hc : ¬ (x = 0)) (kf : WS d y (pc + 3) ls stk u Q) : WS d y pc ls (.int x :: stk) u Q := q_if_eq tgt hd ht (fun z => absurd z hc) (fun _ => kf)
theorem w_icmp_ne {x y_ : Int32} {off : Int} (tgt : Nat) (hd : decode y.2.1 pc = .ok (.if_icmp .ne off, 3)) (ht : (pc : Int) + off = (tgt : Int)) (kt : x ≠ y_ → WS d y tgt ls stk u Q) (kf : x = y_ → WS d y (pc + 3) ls stk u Q) : WS d y pc ls (.int y_ :: .int x :: stk) u Q := q_icmp_ne tgt hd ht kt kf
theorem w_icmp_ne_t {x y_ : Int32} {off : Int} (tgt : Nat) (hd : decode y.2.1 pc = .ok (.if_icmp .ne off, 3)) (ht : (pc : Int) + off = (tgt : Int)) (hc : x ≠ y_) (kt : WS d y tgt ls stk u Q) : WS d y pc ls (.int y_ :: .int x :: stk) u Q := q_icmp_ne tgt hd ht (fun _ => kt) (fun z => absurd hc (fun q => q z))
theorem w_icmp_ne_f {x y_ : Int32} {off : Int} (hd : decode y.2.1 pc = .ok (.if_icmp .ne off, 3)) (tgt : Nat) (ht : (pc : Int) + off = (tgt : Int)) (hc : x = y_) (kf : WS d y (pc + 3) ls stk u Q) : WS d y pc ls (.int y_ :: .int x :: stk) u Q := q_icmp_ne tgt hd ht (fun z => absurd hc z) (fun _ => kf)
theorem w_if_ne {x : Int32} {off : Int} (tgt : Nat) (hd : decode y.2.1 pc = .ok (.ifCond .ne off, 3)) (ht : (pc : Int) + off = (tgt : Int)) (kt : x ≠ 0 → WS d y tgt ls stk u Q) (kf : x = 0 → WS d y (pc + 3) ls stk u Q) : WS d y pc ls (.int x :: stk) u Q := q_if_ne tgt hd ht kt kf
theorem w_if_ne_t {x : Int32} {off : Int} (tgt : Nat) (hd : decode y.2.1 pc = .ok (.ifCond .ne off, 3)) (ht : (pc : Int) + off = (tgt : Int)) (hc : x ≠ 0) (kt : WS d y tgt ls stk u Q) : WS d y pc ls (.int x :: stk) u Q := q_if_ne tgt hd ht (fun _ => kt) (fun z => absurd hc (fun q => q z))
theorem w_if_ne_f {x : Int32} {off : Int} (hd : decode y.2.1 pc = .ok (.ifCond .ne off, 3)) (tgt : Nat) (ht : (pc : Int) + off = (tgt : Int)) (hc : x = 0) (kf : WS d y (pc + 3) ls stk u Q) : WS d y pc ls (.int x :: stk) u Q := q_if_ne tgt hd ht (fun z => absurd hc z) (fun _ => kf)
theorem w_icmp_lt {x y_ : Int32} {off : Int} (tgt : Nat) (hd : decode y.2.1 pc = .ok (.if_icmp .lt off, 3)) (ht : (pc : Int) + off = (tgt : Int)) (kt : x < y_ → WS d y tgt ls stk u Q) (kf : ¬ (x < y_) → WS d y (pc + 3) ls stk u Q) : WS d y pc ls (.int y_ :: .int x :: stk) u Q := q_icmp_lt tgt hd ht kt kf
theorem w_icmp_lt_t {x y_ : Int32} {off : Int} (tgt : Nat) (hd : decode y.2.1 pc = .ok (.if_icmp .lt off, 3)) (ht : (pc : Int) + off = (tgt : Int)) (hc : x < y_) (kt : WS d y tgt ls stk u Q) : WS d y pc ls (.int y_ :: .int x :: stk) u Q := q_icmp_lt tgt hd ht (fun _ => kt) (fun z => absurd hc z)
theorem w_icmp_lt_f {x y_ : Int32} {off : Int} (hd : decode y.2.1 pc = .ok (.if_icmp .lt off, 3)) (tgt : Nat) (ht : (pc : Int) + off = (tgt : Int)) (hc : ¬ (x < y_)) (kf : WS d y (pc + 3) ls stk u Q) : WS d y pc ls (.int y_ :: .int x :: stk) u Q := q_icmp_lt tgt hd ht (fun z => absurd z hc) (fun _ => kf)
theorem w_if_lt {x : Int32} {off : Int} (tgt : Nat) (hd : decode y.2.1 pc = .ok (.ifCond .lt off, 3)) (ht : (pc : Int) + off = (tgt : Int)) (kt : x < 0 → WS d y tgt ls stk u Q) (kf : ¬ (x < 0) → WS d y (pc + 3) ls stk u Q) : WS d y pc ls (.int x :: stk) u Q := q_if_lt tgt hd ht kt kf
theorem w_if_lt_t {x : Int32} {off : Int} (tgt : Nat) (hd : decode y.2.1 pc = .ok (.ifCond .lt off, 3)) (ht : (pc : Int) + off = (tgt : Int)) (hc : x < 0) (kt : WS d y tgt ls stk u Q) : WS d y pc ls (.int x :: stk) u Q := q_if_lt tgt hd ht (fun _ => kt) (fun z => absurd hc z)
theorem w_if_lt_f {x : Int32} {off : Int} (hd : decode y.2.1 pc = .ok (.ifCond .lt off, 3)) (tgt : Nat) (ht : (pc : Int) + off = (tgt : Int)) (hc : ¬ (x < 0)) (kf : WS d y (pc + 3) ls stk u Q) : WS d y pc ls (.int x :: stk) u Q := q_if_lt tgt hd ht (fun z => absurd z hc) (fun _ => kf)
theorem w_icmp_ge {x y_ : Int32} {off : Int} (tgt : Nat) (hd : decode y.2.1 pc = .ok (.if_icmp .ge off, 3)) (ht : (pc : Int) + off = (tgt : Int)) (kt : y_ ≤ x → WS d y tgt ls stk u Q) (kf : ¬ (y_ ≤ x) → WS d y (pc + 3) ls stk u Q) : WS d y pc ls (.int y_ :: .int x :: stk) u Q := q_icmp_ge tgt hd ht kt kf
theorem w_icmp_ge_t {x y_ : Int32} {off : Int} (tgt : Nat) (hd : decode y.2.1 pc = .ok (.if_icmp .ge off, 3)) (ht : (pc : Int) + off = (tgt : Int)) (hc : y_ ≤ x) (kt : WS d y tgt ls stk u Q) : WS d y pc ls (.int y_ :: .int x :: stk) u Q := q_icmp_ge tgt hd ht (fun _ => kt) (fun z => absurd hc z)
theorem w_icmp_ge_f {x y_ : Int32} {off : Int} (hd : decode y.2.1 pc = .ok (.if_icmp .ge off, 3)) (tgt : Nat) (ht : (pc : Int) + off = (tgt : Int)) (hc : ¬ (y_ ≤ x)) (kf : WS d y (pc + 3) ls stk u Q) : WS d y pc ls (.int y_ :: .int x :: stk) u Q := q_icmp_ge tgt hd ht (fun z => absurd z hc) (fun _ => kf)
theorem w_if_ge {x : Int32} {off : Int} (tgt : Nat) (hd : decode y.2.1 pc = .ok (.ifCond .ge off, 3)) (ht : (pc : Int) + off = (tgt : Int)) (kt : 0 ≤ x → WS d y tgt ls stk u Q) (kf : ¬ (0 ≤ x) → WS d y (pc + 3) ls stk u Q) : WS d y pc ls (.int x :: stk) u Q := q_if_ge tgt hd ht kt kf
theorem w_if_ge_t {x : Int32} {off : Int} (tgt : Nat) (hd : decode y.2.1 pc = .ok (.ifCond .ge off, 3)) (ht : (pc : Int) + off = (tgt : Int)) (hc : 0 ≤ x) (kt : WS d y tgt ls stk u Q) : WS d y pc ls (.int x :: stk) u Q := q_if_ge tgt hd ht (fun _ => kt) (fun z => absurd hc z)
theorem w_if_ge_f {x : Int32} {off : Int} (hd : decode y.2.1 pc = .ok (.ifCond .ge off, 3)) (tgt : Nat) (ht : (pc : Int) + off = (tgt : Int)) (hc : ¬ (0 ≤ x)) (kf : WS d y (pc + 3) ls stk u Q) : WS d y pc ls (.int x :: stk) u Q := q_if_ge tgt hd ht (fun z => absurd z hc) (fun _ => kf)
theorem w_icmp_gt {x y_ : Int32} {off : Int} (tgt : Nat) (hd : decode y.2.1 pc = .ok (.if_icmp .gt off, 3)) (ht : (pc : Int) + off = (tgt : Int)) (kt : y_ < x → WS d y tgt ls stk u Q) (kf : ¬ (y_ < x) → WS d y (pc + 3) ls stk u Q) : WS d y pc ls (.int y_ :: .int x :: stk) u Q := q_icmp_gt tgt hd ht kt kf
theorem w_icmp_gt_t {x y_ : Int32} {off : Int} (tgt : Nat) (hd : decode y.2.1 pc = .ok (.if_icmp .gt off, 3)) (ht : (pc : Int) + off = (tgt : Int)) (hc : y_ < x) (kt : WS d y tgt ls stk u Q) : WS d y pc ls (.int y_ :: .int x :: stk) u Q := q_icmp_gt tgt hd ht (fun _ => kt) (fun z => absurd hc z)
theorem w_icmp_gt_f {x y_ : Int32} {off : Int} (hd : decode y.2.1 pc = .ok (.if_icmp .gt off, 3)) (tgt : Nat) (ht : (pc : Int) + off = (tgt : Int)) (hc : ¬ (y_ < x)) (kf : WS d y (pc + 3) ls stk u Q) : WS d y pc ls (.int y_ :: .int x :: stk) u Q := q_icmp_gt tgt hd ht (fun z => absurd z hc) (fun _ => kf)
theorem w_if_gt {x : Int32} {off : Int} (tgt : Nat) (hd : decode y.2.1 pc = .ok (.ifCond .gt off, 3)) (ht : (pc : Int) + off = (tgt : Int)) (kt : 0 < x → WS d y tgt ls stk u Q) (kf : ¬ (0 < x) → WS d y (pc + 3) ls stk u Q) : WS d y pc ls (.int x :: stk) u Q := q_if_gt tgt hd ht kt kf
theorem w_if_gt_t {x : Int32} {off : Int} (tgt : Nat) (hd : decode y.2.1 pc = .ok (.ifCond .gt off, 3)) (ht : (pc : Int) + off = (tgt : Int)) (hc : 0 < x) (kt : WS d y tgt ls stk u Q) : WS d y pc ls (.int x :: stk) u Q := q_if_gt tgt hd ht (fun _ => kt) (fun z => absurd hc z)
theorem w_if_gt_f {x : Int32} {off : Int} (hd : decode y.2.1 pc = .ok (.ifCond .gt off, 3)) (tgt : Nat) (ht : (pc : Int) + off = (tgt : Int)) (hc : ¬ (0 < x)) (kf : WS d y (pc + 3) ls stk u Q) : WS d y pc ls (.int x :: stk) u Q := q_if_gt tgt hd ht (fun z => absurd z hc) (fun _ => kf)
theorem w_icmp_le {x y_ : Int32} {off : Int} (tgt : Nat) (hd : decode y.2.1 pc = .ok (.if_icmp .le off, 3)) (ht : (pc : Int) + off = (tgt : Int)) (kt : x ≤ y_ → WS d y tgt ls stk u Q) (kf : ¬ (x ≤ y_) → WS d y (pc + 3) ls stk u Q) : WS d y pc ls (.int y_ :: .int x :: stk) u Q := q_icmp_le tgt hd ht kt kf
theorem w_icmp_le_t {x y_ : Int32} {off : Int} (tgt : Nat) (hd : decode y.2.1 pc = .ok (.if_icmp .le off, 3)) (ht : (pc : Int) + off = (tgt : Int)) (hc : x ≤ y_) (kt : WS d y tgt ls stk u Q) : WS d y pc ls (.int y_ :: .int x :: stk) u Q := q_icmp_le tgt hd ht (fun _ => kt) (fun z => absurd hc z)
theorem w_icmp_le_f {x y_ : Int32} {off : Int} (hd : decode y.2.1 pc = .ok (.if_icmp .le off, 3)) (tgt : Nat) (ht : (pc : Int) + off = (tgt : Int)) (hc : ¬ (x ≤ y_)) (kf : WS d y (pc + 3) ls stk u Q) : WS d y pc ls (.int y_ :: .int x :: stk) u Q := q_icmp_le tgt hd ht (fun z => absurd z hc) (fun _ => kf)
theorem w_if_le {x : Int32} {off : Int} (tgt : Nat) (hd : decode y.2.1 pc = .ok (.ifCond .le off, 3)) (ht : (pc : Int) + off = (tgt : Int)) (kt : x ≤ 0 → WS d y tgt ls stk u Q) (kf : ¬ (x ≤ 0) → WS d y (pc + 3) ls stk u Q) : WS d y pc ls (.int x :: stk) u Q := q_if_le tgt hd ht kt kf
theorem w_if_le_t {x : Int32} {off : Int} (tgt : Nat) (hd : decode y.2.1 pc = .ok (.ifCond .le off, 3)) (ht : (pc : Int) + off = (tgt : Int)) (hc : x ≤ 0) (kt : WS d y tgt ls stk u Q) : WS d y pc ls (.int x :: stk) u Q := q_if_le tgt hd ht (fun _ => kt) (fun z => absurd hc z)
theorem w_if_le_f {x : Int32} {off : Int} (hd : decode y.2.1 pc = .ok (.ifCond .le off, 3)) (tgt : Nat) (ht : (pc : Int) + off = (tgt : Int)) (hc : ¬ (x ≤ 0)) (kf : WS d y (pc + 3) ls stk u Q) : WS d y pc ls (.int x :: stk) u Q := q_if_le tgt hd ht (fun z => absurd z hc) (fun _ => kf)
theorem w_goto {off : Int} (tgt : Nat) (hd : decode y.2.1 pc = .ok (.goto off, 3)) (ht : (pc : Int) + off = (tgt : Int)) (k : WS d y tgt ls stk u Q) : WS d y pc ls stk u Q := q_goto tgt hd ht k
theorem lg0 (x y : Int64) : lg_cmp x y = 0 ↔ x = y := by
  unfold lg_cmp
  by_cases h1 : x > y
  · rw [if_pos h1]; exact ⟨fun h => absurd h (by decide), fun h => absurd (h ▸ h1) (Int64.lt_irrefl)⟩
  · rw [if_neg h1]
    by_cases h2 : x = y
    · rw [if_pos h2]; exact ⟨fun _ => h2, fun _ => rfl⟩
    · rw [if_neg h2]; exact ⟨fun h => absurd h (by decide), fun h => absurd h h2⟩
theorem w_lcmp_eq {x y_ : Int64} {off : Int} (tgt : Nat) (hd : decode y.2.1 pc = .ok (.lcmp, 1)) (hd2 : decode y.2.1 (pc + 1) = .ok (.ifCond .eq off, 3)) (ht : ((pc + 1 : Nat) : Int) + off = (tgt : Int)) (kt : x = y_ → WS d y tgt ls stk u Q) (kf : x ≠ y_ → WS d y (pc + 4) ls stk u Q) : WS d y pc ls (.long y_ :: .long x :: stk) u Q := q_lcmp hd (q_if_eq tgt hd2 ht (fun z => kt ((lg0 x y_).mp z)) (fun z => kf (fun q => z ((lg0 x y_).mpr q))))
theorem w_lcmp_ne {x y_ : Int64} {off : Int} (tgt : Nat) (hd : decode y.2.1 pc = .ok (.lcmp, 1)) (hd2 : decode y.2.1 (pc + 1) = .ok (.ifCond .ne off, 3)) (ht : ((pc + 1 : Nat) : Int) + off = (tgt : Int)) (kt : x ≠ y_ → WS d y tgt ls stk u Q) (kf : x = y_ → WS d y (pc + 4) ls stk u Q) : WS d y pc ls (.long y_ :: .long x :: stk) u Q := q_lcmp hd (q_if_ne tgt hd2 ht (fun z => kt (fun q => z ((lg0 x y_).mpr q))) (fun z => kf ((lg0 x y_).mp z)))
theorem w_lcmp_lt {x y_ : Int64} {off : Int} (tgt : Nat) (hd : decode y.2.1 pc = .ok (.lcmp, 1)) (hd2 : decode y.2.1 (pc + 1) = .ok (.ifCond .lt off, 3)) (ht : ((pc + 1 : Nat) : Int) + off = (tgt : Int)) (kt : x < y_ → WS d y tgt ls stk u Q) (kf : ¬ (x < y_) → WS d y (pc + 4) ls stk u Q) : WS d y pc ls (.long y_ :: .long x :: stk) u Q := q_lcmp hd (q_if_lt tgt hd2 ht (fun z => kt ((lg_cmp_lt x y_).mp z)) (fun z => kf (fun q => z ((lg_cmp_lt x y_).mpr q))))
theorem w_lcmp_ge {x y_ : Int64} {off : Int} (tgt : Nat) (hd : decode y.2.1 pc = .ok (.lcmp, 1)) (hd2 : decode y.2.1 (pc + 1) = .ok (.ifCond .ge off, 3)) (ht : ((pc + 1 : Nat) : Int) + off = (tgt : Int)) (kt : y_ ≤ x → WS d y tgt ls stk u Q) (kf : ¬ (y_ ≤ x) → WS d y (pc + 4) ls stk u Q) : WS d y pc ls (.long y_ :: .long x :: stk) u Q := q_lcmp hd (q_if_ge tgt hd2 ht (fun z => kt ((lg_cmp_ge x y_).mp z)) (fun z => kf (fun q => z ((lg_cmp_ge x y_).mpr q))))
theorem w_lcmp_gt {x y_ : Int64} {off : Int} (tgt : Nat) (hd : decode y.2.1 pc = .ok (.lcmp, 1)) (hd2 : decode y.2.1 (pc + 1) = .ok (.ifCond .gt off, 3)) (ht : ((pc + 1 : Nat) : Int) + off = (tgt : Int)) (kt : y_ < x → WS d y tgt ls stk u Q) (kf : ¬ (y_ < x) → WS d y (pc + 4) ls stk u Q) : WS d y pc ls (.long y_ :: .long x :: stk) u Q := q_lcmp hd (q_if_gt tgt hd2 ht (fun z => kt ((lg_cmp_gt x y_).mp z)) (fun z => kf (fun q => z ((lg_cmp_gt x y_).mpr q))))
theorem w_lcmp_le {x y_ : Int64} {off : Int} (tgt : Nat) (hd : decode y.2.1 pc = .ok (.lcmp, 1)) (hd2 : decode y.2.1 (pc + 1) = .ok (.ifCond .le off, 3)) (ht : ((pc + 1 : Nat) : Int) + off = (tgt : Int)) (kt : x ≤ y_ → WS d y tgt ls stk u Q) (kf : ¬ (x ≤ y_) → WS d y (pc + 4) ls stk u Q) : WS d y pc ls (.long y_ :: .long x :: stk) u Q := q_lcmp hd (q_if_le tgt hd2 ht (fun z => kt ((lg_cmp_le x y_).mp z)) (fun z => kf (fun q => z ((lg_cmp_le x y_).mpr q))))
theorem w_tabI {dflt lo hi : Int} {offs : Array Int} {len : Nat} {x : Int32} (hd : decode y.2.1 pc = .ok (.tableswitch dflt lo hi offs, len)) (off : Int) (tgt : Nat) (hx : ¬ x.toInt < lo ∧ ¬ hi < x.toInt ∧ offs[(x.toInt - lo).toNat]? = some off) (ht : (pc : Int) + off = (tgt : Int)) (k : WS d y tgt ls stk u Q) : WS d y pc ls (.int x :: stk) u Q := q_table hd off tgt hx.1 hx.2.1 hx.2.2 ht k
def tabchk (lo dflt : Int) (offs : List Int) (vs : List Int32) : Bool := (List.range offs.length).all (fun i => decide (offs.getD i 0 = dflt) || vs.any (fun v => decide (v.toInt = lo + i)))
theorem w_tabD {dflt lo hi : Int} {offs : Array Int} {len : Nat} {x : Int32} (hd : decode y.2.1 pc = .ok (.tableswitch dflt lo hi offs, len)) (tgt : Nat) (vs : List Int32) (hchk : tabchk lo dflt offs.toList vs = true) (hsz : (offs.toList.length : Int) = hi - lo + 1) (hne : ∀ v ∈ vs, x ≠ v) (ht : (pc : Int) + dflt = (tgt : Int)) (k : WS d y tgt ls stk u Q) : WS d y pc ls (.int x :: stk) u Q := by
  by_cases c1 : x.toInt < lo ∨ hi < x.toInt
  · exact q_tableO hd tgt c1 ht k
  · have c2 : ¬ x.toInt < lo := fun z => c1 (Or.inl z)
    have c3 : ¬ hi < x.toInt := fun z => c1 (Or.inr z)
    have hi' : (x.toInt - lo).toNat < offs.toList.length := by omega
    have h1 := List.all_eq_true.mp hchk (x.toInt - lo).toNat (List.mem_range.mpr hi')
    simp only [Bool.or_eq_true, decide_eq_true_eq, List.any_eq_true] at h1
    rcases h1 with h1 | ⟨v, hv, h1⟩
    · refine q_table hd dflt tgt c2 c3 ?_ ht k
      rw [← Array.getElem?_toList, List.getElem?_eq_getElem hi']
      rw [List.getD_eq_getElem?_getD, List.getElem?_eq_getElem hi', Option.getD_some] at h1
      rw [h1]
    · exfalso
      refine hne v hv (Int32.toInt_inj.mp ?_)
      omega
theorem lk_off : ∀ (ps : List (Int × Int)) (dflt k : Int), (∀ q ∈ ps, q.1 ≠ k) → Op.lookupswitch.offset ps dflt k = dflt := by
  intro ps dflt k
  induction ps with
  | nil => intro _; rfl
  | cons q t ih =>
    intro h
    obtain ⟨a, b⟩ := q
    have h1 : a ≠ k := h (a, b) List.mem_cons_self
    have h2 := ih (fun q hq => h q (List.mem_cons_of_mem _ hq))
    unfold Op.lookupswitch.offset
    first | (simp [h1, h1.symm]; exact h2) | (simp [h1, h1.symm, h2])
theorem w_lkI {dflt : Int} {ps : Array (Int × Int)} {len : Nat} {x : Int32} (hd : decode y.2.1 pc = .ok (.lookupswitch dflt ps, len)) (hp : (ps.toList.zip (ps.toList.drop 1)).all (fun (a, next) => a.1 < next.1) = true) (off : Int) (tgt : Nat) (ho : Op.lookupswitch.offset ps.toList dflt x.toInt = off) (ht : (pc : Int) + off = (tgt : Int)) (k : WS d y tgt ls stk u Q) : WS d y pc ls (.int x :: stk) u Q := q_lookup hd hp off tgt ho ht k
theorem w_lkD {dflt : Int} {ps : Array (Int × Int)} {len : Nat} {x : Int32} (hd : decode y.2.1 pc = .ok (.lookupswitch dflt ps, len)) (hp : (ps.toList.zip (ps.toList.drop 1)).all (fun (a, next) => a.1 < next.1) = true) (tgt : Nat) (vs : List Int32) (hv : ps.toList.all (fun q => vs.any (fun v => decide (v.toInt = q.1))) = true) (hne : ∀ v ∈ vs, x ≠ v) (ht : (pc : Int) + dflt = (tgt : Int)) (k : WS d y tgt ls stk u Q) : WS d y pc ls (.int x :: stk) u Q := by
  refine q_lookup hd hp dflt tgt (lk_off _ _ _ (fun q hq e => ?_)) ht k
  have h1 := List.all_eq_true.mp hv q hq
  obtain ⟨v, h2, h3⟩ := List.any_eq_true.mp h1
  refine hne v h2 (Int32.toInt_inj.mp ?_)
  rw [← e]
  exact (of_decide_eq_true h3).symm
theorem w_ldcS (hd : decode y.2.1 pc = .ok (.ldc 68, 2)) (hy : y.1.cls = "ArrayRecords$Scanner") (k : WS d y (pc + 2) ls (.ref 1000 :: stk) u Q) : WS d y pc ls stk u Q := q_ldcS hd hy k
theorem w_mmin {idx : Nat} {a b : Int64} (hA : Mn y.1.cls idx) (hd : decode y.2.1 pc = .ok (.invokestatic idx, 3)) (hrest : stk.length ≤ 8) (k : WS d y (pc + 3) ls (.long (if b < a then b else a) :: stk) u Q) : WS d y pc ls (.long b :: .long a :: stk) u Q := q_mmin hA hd hrest k
theorem w_geti {idx ci k_ i : Nat} {fin : Bool} {v : Int32} (hd : decode y.2.1 pc = .ok (.getfield idx, 3)) (hf : Lk y.1.cls idx ci k_ fin) (hi : SH[i]? = some (.inl ci)) (ht : tk (tyOf ci k_) = 0) (hv : aI u i k_ = v) (k : WS d y (pc + 3) ls (.int v :: stk) u Q) : WS d y pc ls (.ref i :: stk) u Q := q_get hd hf hi (by show xv (st u) ci i k_ = _; unfold xv; rw [ht]; exact congrArg Value.int hv) k
theorem w_getl {idx ci k_ i : Nat} {fin : Bool} {v : Int64} (hd : decode y.2.1 pc = .ok (.getfield idx, 3)) (hf : Lk y.1.cls idx ci k_ fin) (hi : SH[i]? = some (.inl ci)) (ht : tk (tyOf ci k_) = 1) (hv : aL u i k_ = v) (k : WS d y (pc + 3) ls (.long v :: stk) u Q) : WS d y pc ls (.ref i :: stk) u Q := q_get hd hf hi (by show xv (st u) ci i k_ = _; unfold xv; rw [ht]; exact congrArg Value.long hv) k
theorem w_getr {idx ci k_ i j : Nat} {fin : Bool} (hd : decode y.2.1 pc = .ok (.getfield idx, 3)) (hf : Lk y.1.cls idx ci k_ fin) (hi : SH[i]? = some (.inl ci)) (ht : tk (tyOf ci k_) = 2) (hv : RF i k_ = some j) (k : WS d y (pc + 3) ls (.ref j :: stk) u Q) : WS d y pc ls (.ref i :: stk) u Q := q_get hd hf hi (by show xv (st u) ci i k_ = _; unfold xv; rw [ht]; show (match RF i k_ with | none => Value.null | some j => Value.ref j) = _; rw [hv]) k
theorem w_puti {idx ci k_ i : Nat} {v : Int32} (hd : decode y.2.1 pc = .ok (.putfield idx, 3)) (hf : Lk y.1.cls idx ci k_ false) (hi : SH[i]? = some (.inl ci)) (ht : tyOf ci k_ = .int) (k : WS d y (pc + 3) ls stk (uI u i k_ v) Q) : WS d y pc ls (.int v :: .ref i :: stk) u Q := q_puti hd hf hi ht k
theorem w_putz {idx ci k_ i : Nat} {v : Int32} (hd : decode y.2.1 pc = .ok (.putfield idx, 3)) (hf : Lk y.1.cls idx ci k_ false) (hi : SH[i]? = some (.inl ci)) (ht : tyOf ci k_ = .boolean) (hv : v = 0 ∨ v = 1) (k : WS d y (pc + 3) ls stk (uI u i k_ v) Q) : WS d y pc ls (.int v :: .ref i :: stk) u Q := q_putz hd hf hi ht hv k
theorem w_putl {idx ci k_ i : Nat} {v : Int64} (hd : decode y.2.1 pc = .ok (.putfield idx, 3)) (hf : Lk y.1.cls idx ci k_ false) (hi : SH[i]? = some (.inl ci)) (ht : tyOf ci k_ = .long) (k : WS d y (pc + 3) ls stk (uL u i k_ v) Q) : WS d y pc ls (.long v :: .ref i :: stk) u Q := q_putl hd hf hi ht k
theorem w_iald {i n k_ : Nat} {j : Int32} (hd : decode y.2.1 pc = .ok (.iaload, 1)) (hi : SH[i]? = some (.inr (.int, n))) (hn : n < 2 ^ 31) (hj : j = nI k_) (hk : k_ < n) (k : WS d y (pc + 1) ls (.int (aI u i k_) :: stk) u Q) : WS d y pc ls (.int j :: .ref i :: stk) u Q := by
  subst hj
  refine q_iald hd hi (vp_in_nI hk hn) ?_
  rw [nI_clamp (Nat.lt_trans hk hn)]
  exact k
theorem w_bald {i n k_ : Nat} {j : Int32} (hd : decode y.2.1 pc = .ok (.baload, 1)) (hi : SH[i]? = some (.inr (.byte, n))) (hn : n < 2 ^ 31) (hj : j = nI k_) (hk : k_ < n) (k : WS d y (pc + 1) ls (.int (aI u i k_) :: stk) u Q) : WS d y pc ls (.int j :: .ref i :: stk) u Q := by
  subst hj
  refine q_bald hd hi (vp_in_nI hk hn) ?_
  rw [nI_clamp (Nat.lt_trans hk hn)]
  exact k
theorem w_zald {i n k_ : Nat} {j : Int32} (hd : decode y.2.1 pc = .ok (.baload, 1)) (hi : SH[i]? = some (.inr (.boolean, n))) (hn : n < 2 ^ 31) (hj : j = nI k_) (hk : k_ < n) (k : WS d y (pc + 1) ls (.int (aI u i k_) :: stk) u Q) : WS d y pc ls (.int j :: .ref i :: stk) u Q := by
  subst hj
  refine q_zald hd hi (vp_in_nI hk hn) ?_
  rw [nI_clamp (Nat.lt_trans hk hn)]
  exact k
theorem w_lald {i n k_ : Nat} {j : Int32} (hd : decode y.2.1 pc = .ok (.laload, 1)) (hi : SH[i]? = some (.inr (.long, n))) (hn : n < 2 ^ 31) (hj : j = nI k_) (hk : k_ < n) (k : WS d y (pc + 1) ls (.long (aL u i k_) :: stk) u Q) : WS d y pc ls (.int j :: .ref i :: stk) u Q := by
  subst hj
  refine q_lald hd hi (vp_in_nI hk hn) ?_
  rw [nI_clamp (Nat.lt_trans hk hn)]
  exact k
theorem w_iast {i n k_ : Nat} {j : Int32} {x : Int32} (hd : decode y.2.1 pc = .ok (.iastore, 1)) (hi : SH[i]? = some (.inr (.int, n))) (hn : n < 2 ^ 31) (hj : j = nI k_) (hk : k_ < n) (k : WS d y (pc + 1) ls stk (uI u i k_ x) Q) : WS d y pc ls (.int x :: .int j :: .ref i :: stk) u Q := by
  subst hj
  refine q_iast hd hi (vp_in_nI hk hn) ?_
  rw [nI_clamp (Nat.lt_trans hk hn)]
  exact k
theorem w_last {i n k_ : Nat} {j : Int32} {x : Int64} (hd : decode y.2.1 pc = .ok (.lastore, 1)) (hi : SH[i]? = some (.inr (.long, n))) (hn : n < 2 ^ 31) (hj : j = nI k_) (hk : k_ < n) (k : WS d y (pc + 1) ls stk (uL u i k_ x) Q) : WS d y pc ls (.long x :: .int j :: .ref i :: stk) u Q := by
  subst hj
  refine q_last hd hi (vp_in_nI hk hn) ?_
  rw [nI_clamp (Nat.lt_trans hk hn)]
  exact k
theorem w_bast {i n k_ : Nat} {j : Int32} {x : Int32} (hd : decode y.2.1 pc = .ok (.bastore, 1)) (hi : SH[i]? = some (.inr (.byte, n))) (hn : n < 2 ^ 31) (hj : j = nI k_) (hk : k_ < n) (k : WS d y (pc + 1) ls stk (uI u i k_ (vp_nar .byte x)) Q) : WS d y pc ls (.int x :: .int j :: .ref i :: stk) u Q := by
  subst hj
  refine q_bast hd hi (vp_in_nI hk hn) ?_
  rw [nI_clamp (Nat.lt_trans hk hn)]
  exact k
theorem w_zast {i n k_ : Nat} {j : Int32} {x : Int32} (hd : decode y.2.1 pc = .ok (.bastore, 1)) (hi : SH[i]? = some (.inr (.boolean, n))) (hn : n < 2 ^ 31) (hj : j = nI k_) (hk : k_ < n) (k : WS d y (pc + 1) ls stk (uI u i k_ (vp_nar .boolean x)) Q) : WS d y pc ls (.int x :: .int j :: .ref i :: stk) u Q := by
  subst hj
  refine q_zast hd hi (vp_in_nI hk hn) ?_
  rw [nI_clamp (Nat.lt_trans hk hn)]
  exact k
theorem w_sld {k_ : Nat} {j : Int32} (hd : decode y.2.1 pc = .ok (.iaload, 1)) (hn : (aX u).1 < 2 ^ 31) (hj : j = nI k_) (hk : k_ < (aX u).1) (k : WS d y (pc + 1) ls (.int ((aX u).2 k_) :: stk) u Q) : WS d y pc ls (.int j :: .ref 999 :: stk) u Q := by
  subst hj
  refine q_sld hd (vp_in_nI hk hn) ?_
  rw [nI_clamp (Nat.lt_trans hk hn)]
  exact k
theorem w_slen (hd : decode y.2.1 pc = .ok (.arraylength, 1)) (k : WS d y (pc + 1) ls (.int (nI (aX u).1) :: stk) u Q) : WS d y pc ls (.ref 999 :: stk) u Q := q_slen hd k
theorem w_iret {v : Int32} (hd : decode y.2.1 pc = .ok (.ireturn, 1)) (hr : y.2.2.2.1 = some .int) (hq : Q (.inl (some (.int v))) u) : WS d y pc ls [.int v] u Q := q_iret hd hr ⟨u, rfl, hq⟩
theorem w_bret {v : Int32} (hd : decode y.2.1 pc = .ok (.ireturn, 1)) (hr : y.2.2.2.1 = some .boolean) (hv : v = 0 ∨ v = 1) (hq : Q (.inl (some (.int v))) u) : WS d y pc ls [.int v] u Q := q_bret hd hr hv ⟨u, rfl, hq⟩
theorem w_zret {v : Int32} {ty : FieldType} (hd : decode y.2.1 pc = .ok (.ireturn, 1)) (hr : y.2.2.2.1 = some ty) (hn : narrow ty (.int v) = .int v) (hq : Q (.inl (some (.int v))) u) : WS d y pc ls [.int v] u Q := q_zret hd hr hn ⟨u, rfl, hq⟩
theorem w_lret {v : Int64} (hd : decode y.2.1 pc = .ok (.lreturn, 1)) (hr : y.2.2.2.1 = some .long) (hq : Q (.inl (some (.long v))) u) : WS d y pc ls [.long v] u Q := q_lret hd hr ⟨u, rfl, hq⟩
theorem w_vret (hd : decode y.2.1 pc = .ok (.return_, 1)) (hr : y.2.2.2.1 = none) (hq : Q (.inl none) u) : WS d y pc ls [] u Q := q_vret hd hr ⟨u, rfl, hq⟩
theorem w_throw {idx ic x : Nat} (hT : Th y.1.cls idx ic x) (hd : decode y.2.1 pc = .ok (.new idx, 3)) (hd1 : decode y.2.1 (pc + 3) = .ok (.dup, 1)) (hd2 : decode y.2.1 (pc + 4) = .ok (.invokespecial ic, 3)) (hd3 : decode y.2.1 (pc + 7) = .ok (.athrow, 1)) (hnc : ncov y (pc + 7) = true) (hc : 1 ≤ aC u) (hn : 6 ≤ aN u) (hq : Q (.inr x) (uS u)) : WS d y pc ls [] u Q := q_throw hT hd hd1 hd2 hd3 hnc hc hn ⟨uS u, rfl, hq⟩
end WR
section WC
variable {d : Nat} {y y' : My} {pc idx n : Nat} {ls ls' : Lo} {st0 : List Value} {u : Us} {Q : Ot → Us → Prop}
theorem cn_i {rest : List Value} {T : Int32 → Us → Prop} (hk : ∀ (r : Int32) u1, T r u1 → WS d y (pc + 3) ls (.int r :: rest) u1 Q) : ∀ o u1, Ri T (fun x u1 => Q (.inr x) u1) o u1 → Cw d y pc ls rest Q o u1 := by
  intro o u1 h
  match o, h with
  | .inr x, h => exact h
  | .inl (some (.int r)), h => exact hk r u1 h
theorem w_callVi {ci b : Nat} {C : String} {T_ : u_T} {N : Nat} (hC : Cv y.1.cls idx C y' n) (hd : decode y.2.1 pc = .ok (.invokevirtual idx, 3)) (hcl : classes[ci]? = some (C, T_, N)) (hi : SH[b]? = some (.inl ci)) (As rest : List Value) (hst : As.reverse ++ .ref b :: rest = st0) (hn : As.length = n) (hrest : rest.length ≤ 8) (hfl : (flat (.ref b :: As)).length ≤ y'.2.2.1) (hrf : rfOk 83 ls rest = true) (hnc : ncov y pc = true) (hls : ent (.ref b :: As) y'.2.2.1 = ls') {T : Int32 → Us → Prop} (hcall : WS d y' 0 ls' [] u (Ri T (fun x u1 => Q (.inr x) u1))) (hk : ∀ (r : Int32) u1, T r u1 → WS (d + 1) y (pc + 3) ls (.int r :: rest) u1 Q) : WS (d + 1) y pc ls st0 u Q := by
  subst hls
  exact q_callV hC hd hcl hi As rest hst hn hrest hfl hrf hnc (WQ.mono hcall (fun o σ ⟨u', e, h⟩ => by subst e; exact (cn_i hk o u' h).cn))
theorem w_callSi (hC : Cst y.1.cls idx y' n) (hd : decode y.2.1 pc = .ok (.invokestatic idx, 3)) (As rest : List Value) (hst : As.reverse ++ rest = st0) (hn : As.length = n) (hrest : rest.length ≤ 8) (hfl : (flat As).length ≤ y'.2.2.1) (hrf : rfOk 83 ls rest = true) (hnc : ncov y pc = true) (hls : ent As y'.2.2.1 = ls') {T : Int32 → Us → Prop} (hcall : WS d y' 0 ls' [] u (Ri T (fun x u1 => Q (.inr x) u1))) (hk : ∀ (r : Int32) u1, T r u1 → WS (d + 1) y (pc + 3) ls (.int r :: rest) u1 Q) : WS (d + 1) y pc ls st0 u Q := by
  subst hls
  exact q_callS hC hd As rest hst hn hrest hfl hrf hnc (WQ.mono hcall (fun o σ ⟨u', e, h⟩ => by subst e; exact (cn_i hk o u' h).cn))
theorem cn_l {rest : List Value} {T : Int64 → Us → Prop} (hk : ∀ (r : Int64) u1, T r u1 → WS d y (pc + 3) ls (.long r :: rest) u1 Q) : ∀ o u1, Rl T (fun x u1 => Q (.inr x) u1) o u1 → Cw d y pc ls rest Q o u1 := by
  intro o u1 h
  match o, h with
  | .inr x, h => exact h
  | .inl (some (.long r)), h => exact hk r u1 h
theorem w_callVl {ci b : Nat} {C : String} {T_ : u_T} {N : Nat} (hC : Cv y.1.cls idx C y' n) (hd : decode y.2.1 pc = .ok (.invokevirtual idx, 3)) (hcl : classes[ci]? = some (C, T_, N)) (hi : SH[b]? = some (.inl ci)) (As rest : List Value) (hst : As.reverse ++ .ref b :: rest = st0) (hn : As.length = n) (hrest : rest.length ≤ 8) (hfl : (flat (.ref b :: As)).length ≤ y'.2.2.1) (hrf : rfOk 83 ls rest = true) (hnc : ncov y pc = true) (hls : ent (.ref b :: As) y'.2.2.1 = ls') {T : Int64 → Us → Prop} (hcall : WS d y' 0 ls' [] u (Rl T (fun x u1 => Q (.inr x) u1))) (hk : ∀ (r : Int64) u1, T r u1 → WS (d + 1) y (pc + 3) ls (.long r :: rest) u1 Q) : WS (d + 1) y pc ls st0 u Q := by
  subst hls
  exact q_callV hC hd hcl hi As rest hst hn hrest hfl hrf hnc (WQ.mono hcall (fun o σ ⟨u', e, h⟩ => by subst e; exact (cn_l hk o u' h).cn))
theorem w_callSl (hC : Cst y.1.cls idx y' n) (hd : decode y.2.1 pc = .ok (.invokestatic idx, 3)) (As rest : List Value) (hst : As.reverse ++ rest = st0) (hn : As.length = n) (hrest : rest.length ≤ 8) (hfl : (flat As).length ≤ y'.2.2.1) (hrf : rfOk 83 ls rest = true) (hnc : ncov y pc = true) (hls : ent As y'.2.2.1 = ls') {T : Int64 → Us → Prop} (hcall : WS d y' 0 ls' [] u (Rl T (fun x u1 => Q (.inr x) u1))) (hk : ∀ (r : Int64) u1, T r u1 → WS (d + 1) y (pc + 3) ls (.long r :: rest) u1 Q) : WS (d + 1) y pc ls st0 u Q := by
  subst hls
  exact q_callS hC hd As rest hst hn hrest hfl hrf hnc (WQ.mono hcall (fun o σ ⟨u', e, h⟩ => by subst e; exact (cn_l hk o u' h).cn))
theorem cn_v {rest : List Value} {T : Us → Prop} (hk : ∀ u1, T u1 → WS d y (pc + 3) ls rest u1 Q) : ∀ o u1, Rv T (fun x u1 => Q (.inr x) u1) o u1 → Cw d y pc ls rest Q o u1 := by
  intro o u1 h
  match o, h with
  | .inr x, h => exact h
  | .inl none, h => exact hk  u1 h
theorem w_callVv {ci b : Nat} {C : String} {T_ : u_T} {N : Nat} (hC : Cv y.1.cls idx C y' n) (hd : decode y.2.1 pc = .ok (.invokevirtual idx, 3)) (hcl : classes[ci]? = some (C, T_, N)) (hi : SH[b]? = some (.inl ci)) (As rest : List Value) (hst : As.reverse ++ .ref b :: rest = st0) (hn : As.length = n) (hrest : rest.length ≤ 8) (hfl : (flat (.ref b :: As)).length ≤ y'.2.2.1) (hrf : rfOk 83 ls rest = true) (hnc : ncov y pc = true) (hls : ent (.ref b :: As) y'.2.2.1 = ls') {T : Us → Prop} (hcall : WS d y' 0 ls' [] u (Rv T (fun x u1 => Q (.inr x) u1))) (hk : ∀ u1, T u1 → WS (d + 1) y (pc + 3) ls rest u1 Q) : WS (d + 1) y pc ls st0 u Q := by
  subst hls
  exact q_callV hC hd hcl hi As rest hst hn hrest hfl hrf hnc (WQ.mono hcall (fun o σ ⟨u', e, h⟩ => by subst e; exact (cn_v hk o u' h).cn))
theorem w_callSv (hC : Cst y.1.cls idx y' n) (hd : decode y.2.1 pc = .ok (.invokestatic idx, 3)) (As rest : List Value) (hst : As.reverse ++ rest = st0) (hn : As.length = n) (hrest : rest.length ≤ 8) (hfl : (flat As).length ≤ y'.2.2.1) (hrf : rfOk 83 ls rest = true) (hnc : ncov y pc = true) (hls : ent As y'.2.2.1 = ls') {T : Us → Prop} (hcall : WS d y' 0 ls' [] u (Rv T (fun x u1 => Q (.inr x) u1))) (hk : ∀ u1, T u1 → WS (d + 1) y (pc + 3) ls rest u1 Q) : WS (d + 1) y pc ls st0 u Q := by
  subst hls
  exact q_callS hC hd As rest hst hn hrest hfl hrf hnc (WQ.mono hcall (fun o σ ⟨u', e, h⟩ => by subst e; exact (cn_v hk o u' h).cn))
theorem w_callVsi (hC : Cv y.1.cls idx "java/lang/String" y' n) (hd : decode y.2.1 pc = .ok (.invokevirtual idx, 3)) (As rest : List Value) (hst : As.reverse ++ .ref 1000 :: rest = st0) (hn : As.length = n) (hrest : rest.length ≤ 8) (hfl : (flat (.ref 1000 :: As)).length ≤ y'.2.2.1) (hrf : rfOk 83 ls rest = true) (hnc : ncov y pc = true) (hls : ent (.ref 1000 :: As) y'.2.2.1 = ls') {T : Int32 → Us → Prop} (hcall : WS d y' 0 ls' [] u (Ri T (fun x u1 => Q (.inr x) u1))) (hk : ∀ (r : Int32) u1, T r u1 → WS (d + 1) y (pc + 3) ls (.int r :: rest) u1 Q) : WS (d + 1) y pc ls st0 u Q := by
  subst hls
  exact q_callVs hC hd As rest hst hn hrest hfl hrf hnc (WQ.mono hcall (fun o σ ⟨u', e, h⟩ => by subst e; exact (cn_i hk o u' h).cn))
theorem cx_i {rest : List Value} {hm : Nat → Option (Nat × Nat × Nat)} {T : Int32 → Us → Prop} {E : Nat → Us → Prop} (hk : ∀ (r : Int32) u1, T r u1 → WS d y (pc + 3) ls (.int r :: rest) u1 Q) (he : ∀ x u1, E x u1 → ∃ hpc k len, hm x = some (hpc, k, len) ∧ WS d y (hpc + len) (stoN ls k) [] u1 Q) : ∀ o u1, Ri T E o u1 → Cc d y pc ls rest hm (fun o σ => ∃ u', σ = st u' ∧ Q o u') o (st u1) := by
  intro o u1 h
  match o, h with
  | .inr x, h => exact he x u1 h
  | .inl (some (.int r)), h => exact hk r u1 h
theorem w_callVXi {hm : Nat → Option (Nat × Nat × Nat)} (hH : Ch y pc hm) {ci b : Nat} {C : String} {T_ : u_T} {N : Nat} (hC : Cv y.1.cls idx C y' n) (hd : decode y.2.1 pc = .ok (.invokevirtual idx, 3)) (hcl : classes[ci]? = some (C, T_, N)) (hi : SH[b]? = some (.inl ci)) (As rest : List Value) (hst : As.reverse ++ .ref b :: rest = st0) (hn : As.length = n) (hrest : rest.length ≤ 8) (hfl : (flat (.ref b :: As)).length ≤ y'.2.2.1) (hrf : rfOk 83 ls rest = true) (hls : ent (.ref b :: As) y'.2.2.1 = ls') {T : Int32 → Us → Prop} {E : Nat → Us → Prop} (hcall : WS d y' 0 ls' [] u (Ri T E)) (hk : ∀ (r : Int32) u1, T r u1 → WS (d + 1) y (pc + 3) ls (.int r :: rest) u1 Q) (he : ∀ x u1, E x u1 → ∃ hpc k len, hm x = some (hpc, k, len) ∧ WS (d + 1) y (hpc + len) (stoN ls k) [] u1 Q) : WS (d + 1) y pc ls st0 u Q := by
  subst hls
  exact q_callVX hH hC hd hcl hi As rest hst hn hrest hfl hrf (WQ.mono hcall (fun o σ ⟨u', e, h⟩ => by subst e; exact cx_i hk he o u' h))
theorem w_callSXi {hm : Nat → Option (Nat × Nat × Nat)} (hH : Ch y pc hm) (hC : Cst y.1.cls idx y' n) (hd : decode y.2.1 pc = .ok (.invokestatic idx, 3)) (As rest : List Value) (hst : As.reverse ++ rest = st0) (hn : As.length = n) (hrest : rest.length ≤ 8) (hfl : (flat As).length ≤ y'.2.2.1) (hrf : rfOk 83 ls rest = true) (hls : ent As y'.2.2.1 = ls') {T : Int32 → Us → Prop} {E : Nat → Us → Prop} (hcall : WS d y' 0 ls' [] u (Ri T E)) (hk : ∀ (r : Int32) u1, T r u1 → WS (d + 1) y (pc + 3) ls (.int r :: rest) u1 Q) (he : ∀ x u1, E x u1 → ∃ hpc k len, hm x = some (hpc, k, len) ∧ WS (d + 1) y (hpc + len) (stoN ls k) [] u1 Q) : WS (d + 1) y pc ls st0 u Q := by
  subst hls
  exact q_callSX hH hC hd As rest hst hn hrest hfl hrf (WQ.mono hcall (fun o σ ⟨u', e, h⟩ => by subst e; exact cx_i hk he o u' h))
theorem cx_l {rest : List Value} {hm : Nat → Option (Nat × Nat × Nat)} {T : Int64 → Us → Prop} {E : Nat → Us → Prop} (hk : ∀ (r : Int64) u1, T r u1 → WS d y (pc + 3) ls (.long r :: rest) u1 Q) (he : ∀ x u1, E x u1 → ∃ hpc k len, hm x = some (hpc, k, len) ∧ WS d y (hpc + len) (stoN ls k) [] u1 Q) : ∀ o u1, Rl T E o u1 → Cc d y pc ls rest hm (fun o σ => ∃ u', σ = st u' ∧ Q o u') o (st u1) := by
  intro o u1 h
  match o, h with
  | .inr x, h => exact he x u1 h
  | .inl (some (.long r)), h => exact hk r u1 h
theorem w_callVXl {hm : Nat → Option (Nat × Nat × Nat)} (hH : Ch y pc hm) {ci b : Nat} {C : String} {T_ : u_T} {N : Nat} (hC : Cv y.1.cls idx C y' n) (hd : decode y.2.1 pc = .ok (.invokevirtual idx, 3)) (hcl : classes[ci]? = some (C, T_, N)) (hi : SH[b]? = some (.inl ci)) (As rest : List Value) (hst : As.reverse ++ .ref b :: rest = st0) (hn : As.length = n) (hrest : rest.length ≤ 8) (hfl : (flat (.ref b :: As)).length ≤ y'.2.2.1) (hrf : rfOk 83 ls rest = true) (hls : ent (.ref b :: As) y'.2.2.1 = ls') {T : Int64 → Us → Prop} {E : Nat → Us → Prop} (hcall : WS d y' 0 ls' [] u (Rl T E)) (hk : ∀ (r : Int64) u1, T r u1 → WS (d + 1) y (pc + 3) ls (.long r :: rest) u1 Q) (he : ∀ x u1, E x u1 → ∃ hpc k len, hm x = some (hpc, k, len) ∧ WS (d + 1) y (hpc + len) (stoN ls k) [] u1 Q) : WS (d + 1) y pc ls st0 u Q := by
  subst hls
  exact q_callVX hH hC hd hcl hi As rest hst hn hrest hfl hrf (WQ.mono hcall (fun o σ ⟨u', e, h⟩ => by subst e; exact cx_l hk he o u' h))
theorem w_callSXl {hm : Nat → Option (Nat × Nat × Nat)} (hH : Ch y pc hm) (hC : Cst y.1.cls idx y' n) (hd : decode y.2.1 pc = .ok (.invokestatic idx, 3)) (As rest : List Value) (hst : As.reverse ++ rest = st0) (hn : As.length = n) (hrest : rest.length ≤ 8) (hfl : (flat As).length ≤ y'.2.2.1) (hrf : rfOk 83 ls rest = true) (hls : ent As y'.2.2.1 = ls') {T : Int64 → Us → Prop} {E : Nat → Us → Prop} (hcall : WS d y' 0 ls' [] u (Rl T E)) (hk : ∀ (r : Int64) u1, T r u1 → WS (d + 1) y (pc + 3) ls (.long r :: rest) u1 Q) (he : ∀ x u1, E x u1 → ∃ hpc k len, hm x = some (hpc, k, len) ∧ WS (d + 1) y (hpc + len) (stoN ls k) [] u1 Q) : WS (d + 1) y pc ls st0 u Q := by
  subst hls
  exact q_callSX hH hC hd As rest hst hn hrest hfl hrf (WQ.mono hcall (fun o σ ⟨u', e, h⟩ => by subst e; exact cx_l hk he o u' h))
theorem cx_v {rest : List Value} {hm : Nat → Option (Nat × Nat × Nat)} {T : Us → Prop} {E : Nat → Us → Prop} (hk : ∀ u1, T u1 → WS d y (pc + 3) ls rest u1 Q) (he : ∀ x u1, E x u1 → ∃ hpc k len, hm x = some (hpc, k, len) ∧ WS d y (hpc + len) (stoN ls k) [] u1 Q) : ∀ o u1, Rv T E o u1 → Cc d y pc ls rest hm (fun o σ => ∃ u', σ = st u' ∧ Q o u') o (st u1) := by
  intro o u1 h
  match o, h with
  | .inr x, h => exact he x u1 h
  | .inl none, h => exact hk  u1 h
theorem w_callVXv {hm : Nat → Option (Nat × Nat × Nat)} (hH : Ch y pc hm) {ci b : Nat} {C : String} {T_ : u_T} {N : Nat} (hC : Cv y.1.cls idx C y' n) (hd : decode y.2.1 pc = .ok (.invokevirtual idx, 3)) (hcl : classes[ci]? = some (C, T_, N)) (hi : SH[b]? = some (.inl ci)) (As rest : List Value) (hst : As.reverse ++ .ref b :: rest = st0) (hn : As.length = n) (hrest : rest.length ≤ 8) (hfl : (flat (.ref b :: As)).length ≤ y'.2.2.1) (hrf : rfOk 83 ls rest = true) (hls : ent (.ref b :: As) y'.2.2.1 = ls') {T : Us → Prop} {E : Nat → Us → Prop} (hcall : WS d y' 0 ls' [] u (Rv T E)) (hk : ∀ u1, T u1 → WS (d + 1) y (pc + 3) ls rest u1 Q) (he : ∀ x u1, E x u1 → ∃ hpc k len, hm x = some (hpc, k, len) ∧ WS (d + 1) y (hpc + len) (stoN ls k) [] u1 Q) : WS (d + 1) y pc ls st0 u Q := by
  subst hls
  exact q_callVX hH hC hd hcl hi As rest hst hn hrest hfl hrf (WQ.mono hcall (fun o σ ⟨u', e, h⟩ => by subst e; exact cx_v hk he o u' h))
theorem w_callSXv {hm : Nat → Option (Nat × Nat × Nat)} (hH : Ch y pc hm) (hC : Cst y.1.cls idx y' n) (hd : decode y.2.1 pc = .ok (.invokestatic idx, 3)) (As rest : List Value) (hst : As.reverse ++ rest = st0) (hn : As.length = n) (hrest : rest.length ≤ 8) (hfl : (flat As).length ≤ y'.2.2.1) (hrf : rfOk 83 ls rest = true) (hls : ent As y'.2.2.1 = ls') {T : Us → Prop} {E : Nat → Us → Prop} (hcall : WS d y' 0 ls' [] u (Rv T E)) (hk : ∀ u1, T u1 → WS (d + 1) y (pc + 3) ls rest u1 Q) (he : ∀ x u1, E x u1 → ∃ hpc k len, hm x = some (hpc, k, len) ∧ WS (d + 1) y (hpc + len) (stoN ls k) [] u1 Q) : WS (d + 1) y pc ls st0 u Q := by
  subst hls
  exact q_callSX hH hC hd As rest hst hn hrest hfl hrf (WQ.mono hcall (fun o σ ⟨u', e, h⟩ => by subst e; exact cx_v hk he o u' h))
theorem w_copyb {i j ni nj a b k : Nat} {a' b' k' : Int32} {rest : List Value} (hA : Ac y.1.cls idx) (hd : decode y.2.1 pc = .ok (.invokestatic idx, 3)) (hi : SH[i]? = some (.inr (.byte, ni))) (hj : SH[j]? = some (.inr (.byte, nj))) (ea : a' = nI a) (eb : b' = nI b) (ek : k' = nI k) (hlt : a < 2 ^ 31 ∧ b < 2 ^ 31 ∧ k < 2 ^ 31) (h4 : a + k ≤ ni) (h5 : b + k ≤ nj) (hfit : ∀ q, q < k → fits .byte (.int (aI u i (a + q))) = true) (hrest : rest.length ≤ 8)
    (kk : WS d y (pc + 3) ls rest (uCp u i j a b k) Q) : WS d y pc ls (.int k' :: .int b' :: .ref j :: .int a' :: .ref i :: rest) u Q := by
  subst ea; subst eb; subst ek
  refine q_copyb hA hd hi hj (nI_pos hlt.1) (nI_pos hlt.2.1) (nI_pos hlt.2.2) (by rw [nI_clamp hlt.1, nI_clamp hlt.2.2]; exact h4) (by rw [nI_clamp hlt.2.1, nI_clamp hlt.2.2]; exact h5) (fun q hq => by rw [nI_clamp hlt.2.2] at hq; rw [nI_clamp hlt.1]; exact hfit q hq) hrest ?_
  rw [nI_clamp hlt.1, nI_clamp hlt.2.1, nI_clamp hlt.2.2]
  exact kk
end WC
theorem th_AR_63 : Th "ArrayRecords" 63 65 0 := ⟨(tb3 15 rfl), (tb3 16 rfl), (tb1 15 rfl), by decide +kernel, by decide +kernel⟩
theorem th_AR_66 : Th "ArrayRecords" 66 68 1 := ⟨(tb3 82 rfl), (tb3 83 rfl), (tb1 16 rfl), by decide +kernel, by decide +kernel⟩
theorem th_Scan_42 : Th "ArrayRecords$Scanner" 42 44 2 := ⟨(tb3 124 rfl), (tb3 125 rfl), (tb1 18 rfl), by decide +kernel, by decide +kernel⟩
theorem th_AR_168 : Th "ArrayRecords" 168 170 3 := ⟨(tb5 11 rfl), (tb5 12 rfl), (tb1 26 rfl), by decide +kernel, by decide +kernel⟩
theorem mn_Scan_93 : Mn "ArrayRecords$Scanner" 93 := ⟨(tb3 207 rfl), (tb3 208 rfl), (tb1 23 rfl), (tb3 209 rfl)⟩
theorem ac_AR_124 : Ac "ArrayRecords" 124 := ⟨(tb3 104 rfl), (tb3 106 rfl), (tb3 105 rfl), (tb1 17 rfl)⟩
