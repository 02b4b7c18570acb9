-- the abstract memory and the judgement WQ
theorem tb1 {w : Cond} (k : Nat) (h : tables_1_1[k]? = some w) : w ∈ lw_tbl := List.mem_append_right _ (List.mem_append_left _ (List.mem_of_getElem? h))
theorem tb2 {w : Cond} (k : Nat) (h : tables_1_2[k]? = some w) : w ∈ lw_tbl := List.mem_append_right _ (List.mem_append_right _ (List.mem_append_left _ (List.mem_of_getElem? h)))
theorem tb3 {w : Cond} (k : Nat) (h : tables_1_3[k]? = some w) : w ∈ lw_tbl := List.mem_append_right _ (List.mem_append_right _ (List.mem_append_right _ (List.mem_append_left _ (List.mem_of_getElem? h))))
theorem tb4 {w : Cond} (k : Nat) (h : tables_1_4[k]? = some w) : w ∈ lw_tbl := List.mem_append_right _ (List.mem_append_right _ (List.mem_append_right _ (List.mem_append_right _ (List.mem_append_left _ (List.mem_of_getElem? h)))))
theorem tb5 {w : Cond} (k : Nat) (h : tables_1_5[k]? = some w) : w ∈ lw_tbl := List.mem_append_right _ (List.mem_append_right _ (List.mem_append_right _ (List.mem_append_right _ (List.mem_append_right _ (List.mem_append_left _ (List.mem_of_getElem? h))))))
theorem tb6 {w : Cond} (k : Nat) (h : tables_1_6[k]? = some w) : w ∈ lw_tbl := List.mem_append_right _ (List.mem_append_right _ (List.mem_append_right _ (List.mem_append_right _ (List.mem_append_right _ (List.mem_append_right _ (List.mem_append_left _ (List.mem_of_getElem? h)))))))
theorem tb7 {w : Cond} (k : Nat) (h : tables_1_7[k]? = some w) : w ∈ lw_tbl := List.mem_append_right _ (List.mem_append_right _ (List.mem_append_right _ (List.mem_append_right _ (List.mem_append_right _ (List.mem_append_right _ (List.mem_append_right _ (List.mem_of_getElem? h)))))))
abbrev Kd : Type := Nat ⊕ (FieldType × Nat)
/-- shape, ints, longs, references, script (length, contents), cells left, slots left -/
abbrev Sg : Type := List Kd × (Nat → Nat → Int32) × (Nat → Nat → Int64) × (Nat → Nat → Option Nat) × (Nat × (Nat → Int32)) × Nat × Nat
abbrev gS (σ : Sg) : List Kd := σ.1
abbrev gI (σ : Sg) : Nat → Nat → Int32 := σ.2.1
abbrev gL (σ : Sg) : Nat → Nat → Int64 := σ.2.2.1
abbrev gR (σ : Sg) : Nat → Nat → Option Nat := σ.2.2.2.1
abbrev gX (σ : Sg) : Nat × (Nat → Int32) := σ.2.2.2.2.1
abbrev gC (σ : Sg) : Nat := σ.2.2.2.2.2.1
abbrev gN (σ : Sg) : Nat := σ.2.2.2.2.2.2
abbrev My : Type := MethodName × ByteArray × Nat × Option FieldType × List (Nat × Nat × Nat × Nat)
abbrev Ot : Type := Option Value ⊕ Nat
abbrev Lo : Type := List (Option Value)
def cv (ad : Nat → Nat) : Value → Value
  | .ref i => .ref (ad i)
  | v => v
theorem cv_cat (ad : Nat → Nat) (v : Value) : (cv ad v).category = v.category := by cases v <;> rfl
def rf (ad : Nat → Nat) : Option Nat → Value
  | none => .null
  | some j => .ref (ad j)
def tk : FieldType → Nat
  | .long => 1
  | .object _ => 2
  | .array _ => 2
  | _ => 0
def xf (ad : Nat → Nat) (σ : Sg) (ci i k : Nat) : Value := match tk (tyOf ci k) with
  | 0 => .int (gI σ i k)
  | 1 => .long (gL σ i k)
  | _ => rf ad (gR σ i k)
def xe (ad : Nat → Nat) (ac : Nat → ClassId) (σ : Sg) (i : Nat) : Kd → va_E
  | .inl ci => .inr (ci, (List.range (nfl ci)).map (xf ad σ ci i))
  | .inr (ty, n) => .inl (ac i, n, if tk ty = 1 then .inr (.inl (gL σ i)) else .inl (gI σ i))
def ws (ad : Nat → Nat) (ac : Nat → ClassId) (σ : Sg) : va_W := (gS σ).mapIdx (fun i k => (ad i, xe ad ac σ i k))
theorem ws_at {ad : Nat → Nat} {ac : Nat → ClassId} {σ : Sg} {i : Nat} {k : Kd} (h : (gS σ)[i]? = some k) : (ws ad ac σ)[i]? = some (ad i, xe ad ac σ i k) := by
  simp [ws, h]
theorem ws_at' {ad : Nat → Nat} {ac : Nat → ClassId} {σ : Sg} {i : Nat} : (ws ad ac σ)[i]? = ((gS σ)[i]?).map (fun k => (ad i, xe ad ac σ i k)) := by
  simp [ws]
/-- which words a walk may carry to a callee -/
def mvOk (w : Cond) : Bool := (w.onTables && w.keeps) || (match w with | .arrayClass _ => true | .fieldLinkNest .. => true | .methodLinkNest .. => true | .castable .. => true | .declares _ => true | _ => false)
theorem mv_at {args a' : Array Value} {s U : State} (hW : s.WarmedH U.vm) {w : Cond} (hm : mvOk w = true) (h : w.before args s = true) : w.before a' U = true := by
  by_cases h1 : (w.onTables && w.keeps) = true
  · exact word_at hW (Or.inl h1) h
  · have h1' : (w.onTables && w.keeps) = false := by simpa using h1
    unfold mvOk at hm
    rw [h1', Bool.false_or] at hm
    split at hm
    · exact word_at hW (Or.inr ⟨_, rfl⟩) h
    · exact va_Nw.use rfl (va_Nw.warmF hW (va_Nw.of rfl h))
    · exact va_Nw.use rfl (va_Nw.warmM hW (va_Nw.of rfl h))
    · exact va_Nw.use rfl (va_Nw.warmC hW (va_Nw.of rfl h))
    · exact va_Nw.use rfl (va_Nw.warmD hW (va_Nw.of rfl h))
    · cases hm
def exn : Nat → String
  | 0 => "java/lang/IllegalArgumentException"
  | 1 => "java/lang/IllegalStateException"
  | 2 => "java/lang/UnsupportedOperationException"
  | _ => "java/lang/IndexOutOfBoundsException"
abbrev wTx : String := "kind insert delete where set let print each by if else while remove and or not count sum least greatest "
def wBy : List Int32 := wTx.toList.map (fun c => Int32.ofNat c.toNat)
/-- a static of references: laid, in a cell that stays -/
def Zs (O f d : String) (A : Nat → Prop) (s : State) (H : Heap) : Prop := ∃ (c : ClassId) (k : Class) (i : Nat) (fd : Field) (a : Nat) (cell : Cell) (v : Value), s.vm.findClass O = some c ∧ s.fieldFound? O f d = some (c, k, i, fd) ∧ fd.isStatic = true ∧ k.statics = some a ∧ H[a]? = some cell ∧ cell.vm.isStatics = true ∧ cell.cls = c ∧ fd.slot < cell.slots.size ∧ k.staticTypes[fd.slot]? = some fd.type ∧ cell.slots[fd.slot]? = some v ∧ v.isRef = true ∧ ¬ A a
theorem Zs.moved {O f d : String} {A : Nat → Prop} {u U : State} {H : Heap} (hvm : u.vm.Alike U.vm) (h : Zs O f d A u H) : Zs O f d A U H := by
  obtain ⟨c, k, i, fd, a, cell, v, h0, h1, h2, h3, h4, h5, h6, h7, h8, h9⟩ := h
  obtain ⟨k', hi', he⟩ := State.fieldFound?_setVm hvm h1
  exact ⟨c, k', i, fd, a, cell, v, by rw [hvm.findClass]; exact h0, hi', h2, by rw [he]; exact h3, h4, h5, h6, h7, by rw [he]; exact h8, h9⟩
theorem Zs.kept {O f d : String} {A : Nat → Prop} {U : State} {H H1 : Heap} (h : Zs O f d A U H) (hq : ∀ a : Nat, a < H.size → ¬ A a → H1[a]? = H[a]?) : Zs O f d A U H1 := by
  obtain ⟨c, k, i, fd, a, cell, v, h0, h1, h2, h3, h4, h5, h6, h7, h8, h9, h10, h11⟩ := h
  exact ⟨c, k, i, fd, a, cell, v, h0, h1, h2, h3, by rw [hq a (Array.getElem?_eq_some_iff.mp h4).1 h11]; exact h4, h5, h6, h7, h8, h9, h10, h11⟩
theorem Zs.narrow {O f d : String} {A B : Nat → Prop} {U : State} {H : Heap} (h : Zs O f d A U H) (hAB : ∀ q, B q → A q) : Zs O f d B U H := by
  obtain ⟨c, k, i, fd, a, cell, v, h0, h1, h2, h3, h4, h5, h6, h7, h8, h9, h10, h11⟩ := h
  exact ⟨c, k, i, fd, a, cell, v, h0, h1, h2, h3, h4, h5, h6, h7, h8, h9, h10, fun z => h11 (hAB a z)⟩
theorem Zs.lays {O f d : String} {A : Nat → Prop} {s : State} {args : Array Value} (h : Zs O f d A s s.heap) : (Cond.laysStatic O f d).before args s = true := by
  obtain ⟨c, k, i, fd, a, cell, v, h0, h1, h2, h3, h4, h5, h6, h7, h8, h9, h10, h11⟩ := h
  simp [Cond.before, Cond.holds, Cond.value, h0, h1, h2, h3, h4, h5, h6, h7, h8]
theorem Zs.isRef {O f d : String} {A : Nat → Prop} {s : State} {args : Array Value} (h : Zs O f d A s s.heap) : (Cond.isRef (.static O f d)).before args s = true := by
  obtain ⟨c, k, i, fd, a, cell, v, h0, h1, h2, h3, h4, h5, h6, h7, h8, h9, h10, h11⟩ := h
  have hne : cell.vm ≠ .unknown := fun q => by rw [q] at h5; cases h5
  have hv : (Term.static O f d).eval args s none [] s = some v := by
    simp [Term.eval, State.fieldNamed?, h1, h2, h3, h4, h5, hne, h9]
  cases v <;> simp_all [Cond.before, Cond.holds, Cond.value, Value.isRef]
/-- what is old and stays: the script (999), the text of the words (1000, its bytes 1001), statics -/
def Cs (L : Nat) (xs : Nat → Int32) (ad : Nat → Nat) (A : Nat → Prop) (s : State) : Prop :=
  (va_X (ad 999) L xs s s.heap ∧ ad 999 < s.heap.size ∧ ¬ A (ad 999)) ∧ vk_R "ArrayRecords$Scanner" 68 wTx (ad 1000) s ∧
  vk_S 1 [104] [wBy] (fun _ => ad 1000) (fun _ => ad 1001) A s s.heap ∧
  va_Z "java/lang/String" "COMPACT_STRINGS" "Z" (.int 1) A s s.heap ∧
  (va_Z "jdk/internal/util/Preconditions" "SIOOBE_FORMATTER" "Ljava/util/function/BiFunction;" .null A s s.heap ∨ va_Z "jdk/internal/util/Preconditions" "SIOOBE_FORMATTER" "Ljava/util/function/BiFunction;" (.ref (ad 1002)) A s s.heap) ∧
  Zs "java/lang/Throwable" "UNASSIGNED_STACK" "[Ljava/lang/StackTraceElement;" A s s.heap ∧
  Zs "java/lang/Throwable" "SUPPRESSED_SENTINEL" "Ljava/util/List;" A s s.heap ∧
  va_Nc "java/lang/IllegalStateException" "java/lang/IllegalArgumentException" s
def hdl (h : Nat × Nat × Nat × Nat) : ExceptionTableEntry := { startPc := h.1, endPc := h.2.1, handlerPc := h.2.2.1, catchType := h.2.2.2 }
/-- what is fixed in an invocation -/
def Fx (p : Program) (e : Env) (R : Room) (s : State) (m : MethodId) (args : Array Value) (meth : Method) (c : Code) (d : Nat) (y : My) (A : Nat → Prop) (D : va_G) : Prop :=
  p.tables.exec = Jvm.exec ∧ e.platform.stackTraces = false ∧ c.code = y.2.1 ∧ c.maxLocals = y.2.2.1 ∧ meth.sig.returnType = y.2.2.2.1 ∧ meth.locks = false ∧
  c.exceptionTable.toList = y.2.2.2.2.map hdl ∧ s.vm.findClass y.1.cls = some m.cls ∧ meth.name = y.1.name ∧ (∀ w ∈ lw_tbl, mvOk w = true → w.before args s = true) ∧
  d + 8 ≤ R.frames ∧ 64 * d + 256 ≤ R.locals ∧ (∀ q, s.heap.size ≤ q → A q) ∧ (∀ q, A q → ∀ cell, s.heap[q]? = some cell → cell.vm.isStatics = false) ∧ va_K D classes [] s
/-- the concrete heap holds the abstract memory -/
def Wd (D : va_G) (ad : Nat → Nat) (ac : Nat → ClassId) (A : Nat → Prop) (s : State) (σ : Sg) (H : Heap) (locs : List Loc) : Prop :=
  va_P D classes (ws ad ac σ) H ∧ va_D A (ws ad ac σ) ∧ va_S A s.heap H locs ∧ (∀ (i : Nat) (ty : FieldType) (n : Nat), (gS σ)[i]? = some (.inr (ty, n)) → ArrOfT s (ac i) ty ∧ va_RA s (ac i) ty ∧ tk ty < 2) ∧
  (∀ i k j, gR σ i k = some j → j < (gS σ).length) ∧ Cs (gX σ).1 (gX σ).2 ad A s ∧ (gS σ).length ≤ 900
def LH (lsC : Array Slot) (nL : Nat) (ad : Nat → Nat) (ls : Lo) : Prop := lsC.size = nL ∧ lv_wf lsC ∧ ∀ (i : Nat) (v : Value), ls[i]? = some (some v) → lsC[i]? = some (.val (cv ad v))
def agr (n : Nat) (ad ad' : Nat → Nat) : Prop := ∀ i, i < n ∨ 900 ≤ i → ad' i = ad i
def OutR (ad : Nat → Nat) (t : State) : Ot → Outcome → Prop
  | .inl none, oc => oc = .returned none
  | .inl (some v), oc => oc = .returned (some (cv ad v))
  | .inr x, oc => ∃ (a : Addr) (cell : Cell), oc = .threw a ∧ t.heap[a]? = some cell ∧ t.vm.findClass (exn x) = some cell.cls ∧ cell.vm.isStatics = false
def Fin_ (below : List Frame) (s : State) (A : Nat → Prop) (R : Room) (D : va_G) (ad : Nat → Nat) (sh : List Kd) (Q : Ot → Sg → Prop) : State → Prop := fun t =>
  ∃ (o : Ot) (σ : Sg) (ad' : Nat → Nat) (ac' : Nat → ClassId) (oc : Outcome) (L : List Loc) (k n : Nat),
    t.status = .running ∧ Ended t below oc ∧ OutR ad' t o oc ∧ Q o σ ∧ s.WarmedH t.vm ∧ s.sameButNew ({ t with vm := s.vm } : State) L k n ∧ k + gC σ ≤ R.cells ∧ n + gN σ ≤ R.slots ∧ agr sh.length ad ad' ∧ (∃ z, gS σ = sh ++ z) ∧ Wd D ad' ac' A s σ t.heap L
def WQ (d : Nat) (y : My) (pc : Nat) (ls : Lo) (st : List Value) (σ : Sg) (Q : Ot → Sg → Prop) : Prop :=
  ∀ (p : Program) (l : Launch) (e : Env) (R : Room) (s : State) (m : MethodId) (args : Array Value) (below : List Frame) (meth : Method) (c : Code) (H : Heap) (locs : List Loc) (cells slots : Nat) (A : Nat → Prop) (ad : Nat → Nat) (ac : Nat → ClassId) (D : va_G) (lsC : Array Slot),
    Fx p e R s m args meth c d y A D → Wd D ad ac A s σ H locs → cells + gC σ ≤ R.cells → slots + gN σ ≤ R.slots → LH lsC y.2.2.1 ad ls →
    W p l e R s m args below meth c H locs cells slots (Fin_ below s A R D ad (gS σ) Q) (F0 m pc lsC (st.map (cv ad)))
theorem WQ.mono {d : Nat} {y : My} {pc : Nat} {ls : Lo} {st : List Value} {σ : Sg} {Q Q' : Ot → Sg → Prop} (h : WQ d y pc ls st σ Q) (hq : ∀ o u, Q o u → Q' o u) : WQ d y pc ls st σ Q' := by
  intro p l e R s m args below meth c H locs cells slots A ad ac D lsC F Wr hc hs hl T hT X
  obtain ⟨t, a, o, u, ad', ac', oc, L, k, n, h1, h2, h3, h4, h5⟩ := h p l e R s m args below meth c H locs cells slots A ad ac D lsC F Wr hc hs hl T hT X
  exact ⟨t, a, o, u, ad', ac', oc, L, k, n, h1, h2, h3, hq _ _ h4, h5⟩
theorem Cs.go {L : Nat} {xs : Nat → Int32} {ad ad' : Nat → Nat} {A B : Nat → Prop} {s s' : State} (h : Cs L xs ad A s) (hW : s.WarmedH s'.vm) (hk : ∀ a : Nat, a < s.heap.size → ¬ A a → s'.heap[a]? = s.heap[a]?) (hB : ∀ q, B q → A q ∨ False) (hsz : s.heap.size ≤ s'.heap.size) (e : ∀ i, 900 ≤ i → ad' i = ad i) : Cs L xs ad' B s' := by
  obtain ⟨⟨h1, h2, h3⟩, h4, h5, h6, h7, h8, h9, h10⟩ := h
  have hB' : ∀ q, B q → A q := fun q z => (hB q z).elim id False.elim
  unfold Cs
  rw [e 999 (by decide), e 1000 (by decide), e 1001 (by decide), e 1002 (by decide)]
  exact ⟨⟨(h1.kept (hk _ h2 h3)).moved hW.alike, Nat.lt_of_lt_of_le h2 hsz, fun z => h3 (hB' _ z)⟩, h4.warm hW, (vk_S.moved hW.alike (h5.kept hk)).narrow hB', (va_Z.moved hW.alike (h6.kept hk)).narrow hB', h7.imp (fun h7 => (va_Z.moved hW.alike (h7.kept hk)).narrow hB') (fun h7 => (va_Z.moved hW.alike (h7.kept hk)).narrow hB'), (Zs.moved hW.alike (h8.kept hk)).narrow hB', (Zs.moved hW.alike (h9.kept hk)).narrow hB', va_Nc.moved hW.alike h10⟩
