def R_law : String := "ArrayRecordsLaw"
def lw_P (b : Addr) (xs : List Int32) (args : Array Value) (s : State) : Prop := args = #[.ref b] ∧ s.IntsAt b xs ∧ xs.length ≤ 2048 ∧ (Jvm.Cond.and given_1 narrow_1).before args s = true
def lw_Q (_ : Array Value) (s : State) (o : Outcome) (t : State) : Prop := o = .returned (some (.int 1)) ∧ Framed s o t [] 601024 7293034
def lw_Z (below : List Frame) (a : Array Value) (s : State) : State → Prop := fun t => ∃ o, t.status = .running ∧ Ended t below o ∧ lw_Q a s o t
/-- the law's own end, with 1 on the stack, nothing written that was there before, its room as the claim has it -/
theorem lw_ret {p : Program} {l : Launch} {e : Env} {s : State} {m : MethodId} {below : List Frame} {meth : Method} {c : Code} {b : Nat} (hx : p.tables.exec = Jvm.exec) (hb : c.code = code) (hr : meth.sig.returnType = ret) (hlocks : meth.locks = false) {pc : Nat} {H : Heap} {ls : Array Slot} (hdg : decode code pc = .ok (.ireturn, 1)) : W p l e room_1 s m #[Value.ref b] below meth c H [] 601024 7293034 (lw_Z below #[Value.ref b] s) (F0 m pc ls [.int 1]) := by
  intro T hT X
  obtain ⟨fs, hret, hrun, hended, hW, hframe⟩ := X.leave (v := some (.int 1)) (hlocks := hlocks) (fun h => by rw [hr] at h; cases h)
  have hmeth' : T.vm.method? m = some meth := X.method'
  refine ⟨T.setFrames fs, ?_, .returned (some (.int 1)), hrun, hended, rfl, ⟨_, rfl⟩, hW, hframe⟩
  jvm_step X.here [X.here.top, hx, hb, hdg, hmeth', hr, ret, narrow_b1]
  (try refine ⟨rfl, ?_⟩); (try refine ⟨rfl, ?_⟩)
  first | (intro acts; rw [hret _ acts rfl rfl rfl]) | rw [hret _ _ rfl rfl rfl]
  exact Steps.refl _
/-- what holds at the law's entry: the machine, the code, the tables' words (any of lw_tbl by 'hts w (by decide +kernel)'), the script of L ints xs at the cell b, what the Statement gives of the start (any of its parts by flat_of_before) -/
def lw_At (p : Program) (s : State) (m : MethodId) (meth : Method) (c : Code) (b L : Nat) (xs : Nat → Int32) : Prop :=
  p.tables.exec = Jvm.exec ∧ c.code = code ∧ meth.sig.returnType = ret ∧ c.maxLocals = 7 ∧ s.vm.findClass R_law = some m.cls ∧ (∀ w ∈ lw_tbl, w.before #[Value.ref b] s = true) ∧ va_X b L xs s s.heap ∧ b < s.heap.size ∧ meth.locks = false ∧ (Jvm.Cond.and given_1 narrow_1).before #[Value.ref b] s = true
theorem in_0 : Cond.instantiable "ArrayRecords$Meaning" 9 ∈ lw_tbl := (tb1 36 rfl)
theorem in_1 : Cond.instantiable "ArrayRecords$Scanner" 10 ∈ lw_tbl := (tb1 89 rfl)
theorem in_2 : Cond.instantiable "ArrayRecords$Names" 2 ∈ lw_tbl := (tb1 95 rfl)
theorem in_3 : Cond.instantiable "ArrayRecords$Code" 9 ∈ lw_tbl := (tb1 148 rfl)
theorem in_4 : Cond.instantiable "ArrayRecords$Statements" 15 ∈ lw_tbl := (tb1 198 rfl)
theorem in_5 : Cond.instantiable "ArrayRecords$Parser" 8 ∈ lw_tbl := (tb2 38 rfl)
theorem in_6 : Cond.instantiable "ArrayRecords$Machine" 17 ∈ lw_tbl := (tb2 72 rfl)
theorem in_7 : Cond.instantiable "ArrayRecords$Store" 3 ∈ lw_tbl := (tb2 78 rfl)
theorem in_8 : Cond.instantiable "ArrayRecords$Stack" 6 ∈ lw_tbl := (tb2 97 rfl)
theorem in_9 : Cond.instantiable "ArrayRecords" 10 ∈ lw_tbl := (tb1 28 rfl)
theorem in_10 : Cond.instantiable "ArrayRecordsModel" 48 ∈ lw_tbl := (tb5 35 rfl)
set_option maxHeartbeats 4000000 in
set_option maxRecDepth 100000 in
theorem whole_start (hOk : LawOk) {p : Program} {e : Env} {s : State} {m : MethodId} {below : List Frame} {meth : Method} {c : Code} (l : Launch) (htr : e.platform.stackTraces = false) (hex : c.exceptionTable.toList = []) (hnm : meth.name = "law") {b L : Nat} {xs : Nat → Int32} (hL : L ≤ 2048) (C0 : lw_At p s m meth c b L xs) : W p l e room_1 s m #[Value.ref b] below meth c s.heap [] 0 0 (lw_Z below #[Value.ref b] s) (entryFrame m ([Value.ref b] : List Value).toArray 7) := by
  obtain ⟨hx, hb, hr, hml, hown, hts, hX, hbl, hlocks, hgv⟩ := id C0
  obtain ⟨ad, had, hCs⟩ := cs_start hts hX hbl hgv
  have kn : ∀ {ci : Nat} {C : String} {T : u_T} {N : Nat}, ck ci C T N → Cond.instantiable C N ∈ lw_tbl → ∃ (cC : ClassId) (iS : Nat → Nat), u_Kn s C T N cC iS := by
    intro ci C T N h h2
    obtain ⟨c0, iS0, h⟩ := u_known (C := C) (T := T) (N := N) (n := N) hts h.2.1 (hts _ h2)
    exact ⟨c0, iS0, h⟩
  have hKc : ∀ k : Nat, ∃ z : ClassId × (Nat → Nat), ∀ q : vw_C, classes[k]? = some q → u_Kn s q.1 q.2.1 q.2.2 z.1 z.2 := by
    intro k
    match k with
    | 0 => obtain ⟨c0, i0, h⟩ := kn ck_0 in_0; exact ⟨(c0, i0), fun q hq => by cases hq; exact h⟩
    | 1 => obtain ⟨c0, i0, h⟩ := kn ck_1 in_1; exact ⟨(c0, i0), fun q hq => by cases hq; exact h⟩
    | 2 => obtain ⟨c0, i0, h⟩ := kn ck_2 in_2; exact ⟨(c0, i0), fun q hq => by cases hq; exact h⟩
    | 3 => obtain ⟨c0, i0, h⟩ := kn ck_3 in_3; exact ⟨(c0, i0), fun q hq => by cases hq; exact h⟩
    | 4 => obtain ⟨c0, i0, h⟩ := kn ck_4 in_4; exact ⟨(c0, i0), fun q hq => by cases hq; exact h⟩
    | 5 => obtain ⟨c0, i0, h⟩ := kn ck_5 in_5; exact ⟨(c0, i0), fun q hq => by cases hq; exact h⟩
    | 6 => obtain ⟨c0, i0, h⟩ := kn ck_6 in_6; exact ⟨(c0, i0), fun q hq => by cases hq; exact h⟩
    | 7 => obtain ⟨c0, i0, h⟩ := kn ck_7 in_7; exact ⟨(c0, i0), fun q hq => by cases hq; exact h⟩
    | 8 => obtain ⟨c0, i0, h⟩ := kn ck_8 in_8; exact ⟨(c0, i0), fun q hq => by cases hq; exact h⟩
    | 9 => obtain ⟨c0, i0, h⟩ := kn ck_9 in_9; exact ⟨(c0, i0), fun q hq => by cases hq; exact h⟩
    | 10 => obtain ⟨c0, i0, h⟩ := kn ck_10 in_10; exact ⟨(c0, i0), fun q hq => by cases hq; exact h⟩
    | k + 11 => exact ⟨(0, fun _ => 0), fun q hq => by simp [classes] at hq⟩
  obtain ⟨Dz, hD⟩ := Classical.axiomOfChoice hKc
  have hK : va_K (fun k => (Dz k).1, fun k => (Dz k).2) classes [] s := ⟨fun k q h => hD k q h, fun k q h => by simp at h⟩
  have F : Fx p e room_1 s m #[Value.ref b] meth c 1000 m_law (fun q => s.heap.size ≤ q) (fun k => (Dz k).1, fun k => (Dz k).2) := by
    refine ⟨hx, htr, hb, hml, hr, hlocks, hex, hown, hnm, fun w hw _ => hts w hw, by decide, by decide, fun _ h => h, fun q hq cell hc => ?_, hK⟩
    rw [Array.getElem?_eq_none hq] at hc
    cases hc
  have e0 : ∀ (ac : Nat → ClassId), ws ad ac (sg0 L xs) = [] := fun _ => rfl
  have Wr : Wd (fun k => (Dz k).1, fun k => (Dz k).2) ad (fun _ => 0) (fun q => s.heap.size ≤ q) s (sg0 L xs) s.heap [] := by
    refine ⟨fun k q h => ?_, ⟨fun i j p q h => ?_, fun k q h => ?_⟩, va_S.rf, fun i ty n h => ?_, ?_, hCs, Nat.zero_le _⟩
    · rw [e0] at h; simp at h
    · rw [e0] at h; simp at h
    · rw [e0] at h; simp at h
    · have h' : ([] : List Kd)[i]? = some (.inr (ty, n)) := h
      simp at h'
    · intro i k j h
      cases h
  rw [lg_entry_eq]
  have hl := lh_ent ad [.ref 999] (n := 7) (by decide)
  have hm : ([.ref 999] : List Value).map (cv ad) = [Value.ref b] := by show [Value.ref (ad 999)] = _; rw [had]
  rw [hm] at hl
  intro T hT X
  obtain ⟨t, a1, o, σ', ad', ac', oc, Lc, k, n, f1, f2, f3, f4, f5, f6, f7, f8, f9, f10, f11⟩ := hOk L xs hL p l e room_1 s m #[Value.ref b] below meth c s.heap [] 0 0 _ ad (fun _ => 0) _ _ F Wr (Nat.le_of_eq ((Nat.zero_add _).trans (rfl : (601024 : Nat) = 601024))) (Nat.le_of_eq ((Nat.zero_add _).trans (rfl : (7293034 : Nat) = 7293034))) hl T hT X
  subst f4
  refine ⟨t, a1, oc, f1, f2, f3, ⟨_, f3⟩, f5, f6.weaken (fun q hq hlt => ?_) (by have : k + gC σ' ≤ 601024 := f7; omega) (by have : n + gN σ' ≤ 7293034 := f8; omega)⟩
  exact absurd hlt (Nat.not_lt.mpr (f11.2.2.1.2.2 q hq))
