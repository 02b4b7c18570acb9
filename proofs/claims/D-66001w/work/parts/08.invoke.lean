-- the links of calls
abbrev mhv (n : MethodName) : Prop := n.cls ≠ "java/lang/invoke/MethodHandle" ∧ n.cls ≠ "java/lang/invoke/VarHandle"
/-- the callee is known, n parameters -/
def Cb (y' : My) (n : Nat) : Prop := cw y' ∈ lw_tbl ∧ plainFor y'.1 = true ∧ mhv y'.1 ∧ (parseMethodDescriptor y'.1.desc).map (fun z => z.parameters.length) = some n ∧ y'.2.2.1 ≤ 20
def Cv (own : String) (idx : Nat) (C : String) (y' : My) (n : Nat) : Prop := Cb y' n ∧ Cond.methodLink own idx y'.1 ∈ lw_tbl ∧ Cond.instanceMethod y'.1 ∈ lw_tbl ∧ Cond.selects C y'.1 y'.1 ∈ lw_tbl
def Cst (own : String) (idx : Nat) (y' : My) (n : Nat) : Prop := Cb y' n ∧ (Cond.methodLink own idx y'.1 ∈ lw_tbl ∨ Cond.methodLinkNest own idx y'.1 "ArrayRecords" ∈ lw_tbl) ∧ Cond.static y'.1 ∈ lw_tbl ∧ Cond.initialized y'.1.cls ∈ lw_tbl
def Ci (own : String) (idx : Nat) (y' : My) (n : Nat) : Prop := Cb y' n ∧ (Cond.methodLink own idx y'.1 ∈ lw_tbl ∨ Cond.methodLinkNest own idx y'.1 "ArrayRecords" ∈ lw_tbl) ∧ Cond.instanceMethod y'.1 ∈ lw_tbl ∧ y'.1.name = "<init>" ∧ y'.2.2.2.1 = none ∧ y'.2.2.2.2 = []
section IN
variable {p : Program} {l : Launch} {e : Env} {R : Room} {s : State} {m : MethodId} {args : Array Value} {below : List Frame} {meth : Method} {c : Code} {H : Heap} {locs : List Loc} {cells slots : Nat} {A : Nat → Prop} {ad : Nat → Nat} {ac : Nat → ClassId} {D : va_G} {lsC : Array Slot}
variable {d : Nat} {y y' : My} {pc idx n : Nat} {As rest : List Value}
theorem lenOf {yn : MethodName} {n k : Nat} (h : (parseMethodDescriptor yn.desc).map (fun z => z.parameters.length) = some n) (hk : k = n) {sig : MethodDescriptor} (hs : parseMethodDescriptor yn.desc = some sig) : k = sig.parameters.length := by
  rw [hs] at h; rw [hk]; exact (Option.some.inj h).symm
theorem into_V (F : Fx p e R s m args meth c d y A D) {C : String} (hC : Cv y.1.cls idx C y' n) (hd : decode y.2.1 pc = .ok (.invokevirtual idx, 3)) {b : Addr} (hrecv : ∃ cell : Cell, H[b]? = some cell ∧ cell.vm.isStatics = false ∧ s.vm.findClass C = some cell.cls) (hn : As.length = n) :
    IntoQ p l e R s m args below meth c H locs cells slots pc lsC (As.reverse ++ .ref b :: rest) rest y'.1 (.ref b :: As).toArray := by
  obtain ⟨⟨c1, c2, hy, c4, c5⟩, k1, k2, k3⟩ := hC
  obtain ⟨cellB, hcell, hobj, hcls⟩ := hrecv
  have hts := F.hts
  have hlink := hts _ k1 rfl
  have hinst := hts _ k2 rfl
  have hsel := hts _ k3 rfl
  have hcode := cw_with (hts _ c1 (cw_mv y'))
  intro T hT X
  obtain ⟨mk, methM, hnamed, hmethM, hstM, habM⟩ := Cond.instanceMethod_spec hinst
  obtain ⟨mk', methM', cM, hn', hmethM', -, -, -, -, -, -, hsigM⟩ := Cond.codeWith_spec hcode
  cases hn'.symm.trans hnamed
  cases hmethM.symm.trans hmethM'
  obtain ⟨c2, r2, m2, q1, q2, q3, q4, kP, hkP, hkPi⟩ := Cond.selects_spec hsel
  cases hcls.symm.trans q1
  cases (State.methodFound?_of_named hnamed hy).symm.trans q2
  cases hnamed.symm.trans q3
  have hselP : selectMethod e.platform s.vm cellB.cls mk = .method mk := by rw [Launch.admits_selectMethod X.admits]; exact q4
  obtain ⟨vm₁, X₁, hstep₁⟩ := X.invokevirtual F.1 F.own hlink hnamed hmethM hstM hkP hkPi hy (a := b) (cell := cellB) (by rw [hT]; exact hcell)
    (fun z h => by rw [h] at hobj; cases hobj) hselP hmethM habM hkP hkPi (g := F0 m pc lsC (As.reverse ++ .ref b :: rest)) rfl (argsL := As) (rest := rest) (lenOf c4 hn hsigM) rfl (by rw [F.2.2.1]; exact hd)
  exact ⟨vm₁, mk, X₁, hnamed, fun tg h => hstep₁ _ fun acts => by rw [doInvoke_state] at h ⊢; exact h⟩
theorem into_S (F : Fx p e R s m args meth c d y A D) (hC : Cst y.1.cls idx y' n) (hd : decode y.2.1 pc = .ok (.invokestatic idx, 3)) (hn : As.length = n) :
    IntoQ p l e R s m args below meth c H locs cells slots pc lsC (As.reverse ++ rest) rest y'.1 As.toArray := by
  obtain ⟨⟨c1, c2, hy, c4, c5⟩, k1, k2, k3⟩ := hC
  have hts := F.hts
  have hstat := hts _ k2 rfl
  have hini := hts _ k3 rfl
  have hcode := cw_with (hts _ c1 (cw_mv y'))
  intro T hT X
  obtain ⟨mk, methM, cM, hnamed, hmethM, -, -, -, -, -, -, hsigM⟩ := Cond.codeWith_spec hcode
  have hstatic : methM.isStatic = true := Cond.static_spec hnamed hmethM hstat
  obtain ⟨kP, hkP, -⟩ := className_of_methodNamed hnamed
  have hinitP : kP.init = .initialized := Cond.initialized_spec (findClass_of_methodNamed hnamed) hkP hini
  rcases k1 with k1 | k1
  · obtain ⟨vm₁, X₁, hstep₁⟩ := X.invokestatic F.1 F.own (hts _ k1 rfl) hnamed hmethM hstatic hkP hinitP hy (g := F0 m pc lsC (As.reverse ++ rest)) rfl (argsL := As) (rest := rest) (lenOf c4 hn hsigM) rfl (by rw [F.2.2.1]; exact hd)
    exact ⟨vm₁, mk, X₁, hnamed, fun tg h => hstep₁ _ fun acts => by rw [doInvoke_state] at h ⊢; exact h⟩
  · obtain ⟨vm₁, X₁, hstep₁⟩ := X.invokestaticNest F.1 F.own (hts _ k1 rfl) hnamed hmethM hstatic hkP hinitP hy (g := F0 m pc lsC (As.reverse ++ rest)) rfl (argsL := As) (rest := rest) (lenOf c4 hn hsigM) rfl (by rw [F.2.2.1]; exact hd)
    exact ⟨vm₁, mk, X₁, hnamed, fun tg h => hstep₁ _ fun acts => by rw [doInvoke_state] at h ⊢; exact h⟩
theorem into_I (F : Fx p e R s m args meth c d y A D) (hC : Ci y.1.cls idx y' n) (hd : decode y.2.1 pc = .ok (.invokespecial idx, 3)) {b : Addr} (hn : As.length = n) :
    IntoQ p l e R s m args below meth c H locs cells slots pc lsC (As.reverse ++ .ref b :: rest) rest y'.1 (.ref b :: As).toArray := by
  obtain ⟨⟨c1, c2, hy, c4, c5⟩, k1, k2, k3, k4, k5⟩ := hC
  have hts := F.hts
  have hinst := hts _ k2 rfl
  have hcode : (Cond.code y'.1 y'.2.1 y'.2.2.1 none).before args s = true := by
    have := hts _ c1 (cw_mv y')
    unfold cw at this
    rw [if_pos k5, k4] at this
    exact this
  intro T hT X
  have hpl : e.platform.magicAccessors = ({} : Platform).magicAccessors := by rw [X.admits.platform]
  rcases k1 with k1 | k1
  · obtain ⟨mk, methM, cM, kP, vm₁, hnamed, hmethM, hcodeM, -, hlocalsM, -, hkP, -, hW₁, hstep₁⟩ := Steps.initColdArgs (tb := p.tables) (below := below) (e := e) X.here F.1 X.warmed hpl F.own k3 hy (hts _ k1 rfl) hinst hcode (f := F0 m pc lsC (As.reverse ++ .ref b :: rest)) rfl (fun sig hs => lenOf c4 hn hs) rfl (by rw [F.2.2.1]; exact hd)
    exact ⟨vm₁, mk, X.noted hW₁, hnamed, fun tg h => hstep₁ _ fun acts => by rw [doInvoke_state] at h ⊢; exact h⟩
  · obtain ⟨mk, methM, cM, kP, vm₁, hnamed, hmethM, hcodeM, -, hlocalsM, -, hkP, -, hW₁, hstep₁⟩ := Steps.initColdArgsNest (tb := p.tables) (below := below) (e := e) X.here F.1 X.warmed hpl F.own k3 hy (hts _ k1 rfl) hinst hcode (f := F0 m pc lsC (As.reverse ++ .ref b :: rest)) rfl (fun sig hs => lenOf c4 hn hs) rfl (by rw [F.2.2.1]; exact hd)
    exact ⟨vm₁, mk, X.noted hW₁, hnamed, fun tg h => hstep₁ _ fun acts => by rw [doInvoke_state] at h ⊢; exact h⟩
theorem Fin_.up {ad' : Nat → Nat} {sh sh' : List Kd} {Q : Ot → Sg → Prop} {t : State} (ha : agr sh.length ad ad') (hz : ∃ z, sh' = sh ++ z) (h : Fin_ below s A R D ad' sh' Q t) : Fin_ below s A R D ad sh Q t := by
  obtain ⟨o, σ, ad'', ac'', oc, L, k, n, f1, f2, f3, f4, f5, f6, f7, f8, f9, ⟨z2, f10⟩, f11⟩ := h
  obtain ⟨z, hz⟩ := hz
  refine ⟨o, σ, ad'', ac'', oc, L, k, n, f1, f2, f3, f4, f5, f6, f7, f8, fun i hi => ?_, ⟨z ++ z2, by rw [f10, hz, List.append_assoc]⟩, f11⟩
  rw [f9 i (hi.imp (fun h => by rw [hz, List.length_append]; omega) id), ha i hi]
end IN
/-- behind a call: the answer goes on the stack; what is thrown goes to the caller's caller -/
def Cn (d : Nat) (y : My) (pc : Nat) (ls : Lo) (rest : List Value) (Q : Ot → Sg → Prop) : Ot → Sg → Prop
  | .inl v, σ => WQ d y (pc + 3) ls (v.toList ++ rest) σ Q
  | .inr x, σ => Q (.inr x) σ
def ncov (y : My) (pc : Nat) : Bool := y.2.2.2.2.all (fun h => !(Nat.ble h.1 pc && Nat.blt pc h.2.1))
section QC
variable {d : Nat} {y y' : My} {pc idx n : Nat} {ls : Lo} {As rest st0 : List Value} {σ : Sg} {Q : Ot → Sg → Prop}
/-- behind a callee's return -/
theorem q_back {p : Program} {l : Launch} {e : Env} {R : Room} {s : State} {m : MethodId} {args : Array Value} {below : List Frame} {meth : Method} {c : Code} {locs : List Loc} {cells slots : Nat} {A : Nat → Prop} {ad ad' : Nat → Nat} {ac' : Nat → ClassId} {D : va_G} {lsC : Array Slot} {T' : State} {σ' : Sg} {v : Option Value}
    (F : Fx p e R s m args meth c d y A D) (hl : LH lsC y.2.2.1 ad ls) (hrf : rfOk (gS σ).length ls rest = true) (hq : WQ d y (pc + 3) ls (v.toList ++ rest) σ' Q) (X' : Stand p l e R s m args below meth c T' locs cells slots) (w : Wd D ad' ac' A s σ' T'.heap locs) (hc : cells + gC σ' ≤ R.cells) (hs : slots + gN σ' ≤ R.slots) (ha : agr (gS σ).length ad ad') (hz : ∃ z, gS σ' = gS σ ++ z) :
    ∃ t, Steps p.tables e below (T'.setTop (F0 m (pc + 3) lsC ((v.map (cv ad')).toList ++ rest.map (cv ad)))) t ∧ Fin_ below s A R D ad (gS σ) Q t := by
  obtain ⟨t, a1, a2⟩ := hq p l e R s m args below meth c T'.heap locs cells slots A ad' ac' D lsC F w hc hs (rfOk_ls hrf ha hl) T' rfl X'
  refine ⟨t, ?_, a2.up ha hz⟩
  have e1 : (v.toList ++ rest).map (cv ad') = (v.map (cv ad')).toList ++ rest.map (cv ad) := by
    rw [List.map_append, rfOk_st hrf ha]
    cases v <;> rfl
  rw [e1] at a1
  exact a1
theorem ncov_out {c : Code} {pc : Nat} (h : c.exceptionTable.toList = y.2.2.2.2.map hdl) (hn : ncov y pc = true) : ∀ x ∈ c.exceptionTable.toList, covers x pc = false := by
  intro x hx
  rw [h] at hx
  obtain ⟨q, hq, rfl⟩ := List.mem_map.mp hx
  have := List.all_eq_true.mp hn q hq
  simp only [Bool.not_eq_true', Bool.and_eq_false_iff] at this
  simp only [covers, hdl, Bool.and_eq_false_iff]
  rcases this with h1 | h1
  · exact Or.inl (decide_eq_false (fun z => by rw [Nat.ble_eq_true_of_le z] at h1; cases h1))
  · exact Or.inr (decide_eq_false (fun z => by rw [Nat.blt_eq.mpr z] at h1; cases h1))
theorem q_callG (hI : ∀ (p : Program) (l : Launch) (e : Env) (R : Room) (s : State) (m : MethodId) (args : Array Value) (below : List Frame) (meth : Method) (c : Code) (H : Heap) (locs : List Loc) (cells slots : Nat) (A : Nat → Prop) (ad : Nat → Nat) (ac : Nat → ClassId) (D : va_G) (lsC : Array Slot), Fx p e R s m args meth c (d + 1) y A D → Wd D ad ac A s σ H locs → IntoQ p l e R s m args below meth c H locs cells slots pc lsC (st0.map (cv ad)) (rest.map (cv ad)) y'.1 (As.map (cv ad)).toArray)
    (hb : Cb y' n) {ig : Instr} (hd : decode y.2.1 pc = .ok (ig, 3)) (hrest : rest.length ≤ 8) (hfl : (flat As).length ≤ y'.2.2.1) (hrf : rfOk (gS σ).length ls rest = true) (hnc : ncov y pc = true)
    (hcall : WQ d y' 0 (ent As y'.2.2.1) [] σ (Cn (d + 1) y pc ls rest Q)) : WQ (d + 1) y pc ls st0 σ Q := by
  intro p l e R s m args below meth c H locs cells slots A ad ac D lsC F Wr hc hs hl T hT X
  obtain ⟨o, σ', ad', ac', L, k, n, T', hq, X', w, hc', hs', ha, hz, hgo⟩ := call_core (ac := ac) F Wr hc hs hl (ig := ig) (by rw [F.2.2.1]; exact hd) (hI p l e R s m args below meth c H locs cells slots A ad ac D lsC F Wr) hb.1 hb.2.1 hrest hb.2.2.2.2 hfl hcall T hT X
  cases o with
  | inl v =>
    obtain ⟨t, a1, a2⟩ := q_back F hl hrf hq X' w hc' hs' ha hz
    exact ⟨t, hgo t a1, a2⟩
  | inr x =>
    obtain ⟨a, cell, g1, g2, g3, g4⟩ := hgo
    obtain ⟨b1, b2, b3, b4, b5⟩ := X'.leaveThrown a (g := F0 m pc lsC (rest.map (cv ad))) rfl rfl rfl (ncov_out F.2.2.2.2.2.2.1 hnc) F.locks
    exact ⟨_, g4 _ b1, .inr x, σ', ad', ac', .threw a, locs ++ L, cells + k, slots + n, b2, b3, ⟨a, cell, rfl, g1, g2, g3⟩, hq, b4, b5, hc', hs', ha, hz, w⟩
theorem q_callV {ci b : Nat} {C : String} {T : u_T} {N : Nat} (hC : Cv y.1.cls idx C y' n) (hd : decode y.2.1 pc = .ok (.invokevirtual idx, 3)) (hcl : classes[ci]? = some (C, T, N)) (hi : (gS σ)[b]? = some (.inl ci)) (As rest : List Value) (hst : As.reverse ++ .ref b :: rest = st0) (hn : As.length = n) (hrest : rest.length ≤ 8) (hfl : (flat (.ref b :: As)).length ≤ y'.2.2.1) (hrf : rfOk (gS σ).length ls rest = true) (hnc : ncov y pc = true)
    (hcall : WQ d y' 0 (ent (.ref b :: As) y'.2.2.1) [] σ (Cn (d + 1) y pc ls rest Q)) : WQ (d + 1) y pc ls st0 σ Q := by
  refine q_callG (fun p l e R s m args below meth c H locs cells slots A ad ac D lsC F Wr => ?_) hC.1 hd hrest hfl hrf hnc hcall
  have h1 : st0.map (cv ad) = (As.map (cv ad)).reverse ++ .ref (ad b) :: rest.map (cv ad) := by rw [← hst]; simp [List.map_reverse, cv]
  rw [h1]
  exact into_V F hC hd (va_recv F.kn Wr.1 hcl (ws_at hi)) (by simpa using hn)
theorem q_callS (hC : Cst y.1.cls idx y' n) (hd : decode y.2.1 pc = .ok (.invokestatic idx, 3)) (As rest : List Value) (hst : As.reverse ++ rest = st0) (hn : As.length = n) (hrest : rest.length ≤ 8) (hfl : (flat As).length ≤ y'.2.2.1) (hrf : rfOk (gS σ).length ls rest = true) (hnc : ncov y pc = true)
    (hcall : WQ d y' 0 (ent As y'.2.2.1) [] σ (Cn (d + 1) y pc ls rest Q)) : WQ (d + 1) y pc ls st0 σ Q := by
  refine q_callG (fun p l e R s m args below meth c H locs cells slots A ad ac D lsC F Wr => ?_) hC.1 hd hrest hfl hrf hnc hcall
  have h1 : st0.map (cv ad) = (As.map (cv ad)).reverse ++ rest.map (cv ad) := by rw [← hst]; simp [List.map_reverse]
  rw [h1]
  exact into_S F hC hd (by simpa using hn)
theorem q_callI {b : Nat} (hC : Ci y.1.cls idx y' n) (hd : decode y.2.1 pc = .ok (.invokespecial idx, 3)) (As rest : List Value) (hst : As.reverse ++ .ref b :: rest = st0) (hn : As.length = n) (hrest : rest.length ≤ 8) (hfl : (flat (.ref b :: As)).length ≤ y'.2.2.1) (hrf : rfOk (gS σ).length ls rest = true) (hnc : ncov y pc = true)
    (hcall : WQ d y' 0 (ent (.ref b :: As) y'.2.2.1) [] σ (Cn (d + 1) y pc ls rest Q)) : WQ (d + 1) y pc ls st0 σ Q := by
  refine q_callG (fun p l e R s m args below meth c H locs cells slots A ad ac D lsC F Wr => ?_) hC.1 hd hrest hfl hrf hnc hcall
  have h1 : st0.map (cv ad) = (As.map (cv ad)).reverse ++ .ref (ad b) :: rest.map (cv ad) := by rw [← hst]; simp [List.map_reverse, cv]
  rw [h1]
  exact into_I F hC hd (by simpa using hn)
end QC
