-- calls whose exceptions are caught
def stoN (ls : Lo) (i : Nat) : Lo := (clr ls i).set i none
theorem lh_stN {lsC : Array Slot} {nL : Nat} {ad : Nat → Nat} {ls : Lo} {i : Nat} {v : Value} (h : lv_has lsC nL ((i, v) :: (lvl ad ls).filter (fun q => !(q.1 == i) && !(q.1 + 1 == i && q.2.category == 2)))) : LH lsC nL ad (stoN ls i) := by
  refine ⟨h.1, h.2.1, fun j w hj => ?_⟩
  unfold stoN at hj
  by_cases e : j = i
  · subst e
    have hlt : j < (clr ls j).length := by
      have := (List.getElem?_eq_some_iff.mp hj).1
      simpa using this
    rw [List.getElem?_set_self hlt] at hj
    cases hj
  · rw [List.getElem?_set_ne (fun z => e z.symm)] at hj
    obtain ⟨h1, h2⟩ := clr_at hj
    refine h.2.2 (j, cv ad w) (List.mem_cons_of_mem _ (List.mem_filter.mpr ⟨lvl_mem h1, ?_⟩))
    simp only [cv_cat, Bool.and_eq_true, Bool.not_eq_true', beq_eq_false_iff_ne, ne_eq, Bool.and_eq_false_iff]
    refine ⟨e, ?_⟩
    by_cases e2 : j + 1 = i
    · exact Or.inr (fun z => h2 ⟨e2, z⟩)
    · exact Or.inl e2
/-- a handler begins by storing the exception -/
def Hst (y : My) (hpc k len : Nat) : Prop := k < y.2.2.1 ∧ ((∃ n : Fin 4, (n : Nat) = k ∧ len = 1 ∧ decode y.2.1 hpc = .ok (.astore_n n, 1)) ∨ (len = 2 ∧ decode y.2.1 hpc = .ok (.astore k, 2)))
section QX
variable {d : Nat} {y y' : My} {pc idx n : Nat} {ls : Lo} {As rest st0 : List Value} {σ : Sg} {Q : Ot → Sg → Prop}
theorem q_handler {hpc k len : Nat} (hh : Hst y hpc k len) {p : Program} {l : Launch} {e : Env} {R : Room} {s : State} {m : MethodId} {args : Array Value} {below : List Frame} {meth : Method} {c : Code} {H : Heap} {locs : List Loc} {cells slots : Nat} {A : Nat → Prop} {ad : Nat → Nat} {ac : Nat → ClassId} {D : va_G} {lsC : Array Slot} {a : Addr}
    (F : Fx p e R s m args meth c d y A D) (Wr : Wd D ad ac A s σ H locs) (hc : cells + gC σ ≤ R.cells) (hs : slots + gN σ ≤ R.slots) (hl : LH lsC y.2.2.1 ad ls) (kk : WQ d y (hpc + len) (stoN ls k) [] σ Q) :
    W p l e R s m args below meth c H locs cells slots (Fin_ below s A R D ad (gS σ) Q) (F0 m hpc lsC [.ref a]) := by
  obtain ⟨hk, ⟨n, rfl, rfl, h2⟩ | ⟨rfl, h2⟩⟩ := hh
  · exact lv_astore_n F.1 F.2.2.1 h2 rfl hl.has hk rfl (fun ls' h' => kk p l e R s m args below meth c H locs cells slots A ad ac D ls' F Wr hc hs (lh_stN h'))
  · exact lv_astore F.1 F.2.2.1 h2 hl.has hk rfl (fun ls' h' => kk p l e R s m args below meth c H locs cells slots A ad ac D ls' F Wr hc hs (lh_stN h'))
/-- behind a call in a method whose handlers are hs: the exception x goes to the handler (hpc, local k, bytes len) -/
def Cc (d : Nat) (y : My) (pc : Nat) (ls : Lo) (rest : List Value) (hm : Nat → Option (Nat × Nat × Nat)) (Q : Ot → Sg → Prop) : Ot → Sg → Prop
  | .inl v, σ => WQ d y (pc + 3) ls (v.toList ++ rest) σ Q
  | .inr x, σ => ∃ hpc k len, hm x = some (hpc, k, len) ∧ WQ d y (hpc + len) (stoN ls k) [] σ Q
/-- what a table of handlers catches at pc -/
def Ch (y : My) (pc : Nat) (hm : Nat → Option (Nat × Nat × Nat)) : Prop := ∀ x hpc k len, hm x = some (hpc, k, len) → Hst y hpc k len ∧ Cond.castable (exn x) (exn x) ∈ lw_tbl ∧
  ((∃ h0, y.2.2.2.2 = [h0] ∧ h0.2.2.1 = hpc ∧ h0.1 ≤ pc ∧ pc < h0.2.1 ∧ h0.2.2.2 ≠ 0 ∧ Cond.classLink y.1.cls h0.2.2.2 (exn x) ∈ lw_tbl) ∨
   (∃ h0 h1, y.2.2.2.2 = [h0, h1] ∧ h0.1 ≤ pc ∧ pc < h0.2.1 ∧ h0.2.2.2 ≠ 0 ∧ h1.1 ≤ pc ∧ pc < h1.2.1 ∧ h1.2.2.2 ≠ 0 ∧
     ((h0.2.2.1 = hpc ∧ Cond.classLink y.1.cls h0.2.2.2 (exn x) ∈ lw_tbl) ∨ (h1.2.2.1 = hpc ∧ x = 1 ∧ Cond.classLink y.1.cls h0.2.2.2 (exn 0) ∈ lw_tbl ∧ Cond.classLink y.1.cls h1.2.2.2 (exn x) ∈ lw_tbl))))
theorem cov_in {h : Nat × Nat × Nat × Nat} {pc : Nat} (h1 : h.1 ≤ pc) (h2 : pc < h.2.1) : covers (hdl h) pc = true := by
  simp only [covers, hdl, Bool.and_eq_true]
  exact ⟨decide_eq_true h1, decide_eq_true h2⟩
theorem q_callX {hm : Nat → Option (Nat × Nat × Nat)} (hH : Ch y pc hm) (hI : ∀ (p : Program) (l : Launch) (e : Env) (R : Room) (s : State) (m : MethodId) (args : Array Value) (below : List Frame) (meth : Method) (c : Code) (H : Heap) (locs : List Loc) (cells slots : Nat) (A : Nat → Prop) (ad : Nat → Nat) (ac : Nat → ClassId) (D : va_G) (lsC : Array Slot), Fx p e R s m args meth c (d + 1) y A D → Wd D ad ac A s σ H locs → IntoQ p l e R s m args below meth c H locs cells slots pc lsC (st0.map (cv ad)) (rest.map (cv ad)) y'.1 (As.map (cv ad)).toArray)
    (hb : Cb y' n) {ig : Instr} (hd : decode y.2.1 pc = .ok (ig, 3)) (hrest : rest.length ≤ 8) (hfl : (flat As).length ≤ y'.2.2.1) (hrf : rfOk (gS σ).length ls rest = true)
    (hcall : WQ d y' 0 (ent As y'.2.2.1) [] σ (Cc (d + 1) y pc ls rest hm Q)) : WQ (d + 1) y pc ls st0 σ Q := by
  intro p l e R s m args below meth c H locs cells slots A ad ac D lsC F Wr hc hs hl T hT X
  obtain ⟨o, σ', ad', ac', L, kc, nc, T', hq, X', w, hc', hs', ha, hz, hgo⟩ := call_core (ac := ac) F Wr hc hs hl (ig := ig) (by rw [F.2.2.1]; exact hd) (hI p l e R s m args below meth c H locs cells slots A ad ac D lsC F Wr) hb.1 hb.2.1 hrest hb.2.2.2.2 hfl hcall T hT X
  cases o with
  | inl v =>
    obtain ⟨t, a1, a2⟩ := q_back F hl hrf hq X' w hc' hs' ha hz
    exact ⟨t, hgo t a1, a2⟩
  | inr x =>
    obtain ⟨a, cell, g1, g2, g3, g4⟩ := hgo
    obtain ⟨hpc, k, len, hq1, hq2⟩ := hq
    obtain ⟨m1, m2, m3⟩ := hH x hpc k len hq1
    have hts := F.hts
    have htab := F.2.2.2.2.2.2.1
    have key : ∃ vm', Stand p l e R s m args below meth c (T'.setVm vm') (locs ++ L) (cells + kc) (slots + nc) ∧ ∀ tg, Steps p.tables e below ((T'.setVm vm').setTop (F0 m hpc lsC [.ref a])) tg → Steps p.tables e below ((T'.setTop (F0 m pc lsC (rest.map (cv ad)))).pushFrame (.throwing a)) tg := by
      rcases m3 with ⟨h0, e1, rfl, e2, e3, e4, e5⟩ | ⟨h0, h1, e1, e2, e3, e4, e5, e6, e7, ⟨rfl, e8⟩ | ⟨rfl, rfl, e8, e9⟩⟩
      · exact catch1 X' F.own (g := F0 m pc lsC (rest.map (cv ad))) rfl (x := hdl h0) (rest := []) (by rw [htab, e1]; rfl) (cov_in e2 e3) e4 (hts _ e5 rfl) (hts _ m2 rfl) g1 g3 g2
      · exact catch1 X' F.own (g := F0 m pc lsC (rest.map (cv ad))) rfl (x := hdl h0) (rest := [hdl h1]) (by rw [htab, e1]; rfl) (cov_in e2 e3) e4 (hts _ e8 rfl) (hts _ m2 rfl) g1 g3 g2
      · exact catch2 X' F.own (g := F0 m pc lsC (rest.map (cv ad))) rfl (x0 := hdl h0) (x := hdl h1) (rest := []) (by rw [htab, e1]; rfl) (cov_in e2 e3) e4 (hts _ e8 rfl) Wr.2.2.2.2.2.1.2.2.2.2.2.2.2 (cov_in e5 e6) e7 (hts _ e9 rfl) (hts _ m2 rfl) g1 g3 g2
    obtain ⟨vm', X2, hgo2⟩ := key
    obtain ⟨t, a1, a2⟩ := q_handler (a := a) m1 F w hc' hs' (rfOk_ls hrf ha hl) hq2 (T'.setVm vm') rfl X2
    exact ⟨t, g4 _ (hgo2 _ a1), a2.up ha hz⟩
theorem q_callVX {hm : Nat → Option (Nat × Nat × Nat)} (hH : Ch y pc hm) {ci b : Nat} {C : String} {T : u_T} {N : Nat} (hC : Cv y.1.cls idx C y' n) (hd : decode y.2.1 pc = .ok (.invokevirtual idx, 3)) (hcl : classes[ci]? = some (C, T, N)) (hi : (gS σ)[b]? = some (.inl ci)) (As rest : List Value) (hst : As.reverse ++ .ref b :: rest = st0) (hn : As.length = n) (hrest : rest.length ≤ 8) (hfl : (flat (.ref b :: As)).length ≤ y'.2.2.1) (hrf : rfOk (gS σ).length ls rest = true)
    (hcall : WQ d y' 0 (ent (.ref b :: As) y'.2.2.1) [] σ (Cc (d + 1) y pc ls rest hm Q)) : WQ (d + 1) y pc ls st0 σ Q := by
  refine q_callX hH (fun p l e R s m args below meth c H locs cells slots A ad ac D lsC F Wr => ?_) hC.1 hd hrest hfl hrf hcall
  have h1 : st0.map (cv ad) = (As.map (cv ad)).reverse ++ .ref (ad b) :: rest.map (cv ad) := by rw [← hst]; simp [List.map_reverse, cv]
  rw [h1]
  exact into_V F hC hd (va_recv F.kn Wr.1 hcl (ws_at hi)) (by simpa using hn)
theorem q_callSX {hm : Nat → Option (Nat × Nat × Nat)} (hH : Ch y pc hm) (hC : Cst y.1.cls idx y' n) (hd : decode y.2.1 pc = .ok (.invokestatic idx, 3)) (As rest : List Value) (hst : As.reverse ++ rest = st0) (hn : As.length = n) (hrest : rest.length ≤ 8) (hfl : (flat As).length ≤ y'.2.2.1) (hrf : rfOk (gS σ).length ls rest = true)
    (hcall : WQ d y' 0 (ent As y'.2.2.1) [] σ (Cc (d + 1) y pc ls rest hm Q)) : WQ (d + 1) y pc ls st0 σ Q := by
  refine q_callX hH (fun p l e R s m args below meth c H locs cells slots A ad ac D lsC F Wr => ?_) hC.1 hd hrest hfl hrf hcall
  have h1 : st0.map (cv ad) = (As.map (cv ad)).reverse ++ rest.map (cv ad) := by rw [← hst]; simp [List.map_reverse]
  rw [h1]
  exact into_S F hC hd (by simpa using hn)
-- Object's own constructor
theorem q_obj {b : Nat} (hw : Cond.methodLink y.1.cls idx Lib.objectInit ∈ lw_tbl) (hd : decode y.2.1 pc = .ok (.invokespecial idx, 3)) (hrest : rest.length ≤ 8) (hi : Cond.instanceMethod Lib.objectInit ∈ lw_tbl) (hco : Cond.code Lib.objectInit ⟨#[0xb1]⟩ 1 none ∈ lw_tbl) (kk : WQ d y (pc + 3) ls rest σ Q) : WQ d y pc ls (.ref b :: rest) σ Q := by
  intro p l e R s m args below meth c H locs cells slots A ad ac D lsC F Wr hc hs hl
  have hcs := catsum ad rest
  have hlo : 64 * d + 256 ≤ R.locals := F.2.2.2.2.2.2.2.2.2.2.2.1
  have hfr : d + 8 ≤ R.frames := F.2.2.2.2.2.2.2.2.2.2.1
  exact W.objInit F.1 F.2.2.1 F.own (F.hts _ hw rfl) (F.hts _ hi rfl) (F.hts _ hco rfl) rfl (hl.1.trans F.2.2.2.1.symm) rfl hd (by omega) (by show 2 * 0 + ((rest.map (cv ad)).map fun v => v.category).sum + 12 ≤ R.locals; omega) (kk p l e R s m args below meth c H locs cells slots A ad ac D lsC F Wr hc hs hl)
end QX
