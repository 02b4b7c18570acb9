-- returns
section QR2
variable {d : Nat} {y : My} {pc : Nat} {ls : Lo} {st : List Value} {σ : Sg} {Q : Ot → Sg → Prop}
theorem Wd.heap {D : va_G} {ad : Nat → Nat} {ac : Nat → ClassId} {A : Nat → Prop} {s : State} {H H1 : Heap} {locs L : List Loc} (h : Wd D ad ac A s σ H locs) (e : H1 = H) (hL : ∀ q ∈ L, A q.base) : Wd D ad ac A s σ H1 L := by
  subst e
  exact ⟨h.1, h.2.1, ⟨h.2.2.1.1, h.2.2.1.2.1, hL⟩, h.2.2.2⟩
theorem q_iret {v : Int32} (hd : decode y.2.1 pc = .ok (.ireturn, 1)) (hr : y.2.2.2.1 = some .int) (hq : Q (.inl (some (.int v))) σ) : WQ d y pc ls [.int v] σ Q := by
  intro p l e R s m args below meth c H locs cells slots A ad ac D lsC F Wr hc hs hl T hT X
  obtain ⟨t, a, o, h1, h2, ⟨rfl, hh⟩, L, hF, hL⟩ := W.iret (Qc := fun _ _ o t => o = .returned (some (.int v)) ∧ t.heap = H) (free := A) (locs := locs) (cells := cells) (slots := slots) (R := R) (l := l) (e := e) (below := below) (ls := lsC) F.1 F.2.2.1 (F.2.2.2.2.1.trans hr) (fun t ht hW => ⟨rfl, ht⟩) Wr.2.2.1.2.2 hd F.locks T hT X
  exact ⟨t, a, .inl (some (.int v)), σ, ad, ac, _, L, cells, slots, h1, h2, rfl, hq, hF.2.1, hF.2.2, hc, hs, fun _ _ => rfl, ⟨[], by simp⟩, Wr.heap hh hL⟩
theorem q_zret {v : Int32} {ty : FieldType} (hd : decode y.2.1 pc = .ok (.ireturn, 1)) (hr : y.2.2.2.1 = some ty) (hn : narrow ty (.int v) = .int v) (hq : Q (.inl (some (.int v))) σ) : WQ d y pc ls [.int v] σ Q := by
  intro p l e R s m args below meth c H locs cells slots A ad ac D lsC F Wr hc hs hl T hT X
  obtain ⟨t, a, o, h1, h2, ⟨rfl, hh⟩, L, hF, hL⟩ := W.zret (Qc := fun _ _ o t => o = .returned (some (.int v)) ∧ t.heap = H) (free := A) (locs := locs) (cells := cells) (slots := slots) (R := R) (l := l) (e := e) (below := below) (ls := lsC) F.1 F.2.2.1 (F.2.2.2.2.1.trans hr) hn (fun t ht hW => ⟨rfl, ht⟩) Wr.2.2.1.2.2 hd F.locks T hT X
  exact ⟨t, a, .inl (some (.int v)), σ, ad, ac, _, L, cells, slots, h1, h2, rfl, hq, hF.2.1, hF.2.2, hc, hs, fun _ _ => rfl, ⟨[], by simp⟩, Wr.heap hh hL⟩
theorem q_bret {v : Int32} (hd : decode y.2.1 pc = .ok (.ireturn, 1)) (hr : y.2.2.2.1 = some .boolean) (hv : v = 0 ∨ v = 1) (hq : Q (.inl (some (.int v))) σ) : WQ d y pc ls [.int v] σ Q := q_zret hd hr (by rcases hv with rfl | rfl <;> rfl) hq
theorem q_lret {v : Int64} (hd : decode y.2.1 pc = .ok (.lreturn, 1)) (hr : y.2.2.2.1 = some .long) (hq : Q (.inl (some (.long v))) σ) : WQ d y pc ls [.long v] σ Q := by
  intro p l e R s m args below meth c H locs cells slots A ad ac D lsC F Wr hc hs hl T hT X
  obtain ⟨t, a, o, h1, h2, ⟨rfl, hh⟩, L, hF, hL⟩ := W.lret (Qc := fun _ _ o t => o = .returned (some (.long v)) ∧ t.heap = H) (free := A) (locs := locs) (cells := cells) (slots := slots) (R := R) (l := l) (e := e) (below := below) (ls := lsC) F.1 F.2.2.1 (F.2.2.2.2.1.trans hr) (fun t ht hW => ⟨rfl, ht⟩) Wr.2.2.1.2.2 hd F.locks T hT X
  exact ⟨t, a, .inl (some (.long v)), σ, ad, ac, _, L, cells, slots, h1, h2, rfl, hq, hF.2.1, hF.2.2, hc, hs, fun _ _ => rfl, ⟨[], by simp⟩, Wr.heap hh hL⟩
theorem q_vret (hd : decode y.2.1 pc = .ok (.return_, 1)) (hr : y.2.2.2.1 = none) (hq : Q (.inl none) σ) : WQ d y pc ls [] σ Q := by
  intro p l e R s m args below meth c H locs cells slots A ad ac D lsC F Wr hc hs hl T hT X
  obtain ⟨t, a, o, h1, h2, ⟨rfl, hh⟩, L, hF, hL⟩ := W.vret (Qc := fun _ _ o t => o = .returned none ∧ t.heap = H) (free := A) (locs := locs) (cells := cells) (slots := slots) (R := R) (l := l) (e := e) (below := below) (ls := lsC) F.1 F.2.2.1 (F.2.2.2.2.1.trans hr) (fun t ht hW => ⟨rfl, ht⟩) Wr.2.2.1.2.2 hd F.locks T hT X
  exact ⟨t, a, .inl none, σ, ad, ac, _, L, cells, slots, h1, h2, rfl, hq, hF.2.1, hF.2.2, hc, hs, fun _ _ => rfl, ⟨[], by simp⟩, Wr.heap hh hL⟩
end QR2
-- calls
def flat (As : List Value) : Lo := As.flatMap (fun v => if v.category = 2 then [some v, none] else [some v])
def ent (As : List Value) (n : Nat) : Lo := flat As ++ List.replicate (n - (flat As).length) none
theorem flat_at (ad : Nat → Nat) : ∀ (As : List Value) (i : Nat) (v : Value), (flat As)[i]? = some (some v) → (lg_sl (As.map (cv ad)))[i]? = some (.val (cv ad v)) := by
  intro As
  induction As with
  | nil => intro i v h; simp [flat] at h
  | cons a t ih =>
    intro i v h
    have e1 : flat (a :: t) = (if a.category = 2 then [some a, none] else [some a]) ++ flat t := rfl
    have e2 : lg_sl ((a :: t).map (cv ad)) = (if (cv ad a).category = 2 then [.val (cv ad a), .second] else [.val (cv ad a)]) ++ lg_sl (t.map (cv ad)) := rfl
    rw [e1] at h
    rw [e2, cv_cat]
    by_cases hc : a.category = 2
    · rw [if_pos hc] at h ⊢
      match i, h with
      | 0, h => simp at h; subst h; rfl
      | 1, h => simp at h
      | n + 2, h => exact ih n v (by simpa using h)
    · rw [if_neg hc] at h ⊢
      match i, h with
      | 0, h => simp at h; subst h; rfl
      | n + 1, h => exact ih n v (by simpa using h)
theorem flat_len (ad : Nat → Nat) (As : List Value) : (lg_sl (As.map (cv ad))).length = (flat As).length := by
  induction As with
  | nil => rfl
  | cons a t ih =>
    have e1 : flat (a :: t) = (if a.category = 2 then [some a, none] else [some a]) ++ flat t := rfl
    have e2 : lg_sl ((a :: t).map (cv ad)) = (if (cv ad a).category = 2 then [.val (cv ad a), .second] else [.val (cv ad a)]) ++ lg_sl (t.map (cv ad)) := rfl
    rw [e1, e2, cv_cat, List.length_append, List.length_append, ih]
    split <;> rfl
theorem lh_ent (ad : Nat → Nat) (As : List Value) {n : Nat} (h : (flat As).length ≤ n) : LH ((lg_sl (As.map (cv ad)) ++ List.replicate (n - (lg_sl (As.map (cv ad))).length) Slot.unset).toArray) n ad (ent As n) := by
  obtain ⟨h1, h2, -⟩ := lv_entry (As.map (cv ad)) (n := n) (by rw [flat_len]; exact h)
  refine ⟨h1, h2, fun i v hi => ?_⟩
  unfold ent at hi
  by_cases hlt : i < (flat As).length
  · rw [List.getElem?_append_left hlt] at hi
    have := flat_at ad As i v hi
    have hlt2 : i < (lg_sl (As.map (cv ad))).length := by rw [flat_len]; exact hlt
    simp only [List.getElem?_toArray]
    rw [List.getElem?_append_left hlt2]
    exact this
  · rw [List.getElem?_append_right (by omega)] at hi
    rw [List.getElem?_replicate] at hi
    split at hi <;> simp at hi
def rfk (n : Nat) : Value → Bool
  | .ref i => Nat.blt i n || Nat.ble 900 i
  | _ => true
def rfOk (n : Nat) (ls : Lo) (rest : List Value) : Bool := ls.all (fun o => match o with | some v => rfk n v | none => true) && rest.all (rfk n)
theorem rfk_cv {n : Nat} {ad ad' : Nat → Nat} {v : Value} (h : rfk n v = true) (ha : agr n ad ad') : cv ad' v = cv ad v := by
  cases v with
  | ref i =>
    simp only [rfk, Bool.or_eq_true, Nat.blt_eq, Nat.ble_eq] at h
    show Value.ref (ad' i) = Value.ref (ad i)
    rw [ha i h]
  | _ => rfl
theorem rfOk_ls {n : Nat} {ad ad' : Nat → Nat} {ls : Lo} {rest : List Value} (h : rfOk n ls rest = true) (ha : agr n ad ad') {lsC : Array Slot} {nL : Nat} (hl : LH lsC nL ad ls) : LH lsC nL ad' ls := by
  simp only [rfOk, Bool.and_eq_true, List.all_eq_true] at h
  refine ⟨hl.1, hl.2.1, fun i v hi => ?_⟩
  rw [rfk_cv (h.1 _ (List.mem_of_getElem? hi)) ha]
  exact hl.2.2 i v hi
theorem rfOk_st {n : Nat} {ad ad' : Nat → Nat} {ls : Lo} {rest : List Value} (h : rfOk n ls rest = true) (ha : agr n ad ad') : rest.map (cv ad') = rest.map (cv ad) := by
  simp only [rfOk, Bool.and_eq_true, List.all_eq_true] at h
  exact List.map_congr_left (fun v hv => rfk_cv (h.2 v hv) ha)
def cw (y : My) : Cond := if y.2.2.2.2 = [] then .code y.1 y.2.1 y.2.2.1 y.2.2.2.1 else .codeWith y.1 y.2.1 y.2.2.1 y.2.2.2.1 y.2.2.2.2
theorem cw_with {y : My} {args : Array Value} {s : State} (h : (cw y).before args s = true) : (Cond.codeWith y.1 y.2.1 y.2.2.1 y.2.2.2.1 y.2.2.2.2).before args s = true := by
  unfold cw at h
  split at h
  · rename_i e
    rw [e]
    have := Cond.code_iff_codeWith_nil (args := args) (first := s) (o := none) (s := s) (idx := []) (x := y.1) (bytes := y.2.1) (maxLocals := y.2.2.1) (ret := y.2.2.2.1)
    simp only [Cond.before, Cond.holds] at h ⊢
    rw [← this]
    exact h
  · exact h
theorem cw_mv (y : My) : mvOk (cw y) = true := by unfold cw; split <;> rfl
def IntoQ (p : Program) (l : Launch) (e : Env) (R : Room) (s : State) (m : MethodId) (args : Array Value) (below : List Frame) (meth : Method) (c : Code) (H : Heap) (locs : List Loc) (cells slots : Nat) (pc : Nat) (lsC : Array Slot) (st rest : List Value) (yn : MethodName) (a : Array Value) : Prop :=
  ∀ T : State, T.heap = H → Stand p l e R s m args below meth c T locs cells slots → ∃ (vm₁ : Vm) (mk : MethodId), Stand p l e R s m args below meth c (T.setVm vm₁) locs cells slots ∧ s.methodNamed? yn = some mk ∧ ∀ tg, Steps p.tables e below (doInvoke e ((T.setVm vm₁).setTop (F0 m pc lsC rest)) [] mk a).1 tg → Steps p.tables e below (T.setTop (F0 m pc lsC st)) tg
theorem catsum (ad : Nat → Nat) (rest : List Value) : ((rest.map (cv ad)).map fun v => v.category).sum ≤ 2 * rest.length := by
  induction rest with
  | nil => simp
  | cons a t ih =>
    have : (cv ad a).category ≤ 2 := by cases a <;> simp [cv, Value.category]
    simp only [List.map_cons, List.sum_cons, List.length_cons]
    omega
theorem arrV_st {cA : ClassId} {n : Nat} {f : Nat → Value} : (arrV cA n f).vm.isStatics = false := rfl
theorem wd_stat {D : va_G} {ad : Nat → Nat} {ac : Nat → ClassId} {A : Nat → Prop} {s : State} {σ : Sg} {H : Heap} {locs : List Loc} (h : Wd D ad ac A s σ H locs) : ∀ q, va_A (ws ad ac σ) H.size q → ∀ cell, H[q]? = some cell → cell.vm.isStatics = false := by
  intro q hq cell hcell
  rcases hq with ⟨k, E, hk⟩ | hq
  · have := h.1 k _ hk
    unfold va_at at this
    cases E with
    | inl a =>
      dsimp only at this
      cases hcell.symm.trans this
      obtain ⟨cA, n, f | f | f | f | f⟩ := a <;> rfl
    | inr o =>
      dsimp only at this
      obtain ⟨r, -, cl, g1, -, g3, -⟩ := this
      cases hcell.symm.trans g1
      rw [g3]; rfl
  · rw [Array.getElem?_eq_none hq] at hcell
    cases hcell
set_option maxHeartbeats 4000000 in
set_option maxRecDepth 20000 in
theorem call_core {p : Program} {l : Launch} {e : Env} {R : Room} {s : State} {m : MethodId} {args : Array Value} {below : List Frame} {meth : Method} {c : Code} {H : Heap} {locs : List Loc} {cells slots : Nat} {A : Nat → Prop} {ad : Nat → Nat} {ac : Nat → ClassId} {D : va_G} {lsC : Array Slot}
    {d : Nat} {y y' : My} {pc : Nat} {ls : Lo} {st0 rest : List Value} {σ : Sg} {Qc : Ot → Sg → Prop} {As : List Value}
    (F : Fx p e R s m args meth c (d + 1) y A D) (Wr : Wd D ad ac A s σ H locs) (hc : cells + gC σ ≤ R.cells) (hs : slots + gN σ ≤ R.slots) (hl : LH lsC y.2.2.1 ad ls)
    {ig : Instr} (hdg : decode c.code pc = .ok (ig, 3)) (hI : IntoQ p l e R s m args below meth c H locs cells slots pc lsC (st0.map (cv ad)) (rest.map (cv ad)) y'.1 (As.map (cv ad)).toArray)
    (hw : cw y' ∈ lw_tbl) (hpl : plainFor y'.1 = true) (hrest : rest.length ≤ 8) (hml : y'.2.2.1 ≤ 20) (hfl : (flat As).length ≤ y'.2.2.1)
    (hcall : WQ d y' 0 (ent As y'.2.2.1) [] σ Qc) :
    ∀ T : State, T.heap = H → Stand p l e R s m args below meth c T locs cells slots → ∃ (o : Ot) (σ' : Sg) (ad' : Nat → Nat) (ac' : Nat → ClassId) (L : List Loc) (k n : Nat) (T' : State), Qc o σ' ∧ Stand p l e R s m args below meth c T' (locs ++ L) (cells + k) (slots + n) ∧ Wd D ad' ac' A s σ' T'.heap (locs ++ L) ∧ (cells + k) + gC σ' ≤ R.cells ∧ (slots + n) + gN σ' ≤ R.slots ∧ agr (gS σ).length ad ad' ∧ (∃ z, gS σ' = gS σ ++ z) ∧
      (match o with
        | .inl v => ∀ tg, Steps p.tables e below (T'.setTop (F0 m (pc + 3) lsC ((v.map (cv ad')).toList ++ rest.map (cv ad)))) tg → Steps p.tables e below (T.setTop (F0 m pc lsC (st0.map (cv ad)))) tg
        | .inr x => ∃ (a : Addr) (cell : Cell), T'.heap[a]? = some cell ∧ T'.vm.findClass (exn x) = some cell.cls ∧ cell.vm.isStatics = false ∧ ∀ tg, Steps p.tables e below ((T'.setTop (F0 m pc lsC (rest.map (cv ad)))).pushFrame (.throwing a)) tg → Steps p.tables e below (T.setTop (F0 m pc lsC (st0.map (cv ad)))) tg) := by
  intro T hT X
  obtain ⟨vm₁, mk, X₁, hnamed, hgo⟩ := hI T hT X
  obtain ⟨hx, htr, hb, hmL, hret, hlk, hext, hown, hnm, hts, hfr, hlo, hA, hst, hK⟩ := id F
  obtain ⟨hP, hD, hS, hAK, hRf, hCs, hlen⟩ := id Wr
  obtain ⟨mk', methY, cY, hn', hmY, hcY, hbY, hlY, hexY, hrY, hlkY, hsigY⟩ := Cond.codeWith_spec (cw_with (hts _ hw (cw_mv y')))
  cases hn'.symm.trans hnamed
  have hW1 : s.WarmedH (T.setVm vm₁).vm := X₁.warmed
  have hm₁ : (T.setVm vm₁).vm.method? mk = some methY := by rw [hW1.alike.method?]; exact hmY
  have hpk : (T.setVm vm₁).plainMethod mk := State.plainMethod.of_named hpl (X₁.named hnamed) hm₁
  have hcs := catsum ad rest
  obtain ⟨Y, hinv⟩ := X₁.into (g := (F0 m pc lsC (rest.map (cv ad)))) rfl (hl.1.trans hmL.symm) hdg (As.map (cv ad)).toArray (R' := { frames := d + 8, cells := gC σ, slots := gN σ, locals := 64 * d + 256 }) hm₁ hcY hlkY hpk
    (by show d + 8 + 1 ≤ R.frames; omega) (by rw [hlY]; show 2 * 0 + ((rest.map (cv ad)).map fun v => v.category).sum + (y'.2.2.1 + 11) + (64 * d + 256) ≤ R.locals; omega) hc hs
  have hAA : ∀ q, va_A (ws ad ac σ) H.size q → A q := by
    intro q hq
    rcases hq with ⟨k, E, hk⟩ | hq
    · exact hD.2 k _ hk
    · exact hA q (Nat.le_trans hS.1 hq)
  have hh1 : ((T.setVm vm₁).calling (F0 m pc lsC (rest.map (cv ad))) mk (As.map (cv ad)).toArray).heap = H := hT
  have hv1 : ((T.setVm vm₁).calling (F0 m pc lsC (rest.map (cv ad))) mk (As.map (cv ad)).toArray).vm = (T.setVm vm₁).vm := rfl
  have hWs : s.WarmedH ((T.setVm vm₁).calling (F0 m pc lsC (rest.map (cv ad))) mk (As.map (cv ad)).toArray).vm := hW1
  generalize hs1 : (T.setVm vm₁).calling (F0 m pc lsC (rest.map (cv ad))) mk (As.map (cv ad)).toArray = s1 at *
  have F1 : Fx p e { frames := d + 8, cells := gC σ, slots := gN σ, locals := 64 * d + 256 } s1 mk (As.map (cv ad)).toArray methY cY d y' (va_A (ws ad ac σ) H.size) D := by
    have hnY : s1.methodNamed? y'.1 = some mk := by
      have : (s.setVm s1.vm).methodNamed? y'.1 = some mk := by rw [State.methodNamed?_setVm hWs.alike]; exact hnamed
      exact this
    refine ⟨hx, htr, hbY, hlY, hrY, hlkY, ?_, findClass_of_methodNamed hnY, ?_, fun w hw hm => mv_at hWs hm (hts w hw hm), Nat.le_refl _, Nat.le_refl _, ?_, ?_, va_K.moved hWs.alike hK⟩
    · rw [← hexY, List.map_map]
      have : (hdl ∘ fun h : ExceptionTableEntry => (h.startPc, h.endPc, h.handlerPc, h.catchType)) = id := by funext h; rfl
      rw [this, List.map_id]
    · exact (name_of_methodNamed hnamed hmY).1
    · intro q hq; rw [hh1] at hq; exact Or.inr hq
    · rw [hh1]; exact wd_stat Wr
  have W1 : Wd D ad ac (va_A (ws ad ac σ) H.size) s1 σ H [] := by
    refine ⟨hP, hD.self, by rw [hh1]; exact va_S.rf, fun i ty n hi => ?_, hRf, hCs.go hWs (fun a h1 h2 => by rw [hh1]; exact hS.2.1 a h1 h2) (fun q hq => Or.inl (hAA q hq)) (by rw [hh1]; exact hS.1) (fun _ _ => rfl), hlen⟩
    obtain ⟨a1, a2, a3⟩ := hAK i ty n hi
    exact ⟨fun n z => State.isArrayOf_alike hWs.alike (a1 n z), va_RA.moved hWs.alike a2, a3⟩
  have hE : entryFrame mk (As.map (cv ad)).toArray cY.maxLocals = F0 mk 0 ((lg_sl (As.map (cv ad)) ++ List.replicate (y'.2.2.1 - (lg_sl (As.map (cv ad))).length) Slot.unset).toArray) [] := by rw [hlY]; exact lg_entry_eq _ _ _
  have K := hcall p l e _ s1 mk (As.map (cv ad)).toArray (.java (F0 m pc lsC (rest.map (cv ad))) :: below) methY cY H [] 0 0 _ ad ac D _ F1 W1 (by show 0 + gC σ ≤ gC σ; omega) (by show 0 + gN σ ≤ gN σ; omega) (lh_ent ad As hfl)
  replace K := hE.symm ▸ K
  obtain ⟨t, hst1, o, σ', ad', ac', oc, L, k, n, f1, f2, f3, f4, f5, f6, f7, f8, f9, f10, f11⟩ := K _ (by show T.heap = H; exact hT) Y
  have hgo2 : Steps p.tables e below (T.setTop (F0 m pc lsC (st0.map (cv ad)))) t := by
    refine hgo _ ?_
    rw [hinv []]
    refine Steps.weaken (mid := [.java (F0 m pc lsC (rest.map (cv ad)))]) ?_
    exact hst1
  obtain ⟨w1, w2, w3, w4, w5, w6, w7⟩ := f11
  rw [hh1] at w3
  have hcv : ∀ q, q < H.size → ¬ va_A (ws ad ac σ) H.size q → t.heap[q]? = H[q]? := w3.2.1
  have W2 : ∀ (T' : State), T'.heap = t.heap → Wd D ad' ac' A s σ' T'.heap (locs ++ L) := by
    intro T' hT'
    rw [hT']
    refine ⟨w1, w2.weaken (fun _ _ q _ => hAA _ (w2.2 _ _ q)), ⟨Nat.le_trans hS.1 w3.1, fun q h1 h2 => ?_, fun q hq => ?_⟩, fun i ty n hi => ?_, w5, ?_, w7⟩
    · rw [hcv q (Nat.lt_of_lt_of_le h1 hS.1) (fun z => h2 (hAA q z))]
      exact hS.2.1 q h1 h2
    · rcases List.mem_append.mp hq with h | h
      · exact hS.2.2 q h
      · exact hAA _ (w3.2.2 q h)
    · obtain ⟨a1, a2, a3⟩ := w4 i ty n hi
      exact ⟨fun n z => State.isArrayOf_alike hWs.alike.symm (a1 n z), va_RA.moved hWs.alike.symm a2, a3⟩
    · obtain ⟨⟨x1, x2, x3⟩, c2⟩ := hCs
      obtain ⟨⟨z1, z2, z3⟩, -⟩ := w6
      have ea : ad' 999 = ad 999 := f9 999 (Or.inr (by decide))
      unfold Cs
      rw [f9 1000 (Or.inr (by decide)), f9 1001 (Or.inr (by decide)), f9 1002 (Or.inr (by decide))]
      refine ⟨⟨(z1.kept ?_).moved hWs.alike.symm, by rw [ea]; exact x2, by rw [ea]; exact x3⟩, c2⟩
      rw [hh1, ea]
      exact (hS.2.1 _ x2 x3).symm
  cases o with
  | inl v =>
    have hoc : oc = .returned (v.map (cv ad')) := by
      cases v with
      | none => exact f3
      | some v => exact f3
    subst hoc
    rw [← hs1] at f5 f6
    obtain ⟨T', X', g1, g2, g3⟩ := X₁.outOf (g := F0 m pc lsC (rest.map (cv ad))) rfl hdg f2 f5 f6
    refine ⟨.inl v, σ', ad', ac', L, k, n, T', f4, X', W2 T' (by rw [g3]; rfl), by show cells + k + gC σ' ≤ R.cells; have : k + gC σ' ≤ gC σ := f7; omega, by show slots + n + gN σ' ≤ R.slots; have : n + gN σ' ≤ gN σ := f8; omega, f9, f10, fun tg htg => ?_⟩
    refine hgo2.trans ?_
    rw [g3]
    exact htg
  | inr x =>
    obtain ⟨a, cell, rfl, q1, q2, q3⟩ := f3
    rw [← hs1] at f5 f6
    obtain ⟨T', X', g1, g2, g3⟩ := X₁.outOfThrown (g := F0 m pc lsC (rest.map (cv ad))) rfl f2 f5 f6
    have hh : T'.heap = t.heap := by rw [g3]; rfl
    have hv : T'.vm = t.vm := by rw [g3]; rfl
    refine ⟨.inr x, σ', ad', ac', L, k, n, T', f4, X', W2 T' hh, by show cells + k + gC σ' ≤ R.cells; have : k + gC σ' ≤ gC σ := f7; omega, by show slots + n + gN σ' ≤ R.slots; have : n + gN σ' ≤ gN σ := f8; omega, f9, f10, a, cell, by rw [hh]; exact q1, by rw [hv]; exact q2, q3, fun tg htg => ?_⟩
    refine hgo2.trans ?_
    rw [g3]
    exact htg
