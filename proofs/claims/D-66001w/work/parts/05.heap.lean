-- locals: what is listed
def lvl (ad : Nat → Nat) (ls : Lo) : List (Nat × Value) := (List.range ls.length).filterMap (fun i => match ls[i]? with | some (some v) => some (i, cv ad v) | _ => none)
theorem lvl_mem {ad : Nat → Nat} {ls : Lo} {i : Nat} {v : Value} (h : ls[i]? = some (some v)) : (i, cv ad v) ∈ lvl ad ls := by
  refine List.mem_filterMap.mpr ⟨i, List.mem_range.mpr (List.getElem?_eq_some_iff.mp h).1, ?_⟩
  rw [h]
theorem lvl_of {ad : Nat → Nat} {ls : Lo} {q : Nat × Value} (h : q ∈ lvl ad ls) : ∃ v, ls[q.1]? = some (some v) ∧ q.2 = cv ad v := by
  obtain ⟨i, -, h2⟩ := List.mem_filterMap.mp h
  cases hv : ls[i]? with
  | none => rw [hv] at h2; cases h2
  | some o =>
    cases o with
    | none => rw [hv] at h2; cases h2
    | some v =>
      rw [hv] at h2
      cases h2
      exact ⟨v, hv, rfl⟩
theorem LH.has {lsC : Array Slot} {nL : Nat} {ad : Nat → Nat} {ls : Lo} (h : LH lsC nL ad ls) : lv_has lsC nL (lvl ad ls) := by
  refine ⟨h.1, h.2.1, fun q hq => ?_⟩
  obtain ⟨v, h1, h2⟩ := lvl_of hq
  rw [h2]
  exact h.2.2 _ _ h1
/-- the slot below a long's second half is lost -/
def clr (ls : Lo) : Nat → Lo
  | 0 => ls
  | j + 1 => match ls[j]? with
    | some (some (.long _)) => ls.set j none
    | some (some (.double _)) => ls.set j none
    | _ => ls
def sto1 (ls : Lo) (i : Nat) (v : Value) : Lo := (clr ls i).set i (some v)
def sto2 (ls : Lo) (i : Nat) (v : Value) : Lo := ((clr ls i).set (i + 1) none).set i (some v)
theorem clr_at {ls : Lo} {i j : Nat} {w : Value} (h : (clr ls i)[j]? = some (some w)) : ls[j]? = some (some w) ∧ ¬ (j + 1 = i ∧ w.category = 2) := by
  cases i with
  | zero => exact ⟨h, fun z => by omega⟩
  | succ n =>
    simp only [clr] at h
    split at h
    · rename_i x hx
      by_cases e : j = n
      · subst e
        rw [List.getElem?_set_self (List.getElem?_eq_some_iff.mp hx).1] at h
        cases h
      · rw [List.getElem?_set_ne (fun z => e z.symm)] at h
        exact ⟨h, fun z => by omega⟩
    · rename_i x hx
      by_cases e : j = n
      · subst e
        rw [List.getElem?_set_self (List.getElem?_eq_some_iff.mp hx).1] at h
        cases h
      · rw [List.getElem?_set_ne (fun z => e z.symm)] at h
        exact ⟨h, fun z => by omega⟩
    · rename_i hx1 hx2
      refine ⟨h, fun z => ?_⟩
      have e : j = n := by omega
      subst e
      cases w with
      | long a => exact hx1 a h
      | double a => exact hx2 a h
      | _ => simp [Value.category] at z
theorem lh_st1 {lsC : Array Slot} {nL : Nat} {ad : Nat → Nat} {ls : Lo} {i : Nat} {v : Value} (h : lv_has lsC nL ((i, cv ad v) :: (lvl ad ls).filter (fun q => !(q.1 == i) && !(q.1 + 1 == i && q.2.category == 2)))) : LH lsC nL ad (sto1 ls i v) := by
  refine ⟨h.1, h.2.1, fun j w hj => ?_⟩
  unfold sto1 at hj
  by_cases e : j = i
  · subst e
    have hlt : j < (clr ls j).length := by
      have := (List.getElem?_eq_some_iff.mp hj).1
      simpa using this
    rw [List.getElem?_set_self hlt] at hj
    cases hj
    exact h.2.2 (j, cv ad v) List.mem_cons_self
  · rw [List.getElem?_set_ne (fun z => e z.symm)] at hj
    obtain ⟨h1, h2⟩ := clr_at hj
    refine h.2.2 (j, cv ad w) (List.mem_cons_of_mem _ (List.mem_filter.mpr ⟨lvl_mem h1, ?_⟩))
    simp only [cv_cat, Bool.and_eq_true, Bool.not_eq_true', beq_eq_false_iff_ne, ne_eq, Bool.and_eq_false_iff]
    refine ⟨e, ?_⟩
    by_cases e2 : j + 1 = i
    · exact Or.inr (fun z => h2 ⟨e2, z⟩)
    · exact Or.inl e2
theorem lh_st2 {lsC : Array Slot} {nL : Nat} {ad : Nat → Nat} {ls : Lo} {i : Nat} {v : Value} (h : lv_has lsC nL ((i, cv ad v) :: (lvl ad ls).filter (fun q => !(q.1 == i) && (!(q.1 == i + 1) && !(q.1 + 1 == i && q.2.category == 2))))) : LH lsC nL ad (sto2 ls i v) := by
  refine ⟨h.1, h.2.1, fun j w hj => ?_⟩
  unfold sto2 at hj
  by_cases e : j = i
  · subst e
    have hlt : j < ((clr ls j).set (j + 1) none).length := by
      have := (List.getElem?_eq_some_iff.mp hj).1
      simpa using this
    rw [List.getElem?_set_self hlt] at hj
    cases hj
    exact h.2.2 (j, cv ad v) List.mem_cons_self
  · rw [List.getElem?_set_ne (fun z => e z.symm)] at hj
    by_cases e1 : j = i + 1
    · subst e1
      have hlt : i + 1 < (clr ls i).length := by
        have := (List.getElem?_eq_some_iff.mp hj).1
        simpa using this
      rw [List.getElem?_set_self hlt] at hj
      cases hj
    · rw [List.getElem?_set_ne (fun z => e1 z.symm)] at hj
      obtain ⟨h1, h2⟩ := clr_at hj
      refine h.2.2 (j, cv ad w) (List.mem_cons_of_mem _ (List.mem_filter.mpr ⟨lvl_mem h1, ?_⟩))
      simp only [cv_cat, Bool.and_eq_true, Bool.not_eq_true', beq_eq_false_iff_ne, ne_eq, Bool.and_eq_false_iff]
      refine ⟨e, e1, ?_⟩
      by_cases e2 : j + 1 = i
      · exact Or.inr (fun z => h2 ⟨e2, z⟩)
      · exact Or.inl e2
section QS
variable {d : Nat} {y : My} {pc : Nat} {ls ls' : Lo} {st : List Value} {σ : Sg} {Q : Ot → Sg → Prop}
theorem q_istore_n {x : Int32} {n : Fin 4} (hd : decode y.2.1 pc = .ok (.istore_n n, 1)) (hn : (n : Nat) < y.2.2.1) (hls : sto1 ls (n : Nat) (.int x) = ls') (k : WQ d y (pc + 1) ls' st σ Q) : WQ d y pc ls (.int x :: st) σ Q := by
  intro p l e R s m args below meth c H locs cells slots A ad ac D lsC F Wr hc hs hl
  subst hls
  exact lv_istore_n F.1 F.2.2.1 hd rfl hl.has hn rfl (fun ls' h' => k p l e R s m args below meth c H locs cells slots A ad ac D ls' F Wr hc hs (lh_st1 (v := .int x) h'))
theorem q_istore {x : Int32} {n : Nat} (hd : decode y.2.1 pc = .ok (.istore n, 2)) (hn : n < y.2.2.1) (hls : sto1 ls n (.int x) = ls') (k : WQ d y (pc + 2) ls' st σ Q) : WQ d y pc ls (.int x :: st) σ Q := by
  intro p l e R s m args below meth c H locs cells slots A ad ac D lsC F Wr hc hs hl
  subst hls
  exact lv_istore F.1 F.2.2.1 hd hl.has hn rfl (fun ls' h' => k p l e R s m args below meth c H locs cells slots A ad ac D ls' F Wr hc hs (lh_st1 (v := .int x) h'))
theorem q_astore_n {x : Nat} {n : Fin 4} (hd : decode y.2.1 pc = .ok (.astore_n n, 1)) (hn : (n : Nat) < y.2.2.1) (hls : sto1 ls (n : Nat) (.ref x) = ls') (k : WQ d y (pc + 1) ls' st σ Q) : WQ d y pc ls (.ref x :: st) σ Q := by
  intro p l e R s m args below meth c H locs cells slots A ad ac D lsC F Wr hc hs hl
  subst hls
  exact lv_astore_n F.1 F.2.2.1 hd rfl hl.has hn rfl (fun ls' h' => k p l e R s m args below meth c H locs cells slots A ad ac D ls' F Wr hc hs (lh_st1 (v := .ref x) h'))
theorem q_astore {x : Nat} {n : Nat} (hd : decode y.2.1 pc = .ok (.astore n, 2)) (hn : n < y.2.2.1) (hls : sto1 ls n (.ref x) = ls') (k : WQ d y (pc + 2) ls' st σ Q) : WQ d y pc ls (.ref x :: st) σ Q := by
  intro p l e R s m args below meth c H locs cells slots A ad ac D lsC F Wr hc hs hl
  subst hls
  exact lv_astore F.1 F.2.2.1 hd hl.has hn rfl (fun ls' h' => k p l e R s m args below meth c H locs cells slots A ad ac D ls' F Wr hc hs (lh_st1 (v := .ref x) h'))
theorem q_lstore_n {x : Int64} {n : Fin 4} (hd : decode y.2.1 pc = .ok (.lstore_n n, 1)) (hn : (n : Nat) + 1 < y.2.2.1) (hls : sto2 ls (n : Nat) (.long x) = ls') (k : WQ d y (pc + 1) ls' st σ Q) : WQ d y pc ls (.long x :: st) σ Q := by
  intro p l e R s m args below meth c H locs cells slots A ad ac D lsC F Wr hc hs hl
  subst hls
  exact lv_lstore_n F.1 F.2.2.1 hd rfl hl.has hn rfl (fun ls' h' => k p l e R s m args below meth c H locs cells slots A ad ac D ls' F Wr hc hs (lh_st2 (v := .long x) h'))
theorem q_lstore {x : Int64} {n : Nat} (hd : decode y.2.1 pc = .ok (.lstore n, 2)) (hn : n + 1 < y.2.2.1) (hls : sto2 ls n (.long x) = ls') (k : WQ d y (pc + 2) ls' st σ Q) : WQ d y pc ls (.long x :: st) σ Q := by
  intro p l e R s m args below meth c H locs cells slots A ad ac D lsC F Wr hc hs hl
  subst hls
  exact lv_lstore F.1 F.2.2.1 hd hl.has hn rfl (fun ls' h' => k p l e R s m args below meth c H locs cells slots A ad ac D ls' F Wr hc hs (lh_st2 (v := .long x) h'))
theorem q_iinc {x v : Int32} {i : Nat} {n : Int} (hd : decode y.2.1 pc = .ok (.iinc i n, 3)) (hi : ls[i]? = some (some (.int x))) (hv : x + Int32.ofInt n = v) (hn : i < y.2.2.1) (hls : sto1 ls i (.int v) = ls') (k : WQ d y (pc + 3) ls' st σ Q) : WQ d y pc ls st σ Q := by
  intro p l e R s m args below meth c H locs cells slots A ad ac D lsC F Wr hc hs hl
  subst hls
  obtain ⟨kk, hkk⟩ := List.getElem?_of_mem (lvl_mem (ad := ad) hi)
  exact lv_iinc F.1 F.2.2.1 hd hl.has hkk hv hn rfl (fun ls' h' => k p l e R s m args below meth c H locs cells slots A ad ac D ls' F Wr hc hs (lh_st1 (v := .int v) h'))
end QS
-- the memory's writes
def u2 {α : Type} (f : Nat → Nat → α) (i k : Nat) (v : α) : Nat → Nat → α := fun a => if a = i then (fun b => if b = k then v else f i b) else f a
def sI (σ : Sg) (i k : Nat) (v : Int32) : Sg := (gS σ, u2 (gI σ) i k v, gL σ, gR σ, gX σ, gC σ, gN σ)
def sL (σ : Sg) (i k : Nat) (v : Int64) : Sg := (gS σ, gI σ, u2 (gL σ) i k v, gR σ, gX σ, gC σ, gN σ)
def sR (σ : Sg) (i k : Nat) (v : Option Nat) : Sg := (gS σ, gI σ, gL σ, u2 (gR σ) i k v, gX σ, gC σ, gN σ)
/-- the value of a field -/
def xv (σ : Sg) (ci i k : Nat) : Value := match tk (tyOf ci k) with
  | 0 => .int (gI σ i k)
  | 1 => .long (gL σ i k)
  | _ => (match gR σ i k with | none => .null | some j => .ref j)
theorem xv_cv (ad : Nat → Nat) (σ : Sg) (ci i k : Nat) : cv ad (xv σ ci i k) = xf ad σ ci i k := by
  unfold xv xf
  generalize tk (tyOf ci k) = t
  match t with
  | 0 => rfl
  | 1 => rfl
  | n + 2 =>
    show cv ad (match gR σ i k with | none => .null | some j => .ref j) = rf ad (gR σ i k)
    cases gR σ i k <;> rfl
theorem mapset {α : Type} {f g : Nat → α} {N k : Nat} {v : α} (hk : g k = v) (h : ∀ j, j ≠ k → g j = f j) : (List.range N).map g = ((List.range N).map f).set k v := by
  apply List.ext_getElem?
  intro j
  by_cases e : j = k
  · subst e
    by_cases hl : j < N
    · rw [List.getElem?_set_self (by simpa using hl)]
      simp [hl, hk]
    · rw [List.getElem?_eq_none (by simpa using hl), List.getElem?_eq_none (by simpa using hl)]
  · rw [List.getElem?_set_ne (fun z => e z.symm)]
    by_cases hl : j < N
    · simp [hl, h j e]
    · rw [List.getElem?_eq_none (by simpa using hl), List.getElem?_eq_none (by simpa using hl)]
theorem u2_ne {α : Type} {f : Nat → Nat → α} {i k a : Nat} {v : α} (h : a ≠ i) : u2 f i k v a = f a := by simp [u2, h]
theorem u2_eq {α : Type} {f : Nat → Nat → α} {i k : Nat} {v : α} : u2 f i k v i = (fun b => if b = k then v else f i b) := by simp [u2]
theorem ws_set {ad : Nat → Nat} {ac : Nat → ClassId} {σ σ' : Sg} {i : Nat} {kd : Kd} {E : va_E} (hS : gS σ' = gS σ) (hi : (gS σ)[i]? = some kd) (hne : ∀ j k, j ≠ i → xe ad ac σ' j k = xe ad ac σ j k) (he : xe ad ac σ' i kd = E) : ws ad ac σ' = (ws ad ac σ).set i (ad i, E) := by
  apply List.ext_getElem?
  intro j
  by_cases e : j = i
  · subst e
    rw [List.getElem?_set_self (by simpa [ws] using (List.getElem?_eq_some_iff.mp hi).1), ws_at', hS, hi, Option.map_some, he]
  · rw [List.getElem?_set_ne (fun z => e z.symm), ws_at', ws_at', hS]
    congr 1
    funext k
    rw [hne j k e]
theorem xe_ne {ad : Nat → Nat} {ac : Nat → ClassId} {σ σ' : Sg} {j : Nat} (h1 : gI σ' j = gI σ j) (h2 : gL σ' j = gL σ j) (h3 : gR σ' j = gR σ j) (k : Kd) : xe ad ac σ' j k = xe ad ac σ j k := by
  have hx : ∀ ci, xf ad σ' ci j = xf ad σ ci j := by
    intro ci
    funext q
    unfold xf
    rw [h1, h2, h3]
  cases k with
  | inl ci => simp only [xe, hx]
  | inr t => simp only [xe, h1, h2]
theorem Wd.set {D : va_G} {ad : Nat → Nat} {ac : Nat → ClassId} {A : Nat → Prop} {s : State} {σ σ' : Sg} {H H1 : Heap} {locs locs1 : List Loc} {w' : va_W} (h : Wd D ad ac A s σ H locs) (hS : gS σ' = gS σ) (hX : gX σ' = gX σ) (hR : ∀ i k j, gR σ' i k = some j → j < (gS σ).length)
    (e : ws ad ac σ' = w') (hP : va_P D classes w' H1) (hD : va_D A w') (hS1 : va_S A s.heap H1 locs1) : Wd D ad ac A s σ' H1 locs1 := by
  obtain ⟨h1, h2, h3, h4, h5, h6, h7⟩ := h
  refine ⟨by rw [e]; exact hP, by rw [e]; exact hD, hS1, ?_, ?_, by rw [hX]; exact h6, by rw [hS]; exact h7⟩
  · rw [hS]; exact h4
  · rw [hS]; exact hR
/-- a field's link: the class' number, the field's place, whether it is final -/
def Lk (own : String) (idx ci k : Nat) (fin : Bool) : Prop := ∃ (C : String) (T : u_T) (N : Nat), ck ci C T N ∧ k < N ∧ (T k).2.2.2 = fin ∧ ((Cond.fieldLink own idx (T k).1 (T k).2.1 (T k).2.2.1 ∈ lw_tbl) ∨ (Cond.fieldLinkNest own idx (T k).1 (T k).2.1 (T k).2.2.1 "ArrayRecords" ∈ lw_tbl))
def LkF (own : String) (idx ci k : Nat) : Prop := ∃ (T : u_T) (N : Nat), ck ci own T N ∧ k < N ∧ (T k).2.2.2 = true ∧ Cond.fieldLink own idx (T k).1 (T k).2.1 (T k).2.2.1 ∈ lw_tbl
theorem u_mv {C : String} {T : u_T} {N : Nat} {w : Cond} (h : w ∈ u_ws C T N) : mvOk w = true := by
  obtain ⟨k, -, rfl⟩ := List.mem_map.mp h
  unfold u_lay
  split <;> rfl
theorem Fx.hts {p : Program} {e : Env} {R : Room} {s : State} {m : MethodId} {args : Array Value} {meth : Method} {c : Code} {d : Nat} {y : My} {A : Nat → Prop} {D : va_G} (F : Fx p e R s m args meth c d y A D) : ∀ w ∈ lw_tbl, mvOk w = true → w.before args s = true := F.2.2.2.2.2.2.2.2.2.1
theorem Fx.own {p : Program} {e : Env} {R : Room} {s : State} {m : MethodId} {args : Array Value} {meth : Method} {c : Code} {d : Nat} {y : My} {A : Nat → Prop} {D : va_G} (F : Fx p e R s m args meth c d y A D) : s.vm.findClass y.1.cls = some m.cls := F.2.2.2.2.2.2.2.1
theorem Fx.kn {p : Program} {e : Env} {R : Room} {s : State} {m : MethodId} {args : Array Value} {meth : Method} {c : Code} {d : Nat} {y : My} {A : Nat → Prop} {D : va_G} (F : Fx p e R s m args meth c d y A D) : va_K D classes [] s := F.2.2.2.2.2.2.2.2.2.2.2.2.2.2
theorem Fx.locks {p : Program} {e : Env} {R : Room} {s : State} {m : MethodId} {args : Array Value} {meth : Method} {c : Code} {d : Nat} {y : My} {A : Nat → Prop} {D : va_G} (F : Fx p e R s m args meth c d y A D) : meth.locks = false := F.2.2.2.2.2.1
section QH
variable {d : Nat} {y : My} {pc : Nat} {ls : Lo} {st : List Value} {σ : Sg} {Q : Ot → Sg → Prop}
theorem q_get {idx ci k i : Nat} {fin : Bool} {v : Value} (hd : decode y.2.1 pc = .ok (.getfield idx, 3)) (hf : Lk y.1.cls idx ci k fin) (hi : (gS σ)[i]? = some (.inl ci)) (hv : xv σ ci i k = v) (kk : WQ d y (pc + 3) ls (v :: st) σ Q) : WQ d y pc ls (.ref i :: st) σ Q := by
  intro p l e R s m args below meth c H locs cells slots A ad ac D lsC F Wr hc hs hl
  obtain ⟨C, T, N, ⟨c1, c2, c3, c4, c5, c6⟩, hk, -, hlk⟩ := hf
  have hw := ws_at (ad := ad) (ac := ac) hi
  have hfs : ((List.range (nfl ci)).map (xf ad σ ci i))[k]? = some (cv ad v) := by
    rw [← hv, xv_cv, c6]
    simp [hk]
  have K := kk p l e R s m args below meth c H locs cells slots A ad ac D lsC F Wr hc hs hl
  rcases hlk with hlk | hlk
  · exact va_get F.1 F.2.2.1 (Ts := u_ws C T N) (fun w hw => F.hts w (c2 w hw) (u_mv hw)) (fun w hw => hw) F.own F.kn Wr.1 i hw c1 k hk (F.hts _ hlk rfl) (fun x h => h) hfs hd K
  · exact va_getN F.1 F.2.2.1 (Ts := u_ws C T N) (fun w hw => F.hts w (c2 w hw) (u_mv hw)) (fun w hw => hw) F.own F.kn Wr.1 i hw c1 k hk (F.hts _ hlk rfl) (fun x h => h) hfs hd K
/-- the field k of the object i gets v; s' is the memory then -/
def Pt (σ σ' : Sg) (ci i k : Nat) (v : Value) : Prop := gS σ' = gS σ ∧ gX σ' = gX σ ∧ gC σ' = gC σ ∧ gN σ' = gN σ ∧ (∀ i' k' j, gR σ' i' k' = some j → gR σ i' k' = some j ∨ j < (gS σ).length) ∧ (∀ j, j ≠ i → gI σ' j = gI σ j ∧ gL σ' j = gL σ j ∧ gR σ' j = gR σ j) ∧
  xv σ' ci i k = v ∧ (∀ j, j ≠ k → xv σ' ci i j = xv σ ci i j) ∧ narrow (tyOf ci k) v = v ∧ (∀ ad : Nat → Nat, narrow (tyOf ci k) (cv ad v) = cv ad v ∧ fits (tyOf ci k) (cv ad v) = true)
theorem pt_fin {ad : Nat → Nat} {ac : Nat → ClassId} {σ σ' : Sg} {ci i k : Nat} {v : Value} (hi : (gS σ)[i]? = some (.inl ci)) (h : Pt σ σ' ci i k v) : ws ad ac σ' = (ws ad ac σ).set i (ad i, .inr (ci, ((List.range (nfl ci)).map (xf ad σ ci i)).set k (cv ad v))) := by
  obtain ⟨h1, -, -, -, -, h3, h4, h5, -⟩ := h
  refine ws_set h1 hi (fun j kd hj => xe_ne (h3 j hj).1 (h3 j hj).2.1 (h3 j hj).2.2 kd) ?_
  show Sum.inr (ci, _) = _
  rw [mapset (f := xf ad σ ci i) (g := xf ad σ' ci i) (v := cv ad v) (by rw [← xv_cv, h4]) (fun j hj => by rw [← xv_cv, ← xv_cv, h5 j hj])]
theorem q_putG {idx ci k i : Nat} {v : Value} {σ' : Sg} (hd : decode y.2.1 pc = .ok (.putfield idx, 3)) (hf : Lk y.1.cls idx ci k false) (hi : (gS σ)[i]? = some (.inl ci)) (hp : Pt σ σ' ci i k v) (kk : WQ d y (pc + 3) ls st σ' Q) : WQ d y pc ls (v :: .ref i :: st) σ Q := by
  intro p l e R s m args below meth c H locs cells slots A ad ac D lsC F Wr hc hs hl
  obtain ⟨C, T, N, ⟨c1, c2, c3, c4, c5, c6⟩, hk, hfin, hlk⟩ := hf
  have hw := ws_at (ad := ad) (ac := ac) hi
  have hR : ∀ i k j, gR σ' i k = some j → j < (gS σ).length := fun i' k' j h => (hp.2.2.2.2.1 i' k' j h).elim (Wr.2.2.2.2.1 i' k' j) id
  have hK : ∀ (H1 : Heap) (locs1 : List Loc), va_P D classes ((ws ad ac σ).set i (ad i, .inr (ci, ((List.range (nfl ci)).map (xf ad σ ci i)).set k (cv ad v)))) H1 → va_D A ((ws ad ac σ).set i (ad i, .inr (ci, ((List.range (nfl ci)).map (xf ad σ ci i)).set k (cv ad v)))) → va_S A s.heap H1 locs1 → W p l e R s m args below meth c H1 locs1 cells slots (Fin_ below s A R D ad (gS σ) Q) (F0 m (pc + 3) lsC (st.map (cv ad))) := by
    intro H1 locs1 a1 a2 a3
    have := kk p l e R s m args below meth c H1 locs1 cells slots A ad ac D lsC F (Wr.set hp.1 hp.2.1 hR (pt_fin hi hp) a1 a2 a3) (by rw [hp.2.2.1]; exact hc) (by rw [hp.2.2.2.1]; exact hs) hl
    rw [hp.1] at this
    exact this
  have hb1 := hp.2.2.2.2.2.2.2.2.2 ad
  rcases hlk with hlk | hlk
  · exact va_put F.1 F.2.2.1 (Ts := u_ws C T N) (fun w hw => F.hts w (c2 w hw) (u_mv hw)) (fun w hw => hw) (tyOf ci) c3 c4 F.own F.kn Wr.1 Wr.2.1 Wr.2.2.1 i hw c1 k hk (F.hts _ hlk rfl) (fun x h => h) hfin (c3 k hk) hb1.1 hb1.2 (by simpa [c6] using hk) hd hK
  · exact va_putN F.1 F.2.2.1 (Ts := u_ws C T N) (fun w hw => F.hts w (c2 w hw) (u_mv hw)) (fun w hw => hw) (tyOf ci) c3 c4 F.own F.kn Wr.1 Wr.2.1 Wr.2.2.1 i hw c1 k hk (F.hts _ hlk rfl) (fun x h => h) hfin (c3 k hk) hb1.1 hb1.2 (by simpa [c6] using hk) hd hK
end QH
theorem gI_sI {σ : Sg} {i k : Nat} {v : Int32} : gI (sI σ i k v) = u2 (gI σ) i k v := rfl
theorem gL_sL {σ : Sg} {i k : Nat} {v : Int64} : gL (sL σ i k v) = u2 (gL σ) i k v := rfl
theorem gR_sR {σ : Sg} {i k : Nat} {v : Option Nat} : gR (sR σ i k v) = u2 (gR σ) i k v := rfl
theorem u2_at {α : Type} {f : Nat → Nat → α} {i k : Nat} {v : α} : u2 f i k v i k = v := by simp [u2]
theorem u2_off {α : Type} {f : Nat → Nat → α} {i k j : Nat} {v : α} (h : j ≠ k) : u2 f i k v i j = f i j := by simp [u2, h]
theorem xv_same {σ σ' : Sg} {ci i j : Nat} (h1 : gI σ' i j = gI σ i j) (h2 : gL σ' i j = gL σ i j) (h3 : gR σ' i j = gR σ i j) : xv σ' ci i j = xv σ ci i j := by
  unfold xv; rw [h1, h2, h3]
section QP
variable {d : Nat} {y : My} {pc : Nat} {ls : Lo} {st : List Value} {σ : Sg} {Q : Ot → Sg → Prop}
theorem pt_int {ci i k : Nat} {v : Int32} (ht : tyOf ci k = .int) : Pt σ (sI σ i k v) ci i k (.int v) := by
  refine ⟨rfl, rfl, rfl, rfl, fun _ _ _ h => Or.inl h, fun j hj => ⟨u2_ne hj, rfl, rfl⟩, ?_, fun j hj => ?_, by rw [ht]; rfl, fun ad => by rw [ht]; exact ⟨rfl, rfl⟩⟩
  · simp only [xv, ht, tk, gI_sI, u2_at]
  · exact xv_same (by rw [gI_sI, u2_off hj]) rfl rfl
theorem pt_bool {ci i k : Nat} {v : Int32} (ht : tyOf ci k = .boolean) (hv : v = 0 ∨ v = 1) : Pt σ (sI σ i k v) ci i k (.int v) := by
  have hn : narrow .boolean (.int v) = .int v := by rcases hv with rfl | rfl <;> rfl
  refine ⟨rfl, rfl, rfl, rfl, fun _ _ _ h => Or.inl h, fun j hj => ⟨u2_ne hj, rfl, rfl⟩, ?_, fun j hj => ?_, by rw [ht]; exact hn, fun ad => by rw [ht]; exact ⟨hn, by rcases hv with rfl | rfl <;> rfl⟩⟩
  · simp only [xv, ht, tk, gI_sI, u2_at]
  · exact xv_same (by rw [gI_sI, u2_off hj]) rfl rfl
theorem pt_long {ci i k : Nat} {v : Int64} (ht : tyOf ci k = .long) : Pt σ (sL σ i k v) ci i k (.long v) := by
  refine ⟨rfl, rfl, rfl, rfl, fun _ _ _ h => Or.inl h, fun j hj => ⟨rfl, u2_ne hj, rfl⟩, ?_, fun j hj => ?_, by rw [ht]; rfl, fun ad => by rw [ht]; exact ⟨rfl, rfl⟩⟩
  · simp only [xv, ht, tk, gL_sL, u2_at]
  · exact xv_same rfl (by rw [gL_sL, u2_off hj]) rfl
theorem pt_ref {ci i k j0 : Nat} (ht : tk (tyOf ci k) = 2) (hj0 : j0 < (gS σ).length) : Pt σ (sR σ i k (some j0)) ci i k (.ref j0) := by
  have hnf : ∀ a : Nat, narrow (tyOf ci k) (.ref a) = .ref a ∧ fits (tyOf ci k) (.ref a) = true := by
    intro a
    generalize tyOf ci k = t at ht
    cases t <;> first | exact ⟨rfl, rfl⟩ | exact absurd ht (by decide)
  refine ⟨rfl, rfl, rfl, rfl, fun i' k' j h => ?_, fun j hj => ⟨rfl, rfl, u2_ne hj⟩, ?_, fun j hj => ?_, (hnf j0).1, fun ad => hnf (ad j0)⟩
  · rw [gR_sR] at h
    by_cases e : i' = i
    · subst e
      by_cases e2 : k' = k
      · subst e2
        rw [u2_at] at h
        exact Or.inr (Option.some.inj h ▸ hj0)
      · rw [u2_off e2] at h
        exact Or.inl h
    · rw [u2_ne e] at h
      exact Or.inl h
  · simp only [xv, ht, gR_sR, u2_at]
  · exact xv_same rfl rfl (by rw [gR_sR, u2_off hj])
theorem q_puti {idx ci k i : Nat} {v : Int32} (hd : decode y.2.1 pc = .ok (.putfield idx, 3)) (hf : Lk y.1.cls idx ci k false) (hi : (gS σ)[i]? = some (.inl ci)) (ht : tyOf ci k = .int) (kk : WQ d y (pc + 3) ls st (sI σ i k v) Q) : WQ d y pc ls (.int v :: .ref i :: st) σ Q := q_putG hd hf hi (pt_int ht) kk
theorem q_putz {idx ci k i : Nat} {v : Int32} (hd : decode y.2.1 pc = .ok (.putfield idx, 3)) (hf : Lk y.1.cls idx ci k false) (hi : (gS σ)[i]? = some (.inl ci)) (ht : tyOf ci k = .boolean) (hv : v = 0 ∨ v = 1) (kk : WQ d y (pc + 3) ls st (sI σ i k v) Q) : WQ d y pc ls (.int v :: .ref i :: st) σ Q := q_putG hd hf hi (pt_bool ht hv) kk
theorem q_putl {idx ci k i : Nat} {v : Int64} (hd : decode y.2.1 pc = .ok (.putfield idx, 3)) (hf : Lk y.1.cls idx ci k false) (hi : (gS σ)[i]? = some (.inl ci)) (ht : tyOf ci k = .long) (kk : WQ d y (pc + 3) ls st (sL σ i k v) Q) : WQ d y pc ls (.long v :: .ref i :: st) σ Q := q_putG hd hf hi (pt_long ht) kk
/-- a final field, in its own constructor -/
theorem q_putF {idx ci k i j0 : Nat} (hd : decode y.2.1 pc = .ok (.putfield idx, 3)) (hf : LkF y.1.cls idx ci k) (hin : y.1.name = "<init>") (hi : (gS σ)[i]? = some (.inl ci)) (ht : tk (tyOf ci k) = 2) (hj0 : j0 < (gS σ).length) (kk : WQ d y (pc + 3) ls st (sR σ i k (some j0)) Q) : WQ d y pc ls (.ref j0 :: .ref i :: st) σ Q := by
  intro p l e R s m args below meth c H locs cells slots A ad ac D lsC F Wr hc hs hl
  obtain ⟨T, N, ⟨c1, c2, c3, c4, c5, c6⟩, hk, hfin, hlk⟩ := hf
  have hp := pt_ref (σ := σ) (i := i) ht hj0
  have hw := ws_at (ad := ad) (ac := ac) hi
  have hR : ∀ i' k' j, gR (sR σ i k (some j0)) i' k' = some j → j < (gS σ).length := fun i' k' j h => (hp.2.2.2.2.1 i' k' j h).elim (Wr.2.2.2.2.1 i' k' j) id
  have hK : ∀ (H1 : Heap) (locs1 : List Loc), va_P D classes ((ws ad ac σ).set i (ad i, .inr (ci, ((List.range (nfl ci)).map (xf ad σ ci i)).set k (cv ad (.ref j0))))) H1 → va_D A ((ws ad ac σ).set i (ad i, .inr (ci, ((List.range (nfl ci)).map (xf ad σ ci i)).set k (cv ad (.ref j0))))) → va_S A s.heap H1 locs1 → W p l e R s m args below meth c H1 locs1 cells slots (Fin_ below s A R D ad (gS σ) Q) (F0 m (pc + 3) lsC (st.map (cv ad))) := by
    intro H1 locs1 a1 a2 a3
    exact kk p l e R s m args below meth c H1 locs1 cells slots A ad ac D lsC F (Wr.set hp.1 hp.2.1 hR (pt_fin hi hp) a1 a2 a3) hc hs hl
  have hb1 := hp.2.2.2.2.2.2.2.2.2 ad
  exact va_putF F.1 F.2.2.1 (Ts := u_ws y.1.cls T N) (fun w hw => F.hts w (c2 w hw) (u_mv hw)) (fun w hw => hw) (tyOf ci) c3 c4 F.own F.kn Wr.1 Wr.2.1 Wr.2.2.1 i hw c1 k hk (F.hts _ hlk rfl) (fun x h => h) hfin (F.2.2.2.2.2.2.2.2.1.trans hin) (c5 k hk) (c3 k hk) hb1.1 hb1.2 (by simpa [c6] using hk) hd hK
-- arrays
theorem ws_sI {ad : Nat → Nat} {ac : Nat → ClassId} {i k n : Nat} {ty : FieldType} {v : Int32} (hi : (gS σ)[i]? = some (.inr (ty, n))) (ht : tk ty = 0) : ws ad ac (sI σ i k v) = (ws ad ac σ).set i (ad i, .inl (ac i, n, .inl (upd (gI σ i) k v))) := by
  refine ws_set (σ := σ) (σ' := sI σ i k v) rfl hi (fun j kd hj => xe_ne (σ := σ) (σ' := sI σ i k v) (by rw [gI_sI, u2_ne hj]) rfl rfl kd) ?_
  simp only [xe, ht, gI_sI, u2_eq]
  rfl
theorem ws_sL {ad : Nat → Nat} {ac : Nat → ClassId} {i k n : Nat} {v : Int64} (hi : (gS σ)[i]? = some (.inr (.long, n))) : ws ad ac (sL σ i k v) = (ws ad ac σ).set i (ad i, .inl (ac i, n, .inr (.inl (vp_updL (gL σ i) k v)))) := by
  refine ws_set (σ := σ) (σ' := sL σ i k v) rfl hi (fun j kd hj => xe_ne (σ := σ) (σ' := sL σ i k v) rfl (by rw [gL_sL, u2_ne hj]) rfl kd) ?_
  simp only [xe, tk, gL_sL, u2_eq]
  rfl
theorem kn1 {D : va_G} {s : State} {cA : ClassId} {ty : FieldType} (h : va_K D classes [] s) (ha : ArrOfT s cA ty) (hr : va_RA s cA ty) : va_K D classes [(cA, ty)] s := by
  refine ⟨h.1, fun k q hq => ?_⟩
  cases k with
  | zero => simp at hq; subst hq; exact ⟨ha, hr⟩
  | succ n => simp at hq
theorem q_iald {i n : Nat} {j : Int32} (hd : decode y.2.1 pc = .ok (.iaload, 1)) (hi : (gS σ)[i]? = some (.inr (.int, n))) (hin : vp_in j n) (kk : WQ d y (pc + 1) ls (.int (gI σ i j.toNatClampNeg) :: st) σ Q) : WQ d y pc ls (.int j :: .ref i :: st) σ Q := by
  intro p l e R s m args below meth c H locs cells slots A ad ac D lsC F Wr hc hs hl
  obtain ⟨a1, a2, -⟩ := Wr.2.2.2.1 i _ _ hi
  exact va_iald F.1 F.2.2.1 (kn1 F.kn a1 a2) Wr.1 i 0 (ws_at hi) rfl hin hd (kk p l e R s m args below meth c H locs cells slots A ad ac D lsC F Wr hc hs hl)
theorem q_bald {i n : Nat} {j : Int32} (hd : decode y.2.1 pc = .ok (.baload, 1)) (hi : (gS σ)[i]? = some (.inr (.byte, n))) (hin : vp_in j n) (kk : WQ d y (pc + 1) ls (.int (gI σ i j.toNatClampNeg) :: st) σ Q) : WQ d y pc ls (.int j :: .ref i :: st) σ Q := by
  intro p l e R s m args below meth c H locs cells slots A ad ac D lsC F Wr hc hs hl
  obtain ⟨a1, a2, -⟩ := Wr.2.2.2.1 i _ _ hi
  exact va_bald F.1 F.2.2.1 (kn1 F.kn a1 a2) Wr.1 i 0 (ws_at hi) rfl hin hd (kk p l e R s m args below meth c H locs cells slots A ad ac D lsC F Wr hc hs hl)
theorem q_zald {i n : Nat} {j : Int32} (hd : decode y.2.1 pc = .ok (.baload, 1)) (hi : (gS σ)[i]? = some (.inr (.boolean, n))) (hin : vp_in j n) (kk : WQ d y (pc + 1) ls (.int (gI σ i j.toNatClampNeg) :: st) σ Q) : WQ d y pc ls (.int j :: .ref i :: st) σ Q := by
  intro p l e R s m args below meth c H locs cells slots A ad ac D lsC F Wr hc hs hl
  obtain ⟨a1, a2, -⟩ := Wr.2.2.2.1 i _ _ hi
  exact va_zald F.1 F.2.2.1 (kn1 F.kn a1 a2) Wr.1 i 0 (ws_at hi) rfl hin hd (kk p l e R s m args below meth c H locs cells slots A ad ac D lsC F Wr hc hs hl)
theorem q_lald {i n : Nat} {j : Int32} (hd : decode y.2.1 pc = .ok (.laload, 1)) (hi : (gS σ)[i]? = some (.inr (.long, n))) (hin : vp_in j n) (kk : WQ d y (pc + 1) ls (.long (gL σ i j.toNatClampNeg) :: st) σ Q) : WQ d y pc ls (.int j :: .ref i :: st) σ Q := by
  intro p l e R s m args below meth c H locs cells slots A ad ac D lsC F Wr hc hs hl
  obtain ⟨a1, a2, -⟩ := Wr.2.2.2.1 i _ _ hi
  exact va_lald F.1 F.2.2.1 (kn1 F.kn a1 a2) Wr.1 i 0 (ws_at hi) rfl hin hd (kk p l e R s m args below meth c H locs cells slots A ad ac D lsC F Wr hc hs hl)
theorem q_iast {i n : Nat} {j x : Int32} (hd : decode y.2.1 pc = .ok (.iastore, 1)) (hi : (gS σ)[i]? = some (.inr (.int, n))) (hin : vp_in j n) (kk : WQ d y (pc + 1) ls st (sI σ i j.toNatClampNeg x) Q) : WQ d y pc ls (.int x :: .int j :: .ref i :: st) σ Q := by
  intro p l e R s m args below meth c H locs cells slots A ad ac D lsC F Wr hc hs hl
  obtain ⟨a1, a2, -⟩ := Wr.2.2.2.1 i _ _ hi
  refine va_iast F.1 F.2.2.1 (kn1 F.kn a1 a2) Wr.1 Wr.2.1 Wr.2.2.1 i 0 (ws_at hi) rfl hin hd (fun H1 locs1 b1 b2 b3 => kk p l e R s m args below meth c H1 locs1 cells slots A ad ac D lsC F (Wr.set rfl rfl Wr.2.2.2.2.1 (ws_sI hi rfl) b1 b2 b3) hc hs hl)
theorem q_last {i n : Nat} {j : Int32} {x : Int64} (hd : decode y.2.1 pc = .ok (.lastore, 1)) (hi : (gS σ)[i]? = some (.inr (.long, n))) (hin : vp_in j n) (kk : WQ d y (pc + 1) ls st (sL σ i j.toNatClampNeg x) Q) : WQ d y pc ls (.long x :: .int j :: .ref i :: st) σ Q := by
  intro p l e R s m args below meth c H locs cells slots A ad ac D lsC F Wr hc hs hl
  obtain ⟨a1, a2, -⟩ := Wr.2.2.2.1 i _ _ hi
  refine va_last F.1 F.2.2.1 (kn1 F.kn a1 a2) Wr.1 Wr.2.1 Wr.2.2.1 i 0 (ws_at hi) rfl hin hd (fun H1 locs1 b1 b2 b3 => kk p l e R s m args below meth c H1 locs1 cells slots A ad ac D lsC F (Wr.set rfl rfl Wr.2.2.2.2.1 (ws_sL hi) b1 b2 b3) hc hs hl)
theorem q_bast {i n : Nat} {j x : Int32} (hd : decode y.2.1 pc = .ok (.bastore, 1)) (hi : (gS σ)[i]? = some (.inr (.byte, n))) (hin : vp_in j n) (kk : WQ d y (pc + 1) ls st (sI σ i j.toNatClampNeg (vp_nar .byte x)) Q) : WQ d y pc ls (.int x :: .int j :: .ref i :: st) σ Q := by
  intro p l e R s m args below meth c H locs cells slots A ad ac D lsC F Wr hc hs hl
  obtain ⟨a1, a2, -⟩ := Wr.2.2.2.1 i _ _ hi
  refine va_bast F.1 F.2.2.1 (kn1 F.kn a1 a2) Wr.1 Wr.2.1 Wr.2.2.1 i 0 (ws_at hi) rfl hin hd (fun H1 locs1 b1 b2 b3 => kk p l e R s m args below meth c H1 locs1 cells slots A ad ac D lsC F (Wr.set rfl rfl Wr.2.2.2.2.1 (ws_sI hi rfl) b1 b2 b3) hc hs hl)
theorem q_zast {i n : Nat} {j x : Int32} (hd : decode y.2.1 pc = .ok (.bastore, 1)) (hi : (gS σ)[i]? = some (.inr (.boolean, n))) (hin : vp_in j n) (kk : WQ d y (pc + 1) ls st (sI σ i j.toNatClampNeg (vp_nar .boolean x)) Q) : WQ d y pc ls (.int x :: .int j :: .ref i :: st) σ Q := by
  intro p l e R s m args below meth c H locs cells slots A ad ac D lsC F Wr hc hs hl
  obtain ⟨a1, a2, -⟩ := Wr.2.2.2.1 i _ _ hi
  refine va_zast F.1 F.2.2.1 (kn1 F.kn a1 a2) Wr.1 Wr.2.1 Wr.2.2.1 i 0 (ws_at hi) rfl hin hd (fun H1 locs1 b1 b2 b3 => kk p l e R s m args below meth c H1 locs1 cells slots A ad ac D lsC F (Wr.set rfl rfl Wr.2.2.2.2.1 (ws_sI hi rfl) b1 b2 b3) hc hs hl)
-- the script
theorem q_sld {j : Int32} (hd : decode y.2.1 pc = .ok (.iaload, 1)) (hin : vp_in j (gX σ).1) (kk : WQ d y (pc + 1) ls (.int ((gX σ).2 j.toNatClampNeg) :: st) σ Q) : WQ d y pc ls (.int j :: .ref 999 :: st) σ Q := by
  intro p l e R s m args below meth c H locs cells slots A ad ac D lsC F Wr hc hs hl
  obtain ⟨⟨x1, x2, x3⟩, -⟩ := Wr.2.2.2.2.2.1
  exact va_sld F.1 F.2.2.1 x1 x2 x3 Wr.2.2.1 hin hd (kk p l e R s m args below meth c H locs cells slots A ad ac D lsC F Wr hc hs hl)
theorem q_slen (hd : decode y.2.1 pc = .ok (.arraylength, 1)) (kk : WQ d y (pc + 1) ls (.int (Int32.ofNat (gX σ).1) :: st) σ Q) : WQ d y pc ls (.ref 999 :: st) σ Q := by
  intro p l e R s m args below meth c H locs cells slots A ad ac D lsC F Wr hc hs hl
  obtain ⟨⟨x1, x2, x3⟩, -⟩ := Wr.2.2.2.2.2.1
  exact va_slen F.1 F.2.2.1 x1 x2 x3 Wr.2.2.1 hd (kk p l e R s m args below meth c H locs cells slots A ad ac D lsC F Wr hc hs hl)
end QP
