-- what the names are: the component's tables
def oI : Option Nat → Int32
  | none => -1
  | some k => nI k
def flA (fs : Fs) (k : Nat) (NT : List Nm) (u : Us) : Prop := ∀ f g b, fs[f]? = some (g, b) → g ∈ NT ∧ aI u 5 (6 * k + f) = nI (NT.idxOf g) ∧ aI u 6 (6 * k + f) = nI b ∧ aI u 7 (6 * k + f) = nI (3 + sumB (fs.take f))
def kdA (kd : Kt) (NT : List Nm) (u : Us) : Prop := ∀ k nm fs, kd[k]? = some (nm, fs) → nm ∈ NT ∧ aI u 3 k = nI (NT.idxOf nm) ∧ aI u 4 k = nI fs.length ∧ flA fs k NT u
def vrA (vr : List Nm) (NT : List Nm) (u : Us) : Prop := ∀ (v : Nat) nm, vr[v]? = some nm → nm ∈ NT ∧ aI u 8 v = nI (NT.idxOf nm)
def kwf (kd : Kt) : Prop := kd.length ≤ 7 ∧ ∀ nm fs, (nm, fs) ∈ kd → 1 ≤ fs.length ∧ fs.length ≤ 6 ∧ sumB fs ≤ 84 ∧ ∀ g b, (g, b) ∈ fs → 1 ≤ b ∧ b ≤ 32
theorem ix_eq {NT : List Nm} {a b : Nm} (ha : a ∈ NT) (hb : b ∈ NT) (hl : NT.length < 240) : nI (NT.idxOf a) = nI (NT.idxOf b) ↔ a = b := by
  have h1 := List.idxOf_lt_length_of_mem ha
  have h2 := List.idxOf_lt_length_of_mem hb
  rw [nI_eq (by omega) (by omega)]
  refine ⟨fun h => ?_, fun h => by rw [h]⟩
  have e1 := List.getElem_idxOf h1
  have e2 := List.getElem_idxOf h2
  rw [← e1, ← e2]
  congr 1
theorem ix_pre {NT NT' : List Nm} {a : Nm} (h : NT <+: NT') (ha : a ∈ NT) : NT'.idxOf a = NT.idxOf a := by
  obtain ⟨t, rfl⟩ := h
  rw [List.idxOf_append, if_pos ha]
theorem flA.go {fs : Fs} {k : Nat} {NT NT' : List Nm} {u u' : Us} (h : flA fs k NT u) (hp : NT <+: NT') (e5 : ∀ f, f < fs.length → aI u' 5 (6 * k + f) = aI u 5 (6 * k + f)) (e6 : ∀ f, f < fs.length → aI u' 6 (6 * k + f) = aI u 6 (6 * k + f)) (e7 : ∀ f, f < fs.length → aI u' 7 (6 * k + f) = aI u 7 (6 * k + f)) : flA fs k NT' u' := by
  intro f g b hf
  have hl := (List.getElem?_eq_some_iff.mp hf).1
  obtain ⟨h1, h2, h3, h4⟩ := h f g b hf
  exact ⟨hp.subset h1, by rw [e5 f hl, h2, ix_pre hp h1], by rw [e6 f hl, h3], by rw [e7 f hl, h4]⟩
theorem kdA.go {kd : Kt} {NT NT' : List Nm} {u u' : Us} (h : kdA kd NT u) (hw : kwf kd) (hp : NT <+: NT') (e3 : ∀ k, k < kd.length → aI u' 3 k = aI u 3 k) (e4 : ∀ k, k < kd.length → aI u' 4 k = aI u 4 k) (e5 : ∀ f, f < 6 * kd.length → aI u' 5 f = aI u 5 f) (e6 : ∀ f, f < 6 * kd.length → aI u' 6 f = aI u 6 f) (e7 : ∀ f, f < 6 * kd.length → aI u' 7 f = aI u 7 f) : kdA kd NT' u' := by
  intro k nm fs hk
  have hl := (List.getElem?_eq_some_iff.mp hk).1
  have hw6 := (hw.2 nm fs (List.mem_of_getElem? hk)).2.1
  obtain ⟨h1, h2, h3, h4⟩ := h k nm fs hk
  exact ⟨hp.subset h1, by rw [e3 k hl, h2, ix_pre hp h1], by rw [e4 k hl, h3], h4.go hp (fun f hf => e5 _ (by omega)) (fun f hf => e6 _ (by omega)) (fun f hf => e7 _ (by omega))⟩
theorem vrA.go {vr : List Nm} {NT NT' : List Nm} {u u' : Us} (h : vrA vr NT u) (hp : NT <+: NT') (e8 : ∀ v, v < vr.length → aI u' 8 v = aI u 8 v) : vrA vr NT' u' := by
  intro v nm hv
  have hl := (List.getElem?_eq_some_iff.mp hv).1
  obtain ⟨h1, h2⟩ := h v nm hv
  exact ⟨hp.subset h1, by rw [e8 v hl, h2, ix_pre hp h1]⟩
theorem s_kindOf {d : Nat} {u : Us} {Q : Ot → Us → Prop} {kd : Kt} {NT : List Nm} {w : Nm} (hA : kdA kd NT u) (hc : aI u 2 7 = nI kd.length) (h7 : kd.length ≤ 7) (hw : w ∈ NT) (hl : NT.length < 240)
    (hq : Q (.inl (some (.int (oI (kOf kd w))))) u) : WS d m_Mean_kindOf 0 [some (.ref 2), some (.int (nI (NT.idxOf w))), none] [] u Q := by
  have loop : ∀ (l : Kt) (k : Nat), kd.drop k = l → k ≤ kd.length → (∀ r, oI ((l.findIdx? (fun x => x.1 == w)).map (fun i => i + k)) = r → Q (.inl (some (.int r))) u) → WS d m_Mean_kindOf 2 [some (.ref 2), some (.int (nI (NT.idxOf w))), some (.int (nI k))] [] u Q := by
    intro l
    induction l with
    | nil =>
      intro k hd hk hq
      have hk' : kd.length ≤ k := by simpa using hd
      refine g_Mean_kindOf_2 _ _ ⟨fun _ => hq _ rfl, fun z => absurd ?_ z⟩
      rw [hc]
      exact nI_le hk' (by omega)
    | cons x l ih =>
      intro k hd hk hq
      have hlt : k < kd.length := by
        have := congrArg List.length hd
        simp at this
        omega
      have hx : kd[k]? = some x := by
        rw [List.drop_eq_getElem_cons hlt] at hd
        injection hd with h1 _
        rw [List.getElem?_eq_getElem hlt, h1]
      have hr : kd.drop (k + 1) = l := by
        rw [List.drop_eq_getElem_cons hlt] at hd
        injection hd with _ h2
      obtain ⟨a1, a2, -⟩ := hA k x.1 x.2 hx
      refine g_Mean_kindOf_2 _ _ ⟨fun z => absurd z ?_, fun _ => ⟨k, rfl, by omega, ?_, ?_⟩⟩
      · rw [hc]
        exact nI_ge hlt (by omega)
      · intro hne
        have hb : (x.1 == w) = false := beq_false_of_ne (fun e => hne (by rw [a2, e]))
        rw [nI_1]
        refine ih (k + 1) hr (by omega) (fun r hr => hq r ?_)
        rw [← hr, List.findIdx?_cons, hb]
        simp only [Bool.false_eq_true, if_false, Option.map_map]
        congr 2
        funext q
        simp only [Function.comp]
        omega
      · intro heq
        rw [a2, ix_eq a1 hw hl] at heq
        refine hq _ ?_
        rw [List.findIdx?_cons, heq]
        simp [oI]
  refine g_Mean_kindOf_0 _ (loop kd 0 rfl (Nat.zero_le _) (fun r hr => ?_))
  rw [← hr]
  simpa [kOf] using hq
theorem s_varOf {d : Nat} {u : Us} {Q : Ot → Us → Prop} {vr : List Nm} {NT : List Nm} {w : Nm} (hA : vrA vr NT u) (hc : aI u 2 8 = nI vr.length) (h7 : vr.length ≤ 20) (hw : w ∈ NT) (hl : NT.length < 240)
    (hq : Q (.inl (some (.int (oI (vOf vr w))))) u) : WS d m_Mean_variableOf 0 [some (.ref 2), some (.int (nI (NT.idxOf w))), none] [] u Q := by
  have loop : ∀ (l : List Nm) (k : Nat), vr.drop k = l → k ≤ vr.length → (∀ r, oI ((l.findIdx? (fun x => x == w)).map (fun i => i + k)) = r → Q (.inl (some (.int r))) u) → WS d m_Mean_variableOf 2 [some (.ref 2), some (.int (nI (NT.idxOf w))), some (.int (nI k))] [] u Q := by
    intro l
    induction l with
    | nil =>
      intro k hd hk hq
      have hk' : vr.length ≤ k := by simpa using hd
      refine g_Mean_variableOf_2 _ _ ⟨fun _ => hq _ rfl, fun z => absurd ?_ z⟩
      rw [hc]
      exact nI_le hk' (by omega)
    | cons x l ih =>
      intro k hd hk hq
      have hlt : k < vr.length := by
        have := congrArg List.length hd
        simp at this
        omega
      have hx : vr[k]? = some x := by
        rw [List.drop_eq_getElem_cons hlt] at hd
        injection hd with h1 _
        rw [List.getElem?_eq_getElem hlt, h1]
      have hr : vr.drop (k + 1) = l := by
        rw [List.drop_eq_getElem_cons hlt] at hd
        injection hd with _ h2
      obtain ⟨a1, a2⟩ := hA k x hx
      refine g_Mean_variableOf_2 _ _ ⟨fun z => absurd z ?_, fun _ => ⟨k, rfl, by omega, ?_, ?_⟩⟩
      · rw [hc]
        exact nI_ge hlt (by omega)
      · intro hne
        have hb : (x == w) = false := beq_false_of_ne (fun e => hne (by rw [a2, e]))
        rw [nI_1]
        refine ih (k + 1) hr (by omega) (fun r hr => hq r ?_)
        rw [← hr, List.findIdx?_cons, hb]
        simp only [Bool.false_eq_true, if_false, Option.map_map]
        congr 2
        funext q
        simp only [Function.comp]
        omega
      · intro heq
        rw [a2, ix_eq a1 hw hl] at heq
        refine hq _ ?_
        rw [List.findIdx?_cons, heq]
        simp [oI]
  refine g_Mean_variableOf_0 _ (loop vr 0 rfl (Nat.zero_le _) (fun r hr => ?_))
  rw [← hr]
  simpa [vOf] using hq
theorem s_fieldOf {d k : Nat} {u : Us} {Q : Ot → Us → Prop} {fs : Fs} {NT : List Nm} {w : Nm} (hA : flA fs k NT u) (hc : aI u 4 k = nI fs.length) (hk7 : k < 7) (h6 : fs.length ≤ 6) (hw : w ∈ NT) (hl : NT.length < 240)
    (hq : Q (.inl (some (.int (oI ((fOf fs w).map (fun i => 6 * k + i)))))) u) : WS d m_Mean_fieldOf 0 [some (.ref 2), some (.int (nI k)), some (.int (nI (NT.idxOf w))), none] [] u Q := by
  have loop : ∀ (l : Fs) (i : Nat), fs.drop i = l → i ≤ fs.length → (∀ r, oI ((l.findIdx? (fun x => x.1 == w)).map (fun q => 6 * k + (q + i))) = r → Q (.inl (some (.int r))) u) → WS d m_Mean_fieldOf 5 [some (.ref 2), some (.int (nI k)), some (.int (nI (NT.idxOf w))), some (.int (nI (6 * k + i)))] [] u Q := by
    intro l
    have e6 : nI k * 6 + nI fs.length = nI (6 * k + fs.length) := by
      have : nI k * 6 = nI (k * 6) := pk_mul k 6
      rw [this, nI_add, Nat.mul_comm]
    induction l with
    | nil =>
      intro i hd hi hq
      have hk' : fs.length ≤ i := by simpa using hd
      refine g_Mean_fieldOf_5 _ _ _ ⟨k, rfl, hk7, fun _ => hq _ rfl, fun z => absurd ?_ z⟩
      rw [hc, e6]
      exact nI_le (by omega) (by omega)
    | cons x l ih =>
      intro i hd hi hq
      have hlt : i < fs.length := by
        have := congrArg List.length hd
        simp at this
        omega
      have hx : fs[i]? = some x := by
        rw [List.drop_eq_getElem_cons hlt] at hd
        injection hd with h1 _
        rw [List.getElem?_eq_getElem hlt, h1]
      have hr : fs.drop (i + 1) = l := by
        rw [List.drop_eq_getElem_cons hlt] at hd
        injection hd with _ h2
      obtain ⟨a1, a2, -⟩ := hA i x.1 x.2 hx
      refine g_Mean_fieldOf_5 _ _ _ ⟨k, rfl, hk7, fun z => absurd z ?_, fun _ => ⟨6 * k + i, rfl, by omega, ?_, ?_⟩⟩
      · rw [hc, e6]
        exact nI_ge (by omega) (by omega)
      · intro hne
        have hb : (x.1 == w) = false := beq_false_of_ne (fun e => hne (by rw [a2, e]))
        rw [nI_1]
        refine ih (i + 1) hr (by omega) (fun r hr => hq r ?_)
        rw [← hr, List.findIdx?_cons, hb]
        simp only [Bool.false_eq_true, if_false, Option.map_map]
        congr 2
        funext q
        simp only [Function.comp]
        omega
      · intro heq
        rw [a2, ix_eq a1 hw hl] at heq
        refine hq _ ?_
        rw [List.findIdx?_cons, heq]
        simp [oI]
  refine g_Mean_fieldOf_0 _ _ ?_
  have e0 : nI k * 6 = nI (6 * k + 0) := by
    have : nI k * 6 = nI (k * 6) := pk_mul k 6
    rw [this, Nat.mul_comm]; rfl
  rw [e0]
  refine loop fs 0 rfl (Nat.zero_le _) (fun r hr => ?_)
  rw [← hr]
  simpa [fOf] using hq
