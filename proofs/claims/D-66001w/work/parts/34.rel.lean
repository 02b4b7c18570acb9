-- the load: bytes, the memory at its start, names, kinds and variables that were there
abbrev Lp : Type := List Nat × Us × List Nm × Kt × List Nm
def LC : List Nat := [2, 3, 4, 5, 6, 7, 8, 9, 10, 12, 14, 15, 16, 17, 18, 19, 20, 21, 22, 23, 24, 25, 26, 27, 28, 29, 30, 31, 32, 33, 34, 35, 36, 37]
def LL : List Nat := [13]
def valR (u0 u : Us) (vr0 vr : List Nm) : Prop := (∀ v, v < vr0.length → aI u 9 v = aI u0 9 v) ∧ ∀ v, vr0.length ≤ v → v < vr.length → aI u 9 v = 0
/-- what holds of the names NT -/
def ntR (L : Lp) (j : Nat) (NT : List Nm) : Prop := L.2.2.1 <+: NT ∧ NT.length ≤ L.2.2.1.length + j + 1 ∧ L.2.2.1.length ≤ 69 ∧ ∀ w ∈ NT, w ∈ L.2.2.1 ∨ ∃ i, i ≤ j ∧ tK L.1 i = 20 ∧ tW L.1 i = w
def mnR (L : Lp) (NT : List Nm) (s : PS) (u : Us) : Prop := aI u 2 7 = nI s.2.1.length ∧ aI u 2 8 = nI s.2.2.length ∧ kdA s.2.1 NT u ∧ vrA s.2.2 NT u ∧ kwf s.2.1 ∧ s.2.2.length ≤ 20 ∧ L.2.2.2.1 <+: s.2.1 ∧ L.2.2.2.2 <+: s.2.2 ∧ valR L.2.1 u L.2.2.2.2 s.2.2
def RLn (L : Lp) (NT : List Nm) (s : PS) (u : Us) : Prop := scR L.1 NT s.1 u ∧ mnR L NT s u ∧ ntR L s.1 NT ∧ Fm LC LL L.2.1 u ∧ 1 ≤ aC u ∧ 6 ≤ aN u
def RL (L : Lp) (s : PS) (u : Us) : Prop := ∃ NT, RLn L NT s u
def FlP (L : Lp) (e : Nat) (u' : Us) : Prop := ∃ u1 NT, u' = uS u1 ∧ L.2.2.1 <+: NT ∧ (∀ i w, (NT.map n5)[i]? = some w → aL u1 13 i = w) ∧ kdA L.2.2.2.1 NT u1 ∧ vrA L.2.2.2.2 NT u1 ∧ (∀ v, v < L.2.2.2.2.length → aI u1 9 v = aI L.2.1 9 v) ∧ Fm LC LL L.2.1 u1 ∧ aI u1 10 8 = plc L.1 e
theorem kdA.pre {kd kd' : Kt} {NT : List Nm} {u : Us} (h : kdA kd' NT u) (hp : kd <+: kd') : kdA kd NT u := fun k nm fs hk => by
  obtain ⟨t, rfl⟩ := hp
  exact h k nm fs (by rw [List.getElem?_append_left (List.getElem?_eq_some_iff.mp hk).1]; exact hk)
theorem vrA.pre {vr vr' : List Nm} {NT : List Nm} {u : Us} (h : vrA vr' NT u) (hp : vr <+: vr') : vrA vr NT u := fun k nm hk => by
  obtain ⟨t, rfl⟩ := hp
  exact h k nm (by rw [List.getElem?_append_left (List.getElem?_eq_some_iff.mp hk).1]; exact hk)
theorem RL.nt {L : Lp} {s : PS} {u : Us} {NT : List Nm} (h : scR L.1 NT s.1 u) (h2 : ntR L s.1 NT) : NT.length < 240 := by
  have := h.2.2.1
  have := h2.2.1
  have := h2.2.2.1
  omega
/-- memory may change elsewhere -/
theorem mnR.go {L : Lp} {NT NT' : List Nm} {s : PS} {j : Nat} {u u' : Us} (h : mnR L NT s u) (hp : NT <+: NT') (e : ∀ i, 2 ≤ i → i ≤ 9 → aI u' i = aI u i) : mnR L NT' (j, s.2) u' := by
  obtain ⟨h1, h2, h3, h4, h5, h6, h7, h8, h9⟩ := h
  refine ⟨by rw [e 2 (by decide) (by decide)]; exact h1, by rw [e 2 (by decide) (by decide)]; exact h2, h3.go h5 hp (fun _ _ => by rw [e 3 (by decide) (by decide)]) (fun _ _ => by rw [e 4 (by decide) (by decide)]) (fun _ _ => by rw [e 5 (by decide) (by decide)]) (fun _ _ => by rw [e 6 (by decide) (by decide)]) (fun _ _ => by rw [e 7 (by decide) (by decide)]), h4.go hp (fun _ _ => by rw [e 8 (by decide) (by decide)]), h5, h6, h7, h8, ?_⟩
  unfold valR
  rw [e 9 (by decide) (by decide)]
  exact h9
theorem scR.go {bs : List Nat} {NT : List Nm} {j : Nat} {u u' : Us} (h : scR bs NT j u) (e : ∀ i, 10 ≤ i → i ≤ 12 → aI u' i = aI u i) (e13 : aL u' 13 = aL u 13) : scR bs NT j u' := by
  unfold scR txR nmR at h ⊢
  rw [e 10 (by decide) (by decide), e 11 (by decide) (by decide), e 12 (by decide) (by decide), e13]
  exact h
/-- cells of the parser's own, of code and statements may change -/
theorem RL.go {L : Lp} {s : PS} {u u' : Us} (h : RL L s u) (f : Fm LC LL u u') (e : ∀ i, 2 ≤ i → i ≤ 12 → aI u' i = aI u i) (e13 : aL u' 13 = aL u 13) : RL L s u' := by
  obtain ⟨NT, h1, h2, h3, h4, h5, h6⟩ := h
  exact ⟨NT, h1.go (fun i a b => e i (by omega) b) e13, mnR.go (s := s) (j := s.1) h2 (List.prefix_refl _) (fun i a b => e i a (by omega)), h3, h4.trans f, by rw [f.2.2.2.1]; exact h5, by rw [f.2.2.2.2]; exact h6⟩
theorem RL.up {L : Lp} {s : PS} {u : Us} {i k : Nat} {v : Int32} (h : RL L s u) (hi : 14 ≤ i ∧ i ≤ 37) : RL L s (uI u i k v) := by
  refine h.go (Fm.refl.uI ?_) (fun j a b => aI_uIc (by omega)) rfl
  have : ∀ i, 14 ≤ i → i ≤ 37 → i ∈ LC := by
    intro i a b
    simp only [LC, List.mem_cons]
    omega
  exact this i hi.1 hi.2
theorem RL.fail {L : Lp} {s : PS} {u : Us} (h : RL L s u) : FlP L s.1 (uS (uI u 10 8 (aI u 10 4))) := by
  obtain ⟨NT, h1, ⟨m1, m2, m3, m4, m5, m6, m7, m8, m9⟩, h3, h4, h5, h6⟩ := h
  refine ⟨_, NT, rfl, h3.1, h1.2.2.2.2.2.2.2.2.2.2.1.2, ?_, ?_, ?_, h4.uI (by decide), ?_⟩
  · exact (m3.pre m7).go ⟨Nat.le_trans m7.length_le m5.1, fun nm fs hm => m5.2 nm fs (m7.subset hm)⟩ (List.prefix_refl _) (fun _ _ => by rw [aI_uIc (by decide)]) (fun _ _ => by rw [aI_uIc (by decide)]) (fun _ _ => by rw [aI_uIc (by decide)]) (fun _ _ => by rw [aI_uIc (by decide)]) (fun _ _ => by rw [aI_uIc (by decide)])
  · exact (m4.pre m8).go (List.prefix_refl _) (fun _ _ => by rw [aI_uIc (by decide)])
  · intro v hv
    rw [aI_uIc (by decide)]
    exact m9.1 v hv
  · rw [aI_uI, h1.2.2.2.2.1, plc, if_neg (by have := h1.2.1; omega)]
theorem RL.failW {L : Lp} {s : PS} {u : Us} {d : Nat} {Q : Ot → Us → Prop} (h : RL L s u) (hq : ∀ u', FlP L s.1 u' → Q (.inr 2) u') : WS d m_Scan_fail 0 [some (.ref 10)] [] u Q := by
  obtain ⟨NT, -, -, -, -, h5, h6⟩ := id h
  exact s_fail h5 h6 (hq _ h.fail)
theorem tK_lt {bs : List Nat} {j : Nat} (hj : j ≤ 150) (hk : tK bs j < 90) (h22 : tK bs j ≠ 22) : j < 150 := by
  by_cases h : j = 150
  · subst h
    unfold tK at hk h22
    by_cases hr : rm bs 150 = []
    · rw [if_neg (fun z => z.2 hr), hr] at h22
      exact absurd rfl h22
    · rw [if_pos ⟨Nat.le_refl _, hr⟩] at hk
      omega
  · omega
theorem s_nextN {L : Lp} {NT : List Nm} {s : PS} {u : Us} {d : Nat} {Q : Ot → Us → Prop} (hR : RLn L NT s u) (h22 : tK L.1 s.1 ≠ 22) (he : ∀ e u', nrm L.1 (pn s) = .inl e → FlP L e u' → Q (.inr 2) u')
    (hk : ∀ NT' u', nrm L.1 (pn s) = .inr ((), s.1 + 1, s.2) → NT <+: NT' → RLn L NT' (s.1 + 1, s.2) u' → Fm [10, 12] [13] u u' → Q (.inl none) u') : WS (d + 5) m_Scan_next 0 [some (.ref 10), none] [] u Q := by
  obtain ⟨h1, h2, h3, h4, h5, h6⟩ := id hR
  obtain ⟨a1, a2, a3, a4, a5, a6, a7, a8, a9, a10, a11, a12, a13⟩ := id h1
  have hj := tK_lt a3 a2 h22
  have hnt := RL.nt h1 h3
  have fsub1 : ∀ i, i ∈ [10, 12] → i ∈ LC := by decide
  have fsub2 : ∀ i, i ∈ [13] → i ∈ LL := by decide
  have hsuf : (lx (rm L.1 s.1)).2.2.2 <:+ L.1 := by
    have := lx_suf (rm L.1 s.1)
    exact this.trans (rm_suf L.1 s.1)
  refine s_next (j := s.1 + 1) a1 a4 (Nat.sub_le _ _) ?_ (by rw [a9, if_neg h22]) (by omega) a11 a12 a13 hnt h5 h6 a10 (fun hb u1 hf h8 h22' => ?_) (fun hb u1 NT' hf hs hp hl hw => ?_)
  · rw [← List.suffix_iff_eq_drop.mp hsuf]
    rfl
  · refine he (s.1 + 1) _ (nrm_bad (f := pn) (s := s) rfl (by simp only; omega)) ?_
    refine ⟨u1, NT, rfl, h3.1, ?_, ?_, ?_, ?_, h4.trans (hf.mono (by decide) (by decide)), h8⟩
    · rw [hf.2.1 13 (by decide)]
      exact a11.2
    · exact (h2.2.2.1.pre h2.2.2.2.2.2.2.1).go ⟨Nat.le_trans h2.2.2.2.2.2.2.1.length_le h2.2.2.2.2.1.1, fun nm fs hm => h2.2.2.2.2.1.2 nm fs (h2.2.2.2.2.2.2.1.subset hm)⟩ (List.prefix_refl _) (fun _ _ => by rw [hf.1 3 (by decide)]) (fun _ _ => by rw [hf.1 4 (by decide)]) (fun _ _ => by rw [hf.1 5 (by decide)]) (fun _ _ => by rw [hf.1 6 (by decide)]) (fun _ _ => by rw [hf.1 7 (by decide)])
    · exact (h2.2.2.2.1.pre h2.2.2.2.2.2.2.2.1).go (List.prefix_refl _) (fun _ _ => by rw [hf.1 8 (by decide)])
    · intro v hv
      rw [hf.1 9 (by decide)]
      exact h2.2.2.2.2.2.2.2.2.1 v hv
  · refine hk NT' u1 (nrm_ok (f := pn) (s := s) rfl hb) hp ⟨hs, h2.go hp (fun i b1 b2 => hf.1 i (by simp; omega)), ⟨h3.1.trans hp, ?_, h3.2.2.1, fun w hm => ?_⟩, h4.trans (hf.mono fsub1 fsub2), by rw [hf.2.2.2.1]; exact h5, by rw [hf.2.2.2.2]; exact h6⟩ hf
    · have := h3.2.1
      show NT'.length ≤ L.2.2.1.length + (s.1 + 1) + 1
      omega
    · rcases hw w hm with h | ⟨q1, q2⟩
      · rcases h3.2.2.2 w h with h | ⟨i, i1, i2, i3⟩
        · exact .inl h
        · exact .inr ⟨i, Nat.le_succ_of_le i1, i2, i3⟩
      · exact .inr ⟨s.1 + 1, Nat.le_refl _, q1, q2.symm⟩
theorem s_nextR {L : Lp} {s : PS} {u : Us} {d : Nat} {Q : Ot → Us → Prop} (hR : RL L s u) (h22 : tK L.1 s.1 ≠ 22) (he : ∀ e u', nrm L.1 (pn s) = .inl e → FlP L e u' → Q (.inr 2) u')
    (hk : ∀ u', nrm L.1 (pn s) = .inr ((), s.1 + 1, s.2) → RL L (s.1 + 1, s.2) u' → Fm [10, 12] [13] u u' → Q (.inl none) u') : WS (d + 5) m_Scan_next 0 [some (.ref 10), none] [] u Q := by
  obtain ⟨NT, h⟩ := hR
  exact s_nextN h h22 he (fun NT' u' h1 _ h2 h3 => hk u' h1 ⟨NT', h2⟩ h3)
