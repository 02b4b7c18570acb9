-- conditions and aggregates
theorem cF_in {e : Ex} (h : ∀ o ∈ e, o.1.1 ≠ 56) : ∀ (c a : Nat), cF e c a = iF (e.map (fun y => y.1)) ∧ aF e c = [] := by
  induction e with
  | nil => intro c a; exact ⟨rfl, rfl⟩
  | cons o r ih =>
    intro c a
    have h1 := h o List.mem_cons_self
    have h2 := ih (fun x hx => h x (List.mem_cons_of_mem _ hx))
    refine ⟨?_, ?_⟩
    · simp only [cF, cO, if_neg h1, (h2 _ _).1, iF, List.map_cons, List.flatMap_cons]
    · simp only [aF, aO, if_neg h1, (h2 _ 0).2, List.append_nil]
theorem pX.wi {cu : List Nat} {wi wi' : Option Nat} {b : Nat} {u : Us} {v : Int32} (h : pX cu wi b u) (hv : v = oI wi') : pX cu wi' b (uI u 36 7 v) := by
  obtain ⟨x1, x2, x3, x4, x5, x6⟩ := h
  exact ⟨by rw [aI_uIk (by decide)]; exact x1, x2, by rw [aI_uIk (by decide)]; exact x3, x4, x5.go (aI_uIc (by decide)), by rw [aI_uI]; exact hv⟩
section AG
variable {L : Lp} {s : PS} {cu : List Nat} {b D H : Nat} {C : List (Nat × Nat)} {A : List Ag} {u : Us} {Q : Ot → Us → Prop} {d k : Nat} {F : Pr Ex}
theorem s_cond (a : Int32) (ea : a = nI k) (hkl : k < s.2.1.length) (hD : 5 ≤ D) (hd : D ≤ d) (hX : XR L s cu none b C A u) (hl : C.length + 1 ≤ s.1) (hS : Sc L.1 F) (hG : GE cu (some k) H F) (hE : CE L cu (some k) b m_Pars_either [some (.ref 36)] D F)
    (he3 : tK L.1 s.1 = 3 → ∀ e u', nrm L.1 (pb pn (fun _ => F) s) = .inl e → FlP L e u' → Q (.inr 2) u')
    (hk3 : tK L.1 s.1 = 3 → ∀ e s' u', nrm L.1 (pb pn (fun _ => F) s) = .inr (e, s') → XR L s' cu none b (C ++ iF (e.map (fun y => y.1))) A u' → s.1 + 1 + (iF (e.map (fun y => y.1))).length ≤ s'.1 → vG s s' → s.1 ≤ s'.1 → Fm XC [13] u u' → Q (.inl none) u')
    (hk0 : tK L.1 s.1 ≠ 3 → ∀ u', XR L s cu none b (C ++ [(50, 1)]) A u' → Fm XC [13] u u' → Q (.inl none) u') : WS (d + 1) m_Pars_condition 0 [some (.ref 36), some (.int a)] [] u Q := by
  subst ea
  obtain ⟨d5, rfl⟩ : ∃ d5, d = d5 + 5 := ⟨d - 5, by omega⟩
  have t3 := hX.1.tk.2.2
  have h7 : s.2.1.length ≤ 7 := hX.2.2.2.1.1.1
  refine g_Pars_condition_0 _ ⟨fun z => ?_, fun z => ?_⟩
  · have e3 := (hX.1.is (k := 3) (by decide)).mp z
    refine s_nextR hX.1 (by omega) (fun e u' q1 q2 => he3 e3 e u' (nrm_l q1 (fun _ => hS)) q2) (fun u2 q1 hR2 hf2 => ?_)
    have qa := (nrm_r (g := fun _ => F) q1).1
    have hX2 := hX.next hR2 hf2
    have hcx : cxG cu (some k) (s.1 + 1, s.2) := ⟨hX.2.2.2.1.1, fun q hq => by injection hq with hq; rw [← hq]; exact hkl, hX.2.2.2.1.2.2.1, hX.2.2.2.1.2.2.2⟩
    have hX3 : XR L (s.1 + 1, s.2) cu (some k) b C A (uI u2 36 7 (nI k)) := ⟨hX2.1.up (by decide), hX2.2.1.wi rfl, hX2.2.2.1.go (fun i a1 a2 => aI_uIc (by omega)), hcx, hX2.2.2.2.2⟩
    refine hE (d5 + 5) _ _ C A _ (by omega) hX3 (fun e u' q2 q3 => he3 e3 e u' (qa.trans q2) q3) (fun e s' u4 q2 hX4 hf4 => ?_)
    have g := hG _ _ _ (nrm_inr q2).1 hcx
    have hn : ∀ o ∈ e, o.1.1 ≠ 56 := fun o ho => by
      rcases g.2.2.2.1 o ho with ⟨q1, -⟩ | ⟨-, q2, -⟩
      · exact q1
      · cases q2
    rw [(cF_in hn _ _).1, (cF_in hn _ 0).2, List.append_nil] at hX4
    have gl := iF_le (e.map (fun y => y.1))
    rw [wtL_map hn] at gl
    have g1 := g.1
    simp only at g1
    refine hk3 e3 e s' _ (qa.trans q2) ⟨hX4.1.up (by decide), hX4.2.1.wi rfl, hX4.2.2.1.go (fun i a1 a2 => aI_uIc (by omega)), ?_, hX4.2.2.2.2⟩ ?_ ?_ (by have := g.2.1; simp only at this; omega) (((hf2.mono (by decide) (by decide)).uI (by decide)).trans (hf4.uI (by decide)))
    · exact ⟨hX4.2.2.2.1.1, fun q hq => (by cases hq), hX4.2.2.2.1.2.2.1, hX4.2.2.2.1.2.2.2⟩
    · omega
    · exact g.2.2.1
  · have e3 : tK L.1 s.1 ≠ 3 := fun q => z ((hX.1.is (k := 3) (by decide)).mpr q)
    refine s_add _ _ (x := 50) (y := 1) rfl rfl hX.2.2.1 (by omega) (fun u4 hc4 hf4 => hk0 e3 u4 (hX.add hc4 hf4 hl) (hf4.mono (by decide) (by decide)))
def pIn (bs : List Nat) (F : Pr Ex) : Pr (List So) := pk bs fun x => pi (x = 3) (pb pn fun _ => pb F fun e => pr (e.map (fun y => y.1))) (pr [(50, 1, 0, 0)])
theorem pIn_t {bs : List Nat} {F : Pr Ex} {s : PS} (h : tK bs s.1 = 3) : pIn bs F s = pb (pb pn fun _ => F) (fun e => pr (e.map (fun y => y.1))) s := by
  rw [pb_assoc]
  show pi (tK bs s.1 = 3) _ _ s = _
  unfold pi
  rw [if_pos h]
theorem pIn_f {bs : List Nat} {F : Pr Ex} {s : PS} (h : ¬ tK bs s.1 = 3) : pIn bs F s = .inr ([(50, 1, 0, 0)], s) := by
  show pi (tK bs s.1 = 3) _ _ s = _
  unfold pi
  rw [if_neg h]; rfl
theorem sc_pIn {bs : List Nat} {F : Pr Ex} : Sc bs (pIn bs F) := sc_pk fun x hx => sc_pi (by omega) (sc_pr _)
/-- condition, as an aggregate has it -/
theorem s_in (a : Int32) (ea : a = nI k) (hkl : k < s.2.1.length) (hD : 5 ≤ D) (hd : D ≤ d) (hX : XR L s cu none b C A u) (hl : C.length + 1 ≤ s.1) (hS : Sc L.1 F) (hG : GE cu (some k) H F) (hE : CE L cu (some k) b m_Pars_either [some (.ref 36)] D F)
    (he : ∀ e u', nrm L.1 (pIn L.1 F s) = .inl e → FlP L e u' → Q (.inr 2) u')
    (hk : ∀ i s' u', nrm L.1 (pIn L.1 F s) = .inr (i, s') → XR L s' cu none b (C ++ iF i) A u' → vG s s' → s.1 ≤ s'.1 → s.1 + (iF i).length ≤ s'.1 + 1 → Fm XC [13] u u' → Q (.inl none) u') : WS (d + 1) m_Pars_condition 0 [some (.ref 36), some (.int a)] [] u Q := by
  refine s_cond a ea hkl hD hd hX hl hS hG hE (fun e3 e u' q1 q2 => he e u' ?_ q2) (fun e3 e s' u' q1 q2 q3 q4 q5 q6 => hk _ s' u' ?_ q2 q4 q5 (by omega) q6) (fun e3 u' q1 q2 => hk [(50, 1, 0, 0)] s u' ?_ q1 ⟨rfl, List.prefix_refl _, hX.2.2.2.1.2.2.2⟩ (Nat.le_refl _) (Nat.le_refl _) q2)
  · rw [pIn_t e3]
    exact nrm_l q1 (fun _ => sc_pr _)
  · rw [pIn_t e3, (nrm_r q1).1]
    exact nrm_pr (nrm_inr q1).2
  · exact nrm_ok (pIn_f e3) hX.1.tk.2.1
end AG
