-- chains of operators
theorem pLoop_t {bs : List Nat} {lo hi n : Nat} {it : Pr Ex} {s : PS} (h : lo ≤ tK bs s.1 ∧ tK bs s.1 ≤ hi) : pLoop bs lo hi it (n + 1) s = (pb pn fun _ => pb it fun e => pb (pLoop bs lo hi it n) fun r => pr (e ++ o1 (tK bs s.1) 0 0 0 :: r)) s := by
  show pi (lo ≤ tK bs s.1 ∧ tK bs s.1 ≤ hi) _ _ s = _
  unfold pi
  rw [if_pos h]
theorem pLoop_f {bs : List Nat} {lo hi n : Nat} {it : Pr Ex} {s : PS} (h : ¬ (lo ≤ tK bs s.1 ∧ tK bs s.1 ≤ hi)) : pLoop bs lo hi it (n + 1) s = .inr ([], s) := by
  show pi (lo ≤ tK bs s.1 ∧ tK bs s.1 ≤ hi) _ _ s = _
  unfold pi
  rw [if_neg h]; rfl
abbrev EQ (Q : Ot → Us → Prop) : Nat → Us → Prop := fun x u => Q (.inr x) u
theorem ce_chain {L : Lp} {cu : List Nat} {wi : Option Nat} {b : Nat} {my it : My} {ls ils : Lo} {D lo hi H : Nat} {f : Pr Ex} (hb : 13 ≤ lo ∧ hi ≤ 14 ∨ 30 ≤ lo ∧ hi ≤ 40)
    (seg0 : ∀ (d : Nat) (u : Us) (Q : Ot → Us → Prop), WS d it 0 ils [] u (Rv (fun u2 => WS (d + 1) my 4 ls [] u2 Q) (EQ Q)) → WS (d + 1) my 0 ls [] u Q)
    (seg4 : ∀ (d : Nat) (u : Us) (Q : Ot → Us → Prop) (x : Nat), aI u 10 5 = nI x → x < 90 → (¬ (lo ≤ x ∧ x ≤ hi) → Q (.inl none) u) →
      (lo ≤ x ∧ x ≤ hi → WS d m_Scan_next 0 [some (.ref 10), none] [] u (Rv (fun u2 => WS d it 0 ils [] u2 (Rv (fun u4 => WS d m_Code_add 0 [some (.ref 14), some (.int (nI x)), some (.int 0)] [] u4 (Ri (fun _ u6 => WS (d + 1) my 4 ls [] u6 Q) (EQ Q))) (EQ Q))) (EQ Q))) → WS (d + 1) my 4 ls [] u Q)
    (hS : Sc L.1 f) (hG : GE cu wi H f) (hD : 5 ≤ D) (hit : CE L cu wi b it ils D f) : CE L cu wi b my ls (D + 1) (pChain L.1 lo hi f) := by
  intro d s u C A Q hd hX he hk
  obtain ⟨d, rfl⟩ : ∃ d', d = d' + 1 := ⟨d - 1, by omega⟩
  obtain ⟨d5, rfl⟩ : ∃ d5, d = d5 + 5 := ⟨d - 5, by omega⟩
  have hi90 : hi < 90 := by omega
  have loop : ∀ (n : Nat) (s1 : PS) (u1 : Us) (C1 : List (Nat × Nat)) (A1 : List Ag), 151 ≤ s1.1 + n → XR L s1 cu wi b C1 A1 u1 →
      (∀ e u', nrm L.1 (pLoop L.1 lo hi f n s1) = .inl e → FlP L e u' → Q (.inr 2) u') →
      (∀ r s' u', nrm L.1 (pLoop L.1 lo hi f n s1) = .inr (r, s') → XR L s' cu wi b (C1 ++ cF r C1.length A1.length) (A1 ++ aF r C1.length) u' → Fm XC [13] u1 u' → Q (.inl none) u') → WS (d5 + 5 + 1) my 4 ls [] u1 Q := by
    intro n
    induction n with
    | zero =>
      intro s1 u1 C1 A1 hn hX1 _ _
      have := hX1.1.tk.2.2
      omega
    | succ n ih =>
      intro s1 u1 C1 A1 hn hX1 he1 hk1
      obtain ⟨t1, t2, t3⟩ := hX1.1.tk
      refine seg4 _ u1 Q (tK L.1 s1.1) t1 t2 (fun hr => ?_) (fun hr => ?_)
      · have hp := pLoop_f (bs := L.1) (it := f) (n := n) hr
        refine hk1 [] s1 u1 (nrm_ok hp t2) ?_ Fm.refl
        simp only [cF, aF, List.append_nil]
        exact hX1
      · rw [pLoop_t hr] at he1 hk1
        have hx' : 13 ≤ tK L.1 s1.1 ∧ tK L.1 s1.1 ≤ 14 ∨ 30 ≤ tK L.1 s1.1 ∧ tK L.1 s1.1 ≤ 40 := by omega
        have sc2 : Sc L.1 (pb f fun e => pb (pLoop L.1 lo hi f n) fun r => pr (e ++ o1 (tK L.1 s1.1) 0 0 0 :: r)) := sc_pb hS fun _ => sc_pb (sc_pLoop _ _ _ _ hi90) fun _ => sc_pr _
        have sc3 : ∀ e : Ex, Sc L.1 (pb (pLoop L.1 lo hi f n) fun r => pr (e ++ o1 (tK L.1 s1.1) 0 0 0 :: r)) := fun _ => sc_pb (sc_pLoop _ _ _ _ hi90) fun _ => sc_pr _
        refine s_nextR hX1.1 (by omega) (fun e u' h1 h2 => he1 e u' (nrm_l h1 (fun _ => sc2)) h2) (fun u2 h1 hR2 hf2 => ?_)
        have q1 := (nrm_r (g := fun _ => pb f fun e => pb (pLoop L.1 lo hi f n) fun r => pr (e ++ o1 (tK L.1 s1.1) 0 0 0 :: r)) h1).1
        have hX2 := hX1.next hR2 hf2
        refine hit (d5 + 5) (s1.1 + 1, s1.2) u2 C1 A1 _ (by omega) hX2 (fun e u' h3 h4 => he1 e u' (by rw [q1]; exact nrm_l h3 sc3) h4) (fun e2 s2 u3 h3 hX3 hf3 => ?_)
        have q2 := (nrm_r (g := fun e => pb (pLoop L.1 lo hi f n) fun r => pr (e ++ o1 (tK L.1 s1.1) 0 0 0 :: r)) h3).1
        have g := hG _ _ _ (nrm_inr h3).1 hX2.2.2.2.1
        have ga := g.1
        have gb := csz_le e2
        have gl : (C1 ++ cF e2 C1.length A1.length).length + 1 ≤ s2.1 := by
          rw [List.length_append, cF_len]
          have := hX1.2.2.2.2.1
          simp only at ga
          omega
        have t3' := hX3.1.tk.2.2
        refine s_add _ _ rfl rfl hX3.2.2.1 (by omega) (fun u4 hc4 hf4 => ?_)
        have hX4 := hX3.add hc4 hf4 gl
        refine ih s2 u4 _ _ (by simp only at ga; have := g.2.1; simp only at this; omega) hX4 (fun e u' h5 h6 => he1 e u' (by rw [q1, q2]; exact nrm_l h5 (fun _ => sc_pr _)) h6) (fun r s' u5 h5 hX5 hf5 => ?_)
        have q3 := (nrm_r (g := fun r => pr (e2 ++ o1 (tK L.1 s1.1) 0 0 0 :: r)) h5).1
        refine hk1 (e2 ++ o1 (tK L.1 s1.1) 0 0 0 :: r) s' u5 ?_ ?_ (((hf2.mono (by decide) (by decide)).trans hf3).trans ((hf4.mono (by decide) (by decide)).trans hf5))
        · rw [q1, q2, q3]
          exact nrm_pr (nrm_inr h5).2
        · obtain ⟨b1, b2, b3, b4⟩ := cF_bin (c := C1.length + csz e2) (a := A1.length + nag e2) hx'
          have e1 : C1 ++ cF (e2 ++ o1 (tK L.1 s1.1) 0 0 0 :: r) C1.length A1.length = (C1 ++ cF e2 C1.length A1.length ++ [(tK L.1 s1.1, 0)]) ++ cF r (C1 ++ cF e2 C1.length A1.length ++ [(tK L.1 s1.1, 0)]).length (A1 ++ aF e2 C1.length).length := by
            rw [cF_app]
            simp only [cF, b1, b2, b3, List.length_append, cF_len, aF_len, List.length_singleton, List.append_assoc, Nat.add_zero, Nat.add_assoc]
          have e2' : A1 ++ aF (e2 ++ o1 (tK L.1 s1.1) 0 0 0 :: r) C1.length = (A1 ++ aF e2 C1.length) ++ aF r (C1 ++ cF e2 C1.length A1.length ++ [(tK L.1 s1.1, 0)]).length := by
            rw [aF_app]
            simp only [aF, b2, b4, List.length_append, cF_len, List.length_singleton, List.append_assoc, List.nil_append, Nat.add_assoc]
          rw [e1, e2']
          exact hX5
  have scl : ∀ e : Ex, Sc L.1 (pb (pLoop L.1 lo hi f 151) fun r => pr (e ++ r)) := fun _ => sc_pb (sc_pLoop _ _ _ _ hi90) fun _ => sc_pr _
  refine seg0 _ u Q (hit (d5 + 5) s u C A _ (by omega) hX (fun e u' h1 h2 => he e u' (nrm_l h1 scl) h2) (fun e1 s1 u1 h1 hX1 hf1 => ?_))
  have q1 := (nrm_r (g := fun e => pb (pLoop L.1 lo hi f 151) fun r => pr (e ++ r)) h1).1
  refine loop 151 s1 u1 _ _ (by omega) hX1 (fun e u' h3 h4 => he e u' (by unfold pChain; rw [q1]; exact nrm_l h3 (fun _ => sc_pr _)) h4) (fun r s' u5 h5 hX5 hf5 => ?_)
  have q3 := (nrm_r (g := fun r => pr (e1 ++ r)) h5).1
  refine hk (e1 ++ r) s' u5 ?_ ?_ (hf1.trans hf5)
  · unfold pChain
    rw [q1, q3]
    exact nrm_pr (nrm_inr h5).2
  · have a1 : C ++ cF (e1 ++ r) C.length A.length = (C ++ cF e1 C.length A.length) ++ cF r (C ++ cF e1 C.length A.length).length (A ++ aF e1 C.length).length := by
      rw [cF_app]
      simp only [List.length_append, cF_len, aF_len, List.append_assoc]
    have a2 : A ++ aF (e1 ++ r) C.length = (A ++ aF e1 C.length) ++ aF r (C ++ cF e1 C.length A.length).length := by
      rw [aF_app]
      simp only [List.length_append, cF_len, List.append_assoc]
    rw [a1, a2]
    exact hX5
section FOUR
variable {L : Lp} {cu : List Nat} {wi : Option Nat} {b D H : Nat} {f : Pr Ex}
theorem ce_either (hS : Sc L.1 f) (hG : GE cu wi H f) (hD : 5 ≤ D) (h : CE L cu wi b m_Pars_both [some (.ref 36)] D f) : CE L cu wi b m_Pars_either [some (.ref 36)] (D + 1) (pChain L.1 14 14 f) := by
  refine ce_chain (.inl ⟨by decide, by decide⟩) (fun d u Q h => g_Pars_either_0 h) (fun d u Q x hx h90 h1 h2 => g_Pars_either_4 ?_) hS hG hD h
  rw [hx]
  refine ⟨fun z => h1 (fun q => z (by rw [show x = 14 by omega]; rfl)), fun z => ?_⟩
  have e : x = 14 := (nI_eq (b := 14) (by omega) (by decide)).mp z
  subst e
  exact h2 ⟨Nat.le_refl _, Nat.le_refl _⟩
theorem ce_both (hS : Sc L.1 f) (hG : GE cu wi H f) (hD : 5 ≤ D) (h : CE L cu wi b m_Pars_negation [some (.ref 36), none, none, none] D f) : CE L cu wi b m_Pars_both [some (.ref 36)] (D + 1) (pChain L.1 13 13 f) := by
  refine ce_chain (.inl ⟨by decide, by decide⟩) (fun d u Q h => g_Pars_both_0 h) (fun d u Q x hx h90 h1 h2 => g_Pars_both_4 ?_) hS hG hD h
  rw [hx]
  refine ⟨fun z => h1 (fun q => z (by rw [show x = 13 by omega]; rfl)), fun z => ?_⟩
  have e : x = 13 := (nI_eq (b := 13) (by omega) (by decide)).mp z
  subst e
  exact h2 ⟨Nat.le_refl _, Nat.le_refl _⟩
theorem ce_sum (hS : Sc L.1 f) (hG : GE cu wi H f) (hD : 5 ≤ D) (h : CE L cu wi b m_Pars_product [some (.ref 36), none] D f) : CE L cu wi b m_Pars_sum [some (.ref 36), none] (D + 1) (pChain L.1 36 37 f) := by
  refine ce_chain (.inr ⟨by decide, by decide⟩) (fun d u Q h => g_Pars_sum_0 h) (fun d u Q x hx h90 h1 h2 => g_Pars_sum_4 ?_) hS hG hD h
  rw [hx]
  have go : (36 ≤ x ∧ x ≤ 37) → _ := fun q => WS.mono (h2 q) (fun o u2 z => by
    match o, z with
    | .inr y, z => exact z
    | .inl none, z => exact WS.mono z (fun o u4 z => by
        match o, z with
        | .inr y, z => exact z
        | .inl none, z => exact WS.mono z (fun o u6 z => by
            match o, z with
            | .inr y, z => exact z
            | .inl (some (.int r)), z => exact WS.lw (ls := [some (.ref 36), some (.int (nI x))]) (by simp [Lw]) z : ∀ o u6, _ → Ri (fun (r5 : Int32) (u6 : Us) => WS (d + 1) m_Pars_sum 4 [some (.ref 36), some (.int (nI x))] [] u6 Q) (EQ Q) o u6) : ∀ o u4, _ → Rv (fun (u4 : Us) => WS d m_Code_add 0 [some (.ref 14), some (.int (nI x)), some (.int 0)] [] u4 (Ri (fun (r5 : Int32) (u6 : Us) => WS (d + 1) m_Pars_sum 4 [some (.ref 36), some (.int (nI x))] [] u6 Q) (EQ Q))) (EQ Q) o u4) : ∀ o u2, _ → Rv (fun (u2 : Us) => WS d m_Pars_product 0 [some (.ref 36), none] [] u2 (Rv (fun (u4 : Us) => WS d m_Code_add 0 [some (.ref 14), some (.int (nI x)), some (.int 0)] [] u4 (Ri (fun (r5 : Int32) (u6 : Us) => WS (d + 1) m_Pars_sum 4 [some (.ref 36), some (.int (nI x))] [] u6 Q) (EQ Q))) (EQ Q))) (EQ Q) o u2)
  refine ⟨fun z => ?_, fun z => ⟨fun z2 => h1 (fun q => ?_), fun z2 => ?_⟩⟩
  · have e : x = 36 := (nI_eq (b := 36) (by omega) (by decide)).mp z
    exact go (by omega)
  · rcases (show x = 36 ∨ x = 37 by omega) with e | e
    · exact z (by rw [e]; rfl)
    · exact z2 (by rw [e]; rfl)
  · have e : x = 37 := (nI_eq (b := 37) (by omega) (by decide)).mp z2
    exact go (by omega)
theorem ce_product (hS : Sc L.1 f) (hG : GE cu wi H f) (hD : 5 ≤ D) (h : CE L cu wi b m_Pars_signed [some (.ref 36), none] D f) : CE L cu wi b m_Pars_product [some (.ref 36), none] (D + 1) (pChain L.1 38 40 f) := by
  refine ce_chain (.inr ⟨by decide, by decide⟩) (fun d u Q h => g_Pars_product_0 h) (fun d u Q x hx h90 h1 h2 => g_Pars_product_4 ?_) hS hG hD h
  rw [hx]
  have go : (38 ≤ x ∧ x ≤ 40) → _ := fun q => WS.mono (h2 q) (fun o u2 z => by
    match o, z with
    | .inr y, z => exact z
    | .inl none, z => exact WS.mono z (fun o u4 z => by
        match o, z with
        | .inr y, z => exact z
        | .inl none, z => exact WS.mono z (fun o u6 z => by
            match o, z with
            | .inr y, z => exact z
            | .inl (some (.int r)), z => exact WS.lw (ls := [some (.ref 36), some (.int (nI x))]) (by simp [Lw]) z : ∀ o u6, _ → Ri (fun (r5 : Int32) (u6 : Us) => WS (d + 1) m_Pars_product 4 [some (.ref 36), some (.int (nI x))] [] u6 Q) (EQ Q) o u6) : ∀ o u4, _ → Rv (fun (u4 : Us) => WS d m_Code_add 0 [some (.ref 14), some (.int (nI x)), some (.int 0)] [] u4 (Ri (fun (r5 : Int32) (u6 : Us) => WS (d + 1) m_Pars_product 4 [some (.ref 36), some (.int (nI x))] [] u6 Q) (EQ Q))) (EQ Q) o u4) : ∀ o u2, _ → Rv (fun (u2 : Us) => WS d m_Pars_signed 0 [some (.ref 36), none] [] u2 (Rv (fun (u4 : Us) => WS d m_Code_add 0 [some (.ref 14), some (.int (nI x)), some (.int 0)] [] u4 (Ri (fun (r5 : Int32) (u6 : Us) => WS (d + 1) m_Pars_product 4 [some (.ref 36), some (.int (nI x))] [] u6 Q) (EQ Q))) (EQ Q))) (EQ Q) o u2)
  refine ⟨fun z => h1 (fun q => ?_), fun z => ⟨fun z2 => h1 (fun q => ?_), fun z2 => ?_⟩⟩
  · have := (nI_ltI (b := 38) (by omega) (by decide)).mp z
    omega
  · have := (nI_ltI (a := 40) (by decide) (by omega)).mp z2
    omega
  · have a1 : ¬ x < 38 := fun q => z ((nI_ltI (b := 38) (by omega) (by decide)).mpr q)
    have a2 : ¬ 40 < x := fun q => z2 ((nI_ltI (a := 40) (by decide) (by omega)).mpr q)
    exact go (by omega)
end FOUR
