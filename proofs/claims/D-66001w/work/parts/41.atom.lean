-- atoms
theorem cF_one {o : So} (h : o.1 ≠ 56) (c a : Nat) : cF [(o, [])] c a = cS o ∧ aF [(o, [])] c = [] := by
  refine ⟨?_, ?_⟩
  · simp only [cF, cO, if_neg h, List.append_nil]
  · simp only [aF, aO, if_neg h, List.append_nil]
theorem XR.mv {L : Lp} {s s' : PS} {cu : List Nat} {wi : Option Nat} {b : Nat} {C : List (Nat × Nat)} {A : List Ag} {u u' : Us} {li ll : List Nat} (h : XR L s cu wi b C A u) (hR : RL L s' u') (hf : Fm li ll u u') (h36 : 36 ∉ li) (h37 : 37 ∉ li) (h14 : ∀ i, 14 ≤ i → i ≤ 21 → i ∉ li) (hv : vG s s') (hl : s.1 ≤ s'.1) : XR L s' cu wi b C A u' := by
  obtain ⟨h1, h2, h3, h4, h5, h6⟩ := h
  exact ⟨hR, h2.fm hf h36 h37, h3.fm hf h14, h4.go hv, Nat.le_trans h5 hl, Nat.le_trans h6 hl⟩
section NM
variable {L : Lp} {s : PS} {cu : List Nat} {wi : Option Nat} {b : Nat} {C : List (Nat × Nat)} {A : List Ag} {u : Us} {Q : Ot → Us → Prop} {d : Nat}
theorem s_named (hX : XR L s cu wi b C A u) (h20 : tK L.1 s.1 = 20) (he : ∀ e u', nrm L.1 (pNamed L.1 wi cu s) = .inl e → FlP L e u' → Q (.inr 2) u')
    (hk : ∀ e s' u', nrm L.1 (pNamed L.1 wi cu s) = .inr (e, s') → XR L s' cu wi b (C ++ cF e C.length A.length) (A ++ aF e C.length) u' → Fm XC [13] u u' → Q (.inl none) u') : WS (d + 7) m_Pars_named 0 [some (.ref 36), some (.int (aI u 10 6)), none, none] [] u Q := by
  obtain ⟨NT, h1, h2, h3, -⟩ := id hX.1
  have hv := h1.2.2.2.2.2.2.1 h20
  have h7 := h2.2.2.2.2.1.1
  have hnt := RL.nt h1 h3
  obtain ⟨x1, x2, x3, x4, x5, x6⟩ := id hX.2.1
  have t3 := hX.1.tk.2.2
  have hcl := hX.2.2.2.2.1
  have rest : ((kOf s.2.1 (tW L.1 s.1) = none → pNamed L.1 wi cu s = (pb (pVar L.1) fun v => pr [o1 51 v 0 0]) s) ∧ (∀ k, kOf s.2.1 (tW L.1 s.1) = some k → pNamed L.1 wi cu s = (pb (pCur L.1 cu) fun ck => pb (pt L.1 48) fun _ => pb (pField L.1 ck.2) fun f => pr [o1 53 ck.1 ck.2 f]) s)) →
      WS (d + 6) m_Mean_kindOf 0 [some (.ref 2), some (.int (nI (NT.idxOf (tW L.1 s.1)))), none] [] u (Ri (fun (r3 : Int32) (u4 : Us) => (r3 < 0 → WS (d + 6) m_Pars_variable 0 [some (.ref 36), none] [] u4 (Ri (fun (r5 : Int32) (u6 : Us) => WS (d + 6) m_Code_add 0 [some (.ref 14), some (.int 51), some (.int r5)] [] u6 (Ri (fun (r7 : Int32) (u8 : Us) => Q (.inl none) u8) (fun x u => Q (.inr x) u))) (fun x u => Q (.inr x) u))) ∧ (¬ (r3 < 0) → WS (d + 6) m_Pars_cursor 0 [some (.ref 36), none, none] [] u4 (Ri (fun (r9 : Int32) (u10 : Us) => WS (d + 6) m_Pars_take 0 [some (.ref 36), some (.int 48)] [] u10 (Rv (fun (u12 : Us) => ∃ k13 : Nat, r9 = nI k13 ∧ k13 < 10 ∧ (WS (d + 6) m_Pars_field 0 [some (.ref 36), some (.int (aI u12 37 k13)), none] [] u12 (Ri (fun (r14 : Int32) (u15 : Us) => WS (d + 6) m_Code_add 0 [some (.ref 14), some (.int 53), some (.int (((r9 * 7) * 6) + r14))] [] u15 (Ri (fun (r16 : Int32) (u17 : Us) => Q (.inl none) u17) (fun x u => Q (.inr x) u))) (fun x u => Q (.inr x) u)))) (fun x u => Q (.inr x) u))) (fun x u => Q (.inr x) u)))) (fun x u => Q (.inr x) u)) := by
    intro ⟨hp0, hp1⟩
    refine s_kindOf h2.2.2.1 h2.1 h7 hv.1 hnt ⟨fun z => ?_, fun z => ?_⟩
    · cases hko : kOf s.2.1 (tW L.1 s.1) with
      | some k =>
        rw [hko] at z
        have := kOf_lt hko
        exact absurd z (nI_pos (by omega))
      | none =>
        rw [hp0 hko] at he hk
        refine s_variable hX.1 h20 (fun e u' q1 q2 => he e u' (nrm_l q1 (fun _ => sc_pr _)) q2) (fun v s' u' q1 q2 q3 q4 => ?_)
        have qa := (nrm_r (g := fun v => pr [o1 51 v 0 0]) q1).1
        rw [nrm_pr (nrm_inr q1).2] at qa
        obtain ⟨a1, a2, a3, a4, a5⟩ := pVar_ok (nrm_inr q1).1 hX.2.2.2.1.2.2.2
        have hX' := hX.mv q3 q4 (by decide) (by decide) (fun i b1 b2 => by simp; omega) ⟨a2, a3, a4⟩ (by omega)
        have t3' := q3.tk.2.2
        refine s_add _ _ rfl rfl hX'.2.2.1 (by omega) (fun u4 hc4 hf4 => ?_)
        refine hk _ s' u4 qa ?_ ((q4.mono (by decide) (by decide)).trans (hf4.mono (by decide) (by decide)))
        have hX4 := hX'.add hc4 hf4 (by omega)
        rw [show o1 51 v 0 0 = ((51, v, 0, 0), []) from rfl, (cF_one (by simp) _ _).1, (cF_one (by simp) _ 0).2, List.append_nil]
        exact hX4
    · cases hko : kOf s.2.1 (tW L.1 s.1) with
      | none => rw [hko] at z; exact absurd (by decide : (-1 : Int32) < 0) z
      | some k =>
        rw [hp1 k hko] at he hk
        have sc1 : ∀ ck : Nat × Nat, Sc L.1 (pb (pt L.1 48) fun _ => pb (pField L.1 ck.2) fun f => pr [o1 53 ck.1 ck.2 f]) := fun ck => sc_pb (sc_pt _ (by decide)) fun _ => sc_pb (sc_pField _) fun _ => sc_pr _
        have sc2 : ∀ ck : Nat × Nat, Sc L.1 (pb (pField L.1 ck.2) fun f => pr [o1 53 ck.1 ck.2 f]) := fun ck => sc_pb (sc_pField _) fun _ => sc_pr _
        refine s_cursor hX.1 hX.2.1 (fun e u' q1 q2 => he e u' (nrm_l q1 sc1) q2) (fun c k' u2 q1 hc1 hc2 hc3 hR2 hf2 => ?_)
        have qa := (nrm_r (g := fun ck : Nat × Nat => pb (pt L.1 48) fun _ => pb (pField L.1 ck.2) fun f => pr [o1 53 ck.1 ck.2 f]) q1).1
        have hX2 := hX.next hR2 hf2
        refine s_take _ rfl (by decide) (by decide) hX2.1 (fun e u' q2 q3 => he e u' (by rw [qa]; exact nrm_l q2 (fun _ => sc2 (c, k'))) q3) (fun u3 q2 hR3 hf3 => ?_)
        have qb := (nrm_r (g := fun _ => pb (pField L.1 k') fun f => pr [o1 53 c k' f]) q2).1
        have hX3 := hX2.next hR3 hf3
        refine ⟨c, rfl, by omega, ?_⟩
        have e37 : aI u3 37 c = nI k' := by rw [hf3.1 37 (by decide), hf2.1 37 (by decide)]; exact hc3
        refine s_field _ e37 (by exact hc2) hX3.1 (fun e u' q3 q4 => he e u' (by rw [qa]; exact qb.trans (nrm_l q3 (fun _ => sc_pr _))) q4) (fun f u4 q3 hfl hR4 hf4 => ?_)
        have qc := (nrm_r (g := fun f => pr [o1 53 c k' f]) q3).1
        rw [nrm_pr (nrm_inr q3).2] at qc
        have hX4 := hX3.next hR4 hf4
        have t3' := hR4.tk.2.2
        simp only at t3'
        have e53 : nI c * 7 * 6 + nI (6 * k' + f) = nI (42 * c + (6 * k' + f)) := by
          have a1 : nI c * 7 = nI (c * 7) := pk_mul c 7
          have a2 : nI (c * 7) * 6 = nI (c * 7 * 6) := pk_mul (c * 7) 6
          rw [a1, a2, nI_add]
          congr 1
          omega
        refine s_add _ _ rfl e53 hX4.2.2.1 (by omega) (fun u5 hc5 hf5 => ?_)
        refine hk _ _ u5 (by rw [qa]; exact qb.trans qc) ?_ (((hf2.mono (by decide) (by decide)).trans (hf3.mono (by decide) (by decide))).trans ((hf4.mono (by decide) (by decide)).trans (hf5.mono (by decide) (by decide))))
        have hX5 := hX4.add hc5 hf5 (by simp only; omega)
        rw [show o1 53 c k' f = ((53, c, k', f), []) from rfl, (cF_one (by simp) _ _).1, (cF_one (by simp) _ 0).2, List.append_nil]
        exact hX5
  refine g_Pars_named_0 _ ?_
  rw [hv.2, x6]
  cases wi with
  | none =>
    refine ⟨fun z => absurd z (by decide), fun _ => rest ⟨fun h => ?_, fun k h => ?_⟩⟩
    · simp only [pNamed, h]
    · simp only [pNamed, h]
  | some k =>
    have hkl := hX.2.2.2.1.2.1 k rfl
    refine ⟨fun _ => ?_, fun z => absurd (nI_pos' (n := k) (by omega)) z⟩
    obtain ⟨nm, g1, g2⟩ := fs_at hkl
    have h6 := (h2.2.2.2.2.1.2 _ _ g2).2.1
    obtain ⟨-, -, k3, k4⟩ := h2.2.2.1 k _ _ g1
    refine s_fieldOf k4 k3 (by omega) h6 hv.1 hnt ⟨fun z => ?_, fun z => ?_⟩
    · cases hfo : fOf (fsOf s.2.1 k) (tW L.1 s.1) with
      | some f =>
        rw [hfo] at z
        have := fOf_lt hfo
        exact absurd z (nI_pos (n := 6 * k + f) (by omega))
      | none =>
        refine rest ⟨fun h => ?_, fun k h => ?_⟩
        · simp only [pNamed, hfo, Option.map_none, h]
        · simp only [pNamed, hfo, Option.map_none, h]
    · cases hfo : fOf (fsOf s.2.1 k) (tW L.1 s.1) with
      | none => rw [hfo] at z; exact absurd (show (-1 : Int32) < 0 by decide) z
      | some f =>
        have hp : pNamed L.1 (some k) cu s = .inr ([o1 52 k f 0], s.1 + 1, s.2) := by simp only [pNamed, hfo, Option.map_some]
        refine s_nextR hX.1 (by omega) (fun e u' q1 q2 => he e u' (nrm_if hp q1 rfl) q2) (fun u2 q1 hR2 hf2 => ?_)
        have hX2 := hX.next hR2 hf2
        have t3' := hR2.tk.2.2
        simp only at t3'
        refine s_add _ _ (x := 52) (y := 6 * k + f) rfl rfl hX2.2.2.1 (by omega) (fun u5 hc5 hf5 => ?_)
        refine hk _ _ u5 (nrm_if' hp q1 rfl) ?_ ((hf2.mono (by decide) (by decide)).trans (hf5.mono (by decide) (by decide)))
        have hX5 := hX2.add hc5 hf5 (by simp only; omega)
        rw [show o1 52 k f 0 = ((52, k, f, 0), []) from rfl, (cF_one (by simp) _ _).1, (cF_one (by simp) _ 0).2, List.append_nil]
        exact hX5
end NM
