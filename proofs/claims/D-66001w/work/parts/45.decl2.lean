theorem s_declare {L : Lp} {s : PS} {u : Us} {d : Nat} {Q : Ot → Us → Prop} (hR0 : RL L s u) (he : ∀ e u', nrm L.1 (pDecl L.1 s) = .inl e → FlP L e u' → Q (.inr 2) u')
    (hk : ∀ s' u', nrm L.1 (pDecl L.1 s) = .inr ((), s') → RL L s' u' → s.2.1 <+: s'.2.1 → s'.2.2 = s.2.2 → Fm [2, 3, 4, 5, 6, 7, 10, 12] [13] u u' → Q (.inl none) u') : WS (d + 7) m_Pars_declare 0 [some (.ref 36), none, none, none, none, none] [] u Q := by
  obtain ⟨NT, hR⟩ := hR0
  obtain ⟨t1, t2, t3⟩ := hR.rl.tk
  have sc2 : ∀ nm : Nm, Sc L.1 (pb (pFl L.1 6 []) fun fs s => .inr ((), s.1, s.2.1 ++ [(nm, fs)], s.2.2)) := fun nm => sc_pb (sc_pFl _ _) fun fs s _ => .inr ⟨(), (s.1, s.2.1 ++ [(nm, fs)], s.2.2), rfl, rfl⟩
  have ep : pDecl L.1 s = (pb (pFresh L.1 (fun s => (kOf s.2.1 (tW L.1 s.1)).isNone && (vOf s.2.2 (tW L.1 s.1)).isNone && decide (s.2.1.length < 7))) fun nm => pb (pFl L.1 6 []) fun fs s => .inr ((), s.1, s.2.1 ++ [(nm, fs)], s.2.2)) s := rfl
  rw [ep] at he hk
  have fl : ∀ Q' : Us → Prop, ¬ (tK L.1 s.1 = 20 ∧ ((kOf s.2.1 (tW L.1 s.1)).isNone && (vOf s.2.2 (tW L.1 s.1)).isNone && decide (s.2.1.length < 7)) = true) → WS (d + 6) m_Scan_fail 0 [some (.ref 10)] [] u (Rv Q' (fun x u => Q (.inr x) u)) := fun Q' hn => hR.rl.failW (fun u' h => he s.1 u' (nrm_l (nrm_err (pFresh_f hn)) sc2) h)
  refine g_Pars_declare_0 (s_name hR.rl (fun n20 u' h => he s.1 u' (nrm_l (nrm_err (pFresh_f (fun q => n20 q.1))) sc2) h) (fun h20 => ?_))
  have hv := hR.1.2.2.2.2.2.2.1 h20
  have h2 := hR.2.1
  have h7 := h2.2.2.2.2.1.1
  have h20l := h2.2.2.2.2.2.1
  rw [hv.2]
  refine s_kindOf h2.2.2.1 h2.1 h7 hv.1 hR.nt ⟨fun z => fl _ (fun q => ?_), fun z => ?_⟩
  · cases hko : kOf s.2.1 (tW L.1 s.1) with
    | none => rw [hko] at z; exact absurd z (show ¬ (0 : Int32) ≤ -1 by decide)
    | some k => have := q.2; simp [hko] at this
  have hkn : kOf s.2.1 (tW L.1 s.1) = none := by
    cases hko : kOf s.2.1 (tW L.1 s.1) with
    | none => rfl
    | some k => rw [hko] at z; have := kOf_lt hko; exact absurd (nI_pos' (by omega)) z
  refine s_varOf h2.2.2.2.1 h2.2.1 h20l hv.1 hR.nt ⟨fun z => fl _ (fun q => ?_), fun z => ?_⟩
  · cases hko : vOf s.2.2 (tW L.1 s.1) with
    | none => rw [hko] at z; exact absurd z (show ¬ (0 : Int32) ≤ -1 by decide)
    | some k => have := q.2; simp [hko] at this
  have hvn : vOf s.2.2 (tW L.1 s.1) = none := by
    cases hko : vOf s.2.2 (tW L.1 s.1) with
    | none => rfl
    | some k => rw [hko] at z; have := vOf_lt hko; exact absurd (nI_pos' (by omega)) z
  rw [h2.1]
  refine ⟨fun z => ?_, fun z => fl _ (fun q => ?_)⟩
  rotate_left
  · have e7 := (nI_eq (b := 7) (by omega) (by decide)).mp z
    have := q.2
    simp [e7] at this
  have hlt : s.2.1.length < 7 := by
    rcases Nat.lt_or_ge s.2.1.length 7 with h | h
    · exact h
    · exact absurd (by rw [show s.2.1.length = 7 by omega]; rfl) z
  have hp := pFresh_t (bs := L.1) (ok := fun s => (kOf s.2.1 (tW L.1 s.1)).isNone && (vOf s.2.2 (tW L.1 s.1)).isNone && decide (s.2.1.length < 7)) (s := s) ⟨h20, by simp [hkn, hvn, hlt]⟩
  refine s_nextN hR (by omega) (fun e u' q1 q2 => he e u' (nrm_l (nrm_if hp q1 rfl) sc2) q2) (fun NT2 u2 q1 hp2 hR2 hf2 => ?_)
  have qa := (nrm_r (g := fun nm => pb (pFl L.1 6 []) fun fs s => .inr ((), s.1, s.2.1 ++ [(nm, fs)], s.2.2)) (nrm_if' hp q1 rfl)).1
  have e7 : aI u2 2 7 = nI s.2.1.length := hR2.2.1.1
  refine ⟨s.2.1.length, e7, hlt, ?_⟩
  rw [e7]
  have hR3 : RLn L NT2 (s.1 + 1, s.2) (uI u2 4 s.2.1.length 0) := hR2.upk (.inl ⟨.inr rfl, Nat.le_refl _⟩)
  have hD3 : DR L NT2 (s.1 + 1, s.2) [] (uI u2 4 s.2.1.length 0) := ⟨hR3, hlt, by simp only; rw [aI_uI]; rfl, fun f g b h => by simp at h, by simp [fwf, sumB]⟩
  refine s_fields (d := d) 6 [] NT2 (s.1 + 1, s.2) _ rfl (by decide) hD3 (fun e u' q2 q3 => he e u' (qa.trans (nrm_l q2 (fun fs s _ => .inr ⟨(), (s.1, s.2.1 ++ [(tW L.1 s.1, fs)], s.2.2), rfl, rfl⟩))) q3) (fun fs' s' NT' u' q2 q3 q4 q5 q6 q7 => ?_)
  · sorry
