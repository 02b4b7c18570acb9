theorem s_declare {L : Lp} {s : PS} {u : Us} {d : Nat} {Q : Ot → Us → Prop} (hR0 : RL L s u) (he : ∀ e u', nrm L.1 (pDecl L.1 s) = .inl e → FlP L e u' → Q (.inr 2) u')
    (hk : ∀ s' u', nrm L.1 (pDecl L.1 s) = .inr ((), s') → RL L s' u' → s.2.1 <+: s'.2.1 → s'.2.2 = s.2.2 → Fm [2, 3, 4, 5, 6, 7, 10, 12] [13] u u' → Q (.inl none) u') : WS (d + 7) m_Pars_declare 0 [some (.ref 36), none, none, none, none, none] [] u Q := by
  obtain ⟨NT, hR⟩ := hR0
  obtain ⟨t1, t2, t3⟩ := hR.rl.tk
  have sc2 : ∀ nm : Nm, Sc L.1 (pb (pFl L.1 6 []) fun fs s => .inr ((), s.1, s.2.1 ++ [(nm, fs)], s.2.2)) := fun nm => sc_pb (sc_pFl _ _) fun fs s _ => .inr ⟨(), (s.1, s.2.1 ++ [(nm, fs)], s.2.2), rfl, rfl⟩
  have ep : pDecl L.1 s = (pb (pFresh L.1 (fun s => (kOf s.2.1 (tW L.1 s.1)).isNone && (vOf s.2.2 (tW L.1 s.1)).isNone && decide (s.2.1.length < 7))) fun nm => pb (pFl L.1 6 []) fun fs s => .inr ((), s.1, s.2.1 ++ [(nm, fs)], s.2.2)) s := rfl
  rw [ep] at he hk
  have fl : ∀ Q' : Us → Prop, ¬ (tK L.1 s.1 = 20 ∧ ((kOf s.2.1 (tW L.1 s.1)).isNone && (vOf s.2.2 (tW L.1 s.1)).isNone && decide (s.2.1.length < 7)) = true) → WS (d + 6) m_Scan_fail 0 [some (.ref 10)] [] u (Rv Q' (fun x u => Q (.inr x) u)) := fun Q' hn => hR.rl.failW (fun u' h => he s.1 u' (nrm_l (nrm_err (pFresh_f hn)) sc2) h)
  refine g_Pars_declare_0 (s_name hR.rl (fun n20 u' h => he s.1 u' (nrm_l (nrm_err (pFresh_f (fun q => n20 q.1))) sc2) h) (fun h20 => ?_))
  have hv := hR.1.2.2.2.2.2.2.1 h20
  have h2 := hR.2.1
  have h7 := h2.2.2.2.2.1.1
  have h20l := h2.2.2.2.2.2.1
  rw [hv.2]
  refine s_kindOf h2.2.2.1 h2.1 h7 hv.1 hR.nt ⟨fun z => fl _ (fun q => ?_), fun z => ?_⟩
  · cases hko : kOf s.2.1 (tW L.1 s.1) with
    | none => rw [hko] at z; exact absurd z (show ¬ (0 : Int32) ≤ -1 by decide)
    | some k => have := q.2; simp [hko] at this
  have hkn : kOf s.2.1 (tW L.1 s.1) = none := by
    cases hko : kOf s.2.1 (tW L.1 s.1) with
    | none => rfl
    | some k => rw [hko] at z; have := kOf_lt hko; exact absurd (nI_pos' (by omega)) z
  refine s_varOf h2.2.2.2.1 h2.2.1 h20l hv.1 hR.nt ⟨fun z => fl _ (fun q => ?_), fun z => ?_⟩
  · cases hko : vOf s.2.2 (tW L.1 s.1) with
    | none => rw [hko] at z; exact absurd z (show ¬ (0 : Int32) ≤ -1 by decide)
    | some k => have := q.2; simp [hko] at this
  have hvn : vOf s.2.2 (tW L.1 s.1) = none := by
    cases hko : vOf s.2.2 (tW L.1 s.1) with
    | none => rfl
    | some k => rw [hko] at z; have := vOf_lt hko; exact absurd (nI_pos' (by omega)) z
  rw [h2.1]
  refine ⟨fun z => ?_, fun z => fl _ (fun q => ?_)⟩
  rotate_left
  · have e7 := (nI_eq (b := 7) (by omega) (by decide)).mp z
    have := q.2
    simp [e7] at this
  have hlt : s.2.1.length < 7 := by
    rcases Nat.lt_or_ge s.2.1.length 7 with h | h
    · exact h
    · exact absurd (by rw [show s.2.1.length = 7 by omega]; rfl) z
  have hp := pFresh_t (bs := L.1) (ok := fun s => (kOf s.2.1 (tW L.1 s.1)).isNone && (vOf s.2.2 (tW L.1 s.1)).isNone && decide (s.2.1.length < 7)) (s := s) ⟨h20, by simp [hkn, hvn, hlt]⟩
  refine s_nextN hR (by omega) (fun e u' q1 q2 => he e u' (nrm_l (nrm_if hp q1 rfl) sc2) q2) (fun NT2 u2 q1 hp2 hR2 hf2 => ?_)
  have qa := (nrm_r (g := fun nm => pb (pFl L.1 6 []) fun fs s => .inr ((), s.1, s.2.1 ++ [(nm, fs)], s.2.2)) (nrm_if' hp q1 rfl)).1
  have e7 : aI u2 2 7 = nI s.2.1.length := hR2.2.1.1
  refine ⟨s.2.1.length, e7, hlt, ?_⟩
  rw [e7]
  have hR3 : RLn L NT2 (s.1 + 1, s.2) (uI u2 4 s.2.1.length 0) := hR2.upk (.inl ⟨.inr rfl, Nat.le_refl _⟩)
  have hD3 : DR L NT2 (s.1 + 1, s.2) [] (uI u2 4 s.2.1.length 0) := ⟨hR3, hlt, by simp only; rw [aI_uI]; rfl, fun f g b h => by simp at h, by simp [fwf, sumB]⟩
  refine s_fields (d := d) 6 [] NT2 (s.1 + 1, s.2) _ rfl (by decide) hD3 (fun e u' q2 q3 => he e u' (qa.trans (nrm_l q2 (fun fs sx _ => .inr ⟨(), (sx.1, sx.2.1 ++ [(tW L.1 s.1, fs)], sx.2.2), rfl, rfl⟩))) q3) (fun fs' s' NT' u' q2 q3 q4 q5 q6 q7 => ?_)
  have hNT : NT <+: NT' := hp2.trans q4
  obtain ⟨r1, r2, r3, r4, r5⟩ := q5
  rw [q3] at r2 r3 r4
  simp only at r2 r3 r4
  have qb := (nrm_r (g := fun fs (s_ : PS) => .inr ((), s_.1, s_.2.1 ++ [(tW L.1 s.1, fs)], s_.2.2)) q2).1
  refine g_Pars_declare_76 _ _ _ _ ⟨fun _ => ⟨s.2.1.length, rfl, hlt, ?_⟩, fun z => absurd rfl z⟩
  obtain ⟨h1, ⟨m1, m2, m3, m4, m5, m6, m7, m8, m9⟩, h3, h4, h5, h6⟩ := id r1
  rw [q3] at m1 m2 m3 m4 m5 m6 m7 m8 m9
  simp only at m1 m2 m3 m4 m5 m6 m7 m8 m9
  rw [m1, nI_1]
  have ne : ∀ c q, (c = 3 → q ≠ s.2.1.length) → (c = 2 → q ≠ 7) → aI (uI (uI u' 3 s.2.1.length (nI (NT.idxOf (tW L.1 s.1)))) 2 7 (nI (s.2.1.length + 1))) c q = aI u' c q := by
    intro c q hq hq2
    rw [rI]
    by_cases e : c = 2
    · rw [if_pos e, if_neg (hq2 e), aI_uIc (by omega)]
    · rw [if_neg e, rI]
      by_cases e3 : c = 3
      · rw [if_pos e3, if_neg (hq e3)]
      · rw [if_neg e3]
  have hkd : kdA (s.2.1 ++ [(tW L.1 s.1, fs')]) NT' (uI (uI u' 3 s.2.1.length (nI (NT.idxOf (tW L.1 s.1)))) 2 7 (nI (s.2.1.length + 1))) := by
    intro k nm fs hkk
    rcases get_app1 hkk with ⟨g1, g2⟩ | ⟨rfl, g2⟩
    · have := m3.go m5 (List.prefix_refl _) (u' := uI (uI u' 3 s.2.1.length (nI (NT.idxOf (tW L.1 s.1)))) 2 7 (nI (s.2.1.length + 1))) (fun q hq => ne _ _ (by omega) (by omega)) (fun q hq => ne _ _ (by omega) (by omega)) (fun q hq => ne _ _ (by omega) (by omega)) (fun q hq => ne _ _ (by omega) (by omega)) (fun q hq => ne _ _ (by omega) (by omega))
      exact this k nm fs g2
    · cases g2
      refine ⟨hNT.subset hv.1, ?_, ?_, r4.go (List.prefix_refl _) (fun q hq => ne _ _ (by omega) (by omega)) (fun q hq => ne _ _ (by omega) (by omega)) (fun q hq => ne _ _ (by omega) (by omega))⟩
      · rw [aI_uIc (by decide), aI_uI, ix_pre hNT hv.1]
      · rw [ne _ _ (by omega) (by omega)]; exact r3
  have hkw : kwf (s.2.1 ++ [(tW L.1 s.1, fs')]) := by
    refine ⟨by rw [List.length_append]; simp; omega, fun nm fs hm => ?_⟩
    rcases List.mem_append.mp hm with hm | hm
    · exact m5.2 nm fs hm
    · cases List.mem_singleton.mp hm
      exact ⟨q6, r5.1, r5.2.1, r5.2.2⟩
  refine hk (s'.1, s.2.1 ++ [(tW L.1 s.1, fs')], s.2.2) _ ?_ ⟨NT', h1.go (fun i a b => ?_) rfl, ⟨?_, ?_, hkd, ?_, hkw, m6, m7.trans (List.prefix_append _ _), m8, ?_, ?_⟩, h3, (h4.uI (by decide)).uI (by decide), h5, h6⟩ (List.prefix_append _ _) rfl ?_
  · refine qa.trans (qb.trans ?_)
    have e0 : ((.inr ((), s'.1, s'.2.1 ++ [(tW L.1 s.1, fs')], s'.2.2) : Nat ⊕ (Unit × PS))) = .inr ((), s'.1, s.2.1 ++ [(tW L.1 s.1, fs')], s.2.2) := by rw [q3]
    rw [e0]
    simp only [nrm]
    rw [if_neg (by have := (nrm_inr q2).2; omega)]
  · rw [aI_uIc (by omega), aI_uIc (by omega)]
  · simp only
    rw [aI_uI, List.length_append]
    rfl
  · simp only
    rw [ne 2 8 (by omega) (by omega)]
    exact m2
  · exact m4.go (List.prefix_refl _) (fun q hq => ne _ _ (by omega) (by omega))
  · intro v hv'
    rw [ne 9 v (by omega) (by omega)]
    exact m9.1 v hv'
  · intro v a b
    rw [ne 9 v (by omega) (by omega)]
    exact m9.2 v a b
  · refine Fm.uI (Fm.uI ?_ (by decide)) (by decide)
    refine (hf2.mono (by decide) (by decide)).trans ?_
    exact (Fm.refl.uI (by decide)).trans (q7.mono (by decide) (by decide))
