-- the declaration of a kind
theorem RLn.upk {L : Lp} {NT : List Nm} {s : PS} {u : Us} {i j : Nat} {v : Int32} (h : RLn L NT s u) (hi : ((i = 3 ∨ i = 4) ∧ s.2.1.length ≤ j) ∨ ((i = 5 ∨ i = 6 ∨ i = 7) ∧ 6 * s.2.1.length ≤ j)) : RLn L NT s (uI u i j v) := by
  obtain ⟨h1, ⟨m1, m2, m3, m4, m5, m6, m7, m8, m9⟩, h3, h4, h5, h6⟩ := h
  have hlc : i ∈ LC := by
    simp only [LC, List.mem_cons]
    omega
  have ne : ∀ c q, (c = i → q ≠ j) → aI (uI u i j v) c q = aI u c q := by
    intro c q hq
    rw [rI]
    by_cases e : c = i
    · rw [if_pos e, if_neg (hq e)]
    · rw [if_neg e]
  refine ⟨h1.go (fun q a b => aI_uIc (by omega)) rfl, ⟨?_, ?_, m3.go m5 (List.prefix_refl _) (fun q hq => ne _ _ (by omega)) (fun q hq => ne _ _ (by omega)) (fun q hq => ne _ _ (by omega)) (fun q hq => ne _ _ (by omega)) (fun q hq => ne _ _ (by omega)), m4.go (List.prefix_refl _) (fun q hq => ne _ _ (by omega)), m5, m6, m7, m8, ?_⟩, h3, h4.uI hlc, h5, h6⟩
  · rw [ne 2 7 (by omega)]; exact m1
  · rw [ne 2 8 (by omega)]; exact m2
  · refine ⟨fun q hq => ?_, fun q a b => ?_⟩
    · rw [ne 9 q (by omega)]; exact m9.1 q hq
    · rw [ne 9 q (by omega)]; exact m9.2 q a b
theorem s_takeN {L : Lp} {NT : List Nm} {s : PS} {u : Us} {d : Nat} {Q : Ot → Us → Prop} (a : Int32) {k : Nat} (ea : a = nI k) (hk90 : k < 90) (h22 : k ≠ 22) (hR : RLn L NT s u) (he : ∀ e u', nrm L.1 (pt L.1 k s) = .inl e → FlP L e u' → Q (.inr 2) u')
    (hk : ∀ NT' u', nrm L.1 (pt L.1 k s) = .inr ((), s.1 + 1, s.2) → NT <+: NT' → RLn L NT' (s.1 + 1, s.2) u' → Fm [10, 12] [13] u u' → Q (.inl none) u') : WS (d + 6) m_Pars_take 0 [some (.ref 36), some (.int a)] [] u Q := by
  subst ea
  have hR' : RL L s u := ⟨NT, hR⟩
  refine g_Pars_take_0 _ ⟨fun z => ?_, fun z => ?_⟩
  · have e := (hR'.is hk90).mp z
    have hp : pt L.1 k s = .inr ((), s.1 + 1, s.2) := by rw [pt_eq, if_pos e]
    exact s_nextN hR (by omega) (fun e' u' h1 h2 => he e' u' (nrm_if hp h1 rfl) h2) (fun NT' u' h1 h2 h3 h4 => hk NT' u' (nrm_if' hp h1 rfl) h2 h3 h4)
  · have e := fun q => z ((hR'.is hk90).mpr q)
    exact hR'.failW (fun u' h => he s.1 u' (nrm_err (by rw [pt_eq, if_neg e])) h)
def fwf (fs : Fs) : Prop := fs.length ≤ 6 ∧ sumB fs ≤ 84 ∧ ∀ g b, (g, b) ∈ fs → 1 ≤ b ∧ b ≤ 32
theorem sumB_app (fs : Fs) (g : Nm) (b : Nat) : sumB (fs ++ [(g, b)]) = sumB fs + b := by simp [sumB]
/-- a kind is being declared: its fields so far -/
def DR (L : Lp) (NT : List Nm) (s : PS) (fs : Fs) (u : Us) : Prop := RLn L NT s u ∧ s.2.1.length < 7 ∧ aI u 4 s.2.1.length = nI fs.length ∧ flA fs s.2.1.length NT u ∧ fwf fs
theorem RLn.rl {L : Lp} {NT : List Nm} {s : PS} {u : Us} (h : RLn L NT s u) : RL L s u := ⟨NT, h⟩
theorem RLn.nt {L : Lp} {NT : List Nm} {s : PS} {u : Us} (h : RLn L NT s u) : NT.length < 240 := RL.nt h.1 h.2.2.1
theorem pFresh_t {bs : List Nat} {ok : PS → Bool} {s : PS} (h : tK bs s.1 = 20 ∧ ok s = true) : pFresh bs ok s = .inr (tW bs s.1, s.1 + 1, s.2) := by unfold pFresh; rw [if_pos h]
theorem pFresh_f {bs : List Nat} {ok : PS → Bool} {s : PS} (h : ¬ (tK bs s.1 = 20 ∧ ok s = true)) : pFresh bs ok s = .inl s.1 := by unfold pFresh; rw [if_neg h]
def pSep (bs : List Nat) (n : Nat) (fs : Fs) : Pr Fs := pk bs fun x => pi (x = 45) (pi (n = 0) pe (pb pn fun _ => pFl bs n fs)) (pr fs)
theorem sc_pSep {bs : List Nat} {n : Nat} {fs : Fs} : Sc bs (pSep bs n fs) := sc_pk fun x hx => sc_pi (by omega) (sc_pr _)
theorem s_fields {L : Lp} {d : Nat} {Q : Ot → Us → Prop} {x1 : Int32} : ∀ (n : Nat) (fs : Fs) (NT : List Nm) (s : PS) (u : Us), fs.length + n = 6 → 1 ≤ n → DR L NT s fs u →
    (∀ e u', nrm L.1 (pFl L.1 n fs s) = .inl e → FlP L e u' → Q (.inr 2) u') →
    (∀ fs' s' NT' u', nrm L.1 (pFl L.1 n fs s) = .inr (fs', s') → s'.2 = s.2 → NT <+: NT' → DR L NT' s' fs' u' → 1 ≤ fs'.length → Fm [4, 5, 6, 7, 10, 12] [13] u u' → WS (d + 7) m_Pars_declare 76 [some (.ref 36), some (.int x1), some (.int (nI s.2.1.length)), some (.int (nI (sumB fs'))), some (.int 0), none] [] u' Q) →
    WS (d + 7) m_Pars_declare 76 [some (.ref 36), some (.int x1), some (.int (nI s.2.1.length)), some (.int (nI (sumB fs))), some (.int 1), none] [] u Q := by
  intro n
  induction n with
  | zero => intro fs NT s u h1 h2; omega
  | succ n ih =>
    intro fs NT s u hn _ hD he hk
    obtain ⟨hR, h7, h4, hfl, hfw⟩ := id hD
    obtain ⟨t1, t2, t3⟩ := hR.rl.tk
    have hf6 := hfw.1
    have ep : ∀ s', pFl L.1 (n + 1) fs s' = (pb (pFresh L.1 (fun s => (fOf fs (tW L.1 s.1)).isNone)) fun g => pb (pt L.1 47) fun _ => pb (pBits L.1 (sumB fs)) fun v => pSep L.1 n (fs ++ [(g, v)])) s' := fun _ => rfl
    rw [ep] at he hk
    have sc3 : ∀ g : Nm, Sc L.1 (pb (pBits L.1 (sumB fs)) fun v => pSep L.1 n (fs ++ [(g, v)])) := fun g => sc_pb (sc_pBits _) fun _ => sc_pSep
    have sc2 : ∀ g : Nm, Sc L.1 (pb (pt L.1 47) fun _ => pb (pBits L.1 (sumB fs)) fun v => pSep L.1 n (fs ++ [(g, v)])) := fun g => sc_pb (sc_pt _ (by decide)) fun _ => sc3 g
    refine g_Pars_declare_76 _ _ _ _ ⟨fun z => absurd z (by decide), fun _ => ?_⟩
    refine s_name hR.rl (fun n20 u' h => he s.1 u' (nrm_l (nrm_err (pFresh_f (fun q => n20 q.1))) sc2) h) (fun h20 => ?_)
    have hv := hR.1.2.2.2.2.2.2.1 h20
    rw [hv.2]
    refine s_fieldOf hfl h4 h7 hf6 hv.1 hR.nt ⟨fun z => ?_, fun z => ?_⟩
    rotate_left
    · cases hfo : fOf fs (tW L.1 s.1) with
      | none => rw [hfo] at z; exact absurd (show (-1 : Int32) < 0 by decide) z
      | some f => exact hR.rl.failW (fun u' h => he s.1 u' (nrm_l (nrm_err (pFresh_f (fun q => by have := q.2; simp [hfo] at this))) sc2) h)
    have hno : fOf fs (tW L.1 s.1) = none := by
      cases hfo : fOf fs (tW L.1 s.1) with
      | none => rfl
      | some f =>
        rw [hfo] at z
        have := fOf_lt hfo
        exact absurd z (nI_pos (n := 6 * s.2.1.length + f) (by omega))
    have hp := pFresh_t (bs := L.1) (ok := fun s => (fOf fs (tW L.1 s.1)).isNone) (s := s) ⟨h20, by simp [hno]⟩
    have ei : nI s.2.1.length * 6 + nI fs.length = nI (6 * s.2.1.length + fs.length) := by
      have : nI s.2.1.length * 6 = nI (s.2.1.length * 6) := pk_mul _ 6
      rw [this, nI_add, Nat.mul_comm]
    refine g_Pars_declare_103 _ _ _ _ ⟨s.2.1.length, rfl, h7, 6 * s.2.1.length + fs.length, by rw [h4]; exact ei, by omega, ?_⟩
    rw [hv.2, h4, ei]
    have hR1 : RLn L NT s (uI u 5 (6 * s.2.1.length + fs.length) (nI (NT.idxOf (tW L.1 s.1)))) := hR.upk (.inr ⟨.inl rfl, by omega⟩)
    refine s_nextN hR1 (by omega) (fun e u' q1 q2 => he e u' (nrm_l (nrm_if hp q1 rfl) sc2) q2) (fun NT2 u2 q1 hp2 hR2 hf2 => ?_)
    have qa := (nrm_r (g := fun g => pb (pt L.1 47) fun _ => pb (pBits L.1 (sumB fs)) fun v => pSep L.1 n (fs ++ [(g, v)])) (nrm_if' hp q1 rfl)).1
    have e47 : ∀ u', Fm [10, 12] [13] (uI u 5 (6 * s.2.1.length + fs.length) (nI (NT.idxOf (tW L.1 s.1)))) u' → aI u' 5 (6 * s.2.1.length + fs.length) = nI (NT.idxOf (tW L.1 s.1)) := fun u' h => by rw [h.1 5 (by decide), aI_uI]
    refine s_takeN _ rfl (by decide) (by decide) hR2 (fun e u' q2 q3 => he e u' (qa.trans (nrm_l q2 (fun _ => sc3 _))) q3) (fun NT3 u3 q2 hp3 hR3 hf3 => ?_)
    have qb := (nrm_r (g := fun _ => pb (pBits L.1 (sumB fs)) fun v => pSep L.1 n (fs ++ [(tW L.1 s.1, v)])) q2).1
    have hfm3 : Fm [10, 12] [13] (uI u 5 (6 * s.2.1.length + fs.length) (nI (NT.idxOf (tW L.1 s.1)))) u3 := hf2.trans hf3
    obtain ⟨t31, t32, t33⟩ := hR3.rl.tk
    simp only at t31 t32 t33
    have bad : ¬ (tK L.1 (s.1 + 1 + 1) = 21 ∧ 1 ≤ tV L.1 (s.1 + 1 + 1) ∧ tV L.1 (s.1 + 1 + 1) ≤ 32 ∧ sumB fs + tV L.1 (s.1 + 1 + 1) ≤ 84) → ∀ Q' : Us → Prop, WS (d + 6) m_Scan_fail 0 [some (.ref 10)] [] u3 (Rv Q' (fun x u => Q (.inr x) u)) := by
      intro hb Q'
      refine hR3.rl.failW (fun u' h => he (s.1 + 1 + 1) u' (qa.trans (qb.trans (nrm_l (nrm_err ?_) (fun _ => sc_pSep)))) h)
      simp only [pBits, po]
      rw [if_neg hb]
    have hval : tK L.1 (s.1 + 1 + 1) = 21 → aI u3 10 6 = nI (tV L.1 (s.1 + 1 + 1)) := fun h => hR3.1.2.2.2.2.2.2.2.1 h
    have hV := tV_lt L.1 (s.1 + 1 + 1)
    have hsb := hfw.2.1
    have ok : tK L.1 (s.1 + 1 + 1) = 21 → 1 ≤ tV L.1 (s.1 + 1 + 1) → tV L.1 (s.1 + 1 + 1) ≤ 32 → sumB fs + tV L.1 (s.1 + 1 + 1) ≤ 84 → WS (d + 7) m_Pars_declare 205 [some (.ref 36), some (.int x1), some (.int (nI s.2.1.length)), some (.int (nI (sumB fs))), some (.int 1), some (.int (nI (6 * s.2.1.length + fs.length)))] [] u3 Q := by
      intro k1 k2 k3 k4
      have hpb : pBits L.1 (sumB fs) (s.1 + 1 + 1, s.2) = .inr (tV L.1 (s.1 + 1 + 1), s.1 + 1 + 1 + 1, s.2) := by
        simp only [pBits, po]
        rw [if_pos ⟨k1, k2, k3, k4⟩]
      generalize hvv : tV L.1 (s.1 + 1 + 1) = v at *
      have e4u3 : aI u3 4 s.2.1.length = nI fs.length := by rw [hfm3.1 4 (by decide), aI_uIc (by decide)]; exact h4
      refine g_Pars_declare_205 _ _ _ _ _ ⟨_, rfl, by omega, _, rfl, by omega, _, rfl, h7, _, rfl, h7, ?_⟩
      rw [hval k1, e4u3, nI_1]
      have e3x : (3 : Int32) + nI (sumB fs) = nI (3 + sumB fs) := nI_add 3 (sumB fs)
      rw [e3x]
      have hR4 : RLn L NT3 (s.1 + 1 + 1, s.2) (uI (uI (uI u3 6 (6 * s.2.1.length + fs.length) (nI v)) 7 (6 * s.2.1.length + fs.length) (nI (3 + sumB fs))) 4 s.2.1.length (nI (fs.length + 1))) := ((hR3.upk (.inr ⟨.inr (.inl rfl), Nat.le_add_right _ _⟩)).upk (.inr ⟨.inr (.inr rfl), Nat.le_add_right _ _⟩)).upk (.inl ⟨.inr rfl, Nat.le_refl _⟩)
      refine s_nextN hR4 (by show tK L.1 (s.1 + 1 + 1) ≠ 22; omega) (fun e u' q3 q4 => he e u' (qa.trans (qb.trans (nrm_l (nrm_if hpb q3 rfl) (fun _ => sc_pSep)))) q4) (fun NT5 u5 q3 hp5 hR5 hf5 => ?_)
      have qc := (nrm_r (g := fun v => pSep L.1 n (fs ++ [(tW L.1 s.1, v)])) (nrm_if' hpb q3 rfl)).1
      have hNT : NT <+: NT5 := hp2.trans (hp3.trans hp5)
      have hw5 : tW L.1 s.1 ∈ NT5 := hNT.subset hv.1
      have hD5 : DR L NT5 (s.1 + 1 + 1 + 1, s.2) (fs ++ [(tW L.1 s.1, v)]) u5 := by
        refine ⟨hR5, h7, ?_, ?_, ?_, ?_, ?_⟩
        · simp only
          rw [hf5.1 4 (by decide), aI_uI, List.length_append]
          rfl
        · intro f g b hfg
          have c5 : aI u5 5 = aI (uI u 5 (6 * s.2.1.length + fs.length) (nI (NT.idxOf (tW L.1 s.1)))) 5 := by rw [hf5.1 5 (by decide), aI_uIc (by decide), aI_uIc (by decide), aI_uIc (by decide), hfm3.1 5 (by decide)]
          have c6 : aI u5 6 = aI (uI u3 6 (6 * s.2.1.length + fs.length) (nI v)) 6 := by rw [hf5.1 6 (by decide), aI_uIc (by decide), aI_uIc (by decide)]
          have c7 : ∀ q, aI u5 7 q = if q = 6 * s.2.1.length + fs.length then nI (3 + sumB fs) else aI u 7 q := by
            intro q
            rw [hf5.1 7 (by decide), aI_uIc (by decide), rI, if_pos rfl, aI_uIc (by decide), hfm3.1 7 (by decide), aI_uIc (by decide)]
          have c6' : ∀ q, aI u5 6 q = if q = 6 * s.2.1.length + fs.length then nI v else aI u 6 q := by
            intro q
            rw [c6, rI, if_pos rfl, hfm3.1 6 (by decide), aI_uIc (by decide)]
          have c5' : ∀ q, aI u5 5 q = if q = 6 * s.2.1.length + fs.length then nI (NT.idxOf (tW L.1 s.1)) else aI u 5 q := by
            intro q
            rw [c5, rI, if_pos rfl]
          rcases get_app1 hfg with ⟨g1, g2⟩ | ⟨rfl, g2⟩
          · obtain ⟨a1, a2, a3, a4⟩ := hfl f g b g2
            have hne : ¬ 6 * s.2.1.length + f = 6 * s.2.1.length + fs.length := by omega
            refine ⟨hNT.subset a1, ?_, ?_, ?_⟩
            · simp only; rw [c5', if_neg hne, a2, ix_pre hNT a1]
            · simp only; rw [c6', if_neg hne, a3]
            · simp only; rw [c7, if_neg hne, a4, List.take_append_of_le_length (by omega)]
          · cases g2
            refine ⟨hw5, ?_, ?_, ?_⟩
            · simp only; rw [c5', if_pos rfl, ix_pre hNT hv.1]
            · simp only; rw [c6', if_pos rfl]
            · simp only; rw [c7, if_pos rfl, List.take_append_of_le_length (Nat.le_refl _), List.take_length]
        · rw [List.length_append]; simp; omega
        · rw [sumB_app]; exact k4
        · intro g b hm
          rcases List.mem_append.mp hm with hm | hm
          · exact hfw.2.2 g b hm
          · cases List.mem_singleton.mp hm; exact ⟨k2, k3⟩
      have hfm5 : Fm [4, 5, 6, 7, 10, 12] [13] u u5 := by
        refine Fm.trans ?_ (hf5.mono (by decide) (by decide))
        refine Fm.uI (Fm.uI (Fm.uI ?_ (by decide)) (by decide)) (by decide)
        exact (Fm.refl.uI (by decide)).trans (hfm3.mono (by decide) (by decide))
      obtain ⟨t51, t52, t53⟩ := hR5.rl.tk
      simp only at t51 t52 t53
      have esum : nI (sumB fs) + nI v = nI (sumB (fs ++ [(tW L.1 s.1, v)])) := by rw [sumB_app, nI_add]
      have elen : (fs ++ [(tW L.1 s.1, v)]).length = fs.length + 1 := by simp
      have e4u5 : aI u5 4 s.2.1.length = nI (fs.length + 1) := by have := hD5.2.2.1; rw [elen] at this; exact this
      show (_ → _) ∧ (_ → _)
      rw [esum]
      refine ⟨fun z => ?_, fun z => ⟨_, rfl, h7, fun z2 => ?_, fun z2 => ?_⟩⟩
      · have n45 : ¬ tK L.1 (s.1 + 1 + 1 + 1) = 45 := fun q => z ((hR5.rl.is (k := 45) (by decide)).mpr q)
        refine g_Pars_declare_322 _ _ _ _ _ (WS.lw (by simp [Lw]) (hk (fs ++ [(tW L.1 s.1, v)]) (s.1 + 1 + 1 + 1, s.2) NT5 u5 (qa.trans (qb.trans (qc.trans ?_))) rfl hNT hD5 (by simp) hfm5))
        refine nrm_ok ?_ t52
        show pi (tK L.1 (s.1 + 1 + 1 + 1) = 45) _ _ _ = _
        unfold pi
        rw [if_neg n45]
        rfl
      · have y45 := (hR5.rl.is (k := 45) (by decide)).mp z
        simp only at y45
        rw [e4u5] at z2
        have hn0 : ¬ n = 0 := fun q => z2 (by rw [show fs.length + 1 = 6 by omega]; rfl)
        have es : pSep L.1 n (fs ++ [(tW L.1 s.1, v)]) (s.1 + 1 + 1 + 1, s.2) = (pb pn fun _ => pFl L.1 n (fs ++ [(tW L.1 s.1, v)])) (s.1 + 1 + 1 + 1, s.2) := by
          show pi (tK L.1 (s.1 + 1 + 1 + 1) = 45) _ _ _ = _
          unfold pi
          rw [if_pos y45, if_neg hn0]
        rw [es] at qc
        refine s_nextN hR5 (by show tK L.1 (s.1 + 1 + 1 + 1) ≠ 22; omega) (fun e u' q4 q5 => he e u' (qa.trans (qb.trans (qc.trans (nrm_l q4 (fun _ => sc_pFl _ _))))) q5) (fun NT6 u6 q4 hp6 hR6 hf6' => ?_)
        have qd := (nrm_r (g := fun _ => pFl L.1 n (fs ++ [(tW L.1 s.1, v)])) q4).1
        refine g_Pars_declare_322 _ _ _ _ _ (WS.lw (ls' := [some (.ref 36), some (.int x1), some (.int (nI s.2.1.length)), some (.int (nI (sumB (fs ++ [(tW L.1 s.1, v)])))), some (.int 1), none]) (by simp [Lw]) ?_)
        have hD6 : DR L NT6 (s.1 + 1 + 1 + 1 + 1, s.2) (fs ++ [(tW L.1 s.1, v)]) u6 := by
          obtain ⟨-, b2, b3, b4, b5⟩ := hD5
          exact ⟨hR6, b2, by simp only at b3 ⊢; rw [hf6'.1 4 (by decide)]; exact b3, b4.go hp6 (fun _ _ => by rw [hf6'.1 5 (by decide)]) (fun _ _ => by rw [hf6'.1 6 (by decide)]) (fun _ _ => by rw [hf6'.1 7 (by decide)]), b5⟩
        exact ih (fs ++ [(tW L.1 s.1, v)]) NT6 (s.1 + 1 + 1 + 1 + 1, s.2) u6 (by rw [elen]; omega) (by omega) hD6 (fun e u' q5 q6 => he e u' (qa.trans (qb.trans (qc.trans (qd.trans q5)))) q6) (fun fs' s' NT' u' q5 q6 q7 q8 q9 q10 => hk fs' s' NT' u' (qa.trans (qb.trans (qc.trans (qd.trans q5)))) q6 (hNT.trans (hp6.trans q7)) q8 q9 (hfm5.trans ((hf6'.mono (by decide) (by decide)).trans q10)))
      · have y45 := (hR5.rl.is (k := 45) (by decide)).mp z
        simp only at y45
        rw [e4u5] at z2
        have hn0 : n = 0 := by
          have := (nI_eq (b := 6) (by omega) (by decide)).mp z2
          omega
        refine hR5.rl.failW (fun u' h => he _ u' (qa.trans (qb.trans (qc.trans (nrm_err ?_)))) h)
        show pi (tK L.1 (s.1 + 1 + 1 + 1) = 45) _ _ _ = _
        unfold pi
        rw [if_pos y45, if_pos hn0]
        rfl
    show (_ → _) ∧ (_ → _)
    refine ⟨fun z => bad (fun q => z ((hR3.rl.is (k := 21) (by decide)).mpr q.1)) _, fun z => ?_⟩
    have k1 := (hR3.rl.is (k := 21) (by decide)).mp z
    simp only at k1
    rw [hval k1]
    refine ⟨fun z2 => bad (fun q => ?_) _, fun z2 => ⟨fun z3 => bad (fun q => ?_) _, fun z3 => ?_⟩⟩
    · have := (nI_ltI (b := 1) hV (by decide)).mp z2
      omega
    · have := (nI_ltI (a := 32) (by decide) hV).mp z3
      omega
    · have a1 : ¬ tV L.1 (s.1 + 1 + 1) < 1 := fun q => z2 ((nI_ltI (b := 1) hV (by decide)).mpr q)
      have a2 : ¬ 32 < tV L.1 (s.1 + 1 + 1) := fun q => z3 ((nI_ltI (a := 32) (by decide) hV).mpr q)
      rw [nI_add]
      refine ⟨fun z4 => ?_, fun z4 => bad (fun q => z4 ?_) _⟩
      · have := (nI_leI (b := 84) (by omega) (by decide)).mp z4
        exact ok k1 (by omega) (by omega) this
      · exact (nI_leI (b := 84) (by omega) (by decide)).mpr q.2.2.2
