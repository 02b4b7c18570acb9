-- the declaration of a kind
theorem RLn.upk {L : Lp} {NT : List Nm} {s : PS} {u : Us} {i j : Nat} {v : Int32} (h : RLn L NT s u) (hi : ((i = 3 ∨ i = 4) ∧ s.2.1.length ≤ j) ∨ ((i = 5 ∨ i = 6 ∨ i = 7) ∧ 6 * s.2.1.length ≤ j)) : RLn L NT s (uI u i j v) := by
  obtain ⟨h1, ⟨m1, m2, m3, m4, m5, m6, m7, m8, m9⟩, h3, h4, h5, h6⟩ := h
  have hlc : i ∈ LC := by
    simp only [LC, List.mem_cons]
    omega
  have ne : ∀ c q, (c = i → q ≠ j) → aI (uI u i j v) c q = aI u c q := by
    intro c q hq
    rw [rI]
    by_cases e : c = i
    · rw [if_pos e, if_neg (hq e)]
    · rw [if_neg e]
  refine ⟨h1.go (fun q a b => aI_uIc (by omega)) rfl, ⟨?_, ?_, m3.go m5 (List.prefix_refl _) (fun q hq => ne _ _ (by omega)) (fun q hq => ne _ _ (by omega)) (fun q hq => ne _ _ (by omega)) (fun q hq => ne _ _ (by omega)) (fun q hq => ne _ _ (by omega)), m4.go (List.prefix_refl _) (fun q hq => ne _ _ (by omega)), m5, m6, m7, m8, ?_⟩, h3, h4.uI hlc, h5, h6⟩
  · rw [ne 2 7 (by omega)]; exact m1
  · rw [ne 2 8 (by omega)]; exact m2
  · refine ⟨fun q hq => ?_, fun q a b => ?_⟩
    · rw [ne 9 q (by omega)]; exact m9.1 q hq
    · rw [ne 9 q (by omega)]; exact m9.2 q a b
def fwf (fs : Fs) : Prop := fs.length ≤ 6 ∧ sumB fs ≤ 84 ∧ ∀ g b, (g, b) ∈ fs → 1 ≤ b ∧ b ≤ 32
theorem sumB_app (fs : Fs) (g : Nm) (b : Nat) : sumB (fs ++ [(g, b)]) = sumB fs + b := by simp [sumB]
/-- a kind is being declared: its fields so far -/
def DR (L : Lp) (NT : List Nm) (s : PS) (fs : Fs) (u : Us) : Prop := RLn L NT s u ∧ s.2.1.length < 7 ∧ aI u 4 s.2.1.length = nI fs.length ∧ flA fs s.2.1.length NT u ∧ fwf fs
theorem RLn.rl {L : Lp} {NT : List Nm} {s : PS} {u : Us} (h : RLn L NT s u) : RL L s u := ⟨NT, h⟩
theorem RLn.nt {L : Lp} {NT : List Nm} {s : PS} {u : Us} (h : RLn L NT s u) : NT.length < 240 := RL.nt h.1 h.2.2.1
theorem pFresh_t {bs : List Nat} {ok : PS → Bool} {s : PS} (h : tK bs s.1 = 20 ∧ ok s = true) : pFresh bs ok s = .inr (tW bs s.1, s.1 + 1, s.2) := by unfold pFresh; rw [if_pos h]
theorem pFresh_f {bs : List Nat} {ok : PS → Bool} {s : PS} (h : ¬ (tK bs s.1 = 20 ∧ ok s = true)) : pFresh bs ok s = .inl s.1 := by unfold pFresh; rw [if_neg h]
def pSep (bs : List Nat) (n : Nat) (fs : Fs) : Pr Fs := pk bs fun x => pi (x = 45) (pi (n = 0) pe (pb pn fun _ => pFl bs n fs)) (pr fs)
theorem sc_pSep {bs : List Nat} {n : Nat} {fs : Fs} : Sc bs (pSep bs n fs) := sc_pk fun x hx => sc_pi (by omega) (sc_pr _)
theorem s_fields {L : Lp} {d : Nat} {Q : Ot → Us → Prop} {x1 : Int32} : ∀ (n : Nat) (fs : Fs) (NT : List Nm) (s : PS) (u : Us), fs.length + n = 6 → 1 ≤ n → DR L NT s fs u →
    (∀ e u', nrm L.1 (pFl L.1 n fs s) = .inl e → FlP L e u' → Q (.inr 2) u') →
    (∀ fs' s' NT' u', nrm L.1 (pFl L.1 n fs s) = .inr (fs', s') → s'.2 = s.2 → NT <+: NT' → DR L NT' s' fs' u' → 1 ≤ fs'.length → Fm [4, 5, 6, 7, 10, 12] [13] u u' → WS (d + 7) m_Pars_declare 76 [some (.ref 36), some (.int x1), some (.int (nI s.2.1.length)), some (.int (nI (sumB fs'))), some (.int 0), none] [] u' Q) →
    WS (d + 7) m_Pars_declare 76 [some (.ref 36), some (.int x1), some (.int (nI s.2.1.length)), some (.int (nI (sumB fs))), some (.int 1), none] [] u Q := by
  intro n
  induction n with
  | zero => intro fs NT s u h1 h2; omega
  | succ n ih =>
    intro fs NT s u hn _ hD he hk
    obtain ⟨hR, h7, h4, hfl, hfw⟩ := id hD
    obtain ⟨t1, t2, t3⟩ := hR.rl.tk
    have hf6 := hfw.1
    have ep : ∀ s', pFl L.1 (n + 1) fs s' = (pb (pFresh L.1 (fun s => (fOf fs (tW L.1 s.1)).isNone)) fun g => pb (pt L.1 47) fun _ => pb (pBits L.1 (sumB fs)) fun v => pSep L.1 n (fs ++ [(g, v)])) s' := fun _ => rfl
    rw [ep] at he hk
    have sc3 : ∀ g : Nm, Sc L.1 (pb (pBits L.1 (sumB fs)) fun v => pSep L.1 n (fs ++ [(g, v)])) := fun g => sc_pb (sc_pBits _) fun _ => sc_pSep
    have sc2 : ∀ g : Nm, Sc L.1 (pb (pt L.1 47) fun _ => pb (pBits L.1 (sumB fs)) fun v => pSep L.1 n (fs ++ [(g, v)])) := fun g => sc_pb (sc_pt _ (by decide)) fun _ => sc3 g
    refine g_Pars_declare_76 _ _ _ _ ⟨fun z => absurd z (by decide), fun _ => ?_⟩
    refine s_name hR.rl (fun n20 u' h => he s.1 u' (nrm_l (nrm_err (pFresh_f (fun q => n20 q.1))) sc2) h) (fun h20 => ?_)
    have hv := hR.1.2.2.2.2.2.2.1 h20
    rw [hv.2]
    refine s_fieldOf hfl h4 h7 hf6 hv.1 hR.nt ⟨fun z => ?_, fun z => ?_⟩
    rotate_left
    · cases hfo : fOf fs (tW L.1 s.1) with
      | none => rw [hfo] at z; exact absurd (show (-1 : Int32) < 0 by decide) z
      | some f => exact hR.rl.failW (fun u' h => he s.1 u' (nrm_l (nrm_err (pFresh_f (fun q => by have := q.2; simp [hfo] at this))) sc2) h)
    have hno : fOf fs (tW L.1 s.1) = none := by
      cases hfo : fOf fs (tW L.1 s.1) with
      | none => rfl
      | some f =>
        rw [hfo] at z
        have := fOf_lt hfo
        exact absurd z (nI_pos (n := 6 * s.2.1.length + f) (by omega))
    have hp := pFresh_t (bs := L.1) (ok := fun s => (fOf fs (tW L.1 s.1)).isNone) (s := s) ⟨h20, by simp [hno]⟩
    have ei : nI s.2.1.length * 6 + nI fs.length = nI (6 * s.2.1.length + fs.length) := by
      have : nI s.2.1.length * 6 = nI (s.2.1.length * 6) := pk_mul _ 6
      rw [this, nI_add, Nat.mul_comm]
    refine g_Pars_declare_103 _ _ _ _ ⟨s.2.1.length, rfl, h7, 6 * s.2.1.length + fs.length, by rw [h4]; exact ei, by omega, ?_⟩
    rw [hv.2, h4, ei]
    have hR1 : RLn L NT s (uI u 5 (6 * s.2.1.length + fs.length) (nI (NT.idxOf (tW L.1 s.1)))) := hR.upk (.inr ⟨.inl rfl, by omega⟩)
    refine s_nextN hR1 (by omega) (fun e u' q1 q2 => he e u' (nrm_l (nrm_if hp q1 rfl) sc2) q2) (fun NT2 u2 q1 hp2 hR2 hf2 => ?_)
    have qa := (nrm_r (g := fun g => pb (pt L.1 47) fun _ => pb (pBits L.1 (sumB fs)) fun v => pSep L.1 n (fs ++ [(g, v)])) (nrm_if' hp q1 rfl)).1
    sorry
