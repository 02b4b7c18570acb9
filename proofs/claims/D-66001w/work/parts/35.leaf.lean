-- the parser's small steps
theorem pt_eq {bs : List Nat} {k : Nat} {s : PS} : pt bs k s = if tK bs s.1 = k then .inr ((), s.1 + 1, s.2) else .inl s.1 := by
  show (if tK bs s.1 = k then pn else pe) s = _
  by_cases h : tK bs s.1 = k
  · rw [if_pos h, if_pos h]; rfl
  · rw [if_neg h, if_neg h]; rfl
theorem pOpen_eq {bs : List Nat} {b k : Nat} {s : PS} : pOpen bs b k s = if tK bs s.1 = k ∧ 0 < b then .inr ((), s.1 + 1, s.2) else .inl s.1 := by
  show (if tK bs s.1 = k ∧ 0 < b then pn else pe) s = _
  by_cases h : tK bs s.1 = k ∧ 0 < b
  · rw [if_pos h, if_pos h]; rfl
  · rw [if_neg h, if_neg h]; rfl
theorem nrm_if {α : Type} {bs : List Nat} {f : Pr α} {s s' : PS} {a : α} (h : f s = .inr (a, s')) {e : Nat} {s2 : PS} (hp : nrm bs (pn s2) = .inl e) (es : s' = (s2.1 + 1, s2.2)) : nrm bs (f s) = .inl e := by
  rw [h, es]
  unfold nrm pn at hp
  unfold nrm
  simp only at hp ⊢
  by_cases hb : 90 ≤ tK bs (s2.1 + 1)
  · rw [if_pos hb] at hp ⊢
    injection hp with hp
    rw [hp]
  · rw [if_neg hb] at hp
    cases hp
theorem nrm_if' {α : Type} {bs : List Nat} {f : Pr α} {s s' : PS} {a : α} (h : f s = .inr (a, s')) {s2 : PS} (hp : nrm bs (pn s2) = .inr ((), s2.1 + 1, s2.2)) (es : s'.1 = s2.1 + 1) : nrm bs (f s) = .inr (a, s') := by
  rw [h]
  unfold nrm pn at hp
  unfold nrm
  simp only at hp ⊢
  by_cases hb : 90 ≤ tK bs (s2.1 + 1)
  · rw [if_pos hb] at hp
    cases hp
  · rw [es, if_neg hb]
section LEAF
variable {L : Lp} {s : PS} {u : Us} {d : Nat} {Q : Ot → Us → Prop}
theorem RL.tk (h : RL L s u) : aI u 10 5 = nI (tK L.1 s.1) ∧ tK L.1 s.1 < 90 ∧ s.1 ≤ 150 := by
  obtain ⟨NT, h1, -⟩ := h
  exact ⟨h1.2.2.2.2.2.1, h1.2.1, h1.2.2.1⟩
theorem RL.is (h : RL L s u) {k : Nat} (hk : k < 90) : aI u 10 5 = nI k ↔ tK L.1 s.1 = k := by
  obtain ⟨h1, h2, -⟩ := h.tk
  rw [h1]
  exact nI_eq (by omega) (by omega)
theorem s_take (a : Int32) {k : Nat} (ea : a = nI k) (hk90 : k < 90) (h22 : k ≠ 22) (hR : RL L s u) (he : ∀ e u', nrm L.1 (pt L.1 k s) = .inl e → FlP L e u' → Q (.inr 2) u')
    (hk : ∀ u', nrm L.1 (pt L.1 k s) = .inr ((), s.1 + 1, s.2) → RL L (s.1 + 1, s.2) u' → Fm [10, 12] [13] u u' → Q (.inl none) u') : WS (d + 6) m_Pars_take 0 [some (.ref 36), some (.int a)] [] u Q := by
  subst ea
  refine g_Pars_take_0 _ ⟨fun z => ?_, fun z => ?_⟩
  · have e := (hR.is hk90).mp z
    have hp : pt L.1 k s = .inr ((), s.1 + 1, s.2) := by rw [pt_eq, if_pos e]
    exact s_nextR hR (by omega) (fun e' u' h1 h2 => he e' u' (nrm_if hp h1 rfl) h2) (fun u' h1 h2 h3 => hk u' (nrm_if' hp h1 rfl) h2 h3)
  · have e := fun q => z ((hR.is hk90).mpr q)
    exact hR.failW (fun u' h => he s.1 u' (nrm_err (by rw [pt_eq, if_neg e])) h)
theorem s_name (hR : RL L s u) (he : tK L.1 s.1 ≠ 20 → ∀ u', FlP L s.1 u' → Q (.inr 2) u') (hk : tK L.1 s.1 = 20 → Q (.inl (some (.int (aI u 10 6)))) u) : WS (d + 1) m_Pars_name 0 [some (.ref 36)] [] u Q := by
  refine g_Pars_name_0 ⟨fun z => hk ((hR.is (k := 20) (by decide)).mp z), fun z => hR.failW (fun u' h => he (fun q => z ((hR.is (k := 20) (by decide)).mpr q)) u' h)⟩
theorem oI_pos {o : Option Nat} (h : ∀ k, o = some k → k < 2 ^ 31) : 0 ≤ oI o ↔ o.isSome = true := by
  cases o with
  | none => exact ⟨fun z => absurd z (by decide), fun z => by cases z⟩
  | some k => exact ⟨fun _ => rfl, fun _ => nI_pos' (h k rfl)⟩
theorem kOf_lt {kd : Kt} {w : Nm} {k : Nat} (h : kOf kd w = some k) : k < kd.length := (List.findIdx?_eq_some_iff_getElem.mp h).1
theorem fOf_lt {fs : Fs} {w : Nm} {k : Nat} (h : fOf fs w = some k) : k < fs.length := (List.findIdx?_eq_some_iff_getElem.mp h).1
theorem vOf_lt {vr : List Nm} {w : Nm} {k : Nat} (h : vOf vr w = some k) : k < vr.length := (List.findIdx?_eq_some_iff_getElem.mp h).1
theorem s_kind (hR : RL L s u) (he : ∀ e u', nrm L.1 (pKind L.1 s) = .inl e → FlP L e u' → Q (.inr 2) u')
    (hk : ∀ k u', nrm L.1 (pKind L.1 s) = .inr (k, s.1 + 1, s.2) → k < s.2.1.length → RL L (s.1 + 1, s.2) u' → Fm [10, 12] [13] u u' → Q (.inl (some (.int (nI k)))) u') : WS (d + 6) m_Pars_kind 0 [some (.ref 36), none] [] u Q := by
  refine g_Pars_kind_0 ⟨fun z => ?_, fun z => ?_⟩
  · have e : ¬ tK L.1 s.1 = 20 := fun q => z ((hR.is (k := 20) (by decide)).mpr q)
    exact hR.failW (fun u' h => he s.1 u' (nrm_err (by simp only [pKind, po, if_neg e])) h)
  · have e := (hR.is (k := 20) (by decide)).mp z
    obtain ⟨NT, h1, h2, h3, -⟩ := id hR
    have hv := h1.2.2.2.2.2.2.1 e
    have h7 := h2.2.2.2.2.1.1
    rw [hv.2]
    refine s_kindOf h2.2.2.1 h2.1 h7 hv.1 (RL.nt h1 h3) ⟨fun z => ?_, fun z => ?_⟩
    · cases hko : kOf s.2.1 (tW L.1 s.1) with
      | none => rw [hko] at z; exact absurd z (show ¬ (0 : Int32) ≤ -1 by decide)
      | some k =>
        have hp : pKind L.1 s = .inr (k, s.1 + 1, s.2) := by simp only [pKind, po, if_pos e, hko]
        exact s_nextR hR (by omega) (fun e' u' h1 h2 => he e' u' (nrm_if hp h1 rfl) h2) (fun u' h1 h2 h3 => hk k u' (nrm_if' hp h1 rfl) (kOf_lt hko) h2 h3)
    · cases hko : kOf s.2.1 (tW L.1 s.1) with
      | none => exact hR.failW (fun u' h => he s.1 u' (nrm_err (by simp only [pKind, po, if_pos e, hko])) h)
      | some k =>
        rw [hko] at z
        have := kOf_lt hko
        exact absurd (nI_pos' (by omega)) z
theorem fs_at {kd : Kt} {k : Nat} (h : k < kd.length) : ∃ nm, kd[k]? = some (nm, fsOf kd k) ∧ (nm, fsOf kd k) ∈ kd := by
  have e := List.getElem?_eq_getElem h
  refine ⟨kd[k].1, ?_, ?_⟩
  · simp only [fsOf, e]
  · have : (kd[k].1, fsOf kd k) = kd[k] := by simp only [fsOf, e]
    rw [this]
    exact List.getElem_mem h
theorem s_field (a : Int32) {k : Nat} (ea : a = nI k) (hkl : k < s.2.1.length) (hR : RL L s u) (he : ∀ e u', nrm L.1 (pField L.1 k s) = .inl e → FlP L e u' → Q (.inr 2) u')
    (hk : ∀ f u', nrm L.1 (pField L.1 k s) = .inr (f, s.1 + 1, s.2) → f < (fsOf s.2.1 k).length → RL L (s.1 + 1, s.2) u' → Fm [10, 12] [13] u u' → Q (.inl (some (.int (nI (6 * k + f))))) u') : WS (d + 6) m_Pars_field 0 [some (.ref 36), some (.int a), none] [] u Q := by
  subst ea
  refine g_Pars_field_0 _ (s_name hR (fun e u' h => he s.1 u' (nrm_err (by simp only [pField, po, if_neg e])) h) (fun e => ?_))
  obtain ⟨NT, h1, h2, h3, -⟩ := id hR
  have hv := h1.2.2.2.2.2.2.1 e
  have h7 := h2.2.2.2.2.1.1
  obtain ⟨nm, g1, g2⟩ := fs_at hkl
  have h6 := (h2.2.2.2.2.1.2 _ _ g2).2.1
  obtain ⟨-, -, k3, k4⟩ := h2.2.2.1 k _ _ g1
  rw [hv.2]
  refine s_fieldOf k4 k3 (by omega) h6 hv.1 (RL.nt h1 h3) ⟨fun z => ?_, fun z => ?_⟩
  · cases hko : fOf (fsOf s.2.1 k) (tW L.1 s.1) with
    | none => rw [hko] at z; exact absurd z (show ¬ (0 : Int32) ≤ -1 by decide)
    | some f =>
      have hp : pField L.1 k s = .inr (f, s.1 + 1, s.2) := by simp only [pField, po, if_pos e, hko]
      exact s_nextR hR (by omega) (fun e' u' h1 h2 => he e' u' (nrm_if hp h1 rfl) h2) (fun u' h1 h2 h3 => hk f u' (nrm_if' hp h1 rfl) (fOf_lt hko) h2 h3)
  · cases hko : fOf (fsOf s.2.1 k) (tW L.1 s.1) with
    | none => exact hR.failW (fun u' h => he s.1 u' (nrm_err (by simp only [pField, po, if_pos e, hko])) h)
    | some f =>
      rw [hko] at z
      have := fOf_lt hko
      exact absurd (nI_pos' (n := 6 * k + f) (by omega)) z
-- brackets, cursors
def cuR : List Nat → Us → Prop
  | [], _ => True
  | c :: r, u => c < 7 ∧ aI u 37 r.length = nI c ∧ cuR r u
theorem cuR.go {cu : List Nat} {u u' : Us} (h : cuR cu u) (e : aI u' 37 = aI u 37) : cuR cu u' := by
  induction cu with
  | nil => trivial
  | cons c r ih => exact ⟨h.1, by rw [e]; exact h.2.1, ih h.2.2⟩
def pX (cu : List Nat) (wi : Option Nat) (b : Nat) (u : Us) : Prop := aI u 36 6 = nI (10 - b) ∧ b ≤ 10 ∧ aI u 36 5 = nI cu.length ∧ cu.length + b ≤ 10 ∧ cuR cu u ∧ aI u 36 7 = oI wi
theorem pX.go {cu : List Nat} {wi : Option Nat} {b : Nat} {u u' : Us} (h : pX cu wi b u) (e : aI u' 36 = aI u 36) (e2 : aI u' 37 = aI u 37) : pX cu wi b u' := by
  obtain ⟨h1, h2, h3, h4, h5, h6⟩ := h
  exact ⟨by rw [e]; exact h1, h2, by rw [e]; exact h3, h4, h5.go e2, by rw [e]; exact h6⟩
theorem pX.fm {cu : List Nat} {wi : Option Nat} {b : Nat} {u u' : Us} (h : pX cu wi b u) {li ll : List Nat} (f : Fm li ll u u') (h1 : 36 ∉ li) (h2 : 37 ∉ li) : pX cu wi b u' := h.go (f.1 36 h1) (f.1 37 h2)
theorem s_opens (a : Int32) {k b : Nat} {cu : List Nat} {wi : Option Nat} (ea : a = nI k) (hk90 : k < 90) (h22 : k ≠ 22) (hR : RL L s u) (hX : pX cu wi b u) (he : ∀ e u', nrm L.1 (pOpen L.1 b k s) = .inl e → FlP L e u' → Q (.inr 2) u')
    (hk : ∀ u', nrm L.1 (pOpen L.1 b k s) = .inr ((), s.1 + 1, s.2) → 0 < b → RL L (s.1 + 1, s.2) u' → pX cu wi (b - 1) u' → Fm [10, 12, 36] [13] u u' → Q (.inl none) u') : WS (d + 7) m_Pars_opens 0 [some (.ref 36), some (.int a)] [] u Q := by
  subst ea
  obtain ⟨x1, x2, x3, x4, x5, x6⟩ := id hX
  have hR' : RL L s (uI u 36 6 (nI (10 - b) + 1)) := hR.up (by decide)
  refine g_Pars_opens_0 _ ⟨fun z => ?_, fun z => ⟨fun z2 => ?_, fun z2 => ?_⟩⟩
  · have e : ¬ tK L.1 s.1 = k := fun q => z ((hR.is hk90).mpr q)
    rw [x1]
    refine s_take _ rfl hk90 h22 hR' (fun e' u' h1 h2 => he e' u' ?_ h2) (fun u' h1 _ _ => ?_)
    · rw [pt_eq, if_neg e] at h1
      rw [pOpen_eq, if_neg (fun q => e q.1)]
      exact h1
    · rw [pt_eq, if_neg e] at h1
      cases h1
  · have e := (hR.is hk90).mp z
    have hb : 0 < b := by
      rcases Nat.eq_zero_or_pos b with h | h
      · subst h
        exact absurd x1 z2
      · exact h
    rw [x1]
    refine s_take _ rfl hk90 h22 hR' (fun e' u' h1 h2 => he e' u' ?_ h2) (fun u' h1 h2 h3 => hk u' ?_ hb h2 ?_ ?_)
    · rw [pt_eq, if_pos e] at h1
      rw [pOpen_eq, if_pos ⟨e, hb⟩]
      exact h1
    · rw [pt_eq, if_pos e] at h1
      rw [pOpen_eq, if_pos ⟨e, hb⟩]
      exact h1
    · refine ⟨?_, by omega, ?_, by omega, x5.go ?_, ?_⟩
      · rw [h3.1 36 (by decide), aI_uI, nI_1]
        congr 1
        omega
      · rw [h3.1 36 (by decide), aI_uIk (by decide)]; exact x3
      · rw [h3.1 37 (by decide), aI_uIc (by decide)]
      · rw [h3.1 36 (by decide), aI_uIk (by decide)]; exact x6
    · exact (Fm.refl.uI (by decide)).trans (h3.mono (by decide) (by decide))
  · have hb : b = 0 := by
      rw [x1] at z2
      have := (nI_eq (a := 10 - b) (b := 10) (by omega) (by decide)).mp z2
      omega
    exact hR.failW (fun u' h => he s.1 u' (nrm_err (by rw [pOpen_eq, if_neg (fun q => by omega)])) h)
theorem s_shuts (a : Int32) {k b : Nat} {cu : List Nat} {wi : Option Nat} (ea : a = nI k) (hk90 : k < 90) (h22 : k ≠ 22) (hR : RL L s u) (hX : pX cu wi b u) (hb : cu.length + b < 10) (he : ∀ e u', nrm L.1 (pt L.1 k s) = .inl e → FlP L e u' → Q (.inr 2) u')
    (hk : ∀ u', nrm L.1 (pt L.1 k s) = .inr ((), s.1 + 1, s.2) → RL L (s.1 + 1, s.2) u' → pX cu wi (b + 1) u' → Fm [10, 12, 36] [13] u u' → Q (.inl none) u') : WS (d + 7) m_Pars_shuts 0 [some (.ref 36), some (.int a)] [] u Q := by
  subst ea
  obtain ⟨x1, x2, x3, x4, x5, x6⟩ := id hX
  refine g_Pars_shuts_0 _ ?_
  refine s_take _ rfl hk90 h22 (hR.up (by decide)) he (fun u' h1 h2 h3 => hk u' h1 h2 ?_ ((Fm.refl.uI (by decide)).trans (h3.mono (by decide) (by decide))))
  refine ⟨?_, by omega, ?_, by omega, x5.go ?_, ?_⟩
  · rw [h3.1 36 (by decide), aI_uI, x1, nI_pred' (by omega)]
    congr 1
  · rw [h3.1 36 (by decide), aI_uIk (by decide)]; exact x3
  · rw [h3.1 37 (by decide), aI_uIc (by decide)]
  · rw [h3.1 36 (by decide), aI_uIk (by decide)]; exact x6
theorem lvOf_lt {k c : Nat} : ∀ {cu : List Nat}, lvOf cu k = some c → c < cu.length ∧ k ∈ cu
  | [], h => by cases h
  | x :: r, h => by
    unfold lvOf at h
    by_cases e : x = k
    · rw [if_pos e] at h
      injection h with h
      subst h
      exact ⟨by simp, by rw [e]; exact List.mem_cons_self⟩
    · rw [if_neg e] at h
      have := lvOf_lt h
      exact ⟨by simp only [List.length_cons]; omega, List.mem_cons_of_mem _ this.2⟩
theorem lvOf_at {k c : Nat} {u : Us} : ∀ {cu : List Nat}, cuR cu u → lvOf cu k = some c → aI u 37 c = nI k
  | [], _, h => by cases h
  | x :: r, hc, h => by
    unfold lvOf at h
    by_cases e : x = k
    · rw [if_pos e] at h
      injection h with h
      subst h
      rw [← e]
      exact hc.2.1
    · rw [if_neg e] at h
      exact lvOf_at hc.2.2 h
theorem s_cursor {b : Nat} {cu : List Nat} {wi : Option Nat} (hR : RL L s u) (hX : pX cu wi b u) (he : ∀ e u', nrm L.1 (pCur L.1 cu s) = .inl e → FlP L e u' → Q (.inr 2) u')
    (hk : ∀ c k u', nrm L.1 (pCur L.1 cu s) = .inr ((c, k), s.1 + 1, s.2) → c < cu.length → k < s.2.1.length → aI u 37 c = nI k → RL L (s.1 + 1, s.2) u' → Fm [10, 12] [13] u u' → Q (.inl (some (.int (nI c)))) u') : WS (d + 6) m_Pars_cursor 0 [some (.ref 36), none, none] [] u Q := by
  obtain ⟨x1, x2, x3, x4, x5, x6⟩ := id hX
  refine g_Pars_cursor_0 (s_name hR (fun e u' h => he s.1 u' (nrm_err (by simp only [pCur, if_neg e])) h) (fun e => ?_))
  obtain ⟨NT, h1, h2, h3, -⟩ := id hR
  have hv := h1.2.2.2.2.2.2.1 e
  have h7 := h2.2.2.2.2.1.1
  rw [hv.2]
  refine s_kindOf h2.2.2.1 h2.1 h7 hv.1 (RL.nt h1 h3) ?_
  show WS (d + 6) m_Pars_cursor 19 [some (.ref 36), some (.int (oI (kOf s.2.1 (tW L.1 s.1)))), some (.int (aI u 36 5 - 1))] [] u Q
  rw [x3]
  have hkl : ∀ k, kOf s.2.1 (tW L.1 s.1) = some k → k < 7 := fun k hk => Nat.lt_of_lt_of_le (kOf_lt hk) h7
  have loop : ∀ (c : List Nat), cuR c u → c.length ≤ 10 → (∀ k, kOf s.2.1 (tW L.1 s.1) = some k → lvOf cu k = lvOf c k) → WS (d + 6) m_Pars_cursor 19 [some (.ref 36), some (.int (oI (kOf s.2.1 (tW L.1 s.1)))), some (.int (nI c.length - 1))] [] u Q := by
    intro c
    induction c with
    | nil =>
      intro _ _ hlv
      refine g_Pars_cursor_19 _ _ ⟨fun _ => ⟨fun z => ?_, fun z => ⟨fun z2 => absurd z2 (by decide), fun _ => ?_⟩⟩, fun z => absurd (by decide : nI ([] : List Nat).length - 1 < 0) z⟩
      · refine hR.failW (fun u' h => he s.1 u' (nrm_err ?_) h)
        cases hko : kOf s.2.1 (tW L.1 s.1) with
        | none => simp only [pCur, if_pos e, hko]
        | some k => rw [hko] at z; exact absurd z (nI_pos (by have := hkl k hko; omega))
      · refine hR.failW (fun u' h => he s.1 u' (nrm_err ?_) h)
        cases hko : kOf s.2.1 (tW L.1 s.1) with
        | none => simp only [pCur, if_pos e, hko]
        | some k =>
          have := hlv k hko
          simp only [pCur, if_pos e, hko, this, lvOf]
    | cons x r ih =>
      intro hc hl hlv
      rw [List.length_cons, nI_pred]
      have hl' : r.length < 10 := by simp only [List.length_cons] at hl; omega
      refine g_Pars_cursor_19 _ _ ⟨fun z => absurd z (nI_pos (by omega)), fun _ => ⟨r.length, rfl, hl', fun heq => ⟨fun z => ?_, fun z => ⟨fun _ => ?_, fun z2 => absurd (nI_pos' (by omega)) z2⟩⟩, fun hne => ?_⟩⟩
      · rw [hc.2.1] at heq
        rw [← heq] at z
        exact absurd z (nI_pos (by have := hc.1; omega))
      · rw [hc.2.1] at heq
        cases hko : kOf s.2.1 (tW L.1 s.1) with
        | none => rw [hko] at heq; exact absurd heq (m1_ne' (by have := hc.1; omega))
        | some k =>
          rw [hko] at heq
          have hxk : x = k := (nI_eq (by have := hc.1; omega) (by have := hkl k hko; omega)).mp heq
          have hlc : lvOf cu k = some r.length := by rw [hlv k hko]; simp only [lvOf, if_pos hxk]
          have hp : pCur L.1 cu s = .inr ((r.length, k), s.1 + 1, s.2) := by simp only [pCur, if_pos e, hko, hlc]
          exact s_nextR hR (by omega) (fun e' u' h1 h2 => he e' u' (nrm_if hp h1 rfl) h2) (fun u' h1 h2 h3 => hk _ k u' (nrm_if' hp h1 rfl) (lvOf_lt hlc).1 (kOf_lt hko) (lvOf_at x5 hlc) h2 h3)
      · have e1 : nI r.length + (-1) = nI r.length - 1 := by rw [Int32.sub_eq_add_neg]
        rw [e1]
        refine ih hc.2.2 (by omega) (fun k hko => ?_)
        rw [hlv k hko]
        have hxk : ¬ x = k := fun q => hne (by rw [hc.2.1, hko, q]; rfl)
        simp only [lvOf, if_neg hxk]
  exact loop cu x5 (by omega) (fun _ _ => rfl)
theorem s_variable (hR : RL L s u) (h20 : tK L.1 s.1 = 20) (he : ∀ e u', nrm L.1 (pVar L.1 s) = .inl e → FlP L e u' → Q (.inr 2) u')
    (hk : ∀ v s' u', nrm L.1 (pVar L.1 s) = .inr (v, s') → v < s'.2.2.length → RL L s' u' → Fm [2, 8, 9, 10, 12] [13] u u' → Q (.inl (some (.int (nI v)))) u') : WS (d + 6) m_Pars_variable 0 [some (.ref 36), none] [] u Q := by
  obtain ⟨NT, h1, h2, h3, h4, h5, h6⟩ := id hR
  have hv := h1.2.2.2.2.2.2.1 h20
  have h20l := h2.2.2.2.2.2.1
  refine g_Pars_variable_0 ?_
  rw [hv.2]
  refine s_varOf h2.2.2.2.1 h2.2.1 h20l hv.1 (RL.nt h1 h3) ?_
  cases hvo : vOf s.2.2 (tW L.1 s.1) with
  | some v =>
    have hvl := vOf_lt hvo
    have hpos : 0 ≤ oI (some v) := nI_pos' (by omega)
    have hp : pVar L.1 s = .inr (v, s.1 + 1, s.2) := by simp only [pVar, hvo]
    refine ⟨fun _ => ⟨fun _ => ?_, fun z => absurd hpos z⟩, fun z => absurd hpos z⟩
    exact s_nextR hR (by omega) (fun e' u' h1 h2 => he e' u' (nrm_if hp h1 rfl) h2) (fun u' h1 h2 h3 => hk v _ u' (nrm_if' hp h1 rfl) hvl h2 (h3.mono (by decide) (by decide)))
  | none =>
    have hneg : ¬ 0 ≤ oI none := by decide
    refine ⟨fun z => absurd z hneg, fun _ => ⟨fun z => ⟨fun z2 => absurd z2 hneg, fun _ => ?_⟩, fun z => ?_⟩⟩
    · have hlt : s.2.2.length < 20 := by
        rcases Nat.lt_or_ge s.2.2.length 20 with h | h
        · exact h
        · exact absurd (by rw [h2.2.1, show s.2.2.length = 20 by omega]; rfl) z
      have hp : pVar L.1 s = .inr (s.2.2.length, s.1 + 1, s.2.1, s.2.2 ++ [tW L.1 s.1]) := by simp only [pVar, hvo]; rw [if_neg (by omega)]
      refine ⟨s.2.2.length, h2.2.1, hlt, s.2.2.length, h2.2.1, hlt, ?_⟩
      have hR' : RL L (s.1, s.2.1, s.2.2 ++ [tW L.1 s.1]) (uI (uI (uI u 2 8 (aI u 2 8 + 1)) 8 s.2.2.length (aI u 10 6)) 9 s.2.2.length 0) := by
        refine ⟨NT, h1.go (fun i a b => ?_) rfl, ⟨?_, ?_, ?_, ?_, h2.2.2.2.2.1, by simp; omega, h2.2.2.2.2.2.2.1, h2.2.2.2.2.2.2.2.1.trans (List.prefix_append _ _), ?_, ?_⟩, h3, ((h4.uI (by decide)).uI (by decide)).uI (by decide), h5, h6⟩
        · rw [aI_uIc (by omega), aI_uIc (by omega), aI_uIc (by omega)]
        · simpa [rI] using h2.1
        · simp [rI, h2.2.1, nI_1]
        · exact h2.2.2.1.go h2.2.2.2.2.1 (List.prefix_refl _) (fun _ _ => by simp [rI]) (fun _ _ => by simp [rI]) (fun _ _ => by simp [rI]) (fun _ _ => by simp [rI]) (fun _ _ => by simp [rI])
        · intro v nm hv'
          by_cases hlt2 : v < s.2.2.length
          · simp only at hv'
            rw [List.getElem?_append_left hlt2] at hv'
            have := h2.2.2.2.1 v nm hv'
            refine ⟨this.1, ?_⟩
            simp [rI, show ¬ v = s.2.2.length by omega, this.2]
          · simp only at hv'
            rw [List.getElem?_append_right (by omega)] at hv'
            have hvl : v - s.2.2.length < 1 := by simpa using (List.getElem?_eq_some_iff.mp hv').1
            have hve : v = s.2.2.length := by omega
            subst hve
            simp at hv'
            subst hv'
            refine ⟨hv.1, ?_⟩
            simp [rI, hv.2]
        · intro v hvl
          have := h2.2.2.2.2.2.2.2.1.length_le
          simp [rI, show ¬ v = s.2.2.length by omega]
          exact h2.2.2.2.2.2.2.2.2.1 v hvl
        · intro v hv1 hv2
          by_cases hve : v = s.2.2.length
          · simp [rI, hve]
          · simp [rI, hve]
            exact h2.2.2.2.2.2.2.2.2.2 v hv1 (by simp at hv2; omega)
      refine s_nextR hR' (by show tK L.1 s.1 ≠ 22; omega) (fun e' u' q1 q2 => he e' u' (nrm_if hp q1 rfl) q2) (fun u' q1 q2 q3 => ?_)
      show Q (.inl (some (.int (aI u 2 8)))) u'
      rw [h2.2.1]
      refine hk _ _ u' (nrm_if' hp q1 rfl) (by simp) q2 ?_
      exact (((Fm.refl.uI (by decide)).uI (by decide)).uI (by decide)).trans (q3.mono (by decide) (by decide))
    · have hp : pVar L.1 s = .inl s.1 := by
        simp only [pVar, hvo]
        rw [h2.2.1] at z
        rw [if_pos ((nI_eq (b := 20) (by omega) (by decide)).mp z)]
      exact hR.failW (fun u' h => he s.1 u' (nrm_err hp) h)
end LEAF
