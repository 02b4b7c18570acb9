-- the component's code of an expression
def iF (i : List So) : List (Nat × Nat) := i.flatMap cS
def csO (o : EO) : Nat := if o.1.1 = 56 then (iF o.2).length + 2 else (cS o.1).length
def csz (e : Ex) : Nat := (e.map csO).sum
def agO (o : EO) : Nat := if o.1.1 = 56 then 1 else 0
def nag (e : Ex) : Nat := (e.map agO).sum
def cO (o : EO) (c a : Nat) : List (Nat × Nat) := if o.1.1 = 56 then (55, c + 1 + (iF o.2).length) :: (iF o.2 ++ [(56, a)]) else cS o.1
abbrev Ag : Type := Nat × Nat × Nat × Nat × Nat
def aO (o : EO) (c : Nat) : List Ag := if o.1.1 = 56 then [(o.1.2.1, o.1.2.2.1, (if o.1.2.1 = 16 then 0 else 6 * o.1.2.2.1 + o.1.2.2.2), c + 1, c + 1 + (iF o.2).length)] else []
def cF : Ex → Nat → Nat → List (Nat × Nat)
  | [], _, _ => []
  | o :: r, c, a => cO o c a ++ cF r (c + csO o) (a + agO o)
def aF : Ex → Nat → List Ag
  | [], _ => []
  | o :: r, c => aO o c ++ aF r (c + csO o)
theorem cO_len (o : EO) (c a : Nat) : (cO o c a).length = csO o := by
  unfold cO csO
  split
  · simp
  · rfl
theorem aO_len (o : EO) (c : Nat) : (aO o c).length = agO o := by
  unfold aO agO
  split <;> rfl
theorem cF_len : ∀ (e : Ex) (c a : Nat), (cF e c a).length = csz e
  | [], _, _ => rfl
  | o :: r, c, a => by simp only [cF, List.length_append, cO_len, cF_len r, csz, List.map_cons, List.sum_cons]
theorem aF_len : ∀ (e : Ex) (c : Nat), (aF e c).length = nag e
  | [], _ => rfl
  | o :: r, c => by simp only [aF, List.length_append, aO_len, aF_len r, nag, List.map_cons, List.sum_cons]
theorem cF_app : ∀ (e f : Ex) (c a : Nat), cF (e ++ f) c a = cF e c a ++ cF f (c + csz e) (a + nag e)
  | [], f, c, a => by simp [cF, csz, nag]
  | o :: r, f, c, a => by
    simp only [List.cons_append, cF, cF_app r f, List.append_assoc, csz, nag, List.map_cons, List.sum_cons, Nat.add_assoc]
theorem aF_app : ∀ (e f : Ex) (c : Nat), aF (e ++ f) c = aF e c ++ aF f (c + csz e)
  | [], f, c => by simp [aF, csz]
  | o :: r, f, c => by
    simp only [List.cons_append, aF, aF_app r f, List.append_assoc, csz, List.map_cons, List.sum_cons, Nat.add_assoc]
theorem cS_le (o : So) : (cS o).length ≤ wtS o := by
  unfold cS wtS
  have := rn_le o.2.1
  by_cases h1 : o.1 = 15
  · rw [if_pos h1, if_pos (.inl h1)]; simpa using this
  · rw [if_neg h1]
    by_cases h2 : o.1 = 54
    · rw [if_pos h2, if_pos (.inr h2)]; simp; exact Nat.mod_le _ _
    · have h3 : ¬ (o.1 = 15 ∨ o.1 = 54) := fun q => q.elim h1 h2
      rw [if_neg h2, if_neg h3]
      split
      · simp
      · split <;> simp
theorem iF_le : ∀ (i : List So), (iF i).length ≤ wtL i
  | [] => Nat.le_refl _
  | o :: r => by
    have h1 := cS_le o
    have h2 := iF_le r
    simp only [iF, wtL, List.flatMap_cons, List.length_append, List.map_cons, List.sum_cons] at h2 ⊢
    omega
theorem csO_le (o : EO) : csO o ≤ wtO o := by
  have := iF_le o.2
  have := cS_le o.1
  unfold csO wtO
  split <;> omega
theorem csz_le : ∀ (e : Ex), csz e ≤ wt e
  | [] => Nat.le_refl _
  | o :: r => by
    have h1 := csO_le o
    have h2 := csz_le r
    simp only [csz, wt, List.map_cons, List.sum_cons] at h2 ⊢
    omega
theorem nag_le : ∀ (e : Ex), nag e ≤ wt e
  | [] => Nat.le_refl _
  | o :: r => by
    have h1 : agO o ≤ wtO o := by unfold agO wtO; split <;> omega
    have h2 := nag_le r
    simp only [nag, wt, List.map_cons, List.sum_cons] at h2 ⊢
    omega
/-- the code's arrays -/
def cdR (C : List (Nat × Nat)) (A : List Ag) (u : Us) : Prop :=
  aI u 14 2 = nI C.length ∧ (∀ i p, C[i]? = some p → aI u 15 i = nI p.1 ∧ aI u 16 i = nI p.2) ∧ aI u 14 8 = nI A.length ∧
  ∀ i p, A[i]? = some p → aI u 17 i = nI p.1 ∧ aI u 18 i = nI p.2.1 ∧ aI u 19 i = nI p.2.2.1 ∧ aI u 20 i = nI p.2.2.2.1 ∧ aI u 21 i = nI p.2.2.2.2
theorem cdR.go {C : List (Nat × Nat)} {A : List Ag} {u u' : Us} (h : cdR C A u) (e : ∀ i, 14 ≤ i → i ≤ 21 → aI u' i = aI u i) : cdR C A u' := by
  unfold cdR at h ⊢
  rw [e 14 (by decide) (by decide), e 15 (by decide) (by decide), e 16 (by decide) (by decide), e 17 (by decide) (by decide), e 18 (by decide) (by decide), e 19 (by decide) (by decide), e 20 (by decide) (by decide), e 21 (by decide) (by decide)]
  exact h
theorem cdR.fm {C : List (Nat × Nat)} {A : List Ag} {u u' : Us} {li ll : List Nat} (h : cdR C A u) (f : Fm li ll u u') (hn : ∀ i, 14 ≤ i → i ≤ 21 → i ∉ li) : cdR C A u' := h.go (fun i a b => f.1 i (hn i a b))
theorem get_app1 {α : Type} {l : List α} {x p : α} {i : Nat} (h : (l ++ [x])[i]? = some p) : (i < l.length ∧ l[i]? = some p) ∨ (i = l.length ∧ p = x) := by
  by_cases hi : i < l.length
  · rw [List.getElem?_append_left hi] at h; exact .inl ⟨hi, h⟩
  · rw [List.getElem?_append_right (by omega)] at h
    have h1 := (List.getElem?_eq_some_iff.mp h).1
    simp at h1
    have : i = l.length := by omega
    subst this
    simp at h
    exact .inr ⟨rfl, h.symm⟩
theorem s_add (p1 p2 : Int32) {d x y : Nat} {u : Us} {Q : Ot → Us → Prop} {C : List (Nat × Nat)} {A : List Ag} (e1 : p1 = nI x) (e2 : p2 = nI y) (hC : cdR C A u) (hl : C.length < 700)
    (hk : ∀ u', cdR (C ++ [(x, y)]) A u' → Fm [14, 15, 16] [] u u' → Q (.inl (some (.int (nI C.length)))) u') : WS d m_Code_add 0 [some (.ref 14), some (.int p1), some (.int p2)] [] u Q := by
  subst e1; subst e2
  refine g_Code_add_0 _ _ ⟨C.length, hC.1, hl, C.length, hC.1, hl, ?_⟩
  rw [hC.1]
  refine hk _ ⟨?_, fun i p hp => ?_, ?_, fun i p hp => ?_⟩ (((Fm.refl.uI (by decide)).uI (by decide)).uI (by decide))
  · simp [rI, nI_1]
  · rcases get_app1 hp with ⟨h1, h2⟩ | ⟨rfl, rfl⟩
    · have := hC.2.1 i p h2
      simp [rI, show ¬ i = C.length by omega, this]
    · simp [rI]
  · simpa [rI] using hC.2.2.1
  · have := hC.2.2.2 i p hp
    simpa [rI] using this
/-- an expression is being read: the load, brackets, code -/
def XR (L : Lp) (s : PS) (cu : List Nat) (wi : Option Nat) (b : Nat) (C : List (Nat × Nat)) (A : List Ag) (u : Us) : Prop := RL L s u ∧ pX cu wi b u ∧ cdR C A u ∧ cxG cu wi s ∧ C.length ≤ s.1 ∧ A.length ≤ s.1
def XC : List Nat := [2, 8, 9, 10, 12, 14, 15, 16, 17, 18, 19, 20, 21, 36]
/-- a method reads what f reads -/
def CE (L : Lp) (cu : List Nat) (wi : Option Nat) (b : Nat) (y : My) (ls : Lo) (D : Nat) (f : Pr Ex) : Prop := ∀ (d : Nat) (s : PS) (u : Us) (C : List (Nat × Nat)) (A : List Ag) (Q : Ot → Us → Prop), D ≤ d → XR L s cu wi b C A u →
  (∀ e u', nrm L.1 (f s) = .inl e → FlP L e u' → Q (.inr 2) u') →
  (∀ e s' u', nrm L.1 (f s) = .inr (e, s') → XR L s' cu wi b (C ++ cF e C.length A.length) (A ++ aF e C.length) u' → Fm XC [13] u u' → Q (.inl none) u') → WS d y 0 ls [] u Q
theorem nrm_inr {α : Type} {bs : List Nat} {r : Nat ⊕ (α × PS)} {a : α} {s : PS} (h : nrm bs r = .inr (a, s)) : r = .inr (a, s) ∧ tK bs s.1 < 90 := by
  cases r with
  | inl e => cases h
  | inr p =>
    obtain ⟨a', s'⟩ := p
    simp only [nrm] at h
    by_cases hb : 90 ≤ tK bs s'.1
    · rw [if_pos hb] at h; cases h
    · rw [if_neg hb] at h
      cases h
      exact ⟨rfl, by omega⟩
theorem nrm_pr {α : Type} {bs : List Nat} {a : α} {s : PS} (h : tK bs s.1 < 90) : nrm bs (pr a s) = .inr (a, s) := nrm_ok rfl h
theorem XR.add {L : Lp} {s : PS} {cu : List Nat} {wi : Option Nat} {b x y : Nat} {C : List (Nat × Nat)} {A : List Ag} {u u' : Us} (h : XR L s cu wi b C A u) (hC : cdR (C ++ [(x, y)]) A u') (hf : Fm [14, 15, 16] [] u u') (hl : C.length + 1 ≤ s.1) : XR L s cu wi b (C ++ [(x, y)]) A u' := by
  obtain ⟨h1, h2, h3, h4, h5, h6⟩ := h
  exact ⟨h1.go (hf.mono (by decide) (by decide)) (fun i a b => hf.1 i (by simp; omega)) (hf.2.1 13 (by decide)), h2.fm hf (by decide) (by decide), hC, h4, by simpa using hl, h6⟩
theorem XR.next {L : Lp} {s : PS} {cu : List Nat} {wi : Option Nat} {b : Nat} {C : List (Nat × Nat)} {A : List Ag} {u u' : Us} (h : XR L s cu wi b C A u) (hR : RL L (s.1 + 1, s.2) u') (hf : Fm [10, 12] [13] u u') : XR L (s.1 + 1, s.2) cu wi b C A u' := by
  obtain ⟨h1, h2, h3, h4, h5, h6⟩ := h
  exact ⟨hR, h2.fm hf (by decide) (by decide), h3.fm hf (fun i a b => by simp; omega), h4.go h4.v1, Nat.le_succ_of_le h5, Nat.le_succ_of_le h6⟩
theorem cF_bin {x c a : Nat} (hx : 13 ≤ x ∧ x ≤ 14 ∨ 30 ≤ x ∧ x ≤ 40) : cO (o1 x 0 0 0) c a = [(x, 0)] ∧ csO (o1 x 0 0 0) = 1 ∧ agO (o1 x 0 0 0) = 0 ∧ aO (o1 x 0 0 0) c = [] := by
  have h1 : cS (x, 0, 0, 0) = [(x, 0)] := by
    unfold cS
    rw [if_neg (by simp only; omega), if_neg (by simp only; omega), if_neg (by simp only; omega), if_neg (by simp only; omega)]
  have h56 : ¬ x = 56 := by omega
  refine ⟨?_, ?_, ?_, ?_⟩
  · simp only [cO, o1, if_neg h56, h1]
  · simp only [csO, o1, if_neg h56, h1, List.length_singleton]
  · exact if_neg h56
  · exact if_neg h56
