-- signs ahead of an expression
theorem pb_assoc {α β γ : Type} {f : Pr α} {g : α → Pr β} {h : β → Pr γ} {s : PS} : pb (pb f g) h s = pb f (fun a => pb (g a) h) s := by
  unfold pb
  cases f s with
  | inl e => rfl
  | inr p => rfl
theorem pb_pr {α β : Type} {a : α} {g : α → Pr β} {s : PS} : pb (pr a) g s = g a s := rfl
theorem pb_congr {α β : Type} {f : Pr α} {g g' : α → Pr β} {s : PS} (h : ∀ a s, g a s = g' a s) : pb f g s = pb f g' s := by
  unfold pb
  cases f s with
  | inl e => rfl
  | inr p => exact h _ _
theorem cfapp (C : List (Nat × Nat)) (A : List Ag) (e r : Ex) : C ++ cF (e ++ r) C.length A.length = (C ++ cF e C.length A.length) ++ cF r (C ++ cF e C.length A.length).length (A ++ aF e C.length).length := by
  rw [cF_app]
  simp only [List.length_append, cF_len, aF_len, List.append_assoc]
theorem afapp (C : List (Nat × Nat)) (A : List Ag) (e r : Ex) : A ++ aF (e ++ r) C.length = (A ++ aF e C.length) ++ aF r (C ++ cF e C.length A.length).length := by
  rw [aF_app]
  simp only [List.length_append, cF_len, List.append_assoc]
theorem cF_not (n c a : Nat) : cF [o1 15 n 0 0] c a = List.replicate (rn n) (15, 0) ∧ aF [o1 15 n 0 0] c = [] := by
  refine ⟨?_, ?_⟩
  · simp [cF, cO, o1, cS]
  · simp [aF, aO, o1]
theorem cF_negn (n c a : Nat) : cF [o1 54 n 0 0] c a = List.replicate (n % 2) (54, 0) ∧ aF [o1 54 n 0 0] c = [] := by
  refine ⟨?_, ?_⟩
  · simp [cF, cO, o1, cS]
  · simp [aF, aO, o1]
theorem pMany_t {bs : List Nat} {k n : Nat} {s : PS} (h : tK bs s.1 = k) : pMany bs k (n + 1) s = (pb pn fun _ => pb (pMany bs k n) fun m => pr (m + 1)) s := by
  show pi (tK bs s.1 = k) _ _ s = _
  unfold pi
  rw [if_pos h]
theorem pMany_f {bs : List Nat} {k n : Nat} {s : PS} (h : ¬ tK bs s.1 = k) : pMany bs k (n + 1) s = .inr (0, s) := by
  show pi (tK bs s.1 = k) _ _ s = _
  unfold pi
  rw [if_neg h]; rfl
theorem many_step {α : Type} {bs : List Nat} {k n m : Nat} {s : PS} {g : Nat → Pr α} (h : tK bs s.1 = k) : pb (pMany bs k (n + 1)) (fun q => g (m + q)) s = pb pn (fun _ => pb (pMany bs k n) fun q => g (m + 1 + q)) s := by
  have e : pb (pMany bs k (n + 1)) (fun q => g (m + q)) s = pb (pb pn fun _ => pb (pMany bs k n) fun m => pr (m + 1)) (fun q => g (m + q)) s := by
    unfold pb
    rw [pMany_t h]
    rfl
  rw [e, pb_assoc]
  refine pb_congr (fun _ s' => ?_)
  rw [pb_assoc]
  refine pb_congr (fun q s2 => ?_)
  rw [pb_pr, show m + (q + 1) = m + 1 + q by omega]
theorem many_stop {α : Type} {bs : List Nat} {k n m : Nat} {s : PS} {g : Nat → Pr α} (h : ¬ tK bs s.1 = k) : pb (pMany bs k (n + 1)) (fun q => g (m + q)) s = g m s := by
  unfold pb
  rw [pMany_f h]
  rfl
section SG
variable {L : Lp} {cu : List Nat} {wi : Option Nat} {b D H : Nat} {f : Pr Ex}
theorem ce_signed (hS : Sc L.1 f) (hG : GE cu wi H f) (hD : 5 ≤ D) (hat : CE L cu wi b m_Pars_atom [some (.ref 36), none] D f) : CE L cu wi b m_Pars_signed [some (.ref 36), none] (D + 1) (pSigned L.1 f) := by
  intro d s u C A Q hd hX he hk
  obtain ⟨d, rfl⟩ : ∃ d', d = d' + 1 := ⟨d - 1, by omega⟩
  obtain ⟨d5, rfl⟩ : ∃ d5, d = d5 + 5 := ⟨d - 5, by omega⟩
  have key : ∀ (n m : Nat) (s1 : PS) (u1 : Us), 151 ≤ s1.1 + n → C.length + m ≤ s1.1 → XR L s1 cu wi b C A u1 →
      (∀ e u', nrm L.1 (pb (pMany L.1 37 n) (fun q => (fun z => pb f fun e => pr (if z = 0 then e else e ++ [o1 54 z 0 0])) (m + q)) s1) = .inl e → FlP L e u' → Q (.inr 2) u') →
      (∀ e s' u', nrm L.1 (pb (pMany L.1 37 n) (fun q => (fun z => pb f fun e => pr (if z = 0 then e else e ++ [o1 54 z 0 0])) (m + q)) s1) = .inr (e, s') → XR L s' cu wi b (C ++ cF e C.length A.length) (A ++ aF e C.length) u' → Fm XC [13] u1 u' → Q (.inl none) u') →
      WS (d5 + 5 + 1) m_Pars_signed 2 [some (.ref 36), some (.int (nI (m % 2)))] [] u1 Q := by
    intro n
    induction n with
    | zero =>
      intro m s1 u1 hn hl hX1 _ _
      have := hX1.1.tk.2.2
      omega
    | succ n ih =>
      intro m s1 u1 hn hl hX1 he1 hk1
      refine g_Pars_signed_2 _ ⟨fun z => ?_, fun z => ?_⟩
      · have e37 : ¬ tK L.1 s1.1 = 37 := fun q => z ((hX1.1.is (k := 37) (by decide)).mpr q)
        rw [many_stop (g := fun z => pb f fun e => pr (if z = 0 then e else e ++ [o1 54 z 0 0])) e37] at he1 hk1
        refine hat (d5 + 5) s1 u1 C A _ (by omega) hX1 (fun e u' h1 h2 => he1 e u' (nrm_l h1 (fun _ => sc_pr _)) h2) (fun e2 s2 u2 h1 hX2 hf2 => ?_)
        have q1 := (nrm_r (g := fun e => pr (if m = 0 then e else e ++ [o1 54 m 0 0])) h1).1
        rw [nrm_pr (nrm_inr h1).2] at q1
        have g := (hG _ _ _ (nrm_inr h1).1 hX1.2.2.2.1).1
        have gb := csz_le e2
        have t3' := hX2.1.tk.2.2
        refine ⟨fun z2 => ?_, fun z2 => ?_⟩
        · have hm : m % 2 = 0 := (nI_eq (b := 0) (by omega) (by decide)).mp z2
          refine hk1 _ s2 u2 q1 ?_ hf2
          by_cases h0 : m = 0
          · rw [if_pos h0]; exact hX2
          · rw [if_neg h0, cfapp, afapp, (cF_negn _ _ _).1, (cF_negn _ _ 0).2, hm]
            simpa using hX2
        · have hm : m % 2 = 1 := by
            rcases Nat.mod_two_eq_zero_or_one m with h | h
            · rw [h] at z2; exact absurd rfl z2
            · exact h
          have gl : (C ++ cF e2 C.length A.length).length + 1 ≤ s2.1 := by
            rw [List.length_append, cF_len]
            omega
          refine s_add _ _ (x := 54) (y := 0) rfl rfl hX2.2.2.1 (by omega) (fun u4 hc4 hf4 => ?_)
          refine hk1 _ s2 u4 q1 ?_ (hf2.trans (hf4.mono (by decide) (by decide)))
          have hX4 := hX2.add hc4 hf4 gl
          rw [if_neg (by omega), cfapp, afapp, (cF_negn _ _ _).1, (cF_negn _ _ 0).2, hm]
          simpa using hX4
      · have e37 := (hX1.1.is (k := 37) (by decide)).mp z
        rw [many_step (g := fun z => pb f fun e => pr (if z = 0 then e else e ++ [o1 54 z 0 0])) e37] at he1 hk1
        have sc2 : Sc L.1 (pb (pMany L.1 37 n) (fun q => pb f fun e => pr (if m + 1 + q = 0 then e else e ++ [o1 54 (m + 1 + q) 0 0]))) := sc_pb (sc_pMany _ _ (by decide)) fun _ => sc_pb hS fun _ => sc_pr _
        have go : WS (d5 + 5) m_Scan_next 0 [some (.ref 10), none] [] u1 (Rv (fun (u6 : Us) => WS (d5 + 5 + 1) m_Pars_signed 2 [some (.ref 36), some (.int (nI ((m + 1) % 2)))] [] u6 Q) (EQ Q)) := by
          refine s_nextR hX1.1 (by omega) (fun e u' h1 h2 => he1 e u' (nrm_l h1 (fun _ => sc2)) h2) (fun u2 h1 hR2 hf2 => ?_)
          have q1 := (nrm_r (g := fun _ => pb (pMany L.1 37 n) (fun q => pb f fun e => pr (if m + 1 + q = 0 then e else e ++ [o1 54 (m + 1 + q) 0 0]))) h1).1
          refine ih (m + 1) (s1.1 + 1, s1.2) u2 (by simp only; omega) (by simp only; omega) (hX1.next hR2 hf2) (fun e u' h3 h4 => he1 e u' (q1.trans h3) h4) (fun e s' u' h3 h4 h5 => hk1 e s' u' (q1.trans h3) h4 ((hf2.mono (by decide) (by decide)).trans h5))
        refine ⟨fun z2 => ?_, fun z2 => ?_⟩
        · have hm : m % 2 = 1 := by
            rcases Nat.mod_two_eq_zero_or_one m with h | h
            · rw [h] at z2; exact absurd rfl z2
            · exact h
          rw [show (m + 1) % 2 = 0 by omega] at go
          exact go
        · have hm : m % 2 = 0 := (nI_eq (b := 0) (by omega) (by decide)).mp z2
          rw [show (m + 1) % 2 = 1 by omega] at go
          exact go
  have e0 : ∀ s1, pSigned L.1 f s1 = pb (pMany L.1 37 151) (fun q => (fun z => pb f fun e => pr (if z = 0 then e else e ++ [o1 54 z 0 0])) (0 + q)) s1 := fun s1 => pb_congr (fun a s => by simp only [Nat.zero_add])
  refine g_Pars_signed_0 (key 151 0 s u (by omega) hX.2.2.2.2.1 hX (fun e u' h1 h2 => he e u' (by rw [e0]; exact h1) h2) (fun e s' u' h1 h2 h3 => hk e s' u' (by rw [e0]; exact h1) h2 h3))
def pCmp (bs : List Nat) (sm : Pr Ex) : Pr Ex := pk bs fun x => pi (30 ≤ x ∧ x ≤ 35) (pb pn fun _ => pb sm fun r => pr (r ++ [o1 x 0 0 0])) (pr [])
theorem pCmp_t {bs : List Nat} {sm : Pr Ex} {s : PS} (h : 30 ≤ tK bs s.1 ∧ tK bs s.1 ≤ 35) : pCmp bs sm s = (pb pn fun _ => pb sm fun r => pr (r ++ [o1 (tK bs s.1) 0 0 0])) s := by
  show pi (30 ≤ tK bs s.1 ∧ tK bs s.1 ≤ 35) _ _ s = _
  unfold pi
  rw [if_pos h]
theorem pCmp_f {bs : List Nat} {sm : Pr Ex} {s : PS} (h : ¬ (30 ≤ tK bs s.1 ∧ tK bs s.1 ≤ 35)) : pCmp bs sm s = .inr ([], s) := by
  show pi (30 ≤ tK bs s.1 ∧ tK bs s.1 ≤ 35) _ _ s = _
  unfold pi
  rw [if_neg h]; rfl
theorem rn_I {m : Nat} (h : m ≤ 200) {x3 : Nat} (hx : x3 ≤ 200) {d : Nat} {x2 : Int32} {u : Us} {Q : Ot → Us → Prop} (h1 : rn m ≤ x3 → Q (.inl none) u)
    (h2 : x3 < rn m → WS d m_Code_add 0 [some (.ref 14), some (.int 15), some (.int 0)] [] u (Ri (fun (_ : Int32) (u2 : Us) => WS (d + 1) m_Pars_negation 74 [some (.ref 36), some (.int (nI m)), some (.int x2), some (.int (nI (x3 + 1)))] [] u2 Q) (EQ Q))) :
    WS (d + 1) m_Pars_negation 74 [some (.ref 36), some (.int (nI m)), some (.int x2), some (.int (nI x3))] [] u Q := by
  rw [← nI_1] at h2
  refine g_Pars_negation_74 _ _ _ ⟨fun z => ?_, fun z => ?_⟩
  · have hm : m ≤ 2 := (nI_leI (b := 2) (by omega) (by decide)).mp z
    have hr : rn m = m := by unfold rn; rw [if_neg (by omega)]
    rw [hr] at h1 h2
    exact ⟨fun z => h1 ((nI_leI (by omega) (by omega)).mp z), fun z => h2 (Nat.lt_of_not_le (fun q => z ((nI_leI (by omega) (by omega)).mpr q)))⟩
  · have hm : ¬ m ≤ 2 := fun q => z ((nI_leI (b := 2) (by omega) (by decide)).mpr q)
    have hr : rn m = 2 - m % 2 := by unfold rn; rw [if_pos (by omega)]
    have e1 : (2 : Int32) - (nI m - nI m / 2 * 2) = nI (2 - m % 2) := by
      have : nI m - nI m / 2 * 2 = nI (m % 2) := pk_rem (a := m) (d := 2) (by omega) (by decide) (by decide)
      rw [this]
      exact pk_sub (a := 2) (b := m % 2) (by omega)
    rw [hr] at h1 h2
    rw [e1]
    exact ⟨fun z => h1 ((nI_leI (by omega) (by omega)).mp z), fun z => h2 (Nat.lt_of_not_le (fun q => z ((nI_leI (by omega) (by omega)).mpr q)))⟩
theorem ce_neg (hS : Sc L.1 f) (hG : GE cu wi H f) (hD : 5 ≤ D) (hsm : CE L cu wi b m_Pars_sum [some (.ref 36), none] D f) : CE L cu wi b m_Pars_negation [some (.ref 36), none, none, none] (D + 1) (pNeg L.1 f) := by
  intro d s u C A Q hd hX he hk
  obtain ⟨d, rfl⟩ : ∃ d', d = d' + 1 := ⟨d - 1, by omega⟩
  obtain ⟨d5, rfl⟩ : ∃ d5, d = d5 + 5 := ⟨d - 5, by omega⟩
  -- the nots behind
  have nots : ∀ (k m i : Nat) (x2 : Int32) (s1 : PS) (u1 : Us) (C1 : List (Nat × Nat)) (A1 : List Ag), i + k = rn m → m ≤ 200 → C1.length + k ≤ s1.1 → XR L s1 cu wi b C1 A1 u1 →
      (∀ u', XR L s1 cu wi b (C1 ++ List.replicate k (15, 0)) A1 u' → Fm XC [13] u1 u' → Q (.inl none) u') → WS (d5 + 5 + 1) m_Pars_negation 74 [some (.ref 36), some (.int (nI m)), some (.int x2), some (.int (nI i))] [] u1 Q := by
    intro k
    induction k with
    | zero =>
      intro m i x2 s1 u1 C1 A1 hi hm hl hX1 hk1
      have := rn_le m
      refine rn_I hm (by omega) (fun _ => ?_) (fun z => by omega)
      refine hk1 u1 ?_ Fm.refl
      simpa using hX1
    | succ k ih =>
      intro m i x2 s1 u1 C1 A1 hi hm hl hX1 hk1
      have := rn_le m
      have t3' := hX1.1.tk.2.2
      refine rn_I hm (by omega) (fun z => by omega) (fun _ => ?_)
      refine s_add _ _ (x := 15) (y := 0) rfl rfl hX1.2.2.1 (by omega) (fun u4 hc4 hf4 => ?_)
      have hX4 := hX1.add hc4 hf4 (by omega)
      refine ih m (i + 1) x2 s1 u4 _ A1 (by omega) hm (by simp; omega) hX4 (fun u' h1 h2 => hk1 u' ?_ ((hf4.mono (by decide) (by decide)).trans h2))
      rw [List.append_assoc] at h1
      exact h1
  -- the end: e is there, its comparison r too
  have fin : ∀ (m : Nat) (x2 : Int32) (s1 : PS) (u1 : Us) (e : Ex), m ≤ 200 → C.length + csz e + m ≤ s1.1 → XR L s1 cu wi b (C ++ cF e C.length A.length) (A ++ aF e C.length) u1 →
      (∀ u', XR L s1 cu wi b (C ++ cF (if m = 0 then e else e ++ [o1 15 m 0 0]) C.length A.length) (A ++ aF (if m = 0 then e else e ++ [o1 15 m 0 0]) C.length) u' → Fm XC [13] u1 u' → Q (.inl none) u') → WS (d5 + 5 + 1) m_Pars_negation 74 [some (.ref 36), some (.int (nI m)), some (.int x2), some (.int 0)] [] u1 Q := by
    intro m x2 s1 u1 e hm hl hX1 hk1
    have := rn_le m
    refine nots (rn m) m 0 x2 s1 u1 _ _ (by omega) hm (by rw [List.length_append, cF_len]; omega) hX1 (fun u' h1 h2 => hk1 u' ?_ h2)
    by_cases h0 : m = 0
    · subst h0
      rw [if_pos rfl]
      have : rn 0 = 0 := rfl
      rw [this] at h1
      simpa using h1
    · rw [if_neg h0, cfapp, afapp, (cF_not _ _ _).1, (cF_not _ _ 0).2, List.append_nil]
      exact h1
  have key : ∀ (n m : Nat) (s1 : PS) (u1 : Us), 151 ≤ s1.1 + n → C.length + m ≤ s1.1 → m ≤ s1.1 → XR L s1 cu wi b C A u1 →
      (∀ e u', nrm L.1 (pb (pMany L.1 15 n) (fun q => (fun z => pb f fun e => pb (pCmp L.1 f) fun r => pr (if z = 0 then e ++ r else e ++ r ++ [o1 15 z 0 0])) (m + q)) s1) = .inl e → FlP L e u' → Q (.inr 2) u') →
      (∀ e s' u', nrm L.1 (pb (pMany L.1 15 n) (fun q => (fun z => pb f fun e => pb (pCmp L.1 f) fun r => pr (if z = 0 then e ++ r else e ++ r ++ [o1 15 z 0 0])) (m + q)) s1) = .inr (e, s') → XR L s' cu wi b (C ++ cF e C.length A.length) (A ++ aF e C.length) u' → Fm XC [13] u1 u' → Q (.inl none) u') →
      WS (d5 + 5 + 1) m_Pars_negation 2 [some (.ref 36), some (.int (nI m)), none, none] [] u1 Q := by
    intro n
    induction n with
    | zero =>
      intro m s1 u1 hn hl hl2 hX1 _ _
      have := hX1.1.tk.2.2
      omega
    | succ n ih =>
      intro m s1 u1 hn hl hl2 hX1 he1 hk1
      have t31 := hX1.1.tk.2.2
      refine g_Pars_negation_2 _ ⟨fun z => ?_, fun z => ?_⟩
      · have e15 : ¬ tK L.1 s1.1 = 15 := fun q => z ((hX1.1.is (k := 15) (by decide)).mpr q)
        rw [many_stop (g := fun z => pb f fun e => pb (pCmp L.1 f) fun r => pr (if z = 0 then e ++ r else e ++ r ++ [o1 15 z 0 0])) e15] at he1 hk1
        have scc : ∀ e : Ex, Sc L.1 (pb (pCmp L.1 f) fun r => pr (if m = 0 then e ++ r else e ++ r ++ [o1 15 m 0 0])) := fun _ => sc_pb (sc_cmp f) fun _ => sc_pr _
        refine hsm (d5 + 5) s1 u1 C A _ (by omega) hX1 (fun e u' h1 h2 => he1 e u' (nrm_l h1 scc) h2) (fun e2 s2 u2 h1 hX2 hf2 => ?_)
        have q1 := (nrm_r (g := fun e => pb (pCmp L.1 f) fun r => pr (if m = 0 then e ++ r else e ++ r ++ [o1 15 m 0 0])) h1).1
        have gg := hG _ _ _ (nrm_inr h1).1 hX1.2.2.2.1
        have g := gg.1
        have gb := csz_le e2
        obtain ⟨t1, t2, t3⟩ := hX2.1.tk
        have nocmp : ¬ (30 ≤ tK L.1 s2.1 ∧ tK L.1 s2.1 ≤ 35) → WS (d5 + 5 + 1) m_Pars_negation 74 [some (.ref 36), some (.int (nI m)), some (.int (aI u2 10 5)), some (.int 0)] [] u2 Q := by
          intro hno
          refine fin m _ s2 u2 e2 (by omega) (by omega) hX2 (fun u' h3 h4 => hk1 (if m = 0 then e2 else e2 ++ [o1 15 m 0 0]) s2 u' ?_ ?_ (hf2.trans h4))
          · rw [q1]
            have q2 := (nrm_r (f := pCmp L.1 f) (g := fun r => pr (if m = 0 then e2 ++ r else e2 ++ r ++ [o1 15 m 0 0])) (nrm_ok (pCmp_f hno) t2)).1
            rw [q2, nrm_pr t2, List.append_nil]
          · exact h3
        show (_ → _) ∧ (_ → _)
        rw [t1]
        rw [t1] at nocmp
        refine ⟨fun z => nocmp (fun q => ?_), fun z => ⟨fun z2 => nocmp (fun q => ?_), fun z2 => ?_⟩⟩
        · have := (nI_ltI (b := 30) (by omega) (by decide)).mp z
          omega
        · have := (nI_ltI (a := 35) (by decide) (by omega)).mp z2
          omega
        · have a1 : ¬ tK L.1 s2.1 < 30 := fun q => z ((nI_ltI (b := 30) (by omega) (by decide)).mpr q)
          have a2 : ¬ 35 < tK L.1 s2.1 := fun q => z2 ((nI_ltI (a := 35) (by decide) (by omega)).mpr q)
          have hr : 30 ≤ tK L.1 s2.1 ∧ tK L.1 s2.1 ≤ 35 := by omega
          have hx' : 13 ≤ tK L.1 s2.1 ∧ tK L.1 s2.1 ≤ 14 ∨ 30 ≤ tK L.1 s2.1 ∧ tK L.1 s2.1 ≤ 40 := by omega
          have ec : pb (pCmp L.1 f) (fun r => pr (if m = 0 then e2 ++ r else e2 ++ r ++ [o1 15 m 0 0])) s2 = pb pn (fun _ => pb f fun r0 => pr (if m = 0 then e2 ++ (r0 ++ [o1 (tK L.1 s2.1) 0 0 0]) else e2 ++ (r0 ++ [o1 (tK L.1 s2.1) 0 0 0]) ++ [o1 15 m 0 0])) s2 := by
            have : pb (pCmp L.1 f) (fun r => pr (if m = 0 then e2 ++ r else e2 ++ r ++ [o1 15 m 0 0])) s2 = pb (pb pn fun _ => pb f fun r => pr (r ++ [o1 (tK L.1 s2.1) 0 0 0])) (fun r => pr (if m = 0 then e2 ++ r else e2 ++ r ++ [o1 15 m 0 0])) s2 := by
              unfold pb
              rw [pCmp_t hr]
              rfl
            rw [this, pb_assoc]
            refine pb_congr (fun _ s' => ?_)
            rw [pb_assoc]
            rfl
          rw [ec] at q1
          have scs : Sc L.1 (pb f fun r0 => pr (if m = 0 then e2 ++ (r0 ++ [o1 (tK L.1 s2.1) 0 0 0]) else e2 ++ (r0 ++ [o1 (tK L.1 s2.1) 0 0 0]) ++ [o1 15 m 0 0])) := sc_pb hS fun _ => sc_pr _
          refine s_nextR hX2.1 (by omega) (fun e u' h3 h4 => he1 e u' (by rw [q1]; exact nrm_l h3 (fun _ => scs)) h4) (fun u3 h3 hR3 hf3 => ?_)
          have q2 := (nrm_r (g := fun _ => pb f fun r0 => pr (if m = 0 then e2 ++ (r0 ++ [o1 (tK L.1 s2.1) 0 0 0]) else e2 ++ (r0 ++ [o1 (tK L.1 s2.1) 0 0 0]) ++ [o1 15 m 0 0])) h3).1
          have hX3 := hX2.next hR3 hf3
          refine hsm (d5 + 5) _ u3 _ _ _ (by omega) hX3 (fun e u' h5 h6 => he1 e u' (by rw [q1, q2]; exact nrm_l h5 (fun _ => sc_pr _)) h6) (fun r0 s4 u4 h5 hX4 hf4 => ?_)
          have q3 := (nrm_r (g := fun r0 => pr (if m = 0 then e2 ++ (r0 ++ [o1 (tK L.1 s2.1) 0 0 0]) else e2 ++ (r0 ++ [o1 (tK L.1 s2.1) 0 0 0]) ++ [o1 15 m 0 0])) h5).1
          rw [nrm_pr (nrm_inr h5).2] at q3
          have g4 := (hG _ _ _ (nrm_inr h5).1 hX3.2.2.2.1).1
          have g4b := csz_le r0
          have t34 := hX4.1.tk.2.2
          simp only at g4
          rw [← cfapp, ← afapp] at hX4
          have hl4 : (C ++ cF (e2 ++ r0) C.length A.length).length = C.length + csz e2 + csz r0 := by
            rw [List.length_append, cF_len]
            simp [csz]
            omega
          refine s_add _ _ rfl rfl hX4.2.2.1 (by omega) (fun u5 hc5 hf5 => ?_)
          have hX5 := hX4.add hc5 hf5 (by omega)
          have e5 : C ++ cF (e2 ++ (r0 ++ [o1 (tK L.1 s2.1) 0 0 0])) C.length A.length = C ++ cF (e2 ++ r0) C.length A.length ++ [(tK L.1 s2.1, 0)] := by
            obtain ⟨b1, b2, b3, b4⟩ := cF_bin (c := (C ++ cF (e2 ++ r0) C.length A.length).length) (a := (A ++ aF (e2 ++ r0) C.length).length) hx'
            rw [← List.append_assoc, cfapp]
            simp only [cF, b1, List.append_nil]
          have e5' : A ++ aF (e2 ++ (r0 ++ [o1 (tK L.1 s2.1) 0 0 0])) C.length = A ++ aF (e2 ++ r0) C.length := by
            obtain ⟨b1, b2, b3, b4⟩ := cF_bin (c := (C ++ cF (e2 ++ r0) C.length A.length).length) (a := (A ++ aF (e2 ++ r0) C.length).length) hx'
            rw [← List.append_assoc, afapp]
            simp only [aF, b4, List.append_nil]
          rw [← e5, ← e5'] at hX5
          have hcs : csz (e2 ++ (r0 ++ [o1 (tK L.1 s2.1) 0 0 0])) = csz e2 + csz r0 + 1 := by
            have := congrArg List.length e5
            rw [List.length_append, cF_len, List.length_append, hl4] at this
            simp at this
            omega
          refine fin m _ s4 u5 (e2 ++ (r0 ++ [o1 (tK L.1 s2.1) 0 0 0])) (by omega) (by omega) hX5 (fun u' h7 h8 => hk1 _ s4 u' (by rw [q1, q2, q3]) ?_ ((hf2.trans (hf3.mono (by decide) (by decide))).trans ((hf4.trans (hf5.mono (by decide) (by decide))).trans h8)))
          exact h7
      · have e15 := (hX1.1.is (k := 15) (by decide)).mp z
        rw [many_step (g := fun z => pb f fun e => pb (pCmp L.1 f) fun r => pr (if z = 0 then e ++ r else e ++ r ++ [o1 15 z 0 0])) e15] at he1 hk1
        have sc2 : Sc L.1 (pb (pMany L.1 15 n) (fun q => pb f fun e => pb (pCmp L.1 f) fun r => pr (if m + 1 + q = 0 then e ++ r else e ++ r ++ [o1 15 (m + 1 + q) 0 0]))) := sc_pb (sc_pMany _ _ (by decide)) fun _ => sc_pb hS fun _ => sc_pb (sc_cmp f) fun _ => sc_pr _
        refine s_nextR hX1.1 (by omega) (fun e u' h1 h2 => he1 e u' (nrm_l h1 (fun _ => sc2)) h2) (fun u2 h1 hR2 hf2 => ?_)
        have q1 := (nrm_r (g := fun _ => pb (pMany L.1 15 n) (fun q => pb f fun e => pb (pCmp L.1 f) fun r => pr (if m + 1 + q = 0 then e ++ r else e ++ r ++ [o1 15 (m + 1 + q) 0 0]))) h1).1
        show WS (d5 + 5 + 1) m_Pars_negation 2 [some (.ref 36), some (.int (nI m + 1)), none, none] [] u2 Q
        rw [nI_1]
        refine ih (m + 1) (s1.1 + 1, s1.2) u2 (by simp only; omega) (by simp only; omega) (by simp only; omega) (hX1.next hR2 hf2) (fun e u' h3 h4 => he1 e u' (q1.trans h3) h4) (fun e s' u' h3 h4 h5 => hk1 e s' u' (q1.trans h3) h4 ((hf2.mono (by decide) (by decide)).trans h5))
  have e0 : ∀ s1, pNeg L.1 f s1 = pb (pMany L.1 15 151) (fun q => (fun z => pb f fun e => pb (pCmp L.1 f) fun r => pr (if z = 0 then e ++ r else e ++ r ++ [o1 15 z 0 0])) (0 + q)) s1 := fun s1 => pb_congr (fun a s => by simp only [Nat.zero_add]; rfl)
  refine g_Pars_negation_0 (key 151 0 s u (by omega) hX.2.2.2.2.1 (Nat.zero_le _) hX (fun e u' h1 h2 => he e u' (by rw [e0]; exact h1) h2) (fun e s' u' h1 h2 h3 => hk e s' u' (by rw [e0]; exact h1) h2 h3))
end SG
