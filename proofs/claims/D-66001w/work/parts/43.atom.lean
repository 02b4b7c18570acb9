-- aggregates, atoms, expressions
theorem cd_patch {C Z : List (Nat × Nat)} {A : List Ag} {u : Us} {w k f : Nat} {wI kI fI r : Int32} (h : cdR (C ++ [(55, 0)] ++ Z) A u) (ew : wI = nI w) (ek : kI = nI k) (ef : fI = nI f) (er : r = nI C.length) :
    cdR (C ++ (55, C.length + 1 + Z.length) :: Z) (A ++ [(w, k, f, C.length + 1, C.length + 1 + Z.length)]) (uI (uI (uI (uI (uI (uI (uI u 16 C.length (aI u 14 2)) 14 8 (aI u 14 8 + 1)) 17 A.length wI) 18 A.length kI) 19 A.length fI) 20 A.length (r + 1)) 21 A.length (aI u 14 2)) := by
  subst ew ek ef er
  obtain ⟨h1, h2, h3, h4⟩ := h
  have hlen : (C ++ [(55, 0)] ++ Z).length = C.length + 1 + Z.length := by simp only [List.length_append, List.length_singleton]
  rw [hlen] at h1
  refine ⟨?_, fun i p hp => ?_, ?_, fun i p hp => ?_⟩
  · simp [rI, h1]
    congr 1
    omega
  · by_cases hi : i = C.length
    · subst hi
      have hp' : p = (55, C.length + 1 + Z.length) := by
        rw [List.getElem?_append_right (Nat.le_refl _)] at hp
        simp at hp
        exact hp.symm
      subst hp'
      have := h2 C.length (55, 0) (by rw [List.append_assoc, List.getElem?_append_right (Nat.le_refl _)]; simp)
      refine ⟨?_, ?_⟩
      · simpa [rI] using this.1
      · simp [rI, h1]
    · have hq : (C ++ [(55, 0)] ++ Z)[i]? = some p := by
        by_cases hlt : i < C.length
        · rw [List.getElem?_append_left hlt] at hp
          rw [List.append_assoc, List.getElem?_append_left hlt]
          exact hp
        · rw [List.getElem?_append_right (by omega)] at hp
          rw [List.append_assoc, List.getElem?_append_right (by omega)]
          obtain ⟨q, hq⟩ : ∃ q, i - C.length = q + 1 := ⟨i - C.length - 1, by omega⟩
          rw [hq] at hp ⊢
          simpa using hp
      have := h2 i p hq
      refine ⟨?_, ?_⟩
      · simpa [rI] using this.1
      · simpa [rI, hi] using this.2
  · simp [rI, h3, nI_1]
  · rcases get_app1 hp with ⟨h5, h6⟩ | ⟨rfl, rfl⟩
    · have := h4 i p h6
      simpa [rI, show ¬ i = A.length by omega] using this
    · simp [rI, h1, nI_1]
section AG2
variable {L : Lp} {cu : List Nat} {b D H : Nat} {X : Option Nat → Pr Ex}
theorem s_agg {s : PS} {C : List (Nat × Nat)} {A : List Ag} {u : Us} {Q : Ot → Us → Prop} {d : Nat} (hD : 5 ≤ D) (hd : D + 1 ≤ d + 7) (hS : ∀ w, Sc L.1 (X w)) (hG : ∀ w, GE cu w H (X w)) (hE : 0 < b → ∀ w, CE L cu w (b - 1) m_Pars_either [some (.ref 36)] D (X w))
    (hX : XR L s cu none b C A u) (hw : 16 ≤ tK L.1 s.1 ∧ tK L.1 s.1 ≤ 19) (he : ∀ e u', nrm L.1 (pAgg L.1 b X (tK L.1 s.1) s) = .inl e → FlP L e u' → Q (.inr 2) u')
    (hk : ∀ e s' u', nrm L.1 (pAgg L.1 b X (tK L.1 s.1) s) = .inr (e, s') → XR L s' cu none b (C ++ cF e C.length A.length) (A ++ aF e C.length) u' → Fm XC [13] u u' → Q (.inl none) u') : WS (d + 8) m_Pars_aggregate 0 [some (.ref 36), none, none, none, none, none, none] [] u Q := by
  obtain ⟨t1, t2, t3⟩ := hX.1.tk
  have hcl := hX.2.2.2.2.1
  have hal := hX.2.2.2.2.2
  have hkwf := hX.2.2.2.1.1
  generalize hwh : tK L.1 s.1 = which at *
  have sc5 : ∀ (k f : Nat) (i : List So), Sc L.1 (pb (pt L.1 42) fun _ => pr ([((56, which, k, f), i)] : Ex)) := fun _ _ _ => sc_pb (sc_pt _ (by decide)) fun _ => sc_pr _
  have sc4 : ∀ (k f : Nat), Sc L.1 (pb (pIn L.1 (X (some k))) fun i => pb (pt L.1 42) fun _ => pr ([((56, which, k, f), i)] : Ex)) := fun k f => sc_pb sc_pIn fun i => sc5 k f i
  have sc3 : ∀ (k : Nat), Sc L.1 (pb (pi (which = 16) (pr 0) (pb (pt L.1 48) fun _ => pField L.1 k)) fun f => pb (pIn L.1 (X (some k))) fun i => pb (pt L.1 42) fun _ => pr ([((56, which, k, f), i)] : Ex)) := fun k => sc_pb (sc_pi2 (sc_pr _) (sc_pb (sc_pt _ (by decide)) fun _ => sc_pField _)) fun f => sc4 k f
  have sc2 : Sc L.1 (pb (pKind L.1) fun k => pb (pi (which = 16) (pr 0) (pb (pt L.1 48) fun _ => pField L.1 k)) fun f => pb (pIn L.1 (X (some k))) fun i => pb (pt L.1 42) fun _ => pr ([((56, which, k, f), i)] : Ex)) := sc_pb sc_pKind sc3
  have sc1 : Sc L.1 (pb (pOpen L.1 b 41) fun _ => pb (pKind L.1) fun k => pb (pi (which = 16) (pr 0) (pb (pt L.1 48) fun _ => pField L.1 k)) fun f => pb (pIn L.1 (X (some k))) fun i => pb (pt L.1 42) fun _ => pr ([((56, which, k, f), i)] : Ex)) := sc_pb (sc_pOpen _ _ (by decide)) fun _ => sc2
  -- from the condition on
  have tail : ∀ (k f : Nat) (s4 : PS) (u6 : Us) (fI : Int32), 0 < b → k < s.2.1.length → f < 6 → fI = nI (if which = 16 then 0 else 6 * k + f) → s4.2 = s.2 → s.1 + 3 ≤ s4.1 → XR L s4 cu none (b - 1) C A u6 → Fm XC [13] u u6 →
      nrm L.1 (pAgg L.1 b X which s) = nrm L.1 ((pb (pIn L.1 (X (some k))) fun i => pb (pt L.1 42) fun _ => pr ([((56, which, k, f), i)] : Ex)) s4) →
      WS (d + 7) m_Code_add 0 [some (.ref 14), some (.int 55), some (.int 0)] [] u6 (Ri (fun (r7 : Int32) (u8 : Us) => WS (d + 7) m_Pars_condition 0 [some (.ref 36), some (.int (nI k))] [] u8 (Rv (fun (u10 : Us) => ∃ k11 : Nat, r7 = nI k11 ∧ k11 < 700 ∧ (∃ k12 : Nat, aI u10 14 8 = nI k12 ∧ k12 < 150 ∧ (∃ k13 : Nat, aI u10 14 8 = nI k13 ∧ k13 < 150 ∧ (∃ k14 : Nat, aI u10 14 8 = nI k14 ∧ k14 < 150 ∧ (∃ k15 : Nat, aI u10 14 8 = nI k15 ∧ k15 < 150 ∧ (∃ k16 : Nat, aI u10 14 8 = nI k16 ∧ k16 < 150 ∧ (WS (d + 7) m_Code_add 0 [some (.ref 14), some (.int 56), some (.int (aI u10 14 8))] [] (uI (uI (uI (uI (uI (uI (uI u10 16 k11 (aI u10 14 2)) 14 8 ((aI u10 14 8) + 1)) 17 k12 (aI u 10 5)) 18 k13 (nI k)) 19 k14 fI) 20 k15 (r7 + 1)) 21 k16 (aI u10 14 2)) (Ri (fun (r17 : Int32) (u18 : Us) => WS (d + 7) m_Pars_shuts 0 [some (.ref 36), some (.int 42)] [] u18 (Rv (fun (u20 : Us) => Q (.inl none) u20) (fun x u => Q (.inr x) u))) (fun x u => Q (.inr x) u))))))))) (fun x u => Q (.inr x) u))) (fun x u => Q (.inr x) u)) := by
    intro k f s4 u6 fI hb hkl hf6 hfI hs4 hs43 hX6 hf6' qd
    have t34 := hX6.1.tk.2.2
    refine s_add _ _ (x := 55) (y := 0) rfl rfl hX6.2.2.1 (by omega) (fun u8 hc8 hf8 => ?_)
    have hX8 := hX6.add hc8 hf8 (by omega)
    obtain ⟨d', hd'⟩ : ∃ d', d + 7 = d' + 1 := ⟨d + 6, rfl⟩
    refine s_in (d := d + 6) _ rfl (by rw [hs4]; exact hkl) hD (by omega) hX8 (by simp; omega) (hS _) (hG _) (hE hb _) (fun e u' q1 q2 => he e u' (by rw [qd]; exact nrm_l q1 (fun i => sc5 k f i)) q2) (fun i s5 u10 q1 hX10 hv hl5 hz5 hf10 => ?_)
    have qe := (nrm_r (g := fun i => pb (pt L.1 42) fun _ => pr ([((56, which, k, f), i)] : Ex)) q1).1
    have hA10 := hX10.2.2.1.2.2.1
    have t35 := hX10.1.tk.2.2
    have hcl10 := hX10.2.2.2.2.1
    simp only [List.length_append, List.length_singleton] at hcl10
    refine ⟨C.length, rfl, by omega, A.length, hA10, by omega, A.length, hA10, by omega, A.length, hA10, by omega, A.length, hA10, by omega, A.length, hA10, by omega, ?_⟩
    have hc11 := cd_patch (k := k) (r := nI C.length) hX10.2.2.1 t1 rfl hfI rfl
    have hX11 : XR L s5 cu none (b - 1) (C ++ (55, C.length + 1 + (iF i).length) :: iF i) (A ++ [(which, k, (if which = 16 then 0 else 6 * k + f), C.length + 1, C.length + 1 + (iF i).length)]) (uI (uI (uI (uI (uI (uI (uI u10 16 C.length (aI u10 14 2)) 14 8 (aI u10 14 8 + 1)) 17 A.length (aI u 10 5)) 18 A.length (nI k)) 19 A.length fI) 20 A.length (nI C.length + 1)) 21 A.length (aI u10 14 2)) := by
      refine ⟨((((((hX10.1.up (by decide)).up (by decide)).up (by decide)).up (by decide)).up (by decide)).up (by decide)).up (by decide), hX10.2.1.go ?_ ?_, hc11, hX10.2.2.2.1, by simp only [List.length_append, List.length_cons]; omega, by simp only [List.length_append, List.length_singleton]; omega⟩
      · simp only [aI_uIc (show (36 : Nat) ≠ 16 by decide), aI_uIc (show (36 : Nat) ≠ 14 by decide), aI_uIc (show (36 : Nat) ≠ 17 by decide), aI_uIc (show (36 : Nat) ≠ 18 by decide), aI_uIc (show (36 : Nat) ≠ 19 by decide), aI_uIc (show (36 : Nat) ≠ 20 by decide), aI_uIc (show (36 : Nat) ≠ 21 by decide)]
      · simp only [aI_uIc (show (37 : Nat) ≠ 16 by decide), aI_uIc (show (37 : Nat) ≠ 14 by decide), aI_uIc (show (37 : Nat) ≠ 17 by decide), aI_uIc (show (37 : Nat) ≠ 18 by decide), aI_uIc (show (37 : Nat) ≠ 19 by decide), aI_uIc (show (37 : Nat) ≠ 20 by decide), aI_uIc (show (37 : Nat) ≠ 21 by decide)]
    have hfm11 : Fm XC [13] u10 (uI (uI (uI (uI (uI (uI (uI u10 16 C.length (aI u10 14 2)) 14 8 (aI u10 14 8 + 1)) 17 A.length (aI u 10 5)) 18 A.length (nI k)) 19 A.length fI) 20 A.length (nI C.length + 1)) 21 A.length (aI u10 14 2)) := ((((((Fm.refl.uI (by decide)).uI (by decide)).uI (by decide)).uI (by decide)).uI (by decide)).uI (by decide)).uI (by decide)
    refine s_add _ _ (x := 56) (y := A.length) rfl hA10 hX11.2.2.1 (by simp only [List.length_append, List.length_cons]; omega) (fun u12 hc12 hf12 => ?_)
    have hX12 := hX11.add hc12 hf12 (by simp only [List.length_append, List.length_cons]; omega)
    have hcb := hX.2.1.2.2.2.1
    refine s_shuts _ rfl (by decide) (by decide) hX12.1 hX12.2.1 (by omega) (fun e u' q2 q3 => he e u' (by rw [qd, qe]; exact nrm_l q2 (fun _ => sc_pr _)) q3) (fun u13 q2 hR13 hp13 hf13 => ?_)
    have qf := (nrm_r (g := fun _ => pr ([((56, which, k, f), i)] : Ex)) q2).1
    rw [nrm_pr (nrm_inr q2).2] at qf
    refine hk _ _ u13 (by rw [qd, qe, qf]) ?_ (((hf6'.trans (hf8.mono (by decide) (by decide))).trans (hf10.trans hfm11)).trans ((hf12.mono (by decide) (by decide)).trans (hf13.mono (by decide) (by decide))))
    have ec : cF ([((56, which, k, f), i)] : Ex) C.length A.length = (55, C.length + 1 + (iF i).length) :: (iF i ++ [(56, A.length)]) := by simp [cF, cO]
    have ea : aF ([((56, which, k, f), i)] : Ex) C.length = [(which, k, (if which = 16 then 0 else 6 * k + f), C.length + 1, C.length + 1 + (iF i).length)] := by simp [aF, aO]
    rw [ec, ea]
    have hbb : b - 1 + 1 = b := by omega
    rw [hbb] at hp13
    refine ⟨hR13, hp13, ?_, hX12.2.2.2.1.go hX12.2.2.2.1.v1, ?_, ?_⟩
    · have := hX12.2.2.1.fm hf13 (fun i a b => by simp; omega)
      simpa using this
    · have := hX12.2.2.2.2.1
      simp only [List.length_append, List.length_cons, List.length_nil] at this ⊢
      omega
    · have := hX12.2.2.2.2.2
      simp only [List.length_append, List.length_cons, List.length_nil] at this ⊢
      omega
  refine g_Pars_aggregate_0 ?_
  refine s_nextR hX.1 (by omega) (fun e u' q1 q2 => he e u' (nrm_l q1 (fun _ => sc1)) q2) (fun u2 q1 hR2 hf2 => ?_)
  have qa := (nrm_r (g := fun _ => pb (pOpen L.1 b 41) fun _ => pb (pKind L.1) fun k => pb (pi (which = 16) (pr 0) (pb (pt L.1 48) fun _ => pField L.1 k)) fun f => pb (pIn L.1 (X (some k))) fun i => pb (pt L.1 42) fun _ => pr ([((56, which, k, f), i)] : Ex)) q1).1
  have hX2 := hX.next hR2 hf2
  refine s_opens _ rfl (by decide) (by decide) hX2.1 hX2.2.1 (fun e u' q2 q3 => he e u' (qa.trans (nrm_l q2 (fun _ => sc2))) q3) (fun u4 q2 hb hR4 hp4 hf4 => ?_)
  have qb := (nrm_r (g := fun _ => pb (pKind L.1) fun k => pb (pi (which = 16) (pr 0) (pb (pt L.1 48) fun _ => pField L.1 k)) fun f => pb (pIn L.1 (X (some k))) fun i => pb (pt L.1 42) fun _ => pr ([((56, which, k, f), i)] : Ex)) q2).1
  have hX4 : XR L (s.1 + 1 + 1, s.2) cu none (b - 1) C A u4 := ⟨hR4, hp4, hX2.2.2.1.fm hf4 (fun i a b => by simp; omega), hX2.2.2.2.1.go hX2.2.2.2.1.v1, by simp only; omega, by simp only; omega⟩
  have f4 : Fm XC [13] u u4 := (hf2.mono (by decide) (by decide)).trans (hf4.mono (by decide) (by decide))
  refine s_kind hX4.1 (fun e u' q3 q4 => he e u' (qa.trans (qb.trans (nrm_l q3 sc3))) q4) (fun k u6 q3 hkl hR6 hf6 => ?_)
  have qc := (nrm_r (g := fun k => pb (pi (which = 16) (pr 0) (pb (pt L.1 48) fun _ => pField L.1 k)) fun f => pb (pIn L.1 (X (some k))) fun i => pb (pt L.1 42) fun _ => pr ([((56, which, k, f), i)] : Ex)) q3).1
  have hX6 := hX4.next hR6 hf6
  have f6 : Fm XC [13] u u6 := f4.trans (hf6.mono (by decide) (by decide))
  obtain ⟨nm, -, g2⟩ := fs_at hkl
  have hfs := hkwf.2 _ _ g2
  refine ⟨fun z => ?_, fun z => ?_⟩
  · have e16 : which = 16 := (nI_eq (b := 16) (by omega) (by decide)).mp (by rw [← t1]; exact z)
    refine tail k 0 (s.1 + 1 + 1 + 1, s.2) u6 0 hb hkl (by omega) (by rw [if_pos e16]; rfl) rfl (by simp only; omega) hX6 f6 (qa.trans (qb.trans (qc.trans ?_)))
    have := (nrm_r (f := pi (which = 16) (pr 0) (pb (pt L.1 48) fun _ => pField L.1 k)) (a := 0) (s' := (s.1 + 1 + 1 + 1, s.2)) (g := fun f => pb (pIn L.1 (X (some k))) fun i => pb (pt L.1 42) fun _ => pr ([((56, which, k, f), i)] : Ex)) (by
      unfold pi
      rw [if_pos e16]
      exact nrm_pr hR6.tk.2.1)).1
    exact this
  · have e16 : ¬ which = 16 := fun q => z (by rw [t1, q]; rfl)
    have epi : ∀ s', pi (which = 16) (pr 0) (pb (pt L.1 48) fun _ => pField L.1 k) s' = pb (pt L.1 48) (fun _ => pField L.1 k) s' := fun s' => by unfold pi; rw [if_neg e16]
    have qp : nrm L.1 (pAgg L.1 b X which s) = nrm L.1 ((pb (pt L.1 48) fun _ => pb (pField L.1 k) fun f => pb (pIn L.1 (X (some k))) fun i => pb (pt L.1 42) fun _ => pr ([((56, which, k, f), i)] : Ex)) (s.1 + 1 + 1 + 1, s.2)) := by
      refine qa.trans (qb.trans (qc.trans ?_))
      have : pb (pi (which = 16) (pr 0) (pb (pt L.1 48) fun _ => pField L.1 k)) (fun f => pb (pIn L.1 (X (some k))) fun i => pb (pt L.1 42) fun _ => pr ([((56, which, k, f), i)] : Ex)) (s.1 + 1 + 1 + 1, s.2) = pb (pb (pt L.1 48) fun _ => pField L.1 k) (fun f => pb (pIn L.1 (X (some k))) fun i => pb (pt L.1 42) fun _ => pr ([((56, which, k, f), i)] : Ex)) (s.1 + 1 + 1 + 1, s.2) := by
        unfold pi
        rw [if_neg e16]
      rw [this, pb_assoc]
    refine s_take _ rfl (by decide) (by decide) hX6.1 (fun e u' q4 q5 => he e u' (qp.trans (nrm_l q4 (fun _ => sc_pb (sc_pField _) fun f => sc4 k f))) q5) (fun u22 q4 hR22 hf22 => ?_)
    have qq := (nrm_r (g := fun _ => pb (pField L.1 k) fun f => pb (pIn L.1 (X (some k))) fun i => pb (pt L.1 42) fun _ => pr ([((56, which, k, f), i)] : Ex)) q4).1
    have hX22 := hX6.next hR22 hf22
    refine s_field (s := (s.1 + 1 + 1 + 1 + 1, s.2)) _ rfl hkl hX22.1 (fun e u' q5 q6 => he e u' (qp.trans (qq.trans (nrm_l q5 (fun f => sc4 k f)))) q6) (fun f u24 q5 hfl hR24 hf24 => ?_)
    have qr := (nrm_r (g := fun f => pb (pIn L.1 (X (some k))) fun i => pb (pt L.1 42) fun _ => pr ([((56, which, k, f), i)] : Ex)) q5).1
    exact tail k f (s.1 + 1 + 1 + 1 + 1 + 1, s.2) u24 _ hb hkl (Nat.lt_of_lt_of_le (show f < (fsOf s.2.1 k).length from hfl) hfs.2.1) (by rw [if_neg e16]) rfl (by simp only; omega) (hX22.next hR24 hf24) (f6.trans ((hf22.mono (by decide) (by decide)).trans (hf24.mono (by decide) (by decide)))) (qp.trans (qq.trans qr))
theorem ce_atom {wi : Option Nat} (hD : 7 ≤ D) (hS : ∀ w, Sc L.1 (X w)) (hG : ∀ w, GE cu w H (X w)) (hE : 0 < b → ∀ w, CE L cu w (b - 1) m_Pars_either [some (.ref 36)] D (X w)) : CE L cu wi b m_Pars_atom [some (.ref 36), none] (D + 3) (pAtom L.1 wi cu b X) := by
  intro d s u C A Q hd hX he hk
  obtain ⟨d, rfl⟩ : ∃ d', d = d' + 9 := ⟨d - 9, by omega⟩
  obtain ⟨t1, t2, t3⟩ := hX.1.tk
  have hcl := hX.2.2.2.2.1
  have eA : ∀ s', pAtom L.1 wi cu b X s' = pi (tK L.1 s'.1 = 21) (fun s => .inr ([o1 50 (tV L.1 s.1) 0 0], s.1 + 1, s.2)) (pi (tK L.1 s'.1 = 41) (pb (pOpen L.1 b 41) fun _ => pb (X wi) fun e => pb (pt L.1 42) fun _ => pr e) (pi (16 ≤ tK L.1 s'.1 ∧ tK L.1 s'.1 ≤ 19) (pi (wi.isSome = true) pe (pAgg L.1 b X (tK L.1 s'.1))) (pi (tK L.1 s'.1 = 20) (pNamed L.1 wi cu) pe))) s' := fun s' => rfl
  have named : tK L.1 s.1 ≠ 21 → tK L.1 s.1 ≠ 41 → ¬ (16 ≤ tK L.1 s.1 ∧ tK L.1 s.1 ≤ 19) → WS (d + 8) m_Pars_name 0 [some (.ref 36)] [] u (Ri (fun (r1 : Int32) (u2 : Us) => WS (d + 8) m_Pars_named 0 [some (.ref 36), some (.int r1), none, none] [] u2 (Rv (fun (u4 : Us) => Q (.inl none) u4) (fun x u => Q (.inr x) u))) (fun x u => Q (.inr x) u)) := by
    intro n1 n2 n3
    refine s_name hX.1 (fun n4 u' h => he s.1 u' (nrm_err ?_) h) (fun h20 => ?_)
    · rw [eA]
      unfold pi
      rw [if_neg n1, if_neg n2, if_neg n3, if_neg n4]
      rfl
    · have e : pAtom L.1 wi cu b X s = pNamed L.1 wi cu s := by
        rw [eA]
        unfold pi
        rw [if_neg n1, if_neg n2, if_neg n3, if_pos h20]
      rw [e] at he hk
      exact s_named (d := d + 1) hX h20 he hk
  refine g_Pars_atom_0 ⟨fun z1 => ⟨fun z2 => ⟨fun z3 => ?_, fun z3 => ⟨fun z4 => ?_, fun z4 => ⟨fun z5 => ?_, fun z5 => ?_⟩⟩⟩, fun z2 => ?_⟩, fun z1 => ?_⟩
  · refine named (fun q => z1 ((hX.1.is (k := 21) (by decide)).mpr q)) (fun q => z2 ((hX.1.is (k := 41) (by decide)).mpr q)) (fun q => ?_)
    rw [t1] at z3
    have := (nI_ltI (b := 16) (by omega) (by decide)).mp z3
    omega
  · refine named (fun q => z1 ((hX.1.is (k := 21) (by decide)).mpr q)) (fun q => z2 ((hX.1.is (k := 41) (by decide)).mpr q)) (fun q => ?_)
    rw [t1] at z4
    have := (nI_ltI (a := 19) (by decide) (by omega)).mp z4
    omega
  · rw [t1] at z3 z4
    have a1 : ¬ tK L.1 s.1 < 16 := fun q => z3 ((nI_ltI (b := 16) (by omega) (by decide)).mpr q)
    have a2 : ¬ 19 < tK L.1 s.1 := fun q => z4 ((nI_ltI (a := 19) (by decide) (by omega)).mpr q)
    have hw : 16 ≤ tK L.1 s.1 ∧ tK L.1 s.1 ≤ 19 := by omega
    have hwi : wi = none := by
      cases wi with
      | none => rfl
      | some k =>
        rw [hX.2.1.2.2.2.2.2] at z5
        have h1 := hX.2.2.2.1.2.1 k rfl
        have h2 := hX.2.2.2.1.1.1
        exact absurd z5 (nI_pos (by omega))
    subst hwi
    have e : pAtom L.1 none cu b X s = pAgg L.1 b X (tK L.1 s.1) s := by
      rw [eA]
      unfold pi
      rw [if_neg (by omega), if_neg (by omega), if_pos hw, if_neg (by simp)]
    rw [e] at he hk
    exact s_agg (by omega) (by omega) hS hG hE hX hw he hk
  · rw [t1] at z3 z4
    have a1 : ¬ tK L.1 s.1 < 16 := fun q => z3 ((nI_ltI (b := 16) (by omega) (by decide)).mpr q)
    have a2 : ¬ 19 < tK L.1 s.1 := fun q => z4 ((nI_ltI (a := 19) (by decide) (by omega)).mpr q)
    have hw : 16 ≤ tK L.1 s.1 ∧ tK L.1 s.1 ≤ 19 := by omega
    have hwi : wi.isSome = true := by
      cases wi with
      | none =>
        rw [hX.2.1.2.2.2.2.2] at z5
        exact absurd (by decide : (-1 : Int32) < 0) z5
      | some k => rfl
    refine hX.1.failW (fun u' h => he s.1 u' (nrm_err ?_) h)
    rw [eA]
    unfold pi
    rw [if_neg (by omega), if_neg (by omega), if_pos hw, if_pos hwi]
    rfl
  · have e41 := (hX.1.is (k := 41) (by decide)).mp z2
    have e : pAtom L.1 wi cu b X s = (pb (pOpen L.1 b 41) fun _ => pb (X wi) fun e => pb (pt L.1 42) fun _ => pr e) s := by
      rw [eA]
      unfold pi
      rw [if_neg (by omega), if_pos e41]
    rw [e] at he hk
    have sc3 : ∀ e : Ex, Sc L.1 (pb (pt L.1 42) fun _ => pr e) := fun _ => sc_pb (sc_pt _ (by decide)) fun _ => sc_pr _
    have sc2 : Sc L.1 (pb (X wi) fun e => pb (pt L.1 42) fun _ => pr e) := sc_pb (hS _) sc3
    refine s_opens (d := d + 1) _ rfl (by decide) (by decide) hX.1 hX.2.1 (fun e u' q1 q2 => he e u' (nrm_l q1 (fun _ => sc2)) q2) (fun u2 q1 hb hR2 hp2 hf2 => ?_)
    have qa := (nrm_r (g := fun _ => pb (X wi) fun e => pb (pt L.1 42) fun _ => pr e) q1).1
    have hX2 : XR L (s.1 + 1, s.2) cu wi (b - 1) C A u2 := ⟨hR2, hp2, hX.2.2.1.fm hf2 (fun i a b => by simp; omega), hX.2.2.2.1.go hX.2.2.2.1.v1, by simp only; omega, by have := hX.2.2.2.2.2; simp only; omega⟩
    refine hE hb wi (d + 8) _ u2 C A _ (by omega) hX2 (fun e u' q2 q3 => he e u' (qa.trans (nrm_l q2 sc3)) q3) (fun e1 s3 u3 q2 hX3 hf3 => ?_)
    have qb := (nrm_r (g := fun e => pb (pt L.1 42) fun _ => pr e) q2).1
    have hcb := hX.2.1.2.2.2.1
    refine s_shuts (d := d + 1) _ rfl (by decide) (by decide) hX3.1 hX3.2.1 (by omega) (fun e u' q3 q4 => he e u' (qa.trans (qb.trans (nrm_l q3 (fun _ => sc_pr _)))) q4) (fun u4 q3 hR4 hp4 hf4 => ?_)
    have qc := (nrm_r (g := fun _ => pr e1) q3).1
    rw [nrm_pr (nrm_inr q3).2] at qc
    refine hk e1 _ u4 (qa.trans (qb.trans qc)) ?_ ((hf2.mono (by decide) (by decide)).trans (hf3.trans (hf4.mono (by decide) (by decide))))
    rw [show b - 1 + 1 = b by omega] at hp4
    exact ⟨hR4, hp4, hX3.2.2.1.fm hf4 (fun i a b => by simp; omega), hX3.2.2.2.1.go hX3.2.2.2.1.v1, Nat.le_succ_of_le hX3.2.2.2.2.1, Nat.le_succ_of_le hX3.2.2.2.2.2⟩
  · have e21 := (hX.1.is (k := 21) (by decide)).mp z1
    have e : pAtom L.1 wi cu b X s = .inr ([o1 50 (tV L.1 s.1) 0 0], s.1 + 1, s.2) := by
      rw [eA]
      unfold pi
      rw [if_pos e21]
    obtain ⟨NT, h1, -⟩ := id hX.1
    have hv := h1.2.2.2.2.2.2.2.1 e21
    refine s_add _ _ (x := 50) rfl hv hX.2.2.1 (by omega) (fun u2 hc2 hf2 => ?_)
    have hR2 : RL L s u2 := hX.1.go (hf2.mono (by decide) (by decide)) (fun i a b => hf2.1 i (by simp; omega)) (hf2.2.1 13 (by decide))
    refine s_nextR (d := d + 3) hR2 (by omega) (fun e' u' q1 q2 => he e' u' (nrm_if e q1 rfl) q2) (fun u3 q1 hR3 hf3 => ?_)
    refine hk _ _ u3 (nrm_if' e q1 rfl) ?_ ((hf2.mono (by decide) (by decide)).trans (hf3.mono (by decide) (by decide)))
    rw [show o1 50 (tV L.1 s.1) 0 0 = ((50, tV L.1 s.1, 0, 0), []) from rfl, (cF_one (by simp) _ _).1, (cF_one (by simp) _ 0).2, List.append_nil]
    refine ⟨hR3, (hX.2.1.fm hf2 (by decide) (by decide)).fm hf3 (by decide) (by decide), hc2.fm hf3 (fun i a b => by simp; omega), hX.2.2.2.1.go hX.2.2.2.1.v1, ?_, Nat.le_succ_of_le hX.2.2.2.2.2⟩
    simp [cS]
    omega
theorem ce_eith {wi : Option Nat} {D H : Nat} {f : Pr Ex} (sa : Sc L.1 f) (ga : GE cu wi H f) (hD : 5 ≤ D) (ca : CE L cu wi b m_Pars_atom [some (.ref 36), none] D f) : CE L cu wi b m_Pars_either [some (.ref 36)] (D + 6) (pEith L.1 f) :=
  ce_either (sc_pChain _ _ (by decide) (sc_pNeg (sc_pSum sa))) (ge_chain (.inl ⟨by decide, by decide⟩) (ge_neg (ge_sum ga))) (by omega) (ce_both (sc_pNeg (sc_pSum sa)) (ge_neg (ge_sum ga)) (by omega) (ce_neg (sc_pSum sa) (ge_sum ga) (by omega) (ce_sum (sc_pChain _ _ (by decide) (sc_pSigned sa)) (ge_chain (.inr ⟨by decide, by decide⟩) (ge_signed ga)) (by omega) (ce_product (sc_pSigned sa) (ge_signed ga) (by omega) (ce_signed sa ga (by omega) ca)))))
theorem CE.mono {wi : Option Nat} {y : My} {ls : Lo} {D D' : Nat} {f : Pr Ex} (h : CE L cu wi b y ls D f) (hD : D ≤ D') : CE L cu wi b y ls D' f := fun d s u C A Q hd => h d s u C A Q (Nat.le_trans hD hd)
theorem ce_exp : ∀ (b : Nat) (wi : Option Nat), b ≤ 10 → CE L cu wi b m_Pars_either [some (.ref 36)] (16 + 9 * b) (pExp L.1 cu b wi)
  | 0, wi, _ => by
    have ga : GE cu wi 1 (pAtom L.1 wi cu 0 (fun _ => pe)) := ge_atom (by omega) (by omega) (fun w s e s' h => (pe_ok h).elim)
    have ca : CE L cu wi 0 m_Pars_atom [some (.ref 36), none] (7 + 3) (pAtom L.1 wi cu 0 (fun _ => pe)) := ce_atom (H := 1) (Nat.le_refl _) (fun _ => sc_pe) (fun w s e s' h => (pe_ok h).elim) (fun h => absurd h (Nat.lt_irrefl _))
    exact ce_eith (sc_pAtom _ _ _ _) ga (by omega) ca
  | b + 1, wi, hb => by
    have gx : ∀ w, GE cu w (6 + 5 * b) (pExp L.1 cu b w) := fun w => ge_exp b w (by omega)
    have ga : GE cu wi (6 + 5 * b) (pAtom L.1 wi cu (b + 1) (pExp L.1 cu b)) := ge_atom (by omega) (by omega) gx
    have ca : CE L cu wi (b + 1) m_Pars_atom [some (.ref 36), none] (16 + 9 * b + 3) (pAtom L.1 wi cu (b + 1) (pExp L.1 cu b)) := ce_atom (by omega) (fun w => sc_pExp _ _ _) gx (fun _ w => ce_exp b w (by omega))
    exact (ce_eith (sc_pAtom _ _ _ _) ga (by omega) ca).mono (by omega)
end AG2
