theorem g_Mach_all_0 {d : Nat} {u : Us} {Q : Ot → Us → Prop} (p2 : Int32)
    (h : WS (d + 1) m_Mach_all 2 [some (.ref 38), some (.int p2), some (.int p2)] [] u Q) :
    WS (d + 1) m_Mach_all 0 [some (.ref 38), some (.int p2), none] [] u Q := by
  refine w_iload_n (dk_Mach_all 0 rfl) rfl ?_
  refine w_istore_n (ls' := [some (.ref 38), some (.int p2), some (.int p2)]) (dk_Mach_all 1 rfl) (by decide) rfl ?_
  exact h
theorem g_Mach_all_2 {d : Nat} {u : Us} {Q : Ot → Us → Prop} (x1 : Int32) (x2 : Int32)
    (h : (x2 < 0 → Q (.inl (some (.int 1))) u) ∧ (¬ (x2 < 0) → WS d m_Mach_spends 0 [some (.ref 38)] [] u (Ri (fun (r1 : Int32) (u2 : Us) => (r1 = 0 → Q (.inl (some (.int 0))) u2) ∧ (¬ (r1 = 0) → WS d m_Mach_does 0 [some (.ref 38), some (.int x2), none] [] u2 (Ri (fun (r3 : Int32) (u4 : Us) => (r3 ≠ 0 → ∃ k5 : Nat, x2 = nI k5 ∧ k5 < 160 ∧ (WS (d + 1) m_Mach_all 2 [some (.ref 38), some (.int x1), some (.int (aI u4 30 k5))] [] u4 Q)) ∧ (r3 = 0 → Q (.inl (some (.int 0))) u4)) (fun x u => Q (.inr x) u)))) (fun x u => Q (.inr x) u)))) :
    WS (d + 1) m_Mach_all 2 [some (.ref 38), some (.int x1), some (.int x2)] [] u Q := by
  refine w_iload_n (dk_Mach_all 2 rfl) rfl ?_
  refine w_if_lt 36 (dk_Mach_all 3 rfl) (by decide) (fun c_ => ?_) (fun c_ => ?_)
  · replace h := h.1 c_
    refine w_iconst (v := 1) (dk_Mach_all 20 rfl) rfl ?_
    exact w_bret (dk_Mach_all 21 rfl) rfl (Or.inr rfl) h
  · replace h := h.2 c_
    refine w_aload_n (dk_Mach_all 4 rfl) rfl ?_
    refine w_callVi (ls' := [some (.ref 38)]) cv_Mach_176 (dk_Mach_all 5 rfl) (ci := 6) rfl rfl [] [] rfl rfl (Nat.le_of_ble_eq_true rfl) (Nat.le_of_ble_eq_true rfl) rfl rfl rfl h (fun r1 u2 h => ?_)
    refine w_if_eq 21 (dk_Mach_all 6 rfl) (by decide) (fun c_ => ?_) (fun c_ => ?_)
    · replace h := h.1 c_
      refine w_iconst (v := 0) (dk_Mach_all 11 rfl) rfl ?_
      exact w_bret (dk_Mach_all 12 rfl) rfl (Or.inl rfl) h
    · replace h := h.2 c_
      refine w_aload_n (dk_Mach_all 7 rfl) rfl ?_
      refine w_iload_n (dk_Mach_all 8 rfl) rfl ?_
      refine w_callSi (ls' := [some (.ref 38), some (.int x2), none]) cv_Mach_180 (dk_Mach_all 9 rfl) [.ref 38, .int x2] [] rfl rfl (Nat.le_of_ble_eq_true rfl) (Nat.le_of_ble_eq_true rfl) rfl rfl rfl h (fun r3 u4 h => ?_)
      refine w_if_ne 23 (dk_Mach_all 10 rfl) (by decide) (fun c_ => ?_) (fun c_ => ?_)
      · replace h := h.1 c_
        refine w_aload_n (dk_Mach_all 13 rfl) rfl ?_
        refine w_getr (dk_Mach_all 14 rfl) lk_Mach_52 rfl rfl rfl ?_
        refine w_getr (dk_Mach_all 15 rfl) lk_Mach_183 rfl rfl rfl ?_
        refine w_iload_n (dk_Mach_all 16 rfl) rfl ?_
        obtain ⟨k5, e_k5, l_k5, h⟩ := h
        refine w_iald (k_ := k5) (dk_Mach_all 17 rfl) rfl (by decide) e_k5 l_k5 ?_
        refine w_istore_n (ls' := [some (.ref 38), some (.int x1), some (.int (aI u4 30 k5))]) (dk_Mach_all 18 rfl) (by decide) rfl ?_
        refine w_goto 2 (dk_Mach_all 19 rfl) (by decide) ?_
        exact h
      · replace h := h.2 c_
        refine w_iconst (v := 0) (dk_Mach_all 11 rfl) rfl ?_
        exact w_bret (dk_Mach_all 12 rfl) rfl (Or.inl rfl) h
theorem g_Mach_spends_0 {d : Nat} {u : Us} {Q : Ot → Us → Prop} 
    (h : ((aI u 38 8) ≠ (aI u 38 7) → Q (.inl (some (.int 1))) (uI u 38 8 ((aI u 38 8) + 1))) ∧ ((aI u 38 8) = (aI u 38 7) → Q (.inl (some (.int 0))) (uI u 38 9 1))) :
    WS d m_Mach_spends 0 [some (.ref 38)] [] u Q := by
  refine w_aload_n (dk_Mach_spends 0 rfl) rfl ?_
  refine w_geti (v := aI u 38 8) (dk_Mach_spends 1 rfl) lk_Mach_167 rfl rfl rfl ?_
  refine w_aload_n (dk_Mach_spends 2 rfl) rfl ?_
  refine w_geti (v := aI u 38 7) (dk_Mach_spends 3 rfl) lk_Mach_170 rfl rfl rfl ?_
  refine w_icmp_ne 18 (dk_Mach_spends 4 rfl) (by decide) (fun c_ => ?_) (fun c_ => ?_)
  · replace h := h.1 c_
    refine w_aload_n (dk_Mach_spends 10 rfl) rfl ?_
    refine w_dup (dk_Mach_spends 11 rfl) rfl ?_
    refine w_geti (v := aI u 38 8) (dk_Mach_spends 12 rfl) lk_Mach_167 rfl rfl rfl ?_
    refine w_iconst (v := 1) (dk_Mach_spends 13 rfl) rfl ?_
    refine w_iadd (dk_Mach_spends 14 rfl) ?_
    refine w_puti (dk_Mach_spends 15 rfl) lk_Mach_167 rfl rfl ?_
    refine w_iconst (v := 1) (dk_Mach_spends 16 rfl) rfl ?_
    exact w_bret (dk_Mach_spends 17 rfl) rfl (Or.inr rfl) h
  · replace h := h.2 c_
    refine w_aload_n (dk_Mach_spends 5 rfl) rfl ?_
    refine w_iconst (v := 1) (dk_Mach_spends 6 rfl) rfl ?_
    refine w_puti (dk_Mach_spends 7 rfl) lk_Mach_173 rfl rfl ?_
    refine w_iconst (v := 0) (dk_Mach_spends 8 rfl) rfl ?_
    exact w_bret (dk_Mach_spends 9 rfl) rfl (Or.inl rfl) h
theorem g_Mach_does_0 {d : Nat} {u : Us} {Q : Ot → Us → Prop} (p2 : Int32)
    (h : ∃ k1 : Nat, p2 = nI k1 ∧ k1 < 160 ∧ (((aI u 23 k1) = 1 → WS d m_Mach_insert 0 [some (.ref 38), some (.int p2), none, none, none, none] [] u (Ri (fun (r3 : Int32) (u4 : Us) => (r3 = 0 ∨ r3 = 1) ∧ Q (.inl (some (.int r3))) u4) (fun x u => Q (.inr x) u))) ∧ (((aI u 23 k1) = 2 → ∃ k6 : Nat, p2 = nI k6 ∧ k6 < 160 ∧ (∃ k7 : Nat, p2 = nI k7 ∧ k7 < 160 ∧ (∃ k8 : Nat, p2 = nI k8 ∧ k8 < 160 ∧ (WS d m_Mach_chosen 0 [some (.ref 38), some (.int (aI u 24 k6)), some (.int (aI u 26 k7)), some (.int (aI u 27 k8))] [] u (Rl (fun (r9 : Int64) (u10 : Us) => WS d m_Stor_clear 0 [some (.ref 39), some (.long r9), none, none] [] u10 (Rv (fun (u12 : Us) => Q (.inl (some (.int 1))) u12) (fun x u => Q (.inr x) u))) (fun x u => Q (.inr x) u)))))) ∧ (((aI u 23 k1) = 4 → WS d m_Mach_set 0 [some (.ref 38), some (.int p2), none, none, none, none, none, none, none] [] u (Rv (fun (u15 : Us) => Q (.inl (some (.int 1))) u15) (fun x u => Q (.inr x) u))) ∧ (((aI u 23 k1) = 5 → ∃ k17 : Nat, p2 = nI k17 ∧ k17 < 160 ∧ (∃ k18 : Nat, p2 = nI k18 ∧ k18 < 160 ∧ (∃ k19 : Nat, p2 = nI k19 ∧ k19 < 160 ∧ (WS d m_Mach_number 0 [some (.ref 38), some (.int (aI u 26 k18)), some (.int (aI u 27 k19)), none, none, none, none] [] u (Ri (fun (r20 : Int32) (u21 : Us) => ∃ k22 : Nat, aI u 24 k17 = nI k22 ∧ k22 < 20 ∧ (Q (.inl (some (.int 1))) (uI u21 9 k22 r20))) (fun x u => Q (.inr x) u)))))) ∧ (((aI u 23 k1) = 6 → ∃ k24 : Nat, p2 = nI k24 ∧ k24 < 160 ∧ (∃ k25 : Nat, p2 = nI k25 ∧ k25 < 160 ∧ (WS d m_Mach_number 0 [some (.ref 38), some (.int (aI u 26 k24)), some (.int (aI u 27 k25)), none, none, none, none] [] (uI u 38 16 ((aI u 38 16) + 1)) (Ri (fun (r26 : Int32) (u27 : Us) => ∃ k28 : Nat, (aI u 38 16) - (aI u 38 16) / 64 * 64 = nI k28 ∧ k28 < 64 ∧ (Q (.inl (some (.int 1))) (uI u27 51 k28 r26))) (fun x u => Q (.inr x) u))))) ∧ (((aI u 23 k1) = 7 → WS d m_Mach_each 0 [some (.ref 38), some (.int p2), none, none, none, none, none, none, none] [] u (Ri (fun (r30 : Int32) (u31 : Us) => (r30 = 0 ∨ r30 = 1) ∧ Q (.inl (some (.int r30))) u31) (fun x u => Q (.inr x) u))) ∧ (((aI u 23 k1) = 9 → ∃ k33 : Nat, p2 = nI k33 ∧ k33 < 160 ∧ (∃ k34 : Nat, p2 = nI k34 ∧ k34 < 160 ∧ (WS d m_Mach_number 0 [some (.ref 38), some (.int (aI u 26 k33)), some (.int (aI u 27 k34)), none, none, none, none] [] u (Ri (fun (r35 : Int32) (u36 : Us) => (r35 = 0 → ∃ k37 : Nat, p2 = nI k37 ∧ k37 < 160 ∧ (WS d m_Mach_all 0 [some (.ref 38), some (.int (aI u36 29 k37)), none] [] u36 (Ri (fun (r38 : Int32) (u39 : Us) => (r38 = 0 ∨ r38 = 1) ∧ Q (.inl (some (.int r38))) u39) (fun x u => Q (.inr x) u)))) ∧ (¬ (r35 = 0) → ∃ k40 : Nat, p2 = nI k40 ∧ k40 < 160 ∧ (WS d m_Mach_all 0 [some (.ref 38), some (.int (aI u36 28 k40)), none] [] u36 (Ri (fun (r41 : Int32) (u42 : Us) => (r41 = 0 ∨ r41 = 1) ∧ Q (.inl (some (.int r41))) u42) (fun x u => Q (.inr x) u))))) (fun x u => Q (.inr x) u))))) ∧ (((aI u 23 k1) = 11 → WS d m_Mach_repeats 0 [some (.ref 38), some (.int p2)] [] u (Ri (fun (r44 : Int32) (u45 : Us) => (r44 = 0 ∨ r44 = 1) ∧ Q (.inl (some (.int r44))) u45) (fun x u => Q (.inr x) u))) ∧ (((aI u 23 k1) = 12 → ∃ k47 : Nat, p2 = nI k47 ∧ k47 < 160 ∧ (WS d m_Mach_isThere 0 [some (.ref 38), some (.int (aI u 24 k47))] [] u (Ri (fun (r48 : Int32) (u49 : Us) => (r48 = 0 → Q (.inl (some (.int 1))) u49) ∧ (¬ (r48 = 0) → ∃ k50 : Nat, p2 = nI k50 ∧ k50 < 160 ∧ (∃ k51 : Nat, aI u49 24 k50 = nI k51 ∧ k51 < 10 ∧ (WS d m_Stor_clear 0 [some (.ref 39), some (.long (1 <<< (Int32.toInt64 (aI u49 47 k51) &&& 63))), none, none] [] u49 (Rv (fun (u53 : Us) => Q (.inl (some (.int 1))) u53) (fun x u => Q (.inr x) u)))))) (fun x u => Q (.inr x) u)))) ∧ (((aI u 23 k1) = 20 → WS d m_Mach_put 0 [some (.ref 38), some (.int p2), none, none, none] [] u (Rv (fun (u56 : Us) => Q (.inl (some (.int 1))) u56) (fun x u => Q (.inr x) u))) ∧ (((∀ v ∈ ([1, 2, 4, 5, 6, 7, 9, 11, 12, 20] : List Int32), (aI u 23 k1) ≠ v) → Q (.inl (some (.int 1))) u))))))))))))) :
    WS (d + 1) m_Mach_does 0 [some (.ref 38), some (.int p2), none] [] u Q := by
  refine w_aload_n (dk_Mach_does 0 rfl) rfl ?_
  refine w_getr (dk_Mach_does 1 rfl) lk_Mach_52 rfl rfl rfl ?_
  refine w_astore_n (ls' := [some (.ref 38), some (.int p2), some (.ref 22)]) (dk_Mach_does 2 rfl) (by decide) rfl ?_
  refine w_aload_n (dk_Mach_does 3 rfl) rfl ?_
  refine w_getr (dk_Mach_does 4 rfl) lk_Mach_188 rfl rfl rfl ?_
  refine w_iload_n (dk_Mach_does 5 rfl) rfl ?_
  obtain ⟨k1, e_k1, l_k1, h⟩ := h
  refine w_iald (k_ := k1) (dk_Mach_does 6 rfl) rfl (by decide) e_k1 l_k1 ?_
  by_cases n2 : (aI u 23 k1) = 1
  · replace h := h.1 n2
    refine w_tabI ds_Mach_does_11 93 104 (by rw [n2]; decide) (by decide) ?_
    refine w_aload_n (dk_Mach_does 8 rfl) rfl ?_
    refine w_iload_n (dk_Mach_does 9 rfl) rfl ?_
    refine w_callVi (ls' := [some (.ref 38), some (.int p2), none, none, none, none]) cv_Mach_191 (dk_Mach_does 10 rfl) (ci := 6) rfl rfl [.int p2] [] rfl rfl (Nat.le_of_ble_eq_true rfl) (Nat.le_of_ble_eq_true rfl) rfl rfl rfl h (fun r3 u4 h => ?_)
    exact w_bret (dk_Mach_does 11 rfl) rfl h.1 h.2
  replace h := h.2
  by_cases n5 : (aI u 23 k1) = 2
  · replace h := h.1 n5
    refine w_tabI ds_Mach_does_11 99 110 (by rw [n5]; decide) (by decide) ?_
    refine w_aload_n (dk_Mach_does 12 rfl) rfl ?_
    refine w_getr (dk_Mach_does 13 rfl) lk_Mach_12 rfl rfl rfl ?_
    refine w_aload_n (dk_Mach_does 14 rfl) rfl ?_
    refine w_aload_n (dk_Mach_does 15 rfl) rfl ?_
    refine w_getr (dk_Mach_does 16 rfl) lk_Mach_194 rfl rfl rfl ?_
    refine w_iload_n (dk_Mach_does 17 rfl) rfl ?_
    obtain ⟨k6, e_k6, l_k6, h⟩ := h
    refine w_iald (k_ := k6) (dk_Mach_does 18 rfl) rfl (by decide) e_k6 l_k6 ?_
    refine w_aload_n (dk_Mach_does 19 rfl) rfl ?_
    refine w_getr (dk_Mach_does 20 rfl) lk_Mach_195 rfl rfl rfl ?_
    refine w_iload_n (dk_Mach_does 21 rfl) rfl ?_
    obtain ⟨k7, e_k7, l_k7, h⟩ := h
    refine w_iald (k_ := k7) (dk_Mach_does 22 rfl) rfl (by decide) e_k7 l_k7 ?_
    refine w_aload_n (dk_Mach_does 23 rfl) rfl ?_
    refine w_getr (dk_Mach_does 24 rfl) lk_Mach_196 rfl rfl rfl ?_
    refine w_iload_n (dk_Mach_does 25 rfl) rfl ?_
    obtain ⟨k8, e_k8, l_k8, h⟩ := h
    refine w_iald (k_ := k8) (dk_Mach_does 26 rfl) rfl (by decide) e_k8 l_k8 ?_
    refine w_callVl (ls' := [some (.ref 38), some (.int (aI u 24 k6)), some (.int (aI u 26 k7)), some (.int (aI u 27 k8))]) cv_Mach_140 (dk_Mach_does 27 rfl) (ci := 6) rfl rfl [.int (aI u 24 k6), .int (aI u 26 k7), .int (aI u 27 k8)] [.ref 39] rfl rfl (Nat.le_of_ble_eq_true rfl) (Nat.le_of_ble_eq_true rfl) rfl rfl rfl h (fun r9 u10 h => ?_)
    refine w_callVv (ls' := [some (.ref 39), some (.long r9), none, none]) cv_Mach_197 (dk_Mach_does 28 rfl) (ci := 7) rfl rfl [.long r9] [] rfl rfl (Nat.le_of_ble_eq_true rfl) (Nat.le_of_ble_eq_true rfl) rfl rfl rfl h (fun u12 h => ?_)
    refine w_goto 316 (dk_Mach_does 29 rfl) (by decide) ?_
    refine w_iconst (v := 1) (dk_Mach_does 131 rfl) rfl ?_
    exact w_bret (dk_Mach_does 132 rfl) rfl (Or.inr rfl) h
  replace h := h.2
  by_cases n13 : (aI u 23 k1) = 4
  · replace h := h.1 n13
    refine w_tabI ds_Mach_does_11 131 142 (by rw [n13]; decide) (by decide) ?_
    refine w_aload_n (dk_Mach_does 30 rfl) rfl ?_
    refine w_iload_n (dk_Mach_does 31 rfl) rfl ?_
    refine w_callVv (ls' := [some (.ref 38), some (.int p2), none, none, none, none, none, none, none]) cv_Mach_201 (dk_Mach_does 32 rfl) (ci := 6) rfl rfl [.int p2] [] rfl rfl (Nat.le_of_ble_eq_true rfl) (Nat.le_of_ble_eq_true rfl) rfl rfl rfl h (fun u15 h => ?_)
    refine w_goto 316 (dk_Mach_does 33 rfl) (by decide) ?_
    refine w_iconst (v := 1) (dk_Mach_does 131 rfl) rfl ?_
    exact w_bret (dk_Mach_does 132 rfl) rfl (Or.inr rfl) h
  replace h := h.2
  by_cases n16 : (aI u 23 k1) = 5
  · replace h := h.1 n16
    refine w_tabI ds_Mach_does_11 139 150 (by rw [n16]; decide) (by decide) ?_
    refine w_aload_n (dk_Mach_does 34 rfl) rfl ?_
    refine w_getr (dk_Mach_does 35 rfl) lk_Mach_44 rfl rfl rfl ?_
    refine w_getr (dk_Mach_does 36 rfl) lk_Mach_89 rfl rfl rfl ?_
    refine w_aload_n (dk_Mach_does 37 rfl) rfl ?_
    refine w_getr (dk_Mach_does 38 rfl) lk_Mach_194 rfl rfl rfl ?_
    refine w_iload_n (dk_Mach_does 39 rfl) rfl ?_
    obtain ⟨k17, e_k17, l_k17, h⟩ := h
    refine w_iald (k_ := k17) (dk_Mach_does 40 rfl) rfl (by decide) e_k17 l_k17 ?_
    refine w_aload_n (dk_Mach_does 41 rfl) rfl ?_
    refine w_aload_n (dk_Mach_does 42 rfl) rfl ?_
    refine w_getr (dk_Mach_does 43 rfl) lk_Mach_195 rfl rfl rfl ?_
    refine w_iload_n (dk_Mach_does 44 rfl) rfl ?_
    obtain ⟨k18, e_k18, l_k18, h⟩ := h
    refine w_iald (k_ := k18) (dk_Mach_does 45 rfl) rfl (by decide) e_k18 l_k18 ?_
    refine w_aload_n (dk_Mach_does 46 rfl) rfl ?_
    refine w_getr (dk_Mach_does 47 rfl) lk_Mach_196 rfl rfl rfl ?_
    refine w_iload_n (dk_Mach_does 48 rfl) rfl ?_
    obtain ⟨k19, e_k19, l_k19, h⟩ := h
    refine w_iald (k_ := k19) (dk_Mach_does 49 rfl) rfl (by decide) e_k19 l_k19 ?_
    refine w_callVi (ls' := [some (.ref 38), some (.int (aI u 26 k18)), some (.int (aI u 27 k19)), none, none, none, none]) cv_Mach_204 (dk_Mach_does 50 rfl) (ci := 6) rfl rfl [.int (aI u 26 k18), .int (aI u 27 k19)] [.int (aI u 24 k17), .ref 9] rfl rfl (Nat.le_of_ble_eq_true rfl) (Nat.le_of_ble_eq_true rfl) rfl rfl rfl h (fun r20 u21 h => ?_)
    obtain ⟨k22, e_k22, l_k22, h⟩ := h
    refine w_iast (k_ := k22) (dk_Mach_does 51 rfl) rfl (by decide) e_k22 l_k22 ?_
    refine w_goto 316 (dk_Mach_does 52 rfl) (by decide) ?_
    refine w_iconst (v := 1) (dk_Mach_does 131 rfl) rfl ?_
    exact w_bret (dk_Mach_does 132 rfl) rfl (Or.inr rfl) h
  replace h := h.2
  by_cases n23 : (aI u 23 k1) = 6
  · replace h := h.1 n23
    refine w_tabI ds_Mach_does_11 172 183 (by rw [n23]; decide) (by decide) ?_
    refine w_aload_n (dk_Mach_does 53 rfl) rfl ?_
    refine w_getr (dk_Mach_does 54 rfl) lk_Mach_41 rfl rfl rfl ?_
    refine w_aload_n (dk_Mach_does 55 rfl) rfl ?_
    refine w_dup (dk_Mach_does 56 rfl) rfl ?_
    refine w_geti (v := aI u 38 16) (dk_Mach_does 57 rfl) lk_Mach_208 rfl rfl rfl ?_
    refine w_dup_x1 (dk_Mach_does 58 rfl) rfl rfl ?_
    refine w_iconst (v := 1) (dk_Mach_does 59 rfl) rfl ?_
    refine w_iadd (dk_Mach_does 60 rfl) ?_
    refine w_puti (dk_Mach_does 61 rfl) lk_Mach_208 rfl rfl ?_
    refine w_bipush (v := 64) (dk_Mach_does 62 rfl) rfl ?_
    refine w_irem (dk_Mach_does 63 rfl) (by decide) ?_
    refine w_aload_n (dk_Mach_does 64 rfl) rfl ?_
    refine w_aload_n (dk_Mach_does 65 rfl) rfl ?_
    refine w_getr (dk_Mach_does 66 rfl) lk_Mach_195 rfl rfl rfl ?_
    refine w_iload_n (dk_Mach_does 67 rfl) rfl ?_
    obtain ⟨k24, e_k24, l_k24, h⟩ := h
    refine w_iald (k_ := k24) (dk_Mach_does 68 rfl) rfl (by decide) e_k24 l_k24 ?_
    show WS _ _ _ _ [.int (aI u 26 k24), .ref 38, .int ((aI u 38 16) - (aI u 38 16) / 64 * 64), .ref 51] _ _
    refine w_aload_n (dk_Mach_does 69 rfl) rfl ?_
    refine w_getr (dk_Mach_does 70 rfl) lk_Mach_196 rfl rfl rfl ?_
    refine w_iload_n (dk_Mach_does 71 rfl) rfl ?_
    obtain ⟨k25, e_k25, l_k25, h⟩ := h
    refine w_iald (k_ := k25) (dk_Mach_does 72 rfl) rfl (by decide) e_k25 l_k25 ?_
    show WS _ _ _ _ [.int (aI u 27 k25), .int (aI u 26 k24), .ref 38, .int ((aI u 38 16) - (aI u 38 16) / 64 * 64), .ref 51] _ _
    refine w_callVi (ls' := [some (.ref 38), some (.int (aI u 26 k24)), some (.int (aI u 27 k25)), none, none, none, none]) cv_Mach_204 (dk_Mach_does 73 rfl) (ci := 6) rfl rfl [.int (aI u 26 k24), .int (aI u 27 k25)] [.int ((aI u 38 16) - (aI u 38 16) / 64 * 64), .ref 51] rfl rfl (Nat.le_of_ble_eq_true rfl) (Nat.le_of_ble_eq_true rfl) rfl rfl rfl h (fun r26 u27 h => ?_)
    obtain ⟨k28, e_k28, l_k28, h⟩ := h
    refine w_iast (k_ := k28) (dk_Mach_does 74 rfl) rfl (by decide) e_k28 l_k28 ?_
    refine w_goto 316 (dk_Mach_does 75 rfl) (by decide) ?_
    refine w_iconst (v := 1) (dk_Mach_does 131 rfl) rfl ?_
    exact w_bret (dk_Mach_does 132 rfl) rfl (Or.inr rfl) h
  replace h := h.2
  by_cases n29 : (aI u 23 k1) = 7
  · replace h := h.1 n29
    refine w_tabI ds_Mach_does_11 210 221 (by rw [n29]; decide) (by decide) ?_
    refine w_aload_n (dk_Mach_does 76 rfl) rfl ?_
    refine w_iload_n (dk_Mach_does 77 rfl) rfl ?_
    refine w_callSi (ls' := [some (.ref 38), some (.int p2), none, none, none, none, none, none, none]) cv_Mach_211 (dk_Mach_does 78 rfl) [.ref 38, .int p2] [] rfl rfl (Nat.le_of_ble_eq_true rfl) (Nat.le_of_ble_eq_true rfl) rfl rfl rfl h (fun r30 u31 h => ?_)
    exact w_bret (dk_Mach_does 79 rfl) rfl h.1 h.2
  replace h := h.2
  by_cases n32 : (aI u 23 k1) = 9
  · replace h := h.1 n32
    refine w_tabI ds_Mach_does_11 216 227 (by rw [n32]; decide) (by decide) ?_
    refine w_aload_n (dk_Mach_does 80 rfl) rfl ?_
    refine w_aload_n (dk_Mach_does 81 rfl) rfl ?_
    refine w_aload_n (dk_Mach_does 82 rfl) rfl ?_
    refine w_getr (dk_Mach_does 83 rfl) lk_Mach_195 rfl rfl rfl ?_
    refine w_iload_n (dk_Mach_does 84 rfl) rfl ?_
    obtain ⟨k33, e_k33, l_k33, h⟩ := h
    refine w_iald (k_ := k33) (dk_Mach_does 85 rfl) rfl (by decide) e_k33 l_k33 ?_
    refine w_aload_n (dk_Mach_does 86 rfl) rfl ?_
    refine w_getr (dk_Mach_does 87 rfl) lk_Mach_196 rfl rfl rfl ?_
    refine w_iload_n (dk_Mach_does 88 rfl) rfl ?_
    obtain ⟨k34, e_k34, l_k34, h⟩ := h
    refine w_iald (k_ := k34) (dk_Mach_does 89 rfl) rfl (by decide) e_k34 l_k34 ?_
    refine w_callVi (ls' := [some (.ref 38), some (.int (aI u 26 k33)), some (.int (aI u 27 k34)), none, none, none, none]) cv_Mach_204 (dk_Mach_does 90 rfl) (ci := 6) rfl rfl [.int (aI u 26 k33), .int (aI u 27 k34)] [.ref 38] rfl rfl (Nat.le_of_ble_eq_true rfl) (Nat.le_of_ble_eq_true rfl) rfl rfl rfl h (fun r35 u36 h => ?_)
    refine w_if_eq 256 (dk_Mach_does 91 rfl) (by decide) (fun c_ => ?_) (fun c_ => ?_)
    · replace h := h.1 c_
      refine w_aload_n (dk_Mach_does 97 rfl) rfl ?_
      refine w_getr (dk_Mach_does 98 rfl) lk_Mach_217 rfl rfl rfl ?_
      refine w_iload_n (dk_Mach_does 99 rfl) rfl ?_
      obtain ⟨k37, e_k37, l_k37, h⟩ := h
      refine w_iald (k_ := k37) (dk_Mach_does 100 rfl) rfl (by decide) e_k37 l_k37 ?_
      refine w_callSi (ls' := [some (.ref 38), some (.int (aI u36 29 k37)), none]) cv_Mach_220 (dk_Mach_does 101 rfl) [.ref 38, .int (aI u36 29 k37)] [] rfl rfl (Nat.le_of_ble_eq_true rfl) (Nat.le_of_ble_eq_true rfl) rfl rfl rfl h (fun r38 u39 h => ?_)
      exact w_bret (dk_Mach_does 102 rfl) rfl h.1 h.2
    · replace h := h.2 c_
      refine w_aload_n (dk_Mach_does 92 rfl) rfl ?_
      refine w_getr (dk_Mach_does 93 rfl) lk_Mach_214 rfl rfl rfl ?_
      refine w_iload_n (dk_Mach_does 94 rfl) rfl ?_
      obtain ⟨k40, e_k40, l_k40, h⟩ := h
      refine w_iald (k_ := k40) (dk_Mach_does 95 rfl) rfl (by decide) e_k40 l_k40 ?_
      refine w_goto 262 (dk_Mach_does 96 rfl) (by decide) ?_
      refine w_callSi (ls' := [some (.ref 38), some (.int (aI u36 28 k40)), none]) cv_Mach_220 (dk_Mach_does 101 rfl) [.ref 38, .int (aI u36 28 k40)] [] rfl rfl (Nat.le_of_ble_eq_true rfl) (Nat.le_of_ble_eq_true rfl) rfl rfl rfl h (fun r41 u42 h => ?_)
      exact w_bret (dk_Mach_does 102 rfl) rfl h.1 h.2
  replace h := h.2
  by_cases n43 : (aI u 23 k1) = 11
  · replace h := h.1 n43
    refine w_tabI ds_Mach_does_11 255 266 (by rw [n43]; decide) (by decide) ?_
    refine w_aload_n (dk_Mach_does 103 rfl) rfl ?_
    refine w_iload_n (dk_Mach_does 104 rfl) rfl ?_
    refine w_callSi (ls' := [some (.ref 38), some (.int p2)]) cv_Mach_222 (dk_Mach_does 105 rfl) [.ref 38, .int p2] [] rfl rfl (Nat.le_of_ble_eq_true rfl) (Nat.le_of_ble_eq_true rfl) rfl rfl rfl h (fun r44 u45 h => ?_)
    exact w_bret (dk_Mach_does 106 rfl) rfl h.1 h.2
  replace h := h.2
  by_cases n46 : (aI u 23 k1) = 12
  · replace h := h.1 n46
    refine w_tabI ds_Mach_does_11 261 272 (by rw [n46]; decide) (by decide) ?_
    refine w_aload_n (dk_Mach_does 107 rfl) rfl ?_
    refine w_aload_n (dk_Mach_does 108 rfl) rfl ?_
    refine w_getr (dk_Mach_does 109 rfl) lk_Mach_194 rfl rfl rfl ?_
    refine w_iload_n (dk_Mach_does 110 rfl) rfl ?_
    obtain ⟨k47, e_k47, l_k47, h⟩ := h
    refine w_iald (k_ := k47) (dk_Mach_does 111 rfl) rfl (by decide) e_k47 l_k47 ?_
    refine w_callVi (ls' := [some (.ref 38), some (.int (aI u 24 k47))]) cv_Mach_61 (dk_Mach_does 112 rfl) (ci := 6) rfl rfl [.int (aI u 24 k47)] [] rfl rfl (Nat.le_of_ble_eq_true rfl) (Nat.le_of_ble_eq_true rfl) rfl rfl rfl h (fun r48 u49 h => ?_)
    refine w_if_eq 316 (dk_Mach_does 113 rfl) (by decide) (fun c_ => ?_) (fun c_ => ?_)
    · replace h := h.1 c_
      refine w_iconst (v := 1) (dk_Mach_does 131 rfl) rfl ?_
      exact w_bret (dk_Mach_does 132 rfl) rfl (Or.inr rfl) h
    · replace h := h.2 c_
      refine w_aload_n (dk_Mach_does 114 rfl) rfl ?_
      refine w_getr (dk_Mach_does 115 rfl) lk_Mach_12 rfl rfl rfl ?_
      refine w_lconst (v := 1) (dk_Mach_does 116 rfl) rfl ?_
      refine w_aload_n (dk_Mach_does 117 rfl) rfl ?_
      refine w_getr (dk_Mach_does 118 rfl) lk_Mach_29 rfl rfl rfl ?_
      refine w_aload_n (dk_Mach_does 119 rfl) rfl ?_
      refine w_getr (dk_Mach_does 120 rfl) lk_Mach_194 rfl rfl rfl ?_
      refine w_iload_n (dk_Mach_does 121 rfl) rfl ?_
      obtain ⟨k50, e_k50, l_k50, h⟩ := h
      refine w_iald (k_ := k50) (dk_Mach_does 122 rfl) rfl (by decide) e_k50 l_k50 ?_
      obtain ⟨k51, e_k51, l_k51, h⟩ := h
      refine w_iald (k_ := k51) (dk_Mach_does 123 rfl) rfl (by decide) e_k51 l_k51 ?_
      refine w_lshl (dk_Mach_does 124 rfl) ?_
      refine w_callVv (ls' := [some (.ref 39), some (.long (1 <<< (Int32.toInt64 (aI u49 47 k51) &&& 63))), none, none]) cv_Mach_197 (dk_Mach_does 125 rfl) (ci := 7) rfl rfl [.long (1 <<< (Int32.toInt64 (aI u49 47 k51) &&& 63))] [] rfl rfl (Nat.le_of_ble_eq_true rfl) (Nat.le_of_ble_eq_true rfl) rfl rfl rfl h (fun u53 h => ?_)
      refine w_goto 316 (dk_Mach_does 126 rfl) (by decide) ?_
      refine w_iconst (v := 1) (dk_Mach_does 131 rfl) rfl ?_
      exact w_bret (dk_Mach_does 132 rfl) rfl (Or.inr rfl) h
  replace h := h.2
  by_cases n54 : (aI u 23 k1) = 20
  · replace h := h.1 n54
    refine w_tabI ds_Mach_does_11 297 308 (by rw [n54]; decide) (by decide) ?_
    refine w_aload_n (dk_Mach_does 127 rfl) rfl ?_
    refine w_iload_n (dk_Mach_does 128 rfl) rfl ?_
    refine w_callVv (ls' := [some (.ref 38), some (.int p2), none, none, none]) cv_Mach_225 (dk_Mach_does 129 rfl) (ci := 6) rfl rfl [.int p2] [] rfl rfl (Nat.le_of_ble_eq_true rfl) (Nat.le_of_ble_eq_true rfl) rfl rfl rfl h (fun u56 h => ?_)
    refine w_goto 316 (dk_Mach_does 130 rfl) (by decide) ?_
    refine w_iconst (v := 1) (dk_Mach_does 131 rfl) rfl ?_
    exact w_bret (dk_Mach_does 132 rfl) rfl (Or.inr rfl) h
  replace h := h.2
  have hn57 : ∀ v ∈ ([1, 2, 4, 5, 6, 7, 9, 11, 12, 20] : List Int32), (aI u 23 k1) ≠ v := by
    intro v hv e_
    rw [← e_] at hv
    simp only [List.mem_cons, List.not_mem_nil, or_false] at hv
    rcases hv with hv | hv | hv | hv | hv | hv | hv | hv | hv | hv
    · exact n2 hv
    · exact n5 hv
    · exact n13 hv
    · exact n16 hv
    · exact n23 hv
    · exact n29 hv
    · exact n32 hv
    · exact n43 hv
    · exact n46 hv
    · exact n54 hv
  replace h := h hn57
  refine w_tabD ds_Mach_does_11 316 [1, 2, 4, 5, 6, 7, 9, 11, 12, 20] (by decide) (by decide) hn57 (by decide) ?_
  refine w_iconst (v := 1) (dk_Mach_does 131 rfl) rfl ?_
  exact w_bret (dk_Mach_does 132 rfl) rfl (Or.inr rfl) h
theorem g_Mach_insert_0 {d : Nat} {u : Us} {Q : Ot → Us → Prop} (p1 : Int32)
    (h : WS (d + 1) m_Mach_insert 7 [some (.ref 38), some (.int p1), some (.int (aI u 38 6)), some (.int 0), none, none] [] u Q) :
    WS (d + 1) m_Mach_insert 0 [some (.ref 38), some (.int p1), none, none, none, none] [] u Q := by
  refine w_aload_n (dk_Mach_insert 0 rfl) rfl ?_
  refine w_geti (v := aI u 38 6) (dk_Mach_insert 1 rfl) lk_Mach_77 rfl rfl rfl ?_
  refine w_istore_n (ls' := [some (.ref 38), some (.int p1), some (.int (aI u 38 6)), none, none, none]) (dk_Mach_insert 2 rfl) (by decide) rfl ?_
  refine w_iconst (v := 0) (dk_Mach_insert 3 rfl) rfl ?_
  refine w_istore_n (ls' := [some (.ref 38), some (.int p1), some (.int (aI u 38 6)), some (.int 0), none, none]) (dk_Mach_insert 4 rfl) (by decide) rfl ?_
  exact h
theorem g_Mach_insert_7 {d : Nat} {u : Us} {Q : Ot → Us → Prop} (x1 : Int32) (x2 : Int32) (x3 : Int32)
    (h : ∃ k1 : Nat, x1 = nI k1 ∧ k1 < 160 ∧ (((aI u 32 k1) ≤ x3 → WS d m_Stor_free 0 [some (.ref 39)] [] (uI u 38 6 x2) (Rl (fun (r2 : Int64) (u3 : Us) => (r2 ≠ 0 → WS d m_Stor_free 0 [some (.ref 39)] [] u3 (Rl (fun (r4 : Int64) (u5 : Us) => WS d m_JLong_numberOfTrailingZeros 0 [some (.long r4), none, none] [] u5 (Ri (fun (r6 : Int32) (u7 : Us) => ∃ k8 : Nat, x1 = nI k8 ∧ k8 < 160 ∧ (WS d m_Stor_birth 0 [some (.ref 39), some (.int r6), some (.int (aI u7 24 k8)), none] [] u7 (Rv (fun (u10 : Us) => WS (d + 1) m_Mach_insert 143 [some (.ref 38), some (.int x1), some (.int x2), some (.int r6), some (.int 0), none] [] u10 Q) (fun x u => Q (.inr x) u)))) (fun x u => Q (.inr x) u))) (fun x u => Q (.inr x) u))) ∧ (r2 = 0 → Q (.inl (some (.int 0))) (uI u3 38 9 2))) (fun x u => Q (.inr x) u))) ∧ (¬ ((aI u 32 k1) ≤ x3) → ∃ k11 : Nat, x1 = nI k11 ∧ k11 < 160 ∧ (∃ k12 : Nat, (aI u 31 k11) + x3 = nI k12 ∧ k12 < 150 ∧ (∃ k13 : Nat, x1 = nI k13 ∧ k13 < 160 ∧ (∃ k14 : Nat, (aI u 31 k13) + x3 = nI k14 ∧ k14 < 150 ∧ (WS d m_Mach_number 0 [some (.ref 38), some (.int (aI u 34 k12)), some (.int (aI u 35 k14)), none, none, none, none] [] u (Ri (fun (r15 : Int32) (u16 : Us) => ∃ k17 : Nat, aI u16 38 6 = nI k17 ∧ k17 < 80 ∧ (WS (d + 1) m_Mach_insert 7 [some (.ref 38), some (.int x1), some (.int x2), some (.int (x3 + 1)), some (.int r15), none] [] (uI (uI u16 38 6 ((aI u16 38 6) + 1)) 46 k17 r15) Q)) (fun x u => Q (.inr x) u))))))))) :
    WS (d + 1) m_Mach_insert 7 [some (.ref 38), some (.int x1), some (.int x2), some (.int x3), none, none] [] u Q := by
  refine w_iload_n (dk_Mach_insert 5 rfl) rfl ?_
  refine w_aload_n (dk_Mach_insert 6 rfl) rfl ?_
  refine w_getr (dk_Mach_insert 7 rfl) lk_Mach_52 rfl rfl rfl ?_
  refine w_getr (dk_Mach_insert 8 rfl) lk_Mach_228 rfl rfl rfl ?_
  refine w_iload_n (dk_Mach_insert 9 rfl) rfl ?_
  obtain ⟨k1, e_k1, l_k1, h⟩ := h
  refine w_iald (k_ := k1) (dk_Mach_insert 10 rfl) rfl (by decide) e_k1 l_k1 ?_
  refine w_icmp_ge 88 (dk_Mach_insert 11 rfl) (by decide) (fun c_ => ?_) (fun c_ => ?_)
  · replace h := h.1 c_
    refine w_aload_n (dk_Mach_insert 50 rfl) rfl ?_
    refine w_iload_n (dk_Mach_insert 51 rfl) rfl ?_
    refine w_puti (dk_Mach_insert 52 rfl) lk_Mach_77 rfl rfl ?_
    refine w_aload_n (dk_Mach_insert 53 rfl) rfl ?_
    refine w_getr (dk_Mach_insert 54 rfl) lk_Mach_12 rfl rfl rfl ?_
    refine w_callVl (ls' := [some (.ref 39)]) cv_Mach_57 (dk_Mach_insert 55 rfl) (ci := 7) rfl rfl [] [] rfl rfl (Nat.le_of_ble_eq_true rfl) (Nat.le_of_ble_eq_true rfl) rfl rfl rfl h (fun r2 u3 h => ?_)
    refine w_lconst (v := 0) (dk_Mach_insert 56 rfl) rfl ?_
    refine w_lcmp_ne 112 (dk_Mach_insert 57 rfl) (dk_Mach_insert 58 rfl) (by decide) (fun c_ => ?_) (fun c_ => ?_)
    · replace h := h.1 c_
      refine w_aload_n (dk_Mach_insert 64 rfl) rfl ?_
      refine w_getr (dk_Mach_insert 65 rfl) lk_Mach_12 rfl rfl rfl ?_
      refine w_callVl (ls' := [some (.ref 39)]) cv_Mach_57 (dk_Mach_insert 66 rfl) (ci := 7) rfl rfl [] [] rfl rfl (Nat.le_of_ble_eq_true rfl) (Nat.le_of_ble_eq_true rfl) rfl rfl rfl h (fun r4 u5 h => ?_)
      refine w_callSi (ls' := [some (.long r4), none, none]) cv_Mach_160 (dk_Mach_insert 67 rfl) [.long r4] [] rfl rfl (Nat.le_of_ble_eq_true rfl) (Nat.le_of_ble_eq_true rfl) rfl rfl rfl h (fun r6 u7 h => ?_)
      refine w_istore_n (ls' := [some (.ref 38), some (.int x1), some (.int x2), some (.int r6), none, none]) (dk_Mach_insert 68 rfl) (by decide) rfl ?_
      refine w_aload_n (dk_Mach_insert 69 rfl) rfl ?_
      refine w_getr (dk_Mach_insert 70 rfl) lk_Mach_12 rfl rfl rfl ?_
      refine w_iload_n (dk_Mach_insert 71 rfl) rfl ?_
      refine w_aload_n (dk_Mach_insert 72 rfl) rfl ?_
      refine w_getr (dk_Mach_insert 73 rfl) lk_Mach_52 rfl rfl rfl ?_
      refine w_getr (dk_Mach_insert 74 rfl) lk_Mach_194 rfl rfl rfl ?_
      refine w_iload_n (dk_Mach_insert 75 rfl) rfl ?_
      obtain ⟨k8, e_k8, l_k8, h⟩ := h
      refine w_iald (k_ := k8) (dk_Mach_insert 76 rfl) rfl (by decide) e_k8 l_k8 ?_
      refine w_callVv (ls' := [some (.ref 39), some (.int r6), some (.int (aI u7 24 k8)), none]) cv_Mach_240 (dk_Mach_insert 77 rfl) (ci := 7) rfl rfl [.int r6, .int (aI u7 24 k8)] [] rfl rfl (Nat.le_of_ble_eq_true rfl) (Nat.le_of_ble_eq_true rfl) rfl rfl rfl h (fun u10 h => ?_)
      refine w_iconst (v := 0) (dk_Mach_insert 78 rfl) rfl ?_
      refine w_istore (ls' := [some (.ref 38), some (.int x1), some (.int x2), some (.int r6), some (.int 0), none]) (dk_Mach_insert 79 rfl) (by decide) rfl ?_
      exact h
    · replace h := h.2 c_
      refine w_aload_n (dk_Mach_insert 59 rfl) rfl ?_
      refine w_iconst (v := 2) (dk_Mach_insert 60 rfl) rfl ?_
      refine w_puti (dk_Mach_insert 61 rfl) lk_Mach_173 rfl rfl ?_
      refine w_iconst (v := 0) (dk_Mach_insert 62 rfl) rfl ?_
      exact w_bret (dk_Mach_insert 63 rfl) rfl (Or.inl rfl) h
  · replace h := h.2 c_
    refine w_aload_n (dk_Mach_insert 12 rfl) rfl ?_
    refine w_aload_n (dk_Mach_insert 13 rfl) rfl ?_
    refine w_getr (dk_Mach_insert 14 rfl) lk_Mach_52 rfl rfl rfl ?_
    refine w_getr (dk_Mach_insert 15 rfl) lk_Mach_231 rfl rfl rfl ?_
    refine w_aload_n (dk_Mach_insert 16 rfl) rfl ?_
    refine w_getr (dk_Mach_insert 17 rfl) lk_Mach_52 rfl rfl rfl ?_
    refine w_getr (dk_Mach_insert 18 rfl) lk_Mach_234 rfl rfl rfl ?_
    refine w_iload_n (dk_Mach_insert 19 rfl) rfl ?_
    obtain ⟨k11, e_k11, l_k11, h⟩ := h
    refine w_iald (k_ := k11) (dk_Mach_insert 20 rfl) rfl (by decide) e_k11 l_k11 ?_
    refine w_iload_n (dk_Mach_insert 21 rfl) rfl ?_
    refine w_iadd (dk_Mach_insert 22 rfl) ?_
    obtain ⟨k12, e_k12, l_k12, h⟩ := h
    refine w_iald (k_ := k12) (dk_Mach_insert 23 rfl) rfl (by decide) e_k12 l_k12 ?_
    refine w_aload_n (dk_Mach_insert 24 rfl) rfl ?_
    refine w_getr (dk_Mach_insert 25 rfl) lk_Mach_52 rfl rfl rfl ?_
    refine w_getr (dk_Mach_insert 26 rfl) lk_Mach_237 rfl rfl rfl ?_
    refine w_aload_n (dk_Mach_insert 27 rfl) rfl ?_
    refine w_getr (dk_Mach_insert 28 rfl) lk_Mach_52 rfl rfl rfl ?_
    refine w_getr (dk_Mach_insert 29 rfl) lk_Mach_234 rfl rfl rfl ?_
    refine w_iload_n (dk_Mach_insert 30 rfl) rfl ?_
    obtain ⟨k13, e_k13, l_k13, h⟩ := h
    refine w_iald (k_ := k13) (dk_Mach_insert 31 rfl) rfl (by decide) e_k13 l_k13 ?_
    refine w_iload_n (dk_Mach_insert 32 rfl) rfl ?_
    refine w_iadd (dk_Mach_insert 33 rfl) ?_
    obtain ⟨k14, e_k14, l_k14, h⟩ := h
    refine w_iald (k_ := k14) (dk_Mach_insert 34 rfl) rfl (by decide) e_k14 l_k14 ?_
    refine w_callVi (ls' := [some (.ref 38), some (.int (aI u 34 k12)), some (.int (aI u 35 k14)), none, none, none, none]) cv_Mach_204 (dk_Mach_insert 35 rfl) (ci := 6) rfl rfl [.int (aI u 34 k12), .int (aI u 35 k14)] [] rfl rfl (Nat.le_of_ble_eq_true rfl) (Nat.le_of_ble_eq_true rfl) rfl rfl rfl h (fun r15 u16 h => ?_)
    refine w_istore (ls' := [some (.ref 38), some (.int x1), some (.int x2), some (.int x3), some (.int r15), none]) (dk_Mach_insert 36 rfl) (by decide) rfl ?_
    refine w_aload_n (dk_Mach_insert 37 rfl) rfl ?_
    refine w_getr (dk_Mach_insert 38 rfl) lk_Mach_25 rfl rfl rfl ?_
    refine w_aload_n (dk_Mach_insert 39 rfl) rfl ?_
    refine w_dup (dk_Mach_insert 40 rfl) rfl ?_
    refine w_geti (v := aI u16 38 6) (dk_Mach_insert 41 rfl) lk_Mach_77 rfl rfl rfl ?_
    refine w_dup_x1 (dk_Mach_insert 42 rfl) rfl rfl ?_
    refine w_iconst (v := 1) (dk_Mach_insert 43 rfl) rfl ?_
    refine w_iadd (dk_Mach_insert 44 rfl) ?_
    refine w_puti (dk_Mach_insert 45 rfl) lk_Mach_77 rfl rfl ?_
    refine w_iload (dk_Mach_insert 46 rfl) rfl ?_
    obtain ⟨k17, e_k17, l_k17, h⟩ := h
    refine w_iast (k_ := k17) (dk_Mach_insert 47 rfl) rfl (by decide) e_k17 l_k17 ?_
    refine w_iinc (v := x3 + 1) (ls' := [some (.ref 38), some (.int x1), some (.int x2), some (.int (x3 + 1)), some (.int r15), none]) (dk_Mach_insert 48 rfl) rfl rfl (by decide) rfl ?_
    refine w_goto 7 (dk_Mach_insert 49 rfl) (by decide) ?_
    exact h
theorem g_Mach_insert_143 {d : Nat} {u : Us} {Q : Ot → Us → Prop} (x1 : Int32) (x2 : Int32) (x3 : Int32) (x4 : Int32)
    (h : ∃ k1 : Nat, x1 = nI k1 ∧ k1 < 160 ∧ (((aI u 32 k1) ≤ x4 → Q (.inl (some (.int 1))) u) ∧ (¬ ((aI u 32 k1) ≤ x4) → ∃ k2 : Nat, x1 = nI k2 ∧ k2 < 160 ∧ (∃ k3 : Nat, (aI u 31 k2) + x4 = nI k3 ∧ k3 < 150 ∧ (∃ k4 : Nat, aI u 33 k3 = nI k4 ∧ k4 < 42 ∧ (∃ k5 : Nat, aI u 33 k3 = nI k5 ∧ k5 < 42 ∧ (∃ k6 : Nat, x2 + x4 = nI k6 ∧ k6 < 80 ∧ (WS d m_Stor_write 0 [some (.ref 39), some (.int x3), some (.int (aI u 7 k4)), some (.int (aI u 6 k5)), some (.int (aI u 46 k6)), none] [] u (Rv (fun (u8 : Us) => WS (d + 1) m_Mach_insert 143 [some (.ref 38), some (.int x1), some (.int x2), some (.int x3), some (.int (x4 + 1)), some (.int (aI u 33 k3))] [] u8 Q) (fun x u => Q (.inr x) u)))))))))) :
    WS (d + 1) m_Mach_insert 143 [some (.ref 38), some (.int x1), some (.int x2), some (.int x3), some (.int x4), none] [] u Q := by
  refine w_iload (dk_Mach_insert 80 rfl) rfl ?_
  refine w_aload_n (dk_Mach_insert 81 rfl) rfl ?_
  refine w_getr (dk_Mach_insert 82 rfl) lk_Mach_52 rfl rfl rfl ?_
  refine w_getr (dk_Mach_insert 83 rfl) lk_Mach_228 rfl rfl rfl ?_
  refine w_iload_n (dk_Mach_insert 84 rfl) rfl ?_
  obtain ⟨k1, e_k1, l_k1, h⟩ := h
  refine w_iald (k_ := k1) (dk_Mach_insert 85 rfl) rfl (by decide) e_k1 l_k1 ?_
  refine w_icmp_ge 222 (dk_Mach_insert 86 rfl) (by decide) (fun c_ => ?_) (fun c_ => ?_)
  · replace h := h.1 c_
    refine w_iconst (v := 1) (dk_Mach_insert 121 rfl) rfl ?_
    exact w_bret (dk_Mach_insert 122 rfl) rfl (Or.inr rfl) h
  · replace h := h.2 c_
    refine w_aload_n (dk_Mach_insert 87 rfl) rfl ?_
    refine w_getr (dk_Mach_insert 88 rfl) lk_Mach_52 rfl rfl rfl ?_
    refine w_getr (dk_Mach_insert 89 rfl) lk_Mach_242 rfl rfl rfl ?_
    refine w_aload_n (dk_Mach_insert 90 rfl) rfl ?_
    refine w_getr (dk_Mach_insert 91 rfl) lk_Mach_52 rfl rfl rfl ?_
    refine w_getr (dk_Mach_insert 92 rfl) lk_Mach_234 rfl rfl rfl ?_
    refine w_iload_n (dk_Mach_insert 93 rfl) rfl ?_
    obtain ⟨k2, e_k2, l_k2, h⟩ := h
    refine w_iald (k_ := k2) (dk_Mach_insert 94 rfl) rfl (by decide) e_k2 l_k2 ?_
    refine w_iload (dk_Mach_insert 95 rfl) rfl ?_
    refine w_iadd (dk_Mach_insert 96 rfl) ?_
    obtain ⟨k3, e_k3, l_k3, h⟩ := h
    refine w_iald (k_ := k3) (dk_Mach_insert 97 rfl) rfl (by decide) e_k3 l_k3 ?_
    refine w_istore (ls' := [some (.ref 38), some (.int x1), some (.int x2), some (.int x3), some (.int x4), some (.int (aI u 33 k3))]) (dk_Mach_insert 98 rfl) (by decide) rfl ?_
    refine w_aload_n (dk_Mach_insert 99 rfl) rfl ?_
    refine w_getr (dk_Mach_insert 100 rfl) lk_Mach_12 rfl rfl rfl ?_
    refine w_iload_n (dk_Mach_insert 101 rfl) rfl ?_
    refine w_aload_n (dk_Mach_insert 102 rfl) rfl ?_
    refine w_getr (dk_Mach_insert 103 rfl) lk_Mach_44 rfl rfl rfl ?_
    refine w_getr (dk_Mach_insert 104 rfl) lk_Mach_65 rfl rfl rfl ?_
    refine w_iload (dk_Mach_insert 105 rfl) rfl ?_
    obtain ⟨k4, e_k4, l_k4, h⟩ := h
    refine w_iald (k_ := k4) (dk_Mach_insert 106 rfl) rfl (by decide) e_k4 l_k4 ?_
    refine w_aload_n (dk_Mach_insert 107 rfl) rfl ?_
    refine w_getr (dk_Mach_insert 108 rfl) lk_Mach_44 rfl rfl rfl ?_
    refine w_getr (dk_Mach_insert 109 rfl) lk_Mach_70 rfl rfl rfl ?_
    refine w_iload (dk_Mach_insert 110 rfl) rfl ?_
    obtain ⟨k5, e_k5, l_k5, h⟩ := h
    refine w_iald (k_ := k5) (dk_Mach_insert 111 rfl) rfl (by decide) e_k5 l_k5 ?_
    refine w_aload_n (dk_Mach_insert 112 rfl) rfl ?_
    refine w_getr (dk_Mach_insert 113 rfl) lk_Mach_25 rfl rfl rfl ?_
    refine w_iload_n (dk_Mach_insert 114 rfl) rfl ?_
    refine w_iload (dk_Mach_insert 115 rfl) rfl ?_
    refine w_iadd (dk_Mach_insert 116 rfl) ?_
    obtain ⟨k6, e_k6, l_k6, h⟩ := h
    refine w_iald (k_ := k6) (dk_Mach_insert 117 rfl) rfl (by decide) e_k6 l_k6 ?_
    refine w_callVv (ls' := [some (.ref 39), some (.int x3), some (.int (aI u 7 k4)), some (.int (aI u 6 k5)), some (.int (aI u 46 k6)), none]) cv_Mach_244 (dk_Mach_insert 118 rfl) (ci := 7) rfl rfl [.int x3, .int (aI u 7 k4), .int (aI u 6 k5), .int (aI u 46 k6)] [] rfl rfl (Nat.le_of_ble_eq_true rfl) (Nat.le_of_ble_eq_true rfl) rfl rfl rfl h (fun u8 h => ?_)
    refine w_iinc (v := x4 + 1) (ls' := [some (.ref 38), some (.int x1), some (.int x2), some (.int x3), some (.int (x4 + 1)), some (.int (aI u 33 k3))]) (dk_Mach_insert 119 rfl) rfl rfl (by decide) rfl ?_
    refine w_goto 143 (dk_Mach_insert 120 rfl) (by decide) ?_
    exact h
theorem g_Mach_number_0 {d : Nat} {u : Us} {Q : Ot → Us → Prop} (p1 : Int32) (p2 : Int32)
    (h : WS (d + 1) m_Mach_number 8 [some (.ref 38), some (.int p1), some (.int p2), some (.int (aI u 38 6)), some (.int p1), none, none] [] u Q) :
    WS (d + 1) m_Mach_number 0 [some (.ref 38), some (.int p1), some (.int p2), none, none, none, none] [] u Q := by
  refine w_aload_n (dk_Mach_number 0 rfl) rfl ?_
  refine w_geti (v := aI u 38 6) (dk_Mach_number 1 rfl) lk_Mach_77 rfl rfl rfl ?_
  refine w_istore_n (ls' := [some (.ref 38), some (.int p1), some (.int p2), some (.int (aI u 38 6)), none, none, none]) (dk_Mach_number 2 rfl) (by decide) rfl ?_
  refine w_iload_n (dk_Mach_number 3 rfl) rfl ?_
  refine w_istore (ls' := [some (.ref 38), some (.int p1), some (.int p2), some (.int (aI u 38 6)), some (.int p1), none, none]) (dk_Mach_number 4 rfl) (by decide) rfl ?_
  exact h
theorem g_Mach_number_8 {d : Nat} {u : Us} {Q : Ot → Us → Prop} (x1 : Int32) (x2 : Int32) (x3 : Int32) (x4 : Int32)
    (h : (x2 ≤ x4 → ∃ k1 : Nat, x3 = nI k1 ∧ k1 < 80 ∧ (Q (.inl (some (.int (aI u 46 k1)))) (uI u 38 6 x3))) ∧ (¬ (x2 ≤ x4) → ∃ k2 : Nat, x4 = nI k2 ∧ k2 < 700 ∧ (∃ k3 : Nat, x4 = nI k3 ∧ k3 < 700 ∧ (((aI u 15 k2) ≠ 55 → ((aI u 15 k2) < 50 → ((aI u 15 k2) ≠ 54 → ((aI u 15 k2) ≠ 15 → WS d m_Mach_operate 0 [some (.ref 38), some (.int (aI u 15 k2)), none, none, none] [] u (Rv (fun (u5 : Us) => WS (d + 1) m_Mach_number 8 [some (.ref 38), some (.int x1), some (.int x2), some (.int x3), some (.int (x4 + 1)), some (.int (aI u 15 k2)), some (.int (aI u 16 k3))] [] u5 Q) (fun x u => Q (.inr x) u))) ∧ ((aI u 15 k2) = 15 → ∃ k6 : Nat, (aI u 38 6) - 1 = nI k6 ∧ k6 < 80 ∧ (((aI u 46 k6) ≠ 0 → ∃ k7 : Nat, (aI u 38 6) - 1 = nI k7 ∧ k7 < 80 ∧ (WS (d + 1) m_Mach_number 8 [some (.ref 38), some (.int x1), some (.int x2), some (.int x3), some (.int (x4 + 1)), some (.int (aI u 15 k2)), some (.int (aI u 16 k3))] [] (uI u 46 k7 0) Q)) ∧ ((aI u 46 k6) = 0 → ∃ k8 : Nat, (aI u 38 6) - 1 = nI k8 ∧ k8 < 80 ∧ (WS (d + 1) m_Mach_number 8 [some (.ref 38), some (.int x1), some (.int x2), some (.int x3), some (.int (x4 + 1)), some (.int (aI u 15 k2)), some (.int (aI u 16 k3))] [] (uI u 46 k8 1) Q))))) ∧ ((aI u 15 k2) = 54 → ∃ k9 : Nat, (aI u 38 6) - 1 = nI k9 ∧ k9 < 80 ∧ (∃ k10 : Nat, (aI u 38 6) - 1 = nI k10 ∧ k10 < 80 ∧ (WS (d + 1) m_Mach_number 8 [some (.ref 38), some (.int x1), some (.int x2), some (.int x3), some (.int (x4 + 1)), some (.int (aI u 15 k2)), some (.int (aI u 16 k3))] [] (uI u 46 k10 (-(aI u 46 k9))) Q)))) ∧ (¬ ((aI u 15 k2) < 50) → ((aI u 15 k2) = 54 → ((aI u 15 k2) ≠ 54 → ((aI u 15 k2) ≠ 15 → WS d m_Mach_operate 0 [some (.ref 38), some (.int (aI u 15 k2)), none, none, none] [] u (Rv (fun (u12 : Us) => WS (d + 1) m_Mach_number 8 [some (.ref 38), some (.int x1), some (.int x2), some (.int x3), some (.int (x4 + 1)), some (.int (aI u 15 k2)), some (.int (aI u 16 k3))] [] u12 Q) (fun x u => Q (.inr x) u))) ∧ ((aI u 15 k2) = 15 → ∃ k13 : Nat, (aI u 38 6) - 1 = nI k13 ∧ k13 < 80 ∧ (((aI u 46 k13) ≠ 0 → ∃ k14 : Nat, (aI u 38 6) - 1 = nI k14 ∧ k14 < 80 ∧ (WS (d + 1) m_Mach_number 8 [some (.ref 38), some (.int x1), some (.int x2), some (.int x3), some (.int (x4 + 1)), some (.int (aI u 15 k2)), some (.int (aI u 16 k3))] [] (uI u 46 k14 0) Q)) ∧ ((aI u 46 k13) = 0 → ∃ k15 : Nat, (aI u 38 6) - 1 = nI k15 ∧ k15 < 80 ∧ (WS (d + 1) m_Mach_number 8 [some (.ref 38), some (.int x1), some (.int x2), some (.int x3), some (.int (x4 + 1)), some (.int (aI u 15 k2)), some (.int (aI u 16 k3))] [] (uI u 46 k15 1) Q))))) ∧ ((aI u 15 k2) = 54 → ∃ k16 : Nat, (aI u 38 6) - 1 = nI k16 ∧ k16 < 80 ∧ (∃ k17 : Nat, (aI u 38 6) - 1 = nI k17 ∧ k17 < 80 ∧ (WS (d + 1) m_Mach_number 8 [some (.ref 38), some (.int x1), some (.int x2), some (.int x3), some (.int (x4 + 1)), some (.int (aI u 15 k2)), some (.int (aI u 16 k3))] [] (uI u 46 k17 (-(aI u 46 k16))) Q)))) ∧ (¬ ((aI u 15 k2) = 54) → ((aI u 15 k2) ≠ 50 → ((aI u 15 k2) ≠ 51 → ((aI u 15 k2) ≠ 53 → WS d m_Mach_aggregate 0 [some (.ref 38), some (.int (aI u 16 k3)), none, none, none, none, none, none, none] [] (uI u 38 6 ((aI u 38 6) + 1)) (Ri (fun (r18 : Int32) (u19 : Us) => ∃ k20 : Nat, aI u 38 6 = nI k20 ∧ k20 < 80 ∧ (WS (d + 1) m_Mach_number 8 [some (.ref 38), some (.int x1), some (.int x2), some (.int x3), some (.int (x4 + 1)), some (.int (aI u 15 k2)), some (.int (aI u 16 k3))] [] (uI u19 46 k20 r18) Q)) (fun x u => Q (.inr x) u))) ∧ ((aI u 15 k2) = 53 → WS d m_Mach_cursor 0 [some (.ref 38), some (.int (aI u 16 k3)), none, none] [] (uI u 38 6 ((aI u 38 6) + 1)) (Ri (fun (r21 : Int32) (u22 : Us) => ∃ k23 : Nat, aI u 38 6 = nI k23 ∧ k23 < 80 ∧ (WS (d + 1) m_Mach_number 8 [some (.ref 38), some (.int x1), some (.int x2), some (.int x3), some (.int (x4 + 1)), some (.int (aI u 15 k2)), some (.int (aI u 16 k3))] [] (uI u22 46 k23 r21) Q)) (fun x u => Q (.inr x) u)))) ∧ ((aI u 15 k2) = 51 → ∃ k24 : Nat, aI u 16 k3 = nI k24 ∧ k24 < 20 ∧ (∃ k25 : Nat, aI u 38 6 = nI k25 ∧ k25 < 80 ∧ (WS (d + 1) m_Mach_number 8 [some (.ref 38), some (.int x1), some (.int x2), some (.int x3), some (.int (x4 + 1)), some (.int (aI u 15 k2)), some (.int (aI u 16 k3))] [] (uI (uI u 38 6 ((aI u 38 6) + 1)) 46 k25 (aI u 9 k24)) Q)))) ∧ ((aI u 15 k2) = 50 → ∃ k26 : Nat, aI u 38 6 = nI k26 ∧ k26 < 80 ∧ (WS (d + 1) m_Mach_number 8 [some (.ref 38), some (.int x1), some (.int x2), some (.int x3), some (.int (x4 + 1)), some (.int (aI u 15 k2)), some (.int (aI u 16 k3))] [] (uI (uI u 38 6 ((aI u 38 6) + 1)) 46 k26 (aI u 16 k3)) Q))))) ∧ ((aI u 15 k2) = 55 → WS (d + 1) m_Mach_number 8 [some (.ref 38), some (.int x1), some (.int x2), some (.int x3), some (.int (aI u 16 k3)), some (.int (aI u 15 k2)), some (.int (aI u 16 k3))] [] u Q))))) :
    WS (d + 1) m_Mach_number 8 [some (.ref 38), some (.int x1), some (.int x2), some (.int x3), some (.int x4), none, none] [] u Q := by
  refine w_iload (dk_Mach_number 5 rfl) rfl ?_
  refine w_iload_n (dk_Mach_number 6 rfl) rfl ?_
  refine w_icmp_ge 224 (dk_Mach_number 7 rfl) (by decide) (fun c_ => ?_) (fun c_ => ?_)
  · replace h := h.1 c_
    refine w_aload_n (dk_Mach_number 113 rfl) rfl ?_
    refine w_iload_n (dk_Mach_number 114 rfl) rfl ?_
    refine w_puti (dk_Mach_number 115 rfl) lk_Mach_77 rfl rfl ?_
    refine w_aload_n (dk_Mach_number 116 rfl) rfl ?_
    refine w_getr (dk_Mach_number 117 rfl) lk_Mach_25 rfl rfl rfl ?_
    refine w_iload_n (dk_Mach_number 118 rfl) rfl ?_
    obtain ⟨k1, e_k1, l_k1, h⟩ := h
    refine w_iald (k_ := k1) (dk_Mach_number 119 rfl) rfl (by decide) e_k1 l_k1 ?_
    show WS _ _ _ _ [.int (aI u 46 k1)] _ _
    exact w_iret (dk_Mach_number 120 rfl) rfl h
  · replace h := h.2 c_
    refine w_aload_n (dk_Mach_number 8 rfl) rfl ?_
    refine w_getr (dk_Mach_number 9 rfl) lk_Mach_48 rfl rfl rfl ?_
    refine w_getr (dk_Mach_number 10 rfl) lk_Mach_81 rfl rfl rfl ?_
    refine w_iload (dk_Mach_number 11 rfl) rfl ?_
    obtain ⟨k2, e_k2, l_k2, h⟩ := h
    refine w_iald (k_ := k2) (dk_Mach_number 12 rfl) rfl (by decide) e_k2 l_k2 ?_
    refine w_istore (ls' := [some (.ref 38), some (.int x1), some (.int x2), some (.int x3), some (.int x4), some (.int (aI u 15 k2)), none]) (dk_Mach_number 13 rfl) (by decide) rfl ?_
    refine w_aload_n (dk_Mach_number 14 rfl) rfl ?_
    refine w_getr (dk_Mach_number 15 rfl) lk_Mach_48 rfl rfl rfl ?_
    refine w_getr (dk_Mach_number 16 rfl) lk_Mach_86 rfl rfl rfl ?_
    refine w_iload (dk_Mach_number 17 rfl) rfl ?_
    obtain ⟨k3, e_k3, l_k3, h⟩ := h
    refine w_iald (k_ := k3) (dk_Mach_number 18 rfl) rfl (by decide) e_k3 l_k3 ?_
    refine w_istore (ls' := [some (.ref 38), some (.int x1), some (.int x2), some (.int x3), some (.int x4), some (.int (aI u 15 k2)), some (.int (aI u 16 k3))]) (dk_Mach_number 19 rfl) (by decide) rfl ?_
    refine w_iinc (v := x4 + 1) (ls' := [some (.ref 38), some (.int x1), some (.int x2), some (.int x3), some (.int (x4 + 1)), some (.int (aI u 15 k2)), some (.int (aI u 16 k3))]) (dk_Mach_number 20 rfl) rfl rfl (by decide) rfl ?_
    refine w_iload (dk_Mach_number 21 rfl) rfl ?_
    refine w_bipush (v := 55) (dk_Mach_number 22 rfl) rfl ?_
    refine w_icmp_ne 55 (dk_Mach_number 23 rfl) (by decide) (fun c_ => ?_) (fun c_ => ?_)
    · replace h := h.1 c_
      refine w_iload (dk_Mach_number 27 rfl) rfl ?_
      refine w_bipush (v := 50) (dk_Mach_number 28 rfl) rfl ?_
      refine w_icmp_lt 142 (dk_Mach_number 29 rfl) (by decide) (fun c_ => ?_) (fun c_ => ?_)
      · replace h := h.1 c_
        refine w_iload (dk_Mach_number 68 rfl) rfl ?_
        refine w_bipush (v := 54) (dk_Mach_number 69 rfl) rfl ?_
        refine w_icmp_ne 175 (dk_Mach_number 70 rfl) (by decide) (fun c_ => ?_) (fun c_ => ?_)
        · replace h := h.1 c_
          refine w_iload (dk_Mach_number 87 rfl) rfl ?_
          refine w_bipush (v := 15) (dk_Mach_number 88 rfl) rfl ?_
          refine w_icmp_ne 215 (dk_Mach_number 89 rfl) (by decide) (fun c_ => ?_) (fun c_ => ?_)
          · replace h := h.1 c_
            refine w_aload_n (dk_Mach_number 109 rfl) rfl ?_
            refine w_iload (dk_Mach_number 110 rfl) rfl ?_
            refine w_callVv (ls' := [some (.ref 38), some (.int (aI u 15 k2)), none, none, none]) cv_Mach_99 (dk_Mach_number 111 rfl) (ci := 6) rfl rfl [.int (aI u 15 k2)] [] rfl rfl (Nat.le_of_ble_eq_true rfl) (Nat.le_of_ble_eq_true rfl) rfl rfl rfl h (fun u5 h => ?_)
            refine w_goto 8 (dk_Mach_number 112 rfl) (by decide) ?_
            exact h
          · replace h := h.2 c_
            refine w_aload_n (dk_Mach_number 90 rfl) rfl ?_
            refine w_getr (dk_Mach_number 91 rfl) lk_Mach_25 rfl rfl rfl ?_
            refine w_aload_n (dk_Mach_number 92 rfl) rfl ?_
            refine w_geti (v := aI u 38 6) (dk_Mach_number 93 rfl) lk_Mach_77 rfl rfl rfl ?_
            refine w_iconst (v := 1) (dk_Mach_number 94 rfl) rfl ?_
            refine w_isub (dk_Mach_number 95 rfl) ?_
            refine w_aload_n (dk_Mach_number 96 rfl) rfl ?_
            refine w_getr (dk_Mach_number 97 rfl) lk_Mach_25 rfl rfl rfl ?_
            refine w_aload_n (dk_Mach_number 98 rfl) rfl ?_
            refine w_geti (v := aI u 38 6) (dk_Mach_number 99 rfl) lk_Mach_77 rfl rfl rfl ?_
            refine w_iconst (v := 1) (dk_Mach_number 100 rfl) rfl ?_
            refine w_isub (dk_Mach_number 101 rfl) ?_
            obtain ⟨k6, e_k6, l_k6, h⟩ := h
            refine w_iald (k_ := k6) (dk_Mach_number 102 rfl) rfl (by decide) e_k6 l_k6 ?_
            refine w_if_ne 210 (dk_Mach_number 103 rfl) (by decide) (fun c_ => ?_) (fun c_ => ?_)
            · replace h := h.1 c_
              refine w_iconst (v := 0) (dk_Mach_number 106 rfl) rfl ?_
              obtain ⟨k7, e_k7, l_k7, h⟩ := h
              refine w_iast (k_ := k7) (dk_Mach_number 107 rfl) rfl (by decide) e_k7 l_k7 ?_
              refine w_goto 221 (dk_Mach_number 108 rfl) (by decide) ?_
              refine w_goto 8 (dk_Mach_number 112 rfl) (by decide) ?_
              exact h
            · replace h := h.2 c_
              refine w_iconst (v := 1) (dk_Mach_number 104 rfl) rfl ?_
              refine w_goto 211 (dk_Mach_number 105 rfl) (by decide) ?_
              obtain ⟨k8, e_k8, l_k8, h⟩ := h
              refine w_iast (k_ := k8) (dk_Mach_number 107 rfl) rfl (by decide) e_k8 l_k8 ?_
              refine w_goto 221 (dk_Mach_number 108 rfl) (by decide) ?_
              refine w_goto 8 (dk_Mach_number 112 rfl) (by decide) ?_
              exact h
        · replace h := h.2 c_
          refine w_aload_n (dk_Mach_number 71 rfl) rfl ?_
          refine w_getr (dk_Mach_number 72 rfl) lk_Mach_25 rfl rfl rfl ?_
          refine w_aload_n (dk_Mach_number 73 rfl) rfl ?_
          refine w_geti (v := aI u 38 6) (dk_Mach_number 74 rfl) lk_Mach_77 rfl rfl rfl ?_
          refine w_iconst (v := 1) (dk_Mach_number 75 rfl) rfl ?_
          refine w_isub (dk_Mach_number 76 rfl) ?_
          refine w_aload_n (dk_Mach_number 77 rfl) rfl ?_
          refine w_getr (dk_Mach_number 78 rfl) lk_Mach_25 rfl rfl rfl ?_
          refine w_aload_n (dk_Mach_number 79 rfl) rfl ?_
          refine w_geti (v := aI u 38 6) (dk_Mach_number 80 rfl) lk_Mach_77 rfl rfl rfl ?_
          refine w_iconst (v := 1) (dk_Mach_number 81 rfl) rfl ?_
          refine w_isub (dk_Mach_number 82 rfl) ?_
          obtain ⟨k9, e_k9, l_k9, h⟩ := h
          refine w_iald (k_ := k9) (dk_Mach_number 83 rfl) rfl (by decide) e_k9 l_k9 ?_
          refine w_ineg (dk_Mach_number 84 rfl) ?_
          obtain ⟨k10, e_k10, l_k10, h⟩ := h
          refine w_iast (k_ := k10) (dk_Mach_number 85 rfl) rfl (by decide) e_k10 l_k10 ?_
          refine w_goto 221 (dk_Mach_number 86 rfl) (by decide) ?_
          refine w_goto 8 (dk_Mach_number 112 rfl) (by decide) ?_
          exact h
      · replace h := h.2 c_
        refine w_iload (dk_Mach_number 30 rfl) rfl ?_
        refine w_bipush (v := 54) (dk_Mach_number 31 rfl) rfl ?_
        refine w_icmp_eq 142 (dk_Mach_number 32 rfl) (by decide) (fun c_ => ?_) (fun c_ => ?_)
        · replace h := h.1 c_
          refine w_iload (dk_Mach_number 68 rfl) rfl ?_
          refine w_bipush (v := 54) (dk_Mach_number 69 rfl) rfl ?_
          refine w_icmp_ne 175 (dk_Mach_number 70 rfl) (by decide) (fun c_ => ?_) (fun c_ => ?_)
          · replace h := h.1 c_
            refine w_iload (dk_Mach_number 87 rfl) rfl ?_
            refine w_bipush (v := 15) (dk_Mach_number 88 rfl) rfl ?_
            refine w_icmp_ne 215 (dk_Mach_number 89 rfl) (by decide) (fun c_ => ?_) (fun c_ => ?_)
            · replace h := h.1 c_
              refine w_aload_n (dk_Mach_number 109 rfl) rfl ?_
              refine w_iload (dk_Mach_number 110 rfl) rfl ?_
              refine w_callVv (ls' := [some (.ref 38), some (.int (aI u 15 k2)), none, none, none]) cv_Mach_99 (dk_Mach_number 111 rfl) (ci := 6) rfl rfl [.int (aI u 15 k2)] [] rfl rfl (Nat.le_of_ble_eq_true rfl) (Nat.le_of_ble_eq_true rfl) rfl rfl rfl h (fun u12 h => ?_)
              refine w_goto 8 (dk_Mach_number 112 rfl) (by decide) ?_
              exact h
            · replace h := h.2 c_
              refine w_aload_n (dk_Mach_number 90 rfl) rfl ?_
              refine w_getr (dk_Mach_number 91 rfl) lk_Mach_25 rfl rfl rfl ?_
              refine w_aload_n (dk_Mach_number 92 rfl) rfl ?_
              refine w_geti (v := aI u 38 6) (dk_Mach_number 93 rfl) lk_Mach_77 rfl rfl rfl ?_
              refine w_iconst (v := 1) (dk_Mach_number 94 rfl) rfl ?_
              refine w_isub (dk_Mach_number 95 rfl) ?_
              refine w_aload_n (dk_Mach_number 96 rfl) rfl ?_
              refine w_getr (dk_Mach_number 97 rfl) lk_Mach_25 rfl rfl rfl ?_
              refine w_aload_n (dk_Mach_number 98 rfl) rfl ?_
              refine w_geti (v := aI u 38 6) (dk_Mach_number 99 rfl) lk_Mach_77 rfl rfl rfl ?_
              refine w_iconst (v := 1) (dk_Mach_number 100 rfl) rfl ?_
              refine w_isub (dk_Mach_number 101 rfl) ?_
              obtain ⟨k13, e_k13, l_k13, h⟩ := h
              refine w_iald (k_ := k13) (dk_Mach_number 102 rfl) rfl (by decide) e_k13 l_k13 ?_
              refine w_if_ne 210 (dk_Mach_number 103 rfl) (by decide) (fun c_ => ?_) (fun c_ => ?_)
              · replace h := h.1 c_
                refine w_iconst (v := 0) (dk_Mach_number 106 rfl) rfl ?_
                obtain ⟨k14, e_k14, l_k14, h⟩ := h
                refine w_iast (k_ := k14) (dk_Mach_number 107 rfl) rfl (by decide) e_k14 l_k14 ?_
                refine w_goto 221 (dk_Mach_number 108 rfl) (by decide) ?_
                refine w_goto 8 (dk_Mach_number 112 rfl) (by decide) ?_
                exact h
              · replace h := h.2 c_
                refine w_iconst (v := 1) (dk_Mach_number 104 rfl) rfl ?_
                refine w_goto 211 (dk_Mach_number 105 rfl) (by decide) ?_
                obtain ⟨k15, e_k15, l_k15, h⟩ := h
                refine w_iast (k_ := k15) (dk_Mach_number 107 rfl) rfl (by decide) e_k15 l_k15 ?_
                refine w_goto 221 (dk_Mach_number 108 rfl) (by decide) ?_
                refine w_goto 8 (dk_Mach_number 112 rfl) (by decide) ?_
                exact h
          · replace h := h.2 c_
            refine w_aload_n (dk_Mach_number 71 rfl) rfl ?_
            refine w_getr (dk_Mach_number 72 rfl) lk_Mach_25 rfl rfl rfl ?_
            refine w_aload_n (dk_Mach_number 73 rfl) rfl ?_
            refine w_geti (v := aI u 38 6) (dk_Mach_number 74 rfl) lk_Mach_77 rfl rfl rfl ?_
            refine w_iconst (v := 1) (dk_Mach_number 75 rfl) rfl ?_
            refine w_isub (dk_Mach_number 76 rfl) ?_
            refine w_aload_n (dk_Mach_number 77 rfl) rfl ?_
            refine w_getr (dk_Mach_number 78 rfl) lk_Mach_25 rfl rfl rfl ?_
            refine w_aload_n (dk_Mach_number 79 rfl) rfl ?_
            refine w_geti (v := aI u 38 6) (dk_Mach_number 80 rfl) lk_Mach_77 rfl rfl rfl ?_
            refine w_iconst (v := 1) (dk_Mach_number 81 rfl) rfl ?_
            refine w_isub (dk_Mach_number 82 rfl) ?_
            obtain ⟨k16, e_k16, l_k16, h⟩ := h
            refine w_iald (k_ := k16) (dk_Mach_number 83 rfl) rfl (by decide) e_k16 l_k16 ?_
            refine w_ineg (dk_Mach_number 84 rfl) ?_
            obtain ⟨k17, e_k17, l_k17, h⟩ := h
            refine w_iast (k_ := k17) (dk_Mach_number 85 rfl) rfl (by decide) e_k17 l_k17 ?_
            refine w_goto 221 (dk_Mach_number 86 rfl) (by decide) ?_
            refine w_goto 8 (dk_Mach_number 112 rfl) (by decide) ?_
            exact h
        · replace h := h.2 c_
          refine w_aload_n (dk_Mach_number 33 rfl) rfl ?_
          refine w_getr (dk_Mach_number 34 rfl) lk_Mach_25 rfl rfl rfl ?_
          refine w_aload_n (dk_Mach_number 35 rfl) rfl ?_
          refine w_dup (dk_Mach_number 36 rfl) rfl ?_
          refine w_geti (v := aI u 38 6) (dk_Mach_number 37 rfl) lk_Mach_77 rfl rfl rfl ?_
          refine w_dup_x1 (dk_Mach_number 38 rfl) rfl rfl ?_
          refine w_iconst (v := 1) (dk_Mach_number 39 rfl) rfl ?_
          refine w_iadd (dk_Mach_number 40 rfl) ?_
          refine w_puti (dk_Mach_number 41 rfl) lk_Mach_77 rfl rfl ?_
          refine w_iload (dk_Mach_number 42 rfl) rfl ?_
          refine w_bipush (v := 50) (dk_Mach_number 43 rfl) rfl ?_
          refine w_icmp_ne 96 (dk_Mach_number 44 rfl) (by decide) (fun c_ => ?_) (fun c_ => ?_)
          · replace h := h.1 c_
            refine w_iload (dk_Mach_number 47 rfl) rfl ?_
            refine w_bipush (v := 51) (dk_Mach_number 48 rfl) rfl ?_
            refine w_icmp_ne 116 (dk_Mach_number 49 rfl) (by decide) (fun c_ => ?_) (fun c_ => ?_)
            · replace h := h.1 c_
              refine w_iload (dk_Mach_number 56 rfl) rfl ?_
              refine w_bipush (v := 53) (dk_Mach_number 57 rfl) rfl ?_
              refine w_icmp_ne 132 (dk_Mach_number 58 rfl) (by decide) (fun c_ => ?_) (fun c_ => ?_)
              · replace h := h.1 c_
                refine w_aload_n (dk_Mach_number 63 rfl) rfl ?_
                refine w_iload (dk_Mach_number 64 rfl) rfl ?_
                refine w_callVi (ls' := [some (.ref 38), some (.int (aI u 16 k3)), none, none, none, none, none, none, none]) cv_Mach_96 (dk_Mach_number 65 rfl) (ci := 6) rfl rfl [.int (aI u 16 k3)] [.int (aI u 38 6), .ref 46] rfl rfl (Nat.le_of_ble_eq_true rfl) (Nat.le_of_ble_eq_true rfl) rfl rfl rfl h (fun r18 u19 h => ?_)
                obtain ⟨k20, e_k20, l_k20, h⟩ := h
                refine w_iast (k_ := k20) (dk_Mach_number 66 rfl) rfl (by decide) e_k20 l_k20 ?_
                refine w_goto 221 (dk_Mach_number 67 rfl) (by decide) ?_
                refine w_goto 8 (dk_Mach_number 112 rfl) (by decide) ?_
                exact h
              · replace h := h.2 c_
                refine w_aload_n (dk_Mach_number 59 rfl) rfl ?_
                refine w_iload (dk_Mach_number 60 rfl) rfl ?_
                refine w_callVi (ls' := [some (.ref 38), some (.int (aI u 16 k3)), none, none]) cv_Mach_92 (dk_Mach_number 61 rfl) (ci := 6) rfl rfl [.int (aI u 16 k3)] [.int (aI u 38 6), .ref 46] rfl rfl (Nat.le_of_ble_eq_true rfl) (Nat.le_of_ble_eq_true rfl) rfl rfl rfl h (fun r21 u22 h => ?_)
                refine w_goto 138 (dk_Mach_number 62 rfl) (by decide) ?_
                obtain ⟨k23, e_k23, l_k23, h⟩ := h
                refine w_iast (k_ := k23) (dk_Mach_number 66 rfl) rfl (by decide) e_k23 l_k23 ?_
                refine w_goto 221 (dk_Mach_number 67 rfl) (by decide) ?_
                refine w_goto 8 (dk_Mach_number 112 rfl) (by decide) ?_
                exact h
            · replace h := h.2 c_
              refine w_aload_n (dk_Mach_number 50 rfl) rfl ?_
              refine w_getr (dk_Mach_number 51 rfl) lk_Mach_44 rfl rfl rfl ?_
              refine w_getr (dk_Mach_number 52 rfl) lk_Mach_89 rfl rfl rfl ?_
              refine w_iload (dk_Mach_number 53 rfl) rfl ?_
              obtain ⟨k24, e_k24, l_k24, h⟩ := h
              refine w_iald (k_ := k24) (dk_Mach_number 54 rfl) rfl (by decide) e_k24 l_k24 ?_
              show WS _ _ _ _ [.int (aI u 9 k24), .int (aI u 38 6), .ref 46] _ _
              refine w_goto 138 (dk_Mach_number 55 rfl) (by decide) ?_
              obtain ⟨k25, e_k25, l_k25, h⟩ := h
              refine w_iast (k_ := k25) (dk_Mach_number 66 rfl) rfl (by decide) e_k25 l_k25 ?_
              refine w_goto 221 (dk_Mach_number 67 rfl) (by decide) ?_
              refine w_goto 8 (dk_Mach_number 112 rfl) (by decide) ?_
              exact h
          · replace h := h.2 c_
            refine w_iload (dk_Mach_number 45 rfl) rfl ?_
            refine w_goto 138 (dk_Mach_number 46 rfl) (by decide) ?_
            obtain ⟨k26, e_k26, l_k26, h⟩ := h
            refine w_iast (k_ := k26) (dk_Mach_number 66 rfl) rfl (by decide) e_k26 l_k26 ?_
            refine w_goto 221 (dk_Mach_number 67 rfl) (by decide) ?_
            refine w_goto 8 (dk_Mach_number 112 rfl) (by decide) ?_
            exact h
    · replace h := h.2 c_
      refine w_iload (dk_Mach_number 24 rfl) rfl ?_
      refine w_istore (ls' := [some (.ref 38), some (.int x1), some (.int x2), some (.int x3), some (.int (aI u 16 k3)), some (.int (aI u 15 k2)), some (.int (aI u 16 k3))]) (dk_Mach_number 25 rfl) (by decide) rfl ?_
      refine w_goto 221 (dk_Mach_number 26 rfl) (by decide) ?_
      refine w_goto 8 (dk_Mach_number 112 rfl) (by decide) ?_
      exact h
theorem g_Mach_cursor_0 {d : Nat} {u : Us} {Q : Ot → Us → Prop} (p1 : Int32)
    (h : WS d m_Mach_isThere 0 [some (.ref 38), some (.int (p1 / 42))] [] u (Ri (fun (r1 : Int32) (u2 : Us) => (r1 = 0 → Q (.inl (some (.int 0))) u2) ∧ (¬ (r1 = 0) → ∃ k3 : Nat, p1 / 42 = nI k3 ∧ k3 < 10 ∧ (∃ k4 : Nat, p1 - p1 / 42 * 42 = nI k4 ∧ k4 < 42 ∧ (∃ k5 : Nat, p1 - p1 / 42 * 42 = nI k5 ∧ k5 < 42 ∧ (WS d m_Stor_read 0 [some (.ref 39), some (.int (aI u2 47 k3)), some (.int (aI u2 7 k4)), some (.int (aI u2 6 k5)), none, none] [] u2 (Ri (fun (r6 : Int32) (u7 : Us) => Q (.inl (some (.int r6))) u7) (fun x u => Q (.inr x) u))))))) (fun x u => Q (.inr x) u))) :
    WS (d + 1) m_Mach_cursor 0 [some (.ref 38), some (.int p1), none, none] [] u Q := by
  refine w_iload_n (dk_Mach_cursor 0 rfl) rfl ?_
  refine w_bipush (v := 42) (dk_Mach_cursor 1 rfl) rfl ?_
  refine w_idiv (dk_Mach_cursor 2 rfl) (by decide) ?_
  refine w_istore_n (ls' := [some (.ref 38), some (.int p1), some (.int (p1 / 42)), none]) (dk_Mach_cursor 3 rfl) (by decide) rfl ?_
  refine w_iload_n (dk_Mach_cursor 4 rfl) rfl ?_
  refine w_bipush (v := 42) (dk_Mach_cursor 5 rfl) rfl ?_
  refine w_irem (dk_Mach_cursor 6 rfl) (by decide) ?_
  refine w_istore_n (ls' := [some (.ref 38), some (.int p1), some (.int (p1 / 42)), some (.int (p1 - p1 / 42 * 42))]) (dk_Mach_cursor 7 rfl) (by decide) rfl ?_
  refine w_aload_n (dk_Mach_cursor 8 rfl) rfl ?_
  refine w_iload_n (dk_Mach_cursor 9 rfl) rfl ?_
  refine w_callVi (ls' := [some (.ref 38), some (.int (p1 / 42))]) cv_Mach_61 (dk_Mach_cursor 10 rfl) (ci := 6) rfl rfl [.int (p1 / 42)] [] rfl rfl (Nat.le_of_ble_eq_true rfl) (Nat.le_of_ble_eq_true rfl) rfl rfl rfl h (fun r1 u2 h => ?_)
  refine w_if_eq 52 (dk_Mach_cursor 11 rfl) (by decide) (fun c_ => ?_) (fun c_ => ?_)
  · replace h := h.1 c_
    refine w_iconst (v := 0) (dk_Mach_cursor 30 rfl) rfl ?_
    exact w_iret (dk_Mach_cursor 31 rfl) rfl h
  · replace h := h.2 c_
    refine w_aload_n (dk_Mach_cursor 12 rfl) rfl ?_
    refine w_getr (dk_Mach_cursor 13 rfl) lk_Mach_12 rfl rfl rfl ?_
    refine w_aload_n (dk_Mach_cursor 14 rfl) rfl ?_
    refine w_getr (dk_Mach_cursor 15 rfl) lk_Mach_29 rfl rfl rfl ?_
    refine w_iload_n (dk_Mach_cursor 16 rfl) rfl ?_
    obtain ⟨k3, e_k3, l_k3, h⟩ := h
    refine w_iald (k_ := k3) (dk_Mach_cursor 17 rfl) rfl (by decide) e_k3 l_k3 ?_
    refine w_aload_n (dk_Mach_cursor 18 rfl) rfl ?_
    refine w_getr (dk_Mach_cursor 19 rfl) lk_Mach_44 rfl rfl rfl ?_
    refine w_getr (dk_Mach_cursor 20 rfl) lk_Mach_65 rfl rfl rfl ?_
    refine w_iload_n (dk_Mach_cursor 21 rfl) rfl ?_
    obtain ⟨k4, e_k4, l_k4, h⟩ := h
    refine w_iald (k_ := k4) (dk_Mach_cursor 22 rfl) rfl (by decide) e_k4 l_k4 ?_
    refine w_aload_n (dk_Mach_cursor 23 rfl) rfl ?_
    refine w_getr (dk_Mach_cursor 24 rfl) lk_Mach_44 rfl rfl rfl ?_
    refine w_getr (dk_Mach_cursor 25 rfl) lk_Mach_70 rfl rfl rfl ?_
    refine w_iload_n (dk_Mach_cursor 26 rfl) rfl ?_
    obtain ⟨k5, e_k5, l_k5, h⟩ := h
    refine w_iald (k_ := k5) (dk_Mach_cursor 27 rfl) rfl (by decide) e_k5 l_k5 ?_
    refine w_callVi (ls' := [some (.ref 39), some (.int (aI u2 47 k3)), some (.int (aI u2 7 k4)), some (.int (aI u2 6 k5)), none, none]) cv_Mach_73 (dk_Mach_cursor 28 rfl) (ci := 7) rfl rfl [.int (aI u2 47 k3), .int (aI u2 7 k4), .int (aI u2 6 k5)] [] rfl rfl (Nat.le_of_ble_eq_true rfl) (Nat.le_of_ble_eq_true rfl) rfl rfl rfl h (fun r6 u7 h => ?_)
    refine w_goto 53 (dk_Mach_cursor 29 rfl) (by decide) ?_
    exact w_iret (dk_Mach_cursor 31 rfl) rfl h
theorem g_Mach_isThere_0 {d : Nat} {u : Us} {Q : Ot → Us → Prop} (p1 : Int32)
    (h : ∃ k1 : Nat, p1 = nI k1 ∧ k1 < 10 ∧ (∃ k2 : Nat, aI u 47 k1 = nI k2 ∧ k2 < 64 ∧ (∃ k3 : Nat, p1 = nI k3 ∧ k3 < 10 ∧ (((aI u 41 k2) ≠ (aI u 48 k3) → Q (.inl (some (.int 0))) u) ∧ ((aI u 41 k2) = (aI u 48 k3) → WS d m_Stor_free 0 [some (.ref 39)] [] u (Rl (fun (r4 : Int64) (u5 : Us) => ∃ k6 : Nat, p1 = nI k6 ∧ k6 < 10 ∧ (((((Int64.toUInt64 r4 >>> ((Int32.toInt64 (aI u5 47 k6)).toUInt64 &&& Int64.toUInt64 63)).toInt64) &&& 1) ≠ 0 → Q (.inl (some (.int 0))) u5) ∧ ((((Int64.toUInt64 r4 >>> ((Int32.toInt64 (aI u5 47 k6)).toUInt64 &&& Int64.toUInt64 63)).toInt64) &&& 1) = 0 → Q (.inl (some (.int 1))) u5))) (fun x u => Q (.inr x) u))))))) :
    WS (d + 1) m_Mach_isThere 0 [some (.ref 38), some (.int p1)] [] u Q := by
  refine w_aload_n (dk_Mach_isThere 0 rfl) rfl ?_
  refine w_getr (dk_Mach_isThere 1 rfl) lk_Mach_12 rfl rfl rfl ?_
  refine w_getr (dk_Mach_isThere 2 rfl) lk_Mach_56 rfl rfl rfl ?_
  refine w_aload_n (dk_Mach_isThere 3 rfl) rfl ?_
  refine w_getr (dk_Mach_isThere 4 rfl) lk_Mach_29 rfl rfl rfl ?_
  refine w_iload_n (dk_Mach_isThere 5 rfl) rfl ?_
  obtain ⟨k1, e_k1, l_k1, h⟩ := h
  refine w_iald (k_ := k1) (dk_Mach_isThere 6 rfl) rfl (by decide) e_k1 l_k1 ?_
  obtain ⟨k2, e_k2, l_k2, h⟩ := h
  refine w_iald (k_ := k2) (dk_Mach_isThere 7 rfl) rfl (by decide) e_k2 l_k2 ?_
  refine w_aload_n (dk_Mach_isThere 8 rfl) rfl ?_
  refine w_getr (dk_Mach_isThere 9 rfl) lk_Mach_32 rfl rfl rfl ?_
  refine w_iload_n (dk_Mach_isThere 10 rfl) rfl ?_
  obtain ⟨k3, e_k3, l_k3, h⟩ := h
  refine w_iald (k_ := k3) (dk_Mach_isThere 11 rfl) rfl (by decide) e_k3 l_k3 ?_
  refine w_icmp_ne 48 (dk_Mach_isThere 12 rfl) (by decide) (fun c_ => ?_) (fun c_ => ?_)
  · replace h := h.1 c_
    refine w_iconst (v := 0) (dk_Mach_isThere 28 rfl) rfl ?_
    exact w_bret (dk_Mach_isThere 29 rfl) rfl (Or.inl rfl) h
  · replace h := h.2 c_
    refine w_aload_n (dk_Mach_isThere 13 rfl) rfl ?_
    refine w_getr (dk_Mach_isThere 14 rfl) lk_Mach_12 rfl rfl rfl ?_
    refine w_callVl (ls' := [some (.ref 39)]) cv_Mach_57 (dk_Mach_isThere 15 rfl) (ci := 7) rfl rfl [] [] rfl rfl (Nat.le_of_ble_eq_true rfl) (Nat.le_of_ble_eq_true rfl) rfl rfl rfl h (fun r4 u5 h => ?_)
    refine w_aload_n (dk_Mach_isThere 16 rfl) rfl ?_
    refine w_getr (dk_Mach_isThere 17 rfl) lk_Mach_29 rfl rfl rfl ?_
    refine w_iload_n (dk_Mach_isThere 18 rfl) rfl ?_
    obtain ⟨k6, e_k6, l_k6, h⟩ := h
    refine w_iald (k_ := k6) (dk_Mach_isThere 19 rfl) rfl (by decide) e_k6 l_k6 ?_
    refine w_lushr (dk_Mach_isThere 20 rfl) ?_
    refine w_lconst (v := 1) (dk_Mach_isThere 21 rfl) rfl ?_
    refine w_land (dk_Mach_isThere 22 rfl) ?_
    refine w_lconst (v := 0) (dk_Mach_isThere 23 rfl) rfl ?_
    refine w_lcmp_ne 48 (dk_Mach_isThere 24 rfl) (dk_Mach_isThere 25 rfl) (by decide) (fun c_ => ?_) (fun c_ => ?_)
    · replace h := h.1 c_
      refine w_iconst (v := 0) (dk_Mach_isThere 28 rfl) rfl ?_
      exact w_bret (dk_Mach_isThere 29 rfl) rfl (Or.inl rfl) h
    · replace h := h.2 c_
      refine w_iconst (v := 1) (dk_Mach_isThere 26 rfl) rfl ?_
      refine w_goto 49 (dk_Mach_isThere 27 rfl) (by decide) ?_
      exact w_bret (dk_Mach_isThere 29 rfl) rfl (Or.inr rfl) h
theorem g_Mach_aggregate_0 {d : Nat} {u : Us} {Q : Ot → Us → Prop} (p1 : Int32)
    (h : ∃ k1 : Nat, p1 = nI k1 ∧ k1 < 150 ∧ (∃ k2 : Nat, p1 = nI k2 ∧ k2 < 150 ∧ (∃ k3 : Nat, p1 = nI k3 ∧ k3 < 150 ∧ (WS d m_Mach_chosen 0 [some (.ref 38), some (.int (aI u 18 k1)), some (.int (aI u 20 k2)), some (.int (aI u 21 k3))] [] u (Rl (fun (r4 : Int64) (u5 : Us) => ∃ k6 : Nat, p1 = nI k6 ∧ k6 < 150 ∧ (∃ k7 : Nat, aI u5 19 k6 = nI k7 ∧ k7 < 42 ∧ (∃ k8 : Nat, aI u5 19 k6 = nI k8 ∧ k8 < 42 ∧ (∃ k9 : Nat, p1 = nI k9 ∧ k9 < 150 ∧ (((aI u5 17 k9) ≠ 16 → ∃ k10 : Nat, p1 = nI k10 ∧ k10 < 150 ∧ (((aI u5 17 k10) ≤ 17 → WS (d + 1) m_Mach_aggregate 162 [some (.ref 38), some (.int p1), some (.long r4), none, some (.int (aI u5 19 k6)), some (.int (aI u5 7 k7)), some (.int (aI u5 6 k8)), some (.int 0), some (.int 0)] [] u5 Q) ∧ (¬ ((aI u5 17 k10) ≤ 17) → (r4 ≠ 0 → ∃ k11 : Nat, p1 = nI k11 ∧ k11 < 150 ∧ (((aI u5 17 k11) ≠ 19 → WS d m_Stor_best 0 [some (.ref 39), some (.long r4), none, some (.int (aI u5 7 k7)), some (.int (aI u5 6 k8)), some (.int 0), none, none, none, none, none, none] [] u5 (Rl (fun (r12 : Int64) (u13 : Us) => WS d m_JLong_numberOfTrailingZeros 0 [some (.long r12), none, none] [] u13 (Ri (fun (r14 : Int32) (u15 : Us) => WS d m_Stor_read 0 [some (.ref 39), some (.int r14), some (.int (aI u5 7 k7)), some (.int (aI u5 6 k8)), none, none] [] u15 (Ri (fun (r16 : Int32) (u17 : Us) => Q (.inl (some (.int r16))) u17) (fun x u => Q (.inr x) u))) (fun x u => Q (.inr x) u))) (fun x u => Q (.inr x) u))) ∧ ((aI u5 17 k11) = 19 → WS d m_Stor_best 0 [some (.ref 39), some (.long r4), none, some (.int (aI u5 7 k7)), some (.int (aI u5 6 k8)), some (.int 1), none, none, none, none, none, none] [] u5 (Rl (fun (r18 : Int64) (u19 : Us) => WS d m_JLong_numberOfTrailingZeros 0 [some (.long r18), none, none] [] u19 (Ri (fun (r20 : Int32) (u21 : Us) => WS d m_Stor_read 0 [some (.ref 39), some (.int r20), some (.int (aI u5 7 k7)), some (.int (aI u5 6 k8)), none, none] [] u21 (Ri (fun (r22 : Int32) (u23 : Us) => Q (.inl (some (.int r22))) u23) (fun x u => Q (.inr x) u))) (fun x u => Q (.inr x) u))) (fun x u => Q (.inr x) u))))) ∧ (r4 = 0 → Q (.inl (some (.int 0))) u5)))) ∧ ((aI u5 17 k9) = 16 → WS d m_JLong_bitCount 0 [some (.long r4), none] [] u5 (Ri (fun (r24 : Int32) (u25 : Us) => Q (.inl (some (.int r24))) u25) (fun x u => Q (.inr x) u)))))))) (fun x u => Q (.inr x) u)))))) :
    WS (d + 1) m_Mach_aggregate 0 [some (.ref 38), some (.int p1), none, none, none, none, none, none, none] [] u Q := by
  refine w_aload_n (dk_Mach_aggregate 0 rfl) rfl ?_
  refine w_aload_n (dk_Mach_aggregate 1 rfl) rfl ?_
  refine w_getr (dk_Mach_aggregate 2 rfl) lk_Mach_48 rfl rfl rfl ?_
  refine w_getr (dk_Mach_aggregate 3 rfl) lk_Mach_131 rfl rfl rfl ?_
  refine w_iload_n (dk_Mach_aggregate 4 rfl) rfl ?_
  obtain ⟨k1, e_k1, l_k1, h⟩ := h
  refine w_iald (k_ := k1) (dk_Mach_aggregate 5 rfl) rfl (by decide) e_k1 l_k1 ?_
  refine w_aload_n (dk_Mach_aggregate 6 rfl) rfl ?_
  refine w_getr (dk_Mach_aggregate 7 rfl) lk_Mach_48 rfl rfl rfl ?_
  refine w_getr (dk_Mach_aggregate 8 rfl) lk_Mach_134 rfl rfl rfl ?_
  refine w_iload_n (dk_Mach_aggregate 9 rfl) rfl ?_
  obtain ⟨k2, e_k2, l_k2, h⟩ := h
  refine w_iald (k_ := k2) (dk_Mach_aggregate 10 rfl) rfl (by decide) e_k2 l_k2 ?_
  refine w_aload_n (dk_Mach_aggregate 11 rfl) rfl ?_
  refine w_getr (dk_Mach_aggregate 12 rfl) lk_Mach_48 rfl rfl rfl ?_
  refine w_getr (dk_Mach_aggregate 13 rfl) lk_Mach_137 rfl rfl rfl ?_
  refine w_iload_n (dk_Mach_aggregate 14 rfl) rfl ?_
  obtain ⟨k3, e_k3, l_k3, h⟩ := h
  refine w_iald (k_ := k3) (dk_Mach_aggregate 15 rfl) rfl (by decide) e_k3 l_k3 ?_
  refine w_callVl (ls' := [some (.ref 38), some (.int (aI u 18 k1)), some (.int (aI u 20 k2)), some (.int (aI u 21 k3))]) cv_Mach_140 (dk_Mach_aggregate 16 rfl) (ci := 6) rfl rfl [.int (aI u 18 k1), .int (aI u 20 k2), .int (aI u 21 k3)] [] rfl rfl (Nat.le_of_ble_eq_true rfl) (Nat.le_of_ble_eq_true rfl) rfl rfl rfl h (fun r4 u5 h => ?_)
  refine w_lstore_n (ls' := [some (.ref 38), some (.int p1), some (.long r4), none, none, none, none, none, none]) (dk_Mach_aggregate 17 rfl) (by decide) rfl ?_
  refine w_aload_n (dk_Mach_aggregate 18 rfl) rfl ?_
  refine w_getr (dk_Mach_aggregate 19 rfl) lk_Mach_48 rfl rfl rfl ?_
  refine w_getr (dk_Mach_aggregate 20 rfl) lk_Mach_144 rfl rfl rfl ?_
  refine w_iload_n (dk_Mach_aggregate 21 rfl) rfl ?_
  obtain ⟨k6, e_k6, l_k6, h⟩ := h
  refine w_iald (k_ := k6) (dk_Mach_aggregate 22 rfl) rfl (by decide) e_k6 l_k6 ?_
  refine w_istore (ls' := [some (.ref 38), some (.int p1), some (.long r4), none, some (.int (aI u5 19 k6)), none, none, none, none]) (dk_Mach_aggregate 23 rfl) (by decide) rfl ?_
  refine w_aload_n (dk_Mach_aggregate 24 rfl) rfl ?_
  refine w_getr (dk_Mach_aggregate 25 rfl) lk_Mach_44 rfl rfl rfl ?_
  refine w_getr (dk_Mach_aggregate 26 rfl) lk_Mach_65 rfl rfl rfl ?_
  refine w_iload (dk_Mach_aggregate 27 rfl) rfl ?_
  obtain ⟨k7, e_k7, l_k7, h⟩ := h
  refine w_iald (k_ := k7) (dk_Mach_aggregate 28 rfl) rfl (by decide) e_k7 l_k7 ?_
  refine w_istore (ls' := [some (.ref 38), some (.int p1), some (.long r4), none, some (.int (aI u5 19 k6)), some (.int (aI u5 7 k7)), none, none, none]) (dk_Mach_aggregate 29 rfl) (by decide) rfl ?_
  refine w_aload_n (dk_Mach_aggregate 30 rfl) rfl ?_
  refine w_getr (dk_Mach_aggregate 31 rfl) lk_Mach_44 rfl rfl rfl ?_
  refine w_getr (dk_Mach_aggregate 32 rfl) lk_Mach_70 rfl rfl rfl ?_
  refine w_iload (dk_Mach_aggregate 33 rfl) rfl ?_
  obtain ⟨k8, e_k8, l_k8, h⟩ := h
  refine w_iald (k_ := k8) (dk_Mach_aggregate 34 rfl) rfl (by decide) e_k8 l_k8 ?_
  refine w_istore (ls' := [some (.ref 38), some (.int p1), some (.long r4), none, some (.int (aI u5 19 k6)), some (.int (aI u5 7 k7)), some (.int (aI u5 6 k8)), none, none]) (dk_Mach_aggregate 35 rfl) (by decide) rfl ?_
  refine w_aload_n (dk_Mach_aggregate 36 rfl) rfl ?_
  refine w_getr (dk_Mach_aggregate 37 rfl) lk_Mach_48 rfl rfl rfl ?_
  refine w_getr (dk_Mach_aggregate 38 rfl) lk_Mach_147 rfl rfl rfl ?_
  refine w_iload_n (dk_Mach_aggregate 39 rfl) rfl ?_
  obtain ⟨k9, e_k9, l_k9, h⟩ := h
  refine w_iald (k_ := k9) (dk_Mach_aggregate 40 rfl) rfl (by decide) e_k9 l_k9 ?_
  refine w_bipush (v := 16) (dk_Mach_aggregate 41 rfl) rfl ?_
  refine w_icmp_ne 86 (dk_Mach_aggregate 42 rfl) (by decide) (fun c_ => ?_) (fun c_ => ?_)
  · replace h := h.1 c_
    refine w_aload_n (dk_Mach_aggregate 46 rfl) rfl ?_
    refine w_getr (dk_Mach_aggregate 47 rfl) lk_Mach_48 rfl rfl rfl ?_
    refine w_getr (dk_Mach_aggregate 48 rfl) lk_Mach_147 rfl rfl rfl ?_
    refine w_iload_n (dk_Mach_aggregate 49 rfl) rfl ?_
    obtain ⟨k10, e_k10, l_k10, h⟩ := h
    refine w_iald (k_ := k10) (dk_Mach_aggregate 50 rfl) rfl (by decide) e_k10 l_k10 ?_
    refine w_bipush (v := 17) (dk_Mach_aggregate 51 rfl) rfl ?_
    refine w_icmp_le 156 (dk_Mach_aggregate 52 rfl) (by decide) (fun c_ => ?_) (fun c_ => ?_)
    · replace h := h.1 c_
      refine w_iconst (v := 0) (dk_Mach_aggregate 82 rfl) rfl ?_
      refine w_istore (ls' := [some (.ref 38), some (.int p1), some (.long r4), none, some (.int (aI u5 19 k6)), some (.int (aI u5 7 k7)), some (.int (aI u5 6 k8)), some (.int 0), none]) (dk_Mach_aggregate 83 rfl) (by decide) rfl ?_
      refine w_iconst (v := 0) (dk_Mach_aggregate 84 rfl) rfl ?_
      refine w_istore (ls' := [some (.ref 38), some (.int p1), some (.long r4), none, some (.int (aI u5 19 k6)), some (.int (aI u5 7 k7)), some (.int (aI u5 6 k8)), some (.int 0), some (.int 0)]) (dk_Mach_aggregate 85 rfl) (by decide) rfl ?_
      exact h
    · replace h := h.2 c_
      refine w_lload_n (dk_Mach_aggregate 53 rfl) rfl ?_
      refine w_lconst (v := 0) (dk_Mach_aggregate 54 rfl) rfl ?_
      refine w_lcmp_ne 110 (dk_Mach_aggregate 55 rfl) (dk_Mach_aggregate 56 rfl) (by decide) (fun c_ => ?_) (fun c_ => ?_)
      · replace h := h.1 c_
        refine w_aload_n (dk_Mach_aggregate 59 rfl) rfl ?_
        refine w_getr (dk_Mach_aggregate 60 rfl) lk_Mach_12 rfl rfl rfl ?_
        refine w_aload_n (dk_Mach_aggregate 61 rfl) rfl ?_
        refine w_getr (dk_Mach_aggregate 62 rfl) lk_Mach_12 rfl rfl rfl ?_
        refine w_lload_n (dk_Mach_aggregate 63 rfl) rfl ?_
        refine w_iload (dk_Mach_aggregate 64 rfl) rfl ?_
        refine w_iload (dk_Mach_aggregate 65 rfl) rfl ?_
        refine w_aload_n (dk_Mach_aggregate 66 rfl) rfl ?_
        refine w_getr (dk_Mach_aggregate 67 rfl) lk_Mach_48 rfl rfl rfl ?_
        refine w_getr (dk_Mach_aggregate 68 rfl) lk_Mach_147 rfl rfl rfl ?_
        refine w_iload_n (dk_Mach_aggregate 69 rfl) rfl ?_
        obtain ⟨k11, e_k11, l_k11, h⟩ := h
        refine w_iald (k_ := k11) (dk_Mach_aggregate 70 rfl) rfl (by decide) e_k11 l_k11 ?_
        refine w_bipush (v := 19) (dk_Mach_aggregate 71 rfl) rfl ?_
        refine w_icmp_ne 141 (dk_Mach_aggregate 72 rfl) (by decide) (fun c_ => ?_) (fun c_ => ?_)
        · replace h := h.1 c_
          refine w_iconst (v := 0) (dk_Mach_aggregate 75 rfl) rfl ?_
          refine w_callVl (ls' := [some (.ref 39), some (.long r4), none, some (.int (aI u5 7 k7)), some (.int (aI u5 6 k8)), some (.int 0), none, none, none, none, none, none]) cv_Mach_156 (dk_Mach_aggregate 76 rfl) (ci := 7) rfl rfl [.long r4, .int (aI u5 7 k7), .int (aI u5 6 k8), .int 0] [.ref 39] rfl rfl (Nat.le_of_ble_eq_true rfl) (Nat.le_of_ble_eq_true rfl) rfl rfl rfl h (fun r12 u13 h => ?_)
          refine w_callSi (ls' := [some (.long r12), none, none]) cv_Mach_160 (dk_Mach_aggregate 77 rfl) [.long r12] [.ref 39] rfl rfl (Nat.le_of_ble_eq_true rfl) (Nat.le_of_ble_eq_true rfl) rfl rfl rfl h (fun r14 u15 h => ?_)
          refine w_iload (dk_Mach_aggregate 78 rfl) rfl ?_
          refine w_iload (dk_Mach_aggregate 79 rfl) rfl ?_
          refine w_callVi (ls' := [some (.ref 39), some (.int r14), some (.int (aI u5 7 k7)), some (.int (aI u5 6 k8)), none, none]) cv_Mach_73 (dk_Mach_aggregate 80 rfl) (ci := 7) rfl rfl [.int r14, .int (aI u5 7 k7), .int (aI u5 6 k8)] [] rfl rfl (Nat.le_of_ble_eq_true rfl) (Nat.le_of_ble_eq_true rfl) rfl rfl rfl h (fun r16 u17 h => ?_)
          exact w_iret (dk_Mach_aggregate 81 rfl) rfl h
        · replace h := h.2 c_
          refine w_iconst (v := 1) (dk_Mach_aggregate 73 rfl) rfl ?_
          refine w_goto 142 (dk_Mach_aggregate 74 rfl) (by decide) ?_
          refine w_callVl (ls' := [some (.ref 39), some (.long r4), none, some (.int (aI u5 7 k7)), some (.int (aI u5 6 k8)), some (.int 1), none, none, none, none, none, none]) cv_Mach_156 (dk_Mach_aggregate 76 rfl) (ci := 7) rfl rfl [.long r4, .int (aI u5 7 k7), .int (aI u5 6 k8), .int 1] [.ref 39] rfl rfl (Nat.le_of_ble_eq_true rfl) (Nat.le_of_ble_eq_true rfl) rfl rfl rfl h (fun r18 u19 h => ?_)
          refine w_callSi (ls' := [some (.long r18), none, none]) cv_Mach_160 (dk_Mach_aggregate 77 rfl) [.long r18] [.ref 39] rfl rfl (Nat.le_of_ble_eq_true rfl) (Nat.le_of_ble_eq_true rfl) rfl rfl rfl h (fun r20 u21 h => ?_)
          refine w_iload (dk_Mach_aggregate 78 rfl) rfl ?_
          refine w_iload (dk_Mach_aggregate 79 rfl) rfl ?_
          refine w_callVi (ls' := [some (.ref 39), some (.int r20), some (.int (aI u5 7 k7)), some (.int (aI u5 6 k8)), none, none]) cv_Mach_73 (dk_Mach_aggregate 80 rfl) (ci := 7) rfl rfl [.int r20, .int (aI u5 7 k7), .int (aI u5 6 k8)] [] rfl rfl (Nat.le_of_ble_eq_true rfl) (Nat.le_of_ble_eq_true rfl) rfl rfl rfl h (fun r22 u23 h => ?_)
          exact w_iret (dk_Mach_aggregate 81 rfl) rfl h
      · replace h := h.2 c_
        refine w_iconst (v := 0) (dk_Mach_aggregate 57 rfl) rfl ?_
        refine w_goto 155 (dk_Mach_aggregate 58 rfl) (by decide) ?_
        exact w_iret (dk_Mach_aggregate 81 rfl) rfl h
  · replace h := h.2 c_
    refine w_lload_n (dk_Mach_aggregate 43 rfl) rfl ?_
    refine w_callSi (ls' := [some (.long r4), none]) cv_Mach_150 (dk_Mach_aggregate 44 rfl) [.long r4] [] rfl rfl (Nat.le_of_ble_eq_true rfl) (Nat.le_of_ble_eq_true rfl) rfl rfl rfl h (fun r24 u25 h => ?_)
    exact w_iret (dk_Mach_aggregate 45 rfl) rfl h
theorem g_Mach_aggregate_162 {d : Nat} {u : Us} {Q : Ot → Us → Prop} (x1 : Int32) (x2 : Int64) (x4 : Int32) (x5 : Int32) (x6 : Int32) (x7 : Int32) (x8 : Int32)
    (h : (x6 ≤ x8 → Q (.inl (some (.int x7))) u) ∧ (¬ (x6 ≤ x8) → ∃ k1 : Nat, x5 + x8 = nI k1 ∧ k1 < 88 ∧ (WS d m_JLong_bitCount 0 [some (.long (x2 &&& (aL u 40 k1))), none] [] u (Ri (fun (r2 : Int32) (u3 : Us) => WS (d + 1) m_Mach_aggregate 162 [some (.ref 38), some (.int x1), some (.long x2), none, some (.int x4), some (.int x5), some (.int x6), some (.int (x7 + (r2 <<< (x8 &&& 31)))), some (.int (x8 + 1))] [] u3 Q) (fun x u => Q (.inr x) u))))) :
    WS (d + 1) m_Mach_aggregate 162 [some (.ref 38), some (.int x1), some (.long x2), none, some (.int x4), some (.int x5), some (.int x6), some (.int x7), some (.int x8)] [] u Q := by
  refine w_iload (dk_Mach_aggregate 86 rfl) rfl ?_
  refine w_iload (dk_Mach_aggregate 87 rfl) rfl ?_
  refine w_icmp_ge 201 (dk_Mach_aggregate 88 rfl) (by decide) (fun c_ => ?_) (fun c_ => ?_)
  · replace h := h.1 c_
    refine w_iload (dk_Mach_aggregate 106 rfl) rfl ?_
    exact w_iret (dk_Mach_aggregate 107 rfl) rfl h
  · replace h := h.2 c_
    refine w_iload (dk_Mach_aggregate 89 rfl) rfl ?_
    refine w_lload_n (dk_Mach_aggregate 90 rfl) rfl ?_
    refine w_aload_n (dk_Mach_aggregate 91 rfl) rfl ?_
    refine w_getr (dk_Mach_aggregate 92 rfl) lk_Mach_12 rfl rfl rfl ?_
    refine w_getr (dk_Mach_aggregate 93 rfl) lk_Mach_163 rfl rfl rfl ?_
    refine w_iload (dk_Mach_aggregate 94 rfl) rfl ?_
    refine w_iload (dk_Mach_aggregate 95 rfl) rfl ?_
    refine w_iadd (dk_Mach_aggregate 96 rfl) ?_
    obtain ⟨k1, e_k1, l_k1, h⟩ := h
    refine w_lald (k_ := k1) (dk_Mach_aggregate 97 rfl) rfl (by decide) e_k1 l_k1 ?_
    refine w_land (dk_Mach_aggregate 98 rfl) ?_
    refine w_callSi (ls' := [some (.long (x2 &&& (aL u 40 k1))), none]) cv_Mach_150 (dk_Mach_aggregate 99 rfl) [.long (x2 &&& (aL u 40 k1))] [.int x7] rfl rfl (Nat.le_of_ble_eq_true rfl) (Nat.le_of_ble_eq_true rfl) rfl rfl rfl h (fun r2 u3 h => ?_)
    refine w_iload (dk_Mach_aggregate 100 rfl) rfl ?_
    refine w_ishl (dk_Mach_aggregate 101 rfl) ?_
    refine w_iadd (dk_Mach_aggregate 102 rfl) ?_
    refine w_istore (ls' := [some (.ref 38), some (.int x1), some (.long x2), none, some (.int x4), some (.int x5), some (.int x6), some (.int (x7 + (r2 <<< (x8 &&& 31)))), some (.int x8)]) (dk_Mach_aggregate 103 rfl) (by decide) rfl ?_
    refine w_iinc (v := x8 + 1) (ls' := [some (.ref 38), some (.int x1), some (.long x2), none, some (.int x4), some (.int x5), some (.int x6), some (.int (x7 + (r2 <<< (x8 &&& 31)))), some (.int (x8 + 1))]) (dk_Mach_aggregate 104 rfl) rfl rfl (by decide) rfl ?_
    refine w_goto 162 (dk_Mach_aggregate 105 rfl) (by decide) ?_
    exact h
theorem g_Mach_chosen_0 {d : Nat} {u : Us} {Q : Ot → Us → Prop} (p1 : Int32) (p2 : Int32) (p3 : Int32)
    (h : WS d m_Mach_rows 0 [some (.ref 38), some (.int p2), some (.int p3), none, none, none] [] u (Rv (fun (u2 : Us) => WS d m_Stor_all 0 [some (.ref 39), some (.int p1), none, none, none] [] (uI u2 42 3 ((aI u2 42 3) - 1)) (Rl (fun (r3 : Int64) (u4 : Us) => WS d m_Stck_truth 0 [some (.ref 42), some (.int ((aI u4 42 3) * 32)), none, none, none] [] u4 (Rl (fun (r5 : Int64) (u6 : Us) => Q (.inl (some (.long (r3 &&& r5)))) u6) (fun x u => Q (.inr x) u))) (fun x u => Q (.inr x) u))) (fun x u => Q (.inr x) u))) :
    WS (d + 1) m_Mach_chosen 0 [some (.ref 38), some (.int p1), some (.int p2), some (.int p3)] [] u Q := by
  refine w_aload_n (dk_Mach_chosen 0 rfl) rfl ?_
  refine w_iload_n (dk_Mach_chosen 1 rfl) rfl ?_
  refine w_iload_n (dk_Mach_chosen 2 rfl) rfl ?_
  refine w_callVv (ls' := [some (.ref 38), some (.int p2), some (.int p3), none, none, none]) cv_Mach_119 (dk_Mach_chosen 3 rfl) (ci := 6) rfl rfl [.int p2, .int p3] [] rfl rfl (Nat.le_of_ble_eq_true rfl) (Nat.le_of_ble_eq_true rfl) rfl rfl rfl h (fun u2 h => ?_)
  refine w_aload_n (dk_Mach_chosen 4 rfl) rfl ?_
  refine w_getr (dk_Mach_chosen 5 rfl) lk_Mach_21 rfl rfl rfl ?_
  refine w_dup (dk_Mach_chosen 6 rfl) rfl ?_
  refine w_geti (v := aI u2 42 3) (dk_Mach_chosen 7 rfl) lk_Mach_123 rfl rfl rfl ?_
  refine w_iconst (v := 1) (dk_Mach_chosen 8 rfl) rfl ?_
  refine w_isub (dk_Mach_chosen 9 rfl) ?_
  refine w_puti (dk_Mach_chosen 10 rfl) lk_Mach_123 rfl rfl ?_
  refine w_aload_n (dk_Mach_chosen 11 rfl) rfl ?_
  refine w_getr (dk_Mach_chosen 12 rfl) lk_Mach_12 rfl rfl rfl ?_
  refine w_iload_n (dk_Mach_chosen 13 rfl) rfl ?_
  refine w_callVl (ls' := [some (.ref 39), some (.int p1), none, none, none]) cv_Mach_124 (dk_Mach_chosen 14 rfl) (ci := 7) rfl rfl [.int p1] [] rfl rfl (Nat.le_of_ble_eq_true rfl) (Nat.le_of_ble_eq_true rfl) rfl rfl rfl h (fun r3 u4 h => ?_)
  refine w_aload_n (dk_Mach_chosen 15 rfl) rfl ?_
  refine w_getr (dk_Mach_chosen 16 rfl) lk_Mach_21 rfl rfl rfl ?_
  refine w_aload_n (dk_Mach_chosen 17 rfl) rfl ?_
  refine w_getr (dk_Mach_chosen 18 rfl) lk_Mach_21 rfl rfl rfl ?_
  refine w_geti (v := aI u4 42 3) (dk_Mach_chosen 19 rfl) lk_Mach_123 rfl rfl rfl ?_
  refine w_bipush (v := 32) (dk_Mach_chosen 20 rfl) rfl ?_
  refine w_imul (dk_Mach_chosen 21 rfl) ?_
  refine w_callVl (ls' := [some (.ref 42), some (.int ((aI u4 42 3) * 32)), none, none, none]) cv_Mach_128 (dk_Mach_chosen 22 rfl) (ci := 8) rfl rfl [.int ((aI u4 42 3) * 32)] [.long r3] rfl rfl (Nat.le_of_ble_eq_true rfl) (Nat.le_of_ble_eq_true rfl) rfl rfl rfl h (fun r5 u6 h => ?_)
  refine w_land (dk_Mach_chosen 23 rfl) ?_
  exact w_lret (dk_Mach_chosen 24 rfl) rfl h
theorem g_Mach_rows_0 {d : Nat} {u : Us} {Q : Ot → Us → Prop} (p1 : Int32) (p2 : Int32)
    (h : WS (d + 1) m_Mach_rows 2 [some (.ref 38), some (.int p1), some (.int p2), some (.int p1), none, none] [] u Q) :
    WS (d + 1) m_Mach_rows 0 [some (.ref 38), some (.int p1), some (.int p2), none, none, none] [] u Q := by
  refine w_iload_n (dk_Mach_rows 0 rfl) rfl ?_
  refine w_istore_n (ls' := [some (.ref 38), some (.int p1), some (.int p2), some (.int p1), none, none]) (dk_Mach_rows 1 rfl) (by decide) rfl ?_
  exact h
theorem g_Mach_rows_2 {d : Nat} {u : Us} {Q : Ot → Us → Prop} (x1 : Int32) (x2 : Int32) (x3 : Int32)
    (h : (x2 ≤ x3 → Q (.inl none) u) ∧ (¬ (x2 ≤ x3) → ∃ k1 : Nat, x3 = nI k1 ∧ k1 < 700 ∧ (∃ k2 : Nat, x3 = nI k2 ∧ k2 < 700 ∧ (((aI u 15 k1) ≠ 50 → ((aI u 15 k1) ≠ 51 → ((aI u 15 k1) ≠ 53 → ((aI u 15 k1) ≠ 52 → ((aI u 15 k1) ≠ 54 → ((aI u 15 k1) ≠ 15 → WS d m_Stck_does 0 [some (.ref 42), some (.int (aI u 15 k1)), none, none, none, none, none] [] u (Rv (fun (u4 : Us) => WS (d + 1) m_Mach_rows 2 [some (.ref 38), some (.int x1), some (.int x2), some (.int (x3 + 1)), some (.int (aI u 15 k1)), some (.int (aI u 16 k2))] [] u4 Q) (fun x u => Q (.inr x) u))) ∧ ((aI u 15 k1) = 15 → WS d m_Stck_not 0 [some (.ref 42)] [] u (Rv (fun (u6 : Us) => WS (d + 1) m_Mach_rows 2 [some (.ref 38), some (.int x1), some (.int x2), some (.int (x3 + 1)), some (.int (aI u 15 k1)), some (.int (aI u 16 k2))] [] u6 Q) (fun x u => Q (.inr x) u)))) ∧ ((aI u 15 k1) = 54 → WS d m_Stck_negate0 0 [some (.ref 42)] [] u (Rv (fun (u8 : Us) => WS (d + 1) m_Mach_rows 2 [some (.ref 38), some (.int x1), some (.int x2), some (.int (x3 + 1)), some (.int (aI u 15 k1)), some (.int (aI u 16 k2))] [] u8 Q) (fun x u => Q (.inr x) u)))) ∧ ((aI u 15 k1) = 52 → ∃ k9 : Nat, aI u 16 k2 = nI k9 ∧ k9 < 42 ∧ (∃ k10 : Nat, aI u 16 k2 = nI k10 ∧ k10 < 42 ∧ (WS d m_Stck_load 0 [some (.ref 42), some (.ref 39), some (.int (aI u 7 k9)), some (.int (aI u 6 k10)), none] [] u (Rv (fun (u12 : Us) => WS (d + 1) m_Mach_rows 2 [some (.ref 38), some (.int x1), some (.int x2), some (.int (x3 + 1)), some (.int (aI u 15 k1)), some (.int (aI u 16 k2))] [] u12 Q) (fun x u => Q (.inr x) u)))))) ∧ ((aI u 15 k1) = 53 → WS d m_Mach_cursor 0 [some (.ref 38), some (.int (aI u 16 k2)), none, none] [] u (Ri (fun (r13 : Int32) (u14 : Us) => WS d m_Stck_push 0 [some (.ref 42), some (.int r13), none] [] u14 (Rv (fun (u16 : Us) => WS (d + 1) m_Mach_rows 2 [some (.ref 38), some (.int x1), some (.int x2), some (.int (x3 + 1)), some (.int (aI u 15 k1)), some (.int (aI u 16 k2))] [] u16 Q) (fun x u => Q (.inr x) u))) (fun x u => Q (.inr x) u)))) ∧ ((aI u 15 k1) = 51 → ∃ k17 : Nat, aI u 16 k2 = nI k17 ∧ k17 < 20 ∧ (WS d m_Stck_push 0 [some (.ref 42), some (.int (aI u 9 k17)), none] [] u (Rv (fun (u19 : Us) => WS (d + 1) m_Mach_rows 2 [some (.ref 38), some (.int x1), some (.int x2), some (.int (x3 + 1)), some (.int (aI u 15 k1)), some (.int (aI u 16 k2))] [] u19 Q) (fun x u => Q (.inr x) u))))) ∧ ((aI u 15 k1) = 50 → WS d m_Stck_push 0 [some (.ref 42), some (.int (aI u 16 k2)), none] [] u (Rv (fun (u21 : Us) => WS (d + 1) m_Mach_rows 2 [some (.ref 38), some (.int x1), some (.int x2), some (.int (x3 + 1)), some (.int (aI u 15 k1)), some (.int (aI u 16 k2))] [] u21 Q) (fun x u => Q (.inr x) u))))))) :
    WS (d + 1) m_Mach_rows 2 [some (.ref 38), some (.int x1), some (.int x2), some (.int x3), none, none] [] u Q := by
  refine w_iload_n (dk_Mach_rows 2 rfl) rfl ?_
  refine w_iload_n (dk_Mach_rows 3 rfl) rfl ?_
  refine w_icmp_ge 188 (dk_Mach_rows 4 rfl) (by decide) (fun c_ => ?_) (fun c_ => ?_)
  · replace h := h.1 c_
    exact w_vret (dk_Mach_rows 86 rfl) rfl h
  · replace h := h.2 c_
    refine w_aload_n (dk_Mach_rows 5 rfl) rfl ?_
    refine w_getr (dk_Mach_rows 6 rfl) lk_Mach_48 rfl rfl rfl ?_
    refine w_getr (dk_Mach_rows 7 rfl) lk_Mach_81 rfl rfl rfl ?_
    refine w_iload_n (dk_Mach_rows 8 rfl) rfl ?_
    obtain ⟨k1, e_k1, l_k1, h⟩ := h
    refine w_iald (k_ := k1) (dk_Mach_rows 9 rfl) rfl (by decide) e_k1 l_k1 ?_
    refine w_istore (ls' := [some (.ref 38), some (.int x1), some (.int x2), some (.int x3), some (.int (aI u 15 k1)), none]) (dk_Mach_rows 10 rfl) (by decide) rfl ?_
    refine w_aload_n (dk_Mach_rows 11 rfl) rfl ?_
    refine w_getr (dk_Mach_rows 12 rfl) lk_Mach_48 rfl rfl rfl ?_
    refine w_getr (dk_Mach_rows 13 rfl) lk_Mach_86 rfl rfl rfl ?_
    refine w_iload_n (dk_Mach_rows 14 rfl) rfl ?_
    obtain ⟨k2, e_k2, l_k2, h⟩ := h
    refine w_iald (k_ := k2) (dk_Mach_rows 15 rfl) rfl (by decide) e_k2 l_k2 ?_
    refine w_istore (ls' := [some (.ref 38), some (.int x1), some (.int x2), some (.int x3), some (.int (aI u 15 k1)), some (.int (aI u 16 k2))]) (dk_Mach_rows 16 rfl) (by decide) rfl ?_
    refine w_iload (dk_Mach_rows 17 rfl) rfl ?_
    refine w_bipush (v := 50) (dk_Mach_rows 18 rfl) rfl ?_
    refine w_icmp_ne 48 (dk_Mach_rows 19 rfl) (by decide) (fun c_ => ?_) (fun c_ => ?_)
    · replace h := h.1 c_
      refine w_iload (dk_Mach_rows 25 rfl) rfl ?_
      refine w_bipush (v := 51) (dk_Mach_rows 26 rfl) rfl ?_
      refine w_icmp_ne 75 (dk_Mach_rows 27 rfl) (by decide) (fun c_ => ?_) (fun c_ => ?_)
      · replace h := h.1 c_
        refine w_iload (dk_Mach_rows 37 rfl) rfl ?_
        refine w_bipush (v := 53) (dk_Mach_rows 38 rfl) rfl ?_
        refine w_icmp_ne 98 (dk_Mach_rows 39 rfl) (by decide) (fun c_ => ?_) (fun c_ => ?_)
        · replace h := h.1 c_
          refine w_iload (dk_Mach_rows 47 rfl) rfl ?_
          refine w_bipush (v := 52) (dk_Mach_rows 48 rfl) rfl ?_
          refine w_icmp_ne 139 (dk_Mach_rows 49 rfl) (by decide) (fun c_ => ?_) (fun c_ => ?_)
          · replace h := h.1 c_
            refine w_iload (dk_Mach_rows 66 rfl) rfl ?_
            refine w_bipush (v := 54) (dk_Mach_rows 67 rfl) rfl ?_
            refine w_icmp_ne 156 (dk_Mach_rows 68 rfl) (by decide) (fun c_ => ?_) (fun c_ => ?_)
            · replace h := h.1 c_
              refine w_iload (dk_Mach_rows 73 rfl) rfl ?_
              refine w_bipush (v := 15) (dk_Mach_rows 74 rfl) rfl ?_
              refine w_icmp_ne 173 (dk_Mach_rows 75 rfl) (by decide) (fun c_ => ?_) (fun c_ => ?_)
              · replace h := h.1 c_
                refine w_aload_n (dk_Mach_rows 80 rfl) rfl ?_
                refine w_getr (dk_Mach_rows 81 rfl) lk_Mach_21 rfl rfl rfl ?_
                refine w_iload (dk_Mach_rows 82 rfl) rfl ?_
                refine w_callVv (ls' := [some (.ref 42), some (.int (aI u 15 k1)), none, none, none, none, none]) cv_Mach_116 (dk_Mach_rows 83 rfl) (ci := 8) rfl rfl [.int (aI u 15 k1)] [] rfl rfl (Nat.le_of_ble_eq_true rfl) (Nat.le_of_ble_eq_true rfl) rfl rfl rfl h (fun u4 h => ?_)
                refine w_iinc (v := x3 + 1) (ls' := [some (.ref 38), some (.int x1), some (.int x2), some (.int (x3 + 1)), some (.int (aI u 15 k1)), some (.int (aI u 16 k2))]) (dk_Mach_rows 84 rfl) rfl rfl (by decide) rfl ?_
                refine w_goto 2 (dk_Mach_rows 85 rfl) (by decide) ?_
                exact h
              · replace h := h.2 c_
                refine w_aload_n (dk_Mach_rows 76 rfl) rfl ?_
                refine w_getr (dk_Mach_rows 77 rfl) lk_Mach_21 rfl rfl rfl ?_
                refine w_callVv (ls' := [some (.ref 42)]) cv_Mach_113 (dk_Mach_rows 78 rfl) (ci := 8) rfl rfl [] [] rfl rfl (Nat.le_of_ble_eq_true rfl) (Nat.le_of_ble_eq_true rfl) rfl rfl rfl h (fun u6 h => ?_)
                refine w_goto 182 (dk_Mach_rows 79 rfl) (by decide) ?_
                refine w_iinc (v := x3 + 1) (ls' := [some (.ref 38), some (.int x1), some (.int x2), some (.int (x3 + 1)), some (.int (aI u 15 k1)), some (.int (aI u 16 k2))]) (dk_Mach_rows 84 rfl) rfl rfl (by decide) rfl ?_
                refine w_goto 2 (dk_Mach_rows 85 rfl) (by decide) ?_
                exact h
            · replace h := h.2 c_
              refine w_aload_n (dk_Mach_rows 69 rfl) rfl ?_
              refine w_getr (dk_Mach_rows 70 rfl) lk_Mach_21 rfl rfl rfl ?_
              refine w_callVv (ls' := [some (.ref 42)]) cv_Mach_110 (dk_Mach_rows 71 rfl) (ci := 8) rfl rfl [] [] rfl rfl (Nat.le_of_ble_eq_true rfl) (Nat.le_of_ble_eq_true rfl) rfl rfl rfl h (fun u8 h => ?_)
              refine w_goto 182 (dk_Mach_rows 72 rfl) (by decide) ?_
              refine w_iinc (v := x3 + 1) (ls' := [some (.ref 38), some (.int x1), some (.int x2), some (.int (x3 + 1)), some (.int (aI u 15 k1)), some (.int (aI u 16 k2))]) (dk_Mach_rows 84 rfl) rfl rfl (by decide) rfl ?_
              refine w_goto 2 (dk_Mach_rows 85 rfl) (by decide) ?_
              exact h
          · replace h := h.2 c_
            refine w_aload_n (dk_Mach_rows 50 rfl) rfl ?_
            refine w_getr (dk_Mach_rows 51 rfl) lk_Mach_21 rfl rfl rfl ?_
            refine w_aload_n (dk_Mach_rows 52 rfl) rfl ?_
            refine w_getr (dk_Mach_rows 53 rfl) lk_Mach_12 rfl rfl rfl ?_
            refine w_aload_n (dk_Mach_rows 54 rfl) rfl ?_
            refine w_getr (dk_Mach_rows 55 rfl) lk_Mach_44 rfl rfl rfl ?_
            refine w_getr (dk_Mach_rows 56 rfl) lk_Mach_65 rfl rfl rfl ?_
            refine w_iload (dk_Mach_rows 57 rfl) rfl ?_
            obtain ⟨k9, e_k9, l_k9, h⟩ := h
            refine w_iald (k_ := k9) (dk_Mach_rows 58 rfl) rfl (by decide) e_k9 l_k9 ?_
            refine w_aload_n (dk_Mach_rows 59 rfl) rfl ?_
            refine w_getr (dk_Mach_rows 60 rfl) lk_Mach_44 rfl rfl rfl ?_
            refine w_getr (dk_Mach_rows 61 rfl) lk_Mach_70 rfl rfl rfl ?_
            refine w_iload (dk_Mach_rows 62 rfl) rfl ?_
            obtain ⟨k10, e_k10, l_k10, h⟩ := h
            refine w_iald (k_ := k10) (dk_Mach_rows 63 rfl) rfl (by decide) e_k10 l_k10 ?_
            refine w_callVv (ls' := [some (.ref 42), some (.ref 39), some (.int (aI u 7 k9)), some (.int (aI u 6 k10)), none]) cv_Mach_106 (dk_Mach_rows 64 rfl) (ci := 8) rfl rfl [.ref 39, .int (aI u 7 k9), .int (aI u 6 k10)] [] rfl rfl (Nat.le_of_ble_eq_true rfl) (Nat.le_of_ble_eq_true rfl) rfl rfl rfl h (fun u12 h => ?_)
            refine w_goto 182 (dk_Mach_rows 65 rfl) (by decide) ?_
            refine w_iinc (v := x3 + 1) (ls' := [some (.ref 38), some (.int x1), some (.int x2), some (.int (x3 + 1)), some (.int (aI u 15 k1)), some (.int (aI u 16 k2))]) (dk_Mach_rows 84 rfl) rfl rfl (by decide) rfl ?_
            refine w_goto 2 (dk_Mach_rows 85 rfl) (by decide) ?_
            exact h
        · replace h := h.2 c_
          refine w_aload_n (dk_Mach_rows 40 rfl) rfl ?_
          refine w_getr (dk_Mach_rows 41 rfl) lk_Mach_21 rfl rfl rfl ?_
          refine w_aload_n (dk_Mach_rows 42 rfl) rfl ?_
          refine w_iload (dk_Mach_rows 43 rfl) rfl ?_
          refine w_callVi (ls' := [some (.ref 38), some (.int (aI u 16 k2)), none, none]) cv_Mach_92 (dk_Mach_rows 44 rfl) (ci := 6) rfl rfl [.int (aI u 16 k2)] [.ref 42] rfl rfl (Nat.le_of_ble_eq_true rfl) (Nat.le_of_ble_eq_true rfl) rfl rfl rfl h (fun r13 u14 h => ?_)
          refine w_callVv (ls' := [some (.ref 42), some (.int r13), none]) cv_Mach_103 (dk_Mach_rows 45 rfl) (ci := 8) rfl rfl [.int r13] [] rfl rfl (Nat.le_of_ble_eq_true rfl) (Nat.le_of_ble_eq_true rfl) rfl rfl rfl h (fun u16 h => ?_)
          refine w_goto 182 (dk_Mach_rows 46 rfl) (by decide) ?_
          refine w_iinc (v := x3 + 1) (ls' := [some (.ref 38), some (.int x1), some (.int x2), some (.int (x3 + 1)), some (.int (aI u 15 k1)), some (.int (aI u 16 k2))]) (dk_Mach_rows 84 rfl) rfl rfl (by decide) rfl ?_
          refine w_goto 2 (dk_Mach_rows 85 rfl) (by decide) ?_
          exact h
      · replace h := h.2 c_
        refine w_aload_n (dk_Mach_rows 28 rfl) rfl ?_
        refine w_getr (dk_Mach_rows 29 rfl) lk_Mach_21 rfl rfl rfl ?_
        refine w_aload_n (dk_Mach_rows 30 rfl) rfl ?_
        refine w_getr (dk_Mach_rows 31 rfl) lk_Mach_44 rfl rfl rfl ?_
        refine w_getr (dk_Mach_rows 32 rfl) lk_Mach_89 rfl rfl rfl ?_
        refine w_iload (dk_Mach_rows 33 rfl) rfl ?_
        obtain ⟨k17, e_k17, l_k17, h⟩ := h
        refine w_iald (k_ := k17) (dk_Mach_rows 34 rfl) rfl (by decide) e_k17 l_k17 ?_
        refine w_callVv (ls' := [some (.ref 42), some (.int (aI u 9 k17)), none]) cv_Mach_103 (dk_Mach_rows 35 rfl) (ci := 8) rfl rfl [.int (aI u 9 k17)] [] rfl rfl (Nat.le_of_ble_eq_true rfl) (Nat.le_of_ble_eq_true rfl) rfl rfl rfl h (fun u19 h => ?_)
        refine w_goto 182 (dk_Mach_rows 36 rfl) (by decide) ?_
        refine w_iinc (v := x3 + 1) (ls' := [some (.ref 38), some (.int x1), some (.int x2), some (.int (x3 + 1)), some (.int (aI u 15 k1)), some (.int (aI u 16 k2))]) (dk_Mach_rows 84 rfl) rfl rfl (by decide) rfl ?_
        refine w_goto 2 (dk_Mach_rows 85 rfl) (by decide) ?_
        exact h
    · replace h := h.2 c_
      refine w_aload_n (dk_Mach_rows 20 rfl) rfl ?_
      refine w_getr (dk_Mach_rows 21 rfl) lk_Mach_21 rfl rfl rfl ?_
      refine w_iload (dk_Mach_rows 22 rfl) rfl ?_
      refine w_callVv (ls' := [some (.ref 42), some (.int (aI u 16 k2)), none]) cv_Mach_103 (dk_Mach_rows 23 rfl) (ci := 8) rfl rfl [.int (aI u 16 k2)] [] rfl rfl (Nat.le_of_ble_eq_true rfl) (Nat.le_of_ble_eq_true rfl) rfl rfl rfl h (fun u21 h => ?_)
      refine w_goto 182 (dk_Mach_rows 24 rfl) (by decide) ?_
      refine w_iinc (v := x3 + 1) (ls' := [some (.ref 38), some (.int x1), some (.int x2), some (.int (x3 + 1)), some (.int (aI u 15 k1)), some (.int (aI u 16 k2))]) (dk_Mach_rows 84 rfl) rfl rfl (by decide) rfl ?_
      refine w_goto 2 (dk_Mach_rows 85 rfl) (by decide) ?_
      exact h
theorem g_Mach_operate_0 {d : Nat} {u : Us} {Q : Ot → Us → Prop} (p1 : Int32)
    (h : ∃ k1 : Nat, ((aI u 38 6) - 1) - 1 = nI k1 ∧ k1 < 80 ∧ (∃ k2 : Nat, (aI u 38 6) - 1 = nI k2 ∧ k2 < 80 ∧ ((p1 = 13 → ((aI u 46 k1) = 0 → WS d m_Mach_operate 382 [some (.ref 38), some (.int p1), some (.int (aI u 46 k1)), some (.int (aI u 46 k2)), some (.int 0)] [] (uI u 38 6 ((aI u 38 6) - 1)) Q) ∧ (¬ ((aI u 46 k1) = 0) → ((aI u 46 k2) = 0 → WS d m_Mach_operate 382 [some (.ref 38), some (.int p1), some (.int (aI u 46 k1)), some (.int (aI u 46 k2)), some (.int 0)] [] (uI u 38 6 ((aI u 38 6) - 1)) Q) ∧ (¬ ((aI u 46 k2) = 0) → WS d m_Mach_operate 382 [some (.ref 38), some (.int p1), some (.int (aI u 46 k1)), some (.int (aI u 46 k2)), some (.int 1)] [] (uI u 38 6 ((aI u 38 6) - 1)) Q))) ∧ ((p1 = 14 → (((aI u 46 k1) ||| (aI u 46 k2)) = 0 → WS d m_Mach_operate 382 [some (.ref 38), some (.int p1), some (.int (aI u 46 k1)), some (.int (aI u 46 k2)), some (.int 0)] [] (uI u 38 6 ((aI u 38 6) - 1)) Q) ∧ (¬ (((aI u 46 k1) ||| (aI u 46 k2)) = 0) → WS d m_Mach_operate 382 [some (.ref 38), some (.int p1), some (.int (aI u 46 k1)), some (.int (aI u 46 k2)), some (.int 1)] [] (uI u 38 6 ((aI u 38 6) - 1)) Q)) ∧ ((p1 = 30 → ((aI u 46 k1) ≠ (aI u 46 k2) → WS d m_Mach_operate 382 [some (.ref 38), some (.int p1), some (.int (aI u 46 k1)), some (.int (aI u 46 k2)), some (.int 0)] [] (uI u 38 6 ((aI u 38 6) - 1)) Q) ∧ ((aI u 46 k1) = (aI u 46 k2) → WS d m_Mach_operate 382 [some (.ref 38), some (.int p1), some (.int (aI u 46 k1)), some (.int (aI u 46 k2)), some (.int 1)] [] (uI u 38 6 ((aI u 38 6) - 1)) Q)) ∧ ((p1 = 31 → ((aI u 46 k1) = (aI u 46 k2) → WS d m_Mach_operate 382 [some (.ref 38), some (.int p1), some (.int (aI u 46 k1)), some (.int (aI u 46 k2)), some (.int 0)] [] (uI u 38 6 ((aI u 38 6) - 1)) Q) ∧ (¬ ((aI u 46 k1) = (aI u 46 k2)) → WS d m_Mach_operate 382 [some (.ref 38), some (.int p1), some (.int (aI u 46 k1)), some (.int (aI u 46 k2)), some (.int 1)] [] (uI u 38 6 ((aI u 38 6) - 1)) Q)) ∧ ((p1 = 32 → ((aI u 46 k2) ≤ (aI u 46 k1) → WS d m_Mach_operate 382 [some (.ref 38), some (.int p1), some (.int (aI u 46 k1)), some (.int (aI u 46 k2)), some (.int 0)] [] (uI u 38 6 ((aI u 38 6) - 1)) Q) ∧ (¬ ((aI u 46 k2) ≤ (aI u 46 k1)) → WS d m_Mach_operate 382 [some (.ref 38), some (.int p1), some (.int (aI u 46 k1)), some (.int (aI u 46 k2)), some (.int 1)] [] (uI u 38 6 ((aI u 38 6) - 1)) Q)) ∧ ((p1 = 33 → ((aI u 46 k2) < (aI u 46 k1) → WS d m_Mach_operate 382 [some (.ref 38), some (.int p1), some (.int (aI u 46 k1)), some (.int (aI u 46 k2)), some (.int 0)] [] (uI u 38 6 ((aI u 38 6) - 1)) Q) ∧ (¬ ((aI u 46 k2) < (aI u 46 k1)) → WS d m_Mach_operate 382 [some (.ref 38), some (.int p1), some (.int (aI u 46 k1)), some (.int (aI u 46 k2)), some (.int 1)] [] (uI u 38 6 ((aI u 38 6) - 1)) Q)) ∧ ((p1 = 34 → ((aI u 46 k1) ≤ (aI u 46 k2) → WS d m_Mach_operate 382 [some (.ref 38), some (.int p1), some (.int (aI u 46 k1)), some (.int (aI u 46 k2)), some (.int 0)] [] (uI u 38 6 ((aI u 38 6) - 1)) Q) ∧ (¬ ((aI u 46 k1) ≤ (aI u 46 k2)) → WS d m_Mach_operate 382 [some (.ref 38), some (.int p1), some (.int (aI u 46 k1)), some (.int (aI u 46 k2)), some (.int 1)] [] (uI u 38 6 ((aI u 38 6) - 1)) Q)) ∧ ((p1 = 35 → ((aI u 46 k1) < (aI u 46 k2) → WS d m_Mach_operate 382 [some (.ref 38), some (.int p1), some (.int (aI u 46 k1)), some (.int (aI u 46 k2)), some (.int 0)] [] (uI u 38 6 ((aI u 38 6) - 1)) Q) ∧ (¬ ((aI u 46 k1) < (aI u 46 k2)) → WS d m_Mach_operate 382 [some (.ref 38), some (.int p1), some (.int (aI u 46 k1)), some (.int (aI u 46 k2)), some (.int 1)] [] (uI u 38 6 ((aI u 38 6) - 1)) Q)) ∧ ((p1 = 36 → ∃ k12 : Nat, ((aI u 38 6) - 1) - 1 = nI k12 ∧ k12 < 80 ∧ (WS d m_Mach_operate 382 [some (.ref 38), some (.int p1), some (.int (aI u 46 k1)), some (.int (aI u 46 k2)), some (.int 0)] [] (uI (uI u 38 6 ((aI u 38 6) - 1)) 46 k12 ((aI u 46 k1) + (aI u 46 k2))) Q)) ∧ ((p1 = 37 → ∃ k14 : Nat, ((aI u 38 6) - 1) - 1 = nI k14 ∧ k14 < 80 ∧ (WS d m_Mach_operate 382 [some (.ref 38), some (.int p1), some (.int (aI u 46 k1)), some (.int (aI u 46 k2)), some (.int 0)] [] (uI (uI u 38 6 ((aI u 38 6) - 1)) 46 k14 ((aI u 46 k1) - (aI u 46 k2))) Q)) ∧ ((p1 = 38 → ∃ k16 : Nat, ((aI u 38 6) - 1) - 1 = nI k16 ∧ k16 < 80 ∧ (WS d m_Mach_operate 382 [some (.ref 38), some (.int p1), some (.int (aI u 46 k1)), some (.int (aI u 46 k2)), some (.int 0)] [] (uI (uI u 38 6 ((aI u 38 6) - 1)) 46 k16 ((aI u 46 k1) * (aI u 46 k2))) Q)) ∧ ((p1 = 39 → ((aI u 46 k2) ≠ 0 → ¬ (aI u 46 k2) = 0 ∧ (∃ k18 : Nat, ((aI u 38 6) - 1) - 1 = nI k18 ∧ k18 < 80 ∧ (WS d m_Mach_operate 382 [some (.ref 38), some (.int p1), some (.int (aI u 46 k1)), some (.int (aI u 46 k2)), some (.int 0)] [] (uI (uI u 38 6 ((aI u 38 6) - 1)) 46 k18 ((aI u 46 k1) / (aI u 46 k2))) Q))) ∧ ((aI u 46 k2) = 0 → ∃ k19 : Nat, ((aI u 38 6) - 1) - 1 = nI k19 ∧ k19 < 80 ∧ (WS d m_Mach_operate 382 [some (.ref 38), some (.int p1), some (.int (aI u 46 k1)), some (.int (aI u 46 k2)), some (.int 0)] [] (uI (uI u 38 6 ((aI u 38 6) - 1)) 46 k19 0) Q))) ∧ (((∀ v ∈ ([13, 14, 30, 31, 32, 33, 34, 35, 36, 37, 38, 39] : List Int32), p1 ≠ v) → ((aI u 46 k2) ≠ 0 → ¬ (aI u 46 k2) = 0 ∧ (∃ k21 : Nat, ((aI u 38 6) - 1) - 1 = nI k21 ∧ k21 < 80 ∧ (WS d m_Mach_operate 382 [some (.ref 38), some (.int p1), some (.int (aI u 46 k1)), some (.int (aI u 46 k2)), some (.int 0)] [] (uI (uI u 38 6 ((aI u 38 6) - 1)) 46 k21 ((aI u 46 k1) - (aI u 46 k1) / (aI u 46 k2) * (aI u 46 k2))) Q))) ∧ ((aI u 46 k2) = 0 → ∃ k22 : Nat, ((aI u 38 6) - 1) - 1 = nI k22 ∧ k22 < 80 ∧ (WS d m_Mach_operate 382 [some (.ref 38), some (.int p1), some (.int (aI u 46 k1)), some (.int (aI u 46 k2)), some (.int 0)] [] (uI (uI u 38 6 ((aI u 38 6) - 1)) 46 k22 0) Q)))))))))))))))))) :
    WS d m_Mach_operate 0 [some (.ref 38), some (.int p1), none, none, none] [] u Q := by
  refine w_aload_n (dk_Mach_operate 0 rfl) rfl ?_
  refine w_dup (dk_Mach_operate 1 rfl) rfl ?_
  refine w_geti (v := aI u 38 6) (dk_Mach_operate 2 rfl) lk_Mach_77 rfl rfl rfl ?_
  refine w_iconst (v := 1) (dk_Mach_operate 3 rfl) rfl ?_
  refine w_isub (dk_Mach_operate 4 rfl) ?_
  refine w_puti (dk_Mach_operate 5 rfl) lk_Mach_77 rfl rfl ?_
  refine w_aload_n (dk_Mach_operate 6 rfl) rfl ?_
  refine w_getr (dk_Mach_operate 7 rfl) lk_Mach_25 rfl rfl rfl ?_
  refine w_aload_n (dk_Mach_operate 8 rfl) rfl ?_
  refine w_geti (v := (aI u 38 6) - 1) (dk_Mach_operate 9 rfl) lk_Mach_77 rfl rfl rfl ?_
  refine w_iconst (v := 1) (dk_Mach_operate 10 rfl) rfl ?_
  refine w_isub (dk_Mach_operate 11 rfl) ?_
  obtain ⟨k1, e_k1, l_k1, h⟩ := h
  refine w_iald (k_ := k1) (dk_Mach_operate 12 rfl) rfl (by decide) e_k1 l_k1 ?_
  show WS _ _ _ _ [.int (aI u 46 k1)] _ _
  refine w_istore_n (ls' := [some (.ref 38), some (.int p1), some (.int (aI u 46 k1)), none, none]) (dk_Mach_operate 13 rfl) (by decide) rfl ?_
  refine w_aload_n (dk_Mach_operate 14 rfl) rfl ?_
  refine w_getr (dk_Mach_operate 15 rfl) lk_Mach_25 rfl rfl rfl ?_
  refine w_aload_n (dk_Mach_operate 16 rfl) rfl ?_
  refine w_geti (v := (aI u 38 6) - 1) (dk_Mach_operate 17 rfl) lk_Mach_77 rfl rfl rfl ?_
  obtain ⟨k2, e_k2, l_k2, h⟩ := h
  refine w_iald (k_ := k2) (dk_Mach_operate 18 rfl) rfl (by decide) e_k2 l_k2 ?_
  show WS _ _ _ _ [.int (aI u 46 k2)] _ _
  refine w_istore_n (ls' := [some (.ref 38), some (.int p1), some (.int (aI u 46 k1)), some (.int (aI u 46 k2)), none]) (dk_Mach_operate 19 rfl) (by decide) rfl ?_
  refine w_iconst (v := 0) (dk_Mach_operate 20 rfl) rfl ?_
  refine w_istore (ls' := [some (.ref 38), some (.int p1), some (.int (aI u 46 k1)), some (.int (aI u 46 k2)), some (.int 0)]) (dk_Mach_operate 21 rfl) (by decide) rfl ?_
  refine w_iload_n (dk_Mach_operate 22 rfl) rfl ?_
  by_cases n3 : p1 = 13
  · replace h := h.1 n3
    refine w_tabI ds_Mach_operate_36 140 176 (by rw [n3]; decide) (by decide) ?_
    refine w_iload_n (dk_Mach_operate 33 rfl) rfl ?_
    refine w_if_eq 188 (dk_Mach_operate 34 rfl) (by decide) (fun c_ => ?_) (fun c_ => ?_)
    · replace h := h.1 c_
      refine w_iconst (v := 0) (dk_Mach_operate 39 rfl) rfl ?_
      refine w_istore (ls' := [some (.ref 38), some (.int p1), some (.int (aI u 46 k1)), some (.int (aI u 46 k2)), some (.int 0)]) (dk_Mach_operate 40 rfl) (by decide) rfl ?_
      refine w_goto 382 (dk_Mach_operate 41 rfl) (by decide) ?_
      exact h
    · replace h := h.2 c_
      refine w_iload_n (dk_Mach_operate 35 rfl) rfl ?_
      refine w_if_eq 188 (dk_Mach_operate 36 rfl) (by decide) (fun c_ => ?_) (fun c_ => ?_)
      · replace h := h.1 c_
        refine w_iconst (v := 0) (dk_Mach_operate 39 rfl) rfl ?_
        refine w_istore (ls' := [some (.ref 38), some (.int p1), some (.int (aI u 46 k1)), some (.int (aI u 46 k2)), some (.int 0)]) (dk_Mach_operate 40 rfl) (by decide) rfl ?_
        refine w_goto 382 (dk_Mach_operate 41 rfl) (by decide) ?_
        exact h
      · replace h := h.2 c_
        refine w_iconst (v := 1) (dk_Mach_operate 37 rfl) rfl ?_
        refine w_goto 189 (dk_Mach_operate 38 rfl) (by decide) ?_
        refine w_istore (ls' := [some (.ref 38), some (.int p1), some (.int (aI u 46 k1)), some (.int (aI u 46 k2)), some (.int 1)]) (dk_Mach_operate 40 rfl) (by decide) rfl ?_
        refine w_goto 382 (dk_Mach_operate 41 rfl) (by decide) ?_
        exact h
  replace h := h.2
  by_cases n4 : p1 = 14
  · replace h := h.1 n4
    refine w_tabI ds_Mach_operate_36 124 160 (by rw [n4]; decide) (by decide) ?_
    refine w_iload_n (dk_Mach_operate 24 rfl) rfl ?_
    refine w_iload_n (dk_Mach_operate 25 rfl) rfl ?_
    refine w_ior (dk_Mach_operate 26 rfl) ?_
    refine w_if_eq 170 (dk_Mach_operate 27 rfl) (by decide) (fun c_ => ?_) (fun c_ => ?_)
    · replace h := h.1 c_
      refine w_iconst (v := 0) (dk_Mach_operate 30 rfl) rfl ?_
      refine w_istore (ls' := [some (.ref 38), some (.int p1), some (.int (aI u 46 k1)), some (.int (aI u 46 k2)), some (.int 0)]) (dk_Mach_operate 31 rfl) (by decide) rfl ?_
      refine w_goto 382 (dk_Mach_operate 32 rfl) (by decide) ?_
      exact h
    · replace h := h.2 c_
      refine w_iconst (v := 1) (dk_Mach_operate 28 rfl) rfl ?_
      refine w_goto 171 (dk_Mach_operate 29 rfl) (by decide) ?_
      refine w_istore (ls' := [some (.ref 38), some (.int p1), some (.int (aI u 46 k1)), some (.int (aI u 46 k2)), some (.int 1)]) (dk_Mach_operate 31 rfl) (by decide) rfl ?_
      refine w_goto 382 (dk_Mach_operate 32 rfl) (by decide) ?_
      exact h
  replace h := h.2
  by_cases n5 : p1 = 30
  · replace h := h.1 n5
    refine w_tabI ds_Mach_operate_36 158 194 (by rw [n5]; decide) (by decide) ?_
    refine w_iload_n (dk_Mach_operate 42 rfl) rfl ?_
    refine w_iload_n (dk_Mach_operate 43 rfl) rfl ?_
    refine w_icmp_ne 203 (dk_Mach_operate 44 rfl) (by decide) (fun c_ => ?_) (fun c_ => ?_)
    · replace h := h.1 c_
      refine w_iconst (v := 0) (dk_Mach_operate 47 rfl) rfl ?_
      refine w_istore (ls' := [some (.ref 38), some (.int p1), some (.int (aI u 46 k1)), some (.int (aI u 46 k2)), some (.int 0)]) (dk_Mach_operate 48 rfl) (by decide) rfl ?_
      refine w_goto 382 (dk_Mach_operate 49 rfl) (by decide) ?_
      exact h
    · replace h := h.2 c_
      refine w_iconst (v := 1) (dk_Mach_operate 45 rfl) rfl ?_
      refine w_goto 204 (dk_Mach_operate 46 rfl) (by decide) ?_
      refine w_istore (ls' := [some (.ref 38), some (.int p1), some (.int (aI u 46 k1)), some (.int (aI u 46 k2)), some (.int 1)]) (dk_Mach_operate 48 rfl) (by decide) rfl ?_
      refine w_goto 382 (dk_Mach_operate 49 rfl) (by decide) ?_
      exact h
  replace h := h.2
  by_cases n6 : p1 = 31
  · replace h := h.1 n6
    refine w_tabI ds_Mach_operate_36 173 209 (by rw [n6]; decide) (by decide) ?_
    refine w_iload_n (dk_Mach_operate 50 rfl) rfl ?_
    refine w_iload_n (dk_Mach_operate 51 rfl) rfl ?_
    refine w_icmp_eq 218 (dk_Mach_operate 52 rfl) (by decide) (fun c_ => ?_) (fun c_ => ?_)
    · replace h := h.1 c_
      refine w_iconst (v := 0) (dk_Mach_operate 55 rfl) rfl ?_
      refine w_istore (ls' := [some (.ref 38), some (.int p1), some (.int (aI u 46 k1)), some (.int (aI u 46 k2)), some (.int 0)]) (dk_Mach_operate 56 rfl) (by decide) rfl ?_
      refine w_goto 382 (dk_Mach_operate 57 rfl) (by decide) ?_
      exact h
    · replace h := h.2 c_
      refine w_iconst (v := 1) (dk_Mach_operate 53 rfl) rfl ?_
      refine w_goto 219 (dk_Mach_operate 54 rfl) (by decide) ?_
      refine w_istore (ls' := [some (.ref 38), some (.int p1), some (.int (aI u 46 k1)), some (.int (aI u 46 k2)), some (.int 1)]) (dk_Mach_operate 56 rfl) (by decide) rfl ?_
      refine w_goto 382 (dk_Mach_operate 57 rfl) (by decide) ?_
      exact h
  replace h := h.2
  by_cases n7 : p1 = 32
  · replace h := h.1 n7
    refine w_tabI ds_Mach_operate_36 188 224 (by rw [n7]; decide) (by decide) ?_
    refine w_iload_n (dk_Mach_operate 58 rfl) rfl ?_
    refine w_iload_n (dk_Mach_operate 59 rfl) rfl ?_
    refine w_icmp_ge 233 (dk_Mach_operate 60 rfl) (by decide) (fun c_ => ?_) (fun c_ => ?_)
    · replace h := h.1 c_
      refine w_iconst (v := 0) (dk_Mach_operate 63 rfl) rfl ?_
      refine w_istore (ls' := [some (.ref 38), some (.int p1), some (.int (aI u 46 k1)), some (.int (aI u 46 k2)), some (.int 0)]) (dk_Mach_operate 64 rfl) (by decide) rfl ?_
      refine w_goto 382 (dk_Mach_operate 65 rfl) (by decide) ?_
      exact h
    · replace h := h.2 c_
      refine w_iconst (v := 1) (dk_Mach_operate 61 rfl) rfl ?_
      refine w_goto 234 (dk_Mach_operate 62 rfl) (by decide) ?_
      refine w_istore (ls' := [some (.ref 38), some (.int p1), some (.int (aI u 46 k1)), some (.int (aI u 46 k2)), some (.int 1)]) (dk_Mach_operate 64 rfl) (by decide) rfl ?_
      refine w_goto 382 (dk_Mach_operate 65 rfl) (by decide) ?_
      exact h
  replace h := h.2
  by_cases n8 : p1 = 33
  · replace h := h.1 n8
    refine w_tabI ds_Mach_operate_36 203 239 (by rw [n8]; decide) (by decide) ?_
    refine w_iload_n (dk_Mach_operate 66 rfl) rfl ?_
    refine w_iload_n (dk_Mach_operate 67 rfl) rfl ?_
    refine w_icmp_gt 248 (dk_Mach_operate 68 rfl) (by decide) (fun c_ => ?_) (fun c_ => ?_)
    · replace h := h.1 c_
      refine w_iconst (v := 0) (dk_Mach_operate 71 rfl) rfl ?_
      refine w_istore (ls' := [some (.ref 38), some (.int p1), some (.int (aI u 46 k1)), some (.int (aI u 46 k2)), some (.int 0)]) (dk_Mach_operate 72 rfl) (by decide) rfl ?_
      refine w_goto 382 (dk_Mach_operate 73 rfl) (by decide) ?_
      exact h
    · replace h := h.2 c_
      refine w_iconst (v := 1) (dk_Mach_operate 69 rfl) rfl ?_
      refine w_goto 249 (dk_Mach_operate 70 rfl) (by decide) ?_
      refine w_istore (ls' := [some (.ref 38), some (.int p1), some (.int (aI u 46 k1)), some (.int (aI u 46 k2)), some (.int 1)]) (dk_Mach_operate 72 rfl) (by decide) rfl ?_
      refine w_goto 382 (dk_Mach_operate 73 rfl) (by decide) ?_
      exact h
  replace h := h.2
  by_cases n9 : p1 = 34
  · replace h := h.1 n9
    refine w_tabI ds_Mach_operate_36 218 254 (by rw [n9]; decide) (by decide) ?_
    refine w_iload_n (dk_Mach_operate 74 rfl) rfl ?_
    refine w_iload_n (dk_Mach_operate 75 rfl) rfl ?_
    refine w_icmp_le 263 (dk_Mach_operate 76 rfl) (by decide) (fun c_ => ?_) (fun c_ => ?_)
    · replace h := h.1 c_
      refine w_iconst (v := 0) (dk_Mach_operate 79 rfl) rfl ?_
      refine w_istore (ls' := [some (.ref 38), some (.int p1), some (.int (aI u 46 k1)), some (.int (aI u 46 k2)), some (.int 0)]) (dk_Mach_operate 80 rfl) (by decide) rfl ?_
      refine w_goto 382 (dk_Mach_operate 81 rfl) (by decide) ?_
      exact h
    · replace h := h.2 c_
      refine w_iconst (v := 1) (dk_Mach_operate 77 rfl) rfl ?_
      refine w_goto 264 (dk_Mach_operate 78 rfl) (by decide) ?_
      refine w_istore (ls' := [some (.ref 38), some (.int p1), some (.int (aI u 46 k1)), some (.int (aI u 46 k2)), some (.int 1)]) (dk_Mach_operate 80 rfl) (by decide) rfl ?_
      refine w_goto 382 (dk_Mach_operate 81 rfl) (by decide) ?_
      exact h
  replace h := h.2
  by_cases n10 : p1 = 35
  · replace h := h.1 n10
    refine w_tabI ds_Mach_operate_36 233 269 (by rw [n10]; decide) (by decide) ?_
    refine w_iload_n (dk_Mach_operate 82 rfl) rfl ?_
    refine w_iload_n (dk_Mach_operate 83 rfl) rfl ?_
    refine w_icmp_lt 278 (dk_Mach_operate 84 rfl) (by decide) (fun c_ => ?_) (fun c_ => ?_)
    · replace h := h.1 c_
      refine w_iconst (v := 0) (dk_Mach_operate 87 rfl) rfl ?_
      refine w_istore (ls' := [some (.ref 38), some (.int p1), some (.int (aI u 46 k1)), some (.int (aI u 46 k2)), some (.int 0)]) (dk_Mach_operate 88 rfl) (by decide) rfl ?_
      refine w_goto 382 (dk_Mach_operate 89 rfl) (by decide) ?_
      exact h
    · replace h := h.2 c_
      refine w_iconst (v := 1) (dk_Mach_operate 85 rfl) rfl ?_
      refine w_goto 279 (dk_Mach_operate 86 rfl) (by decide) ?_
      refine w_istore (ls' := [some (.ref 38), some (.int p1), some (.int (aI u 46 k1)), some (.int (aI u 46 k2)), some (.int 1)]) (dk_Mach_operate 88 rfl) (by decide) rfl ?_
      refine w_goto 382 (dk_Mach_operate 89 rfl) (by decide) ?_
      exact h
  replace h := h.2
  by_cases n11 : p1 = 36
  · replace h := h.1 n11
    refine w_tabI ds_Mach_operate_36 248 284 (by rw [n11]; decide) (by decide) ?_
    refine w_aload_n (dk_Mach_operate 90 rfl) rfl ?_
    refine w_getr (dk_Mach_operate 91 rfl) lk_Mach_25 rfl rfl rfl ?_
    refine w_aload_n (dk_Mach_operate 92 rfl) rfl ?_
    refine w_geti (v := (aI u 38 6) - 1) (dk_Mach_operate 93 rfl) lk_Mach_77 rfl rfl rfl ?_
    refine w_iconst (v := 1) (dk_Mach_operate 94 rfl) rfl ?_
    refine w_isub (dk_Mach_operate 95 rfl) ?_
    refine w_iload_n (dk_Mach_operate 96 rfl) rfl ?_
    refine w_iload_n (dk_Mach_operate 97 rfl) rfl ?_
    refine w_iadd (dk_Mach_operate 98 rfl) ?_
    obtain ⟨k12, e_k12, l_k12, h⟩ := h
    refine w_iast (k_ := k12) (dk_Mach_operate 99 rfl) rfl (by decide) e_k12 l_k12 ?_
    refine w_goto 382 (dk_Mach_operate 100 rfl) (by decide) ?_
    exact h
  replace h := h.2
  by_cases n13 : p1 = 37
  · replace h := h.1 n13
    refine w_tabI ds_Mach_operate_36 265 301 (by rw [n13]; decide) (by decide) ?_
    refine w_aload_n (dk_Mach_operate 101 rfl) rfl ?_
    refine w_getr (dk_Mach_operate 102 rfl) lk_Mach_25 rfl rfl rfl ?_
    refine w_aload_n (dk_Mach_operate 103 rfl) rfl ?_
    refine w_geti (v := (aI u 38 6) - 1) (dk_Mach_operate 104 rfl) lk_Mach_77 rfl rfl rfl ?_
    refine w_iconst (v := 1) (dk_Mach_operate 105 rfl) rfl ?_
    refine w_isub (dk_Mach_operate 106 rfl) ?_
    refine w_iload_n (dk_Mach_operate 107 rfl) rfl ?_
    refine w_iload_n (dk_Mach_operate 108 rfl) rfl ?_
    refine w_isub (dk_Mach_operate 109 rfl) ?_
    obtain ⟨k14, e_k14, l_k14, h⟩ := h
    refine w_iast (k_ := k14) (dk_Mach_operate 110 rfl) rfl (by decide) e_k14 l_k14 ?_
    refine w_goto 382 (dk_Mach_operate 111 rfl) (by decide) ?_
    exact h
  replace h := h.2
  by_cases n15 : p1 = 38
  · replace h := h.1 n15
    refine w_tabI ds_Mach_operate_36 282 318 (by rw [n15]; decide) (by decide) ?_
    refine w_aload_n (dk_Mach_operate 112 rfl) rfl ?_
    refine w_getr (dk_Mach_operate 113 rfl) lk_Mach_25 rfl rfl rfl ?_
    refine w_aload_n (dk_Mach_operate 114 rfl) rfl ?_
    refine w_geti (v := (aI u 38 6) - 1) (dk_Mach_operate 115 rfl) lk_Mach_77 rfl rfl rfl ?_
    refine w_iconst (v := 1) (dk_Mach_operate 116 rfl) rfl ?_
    refine w_isub (dk_Mach_operate 117 rfl) ?_
    refine w_iload_n (dk_Mach_operate 118 rfl) rfl ?_
    refine w_iload_n (dk_Mach_operate 119 rfl) rfl ?_
    refine w_imul (dk_Mach_operate 120 rfl) ?_
    obtain ⟨k16, e_k16, l_k16, h⟩ := h
    refine w_iast (k_ := k16) (dk_Mach_operate 121 rfl) rfl (by decide) e_k16 l_k16 ?_
    refine w_goto 382 (dk_Mach_operate 122 rfl) (by decide) ?_
    exact h
  replace h := h.2
  by_cases n17 : p1 = 39
  · replace h := h.1 n17
    refine w_tabI ds_Mach_operate_36 299 335 (by rw [n17]; decide) (by decide) ?_
    refine w_aload_n (dk_Mach_operate 123 rfl) rfl ?_
    refine w_getr (dk_Mach_operate 124 rfl) lk_Mach_25 rfl rfl rfl ?_
    refine w_aload_n (dk_Mach_operate 125 rfl) rfl ?_
    refine w_geti (v := (aI u 38 6) - 1) (dk_Mach_operate 126 rfl) lk_Mach_77 rfl rfl rfl ?_
    refine w_iconst (v := 1) (dk_Mach_operate 127 rfl) rfl ?_
    refine w_isub (dk_Mach_operate 128 rfl) ?_
    refine w_iload_n (dk_Mach_operate 129 rfl) rfl ?_
    refine w_if_ne 353 (dk_Mach_operate 130 rfl) (by decide) (fun c_ => ?_) (fun c_ => ?_)
    · replace h := h.1 c_
      refine w_iload_n (dk_Mach_operate 133 rfl) rfl ?_
      refine w_iload_n (dk_Mach_operate 134 rfl) rfl ?_
      obtain ⟨hne, h⟩ := h
      refine w_idiv (dk_Mach_operate 135 rfl) hne ?_
      obtain ⟨k18, e_k18, l_k18, h⟩ := h
      refine w_iast (k_ := k18) (dk_Mach_operate 136 rfl) rfl (by decide) e_k18 l_k18 ?_
      refine w_goto 382 (dk_Mach_operate 137 rfl) (by decide) ?_
      exact h
    · replace h := h.2 c_
      refine w_iconst (v := 0) (dk_Mach_operate 131 rfl) rfl ?_
      refine w_goto 356 (dk_Mach_operate 132 rfl) (by decide) ?_
      obtain ⟨k19, e_k19, l_k19, h⟩ := h
      refine w_iast (k_ := k19) (dk_Mach_operate 136 rfl) rfl (by decide) e_k19 l_k19 ?_
      refine w_goto 382 (dk_Mach_operate 137 rfl) (by decide) ?_
      exact h
  replace h := h.2
  have hn20 : ∀ v ∈ ([13, 14, 30, 31, 32, 33, 34, 35, 36, 37, 38, 39] : List Int32), p1 ≠ v := by
    intro v hv e_
    rw [← e_] at hv
    simp only [List.mem_cons, List.not_mem_nil, or_false] at hv
    rcases hv with hv | hv | hv | hv | hv | hv | hv | hv | hv | hv | hv | hv
    · exact n3 hv
    · exact n4 hv
    · exact n5 hv
    · exact n6 hv
    · exact n7 hv
    · exact n8 hv
    · exact n9 hv
    · exact n10 hv
    · exact n11 hv
    · exact n13 hv
    · exact n15 hv
    · exact n17 hv
  replace h := h hn20
  refine w_tabD ds_Mach_operate_36 360 [13, 14, 30, 31, 32, 33, 34, 35, 36, 37, 38, 39] (by decide) (by decide) hn20 (by decide) ?_
  refine w_aload_n (dk_Mach_operate 138 rfl) rfl ?_
  refine w_getr (dk_Mach_operate 139 rfl) lk_Mach_25 rfl rfl rfl ?_
  refine w_aload_n (dk_Mach_operate 140 rfl) rfl ?_
  refine w_geti (v := (aI u 38 6) - 1) (dk_Mach_operate 141 rfl) lk_Mach_77 rfl rfl rfl ?_
  refine w_iconst (v := 1) (dk_Mach_operate 142 rfl) rfl ?_
  refine w_isub (dk_Mach_operate 143 rfl) ?_
  refine w_iload_n (dk_Mach_operate 144 rfl) rfl ?_
  refine w_if_ne 378 (dk_Mach_operate 145 rfl) (by decide) (fun c_ => ?_) (fun c_ => ?_)
  · replace h := h.1 c_
    refine w_iload_n (dk_Mach_operate 148 rfl) rfl ?_
    refine w_iload_n (dk_Mach_operate 149 rfl) rfl ?_
    obtain ⟨hne, h⟩ := h
    refine w_irem (dk_Mach_operate 150 rfl) hne ?_
    obtain ⟨k21, e_k21, l_k21, h⟩ := h
    refine w_iast (k_ := k21) (dk_Mach_operate 151 rfl) rfl (by decide) e_k21 l_k21 ?_
    exact h
  · replace h := h.2 c_
    refine w_iconst (v := 0) (dk_Mach_operate 146 rfl) rfl ?_
    refine w_goto 381 (dk_Mach_operate 147 rfl) (by decide) ?_
    obtain ⟨k22, e_k22, l_k22, h⟩ := h
    refine w_iast (k_ := k22) (dk_Mach_operate 151 rfl) rfl (by decide) e_k22 l_k22 ?_
    exact h
theorem g_Mach_operate_382 {d : Nat} {u : Us} {Q : Ot → Us → Prop} (x1 : Int32) (x2 : Int32) (x3 : Int32) (x4 : Int32)
    (h : (36 ≤ x1 → Q (.inl none) u) ∧ (¬ (36 ≤ x1) → (x4 = 0 → ∃ k1 : Nat, (aI u 38 6) - 1 = nI k1 ∧ k1 < 80 ∧ (Q (.inl none) (uI u 46 k1 0))) ∧ (¬ (x4 = 0) → ∃ k2 : Nat, (aI u 38 6) - 1 = nI k2 ∧ k2 < 80 ∧ (Q (.inl none) (uI u 46 k2 1))))) :
    WS d m_Mach_operate 382 [some (.ref 38), some (.int x1), some (.int x2), some (.int x3), some (.int x4)] [] u Q := by
  refine w_iload_n (dk_Mach_operate 152 rfl) rfl ?_
  refine w_bipush (v := 36) (dk_Mach_operate 153 rfl) rfl ?_
  refine w_icmp_ge 409 (dk_Mach_operate 154 rfl) (by decide) (fun c_ => ?_) (fun c_ => ?_)
  · replace h := h.1 c_
    exact w_vret (dk_Mach_operate 167 rfl) rfl h
  · replace h := h.2 c_
    refine w_aload_n (dk_Mach_operate 155 rfl) rfl ?_
    refine w_getr (dk_Mach_operate 156 rfl) lk_Mach_25 rfl rfl rfl ?_
    refine w_aload_n (dk_Mach_operate 157 rfl) rfl ?_
    refine w_geti (v := aI u 38 6) (dk_Mach_operate 158 rfl) lk_Mach_77 rfl rfl rfl ?_
    refine w_iconst (v := 1) (dk_Mach_operate 159 rfl) rfl ?_
    refine w_isub (dk_Mach_operate 160 rfl) ?_
    refine w_iload (dk_Mach_operate 161 rfl) rfl ?_
    refine w_if_eq 407 (dk_Mach_operate 162 rfl) (by decide) (fun c_ => ?_) (fun c_ => ?_)
    · replace h := h.1 c_
      refine w_iconst (v := 0) (dk_Mach_operate 165 rfl) rfl ?_
      obtain ⟨k1, e_k1, l_k1, h⟩ := h
      refine w_iast (k_ := k1) (dk_Mach_operate 166 rfl) rfl (by decide) e_k1 l_k1 ?_
      exact w_vret (dk_Mach_operate 167 rfl) rfl h
    · replace h := h.2 c_
      refine w_iconst (v := 1) (dk_Mach_operate 163 rfl) rfl ?_
      refine w_goto 408 (dk_Mach_operate 164 rfl) (by decide) ?_
      obtain ⟨k2, e_k2, l_k2, h⟩ := h
      refine w_iast (k_ := k2) (dk_Mach_operate 166 rfl) rfl (by decide) e_k2 l_k2 ?_
      exact w_vret (dk_Mach_operate 167 rfl) rfl h
theorem g_Mach_set_0 {d : Nat} {u : Us} {Q : Ot → Us → Prop} (p1 : Int32)
    (h : ∃ k1 : Nat, p1 = nI k1 ∧ k1 < 160 ∧ (∃ k2 : Nat, p1 = nI k2 ∧ k2 < 160 ∧ (∃ k3 : Nat, p1 = nI k3 ∧ k3 < 160 ∧ (WS d m_Mach_chosen 0 [some (.ref 38), some (.int (aI u 24 k1)), some (.int (aI u 26 k2)), some (.int (aI u 27 k3))] [] u (Rl (fun (r4 : Int64) (u5 : Us) => WS (d + 1) m_Mach_set 44 [some (.ref 38), some (.int p1), some (.long r4), none, some (.int (aI u5 42 3)), some (.int 0), none, none, none] [] u5 Q) (fun x u => Q (.inr x) u)))))) :
    WS (d + 1) m_Mach_set 0 [some (.ref 38), some (.int p1), none, none, none, none, none, none, none] [] u Q := by
  refine w_aload_n (dk_Mach_set 0 rfl) rfl ?_
  refine w_aload_n (dk_Mach_set 1 rfl) rfl ?_
  refine w_getr (dk_Mach_set 2 rfl) lk_Mach_52 rfl rfl rfl ?_
  refine w_getr (dk_Mach_set 3 rfl) lk_Mach_194 rfl rfl rfl ?_
  refine w_iload_n (dk_Mach_set 4 rfl) rfl ?_
  obtain ⟨k1, e_k1, l_k1, h⟩ := h
  refine w_iald (k_ := k1) (dk_Mach_set 5 rfl) rfl (by decide) e_k1 l_k1 ?_
  refine w_aload_n (dk_Mach_set 6 rfl) rfl ?_
  refine w_getr (dk_Mach_set 7 rfl) lk_Mach_52 rfl rfl rfl ?_
  refine w_getr (dk_Mach_set 8 rfl) lk_Mach_195 rfl rfl rfl ?_
  refine w_iload_n (dk_Mach_set 9 rfl) rfl ?_
  obtain ⟨k2, e_k2, l_k2, h⟩ := h
  refine w_iald (k_ := k2) (dk_Mach_set 10 rfl) rfl (by decide) e_k2 l_k2 ?_
  refine w_aload_n (dk_Mach_set 11 rfl) rfl ?_
  refine w_getr (dk_Mach_set 12 rfl) lk_Mach_52 rfl rfl rfl ?_
  refine w_getr (dk_Mach_set 13 rfl) lk_Mach_196 rfl rfl rfl ?_
  refine w_iload_n (dk_Mach_set 14 rfl) rfl ?_
  obtain ⟨k3, e_k3, l_k3, h⟩ := h
  refine w_iald (k_ := k3) (dk_Mach_set 15 rfl) rfl (by decide) e_k3 l_k3 ?_
  refine w_callVl (ls' := [some (.ref 38), some (.int (aI u 24 k1)), some (.int (aI u 26 k2)), some (.int (aI u 27 k3))]) cv_Mach_140 (dk_Mach_set 16 rfl) (ci := 6) rfl rfl [.int (aI u 24 k1), .int (aI u 26 k2), .int (aI u 27 k3)] [] rfl rfl (Nat.le_of_ble_eq_true rfl) (Nat.le_of_ble_eq_true rfl) rfl rfl rfl h (fun r4 u5 h => ?_)
  refine w_lstore_n (ls' := [some (.ref 38), some (.int p1), some (.long r4), none, none, none, none, none, none]) (dk_Mach_set 17 rfl) (by decide) rfl ?_
  refine w_aload_n (dk_Mach_set 18 rfl) rfl ?_
  refine w_getr (dk_Mach_set 19 rfl) lk_Mach_21 rfl rfl rfl ?_
  refine w_geti (v := aI u5 42 3) (dk_Mach_set 20 rfl) lk_Mach_123 rfl rfl rfl ?_
  refine w_istore (ls' := [some (.ref 38), some (.int p1), some (.long r4), none, some (.int (aI u5 42 3)), none, none, none, none]) (dk_Mach_set 21 rfl) (by decide) rfl ?_
  refine w_iconst (v := 0) (dk_Mach_set 22 rfl) rfl ?_
  refine w_istore (ls' := [some (.ref 38), some (.int p1), some (.long r4), none, some (.int (aI u5 42 3)), some (.int 0), none, none, none]) (dk_Mach_set 23 rfl) (by decide) rfl ?_
  exact h
theorem g_Mach_set_44 {d : Nat} {u : Us} {Q : Ot → Us → Prop} (x1 : Int32) (x2 : Int64) (x4 : Int32) (x5 : Int32)
    (h : ∃ k1 : Nat, x1 = nI k1 ∧ k1 < 160 ∧ (((aI u 32 k1) ≤ x5 → WS (d + 1) m_Mach_set 111 [some (.ref 38), some (.int x1), some (.long x2), none, some (.int x4), some (.int 0), none, none, none] [] u Q) ∧ (¬ ((aI u 32 k1) ≤ x5) → ∃ k2 : Nat, x1 = nI k2 ∧ k2 < 160 ∧ (∃ k3 : Nat, (aI u 31 k2) + x5 = nI k3 ∧ k3 < 150 ∧ (∃ k4 : Nat, x1 = nI k4 ∧ k4 < 160 ∧ (∃ k5 : Nat, (aI u 31 k4) + x5 = nI k5 ∧ k5 < 150 ∧ (WS d m_Mach_rows 0 [some (.ref 38), some (.int (aI u 34 k3)), some (.int (aI u 35 k5)), none, none, none] [] u (Rv (fun (u7 : Us) => WS (d + 1) m_Mach_set 44 [some (.ref 38), some (.int x1), some (.long x2), none, some (.int x4), some (.int (x5 + 1)), none, none, none] [] u7 Q) (fun x u => Q (.inr x) u))))))))) :
    WS (d + 1) m_Mach_set 44 [some (.ref 38), some (.int x1), some (.long x2), none, some (.int x4), some (.int x5), none, none, none] [] u Q := by
  refine w_iload (dk_Mach_set 24 rfl) rfl ?_
  refine w_aload_n (dk_Mach_set 25 rfl) rfl ?_
  refine w_getr (dk_Mach_set 26 rfl) lk_Mach_52 rfl rfl rfl ?_
  refine w_getr (dk_Mach_set 27 rfl) lk_Mach_228 rfl rfl rfl ?_
  refine w_iload_n (dk_Mach_set 28 rfl) rfl ?_
  obtain ⟨k1, e_k1, l_k1, h⟩ := h
  refine w_iald (k_ := k1) (dk_Mach_set 29 rfl) rfl (by decide) e_k1 l_k1 ?_
  refine w_icmp_ge 108 (dk_Mach_set 30 rfl) (by decide) (fun c_ => ?_) (fun c_ => ?_)
  · replace h := h.1 c_
    refine w_iconst (v := 0) (dk_Mach_set 57 rfl) rfl ?_
    refine w_istore (ls' := [some (.ref 38), some (.int x1), some (.long x2), none, some (.int x4), some (.int 0), none, none, none]) (dk_Mach_set 58 rfl) (by decide) rfl ?_
    exact h
  · replace h := h.2 c_
    refine w_aload_n (dk_Mach_set 31 rfl) rfl ?_
    refine w_aload_n (dk_Mach_set 32 rfl) rfl ?_
    refine w_getr (dk_Mach_set 33 rfl) lk_Mach_52 rfl rfl rfl ?_
    refine w_getr (dk_Mach_set 34 rfl) lk_Mach_231 rfl rfl rfl ?_
    refine w_aload_n (dk_Mach_set 35 rfl) rfl ?_
    refine w_getr (dk_Mach_set 36 rfl) lk_Mach_52 rfl rfl rfl ?_
    refine w_getr (dk_Mach_set 37 rfl) lk_Mach_234 rfl rfl rfl ?_
    refine w_iload_n (dk_Mach_set 38 rfl) rfl ?_
    obtain ⟨k2, e_k2, l_k2, h⟩ := h
    refine w_iald (k_ := k2) (dk_Mach_set 39 rfl) rfl (by decide) e_k2 l_k2 ?_
    refine w_iload (dk_Mach_set 40 rfl) rfl ?_
    refine w_iadd (dk_Mach_set 41 rfl) ?_
    obtain ⟨k3, e_k3, l_k3, h⟩ := h
    refine w_iald (k_ := k3) (dk_Mach_set 42 rfl) rfl (by decide) e_k3 l_k3 ?_
    refine w_aload_n (dk_Mach_set 43 rfl) rfl ?_
    refine w_getr (dk_Mach_set 44 rfl) lk_Mach_52 rfl rfl rfl ?_
    refine w_getr (dk_Mach_set 45 rfl) lk_Mach_237 rfl rfl rfl ?_
    refine w_aload_n (dk_Mach_set 46 rfl) rfl ?_
    refine w_getr (dk_Mach_set 47 rfl) lk_Mach_52 rfl rfl rfl ?_
    refine w_getr (dk_Mach_set 48 rfl) lk_Mach_234 rfl rfl rfl ?_
    refine w_iload_n (dk_Mach_set 49 rfl) rfl ?_
    obtain ⟨k4, e_k4, l_k4, h⟩ := h
    refine w_iald (k_ := k4) (dk_Mach_set 50 rfl) rfl (by decide) e_k4 l_k4 ?_
    refine w_iload (dk_Mach_set 51 rfl) rfl ?_
    refine w_iadd (dk_Mach_set 52 rfl) ?_
    obtain ⟨k5, e_k5, l_k5, h⟩ := h
    refine w_iald (k_ := k5) (dk_Mach_set 53 rfl) rfl (by decide) e_k5 l_k5 ?_
    refine w_callVv (ls' := [some (.ref 38), some (.int (aI u 34 k3)), some (.int (aI u 35 k5)), none, none, none]) cv_Mach_119 (dk_Mach_set 54 rfl) (ci := 6) rfl rfl [.int (aI u 34 k3), .int (aI u 35 k5)] [] rfl rfl (Nat.le_of_ble_eq_true rfl) (Nat.le_of_ble_eq_true rfl) rfl rfl rfl h (fun u7 h => ?_)
    refine w_iinc (v := x5 + 1) (ls' := [some (.ref 38), some (.int x1), some (.long x2), none, some (.int x4), some (.int (x5 + 1)), none, none, none]) (dk_Mach_set 55 rfl) rfl rfl (by decide) rfl ?_
    refine w_goto 44 (dk_Mach_set 56 rfl) (by decide) ?_
    exact h
theorem g_Mach_set_111 {d : Nat} {u : Us} {Q : Ot → Us → Prop} (x1 : Int32) (x2 : Int64) (x4 : Int32) (x5 : Int32)
    (h : ∃ k1 : Nat, x1 = nI k1 ∧ k1 < 160 ∧ (((aI u 32 k1) ≤ x5 → Q (.inl none) (uI u 42 3 x4)) ∧ (¬ ((aI u 32 k1) ≤ x5) → ∃ k2 : Nat, x1 = nI k2 ∧ k2 < 160 ∧ (∃ k3 : Nat, (aI u 31 k2) + x5 = nI k3 ∧ k3 < 150 ∧ (WS (d + 1) m_Mach_set 150 [some (.ref 38), some (.int x1), some (.long x2), none, some (.int x4), some (.int x5), some (.int (aI u 33 k3)), some (.int 0), none] [] u Q))))) :
    WS (d + 1) m_Mach_set 111 [some (.ref 38), some (.int x1), some (.long x2), none, some (.int x4), some (.int x5), none, none, none] [] u Q := by
  refine w_iload (dk_Mach_set 59 rfl) rfl ?_
  refine w_aload_n (dk_Mach_set 60 rfl) rfl ?_
  refine w_getr (dk_Mach_set 61 rfl) lk_Mach_52 rfl rfl rfl ?_
  refine w_getr (dk_Mach_set 62 rfl) lk_Mach_228 rfl rfl rfl ?_
  refine w_iload_n (dk_Mach_set 63 rfl) rfl ?_
  obtain ⟨k1, e_k1, l_k1, h⟩ := h
  refine w_iald (k_ := k1) (dk_Mach_set 64 rfl) rfl (by decide) e_k1 l_k1 ?_
  refine w_icmp_ge 240 (dk_Mach_set 65 rfl) (by decide) (fun c_ => ?_) (fun c_ => ?_)
  · replace h := h.1 c_
    refine w_aload_n (dk_Mach_set 127 rfl) rfl ?_
    refine w_getr (dk_Mach_set 128 rfl) lk_Mach_21 rfl rfl rfl ?_
    refine w_iload (dk_Mach_set 129 rfl) rfl ?_
    refine w_puti (dk_Mach_set 130 rfl) lk_Mach_123 rfl rfl ?_
    exact w_vret (dk_Mach_set 131 rfl) rfl h
  · replace h := h.2 c_
    refine w_aload_n (dk_Mach_set 66 rfl) rfl ?_
    refine w_getr (dk_Mach_set 67 rfl) lk_Mach_52 rfl rfl rfl ?_
    refine w_getr (dk_Mach_set 68 rfl) lk_Mach_242 rfl rfl rfl ?_
    refine w_aload_n (dk_Mach_set 69 rfl) rfl ?_
    refine w_getr (dk_Mach_set 70 rfl) lk_Mach_52 rfl rfl rfl ?_
    refine w_getr (dk_Mach_set 71 rfl) lk_Mach_234 rfl rfl rfl ?_
    refine w_iload_n (dk_Mach_set 72 rfl) rfl ?_
    obtain ⟨k2, e_k2, l_k2, h⟩ := h
    refine w_iald (k_ := k2) (dk_Mach_set 73 rfl) rfl (by decide) e_k2 l_k2 ?_
    refine w_iload (dk_Mach_set 74 rfl) rfl ?_
    refine w_iadd (dk_Mach_set 75 rfl) ?_
    obtain ⟨k3, e_k3, l_k3, h⟩ := h
    refine w_iald (k_ := k3) (dk_Mach_set 76 rfl) rfl (by decide) e_k3 l_k3 ?_
    refine w_istore (ls' := [some (.ref 38), some (.int x1), some (.long x2), none, some (.int x4), some (.int x5), some (.int (aI u 33 k3)), none, none]) (dk_Mach_set 77 rfl) (by decide) rfl ?_
    refine w_iconst (v := 0) (dk_Mach_set 78 rfl) rfl ?_
    refine w_istore (ls' := [some (.ref 38), some (.int x1), some (.long x2), none, some (.int x4), some (.int x5), some (.int (aI u 33 k3)), some (.int 0), none]) (dk_Mach_set 79 rfl) (by decide) rfl ?_
    exact h
theorem g_Mach_set_150 {d : Nat} {u : Us} {Q : Ot → Us → Prop} (x1 : Int32) (x2 : Int64) (x4 : Int32) (x5 : Int32) (x6 : Int32) (x7 : Int32)
    (h : ∃ k1 : Nat, x6 = nI k1 ∧ k1 < 42 ∧ (((aI u 6 k1) ≤ x7 → WS (d + 1) m_Mach_set 111 [some (.ref 38), some (.int x1), some (.long x2), none, some (.int x4), some (.int (x5 + 1)), some (.int x6), some (.int x7), none] [] u Q) ∧ (¬ ((aI u 6 k1) ≤ x7) → ∃ k2 : Nat, x6 = nI k2 ∧ k2 < 42 ∧ (∃ k3 : Nat, (aI u 7 k2) + x7 = nI k3 ∧ k3 < 88 ∧ (∃ k4 : Nat, ((x4 + x5) * 32) + x7 = nI k4 ∧ k4 < 2560 ∧ (∃ k5 : Nat, (aI u 7 k2) + x7 = nI k5 ∧ k5 < 88 ∧ (WS (d + 1) m_Mach_set 150 [some (.ref 38), some (.int x1), some (.long x2), none, some (.int x4), some (.int x5), some (.int x6), some (.int (x7 + 1)), some (.int ((aI u 7 k2) + x7))] [] (uL u 40 k5 (((aL u 40 k3) &&& (x2 ^^^ (-1))) ||| ((aL u 43 k4) &&& x2))) Q))))))) :
    WS (d + 1) m_Mach_set 150 [some (.ref 38), some (.int x1), some (.long x2), none, some (.int x4), some (.int x5), some (.int x6), some (.int x7), none] [] u Q := by
  refine w_iload (dk_Mach_set 80 rfl) rfl ?_
  refine w_aload_n (dk_Mach_set 81 rfl) rfl ?_
  refine w_getr (dk_Mach_set 82 rfl) lk_Mach_44 rfl rfl rfl ?_
  refine w_getr (dk_Mach_set 83 rfl) lk_Mach_70 rfl rfl rfl ?_
  refine w_iload (dk_Mach_set 84 rfl) rfl ?_
  obtain ⟨k1, e_k1, l_k1, h⟩ := h
  refine w_iald (k_ := k1) (dk_Mach_set 85 rfl) rfl (by decide) e_k1 l_k1 ?_
  refine w_icmp_ge 234 (dk_Mach_set 86 rfl) (by decide) (fun c_ => ?_) (fun c_ => ?_)
  · replace h := h.1 c_
    refine w_iinc (v := x5 + 1) (ls' := [some (.ref 38), some (.int x1), some (.long x2), none, some (.int x4), some (.int (x5 + 1)), some (.int x6), some (.int x7), none]) (dk_Mach_set 125 rfl) rfl rfl (by decide) rfl ?_
    refine w_goto 111 (dk_Mach_set 126 rfl) (by decide) ?_
    exact h
  · replace h := h.2 c_
    refine w_aload_n (dk_Mach_set 87 rfl) rfl ?_
    refine w_getr (dk_Mach_set 88 rfl) lk_Mach_44 rfl rfl rfl ?_
    refine w_getr (dk_Mach_set 89 rfl) lk_Mach_65 rfl rfl rfl ?_
    refine w_iload (dk_Mach_set 90 rfl) rfl ?_
    obtain ⟨k2, e_k2, l_k2, h⟩ := h
    refine w_iald (k_ := k2) (dk_Mach_set 91 rfl) rfl (by decide) e_k2 l_k2 ?_
    refine w_iload (dk_Mach_set 92 rfl) rfl ?_
    refine w_iadd (dk_Mach_set 93 rfl) ?_
    refine w_istore (ls' := [some (.ref 38), some (.int x1), some (.long x2), none, some (.int x4), some (.int x5), some (.int x6), some (.int x7), some (.int ((aI u 7 k2) + x7))]) (dk_Mach_set 94 rfl) (by decide) rfl ?_
    refine w_aload_n (dk_Mach_set 95 rfl) rfl ?_
    refine w_getr (dk_Mach_set 96 rfl) lk_Mach_12 rfl rfl rfl ?_
    refine w_getr (dk_Mach_set 97 rfl) lk_Mach_163 rfl rfl rfl ?_
    refine w_iload (dk_Mach_set 98 rfl) rfl ?_
    refine w_aload_n (dk_Mach_set 99 rfl) rfl ?_
    refine w_getr (dk_Mach_set 100 rfl) lk_Mach_12 rfl rfl rfl ?_
    refine w_getr (dk_Mach_set 101 rfl) lk_Mach_163 rfl rfl rfl ?_
    refine w_iload (dk_Mach_set 102 rfl) rfl ?_
    obtain ⟨k3, e_k3, l_k3, h⟩ := h
    refine w_lald (k_ := k3) (dk_Mach_set 103 rfl) rfl (by decide) e_k3 l_k3 ?_
    refine w_lload_n (dk_Mach_set 104 rfl) rfl ?_
    refine w_ldc2 (dk_Mach_set 105 rfl) kl_Mach_248 ?_
    refine w_lxor (dk_Mach_set 106 rfl) ?_
    refine w_land (dk_Mach_set 107 rfl) ?_
    refine w_aload_n (dk_Mach_set 108 rfl) rfl ?_
    refine w_getr (dk_Mach_set 109 rfl) lk_Mach_21 rfl rfl rfl ?_
    refine w_getr (dk_Mach_set 110 rfl) lk_Mach_250 rfl rfl rfl ?_
    refine w_iload (dk_Mach_set 111 rfl) rfl ?_
    refine w_iload (dk_Mach_set 112 rfl) rfl ?_
    refine w_iadd (dk_Mach_set 113 rfl) ?_
    refine w_bipush (v := 32) (dk_Mach_set 114 rfl) rfl ?_
    refine w_imul (dk_Mach_set 115 rfl) ?_
    refine w_iload (dk_Mach_set 116 rfl) rfl ?_
    refine w_iadd (dk_Mach_set 117 rfl) ?_
    obtain ⟨k4, e_k4, l_k4, h⟩ := h
    refine w_lald (k_ := k4) (dk_Mach_set 118 rfl) rfl (by decide) e_k4 l_k4 ?_
    refine w_lload_n (dk_Mach_set 119 rfl) rfl ?_
    refine w_land (dk_Mach_set 120 rfl) ?_
    refine w_lor (dk_Mach_set 121 rfl) ?_
    obtain ⟨k5, e_k5, l_k5, h⟩ := h
    refine w_last (k_ := k5) (dk_Mach_set 122 rfl) rfl (by decide) e_k5 l_k5 ?_
    refine w_iinc (v := x7 + 1) (ls' := [some (.ref 38), some (.int x1), some (.long x2), none, some (.int x4), some (.int x5), some (.int x6), some (.int (x7 + 1)), some (.int ((aI u 7 k2) + x7))]) (dk_Mach_set 123 rfl) rfl rfl (by decide) rfl ?_
    refine w_goto 150 (dk_Mach_set 124 rfl) (by decide) ?_
    exact h
theorem g_Mach_each_0 {d : Nat} {u : Us} {Q : Ot → Us → Prop} (p2 : Int32)
    (h : ∃ k1 : Nat, p2 = nI k1 ∧ k1 < 160 ∧ (∃ k2 : Nat, p2 = nI k2 ∧ k2 < 160 ∧ (∃ k3 : Nat, p2 = nI k3 ∧ k3 < 160 ∧ (∃ k4 : Nat, p2 = nI k4 ∧ k4 < 160 ∧ (WS d m_Mach_chosen 0 [some (.ref 38), some (.int (aI u 24 k2)), some (.int (aI u 26 k3)), some (.int (aI u 27 k4))] [] u (Rl (fun (r5 : Int64) (u6 : Us) => WS (d + 1) m_Mach_each 51 [some (.ref 38), some (.int p2), some (.int (aI u 25 k1)), some (.int (aI u 38 14)), some (.long r5), none, some (.int 0), none, none] [] u6 Q) (fun x u => Q (.inr x) u))))))) :
    WS (d + 1) m_Mach_each 0 [some (.ref 38), some (.int p2), none, none, none, none, none, none, none] [] u Q := by
  refine w_aload_n (dk_Mach_each 0 rfl) rfl ?_
  refine w_getr (dk_Mach_each 1 rfl) lk_Mach_52 rfl rfl rfl ?_
  refine w_getr (dk_Mach_each 2 rfl) lk_Mach_253 rfl rfl rfl ?_
  refine w_iload_n (dk_Mach_each 3 rfl) rfl ?_
  obtain ⟨k1, e_k1, l_k1, h⟩ := h
  refine w_iald (k_ := k1) (dk_Mach_each 4 rfl) rfl (by decide) e_k1 l_k1 ?_
  refine w_istore_n (ls' := [some (.ref 38), some (.int p2), some (.int (aI u 25 k1)), none, none, none, none, none, none]) (dk_Mach_each 5 rfl) (by decide) rfl ?_
  refine w_aload_n (dk_Mach_each 6 rfl) rfl ?_
  refine w_geti (v := aI u 38 14) (dk_Mach_each 7 rfl) lk_Mach_254 rfl rfl rfl ?_
  refine w_istore_n (ls' := [some (.ref 38), some (.int p2), some (.int (aI u 25 k1)), some (.int (aI u 38 14)), none, none, none, none, none]) (dk_Mach_each 8 rfl) (by decide) rfl ?_
  refine w_aload_n (dk_Mach_each 9 rfl) rfl ?_
  refine w_aload_n (dk_Mach_each 10 rfl) rfl ?_
  refine w_getr (dk_Mach_each 11 rfl) lk_Mach_52 rfl rfl rfl ?_
  refine w_getr (dk_Mach_each 12 rfl) lk_Mach_194 rfl rfl rfl ?_
  refine w_iload_n (dk_Mach_each 13 rfl) rfl ?_
  obtain ⟨k2, e_k2, l_k2, h⟩ := h
  refine w_iald (k_ := k2) (dk_Mach_each 14 rfl) rfl (by decide) e_k2 l_k2 ?_
  refine w_aload_n (dk_Mach_each 15 rfl) rfl ?_
  refine w_getr (dk_Mach_each 16 rfl) lk_Mach_52 rfl rfl rfl ?_
  refine w_getr (dk_Mach_each 17 rfl) lk_Mach_195 rfl rfl rfl ?_
  refine w_iload_n (dk_Mach_each 18 rfl) rfl ?_
  obtain ⟨k3, e_k3, l_k3, h⟩ := h
  refine w_iald (k_ := k3) (dk_Mach_each 19 rfl) rfl (by decide) e_k3 l_k3 ?_
  refine w_aload_n (dk_Mach_each 20 rfl) rfl ?_
  refine w_getr (dk_Mach_each 21 rfl) lk_Mach_52 rfl rfl rfl ?_
  refine w_getr (dk_Mach_each 22 rfl) lk_Mach_196 rfl rfl rfl ?_
  refine w_iload_n (dk_Mach_each 23 rfl) rfl ?_
  obtain ⟨k4, e_k4, l_k4, h⟩ := h
  refine w_iald (k_ := k4) (dk_Mach_each 24 rfl) rfl (by decide) e_k4 l_k4 ?_
  refine w_callVl (ls' := [some (.ref 38), some (.int (aI u 24 k2)), some (.int (aI u 26 k3)), some (.int (aI u 27 k4))]) cv_Mach_140 (dk_Mach_each 25 rfl) (ci := 6) rfl rfl [.int (aI u 24 k2), .int (aI u 26 k3), .int (aI u 27 k4)] [] rfl rfl (Nat.le_of_ble_eq_true rfl) (Nat.le_of_ble_eq_true rfl) rfl rfl rfl h (fun r5 u6 h => ?_)
  refine w_lstore (ls' := [some (.ref 38), some (.int p2), some (.int (aI u 25 k1)), some (.int (aI u 38 14)), some (.long r5), none, none, none, none]) (dk_Mach_each 26 rfl) (by decide) rfl ?_
  refine w_iconst (v := 0) (dk_Mach_each 27 rfl) rfl ?_
  refine w_istore (ls' := [some (.ref 38), some (.int p2), some (.int (aI u 25 k1)), some (.int (aI u 38 14)), some (.long r5), none, some (.int 0), none, none]) (dk_Mach_each 28 rfl) (by decide) rfl ?_
  exact h
theorem g_Mach_each_51 {d : Nat} {u : Us} {Q : Ot → Us → Prop} (x1 : Int32) (x2 : Int32) (x3 : Int32) (x4 : Int64) (x6 : Int32)
    (h : (x4 = 0 → WS (d + 1) m_Mach_each 162 [some (.ref 38), some (.int x1), some (.int x2), some (.int x3), some (.long x4), none, some (.int x6), some (.int 1), some (.int 0)] [] (uI u 38 14 ((aI u 38 14) + 1)) Q) ∧ (x4 ≠ 0 → ∃ k1 : Nat, x2 = nI k1 ∧ k1 < 42 ∧ (∃ k2 : Nat, x2 = nI k2 ∧ k2 < 42 ∧ (WS d m_Stor_best 0 [some (.ref 39), some (.long x4), none, some (.int (aI u 7 k1)), some (.int (aI u 6 k2)), some (.int 0), none, none, none, none, none, none] [] u (Rl (fun (r3 : Int64) (u4 : Us) => WS d m_JLong_numberOfTrailingZeros 0 [some (.long r3), none, none] [] u4 (Ri (fun (r5 : Int32) (u6 : Us) => ∃ k7 : Nat, (64 * x3) + x6 = nI k7 ∧ k7 < 640 ∧ (∃ k8 : Nat, r5 = nI k8 ∧ k8 < 64 ∧ (∃ k9 : Nat, (64 * x3) + x6 = nI k9 ∧ k9 < 640 ∧ (WS (d + 1) m_Mach_each 51 [some (.ref 38), some (.int x1), some (.int x2), some (.int x3), some (.long (x4 &&& ((1 <<< (Int32.toInt64 r5 &&& 63)) ^^^ (-1)))), none, some (.int (x6 + 1)), some (.int r5), none] [] (uI (uI u6 49 k7 r5) 50 k9 (aI u6 41 k8)) Q)))) (fun x u => Q (.inr x) u))) (fun x u => Q (.inr x) u)))))) :
    WS (d + 1) m_Mach_each 51 [some (.ref 38), some (.int x1), some (.int x2), some (.int x3), some (.long x4), none, some (.int x6), none, none] [] u Q := by
  refine w_lload (dk_Mach_each 29 rfl) rfl ?_
  refine w_lconst (v := 0) (dk_Mach_each 30 rfl) rfl ?_
  refine w_lcmp_eq 146 (dk_Mach_each 31 rfl) (dk_Mach_each 32 rfl) (by decide) (fun c_ => ?_) (fun c_ => ?_)
  · replace h := h.1 c_
    refine w_aload_n (dk_Mach_each 82 rfl) rfl ?_
    refine w_dup (dk_Mach_each 83 rfl) rfl ?_
    refine w_geti (v := aI u 38 14) (dk_Mach_each 84 rfl) lk_Mach_254 rfl rfl rfl ?_
    refine w_iconst (v := 1) (dk_Mach_each 85 rfl) rfl ?_
    refine w_iadd (dk_Mach_each 86 rfl) ?_
    refine w_puti (dk_Mach_each 87 rfl) lk_Mach_254 rfl rfl ?_
    refine w_iconst (v := 1) (dk_Mach_each 88 rfl) rfl ?_
    refine w_istore (ls' := [some (.ref 38), some (.int x1), some (.int x2), some (.int x3), some (.long x4), none, some (.int x6), some (.int 1), none]) (dk_Mach_each 89 rfl) (by decide) rfl ?_
    refine w_iconst (v := 0) (dk_Mach_each 90 rfl) rfl ?_
    refine w_istore (ls' := [some (.ref 38), some (.int x1), some (.int x2), some (.int x3), some (.long x4), none, some (.int x6), some (.int 1), some (.int 0)]) (dk_Mach_each 91 rfl) (by decide) rfl ?_
    exact h
  · replace h := h.2 c_
    refine w_aload_n (dk_Mach_each 33 rfl) rfl ?_
    refine w_getr (dk_Mach_each 34 rfl) lk_Mach_12 rfl rfl rfl ?_
    refine w_lload (dk_Mach_each 35 rfl) rfl ?_
    refine w_aload_n (dk_Mach_each 36 rfl) rfl ?_
    refine w_getr (dk_Mach_each 37 rfl) lk_Mach_44 rfl rfl rfl ?_
    refine w_getr (dk_Mach_each 38 rfl) lk_Mach_65 rfl rfl rfl ?_
    refine w_iload_n (dk_Mach_each 39 rfl) rfl ?_
    obtain ⟨k1, e_k1, l_k1, h⟩ := h
    refine w_iald (k_ := k1) (dk_Mach_each 40 rfl) rfl (by decide) e_k1 l_k1 ?_
    refine w_aload_n (dk_Mach_each 41 rfl) rfl ?_
    refine w_getr (dk_Mach_each 42 rfl) lk_Mach_44 rfl rfl rfl ?_
    refine w_getr (dk_Mach_each 43 rfl) lk_Mach_70 rfl rfl rfl ?_
    refine w_iload_n (dk_Mach_each 44 rfl) rfl ?_
    obtain ⟨k2, e_k2, l_k2, h⟩ := h
    refine w_iald (k_ := k2) (dk_Mach_each 45 rfl) rfl (by decide) e_k2 l_k2 ?_
    refine w_iconst (v := 0) (dk_Mach_each 46 rfl) rfl ?_
    refine w_callVl (ls' := [some (.ref 39), some (.long x4), none, some (.int (aI u 7 k1)), some (.int (aI u 6 k2)), some (.int 0), none, none, none, none, none, none]) cv_Mach_156 (dk_Mach_each 47 rfl) (ci := 7) rfl rfl [.long x4, .int (aI u 7 k1), .int (aI u 6 k2), .int 0] [] rfl rfl (Nat.le_of_ble_eq_true rfl) (Nat.le_of_ble_eq_true rfl) rfl rfl rfl h (fun r3 u4 h => ?_)
    refine w_callSi (ls' := [some (.long r3), none, none]) cv_Mach_160 (dk_Mach_each 48 rfl) [.long r3] [] rfl rfl (Nat.le_of_ble_eq_true rfl) (Nat.le_of_ble_eq_true rfl) rfl rfl rfl h (fun r5 u6 h => ?_)
    refine w_istore (ls' := [some (.ref 38), some (.int x1), some (.int x2), some (.int x3), some (.long x4), none, some (.int x6), some (.int r5), none]) (dk_Mach_each 49 rfl) (by decide) rfl ?_
    refine w_aload_n (dk_Mach_each 50 rfl) rfl ?_
    refine w_getr (dk_Mach_each 51 rfl) lk_Mach_35 rfl rfl rfl ?_
    refine w_bipush (v := 64) (dk_Mach_each 52 rfl) rfl ?_
    refine w_iload_n (dk_Mach_each 53 rfl) rfl ?_
    refine w_imul (dk_Mach_each 54 rfl) ?_
    refine w_iload (dk_Mach_each 55 rfl) rfl ?_
    refine w_iadd (dk_Mach_each 56 rfl) ?_
    refine w_iload (dk_Mach_each 57 rfl) rfl ?_
    obtain ⟨k7, e_k7, l_k7, h⟩ := h
    refine w_iast (k_ := k7) (dk_Mach_each 58 rfl) rfl (by decide) e_k7 l_k7 ?_
    refine w_aload_n (dk_Mach_each 59 rfl) rfl ?_
    refine w_getr (dk_Mach_each 60 rfl) lk_Mach_38 rfl rfl rfl ?_
    refine w_bipush (v := 64) (dk_Mach_each 61 rfl) rfl ?_
    refine w_iload_n (dk_Mach_each 62 rfl) rfl ?_
    refine w_imul (dk_Mach_each 63 rfl) ?_
    refine w_iload (dk_Mach_each 64 rfl) rfl ?_
    refine w_iadd (dk_Mach_each 65 rfl) ?_
    refine w_aload_n (dk_Mach_each 66 rfl) rfl ?_
    refine w_getr (dk_Mach_each 67 rfl) lk_Mach_12 rfl rfl rfl ?_
    refine w_getr (dk_Mach_each 68 rfl) lk_Mach_56 rfl rfl rfl ?_
    refine w_iload (dk_Mach_each 69 rfl) rfl ?_
    obtain ⟨k8, e_k8, l_k8, h⟩ := h
    refine w_iald (k_ := k8) (dk_Mach_each 70 rfl) rfl (by decide) e_k8 l_k8 ?_
    show WS _ _ _ _ [.int (aI u6 41 k8), .int ((64 * x3) + x6), .ref 50] _ _
    obtain ⟨k9, e_k9, l_k9, h⟩ := h
    refine w_iast (k_ := k9) (dk_Mach_each 71 rfl) rfl (by decide) e_k9 l_k9 ?_
    refine w_iinc (v := x6 + 1) (ls' := [some (.ref 38), some (.int x1), some (.int x2), some (.int x3), some (.long x4), none, some (.int (x6 + 1)), some (.int r5), none]) (dk_Mach_each 72 rfl) rfl rfl (by decide) rfl ?_
    refine w_lload (dk_Mach_each 73 rfl) rfl ?_
    refine w_lconst (v := 1) (dk_Mach_each 74 rfl) rfl ?_
    refine w_iload (dk_Mach_each 75 rfl) rfl ?_
    refine w_lshl (dk_Mach_each 76 rfl) ?_
    refine w_ldc2 (dk_Mach_each 77 rfl) kl_Mach_248 ?_
    refine w_lxor (dk_Mach_each 78 rfl) ?_
    refine w_land (dk_Mach_each 79 rfl) ?_
    refine w_lstore (ls' := [some (.ref 38), some (.int x1), some (.int x2), some (.int x3), some (.long (x4 &&& ((1 <<< (Int32.toInt64 r5 &&& 63)) ^^^ (-1)))), none, some (.int (x6 + 1)), some (.int r5), none]) (dk_Mach_each 80 rfl) (by decide) rfl ?_
    refine w_goto 51 (dk_Mach_each 81 rfl) (by decide) ?_
    exact h
theorem g_Mach_each_162 {d : Nat} {u : Us} {Q : Ot → Us → Prop} (x1 : Int32) (x2 : Int32) (x3 : Int32) (x4 : Int64) (x6 : Int32) (x7 : Int32) (x8 : Int32)
    (h : (x6 ≤ x8 → (x7 = 0 ∨ x7 = 1) ∧ Q (.inl (some (.int x7))) (uI u 38 14 ((aI u 38 14) - 1))) ∧ (¬ (x6 ≤ x8) → (x7 = 0 → (x7 = 0 ∨ x7 = 1) ∧ Q (.inl (some (.int x7))) (uI u 38 14 ((aI u 38 14) - 1))) ∧ (¬ (x7 = 0) → ∃ k1 : Nat, (64 * x3) + x8 = nI k1 ∧ k1 < 640 ∧ (∃ k2 : Nat, x3 = nI k2 ∧ k2 < 10 ∧ (∃ k3 : Nat, (64 * x3) + x8 = nI k3 ∧ k3 < 640 ∧ (∃ k4 : Nat, x3 = nI k4 ∧ k4 < 10 ∧ (WS d m_Mach_isThere 0 [some (.ref 38), some (.int x3)] [] (uI (uI u 47 k2 (aI u 49 k1)) 48 k4 (aI u 50 k3)) (Ri (fun (r5 : Int32) (u6 : Us) => (r5 = 0 → WS (d + 1) m_Mach_each 162 [some (.ref 38), some (.int x1), some (.int x2), some (.int x3), some (.long x4), none, some (.int x6), some (.int 1), some (.int (x8 + 1))] [] u6 Q) ∧ (¬ (r5 = 0) → WS d m_Mach_spends 0 [some (.ref 38)] [] u6 (Ri (fun (r7 : Int32) (u8 : Us) => (r7 = 0 → WS (d + 1) m_Mach_each 162 [some (.ref 38), some (.int x1), some (.int x2), some (.int x3), some (.long x4), none, some (.int x6), some (.int 0), some (.int (x8 + 1))] [] u8 Q) ∧ (¬ (r7 = 0) → ∃ k9 : Nat, x1 = nI k9 ∧ k9 < 160 ∧ (WS d m_Mach_all 0 [some (.ref 38), some (.int (aI u8 28 k9)), none] [] u8 (Ri (fun (r10 : Int32) (u11 : Us) => (r10 = 0 → WS (d + 1) m_Mach_each 162 [some (.ref 38), some (.int x1), some (.int x2), some (.int x3), some (.long x4), none, some (.int x6), some (.int 0), some (.int (x8 + 1))] [] u11 Q) ∧ (¬ (r10 = 0) → WS (d + 1) m_Mach_each 162 [some (.ref 38), some (.int x1), some (.int x2), some (.int x3), some (.long x4), none, some (.int x6), some (.int 1), some (.int (x8 + 1))] [] u11 Q)) (fun x u => Q (.inr x) u))))) (fun x u => Q (.inr x) u)))) (fun x u => Q (.inr x) u))))))))) :
    WS (d + 1) m_Mach_each 162 [some (.ref 38), some (.int x1), some (.int x2), some (.int x3), some (.long x4), none, some (.int x6), some (.int x7), some (.int x8)] [] u Q := by
  refine w_iload (dk_Mach_each 92 rfl) rfl ?_
  refine w_iload (dk_Mach_each 93 rfl) rfl ?_
  refine w_icmp_ge 254 (dk_Mach_each 94 rfl) (by decide) (fun c_ => ?_) (fun c_ => ?_)
  · replace h := h.1 c_
    refine w_aload_n (dk_Mach_each 142 rfl) rfl ?_
    refine w_dup (dk_Mach_each 143 rfl) rfl ?_
    refine w_geti (v := aI u 38 14) (dk_Mach_each 144 rfl) lk_Mach_254 rfl rfl rfl ?_
    refine w_iconst (v := 1) (dk_Mach_each 145 rfl) rfl ?_
    refine w_isub (dk_Mach_each 146 rfl) ?_
    refine w_puti (dk_Mach_each 147 rfl) lk_Mach_254 rfl rfl ?_
    refine w_iload (dk_Mach_each 148 rfl) rfl ?_
    exact w_bret (dk_Mach_each 149 rfl) rfl h.1 h.2
  · replace h := h.2 c_
    refine w_iload (dk_Mach_each 95 rfl) rfl ?_
    refine w_if_eq 254 (dk_Mach_each 96 rfl) (by decide) (fun c_ => ?_) (fun c_ => ?_)
    · replace h := h.1 c_
      refine w_aload_n (dk_Mach_each 142 rfl) rfl ?_
      refine w_dup (dk_Mach_each 143 rfl) rfl ?_
      refine w_geti (v := aI u 38 14) (dk_Mach_each 144 rfl) lk_Mach_254 rfl rfl rfl ?_
      refine w_iconst (v := 1) (dk_Mach_each 145 rfl) rfl ?_
      refine w_isub (dk_Mach_each 146 rfl) ?_
      refine w_puti (dk_Mach_each 147 rfl) lk_Mach_254 rfl rfl ?_
      refine w_iload (dk_Mach_each 148 rfl) rfl ?_
      exact w_bret (dk_Mach_each 149 rfl) rfl h.1 h.2
    · replace h := h.2 c_
      refine w_aload_n (dk_Mach_each 97 rfl) rfl ?_
      refine w_getr (dk_Mach_each 98 rfl) lk_Mach_29 rfl rfl rfl ?_
      refine w_iload_n (dk_Mach_each 99 rfl) rfl ?_
      refine w_aload_n (dk_Mach_each 100 rfl) rfl ?_
      refine w_getr (dk_Mach_each 101 rfl) lk_Mach_35 rfl rfl rfl ?_
      refine w_bipush (v := 64) (dk_Mach_each 102 rfl) rfl ?_
      refine w_iload_n (dk_Mach_each 103 rfl) rfl ?_
      refine w_imul (dk_Mach_each 104 rfl) ?_
      refine w_iload (dk_Mach_each 105 rfl) rfl ?_
      refine w_iadd (dk_Mach_each 106 rfl) ?_
      obtain ⟨k1, e_k1, l_k1, h⟩ := h
      refine w_iald (k_ := k1) (dk_Mach_each 107 rfl) rfl (by decide) e_k1 l_k1 ?_
      obtain ⟨k2, e_k2, l_k2, h⟩ := h
      refine w_iast (k_ := k2) (dk_Mach_each 108 rfl) rfl (by decide) e_k2 l_k2 ?_
      refine w_aload_n (dk_Mach_each 109 rfl) rfl ?_
      refine w_getr (dk_Mach_each 110 rfl) lk_Mach_32 rfl rfl rfl ?_
      refine w_iload_n (dk_Mach_each 111 rfl) rfl ?_
      refine w_aload_n (dk_Mach_each 112 rfl) rfl ?_
      refine w_getr (dk_Mach_each 113 rfl) lk_Mach_38 rfl rfl rfl ?_
      refine w_bipush (v := 64) (dk_Mach_each 114 rfl) rfl ?_
      refine w_iload_n (dk_Mach_each 115 rfl) rfl ?_
      refine w_imul (dk_Mach_each 116 rfl) ?_
      refine w_iload (dk_Mach_each 117 rfl) rfl ?_
      refine w_iadd (dk_Mach_each 118 rfl) ?_
      obtain ⟨k3, e_k3, l_k3, h⟩ := h
      refine w_iald (k_ := k3) (dk_Mach_each 119 rfl) rfl (by decide) e_k3 l_k3 ?_
      show WS _ _ _ _ [.int (aI u 50 k3), .int x3, .ref 48] _ _
      obtain ⟨k4, e_k4, l_k4, h⟩ := h
      refine w_iast (k_ := k4) (dk_Mach_each 120 rfl) rfl (by decide) e_k4 l_k4 ?_
      refine w_aload_n (dk_Mach_each 121 rfl) rfl ?_
      refine w_iload_n (dk_Mach_each 122 rfl) rfl ?_
      refine w_callVi (ls' := [some (.ref 38), some (.int x3)]) cv_Mach_61 (dk_Mach_each 123 rfl) (ci := 6) rfl rfl [.int x3] [] rfl rfl (Nat.le_of_ble_eq_true rfl) (Nat.le_of_ble_eq_true rfl) rfl rfl rfl h (fun r5 u6 h => ?_)
      refine w_if_eq 241 (dk_Mach_each 124 rfl) (by decide) (fun c_ => ?_) (fun c_ => ?_)
      · replace h := h.1 c_
        refine w_iconst (v := 1) (dk_Mach_each 136 rfl) rfl ?_
        refine w_goto 246 (dk_Mach_each 137 rfl) (by decide) ?_
        refine w_istore (ls' := [some (.ref 38), some (.int x1), some (.int x2), some (.int x3), some (.long x4), none, some (.int x6), some (.int 1), some (.int x8)]) (dk_Mach_each 139 rfl) (by decide) rfl ?_
        refine w_iinc (v := x8 + 1) (ls' := [some (.ref 38), some (.int x1), some (.int x2), some (.int x3), some (.long x4), none, some (.int x6), some (.int 1), some (.int (x8 + 1))]) (dk_Mach_each 140 rfl) rfl rfl (by decide) rfl ?_
        refine w_goto 162 (dk_Mach_each 141 rfl) (by decide) ?_
        exact h
      · replace h := h.2 c_
        refine w_aload_n (dk_Mach_each 125 rfl) rfl ?_
        refine w_callVi (ls' := [some (.ref 38)]) cv_Mach_176 (dk_Mach_each 126 rfl) (ci := 6) rfl rfl [] [] rfl rfl (Nat.le_of_ble_eq_true rfl) (Nat.le_of_ble_eq_true rfl) rfl rfl rfl h (fun r7 u8 h => ?_)
        refine w_if_eq 245 (dk_Mach_each 127 rfl) (by decide) (fun c_ => ?_) (fun c_ => ?_)
        · replace h := h.1 c_
          refine w_iconst (v := 0) (dk_Mach_each 138 rfl) rfl ?_
          refine w_istore (ls' := [some (.ref 38), some (.int x1), some (.int x2), some (.int x3), some (.long x4), none, some (.int x6), some (.int 0), some (.int x8)]) (dk_Mach_each 139 rfl) (by decide) rfl ?_
          refine w_iinc (v := x8 + 1) (ls' := [some (.ref 38), some (.int x1), some (.int x2), some (.int x3), some (.long x4), none, some (.int x6), some (.int 0), some (.int (x8 + 1))]) (dk_Mach_each 140 rfl) rfl rfl (by decide) rfl ?_
          refine w_goto 162 (dk_Mach_each 141 rfl) (by decide) ?_
          exact h
        · replace h := h.2 c_
          refine w_aload_n (dk_Mach_each 128 rfl) rfl ?_
          refine w_aload_n (dk_Mach_each 129 rfl) rfl ?_
          refine w_getr (dk_Mach_each 130 rfl) lk_Mach_52 rfl rfl rfl ?_
          refine w_getr (dk_Mach_each 131 rfl) lk_Mach_214 rfl rfl rfl ?_
          refine w_iload_n (dk_Mach_each 132 rfl) rfl ?_
          obtain ⟨k9, e_k9, l_k9, h⟩ := h
          refine w_iald (k_ := k9) (dk_Mach_each 133 rfl) rfl (by decide) e_k9 l_k9 ?_
          refine w_callSi (ls' := [some (.ref 38), some (.int (aI u8 28 k9)), none]) cv_Mach_220 (dk_Mach_each 134 rfl) [.ref 38, .int (aI u8 28 k9)] [] rfl rfl (Nat.le_of_ble_eq_true rfl) (Nat.le_of_ble_eq_true rfl) rfl rfl rfl h (fun r10 u11 h => ?_)
          refine w_if_eq 245 (dk_Mach_each 135 rfl) (by decide) (fun c_ => ?_) (fun c_ => ?_)
          · replace h := h.1 c_
            refine w_iconst (v := 0) (dk_Mach_each 138 rfl) rfl ?_
            refine w_istore (ls' := [some (.ref 38), some (.int x1), some (.int x2), some (.int x3), some (.long x4), none, some (.int x6), some (.int 0), some (.int x8)]) (dk_Mach_each 139 rfl) (by decide) rfl ?_
            refine w_iinc (v := x8 + 1) (ls' := [some (.ref 38), some (.int x1), some (.int x2), some (.int x3), some (.long x4), none, some (.int x6), some (.int 0), some (.int (x8 + 1))]) (dk_Mach_each 140 rfl) rfl rfl (by decide) rfl ?_
            refine w_goto 162 (dk_Mach_each 141 rfl) (by decide) ?_
            exact h
          · replace h := h.2 c_
            refine w_iconst (v := 1) (dk_Mach_each 136 rfl) rfl ?_
            refine w_goto 246 (dk_Mach_each 137 rfl) (by decide) ?_
            refine w_istore (ls' := [some (.ref 38), some (.int x1), some (.int x2), some (.int x3), some (.long x4), none, some (.int x6), some (.int 1), some (.int x8)]) (dk_Mach_each 139 rfl) (by decide) rfl ?_
            refine w_iinc (v := x8 + 1) (ls' := [some (.ref 38), some (.int x1), some (.int x2), some (.int x3), some (.long x4), none, some (.int x6), some (.int 1), some (.int (x8 + 1))]) (dk_Mach_each 140 rfl) rfl rfl (by decide) rfl ?_
            refine w_goto 162 (dk_Mach_each 141 rfl) (by decide) ?_
            exact h
theorem g_Mach_repeats_0 {d : Nat} {u : Us} {Q : Ot → Us → Prop} (x1 : Int32)
    (h : ∃ k1 : Nat, x1 = nI k1 ∧ k1 < 160 ∧ (∃ k2 : Nat, x1 = nI k2 ∧ k2 < 160 ∧ (WS d m_Mach_number 0 [some (.ref 38), some (.int (aI u 26 k1)), some (.int (aI u 27 k2)), none, none, none, none] [] u (Ri (fun (r3 : Int32) (u4 : Us) => (r3 = 0 → Q (.inl (some (.int 1))) u4) ∧ (¬ (r3 = 0) → ∃ k5 : Nat, x1 = nI k5 ∧ k5 < 160 ∧ (WS d m_Mach_all 0 [some (.ref 38), some (.int (aI u4 28 k5)), none] [] u4 (Ri (fun (r6 : Int32) (u7 : Us) => (r6 = 0 → Q (.inl (some (.int 0))) u7) ∧ (¬ (r6 = 0) → WS d m_Mach_spends 0 [some (.ref 38)] [] u7 (Ri (fun (r8 : Int32) (u9 : Us) => (r8 ≠ 0 → WS (d + 1) m_Mach_repeats 0 [some (.ref 38), some (.int x1)] [] u9 Q) ∧ (r8 = 0 → Q (.inl (some (.int 0))) u9)) (fun x u => Q (.inr x) u)))) (fun x u => Q (.inr x) u))))) (fun x u => Q (.inr x) u))))) :
    WS (d + 1) m_Mach_repeats 0 [some (.ref 38), some (.int x1)] [] u Q := by
  refine w_aload_n (dk_Mach_repeats 0 rfl) rfl ?_
  refine w_aload_n (dk_Mach_repeats 1 rfl) rfl ?_
  refine w_getr (dk_Mach_repeats 2 rfl) lk_Mach_52 rfl rfl rfl ?_
  refine w_getr (dk_Mach_repeats 3 rfl) lk_Mach_195 rfl rfl rfl ?_
  refine w_iload_n (dk_Mach_repeats 4 rfl) rfl ?_
  obtain ⟨k1, e_k1, l_k1, h⟩ := h
  refine w_iald (k_ := k1) (dk_Mach_repeats 5 rfl) rfl (by decide) e_k1 l_k1 ?_
  refine w_aload_n (dk_Mach_repeats 6 rfl) rfl ?_
  refine w_getr (dk_Mach_repeats 7 rfl) lk_Mach_52 rfl rfl rfl ?_
  refine w_getr (dk_Mach_repeats 8 rfl) lk_Mach_196 rfl rfl rfl ?_
  refine w_iload_n (dk_Mach_repeats 9 rfl) rfl ?_
  obtain ⟨k2, e_k2, l_k2, h⟩ := h
  refine w_iald (k_ := k2) (dk_Mach_repeats 10 rfl) rfl (by decide) e_k2 l_k2 ?_
  refine w_callVi (ls' := [some (.ref 38), some (.int (aI u 26 k1)), some (.int (aI u 27 k2)), none, none, none, none]) cv_Mach_204 (dk_Mach_repeats 11 rfl) (ci := 6) rfl rfl [.int (aI u 26 k1), .int (aI u 27 k2)] [] rfl rfl (Nat.le_of_ble_eq_true rfl) (Nat.le_of_ble_eq_true rfl) rfl rfl rfl h (fun r3 u4 h => ?_)
  refine w_if_eq 50 (dk_Mach_repeats 12 rfl) (by decide) (fun c_ => ?_) (fun c_ => ?_)
  · replace h := h.1 c_
    refine w_iconst (v := 1) (dk_Mach_repeats 26 rfl) rfl ?_
    exact w_bret (dk_Mach_repeats 27 rfl) rfl (Or.inr rfl) h
  · replace h := h.2 c_
    refine w_aload_n (dk_Mach_repeats 13 rfl) rfl ?_
    refine w_aload_n (dk_Mach_repeats 14 rfl) rfl ?_
    refine w_getr (dk_Mach_repeats 15 rfl) lk_Mach_52 rfl rfl rfl ?_
    refine w_getr (dk_Mach_repeats 16 rfl) lk_Mach_214 rfl rfl rfl ?_
    refine w_iload_n (dk_Mach_repeats 17 rfl) rfl ?_
    obtain ⟨k5, e_k5, l_k5, h⟩ := h
    refine w_iald (k_ := k5) (dk_Mach_repeats 18 rfl) rfl (by decide) e_k5 l_k5 ?_
    refine w_callSi (ls' := [some (.ref 38), some (.int (aI u4 28 k5)), none]) cv_Mach_220 (dk_Mach_repeats 19 rfl) [.ref 38, .int (aI u4 28 k5)] [] rfl rfl (Nat.le_of_ble_eq_true rfl) (Nat.le_of_ble_eq_true rfl) rfl rfl rfl h (fun r6 u7 h => ?_)
    refine w_if_eq 48 (dk_Mach_repeats 20 rfl) (by decide) (fun c_ => ?_) (fun c_ => ?_)
    · replace h := h.1 c_
      refine w_iconst (v := 0) (dk_Mach_repeats 24 rfl) rfl ?_
      exact w_bret (dk_Mach_repeats 25 rfl) rfl (Or.inl rfl) h
    · replace h := h.2 c_
      refine w_aload_n (dk_Mach_repeats 21 rfl) rfl ?_
      refine w_callVi (ls' := [some (.ref 38)]) cv_Mach_176 (dk_Mach_repeats 22 rfl) (ci := 6) rfl rfl [] [] rfl rfl (Nat.le_of_ble_eq_true rfl) (Nat.le_of_ble_eq_true rfl) rfl rfl rfl h (fun r8 u9 h => ?_)
      refine w_if_ne 0 (dk_Mach_repeats 23 rfl) (by decide) (fun c_ => ?_) (fun c_ => ?_)
      · replace h := h.1 c_
        exact h
      · replace h := h.2 c_
        refine w_iconst (v := 0) (dk_Mach_repeats 24 rfl) rfl ?_
        exact w_bret (dk_Mach_repeats 25 rfl) rfl (Or.inl rfl) h
theorem g_Mach_put_0 {d : Nat} {u : Us} {Q : Ot → Us → Prop} (p1 : Int32)
    (h : ∃ k1 : Nat, p1 = nI k1 ∧ k1 < 160 ∧ (∃ k2 : Nat, aI u 31 k1 = nI k2 ∧ k2 < 150 ∧ (∃ k3 : Nat, aI u 31 k1 = nI k3 ∧ k3 < 150 ∧ (∃ k4 : Nat, aI u 31 k1 = nI k4 ∧ k4 < 150 ∧ (WS d m_Mach_number 0 [some (.ref 38), some (.int (aI u 34 k3)), some (.int (aI u 35 k4)), none, none, none, none] [] u (Ri (fun (r5 : Int32) (u6 : Us) => ∃ k7 : Nat, p1 = nI k7 ∧ k7 < 160 ∧ (WS d m_Mach_isThere 0 [some (.ref 38), some (.int (aI u6 24 k7))] [] u6 (Ri (fun (r8 : Int32) (u9 : Us) => (r8 = 0 → Q (.inl none) u9) ∧ (¬ (r8 = 0) → ∃ k10 : Nat, p1 = nI k10 ∧ k10 < 160 ∧ (∃ k11 : Nat, aI u9 24 k10 = nI k11 ∧ k11 < 10 ∧ (∃ k12 : Nat, aI u 33 k2 = nI k12 ∧ k12 < 42 ∧ (∃ k13 : Nat, aI u 33 k2 = nI k13 ∧ k13 < 42 ∧ (WS d m_Stor_write 0 [some (.ref 39), some (.int (aI u9 47 k11)), some (.int (aI u9 7 k12)), some (.int (aI u9 6 k13)), some (.int r5), none] [] u9 (Rv (fun (u15 : Us) => Q (.inl none) u15) (fun x u => Q (.inr x) u)))))))) (fun x u => Q (.inr x) u)))) (fun x u => Q (.inr x) u))))))) :
    WS (d + 1) m_Mach_put 0 [some (.ref 38), some (.int p1), none, none, none] [] u Q := by
  refine w_aload_n (dk_Mach_put 0 rfl) rfl ?_
  refine w_getr (dk_Mach_put 1 rfl) lk_Mach_52 rfl rfl rfl ?_
  refine w_getr (dk_Mach_put 2 rfl) lk_Mach_234 rfl rfl rfl ?_
  refine w_iload_n (dk_Mach_put 3 rfl) rfl ?_
  obtain ⟨k1, e_k1, l_k1, h⟩ := h
  refine w_iald (k_ := k1) (dk_Mach_put 4 rfl) rfl (by decide) e_k1 l_k1 ?_
  refine w_istore_n (ls' := [some (.ref 38), some (.int p1), some (.int (aI u 31 k1)), none, none]) (dk_Mach_put 5 rfl) (by decide) rfl ?_
  refine w_aload_n (dk_Mach_put 6 rfl) rfl ?_
  refine w_getr (dk_Mach_put 7 rfl) lk_Mach_52 rfl rfl rfl ?_
  refine w_getr (dk_Mach_put 8 rfl) lk_Mach_242 rfl rfl rfl ?_
  refine w_iload_n (dk_Mach_put 9 rfl) rfl ?_
  obtain ⟨k2, e_k2, l_k2, h⟩ := h
  refine w_iald (k_ := k2) (dk_Mach_put 10 rfl) rfl (by decide) e_k2 l_k2 ?_
  refine w_istore_n (ls' := [some (.ref 38), some (.int p1), some (.int (aI u 31 k1)), some (.int (aI u 33 k2)), none]) (dk_Mach_put 11 rfl) (by decide) rfl ?_
  refine w_aload_n (dk_Mach_put 12 rfl) rfl ?_
  refine w_aload_n (dk_Mach_put 13 rfl) rfl ?_
  refine w_getr (dk_Mach_put 14 rfl) lk_Mach_52 rfl rfl rfl ?_
  refine w_getr (dk_Mach_put 15 rfl) lk_Mach_231 rfl rfl rfl ?_
  refine w_iload_n (dk_Mach_put 16 rfl) rfl ?_
  obtain ⟨k3, e_k3, l_k3, h⟩ := h
  refine w_iald (k_ := k3) (dk_Mach_put 17 rfl) rfl (by decide) e_k3 l_k3 ?_
  refine w_aload_n (dk_Mach_put 18 rfl) rfl ?_
  refine w_getr (dk_Mach_put 19 rfl) lk_Mach_52 rfl rfl rfl ?_
  refine w_getr (dk_Mach_put 20 rfl) lk_Mach_237 rfl rfl rfl ?_
  refine w_iload_n (dk_Mach_put 21 rfl) rfl ?_
  obtain ⟨k4, e_k4, l_k4, h⟩ := h
  refine w_iald (k_ := k4) (dk_Mach_put 22 rfl) rfl (by decide) e_k4 l_k4 ?_
  refine w_callVi (ls' := [some (.ref 38), some (.int (aI u 34 k3)), some (.int (aI u 35 k4)), none, none, none, none]) cv_Mach_204 (dk_Mach_put 23 rfl) (ci := 6) rfl rfl [.int (aI u 34 k3), .int (aI u 35 k4)] [] rfl rfl (Nat.le_of_ble_eq_true rfl) (Nat.le_of_ble_eq_true rfl) rfl rfl rfl h (fun r5 u6 h => ?_)
  refine w_istore (ls' := [some (.ref 38), some (.int p1), some (.int (aI u 31 k1)), some (.int (aI u 33 k2)), some (.int r5)]) (dk_Mach_put 24 rfl) (by decide) rfl ?_
  refine w_aload_n (dk_Mach_put 25 rfl) rfl ?_
  refine w_aload_n (dk_Mach_put 26 rfl) rfl ?_
  refine w_getr (dk_Mach_put 27 rfl) lk_Mach_52 rfl rfl rfl ?_
  refine w_getr (dk_Mach_put 28 rfl) lk_Mach_194 rfl rfl rfl ?_
  refine w_iload_n (dk_Mach_put 29 rfl) rfl ?_
  obtain ⟨k7, e_k7, l_k7, h⟩ := h
  refine w_iald (k_ := k7) (dk_Mach_put 30 rfl) rfl (by decide) e_k7 l_k7 ?_
  refine w_callVi (ls' := [some (.ref 38), some (.int (aI u6 24 k7))]) cv_Mach_61 (dk_Mach_put 31 rfl) (ci := 6) rfl rfl [.int (aI u6 24 k7)] [] rfl rfl (Nat.le_of_ble_eq_true rfl) (Nat.le_of_ble_eq_true rfl) rfl rfl rfl h (fun r8 u9 h => ?_)
  refine w_if_eq 101 (dk_Mach_put 32 rfl) (by decide) (fun c_ => ?_) (fun c_ => ?_)
  · replace h := h.1 c_
    exact w_vret (dk_Mach_put 55 rfl) rfl h
  · replace h := h.2 c_
    refine w_aload_n (dk_Mach_put 33 rfl) rfl ?_
    refine w_getr (dk_Mach_put 34 rfl) lk_Mach_12 rfl rfl rfl ?_
    refine w_aload_n (dk_Mach_put 35 rfl) rfl ?_
    refine w_getr (dk_Mach_put 36 rfl) lk_Mach_29 rfl rfl rfl ?_
    refine w_aload_n (dk_Mach_put 37 rfl) rfl ?_
    refine w_getr (dk_Mach_put 38 rfl) lk_Mach_52 rfl rfl rfl ?_
    refine w_getr (dk_Mach_put 39 rfl) lk_Mach_194 rfl rfl rfl ?_
    refine w_iload_n (dk_Mach_put 40 rfl) rfl ?_
    obtain ⟨k10, e_k10, l_k10, h⟩ := h
    refine w_iald (k_ := k10) (dk_Mach_put 41 rfl) rfl (by decide) e_k10 l_k10 ?_
    obtain ⟨k11, e_k11, l_k11, h⟩ := h
    refine w_iald (k_ := k11) (dk_Mach_put 42 rfl) rfl (by decide) e_k11 l_k11 ?_
    refine w_aload_n (dk_Mach_put 43 rfl) rfl ?_
    refine w_getr (dk_Mach_put 44 rfl) lk_Mach_44 rfl rfl rfl ?_
    refine w_getr (dk_Mach_put 45 rfl) lk_Mach_65 rfl rfl rfl ?_
    refine w_iload_n (dk_Mach_put 46 rfl) rfl ?_
    obtain ⟨k12, e_k12, l_k12, h⟩ := h
    refine w_iald (k_ := k12) (dk_Mach_put 47 rfl) rfl (by decide) e_k12 l_k12 ?_
    refine w_aload_n (dk_Mach_put 48 rfl) rfl ?_
    refine w_getr (dk_Mach_put 49 rfl) lk_Mach_44 rfl rfl rfl ?_
    refine w_getr (dk_Mach_put 50 rfl) lk_Mach_70 rfl rfl rfl ?_
    refine w_iload_n (dk_Mach_put 51 rfl) rfl ?_
    obtain ⟨k13, e_k13, l_k13, h⟩ := h
    refine w_iald (k_ := k13) (dk_Mach_put 52 rfl) rfl (by decide) e_k13 l_k13 ?_
    refine w_iload (dk_Mach_put 53 rfl) rfl ?_
    refine w_callVv (ls' := [some (.ref 39), some (.int (aI u9 47 k11)), some (.int (aI u9 7 k12)), some (.int (aI u9 6 k13)), some (.int r5), none]) cv_Mach_244 (dk_Mach_put 54 rfl) (ci := 7) rfl rfl [.int (aI u9 47 k11), .int (aI u9 7 k12), .int (aI u9 6 k13), .int r5] [] rfl rfl (Nat.le_of_ble_eq_true rfl) (Nat.le_of_ble_eq_true rfl) rfl rfl rfl h (fun u15 h => ?_)
    exact w_vret (dk_Mach_put 55 rfl) rfl h
