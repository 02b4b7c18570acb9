theorem g_Pars_all_0 {d : Nat} {u : Us} {Q : Ot → Us → Prop} (p2 : Int32)
    (h : WS (d + 1) m_Pars_all 4 [some (.ref 36), some (.int p2), some (.int (-1)), some (.int (-1)), none] [] u Q) :
    WS (d + 1) m_Pars_all 0 [some (.ref 36), some (.int p2), none, none, none] [] u Q := by
  refine w_iconst (v := (-1)) (dk_Pars_all 0 rfl) rfl ?_
  refine w_istore_n (ls' := [some (.ref 36), some (.int p2), some (.int (-1)), none, none]) (dk_Pars_all 1 rfl) (by decide) rfl ?_
  refine w_iconst (v := (-1)) (dk_Pars_all 2 rfl) rfl ?_
  refine w_istore_n (ls' := [some (.ref 36), some (.int p2), some (.int (-1)), some (.int (-1)), none]) (dk_Pars_all 3 rfl) (by decide) rfl ?_
  exact h
theorem g_Pars_all_4 {d : Nat} {u : Us} {Q : Ot → Us → Prop} (x1 : Int32) (x2 : Int32) (x3 : Int32)
    (h : ((aI u 10 5) = x1 → Q (.inl (some (.int x2))) u) ∧ (¬ ((aI u 10 5) = x1) → WS d m_Pars_statement 0 [some (.ref 36), none, none, none] [] u (Ri (fun (r1 : Int32) (u2 : Us) => (0 ≤ x3 → ∃ k3 : Nat, x3 = nI k3 ∧ k3 < 160 ∧ (WS (d + 1) m_Pars_all 4 [some (.ref 36), some (.int x1), some (.int x2), some (.int r1), some (.int r1)] [] (uI u2 30 k3 r1) Q)) ∧ (¬ (0 ≤ x3) → WS (d + 1) m_Pars_all 4 [some (.ref 36), some (.int x1), some (.int r1), some (.int r1), some (.int r1)] [] u2 Q)) (fun x u => Q (.inr x) u)))) :
    WS (d + 1) m_Pars_all 4 [some (.ref 36), some (.int x1), some (.int x2), some (.int x3), none] [] u Q := by
  refine w_aload_n (dk_Pars_all 4 rfl) rfl ?_
  refine w_getr (dk_Pars_all 5 rfl) lk_Pars_15 rfl rfl rfl ?_
  refine w_geti (v := aI u 10 5) (dk_Pars_all 6 rfl) lk_Pars_31 rfl rfl rfl ?_
  refine w_iload_n (dk_Pars_all 7 rfl) rfl ?_
  refine w_icmp_eq 48 (dk_Pars_all 8 rfl) (by decide) (fun c_ => ?_) (fun c_ => ?_)
  · replace h := h.1 c_
    refine w_iload_n (dk_Pars_all 26 rfl) rfl ?_
    exact w_iret (dk_Pars_all 27 rfl) rfl h
  · replace h := h.2 c_
    refine w_aload_n (dk_Pars_all 9 rfl) rfl ?_
    refine w_callSi (ls' := [some (.ref 36), none, none, none]) cv_Pars_163 (dk_Pars_all 10 rfl) [.ref 36] [] rfl rfl (Nat.le_of_ble_eq_true rfl) (Nat.le_of_ble_eq_true rfl) rfl rfl rfl h (fun r1 u2 h => ?_)
    refine w_istore (ls' := [some (.ref 36), some (.int x1), some (.int x2), some (.int x3), some (.int r1)]) (dk_Pars_all 11 rfl) (by decide) rfl ?_
    refine w_iload_n (dk_Pars_all 12 rfl) rfl ?_
    refine w_if_ge 31 (dk_Pars_all 13 rfl) (by decide) (fun c_ => ?_) (fun c_ => ?_)
    · replace h := h.1 c_
      refine w_aload_n (dk_Pars_all 17 rfl) rfl ?_
      refine w_getr (dk_Pars_all 18 rfl) lk_Pars_27 rfl rfl rfl ?_
      refine w_getr (dk_Pars_all 19 rfl) lk_Pars_167 rfl rfl rfl ?_
      refine w_iload_n (dk_Pars_all 20 rfl) rfl ?_
      refine w_iload (dk_Pars_all 21 rfl) rfl ?_
      obtain ⟨k3, e_k3, l_k3, h⟩ := h
      refine w_iast (k_ := k3) (dk_Pars_all 22 rfl) rfl (by decide) e_k3 l_k3 ?_
      refine w_iload (dk_Pars_all 23 rfl) rfl ?_
      refine w_istore_n (ls' := [some (.ref 36), some (.int x1), some (.int x2), some (.int r1), some (.int r1)]) (dk_Pars_all 24 rfl) (by decide) rfl ?_
      refine w_goto 4 (dk_Pars_all 25 rfl) (by decide) ?_
      exact h
    · replace h := h.2 c_
      refine w_iload (dk_Pars_all 14 rfl) rfl ?_
      refine w_istore_n (ls' := [some (.ref 36), some (.int x1), some (.int r1), some (.int x3), some (.int r1)]) (dk_Pars_all 15 rfl) (by decide) rfl ?_
      refine w_goto 42 (dk_Pars_all 16 rfl) (by decide) ?_
      refine w_iload (dk_Pars_all 23 rfl) rfl ?_
      refine w_istore_n (ls' := [some (.ref 36), some (.int x1), some (.int r1), some (.int r1), some (.int r1)]) (dk_Pars_all 24 rfl) (by decide) rfl ?_
      refine w_goto 4 (dk_Pars_all 25 rfl) (by decide) ?_
      exact h
theorem g_Pars_statement_0 {d : Nat} {u : Us} {Q : Ot → Us → Prop} 
    (h : ∃ k1 : Nat, aI u 22 13 = nI k1 ∧ k1 < 160 ∧ (∃ k2 : Nat, aI u 22 13 = nI k2 ∧ k2 < 160 ∧ (∃ k3 : Nat, aI u 22 13 = nI k3 ∧ k3 < 160 ∧ (∃ k4 : Nat, aI u 22 13 = nI k4 ∧ k4 < 160 ∧ (∃ k5 : Nat, aI u 22 13 = nI k5 ∧ k5 < 160 ∧ (∃ k6 : Nat, aI u 22 13 = nI k6 ∧ k6 < 160 ∧ (((aI u 10 5) ≠ 20 → (12 < (aI u 10 5) → WS d m_Scan_fail 0 [some (.ref 10)] [] (uI (uI (uI (uI (uI (uI (uI u 22 13 ((aI u 22 13) + 1)) 23 k1 (aI u 10 5)) 30 k2 (-1)) 28 k3 (-1)) 29 k4 (-1)) 31 k5 (aI u 22 14)) 32 k6 0) (Rv (fun (u8 : Us) => WS (d + 1) m_Pars_statement 150 [some (.ref 36), some (.ref 22), some (.int (aI u 10 5)), some (.int (aI u 22 13))] [] u8 Q) (fun x u => Q (.inr x) u))) ∧ (¬ (12 < (aI u 10 5)) → ((aI u 10 5) = 3 → WS d m_Scan_fail 0 [some (.ref 10)] [] (uI (uI (uI (uI (uI (uI (uI u 22 13 ((aI u 22 13) + 1)) 23 k1 (aI u 10 5)) 30 k2 (-1)) 28 k3 (-1)) 29 k4 (-1)) 31 k5 (aI u 22 14)) 32 k6 0) (Rv (fun (u10 : Us) => WS (d + 1) m_Pars_statement 150 [some (.ref 36), some (.ref 22), some (.int (aI u 10 5)), some (.int (aI u 22 13))] [] u10 Q) (fun x u => Q (.inr x) u))) ∧ (¬ ((aI u 10 5) = 3) → ((aI u 10 5) = 8 → WS d m_Scan_fail 0 [some (.ref 10)] [] (uI (uI (uI (uI (uI (uI (uI u 22 13 ((aI u 22 13) + 1)) 23 k1 (aI u 10 5)) 30 k2 (-1)) 28 k3 (-1)) 29 k4 (-1)) 31 k5 (aI u 22 14)) 32 k6 0) (Rv (fun (u12 : Us) => WS (d + 1) m_Pars_statement 150 [some (.ref 36), some (.ref 22), some (.int (aI u 10 5)), some (.int (aI u 22 13))] [] u12 Q) (fun x u => Q (.inr x) u))) ∧ (¬ ((aI u 10 5) = 8) → ((aI u 10 5) ≠ 10 → WS (d + 1) m_Pars_statement 150 [some (.ref 36), some (.ref 22), some (.int (aI u 10 5)), some (.int (aI u 22 13))] [] (uI (uI (uI (uI (uI (uI (uI u 22 13 ((aI u 22 13) + 1)) 23 k1 (aI u 10 5)) 30 k2 (-1)) 28 k3 (-1)) 29 k4 (-1)) 31 k5 (aI u 22 14)) 32 k6 0) Q) ∧ ((aI u 10 5) = 10 → WS d m_Scan_fail 0 [some (.ref 10)] [] (uI (uI (uI (uI (uI (uI (uI u 22 13 ((aI u 22 13) + 1)) 23 k1 (aI u 10 5)) 30 k2 (-1)) 28 k3 (-1)) 29 k4 (-1)) 31 k5 (aI u 22 14)) 32 k6 0) (Rv (fun (u14 : Us) => WS (d + 1) m_Pars_statement 150 [some (.ref 36), some (.ref 22), some (.int (aI u 10 5)), some (.int (aI u 22 13))] [] u14 Q) (fun x u => Q (.inr x) u))))))) ∧ ((aI u 10 5) = 20 → WS d m_Pars_cursor 0 [some (.ref 36), none, none] [] (uI (uI (uI (uI (uI (uI (uI u 22 13 ((aI u 22 13) + 1)) 23 k1 (aI u 10 5)) 30 k2 (-1)) 28 k3 (-1)) 29 k4 (-1)) 31 k5 (aI u 22 14)) 32 k6 0) (Ri (fun (r15 : Int32) (u16 : Us) => ∃ k17 : Nat, aI u 22 13 = nI k17 ∧ k17 < 160 ∧ (WS d m_Pars_take 0 [some (.ref 36), some (.int 48)] [] (uI u16 24 k17 r15) (Rv (fun (u19 : Us) => ∃ k20 : Nat, aI u 22 13 = nI k20 ∧ k20 < 160 ∧ (∃ k21 : Nat, aI u19 24 k20 = nI k21 ∧ k21 < 10 ∧ (WS d m_Pars_field 0 [some (.ref 36), some (.int (aI u19 37 k21)), none] [] u19 (Ri (fun (r22 : Int32) (u23 : Us) => WS d m_Pars_puts 0 [some (.ref 36), some (.int (aI u 22 13)), some (.int r22), none] [] u23 (Rv (fun (u25 : Us) => WS d m_Pars_take 0 [some (.ref 36), some (.int 46)] [] u25 (Rv (fun (u27 : Us) => Q (.inl (some (.int (aI u 22 13)))) u27) (fun x u => Q (.inr x) u))) (fun x u => Q (.inr x) u))) (fun x u => Q (.inr x) u))))) (fun x u => Q (.inr x) u)))) (fun x u => Q (.inr x) u)))))))))) :
    WS (d + 1) m_Pars_statement 0 [some (.ref 36), none, none, none] [] u Q := by
  refine w_aload_n (dk_Pars_statement 0 rfl) rfl ?_
  refine w_getr (dk_Pars_statement 1 rfl) lk_Pars_27 rfl rfl rfl ?_
  refine w_astore_n (ls' := [some (.ref 36), some (.ref 22), none, none]) (dk_Pars_statement 2 rfl) (by decide) rfl ?_
  refine w_aload_n (dk_Pars_statement 3 rfl) rfl ?_
  refine w_getr (dk_Pars_statement 4 rfl) lk_Pars_15 rfl rfl rfl ?_
  refine w_geti (v := aI u 10 5) (dk_Pars_statement 5 rfl) lk_Pars_31 rfl rfl rfl ?_
  refine w_istore_n (ls' := [some (.ref 36), some (.ref 22), some (.int (aI u 10 5)), none]) (dk_Pars_statement 6 rfl) (by decide) rfl ?_
  refine w_aload_n (dk_Pars_statement 7 rfl) rfl ?_
  refine w_dup (dk_Pars_statement 8 rfl) rfl ?_
  refine w_geti (v := aI u 22 13) (dk_Pars_statement 9 rfl) lk_Pars_173 rfl rfl rfl ?_
  refine w_dup_x1 (dk_Pars_statement 10 rfl) rfl rfl ?_
  refine w_iconst (v := 1) (dk_Pars_statement 11 rfl) rfl ?_
  refine w_iadd (dk_Pars_statement 12 rfl) ?_
  refine w_puti (dk_Pars_statement 13 rfl) lk_Pars_173 rfl rfl ?_
  refine w_istore_n (ls' := [some (.ref 36), some (.ref 22), some (.int (aI u 10 5)), some (.int (aI u 22 13))]) (dk_Pars_statement 14 rfl) (by decide) rfl ?_
  refine w_aload_n (dk_Pars_statement 15 rfl) rfl ?_
  refine w_getr (dk_Pars_statement 16 rfl) lk_Pars_174 rfl rfl rfl ?_
  refine w_iload_n (dk_Pars_statement 17 rfl) rfl ?_
  refine w_iload_n (dk_Pars_statement 18 rfl) rfl ?_
  obtain ⟨k1, e_k1, l_k1, h⟩ := h
  refine w_iast (k_ := k1) (dk_Pars_statement 19 rfl) rfl (by decide) e_k1 l_k1 ?_
  refine w_aload_n (dk_Pars_statement 20 rfl) rfl ?_
  refine w_getr (dk_Pars_statement 21 rfl) lk_Pars_167 rfl rfl rfl ?_
  refine w_iload_n (dk_Pars_statement 22 rfl) rfl ?_
  refine w_iconst (v := (-1)) (dk_Pars_statement 23 rfl) rfl ?_
  obtain ⟨k2, e_k2, l_k2, h⟩ := h
  refine w_iast (k_ := k2) (dk_Pars_statement 24 rfl) rfl (by decide) e_k2 l_k2 ?_
  refine w_aload_n (dk_Pars_statement 25 rfl) rfl ?_
  refine w_getr (dk_Pars_statement 26 rfl) lk_Pars_177 rfl rfl rfl ?_
  refine w_iload_n (dk_Pars_statement 27 rfl) rfl ?_
  refine w_iconst (v := (-1)) (dk_Pars_statement 28 rfl) rfl ?_
  obtain ⟨k3, e_k3, l_k3, h⟩ := h
  refine w_iast (k_ := k3) (dk_Pars_statement 29 rfl) rfl (by decide) e_k3 l_k3 ?_
  refine w_aload_n (dk_Pars_statement 30 rfl) rfl ?_
  refine w_getr (dk_Pars_statement 31 rfl) lk_Pars_180 rfl rfl rfl ?_
  refine w_iload_n (dk_Pars_statement 32 rfl) rfl ?_
  refine w_iconst (v := (-1)) (dk_Pars_statement 33 rfl) rfl ?_
  obtain ⟨k4, e_k4, l_k4, h⟩ := h
  refine w_iast (k_ := k4) (dk_Pars_statement 34 rfl) rfl (by decide) e_k4 l_k4 ?_
  refine w_aload_n (dk_Pars_statement 35 rfl) rfl ?_
  refine w_getr (dk_Pars_statement 36 rfl) lk_Pars_183 rfl rfl rfl ?_
  refine w_iload_n (dk_Pars_statement 37 rfl) rfl ?_
  refine w_aload_n (dk_Pars_statement 38 rfl) rfl ?_
  refine w_geti (v := aI u 22 14) (dk_Pars_statement 39 rfl) lk_Pars_186 rfl rfl rfl ?_
  obtain ⟨k5, e_k5, l_k5, h⟩ := h
  refine w_iast (k_ := k5) (dk_Pars_statement 40 rfl) rfl (by decide) e_k5 l_k5 ?_
  refine w_aload_n (dk_Pars_statement 41 rfl) rfl ?_
  refine w_getr (dk_Pars_statement 42 rfl) lk_Pars_189 rfl rfl rfl ?_
  refine w_iload_n (dk_Pars_statement 43 rfl) rfl ?_
  refine w_iconst (v := 0) (dk_Pars_statement 44 rfl) rfl ?_
  obtain ⟨k6, e_k6, l_k6, h⟩ := h
  refine w_iast (k_ := k6) (dk_Pars_statement 45 rfl) rfl (by decide) e_k6 l_k6 ?_
  refine w_iload_n (dk_Pars_statement 46 rfl) rfl ?_
  refine w_bipush (v := 20) (dk_Pars_statement 47 rfl) rfl ?_
  refine w_icmp_ne 120 (dk_Pars_statement 48 rfl) (by decide) (fun c_ => ?_) (fun c_ => ?_)
  · replace h := h.1 c_
    refine w_iload_n (dk_Pars_statement 75 rfl) rfl ?_
    refine w_bipush (v := 12) (dk_Pars_statement 76 rfl) rfl ?_
    refine w_icmp_gt 143 (dk_Pars_statement 77 rfl) (by decide) (fun c_ => ?_) (fun c_ => ?_)
    · replace h := h.1 c_
      refine w_aload_n (dk_Pars_statement 87 rfl) rfl ?_
      refine w_getr (dk_Pars_statement 88 rfl) lk_Pars_15 rfl rfl rfl ?_
      refine w_callVv (ls' := [some (.ref 10)]) cv_Pars_37 (dk_Pars_statement 89 rfl) (ci := 1) rfl rfl [] [] rfl rfl (Nat.le_of_ble_eq_true rfl) (Nat.le_of_ble_eq_true rfl) rfl rfl rfl h (fun u8 h => ?_)
      exact h
    · replace h := h.2 c_
      refine w_iload_n (dk_Pars_statement 78 rfl) rfl ?_
      refine w_iconst (v := 3) (dk_Pars_statement 79 rfl) rfl ?_
      refine w_icmp_eq 143 (dk_Pars_statement 80 rfl) (by decide) (fun c_ => ?_) (fun c_ => ?_)
      · replace h := h.1 c_
        refine w_aload_n (dk_Pars_statement 87 rfl) rfl ?_
        refine w_getr (dk_Pars_statement 88 rfl) lk_Pars_15 rfl rfl rfl ?_
        refine w_callVv (ls' := [some (.ref 10)]) cv_Pars_37 (dk_Pars_statement 89 rfl) (ci := 1) rfl rfl [] [] rfl rfl (Nat.le_of_ble_eq_true rfl) (Nat.le_of_ble_eq_true rfl) rfl rfl rfl h (fun u10 h => ?_)
        exact h
      · replace h := h.2 c_
        refine w_iload_n (dk_Pars_statement 81 rfl) rfl ?_
        refine w_bipush (v := 8) (dk_Pars_statement 82 rfl) rfl ?_
        refine w_icmp_eq 143 (dk_Pars_statement 83 rfl) (by decide) (fun c_ => ?_) (fun c_ => ?_)
        · replace h := h.1 c_
          refine w_aload_n (dk_Pars_statement 87 rfl) rfl ?_
          refine w_getr (dk_Pars_statement 88 rfl) lk_Pars_15 rfl rfl rfl ?_
          refine w_callVv (ls' := [some (.ref 10)]) cv_Pars_37 (dk_Pars_statement 89 rfl) (ci := 1) rfl rfl [] [] rfl rfl (Nat.le_of_ble_eq_true rfl) (Nat.le_of_ble_eq_true rfl) rfl rfl rfl h (fun u12 h => ?_)
          exact h
        · replace h := h.2 c_
          refine w_iload_n (dk_Pars_statement 84 rfl) rfl ?_
          refine w_bipush (v := 10) (dk_Pars_statement 85 rfl) rfl ?_
          refine w_icmp_ne 150 (dk_Pars_statement 86 rfl) (by decide) (fun c_ => ?_) (fun c_ => ?_)
          · replace h := h.1 c_
            exact h
          · replace h := h.2 c_
            refine w_aload_n (dk_Pars_statement 87 rfl) rfl ?_
            refine w_getr (dk_Pars_statement 88 rfl) lk_Pars_15 rfl rfl rfl ?_
            refine w_callVv (ls' := [some (.ref 10)]) cv_Pars_37 (dk_Pars_statement 89 rfl) (ci := 1) rfl rfl [] [] rfl rfl (Nat.le_of_ble_eq_true rfl) (Nat.le_of_ble_eq_true rfl) rfl rfl rfl h (fun u14 h => ?_)
            exact h
  · replace h := h.2 c_
    refine w_aload_n (dk_Pars_statement 49 rfl) rfl ?_
    refine w_getr (dk_Pars_statement 50 rfl) lk_Pars_192 rfl rfl rfl ?_
    refine w_iload_n (dk_Pars_statement 51 rfl) rfl ?_
    refine w_aload_n (dk_Pars_statement 52 rfl) rfl ?_
    refine w_callVi (ls' := [some (.ref 36), none, none]) cv_Pars_123 (dk_Pars_statement 53 rfl) (ci := 5) rfl rfl [] [.int (aI u 22 13), .ref 24] rfl rfl (Nat.le_of_ble_eq_true rfl) (Nat.le_of_ble_eq_true rfl) rfl rfl rfl h (fun r15 u16 h => ?_)
    obtain ⟨k17, e_k17, l_k17, h⟩ := h
    refine w_iast (k_ := k17) (dk_Pars_statement 54 rfl) rfl (by decide) e_k17 l_k17 ?_
    refine w_aload_n (dk_Pars_statement 55 rfl) rfl ?_
    refine w_bipush (v := 48) (dk_Pars_statement 56 rfl) rfl ?_
    refine w_callVv (ls' := [some (.ref 36), some (.int 48)]) cv_Pars_46 (dk_Pars_statement 57 rfl) (ci := 5) rfl rfl [.int 48] [] rfl rfl (Nat.le_of_ble_eq_true rfl) (Nat.le_of_ble_eq_true rfl) rfl rfl rfl h (fun u19 h => ?_)
    refine w_aload_n (dk_Pars_statement 58 rfl) rfl ?_
    refine w_iload_n (dk_Pars_statement 59 rfl) rfl ?_
    refine w_aload_n (dk_Pars_statement 60 rfl) rfl ?_
    refine w_aload_n (dk_Pars_statement 61 rfl) rfl ?_
    refine w_getr (dk_Pars_statement 62 rfl) lk_Pars_9 rfl rfl rfl ?_
    refine w_aload_n (dk_Pars_statement 63 rfl) rfl ?_
    refine w_getr (dk_Pars_statement 64 rfl) lk_Pars_192 rfl rfl rfl ?_
    refine w_iload_n (dk_Pars_statement 65 rfl) rfl ?_
    obtain ⟨k20, e_k20, l_k20, h⟩ := h
    refine w_iald (k_ := k20) (dk_Pars_statement 66 rfl) rfl (by decide) e_k20 l_k20 ?_
    obtain ⟨k21, e_k21, l_k21, h⟩ := h
    refine w_iald (k_ := k21) (dk_Pars_statement 67 rfl) rfl (by decide) e_k21 l_k21 ?_
    refine w_callVi (ls' := [some (.ref 36), some (.int (aI u19 37 k21)), none]) cv_Pars_126 (dk_Pars_statement 68 rfl) (ci := 5) rfl rfl [.int (aI u19 37 k21)] [.int (aI u 22 13), .ref 36] rfl rfl (Nat.le_of_ble_eq_true rfl) (Nat.le_of_ble_eq_true rfl) rfl rfl rfl h (fun r22 u23 h => ?_)
    refine w_callVv (ls' := [some (.ref 36), some (.int (aI u 22 13)), some (.int r22), none]) cv_Pars_193 (dk_Pars_statement 69 rfl) (ci := 5) rfl rfl [.int (aI u 22 13), .int r22] [] rfl rfl (Nat.le_of_ble_eq_true rfl) (Nat.le_of_ble_eq_true rfl) rfl rfl rfl h (fun u25 h => ?_)
    refine w_aload_n (dk_Pars_statement 70 rfl) rfl ?_
    refine w_bipush (v := 46) (dk_Pars_statement 71 rfl) rfl ?_
    refine w_callVv (ls' := [some (.ref 36), some (.int 46)]) cv_Pars_46 (dk_Pars_statement 72 rfl) (ci := 5) rfl rfl [.int 46] [] rfl rfl (Nat.le_of_ble_eq_true rfl) (Nat.le_of_ble_eq_true rfl) rfl rfl rfl h (fun u27 h => ?_)
    refine w_iload_n (dk_Pars_statement 73 rfl) rfl ?_
    exact w_iret (dk_Pars_statement 74 rfl) rfl h
theorem g_Pars_statement_150 {d : Nat} {u : Us} {Q : Ot → Us → Prop} (x2 : Int32) (x3 : Int32)
    (h : WS d m_Scan_next 0 [some (.ref 10), none] [] u (Rv (fun (u2 : Us) => (x2 = 0 → WS d m_Pars_declare 0 [some (.ref 36), none, none, none, none, none] [] u2 (Rv (fun (u5 : Us) => WS (d + 1) m_Pars_statement 371 [some (.ref 36), some (.ref 22), some (.int x2), some (.int x3)] [] u5 Q) (fun x u => Q (.inr x) u))) ∧ ((x2 = 1 → WS d m_Pars_insert 0 [some (.ref 36), some (.int x3)] [] u2 (Rv (fun (u8 : Us) => WS (d + 1) m_Pars_statement 371 [some (.ref 36), some (.ref 22), some (.int x2), some (.int x3)] [] u8 Q) (fun x u => Q (.inr x) u))) ∧ ((x2 = 2 ∨ x2 = 4 → WS d m_Pars_changes 0 [some (.ref 36), some (.int x3), none] [] u2 (Rv (fun (u11 : Us) => WS (d + 1) m_Pars_statement 371 [some (.ref 36), some (.ref 22), some (.int x2), some (.int x3)] [] u11 Q) (fun x u => Q (.inr x) u))) ∧ ((x2 = 5 → WS d m_Pars_name 0 [some (.ref 36)] [] u2 (Ri (fun (r13 : Int32) (u14 : Us) => WS d m_Mean_kindOf 0 [some (.ref 2), some (.int r13), none] [] u14 (Ri (fun (r15 : Int32) (u16 : Us) => (r15 < 0 → WS d m_Pars_variable 0 [some (.ref 36), none] [] u16 (Ri (fun (r17 : Int32) (u18 : Us) => ∃ k19 : Nat, x3 = nI k19 ∧ k19 < 160 ∧ (WS d m_Pars_take 0 [some (.ref 36), some (.int 30)] [] (uI u18 24 k19 r17) (Rv (fun (u21 : Us) => WS d m_Pars_expression 0 [some (.ref 36), some (.int x3)] [] u21 (Rv (fun (u23 : Us) => WS (d + 1) m_Pars_statement 371 [some (.ref 36), some (.ref 22), some (.int x2), some (.int x3)] [] u23 Q) (fun x u => Q (.inr x) u))) (fun x u => Q (.inr x) u)))) (fun x u => Q (.inr x) u))) ∧ (¬ (r15 < 0) → WS d m_Scan_fail 0 [some (.ref 10)] [] u16 (Rv (fun (u25 : Us) => WS d m_Pars_variable 0 [some (.ref 36), none] [] u25 (Ri (fun (r26 : Int32) (u27 : Us) => ∃ k28 : Nat, x3 = nI k28 ∧ k28 < 160 ∧ (WS d m_Pars_take 0 [some (.ref 36), some (.int 30)] [] (uI u27 24 k28 r26) (Rv (fun (u30 : Us) => WS d m_Pars_expression 0 [some (.ref 36), some (.int x3)] [] u30 (Rv (fun (u32 : Us) => WS (d + 1) m_Pars_statement 371 [some (.ref 36), some (.ref 22), some (.int x2), some (.int x3)] [] u32 Q) (fun x u => Q (.inr x) u))) (fun x u => Q (.inr x) u)))) (fun x u => Q (.inr x) u))) (fun x u => Q (.inr x) u)))) (fun x u => Q (.inr x) u))) (fun x u => Q (.inr x) u))) ∧ ((x2 = 6 → WS d m_Pars_expression 0 [some (.ref 36), some (.int x3)] [] u2 (Rv (fun (u35 : Us) => WS (d + 1) m_Pars_statement 371 [some (.ref 36), some (.ref 22), some (.int x2), some (.int x3)] [] u35 Q) (fun x u => Q (.inr x) u))) ∧ ((x2 = 7 → WS d m_Pars_each 0 [some (.ref 36), some (.int x3), none] [] u2 (Rv (fun (u38 : Us) => WS (d + 1) m_Pars_statement 371 [some (.ref 36), some (.ref 22), some (.int x2), some (.int x3)] [] u38 Q) (fun x u => Q (.inr x) u))) ∧ ((x2 = 12 → WS d m_Pars_cursor 0 [some (.ref 36), none, none] [] u2 (Ri (fun (r40 : Int32) (u41 : Us) => ∃ k42 : Nat, x3 = nI k42 ∧ k42 < 160 ∧ (WS (d + 1) m_Pars_statement 371 [some (.ref 36), some (.ref 22), some (.int x2), some (.int x3)] [] (uI u41 24 k42 r40) Q)) (fun x u => Q (.inr x) u))) ∧ (((∀ v ∈ ([0, 1, 2, 4, 5, 6, 7, 12] : List Int32), x2 ≠ v) → WS d m_Pars_expression 0 [some (.ref 36), some (.int x3)] [] u2 (Rv (fun (u45 : Us) => WS d m_Pars_block 0 [some (.ref 36), none] [] u45 (Ri (fun (r46 : Int32) (u47 : Us) => ∃ k48 : Nat, x3 = nI k48 ∧ k48 < 160 ∧ ((x2 ≠ 9 → WS (d + 1) m_Pars_statement 371 [some (.ref 36), some (.ref 22), some (.int x2), some (.int x3)] [] (uI u47 28 k48 r46) Q) ∧ (x2 = 9 → ((aI u47 10 5) ≠ 10 → WS (d + 1) m_Pars_statement 371 [some (.ref 36), some (.ref 22), some (.int x2), some (.int x3)] [] (uI u47 28 k48 r46) Q) ∧ ((aI u47 10 5) = 10 → WS d m_Scan_next 0 [some (.ref 10), none] [] (uI u47 28 k48 r46) (Rv (fun (u50 : Us) => WS d m_Pars_block 0 [some (.ref 36), none] [] u50 (Ri (fun (r51 : Int32) (u52 : Us) => ∃ k53 : Nat, x3 = nI k53 ∧ k53 < 160 ∧ (WS (d + 1) m_Pars_statement 371 [some (.ref 36), some (.ref 22), some (.int x2), some (.int x3)] [] (uI u52 29 k53 r51) Q)) (fun x u => Q (.inr x) u))) (fun x u => Q (.inr x) u)))))) (fun x u => Q (.inr x) u))) (fun x u => Q (.inr x) u))))))))))) (fun x u => Q (.inr x) u))) :
    WS (d + 1) m_Pars_statement 150 [some (.ref 36), some (.ref 22), some (.int x2), some (.int x3)] [] u Q := by
  refine w_aload_n (dk_Pars_statement 90 rfl) rfl ?_
  refine w_getr (dk_Pars_statement 91 rfl) lk_Pars_15 rfl rfl rfl ?_
  refine w_callVv (ls' := [some (.ref 10), none]) cv_Pars_40 (dk_Pars_statement 92 rfl) (ci := 1) rfl rfl [] [] rfl rfl (Nat.le_of_ble_eq_true rfl) (Nat.le_of_ble_eq_true rfl) rfl rfl rfl h (fun u2 h => ?_)
  refine w_iload_n (dk_Pars_statement 93 rfl) rfl ?_
  by_cases n3 : x2 = 0
  · replace h := h.1 n3
    refine w_tabI ds_Pars_statement_158 66 224 (by rw [n3]; decide) (by decide) ?_
    refine w_aload_n (dk_Pars_statement 95 rfl) rfl ?_
    refine w_callVv (ls' := [some (.ref 36), none, none, none, none, none]) cv_Pars_196 (dk_Pars_statement 96 rfl) (ci := 5) rfl rfl [] [] rfl rfl (Nat.le_of_ble_eq_true rfl) (Nat.le_of_ble_eq_true rfl) rfl rfl rfl h (fun u5 h => ?_)
    refine w_goto 371 (dk_Pars_statement 97 rfl) (by decide) ?_
    exact h
  replace h := h.2
  by_cases n6 : x2 = 1
  · replace h := h.1 n6
    refine w_tabI ds_Pars_statement_158 73 231 (by rw [n6]; decide) (by decide) ?_
    refine w_aload_n (dk_Pars_statement 98 rfl) rfl ?_
    refine w_iload_n (dk_Pars_statement 99 rfl) rfl ?_
    refine w_callVv (ls' := [some (.ref 36), some (.int x3)]) cv_Pars_199 (dk_Pars_statement 100 rfl) (ci := 5) rfl rfl [.int x3] [] rfl rfl (Nat.le_of_ble_eq_true rfl) (Nat.le_of_ble_eq_true rfl) rfl rfl rfl h (fun u8 h => ?_)
    refine w_goto 371 (dk_Pars_statement 101 rfl) (by decide) ?_
    exact h
  replace h := h.2
  by_cases n9 : x2 = 2 ∨ x2 = 4
  · replace h := h.1 n9
    refine w_tabI ds_Pars_statement_158 81 239 (by rcases n9 with n9 | n9 <;> rw [n9] <;> decide) (by decide) ?_
    refine w_aload_n (dk_Pars_statement 102 rfl) rfl ?_
    refine w_iload_n (dk_Pars_statement 103 rfl) rfl ?_
    refine w_callSv (ls' := [some (.ref 36), some (.int x3), none]) cv_Pars_202 (dk_Pars_statement 104 rfl) [.ref 36, .int x3] [] rfl rfl (Nat.le_of_ble_eq_true rfl) (Nat.le_of_ble_eq_true rfl) rfl rfl rfl h (fun u11 h => ?_)
    refine w_goto 371 (dk_Pars_statement 105 rfl) (by decide) ?_
    exact h
  replace h := h.2
  by_cases n12 : x2 = 5
  · replace h := h.1 n12
    refine w_tabI ds_Pars_statement_158 89 247 (by rw [n12]; decide) (by decide) ?_
    refine w_aload_n (dk_Pars_statement 106 rfl) rfl ?_
    refine w_getr (dk_Pars_statement 107 rfl) lk_Pars_19 rfl rfl rfl ?_
    refine w_aload_n (dk_Pars_statement 108 rfl) rfl ?_
    refine w_callVi (ls' := [some (.ref 36)]) cv_Pars_59 (dk_Pars_statement 109 rfl) (ci := 5) rfl rfl [] [.ref 2] rfl rfl (Nat.le_of_ble_eq_true rfl) (Nat.le_of_ble_eq_true rfl) rfl rfl rfl h (fun r13 u14 h => ?_)
    refine w_callVi (ls' := [some (.ref 2), some (.int r13), none]) cv_Pars_53 (dk_Pars_statement 110 rfl) (ci := 0) rfl rfl [.int r13] [] rfl rfl (Nat.le_of_ble_eq_true rfl) (Nat.le_of_ble_eq_true rfl) rfl rfl rfl h (fun r15 u16 h => ?_)
    refine w_if_lt 268 (dk_Pars_statement 111 rfl) (by decide) (fun c_ => ?_) (fun c_ => ?_)
    · replace h := h.1 c_
      refine w_aload_n (dk_Pars_statement 115 rfl) rfl ?_
      refine w_getr (dk_Pars_statement 116 rfl) lk_Pars_192 rfl rfl rfl ?_
      refine w_iload_n (dk_Pars_statement 117 rfl) rfl ?_
      refine w_aload_n (dk_Pars_statement 118 rfl) rfl ?_
      refine w_callVi (ls' := [some (.ref 36), none]) cv_Pars_129 (dk_Pars_statement 119 rfl) (ci := 5) rfl rfl [] [.int x3, .ref 24] rfl rfl (Nat.le_of_ble_eq_true rfl) (Nat.le_of_ble_eq_true rfl) rfl rfl rfl h (fun r17 u18 h => ?_)
      obtain ⟨k19, e_k19, l_k19, h⟩ := h
      refine w_iast (k_ := k19) (dk_Pars_statement 120 rfl) rfl (by decide) e_k19 l_k19 ?_
      refine w_aload_n (dk_Pars_statement 121 rfl) rfl ?_
      refine w_bipush (v := 30) (dk_Pars_statement 122 rfl) rfl ?_
      refine w_callVv (ls' := [some (.ref 36), some (.int 30)]) cv_Pars_46 (dk_Pars_statement 123 rfl) (ci := 5) rfl rfl [.int 30] [] rfl rfl (Nat.le_of_ble_eq_true rfl) (Nat.le_of_ble_eq_true rfl) rfl rfl rfl h (fun u21 h => ?_)
      refine w_aload_n (dk_Pars_statement 124 rfl) rfl ?_
      refine w_iload_n (dk_Pars_statement 125 rfl) rfl ?_
      refine w_callSv (ls' := [some (.ref 36), some (.int x3)]) cv_Pars_205 (dk_Pars_statement 126 rfl) [.ref 36, .int x3] [] rfl rfl (Nat.le_of_ble_eq_true rfl) (Nat.le_of_ble_eq_true rfl) rfl rfl rfl h (fun u23 h => ?_)
      refine w_goto 371 (dk_Pars_statement 127 rfl) (by decide) ?_
      exact h
    · replace h := h.2 c_
      refine w_aload_n (dk_Pars_statement 112 rfl) rfl ?_
      refine w_getr (dk_Pars_statement 113 rfl) lk_Pars_15 rfl rfl rfl ?_
      refine w_callVv (ls' := [some (.ref 10)]) cv_Pars_37 (dk_Pars_statement 114 rfl) (ci := 1) rfl rfl [] [] rfl rfl (Nat.le_of_ble_eq_true rfl) (Nat.le_of_ble_eq_true rfl) rfl rfl rfl h (fun u25 h => ?_)
      refine w_aload_n (dk_Pars_statement 115 rfl) rfl ?_
      refine w_getr (dk_Pars_statement 116 rfl) lk_Pars_192 rfl rfl rfl ?_
      refine w_iload_n (dk_Pars_statement 117 rfl) rfl ?_
      refine w_aload_n (dk_Pars_statement 118 rfl) rfl ?_
      refine w_callVi (ls' := [some (.ref 36), none]) cv_Pars_129 (dk_Pars_statement 119 rfl) (ci := 5) rfl rfl [] [.int x3, .ref 24] rfl rfl (Nat.le_of_ble_eq_true rfl) (Nat.le_of_ble_eq_true rfl) rfl rfl rfl h (fun r26 u27 h => ?_)
      obtain ⟨k28, e_k28, l_k28, h⟩ := h
      refine w_iast (k_ := k28) (dk_Pars_statement 120 rfl) rfl (by decide) e_k28 l_k28 ?_
      refine w_aload_n (dk_Pars_statement 121 rfl) rfl ?_
      refine w_bipush (v := 30) (dk_Pars_statement 122 rfl) rfl ?_
      refine w_callVv (ls' := [some (.ref 36), some (.int 30)]) cv_Pars_46 (dk_Pars_statement 123 rfl) (ci := 5) rfl rfl [.int 30] [] rfl rfl (Nat.le_of_ble_eq_true rfl) (Nat.le_of_ble_eq_true rfl) rfl rfl rfl h (fun u30 h => ?_)
      refine w_aload_n (dk_Pars_statement 124 rfl) rfl ?_
      refine w_iload_n (dk_Pars_statement 125 rfl) rfl ?_
      refine w_callSv (ls' := [some (.ref 36), some (.int x3)]) cv_Pars_205 (dk_Pars_statement 126 rfl) [.ref 36, .int x3] [] rfl rfl (Nat.le_of_ble_eq_true rfl) (Nat.le_of_ble_eq_true rfl) rfl rfl rfl h (fun u32 h => ?_)
      refine w_goto 371 (dk_Pars_statement 127 rfl) (by decide) ?_
      exact h
  replace h := h.2
  by_cases n33 : x2 = 6
  · replace h := h.1 n33
    refine w_tabI ds_Pars_statement_158 134 292 (by rw [n33]; decide) (by decide) ?_
    refine w_aload_n (dk_Pars_statement 128 rfl) rfl ?_
    refine w_iload_n (dk_Pars_statement 129 rfl) rfl ?_
    refine w_callSv (ls' := [some (.ref 36), some (.int x3)]) cv_Pars_205 (dk_Pars_statement 130 rfl) [.ref 36, .int x3] [] rfl rfl (Nat.le_of_ble_eq_true rfl) (Nat.le_of_ble_eq_true rfl) rfl rfl rfl h (fun u35 h => ?_)
    refine w_goto 371 (dk_Pars_statement 131 rfl) (by decide) ?_
    exact h
  replace h := h.2
  by_cases n36 : x2 = 7
  · replace h := h.1 n36
    refine w_tabI ds_Pars_statement_158 142 300 (by rw [n36]; decide) (by decide) ?_
    refine w_aload_n (dk_Pars_statement 132 rfl) rfl ?_
    refine w_iload_n (dk_Pars_statement 133 rfl) rfl ?_
    refine w_callSv (ls' := [some (.ref 36), some (.int x3), none]) cv_Pars_208 (dk_Pars_statement 134 rfl) [.ref 36, .int x3] [] rfl rfl (Nat.le_of_ble_eq_true rfl) (Nat.le_of_ble_eq_true rfl) rfl rfl rfl h (fun u38 h => ?_)
    refine w_goto 371 (dk_Pars_statement 135 rfl) (by decide) ?_
    exact h
  replace h := h.2
  by_cases n39 : x2 = 12
  · replace h := h.1 n39
    refine w_tabI ds_Pars_statement_158 150 308 (by rw [n39]; decide) (by decide) ?_
    refine w_aload_n (dk_Pars_statement 136 rfl) rfl ?_
    refine w_getr (dk_Pars_statement 137 rfl) lk_Pars_192 rfl rfl rfl ?_
    refine w_iload_n (dk_Pars_statement 138 rfl) rfl ?_
    refine w_aload_n (dk_Pars_statement 139 rfl) rfl ?_
    refine w_callVi (ls' := [some (.ref 36), none, none]) cv_Pars_123 (dk_Pars_statement 140 rfl) (ci := 5) rfl rfl [] [.int x3, .ref 24] rfl rfl (Nat.le_of_ble_eq_true rfl) (Nat.le_of_ble_eq_true rfl) rfl rfl rfl h (fun r40 u41 h => ?_)
    obtain ⟨k42, e_k42, l_k42, h⟩ := h
    refine w_iast (k_ := k42) (dk_Pars_statement 141 rfl) rfl (by decide) e_k42 l_k42 ?_
    refine w_goto 371 (dk_Pars_statement 142 rfl) (by decide) ?_
    exact h
  replace h := h.2
  have hn43 : ∀ v ∈ ([0, 1, 2, 4, 5, 6, 7, 12] : List Int32), x2 ≠ v := by
    intro v hv e_
    rw [← e_] at hv
    simp only [List.mem_cons, List.not_mem_nil, or_false] at hv
    rcases hv with hv | hv | hv | hv | hv | hv | hv | hv
    · exact n3 hv
    · exact n6 hv
    · exact n9 (Or.inl hv)
    · exact n9 (Or.inr hv)
    · exact n12 hv
    · exact n33 hv
    · exact n36 hv
    · exact n39 hv
  replace h := h hn43
  refine w_tabD ds_Pars_statement_158 321 [0, 1, 2, 4, 5, 6, 7, 12] (by decide) (by decide) hn43 (by decide) ?_
  refine w_aload_n (dk_Pars_statement 143 rfl) rfl ?_
  refine w_iload_n (dk_Pars_statement 144 rfl) rfl ?_
  refine w_callSv (ls' := [some (.ref 36), some (.int x3)]) cv_Pars_205 (dk_Pars_statement 145 rfl) [.ref 36, .int x3] [] rfl rfl (Nat.le_of_ble_eq_true rfl) (Nat.le_of_ble_eq_true rfl) rfl rfl rfl h (fun u45 h => ?_)
  refine w_aload_n (dk_Pars_statement 146 rfl) rfl ?_
  refine w_getr (dk_Pars_statement 147 rfl) lk_Pars_177 rfl rfl rfl ?_
  refine w_iload_n (dk_Pars_statement 148 rfl) rfl ?_
  refine w_aload_n (dk_Pars_statement 149 rfl) rfl ?_
  refine w_callSi (ls' := [some (.ref 36), none]) cv_Pars_211 (dk_Pars_statement 150 rfl) [.ref 36] [.int x3, .ref 28] rfl rfl (Nat.le_of_ble_eq_true rfl) (Nat.le_of_ble_eq_true rfl) rfl rfl rfl h (fun r46 u47 h => ?_)
  obtain ⟨k48, e_k48, l_k48, h⟩ := h
  refine w_iast (k_ := k48) (dk_Pars_statement 151 rfl) rfl (by decide) e_k48 l_k48 ?_
  refine w_iload_n (dk_Pars_statement 152 rfl) rfl ?_
  refine w_bipush (v := 9) (dk_Pars_statement 153 rfl) rfl ?_
  refine w_icmp_ne 371 (dk_Pars_statement 154 rfl) (by decide) (fun c_ => ?_) (fun c_ => ?_)
  · replace h := h.1 c_
    exact h
  · replace h := h.2 c_
    refine w_aload_n (dk_Pars_statement 155 rfl) rfl ?_
    refine w_getr (dk_Pars_statement 156 rfl) lk_Pars_15 rfl rfl rfl ?_
    refine w_geti (v := aI u47 10 5) (dk_Pars_statement 157 rfl) lk_Pars_31 rfl rfl rfl ?_
    refine w_bipush (v := 10) (dk_Pars_statement 158 rfl) rfl ?_
    refine w_icmp_ne 371 (dk_Pars_statement 159 rfl) (by decide) (fun c_ => ?_) (fun c_ => ?_)
    · replace h := h.1 c_
      exact h
    · replace h := h.2 c_
      refine w_aload_n (dk_Pars_statement 160 rfl) rfl ?_
      refine w_getr (dk_Pars_statement 161 rfl) lk_Pars_15 rfl rfl rfl ?_
      refine w_callVv (ls' := [some (.ref 10), none]) cv_Pars_40 (dk_Pars_statement 162 rfl) (ci := 1) rfl rfl [] [] rfl rfl (Nat.le_of_ble_eq_true rfl) (Nat.le_of_ble_eq_true rfl) rfl rfl rfl h (fun u50 h => ?_)
      refine w_aload_n (dk_Pars_statement 163 rfl) rfl ?_
      refine w_getr (dk_Pars_statement 164 rfl) lk_Pars_180 rfl rfl rfl ?_
      refine w_iload_n (dk_Pars_statement 165 rfl) rfl ?_
      refine w_aload_n (dk_Pars_statement 166 rfl) rfl ?_
      refine w_callSi (ls' := [some (.ref 36), none]) cv_Pars_211 (dk_Pars_statement 167 rfl) [.ref 36] [.int x3, .ref 29] rfl rfl (Nat.le_of_ble_eq_true rfl) (Nat.le_of_ble_eq_true rfl) rfl rfl rfl h (fun r51 u52 h => ?_)
      obtain ⟨k53, e_k53, l_k53, h⟩ := h
      refine w_iast (k_ := k53) (dk_Pars_statement 168 rfl) rfl (by decide) e_k53 l_k53 ?_
      exact h
theorem g_Pars_statement_371 {d : Nat} {u : Us} {Q : Ot → Us → Prop} (x2 : Int32) (x3 : Int32)
    (h : (x2 = 7 → Q (.inl (some (.int x3))) u) ∧ (¬ (x2 = 7) → (x2 = 9 → Q (.inl (some (.int x3))) u) ∧ (¬ (x2 = 9) → (x2 = 11 → Q (.inl (some (.int x3))) u) ∧ (¬ (x2 = 11) → WS d m_Pars_take 0 [some (.ref 36), some (.int 46)] [] u (Rv (fun (u2 : Us) => Q (.inl (some (.int x3))) u2) (fun x u => Q (.inr x) u)))))) :
    WS (d + 1) m_Pars_statement 371 [some (.ref 36), some (.ref 22), some (.int x2), some (.int x3)] [] u Q := by
  refine w_iload_n (dk_Pars_statement 169 rfl) rfl ?_
  refine w_bipush (v := 7) (dk_Pars_statement 170 rfl) rfl ?_
  refine w_icmp_eq 395 (dk_Pars_statement 171 rfl) (by decide) (fun c_ => ?_) (fun c_ => ?_)
  · replace h := h.1 c_
    refine w_iload_n (dk_Pars_statement 181 rfl) rfl ?_
    exact w_iret (dk_Pars_statement 182 rfl) rfl h
  · replace h := h.2 c_
    refine w_iload_n (dk_Pars_statement 172 rfl) rfl ?_
    refine w_bipush (v := 9) (dk_Pars_statement 173 rfl) rfl ?_
    refine w_icmp_eq 395 (dk_Pars_statement 174 rfl) (by decide) (fun c_ => ?_) (fun c_ => ?_)
    · replace h := h.1 c_
      refine w_iload_n (dk_Pars_statement 181 rfl) rfl ?_
      exact w_iret (dk_Pars_statement 182 rfl) rfl h
    · replace h := h.2 c_
      refine w_iload_n (dk_Pars_statement 175 rfl) rfl ?_
      refine w_bipush (v := 11) (dk_Pars_statement 176 rfl) rfl ?_
      refine w_icmp_eq 395 (dk_Pars_statement 177 rfl) (by decide) (fun c_ => ?_) (fun c_ => ?_)
      · replace h := h.1 c_
        refine w_iload_n (dk_Pars_statement 181 rfl) rfl ?_
        exact w_iret (dk_Pars_statement 182 rfl) rfl h
      · replace h := h.2 c_
        refine w_aload_n (dk_Pars_statement 178 rfl) rfl ?_
        refine w_bipush (v := 46) (dk_Pars_statement 179 rfl) rfl ?_
        refine w_callVv (ls' := [some (.ref 36), some (.int 46)]) cv_Pars_46 (dk_Pars_statement 180 rfl) (ci := 5) rfl rfl [.int 46] [] rfl rfl (Nat.le_of_ble_eq_true rfl) (Nat.le_of_ble_eq_true rfl) rfl rfl rfl h (fun u2 h => ?_)
        refine w_iload_n (dk_Pars_statement 181 rfl) rfl ?_
        exact w_iret (dk_Pars_statement 182 rfl) rfl h
theorem g_Pars_cursor_0 {d : Nat} {u : Us} {Q : Ot → Us → Prop} 
    (h : WS d m_Pars_name 0 [some (.ref 36)] [] u (Ri (fun (r1 : Int32) (u2 : Us) => WS d m_Mean_kindOf 0 [some (.ref 2), some (.int r1), none] [] u2 (Ri (fun (r3 : Int32) (u4 : Us) => WS (d + 1) m_Pars_cursor 19 [some (.ref 36), some (.int r3), some (.int ((aI u4 36 5) - 1))] [] u4 Q) (fun x u => Q (.inr x) u))) (fun x u => Q (.inr x) u))) :
    WS (d + 1) m_Pars_cursor 0 [some (.ref 36), none, none] [] u Q := by
  refine w_aload_n (dk_Pars_cursor 0 rfl) rfl ?_
  refine w_getr (dk_Pars_cursor 1 rfl) lk_Pars_19 rfl rfl rfl ?_
  refine w_aload_n (dk_Pars_cursor 2 rfl) rfl ?_
  refine w_callVi (ls' := [some (.ref 36)]) cv_Pars_59 (dk_Pars_cursor 3 rfl) (ci := 5) rfl rfl [] [.ref 2] rfl rfl (Nat.le_of_ble_eq_true rfl) (Nat.le_of_ble_eq_true rfl) rfl rfl rfl h (fun r1 u2 h => ?_)
  refine w_callVi (ls' := [some (.ref 2), some (.int r1), none]) cv_Pars_53 (dk_Pars_cursor 4 rfl) (ci := 0) rfl rfl [.int r1] [] rfl rfl (Nat.le_of_ble_eq_true rfl) (Nat.le_of_ble_eq_true rfl) rfl rfl rfl h (fun r3 u4 h => ?_)
  refine w_istore_n (ls' := [some (.ref 36), some (.int r3), none]) (dk_Pars_cursor 5 rfl) (by decide) rfl ?_
  refine w_aload_n (dk_Pars_cursor 6 rfl) rfl ?_
  refine w_geti (v := aI u4 36 5) (dk_Pars_cursor 7 rfl) lk_Pars_67 rfl rfl rfl ?_
  refine w_iconst (v := 1) (dk_Pars_cursor 8 rfl) rfl ?_
  refine w_isub (dk_Pars_cursor 9 rfl) ?_
  refine w_istore_n (ls' := [some (.ref 36), some (.int r3), some (.int ((aI u4 36 5) - 1))]) (dk_Pars_cursor 10 rfl) (by decide) rfl ?_
  exact h
theorem g_Pars_cursor_19 {d : Nat} {u : Us} {Q : Ot → Us → Prop} (x1 : Int32) (x2 : Int32)
    (h : (x2 < 0 → (x1 < 0 → WS d m_Scan_fail 0 [some (.ref 10)] [] u (Rv (fun (u2 : Us) => WS d m_Scan_next 0 [some (.ref 10), none] [] u2 (Rv (fun (u4 : Us) => Q (.inl (some (.int x2))) u4) (fun x u => Q (.inr x) u))) (fun x u => Q (.inr x) u))) ∧ (¬ (x1 < 0) → (0 ≤ x2 → WS d m_Scan_next 0 [some (.ref 10), none] [] u (Rv (fun (u6 : Us) => Q (.inl (some (.int x2))) u6) (fun x u => Q (.inr x) u))) ∧ (¬ (0 ≤ x2) → WS d m_Scan_fail 0 [some (.ref 10)] [] u (Rv (fun (u8 : Us) => WS d m_Scan_next 0 [some (.ref 10), none] [] u8 (Rv (fun (u10 : Us) => Q (.inl (some (.int x2))) u10) (fun x u => Q (.inr x) u))) (fun x u => Q (.inr x) u))))) ∧ (¬ (x2 < 0) → ∃ k11 : Nat, x2 = nI k11 ∧ k11 < 10 ∧ (((aI u 37 k11) = x1 → (x1 < 0 → WS d m_Scan_fail 0 [some (.ref 10)] [] u (Rv (fun (u13 : Us) => WS d m_Scan_next 0 [some (.ref 10), none] [] u13 (Rv (fun (u15 : Us) => Q (.inl (some (.int x2))) u15) (fun x u => Q (.inr x) u))) (fun x u => Q (.inr x) u))) ∧ (¬ (x1 < 0) → (0 ≤ x2 → WS d m_Scan_next 0 [some (.ref 10), none] [] u (Rv (fun (u17 : Us) => Q (.inl (some (.int x2))) u17) (fun x u => Q (.inr x) u))) ∧ (¬ (0 ≤ x2) → WS d m_Scan_fail 0 [some (.ref 10)] [] u (Rv (fun (u19 : Us) => WS d m_Scan_next 0 [some (.ref 10), none] [] u19 (Rv (fun (u21 : Us) => Q (.inl (some (.int x2))) u21) (fun x u => Q (.inr x) u))) (fun x u => Q (.inr x) u))))) ∧ (¬ ((aI u 37 k11) = x1) → WS (d + 1) m_Pars_cursor 19 [some (.ref 36), some (.int x1), some (.int (x2 + (-1)))] [] u Q)))) :
    WS (d + 1) m_Pars_cursor 19 [some (.ref 36), some (.int x1), some (.int x2)] [] u Q := by
  refine w_iload_n (dk_Pars_cursor 11 rfl) rfl ?_
  refine w_if_lt 39 (dk_Pars_cursor 12 rfl) (by decide) (fun c_ => ?_) (fun c_ => ?_)
  · replace h := h.1 c_
    refine w_iload_n (dk_Pars_cursor 21 rfl) rfl ?_
    refine w_if_lt 47 (dk_Pars_cursor 22 rfl) (by decide) (fun c_ => ?_) (fun c_ => ?_)
    · replace h := h.1 c_
      refine w_aload_n (dk_Pars_cursor 25 rfl) rfl ?_
      refine w_getr (dk_Pars_cursor 26 rfl) lk_Pars_15 rfl rfl rfl ?_
      refine w_callVv (ls' := [some (.ref 10)]) cv_Pars_37 (dk_Pars_cursor 27 rfl) (ci := 1) rfl rfl [] [] rfl rfl (Nat.le_of_ble_eq_true rfl) (Nat.le_of_ble_eq_true rfl) rfl rfl rfl h (fun u2 h => ?_)
      refine w_aload_n (dk_Pars_cursor 28 rfl) rfl ?_
      refine w_getr (dk_Pars_cursor 29 rfl) lk_Pars_15 rfl rfl rfl ?_
      refine w_callVv (ls' := [some (.ref 10), none]) cv_Pars_40 (dk_Pars_cursor 30 rfl) (ci := 1) rfl rfl [] [] rfl rfl (Nat.le_of_ble_eq_true rfl) (Nat.le_of_ble_eq_true rfl) rfl rfl rfl h (fun u4 h => ?_)
      refine w_iload_n (dk_Pars_cursor 31 rfl) rfl ?_
      exact w_iret (dk_Pars_cursor 32 rfl) rfl h
    · replace h := h.2 c_
      refine w_iload_n (dk_Pars_cursor 23 rfl) rfl ?_
      refine w_if_ge 54 (dk_Pars_cursor 24 rfl) (by decide) (fun c_ => ?_) (fun c_ => ?_)
      · replace h := h.1 c_
        refine w_aload_n (dk_Pars_cursor 28 rfl) rfl ?_
        refine w_getr (dk_Pars_cursor 29 rfl) lk_Pars_15 rfl rfl rfl ?_
        refine w_callVv (ls' := [some (.ref 10), none]) cv_Pars_40 (dk_Pars_cursor 30 rfl) (ci := 1) rfl rfl [] [] rfl rfl (Nat.le_of_ble_eq_true rfl) (Nat.le_of_ble_eq_true rfl) rfl rfl rfl h (fun u6 h => ?_)
        refine w_iload_n (dk_Pars_cursor 31 rfl) rfl ?_
        exact w_iret (dk_Pars_cursor 32 rfl) rfl h
      · replace h := h.2 c_
        refine w_aload_n (dk_Pars_cursor 25 rfl) rfl ?_
        refine w_getr (dk_Pars_cursor 26 rfl) lk_Pars_15 rfl rfl rfl ?_
        refine w_callVv (ls' := [some (.ref 10)]) cv_Pars_37 (dk_Pars_cursor 27 rfl) (ci := 1) rfl rfl [] [] rfl rfl (Nat.le_of_ble_eq_true rfl) (Nat.le_of_ble_eq_true rfl) rfl rfl rfl h (fun u8 h => ?_)
        refine w_aload_n (dk_Pars_cursor 28 rfl) rfl ?_
        refine w_getr (dk_Pars_cursor 29 rfl) lk_Pars_15 rfl rfl rfl ?_
        refine w_callVv (ls' := [some (.ref 10), none]) cv_Pars_40 (dk_Pars_cursor 30 rfl) (ci := 1) rfl rfl [] [] rfl rfl (Nat.le_of_ble_eq_true rfl) (Nat.le_of_ble_eq_true rfl) rfl rfl rfl h (fun u10 h => ?_)
        refine w_iload_n (dk_Pars_cursor 31 rfl) rfl ?_
        exact w_iret (dk_Pars_cursor 32 rfl) rfl h
  · replace h := h.2 c_
    refine w_aload_n (dk_Pars_cursor 13 rfl) rfl ?_
    refine w_getr (dk_Pars_cursor 14 rfl) lk_Pars_9 rfl rfl rfl ?_
    refine w_iload_n (dk_Pars_cursor 15 rfl) rfl ?_
    obtain ⟨k11, e_k11, l_k11, h⟩ := h
    refine w_iald (k_ := k11) (dk_Pars_cursor 16 rfl) rfl (by decide) e_k11 l_k11 ?_
    refine w_iload_n (dk_Pars_cursor 17 rfl) rfl ?_
    refine w_icmp_eq 39 (dk_Pars_cursor 18 rfl) (by decide) (fun c_ => ?_) (fun c_ => ?_)
    · replace h := h.1 c_
      refine w_iload_n (dk_Pars_cursor 21 rfl) rfl ?_
      refine w_if_lt 47 (dk_Pars_cursor 22 rfl) (by decide) (fun c_ => ?_) (fun c_ => ?_)
      · replace h := h.1 c_
        refine w_aload_n (dk_Pars_cursor 25 rfl) rfl ?_
        refine w_getr (dk_Pars_cursor 26 rfl) lk_Pars_15 rfl rfl rfl ?_
        refine w_callVv (ls' := [some (.ref 10)]) cv_Pars_37 (dk_Pars_cursor 27 rfl) (ci := 1) rfl rfl [] [] rfl rfl (Nat.le_of_ble_eq_true rfl) (Nat.le_of_ble_eq_true rfl) rfl rfl rfl h (fun u13 h => ?_)
        refine w_aload_n (dk_Pars_cursor 28 rfl) rfl ?_
        refine w_getr (dk_Pars_cursor 29 rfl) lk_Pars_15 rfl rfl rfl ?_
        refine w_callVv (ls' := [some (.ref 10), none]) cv_Pars_40 (dk_Pars_cursor 30 rfl) (ci := 1) rfl rfl [] [] rfl rfl (Nat.le_of_ble_eq_true rfl) (Nat.le_of_ble_eq_true rfl) rfl rfl rfl h (fun u15 h => ?_)
        refine w_iload_n (dk_Pars_cursor 31 rfl) rfl ?_
        exact w_iret (dk_Pars_cursor 32 rfl) rfl h
      · replace h := h.2 c_
        refine w_iload_n (dk_Pars_cursor 23 rfl) rfl ?_
        refine w_if_ge 54 (dk_Pars_cursor 24 rfl) (by decide) (fun c_ => ?_) (fun c_ => ?_)
        · replace h := h.1 c_
          refine w_aload_n (dk_Pars_cursor 28 rfl) rfl ?_
          refine w_getr (dk_Pars_cursor 29 rfl) lk_Pars_15 rfl rfl rfl ?_
          refine w_callVv (ls' := [some (.ref 10), none]) cv_Pars_40 (dk_Pars_cursor 30 rfl) (ci := 1) rfl rfl [] [] rfl rfl (Nat.le_of_ble_eq_true rfl) (Nat.le_of_ble_eq_true rfl) rfl rfl rfl h (fun u17 h => ?_)
          refine w_iload_n (dk_Pars_cursor 31 rfl) rfl ?_
          exact w_iret (dk_Pars_cursor 32 rfl) rfl h
        · replace h := h.2 c_
          refine w_aload_n (dk_Pars_cursor 25 rfl) rfl ?_
          refine w_getr (dk_Pars_cursor 26 rfl) lk_Pars_15 rfl rfl rfl ?_
          refine w_callVv (ls' := [some (.ref 10)]) cv_Pars_37 (dk_Pars_cursor 27 rfl) (ci := 1) rfl rfl [] [] rfl rfl (Nat.le_of_ble_eq_true rfl) (Nat.le_of_ble_eq_true rfl) rfl rfl rfl h (fun u19 h => ?_)
          refine w_aload_n (dk_Pars_cursor 28 rfl) rfl ?_
          refine w_getr (dk_Pars_cursor 29 rfl) lk_Pars_15 rfl rfl rfl ?_
          refine w_callVv (ls' := [some (.ref 10), none]) cv_Pars_40 (dk_Pars_cursor 30 rfl) (ci := 1) rfl rfl [] [] rfl rfl (Nat.le_of_ble_eq_true rfl) (Nat.le_of_ble_eq_true rfl) rfl rfl rfl h (fun u21 h => ?_)
          refine w_iload_n (dk_Pars_cursor 31 rfl) rfl ?_
          exact w_iret (dk_Pars_cursor 32 rfl) rfl h
    · replace h := h.2 c_
      refine w_iinc (v := x2 + (-1)) (ls' := [some (.ref 36), some (.int x1), some (.int (x2 + (-1)))]) (dk_Pars_cursor 19 rfl) rfl rfl (by decide) rfl ?_
      refine w_goto 19 (dk_Pars_cursor 20 rfl) (by decide) ?_
      exact h
theorem g_Pars_name_0 {d : Nat} {u : Us} {Q : Ot → Us → Prop} 
    (h : ((aI u 10 5) = 20 → Q (.inl (some (.int (aI u 10 6)))) u) ∧ (¬ ((aI u 10 5) = 20) → WS d m_Scan_fail 0 [some (.ref 10)] [] u (Rv (fun (u2 : Us) => Q (.inl (some (.int (aI u2 10 6)))) u2) (fun x u => Q (.inr x) u)))) :
    WS (d + 1) m_Pars_name 0 [some (.ref 36)] [] u Q := by
  refine w_aload_n (dk_Pars_name 0 rfl) rfl ?_
  refine w_getr (dk_Pars_name 1 rfl) lk_Pars_15 rfl rfl rfl ?_
  refine w_geti (v := aI u 10 5) (dk_Pars_name 2 rfl) lk_Pars_31 rfl rfl rfl ?_
  refine w_bipush (v := 20) (dk_Pars_name 3 rfl) rfl ?_
  refine w_icmp_eq 19 (dk_Pars_name 4 rfl) (by decide) (fun c_ => ?_) (fun c_ => ?_)
  · replace h := h.1 c_
    refine w_aload_n (dk_Pars_name 8 rfl) rfl ?_
    refine w_getr (dk_Pars_name 9 rfl) lk_Pars_15 rfl rfl rfl ?_
    refine w_geti (v := aI u 10 6) (dk_Pars_name 10 rfl) lk_Pars_50 rfl rfl rfl ?_
    exact w_iret (dk_Pars_name 11 rfl) rfl h
  · replace h := h.2 c_
    refine w_aload_n (dk_Pars_name 5 rfl) rfl ?_
    refine w_getr (dk_Pars_name 6 rfl) lk_Pars_15 rfl rfl rfl ?_
    refine w_callVv (ls' := [some (.ref 10)]) cv_Pars_37 (dk_Pars_name 7 rfl) (ci := 1) rfl rfl [] [] rfl rfl (Nat.le_of_ble_eq_true rfl) (Nat.le_of_ble_eq_true rfl) rfl rfl rfl h (fun u2 h => ?_)
    refine w_aload_n (dk_Pars_name 8 rfl) rfl ?_
    refine w_getr (dk_Pars_name 9 rfl) lk_Pars_15 rfl rfl rfl ?_
    refine w_geti (v := aI u2 10 6) (dk_Pars_name 10 rfl) lk_Pars_50 rfl rfl rfl ?_
    exact w_iret (dk_Pars_name 11 rfl) rfl h
theorem g_Pars_take_0 {d : Nat} {u : Us} {Q : Ot → Us → Prop} (p1 : Int32)
    (h : ((aI u 10 5) = p1 → WS d m_Scan_next 0 [some (.ref 10), none] [] u (Rv (fun (u2 : Us) => Q (.inl none) u2) (fun x u => Q (.inr x) u))) ∧ (¬ ((aI u 10 5) = p1) → WS d m_Scan_fail 0 [some (.ref 10)] [] u (Rv (fun (u4 : Us) => WS d m_Scan_next 0 [some (.ref 10), none] [] u4 (Rv (fun (u6 : Us) => Q (.inl none) u6) (fun x u => Q (.inr x) u))) (fun x u => Q (.inr x) u)))) :
    WS (d + 1) m_Pars_take 0 [some (.ref 36), some (.int p1)] [] u Q := by
  refine w_aload_n (dk_Pars_take 0 rfl) rfl ?_
  refine w_getr (dk_Pars_take 1 rfl) lk_Pars_15 rfl rfl rfl ?_
  refine w_geti (v := aI u 10 5) (dk_Pars_take 2 rfl) lk_Pars_31 rfl rfl rfl ?_
  refine w_iload_n (dk_Pars_take 3 rfl) rfl ?_
  refine w_icmp_eq 18 (dk_Pars_take 4 rfl) (by decide) (fun c_ => ?_) (fun c_ => ?_)
  · replace h := h.1 c_
    refine w_aload_n (dk_Pars_take 8 rfl) rfl ?_
    refine w_getr (dk_Pars_take 9 rfl) lk_Pars_15 rfl rfl rfl ?_
    refine w_callVv (ls' := [some (.ref 10), none]) cv_Pars_40 (dk_Pars_take 10 rfl) (ci := 1) rfl rfl [] [] rfl rfl (Nat.le_of_ble_eq_true rfl) (Nat.le_of_ble_eq_true rfl) rfl rfl rfl h (fun u2 h => ?_)
    exact w_vret (dk_Pars_take 11 rfl) rfl h
  · replace h := h.2 c_
    refine w_aload_n (dk_Pars_take 5 rfl) rfl ?_
    refine w_getr (dk_Pars_take 6 rfl) lk_Pars_15 rfl rfl rfl ?_
    refine w_callVv (ls' := [some (.ref 10)]) cv_Pars_37 (dk_Pars_take 7 rfl) (ci := 1) rfl rfl [] [] rfl rfl (Nat.le_of_ble_eq_true rfl) (Nat.le_of_ble_eq_true rfl) rfl rfl rfl h (fun u4 h => ?_)
    refine w_aload_n (dk_Pars_take 8 rfl) rfl ?_
    refine w_getr (dk_Pars_take 9 rfl) lk_Pars_15 rfl rfl rfl ?_
    refine w_callVv (ls' := [some (.ref 10), none]) cv_Pars_40 (dk_Pars_take 10 rfl) (ci := 1) rfl rfl [] [] rfl rfl (Nat.le_of_ble_eq_true rfl) (Nat.le_of_ble_eq_true rfl) rfl rfl rfl h (fun u6 h => ?_)
    exact w_vret (dk_Pars_take 11 rfl) rfl h
theorem g_Pars_field_0 {d : Nat} {u : Us} {Q : Ot → Us → Prop} (p1 : Int32)
    (h : WS d m_Pars_name 0 [some (.ref 36)] [] u (Ri (fun (r1 : Int32) (u2 : Us) => WS d m_Mean_fieldOf 0 [some (.ref 2), some (.int p1), some (.int r1), none] [] u2 (Ri (fun (r3 : Int32) (u4 : Us) => (0 ≤ r3 → WS d m_Scan_next 0 [some (.ref 10), none] [] u4 (Rv (fun (u6 : Us) => Q (.inl (some (.int r3))) u6) (fun x u => Q (.inr x) u))) ∧ (¬ (0 ≤ r3) → WS d m_Scan_fail 0 [some (.ref 10)] [] u4 (Rv (fun (u8 : Us) => WS d m_Scan_next 0 [some (.ref 10), none] [] u8 (Rv (fun (u10 : Us) => Q (.inl (some (.int r3))) u10) (fun x u => Q (.inr x) u))) (fun x u => Q (.inr x) u)))) (fun x u => Q (.inr x) u))) (fun x u => Q (.inr x) u))) :
    WS (d + 1) m_Pars_field 0 [some (.ref 36), some (.int p1), none] [] u Q := by
  refine w_aload_n (dk_Pars_field 0 rfl) rfl ?_
  refine w_getr (dk_Pars_field 1 rfl) lk_Pars_19 rfl rfl rfl ?_
  refine w_iload_n (dk_Pars_field 2 rfl) rfl ?_
  refine w_aload_n (dk_Pars_field 3 rfl) rfl ?_
  refine w_callVi (ls' := [some (.ref 36)]) cv_Pars_59 (dk_Pars_field 4 rfl) (ci := 5) rfl rfl [] [.int p1, .ref 2] rfl rfl (Nat.le_of_ble_eq_true rfl) (Nat.le_of_ble_eq_true rfl) rfl rfl rfl h (fun r1 u2 h => ?_)
  refine w_callVi (ls' := [some (.ref 2), some (.int p1), some (.int r1), none]) cv_Pars_63 (dk_Pars_field 5 rfl) (ci := 0) rfl rfl [.int p1, .int r1] [] rfl rfl (Nat.le_of_ble_eq_true rfl) (Nat.le_of_ble_eq_true rfl) rfl rfl rfl h (fun r3 u4 h => ?_)
  refine w_istore_n (ls' := [some (.ref 36), some (.int p1), some (.int r3)]) (dk_Pars_field 6 rfl) (by decide) rfl ?_
  refine w_iload_n (dk_Pars_field 7 rfl) rfl ?_
  refine w_if_ge 24 (dk_Pars_field 8 rfl) (by decide) (fun c_ => ?_) (fun c_ => ?_)
  · replace h := h.1 c_
    refine w_aload_n (dk_Pars_field 12 rfl) rfl ?_
    refine w_getr (dk_Pars_field 13 rfl) lk_Pars_15 rfl rfl rfl ?_
    refine w_callVv (ls' := [some (.ref 10), none]) cv_Pars_40 (dk_Pars_field 14 rfl) (ci := 1) rfl rfl [] [] rfl rfl (Nat.le_of_ble_eq_true rfl) (Nat.le_of_ble_eq_true rfl) rfl rfl rfl h (fun u6 h => ?_)
    refine w_iload_n (dk_Pars_field 15 rfl) rfl ?_
    exact w_iret (dk_Pars_field 16 rfl) rfl h
  · replace h := h.2 c_
    refine w_aload_n (dk_Pars_field 9 rfl) rfl ?_
    refine w_getr (dk_Pars_field 10 rfl) lk_Pars_15 rfl rfl rfl ?_
    refine w_callVv (ls' := [some (.ref 10)]) cv_Pars_37 (dk_Pars_field 11 rfl) (ci := 1) rfl rfl [] [] rfl rfl (Nat.le_of_ble_eq_true rfl) (Nat.le_of_ble_eq_true rfl) rfl rfl rfl h (fun u8 h => ?_)
    refine w_aload_n (dk_Pars_field 12 rfl) rfl ?_
    refine w_getr (dk_Pars_field 13 rfl) lk_Pars_15 rfl rfl rfl ?_
    refine w_callVv (ls' := [some (.ref 10), none]) cv_Pars_40 (dk_Pars_field 14 rfl) (ci := 1) rfl rfl [] [] rfl rfl (Nat.le_of_ble_eq_true rfl) (Nat.le_of_ble_eq_true rfl) rfl rfl rfl h (fun u10 h => ?_)
    refine w_iload_n (dk_Pars_field 15 rfl) rfl ?_
    exact w_iret (dk_Pars_field 16 rfl) rfl h
theorem g_Pars_puts_0 {d : Nat} {u : Us} {Q : Ot → Us → Prop} (p1 : Int32) (p2 : Int32)
    (h : WS d m_Pars_take 0 [some (.ref 36), some (.int 30)] [] u (Rv (fun (u2 : Us) => ∃ k3 : Nat, aI u2 22 14 = nI k3 ∧ k3 < 150 ∧ (∃ k4 : Nat, aI u2 22 14 = nI k4 ∧ k4 < 150 ∧ (WS d m_Pars_either 0 [some (.ref 36)] [] (uI (uI (uI u2 22 14 ((aI u2 22 14) + 1)) 33 k3 p2) 34 k4 (aI u2 14 2)) (Rv (fun (u6 : Us) => ∃ k7 : Nat, aI u2 22 14 = nI k7 ∧ k7 < 150 ∧ (∃ k8 : Nat, p1 = nI k8 ∧ k8 < 160 ∧ (∃ k9 : Nat, p1 = nI k9 ∧ k9 < 160 ∧ (Q (.inl none) (uI (uI u6 35 k7 (aI u6 14 2)) 32 k9 ((aI u6 32 k8) + 1)))))) (fun x u => Q (.inr x) u))))) (fun x u => Q (.inr x) u))) :
    WS (d + 1) m_Pars_puts 0 [some (.ref 36), some (.int p1), some (.int p2), none] [] u Q := by
  refine w_aload_n (dk_Pars_puts 0 rfl) rfl ?_
  refine w_bipush (v := 30) (dk_Pars_puts 1 rfl) rfl ?_
  refine w_callVv (ls' := [some (.ref 36), some (.int 30)]) cv_Pars_46 (dk_Pars_puts 2 rfl) (ci := 5) rfl rfl [.int 30] [] rfl rfl (Nat.le_of_ble_eq_true rfl) (Nat.le_of_ble_eq_true rfl) rfl rfl rfl h (fun u2 h => ?_)
  refine w_aload_n (dk_Pars_puts 3 rfl) rfl ?_
  refine w_getr (dk_Pars_puts 4 rfl) lk_Pars_27 rfl rfl rfl ?_
  refine w_dup (dk_Pars_puts 5 rfl) rfl ?_
  refine w_geti (v := aI u2 22 14) (dk_Pars_puts 6 rfl) lk_Pars_186 rfl rfl rfl ?_
  refine w_dup_x1 (dk_Pars_puts 7 rfl) rfl rfl ?_
  refine w_iconst (v := 1) (dk_Pars_puts 8 rfl) rfl ?_
  refine w_iadd (dk_Pars_puts 9 rfl) ?_
  refine w_puti (dk_Pars_puts 10 rfl) lk_Pars_186 rfl rfl ?_
  refine w_istore_n (ls' := [some (.ref 36), some (.int p1), some (.int p2), some (.int (aI u2 22 14))]) (dk_Pars_puts 11 rfl) (by decide) rfl ?_
  refine w_aload_n (dk_Pars_puts 12 rfl) rfl ?_
  refine w_getr (dk_Pars_puts 13 rfl) lk_Pars_27 rfl rfl rfl ?_
  refine w_getr (dk_Pars_puts 14 rfl) lk_Pars_228 rfl rfl rfl ?_
  refine w_iload_n (dk_Pars_puts 15 rfl) rfl ?_
  refine w_iload_n (dk_Pars_puts 16 rfl) rfl ?_
  obtain ⟨k3, e_k3, l_k3, h⟩ := h
  refine w_iast (k_ := k3) (dk_Pars_puts 17 rfl) rfl (by decide) e_k3 l_k3 ?_
  refine w_aload_n (dk_Pars_puts 18 rfl) rfl ?_
  refine w_getr (dk_Pars_puts 19 rfl) lk_Pars_27 rfl rfl rfl ?_
  refine w_getr (dk_Pars_puts 20 rfl) lk_Pars_231 rfl rfl rfl ?_
  refine w_iload_n (dk_Pars_puts 21 rfl) rfl ?_
  refine w_aload_n (dk_Pars_puts 22 rfl) rfl ?_
  refine w_getr (dk_Pars_puts 23 rfl) lk_Pars_23 rfl rfl rfl ?_
  refine w_geti (v := aI u2 14 2) (dk_Pars_puts 24 rfl) lk_Pars_140 rfl rfl rfl ?_
  obtain ⟨k4, e_k4, l_k4, h⟩ := h
  refine w_iast (k_ := k4) (dk_Pars_puts 25 rfl) rfl (by decide) e_k4 l_k4 ?_
  refine w_aload_n (dk_Pars_puts 26 rfl) rfl ?_
  refine w_callSv (ls' := [some (.ref 36)]) cv_Pars_108 (dk_Pars_puts 27 rfl) [.ref 36] [] rfl rfl (Nat.le_of_ble_eq_true rfl) (Nat.le_of_ble_eq_true rfl) rfl rfl rfl h (fun u6 h => ?_)
  refine w_aload_n (dk_Pars_puts 28 rfl) rfl ?_
  refine w_getr (dk_Pars_puts 29 rfl) lk_Pars_27 rfl rfl rfl ?_
  refine w_getr (dk_Pars_puts 30 rfl) lk_Pars_234 rfl rfl rfl ?_
  refine w_iload_n (dk_Pars_puts 31 rfl) rfl ?_
  refine w_aload_n (dk_Pars_puts 32 rfl) rfl ?_
  refine w_getr (dk_Pars_puts 33 rfl) lk_Pars_23 rfl rfl rfl ?_
  refine w_geti (v := aI u6 14 2) (dk_Pars_puts 34 rfl) lk_Pars_140 rfl rfl rfl ?_
  obtain ⟨k7, e_k7, l_k7, h⟩ := h
  refine w_iast (k_ := k7) (dk_Pars_puts 35 rfl) rfl (by decide) e_k7 l_k7 ?_
  refine w_aload_n (dk_Pars_puts 36 rfl) rfl ?_
  refine w_getr (dk_Pars_puts 37 rfl) lk_Pars_27 rfl rfl rfl ?_
  refine w_getr (dk_Pars_puts 38 rfl) lk_Pars_189 rfl rfl rfl ?_
  refine w_iload_n (dk_Pars_puts 39 rfl) rfl ?_
  refine w_dup2 (dk_Pars_puts 40 rfl) rfl rfl ?_
  obtain ⟨k8, e_k8, l_k8, h⟩ := h
  refine w_iald (k_ := k8) (dk_Pars_puts 41 rfl) rfl (by decide) e_k8 l_k8 ?_
  show WS _ _ _ _ [.int (aI u6 32 k8), .int p1, .ref 32] _ _
  refine w_iconst (v := 1) (dk_Pars_puts 42 rfl) rfl ?_
  refine w_iadd (dk_Pars_puts 43 rfl) ?_
  obtain ⟨k9, e_k9, l_k9, h⟩ := h
  refine w_iast (k_ := k9) (dk_Pars_puts 44 rfl) rfl (by decide) e_k9 l_k9 ?_
  exact w_vret (dk_Pars_puts 45 rfl) rfl h
theorem g_Pars_either_0 {d : Nat} {u : Us} {Q : Ot → Us → Prop} 
    (h : WS d m_Pars_both 0 [some (.ref 36)] [] u (Rv (fun (u2 : Us) => WS (d + 1) m_Pars_either 4 [some (.ref 36)] [] u2 Q) (fun x u => Q (.inr x) u))) :
    WS (d + 1) m_Pars_either 0 [some (.ref 36)] [] u Q := by
  refine w_aload_n (dk_Pars_either 0 rfl) rfl ?_
  refine w_callSv (ls' := [some (.ref 36)]) cv_Pars_81 (dk_Pars_either 1 rfl) [.ref 36] [] rfl rfl (Nat.le_of_ble_eq_true rfl) (Nat.le_of_ble_eq_true rfl) rfl rfl rfl h (fun u2 h => ?_)
  exact h
theorem g_Pars_either_4 {d : Nat} {u : Us} {Q : Ot → Us → Prop} 
    (h : ((aI u 10 5) ≠ 14 → Q (.inl none) u) ∧ ((aI u 10 5) = 14 → WS d m_Scan_next 0 [some (.ref 10), none] [] u (Rv (fun (u2 : Us) => WS d m_Pars_both 0 [some (.ref 36)] [] u2 (Rv (fun (u4 : Us) => WS d m_Code_add 0 [some (.ref 14), some (.int 14), some (.int 0)] [] u4 (Ri (fun (r5 : Int32) (u6 : Us) => WS (d + 1) m_Pars_either 4 [some (.ref 36)] [] u6 Q) (fun x u => Q (.inr x) u))) (fun x u => Q (.inr x) u))) (fun x u => Q (.inr x) u)))) :
    WS (d + 1) m_Pars_either 4 [some (.ref 36)] [] u Q := by
  refine w_aload_n (dk_Pars_either 2 rfl) rfl ?_
  refine w_getr (dk_Pars_either 3 rfl) lk_Pars_15 rfl rfl rfl ?_
  refine w_geti (v := aI u 10 5) (dk_Pars_either 4 rfl) lk_Pars_31 rfl rfl rfl ?_
  refine w_bipush (v := 14) (dk_Pars_either 5 rfl) rfl ?_
  refine w_icmp_ne 41 (dk_Pars_either 6 rfl) (by decide) (fun c_ => ?_) (fun c_ => ?_)
  · replace h := h.1 c_
    exact w_vret (dk_Pars_either 19 rfl) rfl h
  · replace h := h.2 c_
    refine w_aload_n (dk_Pars_either 7 rfl) rfl ?_
    refine w_getr (dk_Pars_either 8 rfl) lk_Pars_15 rfl rfl rfl ?_
    refine w_callVv (ls' := [some (.ref 10), none]) cv_Pars_40 (dk_Pars_either 9 rfl) (ci := 1) rfl rfl [] [] rfl rfl (Nat.le_of_ble_eq_true rfl) (Nat.le_of_ble_eq_true rfl) rfl rfl rfl h (fun u2 h => ?_)
    refine w_aload_n (dk_Pars_either 10 rfl) rfl ?_
    refine w_callSv (ls' := [some (.ref 36)]) cv_Pars_81 (dk_Pars_either 11 rfl) [.ref 36] [] rfl rfl (Nat.le_of_ble_eq_true rfl) (Nat.le_of_ble_eq_true rfl) rfl rfl rfl h (fun u4 h => ?_)
    refine w_aload_n (dk_Pars_either 12 rfl) rfl ?_
    refine w_getr (dk_Pars_either 13 rfl) lk_Pars_23 rfl rfl rfl ?_
    refine w_bipush (v := 14) (dk_Pars_either 14 rfl) rfl ?_
    refine w_iconst (v := 0) (dk_Pars_either 15 rfl) rfl ?_
    refine w_callVi (ls' := [some (.ref 14), some (.int 14), some (.int 0)]) cv_Pars_85 (dk_Pars_either 16 rfl) (ci := 3) rfl rfl [.int 14, .int 0] [] rfl rfl (Nat.le_of_ble_eq_true rfl) (Nat.le_of_ble_eq_true rfl) rfl rfl rfl h (fun r5 u6 h => ?_)
    refine w_pop (dk_Pars_either 17 rfl) rfl ?_
    refine w_goto 4 (dk_Pars_either 18 rfl) (by decide) ?_
    exact h
theorem g_Pars_both_0 {d : Nat} {u : Us} {Q : Ot → Us → Prop} 
    (h : WS d m_Pars_negation 0 [some (.ref 36), none, none, none] [] u (Rv (fun (u2 : Us) => WS (d + 1) m_Pars_both 4 [some (.ref 36)] [] u2 Q) (fun x u => Q (.inr x) u))) :
    WS (d + 1) m_Pars_both 0 [some (.ref 36)] [] u Q := by
  refine w_aload_n (dk_Pars_both 0 rfl) rfl ?_
  refine w_callSv (ls' := [some (.ref 36), none, none, none]) cv_Pars_90 (dk_Pars_both 1 rfl) [.ref 36] [] rfl rfl (Nat.le_of_ble_eq_true rfl) (Nat.le_of_ble_eq_true rfl) rfl rfl rfl h (fun u2 h => ?_)
  exact h
theorem g_Pars_both_4 {d : Nat} {u : Us} {Q : Ot → Us → Prop} 
    (h : ((aI u 10 5) ≠ 13 → Q (.inl none) u) ∧ ((aI u 10 5) = 13 → WS d m_Scan_next 0 [some (.ref 10), none] [] u (Rv (fun (u2 : Us) => WS d m_Pars_negation 0 [some (.ref 36), none, none, none] [] u2 (Rv (fun (u4 : Us) => WS d m_Code_add 0 [some (.ref 14), some (.int 13), some (.int 0)] [] u4 (Ri (fun (r5 : Int32) (u6 : Us) => WS (d + 1) m_Pars_both 4 [some (.ref 36)] [] u6 Q) (fun x u => Q (.inr x) u))) (fun x u => Q (.inr x) u))) (fun x u => Q (.inr x) u)))) :
    WS (d + 1) m_Pars_both 4 [some (.ref 36)] [] u Q := by
  refine w_aload_n (dk_Pars_both 2 rfl) rfl ?_
  refine w_getr (dk_Pars_both 3 rfl) lk_Pars_15 rfl rfl rfl ?_
  refine w_geti (v := aI u 10 5) (dk_Pars_both 4 rfl) lk_Pars_31 rfl rfl rfl ?_
  refine w_bipush (v := 13) (dk_Pars_both 5 rfl) rfl ?_
  refine w_icmp_ne 41 (dk_Pars_both 6 rfl) (by decide) (fun c_ => ?_) (fun c_ => ?_)
  · replace h := h.1 c_
    exact w_vret (dk_Pars_both 19 rfl) rfl h
  · replace h := h.2 c_
    refine w_aload_n (dk_Pars_both 7 rfl) rfl ?_
    refine w_getr (dk_Pars_both 8 rfl) lk_Pars_15 rfl rfl rfl ?_
    refine w_callVv (ls' := [some (.ref 10), none]) cv_Pars_40 (dk_Pars_both 9 rfl) (ci := 1) rfl rfl [] [] rfl rfl (Nat.le_of_ble_eq_true rfl) (Nat.le_of_ble_eq_true rfl) rfl rfl rfl h (fun u2 h => ?_)
    refine w_aload_n (dk_Pars_both 10 rfl) rfl ?_
    refine w_callSv (ls' := [some (.ref 36), none, none, none]) cv_Pars_90 (dk_Pars_both 11 rfl) [.ref 36] [] rfl rfl (Nat.le_of_ble_eq_true rfl) (Nat.le_of_ble_eq_true rfl) rfl rfl rfl h (fun u4 h => ?_)
    refine w_aload_n (dk_Pars_both 12 rfl) rfl ?_
    refine w_getr (dk_Pars_both 13 rfl) lk_Pars_23 rfl rfl rfl ?_
    refine w_bipush (v := 13) (dk_Pars_both 14 rfl) rfl ?_
    refine w_iconst (v := 0) (dk_Pars_both 15 rfl) rfl ?_
    refine w_callVi (ls' := [some (.ref 14), some (.int 13), some (.int 0)]) cv_Pars_85 (dk_Pars_both 16 rfl) (ci := 3) rfl rfl [.int 13, .int 0] [] rfl rfl (Nat.le_of_ble_eq_true rfl) (Nat.le_of_ble_eq_true rfl) rfl rfl rfl h (fun r5 u6 h => ?_)
    refine w_pop (dk_Pars_both 17 rfl) rfl ?_
    refine w_goto 4 (dk_Pars_both 18 rfl) (by decide) ?_
    exact h
theorem g_Pars_negation_0 {d : Nat} {u : Us} {Q : Ot → Us → Prop} 
    (h : WS (d + 1) m_Pars_negation 2 [some (.ref 36), some (.int 0), none, none] [] u Q) :
    WS (d + 1) m_Pars_negation 0 [some (.ref 36), none, none, none] [] u Q := by
  refine w_iconst (v := 0) (dk_Pars_negation 0 rfl) rfl ?_
  refine w_istore_n (ls' := [some (.ref 36), some (.int 0), none, none]) (dk_Pars_negation 1 rfl) (by decide) rfl ?_
  exact h
theorem g_Pars_negation_2 {d : Nat} {u : Us} {Q : Ot → Us → Prop} (x1 : Int32)
    (h : ((aI u 10 5) ≠ 15 → WS d m_Pars_sum 0 [some (.ref 36), none] [] u (Rv (fun (u2 : Us) => ((aI u2 10 5) < 30 → WS (d + 1) m_Pars_negation 74 [some (.ref 36), some (.int x1), some (.int (aI u2 10 5)), some (.int 0)] [] u2 Q) ∧ (¬ ((aI u2 10 5) < 30) → (35 < (aI u2 10 5) → WS (d + 1) m_Pars_negation 74 [some (.ref 36), some (.int x1), some (.int (aI u2 10 5)), some (.int 0)] [] u2 Q) ∧ (¬ (35 < (aI u2 10 5)) → WS d m_Scan_next 0 [some (.ref 10), none] [] u2 (Rv (fun (u4 : Us) => WS d m_Pars_sum 0 [some (.ref 36), none] [] u4 (Rv (fun (u6 : Us) => WS d m_Code_add 0 [some (.ref 14), some (.int (aI u2 10 5)), some (.int 0)] [] u6 (Ri (fun (r7 : Int32) (u8 : Us) => WS (d + 1) m_Pars_negation 74 [some (.ref 36), some (.int x1), some (.int (aI u2 10 5)), some (.int 0)] [] u8 Q) (fun x u => Q (.inr x) u))) (fun x u => Q (.inr x) u))) (fun x u => Q (.inr x) u))))) (fun x u => Q (.inr x) u))) ∧ ((aI u 10 5) = 15 → WS d m_Scan_next 0 [some (.ref 10), none] [] u (Rv (fun (u10 : Us) => WS (d + 1) m_Pars_negation 2 [some (.ref 36), some (.int (x1 + 1)), none, none] [] u10 Q) (fun x u => Q (.inr x) u)))) :
    WS (d + 1) m_Pars_negation 2 [some (.ref 36), some (.int x1), none, none] [] u Q := by
  refine w_aload_n (dk_Pars_negation 2 rfl) rfl ?_
  refine w_getr (dk_Pars_negation 3 rfl) lk_Pars_15 rfl rfl rfl ?_
  refine w_geti (v := aI u 10 5) (dk_Pars_negation 4 rfl) lk_Pars_31 rfl rfl rfl ?_
  refine w_bipush (v := 15) (dk_Pars_negation 5 rfl) rfl ?_
  refine w_icmp_ne 27 (dk_Pars_negation 6 rfl) (by decide) (fun c_ => ?_) (fun c_ => ?_)
  · replace h := h.1 c_
    refine w_aload_n (dk_Pars_negation 12 rfl) rfl ?_
    refine w_callSv (ls' := [some (.ref 36), none]) cv_Pars_93 (dk_Pars_negation 13 rfl) [.ref 36] [] rfl rfl (Nat.le_of_ble_eq_true rfl) (Nat.le_of_ble_eq_true rfl) rfl rfl rfl h (fun u2 h => ?_)
    refine w_aload_n (dk_Pars_negation 14 rfl) rfl ?_
    refine w_getr (dk_Pars_negation 15 rfl) lk_Pars_15 rfl rfl rfl ?_
    refine w_geti (v := aI u2 10 5) (dk_Pars_negation 16 rfl) lk_Pars_31 rfl rfl rfl ?_
    refine w_istore_n (ls' := [some (.ref 36), some (.int x1), some (.int (aI u2 10 5)), none]) (dk_Pars_negation 17 rfl) (by decide) rfl ?_
    refine w_iload_n (dk_Pars_negation 18 rfl) rfl ?_
    refine w_bipush (v := 30) (dk_Pars_negation 19 rfl) rfl ?_
    refine w_icmp_lt 72 (dk_Pars_negation 20 rfl) (by decide) (fun c_ => ?_) (fun c_ => ?_)
    · replace h := h.1 c_
      refine w_iconst (v := 0) (dk_Pars_negation 35 rfl) rfl ?_
      refine w_istore_n (ls' := [some (.ref 36), some (.int x1), some (.int (aI u2 10 5)), some (.int 0)]) (dk_Pars_negation 36 rfl) (by decide) rfl ?_
      exact h
    · replace h := h.2 c_
      refine w_iload_n (dk_Pars_negation 21 rfl) rfl ?_
      refine w_bipush (v := 35) (dk_Pars_negation 22 rfl) rfl ?_
      refine w_icmp_gt 72 (dk_Pars_negation 23 rfl) (by decide) (fun c_ => ?_) (fun c_ => ?_)
      · replace h := h.1 c_
        refine w_iconst (v := 0) (dk_Pars_negation 35 rfl) rfl ?_
        refine w_istore_n (ls' := [some (.ref 36), some (.int x1), some (.int (aI u2 10 5)), some (.int 0)]) (dk_Pars_negation 36 rfl) (by decide) rfl ?_
        exact h
      · replace h := h.2 c_
        refine w_aload_n (dk_Pars_negation 24 rfl) rfl ?_
        refine w_getr (dk_Pars_negation 25 rfl) lk_Pars_15 rfl rfl rfl ?_
        refine w_callVv (ls' := [some (.ref 10), none]) cv_Pars_40 (dk_Pars_negation 26 rfl) (ci := 1) rfl rfl [] [] rfl rfl (Nat.le_of_ble_eq_true rfl) (Nat.le_of_ble_eq_true rfl) rfl rfl rfl h (fun u4 h => ?_)
        refine w_aload_n (dk_Pars_negation 27 rfl) rfl ?_
        refine w_callSv (ls' := [some (.ref 36), none]) cv_Pars_93 (dk_Pars_negation 28 rfl) [.ref 36] [] rfl rfl (Nat.le_of_ble_eq_true rfl) (Nat.le_of_ble_eq_true rfl) rfl rfl rfl h (fun u6 h => ?_)
        refine w_aload_n (dk_Pars_negation 29 rfl) rfl ?_
        refine w_getr (dk_Pars_negation 30 rfl) lk_Pars_23 rfl rfl rfl ?_
        refine w_iload_n (dk_Pars_negation 31 rfl) rfl ?_
        refine w_iconst (v := 0) (dk_Pars_negation 32 rfl) rfl ?_
        refine w_callVi (ls' := [some (.ref 14), some (.int (aI u2 10 5)), some (.int 0)]) cv_Pars_85 (dk_Pars_negation 33 rfl) (ci := 3) rfl rfl [.int (aI u2 10 5), .int 0] [] rfl rfl (Nat.le_of_ble_eq_true rfl) (Nat.le_of_ble_eq_true rfl) rfl rfl rfl h (fun r7 u8 h => ?_)
        refine w_pop (dk_Pars_negation 34 rfl) rfl ?_
        refine w_iconst (v := 0) (dk_Pars_negation 35 rfl) rfl ?_
        refine w_istore_n (ls' := [some (.ref 36), some (.int x1), some (.int (aI u2 10 5)), some (.int 0)]) (dk_Pars_negation 36 rfl) (by decide) rfl ?_
        exact h
  · replace h := h.2 c_
    refine w_iinc (v := x1 + 1) (ls' := [some (.ref 36), some (.int (x1 + 1)), none, none]) (dk_Pars_negation 7 rfl) rfl rfl (by decide) rfl ?_
    refine w_aload_n (dk_Pars_negation 8 rfl) rfl ?_
    refine w_getr (dk_Pars_negation 9 rfl) lk_Pars_15 rfl rfl rfl ?_
    refine w_callVv (ls' := [some (.ref 10), none]) cv_Pars_40 (dk_Pars_negation 10 rfl) (ci := 1) rfl rfl [] [] rfl rfl (Nat.le_of_ble_eq_true rfl) (Nat.le_of_ble_eq_true rfl) rfl rfl rfl h (fun u10 h => ?_)
    refine w_goto 2 (dk_Pars_negation 11 rfl) (by decide) ?_
    exact h
theorem g_Pars_negation_74 {d : Nat} {u : Us} {Q : Ot → Us → Prop} (x1 : Int32) (x2 : Int32) (x3 : Int32)
    (h : (x1 ≤ 2 → (x1 ≤ x3 → Q (.inl none) u) ∧ (¬ (x1 ≤ x3) → WS d m_Code_add 0 [some (.ref 14), some (.int 15), some (.int 0)] [] u (Ri (fun (r1 : Int32) (u2 : Us) => WS (d + 1) m_Pars_negation 74 [some (.ref 36), some (.int x1), some (.int x2), some (.int (x3 + 1))] [] u2 Q) (fun x u => Q (.inr x) u)))) ∧ (¬ (x1 ≤ 2) → ((2 - (x1 - x1 / 2 * 2)) ≤ x3 → Q (.inl none) u) ∧ (¬ ((2 - (x1 - x1 / 2 * 2)) ≤ x3) → WS d m_Code_add 0 [some (.ref 14), some (.int 15), some (.int 0)] [] u (Ri (fun (r3 : Int32) (u4 : Us) => WS (d + 1) m_Pars_negation 74 [some (.ref 36), some (.int x1), some (.int x2), some (.int (x3 + 1))] [] u4 Q) (fun x u => Q (.inr x) u))))) :
    WS (d + 1) m_Pars_negation 74 [some (.ref 36), some (.int x1), some (.int x2), some (.int x3)] [] u Q := by
  refine w_iload_n (dk_Pars_negation 37 rfl) rfl ?_
  refine w_iload_n (dk_Pars_negation 38 rfl) rfl ?_
  refine w_iconst (v := 2) (dk_Pars_negation 39 rfl) rfl ?_
  refine w_icmp_le 88 (dk_Pars_negation 40 rfl) (by decide) (fun c_ => ?_) (fun c_ => ?_)
  · replace h := h.1 c_
    refine w_iload_n (dk_Pars_negation 47 rfl) rfl ?_
    refine w_icmp_ge 109 (dk_Pars_negation 48 rfl) (by decide) (fun c_ => ?_) (fun c_ => ?_)
    · replace h := h.1 c_
      exact w_vret (dk_Pars_negation 57 rfl) rfl h
    · replace h := h.2 c_
      refine w_aload_n (dk_Pars_negation 49 rfl) rfl ?_
      refine w_getr (dk_Pars_negation 50 rfl) lk_Pars_23 rfl rfl rfl ?_
      refine w_bipush (v := 15) (dk_Pars_negation 51 rfl) rfl ?_
      refine w_iconst (v := 0) (dk_Pars_negation 52 rfl) rfl ?_
      refine w_callVi (ls' := [some (.ref 14), some (.int 15), some (.int 0)]) cv_Pars_85 (dk_Pars_negation 53 rfl) (ci := 3) rfl rfl [.int 15, .int 0] [] rfl rfl (Nat.le_of_ble_eq_true rfl) (Nat.le_of_ble_eq_true rfl) rfl rfl rfl h (fun r1 u2 h => ?_)
      refine w_pop (dk_Pars_negation 54 rfl) rfl ?_
      refine w_iinc (v := x3 + 1) (ls' := [some (.ref 36), some (.int x1), some (.int x2), some (.int (x3 + 1))]) (dk_Pars_negation 55 rfl) rfl rfl (by decide) rfl ?_
      refine w_goto 74 (dk_Pars_negation 56 rfl) (by decide) ?_
      exact h
  · replace h := h.2 c_
    refine w_iconst (v := 2) (dk_Pars_negation 41 rfl) rfl ?_
    refine w_iload_n (dk_Pars_negation 42 rfl) rfl ?_
    refine w_iconst (v := 2) (dk_Pars_negation 43 rfl) rfl ?_
    refine w_irem (dk_Pars_negation 44 rfl) (by decide) ?_
    refine w_isub (dk_Pars_negation 45 rfl) ?_
    refine w_goto 89 (dk_Pars_negation 46 rfl) (by decide) ?_
    refine w_icmp_ge 109 (dk_Pars_negation 48 rfl) (by decide) (fun c_ => ?_) (fun c_ => ?_)
    · replace h := h.1 c_
      exact w_vret (dk_Pars_negation 57 rfl) rfl h
    · replace h := h.2 c_
      refine w_aload_n (dk_Pars_negation 49 rfl) rfl ?_
      refine w_getr (dk_Pars_negation 50 rfl) lk_Pars_23 rfl rfl rfl ?_
      refine w_bipush (v := 15) (dk_Pars_negation 51 rfl) rfl ?_
      refine w_iconst (v := 0) (dk_Pars_negation 52 rfl) rfl ?_
      refine w_callVi (ls' := [some (.ref 14), some (.int 15), some (.int 0)]) cv_Pars_85 (dk_Pars_negation 53 rfl) (ci := 3) rfl rfl [.int 15, .int 0] [] rfl rfl (Nat.le_of_ble_eq_true rfl) (Nat.le_of_ble_eq_true rfl) rfl rfl rfl h (fun r3 u4 h => ?_)
      refine w_pop (dk_Pars_negation 54 rfl) rfl ?_
      refine w_iinc (v := x3 + 1) (ls' := [some (.ref 36), some (.int x1), some (.int x2), some (.int (x3 + 1))]) (dk_Pars_negation 55 rfl) rfl rfl (by decide) rfl ?_
      refine w_goto 74 (dk_Pars_negation 56 rfl) (by decide) ?_
      exact h
theorem g_Pars_sum_0 {d : Nat} {u : Us} {Q : Ot → Us → Prop} 
    (h : WS d m_Pars_product 0 [some (.ref 36), none] [] u (Rv (fun (u2 : Us) => WS (d + 1) m_Pars_sum 4 [some (.ref 36), none] [] u2 Q) (fun x u => Q (.inr x) u))) :
    WS (d + 1) m_Pars_sum 0 [some (.ref 36), none] [] u Q := by
  refine w_aload_n (dk_Pars_sum 0 rfl) rfl ?_
  refine w_callSv (ls' := [some (.ref 36), none]) cv_Pars_96 (dk_Pars_sum 1 rfl) [.ref 36] [] rfl rfl (Nat.le_of_ble_eq_true rfl) (Nat.le_of_ble_eq_true rfl) rfl rfl rfl h (fun u2 h => ?_)
  exact h
theorem g_Pars_sum_4 {d : Nat} {u : Us} {Q : Ot → Us → Prop} 
    (h : ((aI u 10 5) = 36 → WS d m_Scan_next 0 [some (.ref 10), none] [] u (Rv (fun (u2 : Us) => WS d m_Pars_product 0 [some (.ref 36), none] [] u2 (Rv (fun (u4 : Us) => WS d m_Code_add 0 [some (.ref 14), some (.int (aI u 10 5)), some (.int 0)] [] u4 (Ri (fun (r5 : Int32) (u6 : Us) => WS (d + 1) m_Pars_sum 4 [some (.ref 36), some (.int (aI u 10 5))] [] u6 Q) (fun x u => Q (.inr x) u))) (fun x u => Q (.inr x) u))) (fun x u => Q (.inr x) u))) ∧ (¬ ((aI u 10 5) = 36) → ((aI u 10 5) ≠ 37 → Q (.inl none) u) ∧ ((aI u 10 5) = 37 → WS d m_Scan_next 0 [some (.ref 10), none] [] u (Rv (fun (u8 : Us) => WS d m_Pars_product 0 [some (.ref 36), none] [] u8 (Rv (fun (u10 : Us) => WS d m_Code_add 0 [some (.ref 14), some (.int (aI u 10 5)), some (.int 0)] [] u10 (Ri (fun (r11 : Int32) (u12 : Us) => WS (d + 1) m_Pars_sum 4 [some (.ref 36), some (.int (aI u 10 5))] [] u12 Q) (fun x u => Q (.inr x) u))) (fun x u => Q (.inr x) u))) (fun x u => Q (.inr x) u))))) :
    WS (d + 1) m_Pars_sum 4 [some (.ref 36), none] [] u Q := by
  refine w_aload_n (dk_Pars_sum 2 rfl) rfl ?_
  refine w_getr (dk_Pars_sum 3 rfl) lk_Pars_15 rfl rfl rfl ?_
  refine w_geti (v := aI u 10 5) (dk_Pars_sum 4 rfl) lk_Pars_31 rfl rfl rfl ?_
  refine w_bipush (v := 36) (dk_Pars_sum 5 rfl) rfl ?_
  refine w_icmp_eq 28 (dk_Pars_sum 6 rfl) (by decide) (fun c_ => ?_) (fun c_ => ?_)
  · replace h := h.1 c_
    refine w_aload_n (dk_Pars_sum 12 rfl) rfl ?_
    refine w_getr (dk_Pars_sum 13 rfl) lk_Pars_15 rfl rfl rfl ?_
    refine w_geti (v := aI u 10 5) (dk_Pars_sum 14 rfl) lk_Pars_31 rfl rfl rfl ?_
    refine w_istore_n (ls' := [some (.ref 36), some (.int (aI u 10 5))]) (dk_Pars_sum 15 rfl) (by decide) rfl ?_
    refine w_aload_n (dk_Pars_sum 16 rfl) rfl ?_
    refine w_getr (dk_Pars_sum 17 rfl) lk_Pars_15 rfl rfl rfl ?_
    refine w_callVv (ls' := [some (.ref 10), none]) cv_Pars_40 (dk_Pars_sum 18 rfl) (ci := 1) rfl rfl [] [] rfl rfl (Nat.le_of_ble_eq_true rfl) (Nat.le_of_ble_eq_true rfl) rfl rfl rfl h (fun u2 h => ?_)
    refine w_aload_n (dk_Pars_sum 19 rfl) rfl ?_
    refine w_callSv (ls' := [some (.ref 36), none]) cv_Pars_96 (dk_Pars_sum 20 rfl) [.ref 36] [] rfl rfl (Nat.le_of_ble_eq_true rfl) (Nat.le_of_ble_eq_true rfl) rfl rfl rfl h (fun u4 h => ?_)
    refine w_aload_n (dk_Pars_sum 21 rfl) rfl ?_
    refine w_getr (dk_Pars_sum 22 rfl) lk_Pars_23 rfl rfl rfl ?_
    refine w_iload_n (dk_Pars_sum 23 rfl) rfl ?_
    refine w_iconst (v := 0) (dk_Pars_sum 24 rfl) rfl ?_
    refine w_callVi (ls' := [some (.ref 14), some (.int (aI u 10 5)), some (.int 0)]) cv_Pars_85 (dk_Pars_sum 25 rfl) (ci := 3) rfl rfl [.int (aI u 10 5), .int 0] [] rfl rfl (Nat.le_of_ble_eq_true rfl) (Nat.le_of_ble_eq_true rfl) rfl rfl rfl h (fun r5 u6 h => ?_)
    refine w_pop (dk_Pars_sum 26 rfl) rfl ?_
    refine w_goto 4 (dk_Pars_sum 27 rfl) (by decide) ?_
    exact h
  · replace h := h.2 c_
    refine w_aload_n (dk_Pars_sum 7 rfl) rfl ?_
    refine w_getr (dk_Pars_sum 8 rfl) lk_Pars_15 rfl rfl rfl ?_
    refine w_geti (v := aI u 10 5) (dk_Pars_sum 9 rfl) lk_Pars_31 rfl rfl rfl ?_
    refine w_bipush (v := 37) (dk_Pars_sum 10 rfl) rfl ?_
    refine w_icmp_ne 60 (dk_Pars_sum 11 rfl) (by decide) (fun c_ => ?_) (fun c_ => ?_)
    · replace h := h.1 c_
      exact w_vret (dk_Pars_sum 28 rfl) rfl h
    · replace h := h.2 c_
      refine w_aload_n (dk_Pars_sum 12 rfl) rfl ?_
      refine w_getr (dk_Pars_sum 13 rfl) lk_Pars_15 rfl rfl rfl ?_
      refine w_geti (v := aI u 10 5) (dk_Pars_sum 14 rfl) lk_Pars_31 rfl rfl rfl ?_
      refine w_istore_n (ls' := [some (.ref 36), some (.int (aI u 10 5))]) (dk_Pars_sum 15 rfl) (by decide) rfl ?_
      refine w_aload_n (dk_Pars_sum 16 rfl) rfl ?_
      refine w_getr (dk_Pars_sum 17 rfl) lk_Pars_15 rfl rfl rfl ?_
      refine w_callVv (ls' := [some (.ref 10), none]) cv_Pars_40 (dk_Pars_sum 18 rfl) (ci := 1) rfl rfl [] [] rfl rfl (Nat.le_of_ble_eq_true rfl) (Nat.le_of_ble_eq_true rfl) rfl rfl rfl h (fun u8 h => ?_)
      refine w_aload_n (dk_Pars_sum 19 rfl) rfl ?_
      refine w_callSv (ls' := [some (.ref 36), none]) cv_Pars_96 (dk_Pars_sum 20 rfl) [.ref 36] [] rfl rfl (Nat.le_of_ble_eq_true rfl) (Nat.le_of_ble_eq_true rfl) rfl rfl rfl h (fun u10 h => ?_)
      refine w_aload_n (dk_Pars_sum 21 rfl) rfl ?_
      refine w_getr (dk_Pars_sum 22 rfl) lk_Pars_23 rfl rfl rfl ?_
      refine w_iload_n (dk_Pars_sum 23 rfl) rfl ?_
      refine w_iconst (v := 0) (dk_Pars_sum 24 rfl) rfl ?_
      refine w_callVi (ls' := [some (.ref 14), some (.int (aI u 10 5)), some (.int 0)]) cv_Pars_85 (dk_Pars_sum 25 rfl) (ci := 3) rfl rfl [.int (aI u 10 5), .int 0] [] rfl rfl (Nat.le_of_ble_eq_true rfl) (Nat.le_of_ble_eq_true rfl) rfl rfl rfl h (fun r11 u12 h => ?_)
      refine w_pop (dk_Pars_sum 26 rfl) rfl ?_
      refine w_goto 4 (dk_Pars_sum 27 rfl) (by decide) ?_
      exact h
theorem g_Pars_product_0 {d : Nat} {u : Us} {Q : Ot → Us → Prop} 
    (h : WS d m_Pars_signed 0 [some (.ref 36), none] [] u (Rv (fun (u2 : Us) => WS (d + 1) m_Pars_product 4 [some (.ref 36), none] [] u2 Q) (fun x u => Q (.inr x) u))) :
    WS (d + 1) m_Pars_product 0 [some (.ref 36), none] [] u Q := by
  refine w_aload_n (dk_Pars_product 0 rfl) rfl ?_
  refine w_callSv (ls' := [some (.ref 36), none]) cv_Pars_99 (dk_Pars_product 1 rfl) [.ref 36] [] rfl rfl (Nat.le_of_ble_eq_true rfl) (Nat.le_of_ble_eq_true rfl) rfl rfl rfl h (fun u2 h => ?_)
  exact h
theorem g_Pars_product_4 {d : Nat} {u : Us} {Q : Ot → Us → Prop} 
    (h : ((aI u 10 5) < 38 → Q (.inl none) u) ∧ (¬ ((aI u 10 5) < 38) → (40 < (aI u 10 5) → Q (.inl none) u) ∧ (¬ (40 < (aI u 10 5)) → WS d m_Scan_next 0 [some (.ref 10), none] [] u (Rv (fun (u2 : Us) => WS d m_Pars_signed 0 [some (.ref 36), none] [] u2 (Rv (fun (u4 : Us) => WS d m_Code_add 0 [some (.ref 14), some (.int (aI u 10 5)), some (.int 0)] [] u4 (Ri (fun (r5 : Int32) (u6 : Us) => WS (d + 1) m_Pars_product 4 [some (.ref 36), some (.int (aI u 10 5))] [] u6 Q) (fun x u => Q (.inr x) u))) (fun x u => Q (.inr x) u))) (fun x u => Q (.inr x) u))))) :
    WS (d + 1) m_Pars_product 4 [some (.ref 36), none] [] u Q := by
  refine w_aload_n (dk_Pars_product 2 rfl) rfl ?_
  refine w_getr (dk_Pars_product 3 rfl) lk_Pars_15 rfl rfl rfl ?_
  refine w_geti (v := aI u 10 5) (dk_Pars_product 4 rfl) lk_Pars_31 rfl rfl rfl ?_
  refine w_bipush (v := 38) (dk_Pars_product 5 rfl) rfl ?_
  refine w_icmp_lt 60 (dk_Pars_product 6 rfl) (by decide) (fun c_ => ?_) (fun c_ => ?_)
  · replace h := h.1 c_
    exact w_vret (dk_Pars_product 28 rfl) rfl h
  · replace h := h.2 c_
    refine w_aload_n (dk_Pars_product 7 rfl) rfl ?_
    refine w_getr (dk_Pars_product 8 rfl) lk_Pars_15 rfl rfl rfl ?_
    refine w_geti (v := aI u 10 5) (dk_Pars_product 9 rfl) lk_Pars_31 rfl rfl rfl ?_
    refine w_bipush (v := 40) (dk_Pars_product 10 rfl) rfl ?_
    refine w_icmp_gt 60 (dk_Pars_product 11 rfl) (by decide) (fun c_ => ?_) (fun c_ => ?_)
    · replace h := h.1 c_
      exact w_vret (dk_Pars_product 28 rfl) rfl h
    · replace h := h.2 c_
      refine w_aload_n (dk_Pars_product 12 rfl) rfl ?_
      refine w_getr (dk_Pars_product 13 rfl) lk_Pars_15 rfl rfl rfl ?_
      refine w_geti (v := aI u 10 5) (dk_Pars_product 14 rfl) lk_Pars_31 rfl rfl rfl ?_
      refine w_istore_n (ls' := [some (.ref 36), some (.int (aI u 10 5))]) (dk_Pars_product 15 rfl) (by decide) rfl ?_
      refine w_aload_n (dk_Pars_product 16 rfl) rfl ?_
      refine w_getr (dk_Pars_product 17 rfl) lk_Pars_15 rfl rfl rfl ?_
      refine w_callVv (ls' := [some (.ref 10), none]) cv_Pars_40 (dk_Pars_product 18 rfl) (ci := 1) rfl rfl [] [] rfl rfl (Nat.le_of_ble_eq_true rfl) (Nat.le_of_ble_eq_true rfl) rfl rfl rfl h (fun u2 h => ?_)
      refine w_aload_n (dk_Pars_product 19 rfl) rfl ?_
      refine w_callSv (ls' := [some (.ref 36), none]) cv_Pars_99 (dk_Pars_product 20 rfl) [.ref 36] [] rfl rfl (Nat.le_of_ble_eq_true rfl) (Nat.le_of_ble_eq_true rfl) rfl rfl rfl h (fun u4 h => ?_)
      refine w_aload_n (dk_Pars_product 21 rfl) rfl ?_
      refine w_getr (dk_Pars_product 22 rfl) lk_Pars_23 rfl rfl rfl ?_
      refine w_iload_n (dk_Pars_product 23 rfl) rfl ?_
      refine w_iconst (v := 0) (dk_Pars_product 24 rfl) rfl ?_
      refine w_callVi (ls' := [some (.ref 14), some (.int (aI u 10 5)), some (.int 0)]) cv_Pars_85 (dk_Pars_product 25 rfl) (ci := 3) rfl rfl [.int (aI u 10 5), .int 0] [] rfl rfl (Nat.le_of_ble_eq_true rfl) (Nat.le_of_ble_eq_true rfl) rfl rfl rfl h (fun r5 u6 h => ?_)
      refine w_pop (dk_Pars_product 26 rfl) rfl ?_
      refine w_goto 4 (dk_Pars_product 27 rfl) (by decide) ?_
      exact h
theorem g_Pars_signed_0 {d : Nat} {u : Us} {Q : Ot → Us → Prop} 
    (h : WS (d + 1) m_Pars_signed 2 [some (.ref 36), some (.int 0)] [] u Q) :
    WS (d + 1) m_Pars_signed 0 [some (.ref 36), none] [] u Q := by
  refine w_iconst (v := 0) (dk_Pars_signed 0 rfl) rfl ?_
  refine w_istore_n (ls' := [some (.ref 36), some (.int 0)]) (dk_Pars_signed 1 rfl) (by decide) rfl ?_
  exact h
theorem g_Pars_signed_2 {d : Nat} {u : Us} {Q : Ot → Us → Prop} (x1 : Int32)
    (h : ((aI u 10 5) ≠ 37 → WS d m_Pars_atom 0 [some (.ref 36), none] [] u (Rv (fun (u2 : Us) => (x1 = 0 → Q (.inl none) u2) ∧ (¬ (x1 = 0) → WS d m_Code_add 0 [some (.ref 14), some (.int 54), some (.int 0)] [] u2 (Ri (fun (r3 : Int32) (u4 : Us) => Q (.inl none) u4) (fun x u => Q (.inr x) u)))) (fun x u => Q (.inr x) u))) ∧ ((aI u 10 5) = 37 → (x1 ≠ 0 → WS d m_Scan_next 0 [some (.ref 10), none] [] u (Rv (fun (u6 : Us) => WS (d + 1) m_Pars_signed 2 [some (.ref 36), some (.int 0)] [] u6 Q) (fun x u => Q (.inr x) u))) ∧ (x1 = 0 → WS d m_Scan_next 0 [some (.ref 10), none] [] u (Rv (fun (u8 : Us) => WS (d + 1) m_Pars_signed 2 [some (.ref 36), some (.int 1)] [] u8 Q) (fun x u => Q (.inr x) u))))) :
    WS (d + 1) m_Pars_signed 2 [some (.ref 36), some (.int x1)] [] u Q := by
  refine w_aload_n (dk_Pars_signed 2 rfl) rfl ?_
  refine w_getr (dk_Pars_signed 3 rfl) lk_Pars_15 rfl rfl rfl ?_
  refine w_geti (v := aI u 10 5) (dk_Pars_signed 4 rfl) lk_Pars_31 rfl rfl rfl ?_
  refine w_bipush (v := 37) (dk_Pars_signed 5 rfl) rfl ?_
  refine w_icmp_ne 34 (dk_Pars_signed 6 rfl) (by decide) (fun c_ => ?_) (fun c_ => ?_)
  · replace h := h.1 c_
    refine w_aload_n (dk_Pars_signed 17 rfl) rfl ?_
    refine w_callSv (ls' := [some (.ref 36), none]) cv_Pars_102 (dk_Pars_signed 18 rfl) [.ref 36] [] rfl rfl (Nat.le_of_ble_eq_true rfl) (Nat.le_of_ble_eq_true rfl) rfl rfl rfl h (fun u2 h => ?_)
    refine w_iload_n (dk_Pars_signed 19 rfl) rfl ?_
    refine w_if_eq 53 (dk_Pars_signed 20 rfl) (by decide) (fun c_ => ?_) (fun c_ => ?_)
    · replace h := h.1 c_
      exact w_vret (dk_Pars_signed 27 rfl) rfl h
    · replace h := h.2 c_
      refine w_aload_n (dk_Pars_signed 21 rfl) rfl ?_
      refine w_getr (dk_Pars_signed 22 rfl) lk_Pars_23 rfl rfl rfl ?_
      refine w_bipush (v := 54) (dk_Pars_signed 23 rfl) rfl ?_
      refine w_iconst (v := 0) (dk_Pars_signed 24 rfl) rfl ?_
      refine w_callVi (ls' := [some (.ref 14), some (.int 54), some (.int 0)]) cv_Pars_85 (dk_Pars_signed 25 rfl) (ci := 3) rfl rfl [.int 54, .int 0] [] rfl rfl (Nat.le_of_ble_eq_true rfl) (Nat.le_of_ble_eq_true rfl) rfl rfl rfl h (fun r3 u4 h => ?_)
      refine w_pop (dk_Pars_signed 26 rfl) rfl ?_
      exact w_vret (dk_Pars_signed 27 rfl) rfl h
  · replace h := h.2 c_
    refine w_iload_n (dk_Pars_signed 7 rfl) rfl ?_
    refine w_if_ne 22 (dk_Pars_signed 8 rfl) (by decide) (fun c_ => ?_) (fun c_ => ?_)
    · replace h := h.1 c_
      refine w_iconst (v := 0) (dk_Pars_signed 11 rfl) rfl ?_
      refine w_istore_n (ls' := [some (.ref 36), some (.int 0)]) (dk_Pars_signed 12 rfl) (by decide) rfl ?_
      refine w_aload_n (dk_Pars_signed 13 rfl) rfl ?_
      refine w_getr (dk_Pars_signed 14 rfl) lk_Pars_15 rfl rfl rfl ?_
      refine w_callVv (ls' := [some (.ref 10), none]) cv_Pars_40 (dk_Pars_signed 15 rfl) (ci := 1) rfl rfl [] [] rfl rfl (Nat.le_of_ble_eq_true rfl) (Nat.le_of_ble_eq_true rfl) rfl rfl rfl h (fun u6 h => ?_)
      refine w_goto 2 (dk_Pars_signed 16 rfl) (by decide) ?_
      exact h
    · replace h := h.2 c_
      refine w_iconst (v := 1) (dk_Pars_signed 9 rfl) rfl ?_
      refine w_goto 23 (dk_Pars_signed 10 rfl) (by decide) ?_
      refine w_istore_n (ls' := [some (.ref 36), some (.int 1)]) (dk_Pars_signed 12 rfl) (by decide) rfl ?_
      refine w_aload_n (dk_Pars_signed 13 rfl) rfl ?_
      refine w_getr (dk_Pars_signed 14 rfl) lk_Pars_15 rfl rfl rfl ?_
      refine w_callVv (ls' := [some (.ref 10), none]) cv_Pars_40 (dk_Pars_signed 15 rfl) (ci := 1) rfl rfl [] [] rfl rfl (Nat.le_of_ble_eq_true rfl) (Nat.le_of_ble_eq_true rfl) rfl rfl rfl h (fun u8 h => ?_)
      refine w_goto 2 (dk_Pars_signed 16 rfl) (by decide) ?_
      exact h
theorem g_Pars_atom_0 {d : Nat} {u : Us} {Q : Ot → Us → Prop} 
    (h : ((aI u 10 5) ≠ 21 → ((aI u 10 5) ≠ 41 → ((aI u 10 5) < 16 → WS d m_Pars_name 0 [some (.ref 36)] [] u (Ri (fun (r1 : Int32) (u2 : Us) => WS d m_Pars_named 0 [some (.ref 36), some (.int r1), none, none] [] u2 (Rv (fun (u4 : Us) => Q (.inl none) u4) (fun x u => Q (.inr x) u))) (fun x u => Q (.inr x) u))) ∧ (¬ ((aI u 10 5) < 16) → (19 < (aI u 10 5) → WS d m_Pars_name 0 [some (.ref 36)] [] u (Ri (fun (r5 : Int32) (u6 : Us) => WS d m_Pars_named 0 [some (.ref 36), some (.int r5), none, none] [] u6 (Rv (fun (u8 : Us) => Q (.inl none) u8) (fun x u => Q (.inr x) u))) (fun x u => Q (.inr x) u))) ∧ (¬ (19 < (aI u 10 5)) → ((aI u 36 7) < 0 → WS d m_Pars_aggregate 0 [some (.ref 36), none, none, none, none, none, none] [] u (Rv (fun (u10 : Us) => Q (.inl none) u10) (fun x u => Q (.inr x) u))) ∧ (¬ ((aI u 36 7) < 0) → WS d m_Scan_fail 0 [some (.ref 10)] [] u (Rv (fun (u12 : Us) => WS d m_Pars_aggregate 0 [some (.ref 36), none, none, none, none, none, none] [] u12 (Rv (fun (u14 : Us) => Q (.inl none) u14) (fun x u => Q (.inr x) u))) (fun x u => Q (.inr x) u)))))) ∧ ((aI u 10 5) = 41 → WS d m_Pars_opens 0 [some (.ref 36), some (.int 41)] [] u (Rv (fun (u16 : Us) => WS d m_Pars_either 0 [some (.ref 36)] [] u16 (Rv (fun (u18 : Us) => WS d m_Pars_shuts 0 [some (.ref 36), some (.int 42)] [] u18 (Rv (fun (u20 : Us) => Q (.inl none) u20) (fun x u => Q (.inr x) u))) (fun x u => Q (.inr x) u))) (fun x u => Q (.inr x) u)))) ∧ ((aI u 10 5) = 21 → WS d m_Code_add 0 [some (.ref 14), some (.int 50), some (.int (aI u 10 6))] [] u (Ri (fun (r21 : Int32) (u22 : Us) => WS d m_Scan_next 0 [some (.ref 10), none] [] u22 (Rv (fun (u24 : Us) => Q (.inl none) u24) (fun x u => Q (.inr x) u))) (fun x u => Q (.inr x) u)))) :
    WS (d + 1) m_Pars_atom 0 [some (.ref 36), none] [] u Q := by
  refine w_aload_n (dk_Pars_atom 0 rfl) rfl ?_
  refine w_getr (dk_Pars_atom 1 rfl) lk_Pars_15 rfl rfl rfl ?_
  refine w_astore_n (ls' := [some (.ref 36), some (.ref 10)]) (dk_Pars_atom 2 rfl) (by decide) rfl ?_
  refine w_aload_n (dk_Pars_atom 3 rfl) rfl ?_
  refine w_geti (v := aI u 10 5) (dk_Pars_atom 4 rfl) lk_Pars_31 rfl rfl rfl ?_
  refine w_bipush (v := 21) (dk_Pars_atom 5 rfl) rfl ?_
  refine w_icmp_ne 35 (dk_Pars_atom 6 rfl) (by decide) (fun c_ => ?_) (fun c_ => ?_)
  · replace h := h.1 c_
    refine w_aload_n (dk_Pars_atom 17 rfl) rfl ?_
    refine w_geti (v := aI u 10 5) (dk_Pars_atom 18 rfl) lk_Pars_31 rfl rfl rfl ?_
    refine w_bipush (v := 41) (dk_Pars_atom 19 rfl) rfl ?_
    refine w_icmp_ne 63 (dk_Pars_atom 20 rfl) (by decide) (fun c_ => ?_) (fun c_ => ?_)
    · replace h := h.1 c_
      refine w_aload_n (dk_Pars_atom 30 rfl) rfl ?_
      refine w_geti (v := aI u 10 5) (dk_Pars_atom 31 rfl) lk_Pars_31 rfl rfl rfl ?_
      refine w_bipush (v := 16) (dk_Pars_atom 32 rfl) rfl ?_
      refine w_icmp_lt 99 (dk_Pars_atom 33 rfl) (by decide) (fun c_ => ?_) (fun c_ => ?_)
      · replace h := h.1 c_
        refine w_aload_n (dk_Pars_atom 46 rfl) rfl ?_
        refine w_aload_n (dk_Pars_atom 47 rfl) rfl ?_
        refine w_callVi (ls' := [some (.ref 36)]) cv_Pars_59 (dk_Pars_atom 48 rfl) (ci := 5) rfl rfl [] [.ref 36] rfl rfl (Nat.le_of_ble_eq_true rfl) (Nat.le_of_ble_eq_true rfl) rfl rfl rfl h (fun r1 u2 h => ?_)
        refine w_callVv (ls' := [some (.ref 36), some (.int r1), none, none]) cv_Pars_120 (dk_Pars_atom 49 rfl) (ci := 5) rfl rfl [.int r1] [] rfl rfl (Nat.le_of_ble_eq_true rfl) (Nat.le_of_ble_eq_true rfl) rfl rfl rfl h (fun u4 h => ?_)
        exact w_vret (dk_Pars_atom 50 rfl) rfl h
      · replace h := h.2 c_
        refine w_aload_n (dk_Pars_atom 34 rfl) rfl ?_
        refine w_geti (v := aI u 10 5) (dk_Pars_atom 35 rfl) lk_Pars_31 rfl rfl rfl ?_
        refine w_bipush (v := 19) (dk_Pars_atom 36 rfl) rfl ?_
        refine w_icmp_gt 99 (dk_Pars_atom 37 rfl) (by decide) (fun c_ => ?_) (fun c_ => ?_)
        · replace h := h.1 c_
          refine w_aload_n (dk_Pars_atom 46 rfl) rfl ?_
          refine w_aload_n (dk_Pars_atom 47 rfl) rfl ?_
          refine w_callVi (ls' := [some (.ref 36)]) cv_Pars_59 (dk_Pars_atom 48 rfl) (ci := 5) rfl rfl [] [.ref 36] rfl rfl (Nat.le_of_ble_eq_true rfl) (Nat.le_of_ble_eq_true rfl) rfl rfl rfl h (fun r5 u6 h => ?_)
          refine w_callVv (ls' := [some (.ref 36), some (.int r5), none, none]) cv_Pars_120 (dk_Pars_atom 49 rfl) (ci := 5) rfl rfl [.int r5] [] rfl rfl (Nat.le_of_ble_eq_true rfl) (Nat.le_of_ble_eq_true rfl) rfl rfl rfl h (fun u8 h => ?_)
          exact w_vret (dk_Pars_atom 50 rfl) rfl h
        · replace h := h.2 c_
          refine w_aload_n (dk_Pars_atom 38 rfl) rfl ?_
          refine w_geti (v := aI u 36 7) (dk_Pars_atom 39 rfl) lk_Pars_114 rfl rfl rfl ?_
          refine w_if_lt 92 (dk_Pars_atom 40 rfl) (by decide) (fun c_ => ?_) (fun c_ => ?_)
          · replace h := h.1 c_
            refine w_aload_n (dk_Pars_atom 43 rfl) rfl ?_
            refine w_callSv (ls' := [some (.ref 36), none, none, none, none, none, none]) cv_Pars_117 (dk_Pars_atom 44 rfl) [.ref 36] [] rfl rfl (Nat.le_of_ble_eq_true rfl) (Nat.le_of_ble_eq_true rfl) rfl rfl rfl h (fun u10 h => ?_)
            refine w_goto 107 (dk_Pars_atom 45 rfl) (by decide) ?_
            exact w_vret (dk_Pars_atom 50 rfl) rfl h
          · replace h := h.2 c_
            refine w_aload_n (dk_Pars_atom 41 rfl) rfl ?_
            refine w_callVv (ls' := [some (.ref 10)]) cv_Pars_37 (dk_Pars_atom 42 rfl) (ci := 1) rfl rfl [] [] rfl rfl (Nat.le_of_ble_eq_true rfl) (Nat.le_of_ble_eq_true rfl) rfl rfl rfl h (fun u12 h => ?_)
            refine w_aload_n (dk_Pars_atom 43 rfl) rfl ?_
            refine w_callSv (ls' := [some (.ref 36), none, none, none, none, none, none]) cv_Pars_117 (dk_Pars_atom 44 rfl) [.ref 36] [] rfl rfl (Nat.le_of_ble_eq_true rfl) (Nat.le_of_ble_eq_true rfl) rfl rfl rfl h (fun u14 h => ?_)
            refine w_goto 107 (dk_Pars_atom 45 rfl) (by decide) ?_
            exact w_vret (dk_Pars_atom 50 rfl) rfl h
    · replace h := h.2 c_
      refine w_aload_n (dk_Pars_atom 21 rfl) rfl ?_
      refine w_bipush (v := 41) (dk_Pars_atom 22 rfl) rfl ?_
      refine w_callVv (ls' := [some (.ref 36), some (.int 41)]) cv_Pars_105 (dk_Pars_atom 23 rfl) (ci := 5) rfl rfl [.int 41] [] rfl rfl (Nat.le_of_ble_eq_true rfl) (Nat.le_of_ble_eq_true rfl) rfl rfl rfl h (fun u16 h => ?_)
      refine w_aload_n (dk_Pars_atom 24 rfl) rfl ?_
      refine w_callSv (ls' := [some (.ref 36)]) cv_Pars_108 (dk_Pars_atom 25 rfl) [.ref 36] [] rfl rfl (Nat.le_of_ble_eq_true rfl) (Nat.le_of_ble_eq_true rfl) rfl rfl rfl h (fun u18 h => ?_)
      refine w_aload_n (dk_Pars_atom 26 rfl) rfl ?_
      refine w_bipush (v := 42) (dk_Pars_atom 27 rfl) rfl ?_
      refine w_callVv (ls' := [some (.ref 36), some (.int 42)]) cv_Pars_111 (dk_Pars_atom 28 rfl) (ci := 5) rfl rfl [.int 42] [] rfl rfl (Nat.le_of_ble_eq_true rfl) (Nat.le_of_ble_eq_true rfl) rfl rfl rfl h (fun u20 h => ?_)
      refine w_goto 107 (dk_Pars_atom 29 rfl) (by decide) ?_
      exact w_vret (dk_Pars_atom 50 rfl) rfl h
  · replace h := h.2 c_
    refine w_aload_n (dk_Pars_atom 7 rfl) rfl ?_
    refine w_getr (dk_Pars_atom 8 rfl) lk_Pars_23 rfl rfl rfl ?_
    refine w_bipush (v := 50) (dk_Pars_atom 9 rfl) rfl ?_
    refine w_aload_n (dk_Pars_atom 10 rfl) rfl ?_
    refine w_geti (v := aI u 10 6) (dk_Pars_atom 11 rfl) lk_Pars_50 rfl rfl rfl ?_
    refine w_callVi (ls' := [some (.ref 14), some (.int 50), some (.int (aI u 10 6))]) cv_Pars_85 (dk_Pars_atom 12 rfl) (ci := 3) rfl rfl [.int 50, .int (aI u 10 6)] [] rfl rfl (Nat.le_of_ble_eq_true rfl) (Nat.le_of_ble_eq_true rfl) rfl rfl rfl h (fun r21 u22 h => ?_)
    refine w_pop (dk_Pars_atom 13 rfl) rfl ?_
    refine w_aload_n (dk_Pars_atom 14 rfl) rfl ?_
    refine w_callVv (ls' := [some (.ref 10), none]) cv_Pars_40 (dk_Pars_atom 15 rfl) (ci := 1) rfl rfl [] [] rfl rfl (Nat.le_of_ble_eq_true rfl) (Nat.le_of_ble_eq_true rfl) rfl rfl rfl h (fun u24 h => ?_)
    refine w_goto 107 (dk_Pars_atom 16 rfl) (by decide) ?_
    exact w_vret (dk_Pars_atom 50 rfl) rfl h
theorem g_Pars_opens_0 {d : Nat} {u : Us} {Q : Ot → Us → Prop} (p1 : Int32)
    (h : ((aI u 10 5) ≠ p1 → WS d m_Pars_take 0 [some (.ref 36), some (.int p1)] [] (uI u 36 6 ((aI u 36 6) + 1)) (Rv (fun (u2 : Us) => Q (.inl none) u2) (fun x u => Q (.inr x) u))) ∧ ((aI u 10 5) = p1 → ((aI u 36 6) ≠ 10 → WS d m_Pars_take 0 [some (.ref 36), some (.int p1)] [] (uI u 36 6 ((aI u 36 6) + 1)) (Rv (fun (u4 : Us) => Q (.inl none) u4) (fun x u => Q (.inr x) u))) ∧ ((aI u 36 6) = 10 → WS d m_Scan_fail 0 [some (.ref 10)] [] u (Rv (fun (u6 : Us) => WS d m_Pars_take 0 [some (.ref 36), some (.int p1)] [] (uI u6 36 6 ((aI u6 36 6) + 1)) (Rv (fun (u8 : Us) => Q (.inl none) u8) (fun x u => Q (.inr x) u))) (fun x u => Q (.inr x) u))))) :
    WS (d + 1) m_Pars_opens 0 [some (.ref 36), some (.int p1)] [] u Q := by
  refine w_aload_n (dk_Pars_opens 0 rfl) rfl ?_
  refine w_getr (dk_Pars_opens 1 rfl) lk_Pars_15 rfl rfl rfl ?_
  refine w_geti (v := aI u 10 5) (dk_Pars_opens 2 rfl) lk_Pars_31 rfl rfl rfl ?_
  refine w_iload_n (dk_Pars_opens 3 rfl) rfl ?_
  refine w_icmp_ne 27 (dk_Pars_opens 4 rfl) (by decide) (fun c_ => ?_) (fun c_ => ?_)
  · replace h := h.1 c_
    refine w_aload_n (dk_Pars_opens 12 rfl) rfl ?_
    refine w_dup (dk_Pars_opens 13 rfl) rfl ?_
    refine w_geti (v := aI u 36 6) (dk_Pars_opens 14 rfl) lk_Pars_43 rfl rfl rfl ?_
    refine w_iconst (v := 1) (dk_Pars_opens 15 rfl) rfl ?_
    refine w_iadd (dk_Pars_opens 16 rfl) ?_
    refine w_puti (dk_Pars_opens 17 rfl) lk_Pars_43 rfl rfl ?_
    refine w_aload_n (dk_Pars_opens 18 rfl) rfl ?_
    refine w_iload_n (dk_Pars_opens 19 rfl) rfl ?_
    refine w_callVv (ls' := [some (.ref 36), some (.int p1)]) cv_Pars_46 (dk_Pars_opens 20 rfl) (ci := 5) rfl rfl [.int p1] [] rfl rfl (Nat.le_of_ble_eq_true rfl) (Nat.le_of_ble_eq_true rfl) rfl rfl rfl h (fun u2 h => ?_)
    exact w_vret (dk_Pars_opens 21 rfl) rfl h
  · replace h := h.2 c_
    refine w_aload_n (dk_Pars_opens 5 rfl) rfl ?_
    refine w_geti (v := aI u 36 6) (dk_Pars_opens 6 rfl) lk_Pars_43 rfl rfl rfl ?_
    refine w_bipush (v := 10) (dk_Pars_opens 7 rfl) rfl ?_
    refine w_icmp_ne 27 (dk_Pars_opens 8 rfl) (by decide) (fun c_ => ?_) (fun c_ => ?_)
    · replace h := h.1 c_
      refine w_aload_n (dk_Pars_opens 12 rfl) rfl ?_
      refine w_dup (dk_Pars_opens 13 rfl) rfl ?_
      refine w_geti (v := aI u 36 6) (dk_Pars_opens 14 rfl) lk_Pars_43 rfl rfl rfl ?_
      refine w_iconst (v := 1) (dk_Pars_opens 15 rfl) rfl ?_
      refine w_iadd (dk_Pars_opens 16 rfl) ?_
      refine w_puti (dk_Pars_opens 17 rfl) lk_Pars_43 rfl rfl ?_
      refine w_aload_n (dk_Pars_opens 18 rfl) rfl ?_
      refine w_iload_n (dk_Pars_opens 19 rfl) rfl ?_
      refine w_callVv (ls' := [some (.ref 36), some (.int p1)]) cv_Pars_46 (dk_Pars_opens 20 rfl) (ci := 5) rfl rfl [.int p1] [] rfl rfl (Nat.le_of_ble_eq_true rfl) (Nat.le_of_ble_eq_true rfl) rfl rfl rfl h (fun u4 h => ?_)
      exact w_vret (dk_Pars_opens 21 rfl) rfl h
    · replace h := h.2 c_
      refine w_aload_n (dk_Pars_opens 9 rfl) rfl ?_
      refine w_getr (dk_Pars_opens 10 rfl) lk_Pars_15 rfl rfl rfl ?_
      refine w_callVv (ls' := [some (.ref 10)]) cv_Pars_37 (dk_Pars_opens 11 rfl) (ci := 1) rfl rfl [] [] rfl rfl (Nat.le_of_ble_eq_true rfl) (Nat.le_of_ble_eq_true rfl) rfl rfl rfl h (fun u6 h => ?_)
      refine w_aload_n (dk_Pars_opens 12 rfl) rfl ?_
      refine w_dup (dk_Pars_opens 13 rfl) rfl ?_
      refine w_geti (v := aI u6 36 6) (dk_Pars_opens 14 rfl) lk_Pars_43 rfl rfl rfl ?_
      refine w_iconst (v := 1) (dk_Pars_opens 15 rfl) rfl ?_
      refine w_iadd (dk_Pars_opens 16 rfl) ?_
      refine w_puti (dk_Pars_opens 17 rfl) lk_Pars_43 rfl rfl ?_
      refine w_aload_n (dk_Pars_opens 18 rfl) rfl ?_
      refine w_iload_n (dk_Pars_opens 19 rfl) rfl ?_
      refine w_callVv (ls' := [some (.ref 36), some (.int p1)]) cv_Pars_46 (dk_Pars_opens 20 rfl) (ci := 5) rfl rfl [.int p1] [] rfl rfl (Nat.le_of_ble_eq_true rfl) (Nat.le_of_ble_eq_true rfl) rfl rfl rfl h (fun u8 h => ?_)
      exact w_vret (dk_Pars_opens 21 rfl) rfl h
theorem g_Pars_shuts_0 {d : Nat} {u : Us} {Q : Ot → Us → Prop} (p1 : Int32)
    (h : WS d m_Pars_take 0 [some (.ref 36), some (.int p1)] [] (uI u 36 6 ((aI u 36 6) - 1)) (Rv (fun (u2 : Us) => Q (.inl none) u2) (fun x u => Q (.inr x) u))) :
    WS (d + 1) m_Pars_shuts 0 [some (.ref 36), some (.int p1)] [] u Q := by
  refine w_aload_n (dk_Pars_shuts 0 rfl) rfl ?_
  refine w_dup (dk_Pars_shuts 1 rfl) rfl ?_
  refine w_geti (v := aI u 36 6) (dk_Pars_shuts 2 rfl) lk_Pars_43 rfl rfl rfl ?_
  refine w_iconst (v := 1) (dk_Pars_shuts 3 rfl) rfl ?_
  refine w_isub (dk_Pars_shuts 4 rfl) ?_
  refine w_puti (dk_Pars_shuts 5 rfl) lk_Pars_43 rfl rfl ?_
  refine w_aload_n (dk_Pars_shuts 6 rfl) rfl ?_
  refine w_iload_n (dk_Pars_shuts 7 rfl) rfl ?_
  refine w_callVv (ls' := [some (.ref 36), some (.int p1)]) cv_Pars_46 (dk_Pars_shuts 8 rfl) (ci := 5) rfl rfl [.int p1] [] rfl rfl (Nat.le_of_ble_eq_true rfl) (Nat.le_of_ble_eq_true rfl) rfl rfl rfl h (fun u2 h => ?_)
  exact w_vret (dk_Pars_shuts 9 rfl) rfl h
theorem g_Pars_aggregate_0 {d : Nat} {u : Us} {Q : Ot → Us → Prop} 
    (h : WS d m_Scan_next 0 [some (.ref 10), none] [] u (Rv (fun (u2 : Us) => WS d m_Pars_opens 0 [some (.ref 36), some (.int 41)] [] u2 (Rv (fun (u4 : Us) => WS d m_Pars_kind 0 [some (.ref 36), none] [] u4 (Ri (fun (r5 : Int32) (u6 : Us) => ((aI u 10 5) = 16 → WS d m_Code_add 0 [some (.ref 14), some (.int 55), some (.int 0)] [] u6 (Ri (fun (r7 : Int32) (u8 : Us) => WS d m_Pars_condition 0 [some (.ref 36), some (.int r5)] [] u8 (Rv (fun (u10 : Us) => ∃ k11 : Nat, r7 = nI k11 ∧ k11 < 700 ∧ (∃ k12 : Nat, aI u10 14 8 = nI k12 ∧ k12 < 150 ∧ (∃ k13 : Nat, aI u10 14 8 = nI k13 ∧ k13 < 150 ∧ (∃ k14 : Nat, aI u10 14 8 = nI k14 ∧ k14 < 150 ∧ (∃ k15 : Nat, aI u10 14 8 = nI k15 ∧ k15 < 150 ∧ (∃ k16 : Nat, aI u10 14 8 = nI k16 ∧ k16 < 150 ∧ (WS d m_Code_add 0 [some (.ref 14), some (.int 56), some (.int (aI u10 14 8))] [] (uI (uI (uI (uI (uI (uI (uI u10 16 k11 (aI u10 14 2)) 14 8 ((aI u10 14 8) + 1)) 17 k12 (aI u 10 5)) 18 k13 r5) 19 k14 0) 20 k15 (r7 + 1)) 21 k16 (aI u10 14 2)) (Ri (fun (r17 : Int32) (u18 : Us) => WS d m_Pars_shuts 0 [some (.ref 36), some (.int 42)] [] u18 (Rv (fun (u20 : Us) => Q (.inl none) u20) (fun x u => Q (.inr x) u))) (fun x u => Q (.inr x) u))))))))) (fun x u => Q (.inr x) u))) (fun x u => Q (.inr x) u))) ∧ (¬ ((aI u 10 5) = 16) → WS d m_Pars_take 0 [some (.ref 36), some (.int 48)] [] u6 (Rv (fun (u22 : Us) => WS d m_Pars_field 0 [some (.ref 36), some (.int r5), none] [] u22 (Ri (fun (r23 : Int32) (u24 : Us) => WS d m_Code_add 0 [some (.ref 14), some (.int 55), some (.int 0)] [] u24 (Ri (fun (r25 : Int32) (u26 : Us) => WS d m_Pars_condition 0 [some (.ref 36), some (.int r5)] [] u26 (Rv (fun (u28 : Us) => ∃ k29 : Nat, r25 = nI k29 ∧ k29 < 700 ∧ (∃ k30 : Nat, aI u28 14 8 = nI k30 ∧ k30 < 150 ∧ (∃ k31 : Nat, aI u28 14 8 = nI k31 ∧ k31 < 150 ∧ (∃ k32 : Nat, aI u28 14 8 = nI k32 ∧ k32 < 150 ∧ (∃ k33 : Nat, aI u28 14 8 = nI k33 ∧ k33 < 150 ∧ (∃ k34 : Nat, aI u28 14 8 = nI k34 ∧ k34 < 150 ∧ (WS d m_Code_add 0 [some (.ref 14), some (.int 56), some (.int (aI u28 14 8))] [] (uI (uI (uI (uI (uI (uI (uI u28 16 k29 (aI u28 14 2)) 14 8 ((aI u28 14 8) + 1)) 17 k30 (aI u 10 5)) 18 k31 r5) 19 k32 r23) 20 k33 (r25 + 1)) 21 k34 (aI u28 14 2)) (Ri (fun (r35 : Int32) (u36 : Us) => WS d m_Pars_shuts 0 [some (.ref 36), some (.int 42)] [] u36 (Rv (fun (u38 : Us) => Q (.inl none) u38) (fun x u => Q (.inr x) u))) (fun x u => Q (.inr x) u))))))))) (fun x u => Q (.inr x) u))) (fun x u => Q (.inr x) u))) (fun x u => Q (.inr x) u))) (fun x u => Q (.inr x) u)))) (fun x u => Q (.inr x) u))) (fun x u => Q (.inr x) u))) (fun x u => Q (.inr x) u))) :
    WS (d + 1) m_Pars_aggregate 0 [some (.ref 36), none, none, none, none, none, none] [] u Q := by
  refine w_aload_n (dk_Pars_aggregate 0 rfl) rfl ?_
  refine w_getr (dk_Pars_aggregate 1 rfl) lk_Pars_15 rfl rfl rfl ?_
  refine w_geti (v := aI u 10 5) (dk_Pars_aggregate 2 rfl) lk_Pars_31 rfl rfl rfl ?_
  refine w_istore_n (ls' := [some (.ref 36), some (.int (aI u 10 5)), none, none, none, none, none]) (dk_Pars_aggregate 3 rfl) (by decide) rfl ?_
  refine w_aload_n (dk_Pars_aggregate 4 rfl) rfl ?_
  refine w_getr (dk_Pars_aggregate 5 rfl) lk_Pars_15 rfl rfl rfl ?_
  refine w_callVv (ls' := [some (.ref 10), none]) cv_Pars_40 (dk_Pars_aggregate 6 rfl) (ci := 1) rfl rfl [] [] rfl rfl (Nat.le_of_ble_eq_true rfl) (Nat.le_of_ble_eq_true rfl) rfl rfl rfl h (fun u2 h => ?_)
  refine w_aload_n (dk_Pars_aggregate 7 rfl) rfl ?_
  refine w_bipush (v := 41) (dk_Pars_aggregate 8 rfl) rfl ?_
  refine w_callVv (ls' := [some (.ref 36), some (.int 41)]) cv_Pars_105 (dk_Pars_aggregate 9 rfl) (ci := 5) rfl rfl [.int 41] [] rfl rfl (Nat.le_of_ble_eq_true rfl) (Nat.le_of_ble_eq_true rfl) rfl rfl rfl h (fun u4 h => ?_)
  refine w_aload_n (dk_Pars_aggregate 10 rfl) rfl ?_
  refine w_callVi (ls' := [some (.ref 36), none]) cv_Pars_131 (dk_Pars_aggregate 11 rfl) (ci := 5) rfl rfl [] [] rfl rfl (Nat.le_of_ble_eq_true rfl) (Nat.le_of_ble_eq_true rfl) rfl rfl rfl h (fun r5 u6 h => ?_)
  refine w_istore_n (ls' := [some (.ref 36), some (.int (aI u 10 5)), some (.int r5), none, none, none, none]) (dk_Pars_aggregate 12 rfl) (by decide) rfl ?_
  refine w_iconst (v := 0) (dk_Pars_aggregate 13 rfl) rfl ?_
  refine w_istore_n (ls' := [some (.ref 36), some (.int (aI u 10 5)), some (.int r5), some (.int 0), none, none, none]) (dk_Pars_aggregate 14 rfl) (by decide) rfl ?_
  refine w_iload_n (dk_Pars_aggregate 15 rfl) rfl ?_
  refine w_bipush (v := 16) (dk_Pars_aggregate 16 rfl) rfl ?_
  refine w_icmp_eq 46 (dk_Pars_aggregate 17 rfl) (by decide) (fun c_ => ?_) (fun c_ => ?_)
  · replace h := h.1 c_
    refine w_aload_n (dk_Pars_aggregate 25 rfl) rfl ?_
    refine w_getr (dk_Pars_aggregate 26 rfl) lk_Pars_23 rfl rfl rfl ?_
    refine w_bipush (v := 55) (dk_Pars_aggregate 27 rfl) rfl ?_
    refine w_iconst (v := 0) (dk_Pars_aggregate 28 rfl) rfl ?_
    refine w_callVi (ls' := [some (.ref 14), some (.int 55), some (.int 0)]) cv_Pars_85 (dk_Pars_aggregate 29 rfl) (ci := 3) rfl rfl [.int 55, .int 0] [] rfl rfl (Nat.le_of_ble_eq_true rfl) (Nat.le_of_ble_eq_true rfl) rfl rfl rfl h (fun r7 u8 h => ?_)
    refine w_istore (ls' := [some (.ref 36), some (.int (aI u 10 5)), some (.int r5), some (.int 0), some (.int r7), none, none]) (dk_Pars_aggregate 30 rfl) (by decide) rfl ?_
    refine w_aload_n (dk_Pars_aggregate 31 rfl) rfl ?_
    refine w_iload_n (dk_Pars_aggregate 32 rfl) rfl ?_
    refine w_callSv (ls' := [some (.ref 36), some (.int r5)]) cv_Pars_133 (dk_Pars_aggregate 33 rfl) [.ref 36, .int r5] [] rfl rfl (Nat.le_of_ble_eq_true rfl) (Nat.le_of_ble_eq_true rfl) rfl rfl rfl h (fun u10 h => ?_)
    refine w_aload_n (dk_Pars_aggregate 34 rfl) rfl ?_
    refine w_getr (dk_Pars_aggregate 35 rfl) lk_Pars_23 rfl rfl rfl ?_
    refine w_getr (dk_Pars_aggregate 36 rfl) lk_Pars_137 rfl rfl rfl ?_
    refine w_iload (dk_Pars_aggregate 37 rfl) rfl ?_
    refine w_aload_n (dk_Pars_aggregate 38 rfl) rfl ?_
    refine w_getr (dk_Pars_aggregate 39 rfl) lk_Pars_23 rfl rfl rfl ?_
    refine w_geti (v := aI u10 14 2) (dk_Pars_aggregate 40 rfl) lk_Pars_140 rfl rfl rfl ?_
    obtain ⟨k11, e_k11, l_k11, h⟩ := h
    refine w_iast (k_ := k11) (dk_Pars_aggregate 41 rfl) rfl (by decide) e_k11 l_k11 ?_
    refine w_aload_n (dk_Pars_aggregate 42 rfl) rfl ?_
    refine w_getr (dk_Pars_aggregate 43 rfl) lk_Pars_23 rfl rfl rfl ?_
    refine w_astore (ls' := [some (.ref 36), some (.int (aI u 10 5)), some (.int r5), some (.int 0), some (.int r7), some (.ref 14), none]) (dk_Pars_aggregate 44 rfl) (by decide) rfl ?_
    refine w_aload (dk_Pars_aggregate 45 rfl) rfl ?_
    refine w_dup (dk_Pars_aggregate 46 rfl) rfl ?_
    refine w_geti (v := aI u10 14 8) (dk_Pars_aggregate 47 rfl) lk_Pars_143 rfl rfl rfl ?_
    refine w_dup_x1 (dk_Pars_aggregate 48 rfl) rfl rfl ?_
    refine w_iconst (v := 1) (dk_Pars_aggregate 49 rfl) rfl ?_
    refine w_iadd (dk_Pars_aggregate 50 rfl) ?_
    refine w_puti (dk_Pars_aggregate 51 rfl) lk_Pars_143 rfl rfl ?_
    refine w_istore (ls' := [some (.ref 36), some (.int (aI u 10 5)), some (.int r5), some (.int 0), some (.int r7), some (.ref 14), some (.int (aI u10 14 8))]) (dk_Pars_aggregate 52 rfl) (by decide) rfl ?_
    refine w_aload (dk_Pars_aggregate 53 rfl) rfl ?_
    refine w_getr (dk_Pars_aggregate 54 rfl) lk_Pars_146 rfl rfl rfl ?_
    refine w_iload (dk_Pars_aggregate 55 rfl) rfl ?_
    refine w_iload_n (dk_Pars_aggregate 56 rfl) rfl ?_
    obtain ⟨k12, e_k12, l_k12, h⟩ := h
    refine w_iast (k_ := k12) (dk_Pars_aggregate 57 rfl) rfl (by decide) e_k12 l_k12 ?_
    refine w_aload (dk_Pars_aggregate 58 rfl) rfl ?_
    refine w_getr (dk_Pars_aggregate 59 rfl) lk_Pars_149 rfl rfl rfl ?_
    refine w_iload (dk_Pars_aggregate 60 rfl) rfl ?_
    refine w_iload_n (dk_Pars_aggregate 61 rfl) rfl ?_
    obtain ⟨k13, e_k13, l_k13, h⟩ := h
    refine w_iast (k_ := k13) (dk_Pars_aggregate 62 rfl) rfl (by decide) e_k13 l_k13 ?_
    refine w_aload (dk_Pars_aggregate 63 rfl) rfl ?_
    refine w_getr (dk_Pars_aggregate 64 rfl) lk_Pars_151 rfl rfl rfl ?_
    refine w_iload (dk_Pars_aggregate 65 rfl) rfl ?_
    refine w_iload_n (dk_Pars_aggregate 66 rfl) rfl ?_
    obtain ⟨k14, e_k14, l_k14, h⟩ := h
    refine w_iast (k_ := k14) (dk_Pars_aggregate 67 rfl) rfl (by decide) e_k14 l_k14 ?_
    refine w_aload (dk_Pars_aggregate 68 rfl) rfl ?_
    refine w_getr (dk_Pars_aggregate 69 rfl) lk_Pars_153 rfl rfl rfl ?_
    refine w_iload (dk_Pars_aggregate 70 rfl) rfl ?_
    refine w_iload (dk_Pars_aggregate 71 rfl) rfl ?_
    refine w_iconst (v := 1) (dk_Pars_aggregate 72 rfl) rfl ?_
    refine w_iadd (dk_Pars_aggregate 73 rfl) ?_
    obtain ⟨k15, e_k15, l_k15, h⟩ := h
    refine w_iast (k_ := k15) (dk_Pars_aggregate 74 rfl) rfl (by decide) e_k15 l_k15 ?_
    refine w_aload (dk_Pars_aggregate 75 rfl) rfl ?_
    refine w_getr (dk_Pars_aggregate 76 rfl) lk_Pars_156 rfl rfl rfl ?_
    refine w_iload (dk_Pars_aggregate 77 rfl) rfl ?_
    refine w_aload (dk_Pars_aggregate 78 rfl) rfl ?_
    refine w_geti (v := aI u10 14 2) (dk_Pars_aggregate 79 rfl) lk_Pars_140 rfl rfl rfl ?_
    obtain ⟨k16, e_k16, l_k16, h⟩ := h
    refine w_iast (k_ := k16) (dk_Pars_aggregate 80 rfl) rfl (by decide) e_k16 l_k16 ?_
    refine w_aload (dk_Pars_aggregate 81 rfl) rfl ?_
    refine w_bipush (v := 56) (dk_Pars_aggregate 82 rfl) rfl ?_
    refine w_iload (dk_Pars_aggregate 83 rfl) rfl ?_
    refine w_callVi (ls' := [some (.ref 14), some (.int 56), some (.int (aI u10 14 8))]) cv_Pars_85 (dk_Pars_aggregate 84 rfl) (ci := 3) rfl rfl [.int 56, .int (aI u10 14 8)] [] rfl rfl (Nat.le_of_ble_eq_true rfl) (Nat.le_of_ble_eq_true rfl) rfl rfl rfl h (fun r17 u18 h => ?_)
    refine w_pop (dk_Pars_aggregate 85 rfl) rfl ?_
    refine w_aload_n (dk_Pars_aggregate 86 rfl) rfl ?_
    refine w_bipush (v := 42) (dk_Pars_aggregate 87 rfl) rfl ?_
    refine w_callVv (ls' := [some (.ref 36), some (.int 42)]) cv_Pars_111 (dk_Pars_aggregate 88 rfl) (ci := 5) rfl rfl [.int 42] [] rfl rfl (Nat.le_of_ble_eq_true rfl) (Nat.le_of_ble_eq_true rfl) rfl rfl rfl h (fun u20 h => ?_)
    exact w_vret (dk_Pars_aggregate 89 rfl) rfl h
  · replace h := h.2 c_
    refine w_aload_n (dk_Pars_aggregate 18 rfl) rfl ?_
    refine w_bipush (v := 48) (dk_Pars_aggregate 19 rfl) rfl ?_
    refine w_callVv (ls' := [some (.ref 36), some (.int 48)]) cv_Pars_46 (dk_Pars_aggregate 20 rfl) (ci := 5) rfl rfl [.int 48] [] rfl rfl (Nat.le_of_ble_eq_true rfl) (Nat.le_of_ble_eq_true rfl) rfl rfl rfl h (fun u22 h => ?_)
    refine w_aload_n (dk_Pars_aggregate 21 rfl) rfl ?_
    refine w_iload_n (dk_Pars_aggregate 22 rfl) rfl ?_
    refine w_callVi (ls' := [some (.ref 36), some (.int r5), none]) cv_Pars_126 (dk_Pars_aggregate 23 rfl) (ci := 5) rfl rfl [.int r5] [] rfl rfl (Nat.le_of_ble_eq_true rfl) (Nat.le_of_ble_eq_true rfl) rfl rfl rfl h (fun r23 u24 h => ?_)
    refine w_istore_n (ls' := [some (.ref 36), some (.int (aI u 10 5)), some (.int r5), some (.int r23), none, none, none]) (dk_Pars_aggregate 24 rfl) (by decide) rfl ?_
    refine w_aload_n (dk_Pars_aggregate 25 rfl) rfl ?_
    refine w_getr (dk_Pars_aggregate 26 rfl) lk_Pars_23 rfl rfl rfl ?_
    refine w_bipush (v := 55) (dk_Pars_aggregate 27 rfl) rfl ?_
    refine w_iconst (v := 0) (dk_Pars_aggregate 28 rfl) rfl ?_
    refine w_callVi (ls' := [some (.ref 14), some (.int 55), some (.int 0)]) cv_Pars_85 (dk_Pars_aggregate 29 rfl) (ci := 3) rfl rfl [.int 55, .int 0] [] rfl rfl (Nat.le_of_ble_eq_true rfl) (Nat.le_of_ble_eq_true rfl) rfl rfl rfl h (fun r25 u26 h => ?_)
    refine w_istore (ls' := [some (.ref 36), some (.int (aI u 10 5)), some (.int r5), some (.int r23), some (.int r25), none, none]) (dk_Pars_aggregate 30 rfl) (by decide) rfl ?_
    refine w_aload_n (dk_Pars_aggregate 31 rfl) rfl ?_
    refine w_iload_n (dk_Pars_aggregate 32 rfl) rfl ?_
    refine w_callSv (ls' := [some (.ref 36), some (.int r5)]) cv_Pars_133 (dk_Pars_aggregate 33 rfl) [.ref 36, .int r5] [] rfl rfl (Nat.le_of_ble_eq_true rfl) (Nat.le_of_ble_eq_true rfl) rfl rfl rfl h (fun u28 h => ?_)
    refine w_aload_n (dk_Pars_aggregate 34 rfl) rfl ?_
    refine w_getr (dk_Pars_aggregate 35 rfl) lk_Pars_23 rfl rfl rfl ?_
    refine w_getr (dk_Pars_aggregate 36 rfl) lk_Pars_137 rfl rfl rfl ?_
    refine w_iload (dk_Pars_aggregate 37 rfl) rfl ?_
    refine w_aload_n (dk_Pars_aggregate 38 rfl) rfl ?_
    refine w_getr (dk_Pars_aggregate 39 rfl) lk_Pars_23 rfl rfl rfl ?_
    refine w_geti (v := aI u28 14 2) (dk_Pars_aggregate 40 rfl) lk_Pars_140 rfl rfl rfl ?_
    obtain ⟨k29, e_k29, l_k29, h⟩ := h
    refine w_iast (k_ := k29) (dk_Pars_aggregate 41 rfl) rfl (by decide) e_k29 l_k29 ?_
    refine w_aload_n (dk_Pars_aggregate 42 rfl) rfl ?_
    refine w_getr (dk_Pars_aggregate 43 rfl) lk_Pars_23 rfl rfl rfl ?_
    refine w_astore (ls' := [some (.ref 36), some (.int (aI u 10 5)), some (.int r5), some (.int r23), some (.int r25), some (.ref 14), none]) (dk_Pars_aggregate 44 rfl) (by decide) rfl ?_
    refine w_aload (dk_Pars_aggregate 45 rfl) rfl ?_
    refine w_dup (dk_Pars_aggregate 46 rfl) rfl ?_
    refine w_geti (v := aI u28 14 8) (dk_Pars_aggregate 47 rfl) lk_Pars_143 rfl rfl rfl ?_
    refine w_dup_x1 (dk_Pars_aggregate 48 rfl) rfl rfl ?_
    refine w_iconst (v := 1) (dk_Pars_aggregate 49 rfl) rfl ?_
    refine w_iadd (dk_Pars_aggregate 50 rfl) ?_
    refine w_puti (dk_Pars_aggregate 51 rfl) lk_Pars_143 rfl rfl ?_
    refine w_istore (ls' := [some (.ref 36), some (.int (aI u 10 5)), some (.int r5), some (.int r23), some (.int r25), some (.ref 14), some (.int (aI u28 14 8))]) (dk_Pars_aggregate 52 rfl) (by decide) rfl ?_
    refine w_aload (dk_Pars_aggregate 53 rfl) rfl ?_
    refine w_getr (dk_Pars_aggregate 54 rfl) lk_Pars_146 rfl rfl rfl ?_
    refine w_iload (dk_Pars_aggregate 55 rfl) rfl ?_
    refine w_iload_n (dk_Pars_aggregate 56 rfl) rfl ?_
    obtain ⟨k30, e_k30, l_k30, h⟩ := h
    refine w_iast (k_ := k30) (dk_Pars_aggregate 57 rfl) rfl (by decide) e_k30 l_k30 ?_
    refine w_aload (dk_Pars_aggregate 58 rfl) rfl ?_
    refine w_getr (dk_Pars_aggregate 59 rfl) lk_Pars_149 rfl rfl rfl ?_
    refine w_iload (dk_Pars_aggregate 60 rfl) rfl ?_
    refine w_iload_n (dk_Pars_aggregate 61 rfl) rfl ?_
    obtain ⟨k31, e_k31, l_k31, h⟩ := h
    refine w_iast (k_ := k31) (dk_Pars_aggregate 62 rfl) rfl (by decide) e_k31 l_k31 ?_
    refine w_aload (dk_Pars_aggregate 63 rfl) rfl ?_
    refine w_getr (dk_Pars_aggregate 64 rfl) lk_Pars_151 rfl rfl rfl ?_
    refine w_iload (dk_Pars_aggregate 65 rfl) rfl ?_
    refine w_iload_n (dk_Pars_aggregate 66 rfl) rfl ?_
    obtain ⟨k32, e_k32, l_k32, h⟩ := h
    refine w_iast (k_ := k32) (dk_Pars_aggregate 67 rfl) rfl (by decide) e_k32 l_k32 ?_
    refine w_aload (dk_Pars_aggregate 68 rfl) rfl ?_
    refine w_getr (dk_Pars_aggregate 69 rfl) lk_Pars_153 rfl rfl rfl ?_
    refine w_iload (dk_Pars_aggregate 70 rfl) rfl ?_
    refine w_iload (dk_Pars_aggregate 71 rfl) rfl ?_
    refine w_iconst (v := 1) (dk_Pars_aggregate 72 rfl) rfl ?_
    refine w_iadd (dk_Pars_aggregate 73 rfl) ?_
    obtain ⟨k33, e_k33, l_k33, h⟩ := h
    refine w_iast (k_ := k33) (dk_Pars_aggregate 74 rfl) rfl (by decide) e_k33 l_k33 ?_
    refine w_aload (dk_Pars_aggregate 75 rfl) rfl ?_
    refine w_getr (dk_Pars_aggregate 76 rfl) lk_Pars_156 rfl rfl rfl ?_
    refine w_iload (dk_Pars_aggregate 77 rfl) rfl ?_
    refine w_aload (dk_Pars_aggregate 78 rfl) rfl ?_
    refine w_geti (v := aI u28 14 2) (dk_Pars_aggregate 79 rfl) lk_Pars_140 rfl rfl rfl ?_
    obtain ⟨k34, e_k34, l_k34, h⟩ := h
    refine w_iast (k_ := k34) (dk_Pars_aggregate 80 rfl) rfl (by decide) e_k34 l_k34 ?_
    refine w_aload (dk_Pars_aggregate 81 rfl) rfl ?_
    refine w_bipush (v := 56) (dk_Pars_aggregate 82 rfl) rfl ?_
    refine w_iload (dk_Pars_aggregate 83 rfl) rfl ?_
    refine w_callVi (ls' := [some (.ref 14), some (.int 56), some (.int (aI u28 14 8))]) cv_Pars_85 (dk_Pars_aggregate 84 rfl) (ci := 3) rfl rfl [.int 56, .int (aI u28 14 8)] [] rfl rfl (Nat.le_of_ble_eq_true rfl) (Nat.le_of_ble_eq_true rfl) rfl rfl rfl h (fun r35 u36 h => ?_)
    refine w_pop (dk_Pars_aggregate 85 rfl) rfl ?_
    refine w_aload_n (dk_Pars_aggregate 86 rfl) rfl ?_
    refine w_bipush (v := 42) (dk_Pars_aggregate 87 rfl) rfl ?_
    refine w_callVv (ls' := [some (.ref 36), some (.int 42)]) cv_Pars_111 (dk_Pars_aggregate 88 rfl) (ci := 5) rfl rfl [.int 42] [] rfl rfl (Nat.le_of_ble_eq_true rfl) (Nat.le_of_ble_eq_true rfl) rfl rfl rfl h (fun u38 h => ?_)
    exact w_vret (dk_Pars_aggregate 89 rfl) rfl h
theorem g_Pars_kind_0 {d : Nat} {u : Us} {Q : Ot → Us → Prop} 
    (h : ((aI u 10 5) ≠ 20 → WS d m_Scan_fail 0 [some (.ref 10)] [] u (Rv (fun (u2 : Us) => WS d m_Scan_next 0 [some (.ref 10), none] [] u2 (Rv (fun (u4 : Us) => Q (.inl (some (.int (-1)))) u4) (fun x u => Q (.inr x) u))) (fun x u => Q (.inr x) u))) ∧ ((aI u 10 5) = 20 → WS d m_Mean_kindOf 0 [some (.ref 2), some (.int (aI u 10 6)), none] [] u (Ri (fun (r5 : Int32) (u6 : Us) => (0 ≤ r5 → WS d m_Scan_next 0 [some (.ref 10), none] [] u6 (Rv (fun (u8 : Us) => Q (.inl (some (.int r5))) u8) (fun x u => Q (.inr x) u))) ∧ (¬ (0 ≤ r5) → WS d m_Scan_fail 0 [some (.ref 10)] [] u6 (Rv (fun (u10 : Us) => WS d m_Scan_next 0 [some (.ref 10), none] [] u10 (Rv (fun (u12 : Us) => Q (.inl (some (.int r5))) u12) (fun x u => Q (.inr x) u))) (fun x u => Q (.inr x) u)))) (fun x u => Q (.inr x) u)))) :
    WS (d + 1) m_Pars_kind 0 [some (.ref 36), none] [] u Q := by
  refine w_aload_n (dk_Pars_kind 0 rfl) rfl ?_
  refine w_getr (dk_Pars_kind 1 rfl) lk_Pars_15 rfl rfl rfl ?_
  refine w_geti (v := aI u 10 5) (dk_Pars_kind 2 rfl) lk_Pars_31 rfl rfl rfl ?_
  refine w_bipush (v := 20) (dk_Pars_kind 3 rfl) rfl ?_
  refine w_icmp_ne 29 (dk_Pars_kind 4 rfl) (by decide) (fun c_ => ?_) (fun c_ => ?_)
  · replace h := h.1 c_
    refine w_iconst (v := (-1)) (dk_Pars_kind 12 rfl) rfl ?_
    refine w_istore_n (ls' := [some (.ref 36), some (.int (-1))]) (dk_Pars_kind 13 rfl) (by decide) rfl ?_
    refine w_iload_n (dk_Pars_kind 14 rfl) rfl ?_
    refine w_if_ge_f (dk_Pars_kind 15 rfl) 42 (by decide) (by decide) ?_
    refine w_aload_n (dk_Pars_kind 16 rfl) rfl ?_
    refine w_getr (dk_Pars_kind 17 rfl) lk_Pars_15 rfl rfl rfl ?_
    refine w_callVv (ls' := [some (.ref 10)]) cv_Pars_37 (dk_Pars_kind 18 rfl) (ci := 1) rfl rfl [] [] rfl rfl (Nat.le_of_ble_eq_true rfl) (Nat.le_of_ble_eq_true rfl) rfl rfl rfl h (fun u2 h => ?_)
    refine w_aload_n (dk_Pars_kind 19 rfl) rfl ?_
    refine w_getr (dk_Pars_kind 20 rfl) lk_Pars_15 rfl rfl rfl ?_
    refine w_callVv (ls' := [some (.ref 10), none]) cv_Pars_40 (dk_Pars_kind 21 rfl) (ci := 1) rfl rfl [] [] rfl rfl (Nat.le_of_ble_eq_true rfl) (Nat.le_of_ble_eq_true rfl) rfl rfl rfl h (fun u4 h => ?_)
    refine w_iload_n (dk_Pars_kind 22 rfl) rfl ?_
    exact w_iret (dk_Pars_kind 23 rfl) rfl h
  · replace h := h.2 c_
    refine w_aload_n (dk_Pars_kind 5 rfl) rfl ?_
    refine w_getr (dk_Pars_kind 6 rfl) lk_Pars_19 rfl rfl rfl ?_
    refine w_aload_n (dk_Pars_kind 7 rfl) rfl ?_
    refine w_getr (dk_Pars_kind 8 rfl) lk_Pars_15 rfl rfl rfl ?_
    refine w_geti (v := aI u 10 6) (dk_Pars_kind 9 rfl) lk_Pars_50 rfl rfl rfl ?_
    refine w_callVi (ls' := [some (.ref 2), some (.int (aI u 10 6)), none]) cv_Pars_53 (dk_Pars_kind 10 rfl) (ci := 0) rfl rfl [.int (aI u 10 6)] [] rfl rfl (Nat.le_of_ble_eq_true rfl) (Nat.le_of_ble_eq_true rfl) rfl rfl rfl h (fun r5 u6 h => ?_)
    refine w_goto 30 (dk_Pars_kind 11 rfl) (by decide) ?_
    refine w_istore_n (ls' := [some (.ref 36), some (.int r5)]) (dk_Pars_kind 13 rfl) (by decide) rfl ?_
    refine w_iload_n (dk_Pars_kind 14 rfl) rfl ?_
    refine w_if_ge 42 (dk_Pars_kind 15 rfl) (by decide) (fun c_ => ?_) (fun c_ => ?_)
    · replace h := h.1 c_
      refine w_aload_n (dk_Pars_kind 19 rfl) rfl ?_
      refine w_getr (dk_Pars_kind 20 rfl) lk_Pars_15 rfl rfl rfl ?_
      refine w_callVv (ls' := [some (.ref 10), none]) cv_Pars_40 (dk_Pars_kind 21 rfl) (ci := 1) rfl rfl [] [] rfl rfl (Nat.le_of_ble_eq_true rfl) (Nat.le_of_ble_eq_true rfl) rfl rfl rfl h (fun u8 h => ?_)
      refine w_iload_n (dk_Pars_kind 22 rfl) rfl ?_
      exact w_iret (dk_Pars_kind 23 rfl) rfl h
    · replace h := h.2 c_
      refine w_aload_n (dk_Pars_kind 16 rfl) rfl ?_
      refine w_getr (dk_Pars_kind 17 rfl) lk_Pars_15 rfl rfl rfl ?_
      refine w_callVv (ls' := [some (.ref 10)]) cv_Pars_37 (dk_Pars_kind 18 rfl) (ci := 1) rfl rfl [] [] rfl rfl (Nat.le_of_ble_eq_true rfl) (Nat.le_of_ble_eq_true rfl) rfl rfl rfl h (fun u10 h => ?_)
      refine w_aload_n (dk_Pars_kind 19 rfl) rfl ?_
      refine w_getr (dk_Pars_kind 20 rfl) lk_Pars_15 rfl rfl rfl ?_
      refine w_callVv (ls' := [some (.ref 10), none]) cv_Pars_40 (dk_Pars_kind 21 rfl) (ci := 1) rfl rfl [] [] rfl rfl (Nat.le_of_ble_eq_true rfl) (Nat.le_of_ble_eq_true rfl) rfl rfl rfl h (fun u12 h => ?_)
      refine w_iload_n (dk_Pars_kind 22 rfl) rfl ?_
      exact w_iret (dk_Pars_kind 23 rfl) rfl h
theorem g_Pars_condition_0 {d : Nat} {u : Us} {Q : Ot → Us → Prop} (p2 : Int32)
    (h : ((aI u 10 5) = 3 → WS d m_Scan_next 0 [some (.ref 10), none] [] u (Rv (fun (u2 : Us) => WS d m_Pars_either 0 [some (.ref 36)] [] (uI u2 36 7 p2) (Rv (fun (u4 : Us) => Q (.inl none) (uI u4 36 7 (-1))) (fun x u => Q (.inr x) u))) (fun x u => Q (.inr x) u))) ∧ (¬ ((aI u 10 5) = 3) → WS d m_Code_add 0 [some (.ref 14), some (.int 50), some (.int 1)] [] u (Ri (fun (r5 : Int32) (u6 : Us) => Q (.inl none) u6) (fun x u => Q (.inr x) u)))) :
    WS (d + 1) m_Pars_condition 0 [some (.ref 36), some (.int p2)] [] u Q := by
  refine w_aload_n (dk_Pars_condition 0 rfl) rfl ?_
  refine w_getr (dk_Pars_condition 1 rfl) lk_Pars_15 rfl rfl rfl ?_
  refine w_geti (v := aI u 10 5) (dk_Pars_condition 2 rfl) lk_Pars_31 rfl rfl rfl ?_
  refine w_iconst (v := 3) (dk_Pars_condition 3 rfl) rfl ?_
  refine w_icmp_eq 23 (dk_Pars_condition 4 rfl) (by decide) (fun c_ => ?_) (fun c_ => ?_)
  · replace h := h.1 c_
    refine w_aload_n (dk_Pars_condition 12 rfl) rfl ?_
    refine w_getr (dk_Pars_condition 13 rfl) lk_Pars_15 rfl rfl rfl ?_
    refine w_callVv (ls' := [some (.ref 10), none]) cv_Pars_40 (dk_Pars_condition 14 rfl) (ci := 1) rfl rfl [] [] rfl rfl (Nat.le_of_ble_eq_true rfl) (Nat.le_of_ble_eq_true rfl) rfl rfl rfl h (fun u2 h => ?_)
    refine w_aload_n (dk_Pars_condition 15 rfl) rfl ?_
    refine w_iload_n (dk_Pars_condition 16 rfl) rfl ?_
    refine w_puti (dk_Pars_condition 17 rfl) lk_Pars_114 rfl rfl ?_
    refine w_aload_n (dk_Pars_condition 18 rfl) rfl ?_
    refine w_callSv (ls' := [some (.ref 36)]) cv_Pars_108 (dk_Pars_condition 19 rfl) [.ref 36] [] rfl rfl (Nat.le_of_ble_eq_true rfl) (Nat.le_of_ble_eq_true rfl) rfl rfl rfl h (fun u4 h => ?_)
    refine w_aload_n (dk_Pars_condition 20 rfl) rfl ?_
    refine w_iconst (v := (-1)) (dk_Pars_condition 21 rfl) rfl ?_
    refine w_puti (dk_Pars_condition 22 rfl) lk_Pars_114 rfl rfl ?_
    exact w_vret (dk_Pars_condition 23 rfl) rfl h
  · replace h := h.2 c_
    refine w_aload_n (dk_Pars_condition 5 rfl) rfl ?_
    refine w_getr (dk_Pars_condition 6 rfl) lk_Pars_23 rfl rfl rfl ?_
    refine w_bipush (v := 50) (dk_Pars_condition 7 rfl) rfl ?_
    refine w_iconst (v := 1) (dk_Pars_condition 8 rfl) rfl ?_
    refine w_callVi (ls' := [some (.ref 14), some (.int 50), some (.int 1)]) cv_Pars_85 (dk_Pars_condition 9 rfl) (ci := 3) rfl rfl [.int 50, .int 1] [] rfl rfl (Nat.le_of_ble_eq_true rfl) (Nat.le_of_ble_eq_true rfl) rfl rfl rfl h (fun r5 u6 h => ?_)
    refine w_pop (dk_Pars_condition 10 rfl) rfl ?_
    exact w_vret (dk_Pars_condition 11 rfl) rfl h
theorem g_Pars_named_0 {d : Nat} {u : Us} {Q : Ot → Us → Prop} (p1 : Int32)
    (h : (0 ≤ (aI u 36 7) → WS d m_Mean_fieldOf 0 [some (.ref 2), some (.int (aI u 36 7)), some (.int p1), none] [] u (Ri (fun (r1 : Int32) (u2 : Us) => (r1 < 0 → WS d m_Mean_kindOf 0 [some (.ref 2), some (.int p1), none] [] u2 (Ri (fun (r3 : Int32) (u4 : Us) => (r3 < 0 → WS d m_Pars_variable 0 [some (.ref 36), none] [] u4 (Ri (fun (r5 : Int32) (u6 : Us) => WS d m_Code_add 0 [some (.ref 14), some (.int 51), some (.int r5)] [] u6 (Ri (fun (r7 : Int32) (u8 : Us) => Q (.inl none) u8) (fun x u => Q (.inr x) u))) (fun x u => Q (.inr x) u))) ∧ (¬ (r3 < 0) → WS d m_Pars_cursor 0 [some (.ref 36), none, none] [] u4 (Ri (fun (r9 : Int32) (u10 : Us) => WS d m_Pars_take 0 [some (.ref 36), some (.int 48)] [] u10 (Rv (fun (u12 : Us) => ∃ k13 : Nat, r9 = nI k13 ∧ k13 < 10 ∧ (WS d m_Pars_field 0 [some (.ref 36), some (.int (aI u12 37 k13)), none] [] u12 (Ri (fun (r14 : Int32) (u15 : Us) => WS d m_Code_add 0 [some (.ref 14), some (.int 53), some (.int (((r9 * 7) * 6) + r14))] [] u15 (Ri (fun (r16 : Int32) (u17 : Us) => Q (.inl none) u17) (fun x u => Q (.inr x) u))) (fun x u => Q (.inr x) u)))) (fun x u => Q (.inr x) u))) (fun x u => Q (.inr x) u)))) (fun x u => Q (.inr x) u))) ∧ (¬ (r1 < 0) → WS d m_Scan_next 0 [some (.ref 10), none] [] u2 (Rv (fun (u19 : Us) => WS d m_Code_add 0 [some (.ref 14), some (.int 52), some (.int r1)] [] u19 (Ri (fun (r20 : Int32) (u21 : Us) => Q (.inl none) u21) (fun x u => Q (.inr x) u))) (fun x u => Q (.inr x) u)))) (fun x u => Q (.inr x) u))) ∧ (¬ (0 ≤ (aI u 36 7)) → WS d m_Mean_kindOf 0 [some (.ref 2), some (.int p1), none] [] u (Ri (fun (r22 : Int32) (u23 : Us) => (r22 < 0 → WS d m_Pars_variable 0 [some (.ref 36), none] [] u23 (Ri (fun (r24 : Int32) (u25 : Us) => WS d m_Code_add 0 [some (.ref 14), some (.int 51), some (.int r24)] [] u25 (Ri (fun (r26 : Int32) (u27 : Us) => Q (.inl none) u27) (fun x u => Q (.inr x) u))) (fun x u => Q (.inr x) u))) ∧ (¬ (r22 < 0) → WS d m_Pars_cursor 0 [some (.ref 36), none, none] [] u23 (Ri (fun (r28 : Int32) (u29 : Us) => WS d m_Pars_take 0 [some (.ref 36), some (.int 48)] [] u29 (Rv (fun (u31 : Us) => ∃ k32 : Nat, r28 = nI k32 ∧ k32 < 10 ∧ (WS d m_Pars_field 0 [some (.ref 36), some (.int (aI u31 37 k32)), none] [] u31 (Ri (fun (r33 : Int32) (u34 : Us) => WS d m_Code_add 0 [some (.ref 14), some (.int 53), some (.int (((r28 * 7) * 6) + r33))] [] u34 (Ri (fun (r35 : Int32) (u36 : Us) => Q (.inl none) u36) (fun x u => Q (.inr x) u))) (fun x u => Q (.inr x) u)))) (fun x u => Q (.inr x) u))) (fun x u => Q (.inr x) u)))) (fun x u => Q (.inr x) u)))) :
    WS (d + 1) m_Pars_named 0 [some (.ref 36), some (.int p1), none, none] [] u Q := by
  refine w_aload_n (dk_Pars_named 0 rfl) rfl ?_
  refine w_geti (v := aI u 36 7) (dk_Pars_named 1 rfl) lk_Pars_114 rfl rfl rfl ?_
  refine w_if_ge 11 (dk_Pars_named 2 rfl) (by decide) (fun c_ => ?_) (fun c_ => ?_)
  · replace h := h.1 c_
    refine w_aload_n (dk_Pars_named 5 rfl) rfl ?_
    refine w_getr (dk_Pars_named 6 rfl) lk_Pars_19 rfl rfl rfl ?_
    refine w_aload_n (dk_Pars_named 7 rfl) rfl ?_
    refine w_geti (v := aI u 36 7) (dk_Pars_named 8 rfl) lk_Pars_114 rfl rfl rfl ?_
    refine w_iload_n (dk_Pars_named 9 rfl) rfl ?_
    refine w_callVi (ls' := [some (.ref 2), some (.int (aI u 36 7)), some (.int p1), none]) cv_Pars_63 (dk_Pars_named 10 rfl) (ci := 0) rfl rfl [.int (aI u 36 7), .int p1] [] rfl rfl (Nat.le_of_ble_eq_true rfl) (Nat.le_of_ble_eq_true rfl) rfl rfl rfl h (fun r1 u2 h => ?_)
    refine w_istore_n (ls' := [some (.ref 36), some (.int p1), some (.int r1), none]) (dk_Pars_named 11 rfl) (by decide) rfl ?_
    refine w_iload_n (dk_Pars_named 12 rfl) rfl ?_
    refine w_if_lt 49 (dk_Pars_named 13 rfl) (by decide) (fun c_ => ?_) (fun c_ => ?_)
    · replace h := h.1 c_
      refine w_aload_n (dk_Pars_named 24 rfl) rfl ?_
      refine w_getr (dk_Pars_named 25 rfl) lk_Pars_19 rfl rfl rfl ?_
      refine w_iload_n (dk_Pars_named 26 rfl) rfl ?_
      refine w_callVi (ls' := [some (.ref 2), some (.int p1), none]) cv_Pars_53 (dk_Pars_named 27 rfl) (ci := 0) rfl rfl [.int p1] [] rfl rfl (Nat.le_of_ble_eq_true rfl) (Nat.le_of_ble_eq_true rfl) rfl rfl rfl h (fun r3 u4 h => ?_)
      refine w_if_lt 102 (dk_Pars_named 28 rfl) (by decide) (fun c_ => ?_) (fun c_ => ?_)
      · replace h := h.1 c_
        refine w_aload_n (dk_Pars_named 53 rfl) rfl ?_
        refine w_getr (dk_Pars_named 54 rfl) lk_Pars_23 rfl rfl rfl ?_
        refine w_bipush (v := 51) (dk_Pars_named 55 rfl) rfl ?_
        refine w_aload_n (dk_Pars_named 56 rfl) rfl ?_
        refine w_callVi (ls' := [some (.ref 36), none]) cv_Pars_129 (dk_Pars_named 57 rfl) (ci := 5) rfl rfl [] [.int 51, .ref 14] rfl rfl (Nat.le_of_ble_eq_true rfl) (Nat.le_of_ble_eq_true rfl) rfl rfl rfl h (fun r5 u6 h => ?_)
        refine w_callVi (ls' := [some (.ref 14), some (.int 51), some (.int r5)]) cv_Pars_85 (dk_Pars_named 58 rfl) (ci := 3) rfl rfl [.int 51, .int r5] [] rfl rfl (Nat.le_of_ble_eq_true rfl) (Nat.le_of_ble_eq_true rfl) rfl rfl rfl h (fun r7 u8 h => ?_)
        refine w_pop (dk_Pars_named 59 rfl) rfl ?_
        exact w_vret (dk_Pars_named 60 rfl) rfl h
      · replace h := h.2 c_
        refine w_aload_n (dk_Pars_named 29 rfl) rfl ?_
        refine w_callVi (ls' := [some (.ref 36), none, none]) cv_Pars_123 (dk_Pars_named 30 rfl) (ci := 5) rfl rfl [] [] rfl rfl (Nat.le_of_ble_eq_true rfl) (Nat.le_of_ble_eq_true rfl) rfl rfl rfl h (fun r9 u10 h => ?_)
        refine w_istore_n (ls' := [some (.ref 36), some (.int p1), some (.int r1), some (.int r9)]) (dk_Pars_named 31 rfl) (by decide) rfl ?_
        refine w_aload_n (dk_Pars_named 32 rfl) rfl ?_
        refine w_bipush (v := 48) (dk_Pars_named 33 rfl) rfl ?_
        refine w_callVv (ls' := [some (.ref 36), some (.int 48)]) cv_Pars_46 (dk_Pars_named 34 rfl) (ci := 5) rfl rfl [.int 48] [] rfl rfl (Nat.le_of_ble_eq_true rfl) (Nat.le_of_ble_eq_true rfl) rfl rfl rfl h (fun u12 h => ?_)
        refine w_aload_n (dk_Pars_named 35 rfl) rfl ?_
        refine w_getr (dk_Pars_named 36 rfl) lk_Pars_23 rfl rfl rfl ?_
        refine w_bipush (v := 53) (dk_Pars_named 37 rfl) rfl ?_
        refine w_iload_n (dk_Pars_named 38 rfl) rfl ?_
        refine w_bipush (v := 7) (dk_Pars_named 39 rfl) rfl ?_
        refine w_imul (dk_Pars_named 40 rfl) ?_
        refine w_bipush (v := 6) (dk_Pars_named 41 rfl) rfl ?_
        refine w_imul (dk_Pars_named 42 rfl) ?_
        refine w_aload_n (dk_Pars_named 43 rfl) rfl ?_
        refine w_aload_n (dk_Pars_named 44 rfl) rfl ?_
        refine w_getr (dk_Pars_named 45 rfl) lk_Pars_9 rfl rfl rfl ?_
        refine w_iload_n (dk_Pars_named 46 rfl) rfl ?_
        obtain ⟨k13, e_k13, l_k13, h⟩ := h
        refine w_iald (k_ := k13) (dk_Pars_named 47 rfl) rfl (by decide) e_k13 l_k13 ?_
        refine w_callVi (ls' := [some (.ref 36), some (.int (aI u12 37 k13)), none]) cv_Pars_126 (dk_Pars_named 48 rfl) (ci := 5) rfl rfl [.int (aI u12 37 k13)] [.int ((r9 * 7) * 6), .int 53, .ref 14] rfl rfl (Nat.le_of_ble_eq_true rfl) (Nat.le_of_ble_eq_true rfl) rfl rfl rfl h (fun r14 u15 h => ?_)
        refine w_iadd (dk_Pars_named 49 rfl) ?_
        refine w_callVi (ls' := [some (.ref 14), some (.int 53), some (.int (((r9 * 7) * 6) + r14))]) cv_Pars_85 (dk_Pars_named 50 rfl) (ci := 3) rfl rfl [.int 53, .int (((r9 * 7) * 6) + r14)] [] rfl rfl (Nat.le_of_ble_eq_true rfl) (Nat.le_of_ble_eq_true rfl) rfl rfl rfl h (fun r16 u17 h => ?_)
        refine w_pop (dk_Pars_named 51 rfl) rfl ?_
        refine w_goto 116 (dk_Pars_named 52 rfl) (by decide) ?_
        exact w_vret (dk_Pars_named 60 rfl) rfl h
    · replace h := h.2 c_
      refine w_aload_n (dk_Pars_named 14 rfl) rfl ?_
      refine w_getr (dk_Pars_named 15 rfl) lk_Pars_15 rfl rfl rfl ?_
      refine w_callVv (ls' := [some (.ref 10), none]) cv_Pars_40 (dk_Pars_named 16 rfl) (ci := 1) rfl rfl [] [] rfl rfl (Nat.le_of_ble_eq_true rfl) (Nat.le_of_ble_eq_true rfl) rfl rfl rfl h (fun u19 h => ?_)
      refine w_aload_n (dk_Pars_named 17 rfl) rfl ?_
      refine w_getr (dk_Pars_named 18 rfl) lk_Pars_23 rfl rfl rfl ?_
      refine w_bipush (v := 52) (dk_Pars_named 19 rfl) rfl ?_
      refine w_iload_n (dk_Pars_named 20 rfl) rfl ?_
      refine w_callVi (ls' := [some (.ref 14), some (.int 52), some (.int r1)]) cv_Pars_85 (dk_Pars_named 21 rfl) (ci := 3) rfl rfl [.int 52, .int r1] [] rfl rfl (Nat.le_of_ble_eq_true rfl) (Nat.le_of_ble_eq_true rfl) rfl rfl rfl h (fun r20 u21 h => ?_)
      refine w_pop (dk_Pars_named 22 rfl) rfl ?_
      refine w_goto 116 (dk_Pars_named 23 rfl) (by decide) ?_
      exact w_vret (dk_Pars_named 60 rfl) rfl h
  · replace h := h.2 c_
    refine w_iconst (v := (-1)) (dk_Pars_named 3 rfl) rfl ?_
    refine w_goto 23 (dk_Pars_named 4 rfl) (by decide) ?_
    refine w_istore_n (ls' := [some (.ref 36), some (.int p1), some (.int (-1)), none]) (dk_Pars_named 11 rfl) (by decide) rfl ?_
    refine w_iload_n (dk_Pars_named 12 rfl) rfl ?_
    refine w_if_lt_t 49 (dk_Pars_named 13 rfl) (by decide) (by decide) ?_
    refine w_aload_n (dk_Pars_named 24 rfl) rfl ?_
    refine w_getr (dk_Pars_named 25 rfl) lk_Pars_19 rfl rfl rfl ?_
    refine w_iload_n (dk_Pars_named 26 rfl) rfl ?_
    refine w_callVi (ls' := [some (.ref 2), some (.int p1), none]) cv_Pars_53 (dk_Pars_named 27 rfl) (ci := 0) rfl rfl [.int p1] [] rfl rfl (Nat.le_of_ble_eq_true rfl) (Nat.le_of_ble_eq_true rfl) rfl rfl rfl h (fun r22 u23 h => ?_)
    refine w_if_lt 102 (dk_Pars_named 28 rfl) (by decide) (fun c_ => ?_) (fun c_ => ?_)
    · replace h := h.1 c_
      refine w_aload_n (dk_Pars_named 53 rfl) rfl ?_
      refine w_getr (dk_Pars_named 54 rfl) lk_Pars_23 rfl rfl rfl ?_
      refine w_bipush (v := 51) (dk_Pars_named 55 rfl) rfl ?_
      refine w_aload_n (dk_Pars_named 56 rfl) rfl ?_
      refine w_callVi (ls' := [some (.ref 36), none]) cv_Pars_129 (dk_Pars_named 57 rfl) (ci := 5) rfl rfl [] [.int 51, .ref 14] rfl rfl (Nat.le_of_ble_eq_true rfl) (Nat.le_of_ble_eq_true rfl) rfl rfl rfl h (fun r24 u25 h => ?_)
      refine w_callVi (ls' := [some (.ref 14), some (.int 51), some (.int r24)]) cv_Pars_85 (dk_Pars_named 58 rfl) (ci := 3) rfl rfl [.int 51, .int r24] [] rfl rfl (Nat.le_of_ble_eq_true rfl) (Nat.le_of_ble_eq_true rfl) rfl rfl rfl h (fun r26 u27 h => ?_)
      refine w_pop (dk_Pars_named 59 rfl) rfl ?_
      exact w_vret (dk_Pars_named 60 rfl) rfl h
    · replace h := h.2 c_
      refine w_aload_n (dk_Pars_named 29 rfl) rfl ?_
      refine w_callVi (ls' := [some (.ref 36), none, none]) cv_Pars_123 (dk_Pars_named 30 rfl) (ci := 5) rfl rfl [] [] rfl rfl (Nat.le_of_ble_eq_true rfl) (Nat.le_of_ble_eq_true rfl) rfl rfl rfl h (fun r28 u29 h => ?_)
      refine w_istore_n (ls' := [some (.ref 36), some (.int p1), some (.int (-1)), some (.int r28)]) (dk_Pars_named 31 rfl) (by decide) rfl ?_
      refine w_aload_n (dk_Pars_named 32 rfl) rfl ?_
      refine w_bipush (v := 48) (dk_Pars_named 33 rfl) rfl ?_
      refine w_callVv (ls' := [some (.ref 36), some (.int 48)]) cv_Pars_46 (dk_Pars_named 34 rfl) (ci := 5) rfl rfl [.int 48] [] rfl rfl (Nat.le_of_ble_eq_true rfl) (Nat.le_of_ble_eq_true rfl) rfl rfl rfl h (fun u31 h => ?_)
      refine w_aload_n (dk_Pars_named 35 rfl) rfl ?_
      refine w_getr (dk_Pars_named 36 rfl) lk_Pars_23 rfl rfl rfl ?_
      refine w_bipush (v := 53) (dk_Pars_named 37 rfl) rfl ?_
      refine w_iload_n (dk_Pars_named 38 rfl) rfl ?_
      refine w_bipush (v := 7) (dk_Pars_named 39 rfl) rfl ?_
      refine w_imul (dk_Pars_named 40 rfl) ?_
      refine w_bipush (v := 6) (dk_Pars_named 41 rfl) rfl ?_
      refine w_imul (dk_Pars_named 42 rfl) ?_
      refine w_aload_n (dk_Pars_named 43 rfl) rfl ?_
      refine w_aload_n (dk_Pars_named 44 rfl) rfl ?_
      refine w_getr (dk_Pars_named 45 rfl) lk_Pars_9 rfl rfl rfl ?_
      refine w_iload_n (dk_Pars_named 46 rfl) rfl ?_
      obtain ⟨k32, e_k32, l_k32, h⟩ := h
      refine w_iald (k_ := k32) (dk_Pars_named 47 rfl) rfl (by decide) e_k32 l_k32 ?_
      refine w_callVi (ls' := [some (.ref 36), some (.int (aI u31 37 k32)), none]) cv_Pars_126 (dk_Pars_named 48 rfl) (ci := 5) rfl rfl [.int (aI u31 37 k32)] [.int ((r28 * 7) * 6), .int 53, .ref 14] rfl rfl (Nat.le_of_ble_eq_true rfl) (Nat.le_of_ble_eq_true rfl) rfl rfl rfl h (fun r33 u34 h => ?_)
      refine w_iadd (dk_Pars_named 49 rfl) ?_
      refine w_callVi (ls' := [some (.ref 14), some (.int 53), some (.int (((r28 * 7) * 6) + r33))]) cv_Pars_85 (dk_Pars_named 50 rfl) (ci := 3) rfl rfl [.int 53, .int (((r28 * 7) * 6) + r33)] [] rfl rfl (Nat.le_of_ble_eq_true rfl) (Nat.le_of_ble_eq_true rfl) rfl rfl rfl h (fun r35 u36 h => ?_)
      refine w_pop (dk_Pars_named 51 rfl) rfl ?_
      refine w_goto 116 (dk_Pars_named 52 rfl) (by decide) ?_
      exact w_vret (dk_Pars_named 60 rfl) rfl h
theorem g_Pars_variable_0 {d : Nat} {u : Us} {Q : Ot → Us → Prop} 
    (h : WS d m_Mean_variableOf 0 [some (.ref 2), some (.int (aI u 10 6)), none] [] u (Ri (fun (r1 : Int32) (u2 : Us) => (0 ≤ r1 → (0 ≤ r1 → WS d m_Scan_next 0 [some (.ref 10), none] [] u2 (Rv (fun (u4 : Us) => Q (.inl (some (.int r1))) u4) (fun x u => Q (.inr x) u))) ∧ (¬ (0 ≤ r1) → ∃ k5 : Nat, aI u2 2 8 = nI k5 ∧ k5 < 20 ∧ (∃ k6 : Nat, aI u2 2 8 = nI k6 ∧ k6 < 20 ∧ (WS d m_Scan_next 0 [some (.ref 10), none] [] (uI (uI (uI u2 2 8 ((aI u2 2 8) + 1)) 8 k5 (aI u2 10 6)) 9 k6 0) (Rv (fun (u8 : Us) => Q (.inl (some (.int (aI u2 2 8)))) u8) (fun x u => Q (.inr x) u)))))) ∧ (¬ (0 ≤ r1) → ((aI u2 2 8) ≠ 20 → (0 ≤ r1 → WS d m_Scan_next 0 [some (.ref 10), none] [] u2 (Rv (fun (u10 : Us) => Q (.inl (some (.int r1))) u10) (fun x u => Q (.inr x) u))) ∧ (¬ (0 ≤ r1) → ∃ k11 : Nat, aI u2 2 8 = nI k11 ∧ k11 < 20 ∧ (∃ k12 : Nat, aI u2 2 8 = nI k12 ∧ k12 < 20 ∧ (WS d m_Scan_next 0 [some (.ref 10), none] [] (uI (uI (uI u2 2 8 ((aI u2 2 8) + 1)) 8 k11 (aI u2 10 6)) 9 k12 0) (Rv (fun (u14 : Us) => Q (.inl (some (.int (aI u2 2 8)))) u14) (fun x u => Q (.inr x) u)))))) ∧ ((aI u2 2 8) = 20 → WS d m_Scan_fail 0 [some (.ref 10)] [] u2 (Rv (fun (u16 : Us) => (0 ≤ r1 → WS d m_Scan_next 0 [some (.ref 10), none] [] u16 (Rv (fun (u18 : Us) => Q (.inl (some (.int r1))) u18) (fun x u => Q (.inr x) u))) ∧ (¬ (0 ≤ r1) → ∃ k19 : Nat, aI u16 2 8 = nI k19 ∧ k19 < 20 ∧ (∃ k20 : Nat, aI u16 2 8 = nI k20 ∧ k20 < 20 ∧ (WS d m_Scan_next 0 [some (.ref 10), none] [] (uI (uI (uI u16 2 8 ((aI u16 2 8) + 1)) 8 k19 (aI u16 10 6)) 9 k20 0) (Rv (fun (u22 : Us) => Q (.inl (some (.int (aI u16 2 8)))) u22) (fun x u => Q (.inr x) u)))))) (fun x u => Q (.inr x) u))))) (fun x u => Q (.inr x) u))) :
    WS (d + 1) m_Pars_variable 0 [some (.ref 36), none] [] u Q := by
  refine w_aload_n (dk_Pars_variable 0 rfl) rfl ?_
  refine w_getr (dk_Pars_variable 1 rfl) lk_Pars_19 rfl rfl rfl ?_
  refine w_aload_n (dk_Pars_variable 2 rfl) rfl ?_
  refine w_getr (dk_Pars_variable 3 rfl) lk_Pars_15 rfl rfl rfl ?_
  refine w_geti (v := aI u 10 6) (dk_Pars_variable 4 rfl) lk_Pars_50 rfl rfl rfl ?_
  refine w_callVi (ls' := [some (.ref 2), some (.int (aI u 10 6)), none]) cv_Pars_70 (dk_Pars_variable 5 rfl) (ci := 0) rfl rfl [.int (aI u 10 6)] [] rfl rfl (Nat.le_of_ble_eq_true rfl) (Nat.le_of_ble_eq_true rfl) rfl rfl rfl h (fun r1 u2 h => ?_)
  refine w_istore_n (ls' := [some (.ref 36), some (.int r1)]) (dk_Pars_variable 6 rfl) (by decide) rfl ?_
  refine w_iload_n (dk_Pars_variable 7 rfl) rfl ?_
  refine w_if_ge 38 (dk_Pars_variable 8 rfl) (by decide) (fun c_ => ?_) (fun c_ => ?_)
  · replace h := h.1 c_
    refine w_iload_n (dk_Pars_variable 17 rfl) rfl ?_
    refine w_if_ge 83 (dk_Pars_variable 18 rfl) (by decide) (fun c_ => ?_) (fun c_ => ?_)
    · replace h := h.1 c_
      refine w_aload_n (dk_Pars_variable 42 rfl) rfl ?_
      refine w_getr (dk_Pars_variable 43 rfl) lk_Pars_15 rfl rfl rfl ?_
      refine w_callVv (ls' := [some (.ref 10), none]) cv_Pars_40 (dk_Pars_variable 44 rfl) (ci := 1) rfl rfl [] [] rfl rfl (Nat.le_of_ble_eq_true rfl) (Nat.le_of_ble_eq_true rfl) rfl rfl rfl h (fun u4 h => ?_)
      refine w_iload_n (dk_Pars_variable 45 rfl) rfl ?_
      exact w_iret (dk_Pars_variable 46 rfl) rfl h
    · replace h := h.2 c_
      refine w_aload_n (dk_Pars_variable 19 rfl) rfl ?_
      refine w_getr (dk_Pars_variable 20 rfl) lk_Pars_19 rfl rfl rfl ?_
      refine w_dup (dk_Pars_variable 21 rfl) rfl ?_
      refine w_geti (v := aI u2 2 8) (dk_Pars_variable 22 rfl) lk_Pars_73 rfl rfl rfl ?_
      refine w_dup_x1 (dk_Pars_variable 23 rfl) rfl rfl ?_
      refine w_iconst (v := 1) (dk_Pars_variable 24 rfl) rfl ?_
      refine w_iadd (dk_Pars_variable 25 rfl) ?_
      refine w_puti (dk_Pars_variable 26 rfl) lk_Pars_73 rfl rfl ?_
      refine w_istore_n (ls' := [some (.ref 36), some (.int (aI u2 2 8))]) (dk_Pars_variable 27 rfl) (by decide) rfl ?_
      refine w_aload_n (dk_Pars_variable 28 rfl) rfl ?_
      refine w_getr (dk_Pars_variable 29 rfl) lk_Pars_19 rfl rfl rfl ?_
      refine w_getr (dk_Pars_variable 30 rfl) lk_Pars_76 rfl rfl rfl ?_
      refine w_iload_n (dk_Pars_variable 31 rfl) rfl ?_
      refine w_aload_n (dk_Pars_variable 32 rfl) rfl ?_
      refine w_getr (dk_Pars_variable 33 rfl) lk_Pars_15 rfl rfl rfl ?_
      refine w_geti (v := aI u2 10 6) (dk_Pars_variable 34 rfl) lk_Pars_50 rfl rfl rfl ?_
      obtain ⟨k5, e_k5, l_k5, h⟩ := h
      refine w_iast (k_ := k5) (dk_Pars_variable 35 rfl) rfl (by decide) e_k5 l_k5 ?_
      refine w_aload_n (dk_Pars_variable 36 rfl) rfl ?_
      refine w_getr (dk_Pars_variable 37 rfl) lk_Pars_19 rfl rfl rfl ?_
      refine w_getr (dk_Pars_variable 38 rfl) lk_Pars_79 rfl rfl rfl ?_
      refine w_iload_n (dk_Pars_variable 39 rfl) rfl ?_
      refine w_iconst (v := 0) (dk_Pars_variable 40 rfl) rfl ?_
      obtain ⟨k6, e_k6, l_k6, h⟩ := h
      refine w_iast (k_ := k6) (dk_Pars_variable 41 rfl) rfl (by decide) e_k6 l_k6 ?_
      refine w_aload_n (dk_Pars_variable 42 rfl) rfl ?_
      refine w_getr (dk_Pars_variable 43 rfl) lk_Pars_15 rfl rfl rfl ?_
      refine w_callVv (ls' := [some (.ref 10), none]) cv_Pars_40 (dk_Pars_variable 44 rfl) (ci := 1) rfl rfl [] [] rfl rfl (Nat.le_of_ble_eq_true rfl) (Nat.le_of_ble_eq_true rfl) rfl rfl rfl h (fun u8 h => ?_)
      refine w_iload_n (dk_Pars_variable 45 rfl) rfl ?_
      exact w_iret (dk_Pars_variable 46 rfl) rfl h
  · replace h := h.2 c_
    refine w_aload_n (dk_Pars_variable 9 rfl) rfl ?_
    refine w_getr (dk_Pars_variable 10 rfl) lk_Pars_19 rfl rfl rfl ?_
    refine w_geti (v := aI u2 2 8) (dk_Pars_variable 11 rfl) lk_Pars_73 rfl rfl rfl ?_
    refine w_bipush (v := 20) (dk_Pars_variable 12 rfl) rfl ?_
    refine w_icmp_ne 38 (dk_Pars_variable 13 rfl) (by decide) (fun c_ => ?_) (fun c_ => ?_)
    · replace h := h.1 c_
      refine w_iload_n (dk_Pars_variable 17 rfl) rfl ?_
      refine w_if_ge 83 (dk_Pars_variable 18 rfl) (by decide) (fun c_ => ?_) (fun c_ => ?_)
      · replace h := h.1 c_
        refine w_aload_n (dk_Pars_variable 42 rfl) rfl ?_
        refine w_getr (dk_Pars_variable 43 rfl) lk_Pars_15 rfl rfl rfl ?_
        refine w_callVv (ls' := [some (.ref 10), none]) cv_Pars_40 (dk_Pars_variable 44 rfl) (ci := 1) rfl rfl [] [] rfl rfl (Nat.le_of_ble_eq_true rfl) (Nat.le_of_ble_eq_true rfl) rfl rfl rfl h (fun u10 h => ?_)
        refine w_iload_n (dk_Pars_variable 45 rfl) rfl ?_
        exact w_iret (dk_Pars_variable 46 rfl) rfl h
      · replace h := h.2 c_
        refine w_aload_n (dk_Pars_variable 19 rfl) rfl ?_
        refine w_getr (dk_Pars_variable 20 rfl) lk_Pars_19 rfl rfl rfl ?_
        refine w_dup (dk_Pars_variable 21 rfl) rfl ?_
        refine w_geti (v := aI u2 2 8) (dk_Pars_variable 22 rfl) lk_Pars_73 rfl rfl rfl ?_
        refine w_dup_x1 (dk_Pars_variable 23 rfl) rfl rfl ?_
        refine w_iconst (v := 1) (dk_Pars_variable 24 rfl) rfl ?_
        refine w_iadd (dk_Pars_variable 25 rfl) ?_
        refine w_puti (dk_Pars_variable 26 rfl) lk_Pars_73 rfl rfl ?_
        refine w_istore_n (ls' := [some (.ref 36), some (.int (aI u2 2 8))]) (dk_Pars_variable 27 rfl) (by decide) rfl ?_
        refine w_aload_n (dk_Pars_variable 28 rfl) rfl ?_
        refine w_getr (dk_Pars_variable 29 rfl) lk_Pars_19 rfl rfl rfl ?_
        refine w_getr (dk_Pars_variable 30 rfl) lk_Pars_76 rfl rfl rfl ?_
        refine w_iload_n (dk_Pars_variable 31 rfl) rfl ?_
        refine w_aload_n (dk_Pars_variable 32 rfl) rfl ?_
        refine w_getr (dk_Pars_variable 33 rfl) lk_Pars_15 rfl rfl rfl ?_
        refine w_geti (v := aI u2 10 6) (dk_Pars_variable 34 rfl) lk_Pars_50 rfl rfl rfl ?_
        obtain ⟨k11, e_k11, l_k11, h⟩ := h
        refine w_iast (k_ := k11) (dk_Pars_variable 35 rfl) rfl (by decide) e_k11 l_k11 ?_
        refine w_aload_n (dk_Pars_variable 36 rfl) rfl ?_
        refine w_getr (dk_Pars_variable 37 rfl) lk_Pars_19 rfl rfl rfl ?_
        refine w_getr (dk_Pars_variable 38 rfl) lk_Pars_79 rfl rfl rfl ?_
        refine w_iload_n (dk_Pars_variable 39 rfl) rfl ?_
        refine w_iconst (v := 0) (dk_Pars_variable 40 rfl) rfl ?_
        obtain ⟨k12, e_k12, l_k12, h⟩ := h
        refine w_iast (k_ := k12) (dk_Pars_variable 41 rfl) rfl (by decide) e_k12 l_k12 ?_
        refine w_aload_n (dk_Pars_variable 42 rfl) rfl ?_
        refine w_getr (dk_Pars_variable 43 rfl) lk_Pars_15 rfl rfl rfl ?_
        refine w_callVv (ls' := [some (.ref 10), none]) cv_Pars_40 (dk_Pars_variable 44 rfl) (ci := 1) rfl rfl [] [] rfl rfl (Nat.le_of_ble_eq_true rfl) (Nat.le_of_ble_eq_true rfl) rfl rfl rfl h (fun u14 h => ?_)
        refine w_iload_n (dk_Pars_variable 45 rfl) rfl ?_
        exact w_iret (dk_Pars_variable 46 rfl) rfl h
    · replace h := h.2 c_
      refine w_aload_n (dk_Pars_variable 14 rfl) rfl ?_
      refine w_getr (dk_Pars_variable 15 rfl) lk_Pars_15 rfl rfl rfl ?_
      refine w_callVv (ls' := [some (.ref 10)]) cv_Pars_37 (dk_Pars_variable 16 rfl) (ci := 1) rfl rfl [] [] rfl rfl (Nat.le_of_ble_eq_true rfl) (Nat.le_of_ble_eq_true rfl) rfl rfl rfl h (fun u16 h => ?_)
      refine w_iload_n (dk_Pars_variable 17 rfl) rfl ?_
      refine w_if_ge 83 (dk_Pars_variable 18 rfl) (by decide) (fun c_ => ?_) (fun c_ => ?_)
      · replace h := h.1 c_
        refine w_aload_n (dk_Pars_variable 42 rfl) rfl ?_
        refine w_getr (dk_Pars_variable 43 rfl) lk_Pars_15 rfl rfl rfl ?_
        refine w_callVv (ls' := [some (.ref 10), none]) cv_Pars_40 (dk_Pars_variable 44 rfl) (ci := 1) rfl rfl [] [] rfl rfl (Nat.le_of_ble_eq_true rfl) (Nat.le_of_ble_eq_true rfl) rfl rfl rfl h (fun u18 h => ?_)
        refine w_iload_n (dk_Pars_variable 45 rfl) rfl ?_
        exact w_iret (dk_Pars_variable 46 rfl) rfl h
      · replace h := h.2 c_
        refine w_aload_n (dk_Pars_variable 19 rfl) rfl ?_
        refine w_getr (dk_Pars_variable 20 rfl) lk_Pars_19 rfl rfl rfl ?_
        refine w_dup (dk_Pars_variable 21 rfl) rfl ?_
        refine w_geti (v := aI u16 2 8) (dk_Pars_variable 22 rfl) lk_Pars_73 rfl rfl rfl ?_
        refine w_dup_x1 (dk_Pars_variable 23 rfl) rfl rfl ?_
        refine w_iconst (v := 1) (dk_Pars_variable 24 rfl) rfl ?_
        refine w_iadd (dk_Pars_variable 25 rfl) ?_
        refine w_puti (dk_Pars_variable 26 rfl) lk_Pars_73 rfl rfl ?_
        refine w_istore_n (ls' := [some (.ref 36), some (.int (aI u16 2 8))]) (dk_Pars_variable 27 rfl) (by decide) rfl ?_
        refine w_aload_n (dk_Pars_variable 28 rfl) rfl ?_
        refine w_getr (dk_Pars_variable 29 rfl) lk_Pars_19 rfl rfl rfl ?_
        refine w_getr (dk_Pars_variable 30 rfl) lk_Pars_76 rfl rfl rfl ?_
        refine w_iload_n (dk_Pars_variable 31 rfl) rfl ?_
        refine w_aload_n (dk_Pars_variable 32 rfl) rfl ?_
        refine w_getr (dk_Pars_variable 33 rfl) lk_Pars_15 rfl rfl rfl ?_
        refine w_geti (v := aI u16 10 6) (dk_Pars_variable 34 rfl) lk_Pars_50 rfl rfl rfl ?_
        obtain ⟨k19, e_k19, l_k19, h⟩ := h
        refine w_iast (k_ := k19) (dk_Pars_variable 35 rfl) rfl (by decide) e_k19 l_k19 ?_
        refine w_aload_n (dk_Pars_variable 36 rfl) rfl ?_
        refine w_getr (dk_Pars_variable 37 rfl) lk_Pars_19 rfl rfl rfl ?_
        refine w_getr (dk_Pars_variable 38 rfl) lk_Pars_79 rfl rfl rfl ?_
        refine w_iload_n (dk_Pars_variable 39 rfl) rfl ?_
        refine w_iconst (v := 0) (dk_Pars_variable 40 rfl) rfl ?_
        obtain ⟨k20, e_k20, l_k20, h⟩ := h
        refine w_iast (k_ := k20) (dk_Pars_variable 41 rfl) rfl (by decide) e_k20 l_k20 ?_
        refine w_aload_n (dk_Pars_variable 42 rfl) rfl ?_
        refine w_getr (dk_Pars_variable 43 rfl) lk_Pars_15 rfl rfl rfl ?_
        refine w_callVv (ls' := [some (.ref 10), none]) cv_Pars_40 (dk_Pars_variable 44 rfl) (ci := 1) rfl rfl [] [] rfl rfl (Nat.le_of_ble_eq_true rfl) (Nat.le_of_ble_eq_true rfl) rfl rfl rfl h (fun u22 h => ?_)
        refine w_iload_n (dk_Pars_variable 45 rfl) rfl ?_
        exact w_iret (dk_Pars_variable 46 rfl) rfl h
theorem g_Pars_declare_0 {d : Nat} {u : Us} {Q : Ot → Us → Prop} 
    (h : WS d m_Pars_name 0 [some (.ref 36)] [] u (Ri (fun (r1 : Int32) (u2 : Us) => WS d m_Mean_kindOf 0 [some (.ref 2), some (.int r1), none] [] u2 (Ri (fun (r3 : Int32) (u4 : Us) => (0 ≤ r3 → WS d m_Scan_fail 0 [some (.ref 10)] [] u4 (Rv (fun (u6 : Us) => WS d m_Scan_next 0 [some (.ref 10), none] [] u6 (Rv (fun (u8 : Us) => ∃ k9 : Nat, aI u8 2 7 = nI k9 ∧ k9 < 7 ∧ (WS (d + 1) m_Pars_declare 76 [some (.ref 36), some (.int r1), some (.int (aI u8 2 7)), some (.int 0), some (.int 1), none] [] (uI u8 4 k9 0) Q)) (fun x u => Q (.inr x) u))) (fun x u => Q (.inr x) u))) ∧ (¬ (0 ≤ r3) → WS d m_Mean_variableOf 0 [some (.ref 2), some (.int r1), none] [] u4 (Ri (fun (r10 : Int32) (u11 : Us) => (0 ≤ r10 → WS d m_Scan_fail 0 [some (.ref 10)] [] u11 (Rv (fun (u13 : Us) => WS d m_Scan_next 0 [some (.ref 10), none] [] u13 (Rv (fun (u15 : Us) => ∃ k16 : Nat, aI u15 2 7 = nI k16 ∧ k16 < 7 ∧ (WS (d + 1) m_Pars_declare 76 [some (.ref 36), some (.int r1), some (.int (aI u15 2 7)), some (.int 0), some (.int 1), none] [] (uI u15 4 k16 0) Q)) (fun x u => Q (.inr x) u))) (fun x u => Q (.inr x) u))) ∧ (¬ (0 ≤ r10) → ((aI u11 2 7) ≠ 7 → WS d m_Scan_next 0 [some (.ref 10), none] [] u11 (Rv (fun (u18 : Us) => ∃ k19 : Nat, aI u18 2 7 = nI k19 ∧ k19 < 7 ∧ (WS (d + 1) m_Pars_declare 76 [some (.ref 36), some (.int r1), some (.int (aI u18 2 7)), some (.int 0), some (.int 1), none] [] (uI u18 4 k19 0) Q)) (fun x u => Q (.inr x) u))) ∧ ((aI u11 2 7) = 7 → WS d m_Scan_fail 0 [some (.ref 10)] [] u11 (Rv (fun (u21 : Us) => WS d m_Scan_next 0 [some (.ref 10), none] [] u21 (Rv (fun (u23 : Us) => ∃ k24 : Nat, aI u23 2 7 = nI k24 ∧ k24 < 7 ∧ (WS (d + 1) m_Pars_declare 76 [some (.ref 36), some (.int r1), some (.int (aI u23 2 7)), some (.int 0), some (.int 1), none] [] (uI u23 4 k24 0) Q)) (fun x u => Q (.inr x) u))) (fun x u => Q (.inr x) u))))) (fun x u => Q (.inr x) u)))) (fun x u => Q (.inr x) u))) (fun x u => Q (.inr x) u))) :
    WS (d + 1) m_Pars_declare 0 [some (.ref 36), none, none, none, none, none] [] u Q := by
  refine w_aload_n (dk_Pars_declare 0 rfl) rfl ?_
  refine w_callVi (ls' := [some (.ref 36)]) cv_Pars_59 (dk_Pars_declare 1 rfl) (ci := 5) rfl rfl [] [] rfl rfl (Nat.le_of_ble_eq_true rfl) (Nat.le_of_ble_eq_true rfl) rfl rfl rfl h (fun r1 u2 h => ?_)
  refine w_istore_n (ls' := [some (.ref 36), some (.int r1), none, none, none, none]) (dk_Pars_declare 2 rfl) (by decide) rfl ?_
  refine w_aload_n (dk_Pars_declare 3 rfl) rfl ?_
  refine w_getr (dk_Pars_declare 4 rfl) lk_Pars_19 rfl rfl rfl ?_
  refine w_iload_n (dk_Pars_declare 5 rfl) rfl ?_
  refine w_callVi (ls' := [some (.ref 2), some (.int r1), none]) cv_Pars_53 (dk_Pars_declare 6 rfl) (ci := 0) rfl rfl [.int r1] [] rfl rfl (Nat.le_of_ble_eq_true rfl) (Nat.le_of_ble_eq_true rfl) rfl rfl rfl h (fun r3 u4 h => ?_)
  refine w_if_ge 39 (dk_Pars_declare 7 rfl) (by decide) (fun c_ => ?_) (fun c_ => ?_)
  · replace h := h.1 c_
    refine w_aload_n (dk_Pars_declare 18 rfl) rfl ?_
    refine w_getr (dk_Pars_declare 19 rfl) lk_Pars_15 rfl rfl rfl ?_
    refine w_callVv (ls' := [some (.ref 10)]) cv_Pars_37 (dk_Pars_declare 20 rfl) (ci := 1) rfl rfl [] [] rfl rfl (Nat.le_of_ble_eq_true rfl) (Nat.le_of_ble_eq_true rfl) rfl rfl rfl h (fun u6 h => ?_)
    refine w_aload_n (dk_Pars_declare 21 rfl) rfl ?_
    refine w_getr (dk_Pars_declare 22 rfl) lk_Pars_15 rfl rfl rfl ?_
    refine w_callVv (ls' := [some (.ref 10), none]) cv_Pars_40 (dk_Pars_declare 23 rfl) (ci := 1) rfl rfl [] [] rfl rfl (Nat.le_of_ble_eq_true rfl) (Nat.le_of_ble_eq_true rfl) rfl rfl rfl h (fun u8 h => ?_)
    refine w_aload_n (dk_Pars_declare 24 rfl) rfl ?_
    refine w_getr (dk_Pars_declare 25 rfl) lk_Pars_19 rfl rfl rfl ?_
    refine w_geti (v := aI u8 2 7) (dk_Pars_declare 26 rfl) lk_Pars_214 rfl rfl rfl ?_
    refine w_istore_n (ls' := [some (.ref 36), some (.int r1), some (.int (aI u8 2 7)), none, none, none]) (dk_Pars_declare 27 rfl) (by decide) rfl ?_
    refine w_iconst (v := 0) (dk_Pars_declare 28 rfl) rfl ?_
    refine w_istore_n (ls' := [some (.ref 36), some (.int r1), some (.int (aI u8 2 7)), some (.int 0), none, none]) (dk_Pars_declare 29 rfl) (by decide) rfl ?_
    refine w_aload_n (dk_Pars_declare 30 rfl) rfl ?_
    refine w_getr (dk_Pars_declare 31 rfl) lk_Pars_19 rfl rfl rfl ?_
    refine w_getr (dk_Pars_declare 32 rfl) lk_Pars_217 rfl rfl rfl ?_
    refine w_iload_n (dk_Pars_declare 33 rfl) rfl ?_
    refine w_iconst (v := 0) (dk_Pars_declare 34 rfl) rfl ?_
    obtain ⟨k9, e_k9, l_k9, h⟩ := h
    refine w_iast (k_ := k9) (dk_Pars_declare 35 rfl) rfl (by decide) e_k9 l_k9 ?_
    refine w_iconst (v := 1) (dk_Pars_declare 36 rfl) rfl ?_
    refine w_istore (ls' := [some (.ref 36), some (.int r1), some (.int (aI u8 2 7)), some (.int 0), some (.int 1), none]) (dk_Pars_declare 37 rfl) (by decide) rfl ?_
    exact h
  · replace h := h.2 c_
    refine w_aload_n (dk_Pars_declare 8 rfl) rfl ?_
    refine w_getr (dk_Pars_declare 9 rfl) lk_Pars_19 rfl rfl rfl ?_
    refine w_iload_n (dk_Pars_declare 10 rfl) rfl ?_
    refine w_callVi (ls' := [some (.ref 2), some (.int r1), none]) cv_Pars_70 (dk_Pars_declare 11 rfl) (ci := 0) rfl rfl [.int r1] [] rfl rfl (Nat.le_of_ble_eq_true rfl) (Nat.le_of_ble_eq_true rfl) rfl rfl rfl h (fun r10 u11 h => ?_)
    refine w_if_ge 39 (dk_Pars_declare 12 rfl) (by decide) (fun c_ => ?_) (fun c_ => ?_)
    · replace h := h.1 c_
      refine w_aload_n (dk_Pars_declare 18 rfl) rfl ?_
      refine w_getr (dk_Pars_declare 19 rfl) lk_Pars_15 rfl rfl rfl ?_
      refine w_callVv (ls' := [some (.ref 10)]) cv_Pars_37 (dk_Pars_declare 20 rfl) (ci := 1) rfl rfl [] [] rfl rfl (Nat.le_of_ble_eq_true rfl) (Nat.le_of_ble_eq_true rfl) rfl rfl rfl h (fun u13 h => ?_)
      refine w_aload_n (dk_Pars_declare 21 rfl) rfl ?_
      refine w_getr (dk_Pars_declare 22 rfl) lk_Pars_15 rfl rfl rfl ?_
      refine w_callVv (ls' := [some (.ref 10), none]) cv_Pars_40 (dk_Pars_declare 23 rfl) (ci := 1) rfl rfl [] [] rfl rfl (Nat.le_of_ble_eq_true rfl) (Nat.le_of_ble_eq_true rfl) rfl rfl rfl h (fun u15 h => ?_)
      refine w_aload_n (dk_Pars_declare 24 rfl) rfl ?_
      refine w_getr (dk_Pars_declare 25 rfl) lk_Pars_19 rfl rfl rfl ?_
      refine w_geti (v := aI u15 2 7) (dk_Pars_declare 26 rfl) lk_Pars_214 rfl rfl rfl ?_
      refine w_istore_n (ls' := [some (.ref 36), some (.int r1), some (.int (aI u15 2 7)), none, none, none]) (dk_Pars_declare 27 rfl) (by decide) rfl ?_
      refine w_iconst (v := 0) (dk_Pars_declare 28 rfl) rfl ?_
      refine w_istore_n (ls' := [some (.ref 36), some (.int r1), some (.int (aI u15 2 7)), some (.int 0), none, none]) (dk_Pars_declare 29 rfl) (by decide) rfl ?_
      refine w_aload_n (dk_Pars_declare 30 rfl) rfl ?_
      refine w_getr (dk_Pars_declare 31 rfl) lk_Pars_19 rfl rfl rfl ?_
      refine w_getr (dk_Pars_declare 32 rfl) lk_Pars_217 rfl rfl rfl ?_
      refine w_iload_n (dk_Pars_declare 33 rfl) rfl ?_
      refine w_iconst (v := 0) (dk_Pars_declare 34 rfl) rfl ?_
      obtain ⟨k16, e_k16, l_k16, h⟩ := h
      refine w_iast (k_ := k16) (dk_Pars_declare 35 rfl) rfl (by decide) e_k16 l_k16 ?_
      refine w_iconst (v := 1) (dk_Pars_declare 36 rfl) rfl ?_
      refine w_istore (ls' := [some (.ref 36), some (.int r1), some (.int (aI u15 2 7)), some (.int 0), some (.int 1), none]) (dk_Pars_declare 37 rfl) (by decide) rfl ?_
      exact h
    · replace h := h.2 c_
      refine w_aload_n (dk_Pars_declare 13 rfl) rfl ?_
      refine w_getr (dk_Pars_declare 14 rfl) lk_Pars_19 rfl rfl rfl ?_
      refine w_geti (v := aI u11 2 7) (dk_Pars_declare 15 rfl) lk_Pars_214 rfl rfl rfl ?_
      refine w_bipush (v := 7) (dk_Pars_declare 16 rfl) rfl ?_
      refine w_icmp_ne 46 (dk_Pars_declare 17 rfl) (by decide) (fun c_ => ?_) (fun c_ => ?_)
      · replace h := h.1 c_
        refine w_aload_n (dk_Pars_declare 21 rfl) rfl ?_
        refine w_getr (dk_Pars_declare 22 rfl) lk_Pars_15 rfl rfl rfl ?_
        refine w_callVv (ls' := [some (.ref 10), none]) cv_Pars_40 (dk_Pars_declare 23 rfl) (ci := 1) rfl rfl [] [] rfl rfl (Nat.le_of_ble_eq_true rfl) (Nat.le_of_ble_eq_true rfl) rfl rfl rfl h (fun u18 h => ?_)
        refine w_aload_n (dk_Pars_declare 24 rfl) rfl ?_
        refine w_getr (dk_Pars_declare 25 rfl) lk_Pars_19 rfl rfl rfl ?_
        refine w_geti (v := aI u18 2 7) (dk_Pars_declare 26 rfl) lk_Pars_214 rfl rfl rfl ?_
        refine w_istore_n (ls' := [some (.ref 36), some (.int r1), some (.int (aI u18 2 7)), none, none, none]) (dk_Pars_declare 27 rfl) (by decide) rfl ?_
        refine w_iconst (v := 0) (dk_Pars_declare 28 rfl) rfl ?_
        refine w_istore_n (ls' := [some (.ref 36), some (.int r1), some (.int (aI u18 2 7)), some (.int 0), none, none]) (dk_Pars_declare 29 rfl) (by decide) rfl ?_
        refine w_aload_n (dk_Pars_declare 30 rfl) rfl ?_
        refine w_getr (dk_Pars_declare 31 rfl) lk_Pars_19 rfl rfl rfl ?_
        refine w_getr (dk_Pars_declare 32 rfl) lk_Pars_217 rfl rfl rfl ?_
        refine w_iload_n (dk_Pars_declare 33 rfl) rfl ?_
        refine w_iconst (v := 0) (dk_Pars_declare 34 rfl) rfl ?_
        obtain ⟨k19, e_k19, l_k19, h⟩ := h
        refine w_iast (k_ := k19) (dk_Pars_declare 35 rfl) rfl (by decide) e_k19 l_k19 ?_
        refine w_iconst (v := 1) (dk_Pars_declare 36 rfl) rfl ?_
        refine w_istore (ls' := [some (.ref 36), some (.int r1), some (.int (aI u18 2 7)), some (.int 0), some (.int 1), none]) (dk_Pars_declare 37 rfl) (by decide) rfl ?_
        exact h
      · replace h := h.2 c_
        refine w_aload_n (dk_Pars_declare 18 rfl) rfl ?_
        refine w_getr (dk_Pars_declare 19 rfl) lk_Pars_15 rfl rfl rfl ?_
        refine w_callVv (ls' := [some (.ref 10)]) cv_Pars_37 (dk_Pars_declare 20 rfl) (ci := 1) rfl rfl [] [] rfl rfl (Nat.le_of_ble_eq_true rfl) (Nat.le_of_ble_eq_true rfl) rfl rfl rfl h (fun u21 h => ?_)
        refine w_aload_n (dk_Pars_declare 21 rfl) rfl ?_
        refine w_getr (dk_Pars_declare 22 rfl) lk_Pars_15 rfl rfl rfl ?_
        refine w_callVv (ls' := [some (.ref 10), none]) cv_Pars_40 (dk_Pars_declare 23 rfl) (ci := 1) rfl rfl [] [] rfl rfl (Nat.le_of_ble_eq_true rfl) (Nat.le_of_ble_eq_true rfl) rfl rfl rfl h (fun u23 h => ?_)
        refine w_aload_n (dk_Pars_declare 24 rfl) rfl ?_
        refine w_getr (dk_Pars_declare 25 rfl) lk_Pars_19 rfl rfl rfl ?_
        refine w_geti (v := aI u23 2 7) (dk_Pars_declare 26 rfl) lk_Pars_214 rfl rfl rfl ?_
        refine w_istore_n (ls' := [some (.ref 36), some (.int r1), some (.int (aI u23 2 7)), none, none, none]) (dk_Pars_declare 27 rfl) (by decide) rfl ?_
        refine w_iconst (v := 0) (dk_Pars_declare 28 rfl) rfl ?_
        refine w_istore_n (ls' := [some (.ref 36), some (.int r1), some (.int (aI u23 2 7)), some (.int 0), none, none]) (dk_Pars_declare 29 rfl) (by decide) rfl ?_
        refine w_aload_n (dk_Pars_declare 30 rfl) rfl ?_
        refine w_getr (dk_Pars_declare 31 rfl) lk_Pars_19 rfl rfl rfl ?_
        refine w_getr (dk_Pars_declare 32 rfl) lk_Pars_217 rfl rfl rfl ?_
        refine w_iload_n (dk_Pars_declare 33 rfl) rfl ?_
        refine w_iconst (v := 0) (dk_Pars_declare 34 rfl) rfl ?_
        obtain ⟨k24, e_k24, l_k24, h⟩ := h
        refine w_iast (k_ := k24) (dk_Pars_declare 35 rfl) rfl (by decide) e_k24 l_k24 ?_
        refine w_iconst (v := 1) (dk_Pars_declare 36 rfl) rfl ?_
        refine w_istore (ls' := [some (.ref 36), some (.int r1), some (.int (aI u23 2 7)), some (.int 0), some (.int 1), none]) (dk_Pars_declare 37 rfl) (by decide) rfl ?_
        exact h
theorem g_Pars_declare_76 {d : Nat} {u : Us} {Q : Ot → Us → Prop} (x1 : Int32) (x2 : Int32) (x3 : Int32) (x4 : Int32)
    (h : (x4 = 0 → ∃ k1 : Nat, x2 = nI k1 ∧ k1 < 7 ∧ (Q (.inl none) (uI (uI u 3 k1 x1) 2 7 ((aI u 2 7) + 1)))) ∧ (¬ (x4 = 0) → WS d m_Pars_name 0 [some (.ref 36)] [] u (Ri (fun (r2 : Int32) (u3 : Us) => WS d m_Mean_fieldOf 0 [some (.ref 2), some (.int x2), some (.int r2), none] [] u3 (Ri (fun (r4 : Int32) (u5 : Us) => (r4 < 0 → WS (d + 1) m_Pars_declare 103 [some (.ref 36), some (.int x1), some (.int x2), some (.int x3), some (.int x4), none] [] u5 Q) ∧ (¬ (r4 < 0) → WS d m_Scan_fail 0 [some (.ref 10)] [] u5 (Rv (fun (u7 : Us) => WS (d + 1) m_Pars_declare 103 [some (.ref 36), some (.int x1), some (.int x2), some (.int x3), some (.int x4), none] [] u7 Q) (fun x u => Q (.inr x) u)))) (fun x u => Q (.inr x) u))) (fun x u => Q (.inr x) u)))) :
    WS (d + 1) m_Pars_declare 76 [some (.ref 36), some (.int x1), some (.int x2), some (.int x3), some (.int x4), none] [] u Q := by
  refine w_iload (dk_Pars_declare 38 rfl) rfl ?_
  refine w_if_eq 325 (dk_Pars_declare 39 rfl) (by decide) (fun c_ => ?_) (fun c_ => ?_)
  · replace h := h.1 c_
    refine w_aload_n (dk_Pars_declare 160 rfl) rfl ?_
    refine w_getr (dk_Pars_declare 161 rfl) lk_Pars_19 rfl rfl rfl ?_
    refine w_getr (dk_Pars_declare 162 rfl) lk_Pars_227 rfl rfl rfl ?_
    refine w_iload_n (dk_Pars_declare 163 rfl) rfl ?_
    refine w_iload_n (dk_Pars_declare 164 rfl) rfl ?_
    obtain ⟨k1, e_k1, l_k1, h⟩ := h
    refine w_iast (k_ := k1) (dk_Pars_declare 165 rfl) rfl (by decide) e_k1 l_k1 ?_
    refine w_aload_n (dk_Pars_declare 166 rfl) rfl ?_
    refine w_getr (dk_Pars_declare 167 rfl) lk_Pars_19 rfl rfl rfl ?_
    refine w_dup (dk_Pars_declare 168 rfl) rfl ?_
    refine w_geti (v := aI u 2 7) (dk_Pars_declare 169 rfl) lk_Pars_214 rfl rfl rfl ?_
    refine w_iconst (v := 1) (dk_Pars_declare 170 rfl) rfl ?_
    refine w_iadd (dk_Pars_declare 171 rfl) ?_
    refine w_puti (dk_Pars_declare 172 rfl) lk_Pars_214 rfl rfl ?_
    exact w_vret (dk_Pars_declare 173 rfl) rfl h
  · replace h := h.2 c_
    refine w_aload_n (dk_Pars_declare 40 rfl) rfl ?_
    refine w_getr (dk_Pars_declare 41 rfl) lk_Pars_19 rfl rfl rfl ?_
    refine w_iload_n (dk_Pars_declare 42 rfl) rfl ?_
    refine w_aload_n (dk_Pars_declare 43 rfl) rfl ?_
    refine w_callVi (ls' := [some (.ref 36)]) cv_Pars_59 (dk_Pars_declare 44 rfl) (ci := 5) rfl rfl [] [.int x2, .ref 2] rfl rfl (Nat.le_of_ble_eq_true rfl) (Nat.le_of_ble_eq_true rfl) rfl rfl rfl h (fun r2 u3 h => ?_)
    refine w_callVi (ls' := [some (.ref 2), some (.int x2), some (.int r2), none]) cv_Pars_63 (dk_Pars_declare 45 rfl) (ci := 0) rfl rfl [.int x2, .int r2] [] rfl rfl (Nat.le_of_ble_eq_true rfl) (Nat.le_of_ble_eq_true rfl) rfl rfl rfl h (fun r4 u5 h => ?_)
    refine w_if_lt 103 (dk_Pars_declare 46 rfl) (by decide) (fun c_ => ?_) (fun c_ => ?_)
    · replace h := h.1 c_
      exact h
    · replace h := h.2 c_
      refine w_aload_n (dk_Pars_declare 47 rfl) rfl ?_
      refine w_getr (dk_Pars_declare 48 rfl) lk_Pars_15 rfl rfl rfl ?_
      refine w_callVv (ls' := [some (.ref 10)]) cv_Pars_37 (dk_Pars_declare 49 rfl) (ci := 1) rfl rfl [] [] rfl rfl (Nat.le_of_ble_eq_true rfl) (Nat.le_of_ble_eq_true rfl) rfl rfl rfl h (fun u7 h => ?_)
      exact h
theorem g_Pars_declare_103 {d : Nat} {u : Us} {Q : Ot → Us → Prop} (x1 : Int32) (x2 : Int32) (x3 : Int32) (x4 : Int32)
    (h : ∃ k1 : Nat, x2 = nI k1 ∧ k1 < 7 ∧ (∃ k2 : Nat, (x2 * 6) + (aI u 4 k1) = nI k2 ∧ k2 < 42 ∧ (WS d m_Scan_next 0 [some (.ref 10), none] [] (uI u 5 k2 (aI u 10 6)) (Rv (fun (u4 : Us) => WS d m_Pars_take 0 [some (.ref 36), some (.int 47)] [] u4 (Rv (fun (u6 : Us) => ((aI u6 10 5) ≠ 21 → WS d m_Scan_fail 0 [some (.ref 10)] [] u6 (Rv (fun (u8 : Us) => WS (d + 1) m_Pars_declare 205 [some (.ref 36), some (.int x1), some (.int x2), some (.int x3), some (.int x4), some (.int ((x2 * 6) + (aI u 4 k1)))] [] u8 Q) (fun x u => Q (.inr x) u))) ∧ ((aI u6 10 5) = 21 → ((aI u6 10 6) < 1 → WS d m_Scan_fail 0 [some (.ref 10)] [] u6 (Rv (fun (u10 : Us) => WS (d + 1) m_Pars_declare 205 [some (.ref 36), some (.int x1), some (.int x2), some (.int x3), some (.int x4), some (.int ((x2 * 6) + (aI u 4 k1)))] [] u10 Q) (fun x u => Q (.inr x) u))) ∧ (¬ ((aI u6 10 6) < 1) → (32 < (aI u6 10 6) → WS d m_Scan_fail 0 [some (.ref 10)] [] u6 (Rv (fun (u12 : Us) => WS (d + 1) m_Pars_declare 205 [some (.ref 36), some (.int x1), some (.int x2), some (.int x3), some (.int x4), some (.int ((x2 * 6) + (aI u 4 k1)))] [] u12 Q) (fun x u => Q (.inr x) u))) ∧ (¬ (32 < (aI u6 10 6)) → ((x3 + (aI u6 10 6)) ≤ 84 → WS (d + 1) m_Pars_declare 205 [some (.ref 36), some (.int x1), some (.int x2), some (.int x3), some (.int x4), some (.int ((x2 * 6) + (aI u 4 k1)))] [] u6 Q) ∧ (¬ ((x3 + (aI u6 10 6)) ≤ 84) → WS d m_Scan_fail 0 [some (.ref 10)] [] u6 (Rv (fun (u14 : Us) => WS (d + 1) m_Pars_declare 205 [some (.ref 36), some (.int x1), some (.int x2), some (.int x3), some (.int x4), some (.int ((x2 * 6) + (aI u 4 k1)))] [] u14 Q) (fun x u => Q (.inr x) u))))))) (fun x u => Q (.inr x) u))) (fun x u => Q (.inr x) u))))) :
    WS (d + 1) m_Pars_declare 103 [some (.ref 36), some (.int x1), some (.int x2), some (.int x3), some (.int x4), none] [] u Q := by
  refine w_iload_n (dk_Pars_declare 50 rfl) rfl ?_
  refine w_bipush (v := 6) (dk_Pars_declare 51 rfl) rfl ?_
  refine w_imul (dk_Pars_declare 52 rfl) ?_
  refine w_aload_n (dk_Pars_declare 53 rfl) rfl ?_
  refine w_getr (dk_Pars_declare 54 rfl) lk_Pars_19 rfl rfl rfl ?_
  refine w_getr (dk_Pars_declare 55 rfl) lk_Pars_217 rfl rfl rfl ?_
  refine w_iload_n (dk_Pars_declare 56 rfl) rfl ?_
  obtain ⟨k1, e_k1, l_k1, h⟩ := h
  refine w_iald (k_ := k1) (dk_Pars_declare 57 rfl) rfl (by decide) e_k1 l_k1 ?_
  refine w_iadd (dk_Pars_declare 58 rfl) ?_
  refine w_istore (ls' := [some (.ref 36), some (.int x1), some (.int x2), some (.int x3), some (.int x4), some (.int ((x2 * 6) + (aI u 4 k1)))]) (dk_Pars_declare 59 rfl) (by decide) rfl ?_
  refine w_aload_n (dk_Pars_declare 60 rfl) rfl ?_
  refine w_getr (dk_Pars_declare 61 rfl) lk_Pars_19 rfl rfl rfl ?_
  refine w_getr (dk_Pars_declare 62 rfl) lk_Pars_220 rfl rfl rfl ?_
  refine w_iload (dk_Pars_declare 63 rfl) rfl ?_
  refine w_aload_n (dk_Pars_declare 64 rfl) rfl ?_
  refine w_getr (dk_Pars_declare 65 rfl) lk_Pars_15 rfl rfl rfl ?_
  refine w_geti (v := aI u 10 6) (dk_Pars_declare 66 rfl) lk_Pars_50 rfl rfl rfl ?_
  obtain ⟨k2, e_k2, l_k2, h⟩ := h
  refine w_iast (k_ := k2) (dk_Pars_declare 67 rfl) rfl (by decide) e_k2 l_k2 ?_
  refine w_aload_n (dk_Pars_declare 68 rfl) rfl ?_
  refine w_getr (dk_Pars_declare 69 rfl) lk_Pars_15 rfl rfl rfl ?_
  refine w_callVv (ls' := [some (.ref 10), none]) cv_Pars_40 (dk_Pars_declare 70 rfl) (ci := 1) rfl rfl [] [] rfl rfl (Nat.le_of_ble_eq_true rfl) (Nat.le_of_ble_eq_true rfl) rfl rfl rfl h (fun u4 h => ?_)
  refine w_aload_n (dk_Pars_declare 71 rfl) rfl ?_
  refine w_bipush (v := 47) (dk_Pars_declare 72 rfl) rfl ?_
  refine w_callVv (ls' := [some (.ref 36), some (.int 47)]) cv_Pars_46 (dk_Pars_declare 73 rfl) (ci := 5) rfl rfl [.int 47] [] rfl rfl (Nat.le_of_ble_eq_true rfl) (Nat.le_of_ble_eq_true rfl) rfl rfl rfl h (fun u6 h => ?_)
  refine w_aload_n (dk_Pars_declare 74 rfl) rfl ?_
  refine w_getr (dk_Pars_declare 75 rfl) lk_Pars_15 rfl rfl rfl ?_
  refine w_geti (v := aI u6 10 5) (dk_Pars_declare 76 rfl) lk_Pars_31 rfl rfl rfl ?_
  refine w_bipush (v := 21) (dk_Pars_declare 77 rfl) rfl ?_
  refine w_icmp_ne 198 (dk_Pars_declare 78 rfl) (by decide) (fun c_ => ?_) (fun c_ => ?_)
  · replace h := h.1 c_
    refine w_aload_n (dk_Pars_declare 96 rfl) rfl ?_
    refine w_getr (dk_Pars_declare 97 rfl) lk_Pars_15 rfl rfl rfl ?_
    refine w_callVv (ls' := [some (.ref 10)]) cv_Pars_37 (dk_Pars_declare 98 rfl) (ci := 1) rfl rfl [] [] rfl rfl (Nat.le_of_ble_eq_true rfl) (Nat.le_of_ble_eq_true rfl) rfl rfl rfl h (fun u8 h => ?_)
    exact h
  · replace h := h.2 c_
    refine w_aload_n (dk_Pars_declare 79 rfl) rfl ?_
    refine w_getr (dk_Pars_declare 80 rfl) lk_Pars_15 rfl rfl rfl ?_
    refine w_geti (v := aI u6 10 6) (dk_Pars_declare 81 rfl) lk_Pars_50 rfl rfl rfl ?_
    refine w_iconst (v := 1) (dk_Pars_declare 82 rfl) rfl ?_
    refine w_icmp_lt 198 (dk_Pars_declare 83 rfl) (by decide) (fun c_ => ?_) (fun c_ => ?_)
    · replace h := h.1 c_
      refine w_aload_n (dk_Pars_declare 96 rfl) rfl ?_
      refine w_getr (dk_Pars_declare 97 rfl) lk_Pars_15 rfl rfl rfl ?_
      refine w_callVv (ls' := [some (.ref 10)]) cv_Pars_37 (dk_Pars_declare 98 rfl) (ci := 1) rfl rfl [] [] rfl rfl (Nat.le_of_ble_eq_true rfl) (Nat.le_of_ble_eq_true rfl) rfl rfl rfl h (fun u10 h => ?_)
      exact h
    · replace h := h.2 c_
      refine w_aload_n (dk_Pars_declare 84 rfl) rfl ?_
      refine w_getr (dk_Pars_declare 85 rfl) lk_Pars_15 rfl rfl rfl ?_
      refine w_geti (v := aI u6 10 6) (dk_Pars_declare 86 rfl) lk_Pars_50 rfl rfl rfl ?_
      refine w_bipush (v := 32) (dk_Pars_declare 87 rfl) rfl ?_
      refine w_icmp_gt 198 (dk_Pars_declare 88 rfl) (by decide) (fun c_ => ?_) (fun c_ => ?_)
      · replace h := h.1 c_
        refine w_aload_n (dk_Pars_declare 96 rfl) rfl ?_
        refine w_getr (dk_Pars_declare 97 rfl) lk_Pars_15 rfl rfl rfl ?_
        refine w_callVv (ls' := [some (.ref 10)]) cv_Pars_37 (dk_Pars_declare 98 rfl) (ci := 1) rfl rfl [] [] rfl rfl (Nat.le_of_ble_eq_true rfl) (Nat.le_of_ble_eq_true rfl) rfl rfl rfl h (fun u12 h => ?_)
        exact h
      · replace h := h.2 c_
        refine w_iload_n (dk_Pars_declare 89 rfl) rfl ?_
        refine w_aload_n (dk_Pars_declare 90 rfl) rfl ?_
        refine w_getr (dk_Pars_declare 91 rfl) lk_Pars_15 rfl rfl rfl ?_
        refine w_geti (v := aI u6 10 6) (dk_Pars_declare 92 rfl) lk_Pars_50 rfl rfl rfl ?_
        refine w_iadd (dk_Pars_declare 93 rfl) ?_
        refine w_bipush (v := 84) (dk_Pars_declare 94 rfl) rfl ?_
        refine w_icmp_le 205 (dk_Pars_declare 95 rfl) (by decide) (fun c_ => ?_) (fun c_ => ?_)
        · replace h := h.1 c_
          exact h
        · replace h := h.2 c_
          refine w_aload_n (dk_Pars_declare 96 rfl) rfl ?_
          refine w_getr (dk_Pars_declare 97 rfl) lk_Pars_15 rfl rfl rfl ?_
          refine w_callVv (ls' := [some (.ref 10)]) cv_Pars_37 (dk_Pars_declare 98 rfl) (ci := 1) rfl rfl [] [] rfl rfl (Nat.le_of_ble_eq_true rfl) (Nat.le_of_ble_eq_true rfl) rfl rfl rfl h (fun u14 h => ?_)
          exact h
theorem g_Pars_declare_205 {d : Nat} {u : Us} {Q : Ot → Us → Prop} (x1 : Int32) (x2 : Int32) (x3 : Int32) (x4 : Int32) (x5 : Int32)
    (h : ∃ k1 : Nat, x5 = nI k1 ∧ k1 < 42 ∧ (∃ k2 : Nat, x5 = nI k2 ∧ k2 < 42 ∧ (∃ k3 : Nat, x2 = nI k3 ∧ k3 < 7 ∧ (∃ k4 : Nat, x2 = nI k4 ∧ k4 < 7 ∧ (WS d m_Scan_next 0 [some (.ref 10), none] [] (uI (uI (uI u 6 k1 (aI u 10 6)) 7 k2 (3 + x3)) 4 k4 ((aI u 4 k3) + 1)) (Rv (fun (u6 : Us) => ((aI u6 10 5) ≠ 45 → WS (d + 1) m_Pars_declare 322 [some (.ref 36), some (.int x1), some (.int x2), some (.int (x3 + (aI u 10 6))), some (.int 0), some (.int x5)] [] u6 Q) ∧ ((aI u6 10 5) = 45 → ∃ k7 : Nat, x2 = nI k7 ∧ k7 < 7 ∧ (((aI u6 4 k7) ≠ 6 → WS d m_Scan_next 0 [some (.ref 10), none] [] u6 (Rv (fun (u9 : Us) => WS (d + 1) m_Pars_declare 322 [some (.ref 36), some (.int x1), some (.int x2), some (.int (x3 + (aI u 10 6))), some (.int 1), some (.int x5)] [] u9 Q) (fun x u => Q (.inr x) u))) ∧ ((aI u6 4 k7) = 6 → WS d m_Scan_fail 0 [some (.ref 10)] [] u6 (Rv (fun (u11 : Us) => WS d m_Scan_next 0 [some (.ref 10), none] [] u11 (Rv (fun (u13 : Us) => WS (d + 1) m_Pars_declare 322 [some (.ref 36), some (.int x1), some (.int x2), some (.int (x3 + (aI u 10 6))), some (.int 1), some (.int x5)] [] u13 Q) (fun x u => Q (.inr x) u))) (fun x u => Q (.inr x) u)))))) (fun x u => Q (.inr x) u))))))) :
    WS (d + 1) m_Pars_declare 205 [some (.ref 36), some (.int x1), some (.int x2), some (.int x3), some (.int x4), some (.int x5)] [] u Q := by
  refine w_aload_n (dk_Pars_declare 99 rfl) rfl ?_
  refine w_getr (dk_Pars_declare 100 rfl) lk_Pars_19 rfl rfl rfl ?_
  refine w_getr (dk_Pars_declare 101 rfl) lk_Pars_221 rfl rfl rfl ?_
  refine w_iload (dk_Pars_declare 102 rfl) rfl ?_
  refine w_aload_n (dk_Pars_declare 103 rfl) rfl ?_
  refine w_getr (dk_Pars_declare 104 rfl) lk_Pars_15 rfl rfl rfl ?_
  refine w_geti (v := aI u 10 6) (dk_Pars_declare 105 rfl) lk_Pars_50 rfl rfl rfl ?_
  obtain ⟨k1, e_k1, l_k1, h⟩ := h
  refine w_iast (k_ := k1) (dk_Pars_declare 106 rfl) rfl (by decide) e_k1 l_k1 ?_
  refine w_aload_n (dk_Pars_declare 107 rfl) rfl ?_
  refine w_getr (dk_Pars_declare 108 rfl) lk_Pars_19 rfl rfl rfl ?_
  refine w_getr (dk_Pars_declare 109 rfl) lk_Pars_224 rfl rfl rfl ?_
  refine w_iload (dk_Pars_declare 110 rfl) rfl ?_
  refine w_iconst (v := 3) (dk_Pars_declare 111 rfl) rfl ?_
  refine w_iload_n (dk_Pars_declare 112 rfl) rfl ?_
  refine w_iadd (dk_Pars_declare 113 rfl) ?_
  obtain ⟨k2, e_k2, l_k2, h⟩ := h
  refine w_iast (k_ := k2) (dk_Pars_declare 114 rfl) rfl (by decide) e_k2 l_k2 ?_
  refine w_iload_n (dk_Pars_declare 115 rfl) rfl ?_
  refine w_aload_n (dk_Pars_declare 116 rfl) rfl ?_
  refine w_getr (dk_Pars_declare 117 rfl) lk_Pars_15 rfl rfl rfl ?_
  refine w_geti (v := aI u 10 6) (dk_Pars_declare 118 rfl) lk_Pars_50 rfl rfl rfl ?_
  refine w_iadd (dk_Pars_declare 119 rfl) ?_
  refine w_istore_n (ls' := [some (.ref 36), some (.int x1), some (.int x2), some (.int (x3 + (aI u 10 6))), some (.int x4), some (.int x5)]) (dk_Pars_declare 120 rfl) (by decide) rfl ?_
  refine w_aload_n (dk_Pars_declare 121 rfl) rfl ?_
  refine w_getr (dk_Pars_declare 122 rfl) lk_Pars_19 rfl rfl rfl ?_
  refine w_getr (dk_Pars_declare 123 rfl) lk_Pars_217 rfl rfl rfl ?_
  refine w_iload_n (dk_Pars_declare 124 rfl) rfl ?_
  refine w_dup2 (dk_Pars_declare 125 rfl) rfl rfl ?_
  obtain ⟨k3, e_k3, l_k3, h⟩ := h
  refine w_iald (k_ := k3) (dk_Pars_declare 126 rfl) rfl (by decide) e_k3 l_k3 ?_
  show WS _ _ _ _ [.int (aI u 4 k3), .int x2, .ref 4] _ _
  refine w_iconst (v := 1) (dk_Pars_declare 127 rfl) rfl ?_
  refine w_iadd (dk_Pars_declare 128 rfl) ?_
  obtain ⟨k4, e_k4, l_k4, h⟩ := h
  refine w_iast (k_ := k4) (dk_Pars_declare 129 rfl) rfl (by decide) e_k4 l_k4 ?_
  refine w_aload_n (dk_Pars_declare 130 rfl) rfl ?_
  refine w_getr (dk_Pars_declare 131 rfl) lk_Pars_15 rfl rfl rfl ?_
  refine w_callVv (ls' := [some (.ref 10), none]) cv_Pars_40 (dk_Pars_declare 132 rfl) (ci := 1) rfl rfl [] [] rfl rfl (Nat.le_of_ble_eq_true rfl) (Nat.le_of_ble_eq_true rfl) rfl rfl rfl h (fun u6 h => ?_)
  refine w_aload_n (dk_Pars_declare 133 rfl) rfl ?_
  refine w_getr (dk_Pars_declare 134 rfl) lk_Pars_15 rfl rfl rfl ?_
  refine w_geti (v := aI u6 10 5) (dk_Pars_declare 135 rfl) lk_Pars_31 rfl rfl rfl ?_
  refine w_bipush (v := 45) (dk_Pars_declare 136 rfl) rfl ?_
  refine w_icmp_ne 281 (dk_Pars_declare 137 rfl) (by decide) (fun c_ => ?_) (fun c_ => ?_)
  · replace h := h.1 c_
    refine w_iconst (v := 0) (dk_Pars_declare 140 rfl) rfl ?_
    refine w_istore (ls' := [some (.ref 36), some (.int x1), some (.int x2), some (.int (x3 + (aI u 10 6))), some (.int 0), some (.int x5)]) (dk_Pars_declare 141 rfl) (by decide) rfl ?_
    refine w_iload (dk_Pars_declare 142 rfl) rfl ?_
    refine w_if_eq_t 310 (dk_Pars_declare 143 rfl) (by decide) (by decide) ?_
    refine w_iload (dk_Pars_declare 154 rfl) rfl ?_
    refine w_if_eq_t 322 (dk_Pars_declare 155 rfl) (by decide) (by decide) ?_
    exact h
  · replace h := h.2 c_
    refine w_iconst (v := 1) (dk_Pars_declare 138 rfl) rfl ?_
    refine w_goto 282 (dk_Pars_declare 139 rfl) (by decide) ?_
    refine w_istore (ls' := [some (.ref 36), some (.int x1), some (.int x2), some (.int (x3 + (aI u 10 6))), some (.int 1), some (.int x5)]) (dk_Pars_declare 141 rfl) (by decide) rfl ?_
    refine w_iload (dk_Pars_declare 142 rfl) rfl ?_
    refine w_if_eq_f (dk_Pars_declare 143 rfl) 310 (by decide) (by decide) ?_
    refine w_aload_n (dk_Pars_declare 144 rfl) rfl ?_
    refine w_getr (dk_Pars_declare 145 rfl) lk_Pars_19 rfl rfl rfl ?_
    refine w_getr (dk_Pars_declare 146 rfl) lk_Pars_217 rfl rfl rfl ?_
    refine w_iload_n (dk_Pars_declare 147 rfl) rfl ?_
    obtain ⟨k7, e_k7, l_k7, h⟩ := h
    refine w_iald (k_ := k7) (dk_Pars_declare 148 rfl) rfl (by decide) e_k7 l_k7 ?_
    refine w_bipush (v := 6) (dk_Pars_declare 149 rfl) rfl ?_
    refine w_icmp_ne 310 (dk_Pars_declare 150 rfl) (by decide) (fun c_ => ?_) (fun c_ => ?_)
    · replace h := h.1 c_
      refine w_iload (dk_Pars_declare 154 rfl) rfl ?_
      refine w_if_eq_f (dk_Pars_declare 155 rfl) 322 (by decide) (by decide) ?_
      refine w_aload_n (dk_Pars_declare 156 rfl) rfl ?_
      refine w_getr (dk_Pars_declare 157 rfl) lk_Pars_15 rfl rfl rfl ?_
      refine w_callVv (ls' := [some (.ref 10), none]) cv_Pars_40 (dk_Pars_declare 158 rfl) (ci := 1) rfl rfl [] [] rfl rfl (Nat.le_of_ble_eq_true rfl) (Nat.le_of_ble_eq_true rfl) rfl rfl rfl h (fun u9 h => ?_)
      exact h
    · replace h := h.2 c_
      refine w_aload_n (dk_Pars_declare 151 rfl) rfl ?_
      refine w_getr (dk_Pars_declare 152 rfl) lk_Pars_15 rfl rfl rfl ?_
      refine w_callVv (ls' := [some (.ref 10)]) cv_Pars_37 (dk_Pars_declare 153 rfl) (ci := 1) rfl rfl [] [] rfl rfl (Nat.le_of_ble_eq_true rfl) (Nat.le_of_ble_eq_true rfl) rfl rfl rfl h (fun u11 h => ?_)
      refine w_iload (dk_Pars_declare 154 rfl) rfl ?_
      refine w_if_eq_f (dk_Pars_declare 155 rfl) 322 (by decide) (by decide) ?_
      refine w_aload_n (dk_Pars_declare 156 rfl) rfl ?_
      refine w_getr (dk_Pars_declare 157 rfl) lk_Pars_15 rfl rfl rfl ?_
      refine w_callVv (ls' := [some (.ref 10), none]) cv_Pars_40 (dk_Pars_declare 158 rfl) (ci := 1) rfl rfl [] [] rfl rfl (Nat.le_of_ble_eq_true rfl) (Nat.le_of_ble_eq_true rfl) rfl rfl rfl h (fun u13 h => ?_)
      exact h
theorem g_Pars_declare_322 {d : Nat} {u : Us} {Q : Ot → Us → Prop} (x1 : Int32) (x2 : Int32) (x3 : Int32) (x4 : Int32) (x5 : Int32)
    (h : WS (d + 1) m_Pars_declare 76 [some (.ref 36), some (.int x1), some (.int x2), some (.int x3), some (.int x4), some (.int x5)] [] u Q) :
    WS (d + 1) m_Pars_declare 322 [some (.ref 36), some (.int x1), some (.int x2), some (.int x3), some (.int x4), some (.int x5)] [] u Q := by
  refine w_goto 76 (dk_Pars_declare 159 rfl) (by decide) ?_
  exact h
theorem g_Pars_insert_0 {d : Nat} {u : Us} {Q : Ot → Us → Prop} (p1 : Int32)
    (h : WS d m_Pars_kind 0 [some (.ref 36), none] [] u (Ri (fun (r1 : Int32) (u2 : Us) => ∃ k3 : Nat, p1 = nI k3 ∧ k3 < 160 ∧ (∃ k4 : Nat, p1 = nI k4 ∧ k4 < 160 ∧ (WS d m_Pars_row 0 [some (.ref 36), some (.int p1), some (.int (aI (uI u2 24 k3 r1) 24 k4)), none, none, none] [] (uI u2 24 k3 r1) (Rv (fun (u6 : Us) => Q (.inl none) u6) (fun x u => Q (.inr x) u))))) (fun x u => Q (.inr x) u))) :
    WS (d + 1) m_Pars_insert 0 [some (.ref 36), some (.int p1)] [] u Q := by
  refine w_aload_n (dk_Pars_insert 0 rfl) rfl ?_
  refine w_getr (dk_Pars_insert 1 rfl) lk_Pars_27 rfl rfl rfl ?_
  refine w_getr (dk_Pars_insert 2 rfl) lk_Pars_192 rfl rfl rfl ?_
  refine w_iload_n (dk_Pars_insert 3 rfl) rfl ?_
  refine w_aload_n (dk_Pars_insert 4 rfl) rfl ?_
  refine w_callVi (ls' := [some (.ref 36), none]) cv_Pars_131 (dk_Pars_insert 5 rfl) (ci := 5) rfl rfl [] [.int p1, .ref 24] rfl rfl (Nat.le_of_ble_eq_true rfl) (Nat.le_of_ble_eq_true rfl) rfl rfl rfl h (fun r1 u2 h => ?_)
  obtain ⟨k3, e_k3, l_k3, h⟩ := h
  refine w_iast (k_ := k3) (dk_Pars_insert 6 rfl) rfl (by decide) e_k3 l_k3 ?_
  refine w_aload_n (dk_Pars_insert 7 rfl) rfl ?_
  refine w_iload_n (dk_Pars_insert 8 rfl) rfl ?_
  refine w_aload_n (dk_Pars_insert 9 rfl) rfl ?_
  refine w_getr (dk_Pars_insert 10 rfl) lk_Pars_27 rfl rfl rfl ?_
  refine w_getr (dk_Pars_insert 11 rfl) lk_Pars_192 rfl rfl rfl ?_
  refine w_iload_n (dk_Pars_insert 12 rfl) rfl ?_
  obtain ⟨k4, e_k4, l_k4, h⟩ := h
  refine w_iald (k_ := k4) (dk_Pars_insert 13 rfl) rfl (by decide) e_k4 l_k4 ?_
  refine w_callVv (ls' := [some (.ref 36), some (.int p1), some (.int (aI (uI u2 24 k3 r1) 24 k4)), none, none, none]) cv_Pars_237 (dk_Pars_insert 14 rfl) (ci := 5) rfl rfl [.int p1, .int (aI (uI u2 24 k3 r1) 24 k4)] [] rfl rfl (Nat.le_of_ble_eq_true rfl) (Nat.le_of_ble_eq_true rfl) rfl rfl rfl h (fun u6 h => ?_)
  exact w_vret (dk_Pars_insert 15 rfl) rfl h
theorem g_Pars_row_0 {d : Nat} {u : Us} {Q : Ot → Us → Prop} (p1 : Int32) (p2 : Int32)
    (h : WS (d + 1) m_Pars_row 2 [some (.ref 36), some (.int p1), some (.int p2), some (.int 1), none, none] [] u Q) :
    WS (d + 1) m_Pars_row 0 [some (.ref 36), some (.int p1), some (.int p2), none, none, none] [] u Q := by
  refine w_iconst (v := 1) (dk_Pars_row 0 rfl) rfl ?_
  refine w_istore_n (ls' := [some (.ref 36), some (.int p1), some (.int p2), some (.int 1), none, none]) (dk_Pars_row 1 rfl) (by decide) rfl ?_
  exact h
theorem g_Pars_row_2 {d : Nat} {u : Us} {Q : Ot → Us → Prop} (x1 : Int32) (x2 : Int32) (x3 : Int32)
    (h : (x3 = 0 → Q (.inl none) u) ∧ (¬ (x3 = 0) → WS d m_Pars_name 0 [some (.ref 36)] [] u (Ri (fun (r1 : Int32) (u2 : Us) => WS d m_Mean_fieldOf 0 [some (.ref 2), some (.int x2), some (.int r1), none] [] u2 (Ri (fun (r3 : Int32) (u4 : Us) => ∃ k5 : Nat, x1 = nI k5 ∧ k5 < 160 ∧ (WS (d + 1) m_Pars_row 31 [some (.ref 36), some (.int x1), some (.int x2), some (.int x3), some (.int r3), some (.int (aI u4 31 k5))] [] u4 Q)) (fun x u => Q (.inr x) u))) (fun x u => Q (.inr x) u)))) :
    WS (d + 1) m_Pars_row 2 [some (.ref 36), some (.int x1), some (.int x2), some (.int x3), none, none] [] u Q := by
  refine w_iload_n (dk_Pars_row 2 rfl) rfl ?_
  refine w_if_eq 113 (dk_Pars_row 3 rfl) (by decide) (fun c_ => ?_) (fun c_ => ?_)
  · replace h := h.1 c_
    exact w_vret (dk_Pars_row 55 rfl) rfl h
  · replace h := h.2 c_
    refine w_aload_n (dk_Pars_row 4 rfl) rfl ?_
    refine w_getr (dk_Pars_row 5 rfl) lk_Pars_19 rfl rfl rfl ?_
    refine w_iload_n (dk_Pars_row 6 rfl) rfl ?_
    refine w_aload_n (dk_Pars_row 7 rfl) rfl ?_
    refine w_callVi (ls' := [some (.ref 36)]) cv_Pars_59 (dk_Pars_row 8 rfl) (ci := 5) rfl rfl [] [.int x2, .ref 2] rfl rfl (Nat.le_of_ble_eq_true rfl) (Nat.le_of_ble_eq_true rfl) rfl rfl rfl h (fun r1 u2 h => ?_)
    refine w_callVi (ls' := [some (.ref 2), some (.int x2), some (.int r1), none]) cv_Pars_63 (dk_Pars_row 9 rfl) (ci := 0) rfl rfl [.int x2, .int r1] [] rfl rfl (Nat.le_of_ble_eq_true rfl) (Nat.le_of_ble_eq_true rfl) rfl rfl rfl h (fun r3 u4 h => ?_)
    refine w_istore (ls' := [some (.ref 36), some (.int x1), some (.int x2), some (.int x3), some (.int r3), none]) (dk_Pars_row 10 rfl) (by decide) rfl ?_
    refine w_aload_n (dk_Pars_row 11 rfl) rfl ?_
    refine w_getr (dk_Pars_row 12 rfl) lk_Pars_27 rfl rfl rfl ?_
    refine w_getr (dk_Pars_row 13 rfl) lk_Pars_183 rfl rfl rfl ?_
    refine w_iload_n (dk_Pars_row 14 rfl) rfl ?_
    obtain ⟨k5, e_k5, l_k5, h⟩ := h
    refine w_iald (k_ := k5) (dk_Pars_row 15 rfl) rfl (by decide) e_k5 l_k5 ?_
    refine w_istore (ls' := [some (.ref 36), some (.int x1), some (.int x2), some (.int x3), some (.int r3), some (.int (aI u4 31 k5))]) (dk_Pars_row 16 rfl) (by decide) rfl ?_
    exact h
theorem g_Pars_row_31 {d : Nat} {u : Us} {Q : Ot → Us → Prop} (x1 : Int32) (x2 : Int32) (x3 : Int32) (x4 : Int32) (x5 : Int32)
    (h : ((aI u 22 14) ≤ x5 → WS d m_Pars_field 0 [some (.ref 36), some (.int x2), none] [] u (Ri (fun (r1 : Int32) (u2 : Us) => WS d m_Pars_puts 0 [some (.ref 36), some (.int x1), some (.int r1), none] [] u2 (Rv (fun (u4 : Us) => ((aI u4 10 5) ≠ 45 → WS (d + 1) m_Pars_row 2 [some (.ref 36), some (.int x1), some (.int x2), some (.int 0), some (.int x4), some (.int x5)] [] u4 Q) ∧ ((aI u4 10 5) = 45 → WS d m_Scan_next 0 [some (.ref 10), none] [] u4 (Rv (fun (u6 : Us) => WS (d + 1) m_Pars_row 2 [some (.ref 36), some (.int x1), some (.int x2), some (.int 1), some (.int x4), some (.int x5)] [] u6 Q) (fun x u => Q (.inr x) u)))) (fun x u => Q (.inr x) u))) (fun x u => Q (.inr x) u))) ∧ (¬ ((aI u 22 14) ≤ x5) → ∃ k7 : Nat, x5 = nI k7 ∧ k7 < 150 ∧ (((aI u 33 k7) ≠ x4 → WS (d + 1) m_Pars_row 31 [some (.ref 36), some (.int x1), some (.int x2), some (.int x3), some (.int x4), some (.int (x5 + 1))] [] u Q) ∧ ((aI u 33 k7) = x4 → WS d m_Scan_fail 0 [some (.ref 10)] [] u (Rv (fun (u9 : Us) => WS (d + 1) m_Pars_row 31 [some (.ref 36), some (.int x1), some (.int x2), some (.int x3), some (.int x4), some (.int (x5 + 1))] [] u9 Q) (fun x u => Q (.inr x) u)))))) :
    WS (d + 1) m_Pars_row 31 [some (.ref 36), some (.int x1), some (.int x2), some (.int x3), some (.int x4), some (.int x5)] [] u Q := by
  refine w_iload (dk_Pars_row 17 rfl) rfl ?_
  refine w_aload_n (dk_Pars_row 18 rfl) rfl ?_
  refine w_getr (dk_Pars_row 19 rfl) lk_Pars_27 rfl rfl rfl ?_
  refine w_geti (v := aI u 22 14) (dk_Pars_row 20 rfl) lk_Pars_186 rfl rfl rfl ?_
  refine w_icmp_ge 71 (dk_Pars_row 21 rfl) (by decide) (fun c_ => ?_) (fun c_ => ?_)
  · replace h := h.1 c_
    refine w_aload_n (dk_Pars_row 34 rfl) rfl ?_
    refine w_iload_n (dk_Pars_row 35 rfl) rfl ?_
    refine w_aload_n (dk_Pars_row 36 rfl) rfl ?_
    refine w_iload_n (dk_Pars_row 37 rfl) rfl ?_
    refine w_callVi (ls' := [some (.ref 36), some (.int x2), none]) cv_Pars_126 (dk_Pars_row 38 rfl) (ci := 5) rfl rfl [.int x2] [.int x1, .ref 36] rfl rfl (Nat.le_of_ble_eq_true rfl) (Nat.le_of_ble_eq_true rfl) rfl rfl rfl h (fun r1 u2 h => ?_)
    refine w_callVv (ls' := [some (.ref 36), some (.int x1), some (.int r1), none]) cv_Pars_193 (dk_Pars_row 39 rfl) (ci := 5) rfl rfl [.int x1, .int r1] [] rfl rfl (Nat.le_of_ble_eq_true rfl) (Nat.le_of_ble_eq_true rfl) rfl rfl rfl h (fun u4 h => ?_)
    refine w_aload_n (dk_Pars_row 40 rfl) rfl ?_
    refine w_getr (dk_Pars_row 41 rfl) lk_Pars_15 rfl rfl rfl ?_
    refine w_geti (v := aI u4 10 5) (dk_Pars_row 42 rfl) lk_Pars_31 rfl rfl rfl ?_
    refine w_bipush (v := 45) (dk_Pars_row 43 rfl) rfl ?_
    refine w_icmp_ne 97 (dk_Pars_row 44 rfl) (by decide) (fun c_ => ?_) (fun c_ => ?_)
    · replace h := h.1 c_
      refine w_iconst (v := 0) (dk_Pars_row 47 rfl) rfl ?_
      refine w_istore_n (ls' := [some (.ref 36), some (.int x1), some (.int x2), some (.int 0), some (.int x4), some (.int x5)]) (dk_Pars_row 48 rfl) (by decide) rfl ?_
      refine w_iload_n (dk_Pars_row 49 rfl) rfl ?_
      refine w_if_eq_t 110 (dk_Pars_row 50 rfl) (by decide) (by decide) ?_
      refine w_goto 2 (dk_Pars_row 54 rfl) (by decide) ?_
      exact h
    · replace h := h.2 c_
      refine w_iconst (v := 1) (dk_Pars_row 45 rfl) rfl ?_
      refine w_goto 98 (dk_Pars_row 46 rfl) (by decide) ?_
      refine w_istore_n (ls' := [some (.ref 36), some (.int x1), some (.int x2), some (.int 1), some (.int x4), some (.int x5)]) (dk_Pars_row 48 rfl) (by decide) rfl ?_
      refine w_iload_n (dk_Pars_row 49 rfl) rfl ?_
      refine w_if_eq_f (dk_Pars_row 50 rfl) 110 (by decide) (by decide) ?_
      refine w_aload_n (dk_Pars_row 51 rfl) rfl ?_
      refine w_getr (dk_Pars_row 52 rfl) lk_Pars_15 rfl rfl rfl ?_
      refine w_callVv (ls' := [some (.ref 10), none]) cv_Pars_40 (dk_Pars_row 53 rfl) (ci := 1) rfl rfl [] [] rfl rfl (Nat.le_of_ble_eq_true rfl) (Nat.le_of_ble_eq_true rfl) rfl rfl rfl h (fun u6 h => ?_)
      refine w_goto 2 (dk_Pars_row 54 rfl) (by decide) ?_
      exact h
  · replace h := h.2 c_
    refine w_aload_n (dk_Pars_row 22 rfl) rfl ?_
    refine w_getr (dk_Pars_row 23 rfl) lk_Pars_27 rfl rfl rfl ?_
    refine w_getr (dk_Pars_row 24 rfl) lk_Pars_228 rfl rfl rfl ?_
    refine w_iload (dk_Pars_row 25 rfl) rfl ?_
    obtain ⟨k7, e_k7, l_k7, h⟩ := h
    refine w_iald (k_ := k7) (dk_Pars_row 26 rfl) rfl (by decide) e_k7 l_k7 ?_
    refine w_iload (dk_Pars_row 27 rfl) rfl ?_
    refine w_icmp_ne 65 (dk_Pars_row 28 rfl) (by decide) (fun c_ => ?_) (fun c_ => ?_)
    · replace h := h.1 c_
      refine w_iinc (v := x5 + 1) (ls' := [some (.ref 36), some (.int x1), some (.int x2), some (.int x3), some (.int x4), some (.int (x5 + 1))]) (dk_Pars_row 32 rfl) rfl rfl (by decide) rfl ?_
      refine w_goto 31 (dk_Pars_row 33 rfl) (by decide) ?_
      exact h
    · replace h := h.2 c_
      refine w_aload_n (dk_Pars_row 29 rfl) rfl ?_
      refine w_getr (dk_Pars_row 30 rfl) lk_Pars_15 rfl rfl rfl ?_
      refine w_callVv (ls' := [some (.ref 10)]) cv_Pars_37 (dk_Pars_row 31 rfl) (ci := 1) rfl rfl [] [] rfl rfl (Nat.le_of_ble_eq_true rfl) (Nat.le_of_ble_eq_true rfl) rfl rfl rfl h (fun u9 h => ?_)
      refine w_iinc (v := x5 + 1) (ls' := [some (.ref 36), some (.int x1), some (.int x2), some (.int x3), some (.int x4), some (.int (x5 + 1))]) (dk_Pars_row 32 rfl) rfl rfl (by decide) rfl ?_
      refine w_goto 31 (dk_Pars_row 33 rfl) (by decide) ?_
      exact h
theorem g_Pars_changes_0 {d : Nat} {u : Us} {Q : Ot → Us → Prop} (p2 : Int32)
    (h : WS d m_Pars_kind 0 [some (.ref 36), none] [] u (Ri (fun (r1 : Int32) (u2 : Us) => ∃ k3 : Nat, p2 = nI k3 ∧ k3 < 160 ∧ (∃ k4 : Nat, p2 = nI k4 ∧ k4 < 160 ∧ (WS d m_Pars_condition 0 [some (.ref 36), some (.int r1)] [] (uI (uI u2 24 k3 r1) 26 k4 (aI u2 14 2)) (Rv (fun (u6 : Us) => ∃ k7 : Nat, p2 = nI k7 ∧ k7 < 160 ∧ (∃ k8 : Nat, p2 = nI k8 ∧ k8 < 160 ∧ (((aI u6 23 k8) ≠ 2 → WS d m_Pars_take 0 [some (.ref 36), some (.int 47)] [] (uI u6 27 k7 (aI u6 14 2)) (Rv (fun (u10 : Us) => WS d m_Pars_row 0 [some (.ref 36), some (.int p2), some (.int r1), none, none, none] [] (uI u10 36 7 r1) (Rv (fun (u12 : Us) => Q (.inl none) (uI u12 36 7 (-1))) (fun x u => Q (.inr x) u))) (fun x u => Q (.inr x) u))) ∧ ((aI u6 23 k8) = 2 → Q (.inl none) (uI u6 27 k7 (aI u6 14 2)))))) (fun x u => Q (.inr x) u))))) (fun x u => Q (.inr x) u))) :
    WS (d + 1) m_Pars_changes 0 [some (.ref 36), some (.int p2), none] [] u Q := by
  refine w_aload_n (dk_Pars_changes 0 rfl) rfl ?_
  refine w_callVi (ls' := [some (.ref 36), none]) cv_Pars_131 (dk_Pars_changes 1 rfl) (ci := 5) rfl rfl [] [] rfl rfl (Nat.le_of_ble_eq_true rfl) (Nat.le_of_ble_eq_true rfl) rfl rfl rfl h (fun r1 u2 h => ?_)
  refine w_istore_n (ls' := [some (.ref 36), some (.int p2), some (.int r1)]) (dk_Pars_changes 2 rfl) (by decide) rfl ?_
  refine w_aload_n (dk_Pars_changes 3 rfl) rfl ?_
  refine w_getr (dk_Pars_changes 4 rfl) lk_Pars_27 rfl rfl rfl ?_
  refine w_getr (dk_Pars_changes 5 rfl) lk_Pars_192 rfl rfl rfl ?_
  refine w_iload_n (dk_Pars_changes 6 rfl) rfl ?_
  refine w_iload_n (dk_Pars_changes 7 rfl) rfl ?_
  obtain ⟨k3, e_k3, l_k3, h⟩ := h
  refine w_iast (k_ := k3) (dk_Pars_changes 8 rfl) rfl (by decide) e_k3 l_k3 ?_
  refine w_aload_n (dk_Pars_changes 9 rfl) rfl ?_
  refine w_getr (dk_Pars_changes 10 rfl) lk_Pars_27 rfl rfl rfl ?_
  refine w_getr (dk_Pars_changes 11 rfl) lk_Pars_159 rfl rfl rfl ?_
  refine w_iload_n (dk_Pars_changes 12 rfl) rfl ?_
  refine w_aload_n (dk_Pars_changes 13 rfl) rfl ?_
  refine w_getr (dk_Pars_changes 14 rfl) lk_Pars_23 rfl rfl rfl ?_
  refine w_geti (v := aI u2 14 2) (dk_Pars_changes 15 rfl) lk_Pars_140 rfl rfl rfl ?_
  obtain ⟨k4, e_k4, l_k4, h⟩ := h
  refine w_iast (k_ := k4) (dk_Pars_changes 16 rfl) rfl (by decide) e_k4 l_k4 ?_
  refine w_aload_n (dk_Pars_changes 17 rfl) rfl ?_
  refine w_iload_n (dk_Pars_changes 18 rfl) rfl ?_
  refine w_callSv (ls' := [some (.ref 36), some (.int r1)]) cv_Pars_133 (dk_Pars_changes 19 rfl) [.ref 36, .int r1] [] rfl rfl (Nat.le_of_ble_eq_true rfl) (Nat.le_of_ble_eq_true rfl) rfl rfl rfl h (fun u6 h => ?_)
  refine w_aload_n (dk_Pars_changes 20 rfl) rfl ?_
  refine w_getr (dk_Pars_changes 21 rfl) lk_Pars_27 rfl rfl rfl ?_
  refine w_getr (dk_Pars_changes 22 rfl) lk_Pars_162 rfl rfl rfl ?_
  refine w_iload_n (dk_Pars_changes 23 rfl) rfl ?_
  refine w_aload_n (dk_Pars_changes 24 rfl) rfl ?_
  refine w_getr (dk_Pars_changes 25 rfl) lk_Pars_23 rfl rfl rfl ?_
  refine w_geti (v := aI u6 14 2) (dk_Pars_changes 26 rfl) lk_Pars_140 rfl rfl rfl ?_
  obtain ⟨k7, e_k7, l_k7, h⟩ := h
  refine w_iast (k_ := k7) (dk_Pars_changes 27 rfl) rfl (by decide) e_k7 l_k7 ?_
  refine w_aload_n (dk_Pars_changes 28 rfl) rfl ?_
  refine w_getr (dk_Pars_changes 29 rfl) lk_Pars_27 rfl rfl rfl ?_
  refine w_getr (dk_Pars_changes 30 rfl) lk_Pars_174 rfl rfl rfl ?_
  refine w_iload_n (dk_Pars_changes 31 rfl) rfl ?_
  obtain ⟨k8, e_k8, l_k8, h⟩ := h
  refine w_iald (k_ := k8) (dk_Pars_changes 32 rfl) rfl (by decide) e_k8 l_k8 ?_
  show WS _ _ _ _ [.int (aI u6 23 k8)] _ _
  refine w_iconst (v := 2) (dk_Pars_changes 33 rfl) rfl ?_
  refine w_icmp_ne 66 (dk_Pars_changes 34 rfl) (by decide) (fun c_ => ?_) (fun c_ => ?_)
  · replace h := h.1 c_
    refine w_aload_n (dk_Pars_changes 36 rfl) rfl ?_
    refine w_bipush (v := 47) (dk_Pars_changes 37 rfl) rfl ?_
    refine w_callVv (ls' := [some (.ref 36), some (.int 47)]) cv_Pars_46 (dk_Pars_changes 38 rfl) (ci := 5) rfl rfl [.int 47] [] rfl rfl (Nat.le_of_ble_eq_true rfl) (Nat.le_of_ble_eq_true rfl) rfl rfl rfl h (fun u10 h => ?_)
    refine w_aload_n (dk_Pars_changes 39 rfl) rfl ?_
    refine w_iload_n (dk_Pars_changes 40 rfl) rfl ?_
    refine w_puti (dk_Pars_changes 41 rfl) lk_Pars_114 rfl rfl ?_
    refine w_aload_n (dk_Pars_changes 42 rfl) rfl ?_
    refine w_iload_n (dk_Pars_changes 43 rfl) rfl ?_
    refine w_iload_n (dk_Pars_changes 44 rfl) rfl ?_
    refine w_callVv (ls' := [some (.ref 36), some (.int p2), some (.int r1), none, none, none]) cv_Pars_237 (dk_Pars_changes 45 rfl) (ci := 5) rfl rfl [.int p2, .int r1] [] rfl rfl (Nat.le_of_ble_eq_true rfl) (Nat.le_of_ble_eq_true rfl) rfl rfl rfl h (fun u12 h => ?_)
    refine w_aload_n (dk_Pars_changes 46 rfl) rfl ?_
    refine w_iconst (v := (-1)) (dk_Pars_changes 47 rfl) rfl ?_
    refine w_puti (dk_Pars_changes 48 rfl) lk_Pars_114 rfl rfl ?_
    exact w_vret (dk_Pars_changes 49 rfl) rfl h
  · replace h := h.2 c_
    exact w_vret (dk_Pars_changes 35 rfl) rfl h
theorem g_Pars_expression_0 {d : Nat} {u : Us} {Q : Ot → Us → Prop} (p2 : Int32)
    (h : ∃ k1 : Nat, p2 = nI k1 ∧ k1 < 160 ∧ (WS d m_Pars_either 0 [some (.ref 36)] [] (uI u 26 k1 (aI u 14 2)) (Rv (fun (u3 : Us) => ∃ k4 : Nat, p2 = nI k4 ∧ k4 < 160 ∧ (Q (.inl none) (uI u3 27 k4 (aI u3 14 2)))) (fun x u => Q (.inr x) u)))) :
    WS (d + 1) m_Pars_expression 0 [some (.ref 36), some (.int p2)] [] u Q := by
  refine w_aload_n (dk_Pars_expression 0 rfl) rfl ?_
  refine w_getr (dk_Pars_expression 1 rfl) lk_Pars_27 rfl rfl rfl ?_
  refine w_getr (dk_Pars_expression 2 rfl) lk_Pars_159 rfl rfl rfl ?_
  refine w_iload_n (dk_Pars_expression 3 rfl) rfl ?_
  refine w_aload_n (dk_Pars_expression 4 rfl) rfl ?_
  refine w_getr (dk_Pars_expression 5 rfl) lk_Pars_23 rfl rfl rfl ?_
  refine w_geti (v := aI u 14 2) (dk_Pars_expression 6 rfl) lk_Pars_140 rfl rfl rfl ?_
  obtain ⟨k1, e_k1, l_k1, h⟩ := h
  refine w_iast (k_ := k1) (dk_Pars_expression 7 rfl) rfl (by decide) e_k1 l_k1 ?_
  refine w_aload_n (dk_Pars_expression 8 rfl) rfl ?_
  refine w_callSv (ls' := [some (.ref 36)]) cv_Pars_108 (dk_Pars_expression 9 rfl) [.ref 36] [] rfl rfl (Nat.le_of_ble_eq_true rfl) (Nat.le_of_ble_eq_true rfl) rfl rfl rfl h (fun u3 h => ?_)
  refine w_aload_n (dk_Pars_expression 10 rfl) rfl ?_
  refine w_getr (dk_Pars_expression 11 rfl) lk_Pars_27 rfl rfl rfl ?_
  refine w_getr (dk_Pars_expression 12 rfl) lk_Pars_162 rfl rfl rfl ?_
  refine w_iload_n (dk_Pars_expression 13 rfl) rfl ?_
  refine w_aload_n (dk_Pars_expression 14 rfl) rfl ?_
  refine w_getr (dk_Pars_expression 15 rfl) lk_Pars_23 rfl rfl rfl ?_
  refine w_geti (v := aI u3 14 2) (dk_Pars_expression 16 rfl) lk_Pars_140 rfl rfl rfl ?_
  obtain ⟨k4, e_k4, l_k4, h⟩ := h
  refine w_iast (k_ := k4) (dk_Pars_expression 17 rfl) rfl (by decide) e_k4 l_k4 ?_
  exact w_vret (dk_Pars_expression 18 rfl) rfl h
theorem g_Pars_each_0 {d : Nat} {u : Us} {Q : Ot → Us → Prop} (p2 : Int32)
    (h : WS d m_Pars_kind 0 [some (.ref 36), none] [] u (Ri (fun (r1 : Int32) (u2 : Us) => WS d m_Pars_take 0 [some (.ref 36), some (.int 8)] [] u2 (Rv (fun (u4 : Us) => ∃ k5 : Nat, p2 = nI k5 ∧ k5 < 160 ∧ (WS d m_Pars_field 0 [some (.ref 36), some (.int r1), none] [] (uI u4 24 k5 r1) (Ri (fun (r6 : Int32) (u7 : Us) => ∃ k8 : Nat, p2 = nI k8 ∧ k8 < 160 ∧ (∃ k9 : Nat, p2 = nI k9 ∧ k9 < 160 ∧ (WS d m_Pars_condition 0 [some (.ref 36), some (.int r1)] [] (uI (uI u7 25 k8 r6) 26 k9 (aI u7 14 2)) (Rv (fun (u11 : Us) => ∃ k12 : Nat, p2 = nI k12 ∧ k12 < 160 ∧ (((aI u11 10 5) = 43 → (10 ≤ (aI u11 36 5) → WS d m_Pars_block 0 [some (.ref 36), none] [] (uI (uI u11 27 k12 (aI u11 14 2)) 36 5 ((aI u11 36 5) + 1)) (Ri (fun (r13 : Int32) (u14 : Us) => ∃ k15 : Nat, p2 = nI k15 ∧ k15 < 160 ∧ (Q (.inl none) (uI (uI u14 28 k15 r13) 36 5 ((aI u14 36 5) - 1)))) (fun x u => Q (.inr x) u))) ∧ (¬ (10 ≤ (aI u11 36 5)) → ∃ k16 : Nat, aI u11 36 5 = nI k16 ∧ k16 < 10 ∧ (WS d m_Pars_block 0 [some (.ref 36), none] [] (uI (uI (uI u11 27 k12 (aI u11 14 2)) 37 k16 r1) 36 5 ((aI u11 36 5) + 1)) (Ri (fun (r17 : Int32) (u18 : Us) => ∃ k19 : Nat, p2 = nI k19 ∧ k19 < 160 ∧ (Q (.inl none) (uI (uI u18 28 k19 r17) 36 5 ((aI u18 36 5) - 1)))) (fun x u => Q (.inr x) u))))) ∧ (¬ ((aI u11 10 5) = 43) → WS d m_Scan_fail 0 [some (.ref 10)] [] (uI u11 27 k12 (aI u11 14 2)) (Rv (fun (u21 : Us) => (10 ≤ (aI u21 36 5) → WS d m_Pars_block 0 [some (.ref 36), none] [] (uI u21 36 5 ((aI u21 36 5) + 1)) (Ri (fun (r22 : Int32) (u23 : Us) => ∃ k24 : Nat, p2 = nI k24 ∧ k24 < 160 ∧ (Q (.inl none) (uI (uI u23 28 k24 r22) 36 5 ((aI u23 36 5) - 1)))) (fun x u => Q (.inr x) u))) ∧ (¬ (10 ≤ (aI u21 36 5)) → ∃ k25 : Nat, aI u21 36 5 = nI k25 ∧ k25 < 10 ∧ (WS d m_Pars_block 0 [some (.ref 36), none] [] (uI (uI u21 37 k25 r1) 36 5 ((aI u21 36 5) + 1)) (Ri (fun (r26 : Int32) (u27 : Us) => ∃ k28 : Nat, p2 = nI k28 ∧ k28 < 160 ∧ (Q (.inl none) (uI (uI u27 28 k28 r26) 36 5 ((aI u27 36 5) - 1)))) (fun x u => Q (.inr x) u))))) (fun x u => Q (.inr x) u))))) (fun x u => Q (.inr x) u))))) (fun x u => Q (.inr x) u)))) (fun x u => Q (.inr x) u))) (fun x u => Q (.inr x) u))) :
    WS (d + 1) m_Pars_each 0 [some (.ref 36), some (.int p2), none] [] u Q := by
  refine w_aload_n (dk_Pars_each 0 rfl) rfl ?_
  refine w_callVi (ls' := [some (.ref 36), none]) cv_Pars_131 (dk_Pars_each 1 rfl) (ci := 5) rfl rfl [] [] rfl rfl (Nat.le_of_ble_eq_true rfl) (Nat.le_of_ble_eq_true rfl) rfl rfl rfl h (fun r1 u2 h => ?_)
  refine w_istore_n (ls' := [some (.ref 36), some (.int p2), some (.int r1)]) (dk_Pars_each 2 rfl) (by decide) rfl ?_
  refine w_aload_n (dk_Pars_each 3 rfl) rfl ?_
  refine w_bipush (v := 8) (dk_Pars_each 4 rfl) rfl ?_
  refine w_callVv (ls' := [some (.ref 36), some (.int 8)]) cv_Pars_46 (dk_Pars_each 5 rfl) (ci := 5) rfl rfl [.int 8] [] rfl rfl (Nat.le_of_ble_eq_true rfl) (Nat.le_of_ble_eq_true rfl) rfl rfl rfl h (fun u4 h => ?_)
  refine w_aload_n (dk_Pars_each 6 rfl) rfl ?_
  refine w_getr (dk_Pars_each 7 rfl) lk_Pars_27 rfl rfl rfl ?_
  refine w_getr (dk_Pars_each 8 rfl) lk_Pars_192 rfl rfl rfl ?_
  refine w_iload_n (dk_Pars_each 9 rfl) rfl ?_
  refine w_iload_n (dk_Pars_each 10 rfl) rfl ?_
  obtain ⟨k5, e_k5, l_k5, h⟩ := h
  refine w_iast (k_ := k5) (dk_Pars_each 11 rfl) rfl (by decide) e_k5 l_k5 ?_
  refine w_aload_n (dk_Pars_each 12 rfl) rfl ?_
  refine w_getr (dk_Pars_each 13 rfl) lk_Pars_27 rfl rfl rfl ?_
  refine w_getr (dk_Pars_each 14 rfl) lk_Pars_240 rfl rfl rfl ?_
  refine w_iload_n (dk_Pars_each 15 rfl) rfl ?_
  refine w_aload_n (dk_Pars_each 16 rfl) rfl ?_
  refine w_iload_n (dk_Pars_each 17 rfl) rfl ?_
  refine w_callVi (ls' := [some (.ref 36), some (.int r1), none]) cv_Pars_126 (dk_Pars_each 18 rfl) (ci := 5) rfl rfl [.int r1] [.int p2, .ref 25] rfl rfl (Nat.le_of_ble_eq_true rfl) (Nat.le_of_ble_eq_true rfl) rfl rfl rfl h (fun r6 u7 h => ?_)
  obtain ⟨k8, e_k8, l_k8, h⟩ := h
  refine w_iast (k_ := k8) (dk_Pars_each 19 rfl) rfl (by decide) e_k8 l_k8 ?_
  refine w_aload_n (dk_Pars_each 20 rfl) rfl ?_
  refine w_getr (dk_Pars_each 21 rfl) lk_Pars_27 rfl rfl rfl ?_
  refine w_getr (dk_Pars_each 22 rfl) lk_Pars_159 rfl rfl rfl ?_
  refine w_iload_n (dk_Pars_each 23 rfl) rfl ?_
  refine w_aload_n (dk_Pars_each 24 rfl) rfl ?_
  refine w_getr (dk_Pars_each 25 rfl) lk_Pars_23 rfl rfl rfl ?_
  refine w_geti (v := aI u7 14 2) (dk_Pars_each 26 rfl) lk_Pars_140 rfl rfl rfl ?_
  obtain ⟨k9, e_k9, l_k9, h⟩ := h
  refine w_iast (k_ := k9) (dk_Pars_each 27 rfl) rfl (by decide) e_k9 l_k9 ?_
  refine w_aload_n (dk_Pars_each 28 rfl) rfl ?_
  refine w_iload_n (dk_Pars_each 29 rfl) rfl ?_
  refine w_callSv (ls' := [some (.ref 36), some (.int r1)]) cv_Pars_133 (dk_Pars_each 30 rfl) [.ref 36, .int r1] [] rfl rfl (Nat.le_of_ble_eq_true rfl) (Nat.le_of_ble_eq_true rfl) rfl rfl rfl h (fun u11 h => ?_)
  refine w_aload_n (dk_Pars_each 31 rfl) rfl ?_
  refine w_getr (dk_Pars_each 32 rfl) lk_Pars_27 rfl rfl rfl ?_
  refine w_getr (dk_Pars_each 33 rfl) lk_Pars_162 rfl rfl rfl ?_
  refine w_iload_n (dk_Pars_each 34 rfl) rfl ?_
  refine w_aload_n (dk_Pars_each 35 rfl) rfl ?_
  refine w_getr (dk_Pars_each 36 rfl) lk_Pars_23 rfl rfl rfl ?_
  refine w_geti (v := aI u11 14 2) (dk_Pars_each 37 rfl) lk_Pars_140 rfl rfl rfl ?_
  obtain ⟨k12, e_k12, l_k12, h⟩ := h
  refine w_iast (k_ := k12) (dk_Pars_each 38 rfl) rfl (by decide) e_k12 l_k12 ?_
  refine w_aload_n (dk_Pars_each 39 rfl) rfl ?_
  refine w_getr (dk_Pars_each 40 rfl) lk_Pars_15 rfl rfl rfl ?_
  refine w_geti (v := aI u11 10 5) (dk_Pars_each 41 rfl) lk_Pars_31 rfl rfl rfl ?_
  refine w_bipush (v := 43) (dk_Pars_each 42 rfl) rfl ?_
  refine w_icmp_eq 91 (dk_Pars_each 43 rfl) (by decide) (fun c_ => ?_) (fun c_ => ?_)
  · replace h := h.1 c_
    refine w_aload_n (dk_Pars_each 47 rfl) rfl ?_
    refine w_geti (v := aI u11 36 5) (dk_Pars_each 48 rfl) lk_Pars_67 rfl rfl rfl ?_
    refine w_bipush (v := 10) (dk_Pars_each 49 rfl) rfl ?_
    refine w_icmp_ge 110 (dk_Pars_each 50 rfl) (by decide) (fun c_ => ?_) (fun c_ => ?_)
    · replace h := h.1 c_
      refine w_aload_n (dk_Pars_each 57 rfl) rfl ?_
      refine w_dup (dk_Pars_each 58 rfl) rfl ?_
      refine w_geti (v := aI u11 36 5) (dk_Pars_each 59 rfl) lk_Pars_67 rfl rfl rfl ?_
      refine w_iconst (v := 1) (dk_Pars_each 60 rfl) rfl ?_
      refine w_iadd (dk_Pars_each 61 rfl) ?_
      refine w_puti (dk_Pars_each 62 rfl) lk_Pars_67 rfl rfl ?_
      refine w_aload_n (dk_Pars_each 63 rfl) rfl ?_
      refine w_getr (dk_Pars_each 64 rfl) lk_Pars_27 rfl rfl rfl ?_
      refine w_getr (dk_Pars_each 65 rfl) lk_Pars_177 rfl rfl rfl ?_
      refine w_iload_n (dk_Pars_each 66 rfl) rfl ?_
      refine w_aload_n (dk_Pars_each 67 rfl) rfl ?_
      refine w_callSi (ls' := [some (.ref 36), none]) cv_Pars_211 (dk_Pars_each 68 rfl) [.ref 36] [.int p2, .ref 28] rfl rfl (Nat.le_of_ble_eq_true rfl) (Nat.le_of_ble_eq_true rfl) rfl rfl rfl h (fun r13 u14 h => ?_)
      obtain ⟨k15, e_k15, l_k15, h⟩ := h
      refine w_iast (k_ := k15) (dk_Pars_each 69 rfl) rfl (by decide) e_k15 l_k15 ?_
      refine w_aload_n (dk_Pars_each 70 rfl) rfl ?_
      refine w_dup (dk_Pars_each 71 rfl) rfl ?_
      refine w_geti (v := aI u14 36 5) (dk_Pars_each 72 rfl) lk_Pars_67 rfl rfl rfl ?_
      refine w_iconst (v := 1) (dk_Pars_each 73 rfl) rfl ?_
      refine w_isub (dk_Pars_each 74 rfl) ?_
      refine w_puti (dk_Pars_each 75 rfl) lk_Pars_67 rfl rfl ?_
      exact w_vret (dk_Pars_each 76 rfl) rfl h
    · replace h := h.2 c_
      refine w_aload_n (dk_Pars_each 51 rfl) rfl ?_
      refine w_getr (dk_Pars_each 52 rfl) lk_Pars_9 rfl rfl rfl ?_
      refine w_aload_n (dk_Pars_each 53 rfl) rfl ?_
      refine w_geti (v := aI u11 36 5) (dk_Pars_each 54 rfl) lk_Pars_67 rfl rfl rfl ?_
      refine w_iload_n (dk_Pars_each 55 rfl) rfl ?_
      obtain ⟨k16, e_k16, l_k16, h⟩ := h
      refine w_iast (k_ := k16) (dk_Pars_each 56 rfl) rfl (by decide) e_k16 l_k16 ?_
      refine w_aload_n (dk_Pars_each 57 rfl) rfl ?_
      refine w_dup (dk_Pars_each 58 rfl) rfl ?_
      refine w_geti (v := aI u11 36 5) (dk_Pars_each 59 rfl) lk_Pars_67 rfl rfl rfl ?_
      refine w_iconst (v := 1) (dk_Pars_each 60 rfl) rfl ?_
      refine w_iadd (dk_Pars_each 61 rfl) ?_
      refine w_puti (dk_Pars_each 62 rfl) lk_Pars_67 rfl rfl ?_
      refine w_aload_n (dk_Pars_each 63 rfl) rfl ?_
      refine w_getr (dk_Pars_each 64 rfl) lk_Pars_27 rfl rfl rfl ?_
      refine w_getr (dk_Pars_each 65 rfl) lk_Pars_177 rfl rfl rfl ?_
      refine w_iload_n (dk_Pars_each 66 rfl) rfl ?_
      refine w_aload_n (dk_Pars_each 67 rfl) rfl ?_
      refine w_callSi (ls' := [some (.ref 36), none]) cv_Pars_211 (dk_Pars_each 68 rfl) [.ref 36] [.int p2, .ref 28] rfl rfl (Nat.le_of_ble_eq_true rfl) (Nat.le_of_ble_eq_true rfl) rfl rfl rfl h (fun r17 u18 h => ?_)
      obtain ⟨k19, e_k19, l_k19, h⟩ := h
      refine w_iast (k_ := k19) (dk_Pars_each 69 rfl) rfl (by decide) e_k19 l_k19 ?_
      refine w_aload_n (dk_Pars_each 70 rfl) rfl ?_
      refine w_dup (dk_Pars_each 71 rfl) rfl ?_
      refine w_geti (v := aI u18 36 5) (dk_Pars_each 72 rfl) lk_Pars_67 rfl rfl rfl ?_
      refine w_iconst (v := 1) (dk_Pars_each 73 rfl) rfl ?_
      refine w_isub (dk_Pars_each 74 rfl) ?_
      refine w_puti (dk_Pars_each 75 rfl) lk_Pars_67 rfl rfl ?_
      exact w_vret (dk_Pars_each 76 rfl) rfl h
  · replace h := h.2 c_
    refine w_aload_n (dk_Pars_each 44 rfl) rfl ?_
    refine w_getr (dk_Pars_each 45 rfl) lk_Pars_15 rfl rfl rfl ?_
    refine w_callVv (ls' := [some (.ref 10)]) cv_Pars_37 (dk_Pars_each 46 rfl) (ci := 1) rfl rfl [] [] rfl rfl (Nat.le_of_ble_eq_true rfl) (Nat.le_of_ble_eq_true rfl) rfl rfl rfl h (fun u21 h => ?_)
    refine w_aload_n (dk_Pars_each 47 rfl) rfl ?_
    refine w_geti (v := aI u21 36 5) (dk_Pars_each 48 rfl) lk_Pars_67 rfl rfl rfl ?_
    refine w_bipush (v := 10) (dk_Pars_each 49 rfl) rfl ?_
    refine w_icmp_ge 110 (dk_Pars_each 50 rfl) (by decide) (fun c_ => ?_) (fun c_ => ?_)
    · replace h := h.1 c_
      refine w_aload_n (dk_Pars_each 57 rfl) rfl ?_
      refine w_dup (dk_Pars_each 58 rfl) rfl ?_
      refine w_geti (v := aI u21 36 5) (dk_Pars_each 59 rfl) lk_Pars_67 rfl rfl rfl ?_
      refine w_iconst (v := 1) (dk_Pars_each 60 rfl) rfl ?_
      refine w_iadd (dk_Pars_each 61 rfl) ?_
      refine w_puti (dk_Pars_each 62 rfl) lk_Pars_67 rfl rfl ?_
      refine w_aload_n (dk_Pars_each 63 rfl) rfl ?_
      refine w_getr (dk_Pars_each 64 rfl) lk_Pars_27 rfl rfl rfl ?_
      refine w_getr (dk_Pars_each 65 rfl) lk_Pars_177 rfl rfl rfl ?_
      refine w_iload_n (dk_Pars_each 66 rfl) rfl ?_
      refine w_aload_n (dk_Pars_each 67 rfl) rfl ?_
      refine w_callSi (ls' := [some (.ref 36), none]) cv_Pars_211 (dk_Pars_each 68 rfl) [.ref 36] [.int p2, .ref 28] rfl rfl (Nat.le_of_ble_eq_true rfl) (Nat.le_of_ble_eq_true rfl) rfl rfl rfl h (fun r22 u23 h => ?_)
      obtain ⟨k24, e_k24, l_k24, h⟩ := h
      refine w_iast (k_ := k24) (dk_Pars_each 69 rfl) rfl (by decide) e_k24 l_k24 ?_
      refine w_aload_n (dk_Pars_each 70 rfl) rfl ?_
      refine w_dup (dk_Pars_each 71 rfl) rfl ?_
      refine w_geti (v := aI u23 36 5) (dk_Pars_each 72 rfl) lk_Pars_67 rfl rfl rfl ?_
      refine w_iconst (v := 1) (dk_Pars_each 73 rfl) rfl ?_
      refine w_isub (dk_Pars_each 74 rfl) ?_
      refine w_puti (dk_Pars_each 75 rfl) lk_Pars_67 rfl rfl ?_
      exact w_vret (dk_Pars_each 76 rfl) rfl h
    · replace h := h.2 c_
      refine w_aload_n (dk_Pars_each 51 rfl) rfl ?_
      refine w_getr (dk_Pars_each 52 rfl) lk_Pars_9 rfl rfl rfl ?_
      refine w_aload_n (dk_Pars_each 53 rfl) rfl ?_
      refine w_geti (v := aI u21 36 5) (dk_Pars_each 54 rfl) lk_Pars_67 rfl rfl rfl ?_
      refine w_iload_n (dk_Pars_each 55 rfl) rfl ?_
      obtain ⟨k25, e_k25, l_k25, h⟩ := h
      refine w_iast (k_ := k25) (dk_Pars_each 56 rfl) rfl (by decide) e_k25 l_k25 ?_
      refine w_aload_n (dk_Pars_each 57 rfl) rfl ?_
      refine w_dup (dk_Pars_each 58 rfl) rfl ?_
      refine w_geti (v := aI u21 36 5) (dk_Pars_each 59 rfl) lk_Pars_67 rfl rfl rfl ?_
      refine w_iconst (v := 1) (dk_Pars_each 60 rfl) rfl ?_
      refine w_iadd (dk_Pars_each 61 rfl) ?_
      refine w_puti (dk_Pars_each 62 rfl) lk_Pars_67 rfl rfl ?_
      refine w_aload_n (dk_Pars_each 63 rfl) rfl ?_
      refine w_getr (dk_Pars_each 64 rfl) lk_Pars_27 rfl rfl rfl ?_
      refine w_getr (dk_Pars_each 65 rfl) lk_Pars_177 rfl rfl rfl ?_
      refine w_iload_n (dk_Pars_each 66 rfl) rfl ?_
      refine w_aload_n (dk_Pars_each 67 rfl) rfl ?_
      refine w_callSi (ls' := [some (.ref 36), none]) cv_Pars_211 (dk_Pars_each 68 rfl) [.ref 36] [.int p2, .ref 28] rfl rfl (Nat.le_of_ble_eq_true rfl) (Nat.le_of_ble_eq_true rfl) rfl rfl rfl h (fun r26 u27 h => ?_)
      obtain ⟨k28, e_k28, l_k28, h⟩ := h
      refine w_iast (k_ := k28) (dk_Pars_each 69 rfl) rfl (by decide) e_k28 l_k28 ?_
      refine w_aload_n (dk_Pars_each 70 rfl) rfl ?_
      refine w_dup (dk_Pars_each 71 rfl) rfl ?_
      refine w_geti (v := aI u27 36 5) (dk_Pars_each 72 rfl) lk_Pars_67 rfl rfl rfl ?_
      refine w_iconst (v := 1) (dk_Pars_each 73 rfl) rfl ?_
      refine w_isub (dk_Pars_each 74 rfl) ?_
      refine w_puti (dk_Pars_each 75 rfl) lk_Pars_67 rfl rfl ?_
      exact w_vret (dk_Pars_each 76 rfl) rfl h
theorem g_Pars_block_0 {d : Nat} {u : Us} {Q : Ot → Us → Prop} 
    (h : WS d m_Pars_opens 0 [some (.ref 36), some (.int 43)] [] u (Rv (fun (u2 : Us) => WS d m_Pars_all 0 [some (.ref 36), some (.int 44), none, none, none] [] u2 (Ri (fun (r3 : Int32) (u4 : Us) => WS d m_Pars_shuts 0 [some (.ref 36), some (.int 44)] [] u4 (Rv (fun (u6 : Us) => Q (.inl (some (.int r3))) u6) (fun x u => Q (.inr x) u))) (fun x u => Q (.inr x) u))) (fun x u => Q (.inr x) u))) :
    WS (d + 1) m_Pars_block 0 [some (.ref 36), none] [] u Q := by
  refine w_aload_n (dk_Pars_block 0 rfl) rfl ?_
  refine w_bipush (v := 43) (dk_Pars_block 1 rfl) rfl ?_
  refine w_callVv (ls' := [some (.ref 36), some (.int 43)]) cv_Pars_105 (dk_Pars_block 2 rfl) (ci := 5) rfl rfl [.int 43] [] rfl rfl (Nat.le_of_ble_eq_true rfl) (Nat.le_of_ble_eq_true rfl) rfl rfl rfl h (fun u2 h => ?_)
  refine w_aload_n (dk_Pars_block 3 rfl) rfl ?_
  refine w_bipush (v := 44) (dk_Pars_block 4 rfl) rfl ?_
  refine w_callSi (ls' := [some (.ref 36), some (.int 44), none, none, none]) cv_Pars_169 (dk_Pars_block 5 rfl) [.ref 36, .int 44] [] rfl rfl (Nat.le_of_ble_eq_true rfl) (Nat.le_of_ble_eq_true rfl) rfl rfl rfl h (fun r3 u4 h => ?_)
  refine w_istore_n (ls' := [some (.ref 36), some (.int r3)]) (dk_Pars_block 6 rfl) (by decide) rfl ?_
  refine w_aload_n (dk_Pars_block 7 rfl) rfl ?_
  refine w_bipush (v := 44) (dk_Pars_block 8 rfl) rfl ?_
  refine w_callVv (ls' := [some (.ref 36), some (.int 44)]) cv_Pars_111 (dk_Pars_block 9 rfl) (ci := 5) rfl rfl [.int 44] [] rfl rfl (Nat.le_of_ble_eq_true rfl) (Nat.le_of_ble_eq_true rfl) rfl rfl rfl h (fun u6 h => ?_)
  refine w_iload_n (dk_Pars_block 10 rfl) rfl ?_
  exact w_iret (dk_Pars_block 11 rfl) rfl h
