theorem g_Mod_onKind_0 {d : Nat} {u : Us} {Q : Ot → Us → Prop} (p1 : Int32)
    (h : WS d m_Mod_emit 0 [some (.ref 52), some (.int 100)] [] u (Rv (fun (u2 : Us) => WS d m_Mod_takeKind 0 [some (.ref 52), none] [] (uI u2 52 20 ((aI u2 52 20) + 1)) (Ri (fun (r3 : Int32) (u4 : Us) => (0 ≤ r3 → (p1 ≠ 1 → (p1 ≠ 2 → WS d m_Mod_emit 0 [some (.ref 52), some (.int 105)] [] u4 (Rv (fun (u6 : Us) => WS d m_Mod_emit 0 [some (.ref 52), some (.int r3)] [] u6 (Rv (fun (u8 : Us) => WS d m_Mod_whereOf 0 [some (.ref 52), some (.int r3)] [] u8 (Ri (fun (r9 : Int32) (u10 : Us) => (r9 ≠ 0 → (p1 ≠ 2 → WS d m_Mod_sign 0 [some (.ref 52), some (.int 58)] [] u10 (Ri (fun (r11 : Int32) (u12 : Us) => (r11 = 0 → Q (.inl (some (.int 0))) u12) ∧ (¬ (r11 = 0) → WS d m_Mod_puts 0 [some (.ref 52), some (.int r3), some (.int 1), none, none, none, none, none] [] u12 (Ri (fun (r13 : Int32) (u14 : Us) => (r13 = 0 → Q (.inl (some (.int 0))) u14) ∧ (¬ (r13 = 0) → Q (.inl (some (.int 1))) u14)) (fun x u => Q (.inr x) u)))) (fun x u => Q (.inr x) u))) ∧ (p1 = 2 → WS d m_Mod_sign 0 [some (.ref 52), some (.int 59)] [] u10 (Ri (fun (r15 : Int32) (u16 : Us) => (r15 = 0 ∨ r15 = 1) ∧ Q (.inl (some (.int r15))) u16) (fun x u => Q (.inr x) u)))) ∧ (r9 = 0 → Q (.inl (some (.int 0))) u10)) (fun x u => Q (.inr x) u))) (fun x u => Q (.inr x) u))) (fun x u => Q (.inr x) u))) ∧ (p1 = 2 → WS d m_Mod_emit 0 [some (.ref 52), some (.int 104)] [] u4 (Rv (fun (u18 : Us) => WS d m_Mod_emit 0 [some (.ref 52), some (.int r3)] [] u18 (Rv (fun (u20 : Us) => WS d m_Mod_whereOf 0 [some (.ref 52), some (.int r3)] [] u20 (Ri (fun (r21 : Int32) (u22 : Us) => (r21 ≠ 0 → (p1 ≠ 2 → WS d m_Mod_sign 0 [some (.ref 52), some (.int 58)] [] u22 (Ri (fun (r23 : Int32) (u24 : Us) => (r23 = 0 → Q (.inl (some (.int 0))) u24) ∧ (¬ (r23 = 0) → WS d m_Mod_puts 0 [some (.ref 52), some (.int r3), some (.int 1), none, none, none, none, none] [] u24 (Ri (fun (r25 : Int32) (u26 : Us) => (r25 = 0 → Q (.inl (some (.int 0))) u26) ∧ (¬ (r25 = 0) → Q (.inl (some (.int 1))) u26)) (fun x u => Q (.inr x) u)))) (fun x u => Q (.inr x) u))) ∧ (p1 = 2 → WS d m_Mod_sign 0 [some (.ref 52), some (.int 59)] [] u22 (Ri (fun (r27 : Int32) (u28 : Us) => (r27 = 0 ∨ r27 = 1) ∧ Q (.inl (some (.int r27))) u28) (fun x u => Q (.inr x) u)))) ∧ (r21 = 0 → Q (.inl (some (.int 0))) u22)) (fun x u => Q (.inr x) u))) (fun x u => Q (.inr x) u))) (fun x u => Q (.inr x) u)))) ∧ (p1 = 1 → WS d m_Mod_puts 0 [some (.ref 52), some (.int r3), some (.int 0), none, none, none, none, none] [] u4 (Ri (fun (r29 : Int32) (u30 : Us) => (r29 = 0 ∨ r29 = 1) ∧ Q (.inl (some (.int r29))) u30) (fun x u => Q (.inr x) u)))) ∧ (¬ (0 ≤ r3) → Q (.inl (some (.int 0))) u4)) (fun x u => Q (.inr x) u))) (fun x u => Q (.inr x) u))) :
    WS (d + 1) m_Mod_onKind 0 [some (.ref 52), some (.int p1), none] [] u Q := by
  refine w_aload_n (dk_Mod_onKind 0 rfl) rfl ?_
  refine w_bipush (v := 100) (dk_Mod_onKind 1 rfl) rfl ?_
  refine w_callVv (ls' := [some (.ref 52), some (.int 100)]) cv_Mod_278 (dk_Mod_onKind 2 rfl) (ci := 10) rfl rfl [.int 100] [] rfl rfl (Nat.le_of_ble_eq_true rfl) (Nat.le_of_ble_eq_true rfl) rfl rfl rfl h (fun u2 h => ?_)
  refine w_aload_n (dk_Mod_onKind 3 rfl) rfl ?_
  refine w_dup (dk_Mod_onKind 4 rfl) rfl ?_
  refine w_geti (v := aI u2 52 20) (dk_Mod_onKind 5 rfl) lk_Mod_72 rfl rfl rfl ?_
  refine w_iconst (v := 1) (dk_Mod_onKind 6 rfl) rfl ?_
  refine w_iadd (dk_Mod_onKind 7 rfl) ?_
  refine w_puti (dk_Mod_onKind 8 rfl) lk_Mod_72 rfl rfl ?_
  refine w_aload_n (dk_Mod_onKind 9 rfl) rfl ?_
  refine w_callVi (ls' := [some (.ref 52), none]) cv_Mod_305 (dk_Mod_onKind 10 rfl) (ci := 10) rfl rfl [] [] rfl rfl (Nat.le_of_ble_eq_true rfl) (Nat.le_of_ble_eq_true rfl) rfl rfl rfl h (fun r3 u4 h => ?_)
  refine w_istore_n (ls' := [some (.ref 52), some (.int p1), some (.int r3)]) (dk_Mod_onKind 11 rfl) (by decide) rfl ?_
  refine w_iload_n (dk_Mod_onKind 12 rfl) rfl ?_
  refine w_if_ge 27 (dk_Mod_onKind 13 rfl) (by decide) (fun c_ => ?_) (fun c_ => ?_)
  · replace h := h.1 c_
    refine w_iload_n (dk_Mod_onKind 16 rfl) rfl ?_
    refine w_iconst (v := 1) (dk_Mod_onKind 17 rfl) rfl ?_
    refine w_icmp_ne 39 (dk_Mod_onKind 18 rfl) (by decide) (fun c_ => ?_) (fun c_ => ?_)
    · replace h := h.1 c_
      refine w_aload_n (dk_Mod_onKind 24 rfl) rfl ?_
      refine w_iload_n (dk_Mod_onKind 25 rfl) rfl ?_
      refine w_iconst (v := 2) (dk_Mod_onKind 26 rfl) rfl ?_
      refine w_icmp_ne 50 (dk_Mod_onKind 27 rfl) (by decide) (fun c_ => ?_) (fun c_ => ?_)
      · replace h := h.1 c_
        refine w_bipush (v := 105) (dk_Mod_onKind 30 rfl) rfl ?_
        refine w_callVv (ls' := [some (.ref 52), some (.int 105)]) cv_Mod_278 (dk_Mod_onKind 31 rfl) (ci := 10) rfl rfl [.int 105] [] rfl rfl (Nat.le_of_ble_eq_true rfl) (Nat.le_of_ble_eq_true rfl) rfl rfl rfl h (fun u6 h => ?_)
        refine w_aload_n (dk_Mod_onKind 32 rfl) rfl ?_
        refine w_iload_n (dk_Mod_onKind 33 rfl) rfl ?_
        refine w_callVv (ls' := [some (.ref 52), some (.int r3)]) cv_Mod_278 (dk_Mod_onKind 34 rfl) (ci := 10) rfl rfl [.int r3] [] rfl rfl (Nat.le_of_ble_eq_true rfl) (Nat.le_of_ble_eq_true rfl) rfl rfl rfl h (fun u8 h => ?_)
        refine w_aload_n (dk_Mod_onKind 35 rfl) rfl ?_
        refine w_iload_n (dk_Mod_onKind 36 rfl) rfl ?_
        refine w_callVi (ls' := [some (.ref 52), some (.int r3)]) cv_Mod_327 (dk_Mod_onKind 37 rfl) (ci := 10) rfl rfl [.int r3] [] rfl rfl (Nat.le_of_ble_eq_true rfl) (Nat.le_of_ble_eq_true rfl) rfl rfl rfl h (fun r9 u10 h => ?_)
        refine w_if_ne 70 (dk_Mod_onKind 38 rfl) (by decide) (fun c_ => ?_) (fun c_ => ?_)
        · replace h := h.1 c_
          refine w_iload_n (dk_Mod_onKind 41 rfl) rfl ?_
          refine w_iconst (v := 2) (dk_Mod_onKind 42 rfl) rfl ?_
          refine w_icmp_ne 82 (dk_Mod_onKind 43 rfl) (by decide) (fun c_ => ?_) (fun c_ => ?_)
          · replace h := h.1 c_
            refine w_aload_n (dk_Mod_onKind 48 rfl) rfl ?_
            refine w_bipush (v := 58) (dk_Mod_onKind 49 rfl) rfl ?_
            refine w_callVi (ls' := [some (.ref 52), some (.int 58)]) cv_Mod_299 (dk_Mod_onKind 50 rfl) (ci := 10) rfl rfl [.int 58] [] rfl rfl (Nat.le_of_ble_eq_true rfl) (Nat.le_of_ble_eq_true rfl) rfl rfl rfl h (fun r11 u12 h => ?_)
            refine w_if_eq 104 (dk_Mod_onKind 51 rfl) (by decide) (fun c_ => ?_) (fun c_ => ?_)
            · replace h := h.1 c_
              refine w_iconst (v := 0) (dk_Mod_onKind 59 rfl) rfl ?_
              exact w_bret (dk_Mod_onKind 60 rfl) rfl (Or.inl rfl) h
            · replace h := h.2 c_
              refine w_aload_n (dk_Mod_onKind 52 rfl) rfl ?_
              refine w_iload_n (dk_Mod_onKind 53 rfl) rfl ?_
              refine w_iconst (v := 1) (dk_Mod_onKind 54 rfl) rfl ?_
              refine w_callVi (ls' := [some (.ref 52), some (.int r3), some (.int 1), none, none, none, none, none]) cv_Mod_337 (dk_Mod_onKind 55 rfl) (ci := 10) rfl rfl [.int r3, .int 1] [] rfl rfl (Nat.le_of_ble_eq_true rfl) (Nat.le_of_ble_eq_true rfl) rfl rfl rfl h (fun r13 u14 h => ?_)
              refine w_if_eq 104 (dk_Mod_onKind 56 rfl) (by decide) (fun c_ => ?_) (fun c_ => ?_)
              · replace h := h.1 c_
                refine w_iconst (v := 0) (dk_Mod_onKind 59 rfl) rfl ?_
                exact w_bret (dk_Mod_onKind 60 rfl) rfl (Or.inl rfl) h
              · replace h := h.2 c_
                refine w_iconst (v := 1) (dk_Mod_onKind 57 rfl) rfl ?_
                refine w_goto 105 (dk_Mod_onKind 58 rfl) (by decide) ?_
                exact w_bret (dk_Mod_onKind 60 rfl) rfl (Or.inr rfl) h
          · replace h := h.2 c_
            refine w_aload_n (dk_Mod_onKind 44 rfl) rfl ?_
            refine w_bipush (v := 59) (dk_Mod_onKind 45 rfl) rfl ?_
            refine w_callVi (ls' := [some (.ref 52), some (.int 59)]) cv_Mod_299 (dk_Mod_onKind 46 rfl) (ci := 10) rfl rfl [.int 59] [] rfl rfl (Nat.le_of_ble_eq_true rfl) (Nat.le_of_ble_eq_true rfl) rfl rfl rfl h (fun r15 u16 h => ?_)
            exact w_bret (dk_Mod_onKind 47 rfl) rfl h.1 h.2
        · replace h := h.2 c_
          refine w_iconst (v := 0) (dk_Mod_onKind 39 rfl) rfl ?_
          exact w_bret (dk_Mod_onKind 40 rfl) rfl (Or.inl rfl) h
      · replace h := h.2 c_
        refine w_bipush (v := 104) (dk_Mod_onKind 28 rfl) rfl ?_
        refine w_goto 52 (dk_Mod_onKind 29 rfl) (by decide) ?_
        refine w_callVv (ls' := [some (.ref 52), some (.int 104)]) cv_Mod_278 (dk_Mod_onKind 31 rfl) (ci := 10) rfl rfl [.int 104] [] rfl rfl (Nat.le_of_ble_eq_true rfl) (Nat.le_of_ble_eq_true rfl) rfl rfl rfl h (fun u18 h => ?_)
        refine w_aload_n (dk_Mod_onKind 32 rfl) rfl ?_
        refine w_iload_n (dk_Mod_onKind 33 rfl) rfl ?_
        refine w_callVv (ls' := [some (.ref 52), some (.int r3)]) cv_Mod_278 (dk_Mod_onKind 34 rfl) (ci := 10) rfl rfl [.int r3] [] rfl rfl (Nat.le_of_ble_eq_true rfl) (Nat.le_of_ble_eq_true rfl) rfl rfl rfl h (fun u20 h => ?_)
        refine w_aload_n (dk_Mod_onKind 35 rfl) rfl ?_
        refine w_iload_n (dk_Mod_onKind 36 rfl) rfl ?_
        refine w_callVi (ls' := [some (.ref 52), some (.int r3)]) cv_Mod_327 (dk_Mod_onKind 37 rfl) (ci := 10) rfl rfl [.int r3] [] rfl rfl (Nat.le_of_ble_eq_true rfl) (Nat.le_of_ble_eq_true rfl) rfl rfl rfl h (fun r21 u22 h => ?_)
        refine w_if_ne 70 (dk_Mod_onKind 38 rfl) (by decide) (fun c_ => ?_) (fun c_ => ?_)
        · replace h := h.1 c_
          refine w_iload_n (dk_Mod_onKind 41 rfl) rfl ?_
          refine w_iconst (v := 2) (dk_Mod_onKind 42 rfl) rfl ?_
          refine w_icmp_ne 82 (dk_Mod_onKind 43 rfl) (by decide) (fun c_ => ?_) (fun c_ => ?_)
          · replace h := h.1 c_
            refine w_aload_n (dk_Mod_onKind 48 rfl) rfl ?_
            refine w_bipush (v := 58) (dk_Mod_onKind 49 rfl) rfl ?_
            refine w_callVi (ls' := [some (.ref 52), some (.int 58)]) cv_Mod_299 (dk_Mod_onKind 50 rfl) (ci := 10) rfl rfl [.int 58] [] rfl rfl (Nat.le_of_ble_eq_true rfl) (Nat.le_of_ble_eq_true rfl) rfl rfl rfl h (fun r23 u24 h => ?_)
            refine w_if_eq 104 (dk_Mod_onKind 51 rfl) (by decide) (fun c_ => ?_) (fun c_ => ?_)
            · replace h := h.1 c_
              refine w_iconst (v := 0) (dk_Mod_onKind 59 rfl) rfl ?_
              exact w_bret (dk_Mod_onKind 60 rfl) rfl (Or.inl rfl) h
            · replace h := h.2 c_
              refine w_aload_n (dk_Mod_onKind 52 rfl) rfl ?_
              refine w_iload_n (dk_Mod_onKind 53 rfl) rfl ?_
              refine w_iconst (v := 1) (dk_Mod_onKind 54 rfl) rfl ?_
              refine w_callVi (ls' := [some (.ref 52), some (.int r3), some (.int 1), none, none, none, none, none]) cv_Mod_337 (dk_Mod_onKind 55 rfl) (ci := 10) rfl rfl [.int r3, .int 1] [] rfl rfl (Nat.le_of_ble_eq_true rfl) (Nat.le_of_ble_eq_true rfl) rfl rfl rfl h (fun r25 u26 h => ?_)
              refine w_if_eq 104 (dk_Mod_onKind 56 rfl) (by decide) (fun c_ => ?_) (fun c_ => ?_)
              · replace h := h.1 c_
                refine w_iconst (v := 0) (dk_Mod_onKind 59 rfl) rfl ?_
                exact w_bret (dk_Mod_onKind 60 rfl) rfl (Or.inl rfl) h
              · replace h := h.2 c_
                refine w_iconst (v := 1) (dk_Mod_onKind 57 rfl) rfl ?_
                refine w_goto 105 (dk_Mod_onKind 58 rfl) (by decide) ?_
                exact w_bret (dk_Mod_onKind 60 rfl) rfl (Or.inr rfl) h
          · replace h := h.2 c_
            refine w_aload_n (dk_Mod_onKind 44 rfl) rfl ?_
            refine w_bipush (v := 59) (dk_Mod_onKind 45 rfl) rfl ?_
            refine w_callVi (ls' := [some (.ref 52), some (.int 59)]) cv_Mod_299 (dk_Mod_onKind 46 rfl) (ci := 10) rfl rfl [.int 59] [] rfl rfl (Nat.le_of_ble_eq_true rfl) (Nat.le_of_ble_eq_true rfl) rfl rfl rfl h (fun r27 u28 h => ?_)
            exact w_bret (dk_Mod_onKind 47 rfl) rfl h.1 h.2
        · replace h := h.2 c_
          refine w_iconst (v := 0) (dk_Mod_onKind 39 rfl) rfl ?_
          exact w_bret (dk_Mod_onKind 40 rfl) rfl (Or.inl rfl) h
    · replace h := h.2 c_
      refine w_aload_n (dk_Mod_onKind 19 rfl) rfl ?_
      refine w_iload_n (dk_Mod_onKind 20 rfl) rfl ?_
      refine w_iconst (v := 0) (dk_Mod_onKind 21 rfl) rfl ?_
      refine w_callVi (ls' := [some (.ref 52), some (.int r3), some (.int 0), none, none, none, none, none]) cv_Mod_337 (dk_Mod_onKind 22 rfl) (ci := 10) rfl rfl [.int r3, .int 0] [] rfl rfl (Nat.le_of_ble_eq_true rfl) (Nat.le_of_ble_eq_true rfl) rfl rfl rfl h (fun r29 u30 h => ?_)
      exact w_bret (dk_Mod_onKind 23 rfl) rfl h.1 h.2
  · replace h := h.2 c_
    refine w_iconst (v := 0) (dk_Mod_onKind 14 rfl) rfl ?_
    exact w_bret (dk_Mod_onKind 15 rfl) rfl (Or.inl rfl) h
theorem g_Mod_puts_0 {d : Nat} {u : Us} {Q : Ot → Us → Prop} (p1 : Int32) (p2 : Int32)
    (h : (p2 = 0 → WS (d + 1) m_Mod_puts 23 [some (.ref 52), some (.int p1), some (.int p2), some (.int (aI u 52 25)), some (.int 0), some (.int 0), some (.int 1), none] [] u Q) ∧ (¬ (p2 = 0) → WS d m_Mod_emit 0 [some (.ref 52), some (.int 0)] [] u (Rv (fun (u2 : Us) => WS (d + 1) m_Mod_puts 23 [some (.ref 52), some (.int p1), some (.int p2), some (.int (aI u 52 25)), some (.int 0), some (.int 0), some (.int 1), none] [] u2 Q) (fun x u => Q (.inr x) u)))) :
    WS (d + 1) m_Mod_puts 0 [some (.ref 52), some (.int p1), some (.int p2), none, none, none, none, none] [] u Q := by
  refine w_aload_n (dk_Mod_puts 0 rfl) rfl ?_
  refine w_geti (v := aI u 52 25) (dk_Mod_puts 1 rfl) lk_Mod_88 rfl rfl rfl ?_
  refine w_istore_n (ls' := [some (.ref 52), some (.int p1), some (.int p2), some (.int (aI u 52 25)), none, none, none, none]) (dk_Mod_puts 2 rfl) (by decide) rfl ?_
  refine w_iconst (v := 0) (dk_Mod_puts 3 rfl) rfl ?_
  refine w_istore (ls' := [some (.ref 52), some (.int p1), some (.int p2), some (.int (aI u 52 25)), some (.int 0), none, none, none]) (dk_Mod_puts 4 rfl) (by decide) rfl ?_
  refine w_iconst (v := 0) (dk_Mod_puts 5 rfl) rfl ?_
  refine w_istore (ls' := [some (.ref 52), some (.int p1), some (.int p2), some (.int (aI u 52 25)), some (.int 0), some (.int 0), none, none]) (dk_Mod_puts 6 rfl) (by decide) rfl ?_
  refine w_iload_n (dk_Mod_puts 7 rfl) rfl ?_
  refine w_if_eq 20 (dk_Mod_puts 8 rfl) (by decide) (fun c_ => ?_) (fun c_ => ?_)
  · replace h := h.1 c_
    refine w_iconst (v := 1) (dk_Mod_puts 12 rfl) rfl ?_
    refine w_istore (ls' := [some (.ref 52), some (.int p1), some (.int p2), some (.int (aI u 52 25)), some (.int 0), some (.int 0), some (.int 1), none]) (dk_Mod_puts 13 rfl) (by decide) rfl ?_
    exact h
  · replace h := h.2 c_
    refine w_aload_n (dk_Mod_puts 9 rfl) rfl ?_
    refine w_iconst (v := 0) (dk_Mod_puts 10 rfl) rfl ?_
    refine w_callVv (ls' := [some (.ref 52), some (.int 0)]) cv_Mod_278 (dk_Mod_puts 11 rfl) (ci := 10) rfl rfl [.int 0] [] rfl rfl (Nat.le_of_ble_eq_true rfl) (Nat.le_of_ble_eq_true rfl) rfl rfl rfl h (fun u2 h => ?_)
    refine w_iconst (v := 1) (dk_Mod_puts 12 rfl) rfl ?_
    refine w_istore (ls' := [some (.ref 52), some (.int p1), some (.int p2), some (.int (aI u 52 25)), some (.int 0), some (.int 0), some (.int 1), none]) (dk_Mod_puts 13 rfl) (by decide) rfl ?_
    exact h
theorem g_Mod_puts_23 {d : Nat} {u : Us} {Q : Ot → Us → Prop} (x1 : Int32) (x2 : Int32) (x3 : Int32) (x4 : Int32) (x5 : Int32) (x6 : Int32)
    (h : (x6 = 0 → (x2 = 0 → WS d m_Mod_emit 0 [some (.ref 52), some (.int 103)] [] u (Rv (fun (u2 : Us) => WS d m_Mod_emit 0 [some (.ref 52), some (.int x1)] [] u2 (Rv (fun (u4 : Us) => WS d m_Mod_emit 0 [some (.ref 52), some (.int x4)] [] u4 (Rv (fun (u6 : Us) => WS (d + 1) m_Mod_puts 214 [some (.ref 52), some (.int x1), some (.int x2), some (.int x3), some (.int x4), some (.int x5), some (.int x6), some (.int 0)] [] u6 Q) (fun x u => Q (.inr x) u))) (fun x u => Q (.inr x) u))) (fun x u => Q (.inr x) u))) ∧ (¬ (x2 = 0) → ∃ k7 : Nat, x3 = nI k7 ∧ k7 < 3000 ∧ (WS d m_Mod_sign 0 [some (.ref 52), some (.int 59)] [] (uI u 67 k7 x4) (Ri (fun (r8 : Int32) (u9 : Us) => (r8 = 0 ∨ r8 = 1) ∧ Q (.inl (some (.int r8))) u9) (fun x u => Q (.inr x) u))))) ∧ (¬ (x6 = 0) → ∃ k10 : Nat, aI u 52 20 = nI k10 ∧ k10 < 152 ∧ (((aI u 63 k10) ≠ 1 → WS d m_Mod_wrong 0 [some (.ref 52)] [] u (Ri (fun (r11 : Int32) (u12 : Us) => (r11 = 0 ∨ r11 = 1) ∧ Q (.inl (some (.int r11))) u12) (fun x u => Q (.inr x) u))) ∧ ((aI u 63 k10) = 1 → ∃ k13 : Nat, aI u 52 20 = nI k13 ∧ k13 < 152 ∧ (WS d m_Mod_fieldOf 0 [some (.ref 52), some (.int x1), some (.long (aL u 65 k13)), none, none] [] u (Ri (fun (r14 : Int32) (u15 : Us) => (r14 < 0 → WS d m_Mod_wrong 0 [some (.ref 52)] [] u15 (Ri (fun (r16 : Int32) (u17 : Us) => (r16 = 0 ∨ r16 = 1) ∧ Q (.inl (some (.int r16))) u17) (fun x u => Q (.inr x) u))) ∧ (¬ (r14 < 0) → (((x5 >>> (r14 &&& 31)) &&& 1) ≠ 1 → WS d m_Mod_sign 0 [some (.ref 52), some (.int 61)] [] (uI u15 52 20 ((aI u15 52 20) + 1)) (Ri (fun (r18 : Int32) (u19 : Us) => (r18 ≠ 0 → (x2 = 0 → WS d m_Mod_inline 0 [some (.ref 52)] [] u19 (Ri (fun (r20 : Int32) (u21 : Us) => (r20 ≠ 0 → ∃ k22 : Nat, x4 = nI k22 ∧ k22 < 8 ∧ (WS d m_Mod_isSign 0 [some (.ref 52), some (.int 44)] [] (uI u21 74 k22 r14) (Ri (fun (r23 : Int32) (u24 : Us) => (r23 = 0 → WS (d + 1) m_Mod_puts 23 [some (.ref 52), some (.int x1), some (.int x2), some (.int x3), some (.int (x4 + 1)), some (.int (x5 ||| (1 <<< (r14 &&& 31)))), some (.int r23), some (.int r14)] [] u24 Q) ∧ (¬ (r23 = 0) → WS (d + 1) m_Mod_puts 23 [some (.ref 52), some (.int x1), some (.int x2), some (.int x3), some (.int (x4 + 1)), some (.int (x5 ||| (1 <<< (r14 &&& 31)))), some (.int r23), some (.int r14)] [] (uI u24 52 20 ((aI u24 52 20) + 1)) Q)) (fun x u => Q (.inr x) u)))) ∧ (r20 = 0 → Q (.inl (some (.int 0))) u21)) (fun x u => Q (.inr x) u))) ∧ (¬ (x2 = 0) → WS d m_Mod_emit 0 [some (.ref 52), some (.int r14)] [] u19 (Rv (fun (u26 : Us) => WS d m_Mod_measured 0 [some (.ref 52), some (.int x1), none] [] u26 (Ri (fun (r27 : Int32) (u28 : Us) => (r27 ≠ 0 → WS d m_Mod_isSign 0 [some (.ref 52), some (.int 44)] [] u28 (Ri (fun (r29 : Int32) (u30 : Us) => (r29 = 0 → WS (d + 1) m_Mod_puts 23 [some (.ref 52), some (.int x1), some (.int x2), some (.int x3), some (.int (x4 + 1)), some (.int (x5 ||| (1 <<< (r14 &&& 31)))), some (.int r29), some (.int r14)] [] u30 Q) ∧ (¬ (r29 = 0) → WS (d + 1) m_Mod_puts 23 [some (.ref 52), some (.int x1), some (.int x2), some (.int x3), some (.int (x4 + 1)), some (.int (x5 ||| (1 <<< (r14 &&& 31)))), some (.int r29), some (.int r14)] [] (uI u30 52 20 ((aI u30 52 20) + 1)) Q)) (fun x u => Q (.inr x) u))) ∧ (r27 = 0 → Q (.inl (some (.int 0))) u28)) (fun x u => Q (.inr x) u))) (fun x u => Q (.inr x) u)))) ∧ (r18 = 0 → Q (.inl (some (.int 0))) u19)) (fun x u => Q (.inr x) u))) ∧ (((x5 >>> (r14 &&& 31)) &&& 1) = 1 → WS d m_Mod_wrong 0 [some (.ref 52)] [] u15 (Ri (fun (r31 : Int32) (u32 : Us) => (r31 = 0 ∨ r31 = 1) ∧ Q (.inl (some (.int r31))) u32) (fun x u => Q (.inr x) u))))) (fun x u => Q (.inr x) u))))))) :
    WS (d + 1) m_Mod_puts 23 [some (.ref 52), some (.int x1), some (.int x2), some (.int x3), some (.int x4), some (.int x5), some (.int x6), none] [] u Q := by
  refine w_iload (dk_Mod_puts 14 rfl) rfl ?_
  refine w_if_eq 179 (dk_Mod_puts 15 rfl) (by decide) (fun c_ => ?_) (fun c_ => ?_)
  · replace h := h.1 c_
    refine w_iload_n (dk_Mod_puts 99 rfl) rfl ?_
    refine w_if_eq 194 (dk_Mod_puts 100 rfl) (by decide) (fun c_ => ?_) (fun c_ => ?_)
    · replace h := h.1 c_
      refine w_aload_n (dk_Mod_puts 107 rfl) rfl ?_
      refine w_bipush (v := 103) (dk_Mod_puts 108 rfl) rfl ?_
      refine w_callVv (ls' := [some (.ref 52), some (.int 103)]) cv_Mod_278 (dk_Mod_puts 109 rfl) (ci := 10) rfl rfl [.int 103] [] rfl rfl (Nat.le_of_ble_eq_true rfl) (Nat.le_of_ble_eq_true rfl) rfl rfl rfl h (fun u2 h => ?_)
      refine w_aload_n (dk_Mod_puts 110 rfl) rfl ?_
      refine w_iload_n (dk_Mod_puts 111 rfl) rfl ?_
      refine w_callVv (ls' := [some (.ref 52), some (.int x1)]) cv_Mod_278 (dk_Mod_puts 112 rfl) (ci := 10) rfl rfl [.int x1] [] rfl rfl (Nat.le_of_ble_eq_true rfl) (Nat.le_of_ble_eq_true rfl) rfl rfl rfl h (fun u4 h => ?_)
      refine w_aload_n (dk_Mod_puts 113 rfl) rfl ?_
      refine w_iload (dk_Mod_puts 114 rfl) rfl ?_
      refine w_callVv (ls' := [some (.ref 52), some (.int x4)]) cv_Mod_278 (dk_Mod_puts 115 rfl) (ci := 10) rfl rfl [.int x4] [] rfl rfl (Nat.le_of_ble_eq_true rfl) (Nat.le_of_ble_eq_true rfl) rfl rfl rfl h (fun u6 h => ?_)
      refine w_iconst (v := 0) (dk_Mod_puts 116 rfl) rfl ?_
      refine w_istore (ls' := [some (.ref 52), some (.int x1), some (.int x2), some (.int x3), some (.int x4), some (.int x5), some (.int x6), some (.int 0)]) (dk_Mod_puts 117 rfl) (by decide) rfl ?_
      exact h
    · replace h := h.2 c_
      refine w_aload_n (dk_Mod_puts 101 rfl) rfl ?_
      refine w_getr (dk_Mod_puts 102 rfl) lk_Mod_85 rfl rfl rfl ?_
      refine w_iload_n (dk_Mod_puts 103 rfl) rfl ?_
      refine w_iload (dk_Mod_puts 104 rfl) rfl ?_
      obtain ⟨k7, e_k7, l_k7, h⟩ := h
      refine w_iast (k_ := k7) (dk_Mod_puts 105 rfl) rfl (by decide) e_k7 l_k7 ?_
      refine w_goto 238 (dk_Mod_puts 106 rfl) (by decide) ?_
      refine w_aload_n (dk_Mod_puts 129 rfl) rfl ?_
      refine w_bipush (v := 59) (dk_Mod_puts 130 rfl) rfl ?_
      refine w_callVi (ls' := [some (.ref 52), some (.int 59)]) cv_Mod_299 (dk_Mod_puts 131 rfl) (ci := 10) rfl rfl [.int 59] [] rfl rfl (Nat.le_of_ble_eq_true rfl) (Nat.le_of_ble_eq_true rfl) rfl rfl rfl h (fun r8 u9 h => ?_)
      exact w_bret (dk_Mod_puts 132 rfl) rfl h.1 h.2
  · replace h := h.2 c_
    refine w_aload_n (dk_Mod_puts 16 rfl) rfl ?_
    refine w_getr (dk_Mod_puts 17 rfl) lk_Mod_57 rfl rfl rfl ?_
    refine w_aload_n (dk_Mod_puts 18 rfl) rfl ?_
    refine w_geti (v := aI u 52 20) (dk_Mod_puts 19 rfl) lk_Mod_72 rfl rfl rfl ?_
    obtain ⟨k10, e_k10, l_k10, h⟩ := h
    refine w_iald (k_ := k10) (dk_Mod_puts 20 rfl) rfl (by decide) e_k10 l_k10 ?_
    refine w_iconst (v := 1) (dk_Mod_puts 21 rfl) rfl ?_
    refine w_icmp_ne 58 (dk_Mod_puts 22 rfl) (by decide) (fun c_ => ?_) (fun c_ => ?_)
    · replace h := h.1 c_
      refine w_iconst (v := (-1)) (dk_Mod_puts 32 rfl) rfl ?_
      refine w_istore (ls' := [some (.ref 52), some (.int x1), some (.int x2), some (.int x3), some (.int x4), some (.int x5), some (.int x6), some (.int (-1))]) (dk_Mod_puts 33 rfl) (by decide) rfl ?_
      refine w_iload (dk_Mod_puts 34 rfl) rfl ?_
      refine w_if_lt_t 77 (dk_Mod_puts 35 rfl) (by decide) (by decide) ?_
      refine w_aload_n (dk_Mod_puts 43 rfl) rfl ?_
      refine w_callVi (ls' := [some (.ref 52)]) cv_Mod_235 (dk_Mod_puts 44 rfl) (ci := 10) rfl rfl [] [] rfl rfl (Nat.le_of_ble_eq_true rfl) (Nat.le_of_ble_eq_true rfl) rfl rfl rfl h (fun r11 u12 h => ?_)
      exact w_bret (dk_Mod_puts 45 rfl) rfl h.1 h.2
    · replace h := h.2 c_
      refine w_aload_n (dk_Mod_puts 23 rfl) rfl ?_
      refine w_iload_n (dk_Mod_puts 24 rfl) rfl ?_
      refine w_aload_n (dk_Mod_puts 25 rfl) rfl ?_
      refine w_getr (dk_Mod_puts 26 rfl) lk_Mod_63 rfl rfl rfl ?_
      refine w_aload_n (dk_Mod_puts 27 rfl) rfl ?_
      refine w_geti (v := aI u 52 20) (dk_Mod_puts 28 rfl) lk_Mod_72 rfl rfl rfl ?_
      obtain ⟨k13, e_k13, l_k13, h⟩ := h
      refine w_lald (k_ := k13) (dk_Mod_puts 29 rfl) rfl (by decide) e_k13 l_k13 ?_
      refine w_callVi (ls' := [some (.ref 52), some (.int x1), some (.long (aL u 65 k13)), none, none]) cv_Mod_246 (dk_Mod_puts 30 rfl) (ci := 10) rfl rfl [.int x1, .long (aL u 65 k13)] [] rfl rfl (Nat.le_of_ble_eq_true rfl) (Nat.le_of_ble_eq_true rfl) rfl rfl rfl h (fun r14 u15 h => ?_)
      refine w_goto 59 (dk_Mod_puts 31 rfl) (by decide) ?_
      refine w_istore (ls' := [some (.ref 52), some (.int x1), some (.int x2), some (.int x3), some (.int x4), some (.int x5), some (.int x6), some (.int r14)]) (dk_Mod_puts 33 rfl) (by decide) rfl ?_
      refine w_iload (dk_Mod_puts 34 rfl) rfl ?_
      refine w_if_lt 77 (dk_Mod_puts 35 rfl) (by decide) (fun c_ => ?_) (fun c_ => ?_)
      · replace h := h.1 c_
        refine w_aload_n (dk_Mod_puts 43 rfl) rfl ?_
        refine w_callVi (ls' := [some (.ref 52)]) cv_Mod_235 (dk_Mod_puts 44 rfl) (ci := 10) rfl rfl [] [] rfl rfl (Nat.le_of_ble_eq_true rfl) (Nat.le_of_ble_eq_true rfl) rfl rfl rfl h (fun r16 u17 h => ?_)
        exact w_bret (dk_Mod_puts 45 rfl) rfl h.1 h.2
      · replace h := h.2 c_
        refine w_iload (dk_Mod_puts 36 rfl) rfl ?_
        refine w_iload (dk_Mod_puts 37 rfl) rfl ?_
        refine w_ishr (dk_Mod_puts 38 rfl) ?_
        refine w_iconst (v := 1) (dk_Mod_puts 39 rfl) rfl ?_
        refine w_iand (dk_Mod_puts 40 rfl) ?_
        refine w_iconst (v := 1) (dk_Mod_puts 41 rfl) rfl ?_
        refine w_icmp_ne 82 (dk_Mod_puts 42 rfl) (by decide) (fun c_ => ?_) (fun c_ => ?_)
        · replace h := h.1 c_
          refine w_iload (dk_Mod_puts 46 rfl) rfl ?_
          refine w_iconst (v := 1) (dk_Mod_puts 47 rfl) rfl ?_
          refine w_iload (dk_Mod_puts 48 rfl) rfl ?_
          refine w_ishl (dk_Mod_puts 49 rfl) ?_
          refine w_ior (dk_Mod_puts 50 rfl) ?_
          refine w_istore (ls' := [some (.ref 52), some (.int x1), some (.int x2), some (.int x3), some (.int x4), some (.int (x5 ||| (1 <<< (r14 &&& 31)))), some (.int x6), some (.int r14)]) (dk_Mod_puts 51 rfl) (by decide) rfl ?_
          refine w_aload_n (dk_Mod_puts 52 rfl) rfl ?_
          refine w_dup (dk_Mod_puts 53 rfl) rfl ?_
          refine w_geti (v := aI u15 52 20) (dk_Mod_puts 54 rfl) lk_Mod_72 rfl rfl rfl ?_
          refine w_iconst (v := 1) (dk_Mod_puts 55 rfl) rfl ?_
          refine w_iadd (dk_Mod_puts 56 rfl) ?_
          refine w_puti (dk_Mod_puts 57 rfl) lk_Mod_72 rfl rfl ?_
          refine w_aload_n (dk_Mod_puts 58 rfl) rfl ?_
          refine w_bipush (v := 61) (dk_Mod_puts 59 rfl) rfl ?_
          refine w_callVi (ls' := [some (.ref 52), some (.int 61)]) cv_Mod_299 (dk_Mod_puts 60 rfl) (ci := 10) rfl rfl [.int 61] [] rfl rfl (Nat.le_of_ble_eq_true rfl) (Nat.le_of_ble_eq_true rfl) rfl rfl rfl h (fun r18 u19 h => ?_)
          refine w_if_ne 112 (dk_Mod_puts 61 rfl) (by decide) (fun c_ => ?_) (fun c_ => ?_)
          · replace h := h.1 c_
            refine w_iload_n (dk_Mod_puts 64 rfl) rfl ?_
            refine w_if_eq 132 (dk_Mod_puts 65 rfl) (by decide) (fun c_ => ?_) (fun c_ => ?_)
            · replace h := h.1 c_
              refine w_aload_n (dk_Mod_puts 75 rfl) rfl ?_
              refine w_callVi (ls' := [some (.ref 52)]) cv_Mod_318 (dk_Mod_puts 76 rfl) (ci := 10) rfl rfl [] [] rfl rfl (Nat.le_of_ble_eq_true rfl) (Nat.le_of_ble_eq_true rfl) rfl rfl rfl h (fun r20 u21 h => ?_)
              refine w_if_ne 141 (dk_Mod_puts 77 rfl) (by decide) (fun c_ => ?_) (fun c_ => ?_)
              · replace h := h.1 c_
                refine w_aload_n (dk_Mod_puts 80 rfl) rfl ?_
                refine w_getr (dk_Mod_puts 81 rfl) lk_Mod_127 rfl rfl rfl ?_
                refine w_iload (dk_Mod_puts 82 rfl) rfl ?_
                refine w_iload (dk_Mod_puts 83 rfl) rfl ?_
                obtain ⟨k22, e_k22, l_k22, h⟩ := h
                refine w_iast (k_ := k22) (dk_Mod_puts 84 rfl) rfl (by decide) e_k22 l_k22 ?_
                refine w_iinc (v := x4 + 1) (ls' := [some (.ref 52), some (.int x1), some (.int x2), some (.int x3), some (.int (x4 + 1)), some (.int (x5 ||| (1 <<< (r14 &&& 31)))), some (.int x6), some (.int r14)]) (dk_Mod_puts 85 rfl) rfl rfl (by decide) rfl ?_
                refine w_aload_n (dk_Mod_puts 86 rfl) rfl ?_
                refine w_bipush (v := 44) (dk_Mod_puts 87 rfl) rfl ?_
                refine w_callVi (ls' := [some (.ref 52), some (.int 44)]) cv_Mod_232 (dk_Mod_puts 88 rfl) (ci := 10) rfl rfl [.int 44] [] rfl rfl (Nat.le_of_ble_eq_true rfl) (Nat.le_of_ble_eq_true rfl) rfl rfl rfl h (fun r23 u24 h => ?_)
                refine w_istore (ls' := [some (.ref 52), some (.int x1), some (.int x2), some (.int x3), some (.int (x4 + 1)), some (.int (x5 ||| (1 <<< (r14 &&& 31)))), some (.int r23), some (.int r14)]) (dk_Mod_puts 89 rfl) (by decide) rfl ?_
                refine w_iload (dk_Mod_puts 90 rfl) rfl ?_
                refine w_if_eq 176 (dk_Mod_puts 91 rfl) (by decide) (fun c_ => ?_) (fun c_ => ?_)
                · replace h := h.1 c_
                  refine w_goto 23 (dk_Mod_puts 98 rfl) (by decide) ?_
                  exact h
                · replace h := h.2 c_
                  refine w_aload_n (dk_Mod_puts 92 rfl) rfl ?_
                  refine w_dup (dk_Mod_puts 93 rfl) rfl ?_
                  refine w_geti (v := aI u24 52 20) (dk_Mod_puts 94 rfl) lk_Mod_72 rfl rfl rfl ?_
                  refine w_iconst (v := 1) (dk_Mod_puts 95 rfl) rfl ?_
                  refine w_iadd (dk_Mod_puts 96 rfl) ?_
                  refine w_puti (dk_Mod_puts 97 rfl) lk_Mod_72 rfl rfl ?_
                  refine w_goto 23 (dk_Mod_puts 98 rfl) (by decide) ?_
                  exact h
              · replace h := h.2 c_
                refine w_iconst (v := 0) (dk_Mod_puts 78 rfl) rfl ?_
                exact w_bret (dk_Mod_puts 79 rfl) rfl (Or.inl rfl) h
            · replace h := h.2 c_
              refine w_aload_n (dk_Mod_puts 66 rfl) rfl ?_
              refine w_iload (dk_Mod_puts 67 rfl) rfl ?_
              refine w_callVv (ls' := [some (.ref 52), some (.int r14)]) cv_Mod_278 (dk_Mod_puts 68 rfl) (ci := 10) rfl rfl [.int r14] [] rfl rfl (Nat.le_of_ble_eq_true rfl) (Nat.le_of_ble_eq_true rfl) rfl rfl rfl h (fun u26 h => ?_)
              refine w_aload_n (dk_Mod_puts 69 rfl) rfl ?_
              refine w_iload_n (dk_Mod_puts 70 rfl) rfl ?_
              refine w_callVi (ls' := [some (.ref 52), some (.int x1), none]) cv_Mod_311 (dk_Mod_puts 71 rfl) (ci := 10) rfl rfl [.int x1] [] rfl rfl (Nat.le_of_ble_eq_true rfl) (Nat.le_of_ble_eq_true rfl) rfl rfl rfl h (fun r27 u28 h => ?_)
              refine w_if_ne 150 (dk_Mod_puts 72 rfl) (by decide) (fun c_ => ?_) (fun c_ => ?_)
              · replace h := h.1 c_
                refine w_iinc (v := x4 + 1) (ls' := [some (.ref 52), some (.int x1), some (.int x2), some (.int x3), some (.int (x4 + 1)), some (.int (x5 ||| (1 <<< (r14 &&& 31)))), some (.int x6), some (.int r14)]) (dk_Mod_puts 85 rfl) rfl rfl (by decide) rfl ?_
                refine w_aload_n (dk_Mod_puts 86 rfl) rfl ?_
                refine w_bipush (v := 44) (dk_Mod_puts 87 rfl) rfl ?_
                refine w_callVi (ls' := [some (.ref 52), some (.int 44)]) cv_Mod_232 (dk_Mod_puts 88 rfl) (ci := 10) rfl rfl [.int 44] [] rfl rfl (Nat.le_of_ble_eq_true rfl) (Nat.le_of_ble_eq_true rfl) rfl rfl rfl h (fun r29 u30 h => ?_)
                refine w_istore (ls' := [some (.ref 52), some (.int x1), some (.int x2), some (.int x3), some (.int (x4 + 1)), some (.int (x5 ||| (1 <<< (r14 &&& 31)))), some (.int r29), some (.int r14)]) (dk_Mod_puts 89 rfl) (by decide) rfl ?_
                refine w_iload (dk_Mod_puts 90 rfl) rfl ?_
                refine w_if_eq 176 (dk_Mod_puts 91 rfl) (by decide) (fun c_ => ?_) (fun c_ => ?_)
                · replace h := h.1 c_
                  refine w_goto 23 (dk_Mod_puts 98 rfl) (by decide) ?_
                  exact h
                · replace h := h.2 c_
                  refine w_aload_n (dk_Mod_puts 92 rfl) rfl ?_
                  refine w_dup (dk_Mod_puts 93 rfl) rfl ?_
                  refine w_geti (v := aI u30 52 20) (dk_Mod_puts 94 rfl) lk_Mod_72 rfl rfl rfl ?_
                  refine w_iconst (v := 1) (dk_Mod_puts 95 rfl) rfl ?_
                  refine w_iadd (dk_Mod_puts 96 rfl) ?_
                  refine w_puti (dk_Mod_puts 97 rfl) lk_Mod_72 rfl rfl ?_
                  refine w_goto 23 (dk_Mod_puts 98 rfl) (by decide) ?_
                  exact h
              · replace h := h.2 c_
                refine w_iconst (v := 0) (dk_Mod_puts 73 rfl) rfl ?_
                exact w_bret (dk_Mod_puts 74 rfl) rfl (Or.inl rfl) h
          · replace h := h.2 c_
            refine w_iconst (v := 0) (dk_Mod_puts 62 rfl) rfl ?_
            exact w_bret (dk_Mod_puts 63 rfl) rfl (Or.inl rfl) h
        · replace h := h.2 c_
          refine w_aload_n (dk_Mod_puts 43 rfl) rfl ?_
          refine w_callVi (ls' := [some (.ref 52)]) cv_Mod_235 (dk_Mod_puts 44 rfl) (ci := 10) rfl rfl [] [] rfl rfl (Nat.le_of_ble_eq_true rfl) (Nat.le_of_ble_eq_true rfl) rfl rfl rfl h (fun r31 u32 h => ?_)
          exact w_bret (dk_Mod_puts 45 rfl) rfl h.1 h.2
theorem g_Mod_puts_214 {d : Nat} {u : Us} {Q : Ot → Us → Prop} (x1 : Int32) (x2 : Int32) (x3 : Int32) (x4 : Int32) (x5 : Int32) (x6 : Int32) (x7 : Int32)
    (h : (x4 ≤ x7 → WS d m_Mod_sign 0 [some (.ref 52), some (.int 59)] [] u (Ri (fun (r1 : Int32) (u2 : Us) => (r1 = 0 ∨ r1 = 1) ∧ Q (.inl (some (.int r1))) u2) (fun x u => Q (.inr x) u))) ∧ (¬ (x4 ≤ x7) → ∃ k3 : Nat, x7 = nI k3 ∧ k3 < 8 ∧ (WS d m_Mod_emit 0 [some (.ref 52), some (.int (aI u 74 k3))] [] u (Rv (fun (u5 : Us) => WS (d + 1) m_Mod_puts 214 [some (.ref 52), some (.int x1), some (.int x2), some (.int x3), some (.int x4), some (.int x5), some (.int x6), some (.int (x7 + 1))] [] u5 Q) (fun x u => Q (.inr x) u))))) :
    WS (d + 1) m_Mod_puts 214 [some (.ref 52), some (.int x1), some (.int x2), some (.int x3), some (.int x4), some (.int x5), some (.int x6), some (.int x7)] [] u Q := by
  refine w_iload (dk_Mod_puts 118 rfl) rfl ?_
  refine w_iload (dk_Mod_puts 119 rfl) rfl ?_
  refine w_icmp_ge 238 (dk_Mod_puts 120 rfl) (by decide) (fun c_ => ?_) (fun c_ => ?_)
  · replace h := h.1 c_
    refine w_aload_n (dk_Mod_puts 129 rfl) rfl ?_
    refine w_bipush (v := 59) (dk_Mod_puts 130 rfl) rfl ?_
    refine w_callVi (ls' := [some (.ref 52), some (.int 59)]) cv_Mod_299 (dk_Mod_puts 131 rfl) (ci := 10) rfl rfl [.int 59] [] rfl rfl (Nat.le_of_ble_eq_true rfl) (Nat.le_of_ble_eq_true rfl) rfl rfl rfl h (fun r1 u2 h => ?_)
    exact w_bret (dk_Mod_puts 132 rfl) rfl h.1 h.2
  · replace h := h.2 c_
    refine w_aload_n (dk_Mod_puts 121 rfl) rfl ?_
    refine w_aload_n (dk_Mod_puts 122 rfl) rfl ?_
    refine w_getr (dk_Mod_puts 123 rfl) lk_Mod_127 rfl rfl rfl ?_
    refine w_iload (dk_Mod_puts 124 rfl) rfl ?_
    obtain ⟨k3, e_k3, l_k3, h⟩ := h
    refine w_iald (k_ := k3) (dk_Mod_puts 125 rfl) rfl (by decide) e_k3 l_k3 ?_
    refine w_callVv (ls' := [some (.ref 52), some (.int (aI u 74 k3))]) cv_Mod_278 (dk_Mod_puts 126 rfl) (ci := 10) rfl rfl [.int (aI u 74 k3)] [] rfl rfl (Nat.le_of_ble_eq_true rfl) (Nat.le_of_ble_eq_true rfl) rfl rfl rfl h (fun u5 h => ?_)
    refine w_iinc (v := x7 + 1) (ls' := [some (.ref 52), some (.int x1), some (.int x2), some (.int x3), some (.int x4), some (.int x5), some (.int x6), some (.int (x7 + 1))]) (dk_Mod_puts 127 rfl) rfl rfl (by decide) rfl ?_
    refine w_goto 214 (dk_Mod_puts 128 rfl) (by decide) ?_
    exact h
theorem g_Mod_whereOf_0 {d : Nat} {u : Us} {Q : Ot → Us → Prop} (p1 : Int32)
    (h : WS d m_Mod_isWord 0 [some (.ref 52), some (.int 3)] [] u (Ri (fun (r1 : Int32) (u2 : Us) => (r1 = 0 → WS d m_Mod_emit 0 [some (.ref 52), some (.int 0)] [] u2 (Rv (fun (u4 : Us) => Q (.inl (some (.int 1))) u4) (fun x u => Q (.inr x) u))) ∧ (¬ (r1 = 0) → WS d m_Mod_measured 0 [some (.ref 52), some (.int p1), none] [] (uI u2 52 20 ((aI u2 52 20) + 1)) (Ri (fun (r5 : Int32) (u6 : Us) => (r5 = 0 ∨ r5 = 1) ∧ Q (.inl (some (.int r5))) u6) (fun x u => Q (.inr x) u)))) (fun x u => Q (.inr x) u))) :
    WS (d + 1) m_Mod_whereOf 0 [some (.ref 52), some (.int p1)] [] u Q := by
  refine w_aload_n (dk_Mod_whereOf 0 rfl) rfl ?_
  refine w_iconst (v := 3) (dk_Mod_whereOf 1 rfl) rfl ?_
  refine w_callVi (ls' := [some (.ref 52), some (.int 3)]) cv_Mod_239 (dk_Mod_whereOf 2 rfl) (ci := 10) rfl rfl [.int 3] [] rfl rfl (Nat.le_of_ble_eq_true rfl) (Nat.le_of_ble_eq_true rfl) rfl rfl rfl h (fun r1 u2 h => ?_)
  refine w_if_eq 24 (dk_Mod_whereOf 3 rfl) (by decide) (fun c_ => ?_) (fun c_ => ?_)
  · replace h := h.1 c_
    refine w_aload_n (dk_Mod_whereOf 14 rfl) rfl ?_
    refine w_iconst (v := 0) (dk_Mod_whereOf 15 rfl) rfl ?_
    refine w_callVv (ls' := [some (.ref 52), some (.int 0)]) cv_Mod_278 (dk_Mod_whereOf 16 rfl) (ci := 10) rfl rfl [.int 0] [] rfl rfl (Nat.le_of_ble_eq_true rfl) (Nat.le_of_ble_eq_true rfl) rfl rfl rfl h (fun u4 h => ?_)
    refine w_iconst (v := 1) (dk_Mod_whereOf 17 rfl) rfl ?_
    exact w_bret (dk_Mod_whereOf 18 rfl) rfl (Or.inr rfl) h
  · replace h := h.2 c_
    refine w_aload_n (dk_Mod_whereOf 4 rfl) rfl ?_
    refine w_dup (dk_Mod_whereOf 5 rfl) rfl ?_
    refine w_geti (v := aI u2 52 20) (dk_Mod_whereOf 6 rfl) lk_Mod_72 rfl rfl rfl ?_
    refine w_iconst (v := 1) (dk_Mod_whereOf 7 rfl) rfl ?_
    refine w_iadd (dk_Mod_whereOf 8 rfl) ?_
    refine w_puti (dk_Mod_whereOf 9 rfl) lk_Mod_72 rfl rfl ?_
    refine w_aload_n (dk_Mod_whereOf 10 rfl) rfl ?_
    refine w_iload_n (dk_Mod_whereOf 11 rfl) rfl ?_
    refine w_callVi (ls' := [some (.ref 52), some (.int p1), none]) cv_Mod_311 (dk_Mod_whereOf 12 rfl) (ci := 10) rfl rfl [.int p1] [] rfl rfl (Nat.le_of_ble_eq_true rfl) (Nat.le_of_ble_eq_true rfl) rfl rfl rfl h (fun r5 u6 h => ?_)
    exact w_bret (dk_Mod_whereOf 13 rfl) rfl h.1 h.2
theorem g_Mod_letOrPrint_0 {d : Nat} {u : Us} {Q : Ot → Us → Prop} (p1 : Int32)
    (h : WS d m_Mod_emit 0 [some (.ref 52), some (.int 100)] [] u (Rv (fun (u2 : Us) => (p1 = 0 → WS d m_Mod_inline 0 [some (.ref 52)] [] (uI u2 52 20 ((aI u2 52 20) + 1)) (Ri (fun (r3 : Int32) (u4 : Us) => (r3 ≠ 0 → (p1 = 0 → WS d m_Mod_emit 0 [some (.ref 52), some (.int 102)] [] u4 (Rv (fun (u6 : Us) => WS d m_Mod_emit 0 [some (.ref 52), some (.int 0)] [] u6 (Rv (fun (u8 : Us) => WS d m_Mod_sign 0 [some (.ref 52), some (.int 59)] [] u8 (Ri (fun (r9 : Int32) (u10 : Us) => (r9 = 0 ∨ r9 = 1) ∧ Q (.inl (some (.int r9))) u10) (fun x u => Q (.inr x) u))) (fun x u => Q (.inr x) u))) (fun x u => Q (.inr x) u))) ∧ (¬ (p1 = 0) → WS d m_Mod_emit 0 [some (.ref 52), some (.int 101)] [] u4 (Rv (fun (u12 : Us) => WS d m_Mod_emit 0 [some (.ref 52), some (.int 0)] [] u12 (Rv (fun (u14 : Us) => WS d m_Mod_sign 0 [some (.ref 52), some (.int 59)] [] u14 (Ri (fun (r15 : Int32) (u16 : Us) => (r15 = 0 ∨ r15 = 1) ∧ Q (.inl (some (.int r15))) u16) (fun x u => Q (.inr x) u))) (fun x u => Q (.inr x) u))) (fun x u => Q (.inr x) u)))) ∧ (r3 = 0 → Q (.inl (some (.int 0))) u4)) (fun x u => Q (.inr x) u))) ∧ (¬ (p1 = 0) → ∃ k17 : Nat, (aI u2 52 20) + 1 = nI k17 ∧ k17 < 152 ∧ (((aI u2 63 k17) ≠ 1 → WS d m_Mod_wrong 0 [some (.ref 52)] [] (uI u2 52 20 ((aI u2 52 20) + 1)) (Ri (fun (r18 : Int32) (u19 : Us) => (r18 = 0 ∨ r18 = 1) ∧ Q (.inl (some (.int r18))) u19) (fun x u => Q (.inr x) u))) ∧ ((aI u2 63 k17) = 1 → ∃ k20 : Nat, (aI u2 52 20) + 1 = nI k20 ∧ k20 < 152 ∧ (WS d m_Mod_kindOf 0 [some (.ref 52), some (.long (aL u2 65 k20)), none, none] [] (uI u2 52 20 ((aI u2 52 20) + 1)) (Ri (fun (r21 : Int32) (u22 : Us) => (r21 < 0 → WS d m_Mod_takeVariable 0 [some (.ref 52), none] [] u22 (Ri (fun (r23 : Int32) (u24 : Us) => (r23 < 0 → Q (.inl (some (.int 0))) u24) ∧ (¬ (r23 < 0) → WS d m_Mod_sign 0 [some (.ref 52), some (.int 61)] [] u24 (Ri (fun (r25 : Int32) (u26 : Us) => (r25 ≠ 0 → WS d m_Mod_inline 0 [some (.ref 52)] [] u26 (Ri (fun (r27 : Int32) (u28 : Us) => (r27 ≠ 0 → (p1 = 0 → WS d m_Mod_emit 0 [some (.ref 52), some (.int 102)] [] u28 (Rv (fun (u30 : Us) => WS d m_Mod_emit 0 [some (.ref 52), some (.int r23)] [] u30 (Rv (fun (u32 : Us) => WS d m_Mod_sign 0 [some (.ref 52), some (.int 59)] [] u32 (Ri (fun (r33 : Int32) (u34 : Us) => (r33 = 0 ∨ r33 = 1) ∧ Q (.inl (some (.int r33))) u34) (fun x u => Q (.inr x) u))) (fun x u => Q (.inr x) u))) (fun x u => Q (.inr x) u))) ∧ (¬ (p1 = 0) → WS d m_Mod_emit 0 [some (.ref 52), some (.int 101)] [] u28 (Rv (fun (u36 : Us) => WS d m_Mod_emit 0 [some (.ref 52), some (.int r23)] [] u36 (Rv (fun (u38 : Us) => WS d m_Mod_sign 0 [some (.ref 52), some (.int 59)] [] u38 (Ri (fun (r39 : Int32) (u40 : Us) => (r39 = 0 ∨ r39 = 1) ∧ Q (.inl (some (.int r39))) u40) (fun x u => Q (.inr x) u))) (fun x u => Q (.inr x) u))) (fun x u => Q (.inr x) u)))) ∧ (r27 = 0 → Q (.inl (some (.int 0))) u28)) (fun x u => Q (.inr x) u))) ∧ (r25 = 0 → Q (.inl (some (.int 0))) u26)) (fun x u => Q (.inr x) u)))) (fun x u => Q (.inr x) u))) ∧ (¬ (r21 < 0) → WS d m_Mod_wrong 0 [some (.ref 52)] [] u22 (Ri (fun (r41 : Int32) (u42 : Us) => (r41 = 0 ∨ r41 = 1) ∧ Q (.inl (some (.int r41))) u42) (fun x u => Q (.inr x) u)))) (fun x u => Q (.inr x) u))))))) (fun x u => Q (.inr x) u))) :
    WS (d + 1) m_Mod_letOrPrint 0 [some (.ref 52), some (.int p1), none] [] u Q := by
  refine w_aload_n (dk_Mod_letOrPrint 0 rfl) rfl ?_
  refine w_bipush (v := 100) (dk_Mod_letOrPrint 1 rfl) rfl ?_
  refine w_callVv (ls' := [some (.ref 52), some (.int 100)]) cv_Mod_278 (dk_Mod_letOrPrint 2 rfl) (ci := 10) rfl rfl [.int 100] [] rfl rfl (Nat.le_of_ble_eq_true rfl) (Nat.le_of_ble_eq_true rfl) rfl rfl rfl h (fun u2 h => ?_)
  refine w_aload_n (dk_Mod_letOrPrint 3 rfl) rfl ?_
  refine w_dup (dk_Mod_letOrPrint 4 rfl) rfl ?_
  refine w_geti (v := aI u2 52 20) (dk_Mod_letOrPrint 5 rfl) lk_Mod_72 rfl rfl rfl ?_
  refine w_iconst (v := 1) (dk_Mod_letOrPrint 6 rfl) rfl ?_
  refine w_iadd (dk_Mod_letOrPrint 7 rfl) ?_
  refine w_puti (dk_Mod_letOrPrint 8 rfl) lk_Mod_72 rfl rfl ?_
  refine w_iconst (v := 0) (dk_Mod_letOrPrint 9 rfl) rfl ?_
  refine w_istore_n (ls' := [some (.ref 52), some (.int p1), some (.int 0)]) (dk_Mod_letOrPrint 10 rfl) (by decide) rfl ?_
  refine w_iload_n (dk_Mod_letOrPrint 11 rfl) rfl ?_
  refine w_if_eq 76 (dk_Mod_letOrPrint 12 rfl) (by decide) (fun c_ => ?_) (fun c_ => ?_)
  · replace h := h.1 c_
    refine w_aload_n (dk_Mod_letOrPrint 42 rfl) rfl ?_
    refine w_callVi (ls' := [some (.ref 52)]) cv_Mod_318 (dk_Mod_letOrPrint 43 rfl) (ci := 10) rfl rfl [] [] rfl rfl (Nat.le_of_ble_eq_true rfl) (Nat.le_of_ble_eq_true rfl) rfl rfl rfl h (fun r3 u4 h => ?_)
    refine w_if_ne 85 (dk_Mod_letOrPrint 44 rfl) (by decide) (fun c_ => ?_) (fun c_ => ?_)
    · replace h := h.1 c_
      refine w_aload_n (dk_Mod_letOrPrint 47 rfl) rfl ?_
      refine w_iload_n (dk_Mod_letOrPrint 48 rfl) rfl ?_
      refine w_if_eq 95 (dk_Mod_letOrPrint 49 rfl) (by decide) (fun c_ => ?_) (fun c_ => ?_)
      · replace h := h.1 c_
        refine w_bipush (v := 102) (dk_Mod_letOrPrint 52 rfl) rfl ?_
        refine w_callVv (ls' := [some (.ref 52), some (.int 102)]) cv_Mod_278 (dk_Mod_letOrPrint 53 rfl) (ci := 10) rfl rfl [.int 102] [] rfl rfl (Nat.le_of_ble_eq_true rfl) (Nat.le_of_ble_eq_true rfl) rfl rfl rfl h (fun u6 h => ?_)
        refine w_aload_n (dk_Mod_letOrPrint 54 rfl) rfl ?_
        refine w_iload_n (dk_Mod_letOrPrint 55 rfl) rfl ?_
        refine w_callVv (ls' := [some (.ref 52), some (.int 0)]) cv_Mod_278 (dk_Mod_letOrPrint 56 rfl) (ci := 10) rfl rfl [.int 0] [] rfl rfl (Nat.le_of_ble_eq_true rfl) (Nat.le_of_ble_eq_true rfl) rfl rfl rfl h (fun u8 h => ?_)
        refine w_aload_n (dk_Mod_letOrPrint 57 rfl) rfl ?_
        refine w_bipush (v := 59) (dk_Mod_letOrPrint 58 rfl) rfl ?_
        refine w_callVi (ls' := [some (.ref 52), some (.int 59)]) cv_Mod_299 (dk_Mod_letOrPrint 59 rfl) (ci := 10) rfl rfl [.int 59] [] rfl rfl (Nat.le_of_ble_eq_true rfl) (Nat.le_of_ble_eq_true rfl) rfl rfl rfl h (fun r9 u10 h => ?_)
        exact w_bret (dk_Mod_letOrPrint 60 rfl) rfl h.1 h.2
      · replace h := h.2 c_
        refine w_bipush (v := 101) (dk_Mod_letOrPrint 50 rfl) rfl ?_
        refine w_goto 97 (dk_Mod_letOrPrint 51 rfl) (by decide) ?_
        refine w_callVv (ls' := [some (.ref 52), some (.int 101)]) cv_Mod_278 (dk_Mod_letOrPrint 53 rfl) (ci := 10) rfl rfl [.int 101] [] rfl rfl (Nat.le_of_ble_eq_true rfl) (Nat.le_of_ble_eq_true rfl) rfl rfl rfl h (fun u12 h => ?_)
        refine w_aload_n (dk_Mod_letOrPrint 54 rfl) rfl ?_
        refine w_iload_n (dk_Mod_letOrPrint 55 rfl) rfl ?_
        refine w_callVv (ls' := [some (.ref 52), some (.int 0)]) cv_Mod_278 (dk_Mod_letOrPrint 56 rfl) (ci := 10) rfl rfl [.int 0] [] rfl rfl (Nat.le_of_ble_eq_true rfl) (Nat.le_of_ble_eq_true rfl) rfl rfl rfl h (fun u14 h => ?_)
        refine w_aload_n (dk_Mod_letOrPrint 57 rfl) rfl ?_
        refine w_bipush (v := 59) (dk_Mod_letOrPrint 58 rfl) rfl ?_
        refine w_callVi (ls' := [some (.ref 52), some (.int 59)]) cv_Mod_299 (dk_Mod_letOrPrint 59 rfl) (ci := 10) rfl rfl [.int 59] [] rfl rfl (Nat.le_of_ble_eq_true rfl) (Nat.le_of_ble_eq_true rfl) rfl rfl rfl h (fun r15 u16 h => ?_)
        exact w_bret (dk_Mod_letOrPrint 60 rfl) rfl h.1 h.2
    · replace h := h.2 c_
      refine w_iconst (v := 0) (dk_Mod_letOrPrint 45 rfl) rfl ?_
      exact w_bret (dk_Mod_letOrPrint 46 rfl) rfl (Or.inl rfl) h
  · replace h := h.2 c_
    refine w_aload_n (dk_Mod_letOrPrint 13 rfl) rfl ?_
    refine w_getr (dk_Mod_letOrPrint 14 rfl) lk_Mod_57 rfl rfl rfl ?_
    refine w_aload_n (dk_Mod_letOrPrint 15 rfl) rfl ?_
    refine w_geti (v := (aI u2 52 20) + 1) (dk_Mod_letOrPrint 16 rfl) lk_Mod_72 rfl rfl rfl ?_
    obtain ⟨k17, e_k17, l_k17, h⟩ := h
    refine w_iald (k_ := k17) (dk_Mod_letOrPrint 17 rfl) rfl (by decide) e_k17 l_k17 ?_
    show WS _ _ _ _ [.int (aI u2 63 k17)] _ _
    refine w_iconst (v := 1) (dk_Mod_letOrPrint 18 rfl) rfl ?_
    refine w_icmp_ne 51 (dk_Mod_letOrPrint 19 rfl) (by decide) (fun c_ => ?_) (fun c_ => ?_)
    · replace h := h.1 c_
      refine w_aload_n (dk_Mod_letOrPrint 28 rfl) rfl ?_
      refine w_callVi (ls' := [some (.ref 52)]) cv_Mod_235 (dk_Mod_letOrPrint 29 rfl) (ci := 10) rfl rfl [] [] rfl rfl (Nat.le_of_ble_eq_true rfl) (Nat.le_of_ble_eq_true rfl) rfl rfl rfl h (fun r18 u19 h => ?_)
      exact w_bret (dk_Mod_letOrPrint 30 rfl) rfl h.1 h.2
    · replace h := h.2 c_
      refine w_aload_n (dk_Mod_letOrPrint 20 rfl) rfl ?_
      refine w_aload_n (dk_Mod_letOrPrint 21 rfl) rfl ?_
      refine w_getr (dk_Mod_letOrPrint 22 rfl) lk_Mod_63 rfl rfl rfl ?_
      refine w_aload_n (dk_Mod_letOrPrint 23 rfl) rfl ?_
      refine w_geti (v := (aI u2 52 20) + 1) (dk_Mod_letOrPrint 24 rfl) lk_Mod_72 rfl rfl rfl ?_
      obtain ⟨k20, e_k20, l_k20, h⟩ := h
      refine w_lald (k_ := k20) (dk_Mod_letOrPrint 25 rfl) rfl (by decide) e_k20 l_k20 ?_
      show WS _ _ _ _ [.long (aL u2 65 k20), .ref 52] _ _
      refine w_callVi (ls' := [some (.ref 52), some (.long (aL u2 65 k20)), none, none]) cv_Mod_242 (dk_Mod_letOrPrint 26 rfl) (ci := 10) rfl rfl [.long (aL u2 65 k20)] [] rfl rfl (Nat.le_of_ble_eq_true rfl) (Nat.le_of_ble_eq_true rfl) rfl rfl rfl h (fun r21 u22 h => ?_)
      refine w_if_lt 56 (dk_Mod_letOrPrint 27 rfl) (by decide) (fun c_ => ?_) (fun c_ => ?_)
      · replace h := h.1 c_
        refine w_aload_n (dk_Mod_letOrPrint 31 rfl) rfl ?_
        refine w_callVi (ls' := [some (.ref 52), none]) cv_Mod_293 (dk_Mod_letOrPrint 32 rfl) (ci := 10) rfl rfl [] [] rfl rfl (Nat.le_of_ble_eq_true rfl) (Nat.le_of_ble_eq_true rfl) rfl rfl rfl h (fun r23 u24 h => ?_)
        refine w_istore_n (ls' := [some (.ref 52), some (.int p1), some (.int r23)]) (dk_Mod_letOrPrint 33 rfl) (by decide) rfl ?_
        refine w_iload_n (dk_Mod_letOrPrint 34 rfl) rfl ?_
        refine w_if_lt 74 (dk_Mod_letOrPrint 35 rfl) (by decide) (fun c_ => ?_) (fun c_ => ?_)
        · replace h := h.1 c_
          refine w_iconst (v := 0) (dk_Mod_letOrPrint 40 rfl) rfl ?_
          exact w_bret (dk_Mod_letOrPrint 41 rfl) rfl (Or.inl rfl) h
        · replace h := h.2 c_
          refine w_aload_n (dk_Mod_letOrPrint 36 rfl) rfl ?_
          refine w_bipush (v := 61) (dk_Mod_letOrPrint 37 rfl) rfl ?_
          refine w_callVi (ls' := [some (.ref 52), some (.int 61)]) cv_Mod_299 (dk_Mod_letOrPrint 38 rfl) (ci := 10) rfl rfl [.int 61] [] rfl rfl (Nat.le_of_ble_eq_true rfl) (Nat.le_of_ble_eq_true rfl) rfl rfl rfl h (fun r25 u26 h => ?_)
          refine w_if_ne 76 (dk_Mod_letOrPrint 39 rfl) (by decide) (fun c_ => ?_) (fun c_ => ?_)
          · replace h := h.1 c_
            refine w_aload_n (dk_Mod_letOrPrint 42 rfl) rfl ?_
            refine w_callVi (ls' := [some (.ref 52)]) cv_Mod_318 (dk_Mod_letOrPrint 43 rfl) (ci := 10) rfl rfl [] [] rfl rfl (Nat.le_of_ble_eq_true rfl) (Nat.le_of_ble_eq_true rfl) rfl rfl rfl h (fun r27 u28 h => ?_)
            refine w_if_ne 85 (dk_Mod_letOrPrint 44 rfl) (by decide) (fun c_ => ?_) (fun c_ => ?_)
            · replace h := h.1 c_
              refine w_aload_n (dk_Mod_letOrPrint 47 rfl) rfl ?_
              refine w_iload_n (dk_Mod_letOrPrint 48 rfl) rfl ?_
              refine w_if_eq 95 (dk_Mod_letOrPrint 49 rfl) (by decide) (fun c_ => ?_) (fun c_ => ?_)
              · replace h := h.1 c_
                refine w_bipush (v := 102) (dk_Mod_letOrPrint 52 rfl) rfl ?_
                refine w_callVv (ls' := [some (.ref 52), some (.int 102)]) cv_Mod_278 (dk_Mod_letOrPrint 53 rfl) (ci := 10) rfl rfl [.int 102] [] rfl rfl (Nat.le_of_ble_eq_true rfl) (Nat.le_of_ble_eq_true rfl) rfl rfl rfl h (fun u30 h => ?_)
                refine w_aload_n (dk_Mod_letOrPrint 54 rfl) rfl ?_
                refine w_iload_n (dk_Mod_letOrPrint 55 rfl) rfl ?_
                refine w_callVv (ls' := [some (.ref 52), some (.int r23)]) cv_Mod_278 (dk_Mod_letOrPrint 56 rfl) (ci := 10) rfl rfl [.int r23] [] rfl rfl (Nat.le_of_ble_eq_true rfl) (Nat.le_of_ble_eq_true rfl) rfl rfl rfl h (fun u32 h => ?_)
                refine w_aload_n (dk_Mod_letOrPrint 57 rfl) rfl ?_
                refine w_bipush (v := 59) (dk_Mod_letOrPrint 58 rfl) rfl ?_
                refine w_callVi (ls' := [some (.ref 52), some (.int 59)]) cv_Mod_299 (dk_Mod_letOrPrint 59 rfl) (ci := 10) rfl rfl [.int 59] [] rfl rfl (Nat.le_of_ble_eq_true rfl) (Nat.le_of_ble_eq_true rfl) rfl rfl rfl h (fun r33 u34 h => ?_)
                exact w_bret (dk_Mod_letOrPrint 60 rfl) rfl h.1 h.2
              · replace h := h.2 c_
                refine w_bipush (v := 101) (dk_Mod_letOrPrint 50 rfl) rfl ?_
                refine w_goto 97 (dk_Mod_letOrPrint 51 rfl) (by decide) ?_
                refine w_callVv (ls' := [some (.ref 52), some (.int 101)]) cv_Mod_278 (dk_Mod_letOrPrint 53 rfl) (ci := 10) rfl rfl [.int 101] [] rfl rfl (Nat.le_of_ble_eq_true rfl) (Nat.le_of_ble_eq_true rfl) rfl rfl rfl h (fun u36 h => ?_)
                refine w_aload_n (dk_Mod_letOrPrint 54 rfl) rfl ?_
                refine w_iload_n (dk_Mod_letOrPrint 55 rfl) rfl ?_
                refine w_callVv (ls' := [some (.ref 52), some (.int r23)]) cv_Mod_278 (dk_Mod_letOrPrint 56 rfl) (ci := 10) rfl rfl [.int r23] [] rfl rfl (Nat.le_of_ble_eq_true rfl) (Nat.le_of_ble_eq_true rfl) rfl rfl rfl h (fun u38 h => ?_)
                refine w_aload_n (dk_Mod_letOrPrint 57 rfl) rfl ?_
                refine w_bipush (v := 59) (dk_Mod_letOrPrint 58 rfl) rfl ?_
                refine w_callVi (ls' := [some (.ref 52), some (.int 59)]) cv_Mod_299 (dk_Mod_letOrPrint 59 rfl) (ci := 10) rfl rfl [.int 59] [] rfl rfl (Nat.le_of_ble_eq_true rfl) (Nat.le_of_ble_eq_true rfl) rfl rfl rfl h (fun r39 u40 h => ?_)
                exact w_bret (dk_Mod_letOrPrint 60 rfl) rfl h.1 h.2
            · replace h := h.2 c_
              refine w_iconst (v := 0) (dk_Mod_letOrPrint 45 rfl) rfl ?_
              exact w_bret (dk_Mod_letOrPrint 46 rfl) rfl (Or.inl rfl) h
          · replace h := h.2 c_
            refine w_iconst (v := 0) (dk_Mod_letOrPrint 40 rfl) rfl ?_
            exact w_bret (dk_Mod_letOrPrint 41 rfl) rfl (Or.inl rfl) h
      · replace h := h.2 c_
        refine w_aload_n (dk_Mod_letOrPrint 28 rfl) rfl ?_
        refine w_callVi (ls' := [some (.ref 52)]) cv_Mod_235 (dk_Mod_letOrPrint 29 rfl) (ci := 10) rfl rfl [] [] rfl rfl (Nat.le_of_ble_eq_true rfl) (Nat.le_of_ble_eq_true rfl) rfl rfl rfl h (fun r41 u42 h => ?_)
        exact w_bret (dk_Mod_letOrPrint 30 rfl) rfl h.1 h.2
theorem g_Mod_each_0 {d : Nat} {u : Us} {Q : Ot → Us → Prop} 
    (h : WS d m_Mod_emit 0 [some (.ref 52), some (.int 100)] [] u (Rv (fun (u2 : Us) => WS d m_Mod_takeKind 0 [some (.ref 52), none] [] (uI u2 52 20 ((aI u2 52 20) + 1)) (Ri (fun (r3 : Int32) (u4 : Us) => (r3 < 0 → Q (.inl (some (.int 0))) u4) ∧ (¬ (r3 < 0) → WS d m_Mod_keyword 0 [some (.ref 52), some (.int 8)] [] u4 (Ri (fun (r5 : Int32) (u6 : Us) => (r5 ≠ 0 → WS d m_Mod_takeField 0 [some (.ref 52), some (.int r3), none] [] u6 (Ri (fun (r7 : Int32) (u8 : Us) => (0 ≤ r7 → WS d m_Mod_levels 0 [some (.ref 52), none, none] [] u8 (Ri (fun (r9 : Int32) (u10 : Us) => WS d m_Mod_emit 0 [some (.ref 52), some (.int 106)] [] u10 (Rv (fun (u12 : Us) => WS d m_Mod_emit 0 [some (.ref 52), some (.int r9)] [] u12 (Rv (fun (u14 : Us) => WS d m_Mod_emit 0 [some (.ref 52), some (.int r3)] [] u14 (Rv (fun (u16 : Us) => WS d m_Mod_emit 0 [some (.ref 52), some (.int r7)] [] u16 (Rv (fun (u18 : Us) => WS d m_Mod_whereOf 0 [some (.ref 52), some (.int r3)] [] u18 (Ri (fun (r19 : Int32) (u20 : Us) => (r19 ≠ 0 → WS d m_Mod_emit 0 [some (.ref 52), some (.int 107)] [] u20 (Rv (fun (u22 : Us) => WS d m_Mod_emit 0 [some (.ref 52), some (.int r9)] [] u22 (Rv (fun (u24 : Us) => WS d m_Mod_emit 0 [some (.ref 52), some (.int r3)] [] u24 (Rv (fun (u26 : Us) => WS d m_Mod_emit 0 [some (.ref 52), some (.int 0)] [] u26 (Rv (fun (u28 : Us) => WS d m_Mod_block 0 [some (.ref 52), some (.int 4), some (.int ((aI u28 52 25) - 1)), some (.int (aI u20 52 25)), some (.int r3)] [] u28 (Rv (fun (u30 : Us) => WS d m_Mod_opens 0 [some (.ref 52)] [] u30 (Ri (fun (r31 : Int32) (u32 : Us) => (r31 = 0 ∨ r31 = 1) ∧ Q (.inl (some (.int r31))) u32) (fun x u => Q (.inr x) u))) (fun x u => Q (.inr x) u))) (fun x u => Q (.inr x) u))) (fun x u => Q (.inr x) u))) (fun x u => Q (.inr x) u))) (fun x u => Q (.inr x) u))) ∧ (r19 = 0 → Q (.inl (some (.int 0))) u20)) (fun x u => Q (.inr x) u))) (fun x u => Q (.inr x) u))) (fun x u => Q (.inr x) u))) (fun x u => Q (.inr x) u))) (fun x u => Q (.inr x) u))) (fun x u => Q (.inr x) u))) ∧ (¬ (0 ≤ r7) → Q (.inl (some (.int 0))) u8)) (fun x u => Q (.inr x) u))) ∧ (r5 = 0 → Q (.inl (some (.int 0))) u6)) (fun x u => Q (.inr x) u)))) (fun x u => Q (.inr x) u))) (fun x u => Q (.inr x) u))) :
    WS (d + 1) m_Mod_each 0 [some (.ref 52), none, none, none, none] [] u Q := by
  refine w_aload_n (dk_Mod_each 0 rfl) rfl ?_
  refine w_bipush (v := 100) (dk_Mod_each 1 rfl) rfl ?_
  refine w_callVv (ls' := [some (.ref 52), some (.int 100)]) cv_Mod_278 (dk_Mod_each 2 rfl) (ci := 10) rfl rfl [.int 100] [] rfl rfl (Nat.le_of_ble_eq_true rfl) (Nat.le_of_ble_eq_true rfl) rfl rfl rfl h (fun u2 h => ?_)
  refine w_aload_n (dk_Mod_each 3 rfl) rfl ?_
  refine w_dup (dk_Mod_each 4 rfl) rfl ?_
  refine w_geti (v := aI u2 52 20) (dk_Mod_each 5 rfl) lk_Mod_72 rfl rfl rfl ?_
  refine w_iconst (v := 1) (dk_Mod_each 6 rfl) rfl ?_
  refine w_iadd (dk_Mod_each 7 rfl) ?_
  refine w_puti (dk_Mod_each 8 rfl) lk_Mod_72 rfl rfl ?_
  refine w_aload_n (dk_Mod_each 9 rfl) rfl ?_
  refine w_callVi (ls' := [some (.ref 52), none]) cv_Mod_305 (dk_Mod_each 10 rfl) (ci := 10) rfl rfl [] [] rfl rfl (Nat.le_of_ble_eq_true rfl) (Nat.le_of_ble_eq_true rfl) rfl rfl rfl h (fun r3 u4 h => ?_)
  refine w_istore_n (ls' := [some (.ref 52), some (.int r3), none, none, none]) (dk_Mod_each 11 rfl) (by decide) rfl ?_
  refine w_iload_n (dk_Mod_each 12 rfl) rfl ?_
  refine w_if_lt 34 (dk_Mod_each 13 rfl) (by decide) (fun c_ => ?_) (fun c_ => ?_)
  · replace h := h.1 c_
    refine w_iconst (v := 0) (dk_Mod_each 18 rfl) rfl ?_
    exact w_bret (dk_Mod_each 19 rfl) rfl (Or.inl rfl) h
  · replace h := h.2 c_
    refine w_aload_n (dk_Mod_each 14 rfl) rfl ?_
    refine w_bipush (v := 8) (dk_Mod_each 15 rfl) rfl ?_
    refine w_callVi (ls' := [some (.ref 52), some (.int 8)]) cv_Mod_321 (dk_Mod_each 16 rfl) (ci := 10) rfl rfl [.int 8] [] rfl rfl (Nat.le_of_ble_eq_true rfl) (Nat.le_of_ble_eq_true rfl) rfl rfl rfl h (fun r5 u6 h => ?_)
    refine w_if_ne 36 (dk_Mod_each 17 rfl) (by decide) (fun c_ => ?_) (fun c_ => ?_)
    · replace h := h.1 c_
      refine w_aload_n (dk_Mod_each 20 rfl) rfl ?_
      refine w_iload_n (dk_Mod_each 21 rfl) rfl ?_
      refine w_callVi (ls' := [some (.ref 52), some (.int r3), none]) cv_Mod_302 (dk_Mod_each 22 rfl) (ci := 10) rfl rfl [.int r3] [] rfl rfl (Nat.le_of_ble_eq_true rfl) (Nat.le_of_ble_eq_true rfl) rfl rfl rfl h (fun r7 u8 h => ?_)
      refine w_istore_n (ls' := [some (.ref 52), some (.int r3), some (.int r7), none, none]) (dk_Mod_each 23 rfl) (by decide) rfl ?_
      refine w_iload_n (dk_Mod_each 24 rfl) rfl ?_
      refine w_if_ge 48 (dk_Mod_each 25 rfl) (by decide) (fun c_ => ?_) (fun c_ => ?_)
      · replace h := h.1 c_
        refine w_aload_n (dk_Mod_each 28 rfl) rfl ?_
        refine w_callVi (ls' := [some (.ref 52), none, none]) cv_Mod_324 (dk_Mod_each 29 rfl) (ci := 10) rfl rfl [] [] rfl rfl (Nat.le_of_ble_eq_true rfl) (Nat.le_of_ble_eq_true rfl) rfl rfl rfl h (fun r9 u10 h => ?_)
        refine w_istore_n (ls' := [some (.ref 52), some (.int r3), some (.int r7), some (.int r9), none]) (dk_Mod_each 30 rfl) (by decide) rfl ?_
        refine w_aload_n (dk_Mod_each 31 rfl) rfl ?_
        refine w_bipush (v := 106) (dk_Mod_each 32 rfl) rfl ?_
        refine w_callVv (ls' := [some (.ref 52), some (.int 106)]) cv_Mod_278 (dk_Mod_each 33 rfl) (ci := 10) rfl rfl [.int 106] [] rfl rfl (Nat.le_of_ble_eq_true rfl) (Nat.le_of_ble_eq_true rfl) rfl rfl rfl h (fun u12 h => ?_)
        refine w_aload_n (dk_Mod_each 34 rfl) rfl ?_
        refine w_iload_n (dk_Mod_each 35 rfl) rfl ?_
        refine w_callVv (ls' := [some (.ref 52), some (.int r9)]) cv_Mod_278 (dk_Mod_each 36 rfl) (ci := 10) rfl rfl [.int r9] [] rfl rfl (Nat.le_of_ble_eq_true rfl) (Nat.le_of_ble_eq_true rfl) rfl rfl rfl h (fun u14 h => ?_)
        refine w_aload_n (dk_Mod_each 37 rfl) rfl ?_
        refine w_iload_n (dk_Mod_each 38 rfl) rfl ?_
        refine w_callVv (ls' := [some (.ref 52), some (.int r3)]) cv_Mod_278 (dk_Mod_each 39 rfl) (ci := 10) rfl rfl [.int r3] [] rfl rfl (Nat.le_of_ble_eq_true rfl) (Nat.le_of_ble_eq_true rfl) rfl rfl rfl h (fun u16 h => ?_)
        refine w_aload_n (dk_Mod_each 40 rfl) rfl ?_
        refine w_iload_n (dk_Mod_each 41 rfl) rfl ?_
        refine w_callVv (ls' := [some (.ref 52), some (.int r7)]) cv_Mod_278 (dk_Mod_each 42 rfl) (ci := 10) rfl rfl [.int r7] [] rfl rfl (Nat.le_of_ble_eq_true rfl) (Nat.le_of_ble_eq_true rfl) rfl rfl rfl h (fun u18 h => ?_)
        refine w_aload_n (dk_Mod_each 43 rfl) rfl ?_
        refine w_iload_n (dk_Mod_each 44 rfl) rfl ?_
        refine w_callVi (ls' := [some (.ref 52), some (.int r3)]) cv_Mod_327 (dk_Mod_each 45 rfl) (ci := 10) rfl rfl [.int r3] [] rfl rfl (Nat.le_of_ble_eq_true rfl) (Nat.le_of_ble_eq_true rfl) rfl rfl rfl h (fun r19 u20 h => ?_)
        refine w_if_ne 84 (dk_Mod_each 46 rfl) (by decide) (fun c_ => ?_) (fun c_ => ?_)
        · replace h := h.1 c_
          refine w_aload_n (dk_Mod_each 49 rfl) rfl ?_
          refine w_geti (v := aI u20 52 25) (dk_Mod_each 50 rfl) lk_Mod_88 rfl rfl rfl ?_
          refine w_istore (ls' := [some (.ref 52), some (.int r3), some (.int r7), some (.int r9), some (.int (aI u20 52 25))]) (dk_Mod_each 51 rfl) (by decide) rfl ?_
          refine w_aload_n (dk_Mod_each 52 rfl) rfl ?_
          refine w_bipush (v := 107) (dk_Mod_each 53 rfl) rfl ?_
          refine w_callVv (ls' := [some (.ref 52), some (.int 107)]) cv_Mod_278 (dk_Mod_each 54 rfl) (ci := 10) rfl rfl [.int 107] [] rfl rfl (Nat.le_of_ble_eq_true rfl) (Nat.le_of_ble_eq_true rfl) rfl rfl rfl h (fun u22 h => ?_)
          refine w_aload_n (dk_Mod_each 55 rfl) rfl ?_
          refine w_iload_n (dk_Mod_each 56 rfl) rfl ?_
          refine w_callVv (ls' := [some (.ref 52), some (.int r9)]) cv_Mod_278 (dk_Mod_each 57 rfl) (ci := 10) rfl rfl [.int r9] [] rfl rfl (Nat.le_of_ble_eq_true rfl) (Nat.le_of_ble_eq_true rfl) rfl rfl rfl h (fun u24 h => ?_)
          refine w_aload_n (dk_Mod_each 58 rfl) rfl ?_
          refine w_iload_n (dk_Mod_each 59 rfl) rfl ?_
          refine w_callVv (ls' := [some (.ref 52), some (.int r3)]) cv_Mod_278 (dk_Mod_each 60 rfl) (ci := 10) rfl rfl [.int r3] [] rfl rfl (Nat.le_of_ble_eq_true rfl) (Nat.le_of_ble_eq_true rfl) rfl rfl rfl h (fun u26 h => ?_)
          refine w_aload_n (dk_Mod_each 61 rfl) rfl ?_
          refine w_iconst (v := 0) (dk_Mod_each 62 rfl) rfl ?_
          refine w_callVv (ls' := [some (.ref 52), some (.int 0)]) cv_Mod_278 (dk_Mod_each 63 rfl) (ci := 10) rfl rfl [.int 0] [] rfl rfl (Nat.le_of_ble_eq_true rfl) (Nat.le_of_ble_eq_true rfl) rfl rfl rfl h (fun u28 h => ?_)
          refine w_aload_n (dk_Mod_each 64 rfl) rfl ?_
          refine w_iconst (v := 4) (dk_Mod_each 65 rfl) rfl ?_
          refine w_aload_n (dk_Mod_each 66 rfl) rfl ?_
          refine w_geti (v := aI u28 52 25) (dk_Mod_each 67 rfl) lk_Mod_88 rfl rfl rfl ?_
          refine w_iconst (v := 1) (dk_Mod_each 68 rfl) rfl ?_
          refine w_isub (dk_Mod_each 69 rfl) ?_
          refine w_iload (dk_Mod_each 70 rfl) rfl ?_
          refine w_iload_n (dk_Mod_each 71 rfl) rfl ?_
          refine w_callVv (ls' := [some (.ref 52), some (.int 4), some (.int ((aI u28 52 25) - 1)), some (.int (aI u20 52 25)), some (.int r3)]) cv_Mod_330 (dk_Mod_each 72 rfl) (ci := 10) rfl rfl [.int 4, .int ((aI u28 52 25) - 1), .int (aI u20 52 25), .int r3] [] rfl rfl (Nat.le_of_ble_eq_true rfl) (Nat.le_of_ble_eq_true rfl) rfl rfl rfl h (fun u30 h => ?_)
          refine w_aload_n (dk_Mod_each 73 rfl) rfl ?_
          refine w_callVi (ls' := [some (.ref 52)]) cv_Mod_334 (dk_Mod_each 74 rfl) (ci := 10) rfl rfl [] [] rfl rfl (Nat.le_of_ble_eq_true rfl) (Nat.le_of_ble_eq_true rfl) rfl rfl rfl h (fun r31 u32 h => ?_)
          exact w_bret (dk_Mod_each 75 rfl) rfl h.1 h.2
        · replace h := h.2 c_
          refine w_iconst (v := 0) (dk_Mod_each 47 rfl) rfl ?_
          exact w_bret (dk_Mod_each 48 rfl) rfl (Or.inl rfl) h
      · replace h := h.2 c_
        refine w_iconst (v := 0) (dk_Mod_each 26 rfl) rfl ?_
        exact w_bret (dk_Mod_each 27 rfl) rfl (Or.inl rfl) h
    · replace h := h.2 c_
      refine w_iconst (v := 0) (dk_Mod_each 18 rfl) rfl ?_
      exact w_bret (dk_Mod_each 19 rfl) rfl (Or.inl rfl) h
theorem g_Mod_keyword_0 {d : Nat} {u : Us} {Q : Ot → Us → Prop} (p1 : Int32)
    (h : WS d m_Mod_isWord 0 [some (.ref 52), some (.int p1)] [] u (Ri (fun (r1 : Int32) (u2 : Us) => (r1 ≠ 0 → Q (.inl (some (.int 1))) (uI u2 52 20 ((aI u2 52 20) + 1))) ∧ (r1 = 0 → WS d m_Mod_wrong 0 [some (.ref 52)] [] u2 (Ri (fun (r3 : Int32) (u4 : Us) => (r3 = 0 ∨ r3 = 1) ∧ Q (.inl (some (.int r3))) u4) (fun x u => Q (.inr x) u)))) (fun x u => Q (.inr x) u))) :
    WS (d + 1) m_Mod_keyword 0 [some (.ref 52), some (.int p1)] [] u Q := by
  refine w_aload_n (dk_Mod_keyword 0 rfl) rfl ?_
  refine w_iload_n (dk_Mod_keyword 1 rfl) rfl ?_
  refine w_callVi (ls' := [some (.ref 52), some (.int p1)]) cv_Mod_239 (dk_Mod_keyword 2 rfl) (ci := 10) rfl rfl [.int p1] [] rfl rfl (Nat.le_of_ble_eq_true rfl) (Nat.le_of_ble_eq_true rfl) rfl rfl rfl h (fun r1 u2 h => ?_)
  refine w_if_ne 13 (dk_Mod_keyword 3 rfl) (by decide) (fun c_ => ?_) (fun c_ => ?_)
  · replace h := h.1 c_
    refine w_aload_n (dk_Mod_keyword 7 rfl) rfl ?_
    refine w_dup (dk_Mod_keyword 8 rfl) rfl ?_
    refine w_geti (v := aI u2 52 20) (dk_Mod_keyword 9 rfl) lk_Mod_72 rfl rfl rfl ?_
    refine w_iconst (v := 1) (dk_Mod_keyword 10 rfl) rfl ?_
    refine w_iadd (dk_Mod_keyword 11 rfl) ?_
    refine w_puti (dk_Mod_keyword 12 rfl) lk_Mod_72 rfl rfl ?_
    refine w_iconst (v := 1) (dk_Mod_keyword 13 rfl) rfl ?_
    exact w_bret (dk_Mod_keyword 14 rfl) rfl (Or.inr rfl) h
  · replace h := h.2 c_
    refine w_aload_n (dk_Mod_keyword 4 rfl) rfl ?_
    refine w_callVi (ls' := [some (.ref 52)]) cv_Mod_235 (dk_Mod_keyword 5 rfl) (ci := 10) rfl rfl [] [] rfl rfl (Nat.le_of_ble_eq_true rfl) (Nat.le_of_ble_eq_true rfl) rfl rfl rfl h (fun r3 u4 h => ?_)
    exact w_bret (dk_Mod_keyword 6 rfl) rfl h.1 h.2
theorem g_Mod_levels_0 {d : Nat} {u : Us} {Q : Ot → Us → Prop} 
    (h : WS d m_Mod_levels 4 [some (.ref 52), some (.int 0), some (.int 0)] [] u Q) :
    WS d m_Mod_levels 0 [some (.ref 52), none, none] [] u Q := by
  refine w_iconst (v := 0) (dk_Mod_levels 0 rfl) rfl ?_
  refine w_istore_n (ls' := [some (.ref 52), some (.int 0), none]) (dk_Mod_levels 1 rfl) (by decide) rfl ?_
  refine w_iconst (v := 0) (dk_Mod_levels 2 rfl) rfl ?_
  refine w_istore_n (ls' := [some (.ref 52), some (.int 0), some (.int 0)]) (dk_Mod_levels 3 rfl) (by decide) rfl ?_
  exact h
theorem g_Mod_levels_4 {d : Nat} {u : Us} {Q : Ot → Us → Prop} (x1 : Int32) (x2 : Int32)
    (h : ((aI u 52 30) ≤ x2 → Q (.inl (some (.int x1))) u) ∧ (¬ ((aI u 52 30) ≤ x2) → ∃ k1 : Nat, x2 = nI k1 ∧ k1 < 12 ∧ (((aI u 69 k1) ≠ 4 → WS d m_Mod_levels 4 [some (.ref 52), some (.int (x1 + 0)), some (.int (x2 + 1))] [] u Q) ∧ ((aI u 69 k1) = 4 → WS d m_Mod_levels 4 [some (.ref 52), some (.int (x1 + 1)), some (.int (x2 + 1))] [] u Q)))) :
    WS d m_Mod_levels 4 [some (.ref 52), some (.int x1), some (.int x2)] [] u Q := by
  refine w_iload_n (dk_Mod_levels 4 rfl) rfl ?_
  refine w_aload_n (dk_Mod_levels 5 rfl) rfl ?_
  refine w_geti (v := aI u 52 30) (dk_Mod_levels 6 rfl) lk_Mod_103 rfl rfl rfl ?_
  refine w_icmp_ge 36 (dk_Mod_levels 7 rfl) (by decide) (fun c_ => ?_) (fun c_ => ?_)
  · replace h := h.1 c_
    refine w_iload_n (dk_Mod_levels 22 rfl) rfl ?_
    exact w_iret (dk_Mod_levels 23 rfl) rfl h
  · replace h := h.2 c_
    refine w_iload_n (dk_Mod_levels 8 rfl) rfl ?_
    refine w_aload_n (dk_Mod_levels 9 rfl) rfl ?_
    refine w_getr (dk_Mod_levels 10 rfl) lk_Mod_106 rfl rfl rfl ?_
    refine w_iload_n (dk_Mod_levels 11 rfl) rfl ?_
    obtain ⟨k1, e_k1, l_k1, h⟩ := h
    refine w_iald (k_ := k1) (dk_Mod_levels 12 rfl) rfl (by decide) e_k1 l_k1 ?_
    refine w_iconst (v := 4) (dk_Mod_levels 13 rfl) rfl ?_
    refine w_icmp_ne 27 (dk_Mod_levels 14 rfl) (by decide) (fun c_ => ?_) (fun c_ => ?_)
    · replace h := h.1 c_
      refine w_iconst (v := 0) (dk_Mod_levels 17 rfl) rfl ?_
      refine w_iadd (dk_Mod_levels 18 rfl) ?_
      refine w_istore_n (ls' := [some (.ref 52), some (.int (x1 + 0)), some (.int x2)]) (dk_Mod_levels 19 rfl) (by decide) rfl ?_
      refine w_iinc (v := x2 + 1) (ls' := [some (.ref 52), some (.int (x1 + 0)), some (.int (x2 + 1))]) (dk_Mod_levels 20 rfl) rfl rfl (by decide) rfl ?_
      refine w_goto 4 (dk_Mod_levels 21 rfl) (by decide) ?_
      exact h
    · replace h := h.2 c_
      refine w_iconst (v := 1) (dk_Mod_levels 15 rfl) rfl ?_
      refine w_goto 28 (dk_Mod_levels 16 rfl) (by decide) ?_
      refine w_iadd (dk_Mod_levels 18 rfl) ?_
      refine w_istore_n (ls' := [some (.ref 52), some (.int (x1 + 1)), some (.int x2)]) (dk_Mod_levels 19 rfl) (by decide) rfl ?_
      refine w_iinc (v := x2 + 1) (ls' := [some (.ref 52), some (.int (x1 + 1)), some (.int (x2 + 1))]) (dk_Mod_levels 20 rfl) rfl rfl (by decide) rfl ?_
      refine w_goto 4 (dk_Mod_levels 21 rfl) (by decide) ?_
      exact h
theorem g_Mod_condition_0 {d : Nat} {u : Us} {Q : Ot → Us → Prop} (p1 : Int32)
    (h : WS d m_Mod_emit 0 [some (.ref 52), some (.int 100)] [] u (Rv (fun (u2 : Us) => WS d m_Mod_inline 0 [some (.ref 52)] [] (uI u2 52 20 ((aI u2 52 20) + 1)) (Ri (fun (r3 : Int32) (u4 : Us) => (r3 ≠ 0 → WS d m_Mod_emit 0 [some (.ref 52), some (.int 110)] [] u4 (Rv (fun (u6 : Us) => WS d m_Mod_emit 0 [some (.ref 52), some (.int 0)] [] u6 (Rv (fun (u8 : Us) => (p1 = 0 → WS d m_Mod_block 0 [some (.ref 52), some (.int 1), some (.int ((aI u8 52 25) - 1)), some (.int (aI u 52 25)), some (.int 0)] [] u8 (Rv (fun (u10 : Us) => WS d m_Mod_opens 0 [some (.ref 52)] [] u10 (Ri (fun (r11 : Int32) (u12 : Us) => (r11 = 0 ∨ r11 = 1) ∧ Q (.inl (some (.int r11))) u12) (fun x u => Q (.inr x) u))) (fun x u => Q (.inr x) u))) ∧ (¬ (p1 = 0) → WS d m_Mod_block 0 [some (.ref 52), some (.int 3), some (.int ((aI u8 52 25) - 1)), some (.int (aI u 52 25)), some (.int 0)] [] u8 (Rv (fun (u14 : Us) => WS d m_Mod_opens 0 [some (.ref 52)] [] u14 (Ri (fun (r15 : Int32) (u16 : Us) => (r15 = 0 ∨ r15 = 1) ∧ Q (.inl (some (.int r15))) u16) (fun x u => Q (.inr x) u))) (fun x u => Q (.inr x) u)))) (fun x u => Q (.inr x) u))) (fun x u => Q (.inr x) u))) ∧ (r3 = 0 → Q (.inl (some (.int 0))) u4)) (fun x u => Q (.inr x) u))) (fun x u => Q (.inr x) u))) :
    WS (d + 1) m_Mod_condition 0 [some (.ref 52), some (.int p1), none] [] u Q := by
  refine w_aload_n (dk_Mod_condition 0 rfl) rfl ?_
  refine w_geti (v := aI u 52 25) (dk_Mod_condition 1 rfl) lk_Mod_88 rfl rfl rfl ?_
  refine w_istore_n (ls' := [some (.ref 52), some (.int p1), some (.int (aI u 52 25))]) (dk_Mod_condition 2 rfl) (by decide) rfl ?_
  refine w_aload_n (dk_Mod_condition 3 rfl) rfl ?_
  refine w_bipush (v := 100) (dk_Mod_condition 4 rfl) rfl ?_
  refine w_callVv (ls' := [some (.ref 52), some (.int 100)]) cv_Mod_278 (dk_Mod_condition 5 rfl) (ci := 10) rfl rfl [.int 100] [] rfl rfl (Nat.le_of_ble_eq_true rfl) (Nat.le_of_ble_eq_true rfl) rfl rfl rfl h (fun u2 h => ?_)
  refine w_aload_n (dk_Mod_condition 6 rfl) rfl ?_
  refine w_dup (dk_Mod_condition 7 rfl) rfl ?_
  refine w_geti (v := aI u2 52 20) (dk_Mod_condition 8 rfl) lk_Mod_72 rfl rfl rfl ?_
  refine w_iconst (v := 1) (dk_Mod_condition 9 rfl) rfl ?_
  refine w_iadd (dk_Mod_condition 10 rfl) ?_
  refine w_puti (dk_Mod_condition 11 rfl) lk_Mod_72 rfl rfl ?_
  refine w_aload_n (dk_Mod_condition 12 rfl) rfl ?_
  refine w_callVi (ls' := [some (.ref 52)]) cv_Mod_318 (dk_Mod_condition 13 rfl) (ci := 10) rfl rfl [] [] rfl rfl (Nat.le_of_ble_eq_true rfl) (Nat.le_of_ble_eq_true rfl) rfl rfl rfl h (fun r3 u4 h => ?_)
  refine w_if_ne 30 (dk_Mod_condition 14 rfl) (by decide) (fun c_ => ?_) (fun c_ => ?_)
  · replace h := h.1 c_
    refine w_aload_n (dk_Mod_condition 17 rfl) rfl ?_
    refine w_bipush (v := 110) (dk_Mod_condition 18 rfl) rfl ?_
    refine w_callVv (ls' := [some (.ref 52), some (.int 110)]) cv_Mod_278 (dk_Mod_condition 19 rfl) (ci := 10) rfl rfl [.int 110] [] rfl rfl (Nat.le_of_ble_eq_true rfl) (Nat.le_of_ble_eq_true rfl) rfl rfl rfl h (fun u6 h => ?_)
    refine w_aload_n (dk_Mod_condition 20 rfl) rfl ?_
    refine w_iconst (v := 0) (dk_Mod_condition 21 rfl) rfl ?_
    refine w_callVv (ls' := [some (.ref 52), some (.int 0)]) cv_Mod_278 (dk_Mod_condition 22 rfl) (ci := 10) rfl rfl [.int 0] [] rfl rfl (Nat.le_of_ble_eq_true rfl) (Nat.le_of_ble_eq_true rfl) rfl rfl rfl h (fun u8 h => ?_)
    refine w_aload_n (dk_Mod_condition 23 rfl) rfl ?_
    refine w_iload_n (dk_Mod_condition 24 rfl) rfl ?_
    refine w_if_eq 50 (dk_Mod_condition 25 rfl) (by decide) (fun c_ => ?_) (fun c_ => ?_)
    · replace h := h.1 c_
      refine w_iconst (v := 1) (dk_Mod_condition 28 rfl) rfl ?_
      refine w_aload_n (dk_Mod_condition 29 rfl) rfl ?_
      refine w_geti (v := aI u8 52 25) (dk_Mod_condition 30 rfl) lk_Mod_88 rfl rfl rfl ?_
      refine w_iconst (v := 1) (dk_Mod_condition 31 rfl) rfl ?_
      refine w_isub (dk_Mod_condition 32 rfl) ?_
      refine w_iload_n (dk_Mod_condition 33 rfl) rfl ?_
      refine w_iconst (v := 0) (dk_Mod_condition 34 rfl) rfl ?_
      refine w_callVv (ls' := [some (.ref 52), some (.int 1), some (.int ((aI u8 52 25) - 1)), some (.int (aI u 52 25)), some (.int 0)]) cv_Mod_330 (dk_Mod_condition 35 rfl) (ci := 10) rfl rfl [.int 1, .int ((aI u8 52 25) - 1), .int (aI u 52 25), .int 0] [] rfl rfl (Nat.le_of_ble_eq_true rfl) (Nat.le_of_ble_eq_true rfl) rfl rfl rfl h (fun u10 h => ?_)
      refine w_aload_n (dk_Mod_condition 36 rfl) rfl ?_
      refine w_callVi (ls' := [some (.ref 52)]) cv_Mod_334 (dk_Mod_condition 37 rfl) (ci := 10) rfl rfl [] [] rfl rfl (Nat.le_of_ble_eq_true rfl) (Nat.le_of_ble_eq_true rfl) rfl rfl rfl h (fun r11 u12 h => ?_)
      exact w_bret (dk_Mod_condition 38 rfl) rfl h.1 h.2
    · replace h := h.2 c_
      refine w_iconst (v := 3) (dk_Mod_condition 26 rfl) rfl ?_
      refine w_goto 51 (dk_Mod_condition 27 rfl) (by decide) ?_
      refine w_aload_n (dk_Mod_condition 29 rfl) rfl ?_
      refine w_geti (v := aI u8 52 25) (dk_Mod_condition 30 rfl) lk_Mod_88 rfl rfl rfl ?_
      refine w_iconst (v := 1) (dk_Mod_condition 31 rfl) rfl ?_
      refine w_isub (dk_Mod_condition 32 rfl) ?_
      refine w_iload_n (dk_Mod_condition 33 rfl) rfl ?_
      refine w_iconst (v := 0) (dk_Mod_condition 34 rfl) rfl ?_
      refine w_callVv (ls' := [some (.ref 52), some (.int 3), some (.int ((aI u8 52 25) - 1)), some (.int (aI u 52 25)), some (.int 0)]) cv_Mod_330 (dk_Mod_condition 35 rfl) (ci := 10) rfl rfl [.int 3, .int ((aI u8 52 25) - 1), .int (aI u 52 25), .int 0] [] rfl rfl (Nat.le_of_ble_eq_true rfl) (Nat.le_of_ble_eq_true rfl) rfl rfl rfl h (fun u14 h => ?_)
      refine w_aload_n (dk_Mod_condition 36 rfl) rfl ?_
      refine w_callVi (ls' := [some (.ref 52)]) cv_Mod_334 (dk_Mod_condition 37 rfl) (ci := 10) rfl rfl [] [] rfl rfl (Nat.le_of_ble_eq_true rfl) (Nat.le_of_ble_eq_true rfl) rfl rfl rfl h (fun r15 u16 h => ?_)
      exact w_bret (dk_Mod_condition 38 rfl) rfl h.1 h.2
  · replace h := h.2 c_
    refine w_iconst (v := 0) (dk_Mod_condition 15 rfl) rfl ?_
    exact w_bret (dk_Mod_condition 16 rfl) rfl (Or.inl rfl) h
theorem g_Mod_place_0 {d : Nat} {u : Us} {Q : Ot → Us → Prop} 
    (h : Q (.inl (some (.int (aI u 52 22)))) (uI u 52 0 0)) :
    WS d m_Mod_place 0 [some (.ref 52)] [] u Q := by
  refine w_aload_n (dk_Mod_place 0 rfl) rfl ?_
  refine w_iconst (v := 0) (dk_Mod_place 1 rfl) rfl ?_
  refine w_puti (dk_Mod_place 2 rfl) lk_Mod_7 rfl rfl ?_
  refine w_aload_n (dk_Mod_place 3 rfl) rfl ?_
  refine w_geti (v := aI u 52 22) (dk_Mod_place 4 rfl) lk_Mod_78 rfl rfl rfl ?_
  exact w_iret (dk_Mod_place 5 rfl) rfl h
theorem g_Mod_run_0 {d : Nat} {u : Us} {Q : Ot → Us → Prop} (p1 : Int32)
    (h : (p1 < 1 → Q (.inl (some (.int 0))) (uI u 52 0 1)) ∧ (¬ (p1 < 1) → (p1 ≤ 20000 → ((aI u 52 23) ≠ 0 → WS (d + 1) m_Mod_run 58 [some (.ref 52), some (.int p1), some (.int 0)] [] (uI (uI (uI (uI u 52 0 0) 52 35 p1) 52 36 0) 52 39 0) Q) ∧ ((aI u 52 23) = 0 → Q (.inl (some (.int 0))) (uI u 52 0 2))) ∧ (¬ (p1 ≤ 20000) → Q (.inl (some (.int 0))) (uI u 52 0 1)))) :
    WS (d + 1) m_Mod_run 0 [some (.ref 52), some (.int p1), none] [] u Q := by
  refine w_aload_n (dk_Mod_run 0 rfl) rfl ?_
  refine w_iload_n (dk_Mod_run 1 rfl) rfl ?_
  refine w_iconst (v := 1) (dk_Mod_run 2 rfl) rfl ?_
  refine w_icmp_lt 13 (dk_Mod_run 3 rfl) (by decide) (fun c_ => ?_) (fun c_ => ?_)
  · replace h := h.1 c_
    refine w_iconst (v := 1) (dk_Mod_run 7 rfl) rfl ?_
    refine w_goto 29 (dk_Mod_run 8 rfl) (by decide) ?_
    refine w_puti (dk_Mod_run 15 rfl) lk_Mod_7 rfl rfl ?_
    refine w_aload_n (dk_Mod_run 16 rfl) rfl ?_
    refine w_geti (v := 1) (dk_Mod_run 17 rfl) lk_Mod_7 rfl rfl rfl ?_
    refine w_if_eq_f (dk_Mod_run 18 rfl) 41 (by decide) (by decide) ?_
    refine w_iconst (v := 0) (dk_Mod_run 19 rfl) rfl ?_
    exact w_iret (dk_Mod_run 20 rfl) rfl h
  · replace h := h.2 c_
    refine w_iload_n (dk_Mod_run 4 rfl) rfl ?_
    refine w_sipush (v := 20000) (dk_Mod_run 5 rfl) rfl ?_
    refine w_icmp_le 17 (dk_Mod_run 6 rfl) (by decide) (fun c_ => ?_) (fun c_ => ?_)
    · replace h := h.1 c_
      refine w_aload_n (dk_Mod_run 9 rfl) rfl ?_
      refine w_geti (v := aI u 52 23) (dk_Mod_run 10 rfl) lk_Mod_81 rfl rfl rfl ?_
      refine w_if_ne 28 (dk_Mod_run 11 rfl) (by decide) (fun c_ => ?_) (fun c_ => ?_)
      · replace h := h.1 c_
        refine w_iconst (v := 0) (dk_Mod_run 14 rfl) rfl ?_
        refine w_puti (dk_Mod_run 15 rfl) lk_Mod_7 rfl rfl ?_
        refine w_aload_n (dk_Mod_run 16 rfl) rfl ?_
        refine w_geti (v := 0) (dk_Mod_run 17 rfl) lk_Mod_7 rfl rfl rfl ?_
        refine w_if_eq_t 41 (dk_Mod_run 18 rfl) (by decide) (by decide) ?_
        refine w_aload_n (dk_Mod_run 21 rfl) rfl ?_
        refine w_iload_n (dk_Mod_run 22 rfl) rfl ?_
        refine w_puti (dk_Mod_run 23 rfl) lk_Mod_118 rfl rfl ?_
        refine w_aload_n (dk_Mod_run 24 rfl) rfl ?_
        refine w_iconst (v := 0) (dk_Mod_run 25 rfl) rfl ?_
        refine w_puti (dk_Mod_run 26 rfl) lk_Mod_121 rfl rfl ?_
        refine w_aload_n (dk_Mod_run 27 rfl) rfl ?_
        refine w_iconst (v := 0) (dk_Mod_run 28 rfl) rfl ?_
        refine w_puti (dk_Mod_run 29 rfl) lk_Mod_130 rfl rfl ?_
        refine w_iconst (v := 0) (dk_Mod_run 30 rfl) rfl ?_
        refine w_istore_n (ls' := [some (.ref 52), some (.int p1), some (.int 0)]) (dk_Mod_run 31 rfl) (by decide) rfl ?_
        exact h
      · replace h := h.2 c_
        refine w_iconst (v := 2) (dk_Mod_run 12 rfl) rfl ?_
        refine w_goto 29 (dk_Mod_run 13 rfl) (by decide) ?_
        refine w_puti (dk_Mod_run 15 rfl) lk_Mod_7 rfl rfl ?_
        refine w_aload_n (dk_Mod_run 16 rfl) rfl ?_
        refine w_geti (v := 2) (dk_Mod_run 17 rfl) lk_Mod_7 rfl rfl rfl ?_
        refine w_if_eq_f (dk_Mod_run 18 rfl) 41 (by decide) (by decide) ?_
        refine w_iconst (v := 0) (dk_Mod_run 19 rfl) rfl ?_
        exact w_iret (dk_Mod_run 20 rfl) rfl h
    · replace h := h.2 c_
      refine w_iconst (v := 1) (dk_Mod_run 7 rfl) rfl ?_
      refine w_goto 29 (dk_Mod_run 8 rfl) (by decide) ?_
      refine w_puti (dk_Mod_run 15 rfl) lk_Mod_7 rfl rfl ?_
      refine w_aload_n (dk_Mod_run 16 rfl) rfl ?_
      refine w_geti (v := 1) (dk_Mod_run 17 rfl) lk_Mod_7 rfl rfl rfl ?_
      refine w_if_eq_f (dk_Mod_run 18 rfl) 41 (by decide) (by decide) ?_
      refine w_iconst (v := 0) (dk_Mod_run 19 rfl) rfl ?_
      exact w_iret (dk_Mod_run 20 rfl) rfl h
theorem g_Mod_run_58 {d : Nat} {u : Us} {Q : Ot → Us → Prop} (x1 : Int32) (x2 : Int32)
    (h : (x2 < 0 → (0 ≤ x2 → Q (.inl (some (.int 0))) u) ∧ (¬ (0 ≤ x2) → Q (.inl (some (.int (-x2)))) u)) ∧ (¬ (x2 < 0) → ((aI u 52 25) ≤ x2 → (0 ≤ x2 → Q (.inl (some (.int 0))) u) ∧ (¬ (0 ≤ x2) → Q (.inl (some (.int (-x2)))) u)) ∧ (¬ ((aI u 52 25) ≤ x2) → WS d m_Mod_step 0 [some (.ref 52), some (.int x2), none] [] u (Ri (fun (r1 : Int32) (u2 : Us) => WS (d + 1) m_Mod_run 58 [some (.ref 52), some (.int x1), some (.int r1)] [] u2 Q) (fun x u => Q (.inr x) u))))) :
    WS (d + 1) m_Mod_run 58 [some (.ref 52), some (.int x1), some (.int x2)] [] u Q := by
  refine w_iload_n (dk_Mod_run 32 rfl) rfl ?_
  refine w_if_lt 79 (dk_Mod_run 33 rfl) (by decide) (fun c_ => ?_) (fun c_ => ?_)
  · replace h := h.1 c_
    refine w_iload_n (dk_Mod_run 43 rfl) rfl ?_
    refine w_if_ge 88 (dk_Mod_run 44 rfl) (by decide) (fun c_ => ?_) (fun c_ => ?_)
    · replace h := h.1 c_
      refine w_iconst (v := 0) (dk_Mod_run 48 rfl) rfl ?_
      exact w_iret (dk_Mod_run 49 rfl) rfl h
    · replace h := h.2 c_
      refine w_iload_n (dk_Mod_run 45 rfl) rfl ?_
      refine w_ineg (dk_Mod_run 46 rfl) ?_
      refine w_goto 89 (dk_Mod_run 47 rfl) (by decide) ?_
      exact w_iret (dk_Mod_run 49 rfl) rfl h
  · replace h := h.2 c_
    refine w_iload_n (dk_Mod_run 34 rfl) rfl ?_
    refine w_aload_n (dk_Mod_run 35 rfl) rfl ?_
    refine w_geti (v := aI u 52 25) (dk_Mod_run 36 rfl) lk_Mod_88 rfl rfl rfl ?_
    refine w_icmp_ge 79 (dk_Mod_run 37 rfl) (by decide) (fun c_ => ?_) (fun c_ => ?_)
    · replace h := h.1 c_
      refine w_iload_n (dk_Mod_run 43 rfl) rfl ?_
      refine w_if_ge 88 (dk_Mod_run 44 rfl) (by decide) (fun c_ => ?_) (fun c_ => ?_)
      · replace h := h.1 c_
        refine w_iconst (v := 0) (dk_Mod_run 48 rfl) rfl ?_
        exact w_iret (dk_Mod_run 49 rfl) rfl h
      · replace h := h.2 c_
        refine w_iload_n (dk_Mod_run 45 rfl) rfl ?_
        refine w_ineg (dk_Mod_run 46 rfl) ?_
        refine w_goto 89 (dk_Mod_run 47 rfl) (by decide) ?_
        exact w_iret (dk_Mod_run 49 rfl) rfl h
    · replace h := h.2 c_
      refine w_aload_n (dk_Mod_run 38 rfl) rfl ?_
      refine w_iload_n (dk_Mod_run 39 rfl) rfl ?_
      refine w_callVi (ls' := [some (.ref 52), some (.int x2), none]) cv_Mod_420 (dk_Mod_run 40 rfl) (ci := 10) rfl rfl [.int x2] [] rfl rfl (Nat.le_of_ble_eq_true rfl) (Nat.le_of_ble_eq_true rfl) rfl rfl rfl h (fun r1 u2 h => ?_)
      refine w_istore_n (ls' := [some (.ref 52), some (.int x1), some (.int r1)]) (dk_Mod_run 41 rfl) (by decide) rfl ?_
      refine w_goto 58 (dk_Mod_run 42 rfl) (by decide) ?_
      exact h
theorem g_Mod_step_0 {d : Nat} {u : Us} {Q : Ot → Us → Prop} (p1 : Int32)
    (h : ∃ k1 : Nat, p1 = nI k1 ∧ k1 < 3000 ∧ (((aI u 67 k1) = 100 → WS d m_Mod_pay 0 [some (.ref 52)] [] u (Ri (fun (r3 : Int32) (u4 : Us) => (r3 = 0 → Q (.inl (some (.int (-1)))) u4) ∧ (¬ (r3 = 0) → Q (.inl (some (.int (p1 + 1)))) u4)) (fun x u => Q (.inr x) u))) ∧ (((aI u 67 k1) = 101 → ∃ k6 : Nat, p1 + 1 = nI k6 ∧ k6 < 3000 ∧ (∃ k7 : Nat, (aI u 52 39) - 1 = nI k7 ∧ k7 < 8 ∧ (∃ k8 : Nat, aI u 67 k6 = nI k8 ∧ k8 < 20 ∧ (Q (.inl (some (.int (p1 + 2)))) (uI (uI u 52 39 ((aI u 52 39) - 1)) 59 k8 (aI u 74 k7)))))) ∧ (((aI u 67 k1) = 102 → ∃ k10 : Nat, (aI u 52 39) - 1 = nI k10 ∧ k10 < 8 ∧ (∃ k11 : Nat, (aI u 52 47) - (aI u 52 47) / 64 * 64 = nI k11 ∧ k11 < 64 ∧ (Q (.inl (some (.int (p1 + 2)))) (uI (uI (uI u 52 39 ((aI u 52 39) - 1)) 81 k11 (aI u 74 k10)) 52 47 ((aI u 52 47) + 1))))) ∧ (((aI u 67 k1) = 103 → WS d m_Mod_insert 0 [some (.ref 52), some (.int p1), none, none, none, none] [] (uI u 52 39 0) (Ri (fun (r13 : Int32) (u14 : Us) => (r13 = 0 → Q (.inl (some (.int (-2)))) u14) ∧ (¬ (r13 = 0) → ∃ k15 : Nat, p1 + 2 = nI k15 ∧ k15 < 3000 ∧ (Q (.inl (some (.int ((p1 + 3) + (aI u14 67 k15))))) u14))) (fun x u => Q (.inr x) u))) ∧ (((aI u 67 k1) = 104 → ∃ k17 : Nat, p1 + 1 = nI k17 ∧ k17 < 3000 ∧ (WS d m_Mod_choose 0 [some (.ref 52), some (.int (aI u 67 k17)), some (.int (p1 + 2)), none] [] u (Rv (fun (u19 : Us) => WS (d + 1) m_Mod_step 212 [some (.ref 52), some (.int p1), some (.int 0)] [] u19 Q) (fun x u => Q (.inr x) u)))) ∧ (((aI u 67 k1) = 105 → WS d m_Mod_setAll 0 [some (.ref 52), some (.int (p1 + 1)), none, none, none, none, none, none, none] [] u (Ri (fun (r21 : Int32) (u22 : Us) => Q (.inl (some (.int r21))) u22) (fun x u => Q (.inr x) u))) ∧ (((aI u 67 k1) = 106 → WS d m_Mod_beginEach 0 [some (.ref 52), some (.int p1), none, none, none, none, none] [] u (Rv (fun (u25 : Us) => ∃ k26 : Nat, p1 + 4 = nI k26 ∧ k26 < 3000 ∧ (Q (.inl (some (.int ((p1 + 5) + (aI u25 67 k26))))) u25)) (fun x u => Q (.inr x) u))) ∧ (((aI u 67 k1) = 107 → ∃ k28 : Nat, p1 + 1 = nI k28 ∧ k28 < 3000 ∧ (WS d m_Mod_nextEach 0 [some (.ref 52), some (.int (aI u 67 k28))] [] u (Ri (fun (r29 : Int32) (u30 : Us) => (r29 ≠ 0 → WS d m_Mod_pay 0 [some (.ref 52)] [] u30 (Ri (fun (r31 : Int32) (u32 : Us) => (r31 = 0 → Q (.inl (some (.int (-1)))) u32) ∧ (¬ (r31 = 0) → Q (.inl (some (.int (p1 + 4)))) u32)) (fun x u => Q (.inr x) u))) ∧ (r29 = 0 → ∃ k33 : Nat, p1 + 3 = nI k33 ∧ k33 < 3000 ∧ (Q (.inl (some (.int (aI u30 67 k33)))) u30))) (fun x u => Q (.inr x) u)))) ∧ (((aI u 67 k1) = 108 → WS d m_Mod_put 0 [some (.ref 52), some (.int p1), none] [] u (Rv (fun (u36 : Us) => Q (.inl (some (.int (p1 + 4)))) u36) (fun x u => Q (.inr x) u))) ∧ (((aI u 67 k1) = 109 → ∃ k38 : Nat, p1 + 1 = nI k38 ∧ k38 < 3000 ∧ (WS d m_Mod_cursorThere 0 [some (.ref 52), some (.int (aI u 67 k38)), none, none] [] u (Ri (fun (r39 : Int32) (u40 : Us) => (r39 = 0 → Q (.inl (some (.int (p1 + 3)))) u40) ∧ (¬ (r39 = 0) → ∃ k41 : Nat, p1 + 1 = nI k41 ∧ k41 < 3000 ∧ (∃ k42 : Nat, p1 + 1 = nI k42 ∧ k42 < 3000 ∧ (∃ k43 : Nat, aI u40 67 k42 = nI k43 ∧ k43 < 12 ∧ (∃ k44 : Nat, (64 * (aI u40 67 k41)) + (aI u40 78 k43) = nI k44 ∧ k44 < 768 ∧ (∃ k45 : Nat, aI u40 75 k44 = nI k45 ∧ k45 < 64 ∧ (Q (.inl (some (.int (p1 + 3)))) (uI u40 60 k45 0)))))))) (fun x u => Q (.inr x) u)))) ∧ (((aI u 67 k1) = 110 → ∃ k47 : Nat, (aI u 52 39) - 1 = nI k47 ∧ k47 < 8 ∧ (((aI u 74 k47) ≠ 0 → Q (.inl (some (.int (p1 + 2)))) (uI u 52 39 ((aI u 52 39) - 1))) ∧ ((aI u 74 k47) = 0 → ∃ k48 : Nat, p1 + 1 = nI k48 ∧ k48 < 3000 ∧ (Q (.inl (some (.int (aI u 67 k48)))) (uI u 52 39 ((aI u 52 39) - 1)))))) ∧ (((aI u 67 k1) = 111 → ∃ k50 : Nat, p1 + 1 = nI k50 ∧ k50 < 3000 ∧ (Q (.inl (some (.int (aI u 67 k50)))) u)) ∧ (((∀ v ∈ ([100, 101, 102, 103, 104, 105, 106, 107, 108, 109, 110, 111] : List Int32), (aI u 67 k1) ≠ v) → ∃ k52 : Nat, p1 + 1 = nI k52 ∧ k52 < 3000 ∧ (WS d m_Mod_eval 0 [some (.ref 52), some (.int (p1 + 2)), some (.int (aI u 67 k52)), some (.int 0), none, none, none, none, none, none, none, none] [] u (Ri (fun (r53 : Int32) (u54 : Us) => ∃ k55 : Nat, aI u 52 39 = nI k55 ∧ k55 < 8 ∧ (∃ k56 : Nat, p1 + 1 = nI k56 ∧ k56 < 3000 ∧ (Q (.inl (some (.int ((p1 + 2) + (aI u54 67 k56))))) (uI (uI u54 74 k55 r53) 52 39 ((aI u54 52 39) + 1))))) (fun x u => Q (.inr x) u)))))))))))))))))) :
    WS (d + 1) m_Mod_step 0 [some (.ref 52), some (.int p1), none] [] u Q := by
  refine w_aload_n (dk_Mod_step 0 rfl) rfl ?_
  refine w_getr (dk_Mod_step 1 rfl) lk_Mod_85 rfl rfl rfl ?_
  refine w_iload_n (dk_Mod_step 2 rfl) rfl ?_
  obtain ⟨k1, e_k1, l_k1, h⟩ := h
  refine w_iald (k_ := k1) (dk_Mod_step 3 rfl) rfl (by decide) e_k1 l_k1 ?_
  by_cases n2 : (aI u 67 k1) = 100
  · replace h := h.1 n2
    refine w_tabI ds_Mod_step_6 62 68 (by rw [n2]; decide) (by decide) ?_
    refine w_aload_n (dk_Mod_step 5 rfl) rfl ?_
    refine w_callVi (ls' := [some (.ref 52)]) cv_Mod_396 (dk_Mod_step 6 rfl) (ci := 10) rfl rfl [] [] rfl rfl (Nat.le_of_ble_eq_true rfl) (Nat.le_of_ble_eq_true rfl) rfl rfl rfl h (fun r3 u4 h => ?_)
    refine w_if_eq 81 (dk_Mod_step 7 rfl) (by decide) (fun c_ => ?_) (fun c_ => ?_)
    · replace h := h.1 c_
      refine w_iconst (v := (-1)) (dk_Mod_step 12 rfl) rfl ?_
      exact w_iret (dk_Mod_step 13 rfl) rfl h
    · replace h := h.2 c_
      refine w_iload_n (dk_Mod_step 8 rfl) rfl ?_
      refine w_iconst (v := 1) (dk_Mod_step 9 rfl) rfl ?_
      refine w_iadd (dk_Mod_step 10 rfl) ?_
      refine w_goto 82 (dk_Mod_step 11 rfl) (by decide) ?_
      exact w_iret (dk_Mod_step 13 rfl) rfl h
  replace h := h.2
  by_cases n5 : (aI u 67 k1) = 101
  · replace h := h.1 n5
    refine w_tabI ds_Mod_step_6 77 83 (by rw [n5]; decide) (by decide) ?_
    refine w_aload_n (dk_Mod_step 14 rfl) rfl ?_
    refine w_dup (dk_Mod_step 15 rfl) rfl ?_
    refine w_geti (v := aI u 52 39) (dk_Mod_step 16 rfl) lk_Mod_130 rfl rfl rfl ?_
    refine w_iconst (v := 1) (dk_Mod_step 17 rfl) rfl ?_
    refine w_isub (dk_Mod_step 18 rfl) ?_
    refine w_puti (dk_Mod_step 19 rfl) lk_Mod_130 rfl rfl ?_
    refine w_aload_n (dk_Mod_step 20 rfl) rfl ?_
    refine w_getr (dk_Mod_step 21 rfl) lk_Mod_42 rfl rfl rfl ?_
    refine w_aload_n (dk_Mod_step 22 rfl) rfl ?_
    refine w_getr (dk_Mod_step 23 rfl) lk_Mod_85 rfl rfl rfl ?_
    refine w_iload_n (dk_Mod_step 24 rfl) rfl ?_
    refine w_iconst (v := 1) (dk_Mod_step 25 rfl) rfl ?_
    refine w_iadd (dk_Mod_step 26 rfl) ?_
    obtain ⟨k6, e_k6, l_k6, h⟩ := h
    refine w_iald (k_ := k6) (dk_Mod_step 27 rfl) rfl (by decide) e_k6 l_k6 ?_
    show WS _ _ _ _ [.int (aI u 67 k6), .ref 59] _ _
    refine w_aload_n (dk_Mod_step 28 rfl) rfl ?_
    refine w_getr (dk_Mod_step 29 rfl) lk_Mod_127 rfl rfl rfl ?_
    refine w_aload_n (dk_Mod_step 30 rfl) rfl ?_
    refine w_geti (v := (aI u 52 39) - 1) (dk_Mod_step 31 rfl) lk_Mod_130 rfl rfl rfl ?_
    obtain ⟨k7, e_k7, l_k7, h⟩ := h
    refine w_iald (k_ := k7) (dk_Mod_step 32 rfl) rfl (by decide) e_k7 l_k7 ?_
    show WS _ _ _ _ [.int (aI u 74 k7), .int (aI u 67 k6), .ref 59] _ _
    obtain ⟨k8, e_k8, l_k8, h⟩ := h
    refine w_iast (k_ := k8) (dk_Mod_step 33 rfl) rfl (by decide) e_k8 l_k8 ?_
    refine w_iload_n (dk_Mod_step 34 rfl) rfl ?_
    refine w_iconst (v := 2) (dk_Mod_step 35 rfl) rfl ?_
    refine w_iadd (dk_Mod_step 36 rfl) ?_
    exact w_iret (dk_Mod_step 37 rfl) rfl h
  replace h := h.2
  by_cases n9 : (aI u 67 k1) = 102
  · replace h := h.1 n9
    refine w_tabI ds_Mod_step_6 113 119 (by rw [n9]; decide) (by decide) ?_
    refine w_aload_n (dk_Mod_step 38 rfl) rfl ?_
    refine w_dup (dk_Mod_step 39 rfl) rfl ?_
    refine w_geti (v := aI u 52 39) (dk_Mod_step 40 rfl) lk_Mod_130 rfl rfl rfl ?_
    refine w_iconst (v := 1) (dk_Mod_step 41 rfl) rfl ?_
    refine w_isub (dk_Mod_step 42 rfl) ?_
    refine w_puti (dk_Mod_step 43 rfl) lk_Mod_130 rfl rfl ?_
    refine w_aload_n (dk_Mod_step 44 rfl) rfl ?_
    refine w_getr (dk_Mod_step 45 rfl) lk_Mod_152 rfl rfl rfl ?_
    refine w_aload_n (dk_Mod_step 46 rfl) rfl ?_
    refine w_geti (v := aI u 52 47) (dk_Mod_step 47 rfl) lk_Mod_155 rfl rfl rfl ?_
    refine w_bipush (v := 64) (dk_Mod_step 48 rfl) rfl ?_
    refine w_irem (dk_Mod_step 49 rfl) (by decide) ?_
    refine w_aload_n (dk_Mod_step 50 rfl) rfl ?_
    refine w_getr (dk_Mod_step 51 rfl) lk_Mod_127 rfl rfl rfl ?_
    refine w_aload_n (dk_Mod_step 52 rfl) rfl ?_
    refine w_geti (v := (aI u 52 39) - 1) (dk_Mod_step 53 rfl) lk_Mod_130 rfl rfl rfl ?_
    obtain ⟨k10, e_k10, l_k10, h⟩ := h
    refine w_iald (k_ := k10) (dk_Mod_step 54 rfl) rfl (by decide) e_k10 l_k10 ?_
    show WS _ _ _ _ [.int (aI u 74 k10), .int ((aI u 52 47) - (aI u 52 47) / 64 * 64), .ref 81] _ _
    obtain ⟨k11, e_k11, l_k11, h⟩ := h
    refine w_iast (k_ := k11) (dk_Mod_step 55 rfl) rfl (by decide) e_k11 l_k11 ?_
    refine w_aload_n (dk_Mod_step 56 rfl) rfl ?_
    refine w_dup (dk_Mod_step 57 rfl) rfl ?_
    refine w_geti (v := aI u 52 47) (dk_Mod_step 58 rfl) lk_Mod_155 rfl rfl rfl ?_
    refine w_iconst (v := 1) (dk_Mod_step 59 rfl) rfl ?_
    refine w_iadd (dk_Mod_step 60 rfl) ?_
    refine w_puti (dk_Mod_step 61 rfl) lk_Mod_155 rfl rfl ?_
    refine w_iload_n (dk_Mod_step 62 rfl) rfl ?_
    refine w_iconst (v := 2) (dk_Mod_step 63 rfl) rfl ?_
    refine w_iadd (dk_Mod_step 64 rfl) ?_
    exact w_iret (dk_Mod_step 65 rfl) rfl h
  replace h := h.2
  by_cases n12 : (aI u 67 k1) = 103
  · replace h := h.1 n12
    refine w_tabI ds_Mod_step_6 158 164 (by rw [n12]; decide) (by decide) ?_
    refine w_aload_n (dk_Mod_step 66 rfl) rfl ?_
    refine w_iconst (v := 0) (dk_Mod_step 67 rfl) rfl ?_
    refine w_puti (dk_Mod_step 68 rfl) lk_Mod_130 rfl rfl ?_
    refine w_aload_n (dk_Mod_step 69 rfl) rfl ?_
    refine w_iload_n (dk_Mod_step 70 rfl) rfl ?_
    refine w_callVi (ls' := [some (.ref 52), some (.int p1), none, none, none, none]) cv_Mod_399 (dk_Mod_step 71 rfl) (ci := 10) rfl rfl [.int p1] [] rfl rfl (Nat.le_of_ble_eq_true rfl) (Nat.le_of_ble_eq_true rfl) rfl rfl rfl h (fun r13 u14 h => ?_)
    refine w_if_eq 192 (dk_Mod_step 72 rfl) (by decide) (fun c_ => ?_) (fun c_ => ?_)
    · replace h := h.1 c_
      refine w_bipush (v := (-2)) (dk_Mod_step 84 rfl) rfl ?_
      exact w_iret (dk_Mod_step 85 rfl) rfl h
    · replace h := h.2 c_
      refine w_iload_n (dk_Mod_step 73 rfl) rfl ?_
      refine w_iconst (v := 3) (dk_Mod_step 74 rfl) rfl ?_
      refine w_iadd (dk_Mod_step 75 rfl) ?_
      refine w_aload_n (dk_Mod_step 76 rfl) rfl ?_
      refine w_getr (dk_Mod_step 77 rfl) lk_Mod_85 rfl rfl rfl ?_
      refine w_iload_n (dk_Mod_step 78 rfl) rfl ?_
      refine w_iconst (v := 2) (dk_Mod_step 79 rfl) rfl ?_
      refine w_iadd (dk_Mod_step 80 rfl) ?_
      obtain ⟨k15, e_k15, l_k15, h⟩ := h
      refine w_iald (k_ := k15) (dk_Mod_step 81 rfl) rfl (by decide) e_k15 l_k15 ?_
      refine w_iadd (dk_Mod_step 82 rfl) ?_
      refine w_goto 194 (dk_Mod_step 83 rfl) (by decide) ?_
      exact w_iret (dk_Mod_step 85 rfl) rfl h
  replace h := h.2
  by_cases n16 : (aI u 67 k1) = 104
  · replace h := h.1 n16
    refine w_tabI ds_Mod_step_6 189 195 (by rw [n16]; decide) (by decide) ?_
    refine w_aload_n (dk_Mod_step 86 rfl) rfl ?_
    refine w_aload_n (dk_Mod_step 87 rfl) rfl ?_
    refine w_getr (dk_Mod_step 88 rfl) lk_Mod_85 rfl rfl rfl ?_
    refine w_iload_n (dk_Mod_step 89 rfl) rfl ?_
    refine w_iconst (v := 1) (dk_Mod_step 90 rfl) rfl ?_
    refine w_iadd (dk_Mod_step 91 rfl) ?_
    obtain ⟨k17, e_k17, l_k17, h⟩ := h
    refine w_iald (k_ := k17) (dk_Mod_step 92 rfl) rfl (by decide) e_k17 l_k17 ?_
    refine w_iload_n (dk_Mod_step 93 rfl) rfl ?_
    refine w_iconst (v := 2) (dk_Mod_step 94 rfl) rfl ?_
    refine w_iadd (dk_Mod_step 95 rfl) ?_
    refine w_callVv (ls' := [some (.ref 52), some (.int (aI u 67 k17)), some (.int (p1 + 2)), none]) cv_Mod_393 (dk_Mod_step 96 rfl) (ci := 10) rfl rfl [.int (aI u 67 k17), .int (p1 + 2)] [] rfl rfl (Nat.le_of_ble_eq_true rfl) (Nat.le_of_ble_eq_true rfl) rfl rfl rfl h (fun u19 h => ?_)
    refine w_iconst (v := 0) (dk_Mod_step 97 rfl) rfl ?_
    refine w_istore_n (ls' := [some (.ref 52), some (.int p1), some (.int 0)]) (dk_Mod_step 98 rfl) (by decide) rfl ?_
    exact h
  replace h := h.2
  by_cases n20 : (aI u 67 k1) = 105
  · replace h := h.1 n20
    refine w_tabI ds_Mod_step_6 247 253 (by rw [n20]; decide) (by decide) ?_
    refine w_aload_n (dk_Mod_step 125 rfl) rfl ?_
    refine w_iload_n (dk_Mod_step 126 rfl) rfl ?_
    refine w_iconst (v := 1) (dk_Mod_step 127 rfl) rfl ?_
    refine w_iadd (dk_Mod_step 128 rfl) ?_
    refine w_callVi (ls' := [some (.ref 52), some (.int (p1 + 1)), none, none, none, none, none, none, none]) cv_Mod_402 (dk_Mod_step 129 rfl) (ci := 10) rfl rfl [.int (p1 + 1)] [] rfl rfl (Nat.le_of_ble_eq_true rfl) (Nat.le_of_ble_eq_true rfl) rfl rfl rfl h (fun r21 u22 h => ?_)
    exact w_iret (dk_Mod_step 130 rfl) rfl h
  replace h := h.2
  by_cases n23 : (aI u 67 k1) = 106
  · replace h := h.1 n23
    refine w_tabI ds_Mod_step_6 255 261 (by rw [n23]; decide) (by decide) ?_
    refine w_aload_n (dk_Mod_step 131 rfl) rfl ?_
    refine w_iload_n (dk_Mod_step 132 rfl) rfl ?_
    refine w_callVv (ls' := [some (.ref 52), some (.int p1), none, none, none, none, none]) cv_Mod_405 (dk_Mod_step 133 rfl) (ci := 10) rfl rfl [.int p1] [] rfl rfl (Nat.le_of_ble_eq_true rfl) (Nat.le_of_ble_eq_true rfl) rfl rfl rfl h (fun u25 h => ?_)
    refine w_iload_n (dk_Mod_step 134 rfl) rfl ?_
    refine w_iconst (v := 5) (dk_Mod_step 135 rfl) rfl ?_
    refine w_iadd (dk_Mod_step 136 rfl) ?_
    refine w_aload_n (dk_Mod_step 137 rfl) rfl ?_
    refine w_getr (dk_Mod_step 138 rfl) lk_Mod_85 rfl rfl rfl ?_
    refine w_iload_n (dk_Mod_step 139 rfl) rfl ?_
    refine w_iconst (v := 4) (dk_Mod_step 140 rfl) rfl ?_
    refine w_iadd (dk_Mod_step 141 rfl) ?_
    obtain ⟨k26, e_k26, l_k26, h⟩ := h
    refine w_iald (k_ := k26) (dk_Mod_step 142 rfl) rfl (by decide) e_k26 l_k26 ?_
    refine w_iadd (dk_Mod_step 143 rfl) ?_
    exact w_iret (dk_Mod_step 144 rfl) rfl h
  replace h := h.2
  by_cases n27 : (aI u 67 k1) = 107
  · replace h := h.1 n27
    refine w_tabI ds_Mod_step_6 273 279 (by rw [n27]; decide) (by decide) ?_
    refine w_aload_n (dk_Mod_step 145 rfl) rfl ?_
    refine w_aload_n (dk_Mod_step 146 rfl) rfl ?_
    refine w_getr (dk_Mod_step 147 rfl) lk_Mod_85 rfl rfl rfl ?_
    refine w_iload_n (dk_Mod_step 148 rfl) rfl ?_
    refine w_iconst (v := 1) (dk_Mod_step 149 rfl) rfl ?_
    refine w_iadd (dk_Mod_step 150 rfl) ?_
    obtain ⟨k28, e_k28, l_k28, h⟩ := h
    refine w_iald (k_ := k28) (dk_Mod_step 151 rfl) rfl (by decide) e_k28 l_k28 ?_
    refine w_callVi (ls' := [some (.ref 52), some (.int (aI u 67 k28))]) cv_Mod_408 (dk_Mod_step 152 rfl) (ci := 10) rfl rfl [.int (aI u 67 k28)] [] rfl rfl (Nat.le_of_ble_eq_true rfl) (Nat.le_of_ble_eq_true rfl) rfl rfl rfl h (fun r29 u30 h => ?_)
    refine w_if_ne 303 (dk_Mod_step 153 rfl) (by decide) (fun c_ => ?_) (fun c_ => ?_)
    · replace h := h.1 c_
      refine w_aload_n (dk_Mod_step 161 rfl) rfl ?_
      refine w_callVi (ls' := [some (.ref 52)]) cv_Mod_396 (dk_Mod_step 162 rfl) (ci := 10) rfl rfl [] [] rfl rfl (Nat.le_of_ble_eq_true rfl) (Nat.le_of_ble_eq_true rfl) rfl rfl rfl h (fun r31 u32 h => ?_)
      refine w_if_eq 316 (dk_Mod_step 163 rfl) (by decide) (fun c_ => ?_) (fun c_ => ?_)
      · replace h := h.1 c_
        refine w_iconst (v := (-1)) (dk_Mod_step 168 rfl) rfl ?_
        exact w_iret (dk_Mod_step 169 rfl) rfl h
      · replace h := h.2 c_
        refine w_iload_n (dk_Mod_step 164 rfl) rfl ?_
        refine w_iconst (v := 4) (dk_Mod_step 165 rfl) rfl ?_
        refine w_iadd (dk_Mod_step 166 rfl) ?_
        refine w_goto 317 (dk_Mod_step 167 rfl) (by decide) ?_
        exact w_iret (dk_Mod_step 169 rfl) rfl h
    · replace h := h.2 c_
      refine w_aload_n (dk_Mod_step 154 rfl) rfl ?_
      refine w_getr (dk_Mod_step 155 rfl) lk_Mod_85 rfl rfl rfl ?_
      refine w_iload_n (dk_Mod_step 156 rfl) rfl ?_
      refine w_iconst (v := 3) (dk_Mod_step 157 rfl) rfl ?_
      refine w_iadd (dk_Mod_step 158 rfl) ?_
      obtain ⟨k33, e_k33, l_k33, h⟩ := h
      refine w_iald (k_ := k33) (dk_Mod_step 159 rfl) rfl (by decide) e_k33 l_k33 ?_
      exact w_iret (dk_Mod_step 160 rfl) rfl h
  replace h := h.2
  by_cases n34 : (aI u 67 k1) = 108
  · replace h := h.1 n34
    refine w_tabI ds_Mod_step_6 312 318 (by rw [n34]; decide) (by decide) ?_
    refine w_aload_n (dk_Mod_step 170 rfl) rfl ?_
    refine w_iload_n (dk_Mod_step 171 rfl) rfl ?_
    refine w_callVv (ls' := [some (.ref 52), some (.int p1), none]) cv_Mod_411 (dk_Mod_step 172 rfl) (ci := 10) rfl rfl [.int p1] [] rfl rfl (Nat.le_of_ble_eq_true rfl) (Nat.le_of_ble_eq_true rfl) rfl rfl rfl h (fun u36 h => ?_)
    refine w_iload_n (dk_Mod_step 173 rfl) rfl ?_
    refine w_iconst (v := 4) (dk_Mod_step 174 rfl) rfl ?_
    refine w_iadd (dk_Mod_step 175 rfl) ?_
    exact w_iret (dk_Mod_step 176 rfl) rfl h
  replace h := h.2
  by_cases n37 : (aI u 67 k1) = 109
  · replace h := h.1 n37
    refine w_tabI ds_Mod_step_6 321 327 (by rw [n37]; decide) (by decide) ?_
    refine w_aload_n (dk_Mod_step 177 rfl) rfl ?_
    refine w_aload_n (dk_Mod_step 178 rfl) rfl ?_
    refine w_getr (dk_Mod_step 179 rfl) lk_Mod_85 rfl rfl rfl ?_
    refine w_iload_n (dk_Mod_step 180 rfl) rfl ?_
    refine w_iconst (v := 1) (dk_Mod_step 181 rfl) rfl ?_
    refine w_iadd (dk_Mod_step 182 rfl) ?_
    obtain ⟨k38, e_k38, l_k38, h⟩ := h
    refine w_iald (k_ := k38) (dk_Mod_step 183 rfl) rfl (by decide) e_k38 l_k38 ?_
    refine w_callVi (ls' := [some (.ref 52), some (.int (aI u 67 k38)), none, none]) cv_Mod_370 (dk_Mod_step 184 rfl) (ci := 10) rfl rfl [.int (aI u 67 k38)] [] rfl rfl (Nat.le_of_ble_eq_true rfl) (Nat.le_of_ble_eq_true rfl) rfl rfl rfl h (fun r39 u40 h => ?_)
    refine w_if_eq 378 (dk_Mod_step 185 rfl) (by decide) (fun c_ => ?_) (fun c_ => ?_)
    · replace h := h.1 c_
      refine w_iload_n (dk_Mod_step 211 rfl) rfl ?_
      refine w_iconst (v := 3) (dk_Mod_step 212 rfl) rfl ?_
      refine w_iadd (dk_Mod_step 213 rfl) ?_
      exact w_iret (dk_Mod_step 214 rfl) rfl h
    · replace h := h.2 c_
      refine w_aload_n (dk_Mod_step 186 rfl) rfl ?_
      refine w_getr (dk_Mod_step 187 rfl) lk_Mod_45 rfl rfl rfl ?_
      refine w_aload_n (dk_Mod_step 188 rfl) rfl ?_
      refine w_getr (dk_Mod_step 189 rfl) lk_Mod_133 rfl rfl rfl ?_
      refine w_bipush (v := 64) (dk_Mod_step 190 rfl) rfl ?_
      refine w_aload_n (dk_Mod_step 191 rfl) rfl ?_
      refine w_getr (dk_Mod_step 192 rfl) lk_Mod_85 rfl rfl rfl ?_
      refine w_iload_n (dk_Mod_step 193 rfl) rfl ?_
      refine w_iconst (v := 1) (dk_Mod_step 194 rfl) rfl ?_
      refine w_iadd (dk_Mod_step 195 rfl) ?_
      obtain ⟨k41, e_k41, l_k41, h⟩ := h
      refine w_iald (k_ := k41) (dk_Mod_step 196 rfl) rfl (by decide) e_k41 l_k41 ?_
      refine w_imul (dk_Mod_step 197 rfl) ?_
      refine w_aload_n (dk_Mod_step 198 rfl) rfl ?_
      refine w_getr (dk_Mod_step 199 rfl) lk_Mod_142 rfl rfl rfl ?_
      refine w_aload_n (dk_Mod_step 200 rfl) rfl ?_
      refine w_getr (dk_Mod_step 201 rfl) lk_Mod_85 rfl rfl rfl ?_
      refine w_iload_n (dk_Mod_step 202 rfl) rfl ?_
      refine w_iconst (v := 1) (dk_Mod_step 203 rfl) rfl ?_
      refine w_iadd (dk_Mod_step 204 rfl) ?_
      obtain ⟨k42, e_k42, l_k42, h⟩ := h
      refine w_iald (k_ := k42) (dk_Mod_step 205 rfl) rfl (by decide) e_k42 l_k42 ?_
      obtain ⟨k43, e_k43, l_k43, h⟩ := h
      refine w_iald (k_ := k43) (dk_Mod_step 206 rfl) rfl (by decide) e_k43 l_k43 ?_
      refine w_iadd (dk_Mod_step 207 rfl) ?_
      obtain ⟨k44, e_k44, l_k44, h⟩ := h
      refine w_iald (k_ := k44) (dk_Mod_step 208 rfl) rfl (by decide) e_k44 l_k44 ?_
      refine w_iconst (v := 0) (dk_Mod_step 209 rfl) rfl ?_
      obtain ⟨k45, e_k45, l_k45, h⟩ := h
      refine w_iast (k_ := k45) (dk_Mod_step 210 rfl) rfl (by decide) e_k45 l_k45 ?_
      refine w_iload_n (dk_Mod_step 211 rfl) rfl ?_
      refine w_iconst (v := 3) (dk_Mod_step 212 rfl) rfl ?_
      refine w_iadd (dk_Mod_step 213 rfl) ?_
      exact w_iret (dk_Mod_step 214 rfl) rfl h
  replace h := h.2
  by_cases n46 : (aI u 67 k1) = 110
  · replace h := h.1 n46
    refine w_tabI ds_Mod_step_6 376 382 (by rw [n46]; decide) (by decide) ?_
    refine w_aload_n (dk_Mod_step 215 rfl) rfl ?_
    refine w_dup (dk_Mod_step 216 rfl) rfl ?_
    refine w_geti (v := aI u 52 39) (dk_Mod_step 217 rfl) lk_Mod_130 rfl rfl rfl ?_
    refine w_iconst (v := 1) (dk_Mod_step 218 rfl) rfl ?_
    refine w_isub (dk_Mod_step 219 rfl) ?_
    refine w_puti (dk_Mod_step 220 rfl) lk_Mod_130 rfl rfl ?_
    refine w_aload_n (dk_Mod_step 221 rfl) rfl ?_
    refine w_getr (dk_Mod_step 222 rfl) lk_Mod_127 rfl rfl rfl ?_
    refine w_aload_n (dk_Mod_step 223 rfl) rfl ?_
    refine w_geti (v := (aI u 52 39) - 1) (dk_Mod_step 224 rfl) lk_Mod_130 rfl rfl rfl ?_
    obtain ⟨k47, e_k47, l_k47, h⟩ := h
    refine w_iald (k_ := k47) (dk_Mod_step 225 rfl) rfl (by decide) e_k47 l_k47 ?_
    show WS _ _ _ _ [.int (aI u 74 k47)] _ _
    refine w_if_ne 415 (dk_Mod_step 226 rfl) (by decide) (fun c_ => ?_) (fun c_ => ?_)
    · replace h := h.1 c_
      refine w_iload_n (dk_Mod_step 234 rfl) rfl ?_
      refine w_iconst (v := 2) (dk_Mod_step 235 rfl) rfl ?_
      refine w_iadd (dk_Mod_step 236 rfl) ?_
      exact w_iret (dk_Mod_step 237 rfl) rfl h
    · replace h := h.2 c_
      refine w_aload_n (dk_Mod_step 227 rfl) rfl ?_
      refine w_getr (dk_Mod_step 228 rfl) lk_Mod_85 rfl rfl rfl ?_
      refine w_iload_n (dk_Mod_step 229 rfl) rfl ?_
      refine w_iconst (v := 1) (dk_Mod_step 230 rfl) rfl ?_
      refine w_iadd (dk_Mod_step 231 rfl) ?_
      obtain ⟨k48, e_k48, l_k48, h⟩ := h
      refine w_iald (k_ := k48) (dk_Mod_step 232 rfl) rfl (by decide) e_k48 l_k48 ?_
      show WS _ _ _ _ [.int (aI u 67 k48)] _ _
      refine w_goto 418 (dk_Mod_step 233 rfl) (by decide) ?_
      exact w_iret (dk_Mod_step 237 rfl) rfl h
  replace h := h.2
  by_cases n49 : (aI u 67 k1) = 111
  · replace h := h.1 n49
    refine w_tabI ds_Mod_step_6 413 419 (by rw [n49]; decide) (by decide) ?_
    refine w_aload_n (dk_Mod_step 238 rfl) rfl ?_
    refine w_getr (dk_Mod_step 239 rfl) lk_Mod_85 rfl rfl rfl ?_
    refine w_iload_n (dk_Mod_step 240 rfl) rfl ?_
    refine w_iconst (v := 1) (dk_Mod_step 241 rfl) rfl ?_
    refine w_iadd (dk_Mod_step 242 rfl) ?_
    obtain ⟨k50, e_k50, l_k50, h⟩ := h
    refine w_iald (k_ := k50) (dk_Mod_step 243 rfl) rfl (by decide) e_k50 l_k50 ?_
    exact w_iret (dk_Mod_step 244 rfl) rfl h
  replace h := h.2
  have hn51 : ∀ v ∈ ([100, 101, 102, 103, 104, 105, 106, 107, 108, 109, 110, 111] : List Int32), (aI u 67 k1) ≠ v := by
    intro v hv e_
    rw [← e_] at hv
    simp only [List.mem_cons, List.not_mem_nil, or_false] at hv
    rcases hv with hv | hv | hv | hv | hv | hv | hv | hv | hv | hv | hv | hv
    · exact n2 hv
    · exact n5 hv
    · exact n9 hv
    · exact n12 hv
    · exact n16 hv
    · exact n20 hv
    · exact n23 hv
    · exact n27 hv
    · exact n34 hv
    · exact n37 hv
    · exact n46 hv
    · exact n49 hv
  replace h := h hn51
  refine w_tabD ds_Mod_step_6 428 [100, 101, 102, 103, 104, 105, 106, 107, 108, 109, 110, 111] (by decide) (by decide) hn51 (by decide) ?_
  refine w_aload_n (dk_Mod_step 245 rfl) rfl ?_
  refine w_getr (dk_Mod_step 246 rfl) lk_Mod_127 rfl rfl rfl ?_
  refine w_aload_n (dk_Mod_step 247 rfl) rfl ?_
  refine w_geti (v := aI u 52 39) (dk_Mod_step 248 rfl) lk_Mod_130 rfl rfl rfl ?_
  refine w_aload_n (dk_Mod_step 249 rfl) rfl ?_
  refine w_iload_n (dk_Mod_step 250 rfl) rfl ?_
  refine w_iconst (v := 2) (dk_Mod_step 251 rfl) rfl ?_
  refine w_iadd (dk_Mod_step 252 rfl) ?_
  refine w_aload_n (dk_Mod_step 253 rfl) rfl ?_
  refine w_getr (dk_Mod_step 254 rfl) lk_Mod_85 rfl rfl rfl ?_
  refine w_iload_n (dk_Mod_step 255 rfl) rfl ?_
  refine w_iconst (v := 1) (dk_Mod_step 256 rfl) rfl ?_
  refine w_iadd (dk_Mod_step 257 rfl) ?_
  obtain ⟨k52, e_k52, l_k52, h⟩ := h
  refine w_iald (k_ := k52) (dk_Mod_step 258 rfl) rfl (by decide) e_k52 l_k52 ?_
  refine w_iconst (v := 0) (dk_Mod_step 259 rfl) rfl ?_
  refine w_callVi (ls' := [some (.ref 52), some (.int (p1 + 2)), some (.int (aI u 67 k52)), some (.int 0), none, none, none, none, none, none, none, none]) cv_Mod_387 (dk_Mod_step 260 rfl) (ci := 10) rfl rfl [.int (p1 + 2), .int (aI u 67 k52), .int 0] [.int (aI u 52 39), .ref 74] rfl rfl (Nat.le_of_ble_eq_true rfl) (Nat.le_of_ble_eq_true rfl) rfl rfl rfl h (fun r53 u54 h => ?_)
  obtain ⟨k55, e_k55, l_k55, h⟩ := h
  refine w_iast (k_ := k55) (dk_Mod_step 261 rfl) rfl (by decide) e_k55 l_k55 ?_
  refine w_aload_n (dk_Mod_step 262 rfl) rfl ?_
  refine w_dup (dk_Mod_step 263 rfl) rfl ?_
  refine w_geti (v := aI u54 52 39) (dk_Mod_step 264 rfl) lk_Mod_130 rfl rfl rfl ?_
  refine w_iconst (v := 1) (dk_Mod_step 265 rfl) rfl ?_
  refine w_iadd (dk_Mod_step 266 rfl) ?_
  refine w_puti (dk_Mod_step 267 rfl) lk_Mod_130 rfl rfl ?_
  refine w_iload_n (dk_Mod_step 268 rfl) rfl ?_
  refine w_iconst (v := 2) (dk_Mod_step 269 rfl) rfl ?_
  refine w_iadd (dk_Mod_step 270 rfl) ?_
  refine w_aload_n (dk_Mod_step 271 rfl) rfl ?_
  refine w_getr (dk_Mod_step 272 rfl) lk_Mod_85 rfl rfl rfl ?_
  refine w_iload_n (dk_Mod_step 273 rfl) rfl ?_
  refine w_iconst (v := 1) (dk_Mod_step 274 rfl) rfl ?_
  refine w_iadd (dk_Mod_step 275 rfl) ?_
  obtain ⟨k56, e_k56, l_k56, h⟩ := h
  refine w_iald (k_ := k56) (dk_Mod_step 276 rfl) rfl (by decide) e_k56 l_k56 ?_
  show WS _ _ _ _ [.int (aI u54 67 k56), .int (p1 + 2)] _ _
  refine w_iadd (dk_Mod_step 277 rfl) ?_
  exact w_iret (dk_Mod_step 278 rfl) rfl h
theorem g_Mod_step_212 {d : Nat} {u : Us} {Q : Ot → Us → Prop} (x1 : Int32) (x2 : Int32)
    (h : (64 ≤ x2 → ∃ k1 : Nat, x1 + 2 = nI k1 ∧ k1 < 3000 ∧ (Q (.inl (some (.int ((x1 + 3) + (aI u 67 k1))))) u)) ∧ (¬ (64 ≤ x2) → ∃ k2 : Nat, x2 = nI k2 ∧ k2 < 64 ∧ (((aI u 80 k2) = 0 → WS (d + 1) m_Mod_step 212 [some (.ref 52), some (.int x1), some (.int (x2 + 1))] [] u Q) ∧ (¬ ((aI u 80 k2) = 0) → ∃ k3 : Nat, x2 = nI k3 ∧ k3 < 64 ∧ (WS (d + 1) m_Mod_step 212 [some (.ref 52), some (.int x1), some (.int (x2 + 1))] [] (uI u 60 k3 0) Q))))) :
    WS (d + 1) m_Mod_step 212 [some (.ref 52), some (.int x1), some (.int x2)] [] u Q := by
  refine w_iload_n (dk_Mod_step 99 rfl) rfl ?_
  refine w_bipush (v := 64) (dk_Mod_step 100 rfl) rfl ?_
  refine w_icmp_ge 240 (dk_Mod_step 101 rfl) (by decide) (fun c_ => ?_) (fun c_ => ?_)
  · replace h := h.1 c_
    refine w_iload_n (dk_Mod_step 114 rfl) rfl ?_
    refine w_iconst (v := 3) (dk_Mod_step 115 rfl) rfl ?_
    refine w_iadd (dk_Mod_step 116 rfl) ?_
    refine w_aload_n (dk_Mod_step 117 rfl) rfl ?_
    refine w_getr (dk_Mod_step 118 rfl) lk_Mod_85 rfl rfl rfl ?_
    refine w_iload_n (dk_Mod_step 119 rfl) rfl ?_
    refine w_iconst (v := 2) (dk_Mod_step 120 rfl) rfl ?_
    refine w_iadd (dk_Mod_step 121 rfl) ?_
    obtain ⟨k1, e_k1, l_k1, h⟩ := h
    refine w_iald (k_ := k1) (dk_Mod_step 122 rfl) rfl (by decide) e_k1 l_k1 ?_
    refine w_iadd (dk_Mod_step 123 rfl) ?_
    exact w_iret (dk_Mod_step 124 rfl) rfl h
  · replace h := h.2 c_
    refine w_aload_n (dk_Mod_step 102 rfl) rfl ?_
    refine w_getr (dk_Mod_step 103 rfl) lk_Mod_148 rfl rfl rfl ?_
    refine w_iload_n (dk_Mod_step 104 rfl) rfl ?_
    obtain ⟨k2, e_k2, l_k2, h⟩ := h
    refine w_zald (k_ := k2) (dk_Mod_step 105 rfl) rfl (by decide) e_k2 l_k2 ?_
    refine w_if_eq 234 (dk_Mod_step 106 rfl) (by decide) (fun c_ => ?_) (fun c_ => ?_)
    · replace h := h.1 c_
      refine w_iinc (v := x2 + 1) (ls' := [some (.ref 52), some (.int x1), some (.int (x2 + 1))]) (dk_Mod_step 112 rfl) rfl rfl (by decide) rfl ?_
      refine w_goto 212 (dk_Mod_step 113 rfl) (by decide) ?_
      exact h
    · replace h := h.2 c_
      refine w_aload_n (dk_Mod_step 107 rfl) rfl ?_
      refine w_getr (dk_Mod_step 108 rfl) lk_Mod_45 rfl rfl rfl ?_
      refine w_iload_n (dk_Mod_step 109 rfl) rfl ?_
      refine w_iconst (v := 0) (dk_Mod_step 110 rfl) rfl ?_
      obtain ⟨k3, e_k3, l_k3, h⟩ := h
      refine w_iast (k_ := k3) (dk_Mod_step 111 rfl) rfl (by decide) e_k3 l_k3 ?_
      refine w_iinc (v := x2 + 1) (ls' := [some (.ref 52), some (.int x1), some (.int (x2 + 1))]) (dk_Mod_step 112 rfl) rfl rfl (by decide) rfl ?_
      refine w_goto 212 (dk_Mod_step 113 rfl) (by decide) ?_
      exact h
theorem g_Mod_pay_0 {d : Nat} {u : Us} {Q : Ot → Us → Prop} 
    (h : ((aI u 52 36) ≠ (aI u 52 35) → Q (.inl (some (.int 1))) (uI u 52 36 ((aI u 52 36) + 1))) ∧ ((aI u 52 36) = (aI u 52 35) → Q (.inl (some (.int 0))) u)) :
    WS d m_Mod_pay 0 [some (.ref 52)] [] u Q := by
  refine w_aload_n (dk_Mod_pay 0 rfl) rfl ?_
  refine w_geti (v := aI u 52 36) (dk_Mod_pay 1 rfl) lk_Mod_121 rfl rfl rfl ?_
  refine w_aload_n (dk_Mod_pay 2 rfl) rfl ?_
  refine w_geti (v := aI u 52 35) (dk_Mod_pay 3 rfl) lk_Mod_118 rfl rfl rfl ?_
  refine w_icmp_ne 13 (dk_Mod_pay 4 rfl) (by decide) (fun c_ => ?_) (fun c_ => ?_)
  · replace h := h.1 c_
    refine w_aload_n (dk_Mod_pay 7 rfl) rfl ?_
    refine w_dup (dk_Mod_pay 8 rfl) rfl ?_
    refine w_geti (v := aI u 52 36) (dk_Mod_pay 9 rfl) lk_Mod_121 rfl rfl rfl ?_
    refine w_iconst (v := 1) (dk_Mod_pay 10 rfl) rfl ?_
    refine w_iadd (dk_Mod_pay 11 rfl) ?_
    refine w_puti (dk_Mod_pay 12 rfl) lk_Mod_121 rfl rfl ?_
    refine w_iconst (v := 1) (dk_Mod_pay 13 rfl) rfl ?_
    exact w_bret (dk_Mod_pay 14 rfl) rfl (Or.inr rfl) h
  · replace h := h.2 c_
    refine w_iconst (v := 0) (dk_Mod_pay 5 rfl) rfl ?_
    exact w_bret (dk_Mod_pay 6 rfl) rfl (Or.inl rfl) h
theorem g_Mod_insert_0 {d : Nat} {u : Us} {Q : Ot → Us → Prop} (p1 : Int32)
    (h : ∃ k1 : Nat, p1 + 1 = nI k1 ∧ k1 < 3000 ∧ (∃ k2 : Nat, p1 + 2 = nI k2 ∧ k2 < 3000 ∧ (WS (d + 1) m_Mod_insert 21 [some (.ref 52), some (.int p1), some (.int (aI u 67 k1)), some (.int (aI u 67 k2)), some (.int 0), none] [] u Q))) :
    WS (d + 1) m_Mod_insert 0 [some (.ref 52), some (.int p1), none, none, none, none] [] u Q := by
  refine w_aload_n (dk_Mod_insert 0 rfl) rfl ?_
  refine w_getr (dk_Mod_insert 1 rfl) lk_Mod_85 rfl rfl rfl ?_
  refine w_iload_n (dk_Mod_insert 2 rfl) rfl ?_
  refine w_iconst (v := 1) (dk_Mod_insert 3 rfl) rfl ?_
  refine w_iadd (dk_Mod_insert 4 rfl) ?_
  obtain ⟨k1, e_k1, l_k1, h⟩ := h
  refine w_iald (k_ := k1) (dk_Mod_insert 5 rfl) rfl (by decide) e_k1 l_k1 ?_
  refine w_istore_n (ls' := [some (.ref 52), some (.int p1), some (.int (aI u 67 k1)), none, none, none]) (dk_Mod_insert 6 rfl) (by decide) rfl ?_
  refine w_aload_n (dk_Mod_insert 7 rfl) rfl ?_
  refine w_getr (dk_Mod_insert 8 rfl) lk_Mod_85 rfl rfl rfl ?_
  refine w_iload_n (dk_Mod_insert 9 rfl) rfl ?_
  refine w_iconst (v := 2) (dk_Mod_insert 10 rfl) rfl ?_
  refine w_iadd (dk_Mod_insert 11 rfl) ?_
  obtain ⟨k2, e_k2, l_k2, h⟩ := h
  refine w_iald (k_ := k2) (dk_Mod_insert 12 rfl) rfl (by decide) e_k2 l_k2 ?_
  refine w_istore_n (ls' := [some (.ref 52), some (.int p1), some (.int (aI u 67 k1)), some (.int (aI u 67 k2)), none, none]) (dk_Mod_insert 13 rfl) (by decide) rfl ?_
  refine w_iconst (v := 0) (dk_Mod_insert 14 rfl) rfl ?_
  refine w_istore (ls' := [some (.ref 52), some (.int p1), some (.int (aI u 67 k1)), some (.int (aI u 67 k2)), some (.int 0), none]) (dk_Mod_insert 15 rfl) (by decide) rfl ?_
  exact h
theorem g_Mod_insert_21 {d : Nat} {u : Us} {Q : Ot → Us → Prop} (x1 : Int32) (x2 : Int32) (x3 : Int32) (x4 : Int32)
    (h : (64 ≤ x4 → (x4 ≠ 64 → ∃ k1 : Nat, x4 = nI k1 ∧ k1 < 64 ∧ (∃ k2 : Nat, x4 = nI k2 ∧ k2 < 64 ∧ (WS (d + 1) m_Mod_insert 87 [some (.ref 52), some (.int x1), some (.int x2), some (.int x3), some (.int x4), some (.int 0)] [] (uI (uI (uI u 60 k1 (x2 + 1)) 52 14 ((aI u 52 14) + 1)) 62 k2 ((aI u 52 14) + 1)) Q))) ∧ (x4 = 64 → Q (.inl (some (.int 0))) u)) ∧ (¬ (64 ≤ x4) → ∃ k3 : Nat, x4 = nI k3 ∧ k3 < 64 ∧ (((aI u 60 k3) = 0 → (x4 ≠ 64 → ∃ k4 : Nat, x4 = nI k4 ∧ k4 < 64 ∧ (∃ k5 : Nat, x4 = nI k5 ∧ k5 < 64 ∧ (WS (d + 1) m_Mod_insert 87 [some (.ref 52), some (.int x1), some (.int x2), some (.int x3), some (.int x4), some (.int 0)] [] (uI (uI (uI u 60 k4 (x2 + 1)) 52 14 ((aI u 52 14) + 1)) 62 k5 ((aI u 52 14) + 1)) Q))) ∧ (x4 = 64 → Q (.inl (some (.int 0))) u)) ∧ (¬ ((aI u 60 k3) = 0) → WS (d + 1) m_Mod_insert 21 [some (.ref 52), some (.int x1), some (.int x2), some (.int x3), some (.int (x4 + 1)), none] [] u Q)))) :
    WS (d + 1) m_Mod_insert 21 [some (.ref 52), some (.int x1), some (.int x2), some (.int x3), some (.int x4), none] [] u Q := by
  refine w_iload (dk_Mod_insert 16 rfl) rfl ?_
  refine w_bipush (v := 64) (dk_Mod_insert 17 rfl) rfl ?_
  refine w_icmp_ge 44 (dk_Mod_insert 18 rfl) (by decide) (fun c_ => ?_) (fun c_ => ?_)
  · replace h := h.1 c_
    refine w_iload (dk_Mod_insert 26 rfl) rfl ?_
    refine w_bipush (v := 64) (dk_Mod_insert 27 rfl) rfl ?_
    refine w_icmp_ne 53 (dk_Mod_insert 28 rfl) (by decide) (fun c_ => ?_) (fun c_ => ?_)
    · replace h := h.1 c_
      refine w_aload_n (dk_Mod_insert 31 rfl) rfl ?_
      refine w_getr (dk_Mod_insert 32 rfl) lk_Mod_45 rfl rfl rfl ?_
      refine w_iload (dk_Mod_insert 33 rfl) rfl ?_
      refine w_iload_n (dk_Mod_insert 34 rfl) rfl ?_
      refine w_iconst (v := 1) (dk_Mod_insert 35 rfl) rfl ?_
      refine w_iadd (dk_Mod_insert 36 rfl) ?_
      obtain ⟨k1, e_k1, l_k1, h⟩ := h
      refine w_iast (k_ := k1) (dk_Mod_insert 37 rfl) rfl (by decide) e_k1 l_k1 ?_
      refine w_aload_n (dk_Mod_insert 38 rfl) rfl ?_
      refine w_dup (dk_Mod_insert 39 rfl) rfl ?_
      refine w_geti (v := aI u 52 14) (dk_Mod_insert 40 rfl) lk_Mod_54 rfl rfl rfl ?_
      refine w_iconst (v := 1) (dk_Mod_insert 41 rfl) rfl ?_
      refine w_iadd (dk_Mod_insert 42 rfl) ?_
      refine w_puti (dk_Mod_insert 43 rfl) lk_Mod_54 rfl rfl ?_
      refine w_aload_n (dk_Mod_insert 44 rfl) rfl ?_
      refine w_getr (dk_Mod_insert 45 rfl) lk_Mod_51 rfl rfl rfl ?_
      refine w_iload (dk_Mod_insert 46 rfl) rfl ?_
      refine w_aload_n (dk_Mod_insert 47 rfl) rfl ?_
      refine w_geti (v := (aI u 52 14) + 1) (dk_Mod_insert 48 rfl) lk_Mod_54 rfl rfl rfl ?_
      obtain ⟨k2, e_k2, l_k2, h⟩ := h
      refine w_iast (k_ := k2) (dk_Mod_insert 49 rfl) rfl (by decide) e_k2 l_k2 ?_
      refine w_iconst (v := 0) (dk_Mod_insert 50 rfl) rfl ?_
      refine w_istore (ls' := [some (.ref 52), some (.int x1), some (.int x2), some (.int x3), some (.int x4), some (.int 0)]) (dk_Mod_insert 51 rfl) (by decide) rfl ?_
      exact h
    · replace h := h.2 c_
      refine w_iconst (v := 0) (dk_Mod_insert 29 rfl) rfl ?_
      exact w_bret (dk_Mod_insert 30 rfl) rfl (Or.inl rfl) h
  · replace h := h.2 c_
    refine w_aload_n (dk_Mod_insert 19 rfl) rfl ?_
    refine w_getr (dk_Mod_insert 20 rfl) lk_Mod_45 rfl rfl rfl ?_
    refine w_iload (dk_Mod_insert 21 rfl) rfl ?_
    obtain ⟨k3, e_k3, l_k3, h⟩ := h
    refine w_iald (k_ := k3) (dk_Mod_insert 22 rfl) rfl (by decide) e_k3 l_k3 ?_
    refine w_if_eq 44 (dk_Mod_insert 23 rfl) (by decide) (fun c_ => ?_) (fun c_ => ?_)
    · replace h := h.1 c_
      refine w_iload (dk_Mod_insert 26 rfl) rfl ?_
      refine w_bipush (v := 64) (dk_Mod_insert 27 rfl) rfl ?_
      refine w_icmp_ne 53 (dk_Mod_insert 28 rfl) (by decide) (fun c_ => ?_) (fun c_ => ?_)
      · replace h := h.1 c_
        refine w_aload_n (dk_Mod_insert 31 rfl) rfl ?_
        refine w_getr (dk_Mod_insert 32 rfl) lk_Mod_45 rfl rfl rfl ?_
        refine w_iload (dk_Mod_insert 33 rfl) rfl ?_
        refine w_iload_n (dk_Mod_insert 34 rfl) rfl ?_
        refine w_iconst (v := 1) (dk_Mod_insert 35 rfl) rfl ?_
        refine w_iadd (dk_Mod_insert 36 rfl) ?_
        obtain ⟨k4, e_k4, l_k4, h⟩ := h
        refine w_iast (k_ := k4) (dk_Mod_insert 37 rfl) rfl (by decide) e_k4 l_k4 ?_
        refine w_aload_n (dk_Mod_insert 38 rfl) rfl ?_
        refine w_dup (dk_Mod_insert 39 rfl) rfl ?_
        refine w_geti (v := aI u 52 14) (dk_Mod_insert 40 rfl) lk_Mod_54 rfl rfl rfl ?_
        refine w_iconst (v := 1) (dk_Mod_insert 41 rfl) rfl ?_
        refine w_iadd (dk_Mod_insert 42 rfl) ?_
        refine w_puti (dk_Mod_insert 43 rfl) lk_Mod_54 rfl rfl ?_
        refine w_aload_n (dk_Mod_insert 44 rfl) rfl ?_
        refine w_getr (dk_Mod_insert 45 rfl) lk_Mod_51 rfl rfl rfl ?_
        refine w_iload (dk_Mod_insert 46 rfl) rfl ?_
        refine w_aload_n (dk_Mod_insert 47 rfl) rfl ?_
        refine w_geti (v := (aI u 52 14) + 1) (dk_Mod_insert 48 rfl) lk_Mod_54 rfl rfl rfl ?_
        obtain ⟨k5, e_k5, l_k5, h⟩ := h
        refine w_iast (k_ := k5) (dk_Mod_insert 49 rfl) rfl (by decide) e_k5 l_k5 ?_
        refine w_iconst (v := 0) (dk_Mod_insert 50 rfl) rfl ?_
        refine w_istore (ls' := [some (.ref 52), some (.int x1), some (.int x2), some (.int x3), some (.int x4), some (.int 0)]) (dk_Mod_insert 51 rfl) (by decide) rfl ?_
        exact h
      · replace h := h.2 c_
        refine w_iconst (v := 0) (dk_Mod_insert 29 rfl) rfl ?_
        exact w_bret (dk_Mod_insert 30 rfl) rfl (Or.inl rfl) h
    · replace h := h.2 c_
      refine w_iinc (v := x4 + 1) (ls' := [some (.ref 52), some (.int x1), some (.int x2), some (.int x3), some (.int (x4 + 1)), none]) (dk_Mod_insert 24 rfl) rfl rfl (by decide) rfl ?_
      refine w_goto 21 (dk_Mod_insert 25 rfl) (by decide) ?_
      exact h
theorem g_Mod_insert_87 {d : Nat} {u : Us} {Q : Ot → Us → Prop} (x1 : Int32) (x2 : Int32) (x3 : Int32) (x4 : Int32) (x5 : Int32)
    (h : (6 ≤ x5 → WS (d + 1) m_Mod_insert 117 [some (.ref 52), some (.int x1), some (.int x2), some (.int x3), some (.int x4), some (.int 0)] [] u Q) ∧ (¬ (6 ≤ x5) → ∃ k1 : Nat, (6 * x4) + x5 = nI k1 ∧ k1 < 384 ∧ (WS (d + 1) m_Mod_insert 87 [some (.ref 52), some (.int x1), some (.int x2), some (.int x3), some (.int x4), some (.int (x5 + 1))] [] (uI u 61 k1 0) Q))) :
    WS (d + 1) m_Mod_insert 87 [some (.ref 52), some (.int x1), some (.int x2), some (.int x3), some (.int x4), some (.int x5)] [] u Q := by
  refine w_iload (dk_Mod_insert 52 rfl) rfl ?_
  refine w_bipush (v := 6) (dk_Mod_insert 53 rfl) rfl ?_
  refine w_icmp_ge 114 (dk_Mod_insert 54 rfl) (by decide) (fun c_ => ?_) (fun c_ => ?_)
  · replace h := h.1 c_
    refine w_iconst (v := 0) (dk_Mod_insert 66 rfl) rfl ?_
    refine w_istore (ls' := [some (.ref 52), some (.int x1), some (.int x2), some (.int x3), some (.int x4), some (.int 0)]) (dk_Mod_insert 67 rfl) (by decide) rfl ?_
    exact h
  · replace h := h.2 c_
    refine w_aload_n (dk_Mod_insert 55 rfl) rfl ?_
    refine w_getr (dk_Mod_insert 56 rfl) lk_Mod_48 rfl rfl rfl ?_
    refine w_bipush (v := 6) (dk_Mod_insert 57 rfl) rfl ?_
    refine w_iload (dk_Mod_insert 58 rfl) rfl ?_
    refine w_imul (dk_Mod_insert 59 rfl) ?_
    refine w_iload (dk_Mod_insert 60 rfl) rfl ?_
    refine w_iadd (dk_Mod_insert 61 rfl) ?_
    refine w_iconst (v := 0) (dk_Mod_insert 62 rfl) rfl ?_
    obtain ⟨k1, e_k1, l_k1, h⟩ := h
    refine w_iast (k_ := k1) (dk_Mod_insert 63 rfl) rfl (by decide) e_k1 l_k1 ?_
    refine w_iinc (v := x5 + 1) (ls' := [some (.ref 52), some (.int x1), some (.int x2), some (.int x3), some (.int x4), some (.int (x5 + 1))]) (dk_Mod_insert 64 rfl) rfl rfl (by decide) rfl ?_
    refine w_goto 87 (dk_Mod_insert 65 rfl) (by decide) ?_
    exact h
theorem g_Mod_insert_117 {d : Nat} {u : Us} {Q : Ot → Us → Prop} (x1 : Int32) (x2 : Int32) (x3 : Int32) (x4 : Int32) (x5 : Int32)
    (h : (x3 ≤ x5 → Q (.inl (some (.int 1))) u) ∧ (¬ (x3 ≤ x5) → ∃ k1 : Nat, (x1 + 3) + x5 = nI k1 ∧ k1 < 3000 ∧ (∃ k2 : Nat, (x1 + 3) + x5 = nI k2 ∧ k2 < 3000 ∧ (∃ k3 : Nat, x5 = nI k3 ∧ k3 < 8 ∧ (WS d m_Mod_cut 0 [some (.ref 52), some (.int x2), some (.int (aI u 67 k2)), some (.int (aI u 74 k3)), none] [] u (Ri (fun (r4 : Int32) (u5 : Us) => ∃ k6 : Nat, (6 * x4) + (aI u 67 k1) = nI k6 ∧ k6 < 384 ∧ (WS (d + 1) m_Mod_insert 117 [some (.ref 52), some (.int x1), some (.int x2), some (.int x3), some (.int x4), some (.int (x5 + 1))] [] (uI u5 61 k6 r4) Q)) (fun x u => Q (.inr x) u))))))) :
    WS (d + 1) m_Mod_insert 117 [some (.ref 52), some (.int x1), some (.int x2), some (.int x3), some (.int x4), some (.int x5)] [] u Q := by
  refine w_iload (dk_Mod_insert 68 rfl) rfl ?_
  refine w_iload_n (dk_Mod_insert 69 rfl) rfl ?_
  refine w_icmp_ge 174 (dk_Mod_insert 70 rfl) (by decide) (fun c_ => ?_) (fun c_ => ?_)
  · replace h := h.1 c_
    refine w_iconst (v := 1) (dk_Mod_insert 103 rfl) rfl ?_
    exact w_bret (dk_Mod_insert 104 rfl) rfl (Or.inr rfl) h
  · replace h := h.2 c_
    refine w_aload_n (dk_Mod_insert 71 rfl) rfl ?_
    refine w_getr (dk_Mod_insert 72 rfl) lk_Mod_48 rfl rfl rfl ?_
    refine w_bipush (v := 6) (dk_Mod_insert 73 rfl) rfl ?_
    refine w_iload (dk_Mod_insert 74 rfl) rfl ?_
    refine w_imul (dk_Mod_insert 75 rfl) ?_
    refine w_aload_n (dk_Mod_insert 76 rfl) rfl ?_
    refine w_getr (dk_Mod_insert 77 rfl) lk_Mod_85 rfl rfl rfl ?_
    refine w_iload_n (dk_Mod_insert 78 rfl) rfl ?_
    refine w_iconst (v := 3) (dk_Mod_insert 79 rfl) rfl ?_
    refine w_iadd (dk_Mod_insert 80 rfl) ?_
    refine w_iload (dk_Mod_insert 81 rfl) rfl ?_
    refine w_iadd (dk_Mod_insert 82 rfl) ?_
    obtain ⟨k1, e_k1, l_k1, h⟩ := h
    refine w_iald (k_ := k1) (dk_Mod_insert 83 rfl) rfl (by decide) e_k1 l_k1 ?_
    refine w_iadd (dk_Mod_insert 84 rfl) ?_
    refine w_aload_n (dk_Mod_insert 85 rfl) rfl ?_
    refine w_iload_n (dk_Mod_insert 86 rfl) rfl ?_
    refine w_aload_n (dk_Mod_insert 87 rfl) rfl ?_
    refine w_getr (dk_Mod_insert 88 rfl) lk_Mod_85 rfl rfl rfl ?_
    refine w_iload_n (dk_Mod_insert 89 rfl) rfl ?_
    refine w_iconst (v := 3) (dk_Mod_insert 90 rfl) rfl ?_
    refine w_iadd (dk_Mod_insert 91 rfl) ?_
    refine w_iload (dk_Mod_insert 92 rfl) rfl ?_
    refine w_iadd (dk_Mod_insert 93 rfl) ?_
    obtain ⟨k2, e_k2, l_k2, h⟩ := h
    refine w_iald (k_ := k2) (dk_Mod_insert 94 rfl) rfl (by decide) e_k2 l_k2 ?_
    refine w_aload_n (dk_Mod_insert 95 rfl) rfl ?_
    refine w_getr (dk_Mod_insert 96 rfl) lk_Mod_127 rfl rfl rfl ?_
    refine w_iload (dk_Mod_insert 97 rfl) rfl ?_
    obtain ⟨k3, e_k3, l_k3, h⟩ := h
    refine w_iald (k_ := k3) (dk_Mod_insert 98 rfl) rfl (by decide) e_k3 l_k3 ?_
    refine w_callVi (ls' := [some (.ref 52), some (.int x2), some (.int (aI u 67 k2)), some (.int (aI u 74 k3)), none]) cv_Mod_390 (dk_Mod_insert 99 rfl) (ci := 10) rfl rfl [.int x2, .int (aI u 67 k2), .int (aI u 74 k3)] [.int ((6 * x4) + (aI u 67 k1)), .ref 61] rfl rfl (Nat.le_of_ble_eq_true rfl) (Nat.le_of_ble_eq_true rfl) rfl rfl rfl h (fun r4 u5 h => ?_)
    obtain ⟨k6, e_k6, l_k6, h⟩ := h
    refine w_iast (k_ := k6) (dk_Mod_insert 100 rfl) rfl (by decide) e_k6 l_k6 ?_
    refine w_iinc (v := x5 + 1) (ls' := [some (.ref 52), some (.int x1), some (.int x2), some (.int x3), some (.int x4), some (.int (x5 + 1))]) (dk_Mod_insert 101 rfl) rfl rfl (by decide) rfl ?_
    refine w_goto 117 (dk_Mod_insert 102 rfl) (by decide) ?_
    exact h
theorem g_Mod_cut_0 {d : Nat} {u : Us} {Q : Ot → Us → Prop} (p1 : Int32) (p2 : Int32) (p3 : Int32)
    (h : ∃ k1 : Nat, (6 * p1) + p2 = nI k1 ∧ k1 < 42 ∧ (((aI u 57 k1) ≠ 32 → Q (.inl (some (.int (p3 &&& ((1 <<< ((aI u 57 k1) &&& 31)) - 1))))) u) ∧ ((aI u 57 k1) = 32 → Q (.inl (some (.int p3))) u))) :
    WS d m_Mod_cut 0 [some (.ref 52), some (.int p1), some (.int p2), some (.int p3), none] [] u Q := by
  refine w_aload_n (dk_Mod_cut 0 rfl) rfl ?_
  refine w_getr (dk_Mod_cut 1 rfl) lk_Mod_33 rfl rfl rfl ?_
  refine w_bipush (v := 6) (dk_Mod_cut 2 rfl) rfl ?_
  refine w_iload_n (dk_Mod_cut 3 rfl) rfl ?_
  refine w_imul (dk_Mod_cut 4 rfl) ?_
  refine w_iload_n (dk_Mod_cut 5 rfl) rfl ?_
  refine w_iadd (dk_Mod_cut 6 rfl) ?_
  obtain ⟨k1, e_k1, l_k1, h⟩ := h
  refine w_iald (k_ := k1) (dk_Mod_cut 7 rfl) rfl (by decide) e_k1 l_k1 ?_
  refine w_istore (ls' := [some (.ref 52), some (.int p1), some (.int p2), some (.int p3), some (.int (aI u 57 k1))]) (dk_Mod_cut 8 rfl) (by decide) rfl ?_
  refine w_iload (dk_Mod_cut 9 rfl) rfl ?_
  refine w_bipush (v := 32) (dk_Mod_cut 10 rfl) rfl ?_
  refine w_icmp_ne 24 (dk_Mod_cut 11 rfl) (by decide) (fun c_ => ?_) (fun c_ => ?_)
  · replace h := h.1 c_
    refine w_iload_n (dk_Mod_cut 14 rfl) rfl ?_
    refine w_iconst (v := 1) (dk_Mod_cut 15 rfl) rfl ?_
    refine w_iload (dk_Mod_cut 16 rfl) rfl ?_
    refine w_ishl (dk_Mod_cut 17 rfl) ?_
    refine w_iconst (v := 1) (dk_Mod_cut 18 rfl) rfl ?_
    refine w_isub (dk_Mod_cut 19 rfl) ?_
    refine w_iand (dk_Mod_cut 20 rfl) ?_
    exact w_iret (dk_Mod_cut 21 rfl) rfl h
  · replace h := h.2 c_
    refine w_iload_n (dk_Mod_cut 12 rfl) rfl ?_
    refine w_goto 32 (dk_Mod_cut 13 rfl) (by decide) ?_
    exact w_iret (dk_Mod_cut 21 rfl) rfl h
theorem g_Mod_choose_0 {d : Nat} {u : Us} {Q : Ot → Us → Prop} (p1 : Int32) (p2 : Int32)
    (h : WS (d + 1) m_Mod_choose 2 [some (.ref 52), some (.int p1), some (.int p2), some (.int 0)] [] u Q) :
    WS (d + 1) m_Mod_choose 0 [some (.ref 52), some (.int p1), some (.int p2), none] [] u Q := by
  refine w_iconst (v := 0) (dk_Mod_choose 0 rfl) rfl ?_
  refine w_istore_n (ls' := [some (.ref 52), some (.int p1), some (.int p2), some (.int 0)]) (dk_Mod_choose 1 rfl) (by decide) rfl ?_
  exact h
theorem g_Mod_choose_2 {d : Nat} {u : Us} {Q : Ot → Us → Prop} (x1 : Int32) (x2 : Int32) (x3 : Int32)
    (h : (64 ≤ x3 → Q (.inl none) u) ∧ (¬ (64 ≤ x3) → ∃ k1 : Nat, x3 = nI k1 ∧ k1 < 64 ∧ (((aI u 60 k1) ≠ (x1 + 1) → ∃ k2 : Nat, x3 = nI k2 ∧ k2 < 64 ∧ (WS (d + 1) m_Mod_choose 2 [some (.ref 52), some (.int x1), some (.int x2), some (.int (x3 + 1))] [] (uI u 80 k2 (vp_nar .boolean 0)) Q)) ∧ ((aI u 60 k1) = (x1 + 1) → ∃ k3 : Nat, x2 = nI k3 ∧ k3 < 3000 ∧ (((aI u 67 k3) = 0 → ∃ k4 : Nat, x3 = nI k4 ∧ k4 < 64 ∧ (WS (d + 1) m_Mod_choose 2 [some (.ref 52), some (.int x1), some (.int x2), some (.int (x3 + 1))] [] (uI u 80 k4 (vp_nar .boolean 1)) Q)) ∧ (¬ ((aI u 67 k3) = 0) → ∃ k5 : Nat, x2 = nI k5 ∧ k5 < 3000 ∧ (WS d m_Mod_eval 0 [some (.ref 52), some (.int (x2 + 1)), some (.int (aI u 67 k5)), some (.int x3), none, none, none, none, none, none, none, none] [] u (Ri (fun (r6 : Int32) (u7 : Us) => (r6 = 0 → ∃ k8 : Nat, x3 = nI k8 ∧ k8 < 64 ∧ (WS (d + 1) m_Mod_choose 2 [some (.ref 52), some (.int x1), some (.int x2), some (.int (x3 + 1))] [] (uI u7 80 k8 (vp_nar .boolean 0)) Q)) ∧ (¬ (r6 = 0) → ∃ k9 : Nat, x3 = nI k9 ∧ k9 < 64 ∧ (WS (d + 1) m_Mod_choose 2 [some (.ref 52), some (.int x1), some (.int x2), some (.int (x3 + 1))] [] (uI u7 80 k9 (vp_nar .boolean 1)) Q))) (fun x u => Q (.inr x) u))))))))) :
    WS (d + 1) m_Mod_choose 2 [some (.ref 52), some (.int x1), some (.int x2), some (.int x3)] [] u Q := by
  refine w_iload_n (dk_Mod_choose 2 rfl) rfl ?_
  refine w_bipush (v := 64) (dk_Mod_choose 3 rfl) rfl ?_
  refine w_icmp_ge 63 (dk_Mod_choose 4 rfl) (by decide) (fun c_ => ?_) (fun c_ => ?_)
  · replace h := h.1 c_
    exact w_vret (dk_Mod_choose 38 rfl) rfl h
  · replace h := h.2 c_
    refine w_aload_n (dk_Mod_choose 5 rfl) rfl ?_
    refine w_getr (dk_Mod_choose 6 rfl) lk_Mod_148 rfl rfl rfl ?_
    refine w_iload_n (dk_Mod_choose 7 rfl) rfl ?_
    refine w_aload_n (dk_Mod_choose 8 rfl) rfl ?_
    refine w_getr (dk_Mod_choose 9 rfl) lk_Mod_45 rfl rfl rfl ?_
    refine w_iload_n (dk_Mod_choose 10 rfl) rfl ?_
    obtain ⟨k1, e_k1, l_k1, h⟩ := h
    refine w_iald (k_ := k1) (dk_Mod_choose 11 rfl) rfl (by decide) e_k1 l_k1 ?_
    refine w_iload_n (dk_Mod_choose 12 rfl) rfl ?_
    refine w_iconst (v := 1) (dk_Mod_choose 13 rfl) rfl ?_
    refine w_iadd (dk_Mod_choose 14 rfl) ?_
    refine w_icmp_ne 55 (dk_Mod_choose 15 rfl) (by decide) (fun c_ => ?_) (fun c_ => ?_)
    · replace h := h.1 c_
      refine w_iconst (v := 0) (dk_Mod_choose 34 rfl) rfl ?_
      obtain ⟨k2, e_k2, l_k2, h⟩ := h
      refine w_zast (k_ := k2) (dk_Mod_choose 35 rfl) rfl (by decide) e_k2 l_k2 ?_
      refine w_iinc (v := x3 + 1) (ls' := [some (.ref 52), some (.int x1), some (.int x2), some (.int (x3 + 1))]) (dk_Mod_choose 36 rfl) rfl rfl (by decide) rfl ?_
      refine w_goto 2 (dk_Mod_choose 37 rfl) (by decide) ?_
      exact h
    · replace h := h.2 c_
      refine w_aload_n (dk_Mod_choose 16 rfl) rfl ?_
      refine w_getr (dk_Mod_choose 17 rfl) lk_Mod_85 rfl rfl rfl ?_
      refine w_iload_n (dk_Mod_choose 18 rfl) rfl ?_
      obtain ⟨k3, e_k3, l_k3, h⟩ := h
      refine w_iald (k_ := k3) (dk_Mod_choose 19 rfl) rfl (by decide) e_k3 l_k3 ?_
      refine w_if_eq 51 (dk_Mod_choose 20 rfl) (by decide) (fun c_ => ?_) (fun c_ => ?_)
      · replace h := h.1 c_
        refine w_iconst (v := 1) (dk_Mod_choose 32 rfl) rfl ?_
        refine w_goto 56 (dk_Mod_choose 33 rfl) (by decide) ?_
        obtain ⟨k4, e_k4, l_k4, h⟩ := h
        refine w_zast (k_ := k4) (dk_Mod_choose 35 rfl) rfl (by decide) e_k4 l_k4 ?_
        refine w_iinc (v := x3 + 1) (ls' := [some (.ref 52), some (.int x1), some (.int x2), some (.int (x3 + 1))]) (dk_Mod_choose 36 rfl) rfl rfl (by decide) rfl ?_
        refine w_goto 2 (dk_Mod_choose 37 rfl) (by decide) ?_
        exact h
      · replace h := h.2 c_
        refine w_aload_n (dk_Mod_choose 21 rfl) rfl ?_
        refine w_iload_n (dk_Mod_choose 22 rfl) rfl ?_
        refine w_iconst (v := 1) (dk_Mod_choose 23 rfl) rfl ?_
        refine w_iadd (dk_Mod_choose 24 rfl) ?_
        refine w_aload_n (dk_Mod_choose 25 rfl) rfl ?_
        refine w_getr (dk_Mod_choose 26 rfl) lk_Mod_85 rfl rfl rfl ?_
        refine w_iload_n (dk_Mod_choose 27 rfl) rfl ?_
        obtain ⟨k5, e_k5, l_k5, h⟩ := h
        refine w_iald (k_ := k5) (dk_Mod_choose 28 rfl) rfl (by decide) e_k5 l_k5 ?_
        refine w_iload_n (dk_Mod_choose 29 rfl) rfl ?_
        refine w_callVi (ls' := [some (.ref 52), some (.int (x2 + 1)), some (.int (aI u 67 k5)), some (.int x3), none, none, none, none, none, none, none, none]) cv_Mod_387 (dk_Mod_choose 30 rfl) (ci := 10) rfl rfl [.int (x2 + 1), .int (aI u 67 k5), .int x3] [.int x3, .ref 80] rfl rfl (Nat.le_of_ble_eq_true rfl) (Nat.le_of_ble_eq_true rfl) rfl rfl rfl h (fun r6 u7 h => ?_)
        refine w_if_eq 55 (dk_Mod_choose 31 rfl) (by decide) (fun c_ => ?_) (fun c_ => ?_)
        · replace h := h.1 c_
          refine w_iconst (v := 0) (dk_Mod_choose 34 rfl) rfl ?_
          obtain ⟨k8, e_k8, l_k8, h⟩ := h
          refine w_zast (k_ := k8) (dk_Mod_choose 35 rfl) rfl (by decide) e_k8 l_k8 ?_
          refine w_iinc (v := x3 + 1) (ls' := [some (.ref 52), some (.int x1), some (.int x2), some (.int (x3 + 1))]) (dk_Mod_choose 36 rfl) rfl rfl (by decide) rfl ?_
          refine w_goto 2 (dk_Mod_choose 37 rfl) (by decide) ?_
          exact h
        · replace h := h.2 c_
          refine w_iconst (v := 1) (dk_Mod_choose 32 rfl) rfl ?_
          refine w_goto 56 (dk_Mod_choose 33 rfl) (by decide) ?_
          obtain ⟨k9, e_k9, l_k9, h⟩ := h
          refine w_zast (k_ := k9) (dk_Mod_choose 35 rfl) rfl (by decide) e_k9 l_k9 ?_
          refine w_iinc (v := x3 + 1) (ls' := [some (.ref 52), some (.int x1), some (.int x2), some (.int (x3 + 1))]) (dk_Mod_choose 36 rfl) rfl rfl (by decide) rfl ?_
          refine w_goto 2 (dk_Mod_choose 37 rfl) (by decide) ?_
          exact h
theorem g_Mod_eval_0 {d : Nat} {u : Us} {Q : Ot → Us → Prop} (p1 : Int32) (p2 : Int32) (p3 : Int32)
    (h : WS (d + 1) m_Mod_eval 18 [some (.ref 52), some (.int p1), some (.int p2), some (.int p3), some (.int 0), some (.int p1), some (.int p3), some (.int 0), some (.int 0), some (.int 0), none, none] [] u Q) :
    WS (d + 1) m_Mod_eval 0 [some (.ref 52), some (.int p1), some (.int p2), some (.int p3), none, none, none, none, none, none, none, none] [] u Q := by
  refine w_iconst (v := 0) (dk_Mod_eval 0 rfl) rfl ?_
  refine w_istore (ls' := [some (.ref 52), some (.int p1), some (.int p2), some (.int p3), some (.int 0), none, none, none, none, none, none, none]) (dk_Mod_eval 1 rfl) (by decide) rfl ?_
  refine w_iload_n (dk_Mod_eval 2 rfl) rfl ?_
  refine w_istore (ls' := [some (.ref 52), some (.int p1), some (.int p2), some (.int p3), some (.int 0), some (.int p1), none, none, none, none, none, none]) (dk_Mod_eval 3 rfl) (by decide) rfl ?_
  refine w_iload_n (dk_Mod_eval 4 rfl) rfl ?_
  refine w_istore (ls' := [some (.ref 52), some (.int p1), some (.int p2), some (.int p3), some (.int 0), some (.int p1), some (.int p3), none, none, none, none, none]) (dk_Mod_eval 5 rfl) (by decide) rfl ?_
  refine w_iconst (v := 0) (dk_Mod_eval 6 rfl) rfl ?_
  refine w_istore (ls' := [some (.ref 52), some (.int p1), some (.int p2), some (.int p3), some (.int 0), some (.int p1), some (.int p3), some (.int 0), none, none, none, none]) (dk_Mod_eval 7 rfl) (by decide) rfl ?_
  refine w_iconst (v := 0) (dk_Mod_eval 8 rfl) rfl ?_
  refine w_istore (ls' := [some (.ref 52), some (.int p1), some (.int p2), some (.int p3), some (.int 0), some (.int p1), some (.int p3), some (.int 0), some (.int 0), none, none, none]) (dk_Mod_eval 9 rfl) (by decide) rfl ?_
  refine w_iconst (v := 0) (dk_Mod_eval 10 rfl) rfl ?_
  refine w_istore (ls' := [some (.ref 52), some (.int p1), some (.int p2), some (.int p3), some (.int 0), some (.int p1), some (.int p3), some (.int 0), some (.int 0), some (.int 0), none, none]) (dk_Mod_eval 11 rfl) (by decide) rfl ?_
  exact h
theorem g_Mod_eval_18 {d : Nat} {u : Us} {Q : Ot → Us → Prop} (x1 : Int32) (x2 : Int32) (x3 : Int32) (x4 : Int32) (x5 : Int32) (x6 : Int32) (x7 : Int32) (x8 : Int32) (x9 : Int32)
    (h : ((x1 + x2) ≤ x5 → Q (.inl (some (.int (aI u 73 0)))) u) ∧ (¬ ((x1 + x2) ≤ x5) → ∃ k1 : Nat, x5 = nI k1 ∧ k1 < 3000 ∧ (((aI u 67 k1) ≠ 1 → ((aI u 67 k1) ≠ 2 → ((aI u 67 k1) ≠ 3 → ((aI u 67 k1) ≠ 4 → ((aI u 67 k1) = 5 → WS (d + 1) m_Mod_eval 229 [some (.ref 52), some (.int x1), some (.int x2), some (.int x3), some (.int x4), some (.int x5), some (.int x6), some (.int x7), some (.int x8), some (.int x9), some (.int (aI u 67 k1)), none] [] u Q) ∧ (¬ ((aI u 67 k1) = 5) → ((aI u 67 k1) ≠ 6 → ((aI u 67 k1) ≠ 30 → ((aI u 67 k1) ≠ 31 → ∃ k2 : Nat, (x4 + (-1)) - 1 = nI k2 ∧ k2 < 200 ∧ (∃ k3 : Nat, x4 + (-1) = nI k3 ∧ k3 < 200 ∧ (WS d m_Mod_operate 0 [some (.int (aI u 67 k1)), some (.int (aI u 73 k2)), some (.int (aI u 73 k3))] [] u (Ri (fun (r4 : Int32) (u5 : Us) => ∃ k6 : Nat, (x4 + (-1)) - 1 = nI k6 ∧ k6 < 200 ∧ (WS (d + 1) m_Mod_eval 18 [some (.ref 52), some (.int x1), some (.int x2), some (.int x3), some (.int (x4 + (-1))), some (.int (x5 + 1)), some (.int x6), some (.int x7), some (.int x8), some (.int x9), some (.int (aI u 67 k1)), none] [] (uI u5 73 k6 r4) Q)) (fun x u => Q (.inr x) u))))) ∧ ((aI u 67 k1) = 31 → ∃ k7 : Nat, x4 + (-1) = nI k7 ∧ k7 < 200 ∧ (((aI u 73 k7) = 0 → ∃ k8 : Nat, x7 + 2 = nI k8 ∧ k8 < 3000 ∧ (WS d m_Mod_nextOf 0 [some (.ref 52), some (.int (aI u 67 k8)), some (.int (x6 + 1)), none] [] u (Ri (fun (r9 : Int32) (u10 : Us) => (64 ≤ r9 → ∃ k11 : Nat, x4 + (-1) = nI k11 ∧ k11 < 200 ∧ (WS (d + 1) m_Mod_eval 18 [some (.ref 52), some (.int x1), some (.int x2), some (.int x3), some (.int ((x4 + (-1)) + 1)), some (.int (x5 + 1)), some (.int r9), some (.int x7), some (.int x8), some (.int x9), some (.int (aI u 67 k1)), none] [] (uI u10 73 k11 x8) Q)) ∧ (¬ (64 ≤ r9) → WS (d + 1) m_Mod_eval 18 [some (.ref 52), some (.int x1), some (.int x2), some (.int x3), some (.int (x4 + (-1))), some (.int (x7 + 4)), some (.int r9), some (.int x7), some (.int x8), some (.int x9), some (.int (aI u 67 k1)), none] [] u10 Q)) (fun x u => Q (.inr x) u)))) ∧ (¬ ((aI u 73 k7) = 0) → ∃ k12 : Nat, x7 + 1 = nI k12 ∧ k12 < 3000 ∧ (∃ k13 : Nat, x7 + 3 = nI k13 ∧ k13 < 3000 ∧ (WS d m_Mod_valueOf 0 [some (.ref 52), some (.int x6), some (.int (aI u 67 k13))] [] u (Ri (fun (r14 : Int32) (u15 : Us) => WS d m_Mod_aggregated 0 [some (.ref 52), some (.int (aI u 67 k12)), some (.int x8), some (.int x9), some (.int r14)] [] u15 (Ri (fun (r16 : Int32) (u17 : Us) => ∃ k18 : Nat, x7 + 2 = nI k18 ∧ k18 < 3000 ∧ (WS d m_Mod_nextOf 0 [some (.ref 52), some (.int (aI u17 67 k18)), some (.int (x6 + 1)), none] [] u17 (Ri (fun (r19 : Int32) (u20 : Us) => (64 ≤ r19 → ∃ k21 : Nat, x4 + (-1) = nI k21 ∧ k21 < 200 ∧ (WS (d + 1) m_Mod_eval 18 [some (.ref 52), some (.int x1), some (.int x2), some (.int x3), some (.int ((x4 + (-1)) + 1)), some (.int (x5 + 1)), some (.int r19), some (.int x7), some (.int r16), some (.int (x9 + 1)), some (.int (aI u 67 k1)), none] [] (uI u20 73 k21 r16) Q)) ∧ (¬ (64 ≤ r19) → WS (d + 1) m_Mod_eval 18 [some (.ref 52), some (.int x1), some (.int x2), some (.int x3), some (.int (x4 + (-1))), some (.int (x7 + 4)), some (.int r19), some (.int x7), some (.int r16), some (.int (x9 + 1)), some (.int (aI u 67 k1)), none] [] u20 Q)) (fun x u => Q (.inr x) u)))) (fun x u => Q (.inr x) u))) (fun x u => Q (.inr x) u)))))))) ∧ ((aI u 67 k1) = 30 → ∃ k22 : Nat, x5 + 2 = nI k22 ∧ k22 < 3000 ∧ (WS d m_Mod_nextOf 0 [some (.ref 52), some (.int (aI u 67 k22)), some (.int 0), none] [] u (Ri (fun (r23 : Int32) (u24 : Us) => (64 ≤ r23 → WS d m_Mod_endOf 0 [some (.ref 52), some (.int x5), none] [] u24 (Ri (fun (r25 : Int32) (u26 : Us) => (r23 ≠ 64 → WS (d + 1) m_Mod_eval 18 [some (.ref 52), some (.int x1), some (.int x2), some (.int x3), some (.int x4), some (.int r25), some (.int r23), some (.int x5), some (.int 0), some (.int 0), some (.int (aI u 67 k1)), none] [] u26 Q) ∧ (r23 = 64 → ∃ k27 : Nat, x4 = nI k27 ∧ k27 < 200 ∧ (WS (d + 1) m_Mod_eval 18 [some (.ref 52), some (.int x1), some (.int x2), some (.int x3), some (.int (x4 + 1)), some (.int r25), some (.int r23), some (.int x5), some (.int 0), some (.int 0), some (.int (aI u 67 k1)), none] [] (uI u26 73 k27 0) Q))) (fun x u => Q (.inr x) u))) ∧ (¬ (64 ≤ r23) → (r23 ≠ 64 → WS (d + 1) m_Mod_eval 18 [some (.ref 52), some (.int x1), some (.int x2), some (.int x3), some (.int x4), some (.int (x5 + 4)), some (.int r23), some (.int x5), some (.int 0), some (.int 0), some (.int (aI u 67 k1)), none] [] u24 Q) ∧ (r23 = 64 → ∃ k28 : Nat, x4 = nI k28 ∧ k28 < 200 ∧ (WS (d + 1) m_Mod_eval 18 [some (.ref 52), some (.int x1), some (.int x2), some (.int x3), some (.int (x4 + 1)), some (.int (x5 + 4)), some (.int r23), some (.int x5), some (.int 0), some (.int 0), some (.int (aI u 67 k1)), none] [] (uI u24 73 k28 0) Q)))) (fun x u => Q (.inr x) u))))) ∧ ((aI u 67 k1) = 6 → WS (d + 1) m_Mod_eval 229 [some (.ref 52), some (.int x1), some (.int x2), some (.int x3), some (.int x4), some (.int x5), some (.int x6), some (.int x7), some (.int x8), some (.int x9), some (.int (aI u 67 k1)), none] [] u Q))) ∧ ((aI u 67 k1) = 4 → ∃ k29 : Nat, x5 + 1 = nI k29 ∧ k29 < 3000 ∧ (WS d m_Mod_cursorThere 0 [some (.ref 52), some (.int (aI u 67 k29)), none, none] [] u (Ri (fun (r30 : Int32) (u31 : Us) => (r30 = 0 → ∃ k32 : Nat, x4 = nI k32 ∧ k32 < 200 ∧ (WS (d + 1) m_Mod_eval 18 [some (.ref 52), some (.int x1), some (.int x2), some (.int x3), some (.int (x4 + 1)), some (.int (x5 + 3)), some (.int x6), some (.int x7), some (.int x8), some (.int x9), some (.int (aI u 67 k1)), some (.int (aI u 67 k29))] [] (uI u31 73 k32 0) Q)) ∧ (¬ (r30 = 0) → ∃ k33 : Nat, aI u 67 k29 = nI k33 ∧ k33 < 12 ∧ (∃ k34 : Nat, (64 * (aI u 67 k29)) + (aI u31 78 k33) = nI k34 ∧ k34 < 768 ∧ (∃ k35 : Nat, x5 + 2 = nI k35 ∧ k35 < 3000 ∧ (WS d m_Mod_valueOf 0 [some (.ref 52), some (.int (aI u31 75 k34)), some (.int (aI u31 67 k35))] [] u31 (Ri (fun (r36 : Int32) (u37 : Us) => ∃ k38 : Nat, x4 = nI k38 ∧ k38 < 200 ∧ (WS (d + 1) m_Mod_eval 18 [some (.ref 52), some (.int x1), some (.int x2), some (.int x3), some (.int (x4 + 1)), some (.int (x5 + 3)), some (.int x6), some (.int x7), some (.int x8), some (.int x9), some (.int (aI u 67 k1)), some (.int (aI u 67 k29))] [] (uI u37 73 k38 r36) Q)) (fun x u => Q (.inr x) u))))))) (fun x u => Q (.inr x) u))))) ∧ ((aI u 67 k1) = 3 → ∃ k39 : Nat, x5 + 1 = nI k39 ∧ k39 < 3000 ∧ (WS d m_Mod_valueOf 0 [some (.ref 52), some (.int x6), some (.int (aI u 67 k39))] [] u (Ri (fun (r40 : Int32) (u41 : Us) => ∃ k42 : Nat, x4 = nI k42 ∧ k42 < 200 ∧ (WS (d + 1) m_Mod_eval 18 [some (.ref 52), some (.int x1), some (.int x2), some (.int x3), some (.int (x4 + 1)), some (.int (x5 + 2)), some (.int x6), some (.int x7), some (.int x8), some (.int x9), some (.int (aI u 67 k1)), none] [] (uI u41 73 k42 r40) Q)) (fun x u => Q (.inr x) u))))) ∧ ((aI u 67 k1) = 2 → ∃ k43 : Nat, x5 + 1 = nI k43 ∧ k43 < 3000 ∧ (∃ k44 : Nat, aI u 67 k43 = nI k44 ∧ k44 < 20 ∧ (∃ k45 : Nat, x4 = nI k45 ∧ k45 < 200 ∧ (WS (d + 1) m_Mod_eval 18 [some (.ref 52), some (.int x1), some (.int x2), some (.int x3), some (.int (x4 + 1)), some (.int (x5 + 2)), some (.int x6), some (.int x7), some (.int x8), some (.int x9), some (.int (aI u 67 k1)), none] [] (uI u 73 k45 (aI u 59 k44)) Q))))) ∧ ((aI u 67 k1) = 1 → ∃ k46 : Nat, x5 + 1 = nI k46 ∧ k46 < 3000 ∧ (∃ k47 : Nat, x4 = nI k47 ∧ k47 < 200 ∧ (WS (d + 1) m_Mod_eval 18 [some (.ref 52), some (.int x1), some (.int x2), some (.int x3), some (.int (x4 + 1)), some (.int (x5 + 2)), some (.int x6), some (.int x7), some (.int x8), some (.int x9), some (.int (aI u 67 k1)), none] [] (uI u 73 k47 (aI u 67 k46)) Q)))))) :
    WS (d + 1) m_Mod_eval 18 [some (.ref 52), some (.int x1), some (.int x2), some (.int x3), some (.int x4), some (.int x5), some (.int x6), some (.int x7), some (.int x8), some (.int x9), none, none] [] u Q := by
  refine w_iload (dk_Mod_eval 12 rfl) rfl ?_
  refine w_iload_n (dk_Mod_eval 13 rfl) rfl ?_
  refine w_iload_n (dk_Mod_eval 14 rfl) rfl ?_
  refine w_iadd (dk_Mod_eval 15 rfl) ?_
  refine w_icmp_ge 505 (dk_Mod_eval 16 rfl) (by decide) (fun c_ => ?_) (fun c_ => ?_)
  · replace h := h.1 c_
    refine w_aload_n (dk_Mod_eval 272 rfl) rfl ?_
    refine w_getr (dk_Mod_eval 273 rfl) lk_Mod_124 rfl rfl rfl ?_
    refine w_iconst (v := 0) (dk_Mod_eval 274 rfl) rfl ?_
    refine w_iald (k_ := 0) (dk_Mod_eval 275 rfl) rfl (by decide) rfl (by decide) ?_
    exact w_iret (dk_Mod_eval 276 rfl) rfl h
  · replace h := h.2 c_
    refine w_aload_n (dk_Mod_eval 17 rfl) rfl ?_
    refine w_getr (dk_Mod_eval 18 rfl) lk_Mod_85 rfl rfl rfl ?_
    refine w_iload (dk_Mod_eval 19 rfl) rfl ?_
    obtain ⟨k1, e_k1, l_k1, h⟩ := h
    refine w_iald (k_ := k1) (dk_Mod_eval 20 rfl) rfl (by decide) e_k1 l_k1 ?_
    refine w_istore (ls' := [some (.ref 52), some (.int x1), some (.int x2), some (.int x3), some (.int x4), some (.int x5), some (.int x6), some (.int x7), some (.int x8), some (.int x9), some (.int (aI u 67 k1)), none]) (dk_Mod_eval 21 rfl) (by decide) rfl ?_
    refine w_iload (dk_Mod_eval 22 rfl) rfl ?_
    refine w_iconst (v := 1) (dk_Mod_eval 23 rfl) rfl ?_
    refine w_icmp_ne 66 (dk_Mod_eval 24 rfl) (by decide) (fun c_ => ?_) (fun c_ => ?_)
    · replace h := h.1 c_
      refine w_iload (dk_Mod_eval 38 rfl) rfl ?_
      refine w_iconst (v := 2) (dk_Mod_eval 39 rfl) rfl ?_
      refine w_icmp_ne 102 (dk_Mod_eval 40 rfl) (by decide) (fun c_ => ?_) (fun c_ => ?_)
      · replace h := h.1 c_
        refine w_iload (dk_Mod_eval 57 rfl) rfl ?_
        refine w_iconst (v := 3) (dk_Mod_eval 58 rfl) rfl ?_
        refine w_icmp_ne 139 (dk_Mod_eval 59 rfl) (by decide) (fun c_ => ?_) (fun c_ => ?_)
        · replace h := h.1 c_
          refine w_iload (dk_Mod_eval 76 rfl) rfl ?_
          refine w_iconst (v := 4) (dk_Mod_eval 77 rfl) rfl ?_
          refine w_icmp_ne 216 (dk_Mod_eval 78 rfl) (by decide) (fun c_ => ?_) (fun c_ => ?_)
          · replace h := h.1 c_
            refine w_iload (dk_Mod_eval 118 rfl) rfl ?_
            refine w_iconst (v := 5) (dk_Mod_eval 119 rfl) rfl ?_
            refine w_icmp_eq 229 (dk_Mod_eval 120 rfl) (by decide) (fun c_ => ?_) (fun c_ => ?_)
            · replace h := h.1 c_
              exact h
            · replace h := h.2 c_
              refine w_iload (dk_Mod_eval 121 rfl) rfl ?_
              refine w_bipush (v := 6) (dk_Mod_eval 122 rfl) rfl ?_
              refine w_icmp_ne 280 (dk_Mod_eval 123 rfl) (by decide) (fun c_ => ?_) (fun c_ => ?_)
              · replace h := h.1 c_
                refine w_iload (dk_Mod_eval 153 rfl) rfl ?_
                refine w_bipush (v := 30) (dk_Mod_eval 154 rfl) rfl ?_
                refine w_icmp_ne 356 (dk_Mod_eval 155 rfl) (by decide) (fun c_ => ?_) (fun c_ => ?_)
                · replace h := h.1 c_
                  refine w_iload (dk_Mod_eval 193 rfl) rfl ?_
                  refine w_bipush (v := 31) (dk_Mod_eval 194 rfl) rfl ?_
                  refine w_icmp_ne 466 (dk_Mod_eval 195 rfl) (by decide) (fun c_ => ?_) (fun c_ => ?_)
                  · replace h := h.1 c_
                    refine w_iinc (v := x4 + (-1)) (ls' := [some (.ref 52), some (.int x1), some (.int x2), some (.int x3), some (.int (x4 + (-1))), some (.int x5), some (.int x6), some (.int x7), some (.int x8), some (.int x9), some (.int (aI u 67 k1)), none]) (dk_Mod_eval 251 rfl) rfl rfl (by decide) rfl ?_
                    refine w_aload_n (dk_Mod_eval 252 rfl) rfl ?_
                    refine w_getr (dk_Mod_eval 253 rfl) lk_Mod_124 rfl rfl rfl ?_
                    refine w_iload (dk_Mod_eval 254 rfl) rfl ?_
                    refine w_iconst (v := 1) (dk_Mod_eval 255 rfl) rfl ?_
                    refine w_isub (dk_Mod_eval 256 rfl) ?_
                    refine w_iload (dk_Mod_eval 257 rfl) rfl ?_
                    refine w_aload_n (dk_Mod_eval 258 rfl) rfl ?_
                    refine w_getr (dk_Mod_eval 259 rfl) lk_Mod_124 rfl rfl rfl ?_
                    refine w_iload (dk_Mod_eval 260 rfl) rfl ?_
                    refine w_iconst (v := 1) (dk_Mod_eval 261 rfl) rfl ?_
                    refine w_isub (dk_Mod_eval 262 rfl) ?_
                    obtain ⟨k2, e_k2, l_k2, h⟩ := h
                    refine w_iald (k_ := k2) (dk_Mod_eval 263 rfl) rfl (by decide) e_k2 l_k2 ?_
                    refine w_aload_n (dk_Mod_eval 264 rfl) rfl ?_
                    refine w_getr (dk_Mod_eval 265 rfl) lk_Mod_124 rfl rfl rfl ?_
                    refine w_iload (dk_Mod_eval 266 rfl) rfl ?_
                    obtain ⟨k3, e_k3, l_k3, h⟩ := h
                    refine w_iald (k_ := k3) (dk_Mod_eval 267 rfl) rfl (by decide) e_k3 l_k3 ?_
                    refine w_callSi (ls' := [some (.int (aI u 67 k1)), some (.int (aI u 73 k2)), some (.int (aI u 73 k3))]) cv_Mod_383 (dk_Mod_eval 268 rfl) [.int (aI u 67 k1), .int (aI u 73 k2), .int (aI u 73 k3)] [.int ((x4 + (-1)) - 1), .ref 73] rfl rfl (Nat.le_of_ble_eq_true rfl) (Nat.le_of_ble_eq_true rfl) rfl rfl rfl h (fun r4 u5 h => ?_)
                    obtain ⟨k6, e_k6, l_k6, h⟩ := h
                    refine w_iast (k_ := k6) (dk_Mod_eval 269 rfl) rfl (by decide) e_k6 l_k6 ?_
                    refine w_iinc (v := x5 + 1) (ls' := [some (.ref 52), some (.int x1), some (.int x2), some (.int x3), some (.int (x4 + (-1))), some (.int (x5 + 1)), some (.int x6), some (.int x7), some (.int x8), some (.int x9), some (.int (aI u 67 k1)), none]) (dk_Mod_eval 270 rfl) rfl rfl (by decide) rfl ?_
                    refine w_goto 18 (dk_Mod_eval 271 rfl) (by decide) ?_
                    exact h
                  · replace h := h.2 c_
                    refine w_iinc (v := x4 + (-1)) (ls' := [some (.ref 52), some (.int x1), some (.int x2), some (.int x3), some (.int (x4 + (-1))), some (.int x5), some (.int x6), some (.int x7), some (.int x8), some (.int x9), some (.int (aI u 67 k1)), none]) (dk_Mod_eval 196 rfl) rfl rfl (by decide) rfl ?_
                    refine w_aload_n (dk_Mod_eval 197 rfl) rfl ?_
                    refine w_getr (dk_Mod_eval 198 rfl) lk_Mod_124 rfl rfl rfl ?_
                    refine w_iload (dk_Mod_eval 199 rfl) rfl ?_
                    obtain ⟨k7, e_k7, l_k7, h⟩ := h
                    refine w_iald (k_ := k7) (dk_Mod_eval 200 rfl) rfl (by decide) e_k7 l_k7 ?_
                    refine w_if_eq 413 (dk_Mod_eval 201 rfl) (by decide) (fun c_ => ?_) (fun c_ => ?_)
                    · replace h := h.1 c_
                      refine w_aload_n (dk_Mod_eval 223 rfl) rfl ?_
                      refine w_aload_n (dk_Mod_eval 224 rfl) rfl ?_
                      refine w_getr (dk_Mod_eval 225 rfl) lk_Mod_85 rfl rfl rfl ?_
                      refine w_iload (dk_Mod_eval 226 rfl) rfl ?_
                      refine w_iconst (v := 2) (dk_Mod_eval 227 rfl) rfl ?_
                      refine w_iadd (dk_Mod_eval 228 rfl) ?_
                      obtain ⟨k8, e_k8, l_k8, h⟩ := h
                      refine w_iald (k_ := k8) (dk_Mod_eval 229 rfl) rfl (by decide) e_k8 l_k8 ?_
                      refine w_iload (dk_Mod_eval 230 rfl) rfl ?_
                      refine w_iconst (v := 1) (dk_Mod_eval 231 rfl) rfl ?_
                      refine w_iadd (dk_Mod_eval 232 rfl) ?_
                      refine w_callVi (ls' := [some (.ref 52), some (.int (aI u 67 k8)), some (.int (x6 + 1)), none]) cv_Mod_373 (dk_Mod_eval 233 rfl) (ci := 10) rfl rfl [.int (aI u 67 k8), .int (x6 + 1)] [] rfl rfl (Nat.le_of_ble_eq_true rfl) (Nat.le_of_ble_eq_true rfl) rfl rfl rfl h (fun r9 u10 h => ?_)
                      refine w_istore (ls' := [some (.ref 52), some (.int x1), some (.int x2), some (.int x3), some (.int (x4 + (-1))), some (.int x5), some (.int r9), some (.int x7), some (.int x8), some (.int x9), some (.int (aI u 67 k1)), none]) (dk_Mod_eval 234 rfl) (by decide) rfl ?_
                      refine w_iload (dk_Mod_eval 235 rfl) rfl ?_
                      refine w_bipush (v := 64) (dk_Mod_eval 236 rfl) rfl ?_
                      refine w_icmp_ge 448 (dk_Mod_eval 237 rfl) (by decide) (fun c_ => ?_) (fun c_ => ?_)
                      · replace h := h.1 c_
                        refine w_aload_n (dk_Mod_eval 243 rfl) rfl ?_
                        refine w_getr (dk_Mod_eval 244 rfl) lk_Mod_124 rfl rfl rfl ?_
                        refine w_iload (dk_Mod_eval 245 rfl) rfl ?_
                        refine w_iload (dk_Mod_eval 246 rfl) rfl ?_
                        obtain ⟨k11, e_k11, l_k11, h⟩ := h
                        refine w_iast (k_ := k11) (dk_Mod_eval 247 rfl) rfl (by decide) e_k11 l_k11 ?_
                        refine w_iinc (v := (x4 + (-1)) + 1) (ls' := [some (.ref 52), some (.int x1), some (.int x2), some (.int x3), some (.int ((x4 + (-1)) + 1)), some (.int x5), some (.int r9), some (.int x7), some (.int x8), some (.int x9), some (.int (aI u 67 k1)), none]) (dk_Mod_eval 248 rfl) rfl rfl (by decide) rfl ?_
                        refine w_iinc (v := x5 + 1) (ls' := [some (.ref 52), some (.int x1), some (.int x2), some (.int x3), some (.int ((x4 + (-1)) + 1)), some (.int (x5 + 1)), some (.int r9), some (.int x7), some (.int x8), some (.int x9), some (.int (aI u 67 k1)), none]) (dk_Mod_eval 249 rfl) rfl rfl (by decide) rfl ?_
                        refine w_goto 502 (dk_Mod_eval 250 rfl) (by decide) ?_
                        refine w_goto 18 (dk_Mod_eval 271 rfl) (by decide) ?_
                        exact h
                      · replace h := h.2 c_
                        refine w_iload (dk_Mod_eval 238 rfl) rfl ?_
                        refine w_iconst (v := 4) (dk_Mod_eval 239 rfl) rfl ?_
                        refine w_iadd (dk_Mod_eval 240 rfl) ?_
                        refine w_istore (ls' := [some (.ref 52), some (.int x1), some (.int x2), some (.int x3), some (.int (x4 + (-1))), some (.int (x7 + 4)), some (.int r9), some (.int x7), some (.int x8), some (.int x9), some (.int (aI u 67 k1)), none]) (dk_Mod_eval 241 rfl) (by decide) rfl ?_
                        refine w_goto 502 (dk_Mod_eval 242 rfl) (by decide) ?_
                        refine w_goto 18 (dk_Mod_eval 271 rfl) (by decide) ?_
                        exact h
                    · replace h := h.2 c_
                      refine w_aload_n (dk_Mod_eval 202 rfl) rfl ?_
                      refine w_aload_n (dk_Mod_eval 203 rfl) rfl ?_
                      refine w_getr (dk_Mod_eval 204 rfl) lk_Mod_85 rfl rfl rfl ?_
                      refine w_iload (dk_Mod_eval 205 rfl) rfl ?_
                      refine w_iconst (v := 1) (dk_Mod_eval 206 rfl) rfl ?_
                      refine w_iadd (dk_Mod_eval 207 rfl) ?_
                      obtain ⟨k12, e_k12, l_k12, h⟩ := h
                      refine w_iald (k_ := k12) (dk_Mod_eval 208 rfl) rfl (by decide) e_k12 l_k12 ?_
                      refine w_iload (dk_Mod_eval 209 rfl) rfl ?_
                      refine w_iload (dk_Mod_eval 210 rfl) rfl ?_
                      refine w_aload_n (dk_Mod_eval 211 rfl) rfl ?_
                      refine w_iload (dk_Mod_eval 212 rfl) rfl ?_
                      refine w_aload_n (dk_Mod_eval 213 rfl) rfl ?_
                      refine w_getr (dk_Mod_eval 214 rfl) lk_Mod_85 rfl rfl rfl ?_
                      refine w_iload (dk_Mod_eval 215 rfl) rfl ?_
                      refine w_iconst (v := 3) (dk_Mod_eval 216 rfl) rfl ?_
                      refine w_iadd (dk_Mod_eval 217 rfl) ?_
                      obtain ⟨k13, e_k13, l_k13, h⟩ := h
                      refine w_iald (k_ := k13) (dk_Mod_eval 218 rfl) rfl (by decide) e_k13 l_k13 ?_
                      refine w_callVi (ls' := [some (.ref 52), some (.int x6), some (.int (aI u 67 k13))]) cv_Mod_366 (dk_Mod_eval 219 rfl) (ci := 10) rfl rfl [.int x6, .int (aI u 67 k13)] [.int x9, .int x8, .int (aI u 67 k12), .ref 52] rfl rfl (Nat.le_of_ble_eq_true rfl) (Nat.le_of_ble_eq_true rfl) rfl rfl rfl h (fun r14 u15 h => ?_)
                      refine w_callVi (ls' := [some (.ref 52), some (.int (aI u 67 k12)), some (.int x8), some (.int x9), some (.int r14)]) cv_Mod_379 (dk_Mod_eval 220 rfl) (ci := 10) rfl rfl [.int (aI u 67 k12), .int x8, .int x9, .int r14] [] rfl rfl (Nat.le_of_ble_eq_true rfl) (Nat.le_of_ble_eq_true rfl) rfl rfl rfl h (fun r16 u17 h => ?_)
                      refine w_istore (ls' := [some (.ref 52), some (.int x1), some (.int x2), some (.int x3), some (.int (x4 + (-1))), some (.int x5), some (.int x6), some (.int x7), some (.int r16), some (.int x9), some (.int (aI u 67 k1)), none]) (dk_Mod_eval 221 rfl) (by decide) rfl ?_
                      refine w_iinc (v := x9 + 1) (ls' := [some (.ref 52), some (.int x1), some (.int x2), some (.int x3), some (.int (x4 + (-1))), some (.int x5), some (.int x6), some (.int x7), some (.int r16), some (.int (x9 + 1)), some (.int (aI u 67 k1)), none]) (dk_Mod_eval 222 rfl) rfl rfl (by decide) rfl ?_
                      refine w_aload_n (dk_Mod_eval 223 rfl) rfl ?_
                      refine w_aload_n (dk_Mod_eval 224 rfl) rfl ?_
                      refine w_getr (dk_Mod_eval 225 rfl) lk_Mod_85 rfl rfl rfl ?_
                      refine w_iload (dk_Mod_eval 226 rfl) rfl ?_
                      refine w_iconst (v := 2) (dk_Mod_eval 227 rfl) rfl ?_
                      refine w_iadd (dk_Mod_eval 228 rfl) ?_
                      obtain ⟨k18, e_k18, l_k18, h⟩ := h
                      refine w_iald (k_ := k18) (dk_Mod_eval 229 rfl) rfl (by decide) e_k18 l_k18 ?_
                      refine w_iload (dk_Mod_eval 230 rfl) rfl ?_
                      refine w_iconst (v := 1) (dk_Mod_eval 231 rfl) rfl ?_
                      refine w_iadd (dk_Mod_eval 232 rfl) ?_
                      refine w_callVi (ls' := [some (.ref 52), some (.int (aI u17 67 k18)), some (.int (x6 + 1)), none]) cv_Mod_373 (dk_Mod_eval 233 rfl) (ci := 10) rfl rfl [.int (aI u17 67 k18), .int (x6 + 1)] [] rfl rfl (Nat.le_of_ble_eq_true rfl) (Nat.le_of_ble_eq_true rfl) rfl rfl rfl h (fun r19 u20 h => ?_)
                      refine w_istore (ls' := [some (.ref 52), some (.int x1), some (.int x2), some (.int x3), some (.int (x4 + (-1))), some (.int x5), some (.int r19), some (.int x7), some (.int r16), some (.int (x9 + 1)), some (.int (aI u 67 k1)), none]) (dk_Mod_eval 234 rfl) (by decide) rfl ?_
                      refine w_iload (dk_Mod_eval 235 rfl) rfl ?_
                      refine w_bipush (v := 64) (dk_Mod_eval 236 rfl) rfl ?_
                      refine w_icmp_ge 448 (dk_Mod_eval 237 rfl) (by decide) (fun c_ => ?_) (fun c_ => ?_)
                      · replace h := h.1 c_
                        refine w_aload_n (dk_Mod_eval 243 rfl) rfl ?_
                        refine w_getr (dk_Mod_eval 244 rfl) lk_Mod_124 rfl rfl rfl ?_
                        refine w_iload (dk_Mod_eval 245 rfl) rfl ?_
                        refine w_iload (dk_Mod_eval 246 rfl) rfl ?_
                        obtain ⟨k21, e_k21, l_k21, h⟩ := h
                        refine w_iast (k_ := k21) (dk_Mod_eval 247 rfl) rfl (by decide) e_k21 l_k21 ?_
                        refine w_iinc (v := (x4 + (-1)) + 1) (ls' := [some (.ref 52), some (.int x1), some (.int x2), some (.int x3), some (.int ((x4 + (-1)) + 1)), some (.int x5), some (.int r19), some (.int x7), some (.int r16), some (.int (x9 + 1)), some (.int (aI u 67 k1)), none]) (dk_Mod_eval 248 rfl) rfl rfl (by decide) rfl ?_
                        refine w_iinc (v := x5 + 1) (ls' := [some (.ref 52), some (.int x1), some (.int x2), some (.int x3), some (.int ((x4 + (-1)) + 1)), some (.int (x5 + 1)), some (.int r19), some (.int x7), some (.int r16), some (.int (x9 + 1)), some (.int (aI u 67 k1)), none]) (dk_Mod_eval 249 rfl) rfl rfl (by decide) rfl ?_
                        refine w_goto 502 (dk_Mod_eval 250 rfl) (by decide) ?_
                        refine w_goto 18 (dk_Mod_eval 271 rfl) (by decide) ?_
                        exact h
                      · replace h := h.2 c_
                        refine w_iload (dk_Mod_eval 238 rfl) rfl ?_
                        refine w_iconst (v := 4) (dk_Mod_eval 239 rfl) rfl ?_
                        refine w_iadd (dk_Mod_eval 240 rfl) ?_
                        refine w_istore (ls' := [some (.ref 52), some (.int x1), some (.int x2), some (.int x3), some (.int (x4 + (-1))), some (.int (x7 + 4)), some (.int r19), some (.int x7), some (.int r16), some (.int (x9 + 1)), some (.int (aI u 67 k1)), none]) (dk_Mod_eval 241 rfl) (by decide) rfl ?_
                        refine w_goto 502 (dk_Mod_eval 242 rfl) (by decide) ?_
                        refine w_goto 18 (dk_Mod_eval 271 rfl) (by decide) ?_
                        exact h
                · replace h := h.2 c_
                  refine w_iload (dk_Mod_eval 156 rfl) rfl ?_
                  refine w_istore (ls' := [some (.ref 52), some (.int x1), some (.int x2), some (.int x3), some (.int x4), some (.int x5), some (.int x6), some (.int x5), some (.int x8), some (.int x9), some (.int (aI u 67 k1)), none]) (dk_Mod_eval 157 rfl) (by decide) rfl ?_
                  refine w_iconst (v := 0) (dk_Mod_eval 158 rfl) rfl ?_
                  refine w_istore (ls' := [some (.ref 52), some (.int x1), some (.int x2), some (.int x3), some (.int x4), some (.int x5), some (.int x6), some (.int x5), some (.int 0), some (.int x9), some (.int (aI u 67 k1)), none]) (dk_Mod_eval 159 rfl) (by decide) rfl ?_
                  refine w_iconst (v := 0) (dk_Mod_eval 160 rfl) rfl ?_
                  refine w_istore (ls' := [some (.ref 52), some (.int x1), some (.int x2), some (.int x3), some (.int x4), some (.int x5), some (.int x6), some (.int x5), some (.int 0), some (.int 0), some (.int (aI u 67 k1)), none]) (dk_Mod_eval 161 rfl) (by decide) rfl ?_
                  refine w_aload_n (dk_Mod_eval 162 rfl) rfl ?_
                  refine w_aload_n (dk_Mod_eval 163 rfl) rfl ?_
                  refine w_getr (dk_Mod_eval 164 rfl) lk_Mod_85 rfl rfl rfl ?_
                  refine w_iload (dk_Mod_eval 165 rfl) rfl ?_
                  refine w_iconst (v := 2) (dk_Mod_eval 166 rfl) rfl ?_
                  refine w_iadd (dk_Mod_eval 167 rfl) ?_
                  obtain ⟨k22, e_k22, l_k22, h⟩ := h
                  refine w_iald (k_ := k22) (dk_Mod_eval 168 rfl) rfl (by decide) e_k22 l_k22 ?_
                  refine w_iconst (v := 0) (dk_Mod_eval 169 rfl) rfl ?_
                  refine w_callVi (ls' := [some (.ref 52), some (.int (aI u 67 k22)), some (.int 0), none]) cv_Mod_373 (dk_Mod_eval 170 rfl) (ci := 10) rfl rfl [.int (aI u 67 k22), .int 0] [] rfl rfl (Nat.le_of_ble_eq_true rfl) (Nat.le_of_ble_eq_true rfl) rfl rfl rfl h (fun r23 u24 h => ?_)
                  refine w_istore (ls' := [some (.ref 52), some (.int x1), some (.int x2), some (.int x3), some (.int x4), some (.int x5), some (.int r23), some (.int x5), some (.int 0), some (.int 0), some (.int (aI u 67 k1)), none]) (dk_Mod_eval 171 rfl) (by decide) rfl ?_
                  refine w_iload (dk_Mod_eval 172 rfl) rfl ?_
                  refine w_bipush (v := 64) (dk_Mod_eval 173 rfl) rfl ?_
                  refine w_icmp_ge 327 (dk_Mod_eval 174 rfl) (by decide) (fun c_ => ?_) (fun c_ => ?_)
                  · replace h := h.1 c_
                    refine w_aload_n (dk_Mod_eval 179 rfl) rfl ?_
                    refine w_iload (dk_Mod_eval 180 rfl) rfl ?_
                    refine w_callVi (ls' := [some (.ref 52), some (.int x5), none]) cv_Mod_376 (dk_Mod_eval 181 rfl) (ci := 10) rfl rfl [.int x5] [] rfl rfl (Nat.le_of_ble_eq_true rfl) (Nat.le_of_ble_eq_true rfl) rfl rfl rfl h (fun r25 u26 h => ?_)
                    refine w_istore (ls' := [some (.ref 52), some (.int x1), some (.int x2), some (.int x3), some (.int x4), some (.int r25), some (.int r23), some (.int x5), some (.int 0), some (.int 0), some (.int (aI u 67 k1)), none]) (dk_Mod_eval 182 rfl) (by decide) rfl ?_
                    refine w_iload (dk_Mod_eval 183 rfl) rfl ?_
                    refine w_bipush (v := 64) (dk_Mod_eval 184 rfl) rfl ?_
                    refine w_icmp_ne 502 (dk_Mod_eval 185 rfl) (by decide) (fun c_ => ?_) (fun c_ => ?_)
                    · replace h := h.1 c_
                      refine w_goto 18 (dk_Mod_eval 271 rfl) (by decide) ?_
                      exact h
                    · replace h := h.2 c_
                      refine w_aload_n (dk_Mod_eval 186 rfl) rfl ?_
                      refine w_getr (dk_Mod_eval 187 rfl) lk_Mod_124 rfl rfl rfl ?_
                      refine w_iload (dk_Mod_eval 188 rfl) rfl ?_
                      refine w_iconst (v := 0) (dk_Mod_eval 189 rfl) rfl ?_
                      obtain ⟨k27, e_k27, l_k27, h⟩ := h
                      refine w_iast (k_ := k27) (dk_Mod_eval 190 rfl) rfl (by decide) e_k27 l_k27 ?_
                      refine w_iinc (v := x4 + 1) (ls' := [some (.ref 52), some (.int x1), some (.int x2), some (.int x3), some (.int (x4 + 1)), some (.int r25), some (.int r23), some (.int x5), some (.int 0), some (.int 0), some (.int (aI u 67 k1)), none]) (dk_Mod_eval 191 rfl) rfl rfl (by decide) rfl ?_
                      refine w_goto 502 (dk_Mod_eval 192 rfl) (by decide) ?_
                      refine w_goto 18 (dk_Mod_eval 271 rfl) (by decide) ?_
                      exact h
                  · replace h := h.2 c_
                    refine w_iload (dk_Mod_eval 175 rfl) rfl ?_
                    refine w_iconst (v := 4) (dk_Mod_eval 176 rfl) rfl ?_
                    refine w_iadd (dk_Mod_eval 177 rfl) ?_
                    refine w_goto 333 (dk_Mod_eval 178 rfl) (by decide) ?_
                    refine w_istore (ls' := [some (.ref 52), some (.int x1), some (.int x2), some (.int x3), some (.int x4), some (.int (x5 + 4)), some (.int r23), some (.int x5), some (.int 0), some (.int 0), some (.int (aI u 67 k1)), none]) (dk_Mod_eval 182 rfl) (by decide) rfl ?_
                    refine w_iload (dk_Mod_eval 183 rfl) rfl ?_
                    refine w_bipush (v := 64) (dk_Mod_eval 184 rfl) rfl ?_
                    refine w_icmp_ne 502 (dk_Mod_eval 185 rfl) (by decide) (fun c_ => ?_) (fun c_ => ?_)
                    · replace h := h.1 c_
                      refine w_goto 18 (dk_Mod_eval 271 rfl) (by decide) ?_
                      exact h
                    · replace h := h.2 c_
                      refine w_aload_n (dk_Mod_eval 186 rfl) rfl ?_
                      refine w_getr (dk_Mod_eval 187 rfl) lk_Mod_124 rfl rfl rfl ?_
                      refine w_iload (dk_Mod_eval 188 rfl) rfl ?_
                      refine w_iconst (v := 0) (dk_Mod_eval 189 rfl) rfl ?_
                      obtain ⟨k28, e_k28, l_k28, h⟩ := h
                      refine w_iast (k_ := k28) (dk_Mod_eval 190 rfl) rfl (by decide) e_k28 l_k28 ?_
                      refine w_iinc (v := x4 + 1) (ls' := [some (.ref 52), some (.int x1), some (.int x2), some (.int x3), some (.int (x4 + 1)), some (.int (x5 + 4)), some (.int r23), some (.int x5), some (.int 0), some (.int 0), some (.int (aI u 67 k1)), none]) (dk_Mod_eval 191 rfl) rfl rfl (by decide) rfl ?_
                      refine w_goto 502 (dk_Mod_eval 192 rfl) (by decide) ?_
                      refine w_goto 18 (dk_Mod_eval 271 rfl) (by decide) ?_
                      exact h
              · replace h := h.2 c_
                exact h
          · replace h := h.2 c_
            refine w_aload_n (dk_Mod_eval 79 rfl) rfl ?_
            refine w_getr (dk_Mod_eval 80 rfl) lk_Mod_85 rfl rfl rfl ?_
            refine w_iload (dk_Mod_eval 81 rfl) rfl ?_
            refine w_iconst (v := 1) (dk_Mod_eval 82 rfl) rfl ?_
            refine w_iadd (dk_Mod_eval 83 rfl) ?_
            obtain ⟨k29, e_k29, l_k29, h⟩ := h
            refine w_iald (k_ := k29) (dk_Mod_eval 84 rfl) rfl (by decide) e_k29 l_k29 ?_
            refine w_istore (ls' := [some (.ref 52), some (.int x1), some (.int x2), some (.int x3), some (.int x4), some (.int x5), some (.int x6), some (.int x7), some (.int x8), some (.int x9), some (.int (aI u 67 k1)), some (.int (aI u 67 k29))]) (dk_Mod_eval 85 rfl) (by decide) rfl ?_
            refine w_aload_n (dk_Mod_eval 86 rfl) rfl ?_
            refine w_getr (dk_Mod_eval 87 rfl) lk_Mod_124 rfl rfl rfl ?_
            refine w_iload (dk_Mod_eval 88 rfl) rfl ?_
            refine w_aload_n (dk_Mod_eval 89 rfl) rfl ?_
            refine w_iload (dk_Mod_eval 90 rfl) rfl ?_
            refine w_callVi (ls' := [some (.ref 52), some (.int (aI u 67 k29)), none, none]) cv_Mod_370 (dk_Mod_eval 91 rfl) (ci := 10) rfl rfl [.int (aI u 67 k29)] [.int x4, .ref 73] rfl rfl (Nat.le_of_ble_eq_true rfl) (Nat.le_of_ble_eq_true rfl) rfl rfl rfl h (fun r30 u31 h => ?_)
            refine w_if_eq 205 (dk_Mod_eval 92 rfl) (by decide) (fun c_ => ?_) (fun c_ => ?_)
            · replace h := h.1 c_
              refine w_iconst (v := 0) (dk_Mod_eval 113 rfl) rfl ?_
              obtain ⟨k32, e_k32, l_k32, h⟩ := h
              refine w_iast (k_ := k32) (dk_Mod_eval 114 rfl) rfl (by decide) e_k32 l_k32 ?_
              refine w_iinc (v := x4 + 1) (ls' := [some (.ref 52), some (.int x1), some (.int x2), some (.int x3), some (.int (x4 + 1)), some (.int x5), some (.int x6), some (.int x7), some (.int x8), some (.int x9), some (.int (aI u 67 k1)), some (.int (aI u 67 k29))]) (dk_Mod_eval 115 rfl) rfl rfl (by decide) rfl ?_
              refine w_iinc (v := x5 + 3) (ls' := [some (.ref 52), some (.int x1), some (.int x2), some (.int x3), some (.int (x4 + 1)), some (.int (x5 + 3)), some (.int x6), some (.int x7), some (.int x8), some (.int x9), some (.int (aI u 67 k1)), some (.int (aI u 67 k29))]) (dk_Mod_eval 116 rfl) rfl rfl (by decide) rfl ?_
              refine w_goto 502 (dk_Mod_eval 117 rfl) (by decide) ?_
              refine w_goto 18 (dk_Mod_eval 271 rfl) (by decide) ?_
              exact h
            · replace h := h.2 c_
              refine w_aload_n (dk_Mod_eval 93 rfl) rfl ?_
              refine w_aload_n (dk_Mod_eval 94 rfl) rfl ?_
              refine w_getr (dk_Mod_eval 95 rfl) lk_Mod_133 rfl rfl rfl ?_
              refine w_bipush (v := 64) (dk_Mod_eval 96 rfl) rfl ?_
              refine w_iload (dk_Mod_eval 97 rfl) rfl ?_
              refine w_imul (dk_Mod_eval 98 rfl) ?_
              refine w_aload_n (dk_Mod_eval 99 rfl) rfl ?_
              refine w_getr (dk_Mod_eval 100 rfl) lk_Mod_142 rfl rfl rfl ?_
              refine w_iload (dk_Mod_eval 101 rfl) rfl ?_
              obtain ⟨k33, e_k33, l_k33, h⟩ := h
              refine w_iald (k_ := k33) (dk_Mod_eval 102 rfl) rfl (by decide) e_k33 l_k33 ?_
              refine w_iadd (dk_Mod_eval 103 rfl) ?_
              obtain ⟨k34, e_k34, l_k34, h⟩ := h
              refine w_iald (k_ := k34) (dk_Mod_eval 104 rfl) rfl (by decide) e_k34 l_k34 ?_
              refine w_aload_n (dk_Mod_eval 105 rfl) rfl ?_
              refine w_getr (dk_Mod_eval 106 rfl) lk_Mod_85 rfl rfl rfl ?_
              refine w_iload (dk_Mod_eval 107 rfl) rfl ?_
              refine w_iconst (v := 2) (dk_Mod_eval 108 rfl) rfl ?_
              refine w_iadd (dk_Mod_eval 109 rfl) ?_
              obtain ⟨k35, e_k35, l_k35, h⟩ := h
              refine w_iald (k_ := k35) (dk_Mod_eval 110 rfl) rfl (by decide) e_k35 l_k35 ?_
              refine w_callVi (ls' := [some (.ref 52), some (.int (aI u31 75 k34)), some (.int (aI u31 67 k35))]) cv_Mod_366 (dk_Mod_eval 111 rfl) (ci := 10) rfl rfl [.int (aI u31 75 k34), .int (aI u31 67 k35)] [.int x4, .ref 73] rfl rfl (Nat.le_of_ble_eq_true rfl) (Nat.le_of_ble_eq_true rfl) rfl rfl rfl h (fun r36 u37 h => ?_)
              refine w_goto 206 (dk_Mod_eval 112 rfl) (by decide) ?_
              obtain ⟨k38, e_k38, l_k38, h⟩ := h
              refine w_iast (k_ := k38) (dk_Mod_eval 114 rfl) rfl (by decide) e_k38 l_k38 ?_
              refine w_iinc (v := x4 + 1) (ls' := [some (.ref 52), some (.int x1), some (.int x2), some (.int x3), some (.int (x4 + 1)), some (.int x5), some (.int x6), some (.int x7), some (.int x8), some (.int x9), some (.int (aI u 67 k1)), some (.int (aI u 67 k29))]) (dk_Mod_eval 115 rfl) rfl rfl (by decide) rfl ?_
              refine w_iinc (v := x5 + 3) (ls' := [some (.ref 52), some (.int x1), some (.int x2), some (.int x3), some (.int (x4 + 1)), some (.int (x5 + 3)), some (.int x6), some (.int x7), some (.int x8), some (.int x9), some (.int (aI u 67 k1)), some (.int (aI u 67 k29))]) (dk_Mod_eval 116 rfl) rfl rfl (by decide) rfl ?_
              refine w_goto 502 (dk_Mod_eval 117 rfl) (by decide) ?_
              refine w_goto 18 (dk_Mod_eval 271 rfl) (by decide) ?_
              exact h
        · replace h := h.2 c_
          refine w_aload_n (dk_Mod_eval 60 rfl) rfl ?_
          refine w_getr (dk_Mod_eval 61 rfl) lk_Mod_124 rfl rfl rfl ?_
          refine w_iload (dk_Mod_eval 62 rfl) rfl ?_
          refine w_aload_n (dk_Mod_eval 63 rfl) rfl ?_
          refine w_iload (dk_Mod_eval 64 rfl) rfl ?_
          refine w_aload_n (dk_Mod_eval 65 rfl) rfl ?_
          refine w_getr (dk_Mod_eval 66 rfl) lk_Mod_85 rfl rfl rfl ?_
          refine w_iload (dk_Mod_eval 67 rfl) rfl ?_
          refine w_iconst (v := 1) (dk_Mod_eval 68 rfl) rfl ?_
          refine w_iadd (dk_Mod_eval 69 rfl) ?_
          obtain ⟨k39, e_k39, l_k39, h⟩ := h
          refine w_iald (k_ := k39) (dk_Mod_eval 70 rfl) rfl (by decide) e_k39 l_k39 ?_
          refine w_callVi (ls' := [some (.ref 52), some (.int x6), some (.int (aI u 67 k39))]) cv_Mod_366 (dk_Mod_eval 71 rfl) (ci := 10) rfl rfl [.int x6, .int (aI u 67 k39)] [.int x4, .ref 73] rfl rfl (Nat.le_of_ble_eq_true rfl) (Nat.le_of_ble_eq_true rfl) rfl rfl rfl h (fun r40 u41 h => ?_)
          obtain ⟨k42, e_k42, l_k42, h⟩ := h
          refine w_iast (k_ := k42) (dk_Mod_eval 72 rfl) rfl (by decide) e_k42 l_k42 ?_
          refine w_iinc (v := x4 + 1) (ls' := [some (.ref 52), some (.int x1), some (.int x2), some (.int x3), some (.int (x4 + 1)), some (.int x5), some (.int x6), some (.int x7), some (.int x8), some (.int x9), some (.int (aI u 67 k1)), none]) (dk_Mod_eval 73 rfl) rfl rfl (by decide) rfl ?_
          refine w_iinc (v := x5 + 2) (ls' := [some (.ref 52), some (.int x1), some (.int x2), some (.int x3), some (.int (x4 + 1)), some (.int (x5 + 2)), some (.int x6), some (.int x7), some (.int x8), some (.int x9), some (.int (aI u 67 k1)), none]) (dk_Mod_eval 74 rfl) rfl rfl (by decide) rfl ?_
          refine w_goto 502 (dk_Mod_eval 75 rfl) (by decide) ?_
          refine w_goto 18 (dk_Mod_eval 271 rfl) (by decide) ?_
          exact h
      · replace h := h.2 c_
        refine w_aload_n (dk_Mod_eval 41 rfl) rfl ?_
        refine w_getr (dk_Mod_eval 42 rfl) lk_Mod_124 rfl rfl rfl ?_
        refine w_iload (dk_Mod_eval 43 rfl) rfl ?_
        refine w_aload_n (dk_Mod_eval 44 rfl) rfl ?_
        refine w_getr (dk_Mod_eval 45 rfl) lk_Mod_42 rfl rfl rfl ?_
        refine w_aload_n (dk_Mod_eval 46 rfl) rfl ?_
        refine w_getr (dk_Mod_eval 47 rfl) lk_Mod_85 rfl rfl rfl ?_
        refine w_iload (dk_Mod_eval 48 rfl) rfl ?_
        refine w_iconst (v := 1) (dk_Mod_eval 49 rfl) rfl ?_
        refine w_iadd (dk_Mod_eval 50 rfl) ?_
        obtain ⟨k43, e_k43, l_k43, h⟩ := h
        refine w_iald (k_ := k43) (dk_Mod_eval 51 rfl) rfl (by decide) e_k43 l_k43 ?_
        obtain ⟨k44, e_k44, l_k44, h⟩ := h
        refine w_iald (k_ := k44) (dk_Mod_eval 52 rfl) rfl (by decide) e_k44 l_k44 ?_
        obtain ⟨k45, e_k45, l_k45, h⟩ := h
        refine w_iast (k_ := k45) (dk_Mod_eval 53 rfl) rfl (by decide) e_k45 l_k45 ?_
        refine w_iinc (v := x4 + 1) (ls' := [some (.ref 52), some (.int x1), some (.int x2), some (.int x3), some (.int (x4 + 1)), some (.int x5), some (.int x6), some (.int x7), some (.int x8), some (.int x9), some (.int (aI u 67 k1)), none]) (dk_Mod_eval 54 rfl) rfl rfl (by decide) rfl ?_
        refine w_iinc (v := x5 + 2) (ls' := [some (.ref 52), some (.int x1), some (.int x2), some (.int x3), some (.int (x4 + 1)), some (.int (x5 + 2)), some (.int x6), some (.int x7), some (.int x8), some (.int x9), some (.int (aI u 67 k1)), none]) (dk_Mod_eval 55 rfl) rfl rfl (by decide) rfl ?_
        refine w_goto 502 (dk_Mod_eval 56 rfl) (by decide) ?_
        refine w_goto 18 (dk_Mod_eval 271 rfl) (by decide) ?_
        exact h
    · replace h := h.2 c_
      refine w_aload_n (dk_Mod_eval 25 rfl) rfl ?_
      refine w_getr (dk_Mod_eval 26 rfl) lk_Mod_124 rfl rfl rfl ?_
      refine w_iload (dk_Mod_eval 27 rfl) rfl ?_
      refine w_aload_n (dk_Mod_eval 28 rfl) rfl ?_
      refine w_getr (dk_Mod_eval 29 rfl) lk_Mod_85 rfl rfl rfl ?_
      refine w_iload (dk_Mod_eval 30 rfl) rfl ?_
      refine w_iconst (v := 1) (dk_Mod_eval 31 rfl) rfl ?_
      refine w_iadd (dk_Mod_eval 32 rfl) ?_
      obtain ⟨k46, e_k46, l_k46, h⟩ := h
      refine w_iald (k_ := k46) (dk_Mod_eval 33 rfl) rfl (by decide) e_k46 l_k46 ?_
      obtain ⟨k47, e_k47, l_k47, h⟩ := h
      refine w_iast (k_ := k47) (dk_Mod_eval 34 rfl) rfl (by decide) e_k47 l_k47 ?_
      refine w_iinc (v := x4 + 1) (ls' := [some (.ref 52), some (.int x1), some (.int x2), some (.int x3), some (.int (x4 + 1)), some (.int x5), some (.int x6), some (.int x7), some (.int x8), some (.int x9), some (.int (aI u 67 k1)), none]) (dk_Mod_eval 35 rfl) rfl rfl (by decide) rfl ?_
      refine w_iinc (v := x5 + 2) (ls' := [some (.ref 52), some (.int x1), some (.int x2), some (.int x3), some (.int (x4 + 1)), some (.int (x5 + 2)), some (.int x6), some (.int x7), some (.int x8), some (.int x9), some (.int (aI u 67 k1)), none]) (dk_Mod_eval 36 rfl) rfl rfl (by decide) rfl ?_
      refine w_goto 502 (dk_Mod_eval 37 rfl) (by decide) ?_
      refine w_goto 18 (dk_Mod_eval 271 rfl) (by decide) ?_
      exact h
theorem g_Mod_eval_229 {d : Nat} {u : Us} {Q : Ot → Us → Prop} (x1 : Int32) (x2 : Int32) (x3 : Int32) (x4 : Int32) (x5 : Int32) (x6 : Int32) (x7 : Int32) (x8 : Int32) (x9 : Int32) (x10 : Int32)
    (h : (x10 ≠ 5 → ∃ k1 : Nat, x4 - 1 = nI k1 ∧ k1 < 200 ∧ (((aI u 73 k1) ≠ 0 → ∃ k2 : Nat, x4 - 1 = nI k2 ∧ k2 < 200 ∧ (WS (d + 1) m_Mod_eval 18 [some (.ref 52), some (.int x1), some (.int x2), some (.int x3), some (.int x4), some (.int (x5 + 1)), some (.int x6), some (.int x7), some (.int x8), some (.int x9), some (.int x10), none] [] (uI u 73 k2 0) Q)) ∧ ((aI u 73 k1) = 0 → ∃ k3 : Nat, x4 - 1 = nI k3 ∧ k3 < 200 ∧ (WS (d + 1) m_Mod_eval 18 [some (.ref 52), some (.int x1), some (.int x2), some (.int x3), some (.int x4), some (.int (x5 + 1)), some (.int x6), some (.int x7), some (.int x8), some (.int x9), some (.int x10), none] [] (uI u 73 k3 1) Q)))) ∧ (x10 = 5 → ∃ k4 : Nat, x4 - 1 = nI k4 ∧ k4 < 200 ∧ (∃ k5 : Nat, x4 - 1 = nI k5 ∧ k5 < 200 ∧ (WS (d + 1) m_Mod_eval 18 [some (.ref 52), some (.int x1), some (.int x2), some (.int x3), some (.int x4), some (.int (x5 + 1)), some (.int x6), some (.int x7), some (.int x8), some (.int x9), some (.int x10), none] [] (uI u 73 k5 (-(aI u 73 k4))) Q)))) :
    WS (d + 1) m_Mod_eval 229 [some (.ref 52), some (.int x1), some (.int x2), some (.int x3), some (.int x4), some (.int x5), some (.int x6), some (.int x7), some (.int x8), some (.int x9), some (.int x10), none] [] u Q := by
  refine w_aload_n (dk_Mod_eval 124 rfl) rfl ?_
  refine w_getr (dk_Mod_eval 125 rfl) lk_Mod_124 rfl rfl rfl ?_
  refine w_iload (dk_Mod_eval 126 rfl) rfl ?_
  refine w_iconst (v := 1) (dk_Mod_eval 127 rfl) rfl ?_
  refine w_isub (dk_Mod_eval 128 rfl) ?_
  refine w_iload (dk_Mod_eval 129 rfl) rfl ?_
  refine w_iconst (v := 5) (dk_Mod_eval 130 rfl) rfl ?_
  refine w_icmp_ne 256 (dk_Mod_eval 131 rfl) (by decide) (fun c_ => ?_) (fun c_ => ?_)
  · replace h := h.1 c_
    refine w_aload_n (dk_Mod_eval 140 rfl) rfl ?_
    refine w_getr (dk_Mod_eval 141 rfl) lk_Mod_124 rfl rfl rfl ?_
    refine w_iload (dk_Mod_eval 142 rfl) rfl ?_
    refine w_iconst (v := 1) (dk_Mod_eval 143 rfl) rfl ?_
    refine w_isub (dk_Mod_eval 144 rfl) ?_
    obtain ⟨k1, e_k1, l_k1, h⟩ := h
    refine w_iald (k_ := k1) (dk_Mod_eval 145 rfl) rfl (by decide) e_k1 l_k1 ?_
    refine w_if_ne 272 (dk_Mod_eval 146 rfl) (by decide) (fun c_ => ?_) (fun c_ => ?_)
    · replace h := h.1 c_
      refine w_iconst (v := 0) (dk_Mod_eval 149 rfl) rfl ?_
      obtain ⟨k2, e_k2, l_k2, h⟩ := h
      refine w_iast (k_ := k2) (dk_Mod_eval 150 rfl) rfl (by decide) e_k2 l_k2 ?_
      refine w_iinc (v := x5 + 1) (ls' := [some (.ref 52), some (.int x1), some (.int x2), some (.int x3), some (.int x4), some (.int (x5 + 1)), some (.int x6), some (.int x7), some (.int x8), some (.int x9), some (.int x10), none]) (dk_Mod_eval 151 rfl) rfl rfl (by decide) rfl ?_
      refine w_goto 502 (dk_Mod_eval 152 rfl) (by decide) ?_
      refine w_goto 18 (dk_Mod_eval 271 rfl) (by decide) ?_
      exact h
    · replace h := h.2 c_
      refine w_iconst (v := 1) (dk_Mod_eval 147 rfl) rfl ?_
      refine w_goto 273 (dk_Mod_eval 148 rfl) (by decide) ?_
      obtain ⟨k3, e_k3, l_k3, h⟩ := h
      refine w_iast (k_ := k3) (dk_Mod_eval 150 rfl) rfl (by decide) e_k3 l_k3 ?_
      refine w_iinc (v := x5 + 1) (ls' := [some (.ref 52), some (.int x1), some (.int x2), some (.int x3), some (.int x4), some (.int (x5 + 1)), some (.int x6), some (.int x7), some (.int x8), some (.int x9), some (.int x10), none]) (dk_Mod_eval 151 rfl) rfl rfl (by decide) rfl ?_
      refine w_goto 502 (dk_Mod_eval 152 rfl) (by decide) ?_
      refine w_goto 18 (dk_Mod_eval 271 rfl) (by decide) ?_
      exact h
  · replace h := h.2 c_
    refine w_aload_n (dk_Mod_eval 132 rfl) rfl ?_
    refine w_getr (dk_Mod_eval 133 rfl) lk_Mod_124 rfl rfl rfl ?_
    refine w_iload (dk_Mod_eval 134 rfl) rfl ?_
    refine w_iconst (v := 1) (dk_Mod_eval 135 rfl) rfl ?_
    refine w_isub (dk_Mod_eval 136 rfl) ?_
    obtain ⟨k4, e_k4, l_k4, h⟩ := h
    refine w_iald (k_ := k4) (dk_Mod_eval 137 rfl) rfl (by decide) e_k4 l_k4 ?_
    refine w_ineg (dk_Mod_eval 138 rfl) ?_
    refine w_goto 273 (dk_Mod_eval 139 rfl) (by decide) ?_
    obtain ⟨k5, e_k5, l_k5, h⟩ := h
    refine w_iast (k_ := k5) (dk_Mod_eval 150 rfl) rfl (by decide) e_k5 l_k5 ?_
    refine w_iinc (v := x5 + 1) (ls' := [some (.ref 52), some (.int x1), some (.int x2), some (.int x3), some (.int x4), some (.int (x5 + 1)), some (.int x6), some (.int x7), some (.int x8), some (.int x9), some (.int x10), none]) (dk_Mod_eval 151 rfl) rfl rfl (by decide) rfl ?_
    refine w_goto 502 (dk_Mod_eval 152 rfl) (by decide) ?_
    refine w_goto 18 (dk_Mod_eval 271 rfl) (by decide) ?_
    exact h
theorem g_Mod_valueOf_0 {d : Nat} {u : Us} {Q : Ot → Us → Prop} (p1 : Int32) (p2 : Int32)
    (h : ∃ k1 : Nat, p1 = nI k1 ∧ k1 < 64 ∧ (((aI u 60 k1) ≠ 0 → ∃ k2 : Nat, (6 * p1) + p2 = nI k2 ∧ k2 < 384 ∧ (Q (.inl (some (.int (aI u 61 k2)))) u)) ∧ ((aI u 60 k1) = 0 → Q (.inl (some (.int 0))) u))) :
    WS d m_Mod_valueOf 0 [some (.ref 52), some (.int p1), some (.int p2)] [] u Q := by
  refine w_aload_n (dk_Mod_valueOf 0 rfl) rfl ?_
  refine w_getr (dk_Mod_valueOf 1 rfl) lk_Mod_45 rfl rfl rfl ?_
  refine w_iload_n (dk_Mod_valueOf 2 rfl) rfl ?_
  obtain ⟨k1, e_k1, l_k1, h⟩ := h
  refine w_iald (k_ := k1) (dk_Mod_valueOf 3 rfl) rfl (by decide) e_k1 l_k1 ?_
  refine w_if_ne 13 (dk_Mod_valueOf 4 rfl) (by decide) (fun c_ => ?_) (fun c_ => ?_)
  · replace h := h.1 c_
    refine w_aload_n (dk_Mod_valueOf 7 rfl) rfl ?_
    refine w_getr (dk_Mod_valueOf 8 rfl) lk_Mod_48 rfl rfl rfl ?_
    refine w_bipush (v := 6) (dk_Mod_valueOf 9 rfl) rfl ?_
    refine w_iload_n (dk_Mod_valueOf 10 rfl) rfl ?_
    refine w_imul (dk_Mod_valueOf 11 rfl) ?_
    refine w_iload_n (dk_Mod_valueOf 12 rfl) rfl ?_
    refine w_iadd (dk_Mod_valueOf 13 rfl) ?_
    obtain ⟨k2, e_k2, l_k2, h⟩ := h
    refine w_iald (k_ := k2) (dk_Mod_valueOf 14 rfl) rfl (by decide) e_k2 l_k2 ?_
    exact w_iret (dk_Mod_valueOf 15 rfl) rfl h
  · replace h := h.2 c_
    refine w_iconst (v := 0) (dk_Mod_valueOf 5 rfl) rfl ?_
    refine w_goto 24 (dk_Mod_valueOf 6 rfl) (by decide) ?_
    exact w_iret (dk_Mod_valueOf 15 rfl) rfl h
theorem g_Mod_cursorThere_0 {d : Nat} {u : Us} {Q : Ot → Us → Prop} (p1 : Int32)
    (h : ∃ k1 : Nat, p1 = nI k1 ∧ k1 < 12 ∧ (∃ k2 : Nat, (64 * p1) + (aI u 78 k1) = nI k2 ∧ k2 < 768 ∧ (∃ k3 : Nat, aI u 75 k2 = nI k3 ∧ k3 < 64 ∧ (((aI u 60 k3) = 0 → Q (.inl (some (.int 0))) u) ∧ (¬ ((aI u 60 k3) = 0) → ∃ k4 : Nat, aI u 75 k2 = nI k4 ∧ k4 < 64 ∧ (∃ k5 : Nat, (64 * p1) + (aI u 78 k1) = nI k5 ∧ k5 < 768 ∧ (((aI u 62 k4) ≠ (aI u 76 k5) → Q (.inl (some (.int 0))) u) ∧ ((aI u 62 k4) = (aI u 76 k5) → Q (.inl (some (.int 1))) u)))))))) :
    WS d m_Mod_cursorThere 0 [some (.ref 52), some (.int p1), none, none] [] u Q := by
  refine w_bipush (v := 64) (dk_Mod_cursorThere 0 rfl) rfl ?_
  refine w_iload_n (dk_Mod_cursorThere 1 rfl) rfl ?_
  refine w_imul (dk_Mod_cursorThere 2 rfl) ?_
  refine w_aload_n (dk_Mod_cursorThere 3 rfl) rfl ?_
  refine w_getr (dk_Mod_cursorThere 4 rfl) lk_Mod_142 rfl rfl rfl ?_
  refine w_iload_n (dk_Mod_cursorThere 5 rfl) rfl ?_
  obtain ⟨k1, e_k1, l_k1, h⟩ := h
  refine w_iald (k_ := k1) (dk_Mod_cursorThere 6 rfl) rfl (by decide) e_k1 l_k1 ?_
  refine w_iadd (dk_Mod_cursorThere 7 rfl) ?_
  refine w_istore_n (ls' := [some (.ref 52), some (.int p1), some (.int ((64 * p1) + (aI u 78 k1))), none]) (dk_Mod_cursorThere 8 rfl) (by decide) rfl ?_
  refine w_aload_n (dk_Mod_cursorThere 9 rfl) rfl ?_
  refine w_getr (dk_Mod_cursorThere 10 rfl) lk_Mod_133 rfl rfl rfl ?_
  refine w_iload_n (dk_Mod_cursorThere 11 rfl) rfl ?_
  obtain ⟨k2, e_k2, l_k2, h⟩ := h
  refine w_iald (k_ := k2) (dk_Mod_cursorThere 12 rfl) rfl (by decide) e_k2 l_k2 ?_
  refine w_istore_n (ls' := [some (.ref 52), some (.int p1), some (.int ((64 * p1) + (aI u 78 k1))), some (.int (aI u 75 k2))]) (dk_Mod_cursorThere 13 rfl) (by decide) rfl ?_
  refine w_aload_n (dk_Mod_cursorThere 14 rfl) rfl ?_
  refine w_getr (dk_Mod_cursorThere 15 rfl) lk_Mod_45 rfl rfl rfl ?_
  refine w_iload_n (dk_Mod_cursorThere 16 rfl) rfl ?_
  obtain ⟨k3, e_k3, l_k3, h⟩ := h
  refine w_iald (k_ := k3) (dk_Mod_cursorThere 17 rfl) rfl (by decide) e_k3 l_k3 ?_
  refine w_if_eq 47 (dk_Mod_cursorThere 18 rfl) (by decide) (fun c_ => ?_) (fun c_ => ?_)
  · replace h := h.1 c_
    refine w_iconst (v := 0) (dk_Mod_cursorThere 30 rfl) rfl ?_
    exact w_bret (dk_Mod_cursorThere 31 rfl) rfl (Or.inl rfl) h
  · replace h := h.2 c_
    refine w_aload_n (dk_Mod_cursorThere 19 rfl) rfl ?_
    refine w_getr (dk_Mod_cursorThere 20 rfl) lk_Mod_51 rfl rfl rfl ?_
    refine w_iload_n (dk_Mod_cursorThere 21 rfl) rfl ?_
    obtain ⟨k4, e_k4, l_k4, h⟩ := h
    refine w_iald (k_ := k4) (dk_Mod_cursorThere 22 rfl) rfl (by decide) e_k4 l_k4 ?_
    refine w_aload_n (dk_Mod_cursorThere 23 rfl) rfl ?_
    refine w_getr (dk_Mod_cursorThere 24 rfl) lk_Mod_136 rfl rfl rfl ?_
    refine w_iload_n (dk_Mod_cursorThere 25 rfl) rfl ?_
    obtain ⟨k5, e_k5, l_k5, h⟩ := h
    refine w_iald (k_ := k5) (dk_Mod_cursorThere 26 rfl) rfl (by decide) e_k5 l_k5 ?_
    refine w_icmp_ne 47 (dk_Mod_cursorThere 27 rfl) (by decide) (fun c_ => ?_) (fun c_ => ?_)
    · replace h := h.1 c_
      refine w_iconst (v := 0) (dk_Mod_cursorThere 30 rfl) rfl ?_
      exact w_bret (dk_Mod_cursorThere 31 rfl) rfl (Or.inl rfl) h
    · replace h := h.2 c_
      refine w_iconst (v := 1) (dk_Mod_cursorThere 28 rfl) rfl ?_
      refine w_goto 48 (dk_Mod_cursorThere 29 rfl) (by decide) ?_
      exact w_bret (dk_Mod_cursorThere 31 rfl) rfl (Or.inr rfl) h
theorem g_Mod_nextOf_0 {d : Nat} {u : Us} {Q : Ot → Us → Prop} (p1 : Int32) (p2 : Int32)
    (h : WS d m_Mod_nextOf 2 [some (.ref 52), some (.int p1), some (.int p2), some (.int p2)] [] u Q) :
    WS d m_Mod_nextOf 0 [some (.ref 52), some (.int p1), some (.int p2), none] [] u Q := by
  refine w_iload_n (dk_Mod_nextOf 0 rfl) rfl ?_
  refine w_istore_n (ls' := [some (.ref 52), some (.int p1), some (.int p2), some (.int p2)]) (dk_Mod_nextOf 1 rfl) (by decide) rfl ?_
  exact h
theorem g_Mod_nextOf_2 {d : Nat} {u : Us} {Q : Ot → Us → Prop} (x1 : Int32) (x2 : Int32) (x3 : Int32)
    (h : (64 ≤ x3 → Q (.inl (some (.int x3))) u) ∧ (¬ (64 ≤ x3) → ∃ k1 : Nat, x3 = nI k1 ∧ k1 < 64 ∧ (((aI u 60 k1) = (x1 + 1) → Q (.inl (some (.int x3))) u) ∧ (¬ ((aI u 60 k1) = (x1 + 1)) → WS d m_Mod_nextOf 2 [some (.ref 52), some (.int x1), some (.int x2), some (.int (x3 + 1))] [] u Q)))) :
    WS d m_Mod_nextOf 2 [some (.ref 52), some (.int x1), some (.int x2), some (.int x3)] [] u Q := by
  refine w_iload_n (dk_Mod_nextOf 2 rfl) rfl ?_
  refine w_bipush (v := 64) (dk_Mod_nextOf 3 rfl) rfl ?_
  refine w_icmp_ge 26 (dk_Mod_nextOf 4 rfl) (by decide) (fun c_ => ?_) (fun c_ => ?_)
  · replace h := h.1 c_
    refine w_iload_n (dk_Mod_nextOf 15 rfl) rfl ?_
    exact w_iret (dk_Mod_nextOf 16 rfl) rfl h
  · replace h := h.2 c_
    refine w_aload_n (dk_Mod_nextOf 5 rfl) rfl ?_
    refine w_getr (dk_Mod_nextOf 6 rfl) lk_Mod_45 rfl rfl rfl ?_
    refine w_iload_n (dk_Mod_nextOf 7 rfl) rfl ?_
    obtain ⟨k1, e_k1, l_k1, h⟩ := h
    refine w_iald (k_ := k1) (dk_Mod_nextOf 8 rfl) rfl (by decide) e_k1 l_k1 ?_
    refine w_iload_n (dk_Mod_nextOf 9 rfl) rfl ?_
    refine w_iconst (v := 1) (dk_Mod_nextOf 10 rfl) rfl ?_
    refine w_iadd (dk_Mod_nextOf 11 rfl) ?_
    refine w_icmp_eq 26 (dk_Mod_nextOf 12 rfl) (by decide) (fun c_ => ?_) (fun c_ => ?_)
    · replace h := h.1 c_
      refine w_iload_n (dk_Mod_nextOf 15 rfl) rfl ?_
      exact w_iret (dk_Mod_nextOf 16 rfl) rfl h
    · replace h := h.2 c_
      refine w_iinc (v := x3 + 1) (ls' := [some (.ref 52), some (.int x1), some (.int x2), some (.int (x3 + 1))]) (dk_Mod_nextOf 13 rfl) rfl rfl (by decide) rfl ?_
      refine w_goto 2 (dk_Mod_nextOf 14 rfl) (by decide) ?_
      exact h
theorem g_Mod_endOf_0 {d : Nat} {u : Us} {Q : Ot → Us → Prop} (p1 : Int32)
    (h : WS d m_Mod_endOf 4 [some (.ref 52), some (.int p1), some (.int (p1 + 4))] [] u Q) :
    WS d m_Mod_endOf 0 [some (.ref 52), some (.int p1), none] [] u Q := by
  refine w_iload_n (dk_Mod_endOf 0 rfl) rfl ?_
  refine w_iconst (v := 4) (dk_Mod_endOf 1 rfl) rfl ?_
  refine w_iadd (dk_Mod_endOf 2 rfl) ?_
  refine w_istore_n (ls' := [some (.ref 52), some (.int p1), some (.int (p1 + 4))]) (dk_Mod_endOf 3 rfl) (by decide) rfl ?_
  exact h
theorem g_Mod_endOf_4 {d : Nat} {u : Us} {Q : Ot → Us → Prop} (x1 : Int32) (x2 : Int32)
    (h : ∃ k1 : Nat, x2 = nI k1 ∧ k1 < 3000 ∧ (((aI u 67 k1) = 31 → Q (.inl (some (.int (x2 + 1)))) u) ∧ (¬ ((aI u 67 k1) = 31) → ∃ k2 : Nat, x2 = nI k2 ∧ k2 < 3000 ∧ (((aI u 67 k2) ≠ 4 → ∃ k3 : Nat, x2 = nI k3 ∧ k3 < 3000 ∧ ((4 ≤ (aI u 67 k3) → WS d m_Mod_endOf 4 [some (.ref 52), some (.int x1), some (.int (x2 + 1))] [] u Q) ∧ (¬ (4 ≤ (aI u 67 k3)) → WS d m_Mod_endOf 4 [some (.ref 52), some (.int x1), some (.int (x2 + 2))] [] u Q))) ∧ ((aI u 67 k2) = 4 → WS d m_Mod_endOf 4 [some (.ref 52), some (.int x1), some (.int (x2 + 3))] [] u Q))))) :
    WS d m_Mod_endOf 4 [some (.ref 52), some (.int x1), some (.int x2)] [] u Q := by
  refine w_aload_n (dk_Mod_endOf 4 rfl) rfl ?_
  refine w_getr (dk_Mod_endOf 5 rfl) lk_Mod_85 rfl rfl rfl ?_
  refine w_iload_n (dk_Mod_endOf 6 rfl) rfl ?_
  obtain ⟨k1, e_k1, l_k1, h⟩ := h
  refine w_iald (k_ := k1) (dk_Mod_endOf 7 rfl) rfl (by decide) e_k1 l_k1 ?_
  refine w_bipush (v := 31) (dk_Mod_endOf 8 rfl) rfl ?_
  refine w_icmp_eq 50 (dk_Mod_endOf 9 rfl) (by decide) (fun c_ => ?_) (fun c_ => ?_)
  · replace h := h.1 c_
    refine w_iload_n (dk_Mod_endOf 31 rfl) rfl ?_
    refine w_iconst (v := 1) (dk_Mod_endOf 32 rfl) rfl ?_
    refine w_iadd (dk_Mod_endOf 33 rfl) ?_
    exact w_iret (dk_Mod_endOf 34 rfl) rfl h
  · replace h := h.2 c_
    refine w_iload_n (dk_Mod_endOf 10 rfl) rfl ?_
    refine w_aload_n (dk_Mod_endOf 11 rfl) rfl ?_
    refine w_getr (dk_Mod_endOf 12 rfl) lk_Mod_85 rfl rfl rfl ?_
    refine w_iload_n (dk_Mod_endOf 13 rfl) rfl ?_
    obtain ⟨k2, e_k2, l_k2, h⟩ := h
    refine w_iald (k_ := k2) (dk_Mod_endOf 14 rfl) rfl (by decide) e_k2 l_k2 ?_
    refine w_iconst (v := 4) (dk_Mod_endOf 15 rfl) rfl ?_
    refine w_icmp_ne 30 (dk_Mod_endOf 16 rfl) (by decide) (fun c_ => ?_) (fun c_ => ?_)
    · replace h := h.1 c_
      refine w_aload_n (dk_Mod_endOf 19 rfl) rfl ?_
      refine w_getr (dk_Mod_endOf 20 rfl) lk_Mod_85 rfl rfl rfl ?_
      refine w_iload_n (dk_Mod_endOf 21 rfl) rfl ?_
      obtain ⟨k3, e_k3, l_k3, h⟩ := h
      refine w_iald (k_ := k3) (dk_Mod_endOf 22 rfl) rfl (by decide) e_k3 l_k3 ?_
      refine w_iconst (v := 4) (dk_Mod_endOf 23 rfl) rfl ?_
      refine w_icmp_ge 44 (dk_Mod_endOf 24 rfl) (by decide) (fun c_ => ?_) (fun c_ => ?_)
      · replace h := h.1 c_
        refine w_iconst (v := 1) (dk_Mod_endOf 27 rfl) rfl ?_
        refine w_iadd (dk_Mod_endOf 28 rfl) ?_
        refine w_istore_n (ls' := [some (.ref 52), some (.int x1), some (.int (x2 + 1))]) (dk_Mod_endOf 29 rfl) (by decide) rfl ?_
        refine w_goto 4 (dk_Mod_endOf 30 rfl) (by decide) ?_
        exact h
      · replace h := h.2 c_
        refine w_iconst (v := 2) (dk_Mod_endOf 25 rfl) rfl ?_
        refine w_goto 45 (dk_Mod_endOf 26 rfl) (by decide) ?_
        refine w_iadd (dk_Mod_endOf 28 rfl) ?_
        refine w_istore_n (ls' := [some (.ref 52), some (.int x1), some (.int (x2 + 2))]) (dk_Mod_endOf 29 rfl) (by decide) rfl ?_
        refine w_goto 4 (dk_Mod_endOf 30 rfl) (by decide) ?_
        exact h
    · replace h := h.2 c_
      refine w_iconst (v := 3) (dk_Mod_endOf 17 rfl) rfl ?_
      refine w_goto 45 (dk_Mod_endOf 18 rfl) (by decide) ?_
      refine w_iadd (dk_Mod_endOf 28 rfl) ?_
      refine w_istore_n (ls' := [some (.ref 52), some (.int x1), some (.int (x2 + 3))]) (dk_Mod_endOf 29 rfl) (by decide) rfl ?_
      refine w_goto 4 (dk_Mod_endOf 30 rfl) (by decide) ?_
      exact h
theorem g_Mod_aggregated_0 {d : Nat} {u : Us} {Q : Ot → Us → Prop} (p1 : Int32) (p2 : Int32) (p3 : Int32) (p4 : Int32)
    (h : (p1 ≠ 0 → (p1 ≠ 1 → (p3 ≠ 0 → (p1 ≠ 2 → (p4 ≤ p2 → Q (.inl (some (.int p2))) u) ∧ (¬ (p4 ≤ p2) → Q (.inl (some (.int p4))) u)) ∧ (p1 = 2 → (p2 ≤ p4 → Q (.inl (some (.int p2))) u) ∧ (¬ (p2 ≤ p4) → Q (.inl (some (.int p4))) u))) ∧ (p3 = 0 → Q (.inl (some (.int p4))) u)) ∧ (p1 = 1 → Q (.inl (some (.int (p2 + p4)))) u)) ∧ (p1 = 0 → Q (.inl (some (.int (p2 + 1)))) u)) :
    WS d m_Mod_aggregated 0 [some (.ref 52), some (.int p1), some (.int p2), some (.int p3), some (.int p4)] [] u Q := by
  refine w_iload_n (dk_Mod_aggregated 0 rfl) rfl ?_
  refine w_if_ne 8 (dk_Mod_aggregated 1 rfl) (by decide) (fun c_ => ?_) (fun c_ => ?_)
  · replace h := h.1 c_
    refine w_iload_n (dk_Mod_aggregated 6 rfl) rfl ?_
    refine w_iconst (v := 1) (dk_Mod_aggregated 7 rfl) rfl ?_
    refine w_icmp_ne 18 (dk_Mod_aggregated 8 rfl) (by decide) (fun c_ => ?_) (fun c_ => ?_)
    · replace h := h.1 c_
      refine w_iload_n (dk_Mod_aggregated 13 rfl) rfl ?_
      refine w_if_ne 25 (dk_Mod_aggregated 14 rfl) (by decide) (fun c_ => ?_) (fun c_ => ?_)
      · replace h := h.1 c_
        refine w_iload_n (dk_Mod_aggregated 17 rfl) rfl ?_
        refine w_iconst (v := 2) (dk_Mod_aggregated 18 rfl) rfl ?_
        refine w_icmp_ne 45 (dk_Mod_aggregated 19 rfl) (by decide) (fun c_ => ?_) (fun c_ => ?_)
        · replace h := h.1 c_
          refine w_iload (dk_Mod_aggregated 27 rfl) rfl ?_
          refine w_iload_n (dk_Mod_aggregated 28 rfl) rfl ?_
          refine w_icmp_le 56 (dk_Mod_aggregated 29 rfl) (by decide) (fun c_ => ?_) (fun c_ => ?_)
          · replace h := h.1 c_
            refine w_iload_n (dk_Mod_aggregated 32 rfl) rfl ?_
            exact w_iret (dk_Mod_aggregated 33 rfl) rfl h
          · replace h := h.2 c_
            refine w_iload (dk_Mod_aggregated 30 rfl) rfl ?_
            refine w_goto 57 (dk_Mod_aggregated 31 rfl) (by decide) ?_
            exact w_iret (dk_Mod_aggregated 33 rfl) rfl h
        · replace h := h.2 c_
          refine w_iload (dk_Mod_aggregated 20 rfl) rfl ?_
          refine w_iload_n (dk_Mod_aggregated 21 rfl) rfl ?_
          refine w_icmp_ge 41 (dk_Mod_aggregated 22 rfl) (by decide) (fun c_ => ?_) (fun c_ => ?_)
          · replace h := h.1 c_
            refine w_iload_n (dk_Mod_aggregated 25 rfl) rfl ?_
            refine w_goto 57 (dk_Mod_aggregated 26 rfl) (by decide) ?_
            exact w_iret (dk_Mod_aggregated 33 rfl) rfl h
          · replace h := h.2 c_
            refine w_iload (dk_Mod_aggregated 23 rfl) rfl ?_
            refine w_goto 57 (dk_Mod_aggregated 24 rfl) (by decide) ?_
            exact w_iret (dk_Mod_aggregated 33 rfl) rfl h
      · replace h := h.2 c_
        refine w_iload (dk_Mod_aggregated 15 rfl) rfl ?_
        exact w_iret (dk_Mod_aggregated 16 rfl) rfl h
    · replace h := h.2 c_
      refine w_iload_n (dk_Mod_aggregated 9 rfl) rfl ?_
      refine w_iload (dk_Mod_aggregated 10 rfl) rfl ?_
      refine w_iadd (dk_Mod_aggregated 11 rfl) ?_
      exact w_iret (dk_Mod_aggregated 12 rfl) rfl h
  · replace h := h.2 c_
    refine w_iload_n (dk_Mod_aggregated 2 rfl) rfl ?_
    refine w_iconst (v := 1) (dk_Mod_aggregated 3 rfl) rfl ?_
    refine w_iadd (dk_Mod_aggregated 4 rfl) ?_
    exact w_iret (dk_Mod_aggregated 5 rfl) rfl h
theorem g_Mod_operate_0 {d : Nat} {u : Us} {Q : Ot → Us → Prop} (p1 : Int32) (p2 : Int32) (p3 : Int32)
    (h : (p1 = 10 → (p2 ≠ 0 → Q (.inl (some (.int 1))) u) ∧ (p2 = 0 → (p3 = 0 → Q (.inl (some (.int 0))) u) ∧ (¬ (p3 = 0) → Q (.inl (some (.int 1))) u))) ∧ ((p1 = 11 → (p2 = 0 → Q (.inl (some (.int 0))) u) ∧ (¬ (p2 = 0) → (p3 = 0 → Q (.inl (some (.int 0))) u) ∧ (¬ (p3 = 0) → Q (.inl (some (.int 1))) u))) ∧ ((p1 = 12 → (p2 ≠ p3 → Q (.inl (some (.int 0))) u) ∧ (p2 = p3 → Q (.inl (some (.int 1))) u)) ∧ ((p1 = 13 → (p2 = p3 → Q (.inl (some (.int 0))) u) ∧ (¬ (p2 = p3) → Q (.inl (some (.int 1))) u)) ∧ ((p1 = 14 → (p3 ≤ p2 → Q (.inl (some (.int 0))) u) ∧ (¬ (p3 ≤ p2) → Q (.inl (some (.int 1))) u)) ∧ ((p1 = 15 → (p3 < p2 → Q (.inl (some (.int 0))) u) ∧ (¬ (p3 < p2) → Q (.inl (some (.int 1))) u)) ∧ ((p1 = 16 → (p2 ≤ p3 → Q (.inl (some (.int 0))) u) ∧ (¬ (p2 ≤ p3) → Q (.inl (some (.int 1))) u)) ∧ ((p1 = 17 → (p2 < p3 → Q (.inl (some (.int 0))) u) ∧ (¬ (p2 < p3) → Q (.inl (some (.int 1))) u)) ∧ ((p1 = 18 → Q (.inl (some (.int (p2 + p3)))) u) ∧ ((p1 = 19 → Q (.inl (some (.int (p2 - p3)))) u) ∧ ((p1 = 20 → Q (.inl (some (.int (p2 * p3)))) u) ∧ ((p1 = 21 → (p3 ≠ 0 → ¬ p3 = 0 ∧ (Q (.inl (some (.int (p2 / p3)))) u)) ∧ (p3 = 0 → Q (.inl (some (.int 0))) u)) ∧ (((∀ v ∈ ([10, 11, 12, 13, 14, 15, 16, 17, 18, 19, 20, 21] : List Int32), p1 ≠ v) → (p3 ≠ 0 → ¬ p3 = 0 ∧ (Q (.inl (some (.int (p2 - p2 / p3 * p3)))) u)) ∧ (p3 = 0 → Q (.inl (some (.int 0))) u))))))))))))))) :
    WS d m_Mod_operate 0 [some (.int p1), some (.int p2), some (.int p3)] [] u Q := by
  refine w_iload_n (dk_Mod_operate 0 rfl) rfl ?_
  by_cases n1 : p1 = 10
  · replace h := h.1 n1
    refine w_tabI ds_Mod_operate_1 63 64 (by rw [n1]; decide) (by decide) ?_
    refine w_iload_n (dk_Mod_operate 2 rfl) rfl ?_
    refine w_if_ne 72 (dk_Mod_operate 3 rfl) (by decide) (fun c_ => ?_) (fun c_ => ?_)
    · replace h := h.1 c_
      refine w_iconst (v := 1) (dk_Mod_operate 6 rfl) rfl ?_
      refine w_goto 77 (dk_Mod_operate 7 rfl) (by decide) ?_
      exact w_iret (dk_Mod_operate 9 rfl) rfl h
    · replace h := h.2 c_
      refine w_iload_n (dk_Mod_operate 4 rfl) rfl ?_
      refine w_if_eq 76 (dk_Mod_operate 5 rfl) (by decide) (fun c_ => ?_) (fun c_ => ?_)
      · replace h := h.1 c_
        refine w_iconst (v := 0) (dk_Mod_operate 8 rfl) rfl ?_
        exact w_iret (dk_Mod_operate 9 rfl) rfl h
      · replace h := h.2 c_
        refine w_iconst (v := 1) (dk_Mod_operate 6 rfl) rfl ?_
        refine w_goto 77 (dk_Mod_operate 7 rfl) (by decide) ?_
        exact w_iret (dk_Mod_operate 9 rfl) rfl h
  replace h := h.2
  by_cases n2 : p1 = 11
  · replace h := h.1 n2
    refine w_tabI ds_Mod_operate_1 77 78 (by rw [n2]; decide) (by decide) ?_
    refine w_iload_n (dk_Mod_operate 10 rfl) rfl ?_
    refine w_if_eq 90 (dk_Mod_operate 11 rfl) (by decide) (fun c_ => ?_) (fun c_ => ?_)
    · replace h := h.1 c_
      refine w_iconst (v := 0) (dk_Mod_operate 16 rfl) rfl ?_
      exact w_iret (dk_Mod_operate 17 rfl) rfl h
    · replace h := h.2 c_
      refine w_iload_n (dk_Mod_operate 12 rfl) rfl ?_
      refine w_if_eq 90 (dk_Mod_operate 13 rfl) (by decide) (fun c_ => ?_) (fun c_ => ?_)
      · replace h := h.1 c_
        refine w_iconst (v := 0) (dk_Mod_operate 16 rfl) rfl ?_
        exact w_iret (dk_Mod_operate 17 rfl) rfl h
      · replace h := h.2 c_
        refine w_iconst (v := 1) (dk_Mod_operate 14 rfl) rfl ?_
        refine w_goto 91 (dk_Mod_operate 15 rfl) (by decide) ?_
        exact w_iret (dk_Mod_operate 17 rfl) rfl h
  replace h := h.2
  by_cases n3 : p1 = 12
  · replace h := h.1 n3
    refine w_tabI ds_Mod_operate_1 91 92 (by rw [n3]; decide) (by decide) ?_
    refine w_iload_n (dk_Mod_operate 18 rfl) rfl ?_
    refine w_iload_n (dk_Mod_operate 19 rfl) rfl ?_
    refine w_icmp_ne 101 (dk_Mod_operate 20 rfl) (by decide) (fun c_ => ?_) (fun c_ => ?_)
    · replace h := h.1 c_
      refine w_iconst (v := 0) (dk_Mod_operate 23 rfl) rfl ?_
      exact w_iret (dk_Mod_operate 24 rfl) rfl h
    · replace h := h.2 c_
      refine w_iconst (v := 1) (dk_Mod_operate 21 rfl) rfl ?_
      refine w_goto 102 (dk_Mod_operate 22 rfl) (by decide) ?_
      exact w_iret (dk_Mod_operate 24 rfl) rfl h
  replace h := h.2
  by_cases n4 : p1 = 13
  · replace h := h.1 n4
    refine w_tabI ds_Mod_operate_1 102 103 (by rw [n4]; decide) (by decide) ?_
    refine w_iload_n (dk_Mod_operate 25 rfl) rfl ?_
    refine w_iload_n (dk_Mod_operate 26 rfl) rfl ?_
    refine w_icmp_eq 112 (dk_Mod_operate 27 rfl) (by decide) (fun c_ => ?_) (fun c_ => ?_)
    · replace h := h.1 c_
      refine w_iconst (v := 0) (dk_Mod_operate 30 rfl) rfl ?_
      exact w_iret (dk_Mod_operate 31 rfl) rfl h
    · replace h := h.2 c_
      refine w_iconst (v := 1) (dk_Mod_operate 28 rfl) rfl ?_
      refine w_goto 113 (dk_Mod_operate 29 rfl) (by decide) ?_
      exact w_iret (dk_Mod_operate 31 rfl) rfl h
  replace h := h.2
  by_cases n5 : p1 = 14
  · replace h := h.1 n5
    refine w_tabI ds_Mod_operate_1 113 114 (by rw [n5]; decide) (by decide) ?_
    refine w_iload_n (dk_Mod_operate 32 rfl) rfl ?_
    refine w_iload_n (dk_Mod_operate 33 rfl) rfl ?_
    refine w_icmp_ge 123 (dk_Mod_operate 34 rfl) (by decide) (fun c_ => ?_) (fun c_ => ?_)
    · replace h := h.1 c_
      refine w_iconst (v := 0) (dk_Mod_operate 37 rfl) rfl ?_
      exact w_iret (dk_Mod_operate 38 rfl) rfl h
    · replace h := h.2 c_
      refine w_iconst (v := 1) (dk_Mod_operate 35 rfl) rfl ?_
      refine w_goto 124 (dk_Mod_operate 36 rfl) (by decide) ?_
      exact w_iret (dk_Mod_operate 38 rfl) rfl h
  replace h := h.2
  by_cases n6 : p1 = 15
  · replace h := h.1 n6
    refine w_tabI ds_Mod_operate_1 124 125 (by rw [n6]; decide) (by decide) ?_
    refine w_iload_n (dk_Mod_operate 39 rfl) rfl ?_
    refine w_iload_n (dk_Mod_operate 40 rfl) rfl ?_
    refine w_icmp_gt 134 (dk_Mod_operate 41 rfl) (by decide) (fun c_ => ?_) (fun c_ => ?_)
    · replace h := h.1 c_
      refine w_iconst (v := 0) (dk_Mod_operate 44 rfl) rfl ?_
      exact w_iret (dk_Mod_operate 45 rfl) rfl h
    · replace h := h.2 c_
      refine w_iconst (v := 1) (dk_Mod_operate 42 rfl) rfl ?_
      refine w_goto 135 (dk_Mod_operate 43 rfl) (by decide) ?_
      exact w_iret (dk_Mod_operate 45 rfl) rfl h
  replace h := h.2
  by_cases n7 : p1 = 16
  · replace h := h.1 n7
    refine w_tabI ds_Mod_operate_1 135 136 (by rw [n7]; decide) (by decide) ?_
    refine w_iload_n (dk_Mod_operate 46 rfl) rfl ?_
    refine w_iload_n (dk_Mod_operate 47 rfl) rfl ?_
    refine w_icmp_le 145 (dk_Mod_operate 48 rfl) (by decide) (fun c_ => ?_) (fun c_ => ?_)
    · replace h := h.1 c_
      refine w_iconst (v := 0) (dk_Mod_operate 51 rfl) rfl ?_
      exact w_iret (dk_Mod_operate 52 rfl) rfl h
    · replace h := h.2 c_
      refine w_iconst (v := 1) (dk_Mod_operate 49 rfl) rfl ?_
      refine w_goto 146 (dk_Mod_operate 50 rfl) (by decide) ?_
      exact w_iret (dk_Mod_operate 52 rfl) rfl h
  replace h := h.2
  by_cases n8 : p1 = 17
  · replace h := h.1 n8
    refine w_tabI ds_Mod_operate_1 146 147 (by rw [n8]; decide) (by decide) ?_
    refine w_iload_n (dk_Mod_operate 53 rfl) rfl ?_
    refine w_iload_n (dk_Mod_operate 54 rfl) rfl ?_
    refine w_icmp_lt 156 (dk_Mod_operate 55 rfl) (by decide) (fun c_ => ?_) (fun c_ => ?_)
    · replace h := h.1 c_
      refine w_iconst (v := 0) (dk_Mod_operate 58 rfl) rfl ?_
      exact w_iret (dk_Mod_operate 59 rfl) rfl h
    · replace h := h.2 c_
      refine w_iconst (v := 1) (dk_Mod_operate 56 rfl) rfl ?_
      refine w_goto 157 (dk_Mod_operate 57 rfl) (by decide) ?_
      exact w_iret (dk_Mod_operate 59 rfl) rfl h
  replace h := h.2
  by_cases n9 : p1 = 18
  · replace h := h.1 n9
    refine w_tabI ds_Mod_operate_1 157 158 (by rw [n9]; decide) (by decide) ?_
    refine w_iload_n (dk_Mod_operate 60 rfl) rfl ?_
    refine w_iload_n (dk_Mod_operate 61 rfl) rfl ?_
    refine w_iadd (dk_Mod_operate 62 rfl) ?_
    exact w_iret (dk_Mod_operate 63 rfl) rfl h
  replace h := h.2
  by_cases n10 : p1 = 19
  · replace h := h.1 n10
    refine w_tabI ds_Mod_operate_1 161 162 (by rw [n10]; decide) (by decide) ?_
    refine w_iload_n (dk_Mod_operate 64 rfl) rfl ?_
    refine w_iload_n (dk_Mod_operate 65 rfl) rfl ?_
    refine w_isub (dk_Mod_operate 66 rfl) ?_
    exact w_iret (dk_Mod_operate 67 rfl) rfl h
  replace h := h.2
  by_cases n11 : p1 = 20
  · replace h := h.1 n11
    refine w_tabI ds_Mod_operate_1 165 166 (by rw [n11]; decide) (by decide) ?_
    refine w_iload_n (dk_Mod_operate 68 rfl) rfl ?_
    refine w_iload_n (dk_Mod_operate 69 rfl) rfl ?_
    refine w_imul (dk_Mod_operate 70 rfl) ?_
    exact w_iret (dk_Mod_operate 71 rfl) rfl h
  replace h := h.2
  by_cases n12 : p1 = 21
  · replace h := h.1 n12
    refine w_tabI ds_Mod_operate_1 169 170 (by rw [n12]; decide) (by decide) ?_
    refine w_iload_n (dk_Mod_operate 72 rfl) rfl ?_
    refine w_if_ne 178 (dk_Mod_operate 73 rfl) (by decide) (fun c_ => ?_) (fun c_ => ?_)
    · replace h := h.1 c_
      refine w_iload_n (dk_Mod_operate 76 rfl) rfl ?_
      refine w_iload_n (dk_Mod_operate 77 rfl) rfl ?_
      obtain ⟨hne, h⟩ := h
      refine w_idiv (dk_Mod_operate 78 rfl) hne ?_
      exact w_iret (dk_Mod_operate 79 rfl) rfl h
    · replace h := h.2 c_
      refine w_iconst (v := 0) (dk_Mod_operate 74 rfl) rfl ?_
      refine w_goto 181 (dk_Mod_operate 75 rfl) (by decide) ?_
      exact w_iret (dk_Mod_operate 79 rfl) rfl h
  replace h := h.2
  have hn13 : ∀ v ∈ ([10, 11, 12, 13, 14, 15, 16, 17, 18, 19, 20, 21] : List Int32), p1 ≠ v := by
    intro v hv e_
    rw [← e_] at hv
    simp only [List.mem_cons, List.not_mem_nil, or_false] at hv
    rcases hv with hv | hv | hv | hv | hv | hv | hv | hv | hv | hv | hv | hv
    · exact n1 hv
    · exact n2 hv
    · exact n3 hv
    · exact n4 hv
    · exact n5 hv
    · exact n6 hv
    · exact n7 hv
    · exact n8 hv
    · exact n9 hv
    · exact n10 hv
    · exact n11 hv
    · exact n12 hv
  replace h := h hn13
  refine w_tabD ds_Mod_operate_1 182 [10, 11, 12, 13, 14, 15, 16, 17, 18, 19, 20, 21] (by decide) (by decide) hn13 (by decide) ?_
  refine w_iload_n (dk_Mod_operate 80 rfl) rfl ?_
  refine w_if_ne 190 (dk_Mod_operate 81 rfl) (by decide) (fun c_ => ?_) (fun c_ => ?_)
  · replace h := h.1 c_
    refine w_iload_n (dk_Mod_operate 84 rfl) rfl ?_
    refine w_iload_n (dk_Mod_operate 85 rfl) rfl ?_
    obtain ⟨hne, h⟩ := h
    refine w_irem (dk_Mod_operate 86 rfl) hne ?_
    exact w_iret (dk_Mod_operate 87 rfl) rfl h
  · replace h := h.2 c_
    refine w_iconst (v := 0) (dk_Mod_operate 82 rfl) rfl ?_
    refine w_goto 193 (dk_Mod_operate 83 rfl) (by decide) ?_
    exact w_iret (dk_Mod_operate 87 rfl) rfl h
theorem g_Mod_setAll_0 {d : Nat} {u : Us} {Q : Ot → Us → Prop} (p1 : Int32)
    (h : ∃ k1 : Nat, p1 = nI k1 ∧ k1 < 3000 ∧ (WS d m_Mod_choose 0 [some (.ref 52), some (.int (aI u 67 k1)), some (.int (p1 + 1)), none] [] u (Rv (fun (u3 : Us) => ∃ k4 : Nat, p1 + 1 = nI k4 ∧ k4 < 3000 ∧ (∃ k5 : Nat, (p1 + 2) + (aI u3 67 k4) = nI k5 ∧ k5 < 3000 ∧ (WS (d + 1) m_Mod_setAll 44 [some (.ref 52), some (.int p1), some (.int (aI u 67 k1)), some (.int ((p1 + 2) + (aI u3 67 k4))), some (.int (aI u3 67 k5)), some (.int (((p1 + 2) + (aI u3 67 k4)) + 1)), some (.int 0), none, none] [] u3 Q))) (fun x u => Q (.inr x) u)))) :
    WS (d + 1) m_Mod_setAll 0 [some (.ref 52), some (.int p1), none, none, none, none, none, none, none] [] u Q := by
  refine w_aload_n (dk_Mod_setAll 0 rfl) rfl ?_
  refine w_getr (dk_Mod_setAll 1 rfl) lk_Mod_85 rfl rfl rfl ?_
  refine w_iload_n (dk_Mod_setAll 2 rfl) rfl ?_
  obtain ⟨k1, e_k1, l_k1, h⟩ := h
  refine w_iald (k_ := k1) (dk_Mod_setAll 3 rfl) rfl (by decide) e_k1 l_k1 ?_
  refine w_istore_n (ls' := [some (.ref 52), some (.int p1), some (.int (aI u 67 k1)), none, none, none, none, none, none]) (dk_Mod_setAll 4 rfl) (by decide) rfl ?_
  refine w_aload_n (dk_Mod_setAll 5 rfl) rfl ?_
  refine w_iload_n (dk_Mod_setAll 6 rfl) rfl ?_
  refine w_iload_n (dk_Mod_setAll 7 rfl) rfl ?_
  refine w_iconst (v := 1) (dk_Mod_setAll 8 rfl) rfl ?_
  refine w_iadd (dk_Mod_setAll 9 rfl) ?_
  refine w_callVv (ls' := [some (.ref 52), some (.int (aI u 67 k1)), some (.int (p1 + 1)), none]) cv_Mod_393 (dk_Mod_setAll 10 rfl) (ci := 10) rfl rfl [.int (aI u 67 k1), .int (p1 + 1)] [] rfl rfl (Nat.le_of_ble_eq_true rfl) (Nat.le_of_ble_eq_true rfl) rfl rfl rfl h (fun u3 h => ?_)
  refine w_iload_n (dk_Mod_setAll 11 rfl) rfl ?_
  refine w_iconst (v := 2) (dk_Mod_setAll 12 rfl) rfl ?_
  refine w_iadd (dk_Mod_setAll 13 rfl) ?_
  refine w_aload_n (dk_Mod_setAll 14 rfl) rfl ?_
  refine w_getr (dk_Mod_setAll 15 rfl) lk_Mod_85 rfl rfl rfl ?_
  refine w_iload_n (dk_Mod_setAll 16 rfl) rfl ?_
  refine w_iconst (v := 1) (dk_Mod_setAll 17 rfl) rfl ?_
  refine w_iadd (dk_Mod_setAll 18 rfl) ?_
  obtain ⟨k4, e_k4, l_k4, h⟩ := h
  refine w_iald (k_ := k4) (dk_Mod_setAll 19 rfl) rfl (by decide) e_k4 l_k4 ?_
  refine w_iadd (dk_Mod_setAll 20 rfl) ?_
  refine w_istore_n (ls' := [some (.ref 52), some (.int p1), some (.int (aI u 67 k1)), some (.int ((p1 + 2) + (aI u3 67 k4))), none, none, none, none, none]) (dk_Mod_setAll 21 rfl) (by decide) rfl ?_
  refine w_aload_n (dk_Mod_setAll 22 rfl) rfl ?_
  refine w_getr (dk_Mod_setAll 23 rfl) lk_Mod_85 rfl rfl rfl ?_
  refine w_iload_n (dk_Mod_setAll 24 rfl) rfl ?_
  obtain ⟨k5, e_k5, l_k5, h⟩ := h
  refine w_iald (k_ := k5) (dk_Mod_setAll 25 rfl) rfl (by decide) e_k5 l_k5 ?_
  refine w_istore (ls' := [some (.ref 52), some (.int p1), some (.int (aI u 67 k1)), some (.int ((p1 + 2) + (aI u3 67 k4))), some (.int (aI u3 67 k5)), none, none, none, none]) (dk_Mod_setAll 26 rfl) (by decide) rfl ?_
  refine w_iload_n (dk_Mod_setAll 27 rfl) rfl ?_
  refine w_iconst (v := 1) (dk_Mod_setAll 28 rfl) rfl ?_
  refine w_iadd (dk_Mod_setAll 29 rfl) ?_
  refine w_istore (ls' := [some (.ref 52), some (.int p1), some (.int (aI u 67 k1)), some (.int ((p1 + 2) + (aI u3 67 k4))), some (.int (aI u3 67 k5)), some (.int (((p1 + 2) + (aI u3 67 k4)) + 1)), none, none, none]) (dk_Mod_setAll 30 rfl) (by decide) rfl ?_
  refine w_iconst (v := 0) (dk_Mod_setAll 31 rfl) rfl ?_
  refine w_istore (ls' := [some (.ref 52), some (.int p1), some (.int (aI u 67 k1)), some (.int ((p1 + 2) + (aI u3 67 k4))), some (.int (aI u3 67 k5)), some (.int (((p1 + 2) + (aI u3 67 k4)) + 1)), some (.int 0), none, none]) (dk_Mod_setAll 32 rfl) (by decide) rfl ?_
  exact h
theorem g_Mod_setAll_44 {d : Nat} {u : Us} {Q : Ot → Us → Prop} (x1 : Int32) (x2 : Int32) (x3 : Int32) (x4 : Int32) (x5 : Int32) (x6 : Int32)
    (h : (x4 ≤ x6 → WS (d + 1) m_Mod_setAll 76 [some (.ref 52), some (.int x1), some (.int x2), some (.int x3), some (.int x4), some (.int x5), some (.int 0), none, none] [] u Q) ∧ (¬ (x4 ≤ x6) → ∃ k1 : Nat, x5 + 1 = nI k1 ∧ k1 < 3000 ∧ (WS (d + 1) m_Mod_setAll 44 [some (.ref 52), some (.int x1), some (.int x2), some (.int x3), some (.int x4), some (.int (x5 + (2 + (aI u 67 k1)))), some (.int (x6 + 1)), none, none] [] u Q))) :
    WS (d + 1) m_Mod_setAll 44 [some (.ref 52), some (.int x1), some (.int x2), some (.int x3), some (.int x4), some (.int x5), some (.int x6), none, none] [] u Q := by
  refine w_iload (dk_Mod_setAll 33 rfl) rfl ?_
  refine w_iload (dk_Mod_setAll 34 rfl) rfl ?_
  refine w_icmp_ge 73 (dk_Mod_setAll 35 rfl) (by decide) (fun c_ => ?_) (fun c_ => ?_)
  · replace h := h.1 c_
    refine w_iconst (v := 0) (dk_Mod_setAll 49 rfl) rfl ?_
    refine w_istore (ls' := [some (.ref 52), some (.int x1), some (.int x2), some (.int x3), some (.int x4), some (.int x5), some (.int 0), none, none]) (dk_Mod_setAll 50 rfl) (by decide) rfl ?_
    exact h
  · replace h := h.2 c_
    refine w_iload (dk_Mod_setAll 36 rfl) rfl ?_
    refine w_iconst (v := 2) (dk_Mod_setAll 37 rfl) rfl ?_
    refine w_aload_n (dk_Mod_setAll 38 rfl) rfl ?_
    refine w_getr (dk_Mod_setAll 39 rfl) lk_Mod_85 rfl rfl rfl ?_
    refine w_iload (dk_Mod_setAll 40 rfl) rfl ?_
    refine w_iconst (v := 1) (dk_Mod_setAll 41 rfl) rfl ?_
    refine w_iadd (dk_Mod_setAll 42 rfl) ?_
    obtain ⟨k1, e_k1, l_k1, h⟩ := h
    refine w_iald (k_ := k1) (dk_Mod_setAll 43 rfl) rfl (by decide) e_k1 l_k1 ?_
    refine w_iadd (dk_Mod_setAll 44 rfl) ?_
    refine w_iadd (dk_Mod_setAll 45 rfl) ?_
    refine w_istore (ls' := [some (.ref 52), some (.int x1), some (.int x2), some (.int x3), some (.int x4), some (.int (x5 + (2 + (aI u 67 k1)))), some (.int x6), none, none]) (dk_Mod_setAll 46 rfl) (by decide) rfl ?_
    refine w_iinc (v := x6 + 1) (ls' := [some (.ref 52), some (.int x1), some (.int x2), some (.int x3), some (.int x4), some (.int (x5 + (2 + (aI u 67 k1)))), some (.int (x6 + 1)), none, none]) (dk_Mod_setAll 47 rfl) rfl rfl (by decide) rfl ?_
    refine w_goto 44 (dk_Mod_setAll 48 rfl) (by decide) ?_
    exact h
theorem g_Mod_setAll_76 {d : Nat} {u : Us} {Q : Ot → Us → Prop} (x1 : Int32) (x2 : Int32) (x3 : Int32) (x4 : Int32) (x5 : Int32) (x6 : Int32)
    (h : (64 ≤ x6 → WS (d + 1) m_Mod_setAll 230 [some (.ref 52), some (.int x1), some (.int x2), some (.int x3), some (.int x4), some (.int x5), some (.int 0), none, none] [] u Q) ∧ (¬ (64 ≤ x6) → WS (d + 1) m_Mod_setAll 91 [some (.ref 52), some (.int x1), some (.int x2), some (.int x3), some (.int x4), some (.int x5), some (.int x6), some (.int (x3 + 1)), some (.int 0)] [] u Q)) :
    WS (d + 1) m_Mod_setAll 76 [some (.ref 52), some (.int x1), some (.int x2), some (.int x3), some (.int x4), some (.int x5), some (.int x6), none, none] [] u Q := by
  refine w_iload (dk_Mod_setAll 51 rfl) rfl ?_
  refine w_bipush (v := 64) (dk_Mod_setAll 52 rfl) rfl ?_
  refine w_icmp_ge 227 (dk_Mod_setAll 53 rfl) (by decide) (fun c_ => ?_) (fun c_ => ?_)
  · replace h := h.1 c_
    refine w_iconst (v := 0) (dk_Mod_setAll 136 rfl) rfl ?_
    refine w_istore (ls' := [some (.ref 52), some (.int x1), some (.int x2), some (.int x3), some (.int x4), some (.int x5), some (.int 0), none, none]) (dk_Mod_setAll 137 rfl) (by decide) rfl ?_
    exact h
  · replace h := h.2 c_
    refine w_iload_n (dk_Mod_setAll 54 rfl) rfl ?_
    refine w_iconst (v := 1) (dk_Mod_setAll 55 rfl) rfl ?_
    refine w_iadd (dk_Mod_setAll 56 rfl) ?_
    refine w_istore (ls' := [some (.ref 52), some (.int x1), some (.int x2), some (.int x3), some (.int x4), some (.int x5), some (.int x6), some (.int (x3 + 1)), none]) (dk_Mod_setAll 57 rfl) (by decide) rfl ?_
    refine w_iconst (v := 0) (dk_Mod_setAll 58 rfl) rfl ?_
    refine w_istore (ls' := [some (.ref 52), some (.int x1), some (.int x2), some (.int x3), some (.int x4), some (.int x5), some (.int x6), some (.int (x3 + 1)), some (.int 0)]) (dk_Mod_setAll 59 rfl) (by decide) rfl ?_
    exact h
theorem g_Mod_setAll_91 {d : Nat} {u : Us} {Q : Ot → Us → Prop} (x1 : Int32) (x2 : Int32) (x3 : Int32) (x4 : Int32) (x5 : Int32) (x6 : Int32) (x7 : Int32) (x8 : Int32)
    (h : (6 ≤ x8 → WS (d + 1) m_Mod_setAll 133 [some (.ref 52), some (.int x1), some (.int x2), some (.int x3), some (.int x4), some (.int x5), some (.int x6), some (.int x7), some (.int 0)] [] u Q) ∧ (¬ (6 ≤ x8) → ∃ k1 : Nat, (6 * x6) + x8 = nI k1 ∧ k1 < 384 ∧ (∃ k2 : Nat, (6 * x6) + x8 = nI k2 ∧ k2 < 384 ∧ (WS (d + 1) m_Mod_setAll 91 [some (.ref 52), some (.int x1), some (.int x2), some (.int x3), some (.int x4), some (.int x5), some (.int x6), some (.int x7), some (.int (x8 + 1))] [] (uI u 79 k2 (aI u 61 k1)) Q)))) :
    WS (d + 1) m_Mod_setAll 91 [some (.ref 52), some (.int x1), some (.int x2), some (.int x3), some (.int x4), some (.int x5), some (.int x6), some (.int x7), some (.int x8)] [] u Q := by
  refine w_iload (dk_Mod_setAll 60 rfl) rfl ?_
  refine w_bipush (v := 6) (dk_Mod_setAll 61 rfl) rfl ?_
  refine w_icmp_ge 130 (dk_Mod_setAll 62 rfl) (by decide) (fun c_ => ?_) (fun c_ => ?_)
  · replace h := h.1 c_
    refine w_iconst (v := 0) (dk_Mod_setAll 81 rfl) rfl ?_
    refine w_istore (ls' := [some (.ref 52), some (.int x1), some (.int x2), some (.int x3), some (.int x4), some (.int x5), some (.int x6), some (.int x7), some (.int 0)]) (dk_Mod_setAll 82 rfl) (by decide) rfl ?_
    exact h
  · replace h := h.2 c_
    refine w_aload_n (dk_Mod_setAll 63 rfl) rfl ?_
    refine w_getr (dk_Mod_setAll 64 rfl) lk_Mod_145 rfl rfl rfl ?_
    refine w_bipush (v := 6) (dk_Mod_setAll 65 rfl) rfl ?_
    refine w_iload (dk_Mod_setAll 66 rfl) rfl ?_
    refine w_imul (dk_Mod_setAll 67 rfl) ?_
    refine w_iload (dk_Mod_setAll 68 rfl) rfl ?_
    refine w_iadd (dk_Mod_setAll 69 rfl) ?_
    refine w_aload_n (dk_Mod_setAll 70 rfl) rfl ?_
    refine w_getr (dk_Mod_setAll 71 rfl) lk_Mod_48 rfl rfl rfl ?_
    refine w_bipush (v := 6) (dk_Mod_setAll 72 rfl) rfl ?_
    refine w_iload (dk_Mod_setAll 73 rfl) rfl ?_
    refine w_imul (dk_Mod_setAll 74 rfl) ?_
    refine w_iload (dk_Mod_setAll 75 rfl) rfl ?_
    refine w_iadd (dk_Mod_setAll 76 rfl) ?_
    obtain ⟨k1, e_k1, l_k1, h⟩ := h
    refine w_iald (k_ := k1) (dk_Mod_setAll 77 rfl) rfl (by decide) e_k1 l_k1 ?_
    obtain ⟨k2, e_k2, l_k2, h⟩ := h
    refine w_iast (k_ := k2) (dk_Mod_setAll 78 rfl) rfl (by decide) e_k2 l_k2 ?_
    refine w_iinc (v := x8 + 1) (ls' := [some (.ref 52), some (.int x1), some (.int x2), some (.int x3), some (.int x4), some (.int x5), some (.int x6), some (.int x7), some (.int (x8 + 1))]) (dk_Mod_setAll 79 rfl) rfl rfl (by decide) rfl ?_
    refine w_goto 91 (dk_Mod_setAll 80 rfl) (by decide) ?_
    exact h
theorem g_Mod_setAll_133 {d : Nat} {u : Us} {Q : Ot → Us → Prop} (x1 : Int32) (x2 : Int32) (x3 : Int32) (x4 : Int32) (x5 : Int32) (x6 : Int32) (x7 : Int32) (x8 : Int32)
    (h : (x4 ≤ x8 → WS (d + 1) m_Mod_setAll 76 [some (.ref 52), some (.int x1), some (.int x2), some (.int x3), some (.int x4), some (.int x5), some (.int (x6 + 1)), some (.int x7), some (.int x8)] [] u Q) ∧ (¬ (x4 ≤ x8) → ∃ k1 : Nat, x6 = nI k1 ∧ k1 < 64 ∧ (((aI u 80 k1) = 0 → WS (d + 1) m_Mod_setAll 76 [some (.ref 52), some (.int x1), some (.int x2), some (.int x3), some (.int x4), some (.int x5), some (.int (x6 + 1)), some (.int x7), some (.int x8)] [] u Q) ∧ (¬ ((aI u 80 k1) = 0) → ∃ k2 : Nat, x7 = nI k2 ∧ k2 < 3000 ∧ (∃ k3 : Nat, x7 = nI k3 ∧ k3 < 3000 ∧ (∃ k4 : Nat, x7 + 1 = nI k4 ∧ k4 < 3000 ∧ (WS d m_Mod_eval 0 [some (.ref 52), some (.int (x7 + 2)), some (.int (aI u 67 k4)), some (.int x6), none, none, none, none, none, none, none, none] [] u (Ri (fun (r5 : Int32) (u6 : Us) => WS d m_Mod_cut 0 [some (.ref 52), some (.int x2), some (.int (aI u 67 k3)), some (.int r5), none] [] u6 (Ri (fun (r7 : Int32) (u8 : Us) => ∃ k9 : Nat, (6 * x6) + (aI u 67 k2) = nI k9 ∧ k9 < 384 ∧ (∃ k10 : Nat, x7 + 1 = nI k10 ∧ k10 < 3000 ∧ (WS (d + 1) m_Mod_setAll 133 [some (.ref 52), some (.int x1), some (.int x2), some (.int x3), some (.int x4), some (.int x5), some (.int x6), some (.int (x7 + (2 + (aI u8 67 k10)))), some (.int (x8 + 1))] [] (uI u8 79 k9 r7) Q))) (fun x u => Q (.inr x) u))) (fun x u => Q (.inr x) u))))))))) :
    WS (d + 1) m_Mod_setAll 133 [some (.ref 52), some (.int x1), some (.int x2), some (.int x3), some (.int x4), some (.int x5), some (.int x6), some (.int x7), some (.int x8)] [] u Q := by
  refine w_iload (dk_Mod_setAll 83 rfl) rfl ?_
  refine w_iload (dk_Mod_setAll 84 rfl) rfl ?_
  refine w_icmp_ge 221 (dk_Mod_setAll 85 rfl) (by decide) (fun c_ => ?_) (fun c_ => ?_)
  · replace h := h.1 c_
    refine w_iinc (v := x6 + 1) (ls' := [some (.ref 52), some (.int x1), some (.int x2), some (.int x3), some (.int x4), some (.int x5), some (.int (x6 + 1)), some (.int x7), some (.int x8)]) (dk_Mod_setAll 134 rfl) rfl rfl (by decide) rfl ?_
    refine w_goto 76 (dk_Mod_setAll 135 rfl) (by decide) ?_
    exact h
  · replace h := h.2 c_
    refine w_aload_n (dk_Mod_setAll 86 rfl) rfl ?_
    refine w_getr (dk_Mod_setAll 87 rfl) lk_Mod_148 rfl rfl rfl ?_
    refine w_iload (dk_Mod_setAll 88 rfl) rfl ?_
    obtain ⟨k1, e_k1, l_k1, h⟩ := h
    refine w_zald (k_ := k1) (dk_Mod_setAll 89 rfl) rfl (by decide) e_k1 l_k1 ?_
    refine w_if_eq 221 (dk_Mod_setAll 90 rfl) (by decide) (fun c_ => ?_) (fun c_ => ?_)
    · replace h := h.1 c_
      refine w_iinc (v := x6 + 1) (ls' := [some (.ref 52), some (.int x1), some (.int x2), some (.int x3), some (.int x4), some (.int x5), some (.int (x6 + 1)), some (.int x7), some (.int x8)]) (dk_Mod_setAll 134 rfl) rfl rfl (by decide) rfl ?_
      refine w_goto 76 (dk_Mod_setAll 135 rfl) (by decide) ?_
      exact h
    · replace h := h.2 c_
      refine w_aload_n (dk_Mod_setAll 91 rfl) rfl ?_
      refine w_getr (dk_Mod_setAll 92 rfl) lk_Mod_145 rfl rfl rfl ?_
      refine w_bipush (v := 6) (dk_Mod_setAll 93 rfl) rfl ?_
      refine w_iload (dk_Mod_setAll 94 rfl) rfl ?_
      refine w_imul (dk_Mod_setAll 95 rfl) ?_
      refine w_aload_n (dk_Mod_setAll 96 rfl) rfl ?_
      refine w_getr (dk_Mod_setAll 97 rfl) lk_Mod_85 rfl rfl rfl ?_
      refine w_iload (dk_Mod_setAll 98 rfl) rfl ?_
      obtain ⟨k2, e_k2, l_k2, h⟩ := h
      refine w_iald (k_ := k2) (dk_Mod_setAll 99 rfl) rfl (by decide) e_k2 l_k2 ?_
      refine w_iadd (dk_Mod_setAll 100 rfl) ?_
      refine w_aload_n (dk_Mod_setAll 101 rfl) rfl ?_
      refine w_iload_n (dk_Mod_setAll 102 rfl) rfl ?_
      refine w_aload_n (dk_Mod_setAll 103 rfl) rfl ?_
      refine w_getr (dk_Mod_setAll 104 rfl) lk_Mod_85 rfl rfl rfl ?_
      refine w_iload (dk_Mod_setAll 105 rfl) rfl ?_
      obtain ⟨k3, e_k3, l_k3, h⟩ := h
      refine w_iald (k_ := k3) (dk_Mod_setAll 106 rfl) rfl (by decide) e_k3 l_k3 ?_
      refine w_aload_n (dk_Mod_setAll 107 rfl) rfl ?_
      refine w_iload (dk_Mod_setAll 108 rfl) rfl ?_
      refine w_iconst (v := 2) (dk_Mod_setAll 109 rfl) rfl ?_
      refine w_iadd (dk_Mod_setAll 110 rfl) ?_
      refine w_aload_n (dk_Mod_setAll 111 rfl) rfl ?_
      refine w_getr (dk_Mod_setAll 112 rfl) lk_Mod_85 rfl rfl rfl ?_
      refine w_iload (dk_Mod_setAll 113 rfl) rfl ?_
      refine w_iconst (v := 1) (dk_Mod_setAll 114 rfl) rfl ?_
      refine w_iadd (dk_Mod_setAll 115 rfl) ?_
      obtain ⟨k4, e_k4, l_k4, h⟩ := h
      refine w_iald (k_ := k4) (dk_Mod_setAll 116 rfl) rfl (by decide) e_k4 l_k4 ?_
      refine w_iload (dk_Mod_setAll 117 rfl) rfl ?_
      refine w_callVi (ls' := [some (.ref 52), some (.int (x7 + 2)), some (.int (aI u 67 k4)), some (.int x6), none, none, none, none, none, none, none, none]) cv_Mod_387 (dk_Mod_setAll 118 rfl) (ci := 10) rfl rfl [.int (x7 + 2), .int (aI u 67 k4), .int x6] [.int (aI u 67 k3), .int x2, .ref 52, .int ((6 * x6) + (aI u 67 k2)), .ref 79] rfl rfl (Nat.le_of_ble_eq_true rfl) (Nat.le_of_ble_eq_true rfl) rfl rfl rfl h (fun r5 u6 h => ?_)
      refine w_callVi (ls' := [some (.ref 52), some (.int x2), some (.int (aI u 67 k3)), some (.int r5), none]) cv_Mod_390 (dk_Mod_setAll 119 rfl) (ci := 10) rfl rfl [.int x2, .int (aI u 67 k3), .int r5] [.int ((6 * x6) + (aI u 67 k2)), .ref 79] rfl rfl (Nat.le_of_ble_eq_true rfl) (Nat.le_of_ble_eq_true rfl) rfl rfl rfl h (fun r7 u8 h => ?_)
      obtain ⟨k9, e_k9, l_k9, h⟩ := h
      refine w_iast (k_ := k9) (dk_Mod_setAll 120 rfl) rfl (by decide) e_k9 l_k9 ?_
      refine w_iload (dk_Mod_setAll 121 rfl) rfl ?_
      refine w_iconst (v := 2) (dk_Mod_setAll 122 rfl) rfl ?_
      refine w_aload_n (dk_Mod_setAll 123 rfl) rfl ?_
      refine w_getr (dk_Mod_setAll 124 rfl) lk_Mod_85 rfl rfl rfl ?_
      refine w_iload (dk_Mod_setAll 125 rfl) rfl ?_
      refine w_iconst (v := 1) (dk_Mod_setAll 126 rfl) rfl ?_
      refine w_iadd (dk_Mod_setAll 127 rfl) ?_
      obtain ⟨k10, e_k10, l_k10, h⟩ := h
      refine w_iald (k_ := k10) (dk_Mod_setAll 128 rfl) rfl (by decide) e_k10 l_k10 ?_
      show WS _ _ _ _ [.int (aI u8 67 k10), .int 2, .int x7] _ _
      refine w_iadd (dk_Mod_setAll 129 rfl) ?_
      refine w_iadd (dk_Mod_setAll 130 rfl) ?_
      refine w_istore (ls' := [some (.ref 52), some (.int x1), some (.int x2), some (.int x3), some (.int x4), some (.int x5), some (.int x6), some (.int (x7 + (2 + (aI u8 67 k10)))), some (.int x8)]) (dk_Mod_setAll 131 rfl) (by decide) rfl ?_
      refine w_iinc (v := x8 + 1) (ls' := [some (.ref 52), some (.int x1), some (.int x2), some (.int x3), some (.int x4), some (.int x5), some (.int x6), some (.int (x7 + (2 + (aI u8 67 k10)))), some (.int (x8 + 1))]) (dk_Mod_setAll 132 rfl) rfl rfl (by decide) rfl ?_
      refine w_goto 133 (dk_Mod_setAll 133 rfl) (by decide) ?_
      exact h
theorem g_Mod_setAll_230 {d : Nat} {u : Us} {Q : Ot → Us → Prop} (x1 : Int32) (x2 : Int32) (x3 : Int32) (x4 : Int32) (x5 : Int32) (x6 : Int32)
    (h : (384 ≤ x6 → Q (.inl (some (.int x5))) u) ∧ (¬ (384 ≤ x6) → ∃ k1 : Nat, x6 = nI k1 ∧ k1 < 384 ∧ (∃ k2 : Nat, x6 = nI k2 ∧ k2 < 384 ∧ (WS (d + 1) m_Mod_setAll 230 [some (.ref 52), some (.int x1), some (.int x2), some (.int x3), some (.int x4), some (.int x5), some (.int (x6 + 1)), none, none] [] (uI u 61 k2 (aI u 79 k1)) Q)))) :
    WS (d + 1) m_Mod_setAll 230 [some (.ref 52), some (.int x1), some (.int x2), some (.int x3), some (.int x4), some (.int x5), some (.int x6), none, none] [] u Q := by
  refine w_iload (dk_Mod_setAll 138 rfl) rfl ?_
  refine w_sipush (v := 384) (dk_Mod_setAll 139 rfl) rfl ?_
  refine w_icmp_ge 258 (dk_Mod_setAll 140 rfl) (by decide) (fun c_ => ?_) (fun c_ => ?_)
  · replace h := h.1 c_
    refine w_iload (dk_Mod_setAll 151 rfl) rfl ?_
    exact w_iret (dk_Mod_setAll 152 rfl) rfl h
  · replace h := h.2 c_
    refine w_aload_n (dk_Mod_setAll 141 rfl) rfl ?_
    refine w_getr (dk_Mod_setAll 142 rfl) lk_Mod_48 rfl rfl rfl ?_
    refine w_iload (dk_Mod_setAll 143 rfl) rfl ?_
    refine w_aload_n (dk_Mod_setAll 144 rfl) rfl ?_
    refine w_getr (dk_Mod_setAll 145 rfl) lk_Mod_145 rfl rfl rfl ?_
    refine w_iload (dk_Mod_setAll 146 rfl) rfl ?_
    obtain ⟨k1, e_k1, l_k1, h⟩ := h
    refine w_iald (k_ := k1) (dk_Mod_setAll 147 rfl) rfl (by decide) e_k1 l_k1 ?_
    obtain ⟨k2, e_k2, l_k2, h⟩ := h
    refine w_iast (k_ := k2) (dk_Mod_setAll 148 rfl) rfl (by decide) e_k2 l_k2 ?_
    refine w_iinc (v := x6 + 1) (ls' := [some (.ref 52), some (.int x1), some (.int x2), some (.int x3), some (.int x4), some (.int x5), some (.int (x6 + 1)), none, none]) (dk_Mod_setAll 149 rfl) rfl rfl (by decide) rfl ?_
    refine w_goto 230 (dk_Mod_setAll 150 rfl) (by decide) ?_
    exact h
theorem g_Mod_beginEach_0 {d : Nat} {u : Us} {Q : Ot → Us → Prop} (p1 : Int32)
    (h : ∃ k1 : Nat, p1 + 1 = nI k1 ∧ k1 < 3000 ∧ (∃ k2 : Nat, p1 + 3 = nI k2 ∧ k2 < 3000 ∧ (∃ k3 : Nat, p1 + 2 = nI k3 ∧ k3 < 3000 ∧ (WS d m_Mod_choose 0 [some (.ref 52), some (.int (aI u 67 k3)), some (.int (p1 + 4)), none] [] u (Rv (fun (u5 : Us) => WS (d + 1) m_Mod_beginEach 39 [some (.ref 52), some (.int p1), some (.int (aI u 67 k1)), some (.int (aI u 67 k2)), some (.int 0), some (.int 0), none] [] u5 Q) (fun x u => Q (.inr x) u)))))) :
    WS (d + 1) m_Mod_beginEach 0 [some (.ref 52), some (.int p1), none, none, none, none, none] [] u Q := by
  refine w_aload_n (dk_Mod_beginEach 0 rfl) rfl ?_
  refine w_getr (dk_Mod_beginEach 1 rfl) lk_Mod_85 rfl rfl rfl ?_
  refine w_iload_n (dk_Mod_beginEach 2 rfl) rfl ?_
  refine w_iconst (v := 1) (dk_Mod_beginEach 3 rfl) rfl ?_
  refine w_iadd (dk_Mod_beginEach 4 rfl) ?_
  obtain ⟨k1, e_k1, l_k1, h⟩ := h
  refine w_iald (k_ := k1) (dk_Mod_beginEach 5 rfl) rfl (by decide) e_k1 l_k1 ?_
  refine w_istore_n (ls' := [some (.ref 52), some (.int p1), some (.int (aI u 67 k1)), none, none, none, none]) (dk_Mod_beginEach 6 rfl) (by decide) rfl ?_
  refine w_aload_n (dk_Mod_beginEach 7 rfl) rfl ?_
  refine w_getr (dk_Mod_beginEach 8 rfl) lk_Mod_85 rfl rfl rfl ?_
  refine w_iload_n (dk_Mod_beginEach 9 rfl) rfl ?_
  refine w_iconst (v := 3) (dk_Mod_beginEach 10 rfl) rfl ?_
  refine w_iadd (dk_Mod_beginEach 11 rfl) ?_
  obtain ⟨k2, e_k2, l_k2, h⟩ := h
  refine w_iald (k_ := k2) (dk_Mod_beginEach 12 rfl) rfl (by decide) e_k2 l_k2 ?_
  refine w_istore_n (ls' := [some (.ref 52), some (.int p1), some (.int (aI u 67 k1)), some (.int (aI u 67 k2)), none, none, none]) (dk_Mod_beginEach 13 rfl) (by decide) rfl ?_
  refine w_aload_n (dk_Mod_beginEach 14 rfl) rfl ?_
  refine w_aload_n (dk_Mod_beginEach 15 rfl) rfl ?_
  refine w_getr (dk_Mod_beginEach 16 rfl) lk_Mod_85 rfl rfl rfl ?_
  refine w_iload_n (dk_Mod_beginEach 17 rfl) rfl ?_
  refine w_iconst (v := 2) (dk_Mod_beginEach 18 rfl) rfl ?_
  refine w_iadd (dk_Mod_beginEach 19 rfl) ?_
  obtain ⟨k3, e_k3, l_k3, h⟩ := h
  refine w_iald (k_ := k3) (dk_Mod_beginEach 20 rfl) rfl (by decide) e_k3 l_k3 ?_
  refine w_iload_n (dk_Mod_beginEach 21 rfl) rfl ?_
  refine w_iconst (v := 4) (dk_Mod_beginEach 22 rfl) rfl ?_
  refine w_iadd (dk_Mod_beginEach 23 rfl) ?_
  refine w_callVv (ls' := [some (.ref 52), some (.int (aI u 67 k3)), some (.int (p1 + 4)), none]) cv_Mod_393 (dk_Mod_beginEach 24 rfl) (ci := 10) rfl rfl [.int (aI u 67 k3), .int (p1 + 4)] [] rfl rfl (Nat.le_of_ble_eq_true rfl) (Nat.le_of_ble_eq_true rfl) rfl rfl rfl h (fun u5 h => ?_)
  refine w_iconst (v := 0) (dk_Mod_beginEach 25 rfl) rfl ?_
  refine w_istore (ls' := [some (.ref 52), some (.int p1), some (.int (aI u 67 k1)), some (.int (aI u 67 k2)), some (.int 0), none, none]) (dk_Mod_beginEach 26 rfl) (by decide) rfl ?_
  refine w_iconst (v := 0) (dk_Mod_beginEach 27 rfl) rfl ?_
  refine w_istore (ls' := [some (.ref 52), some (.int p1), some (.int (aI u 67 k1)), some (.int (aI u 67 k2)), some (.int 0), some (.int 0), none]) (dk_Mod_beginEach 28 rfl) (by decide) rfl ?_
  exact h
theorem g_Mod_beginEach_39 {d : Nat} {u : Us} {Q : Ot → Us → Prop} (x1 : Int32) (x2 : Int32) (x3 : Int32) (x4 : Int32) (x5 : Int32)
    (h : (64 ≤ x5 → ∃ k1 : Nat, x2 = nI k1 ∧ k1 < 12 ∧ (∃ k2 : Nat, x2 = nI k2 ∧ k2 < 12 ∧ (Q (.inl none) (uI (uI u 77 k1 x4) 78 k2 (-1))))) ∧ (¬ (64 ≤ x5) → ∃ k3 : Nat, x5 = nI k3 ∧ k3 < 64 ∧ (((aI u 80 k3) = 0 → WS (d + 1) m_Mod_beginEach 39 [some (.ref 52), some (.int x1), some (.int x2), some (.int x3), some (.int x4), some (.int (x5 + 1)), none] [] u Q) ∧ (¬ ((aI u 80 k3) = 0) → WS (d + 1) m_Mod_beginEach 60 [some (.ref 52), some (.int x1), some (.int x2), some (.int x3), some (.int x4), some (.int x5), some (.int x4)] [] u Q)))) :
    WS (d + 1) m_Mod_beginEach 39 [some (.ref 52), some (.int x1), some (.int x2), some (.int x3), some (.int x4), some (.int x5), none] [] u Q := by
  refine w_iload (dk_Mod_beginEach 29 rfl) rfl ?_
  refine w_bipush (v := 64) (dk_Mod_beginEach 30 rfl) rfl ?_
  refine w_icmp_ge 204 (dk_Mod_beginEach 31 rfl) (by decide) (fun c_ => ?_) (fun c_ => ?_)
  · replace h := h.1 c_
    refine w_aload_n (dk_Mod_beginEach 129 rfl) rfl ?_
    refine w_getr (dk_Mod_beginEach 130 rfl) lk_Mod_139 rfl rfl rfl ?_
    refine w_iload_n (dk_Mod_beginEach 131 rfl) rfl ?_
    refine w_iload (dk_Mod_beginEach 132 rfl) rfl ?_
    obtain ⟨k1, e_k1, l_k1, h⟩ := h
    refine w_iast (k_ := k1) (dk_Mod_beginEach 133 rfl) rfl (by decide) e_k1 l_k1 ?_
    refine w_aload_n (dk_Mod_beginEach 134 rfl) rfl ?_
    refine w_getr (dk_Mod_beginEach 135 rfl) lk_Mod_142 rfl rfl rfl ?_
    refine w_iload_n (dk_Mod_beginEach 136 rfl) rfl ?_
    refine w_iconst (v := (-1)) (dk_Mod_beginEach 137 rfl) rfl ?_
    obtain ⟨k2, e_k2, l_k2, h⟩ := h
    refine w_iast (k_ := k2) (dk_Mod_beginEach 138 rfl) rfl (by decide) e_k2 l_k2 ?_
    exact w_vret (dk_Mod_beginEach 139 rfl) rfl h
  · replace h := h.2 c_
    refine w_aload_n (dk_Mod_beginEach 32 rfl) rfl ?_
    refine w_getr (dk_Mod_beginEach 33 rfl) lk_Mod_148 rfl rfl rfl ?_
    refine w_iload (dk_Mod_beginEach 34 rfl) rfl ?_
    obtain ⟨k3, e_k3, l_k3, h⟩ := h
    refine w_zald (k_ := k3) (dk_Mod_beginEach 35 rfl) rfl (by decide) e_k3 l_k3 ?_
    refine w_if_eq 198 (dk_Mod_beginEach 36 rfl) (by decide) (fun c_ => ?_) (fun c_ => ?_)
    · replace h := h.1 c_
      refine w_iinc (v := x5 + 1) (ls' := [some (.ref 52), some (.int x1), some (.int x2), some (.int x3), some (.int x4), some (.int (x5 + 1)), none]) (dk_Mod_beginEach 127 rfl) rfl rfl (by decide) rfl ?_
      refine w_goto 39 (dk_Mod_beginEach 128 rfl) (by decide) ?_
      exact h
    · replace h := h.2 c_
      refine w_iload (dk_Mod_beginEach 37 rfl) rfl ?_
      refine w_istore (ls' := [some (.ref 52), some (.int x1), some (.int x2), some (.int x3), some (.int x4), some (.int x5), some (.int x4)]) (dk_Mod_beginEach 38 rfl) (by decide) rfl ?_
      exact h
theorem g_Mod_beginEach_60 {d : Nat} {u : Us} {Q : Ot → Us → Prop} (x1 : Int32) (x2 : Int32) (x3 : Int32) (x4 : Int32) (x5 : Int32) (x6 : Int32)
    (h : (x6 ≤ 0 → ∃ k1 : Nat, (64 * x2) + x6 = nI k1 ∧ k1 < 768 ∧ (∃ k2 : Nat, x5 = nI k2 ∧ k2 < 64 ∧ (∃ k3 : Nat, (64 * x2) + x6 = nI k3 ∧ k3 < 768 ∧ (WS (d + 1) m_Mod_beginEach 39 [some (.ref 52), some (.int x1), some (.int x2), some (.int x3), some (.int (x4 + 1)), some (.int (x5 + 1)), some (.int x6)] [] (uI (uI u 75 k1 x5) 76 k3 (aI u 62 k2)) Q)))) ∧ (¬ (x6 ≤ 0) → ∃ k4 : Nat, ((64 * x2) + x6) - 1 = nI k4 ∧ k4 < 768 ∧ (∃ k5 : Nat, (6 * (aI u 75 k4)) + x3 = nI k5 ∧ k5 < 384 ∧ (∃ k6 : Nat, (6 * x5) + x3 = nI k6 ∧ k6 < 384 ∧ (((aI u 61 k5) ≤ (aI u 61 k6) → ∃ k7 : Nat, (64 * x2) + x6 = nI k7 ∧ k7 < 768 ∧ (∃ k8 : Nat, x5 = nI k8 ∧ k8 < 64 ∧ (∃ k9 : Nat, (64 * x2) + x6 = nI k9 ∧ k9 < 768 ∧ (WS (d + 1) m_Mod_beginEach 39 [some (.ref 52), some (.int x1), some (.int x2), some (.int x3), some (.int (x4 + 1)), some (.int (x5 + 1)), some (.int x6)] [] (uI (uI u 75 k7 x5) 76 k9 (aI u 62 k8)) Q)))) ∧ (¬ ((aI u 61 k5) ≤ (aI u 61 k6)) → ∃ k10 : Nat, ((64 * x2) + x6) - 1 = nI k10 ∧ k10 < 768 ∧ (∃ k11 : Nat, (64 * x2) + x6 = nI k11 ∧ k11 < 768 ∧ (∃ k12 : Nat, ((64 * x2) + x6) - 1 = nI k12 ∧ k12 < 768 ∧ (∃ k13 : Nat, (64 * x2) + x6 = nI k13 ∧ k13 < 768 ∧ (WS (d + 1) m_Mod_beginEach 60 [some (.ref 52), some (.int x1), some (.int x2), some (.int x3), some (.int x4), some (.int x5), some (.int (x6 + (-1)))] [] (uI (uI u 75 k11 (aI u 75 k10)) 76 k13 (aI u 76 k12)) Q)))))))))) :
    WS (d + 1) m_Mod_beginEach 60 [some (.ref 52), some (.int x1), some (.int x2), some (.int x3), some (.int x4), some (.int x5), some (.int x6)] [] u Q := by
  refine w_iload (dk_Mod_beginEach 39 rfl) rfl ?_
  refine w_if_le 162 (dk_Mod_beginEach 40 rfl) (by decide) (fun c_ => ?_) (fun c_ => ?_)
  · replace h := h.1 c_
    refine w_aload_n (dk_Mod_beginEach 105 rfl) rfl ?_
    refine w_getr (dk_Mod_beginEach 106 rfl) lk_Mod_133 rfl rfl rfl ?_
    refine w_bipush (v := 64) (dk_Mod_beginEach 107 rfl) rfl ?_
    refine w_iload_n (dk_Mod_beginEach 108 rfl) rfl ?_
    refine w_imul (dk_Mod_beginEach 109 rfl) ?_
    refine w_iload (dk_Mod_beginEach 110 rfl) rfl ?_
    refine w_iadd (dk_Mod_beginEach 111 rfl) ?_
    refine w_iload (dk_Mod_beginEach 112 rfl) rfl ?_
    obtain ⟨k1, e_k1, l_k1, h⟩ := h
    refine w_iast (k_ := k1) (dk_Mod_beginEach 113 rfl) rfl (by decide) e_k1 l_k1 ?_
    refine w_aload_n (dk_Mod_beginEach 114 rfl) rfl ?_
    refine w_getr (dk_Mod_beginEach 115 rfl) lk_Mod_136 rfl rfl rfl ?_
    refine w_bipush (v := 64) (dk_Mod_beginEach 116 rfl) rfl ?_
    refine w_iload_n (dk_Mod_beginEach 117 rfl) rfl ?_
    refine w_imul (dk_Mod_beginEach 118 rfl) ?_
    refine w_iload (dk_Mod_beginEach 119 rfl) rfl ?_
    refine w_iadd (dk_Mod_beginEach 120 rfl) ?_
    refine w_aload_n (dk_Mod_beginEach 121 rfl) rfl ?_
    refine w_getr (dk_Mod_beginEach 122 rfl) lk_Mod_51 rfl rfl rfl ?_
    refine w_iload (dk_Mod_beginEach 123 rfl) rfl ?_
    obtain ⟨k2, e_k2, l_k2, h⟩ := h
    refine w_iald (k_ := k2) (dk_Mod_beginEach 124 rfl) rfl (by decide) e_k2 l_k2 ?_
    show WS _ _ _ _ [.int (aI u 62 k2), .int ((64 * x2) + x6), .ref 76] _ _
    obtain ⟨k3, e_k3, l_k3, h⟩ := h
    refine w_iast (k_ := k3) (dk_Mod_beginEach 125 rfl) rfl (by decide) e_k3 l_k3 ?_
    refine w_iinc (v := x4 + 1) (ls' := [some (.ref 52), some (.int x1), some (.int x2), some (.int x3), some (.int (x4 + 1)), some (.int x5), some (.int x6)]) (dk_Mod_beginEach 126 rfl) rfl rfl (by decide) rfl ?_
    refine w_iinc (v := x5 + 1) (ls' := [some (.ref 52), some (.int x1), some (.int x2), some (.int x3), some (.int (x4 + 1)), some (.int (x5 + 1)), some (.int x6)]) (dk_Mod_beginEach 127 rfl) rfl rfl (by decide) rfl ?_
    refine w_goto 39 (dk_Mod_beginEach 128 rfl) (by decide) ?_
    exact h
  · replace h := h.2 c_
    refine w_aload_n (dk_Mod_beginEach 41 rfl) rfl ?_
    refine w_getr (dk_Mod_beginEach 42 rfl) lk_Mod_48 rfl rfl rfl ?_
    refine w_bipush (v := 6) (dk_Mod_beginEach 43 rfl) rfl ?_
    refine w_aload_n (dk_Mod_beginEach 44 rfl) rfl ?_
    refine w_getr (dk_Mod_beginEach 45 rfl) lk_Mod_133 rfl rfl rfl ?_
    refine w_bipush (v := 64) (dk_Mod_beginEach 46 rfl) rfl ?_
    refine w_iload_n (dk_Mod_beginEach 47 rfl) rfl ?_
    refine w_imul (dk_Mod_beginEach 48 rfl) ?_
    refine w_iload (dk_Mod_beginEach 49 rfl) rfl ?_
    refine w_iadd (dk_Mod_beginEach 50 rfl) ?_
    refine w_iconst (v := 1) (dk_Mod_beginEach 51 rfl) rfl ?_
    refine w_isub (dk_Mod_beginEach 52 rfl) ?_
    obtain ⟨k4, e_k4, l_k4, h⟩ := h
    refine w_iald (k_ := k4) (dk_Mod_beginEach 53 rfl) rfl (by decide) e_k4 l_k4 ?_
    refine w_imul (dk_Mod_beginEach 54 rfl) ?_
    refine w_iload_n (dk_Mod_beginEach 55 rfl) rfl ?_
    refine w_iadd (dk_Mod_beginEach 56 rfl) ?_
    obtain ⟨k5, e_k5, l_k5, h⟩ := h
    refine w_iald (k_ := k5) (dk_Mod_beginEach 57 rfl) rfl (by decide) e_k5 l_k5 ?_
    refine w_aload_n (dk_Mod_beginEach 58 rfl) rfl ?_
    refine w_getr (dk_Mod_beginEach 59 rfl) lk_Mod_48 rfl rfl rfl ?_
    refine w_bipush (v := 6) (dk_Mod_beginEach 60 rfl) rfl ?_
    refine w_iload (dk_Mod_beginEach 61 rfl) rfl ?_
    refine w_imul (dk_Mod_beginEach 62 rfl) ?_
    refine w_iload_n (dk_Mod_beginEach 63 rfl) rfl ?_
    refine w_iadd (dk_Mod_beginEach 64 rfl) ?_
    obtain ⟨k6, e_k6, l_k6, h⟩ := h
    refine w_iald (k_ := k6) (dk_Mod_beginEach 65 rfl) rfl (by decide) e_k6 l_k6 ?_
    refine w_icmp_le 162 (dk_Mod_beginEach 66 rfl) (by decide) (fun c_ => ?_) (fun c_ => ?_)
    · replace h := h.1 c_
      refine w_aload_n (dk_Mod_beginEach 105 rfl) rfl ?_
      refine w_getr (dk_Mod_beginEach 106 rfl) lk_Mod_133 rfl rfl rfl ?_
      refine w_bipush (v := 64) (dk_Mod_beginEach 107 rfl) rfl ?_
      refine w_iload_n (dk_Mod_beginEach 108 rfl) rfl ?_
      refine w_imul (dk_Mod_beginEach 109 rfl) ?_
      refine w_iload (dk_Mod_beginEach 110 rfl) rfl ?_
      refine w_iadd (dk_Mod_beginEach 111 rfl) ?_
      refine w_iload (dk_Mod_beginEach 112 rfl) rfl ?_
      obtain ⟨k7, e_k7, l_k7, h⟩ := h
      refine w_iast (k_ := k7) (dk_Mod_beginEach 113 rfl) rfl (by decide) e_k7 l_k7 ?_
      refine w_aload_n (dk_Mod_beginEach 114 rfl) rfl ?_
      refine w_getr (dk_Mod_beginEach 115 rfl) lk_Mod_136 rfl rfl rfl ?_
      refine w_bipush (v := 64) (dk_Mod_beginEach 116 rfl) rfl ?_
      refine w_iload_n (dk_Mod_beginEach 117 rfl) rfl ?_
      refine w_imul (dk_Mod_beginEach 118 rfl) ?_
      refine w_iload (dk_Mod_beginEach 119 rfl) rfl ?_
      refine w_iadd (dk_Mod_beginEach 120 rfl) ?_
      refine w_aload_n (dk_Mod_beginEach 121 rfl) rfl ?_
      refine w_getr (dk_Mod_beginEach 122 rfl) lk_Mod_51 rfl rfl rfl ?_
      refine w_iload (dk_Mod_beginEach 123 rfl) rfl ?_
      obtain ⟨k8, e_k8, l_k8, h⟩ := h
      refine w_iald (k_ := k8) (dk_Mod_beginEach 124 rfl) rfl (by decide) e_k8 l_k8 ?_
      show WS _ _ _ _ [.int (aI u 62 k8), .int ((64 * x2) + x6), .ref 76] _ _
      obtain ⟨k9, e_k9, l_k9, h⟩ := h
      refine w_iast (k_ := k9) (dk_Mod_beginEach 125 rfl) rfl (by decide) e_k9 l_k9 ?_
      refine w_iinc (v := x4 + 1) (ls' := [some (.ref 52), some (.int x1), some (.int x2), some (.int x3), some (.int (x4 + 1)), some (.int x5), some (.int x6)]) (dk_Mod_beginEach 126 rfl) rfl rfl (by decide) rfl ?_
      refine w_iinc (v := x5 + 1) (ls' := [some (.ref 52), some (.int x1), some (.int x2), some (.int x3), some (.int (x4 + 1)), some (.int (x5 + 1)), some (.int x6)]) (dk_Mod_beginEach 127 rfl) rfl rfl (by decide) rfl ?_
      refine w_goto 39 (dk_Mod_beginEach 128 rfl) (by decide) ?_
      exact h
    · replace h := h.2 c_
      refine w_aload_n (dk_Mod_beginEach 67 rfl) rfl ?_
      refine w_getr (dk_Mod_beginEach 68 rfl) lk_Mod_133 rfl rfl rfl ?_
      refine w_bipush (v := 64) (dk_Mod_beginEach 69 rfl) rfl ?_
      refine w_iload_n (dk_Mod_beginEach 70 rfl) rfl ?_
      refine w_imul (dk_Mod_beginEach 71 rfl) ?_
      refine w_iload (dk_Mod_beginEach 72 rfl) rfl ?_
      refine w_iadd (dk_Mod_beginEach 73 rfl) ?_
      refine w_aload_n (dk_Mod_beginEach 74 rfl) rfl ?_
      refine w_getr (dk_Mod_beginEach 75 rfl) lk_Mod_133 rfl rfl rfl ?_
      refine w_bipush (v := 64) (dk_Mod_beginEach 76 rfl) rfl ?_
      refine w_iload_n (dk_Mod_beginEach 77 rfl) rfl ?_
      refine w_imul (dk_Mod_beginEach 78 rfl) ?_
      refine w_iload (dk_Mod_beginEach 79 rfl) rfl ?_
      refine w_iadd (dk_Mod_beginEach 80 rfl) ?_
      refine w_iconst (v := 1) (dk_Mod_beginEach 81 rfl) rfl ?_
      refine w_isub (dk_Mod_beginEach 82 rfl) ?_
      obtain ⟨k10, e_k10, l_k10, h⟩ := h
      refine w_iald (k_ := k10) (dk_Mod_beginEach 83 rfl) rfl (by decide) e_k10 l_k10 ?_
      obtain ⟨k11, e_k11, l_k11, h⟩ := h
      refine w_iast (k_ := k11) (dk_Mod_beginEach 84 rfl) rfl (by decide) e_k11 l_k11 ?_
      refine w_aload_n (dk_Mod_beginEach 85 rfl) rfl ?_
      refine w_getr (dk_Mod_beginEach 86 rfl) lk_Mod_136 rfl rfl rfl ?_
      refine w_bipush (v := 64) (dk_Mod_beginEach 87 rfl) rfl ?_
      refine w_iload_n (dk_Mod_beginEach 88 rfl) rfl ?_
      refine w_imul (dk_Mod_beginEach 89 rfl) ?_
      refine w_iload (dk_Mod_beginEach 90 rfl) rfl ?_
      refine w_iadd (dk_Mod_beginEach 91 rfl) ?_
      refine w_aload_n (dk_Mod_beginEach 92 rfl) rfl ?_
      refine w_getr (dk_Mod_beginEach 93 rfl) lk_Mod_136 rfl rfl rfl ?_
      refine w_bipush (v := 64) (dk_Mod_beginEach 94 rfl) rfl ?_
      refine w_iload_n (dk_Mod_beginEach 95 rfl) rfl ?_
      refine w_imul (dk_Mod_beginEach 96 rfl) ?_
      refine w_iload (dk_Mod_beginEach 97 rfl) rfl ?_
      refine w_iadd (dk_Mod_beginEach 98 rfl) ?_
      refine w_iconst (v := 1) (dk_Mod_beginEach 99 rfl) rfl ?_
      refine w_isub (dk_Mod_beginEach 100 rfl) ?_
      obtain ⟨k12, e_k12, l_k12, h⟩ := h
      refine w_iald (k_ := k12) (dk_Mod_beginEach 101 rfl) rfl (by decide) e_k12 l_k12 ?_
      show WS _ _ _ _ [.int (aI u 76 k12), .int ((64 * x2) + x6), .ref 76] _ _
      obtain ⟨k13, e_k13, l_k13, h⟩ := h
      refine w_iast (k_ := k13) (dk_Mod_beginEach 102 rfl) rfl (by decide) e_k13 l_k13 ?_
      refine w_iinc (v := x6 + (-1)) (ls' := [some (.ref 52), some (.int x1), some (.int x2), some (.int x3), some (.int x4), some (.int x5), some (.int (x6 + (-1)))]) (dk_Mod_beginEach 103 rfl) rfl rfl (by decide) rfl ?_
      refine w_goto 60 (dk_Mod_beginEach 104 rfl) (by decide) ?_
      exact h
theorem g_Mod_nextEach_0 {d : Nat} {u : Us} {Q : Ot → Us → Prop} (p1 : Int32)
    (h : ∃ k1 : Nat, p1 = nI k1 ∧ k1 < 12 ∧ (∃ k2 : Nat, p1 = nI k2 ∧ k2 < 12 ∧ (WS (d + 1) m_Mod_nextEach 14 [some (.ref 52), some (.int p1)] [] (uI u 78 k2 ((aI u 78 k1) + 1)) Q))) :
    WS (d + 1) m_Mod_nextEach 0 [some (.ref 52), some (.int p1)] [] u Q := by
  refine w_aload_n (dk_Mod_nextEach 0 rfl) rfl ?_
  refine w_getr (dk_Mod_nextEach 1 rfl) lk_Mod_142 rfl rfl rfl ?_
  refine w_iload_n (dk_Mod_nextEach 2 rfl) rfl ?_
  refine w_aload_n (dk_Mod_nextEach 3 rfl) rfl ?_
  refine w_getr (dk_Mod_nextEach 4 rfl) lk_Mod_142 rfl rfl rfl ?_
  refine w_iload_n (dk_Mod_nextEach 5 rfl) rfl ?_
  obtain ⟨k1, e_k1, l_k1, h⟩ := h
  refine w_iald (k_ := k1) (dk_Mod_nextEach 6 rfl) rfl (by decide) e_k1 l_k1 ?_
  refine w_iconst (v := 1) (dk_Mod_nextEach 7 rfl) rfl ?_
  refine w_iadd (dk_Mod_nextEach 8 rfl) ?_
  obtain ⟨k2, e_k2, l_k2, h⟩ := h
  refine w_iast (k_ := k2) (dk_Mod_nextEach 9 rfl) rfl (by decide) e_k2 l_k2 ?_
  exact h
theorem g_Mod_nextEach_14 {d : Nat} {u : Us} {Q : Ot → Us → Prop} (x1 : Int32)
    (h : ∃ k1 : Nat, x1 = nI k1 ∧ k1 < 12 ∧ (∃ k2 : Nat, x1 = nI k2 ∧ k2 < 12 ∧ (((aI u 77 k2) ≤ (aI u 78 k1) → ∃ k3 : Nat, x1 = nI k3 ∧ k3 < 12 ∧ (∃ k4 : Nat, x1 = nI k4 ∧ k4 < 12 ∧ (((aI u 77 k4) ≤ (aI u 78 k3) → Q (.inl (some (.int 0))) u) ∧ (¬ ((aI u 77 k4) ≤ (aI u 78 k3)) → Q (.inl (some (.int 1))) u)))) ∧ (¬ ((aI u 77 k2) ≤ (aI u 78 k1)) → WS d m_Mod_cursorThere 0 [some (.ref 52), some (.int x1), none, none] [] u (Ri (fun (r5 : Int32) (u6 : Us) => (r5 ≠ 0 → ∃ k7 : Nat, x1 = nI k7 ∧ k7 < 12 ∧ (∃ k8 : Nat, x1 = nI k8 ∧ k8 < 12 ∧ (((aI u6 77 k8) ≤ (aI u6 78 k7) → Q (.inl (some (.int 0))) u6) ∧ (¬ ((aI u6 77 k8) ≤ (aI u6 78 k7)) → Q (.inl (some (.int 1))) u6)))) ∧ (r5 = 0 → ∃ k9 : Nat, x1 = nI k9 ∧ k9 < 12 ∧ (∃ k10 : Nat, x1 = nI k10 ∧ k10 < 12 ∧ (WS (d + 1) m_Mod_nextEach 14 [some (.ref 52), some (.int x1)] [] (uI u6 78 k10 ((aI u6 78 k9) + 1)) Q)))) (fun x u => Q (.inr x) u)))))) :
    WS (d + 1) m_Mod_nextEach 14 [some (.ref 52), some (.int x1)] [] u Q := by
  refine w_aload_n (dk_Mod_nextEach 10 rfl) rfl ?_
  refine w_getr (dk_Mod_nextEach 11 rfl) lk_Mod_142 rfl rfl rfl ?_
  refine w_iload_n (dk_Mod_nextEach 12 rfl) rfl ?_
  obtain ⟨k1, e_k1, l_k1, h⟩ := h
  refine w_iald (k_ := k1) (dk_Mod_nextEach 13 rfl) rfl (by decide) e_k1 l_k1 ?_
  refine w_aload_n (dk_Mod_nextEach 14 rfl) rfl ?_
  refine w_getr (dk_Mod_nextEach 15 rfl) lk_Mod_139 rfl rfl rfl ?_
  refine w_iload_n (dk_Mod_nextEach 16 rfl) rfl ?_
  obtain ⟨k2, e_k2, l_k2, h⟩ := h
  refine w_iald (k_ := k2) (dk_Mod_nextEach 17 rfl) rfl (by decide) e_k2 l_k2 ?_
  refine w_icmp_ge 54 (dk_Mod_nextEach 18 rfl) (by decide) (fun c_ => ?_) (fun c_ => ?_)
  · replace h := h.1 c_
    refine w_aload_n (dk_Mod_nextEach 34 rfl) rfl ?_
    refine w_getr (dk_Mod_nextEach 35 rfl) lk_Mod_142 rfl rfl rfl ?_
    refine w_iload_n (dk_Mod_nextEach 36 rfl) rfl ?_
    obtain ⟨k3, e_k3, l_k3, h⟩ := h
    refine w_iald (k_ := k3) (dk_Mod_nextEach 37 rfl) rfl (by decide) e_k3 l_k3 ?_
    refine w_aload_n (dk_Mod_nextEach 38 rfl) rfl ?_
    refine w_getr (dk_Mod_nextEach 39 rfl) lk_Mod_139 rfl rfl rfl ?_
    refine w_iload_n (dk_Mod_nextEach 40 rfl) rfl ?_
    obtain ⟨k4, e_k4, l_k4, h⟩ := h
    refine w_iald (k_ := k4) (dk_Mod_nextEach 41 rfl) rfl (by decide) e_k4 l_k4 ?_
    refine w_icmp_ge 73 (dk_Mod_nextEach 42 rfl) (by decide) (fun c_ => ?_) (fun c_ => ?_)
    · replace h := h.1 c_
      refine w_iconst (v := 0) (dk_Mod_nextEach 45 rfl) rfl ?_
      exact w_bret (dk_Mod_nextEach 46 rfl) rfl (Or.inl rfl) h
    · replace h := h.2 c_
      refine w_iconst (v := 1) (dk_Mod_nextEach 43 rfl) rfl ?_
      refine w_goto 74 (dk_Mod_nextEach 44 rfl) (by decide) ?_
      exact w_bret (dk_Mod_nextEach 46 rfl) rfl (Or.inr rfl) h
  · replace h := h.2 c_
    refine w_aload_n (dk_Mod_nextEach 19 rfl) rfl ?_
    refine w_iload_n (dk_Mod_nextEach 20 rfl) rfl ?_
    refine w_callVi (ls' := [some (.ref 52), some (.int x1), none, none]) cv_Mod_370 (dk_Mod_nextEach 21 rfl) (ci := 10) rfl rfl [.int x1] [] rfl rfl (Nat.le_of_ble_eq_true rfl) (Nat.le_of_ble_eq_true rfl) rfl rfl rfl h (fun r5 u6 h => ?_)
    refine w_if_ne 54 (dk_Mod_nextEach 22 rfl) (by decide) (fun c_ => ?_) (fun c_ => ?_)
    · replace h := h.1 c_
      refine w_aload_n (dk_Mod_nextEach 34 rfl) rfl ?_
      refine w_getr (dk_Mod_nextEach 35 rfl) lk_Mod_142 rfl rfl rfl ?_
      refine w_iload_n (dk_Mod_nextEach 36 rfl) rfl ?_
      obtain ⟨k7, e_k7, l_k7, h⟩ := h
      refine w_iald (k_ := k7) (dk_Mod_nextEach 37 rfl) rfl (by decide) e_k7 l_k7 ?_
      refine w_aload_n (dk_Mod_nextEach 38 rfl) rfl ?_
      refine w_getr (dk_Mod_nextEach 39 rfl) lk_Mod_139 rfl rfl rfl ?_
      refine w_iload_n (dk_Mod_nextEach 40 rfl) rfl ?_
      obtain ⟨k8, e_k8, l_k8, h⟩ := h
      refine w_iald (k_ := k8) (dk_Mod_nextEach 41 rfl) rfl (by decide) e_k8 l_k8 ?_
      refine w_icmp_ge 73 (dk_Mod_nextEach 42 rfl) (by decide) (fun c_ => ?_) (fun c_ => ?_)
      · replace h := h.1 c_
        refine w_iconst (v := 0) (dk_Mod_nextEach 45 rfl) rfl ?_
        exact w_bret (dk_Mod_nextEach 46 rfl) rfl (Or.inl rfl) h
      · replace h := h.2 c_
        refine w_iconst (v := 1) (dk_Mod_nextEach 43 rfl) rfl ?_
        refine w_goto 74 (dk_Mod_nextEach 44 rfl) (by decide) ?_
        exact w_bret (dk_Mod_nextEach 46 rfl) rfl (Or.inr rfl) h
    · replace h := h.2 c_
      refine w_aload_n (dk_Mod_nextEach 23 rfl) rfl ?_
      refine w_getr (dk_Mod_nextEach 24 rfl) lk_Mod_142 rfl rfl rfl ?_
      refine w_iload_n (dk_Mod_nextEach 25 rfl) rfl ?_
      refine w_aload_n (dk_Mod_nextEach 26 rfl) rfl ?_
      refine w_getr (dk_Mod_nextEach 27 rfl) lk_Mod_142 rfl rfl rfl ?_
      refine w_iload_n (dk_Mod_nextEach 28 rfl) rfl ?_
      obtain ⟨k9, e_k9, l_k9, h⟩ := h
      refine w_iald (k_ := k9) (dk_Mod_nextEach 29 rfl) rfl (by decide) e_k9 l_k9 ?_
      refine w_iconst (v := 1) (dk_Mod_nextEach 30 rfl) rfl ?_
      refine w_iadd (dk_Mod_nextEach 31 rfl) ?_
      obtain ⟨k10, e_k10, l_k10, h⟩ := h
      refine w_iast (k_ := k10) (dk_Mod_nextEach 32 rfl) rfl (by decide) e_k10 l_k10 ?_
      refine w_goto 14 (dk_Mod_nextEach 33 rfl) (by decide) ?_
      exact h
theorem g_Mod_put_0 {d : Nat} {u : Us} {Q : Ot → Us → Prop} (p1 : Int32)
    (h : ∃ k1 : Nat, p1 + 1 = nI k1 ∧ k1 < 3000 ∧ (WS d m_Mod_cursorThere 0 [some (.ref 52), some (.int (aI u 67 k1)), none, none] [] (uI u 52 39 ((aI u 52 39) - 1)) (Ri (fun (r2 : Int32) (u3 : Us) => (r2 = 0 → Q (.inl none) u3) ∧ (¬ (r2 = 0) → ∃ k4 : Nat, aI u 67 k1 = nI k4 ∧ k4 < 12 ∧ (∃ k5 : Nat, (64 * (aI u 67 k1)) + (aI u3 78 k4) = nI k5 ∧ k5 < 768 ∧ (∃ k6 : Nat, p1 + 3 = nI k6 ∧ k6 < 3000 ∧ (∃ k7 : Nat, p1 + 2 = nI k7 ∧ k7 < 3000 ∧ (∃ k8 : Nat, p1 + 3 = nI k8 ∧ k8 < 3000 ∧ (∃ k9 : Nat, aI u3 52 39 = nI k9 ∧ k9 < 8 ∧ (WS d m_Mod_cut 0 [some (.ref 52), some (.int (aI u3 67 k7)), some (.int (aI u3 67 k8)), some (.int (aI u3 74 k9)), none] [] u3 (Ri (fun (r10 : Int32) (u11 : Us) => ∃ k12 : Nat, (6 * (aI u3 75 k5)) + (aI u3 67 k6) = nI k12 ∧ k12 < 384 ∧ (Q (.inl none) (uI u11 61 k12 r10))) (fun x u => Q (.inr x) u)))))))))) (fun x u => Q (.inr x) u)))) :
    WS (d + 1) m_Mod_put 0 [some (.ref 52), some (.int p1), none] [] u Q := by
  refine w_aload_n (dk_Mod_put 0 rfl) rfl ?_
  refine w_getr (dk_Mod_put 1 rfl) lk_Mod_85 rfl rfl rfl ?_
  refine w_iload_n (dk_Mod_put 2 rfl) rfl ?_
  refine w_iconst (v := 1) (dk_Mod_put 3 rfl) rfl ?_
  refine w_iadd (dk_Mod_put 4 rfl) ?_
  obtain ⟨k1, e_k1, l_k1, h⟩ := h
  refine w_iald (k_ := k1) (dk_Mod_put 5 rfl) rfl (by decide) e_k1 l_k1 ?_
  refine w_istore_n (ls' := [some (.ref 52), some (.int p1), some (.int (aI u 67 k1))]) (dk_Mod_put 6 rfl) (by decide) rfl ?_
  refine w_aload_n (dk_Mod_put 7 rfl) rfl ?_
  refine w_dup (dk_Mod_put 8 rfl) rfl ?_
  refine w_geti (v := aI u 52 39) (dk_Mod_put 9 rfl) lk_Mod_130 rfl rfl rfl ?_
  refine w_iconst (v := 1) (dk_Mod_put 10 rfl) rfl ?_
  refine w_isub (dk_Mod_put 11 rfl) ?_
  refine w_puti (dk_Mod_put 12 rfl) lk_Mod_130 rfl rfl ?_
  refine w_aload_n (dk_Mod_put 13 rfl) rfl ?_
  refine w_iload_n (dk_Mod_put 14 rfl) rfl ?_
  refine w_callVi (ls' := [some (.ref 52), some (.int (aI u 67 k1)), none, none]) cv_Mod_370 (dk_Mod_put 15 rfl) (ci := 10) rfl rfl [.int (aI u 67 k1)] [] rfl rfl (Nat.le_of_ble_eq_true rfl) (Nat.le_of_ble_eq_true rfl) rfl rfl rfl h (fun r2 u3 h => ?_)
  refine w_if_eq 89 (dk_Mod_put 16 rfl) (by decide) (fun c_ => ?_) (fun c_ => ?_)
  · replace h := h.1 c_
    exact w_vret (dk_Mod_put 59 rfl) rfl h
  · replace h := h.2 c_
    refine w_aload_n (dk_Mod_put 17 rfl) rfl ?_
    refine w_getr (dk_Mod_put 18 rfl) lk_Mod_48 rfl rfl rfl ?_
    refine w_bipush (v := 6) (dk_Mod_put 19 rfl) rfl ?_
    refine w_aload_n (dk_Mod_put 20 rfl) rfl ?_
    refine w_getr (dk_Mod_put 21 rfl) lk_Mod_133 rfl rfl rfl ?_
    refine w_bipush (v := 64) (dk_Mod_put 22 rfl) rfl ?_
    refine w_iload_n (dk_Mod_put 23 rfl) rfl ?_
    refine w_imul (dk_Mod_put 24 rfl) ?_
    refine w_aload_n (dk_Mod_put 25 rfl) rfl ?_
    refine w_getr (dk_Mod_put 26 rfl) lk_Mod_142 rfl rfl rfl ?_
    refine w_iload_n (dk_Mod_put 27 rfl) rfl ?_
    obtain ⟨k4, e_k4, l_k4, h⟩ := h
    refine w_iald (k_ := k4) (dk_Mod_put 28 rfl) rfl (by decide) e_k4 l_k4 ?_
    refine w_iadd (dk_Mod_put 29 rfl) ?_
    obtain ⟨k5, e_k5, l_k5, h⟩ := h
    refine w_iald (k_ := k5) (dk_Mod_put 30 rfl) rfl (by decide) e_k5 l_k5 ?_
    refine w_imul (dk_Mod_put 31 rfl) ?_
    refine w_aload_n (dk_Mod_put 32 rfl) rfl ?_
    refine w_getr (dk_Mod_put 33 rfl) lk_Mod_85 rfl rfl rfl ?_
    refine w_iload_n (dk_Mod_put 34 rfl) rfl ?_
    refine w_iconst (v := 3) (dk_Mod_put 35 rfl) rfl ?_
    refine w_iadd (dk_Mod_put 36 rfl) ?_
    obtain ⟨k6, e_k6, l_k6, h⟩ := h
    refine w_iald (k_ := k6) (dk_Mod_put 37 rfl) rfl (by decide) e_k6 l_k6 ?_
    refine w_iadd (dk_Mod_put 38 rfl) ?_
    refine w_aload_n (dk_Mod_put 39 rfl) rfl ?_
    refine w_aload_n (dk_Mod_put 40 rfl) rfl ?_
    refine w_getr (dk_Mod_put 41 rfl) lk_Mod_85 rfl rfl rfl ?_
    refine w_iload_n (dk_Mod_put 42 rfl) rfl ?_
    refine w_iconst (v := 2) (dk_Mod_put 43 rfl) rfl ?_
    refine w_iadd (dk_Mod_put 44 rfl) ?_
    obtain ⟨k7, e_k7, l_k7, h⟩ := h
    refine w_iald (k_ := k7) (dk_Mod_put 45 rfl) rfl (by decide) e_k7 l_k7 ?_
    refine w_aload_n (dk_Mod_put 46 rfl) rfl ?_
    refine w_getr (dk_Mod_put 47 rfl) lk_Mod_85 rfl rfl rfl ?_
    refine w_iload_n (dk_Mod_put 48 rfl) rfl ?_
    refine w_iconst (v := 3) (dk_Mod_put 49 rfl) rfl ?_
    refine w_iadd (dk_Mod_put 50 rfl) ?_
    obtain ⟨k8, e_k8, l_k8, h⟩ := h
    refine w_iald (k_ := k8) (dk_Mod_put 51 rfl) rfl (by decide) e_k8 l_k8 ?_
    refine w_aload_n (dk_Mod_put 52 rfl) rfl ?_
    refine w_getr (dk_Mod_put 53 rfl) lk_Mod_127 rfl rfl rfl ?_
    refine w_aload_n (dk_Mod_put 54 rfl) rfl ?_
    refine w_geti (v := aI u3 52 39) (dk_Mod_put 55 rfl) lk_Mod_130 rfl rfl rfl ?_
    obtain ⟨k9, e_k9, l_k9, h⟩ := h
    refine w_iald (k_ := k9) (dk_Mod_put 56 rfl) rfl (by decide) e_k9 l_k9 ?_
    refine w_callVi (ls' := [some (.ref 52), some (.int (aI u3 67 k7)), some (.int (aI u3 67 k8)), some (.int (aI u3 74 k9)), none]) cv_Mod_390 (dk_Mod_put 57 rfl) (ci := 10) rfl rfl [.int (aI u3 67 k7), .int (aI u3 67 k8), .int (aI u3 74 k9)] [.int ((6 * (aI u3 75 k5)) + (aI u3 67 k6)), .ref 61] rfl rfl (Nat.le_of_ble_eq_true rfl) (Nat.le_of_ble_eq_true rfl) rfl rfl rfl h (fun r10 u11 h => ?_)
    obtain ⟨k12, e_k12, l_k12, h⟩ := h
    refine w_iast (k_ := k12) (dk_Mod_put 58 rfl) rfl (by decide) e_k12 l_k12 ?_
    exact w_vret (dk_Mod_put 59 rfl) rfl h
theorem g_Mod_steps_0 {d : Nat} {u : Us} {Q : Ot → Us → Prop} 
    (h : Q (.inl (some (.int (aI u 52 36)))) (uI u 52 0 0)) :
    WS d m_Mod_steps 0 [some (.ref 52)] [] u Q := by
  refine w_aload_n (dk_Mod_steps 0 rfl) rfl ?_
  refine w_iconst (v := 0) (dk_Mod_steps 1 rfl) rfl ?_
  refine w_puti (dk_Mod_steps 2 rfl) lk_Mod_7 rfl rfl ?_
  refine w_aload_n (dk_Mod_steps 3 rfl) rfl ?_
  refine w_geti (v := aI u 52 36) (dk_Mod_steps 4 rfl) lk_Mod_121 rfl rfl rfl ?_
  exact w_iret (dk_Mod_steps 5 rfl) rfl h
theorem g_Mod_printed_0 {d : Nat} {u : Us} {Q : Ot → Us → Prop} 
    (h : Q (.inl (some (.int (aI u 52 47)))) (uI u 52 0 0)) :
    WS d m_Mod_printed 0 [some (.ref 52)] [] u Q := by
  refine w_aload_n (dk_Mod_printed 0 rfl) rfl ?_
  refine w_iconst (v := 0) (dk_Mod_printed 1 rfl) rfl ?_
  refine w_puti (dk_Mod_printed 2 rfl) lk_Mod_7 rfl rfl ?_
  refine w_aload_n (dk_Mod_printed 3 rfl) rfl ?_
  refine w_geti (v := aI u 52 47) (dk_Mod_printed 4 rfl) lk_Mod_155 rfl rfl rfl ?_
  exact w_iret (dk_Mod_printed 5 rfl) rfl h
theorem g_Mod_print_0 {d : Nat} {u : Us} {Q : Ot → Us → Prop} (p1 : Int32)
    (h : (p1 < 0 → Q (.inl (some (.int 0))) (uI u 52 0 1)) ∧ (¬ (p1 < 0) → ((aI u 52 47) ≤ p1 → Q (.inl (some (.int 0))) (uI u 52 0 1)) ∧ (¬ ((aI u 52 47) ≤ p1) → (((aI u 52 47) - 64) ≤ p1 → ∃ k1 : Nat, p1 - p1 / 64 * 64 = nI k1 ∧ k1 < 64 ∧ (Q (.inl (some (.int (aI u 81 k1)))) (uI u 52 0 0))) ∧ (¬ (((aI u 52 47) - 64) ≤ p1) → Q (.inl (some (.int 0))) (uI u 52 0 1))))) :
    WS d m_Mod_print 0 [some (.ref 52), some (.int p1)] [] u Q := by
  refine w_aload_n (dk_Mod_print 0 rfl) rfl ?_
  refine w_iload_n (dk_Mod_print 1 rfl) rfl ?_
  refine w_if_lt 24 (dk_Mod_print 2 rfl) (by decide) (fun c_ => ?_) (fun c_ => ?_)
  · replace h := h.1 c_
    refine w_iconst (v := 1) (dk_Mod_print 13 rfl) rfl ?_
    refine w_goto 29 (dk_Mod_print 14 rfl) (by decide) ?_
    refine w_puti (dk_Mod_print 16 rfl) lk_Mod_7 rfl rfl ?_
    refine w_aload_n (dk_Mod_print 17 rfl) rfl ?_
    refine w_geti (v := 1) (dk_Mod_print 18 rfl) lk_Mod_7 rfl rfl rfl ?_
    refine w_if_eq_f (dk_Mod_print 19 rfl) 43 (by decide) (by decide) ?_
    refine w_iconst (v := 0) (dk_Mod_print 20 rfl) rfl ?_
    refine w_goto 52 (dk_Mod_print 21 rfl) (by decide) ?_
    exact w_iret (dk_Mod_print 28 rfl) rfl h
  · replace h := h.2 c_
    refine w_iload_n (dk_Mod_print 3 rfl) rfl ?_
    refine w_aload_n (dk_Mod_print 4 rfl) rfl ?_
    refine w_geti (v := aI u 52 47) (dk_Mod_print 5 rfl) lk_Mod_155 rfl rfl rfl ?_
    refine w_icmp_ge 24 (dk_Mod_print 6 rfl) (by decide) (fun c_ => ?_) (fun c_ => ?_)
    · replace h := h.1 c_
      refine w_iconst (v := 1) (dk_Mod_print 13 rfl) rfl ?_
      refine w_goto 29 (dk_Mod_print 14 rfl) (by decide) ?_
      refine w_puti (dk_Mod_print 16 rfl) lk_Mod_7 rfl rfl ?_
      refine w_aload_n (dk_Mod_print 17 rfl) rfl ?_
      refine w_geti (v := 1) (dk_Mod_print 18 rfl) lk_Mod_7 rfl rfl rfl ?_
      refine w_if_eq_f (dk_Mod_print 19 rfl) 43 (by decide) (by decide) ?_
      refine w_iconst (v := 0) (dk_Mod_print 20 rfl) rfl ?_
      refine w_goto 52 (dk_Mod_print 21 rfl) (by decide) ?_
      exact w_iret (dk_Mod_print 28 rfl) rfl h
    · replace h := h.2 c_
      refine w_iload_n (dk_Mod_print 7 rfl) rfl ?_
      refine w_aload_n (dk_Mod_print 8 rfl) rfl ?_
      refine w_geti (v := aI u 52 47) (dk_Mod_print 9 rfl) lk_Mod_155 rfl rfl rfl ?_
      refine w_bipush (v := 64) (dk_Mod_print 10 rfl) rfl ?_
      refine w_isub (dk_Mod_print 11 rfl) ?_
      refine w_icmp_ge 28 (dk_Mod_print 12 rfl) (by decide) (fun c_ => ?_) (fun c_ => ?_)
      · replace h := h.1 c_
        refine w_iconst (v := 0) (dk_Mod_print 15 rfl) rfl ?_
        refine w_puti (dk_Mod_print 16 rfl) lk_Mod_7 rfl rfl ?_
        refine w_aload_n (dk_Mod_print 17 rfl) rfl ?_
        refine w_geti (v := 0) (dk_Mod_print 18 rfl) lk_Mod_7 rfl rfl rfl ?_
        refine w_if_eq_t 43 (dk_Mod_print 19 rfl) (by decide) (by decide) ?_
        refine w_aload_n (dk_Mod_print 22 rfl) rfl ?_
        refine w_getr (dk_Mod_print 23 rfl) lk_Mod_152 rfl rfl rfl ?_
        refine w_iload_n (dk_Mod_print 24 rfl) rfl ?_
        refine w_bipush (v := 64) (dk_Mod_print 25 rfl) rfl ?_
        refine w_irem (dk_Mod_print 26 rfl) (by decide) ?_
        obtain ⟨k1, e_k1, l_k1, h⟩ := h
        refine w_iald (k_ := k1) (dk_Mod_print 27 rfl) rfl (by decide) e_k1 l_k1 ?_
        show WS _ _ _ _ [.int (aI u 81 k1)] _ _
        exact w_iret (dk_Mod_print 28 rfl) rfl h
      · replace h := h.2 c_
        refine w_iconst (v := 1) (dk_Mod_print 13 rfl) rfl ?_
        refine w_goto 29 (dk_Mod_print 14 rfl) (by decide) ?_
        refine w_puti (dk_Mod_print 16 rfl) lk_Mod_7 rfl rfl ?_
        refine w_aload_n (dk_Mod_print 17 rfl) rfl ?_
        refine w_geti (v := 1) (dk_Mod_print 18 rfl) lk_Mod_7 rfl rfl rfl ?_
        refine w_if_eq_f (dk_Mod_print 19 rfl) 43 (by decide) (by decide) ?_
        refine w_iconst (v := 0) (dk_Mod_print 20 rfl) rfl ?_
        refine w_goto 52 (dk_Mod_print 21 rfl) (by decide) ?_
        exact w_iret (dk_Mod_print 28 rfl) rfl h
theorem g_Mod_word_0 {d : Nat} {u : Us} {Q : Ot → Us → Prop} (p1 : Int32) (p2 : Int32)
    (h : (p1 < 0 → Q (.inl (some (.int 0))) (uI u 52 0 1)) ∧ (¬ (p1 < 0) → (63 < p1 → Q (.inl (some (.int 0))) (uI u 52 0 1)) ∧ (¬ (63 < p1) → (p2 < 0 → Q (.inl (some (.int 0))) (uI u 52 0 1)) ∧ (¬ (p2 < 0) → (p2 ≤ 6 → (p2 ≠ 0 → ∃ k1 : Nat, p1 = nI k1 ∧ k1 < 64 ∧ (((aI u 60 k1) = 0 → Q (.inl (some (.int 0))) (uI u 52 0 0)) ∧ (¬ ((aI u 60 k1) = 0) → ∃ k2 : Nat, p1 = nI k2 ∧ k2 < 64 ∧ (∃ k3 : Nat, (aI u 60 k2) - 1 = nI k3 ∧ k3 < 7 ∧ ((p2 ≤ (aI u 55 k3) → ∃ k4 : Nat, ((6 * p1) + p2) - 1 = nI k4 ∧ k4 < 384 ∧ (Q (.inl (some (.int (aI u 61 k4)))) (uI u 52 0 0))) ∧ (¬ (p2 ≤ (aI u 55 k3)) → Q (.inl (some (.int 0))) (uI u 52 0 0))))))) ∧ (p2 = 0 → ∃ k5 : Nat, p1 = nI k5 ∧ k5 < 64 ∧ (Q (.inl (some (.int (aI u 60 k5)))) (uI u 52 0 0)))) ∧ (¬ (p2 ≤ 6) → Q (.inl (some (.int 0))) (uI u 52 0 1)))))) :
    WS d m_Mod_word 0 [some (.ref 52), some (.int p1), some (.int p2)] [] u Q := by
  refine w_aload_n (dk_Mod_word 0 rfl) rfl ?_
  refine w_iload_n (dk_Mod_word 1 rfl) rfl ?_
  refine w_if_lt 21 (dk_Mod_word 2 rfl) (by decide) (fun c_ => ?_) (fun c_ => ?_)
  · replace h := h.1 c_
    refine w_iconst (v := 1) (dk_Mod_word 11 rfl) rfl ?_
    refine w_goto 26 (dk_Mod_word 12 rfl) (by decide) ?_
    refine w_puti (dk_Mod_word 14 rfl) lk_Mod_7 rfl rfl ?_
    refine w_aload_n (dk_Mod_word 15 rfl) rfl ?_
    refine w_geti (v := 1) (dk_Mod_word 16 rfl) lk_Mod_7 rfl rfl rfl ?_
    refine w_if_eq_f (dk_Mod_word 17 rfl) 38 (by decide) (by decide) ?_
    refine w_iconst (v := 0) (dk_Mod_word 18 rfl) rfl ?_
    exact w_iret (dk_Mod_word 19 rfl) rfl h
  · replace h := h.2 c_
    refine w_iload_n (dk_Mod_word 3 rfl) rfl ?_
    refine w_bipush (v := 63) (dk_Mod_word 4 rfl) rfl ?_
    refine w_icmp_gt 21 (dk_Mod_word 5 rfl) (by decide) (fun c_ => ?_) (fun c_ => ?_)
    · replace h := h.1 c_
      refine w_iconst (v := 1) (dk_Mod_word 11 rfl) rfl ?_
      refine w_goto 26 (dk_Mod_word 12 rfl) (by decide) ?_
      refine w_puti (dk_Mod_word 14 rfl) lk_Mod_7 rfl rfl ?_
      refine w_aload_n (dk_Mod_word 15 rfl) rfl ?_
      refine w_geti (v := 1) (dk_Mod_word 16 rfl) lk_Mod_7 rfl rfl rfl ?_
      refine w_if_eq_f (dk_Mod_word 17 rfl) 38 (by decide) (by decide) ?_
      refine w_iconst (v := 0) (dk_Mod_word 18 rfl) rfl ?_
      exact w_iret (dk_Mod_word 19 rfl) rfl h
    · replace h := h.2 c_
      refine w_iload_n (dk_Mod_word 6 rfl) rfl ?_
      refine w_if_lt 21 (dk_Mod_word 7 rfl) (by decide) (fun c_ => ?_) (fun c_ => ?_)
      · replace h := h.1 c_
        refine w_iconst (v := 1) (dk_Mod_word 11 rfl) rfl ?_
        refine w_goto 26 (dk_Mod_word 12 rfl) (by decide) ?_
        refine w_puti (dk_Mod_word 14 rfl) lk_Mod_7 rfl rfl ?_
        refine w_aload_n (dk_Mod_word 15 rfl) rfl ?_
        refine w_geti (v := 1) (dk_Mod_word 16 rfl) lk_Mod_7 rfl rfl rfl ?_
        refine w_if_eq_f (dk_Mod_word 17 rfl) 38 (by decide) (by decide) ?_
        refine w_iconst (v := 0) (dk_Mod_word 18 rfl) rfl ?_
        exact w_iret (dk_Mod_word 19 rfl) rfl h
      · replace h := h.2 c_
        refine w_iload_n (dk_Mod_word 8 rfl) rfl ?_
        refine w_bipush (v := 6) (dk_Mod_word 9 rfl) rfl ?_
        refine w_icmp_le 25 (dk_Mod_word 10 rfl) (by decide) (fun c_ => ?_) (fun c_ => ?_)
        · replace h := h.1 c_
          refine w_iconst (v := 0) (dk_Mod_word 13 rfl) rfl ?_
          refine w_puti (dk_Mod_word 14 rfl) lk_Mod_7 rfl rfl ?_
          refine w_aload_n (dk_Mod_word 15 rfl) rfl ?_
          refine w_geti (v := 0) (dk_Mod_word 16 rfl) lk_Mod_7 rfl rfl rfl ?_
          refine w_if_eq_t 38 (dk_Mod_word 17 rfl) (by decide) (by decide) ?_
          refine w_iload_n (dk_Mod_word 20 rfl) rfl ?_
          refine w_if_ne 49 (dk_Mod_word 21 rfl) (by decide) (fun c_ => ?_) (fun c_ => ?_)
          · replace h := h.1 c_
            refine w_aload_n (dk_Mod_word 27 rfl) rfl ?_
            refine w_getr (dk_Mod_word 28 rfl) lk_Mod_45 rfl rfl rfl ?_
            refine w_iload_n (dk_Mod_word 29 rfl) rfl ?_
            obtain ⟨k1, e_k1, l_k1, h⟩ := h
            refine w_iald (k_ := k1) (dk_Mod_word 30 rfl) rfl (by decide) e_k1 l_k1 ?_
            show WS _ _ _ _ [.int (aI u 60 k1)] _ _
            refine w_if_eq 75 (dk_Mod_word 31 rfl) (by decide) (fun c_ => ?_) (fun c_ => ?_)
            · replace h := h.1 c_
              refine w_iconst (v := 0) (dk_Mod_word 43 rfl) rfl ?_
              refine w_goto 92 (dk_Mod_word 44 rfl) (by decide) ?_
              exact w_iret (dk_Mod_word 55 rfl) rfl h
            · replace h := h.2 c_
              refine w_iload_n (dk_Mod_word 32 rfl) rfl ?_
              refine w_aload_n (dk_Mod_word 33 rfl) rfl ?_
              refine w_getr (dk_Mod_word 34 rfl) lk_Mod_27 rfl rfl rfl ?_
              refine w_aload_n (dk_Mod_word 35 rfl) rfl ?_
              refine w_getr (dk_Mod_word 36 rfl) lk_Mod_45 rfl rfl rfl ?_
              refine w_iload_n (dk_Mod_word 37 rfl) rfl ?_
              obtain ⟨k2, e_k2, l_k2, h⟩ := h
              refine w_iald (k_ := k2) (dk_Mod_word 38 rfl) rfl (by decide) e_k2 l_k2 ?_
              show WS _ _ _ _ [.int (aI u 60 k2), .ref 55, .int p2] _ _
              refine w_iconst (v := 1) (dk_Mod_word 39 rfl) rfl ?_
              refine w_isub (dk_Mod_word 40 rfl) ?_
              obtain ⟨k3, e_k3, l_k3, h⟩ := h
              refine w_iald (k_ := k3) (dk_Mod_word 41 rfl) rfl (by decide) e_k3 l_k3 ?_
              show WS _ _ _ _ [.int (aI u 55 k3), .int p2] _ _
              refine w_icmp_le 79 (dk_Mod_word 42 rfl) (by decide) (fun c_ => ?_) (fun c_ => ?_)
              · replace h := h.1 c_
                refine w_aload_n (dk_Mod_word 45 rfl) rfl ?_
                refine w_getr (dk_Mod_word 46 rfl) lk_Mod_48 rfl rfl rfl ?_
                refine w_bipush (v := 6) (dk_Mod_word 47 rfl) rfl ?_
                refine w_iload_n (dk_Mod_word 48 rfl) rfl ?_
                refine w_imul (dk_Mod_word 49 rfl) ?_
                refine w_iload_n (dk_Mod_word 50 rfl) rfl ?_
                refine w_iadd (dk_Mod_word 51 rfl) ?_
                refine w_iconst (v := 1) (dk_Mod_word 52 rfl) rfl ?_
                refine w_isub (dk_Mod_word 53 rfl) ?_
                obtain ⟨k4, e_k4, l_k4, h⟩ := h
                refine w_iald (k_ := k4) (dk_Mod_word 54 rfl) rfl (by decide) e_k4 l_k4 ?_
                show WS _ _ _ _ [.int (aI u 61 k4)] _ _
                exact w_iret (dk_Mod_word 55 rfl) rfl h
              · replace h := h.2 c_
                refine w_iconst (v := 0) (dk_Mod_word 43 rfl) rfl ?_
                refine w_goto 92 (dk_Mod_word 44 rfl) (by decide) ?_
                exact w_iret (dk_Mod_word 55 rfl) rfl h
          · replace h := h.2 c_
            refine w_aload_n (dk_Mod_word 22 rfl) rfl ?_
            refine w_getr (dk_Mod_word 23 rfl) lk_Mod_45 rfl rfl rfl ?_
            refine w_iload_n (dk_Mod_word 24 rfl) rfl ?_
            obtain ⟨k5, e_k5, l_k5, h⟩ := h
            refine w_iald (k_ := k5) (dk_Mod_word 25 rfl) rfl (by decide) e_k5 l_k5 ?_
            show WS _ _ _ _ [.int (aI u 60 k5)] _ _
            exact w_iret (dk_Mod_word 26 rfl) rfl h
        · replace h := h.2 c_
          refine w_iconst (v := 1) (dk_Mod_word 11 rfl) rfl ?_
          refine w_goto 26 (dk_Mod_word 12 rfl) (by decide) ?_
          refine w_puti (dk_Mod_word 14 rfl) lk_Mod_7 rfl rfl ?_
          refine w_aload_n (dk_Mod_word 15 rfl) rfl ?_
          refine w_geti (v := 1) (dk_Mod_word 16 rfl) lk_Mod_7 rfl rfl rfl ?_
          refine w_if_eq_f (dk_Mod_word 17 rfl) 38 (by decide) (by decide) ?_
          refine w_iconst (v := 0) (dk_Mod_word 18 rfl) rfl ?_
          exact w_iret (dk_Mod_word 19 rfl) rfl h
theorem g_Mod_records_0 {d : Nat} {u : Us} {Q : Ot → Us → Prop} 
    (h : WS d m_Mod_records 9 [some (.ref 52), some (.int 0), some (.int 0)] [] (uI u 52 0 0) Q) :
    WS d m_Mod_records 0 [some (.ref 52), none, none] [] u Q := by
  refine w_aload_n (dk_Mod_records 0 rfl) rfl ?_
  refine w_iconst (v := 0) (dk_Mod_records 1 rfl) rfl ?_
  refine w_puti (dk_Mod_records 2 rfl) lk_Mod_7 rfl rfl ?_
  refine w_iconst (v := 0) (dk_Mod_records 3 rfl) rfl ?_
  refine w_istore_n (ls' := [some (.ref 52), some (.int 0), none]) (dk_Mod_records 4 rfl) (by decide) rfl ?_
  refine w_iconst (v := 0) (dk_Mod_records 5 rfl) rfl ?_
  refine w_istore_n (ls' := [some (.ref 52), some (.int 0), some (.int 0)]) (dk_Mod_records 6 rfl) (by decide) rfl ?_
  exact h
theorem g_Mod_records_9 {d : Nat} {u : Us} {Q : Ot → Us → Prop} (x1 : Int32) (x2 : Int32)
    (h : (64 ≤ x2 → Q (.inl (some (.int x1))) u) ∧ (¬ (64 ≤ x2) → ∃ k1 : Nat, x2 = nI k1 ∧ k1 < 64 ∧ (((aI u 60 k1) ≤ 0 → WS d m_Mod_records 9 [some (.ref 52), some (.int (x1 + 0)), some (.int (x2 + 1))] [] u Q) ∧ (¬ ((aI u 60 k1) ≤ 0) → WS d m_Mod_records 9 [some (.ref 52), some (.int (x1 + 1)), some (.int (x2 + 1))] [] u Q)))) :
    WS d m_Mod_records 9 [some (.ref 52), some (.int x1), some (.int x2)] [] u Q := by
  refine w_iload_n (dk_Mod_records 7 rfl) rfl ?_
  refine w_bipush (v := 64) (dk_Mod_records 8 rfl) rfl ?_
  refine w_icmp_ge 38 (dk_Mod_records 9 rfl) (by decide) (fun c_ => ?_) (fun c_ => ?_)
  · replace h := h.1 c_
    refine w_iload_n (dk_Mod_records 23 rfl) rfl ?_
    exact w_iret (dk_Mod_records 24 rfl) rfl h
  · replace h := h.2 c_
    refine w_iload_n (dk_Mod_records 10 rfl) rfl ?_
    refine w_aload_n (dk_Mod_records 11 rfl) rfl ?_
    refine w_getr (dk_Mod_records 12 rfl) lk_Mod_45 rfl rfl rfl ?_
    refine w_iload_n (dk_Mod_records 13 rfl) rfl ?_
    obtain ⟨k1, e_k1, l_k1, h⟩ := h
    refine w_iald (k_ := k1) (dk_Mod_records 14 rfl) rfl (by decide) e_k1 l_k1 ?_
    refine w_if_le 29 (dk_Mod_records 15 rfl) (by decide) (fun c_ => ?_) (fun c_ => ?_)
    · replace h := h.1 c_
      refine w_iconst (v := 0) (dk_Mod_records 18 rfl) rfl ?_
      refine w_iadd (dk_Mod_records 19 rfl) ?_
      refine w_istore_n (ls' := [some (.ref 52), some (.int (x1 + 0)), some (.int x2)]) (dk_Mod_records 20 rfl) (by decide) rfl ?_
      refine w_iinc (v := x2 + 1) (ls' := [some (.ref 52), some (.int (x1 + 0)), some (.int (x2 + 1))]) (dk_Mod_records 21 rfl) rfl rfl (by decide) rfl ?_
      refine w_goto 9 (dk_Mod_records 22 rfl) (by decide) ?_
      exact h
    · replace h := h.2 c_
      refine w_iconst (v := 1) (dk_Mod_records 16 rfl) rfl ?_
      refine w_goto 30 (dk_Mod_records 17 rfl) (by decide) ?_
      refine w_iadd (dk_Mod_records 19 rfl) ?_
      refine w_istore_n (ls' := [some (.ref 52), some (.int (x1 + 1)), some (.int x2)]) (dk_Mod_records 20 rfl) (by decide) rfl ?_
      refine w_iinc (v := x2 + 1) (ls' := [some (.ref 52), some (.int (x1 + 1)), some (.int (x2 + 1))]) (dk_Mod_records 21 rfl) rfl rfl (by decide) rfl ?_
      refine w_goto 9 (dk_Mod_records 22 rfl) (by decide) ?_
      exact h
