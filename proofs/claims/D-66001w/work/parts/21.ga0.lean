theorem g_Stor_free_0 {d : Nat} {u : Us} {Q : Ot → Us → Prop} 
    (h : Q (.inl (some (.long ((((aL u 40 0) ||| (aL u 40 1)) ||| (aL u 40 2)) ^^^ (-1))))) u) :
    WS d m_Stor_free 0 [some (.ref 39)] [] u Q := by
  refine w_aload_n (dk_Stor_free 0 rfl) rfl ?_
  refine w_getr (dk_Stor_free 1 rfl) lk_Stor_9 rfl rfl rfl ?_
  refine w_iconst (v := 0) (dk_Stor_free 2 rfl) rfl ?_
  refine w_lald (k_ := 0) (dk_Stor_free 3 rfl) rfl (by decide) rfl (by decide) ?_
  refine w_aload_n (dk_Stor_free 4 rfl) rfl ?_
  refine w_getr (dk_Stor_free 5 rfl) lk_Stor_9 rfl rfl rfl ?_
  refine w_iconst (v := 1) (dk_Stor_free 6 rfl) rfl ?_
  refine w_lald (k_ := 1) (dk_Stor_free 7 rfl) rfl (by decide) rfl (by decide) ?_
  refine w_lor (dk_Stor_free 8 rfl) ?_
  refine w_aload_n (dk_Stor_free 9 rfl) rfl ?_
  refine w_getr (dk_Stor_free 10 rfl) lk_Stor_9 rfl rfl rfl ?_
  refine w_iconst (v := 2) (dk_Stor_free 11 rfl) rfl ?_
  refine w_lald (k_ := 2) (dk_Stor_free 12 rfl) rfl (by decide) rfl (by decide) ?_
  refine w_lor (dk_Stor_free 13 rfl) ?_
  refine w_ldc2 (dk_Stor_free 14 rfl) kl_Stor_19 ?_
  refine w_lxor (dk_Stor_free 15 rfl) ?_
  exact w_lret (dk_Stor_free 16 rfl) rfl h
theorem g_Scan_begin_0 {d : Nat} {u : Us} {Q : Ot → Us → Prop} 
    (h : WS d m_Scan_next 0 [some (.ref 10), none] [] (uI (uI (uI (uI u 10 3 0) 10 7 0) 10 8 (-1)) 10 9 0) (Rv (fun (u2 : Us) => Q (.inl none) u2) (fun x u => Q (.inr x) u))) :
    WS (d + 1) m_Scan_begin 0 [some (.ref 10)] [] u Q := by
  refine w_aload_n (dk_Scan_begin 0 rfl) rfl ?_
  refine w_iconst (v := 0) (dk_Scan_begin 1 rfl) rfl ?_
  refine w_puti (dk_Scan_begin 2 rfl) lk_Scan_22 rfl rfl ?_
  refine w_aload_n (dk_Scan_begin 3 rfl) rfl ?_
  refine w_iconst (v := 0) (dk_Scan_begin 4 rfl) rfl ?_
  refine w_puti (dk_Scan_begin 5 rfl) lk_Scan_26 rfl rfl ?_
  refine w_aload_n (dk_Scan_begin 6 rfl) rfl ?_
  refine w_iconst (v := (-1)) (dk_Scan_begin 7 rfl) rfl ?_
  refine w_puti (dk_Scan_begin 8 rfl) lk_Scan_29 rfl rfl ?_
  refine w_aload_n (dk_Scan_begin 9 rfl) rfl ?_
  refine w_iconst (v := 0) (dk_Scan_begin 10 rfl) rfl ?_
  refine w_putz (dk_Scan_begin 11 rfl) lk_Scan_32 rfl rfl (Or.inl rfl) ?_
  refine w_aload_n (dk_Scan_begin 12 rfl) rfl ?_
  refine w_callVv (ls' := [some (.ref 10), none]) cv_Scan_36 (dk_Scan_begin 13 rfl) (ci := 1) rfl rfl [] [] rfl rfl (Nat.le_of_ble_eq_true rfl) (Nat.le_of_ble_eq_true rfl) rfl rfl rfl h (fun u2 h => ?_)
  exact w_vret (dk_Scan_begin 14 rfl) rfl h
theorem g_Scan_next_0 {d : Nat} {u : Us} {Q : Ot → Us → Prop} 
    (h : WS d m_Scan_see 0 [some (.ref 10), some (.int 0)] [] u (Ri (fun (r1 : Int32) (u2 : Us) => (r1 = 32 → WS (d + 1) m_Scan_next 20 [some (.ref 10), none] [] u2 Q) ∧ (¬ (r1 = 32) → WS d m_Scan_see 0 [some (.ref 10), some (.int 0)] [] u2 (Ri (fun (r3 : Int32) (u4 : Us) => (r3 ≠ 10 → ((aI u4 10 2) ≤ (aI u4 10 3) → WS (d + 1) m_Scan_next 75 [some (.ref 10), none] [] (uI u4 10 4 (aI u4 10 3)) Q) ∧ (¬ ((aI u4 10 2) ≤ (aI u4 10 3)) → ((aI u4 10 7) ≠ 150 → WS (d + 1) m_Scan_next 75 [some (.ref 10), none] [] (uI u4 10 4 (aI u4 10 3)) Q) ∧ ((aI u4 10 7) = 150 → 1 ≤ aC (uI (uI u4 10 4 (aI u4 10 3)) 10 9 1) ∧ 6 ≤ aN (uI (uI u4 10 4 (aI u4 10 3)) 10 9 1) ∧ Q (.inr 2) (uS (uI (uI u4 10 4 (aI u4 10 3)) 10 9 1))))) ∧ (r3 = 10 → WS (d + 1) m_Scan_next 20 [some (.ref 10), none] [] u4 Q)) (fun x u => Q (.inr x) u)))) (fun x u => Q (.inr x) u))) :
    WS (d + 1) m_Scan_next 0 [some (.ref 10), none] [] u Q := by
  refine w_aload_n (dk_Scan_next 0 rfl) rfl ?_
  refine w_iconst (v := 0) (dk_Scan_next 1 rfl) rfl ?_
  refine w_callVi (ls' := [some (.ref 10), some (.int 0)]) cv_Scan_48 (dk_Scan_next 2 rfl) (ci := 1) rfl rfl [.int 0] [] rfl rfl (Nat.le_of_ble_eq_true rfl) (Nat.le_of_ble_eq_true rfl) rfl rfl rfl h (fun r1 u2 h => ?_)
  refine w_bipush (v := 32) (dk_Scan_next 3 rfl) rfl ?_
  refine w_icmp_eq 20 (dk_Scan_next 4 rfl) (by decide) (fun c_ => ?_) (fun c_ => ?_)
  · replace h := h.1 c_
    exact h
  · replace h := h.2 c_
    refine w_aload_n (dk_Scan_next 5 rfl) rfl ?_
    refine w_iconst (v := 0) (dk_Scan_next 6 rfl) rfl ?_
    refine w_callVi (ls' := [some (.ref 10), some (.int 0)]) cv_Scan_48 (dk_Scan_next 7 rfl) (ci := 1) rfl rfl [.int 0] [] rfl rfl (Nat.le_of_ble_eq_true rfl) (Nat.le_of_ble_eq_true rfl) rfl rfl rfl h (fun r3 u4 h => ?_)
    refine w_bipush (v := 10) (dk_Scan_next 8 rfl) rfl ?_
    refine w_icmp_ne 33 (dk_Scan_next 9 rfl) (by decide) (fun c_ => ?_) (fun c_ => ?_)
    · replace h := h.1 c_
      refine w_aload_n (dk_Scan_next 17 rfl) rfl ?_
      refine w_aload_n (dk_Scan_next 18 rfl) rfl ?_
      refine w_geti (v := aI u4 10 3) (dk_Scan_next 19 rfl) lk_Scan_22 rfl rfl rfl ?_
      refine w_puti (dk_Scan_next 20 rfl) lk_Scan_39 rfl rfl ?_
      refine w_aload_n (dk_Scan_next 21 rfl) rfl ?_
      refine w_geti (v := aI u4 10 3) (dk_Scan_next 22 rfl) lk_Scan_22 rfl rfl rfl ?_
      refine w_aload_n (dk_Scan_next 23 rfl) rfl ?_
      refine w_geti (v := aI u4 10 2) (dk_Scan_next 24 rfl) lk_Scan_45 rfl rfl rfl ?_
      refine w_icmp_ge 75 (dk_Scan_next 25 rfl) (by decide) (fun c_ => ?_) (fun c_ => ?_)
      · replace h := h.1 c_
        exact h
      · replace h := h.2 c_
        refine w_aload_n (dk_Scan_next 26 rfl) rfl ?_
        refine w_geti (v := aI u4 10 7) (dk_Scan_next 27 rfl) lk_Scan_26 rfl rfl rfl ?_
        refine w_sipush (v := 150) (dk_Scan_next 28 rfl) rfl ?_
        refine w_icmp_ne 75 (dk_Scan_next 29 rfl) (by decide) (fun c_ => ?_) (fun c_ => ?_)
        · replace h := h.1 c_
          exact h
        · replace h := h.2 c_
          refine w_aload_n (dk_Scan_next 30 rfl) rfl ?_
          refine w_iconst (v := 1) (dk_Scan_next 31 rfl) rfl ?_
          refine w_putz (dk_Scan_next 32 rfl) lk_Scan_32 rfl rfl (Or.inr rfl) ?_
          exact w_throw th_Scan_42 (dk_Scan_next 33 rfl) (dk_Scan_next 34 rfl) (dk_Scan_next 35 rfl) (dk_Scan_next 36 rfl) rfl h.1 h.2.1 h.2.2
    · replace h := h.2 c_
      exact h
theorem g_Scan_next_20 {d : Nat} {u : Us} {Q : Ot → Us → Prop} 
    (h : WS (d + 1) m_Scan_next 0 [some (.ref 10), none] [] (uI u 10 3 ((aI u 10 3) + 1)) Q) :
    WS (d + 1) m_Scan_next 20 [some (.ref 10), none] [] u Q := by
  refine w_aload_n (dk_Scan_next 10 rfl) rfl ?_
  refine w_dup (dk_Scan_next 11 rfl) rfl ?_
  refine w_geti (v := aI u 10 3) (dk_Scan_next 12 rfl) lk_Scan_22 rfl rfl rfl ?_
  refine w_iconst (v := 1) (dk_Scan_next 13 rfl) rfl ?_
  refine w_iadd (dk_Scan_next 14 rfl) ?_
  refine w_puti (dk_Scan_next 15 rfl) lk_Scan_22 rfl rfl ?_
  refine w_goto 0 (dk_Scan_next 16 rfl) (by decide) ?_
  exact h
theorem g_Scan_next_75 {d : Nat} {u : Us} {Q : Ot → Us → Prop} 
    (h : WS d m_Scan_see 0 [some (.ref 10), some (.int 0)] [] u (Ri (fun (r1 : Int32) (u2 : Us) => (0 ≤ r1 → WS (d + 1) m_Scan_next 100 [some (.ref 10), some (.int r1)] [] u2 Q) ∧ (¬ (0 ≤ r1) → ((aI u2 10 2) ≤ (aI u2 10 3) → WS (d + 1) m_Scan_next 100 [some (.ref 10), some (.int r1)] [] u2 Q) ∧ (¬ ((aI u2 10 2) ≤ (aI u2 10 3)) → WS d m_Scan_fail 0 [some (.ref 10)] [] u2 (Rv (fun (u4 : Us) => WS (d + 1) m_Scan_next 100 [some (.ref 10), some (.int r1)] [] u4 Q) (fun x u => Q (.inr x) u))))) (fun x u => Q (.inr x) u))) :
    WS (d + 1) m_Scan_next 75 [some (.ref 10), none] [] u Q := by
  refine w_aload_n (dk_Scan_next 37 rfl) rfl ?_
  refine w_iconst (v := 0) (dk_Scan_next 38 rfl) rfl ?_
  refine w_callVi (ls' := [some (.ref 10), some (.int 0)]) cv_Scan_48 (dk_Scan_next 39 rfl) (ci := 1) rfl rfl [.int 0] [] rfl rfl (Nat.le_of_ble_eq_true rfl) (Nat.le_of_ble_eq_true rfl) rfl rfl rfl h (fun r1 u2 h => ?_)
  refine w_istore_n (ls' := [some (.ref 10), some (.int r1)]) (dk_Scan_next 40 rfl) (by decide) rfl ?_
  refine w_iload_n (dk_Scan_next 41 rfl) rfl ?_
  refine w_if_ge 100 (dk_Scan_next 42 rfl) (by decide) (fun c_ => ?_) (fun c_ => ?_)
  · replace h := h.1 c_
    exact h
  · replace h := h.2 c_
    refine w_aload_n (dk_Scan_next 43 rfl) rfl ?_
    refine w_geti (v := aI u2 10 3) (dk_Scan_next 44 rfl) lk_Scan_22 rfl rfl rfl ?_
    refine w_aload_n (dk_Scan_next 45 rfl) rfl ?_
    refine w_geti (v := aI u2 10 2) (dk_Scan_next 46 rfl) lk_Scan_45 rfl rfl rfl ?_
    refine w_icmp_ge 100 (dk_Scan_next 47 rfl) (by decide) (fun c_ => ?_) (fun c_ => ?_)
    · replace h := h.1 c_
      exact h
    · replace h := h.2 c_
      refine w_aload_n (dk_Scan_next 48 rfl) rfl ?_
      refine w_callVv (ls' := [some (.ref 10)]) cv_Scan_52 (dk_Scan_next 49 rfl) (ci := 1) rfl rfl [] [] rfl rfl (Nat.le_of_ble_eq_true rfl) (Nat.le_of_ble_eq_true rfl) rfl rfl rfl h (fun u4 h => ?_)
      exact h
theorem g_Scan_next_100 {d : Nat} {u : Us} {Q : Ot → Us → Prop} (x1 : Int32)
    (h : (x1 < 97 → (x1 < 48 → WS d m_Scan_sign 0 [some (.ref 10), some (.int x1), none, none] [] u (Rv (fun (u2 : Us) => WS (d + 1) m_Scan_next 143 [some (.ref 10), some (.int x1)] [] u2 Q) (fun x u => Q (.inr x) u))) ∧ (¬ (x1 < 48) → (57 < x1 → WS d m_Scan_sign 0 [some (.ref 10), some (.int x1), none, none] [] u (Rv (fun (u4 : Us) => WS (d + 1) m_Scan_next 143 [some (.ref 10), some (.int x1)] [] u4 Q) (fun x u => Q (.inr x) u))) ∧ (¬ (57 < x1) → WS d m_Scan_digits 0 [some (.ref 10), none, none] [] u (Rv (fun (u6 : Us) => WS (d + 1) m_Scan_next 143 [some (.ref 10), some (.int x1)] [] u6 Q) (fun x u => Q (.inr x) u))))) ∧ (¬ (x1 < 97) → (122 < x1 → (x1 < 48 → WS d m_Scan_sign 0 [some (.ref 10), some (.int x1), none, none] [] u (Rv (fun (u8 : Us) => WS (d + 1) m_Scan_next 143 [some (.ref 10), some (.int x1)] [] u8 Q) (fun x u => Q (.inr x) u))) ∧ (¬ (x1 < 48) → (57 < x1 → WS d m_Scan_sign 0 [some (.ref 10), some (.int x1), none, none] [] u (Rv (fun (u10 : Us) => WS (d + 1) m_Scan_next 143 [some (.ref 10), some (.int x1)] [] u10 Q) (fun x u => Q (.inr x) u))) ∧ (¬ (57 < x1) → WS d m_Scan_digits 0 [some (.ref 10), none, none] [] u (Rv (fun (u12 : Us) => WS (d + 1) m_Scan_next 143 [some (.ref 10), some (.int x1)] [] u12 Q) (fun x u => Q (.inr x) u))))) ∧ (¬ (122 < x1) → WS d m_Scan_letters 0 [some (.ref 10), none, none, none, none, none, none, none, none] [] u (Rv (fun (u14 : Us) => WS (d + 1) m_Scan_next 143 [some (.ref 10), some (.int x1)] [] u14 Q) (fun x u => Q (.inr x) u))))) :
    WS (d + 1) m_Scan_next 100 [some (.ref 10), some (.int x1)] [] u Q := by
  refine w_iload_n (dk_Scan_next 50 rfl) rfl ?_
  refine w_bipush (v := 97) (dk_Scan_next 51 rfl) rfl ?_
  refine w_icmp_lt 119 (dk_Scan_next 52 rfl) (by decide) (fun c_ => ?_) (fun c_ => ?_)
  · replace h := h.1 c_
    refine w_iload_n (dk_Scan_next 59 rfl) rfl ?_
    refine w_bipush (v := 48) (dk_Scan_next 60 rfl) rfl ?_
    refine w_icmp_lt 138 (dk_Scan_next 61 rfl) (by decide) (fun c_ => ?_) (fun c_ => ?_)
    · replace h := h.1 c_
      refine w_aload_n (dk_Scan_next 68 rfl) rfl ?_
      refine w_iload_n (dk_Scan_next 69 rfl) rfl ?_
      refine w_callVv (ls' := [some (.ref 10), some (.int x1), none, none]) cv_Scan_61 (dk_Scan_next 70 rfl) (ci := 1) rfl rfl [.int x1] [] rfl rfl (Nat.le_of_ble_eq_true rfl) (Nat.le_of_ble_eq_true rfl) rfl rfl rfl h (fun u2 h => ?_)
      exact h
    · replace h := h.2 c_
      refine w_iload_n (dk_Scan_next 62 rfl) rfl ?_
      refine w_bipush (v := 57) (dk_Scan_next 63 rfl) rfl ?_
      refine w_icmp_gt 138 (dk_Scan_next 64 rfl) (by decide) (fun c_ => ?_) (fun c_ => ?_)
      · replace h := h.1 c_
        refine w_aload_n (dk_Scan_next 68 rfl) rfl ?_
        refine w_iload_n (dk_Scan_next 69 rfl) rfl ?_
        refine w_callVv (ls' := [some (.ref 10), some (.int x1), none, none]) cv_Scan_61 (dk_Scan_next 70 rfl) (ci := 1) rfl rfl [.int x1] [] rfl rfl (Nat.le_of_ble_eq_true rfl) (Nat.le_of_ble_eq_true rfl) rfl rfl rfl h (fun u4 h => ?_)
        exact h
      · replace h := h.2 c_
        refine w_aload_n (dk_Scan_next 65 rfl) rfl ?_
        refine w_callVv (ls' := [some (.ref 10), none, none]) cv_Scan_58 (dk_Scan_next 66 rfl) (ci := 1) rfl rfl [] [] rfl rfl (Nat.le_of_ble_eq_true rfl) (Nat.le_of_ble_eq_true rfl) rfl rfl rfl h (fun u6 h => ?_)
        refine w_goto 143 (dk_Scan_next 67 rfl) (by decide) ?_
        exact h
  · replace h := h.2 c_
    refine w_iload_n (dk_Scan_next 53 rfl) rfl ?_
    refine w_bipush (v := 122) (dk_Scan_next 54 rfl) rfl ?_
    refine w_icmp_gt 119 (dk_Scan_next 55 rfl) (by decide) (fun c_ => ?_) (fun c_ => ?_)
    · replace h := h.1 c_
      refine w_iload_n (dk_Scan_next 59 rfl) rfl ?_
      refine w_bipush (v := 48) (dk_Scan_next 60 rfl) rfl ?_
      refine w_icmp_lt 138 (dk_Scan_next 61 rfl) (by decide) (fun c_ => ?_) (fun c_ => ?_)
      · replace h := h.1 c_
        refine w_aload_n (dk_Scan_next 68 rfl) rfl ?_
        refine w_iload_n (dk_Scan_next 69 rfl) rfl ?_
        refine w_callVv (ls' := [some (.ref 10), some (.int x1), none, none]) cv_Scan_61 (dk_Scan_next 70 rfl) (ci := 1) rfl rfl [.int x1] [] rfl rfl (Nat.le_of_ble_eq_true rfl) (Nat.le_of_ble_eq_true rfl) rfl rfl rfl h (fun u8 h => ?_)
        exact h
      · replace h := h.2 c_
        refine w_iload_n (dk_Scan_next 62 rfl) rfl ?_
        refine w_bipush (v := 57) (dk_Scan_next 63 rfl) rfl ?_
        refine w_icmp_gt 138 (dk_Scan_next 64 rfl) (by decide) (fun c_ => ?_) (fun c_ => ?_)
        · replace h := h.1 c_
          refine w_aload_n (dk_Scan_next 68 rfl) rfl ?_
          refine w_iload_n (dk_Scan_next 69 rfl) rfl ?_
          refine w_callVv (ls' := [some (.ref 10), some (.int x1), none, none]) cv_Scan_61 (dk_Scan_next 70 rfl) (ci := 1) rfl rfl [.int x1] [] rfl rfl (Nat.le_of_ble_eq_true rfl) (Nat.le_of_ble_eq_true rfl) rfl rfl rfl h (fun u10 h => ?_)
          exact h
        · replace h := h.2 c_
          refine w_aload_n (dk_Scan_next 65 rfl) rfl ?_
          refine w_callVv (ls' := [some (.ref 10), none, none]) cv_Scan_58 (dk_Scan_next 66 rfl) (ci := 1) rfl rfl [] [] rfl rfl (Nat.le_of_ble_eq_true rfl) (Nat.le_of_ble_eq_true rfl) rfl rfl rfl h (fun u12 h => ?_)
          refine w_goto 143 (dk_Scan_next 67 rfl) (by decide) ?_
          exact h
    · replace h := h.2 c_
      refine w_aload_n (dk_Scan_next 56 rfl) rfl ?_
      refine w_callVv (ls' := [some (.ref 10), none, none, none, none, none, none, none, none]) cv_Scan_55 (dk_Scan_next 57 rfl) (ci := 1) rfl rfl [] [] rfl rfl (Nat.le_of_ble_eq_true rfl) (Nat.le_of_ble_eq_true rfl) rfl rfl rfl h (fun u14 h => ?_)
      refine w_goto 143 (dk_Scan_next 58 rfl) (by decide) ?_
      exact h
theorem g_Scan_next_143 {d : Nat} {u : Us} {Q : Ot → Us → Prop} (x1 : Int32)
    (h : ((aI u 10 5) = 22 → Q (.inl none) u) ∧ (¬ ((aI u 10 5) = 22) → Q (.inl none) (uI u 10 7 ((aI u 10 7) + 1)))) :
    WS (d + 1) m_Scan_next 143 [some (.ref 10), some (.int x1)] [] u Q := by
  refine w_aload_n (dk_Scan_next 71 rfl) rfl ?_
  refine w_geti (v := aI u 10 5) (dk_Scan_next 72 rfl) lk_Scan_65 rfl rfl rfl ?_
  refine w_bipush (v := 22) (dk_Scan_next 73 rfl) rfl ?_
  refine w_icmp_eq 162 (dk_Scan_next 74 rfl) (by decide) (fun c_ => ?_) (fun c_ => ?_)
  · replace h := h.1 c_
    exact w_vret (dk_Scan_next 81 rfl) rfl h
  · replace h := h.2 c_
    refine w_aload_n (dk_Scan_next 75 rfl) rfl ?_
    refine w_dup (dk_Scan_next 76 rfl) rfl ?_
    refine w_geti (v := aI u 10 7) (dk_Scan_next 77 rfl) lk_Scan_26 rfl rfl rfl ?_
    refine w_iconst (v := 1) (dk_Scan_next 78 rfl) rfl ?_
    refine w_iadd (dk_Scan_next 79 rfl) ?_
    refine w_puti (dk_Scan_next 80 rfl) lk_Scan_26 rfl rfl ?_
    exact w_vret (dk_Scan_next 81 rfl) rfl h
theorem g_Scan_see_0 {d : Nat} {u : Us} {Q : Ot → Us → Prop} (p1 : Int32)
    (h : ((aI u 10 2) ≤ ((aI u 10 3) + p1) → Q (.inl (some (.int (-1)))) u) ∧ (¬ ((aI u 10 2) ≤ ((aI u 10 3) + p1)) → ∃ k1 : Nat, (aI u 10 3) + p1 = nI k1 ∧ k1 < 500 ∧ (Q (.inl (some (.int ((aI u 11 k1) &&& 255)))) u))) :
    WS d m_Scan_see 0 [some (.ref 10), some (.int p1)] [] u Q := by
  refine w_aload_n (dk_Scan_see 0 rfl) rfl ?_
  refine w_geti (v := aI u 10 3) (dk_Scan_see 1 rfl) lk_Scan_22 rfl rfl rfl ?_
  refine w_iload_n (dk_Scan_see 2 rfl) rfl ?_
  refine w_iadd (dk_Scan_see 3 rfl) ?_
  refine w_aload_n (dk_Scan_see 4 rfl) rfl ?_
  refine w_geti (v := aI u 10 2) (dk_Scan_see 5 rfl) lk_Scan_45 rfl rfl rfl ?_
  refine w_icmp_ge 31 (dk_Scan_see 6 rfl) (by decide) (fun c_ => ?_) (fun c_ => ?_)
  · replace h := h.1 c_
    refine w_iconst (v := (-1)) (dk_Scan_see 17 rfl) rfl ?_
    exact w_iret (dk_Scan_see 18 rfl) rfl h
  · replace h := h.2 c_
    refine w_aload_n (dk_Scan_see 7 rfl) rfl ?_
    refine w_getr (dk_Scan_see 8 rfl) lk_Scan_9 rfl rfl rfl ?_
    refine w_aload_n (dk_Scan_see 9 rfl) rfl ?_
    refine w_geti (v := aI u 10 3) (dk_Scan_see 10 rfl) lk_Scan_22 rfl rfl rfl ?_
    refine w_iload_n (dk_Scan_see 11 rfl) rfl ?_
    refine w_iadd (dk_Scan_see 12 rfl) ?_
    obtain ⟨k1, e_k1, l_k1, h⟩ := h
    refine w_bald (k_ := k1) (dk_Scan_see 13 rfl) rfl (by decide) e_k1 l_k1 ?_
    refine w_sipush (v := 255) (dk_Scan_see 14 rfl) rfl ?_
    refine w_iand (dk_Scan_see 15 rfl) ?_
    refine w_goto 32 (dk_Scan_see 16 rfl) (by decide) ?_
    exact w_iret (dk_Scan_see 18 rfl) rfl h
theorem g_Scan_fail_0 {d : Nat} {u : Us} {Q : Ot → Us → Prop} 
    (h : 1 ≤ aC (uI u 10 8 (aI u 10 4)) ∧ 6 ≤ aN (uI u 10 8 (aI u 10 4)) ∧ Q (.inr 2) (uS (uI u 10 8 (aI u 10 4)))) :
    WS d m_Scan_fail 0 [some (.ref 10)] [] u Q := by
  refine w_aload_n (dk_Scan_fail 0 rfl) rfl ?_
  refine w_aload_n (dk_Scan_fail 1 rfl) rfl ?_
  refine w_geti (v := aI u 10 4) (dk_Scan_fail 2 rfl) lk_Scan_39 rfl rfl rfl ?_
  refine w_puti (dk_Scan_fail 3 rfl) lk_Scan_29 rfl rfl ?_
  exact w_throw th_Scan_42 (dk_Scan_fail 4 rfl) (dk_Scan_fail 5 rfl) (dk_Scan_fail 6 rfl) (dk_Scan_fail 7 rfl) rfl h.1 h.2.1 h.2.2
theorem g_Scan_letters_0 {d : Nat} {u : Us} {Q : Ot → Us → Prop} 
    (h : WS (d + 1) m_Scan_letters 4 [some (.ref 10), some (.long 0), none, some (.int 0), none, none, none, none, none] [] u Q) :
    WS (d + 1) m_Scan_letters 0 [some (.ref 10), none, none, none, none, none, none, none, none] [] u Q := by
  refine w_lconst (v := 0) (dk_Scan_letters 0 rfl) rfl ?_
  refine w_lstore_n (ls' := [some (.ref 10), some (.long 0), none, none, none, none, none, none, none]) (dk_Scan_letters 1 rfl) (by decide) rfl ?_
  refine w_iconst (v := 0) (dk_Scan_letters 2 rfl) rfl ?_
  refine w_istore_n (ls' := [some (.ref 10), some (.long 0), none, some (.int 0), none, none, none, none, none]) (dk_Scan_letters 3 rfl) (by decide) rfl ?_
  exact h
theorem g_Scan_letters_4 {d : Nat} {u : Us} {Q : Ot → Us → Prop} (x1 : Int64) (x3 : Int32)
    (h : WS d m_Scan_see 0 [some (.ref 10), some (.int 0)] [] u (Ri (fun (r1 : Int32) (u2 : Us) => (r1 < 97 → (x3 ≤ 8 → WS (d + 1) m_Scan_letters 66 [some (.ref 10), some (.long x1), none, some (.int x3), none, none, none, none, none] [] u2 Q) ∧ (¬ (x3 ≤ 8) → WS d m_Scan_fail 0 [some (.ref 10)] [] u2 (Rv (fun (u4 : Us) => WS (d + 1) m_Scan_letters 66 [some (.ref 10), some (.long x1), none, some (.int x3), none, none, none, none, none] [] u4 Q) (fun x u => Q (.inr x) u)))) ∧ (¬ (r1 < 97) → WS d m_Scan_see 0 [some (.ref 10), some (.int 0)] [] u2 (Ri (fun (r5 : Int32) (u6 : Us) => (122 < r5 → (x3 ≤ 8 → WS (d + 1) m_Scan_letters 66 [some (.ref 10), some (.long x1), none, some (.int x3), none, none, none, none, none] [] u6 Q) ∧ (¬ (x3 ≤ 8) → WS d m_Scan_fail 0 [some (.ref 10)] [] u6 (Rv (fun (u8 : Us) => WS (d + 1) m_Scan_letters 66 [some (.ref 10), some (.long x1), none, some (.int x3), none, none, none, none, none] [] u8 Q) (fun x u => Q (.inr x) u)))) ∧ (¬ (122 < r5) → WS d m_Scan_see 0 [some (.ref 10), some (.int 0)] [] u6 (Ri (fun (r9 : Int32) (u10 : Us) => WS (d + 1) m_Scan_letters 4 [some (.ref 10), some (.long ((x1 <<< (Int32.toInt64 5 &&& 63)) ||| (Int32.toInt64 ((r9 - 97) + 1)))), none, some (.int (x3 + 1)), none, none, none, none, none] [] (uI u10 10 3 ((aI u10 10 3) + 1)) Q) (fun x u => Q (.inr x) u)))) (fun x u => Q (.inr x) u)))) (fun x u => Q (.inr x) u))) :
    WS (d + 1) m_Scan_letters 4 [some (.ref 10), some (.long x1), none, some (.int x3), none, none, none, none, none] [] u Q := by
  refine w_aload_n (dk_Scan_letters 4 rfl) rfl ?_
  refine w_iconst (v := 0) (dk_Scan_letters 5 rfl) rfl ?_
  refine w_callVi (ls' := [some (.ref 10), some (.int 0)]) cv_Scan_48 (dk_Scan_letters 6 rfl) (ci := 1) rfl rfl [.int 0] [] rfl rfl (Nat.le_of_ble_eq_true rfl) (Nat.le_of_ble_eq_true rfl) rfl rfl rfl h (fun r1 u2 h => ?_)
  refine w_bipush (v := 97) (dk_Scan_letters 7 rfl) rfl ?_
  refine w_icmp_lt 56 (dk_Scan_letters 8 rfl) (by decide) (fun c_ => ?_) (fun c_ => ?_)
  · replace h := h.1 c_
    refine w_iload_n (dk_Scan_letters 35 rfl) rfl ?_
    refine w_bipush (v := 8) (dk_Scan_letters 36 rfl) rfl ?_
    refine w_icmp_le 66 (dk_Scan_letters 37 rfl) (by decide) (fun c_ => ?_) (fun c_ => ?_)
    · replace h := h.1 c_
      exact h
    · replace h := h.2 c_
      refine w_aload_n (dk_Scan_letters 38 rfl) rfl ?_
      refine w_callVv (ls' := [some (.ref 10)]) cv_Scan_52 (dk_Scan_letters 39 rfl) (ci := 1) rfl rfl [] [] rfl rfl (Nat.le_of_ble_eq_true rfl) (Nat.le_of_ble_eq_true rfl) rfl rfl rfl h (fun u4 h => ?_)
      exact h
  · replace h := h.2 c_
    refine w_aload_n (dk_Scan_letters 9 rfl) rfl ?_
    refine w_iconst (v := 0) (dk_Scan_letters 10 rfl) rfl ?_
    refine w_callVi (ls' := [some (.ref 10), some (.int 0)]) cv_Scan_48 (dk_Scan_letters 11 rfl) (ci := 1) rfl rfl [.int 0] [] rfl rfl (Nat.le_of_ble_eq_true rfl) (Nat.le_of_ble_eq_true rfl) rfl rfl rfl h (fun r5 u6 h => ?_)
    refine w_bipush (v := 122) (dk_Scan_letters 12 rfl) rfl ?_
    refine w_icmp_gt 56 (dk_Scan_letters 13 rfl) (by decide) (fun c_ => ?_) (fun c_ => ?_)
    · replace h := h.1 c_
      refine w_iload_n (dk_Scan_letters 35 rfl) rfl ?_
      refine w_bipush (v := 8) (dk_Scan_letters 36 rfl) rfl ?_
      refine w_icmp_le 66 (dk_Scan_letters 37 rfl) (by decide) (fun c_ => ?_) (fun c_ => ?_)
      · replace h := h.1 c_
        exact h
      · replace h := h.2 c_
        refine w_aload_n (dk_Scan_letters 38 rfl) rfl ?_
        refine w_callVv (ls' := [some (.ref 10)]) cv_Scan_52 (dk_Scan_letters 39 rfl) (ci := 1) rfl rfl [] [] rfl rfl (Nat.le_of_ble_eq_true rfl) (Nat.le_of_ble_eq_true rfl) rfl rfl rfl h (fun u8 h => ?_)
        exact h
    · replace h := h.2 c_
      refine w_lload_n (dk_Scan_letters 14 rfl) rfl ?_
      refine w_iconst (v := 5) (dk_Scan_letters 15 rfl) rfl ?_
      refine w_lshl (dk_Scan_letters 16 rfl) ?_
      refine w_aload_n (dk_Scan_letters 17 rfl) rfl ?_
      refine w_iconst (v := 0) (dk_Scan_letters 18 rfl) rfl ?_
      refine w_callVi (ls' := [some (.ref 10), some (.int 0)]) cv_Scan_48 (dk_Scan_letters 19 rfl) (ci := 1) rfl rfl [.int 0] [.long (x1 <<< (Int32.toInt64 5 &&& 63))] rfl rfl (Nat.le_of_ble_eq_true rfl) (Nat.le_of_ble_eq_true rfl) rfl rfl rfl h (fun r9 u10 h => ?_)
      refine w_bipush (v := 97) (dk_Scan_letters 20 rfl) rfl ?_
      refine w_isub (dk_Scan_letters 21 rfl) ?_
      refine w_iconst (v := 1) (dk_Scan_letters 22 rfl) rfl ?_
      refine w_iadd (dk_Scan_letters 23 rfl) ?_
      refine w_i2l (dk_Scan_letters 24 rfl) ?_
      refine w_lor (dk_Scan_letters 25 rfl) ?_
      refine w_lstore_n (ls' := [some (.ref 10), some (.long ((x1 <<< (Int32.toInt64 5 &&& 63)) ||| (Int32.toInt64 ((r9 - 97) + 1)))), none, some (.int x3), none, none, none, none, none]) (dk_Scan_letters 26 rfl) (by decide) rfl ?_
      refine w_iinc (v := x3 + 1) (ls' := [some (.ref 10), some (.long ((x1 <<< (Int32.toInt64 5 &&& 63)) ||| (Int32.toInt64 ((r9 - 97) + 1)))), none, some (.int (x3 + 1)), none, none, none, none, none]) (dk_Scan_letters 27 rfl) rfl rfl (by decide) rfl ?_
      refine w_aload_n (dk_Scan_letters 28 rfl) rfl ?_
      refine w_dup (dk_Scan_letters 29 rfl) rfl ?_
      refine w_geti (v := aI u10 10 3) (dk_Scan_letters 30 rfl) lk_Scan_22 rfl rfl rfl ?_
      refine w_iconst (v := 1) (dk_Scan_letters 31 rfl) rfl ?_
      refine w_iadd (dk_Scan_letters 32 rfl) ?_
      refine w_puti (dk_Scan_letters 33 rfl) lk_Scan_22 rfl rfl ?_
      refine w_goto 4 (dk_Scan_letters 34 rfl) (by decide) ?_
      exact h
theorem g_Scan_letters_66 {d : Nat} {u : Us} {Q : Ot → Us → Prop} (x1 : Int64) (x3 : Int32)
    (h : WS (d + 1) m_Scan_letters 81 [some (.ref 10), some (.long x1), none, some (.int x3), some (.int 0), some (.long 0), none, some (.int 0), none] [] (uI u 10 5 20) Q) :
    WS (d + 1) m_Scan_letters 66 [some (.ref 10), some (.long x1), none, some (.int x3), none, none, none, none, none] [] u Q := by
  refine w_iconst (v := 0) (dk_Scan_letters 40 rfl) rfl ?_
  refine w_istore (ls' := [some (.ref 10), some (.long x1), none, some (.int x3), some (.int 0), none, none, none, none]) (dk_Scan_letters 41 rfl) (by decide) rfl ?_
  refine w_lconst (v := 0) (dk_Scan_letters 42 rfl) rfl ?_
  refine w_lstore (ls' := [some (.ref 10), some (.long x1), none, some (.int x3), some (.int 0), some (.long 0), none, none, none]) (dk_Scan_letters 43 rfl) (by decide) rfl ?_
  refine w_aload_n (dk_Scan_letters 44 rfl) rfl ?_
  refine w_bipush (v := 20) (dk_Scan_letters 45 rfl) rfl ?_
  refine w_puti (dk_Scan_letters 46 rfl) lk_Scan_65 rfl rfl ?_
  refine w_iconst (v := 0) (dk_Scan_letters 47 rfl) rfl ?_
  refine w_istore (ls' := [some (.ref 10), some (.long x1), none, some (.int x3), some (.int 0), some (.long 0), none, some (.int 0), none]) (dk_Scan_letters 48 rfl) (by decide) rfl ?_
  exact h
theorem g_Scan_letters_81 {d : Nat} {u : Us} {Q : Ot → Us → Prop} (x1 : Int64) (x3 : Int32) (x4 : Int32) (x5 : Int64) (x7 : Int32)
    (h : WS d m_JStr_length 0 [some (.ref 1000)] [] u (Ri (fun (r1 : Int32) (u2 : Us) => (r1 ≤ x7 → ((aI u2 10 5) ≠ 20 → WS (d + 1) m_Scan_letters 176 [some (.ref 10), some (.long x1), none, some (.int x3), some (.int x4), some (.long x5), none, some (.int x7), none] [] u2 Q) ∧ ((aI u2 10 5) = 20 → WS d m_Name_of 0 [some (.ref 12), some (.long x1), none, none] [] u2 (Ri (fun (r3 : Int32) (u4 : Us) => WS (d + 1) m_Scan_letters 176 [some (.ref 10), some (.long x1), none, some (.int x3), some (.int x4), some (.long x5), none, some (.int x7), none] [] (uI u4 10 6 r3) Q) (fun x u => Q (.inr x) u)))) ∧ (¬ (r1 ≤ x7) → WS d m_JStr_charAt 0 [some (.ref 1000), some (.int x7)] [] u2 (Ri (fun (r5 : Int32) (u6 : Us) => (r5 ≠ 32 → WS (d + 1) m_Scan_letters 123 [some (.ref 10), some (.long x1), none, some (.int x3), some (.int x4), some (.long x5), none, some (.int x7), some (.int r5)] [] u6 Q) ∧ (r5 = 32 → (x5 ≠ x1 → WS (d + 1) m_Scan_letters 123 [some (.ref 10), some (.long x1), none, some (.int x3), some (.int (x4 + 1)), some (.long x5), none, some (.int x7), some (.int r5)] [] u6 Q) ∧ (x5 = x1 → WS (d + 1) m_Scan_letters 123 [some (.ref 10), some (.long x1), none, some (.int x3), some (.int (x4 + 1)), some (.long x5), none, some (.int x7), some (.int r5)] [] (uI u6 10 5 x4) Q))) (fun x u => Q (.inr x) u)))) (fun x u => Q (.inr x) u))) :
    WS (d + 1) m_Scan_letters 81 [some (.ref 10), some (.long x1), none, some (.int x3), some (.int x4), some (.long x5), none, some (.int x7), none] [] u Q := by
  refine w_iload (dk_Scan_letters 49 rfl) rfl ?_
  refine w_ldcS (dk_Scan_letters 50 rfl) rfl ?_
  refine w_callVsi (ls' := [some (.ref 1000)]) cv_Scan_70 (dk_Scan_letters 51 rfl) [] [.int x7] rfl rfl (Nat.le_of_ble_eq_true rfl) (Nat.le_of_ble_eq_true rfl) rfl rfl rfl h (fun r1 u2 h => ?_)
  refine w_icmp_ge 155 (dk_Scan_letters 52 rfl) (by decide) (fun c_ => ?_) (fun c_ => ?_)
  · replace h := h.1 c_
    refine w_aload_n (dk_Scan_letters 86 rfl) rfl ?_
    refine w_geti (v := aI u2 10 5) (dk_Scan_letters 87 rfl) lk_Scan_65 rfl rfl rfl ?_
    refine w_bipush (v := 20) (dk_Scan_letters 88 rfl) rfl ?_
    refine w_icmp_ne 176 (dk_Scan_letters 89 rfl) (by decide) (fun c_ => ?_) (fun c_ => ?_)
    · replace h := h.1 c_
      exact h
    · replace h := h.2 c_
      refine w_aload_n (dk_Scan_letters 90 rfl) rfl ?_
      refine w_aload_n (dk_Scan_letters 91 rfl) rfl ?_
      refine w_getr (dk_Scan_letters 92 rfl) lk_Scan_18 rfl rfl rfl ?_
      refine w_lload_n (dk_Scan_letters 93 rfl) rfl ?_
      refine w_callVi (ls' := [some (.ref 12), some (.long x1), none, none]) cv_Scan_80 (dk_Scan_letters 94 rfl) (ci := 2) rfl rfl [.long x1] [.ref 10] rfl rfl (Nat.le_of_ble_eq_true rfl) (Nat.le_of_ble_eq_true rfl) rfl rfl rfl h (fun r3 u4 h => ?_)
      refine w_puti (dk_Scan_letters 95 rfl) lk_Scan_84 rfl rfl ?_
      exact h
  · replace h := h.2 c_
    refine w_ldcS (dk_Scan_letters 53 rfl) rfl ?_
    refine w_iload (dk_Scan_letters 54 rfl) rfl ?_
    refine w_callVsi (ls' := [some (.ref 1000), some (.int x7)]) cv_Scan_76 (dk_Scan_letters 55 rfl) [.int x7] [] rfl rfl (Nat.le_of_ble_eq_true rfl) (Nat.le_of_ble_eq_true rfl) rfl rfl rfl h (fun r5 u6 h => ?_)
    refine w_istore (ls' := [some (.ref 10), some (.long x1), none, some (.int x3), some (.int x4), some (.long x5), none, some (.int x7), some (.int r5)]) (dk_Scan_letters 56 rfl) (by decide) rfl ?_
    refine w_iload (dk_Scan_letters 57 rfl) rfl ?_
    refine w_bipush (v := 32) (dk_Scan_letters 58 rfl) rfl ?_
    refine w_icmp_ne 123 (dk_Scan_letters 59 rfl) (by decide) (fun c_ => ?_) (fun c_ => ?_)
    · replace h := h.1 c_
      exact h
    · replace h := h.2 c_
      refine w_lload (dk_Scan_letters 60 rfl) rfl ?_
      refine w_lload_n (dk_Scan_letters 61 rfl) rfl ?_
      refine w_lcmp_ne 120 (dk_Scan_letters 62 rfl) (dk_Scan_letters 63 rfl) (by decide) (fun c_ => ?_) (fun c_ => ?_)
      · replace h := h.1 c_
        refine w_iinc (v := x4 + 1) (ls' := [some (.ref 10), some (.long x1), none, some (.int x3), some (.int (x4 + 1)), some (.long x5), none, some (.int x7), some (.int r5)]) (dk_Scan_letters 67 rfl) rfl rfl (by decide) rfl ?_
        exact h
      · replace h := h.2 c_
        refine w_aload_n (dk_Scan_letters 64 rfl) rfl ?_
        refine w_iload (dk_Scan_letters 65 rfl) rfl ?_
        refine w_puti (dk_Scan_letters 66 rfl) lk_Scan_65 rfl rfl ?_
        refine w_iinc (v := x4 + 1) (ls' := [some (.ref 10), some (.long x1), none, some (.int x3), some (.int (x4 + 1)), some (.long x5), none, some (.int x7), some (.int r5)]) (dk_Scan_letters 67 rfl) rfl rfl (by decide) rfl ?_
        exact h
theorem g_Scan_letters_123 {d : Nat} {u : Us} {Q : Ot → Us → Prop} (x1 : Int64) (x3 : Int32) (x4 : Int32) (x5 : Int64) (x7 : Int32) (x8 : Int32)
    (h : (x8 ≠ 32 → WS (d + 1) m_Scan_letters 81 [some (.ref 10), some (.long x1), none, some (.int x3), some (.int x4), some (.long ((x5 <<< (Int32.toInt64 5 &&& 63)) ||| (Int32.toInt64 ((x8 - 97) + 1)))), none, some (.int (x7 + 1)), some (.int x8)] [] u Q) ∧ (x8 = 32 → WS (d + 1) m_Scan_letters 81 [some (.ref 10), some (.long x1), none, some (.int x3), some (.int x4), some (.long 0), none, some (.int (x7 + 1)), some (.int x8)] [] u Q)) :
    WS (d + 1) m_Scan_letters 123 [some (.ref 10), some (.long x1), none, some (.int x3), some (.int x4), some (.long x5), none, some (.int x7), some (.int x8)] [] u Q := by
  refine w_iload (dk_Scan_letters 68 rfl) rfl ?_
  refine w_bipush (v := 32) (dk_Scan_letters 69 rfl) rfl ?_
  refine w_icmp_ne 134 (dk_Scan_letters 70 rfl) (by decide) (fun c_ => ?_) (fun c_ => ?_)
  · replace h := h.1 c_
    refine w_lload (dk_Scan_letters 73 rfl) rfl ?_
    refine w_iconst (v := 5) (dk_Scan_letters 74 rfl) rfl ?_
    refine w_lshl (dk_Scan_letters 75 rfl) ?_
    refine w_iload (dk_Scan_letters 76 rfl) rfl ?_
    refine w_bipush (v := 97) (dk_Scan_letters 77 rfl) rfl ?_
    refine w_isub (dk_Scan_letters 78 rfl) ?_
    refine w_iconst (v := 1) (dk_Scan_letters 79 rfl) rfl ?_
    refine w_iadd (dk_Scan_letters 80 rfl) ?_
    refine w_i2l (dk_Scan_letters 81 rfl) ?_
    refine w_lor (dk_Scan_letters 82 rfl) ?_
    refine w_lstore (ls' := [some (.ref 10), some (.long x1), none, some (.int x3), some (.int x4), some (.long ((x5 <<< (Int32.toInt64 5 &&& 63)) ||| (Int32.toInt64 ((x8 - 97) + 1)))), none, some (.int x7), some (.int x8)]) (dk_Scan_letters 83 rfl) (by decide) rfl ?_
    refine w_iinc (v := x7 + 1) (ls' := [some (.ref 10), some (.long x1), none, some (.int x3), some (.int x4), some (.long ((x5 <<< (Int32.toInt64 5 &&& 63)) ||| (Int32.toInt64 ((x8 - 97) + 1)))), none, some (.int (x7 + 1)), some (.int x8)]) (dk_Scan_letters 84 rfl) rfl rfl (by decide) rfl ?_
    refine w_goto 81 (dk_Scan_letters 85 rfl) (by decide) ?_
    exact h
  · replace h := h.2 c_
    refine w_lconst (v := 0) (dk_Scan_letters 71 rfl) rfl ?_
    refine w_goto 147 (dk_Scan_letters 72 rfl) (by decide) ?_
    refine w_lstore (ls' := [some (.ref 10), some (.long x1), none, some (.int x3), some (.int x4), some (.long 0), none, some (.int x7), some (.int x8)]) (dk_Scan_letters 83 rfl) (by decide) rfl ?_
    refine w_iinc (v := x7 + 1) (ls' := [some (.ref 10), some (.long x1), none, some (.int x3), some (.int x4), some (.long 0), none, some (.int (x7 + 1)), some (.int x8)]) (dk_Scan_letters 84 rfl) rfl rfl (by decide) rfl ?_
    refine w_goto 81 (dk_Scan_letters 85 rfl) (by decide) ?_
    exact h
theorem g_Scan_letters_176 {d : Nat} {u : Us} {Q : Ot → Us → Prop} (x1 : Int64) (x3 : Int32) (x4 : Int32) (x5 : Int64) (x7 : Int32)
    (h : Q (.inl none) u) :
    WS (d + 1) m_Scan_letters 176 [some (.ref 10), some (.long x1), none, some (.int x3), some (.int x4), some (.long x5), none, some (.int x7), none] [] u Q := by
  exact w_vret (dk_Scan_letters 96 rfl) rfl h
theorem g_Name_of_0 {d : Nat} {u : Us} {Q : Ot → Us → Prop} (p1 : Int64)
    (h : WS d m_Name_of 2 [some (.ref 12), some (.long p1), none, some (.int 0)] [] u Q) :
    WS d m_Name_of 0 [some (.ref 12), some (.long p1), none, none] [] u Q := by
  refine w_iconst (v := 0) (dk_Name_of 0 rfl) rfl ?_
  refine w_istore_n (ls' := [some (.ref 12), some (.long p1), none, some (.int 0)]) (dk_Name_of 1 rfl) (by decide) rfl ?_
  exact h
theorem g_Name_of_2 {d : Nat} {u : Us} {Q : Ot → Us → Prop} (x1 : Int64) (x3 : Int32)
    (h : ((aI u 12 1) ≤ x3 → (x3 ≠ (aI u 12 1) → Q (.inl (some (.int x3))) u) ∧ (x3 = (aI u 12 1) → ∃ k1 : Nat, aI u 12 1 = nI k1 ∧ k1 < 240 ∧ (Q (.inl (some (.int x3))) (uL (uI u 12 1 ((aI u 12 1) + 1)) 13 k1 x1)))) ∧ (¬ ((aI u 12 1) ≤ x3) → ∃ k2 : Nat, x3 = nI k2 ∧ k2 < 240 ∧ (((aL u 13 k2) = x1 → (x3 ≠ (aI u 12 1) → Q (.inl (some (.int x3))) u) ∧ (x3 = (aI u 12 1) → ∃ k3 : Nat, aI u 12 1 = nI k3 ∧ k3 < 240 ∧ (Q (.inl (some (.int x3))) (uL (uI u 12 1 ((aI u 12 1) + 1)) 13 k3 x1)))) ∧ ((aL u 13 k2) ≠ x1 → WS d m_Name_of 2 [some (.ref 12), some (.long x1), none, some (.int (x3 + 1))] [] u Q)))) :
    WS d m_Name_of 2 [some (.ref 12), some (.long x1), none, some (.int x3)] [] u Q := by
  refine w_iload_n (dk_Name_of 2 rfl) rfl ?_
  refine w_aload_n (dk_Name_of 3 rfl) rfl ?_
  refine w_geti (v := aI u 12 1) (dk_Name_of 4 rfl) lk_Name_15 rfl rfl rfl ?_
  refine w_icmp_ge 27 (dk_Name_of 5 rfl) (by decide) (fun c_ => ?_) (fun c_ => ?_)
  · replace h := h.1 c_
    refine w_iload_n (dk_Name_of 15 rfl) rfl ?_
    refine w_aload_n (dk_Name_of 16 rfl) rfl ?_
    refine w_geti (v := aI u 12 1) (dk_Name_of 17 rfl) lk_Name_15 rfl rfl rfl ?_
    refine w_icmp_ne 52 (dk_Name_of 18 rfl) (by decide) (fun c_ => ?_) (fun c_ => ?_)
    · replace h := h.1 c_
      refine w_iload_n (dk_Name_of 30 rfl) rfl ?_
      exact w_iret (dk_Name_of 31 rfl) rfl h
    · replace h := h.2 c_
      refine w_aload_n (dk_Name_of 19 rfl) rfl ?_
      refine w_getr (dk_Name_of 20 rfl) lk_Name_9 rfl rfl rfl ?_
      refine w_aload_n (dk_Name_of 21 rfl) rfl ?_
      refine w_dup (dk_Name_of 22 rfl) rfl ?_
      refine w_geti (v := aI u 12 1) (dk_Name_of 23 rfl) lk_Name_15 rfl rfl rfl ?_
      refine w_dup_x1 (dk_Name_of 24 rfl) rfl rfl ?_
      refine w_iconst (v := 1) (dk_Name_of 25 rfl) rfl ?_
      refine w_iadd (dk_Name_of 26 rfl) ?_
      refine w_puti (dk_Name_of 27 rfl) lk_Name_15 rfl rfl ?_
      refine w_lload_n (dk_Name_of 28 rfl) rfl ?_
      obtain ⟨k1, e_k1, l_k1, h⟩ := h
      refine w_last (k_ := k1) (dk_Name_of 29 rfl) rfl (by decide) e_k1 l_k1 ?_
      refine w_iload_n (dk_Name_of 30 rfl) rfl ?_
      exact w_iret (dk_Name_of 31 rfl) rfl h
  · replace h := h.2 c_
    refine w_aload_n (dk_Name_of 6 rfl) rfl ?_
    refine w_getr (dk_Name_of 7 rfl) lk_Name_9 rfl rfl rfl ?_
    refine w_iload_n (dk_Name_of 8 rfl) rfl ?_
    obtain ⟨k2, e_k2, l_k2, h⟩ := h
    refine w_lald (k_ := k2) (dk_Name_of 9 rfl) rfl (by decide) e_k2 l_k2 ?_
    refine w_lload_n (dk_Name_of 10 rfl) rfl ?_
    refine w_lcmp_eq 27 (dk_Name_of 11 rfl) (dk_Name_of 12 rfl) (by decide) (fun c_ => ?_) (fun c_ => ?_)
    · replace h := h.1 c_
      refine w_iload_n (dk_Name_of 15 rfl) rfl ?_
      refine w_aload_n (dk_Name_of 16 rfl) rfl ?_
      refine w_geti (v := aI u 12 1) (dk_Name_of 17 rfl) lk_Name_15 rfl rfl rfl ?_
      refine w_icmp_ne 52 (dk_Name_of 18 rfl) (by decide) (fun c_ => ?_) (fun c_ => ?_)
      · replace h := h.1 c_
        refine w_iload_n (dk_Name_of 30 rfl) rfl ?_
        exact w_iret (dk_Name_of 31 rfl) rfl h
      · replace h := h.2 c_
        refine w_aload_n (dk_Name_of 19 rfl) rfl ?_
        refine w_getr (dk_Name_of 20 rfl) lk_Name_9 rfl rfl rfl ?_
        refine w_aload_n (dk_Name_of 21 rfl) rfl ?_
        refine w_dup (dk_Name_of 22 rfl) rfl ?_
        refine w_geti (v := aI u 12 1) (dk_Name_of 23 rfl) lk_Name_15 rfl rfl rfl ?_
        refine w_dup_x1 (dk_Name_of 24 rfl) rfl rfl ?_
        refine w_iconst (v := 1) (dk_Name_of 25 rfl) rfl ?_
        refine w_iadd (dk_Name_of 26 rfl) ?_
        refine w_puti (dk_Name_of 27 rfl) lk_Name_15 rfl rfl ?_
        refine w_lload_n (dk_Name_of 28 rfl) rfl ?_
        obtain ⟨k3, e_k3, l_k3, h⟩ := h
        refine w_last (k_ := k3) (dk_Name_of 29 rfl) rfl (by decide) e_k3 l_k3 ?_
        refine w_iload_n (dk_Name_of 30 rfl) rfl ?_
        exact w_iret (dk_Name_of 31 rfl) rfl h
    · replace h := h.2 c_
      refine w_iinc (v := x3 + 1) (ls' := [some (.ref 12), some (.long x1), none, some (.int (x3 + 1))]) (dk_Name_of 13 rfl) rfl rfl (by decide) rfl ?_
      refine w_goto 2 (dk_Name_of 14 rfl) (by decide) ?_
      exact h
theorem g_Scan_digits_0 {d : Nat} {u : Us} {Q : Ot → Us → Prop} 
    (h : WS (d + 1) m_Scan_digits 2 [some (.ref 10), some (.long 0), none] [] u Q) :
    WS (d + 1) m_Scan_digits 0 [some (.ref 10), none, none] [] u Q := by
  refine w_lconst (v := 0) (dk_Scan_digits 0 rfl) rfl ?_
  refine w_lstore_n (ls' := [some (.ref 10), some (.long 0), none]) (dk_Scan_digits 1 rfl) (by decide) rfl ?_
  exact h
theorem g_Scan_digits_2 {d : Nat} {u : Us} {Q : Ot → Us → Prop} (x1 : Int64)
    (h : WS d m_Scan_see 0 [some (.ref 10), some (.int 0)] [] u (Ri (fun (r1 : Int32) (u2 : Us) => (r1 < 48 → (x1 ≤ 2147483647 → Q (.inl none) (uI (uI u2 10 5 21) 10 6 (Int64.toInt32 x1))) ∧ (¬ (x1 ≤ 2147483647) → WS d m_Scan_fail 0 [some (.ref 10)] [] u2 (Rv (fun (u4 : Us) => Q (.inl none) (uI (uI u4 10 5 21) 10 6 (Int64.toInt32 x1))) (fun x u => Q (.inr x) u)))) ∧ (¬ (r1 < 48) → WS d m_Scan_see 0 [some (.ref 10), some (.int 0)] [] u2 (Ri (fun (r5 : Int32) (u6 : Us) => (57 < r5 → (x1 ≤ 2147483647 → Q (.inl none) (uI (uI u6 10 5 21) 10 6 (Int64.toInt32 x1))) ∧ (¬ (x1 ≤ 2147483647) → WS d m_Scan_fail 0 [some (.ref 10)] [] u6 (Rv (fun (u8 : Us) => Q (.inl none) (uI (uI u8 10 5 21) 10 6 (Int64.toInt32 x1))) (fun x u => Q (.inr x) u)))) ∧ (¬ (57 < r5) → WS d m_Scan_see 0 [some (.ref 10), some (.int 0)] [] u6 (Ri (fun (r9 : Int32) (u10 : Us) => WS (d + 1) m_Scan_digits 2 [some (.ref 10), some (.long (if 2147483648 < ((10 * x1) + (Int32.toInt64 r9)) - 48 then 2147483648 else ((10 * x1) + (Int32.toInt64 r9)) - 48)), none] [] (uI u10 10 3 ((aI u10 10 3) + 1)) Q) (fun x u => Q (.inr x) u)))) (fun x u => Q (.inr x) u)))) (fun x u => Q (.inr x) u))) :
    WS (d + 1) m_Scan_digits 2 [some (.ref 10), some (.long x1), none] [] u Q := by
  refine w_aload_n (dk_Scan_digits 2 rfl) rfl ?_
  refine w_iconst (v := 0) (dk_Scan_digits 3 rfl) rfl ?_
  refine w_callVi (ls' := [some (.ref 10), some (.int 0)]) cv_Scan_48 (dk_Scan_digits 4 rfl) (ci := 1) rfl rfl [.int 0] [] rfl rfl (Nat.le_of_ble_eq_true rfl) (Nat.le_of_ble_eq_true rfl) rfl rfl rfl h (fun r1 u2 h => ?_)
  refine w_bipush (v := 48) (dk_Scan_digits 5 rfl) rfl ?_
  refine w_icmp_lt 58 (dk_Scan_digits 6 rfl) (by decide) (fun c_ => ?_) (fun c_ => ?_)
  · replace h := h.1 c_
    refine w_lload_n (dk_Scan_digits 32 rfl) rfl ?_
    refine w_ldc2 (dk_Scan_digits 33 rfl) kl_Scan_99 ?_
    refine w_lcmp_le 70 (dk_Scan_digits 34 rfl) (dk_Scan_digits 35 rfl) (by decide) (fun c_ => ?_) (fun c_ => ?_)
    · replace h := h.1 c_
      refine w_aload_n (dk_Scan_digits 38 rfl) rfl ?_
      refine w_bipush (v := 21) (dk_Scan_digits 39 rfl) rfl ?_
      refine w_puti (dk_Scan_digits 40 rfl) lk_Scan_65 rfl rfl ?_
      refine w_aload_n (dk_Scan_digits 41 rfl) rfl ?_
      refine w_lload_n (dk_Scan_digits 42 rfl) rfl ?_
      refine w_l2i (dk_Scan_digits 43 rfl) ?_
      refine w_puti (dk_Scan_digits 44 rfl) lk_Scan_84 rfl rfl ?_
      exact w_vret (dk_Scan_digits 45 rfl) rfl h
    · replace h := h.2 c_
      refine w_aload_n (dk_Scan_digits 36 rfl) rfl ?_
      refine w_callVv (ls' := [some (.ref 10)]) cv_Scan_52 (dk_Scan_digits 37 rfl) (ci := 1) rfl rfl [] [] rfl rfl (Nat.le_of_ble_eq_true rfl) (Nat.le_of_ble_eq_true rfl) rfl rfl rfl h (fun u4 h => ?_)
      refine w_aload_n (dk_Scan_digits 38 rfl) rfl ?_
      refine w_bipush (v := 21) (dk_Scan_digits 39 rfl) rfl ?_
      refine w_puti (dk_Scan_digits 40 rfl) lk_Scan_65 rfl rfl ?_
      refine w_aload_n (dk_Scan_digits 41 rfl) rfl ?_
      refine w_lload_n (dk_Scan_digits 42 rfl) rfl ?_
      refine w_l2i (dk_Scan_digits 43 rfl) ?_
      refine w_puti (dk_Scan_digits 44 rfl) lk_Scan_84 rfl rfl ?_
      exact w_vret (dk_Scan_digits 45 rfl) rfl h
  · replace h := h.2 c_
    refine w_aload_n (dk_Scan_digits 7 rfl) rfl ?_
    refine w_iconst (v := 0) (dk_Scan_digits 8 rfl) rfl ?_
    refine w_callVi (ls' := [some (.ref 10), some (.int 0)]) cv_Scan_48 (dk_Scan_digits 9 rfl) (ci := 1) rfl rfl [.int 0] [] rfl rfl (Nat.le_of_ble_eq_true rfl) (Nat.le_of_ble_eq_true rfl) rfl rfl rfl h (fun r5 u6 h => ?_)
    refine w_bipush (v := 57) (dk_Scan_digits 10 rfl) rfl ?_
    refine w_icmp_gt 58 (dk_Scan_digits 11 rfl) (by decide) (fun c_ => ?_) (fun c_ => ?_)
    · replace h := h.1 c_
      refine w_lload_n (dk_Scan_digits 32 rfl) rfl ?_
      refine w_ldc2 (dk_Scan_digits 33 rfl) kl_Scan_99 ?_
      refine w_lcmp_le 70 (dk_Scan_digits 34 rfl) (dk_Scan_digits 35 rfl) (by decide) (fun c_ => ?_) (fun c_ => ?_)
      · replace h := h.1 c_
        refine w_aload_n (dk_Scan_digits 38 rfl) rfl ?_
        refine w_bipush (v := 21) (dk_Scan_digits 39 rfl) rfl ?_
        refine w_puti (dk_Scan_digits 40 rfl) lk_Scan_65 rfl rfl ?_
        refine w_aload_n (dk_Scan_digits 41 rfl) rfl ?_
        refine w_lload_n (dk_Scan_digits 42 rfl) rfl ?_
        refine w_l2i (dk_Scan_digits 43 rfl) ?_
        refine w_puti (dk_Scan_digits 44 rfl) lk_Scan_84 rfl rfl ?_
        exact w_vret (dk_Scan_digits 45 rfl) rfl h
      · replace h := h.2 c_
        refine w_aload_n (dk_Scan_digits 36 rfl) rfl ?_
        refine w_callVv (ls' := [some (.ref 10)]) cv_Scan_52 (dk_Scan_digits 37 rfl) (ci := 1) rfl rfl [] [] rfl rfl (Nat.le_of_ble_eq_true rfl) (Nat.le_of_ble_eq_true rfl) rfl rfl rfl h (fun u8 h => ?_)
        refine w_aload_n (dk_Scan_digits 38 rfl) rfl ?_
        refine w_bipush (v := 21) (dk_Scan_digits 39 rfl) rfl ?_
        refine w_puti (dk_Scan_digits 40 rfl) lk_Scan_65 rfl rfl ?_
        refine w_aload_n (dk_Scan_digits 41 rfl) rfl ?_
        refine w_lload_n (dk_Scan_digits 42 rfl) rfl ?_
        refine w_l2i (dk_Scan_digits 43 rfl) ?_
        refine w_puti (dk_Scan_digits 44 rfl) lk_Scan_84 rfl rfl ?_
        exact w_vret (dk_Scan_digits 45 rfl) rfl h
    · replace h := h.2 c_
      refine w_ldc2 (dk_Scan_digits 12 rfl) kl_Scan_87 ?_
      refine w_lload_n (dk_Scan_digits 13 rfl) rfl ?_
      refine w_lmul (dk_Scan_digits 14 rfl) ?_
      refine w_aload_n (dk_Scan_digits 15 rfl) rfl ?_
      refine w_iconst (v := 0) (dk_Scan_digits 16 rfl) rfl ?_
      refine w_callVi (ls' := [some (.ref 10), some (.int 0)]) cv_Scan_48 (dk_Scan_digits 17 rfl) (ci := 1) rfl rfl [.int 0] [.long (10 * x1)] rfl rfl (Nat.le_of_ble_eq_true rfl) (Nat.le_of_ble_eq_true rfl) rfl rfl rfl h (fun r9 u10 h => ?_)
      refine w_i2l (dk_Scan_digits 18 rfl) ?_
      refine w_ladd (dk_Scan_digits 19 rfl) ?_
      refine w_ldc2 (dk_Scan_digits 20 rfl) kl_Scan_89 ?_
      refine w_lsub (dk_Scan_digits 21 rfl) ?_
      refine w_ldc2 (dk_Scan_digits 22 rfl) kl_Scan_91 ?_
      refine w_mmin mn_Scan_93 (dk_Scan_digits 23 rfl) (Nat.le_of_ble_eq_true rfl) ?_
      refine w_lstore_n (ls' := [some (.ref 10), some (.long (if 2147483648 < ((10 * x1) + (Int32.toInt64 r9)) - 48 then 2147483648 else ((10 * x1) + (Int32.toInt64 r9)) - 48)), none]) (dk_Scan_digits 24 rfl) (by decide) rfl ?_
      refine w_aload_n (dk_Scan_digits 25 rfl) rfl ?_
      refine w_dup (dk_Scan_digits 26 rfl) rfl ?_
      refine w_geti (v := aI u10 10 3) (dk_Scan_digits 27 rfl) lk_Scan_22 rfl rfl rfl ?_
      refine w_iconst (v := 1) (dk_Scan_digits 28 rfl) rfl ?_
      refine w_iadd (dk_Scan_digits 29 rfl) ?_
      refine w_puti (dk_Scan_digits 30 rfl) lk_Scan_22 rfl rfl ?_
      refine w_goto 2 (dk_Scan_digits 31 rfl) (by decide) ?_
      exact h
theorem g_Scan_sign_0 {d : Nat} {u : Us} {Q : Ot → Us → Prop} (p1 : Int32)
    (h : WS d m_Scan_see 0 [some (.ref 10), some (.int 1)] [] u (Ri (fun (r1 : Int32) (u2 : Us) => (r1 ≠ 61 → WS (d + 1) m_Scan_sign 16 [some (.ref 10), some (.int p1), some (.int 0), none] [] u2 Q) ∧ (r1 = 61 → WS (d + 1) m_Scan_sign 16 [some (.ref 10), some (.int p1), some (.int 1), none] [] u2 Q)) (fun x u => Q (.inr x) u))) :
    WS (d + 1) m_Scan_sign 0 [some (.ref 10), some (.int p1), none, none] [] u Q := by
  refine w_aload_n (dk_Scan_sign 0 rfl) rfl ?_
  refine w_iconst (v := 1) (dk_Scan_sign 1 rfl) rfl ?_
  refine w_callVi (ls' := [some (.ref 10), some (.int 1)]) cv_Scan_48 (dk_Scan_sign 2 rfl) (ci := 1) rfl rfl [.int 1] [] rfl rfl (Nat.le_of_ble_eq_true rfl) (Nat.le_of_ble_eq_true rfl) rfl rfl rfl h (fun r1 u2 h => ?_)
  refine w_bipush (v := 61) (dk_Scan_sign 3 rfl) rfl ?_
  refine w_icmp_ne 14 (dk_Scan_sign 4 rfl) (by decide) (fun c_ => ?_) (fun c_ => ?_)
  · replace h := h.1 c_
    refine w_iconst (v := 0) (dk_Scan_sign 7 rfl) rfl ?_
    refine w_istore_n (ls' := [some (.ref 10), some (.int p1), some (.int 0), none]) (dk_Scan_sign 8 rfl) (by decide) rfl ?_
    exact h
  · replace h := h.2 c_
    refine w_iconst (v := 1) (dk_Scan_sign 5 rfl) rfl ?_
    refine w_goto 15 (dk_Scan_sign 6 rfl) (by decide) ?_
    refine w_istore_n (ls' := [some (.ref 10), some (.int p1), some (.int 1), none]) (dk_Scan_sign 8 rfl) (by decide) rfl ?_
    exact h
theorem g_Scan_sign_16 {d : Nat} {u : Us} {Q : Ot → Us → Prop} (x1 : Int32) (x2 : Int32)
    (h : (x1 = 33 → WS (d + 1) m_Scan_sign 42 [some (.ref 10), some (.int x1), some (.int x2), some (.int (1 + x2))] [] u Q) ∧ (¬ (x1 = 33) → (x1 = 60 → WS (d + 1) m_Scan_sign 42 [some (.ref 10), some (.int x1), some (.int x2), some (.int (1 + x2))] [] u Q) ∧ (¬ (x1 = 60) → (x1 ≠ 62 → WS (d + 1) m_Scan_sign 42 [some (.ref 10), some (.int x1), some (.int x2), some (.int (1 + 0))] [] u Q) ∧ (x1 = 62 → WS (d + 1) m_Scan_sign 42 [some (.ref 10), some (.int x1), some (.int x2), some (.int (1 + x2))] [] u Q)))) :
    WS (d + 1) m_Scan_sign 16 [some (.ref 10), some (.int x1), some (.int x2), none] [] u Q := by
  refine w_iconst (v := 1) (dk_Scan_sign 9 rfl) rfl ?_
  refine w_iload_n (dk_Scan_sign 10 rfl) rfl ?_
  refine w_bipush (v := 33) (dk_Scan_sign 11 rfl) rfl ?_
  refine w_icmp_eq 35 (dk_Scan_sign 12 rfl) (by decide) (fun c_ => ?_) (fun c_ => ?_)
  · replace h := h.1 c_
    refine w_iload_n (dk_Scan_sign 19 rfl) rfl ?_
    refine w_goto 40 (dk_Scan_sign 20 rfl) (by decide) ?_
    refine w_iadd (dk_Scan_sign 22 rfl) ?_
    refine w_istore_n (ls' := [some (.ref 10), some (.int x1), some (.int x2), some (.int (1 + x2))]) (dk_Scan_sign 23 rfl) (by decide) rfl ?_
    exact h
  · replace h := h.2 c_
    refine w_iload_n (dk_Scan_sign 13 rfl) rfl ?_
    refine w_bipush (v := 60) (dk_Scan_sign 14 rfl) rfl ?_
    refine w_icmp_eq 35 (dk_Scan_sign 15 rfl) (by decide) (fun c_ => ?_) (fun c_ => ?_)
    · replace h := h.1 c_
      refine w_iload_n (dk_Scan_sign 19 rfl) rfl ?_
      refine w_goto 40 (dk_Scan_sign 20 rfl) (by decide) ?_
      refine w_iadd (dk_Scan_sign 22 rfl) ?_
      refine w_istore_n (ls' := [some (.ref 10), some (.int x1), some (.int x2), some (.int (1 + x2))]) (dk_Scan_sign 23 rfl) (by decide) rfl ?_
      exact h
    · replace h := h.2 c_
      refine w_iload_n (dk_Scan_sign 16 rfl) rfl ?_
      refine w_bipush (v := 62) (dk_Scan_sign 17 rfl) rfl ?_
      refine w_icmp_ne 39 (dk_Scan_sign 18 rfl) (by decide) (fun c_ => ?_) (fun c_ => ?_)
      · replace h := h.1 c_
        refine w_iconst (v := 0) (dk_Scan_sign 21 rfl) rfl ?_
        refine w_iadd (dk_Scan_sign 22 rfl) ?_
        refine w_istore_n (ls' := [some (.ref 10), some (.int x1), some (.int x2), some (.int (1 + 0))]) (dk_Scan_sign 23 rfl) (by decide) rfl ?_
        exact h
      · replace h := h.2 c_
        refine w_iload_n (dk_Scan_sign 19 rfl) rfl ?_
        refine w_goto 40 (dk_Scan_sign 20 rfl) (by decide) ?_
        refine w_iadd (dk_Scan_sign 22 rfl) ?_
        refine w_istore_n (ls' := [some (.ref 10), some (.int x1), some (.int x2), some (.int (1 + x2))]) (dk_Scan_sign 23 rfl) (by decide) rfl ?_
        exact h
theorem g_Scan_sign_42 {d : Nat} {u : Us} {Q : Ot → Us → Prop} (x1 : Int32) (x2 : Int32) (x3 : Int32)
    (h : (x1 = (-1) → WS (d + 1) m_Scan_sign 392 [some (.ref 10), some (.int x1), some (.int x2), some (.int x3)] [] (uI u 10 5 22) Q) ∧ ((x1 = 33 → (x2 ≠ 1 → WS (d + 1) m_Scan_sign 392 [some (.ref 10), some (.int x1), some (.int x2), some (.int x3)] [] (uI u 10 5 (-1)) Q) ∧ (x2 = 1 → WS (d + 1) m_Scan_sign 392 [some (.ref 10), some (.int x1), some (.int x2), some (.int x3)] [] (uI u 10 5 31) Q)) ∧ ((x1 = 37 → WS (d + 1) m_Scan_sign 392 [some (.ref 10), some (.int x1), some (.int x2), some (.int x3)] [] (uI u 10 5 40) Q) ∧ ((x1 = 40 → WS (d + 1) m_Scan_sign 392 [some (.ref 10), some (.int x1), some (.int x2), some (.int x3)] [] (uI u 10 5 41) Q) ∧ ((x1 = 41 → WS (d + 1) m_Scan_sign 392 [some (.ref 10), some (.int x1), some (.int x2), some (.int x3)] [] (uI u 10 5 42) Q) ∧ ((x1 = 42 → WS (d + 1) m_Scan_sign 392 [some (.ref 10), some (.int x1), some (.int x2), some (.int x3)] [] (uI u 10 5 38) Q) ∧ ((x1 = 43 → WS (d + 1) m_Scan_sign 392 [some (.ref 10), some (.int x1), some (.int x2), some (.int x3)] [] (uI u 10 5 36) Q) ∧ ((x1 = 44 → WS (d + 1) m_Scan_sign 392 [some (.ref 10), some (.int x1), some (.int x2), some (.int x3)] [] (uI u 10 5 45) Q) ∧ ((x1 = 45 → WS (d + 1) m_Scan_sign 392 [some (.ref 10), some (.int x1), some (.int x2), some (.int x3)] [] (uI u 10 5 37) Q) ∧ ((x1 = 46 → WS (d + 1) m_Scan_sign 392 [some (.ref 10), some (.int x1), some (.int x2), some (.int x3)] [] (uI u 10 5 48) Q) ∧ ((x1 = 47 → WS (d + 1) m_Scan_sign 392 [some (.ref 10), some (.int x1), some (.int x2), some (.int x3)] [] (uI u 10 5 39) Q) ∧ ((x1 = 58 → WS (d + 1) m_Scan_sign 392 [some (.ref 10), some (.int x1), some (.int x2), some (.int x3)] [] (uI u 10 5 47) Q) ∧ ((x1 = 59 → WS (d + 1) m_Scan_sign 392 [some (.ref 10), some (.int x1), some (.int x2), some (.int x3)] [] (uI u 10 5 46) Q) ∧ ((x1 = 60 → (x2 ≠ 1 → WS (d + 1) m_Scan_sign 392 [some (.ref 10), some (.int x1), some (.int x2), some (.int x3)] [] (uI u 10 5 32) Q) ∧ (x2 = 1 → WS (d + 1) m_Scan_sign 392 [some (.ref 10), some (.int x1), some (.int x2), some (.int x3)] [] (uI u 10 5 33) Q)) ∧ ((x1 = 61 → WS (d + 1) m_Scan_sign 392 [some (.ref 10), some (.int x1), some (.int x2), some (.int x3)] [] (uI u 10 5 30) Q) ∧ ((x1 = 62 → (x2 ≠ 1 → WS (d + 1) m_Scan_sign 392 [some (.ref 10), some (.int x1), some (.int x2), some (.int x3)] [] (uI u 10 5 34) Q) ∧ (x2 = 1 → WS (d + 1) m_Scan_sign 392 [some (.ref 10), some (.int x1), some (.int x2), some (.int x3)] [] (uI u 10 5 35) Q)) ∧ ((x1 = 123 → WS (d + 1) m_Scan_sign 392 [some (.ref 10), some (.int x1), some (.int x2), some (.int x3)] [] (uI u 10 5 43) Q) ∧ ((x1 = 125 → WS (d + 1) m_Scan_sign 392 [some (.ref 10), some (.int x1), some (.int x2), some (.int x3)] [] (uI u 10 5 44) Q) ∧ (((∀ v ∈ ([(-1), 33, 37, 40, 41, 42, 43, 44, 45, 46, 47, 58, 59, 60, 61, 62, 123, 125] : List Int32), x1 ≠ v) → WS (d + 1) m_Scan_sign 392 [some (.ref 10), some (.int x1), some (.int x2), some (.int x3)] [] (uI u 10 5 (-1)) Q)))))))))))))))))))) :
    WS (d + 1) m_Scan_sign 42 [some (.ref 10), some (.int x1), some (.int x2), some (.int x3)] [] u Q := by
  refine w_iload_n (dk_Scan_sign 24 rfl) rfl ?_
  by_cases n1 : x1 = (-1)
  · replace h := h.1 n1
    refine w_lkI ds_Scan_sign_43 (by decide) 153 196 (by rw [n1]; decide) (by decide) ?_
    refine w_aload_n (dk_Scan_sign 26 rfl) rfl ?_
    refine w_bipush (v := 22) (dk_Scan_sign 27 rfl) rfl ?_
    refine w_puti (dk_Scan_sign 28 rfl) lk_Scan_65 rfl rfl ?_
    refine w_goto 392 (dk_Scan_sign 29 rfl) (by decide) ?_
    exact h
  replace h := h.2
  by_cases n2 : x1 = 33
  · replace h := h.1 n2
    refine w_lkI ds_Scan_sign_43 (by decide) 171 214 (by rw [n2]; decide) (by decide) ?_
    refine w_aload_n (dk_Scan_sign 34 rfl) rfl ?_
    refine w_iload_n (dk_Scan_sign 35 rfl) rfl ?_
    refine w_iconst (v := 1) (dk_Scan_sign 36 rfl) rfl ?_
    refine w_icmp_ne 225 (dk_Scan_sign 37 rfl) (by decide) (fun c_ => ?_) (fun c_ => ?_)
    · replace h := h.1 c_
      refine w_iconst (v := (-1)) (dk_Scan_sign 40 rfl) rfl ?_
      refine w_puti (dk_Scan_sign 41 rfl) lk_Scan_65 rfl rfl ?_
      refine w_goto 392 (dk_Scan_sign 42 rfl) (by decide) ?_
      exact h
    · replace h := h.2 c_
      refine w_bipush (v := 31) (dk_Scan_sign 38 rfl) rfl ?_
      refine w_goto 226 (dk_Scan_sign 39 rfl) (by decide) ?_
      refine w_puti (dk_Scan_sign 41 rfl) lk_Scan_65 rfl rfl ?_
      refine w_goto 392 (dk_Scan_sign 42 rfl) (by decide) ?_
      exact h
  replace h := h.2
  by_cases n3 : x1 = 37
  · replace h := h.1 n3
    refine w_lkI ds_Scan_sign_43 (by decide) 263 306 (by rw [n3]; decide) (by decide) ?_
    refine w_aload_n (dk_Scan_sign 77 rfl) rfl ?_
    refine w_bipush (v := 40) (dk_Scan_sign 78 rfl) rfl ?_
    refine w_puti (dk_Scan_sign 79 rfl) lk_Scan_65 rfl rfl ?_
    refine w_goto 392 (dk_Scan_sign 80 rfl) (by decide) ?_
    exact h
  replace h := h.2
  by_cases n4 : x1 = 40
  · replace h := h.1 n4
    refine w_lkI ds_Scan_sign_43 (by decide) 272 315 (by rw [n4]; decide) (by decide) ?_
    refine w_aload_n (dk_Scan_sign 81 rfl) rfl ?_
    refine w_bipush (v := 41) (dk_Scan_sign 82 rfl) rfl ?_
    refine w_puti (dk_Scan_sign 83 rfl) lk_Scan_65 rfl rfl ?_
    refine w_goto 392 (dk_Scan_sign 84 rfl) (by decide) ?_
    exact h
  replace h := h.2
  by_cases n5 : x1 = 41
  · replace h := h.1 n5
    refine w_lkI ds_Scan_sign_43 (by decide) 281 324 (by rw [n5]; decide) (by decide) ?_
    refine w_aload_n (dk_Scan_sign 85 rfl) rfl ?_
    refine w_bipush (v := 42) (dk_Scan_sign 86 rfl) rfl ?_
    refine w_puti (dk_Scan_sign 87 rfl) lk_Scan_65 rfl rfl ?_
    refine w_goto 392 (dk_Scan_sign 88 rfl) (by decide) ?_
    exact h
  replace h := h.2
  by_cases n6 : x1 = 42
  · replace h := h.1 n6
    refine w_lkI ds_Scan_sign_43 (by decide) 245 288 (by rw [n6]; decide) (by decide) ?_
    refine w_aload_n (dk_Scan_sign 69 rfl) rfl ?_
    refine w_bipush (v := 38) (dk_Scan_sign 70 rfl) rfl ?_
    refine w_puti (dk_Scan_sign 71 rfl) lk_Scan_65 rfl rfl ?_
    refine w_goto 392 (dk_Scan_sign 72 rfl) (by decide) ?_
    exact h
  replace h := h.2
  by_cases n7 : x1 = 43
  · replace h := h.1 n7
    refine w_lkI ds_Scan_sign_43 (by decide) 227 270 (by rw [n7]; decide) (by decide) ?_
    refine w_aload_n (dk_Scan_sign 61 rfl) rfl ?_
    refine w_bipush (v := 36) (dk_Scan_sign 62 rfl) rfl ?_
    refine w_puti (dk_Scan_sign 63 rfl) lk_Scan_65 rfl rfl ?_
    refine w_goto 392 (dk_Scan_sign 64 rfl) (by decide) ?_
    exact h
  replace h := h.2
  by_cases n8 : x1 = 44
  · replace h := h.1 n8
    refine w_lkI ds_Scan_sign_43 (by decide) 308 351 (by rw [n8]; decide) (by decide) ?_
    refine w_aload_n (dk_Scan_sign 97 rfl) rfl ?_
    refine w_bipush (v := 45) (dk_Scan_sign 98 rfl) rfl ?_
    refine w_puti (dk_Scan_sign 99 rfl) lk_Scan_65 rfl rfl ?_
    refine w_goto 392 (dk_Scan_sign 100 rfl) (by decide) ?_
    exact h
  replace h := h.2
  by_cases n9 : x1 = 45
  · replace h := h.1 n9
    refine w_lkI ds_Scan_sign_43 (by decide) 236 279 (by rw [n9]; decide) (by decide) ?_
    refine w_aload_n (dk_Scan_sign 65 rfl) rfl ?_
    refine w_bipush (v := 37) (dk_Scan_sign 66 rfl) rfl ?_
    refine w_puti (dk_Scan_sign 67 rfl) lk_Scan_65 rfl rfl ?_
    refine w_goto 392 (dk_Scan_sign 68 rfl) (by decide) ?_
    exact h
  replace h := h.2
  by_cases n10 : x1 = 46
  · replace h := h.1 n10
    refine w_lkI ds_Scan_sign_43 (by decide) 335 378 (by rw [n10]; decide) (by decide) ?_
    refine w_aload_n (dk_Scan_sign 109 rfl) rfl ?_
    refine w_bipush (v := 48) (dk_Scan_sign 110 rfl) rfl ?_
    refine w_puti (dk_Scan_sign 111 rfl) lk_Scan_65 rfl rfl ?_
    refine w_goto 392 (dk_Scan_sign 112 rfl) (by decide) ?_
    exact h
  replace h := h.2
  by_cases n11 : x1 = 47
  · replace h := h.1 n11
    refine w_lkI ds_Scan_sign_43 (by decide) 254 297 (by rw [n11]; decide) (by decide) ?_
    refine w_aload_n (dk_Scan_sign 73 rfl) rfl ?_
    refine w_bipush (v := 39) (dk_Scan_sign 74 rfl) rfl ?_
    refine w_puti (dk_Scan_sign 75 rfl) lk_Scan_65 rfl rfl ?_
    refine w_goto 392 (dk_Scan_sign 76 rfl) (by decide) ?_
    exact h
  replace h := h.2
  by_cases n12 : x1 = 58
  · replace h := h.1 n12
    refine w_lkI ds_Scan_sign_43 (by decide) 326 369 (by rw [n12]; decide) (by decide) ?_
    refine w_aload_n (dk_Scan_sign 105 rfl) rfl ?_
    refine w_bipush (v := 47) (dk_Scan_sign 106 rfl) rfl ?_
    refine w_puti (dk_Scan_sign 107 rfl) lk_Scan_65 rfl rfl ?_
    refine w_goto 392 (dk_Scan_sign 108 rfl) (by decide) ?_
    exact h
  replace h := h.2
  by_cases n13 : x1 = 59
  · replace h := h.1 n13
    refine w_lkI ds_Scan_sign_43 (by decide) 317 360 (by rw [n13]; decide) (by decide) ?_
    refine w_aload_n (dk_Scan_sign 101 rfl) rfl ?_
    refine w_bipush (v := 46) (dk_Scan_sign 102 rfl) rfl ?_
    refine w_puti (dk_Scan_sign 103 rfl) lk_Scan_65 rfl rfl ?_
    refine w_goto 392 (dk_Scan_sign 104 rfl) (by decide) ?_
    exact h
  replace h := h.2
  by_cases n14 : x1 = 60
  · replace h := h.1 n14
    refine w_lkI ds_Scan_sign_43 (by decide) 189 232 (by rw [n14]; decide) (by decide) ?_
    refine w_aload_n (dk_Scan_sign 43 rfl) rfl ?_
    refine w_iload_n (dk_Scan_sign 44 rfl) rfl ?_
    refine w_iconst (v := 1) (dk_Scan_sign 45 rfl) rfl ?_
    refine w_icmp_ne 243 (dk_Scan_sign 46 rfl) (by decide) (fun c_ => ?_) (fun c_ => ?_)
    · replace h := h.1 c_
      refine w_bipush (v := 32) (dk_Scan_sign 49 rfl) rfl ?_
      refine w_puti (dk_Scan_sign 50 rfl) lk_Scan_65 rfl rfl ?_
      refine w_goto 392 (dk_Scan_sign 51 rfl) (by decide) ?_
      exact h
    · replace h := h.2 c_
      refine w_bipush (v := 33) (dk_Scan_sign 47 rfl) rfl ?_
      refine w_goto 245 (dk_Scan_sign 48 rfl) (by decide) ?_
      refine w_puti (dk_Scan_sign 50 rfl) lk_Scan_65 rfl rfl ?_
      refine w_goto 392 (dk_Scan_sign 51 rfl) (by decide) ?_
      exact h
  replace h := h.2
  by_cases n15 : x1 = 61
  · replace h := h.1 n15
    refine w_lkI ds_Scan_sign_43 (by decide) 162 205 (by rw [n15]; decide) (by decide) ?_
    refine w_aload_n (dk_Scan_sign 30 rfl) rfl ?_
    refine w_bipush (v := 30) (dk_Scan_sign 31 rfl) rfl ?_
    refine w_puti (dk_Scan_sign 32 rfl) lk_Scan_65 rfl rfl ?_
    refine w_goto 392 (dk_Scan_sign 33 rfl) (by decide) ?_
    exact h
  replace h := h.2
  by_cases n16 : x1 = 62
  · replace h := h.1 n16
    refine w_lkI ds_Scan_sign_43 (by decide) 208 251 (by rw [n16]; decide) (by decide) ?_
    refine w_aload_n (dk_Scan_sign 52 rfl) rfl ?_
    refine w_iload_n (dk_Scan_sign 53 rfl) rfl ?_
    refine w_iconst (v := 1) (dk_Scan_sign 54 rfl) rfl ?_
    refine w_icmp_ne 262 (dk_Scan_sign 55 rfl) (by decide) (fun c_ => ?_) (fun c_ => ?_)
    · replace h := h.1 c_
      refine w_bipush (v := 34) (dk_Scan_sign 58 rfl) rfl ?_
      refine w_puti (dk_Scan_sign 59 rfl) lk_Scan_65 rfl rfl ?_
      refine w_goto 392 (dk_Scan_sign 60 rfl) (by decide) ?_
      exact h
    · replace h := h.2 c_
      refine w_bipush (v := 35) (dk_Scan_sign 56 rfl) rfl ?_
      refine w_goto 264 (dk_Scan_sign 57 rfl) (by decide) ?_
      refine w_puti (dk_Scan_sign 59 rfl) lk_Scan_65 rfl rfl ?_
      refine w_goto 392 (dk_Scan_sign 60 rfl) (by decide) ?_
      exact h
  replace h := h.2
  by_cases n17 : x1 = 123
  · replace h := h.1 n17
    refine w_lkI ds_Scan_sign_43 (by decide) 290 333 (by rw [n17]; decide) (by decide) ?_
    refine w_aload_n (dk_Scan_sign 89 rfl) rfl ?_
    refine w_bipush (v := 43) (dk_Scan_sign 90 rfl) rfl ?_
    refine w_puti (dk_Scan_sign 91 rfl) lk_Scan_65 rfl rfl ?_
    refine w_goto 392 (dk_Scan_sign 92 rfl) (by decide) ?_
    exact h
  replace h := h.2
  by_cases n18 : x1 = 125
  · replace h := h.1 n18
    refine w_lkI ds_Scan_sign_43 (by decide) 299 342 (by rw [n18]; decide) (by decide) ?_
    refine w_aload_n (dk_Scan_sign 93 rfl) rfl ?_
    refine w_bipush (v := 44) (dk_Scan_sign 94 rfl) rfl ?_
    refine w_puti (dk_Scan_sign 95 rfl) lk_Scan_65 rfl rfl ?_
    refine w_goto 392 (dk_Scan_sign 96 rfl) (by decide) ?_
    exact h
  replace h := h.2
  have hn19 : ∀ v ∈ ([(-1), 33, 37, 40, 41, 42, 43, 44, 45, 46, 47, 58, 59, 60, 61, 62, 123, 125] : List Int32), x1 ≠ v := by
    intro v hv e_
    rw [← e_] at hv
    simp only [List.mem_cons, List.not_mem_nil, or_false] at hv
    rcases hv with hv | hv | hv | hv | hv | hv | hv | hv | hv | hv | hv | hv | hv | hv | hv | hv | hv | hv
    · exact n1 hv
    · exact n2 hv
    · exact n3 hv
    · exact n4 hv
    · exact n5 hv
    · exact n6 hv
    · exact n7 hv
    · exact n8 hv
    · exact n9 hv
    · exact n10 hv
    · exact n11 hv
    · exact n12 hv
    · exact n13 hv
    · exact n14 hv
    · exact n15 hv
    · exact n16 hv
    · exact n17 hv
    · exact n18 hv
  replace h := h hn19
  refine w_lkD ds_Scan_sign_43 (by decide) 387 [(-1), 33, 37, 40, 41, 42, 43, 44, 45, 46, 47, 58, 59, 60, 61, 62, 123, 125] (by decide) hn19 (by decide) ?_
  refine w_aload_n (dk_Scan_sign 113 rfl) rfl ?_
  refine w_iconst (v := (-1)) (dk_Scan_sign 114 rfl) rfl ?_
  refine w_puti (dk_Scan_sign 115 rfl) lk_Scan_65 rfl rfl ?_
  exact h
theorem g_Scan_sign_392 {d : Nat} {u : Us} {Q : Ot → Us → Prop} (x1 : Int32) (x2 : Int32) (x3 : Int32)
    (h : ((aI u 10 5) ≠ (-1) → ((aI u 10 5) ≠ 22 → Q (.inl none) (uI u 10 3 ((aI u 10 3) + x3))) ∧ ((aI u 10 5) = 22 → Q (.inl none) (uI u 10 3 ((aI u 10 3) + 0)))) ∧ ((aI u 10 5) = (-1) → WS d m_Scan_fail 0 [some (.ref 10)] [] u (Rv (fun (u2 : Us) => ((aI u2 10 5) ≠ 22 → Q (.inl none) (uI u2 10 3 ((aI u2 10 3) + x3))) ∧ ((aI u2 10 5) = 22 → Q (.inl none) (uI u2 10 3 ((aI u2 10 3) + 0)))) (fun x u => Q (.inr x) u)))) :
    WS (d + 1) m_Scan_sign 392 [some (.ref 10), some (.int x1), some (.int x2), some (.int x3)] [] u Q := by
  refine w_aload_n (dk_Scan_sign 116 rfl) rfl ?_
  refine w_geti (v := aI u 10 5) (dk_Scan_sign 117 rfl) lk_Scan_65 rfl rfl rfl ?_
  refine w_iconst (v := (-1)) (dk_Scan_sign 118 rfl) rfl ?_
  refine w_icmp_ne 404 (dk_Scan_sign 119 rfl) (by decide) (fun c_ => ?_) (fun c_ => ?_)
  · replace h := h.1 c_
    refine w_aload_n (dk_Scan_sign 122 rfl) rfl ?_
    refine w_dup (dk_Scan_sign 123 rfl) rfl ?_
    refine w_geti (v := aI u 10 3) (dk_Scan_sign 124 rfl) lk_Scan_22 rfl rfl rfl ?_
    refine w_aload_n (dk_Scan_sign 125 rfl) rfl ?_
    refine w_geti (v := aI u 10 5) (dk_Scan_sign 126 rfl) lk_Scan_65 rfl rfl rfl ?_
    refine w_bipush (v := 22) (dk_Scan_sign 127 rfl) rfl ?_
    refine w_icmp_ne 422 (dk_Scan_sign 128 rfl) (by decide) (fun c_ => ?_) (fun c_ => ?_)
    · replace h := h.1 c_
      refine w_iload_n (dk_Scan_sign 131 rfl) rfl ?_
      refine w_iadd (dk_Scan_sign 132 rfl) ?_
      refine w_puti (dk_Scan_sign 133 rfl) lk_Scan_22 rfl rfl ?_
      exact w_vret (dk_Scan_sign 134 rfl) rfl h
    · replace h := h.2 c_
      refine w_iconst (v := 0) (dk_Scan_sign 129 rfl) rfl ?_
      refine w_goto 423 (dk_Scan_sign 130 rfl) (by decide) ?_
      refine w_iadd (dk_Scan_sign 132 rfl) ?_
      refine w_puti (dk_Scan_sign 133 rfl) lk_Scan_22 rfl rfl ?_
      exact w_vret (dk_Scan_sign 134 rfl) rfl h
  · replace h := h.2 c_
    refine w_aload_n (dk_Scan_sign 120 rfl) rfl ?_
    refine w_callVv (ls' := [some (.ref 10)]) cv_Scan_52 (dk_Scan_sign 121 rfl) (ci := 1) rfl rfl [] [] rfl rfl (Nat.le_of_ble_eq_true rfl) (Nat.le_of_ble_eq_true rfl) rfl rfl rfl h (fun u2 h => ?_)
    refine w_aload_n (dk_Scan_sign 122 rfl) rfl ?_
    refine w_dup (dk_Scan_sign 123 rfl) rfl ?_
    refine w_geti (v := aI u2 10 3) (dk_Scan_sign 124 rfl) lk_Scan_22 rfl rfl rfl ?_
    refine w_aload_n (dk_Scan_sign 125 rfl) rfl ?_
    refine w_geti (v := aI u2 10 5) (dk_Scan_sign 126 rfl) lk_Scan_65 rfl rfl rfl ?_
    refine w_bipush (v := 22) (dk_Scan_sign 127 rfl) rfl ?_
    refine w_icmp_ne 422 (dk_Scan_sign 128 rfl) (by decide) (fun c_ => ?_) (fun c_ => ?_)
    · replace h := h.1 c_
      refine w_iload_n (dk_Scan_sign 131 rfl) rfl ?_
      refine w_iadd (dk_Scan_sign 132 rfl) ?_
      refine w_puti (dk_Scan_sign 133 rfl) lk_Scan_22 rfl rfl ?_
      exact w_vret (dk_Scan_sign 134 rfl) rfl h
    · replace h := h.2 c_
      refine w_iconst (v := 0) (dk_Scan_sign 129 rfl) rfl ?_
      refine w_goto 423 (dk_Scan_sign 130 rfl) (by decide) ?_
      refine w_iadd (dk_Scan_sign 132 rfl) ?_
      refine w_puti (dk_Scan_sign 133 rfl) lk_Scan_22 rfl rfl ?_
      exact w_vret (dk_Scan_sign 134 rfl) rfl h
theorem g_Mean_kindOf_0 {d : Nat} {u : Us} {Q : Ot → Us → Prop} (p1 : Int32)
    (h : WS d m_Mean_kindOf 2 [some (.ref 2), some (.int p1), some (.int 0)] [] u Q) :
    WS d m_Mean_kindOf 0 [some (.ref 2), some (.int p1), none] [] u Q := by
  refine w_iconst (v := 0) (dk_Mean_kindOf 0 rfl) rfl ?_
  refine w_istore_n (ls' := [some (.ref 2), some (.int p1), some (.int 0)]) (dk_Mean_kindOf 1 rfl) (by decide) rfl ?_
  exact h
theorem g_Mean_kindOf_2 {d : Nat} {u : Us} {Q : Ot → Us → Prop} (x1 : Int32) (x2 : Int32)
    (h : ((aI u 2 7) ≤ x2 → Q (.inl (some (.int (-1)))) u) ∧ (¬ ((aI u 2 7) ≤ x2) → ∃ k1 : Nat, x2 = nI k1 ∧ k1 < 7 ∧ (((aI u 3 k1) ≠ x1 → WS d m_Mean_kindOf 2 [some (.ref 2), some (.int x1), some (.int (x2 + 1))] [] u Q) ∧ ((aI u 3 k1) = x1 → Q (.inl (some (.int x2))) u)))) :
    WS d m_Mean_kindOf 2 [some (.ref 2), some (.int x1), some (.int x2)] [] u Q := by
  refine w_iload_n (dk_Mean_kindOf 2 rfl) rfl ?_
  refine w_aload_n (dk_Mean_kindOf 3 rfl) rfl ?_
  refine w_geti (v := aI u 2 7) (dk_Mean_kindOf 4 rfl) lk_Mean_33 rfl rfl rfl ?_
  refine w_icmp_ge 28 (dk_Mean_kindOf 5 rfl) (by decide) (fun c_ => ?_) (fun c_ => ?_)
  · replace h := h.1 c_
    refine w_iconst (v := (-1)) (dk_Mean_kindOf 16 rfl) rfl ?_
    exact w_iret (dk_Mean_kindOf 17 rfl) rfl h
  · replace h := h.2 c_
    refine w_aload_n (dk_Mean_kindOf 6 rfl) rfl ?_
    refine w_getr (dk_Mean_kindOf 7 rfl) lk_Mean_9 rfl rfl rfl ?_
    refine w_iload_n (dk_Mean_kindOf 8 rfl) rfl ?_
    obtain ⟨k1, e_k1, l_k1, h⟩ := h
    refine w_iald (k_ := k1) (dk_Mean_kindOf 9 rfl) rfl (by decide) e_k1 l_k1 ?_
    refine w_iload_n (dk_Mean_kindOf 10 rfl) rfl ?_
    refine w_icmp_ne 22 (dk_Mean_kindOf 11 rfl) (by decide) (fun c_ => ?_) (fun c_ => ?_)
    · replace h := h.1 c_
      refine w_iinc (v := x2 + 1) (ls' := [some (.ref 2), some (.int x1), some (.int (x2 + 1))]) (dk_Mean_kindOf 14 rfl) rfl rfl (by decide) rfl ?_
      refine w_goto 2 (dk_Mean_kindOf 15 rfl) (by decide) ?_
      exact h
    · replace h := h.2 c_
      refine w_iload_n (dk_Mean_kindOf 12 rfl) rfl ?_
      exact w_iret (dk_Mean_kindOf 13 rfl) rfl h
theorem g_Mean_fieldOf_0 {d : Nat} {u : Us} {Q : Ot → Us → Prop} (p1 : Int32) (p2 : Int32)
    (h : WS d m_Mean_fieldOf 5 [some (.ref 2), some (.int p1), some (.int p2), some (.int (p1 * 6))] [] u Q) :
    WS d m_Mean_fieldOf 0 [some (.ref 2), some (.int p1), some (.int p2), none] [] u Q := by
  refine w_iload_n (dk_Mean_fieldOf 0 rfl) rfl ?_
  refine w_bipush (v := 6) (dk_Mean_fieldOf 1 rfl) rfl ?_
  refine w_imul (dk_Mean_fieldOf 2 rfl) ?_
  refine w_istore_n (ls' := [some (.ref 2), some (.int p1), some (.int p2), some (.int (p1 * 6))]) (dk_Mean_fieldOf 3 rfl) (by decide) rfl ?_
  exact h
theorem g_Mean_fieldOf_5 {d : Nat} {u : Us} {Q : Ot → Us → Prop} (x1 : Int32) (x2 : Int32) (x3 : Int32)
    (h : ∃ k1 : Nat, x1 = nI k1 ∧ k1 < 7 ∧ ((((x1 * 6) + (aI u 4 k1)) ≤ x3 → Q (.inl (some (.int (-1)))) u) ∧ (¬ (((x1 * 6) + (aI u 4 k1)) ≤ x3) → ∃ k2 : Nat, x3 = nI k2 ∧ k2 < 42 ∧ (((aI u 5 k2) ≠ x2 → WS d m_Mean_fieldOf 5 [some (.ref 2), some (.int x1), some (.int x2), some (.int (x3 + 1))] [] u Q) ∧ ((aI u 5 k2) = x2 → Q (.inl (some (.int x3))) u))))) :
    WS d m_Mean_fieldOf 5 [some (.ref 2), some (.int x1), some (.int x2), some (.int x3)] [] u Q := by
  refine w_iload_n (dk_Mean_fieldOf 4 rfl) rfl ?_
  refine w_iload_n (dk_Mean_fieldOf 5 rfl) rfl ?_
  refine w_bipush (v := 6) (dk_Mean_fieldOf 6 rfl) rfl ?_
  refine w_imul (dk_Mean_fieldOf 7 rfl) ?_
  refine w_aload_n (dk_Mean_fieldOf 8 rfl) rfl ?_
  refine w_getr (dk_Mean_fieldOf 9 rfl) lk_Mean_15 rfl rfl rfl ?_
  refine w_iload_n (dk_Mean_fieldOf 10 rfl) rfl ?_
  obtain ⟨k1, e_k1, l_k1, h⟩ := h
  refine w_iald (k_ := k1) (dk_Mean_fieldOf 11 rfl) rfl (by decide) e_k1 l_k1 ?_
  refine w_iadd (dk_Mean_fieldOf 12 rfl) ?_
  refine w_icmp_ge 38 (dk_Mean_fieldOf 13 rfl) (by decide) (fun c_ => ?_) (fun c_ => ?_)
  · replace h := h.1 c_
    refine w_iconst (v := (-1)) (dk_Mean_fieldOf 24 rfl) rfl ?_
    exact w_iret (dk_Mean_fieldOf 25 rfl) rfl h
  · replace h := h.2 c_
    refine w_aload_n (dk_Mean_fieldOf 14 rfl) rfl ?_
    refine w_getr (dk_Mean_fieldOf 15 rfl) lk_Mean_18 rfl rfl rfl ?_
    refine w_iload_n (dk_Mean_fieldOf 16 rfl) rfl ?_
    obtain ⟨k2, e_k2, l_k2, h⟩ := h
    refine w_iald (k_ := k2) (dk_Mean_fieldOf 17 rfl) rfl (by decide) e_k2 l_k2 ?_
    refine w_iload_n (dk_Mean_fieldOf 18 rfl) rfl ?_
    refine w_icmp_ne 32 (dk_Mean_fieldOf 19 rfl) (by decide) (fun c_ => ?_) (fun c_ => ?_)
    · replace h := h.1 c_
      refine w_iinc (v := x3 + 1) (ls' := [some (.ref 2), some (.int x1), some (.int x2), some (.int (x3 + 1))]) (dk_Mean_fieldOf 22 rfl) rfl rfl (by decide) rfl ?_
      refine w_goto 5 (dk_Mean_fieldOf 23 rfl) (by decide) ?_
      exact h
    · replace h := h.2 c_
      refine w_iload_n (dk_Mean_fieldOf 20 rfl) rfl ?_
      exact w_iret (dk_Mean_fieldOf 21 rfl) rfl h
theorem g_Code_add_0 {d : Nat} {u : Us} {Q : Ot → Us → Prop} (p1 : Int32) (p2 : Int32)
    (h : ∃ k1 : Nat, aI u 14 2 = nI k1 ∧ k1 < 700 ∧ (∃ k2 : Nat, aI u 14 2 = nI k2 ∧ k2 < 700 ∧ (Q (.inl (some (.int (aI u 14 2)))) (uI (uI (uI u 15 k1 p1) 16 k2 p2) 14 2 ((aI u 14 2) + 1))))) :
    WS d m_Code_add 0 [some (.ref 14), some (.int p1), some (.int p2)] [] u Q := by
  refine w_aload_n (dk_Code_add 0 rfl) rfl ?_
  refine w_getr (dk_Code_add 1 rfl) lk_Code_9 rfl rfl rfl ?_
  refine w_aload_n (dk_Code_add 2 rfl) rfl ?_
  refine w_geti (v := aI u 14 2) (dk_Code_add 3 rfl) lk_Code_33 rfl rfl rfl ?_
  refine w_iload_n (dk_Code_add 4 rfl) rfl ?_
  obtain ⟨k1, e_k1, l_k1, h⟩ := h
  refine w_iast (k_ := k1) (dk_Code_add 5 rfl) rfl (by decide) e_k1 l_k1 ?_
  refine w_aload_n (dk_Code_add 6 rfl) rfl ?_
  refine w_getr (dk_Code_add 7 rfl) lk_Code_15 rfl rfl rfl ?_
  refine w_aload_n (dk_Code_add 8 rfl) rfl ?_
  refine w_geti (v := aI u 14 2) (dk_Code_add 9 rfl) lk_Code_33 rfl rfl rfl ?_
  refine w_iload_n (dk_Code_add 10 rfl) rfl ?_
  obtain ⟨k2, e_k2, l_k2, h⟩ := h
  refine w_iast (k_ := k2) (dk_Code_add 11 rfl) rfl (by decide) e_k2 l_k2 ?_
  refine w_aload_n (dk_Code_add 12 rfl) rfl ?_
  refine w_dup (dk_Code_add 13 rfl) rfl ?_
  refine w_geti (v := aI u 14 2) (dk_Code_add 14 rfl) lk_Code_33 rfl rfl rfl ?_
  refine w_dup_x1 (dk_Code_add 15 rfl) rfl rfl ?_
  refine w_iconst (v := 1) (dk_Code_add 16 rfl) rfl ?_
  refine w_iadd (dk_Code_add 17 rfl) ?_
  refine w_puti (dk_Code_add 18 rfl) lk_Code_33 rfl rfl ?_
  exact w_iret (dk_Code_add 19 rfl) rfl h
theorem g_Mean_variableOf_0 {d : Nat} {u : Us} {Q : Ot → Us → Prop} (p1 : Int32)
    (h : WS d m_Mean_variableOf 2 [some (.ref 2), some (.int p1), some (.int 0)] [] u Q) :
    WS d m_Mean_variableOf 0 [some (.ref 2), some (.int p1), none] [] u Q := by
  refine w_iconst (v := 0) (dk_Mean_variableOf 0 rfl) rfl ?_
  refine w_istore_n (ls' := [some (.ref 2), some (.int p1), some (.int 0)]) (dk_Mean_variableOf 1 rfl) (by decide) rfl ?_
  exact h
theorem g_Mean_variableOf_2 {d : Nat} {u : Us} {Q : Ot → Us → Prop} (x1 : Int32) (x2 : Int32)
    (h : ((aI u 2 8) ≤ x2 → Q (.inl (some (.int (-1)))) u) ∧ (¬ ((aI u 2 8) ≤ x2) → ∃ k1 : Nat, x2 = nI k1 ∧ k1 < 20 ∧ (((aI u 8 k1) ≠ x1 → WS d m_Mean_variableOf 2 [some (.ref 2), some (.int x1), some (.int (x2 + 1))] [] u Q) ∧ ((aI u 8 k1) = x1 → Q (.inl (some (.int x2))) u)))) :
    WS d m_Mean_variableOf 2 [some (.ref 2), some (.int x1), some (.int x2)] [] u Q := by
  refine w_iload_n (dk_Mean_variableOf 2 rfl) rfl ?_
  refine w_aload_n (dk_Mean_variableOf 3 rfl) rfl ?_
  refine w_geti (v := aI u 2 8) (dk_Mean_variableOf 4 rfl) lk_Mean_37 rfl rfl rfl ?_
  refine w_icmp_ge 28 (dk_Mean_variableOf 5 rfl) (by decide) (fun c_ => ?_) (fun c_ => ?_)
  · replace h := h.1 c_
    refine w_iconst (v := (-1)) (dk_Mean_variableOf 16 rfl) rfl ?_
    exact w_iret (dk_Mean_variableOf 17 rfl) rfl h
  · replace h := h.2 c_
    refine w_aload_n (dk_Mean_variableOf 6 rfl) rfl ?_
    refine w_getr (dk_Mean_variableOf 7 rfl) lk_Mean_27 rfl rfl rfl ?_
    refine w_iload_n (dk_Mean_variableOf 8 rfl) rfl ?_
    obtain ⟨k1, e_k1, l_k1, h⟩ := h
    refine w_iald (k_ := k1) (dk_Mean_variableOf 9 rfl) rfl (by decide) e_k1 l_k1 ?_
    refine w_iload_n (dk_Mean_variableOf 10 rfl) rfl ?_
    refine w_icmp_ne 22 (dk_Mean_variableOf 11 rfl) (by decide) (fun c_ => ?_) (fun c_ => ?_)
    · replace h := h.1 c_
      refine w_iinc (v := x2 + 1) (ls' := [some (.ref 2), some (.int x1), some (.int (x2 + 1))]) (dk_Mean_variableOf 14 rfl) rfl rfl (by decide) rfl ?_
      refine w_goto 2 (dk_Mean_variableOf 15 rfl) (by decide) ?_
      exact h
    · replace h := h.2 c_
      refine w_iload_n (dk_Mean_variableOf 12 rfl) rfl ?_
      exact w_iret (dk_Mean_variableOf 13 rfl) rfl h
theorem g_Stor_read_0 {d : Nat} {u : Us} {Q : Ot → Us → Prop} (p1 : Int32) (p2 : Int32) (p3 : Int32)
    (h : WS d m_Stor_read 6 [some (.ref 39), some (.int p1), some (.int p2), some (.int p3), some (.int 0), some (.int 0)] [] u Q) :
    WS d m_Stor_read 0 [some (.ref 39), some (.int p1), some (.int p2), some (.int p3), none, none] [] u Q := by
  refine w_iconst (v := 0) (dk_Stor_read 0 rfl) rfl ?_
  refine w_istore (ls' := [some (.ref 39), some (.int p1), some (.int p2), some (.int p3), some (.int 0), none]) (dk_Stor_read 1 rfl) (by decide) rfl ?_
  refine w_iconst (v := 0) (dk_Stor_read 2 rfl) rfl ?_
  refine w_istore (ls' := [some (.ref 39), some (.int p1), some (.int p2), some (.int p3), some (.int 0), some (.int 0)]) (dk_Stor_read 3 rfl) (by decide) rfl ?_
  exact h
theorem g_Stor_read_6 {d : Nat} {u : Us} {Q : Ot → Us → Prop} (x1 : Int32) (x2 : Int32) (x3 : Int32) (x4 : Int32) (x5 : Int32)
    (h : (x3 ≤ x5 → Q (.inl (some (.int x4))) u) ∧ (¬ (x3 ≤ x5) → ∃ k1 : Nat, x2 + x5 = nI k1 ∧ k1 < 88 ∧ (WS d m_Stor_read 6 [some (.ref 39), some (.int x1), some (.int x2), some (.int x3), some (.int (x4 ||| ((Int64.toInt32 (((Int64.toUInt64 (aL u 40 k1) >>> ((Int32.toInt64 x1).toUInt64 &&& Int64.toUInt64 63)).toInt64) &&& 1)) <<< (x5 &&& 31)))), some (.int (x5 + 1))] [] u Q))) :
    WS d m_Stor_read 6 [some (.ref 39), some (.int x1), some (.int x2), some (.int x3), some (.int x4), some (.int x5)] [] u Q := by
  refine w_iload (dk_Stor_read 4 rfl) rfl ?_
  refine w_iload_n (dk_Stor_read 5 rfl) rfl ?_
  refine w_icmp_ge 40 (dk_Stor_read 6 rfl) (by decide) (fun c_ => ?_) (fun c_ => ?_)
  · replace h := h.1 c_
    refine w_iload (dk_Stor_read 25 rfl) rfl ?_
    exact w_iret (dk_Stor_read 26 rfl) rfl h
  · replace h := h.2 c_
    refine w_iload (dk_Stor_read 7 rfl) rfl ?_
    refine w_aload_n (dk_Stor_read 8 rfl) rfl ?_
    refine w_getr (dk_Stor_read 9 rfl) lk_Stor_9 rfl rfl rfl ?_
    refine w_iload_n (dk_Stor_read 10 rfl) rfl ?_
    refine w_iload (dk_Stor_read 11 rfl) rfl ?_
    refine w_iadd (dk_Stor_read 12 rfl) ?_
    obtain ⟨k1, e_k1, l_k1, h⟩ := h
    refine w_lald (k_ := k1) (dk_Stor_read 13 rfl) rfl (by decide) e_k1 l_k1 ?_
    refine w_iload_n (dk_Stor_read 14 rfl) rfl ?_
    refine w_lushr (dk_Stor_read 15 rfl) ?_
    refine w_lconst (v := 1) (dk_Stor_read 16 rfl) rfl ?_
    refine w_land (dk_Stor_read 17 rfl) ?_
    refine w_l2i (dk_Stor_read 18 rfl) ?_
    refine w_iload (dk_Stor_read 19 rfl) rfl ?_
    refine w_ishl (dk_Stor_read 20 rfl) ?_
    refine w_ior (dk_Stor_read 21 rfl) ?_
    refine w_istore (ls' := [some (.ref 39), some (.int x1), some (.int x2), some (.int x3), some (.int (x4 ||| ((Int64.toInt32 (((Int64.toUInt64 (aL u 40 k1) >>> ((Int32.toInt64 x1).toUInt64 &&& Int64.toUInt64 63)).toInt64) &&& 1)) <<< (x5 &&& 31)))), some (.int x5)]) (dk_Stor_read 22 rfl) (by decide) rfl ?_
    refine w_iinc (v := x5 + 1) (ls' := [some (.ref 39), some (.int x1), some (.int x2), some (.int x3), some (.int (x4 ||| ((Int64.toInt32 (((Int64.toUInt64 (aL u 40 k1) >>> ((Int32.toInt64 x1).toUInt64 &&& Int64.toUInt64 63)).toInt64) &&& 1)) <<< (x5 &&& 31)))), some (.int (x5 + 1))]) (dk_Stor_read 23 rfl) rfl rfl (by decide) rfl ?_
    refine w_goto 6 (dk_Stor_read 24 rfl) (by decide) ?_
    exact h
theorem g_Stor_all_0 {d : Nat} {u : Us} {Q : Ot → Us → Prop} (p1 : Int32)
    (h : WS d m_Stor_all 7 [some (.ref 39), some (.int p1), some (.long (-1)), none, some (.int 0)] [] u Q) :
    WS d m_Stor_all 0 [some (.ref 39), some (.int p1), none, none, none] [] u Q := by
  refine w_ldc2 (dk_Stor_all 0 rfl) kl_Stor_19 ?_
  refine w_lstore_n (ls' := [some (.ref 39), some (.int p1), some (.long (-1)), none, none]) (dk_Stor_all 1 rfl) (by decide) rfl ?_
  refine w_iconst (v := 0) (dk_Stor_all 2 rfl) rfl ?_
  refine w_istore (ls' := [some (.ref 39), some (.int p1), some (.long (-1)), none, some (.int 0)]) (dk_Stor_all 3 rfl) (by decide) rfl ?_
  exact h
theorem g_Stor_all_7 {d : Nat} {u : Us} {Q : Ot → Us → Prop} (x1 : Int32) (x2 : Int64) (x4 : Int32)
    (h : (3 ≤ x4 → Q (.inl (some (.long x2))) u) ∧ (¬ (3 ≤ x4) → ((((x1 + 1) >>> (x4 &&& 31)) &&& 1) ≠ 1 → ∃ k1 : Nat, x4 = nI k1 ∧ k1 < 88 ∧ (WS d m_Stor_all 7 [some (.ref 39), some (.int x1), some (.long (x2 &&& ((aL u 40 k1) ^^^ (-1)))), none, some (.int (x4 + 1))] [] u Q)) ∧ ((((x1 + 1) >>> (x4 &&& 31)) &&& 1) = 1 → ∃ k2 : Nat, x4 = nI k2 ∧ k2 < 88 ∧ (WS d m_Stor_all 7 [some (.ref 39), some (.int x1), some (.long (x2 &&& (aL u 40 k2))), none, some (.int (x4 + 1))] [] u Q)))) :
    WS d m_Stor_all 7 [some (.ref 39), some (.int x1), some (.long x2), none, some (.int x4)] [] u Q := by
  refine w_iload (dk_Stor_all 4 rfl) rfl ?_
  refine w_iconst (v := 3) (dk_Stor_all 5 rfl) rfl ?_
  refine w_icmp_ge 55 (dk_Stor_all 6 rfl) (by decide) (fun c_ => ?_) (fun c_ => ?_)
  · replace h := h.1 c_
    refine w_lload_n (dk_Stor_all 32 rfl) rfl ?_
    exact w_lret (dk_Stor_all 33 rfl) rfl h
  · replace h := h.2 c_
    refine w_lload_n (dk_Stor_all 7 rfl) rfl ?_
    refine w_iload_n (dk_Stor_all 8 rfl) rfl ?_
    refine w_iconst (v := 1) (dk_Stor_all 9 rfl) rfl ?_
    refine w_iadd (dk_Stor_all 10 rfl) ?_
    refine w_iload (dk_Stor_all 11 rfl) rfl ?_
    refine w_ishr (dk_Stor_all 12 rfl) ?_
    refine w_iconst (v := 1) (dk_Stor_all 13 rfl) rfl ?_
    refine w_iand (dk_Stor_all 14 rfl) ?_
    refine w_iconst (v := 1) (dk_Stor_all 15 rfl) rfl ?_
    refine w_icmp_ne 36 (dk_Stor_all 16 rfl) (by decide) (fun c_ => ?_) (fun c_ => ?_)
    · replace h := h.1 c_
      refine w_aload_n (dk_Stor_all 22 rfl) rfl ?_
      refine w_getr (dk_Stor_all 23 rfl) lk_Stor_9 rfl rfl rfl ?_
      refine w_iload (dk_Stor_all 24 rfl) rfl ?_
      obtain ⟨k1, e_k1, l_k1, h⟩ := h
      refine w_lald (k_ := k1) (dk_Stor_all 25 rfl) rfl (by decide) e_k1 l_k1 ?_
      refine w_ldc2 (dk_Stor_all 26 rfl) kl_Stor_19 ?_
      refine w_lxor (dk_Stor_all 27 rfl) ?_
      refine w_land (dk_Stor_all 28 rfl) ?_
      refine w_lstore_n (ls' := [some (.ref 39), some (.int x1), some (.long (x2 &&& ((aL u 40 k1) ^^^ (-1)))), none, some (.int x4)]) (dk_Stor_all 29 rfl) (by decide) rfl ?_
      refine w_iinc (v := x4 + 1) (ls' := [some (.ref 39), some (.int x1), some (.long (x2 &&& ((aL u 40 k1) ^^^ (-1)))), none, some (.int (x4 + 1))]) (dk_Stor_all 30 rfl) rfl rfl (by decide) rfl ?_
      refine w_goto 7 (dk_Stor_all 31 rfl) (by decide) ?_
      exact h
    · replace h := h.2 c_
      refine w_aload_n (dk_Stor_all 17 rfl) rfl ?_
      refine w_getr (dk_Stor_all 18 rfl) lk_Stor_9 rfl rfl rfl ?_
      refine w_iload (dk_Stor_all 19 rfl) rfl ?_
      obtain ⟨k2, e_k2, l_k2, h⟩ := h
      refine w_lald (k_ := k2) (dk_Stor_all 20 rfl) rfl (by decide) e_k2 l_k2 ?_
      refine w_goto 47 (dk_Stor_all 21 rfl) (by decide) ?_
      refine w_land (dk_Stor_all 28 rfl) ?_
      refine w_lstore_n (ls' := [some (.ref 39), some (.int x1), some (.long (x2 &&& (aL u 40 k2))), none, some (.int x4)]) (dk_Stor_all 29 rfl) (by decide) rfl ?_
      refine w_iinc (v := x4 + 1) (ls' := [some (.ref 39), some (.int x1), some (.long (x2 &&& (aL u 40 k2))), none, some (.int (x4 + 1))]) (dk_Stor_all 30 rfl) rfl rfl (by decide) rfl ?_
      refine w_goto 7 (dk_Stor_all 31 rfl) (by decide) ?_
      exact h
theorem g_Stor_best_0 {d : Nat} {u : Us} {Q : Ot → Us → Prop} (p1 : Int64) (p2 : Int32) (p3 : Int32) (p4 : Int32)
    (h : WS d m_Stor_best 9 [some (.ref 39), some (.long p1), none, some (.int p2), some (.int p3), some (.int p4), some (.long p1), none, some (.int (p3 - 1)), none, none, none] [] u Q) :
    WS d m_Stor_best 0 [some (.ref 39), some (.long p1), none, some (.int p2), some (.int p3), some (.int p4), none, none, none, none, none, none] [] u Q := by
  refine w_lload_n (dk_Stor_best 0 rfl) rfl ?_
  refine w_lstore (ls' := [some (.ref 39), some (.long p1), none, some (.int p2), some (.int p3), some (.int p4), some (.long p1), none, none, none, none, none]) (dk_Stor_best 1 rfl) (by decide) rfl ?_
  refine w_iload (dk_Stor_best 2 rfl) rfl ?_
  refine w_iconst (v := 1) (dk_Stor_best 3 rfl) rfl ?_
  refine w_isub (dk_Stor_best 4 rfl) ?_
  refine w_istore (ls' := [some (.ref 39), some (.long p1), none, some (.int p2), some (.int p3), some (.int p4), some (.long p1), none, some (.int (p3 - 1)), none, none, none]) (dk_Stor_best 5 rfl) (by decide) rfl ?_
  exact h
theorem g_Stor_best_9 {d : Nat} {u : Us} {Q : Ot → Us → Prop} (x1 : Int64) (x3 : Int32) (x4 : Int32) (x5 : Int32) (x6 : Int64) (x8 : Int32)
    (h : (x8 < 0 → Q (.inl (some (.long x6))) u) ∧ (¬ (x8 < 0) → (x8 ≠ 31 → (x5 = 0 → ∃ k1 : Nat, x3 + x8 = nI k1 ∧ k1 < 88 ∧ (((x6 &&& ((aL u 40 k1) ^^^ (-1))) ≠ 0 → WS d m_Stor_best 9 [some (.ref 39), some (.long x1), none, some (.int x3), some (.int x4), some (.int x5), some (.long (x6 &&& ((aL u 40 k1) ^^^ (-1)))), none, some (.int (x8 + (-1))), some (.int 0), some (.long (x6 &&& ((aL u 40 k1) ^^^ (-1)))), none] [] u Q) ∧ ((x6 &&& ((aL u 40 k1) ^^^ (-1))) = 0 → WS d m_Stor_best 9 [some (.ref 39), some (.long x1), none, some (.int x3), some (.int x4), some (.int x5), some (.long x6), none, some (.int (x8 + (-1))), some (.int 0), some (.long (x6 &&& ((aL u 40 k1) ^^^ (-1)))), none] [] u Q))) ∧ (¬ (x5 = 0) → ∃ k2 : Nat, x3 + x8 = nI k2 ∧ k2 < 88 ∧ (((x6 &&& (aL u 40 k2)) ≠ 0 → WS d m_Stor_best 9 [some (.ref 39), some (.long x1), none, some (.int x3), some (.int x4), some (.int x5), some (.long (x6 &&& (aL u 40 k2))), none, some (.int (x8 + (-1))), some (.int 1), some (.long (x6 &&& (aL u 40 k2))), none] [] u Q) ∧ ((x6 &&& (aL u 40 k2)) = 0 → WS d m_Stor_best 9 [some (.ref 39), some (.long x1), none, some (.int x3), some (.int x4), some (.int x5), some (.long x6), none, some (.int (x8 + (-1))), some (.int 1), some (.long (x6 &&& (aL u 40 k2))), none] [] u Q)))) ∧ (x8 = 31 → (x5 = 1 → ∃ k3 : Nat, x3 + x8 = nI k3 ∧ k3 < 88 ∧ (((x6 &&& ((aL u 40 k3) ^^^ (-1))) ≠ 0 → WS d m_Stor_best 9 [some (.ref 39), some (.long x1), none, some (.int x3), some (.int x4), some (.int x5), some (.long (x6 &&& ((aL u 40 k3) ^^^ (-1)))), none, some (.int (x8 + (-1))), some (.int 0), some (.long (x6 &&& ((aL u 40 k3) ^^^ (-1)))), none] [] u Q) ∧ ((x6 &&& ((aL u 40 k3) ^^^ (-1))) = 0 → WS d m_Stor_best 9 [some (.ref 39), some (.long x1), none, some (.int x3), some (.int x4), some (.int x5), some (.long x6), none, some (.int (x8 + (-1))), some (.int 0), some (.long (x6 &&& ((aL u 40 k3) ^^^ (-1)))), none] [] u Q))) ∧ (¬ (x5 = 1) → ∃ k4 : Nat, x3 + x8 = nI k4 ∧ k4 < 88 ∧ (((x6 &&& (aL u 40 k4)) ≠ 0 → WS d m_Stor_best 9 [some (.ref 39), some (.long x1), none, some (.int x3), some (.int x4), some (.int x5), some (.long (x6 &&& (aL u 40 k4))), none, some (.int (x8 + (-1))), some (.int 1), some (.long (x6 &&& (aL u 40 k4))), none] [] u Q) ∧ ((x6 &&& (aL u 40 k4)) = 0 → WS d m_Stor_best 9 [some (.ref 39), some (.long x1), none, some (.int x3), some (.int x4), some (.int x5), some (.long x6), none, some (.int (x8 + (-1))), some (.int 1), some (.long (x6 &&& (aL u 40 k4))), none] [] u Q)))))) :
    WS d m_Stor_best 9 [some (.ref 39), some (.long x1), none, some (.int x3), some (.int x4), some (.int x5), some (.long x6), none, some (.int x8), none, none, none] [] u Q := by
  refine w_iload (dk_Stor_best 6 rfl) rfl ?_
  refine w_if_lt 95 (dk_Stor_best 7 rfl) (by decide) (fun c_ => ?_) (fun c_ => ?_)
  · replace h := h.1 c_
    refine w_lload (dk_Stor_best 50 rfl) rfl ?_
    exact w_lret (dk_Stor_best 51 rfl) rfl h
  · replace h := h.2 c_
    refine w_iload (dk_Stor_best 8 rfl) rfl ?_
    refine w_iload (dk_Stor_best 9 rfl) rfl ?_
    refine w_bipush (v := 31) (dk_Stor_best 10 rfl) rfl ?_
    refine w_icmp_ne 27 (dk_Stor_best 11 rfl) (by decide) (fun c_ => ?_) (fun c_ => ?_)
    · replace h := h.1 c_
      refine w_iconst (v := 0) (dk_Stor_best 14 rfl) rfl ?_
      refine w_icmp_eq 35 (dk_Stor_best 15 rfl) (by decide) (fun c_ => ?_) (fun c_ => ?_)
      · replace h := h.1 c_
        refine w_iconst (v := 0) (dk_Stor_best 18 rfl) rfl ?_
        refine w_istore (ls' := [some (.ref 39), some (.long x1), none, some (.int x3), some (.int x4), some (.int x5), some (.long x6), none, some (.int x8), some (.int 0), none, none]) (dk_Stor_best 19 rfl) (by decide) rfl ?_
        refine w_lload (dk_Stor_best 20 rfl) rfl ?_
        refine w_iload (dk_Stor_best 21 rfl) rfl ?_
        refine w_if_eq_t 57 (dk_Stor_best 22 rfl) (by decide) (by decide) ?_
        refine w_aload_n (dk_Stor_best 30 rfl) rfl ?_
        refine w_getr (dk_Stor_best 31 rfl) lk_Stor_9 rfl rfl rfl ?_
        refine w_iload_n (dk_Stor_best 32 rfl) rfl ?_
        refine w_iload (dk_Stor_best 33 rfl) rfl ?_
        refine w_iadd (dk_Stor_best 34 rfl) ?_
        obtain ⟨k1, e_k1, l_k1, h⟩ := h
        refine w_lald (k_ := k1) (dk_Stor_best 35 rfl) rfl (by decide) e_k1 l_k1 ?_
        refine w_ldc2 (dk_Stor_best 36 rfl) kl_Stor_19 ?_
        refine w_lxor (dk_Stor_best 37 rfl) ?_
        refine w_land (dk_Stor_best 38 rfl) ?_
        refine w_lstore (ls' := [some (.ref 39), some (.long x1), none, some (.int x3), some (.int x4), some (.int x5), some (.long x6), none, some (.int x8), some (.int 0), some (.long (x6 &&& ((aL u 40 k1) ^^^ (-1)))), none]) (dk_Stor_best 39 rfl) (by decide) rfl ?_
        refine w_lload (dk_Stor_best 40 rfl) rfl ?_
        refine w_lconst (v := 0) (dk_Stor_best 41 rfl) rfl ?_
        refine w_lcmp_ne 85 (dk_Stor_best 42 rfl) (dk_Stor_best 43 rfl) (by decide) (fun c_ => ?_) (fun c_ => ?_)
        · replace h := h.1 c_
          refine w_lload (dk_Stor_best 46 rfl) rfl ?_
          refine w_lstore (ls' := [some (.ref 39), some (.long x1), none, some (.int x3), some (.int x4), some (.int x5), some (.long (x6 &&& ((aL u 40 k1) ^^^ (-1)))), none, some (.int x8), some (.int 0), some (.long (x6 &&& ((aL u 40 k1) ^^^ (-1)))), none]) (dk_Stor_best 47 rfl) (by decide) rfl ?_
          refine w_iinc (v := x8 + (-1)) (ls' := [some (.ref 39), some (.long x1), none, some (.int x3), some (.int x4), some (.int x5), some (.long (x6 &&& ((aL u 40 k1) ^^^ (-1)))), none, some (.int (x8 + (-1))), some (.int 0), some (.long (x6 &&& ((aL u 40 k1) ^^^ (-1)))), none]) (dk_Stor_best 48 rfl) rfl rfl (by decide) rfl ?_
          refine w_goto 9 (dk_Stor_best 49 rfl) (by decide) ?_
          exact h
        · replace h := h.2 c_
          refine w_lload (dk_Stor_best 44 rfl) rfl ?_
          refine w_goto 87 (dk_Stor_best 45 rfl) (by decide) ?_
          refine w_lstore (ls' := [some (.ref 39), some (.long x1), none, some (.int x3), some (.int x4), some (.int x5), some (.long x6), none, some (.int x8), some (.int 0), some (.long (x6 &&& ((aL u 40 k1) ^^^ (-1)))), none]) (dk_Stor_best 47 rfl) (by decide) rfl ?_
          refine w_iinc (v := x8 + (-1)) (ls' := [some (.ref 39), some (.long x1), none, some (.int x3), some (.int x4), some (.int x5), some (.long x6), none, some (.int (x8 + (-1))), some (.int 0), some (.long (x6 &&& ((aL u 40 k1) ^^^ (-1)))), none]) (dk_Stor_best 48 rfl) rfl rfl (by decide) rfl ?_
          refine w_goto 9 (dk_Stor_best 49 rfl) (by decide) ?_
          exact h
      · replace h := h.2 c_
        refine w_iconst (v := 1) (dk_Stor_best 16 rfl) rfl ?_
        refine w_goto 36 (dk_Stor_best 17 rfl) (by decide) ?_
        refine w_istore (ls' := [some (.ref 39), some (.long x1), none, some (.int x3), some (.int x4), some (.int x5), some (.long x6), none, some (.int x8), some (.int 1), none, none]) (dk_Stor_best 19 rfl) (by decide) rfl ?_
        refine w_lload (dk_Stor_best 20 rfl) rfl ?_
        refine w_iload (dk_Stor_best 21 rfl) rfl ?_
        refine w_if_eq_f (dk_Stor_best 22 rfl) 57 (by decide) (by decide) ?_
        refine w_aload_n (dk_Stor_best 23 rfl) rfl ?_
        refine w_getr (dk_Stor_best 24 rfl) lk_Stor_9 rfl rfl rfl ?_
        refine w_iload_n (dk_Stor_best 25 rfl) rfl ?_
        refine w_iload (dk_Stor_best 26 rfl) rfl ?_
        refine w_iadd (dk_Stor_best 27 rfl) ?_
        obtain ⟨k2, e_k2, l_k2, h⟩ := h
        refine w_lald (k_ := k2) (dk_Stor_best 28 rfl) rfl (by decide) e_k2 l_k2 ?_
        refine w_goto 70 (dk_Stor_best 29 rfl) (by decide) ?_
        refine w_land (dk_Stor_best 38 rfl) ?_
        refine w_lstore (ls' := [some (.ref 39), some (.long x1), none, some (.int x3), some (.int x4), some (.int x5), some (.long x6), none, some (.int x8), some (.int 1), some (.long (x6 &&& (aL u 40 k2))), none]) (dk_Stor_best 39 rfl) (by decide) rfl ?_
        refine w_lload (dk_Stor_best 40 rfl) rfl ?_
        refine w_lconst (v := 0) (dk_Stor_best 41 rfl) rfl ?_
        refine w_lcmp_ne 85 (dk_Stor_best 42 rfl) (dk_Stor_best 43 rfl) (by decide) (fun c_ => ?_) (fun c_ => ?_)
        · replace h := h.1 c_
          refine w_lload (dk_Stor_best 46 rfl) rfl ?_
          refine w_lstore (ls' := [some (.ref 39), some (.long x1), none, some (.int x3), some (.int x4), some (.int x5), some (.long (x6 &&& (aL u 40 k2))), none, some (.int x8), some (.int 1), some (.long (x6 &&& (aL u 40 k2))), none]) (dk_Stor_best 47 rfl) (by decide) rfl ?_
          refine w_iinc (v := x8 + (-1)) (ls' := [some (.ref 39), some (.long x1), none, some (.int x3), some (.int x4), some (.int x5), some (.long (x6 &&& (aL u 40 k2))), none, some (.int (x8 + (-1))), some (.int 1), some (.long (x6 &&& (aL u 40 k2))), none]) (dk_Stor_best 48 rfl) rfl rfl (by decide) rfl ?_
          refine w_goto 9 (dk_Stor_best 49 rfl) (by decide) ?_
          exact h
        · replace h := h.2 c_
          refine w_lload (dk_Stor_best 44 rfl) rfl ?_
          refine w_goto 87 (dk_Stor_best 45 rfl) (by decide) ?_
          refine w_lstore (ls' := [some (.ref 39), some (.long x1), none, some (.int x3), some (.int x4), some (.int x5), some (.long x6), none, some (.int x8), some (.int 1), some (.long (x6 &&& (aL u 40 k2))), none]) (dk_Stor_best 47 rfl) (by decide) rfl ?_
          refine w_iinc (v := x8 + (-1)) (ls' := [some (.ref 39), some (.long x1), none, some (.int x3), some (.int x4), some (.int x5), some (.long x6), none, some (.int (x8 + (-1))), some (.int 1), some (.long (x6 &&& (aL u 40 k2))), none]) (dk_Stor_best 48 rfl) rfl rfl (by decide) rfl ?_
          refine w_goto 9 (dk_Stor_best 49 rfl) (by decide) ?_
          exact h
    · replace h := h.2 c_
      refine w_iconst (v := 1) (dk_Stor_best 12 rfl) rfl ?_
      refine w_goto 28 (dk_Stor_best 13 rfl) (by decide) ?_
      refine w_icmp_eq 35 (dk_Stor_best 15 rfl) (by decide) (fun c_ => ?_) (fun c_ => ?_)
      · replace h := h.1 c_
        refine w_iconst (v := 0) (dk_Stor_best 18 rfl) rfl ?_
        refine w_istore (ls' := [some (.ref 39), some (.long x1), none, some (.int x3), some (.int x4), some (.int x5), some (.long x6), none, some (.int x8), some (.int 0), none, none]) (dk_Stor_best 19 rfl) (by decide) rfl ?_
        refine w_lload (dk_Stor_best 20 rfl) rfl ?_
        refine w_iload (dk_Stor_best 21 rfl) rfl ?_
        refine w_if_eq_t 57 (dk_Stor_best 22 rfl) (by decide) (by decide) ?_
        refine w_aload_n (dk_Stor_best 30 rfl) rfl ?_
        refine w_getr (dk_Stor_best 31 rfl) lk_Stor_9 rfl rfl rfl ?_
        refine w_iload_n (dk_Stor_best 32 rfl) rfl ?_
        refine w_iload (dk_Stor_best 33 rfl) rfl ?_
        refine w_iadd (dk_Stor_best 34 rfl) ?_
        obtain ⟨k3, e_k3, l_k3, h⟩ := h
        refine w_lald (k_ := k3) (dk_Stor_best 35 rfl) rfl (by decide) e_k3 l_k3 ?_
        refine w_ldc2 (dk_Stor_best 36 rfl) kl_Stor_19 ?_
        refine w_lxor (dk_Stor_best 37 rfl) ?_
        refine w_land (dk_Stor_best 38 rfl) ?_
        refine w_lstore (ls' := [some (.ref 39), some (.long x1), none, some (.int x3), some (.int x4), some (.int x5), some (.long x6), none, some (.int x8), some (.int 0), some (.long (x6 &&& ((aL u 40 k3) ^^^ (-1)))), none]) (dk_Stor_best 39 rfl) (by decide) rfl ?_
        refine w_lload (dk_Stor_best 40 rfl) rfl ?_
        refine w_lconst (v := 0) (dk_Stor_best 41 rfl) rfl ?_
        refine w_lcmp_ne 85 (dk_Stor_best 42 rfl) (dk_Stor_best 43 rfl) (by decide) (fun c_ => ?_) (fun c_ => ?_)
        · replace h := h.1 c_
          refine w_lload (dk_Stor_best 46 rfl) rfl ?_
          refine w_lstore (ls' := [some (.ref 39), some (.long x1), none, some (.int x3), some (.int x4), some (.int x5), some (.long (x6 &&& ((aL u 40 k3) ^^^ (-1)))), none, some (.int x8), some (.int 0), some (.long (x6 &&& ((aL u 40 k3) ^^^ (-1)))), none]) (dk_Stor_best 47 rfl) (by decide) rfl ?_
          refine w_iinc (v := x8 + (-1)) (ls' := [some (.ref 39), some (.long x1), none, some (.int x3), some (.int x4), some (.int x5), some (.long (x6 &&& ((aL u 40 k3) ^^^ (-1)))), none, some (.int (x8 + (-1))), some (.int 0), some (.long (x6 &&& ((aL u 40 k3) ^^^ (-1)))), none]) (dk_Stor_best 48 rfl) rfl rfl (by decide) rfl ?_
          refine w_goto 9 (dk_Stor_best 49 rfl) (by decide) ?_
          exact h
        · replace h := h.2 c_
          refine w_lload (dk_Stor_best 44 rfl) rfl ?_
          refine w_goto 87 (dk_Stor_best 45 rfl) (by decide) ?_
          refine w_lstore (ls' := [some (.ref 39), some (.long x1), none, some (.int x3), some (.int x4), some (.int x5), some (.long x6), none, some (.int x8), some (.int 0), some (.long (x6 &&& ((aL u 40 k3) ^^^ (-1)))), none]) (dk_Stor_best 47 rfl) (by decide) rfl ?_
          refine w_iinc (v := x8 + (-1)) (ls' := [some (.ref 39), some (.long x1), none, some (.int x3), some (.int x4), some (.int x5), some (.long x6), none, some (.int (x8 + (-1))), some (.int 0), some (.long (x6 &&& ((aL u 40 k3) ^^^ (-1)))), none]) (dk_Stor_best 48 rfl) rfl rfl (by decide) rfl ?_
          refine w_goto 9 (dk_Stor_best 49 rfl) (by decide) ?_
          exact h
      · replace h := h.2 c_
        refine w_iconst (v := 1) (dk_Stor_best 16 rfl) rfl ?_
        refine w_goto 36 (dk_Stor_best 17 rfl) (by decide) ?_
        refine w_istore (ls' := [some (.ref 39), some (.long x1), none, some (.int x3), some (.int x4), some (.int x5), some (.long x6), none, some (.int x8), some (.int 1), none, none]) (dk_Stor_best 19 rfl) (by decide) rfl ?_
        refine w_lload (dk_Stor_best 20 rfl) rfl ?_
        refine w_iload (dk_Stor_best 21 rfl) rfl ?_
        refine w_if_eq_f (dk_Stor_best 22 rfl) 57 (by decide) (by decide) ?_
        refine w_aload_n (dk_Stor_best 23 rfl) rfl ?_
        refine w_getr (dk_Stor_best 24 rfl) lk_Stor_9 rfl rfl rfl ?_
        refine w_iload_n (dk_Stor_best 25 rfl) rfl ?_
        refine w_iload (dk_Stor_best 26 rfl) rfl ?_
        refine w_iadd (dk_Stor_best 27 rfl) ?_
        obtain ⟨k4, e_k4, l_k4, h⟩ := h
        refine w_lald (k_ := k4) (dk_Stor_best 28 rfl) rfl (by decide) e_k4 l_k4 ?_
        refine w_goto 70 (dk_Stor_best 29 rfl) (by decide) ?_
        refine w_land (dk_Stor_best 38 rfl) ?_
        refine w_lstore (ls' := [some (.ref 39), some (.long x1), none, some (.int x3), some (.int x4), some (.int x5), some (.long x6), none, some (.int x8), some (.int 1), some (.long (x6 &&& (aL u 40 k4))), none]) (dk_Stor_best 39 rfl) (by decide) rfl ?_
        refine w_lload (dk_Stor_best 40 rfl) rfl ?_
        refine w_lconst (v := 0) (dk_Stor_best 41 rfl) rfl ?_
        refine w_lcmp_ne 85 (dk_Stor_best 42 rfl) (dk_Stor_best 43 rfl) (by decide) (fun c_ => ?_) (fun c_ => ?_)
        · replace h := h.1 c_
          refine w_lload (dk_Stor_best 46 rfl) rfl ?_
          refine w_lstore (ls' := [some (.ref 39), some (.long x1), none, some (.int x3), some (.int x4), some (.int x5), some (.long (x6 &&& (aL u 40 k4))), none, some (.int x8), some (.int 1), some (.long (x6 &&& (aL u 40 k4))), none]) (dk_Stor_best 47 rfl) (by decide) rfl ?_
          refine w_iinc (v := x8 + (-1)) (ls' := [some (.ref 39), some (.long x1), none, some (.int x3), some (.int x4), some (.int x5), some (.long (x6 &&& (aL u 40 k4))), none, some (.int (x8 + (-1))), some (.int 1), some (.long (x6 &&& (aL u 40 k4))), none]) (dk_Stor_best 48 rfl) rfl rfl (by decide) rfl ?_
          refine w_goto 9 (dk_Stor_best 49 rfl) (by decide) ?_
          exact h
        · replace h := h.2 c_
          refine w_lload (dk_Stor_best 44 rfl) rfl ?_
          refine w_goto 87 (dk_Stor_best 45 rfl) (by decide) ?_
          refine w_lstore (ls' := [some (.ref 39), some (.long x1), none, some (.int x3), some (.int x4), some (.int x5), some (.long x6), none, some (.int x8), some (.int 1), some (.long (x6 &&& (aL u 40 k4))), none]) (dk_Stor_best 47 rfl) (by decide) rfl ?_
          refine w_iinc (v := x8 + (-1)) (ls' := [some (.ref 39), some (.long x1), none, some (.int x3), some (.int x4), some (.int x5), some (.long x6), none, some (.int (x8 + (-1))), some (.int 1), some (.long (x6 &&& (aL u 40 k4))), none]) (dk_Stor_best 48 rfl) rfl rfl (by decide) rfl ?_
          refine w_goto 9 (dk_Stor_best 49 rfl) (by decide) ?_
          exact h
theorem g_Stor_birth_0 {d : Nat} {u : Us} {Q : Ot → Us → Prop} (p1 : Int32) (p2 : Int32)
    (h : WS d m_Stor_birth 2 [some (.ref 39), some (.int p1), some (.int p2), some (.int 0)] [] u Q) :
    WS d m_Stor_birth 0 [some (.ref 39), some (.int p1), some (.int p2), none] [] u Q := by
  refine w_iconst (v := 0) (dk_Stor_birth 0 rfl) rfl ?_
  refine w_istore_n (ls' := [some (.ref 39), some (.int p1), some (.int p2), some (.int 0)]) (dk_Stor_birth 1 rfl) (by decide) rfl ?_
  exact h
theorem g_Stor_birth_2 {d : Nat} {u : Us} {Q : Ot → Us → Prop} (x1 : Int32) (x2 : Int32) (x3 : Int32)
    (h : (3 ≤ x3 → ∃ k1 : Nat, x1 = nI k1 ∧ k1 < 64 ∧ (Q (.inl none) (uI (uI u 39 2 ((aI u 39 2) + 1)) 41 k1 ((aI u 39 2) + 1)))) ∧ (¬ (3 ≤ x3) → ((((x2 + 1) >>> (x3 &&& 31)) &&& 1) ≠ 1 → WS d m_Stor_birth 2 [some (.ref 39), some (.int x1), some (.int x2), some (.int (x3 + 1))] [] u Q) ∧ ((((x2 + 1) >>> (x3 &&& 31)) &&& 1) = 1 → ∃ k2 : Nat, x3 = nI k2 ∧ k2 < 88 ∧ (∃ k3 : Nat, x3 = nI k3 ∧ k3 < 88 ∧ (WS d m_Stor_birth 2 [some (.ref 39), some (.int x1), some (.int x2), some (.int (x3 + 1))] [] (uL u 40 k3 ((aL u 40 k2) ||| (1 <<< (Int32.toInt64 x1 &&& 63)))) Q))))) :
    WS d m_Stor_birth 2 [some (.ref 39), some (.int x1), some (.int x2), some (.int x3)] [] u Q := by
  refine w_iload_n (dk_Stor_birth 2 rfl) rfl ?_
  refine w_iconst (v := 3) (dk_Stor_birth 3 rfl) rfl ?_
  refine w_icmp_ge 36 (dk_Stor_birth 4 rfl) (by decide) (fun c_ => ?_) (fun c_ => ?_)
  · replace h := h.1 c_
    refine w_aload_n (dk_Stor_birth 26 rfl) rfl ?_
    refine w_getr (dk_Stor_birth 27 rfl) lk_Stor_15 rfl rfl rfl ?_
    refine w_iload_n (dk_Stor_birth 28 rfl) rfl ?_
    refine w_aload_n (dk_Stor_birth 29 rfl) rfl ?_
    refine w_dup (dk_Stor_birth 30 rfl) rfl ?_
    refine w_geti (v := aI u 39 2) (dk_Stor_birth 31 rfl) lk_Stor_21 rfl rfl rfl ?_
    refine w_iconst (v := 1) (dk_Stor_birth 32 rfl) rfl ?_
    refine w_iadd (dk_Stor_birth 33 rfl) ?_
    refine w_dup_x1 (dk_Stor_birth 34 rfl) rfl rfl ?_
    refine w_puti (dk_Stor_birth 35 rfl) lk_Stor_21 rfl rfl ?_
    obtain ⟨k1, e_k1, l_k1, h⟩ := h
    refine w_iast (k_ := k1) (dk_Stor_birth 36 rfl) rfl (by decide) e_k1 l_k1 ?_
    exact w_vret (dk_Stor_birth 37 rfl) rfl h
  · replace h := h.2 c_
    refine w_iload_n (dk_Stor_birth 5 rfl) rfl ?_
    refine w_iconst (v := 1) (dk_Stor_birth 6 rfl) rfl ?_
    refine w_iadd (dk_Stor_birth 7 rfl) ?_
    refine w_iload_n (dk_Stor_birth 8 rfl) rfl ?_
    refine w_ishr (dk_Stor_birth 9 rfl) ?_
    refine w_iconst (v := 1) (dk_Stor_birth 10 rfl) rfl ?_
    refine w_iand (dk_Stor_birth 11 rfl) ?_
    refine w_iconst (v := 1) (dk_Stor_birth 12 rfl) rfl ?_
    refine w_icmp_ne 30 (dk_Stor_birth 13 rfl) (by decide) (fun c_ => ?_) (fun c_ => ?_)
    · replace h := h.1 c_
      refine w_iinc (v := x3 + 1) (ls' := [some (.ref 39), some (.int x1), some (.int x2), some (.int (x3 + 1))]) (dk_Stor_birth 24 rfl) rfl rfl (by decide) rfl ?_
      refine w_goto 2 (dk_Stor_birth 25 rfl) (by decide) ?_
      exact h
    · replace h := h.2 c_
      refine w_aload_n (dk_Stor_birth 14 rfl) rfl ?_
      refine w_getr (dk_Stor_birth 15 rfl) lk_Stor_9 rfl rfl rfl ?_
      refine w_iload_n (dk_Stor_birth 16 rfl) rfl ?_
      refine w_dup2 (dk_Stor_birth 17 rfl) rfl rfl ?_
      obtain ⟨k2, e_k2, l_k2, h⟩ := h
      refine w_lald (k_ := k2) (dk_Stor_birth 18 rfl) rfl (by decide) e_k2 l_k2 ?_
      refine w_lconst (v := 1) (dk_Stor_birth 19 rfl) rfl ?_
      refine w_iload_n (dk_Stor_birth 20 rfl) rfl ?_
      refine w_lshl (dk_Stor_birth 21 rfl) ?_
      refine w_lor (dk_Stor_birth 22 rfl) ?_
      obtain ⟨k3, e_k3, l_k3, h⟩ := h
      refine w_last (k_ := k3) (dk_Stor_birth 23 rfl) rfl (by decide) e_k3 l_k3 ?_
      refine w_iinc (v := x3 + 1) (ls' := [some (.ref 39), some (.int x1), some (.int x2), some (.int (x3 + 1))]) (dk_Stor_birth 24 rfl) rfl rfl (by decide) rfl ?_
      refine w_goto 2 (dk_Stor_birth 25 rfl) (by decide) ?_
      exact h
theorem g_Stor_write_0 {d : Nat} {u : Us} {Q : Ot → Us → Prop} (p1 : Int32) (p2 : Int32) (p3 : Int32) (p4 : Int32)
    (h : WS d m_Stor_write 3 [some (.ref 39), some (.int p1), some (.int p2), some (.int p3), some (.int p4), some (.int 0)] [] u Q) :
    WS d m_Stor_write 0 [some (.ref 39), some (.int p1), some (.int p2), some (.int p3), some (.int p4), none] [] u Q := by
  refine w_iconst (v := 0) (dk_Stor_write 0 rfl) rfl ?_
  refine w_istore (ls' := [some (.ref 39), some (.int p1), some (.int p2), some (.int p3), some (.int p4), some (.int 0)]) (dk_Stor_write 1 rfl) (by decide) rfl ?_
  exact h
theorem g_Stor_write_3 {d : Nat} {u : Us} {Q : Ot → Us → Prop} (x1 : Int32) (x2 : Int32) (x3 : Int32) (x4 : Int32) (x5 : Int32)
    (h : (x3 ≤ x5 → Q (.inl none) u) ∧ (¬ (x3 ≤ x5) → ∃ k1 : Nat, x2 + x5 = nI k1 ∧ k1 < 88 ∧ (∃ k2 : Nat, x2 + x5 = nI k2 ∧ k2 < 88 ∧ (WS d m_Stor_write 3 [some (.ref 39), some (.int x1), some (.int x2), some (.int x3), some (.int x4), some (.int (x5 + 1))] [] (uL u 40 k2 (((aL u 40 k1) &&& ((1 <<< (Int32.toInt64 x1 &&& 63)) ^^^ (-1))) ||| ((Int32.toInt64 ((x4 >>> (x5 &&& 31)) &&& 1)) <<< (Int32.toInt64 x1 &&& 63)))) Q)))) :
    WS d m_Stor_write 3 [some (.ref 39), some (.int x1), some (.int x2), some (.int x3), some (.int x4), some (.int x5)] [] u Q := by
  refine w_iload (dk_Stor_write 2 rfl) rfl ?_
  refine w_iload_n (dk_Stor_write 3 rfl) rfl ?_
  refine w_icmp_ge 52 (dk_Stor_write 4 rfl) (by decide) (fun c_ => ?_) (fun c_ => ?_)
  · replace h := h.1 c_
    exact w_vret (dk_Stor_write 34 rfl) rfl h
  · replace h := h.2 c_
    refine w_aload_n (dk_Stor_write 5 rfl) rfl ?_
    refine w_getr (dk_Stor_write 6 rfl) lk_Stor_9 rfl rfl rfl ?_
    refine w_iload_n (dk_Stor_write 7 rfl) rfl ?_
    refine w_iload (dk_Stor_write 8 rfl) rfl ?_
    refine w_iadd (dk_Stor_write 9 rfl) ?_
    refine w_aload_n (dk_Stor_write 10 rfl) rfl ?_
    refine w_getr (dk_Stor_write 11 rfl) lk_Stor_9 rfl rfl rfl ?_
    refine w_iload_n (dk_Stor_write 12 rfl) rfl ?_
    refine w_iload (dk_Stor_write 13 rfl) rfl ?_
    refine w_iadd (dk_Stor_write 14 rfl) ?_
    obtain ⟨k1, e_k1, l_k1, h⟩ := h
    refine w_lald (k_ := k1) (dk_Stor_write 15 rfl) rfl (by decide) e_k1 l_k1 ?_
    refine w_lconst (v := 1) (dk_Stor_write 16 rfl) rfl ?_
    refine w_iload_n (dk_Stor_write 17 rfl) rfl ?_
    refine w_lshl (dk_Stor_write 18 rfl) ?_
    refine w_ldc2 (dk_Stor_write 19 rfl) kl_Stor_19 ?_
    refine w_lxor (dk_Stor_write 20 rfl) ?_
    refine w_land (dk_Stor_write 21 rfl) ?_
    refine w_iload (dk_Stor_write 22 rfl) rfl ?_
    refine w_iload (dk_Stor_write 23 rfl) rfl ?_
    refine w_ishr (dk_Stor_write 24 rfl) ?_
    refine w_iconst (v := 1) (dk_Stor_write 25 rfl) rfl ?_
    refine w_iand (dk_Stor_write 26 rfl) ?_
    refine w_i2l (dk_Stor_write 27 rfl) ?_
    refine w_iload_n (dk_Stor_write 28 rfl) rfl ?_
    refine w_lshl (dk_Stor_write 29 rfl) ?_
    refine w_lor (dk_Stor_write 30 rfl) ?_
    obtain ⟨k2, e_k2, l_k2, h⟩ := h
    refine w_last (k_ := k2) (dk_Stor_write 31 rfl) rfl (by decide) e_k2 l_k2 ?_
    refine w_iinc (v := x5 + 1) (ls' := [some (.ref 39), some (.int x1), some (.int x2), some (.int x3), some (.int x4), some (.int (x5 + 1))]) (dk_Stor_write 32 rfl) rfl rfl (by decide) rfl ?_
    refine w_goto 3 (dk_Stor_write 33 rfl) (by decide) ?_
    exact h
theorem g_Stor_clear_0 {d : Nat} {u : Us} {Q : Ot → Us → Prop} (p1 : Int64)
    (h : WS d m_Stor_clear 2 [some (.ref 39), some (.long p1), none, some (.int 0)] [] u Q) :
    WS d m_Stor_clear 0 [some (.ref 39), some (.long p1), none, none] [] u Q := by
  refine w_iconst (v := 0) (dk_Stor_clear 0 rfl) rfl ?_
  refine w_istore_n (ls' := [some (.ref 39), some (.long p1), none, some (.int 0)]) (dk_Stor_clear 1 rfl) (by decide) rfl ?_
  exact h
theorem g_Stor_clear_2 {d : Nat} {u : Us} {Q : Ot → Us → Prop} (x1 : Int64) (x3 : Int32)
    (h : (88 ≤ x3 → Q (.inl none) u) ∧ (¬ (88 ≤ x3) → ∃ k1 : Nat, x3 = nI k1 ∧ k1 < 88 ∧ (∃ k2 : Nat, x3 = nI k2 ∧ k2 < 88 ∧ (WS d m_Stor_clear 2 [some (.ref 39), some (.long x1), none, some (.int (x3 + 1))] [] (uL u 40 k2 ((aL u 40 k1) &&& (x1 ^^^ (-1)))) Q)))) :
    WS d m_Stor_clear 2 [some (.ref 39), some (.long x1), none, some (.int x3)] [] u Q := by
  refine w_iload_n (dk_Stor_clear 2 rfl) rfl ?_
  refine w_bipush (v := 88) (dk_Stor_clear 3 rfl) rfl ?_
  refine w_icmp_ge 28 (dk_Stor_clear 4 rfl) (by decide) (fun c_ => ?_) (fun c_ => ?_)
  · replace h := h.1 c_
    exact w_vret (dk_Stor_clear 17 rfl) rfl h
  · replace h := h.2 c_
    refine w_aload_n (dk_Stor_clear 5 rfl) rfl ?_
    refine w_getr (dk_Stor_clear 6 rfl) lk_Stor_9 rfl rfl rfl ?_
    refine w_iload_n (dk_Stor_clear 7 rfl) rfl ?_
    refine w_dup2 (dk_Stor_clear 8 rfl) rfl rfl ?_
    obtain ⟨k1, e_k1, l_k1, h⟩ := h
    refine w_lald (k_ := k1) (dk_Stor_clear 9 rfl) rfl (by decide) e_k1 l_k1 ?_
    refine w_lload_n (dk_Stor_clear 10 rfl) rfl ?_
    refine w_ldc2 (dk_Stor_clear 11 rfl) kl_Stor_19 ?_
    refine w_lxor (dk_Stor_clear 12 rfl) ?_
    refine w_land (dk_Stor_clear 13 rfl) ?_
    obtain ⟨k2, e_k2, l_k2, h⟩ := h
    refine w_last (k_ := k2) (dk_Stor_clear 14 rfl) rfl (by decide) e_k2 l_k2 ?_
    refine w_iinc (v := x3 + 1) (ls' := [some (.ref 39), some (.long x1), none, some (.int (x3 + 1))]) (dk_Stor_clear 15 rfl) rfl rfl (by decide) rfl ?_
    refine w_goto 2 (dk_Stor_clear 16 rfl) (by decide) ?_
    exact h
