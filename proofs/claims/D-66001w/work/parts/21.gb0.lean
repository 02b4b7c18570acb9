theorem g_Stck_push_0 {d : Nat} {u : Us} {Q : Ot → Us → Prop} (p1 : Int32)
    (h : WS (d + 1) m_Stck_push 12 [some (.ref 42), some (.int p1), some (.int 0)] [] (uI u 42 3 ((aI u 42 3) + 1)) Q) :
    WS (d + 1) m_Stck_push 0 [some (.ref 42), some (.int p1), none] [] u Q := by
  refine w_aload_n (dk_Stck_push 0 rfl) rfl ?_
  refine w_dup (dk_Stck_push 1 rfl) rfl ?_
  refine w_geti (v := aI u 42 3) (dk_Stck_push 2 rfl) lk_Stck_21 rfl rfl rfl ?_
  refine w_iconst (v := 1) (dk_Stck_push 3 rfl) rfl ?_
  refine w_iadd (dk_Stck_push 4 rfl) ?_
  refine w_puti (dk_Stck_push 5 rfl) lk_Stck_21 rfl rfl ?_
  refine w_iconst (v := 0) (dk_Stck_push 6 rfl) rfl ?_
  refine w_istore_n (ls' := [some (.ref 42), some (.int p1), some (.int 0)]) (dk_Stck_push 7 rfl) (by decide) rfl ?_
  exact h
theorem g_Stck_push_12 {d : Nat} {u : Us} {Q : Ot → Us → Prop} (x1 : Int32) (x2 : Int32)
    (h : (32 ≤ x2 → Q (.inl none) u) ∧ (¬ (32 ≤ x2) → WS d m_Stck_at 0 [some (.ref 42), some (.int 1)] [] u (Ri (fun (r1 : Int32) (u2 : Us) => ∃ k3 : Nat, r1 + x2 = nI k3 ∧ k3 < 2560 ∧ (WS (d + 1) m_Stck_push 12 [some (.ref 42), some (.int x1), some (.int (x2 + 1))] [] (uL u2 43 k3 (-(Int32.toInt64 ((x1 >>> (x2 &&& 31)) &&& 1)))) Q)) (fun x u => Q (.inr x) u)))) :
    WS (d + 1) m_Stck_push 12 [some (.ref 42), some (.int x1), some (.int x2)] [] u Q := by
  refine w_iload_n (dk_Stck_push 8 rfl) rfl ?_
  refine w_bipush (v := 32) (dk_Stck_push 9 rfl) rfl ?_
  refine w_icmp_ge 43 (dk_Stck_push 10 rfl) (by decide) (fun c_ => ?_) (fun c_ => ?_)
  · replace h := h.1 c_
    exact w_vret (dk_Stck_push 28 rfl) rfl h
  · replace h := h.2 c_
    refine w_aload_n (dk_Stck_push 11 rfl) rfl ?_
    refine w_getr (dk_Stck_push 12 rfl) lk_Stck_9 rfl rfl rfl ?_
    refine w_aload_n (dk_Stck_push 13 rfl) rfl ?_
    refine w_iconst (v := 1) (dk_Stck_push 14 rfl) rfl ?_
    refine w_callVi (ls' := [some (.ref 42), some (.int 1)]) cv_Stck_25 (dk_Stck_push 15 rfl) (ci := 8) rfl rfl [.int 1] [.ref 43] rfl rfl (Nat.le_of_ble_eq_true rfl) (Nat.le_of_ble_eq_true rfl) rfl rfl rfl h (fun r1 u2 h => ?_)
    refine w_iload_n (dk_Stck_push 16 rfl) rfl ?_
    refine w_iadd (dk_Stck_push 17 rfl) ?_
    refine w_iload_n (dk_Stck_push 18 rfl) rfl ?_
    refine w_iload_n (dk_Stck_push 19 rfl) rfl ?_
    refine w_ishr (dk_Stck_push 20 rfl) ?_
    refine w_iconst (v := 1) (dk_Stck_push 21 rfl) rfl ?_
    refine w_iand (dk_Stck_push 22 rfl) ?_
    refine w_i2l (dk_Stck_push 23 rfl) ?_
    refine w_lneg (dk_Stck_push 24 rfl) ?_
    obtain ⟨k3, e_k3, l_k3, h⟩ := h
    refine w_last (k_ := k3) (dk_Stck_push 25 rfl) rfl (by decide) e_k3 l_k3 ?_
    refine w_iinc (v := x2 + 1) (ls' := [some (.ref 42), some (.int x1), some (.int (x2 + 1))]) (dk_Stck_push 26 rfl) rfl rfl (by decide) rfl ?_
    refine w_goto 12 (dk_Stck_push 27 rfl) (by decide) ?_
    exact h
theorem g_Stck_at_0 {d : Nat} {u : Us} {Q : Ot → Us → Prop} (p1 : Int32)
    (h : Q (.inl (some (.int (((aI u 42 3) - p1) * 32)))) u) :
    WS d m_Stck_at 0 [some (.ref 42), some (.int p1)] [] u Q := by
  refine w_aload_n (dk_Stck_at 0 rfl) rfl ?_
  refine w_geti (v := aI u 42 3) (dk_Stck_at 1 rfl) lk_Stck_21 rfl rfl rfl ?_
  refine w_iload_n (dk_Stck_at 2 rfl) rfl ?_
  refine w_isub (dk_Stck_at 3 rfl) ?_
  refine w_bipush (v := 32) (dk_Stck_at 4 rfl) rfl ?_
  refine w_imul (dk_Stck_at 5 rfl) ?_
  exact w_iret (dk_Stck_at 6 rfl) rfl h
theorem g_Stck_load_0 {d : Nat} {u : Us} {Q : Ot → Us → Prop} (p2 : Int32) (p3 : Int32)
    (h : WS (d + 1) m_Stck_load 13 [some (.ref 42), some (.ref 39), some (.int p2), some (.int p3), some (.int 0)] [] (uI u 42 3 ((aI u 42 3) + 1)) Q) :
    WS (d + 1) m_Stck_load 0 [some (.ref 42), some (.ref 39), some (.int p2), some (.int p3), none] [] u Q := by
  refine w_aload_n (dk_Stck_load 0 rfl) rfl ?_
  refine w_dup (dk_Stck_load 1 rfl) rfl ?_
  refine w_geti (v := aI u 42 3) (dk_Stck_load 2 rfl) lk_Stck_21 rfl rfl rfl ?_
  refine w_iconst (v := 1) (dk_Stck_load 3 rfl) rfl ?_
  refine w_iadd (dk_Stck_load 4 rfl) ?_
  refine w_puti (dk_Stck_load 5 rfl) lk_Stck_21 rfl rfl ?_
  refine w_iconst (v := 0) (dk_Stck_load 6 rfl) rfl ?_
  refine w_istore (ls' := [some (.ref 42), some (.ref 39), some (.int p2), some (.int p3), some (.int 0)]) (dk_Stck_load 7 rfl) (by decide) rfl ?_
  exact h
theorem g_Stck_load_13 {d : Nat} {u : Us} {Q : Ot → Us → Prop} (x2 : Int32) (x3 : Int32) (x4 : Int32)
    (h : (32 ≤ x4 → Q (.inl none) u) ∧ (¬ (32 ≤ x4) → WS d m_Stck_at 0 [some (.ref 42), some (.int 1)] [] u (Ri (fun (r1 : Int32) (u2 : Us) => (x3 ≤ x4 → ∃ k3 : Nat, r1 + x4 = nI k3 ∧ k3 < 2560 ∧ (WS (d + 1) m_Stck_load 13 [some (.ref 42), some (.ref 39), some (.int x2), some (.int x3), some (.int (x4 + 1))] [] (uL u2 43 k3 0) Q)) ∧ (¬ (x3 ≤ x4) → ∃ k4 : Nat, x2 + x4 = nI k4 ∧ k4 < 88 ∧ (∃ k5 : Nat, r1 + x4 = nI k5 ∧ k5 < 2560 ∧ (WS (d + 1) m_Stck_load 13 [some (.ref 42), some (.ref 39), some (.int x2), some (.int x3), some (.int (x4 + 1))] [] (uL u2 43 k5 (aL u2 40 k4)) Q)))) (fun x u => Q (.inr x) u)))) :
    WS (d + 1) m_Stck_load 13 [some (.ref 42), some (.ref 39), some (.int x2), some (.int x3), some (.int x4)] [] u Q := by
  refine w_iload (dk_Stck_load 8 rfl) rfl ?_
  refine w_bipush (v := 32) (dk_Stck_load 9 rfl) rfl ?_
  refine w_icmp_ge 58 (dk_Stck_load 10 rfl) (by decide) (fun c_ => ?_) (fun c_ => ?_)
  · replace h := h.1 c_
    exact w_vret (dk_Stck_load 32 rfl) rfl h
  · replace h := h.2 c_
    refine w_aload_n (dk_Stck_load 11 rfl) rfl ?_
    refine w_getr (dk_Stck_load 12 rfl) lk_Stck_9 rfl rfl rfl ?_
    refine w_aload_n (dk_Stck_load 13 rfl) rfl ?_
    refine w_iconst (v := 1) (dk_Stck_load 14 rfl) rfl ?_
    refine w_callVi (ls' := [some (.ref 42), some (.int 1)]) cv_Stck_25 (dk_Stck_load 15 rfl) (ci := 8) rfl rfl [.int 1] [.ref 43] rfl rfl (Nat.le_of_ble_eq_true rfl) (Nat.le_of_ble_eq_true rfl) rfl rfl rfl h (fun r1 u2 h => ?_)
    refine w_iload (dk_Stck_load 16 rfl) rfl ?_
    refine w_iadd (dk_Stck_load 17 rfl) ?_
    refine w_iload (dk_Stck_load 18 rfl) rfl ?_
    refine w_iload_n (dk_Stck_load 19 rfl) rfl ?_
    refine w_icmp_ge 50 (dk_Stck_load 20 rfl) (by decide) (fun c_ => ?_) (fun c_ => ?_)
    · replace h := h.1 c_
      refine w_lconst (v := 0) (dk_Stck_load 28 rfl) rfl ?_
      obtain ⟨k3, e_k3, l_k3, h⟩ := h
      refine w_last (k_ := k3) (dk_Stck_load 29 rfl) rfl (by decide) e_k3 l_k3 ?_
      refine w_iinc (v := x4 + 1) (ls' := [some (.ref 42), some (.ref 39), some (.int x2), some (.int x3), some (.int (x4 + 1))]) (dk_Stck_load 30 rfl) rfl rfl (by decide) rfl ?_
      refine w_goto 13 (dk_Stck_load 31 rfl) (by decide) ?_
      exact h
    · replace h := h.2 c_
      refine w_aload_n (dk_Stck_load 21 rfl) rfl ?_
      refine w_getr (dk_Stck_load 22 rfl) lk_Stck_29 rfl rfl rfl ?_
      refine w_iload_n (dk_Stck_load 23 rfl) rfl ?_
      refine w_iload (dk_Stck_load 24 rfl) rfl ?_
      refine w_iadd (dk_Stck_load 25 rfl) ?_
      obtain ⟨k4, e_k4, l_k4, h⟩ := h
      refine w_lald (k_ := k4) (dk_Stck_load 26 rfl) rfl (by decide) e_k4 l_k4 ?_
      refine w_goto 51 (dk_Stck_load 27 rfl) (by decide) ?_
      obtain ⟨k5, e_k5, l_k5, h⟩ := h
      refine w_last (k_ := k5) (dk_Stck_load 29 rfl) rfl (by decide) e_k5 l_k5 ?_
      refine w_iinc (v := x4 + 1) (ls' := [some (.ref 42), some (.ref 39), some (.int x2), some (.int x3), some (.int (x4 + 1))]) (dk_Stck_load 30 rfl) rfl rfl (by decide) rfl ?_
      refine w_goto 13 (dk_Stck_load 31 rfl) (by decide) ?_
      exact h
theorem g_Stck_negate0_0 {d : Nat} {u : Us} {Q : Ot → Us → Prop} 
    (h : WS d m_Stck_at 0 [some (.ref 42), some (.int 1)] [] u (Ri (fun (r1 : Int32) (u2 : Us) => WS d m_Stck_negate1 0 [some (.ref 42), some (.int r1), some (.long (-1)), none, none, none, none, none, none] [] u2 (Rv (fun (u4 : Us) => Q (.inl none) u4) (fun x u => Q (.inr x) u))) (fun x u => Q (.inr x) u))) :
    WS (d + 1) m_Stck_negate0 0 [some (.ref 42)] [] u Q := by
  refine w_aload_n (dk_Stck_negate0 0 rfl) rfl ?_
  refine w_aload_n (dk_Stck_negate0 1 rfl) rfl ?_
  refine w_iconst (v := 1) (dk_Stck_negate0 2 rfl) rfl ?_
  refine w_callVi (ls' := [some (.ref 42), some (.int 1)]) cv_Stck_25 (dk_Stck_negate0 3 rfl) (ci := 8) rfl rfl [.int 1] [.ref 42] rfl rfl (Nat.le_of_ble_eq_true rfl) (Nat.le_of_ble_eq_true rfl) rfl rfl rfl h (fun r1 u2 h => ?_)
  refine w_ldc2 (dk_Stck_negate0 4 rfl) kl_Stck_38 ?_
  refine w_callVv (ls' := [some (.ref 42), some (.int r1), some (.long (-1)), none, none, none, none, none, none]) cv_Stck_44 (dk_Stck_negate0 5 rfl) (ci := 8) rfl rfl [.int r1, .long (-1)] [] rfl rfl (Nat.le_of_ble_eq_true rfl) (Nat.le_of_ble_eq_true rfl) rfl rfl rfl h (fun u4 h => ?_)
  exact w_vret (dk_Stck_negate0 6 rfl) rfl h
theorem g_Stck_negate1_0 {d : Nat} {u : Us} {Q : Ot → Us → Prop} (p1 : Int32) (p2 : Int64)
    (h : WS d m_Stck_negate1 6 [some (.ref 42), some (.int p1), some (.long p2), none, some (.long p2), none, some (.int 0), none, none] [] u Q) :
    WS d m_Stck_negate1 0 [some (.ref 42), some (.int p1), some (.long p2), none, none, none, none, none, none] [] u Q := by
  refine w_lload_n (dk_Stck_negate1 0 rfl) rfl ?_
  refine w_lstore (ls' := [some (.ref 42), some (.int p1), some (.long p2), none, some (.long p2), none, none, none, none]) (dk_Stck_negate1 1 rfl) (by decide) rfl ?_
  refine w_iconst (v := 0) (dk_Stck_negate1 2 rfl) rfl ?_
  refine w_istore (ls' := [some (.ref 42), some (.int p1), some (.long p2), none, some (.long p2), none, some (.int 0), none, none]) (dk_Stck_negate1 3 rfl) (by decide) rfl ?_
  exact h
theorem g_Stck_negate1_6 {d : Nat} {u : Us} {Q : Ot → Us → Prop} (x1 : Int32) (x2 : Int64) (x4 : Int64) (x6 : Int32)
    (h : (32 ≤ x6 → Q (.inl none) u) ∧ (¬ (32 ≤ x6) → ∃ k1 : Nat, x1 + x6 = nI k1 ∧ k1 < 2560 ∧ (∃ k2 : Nat, x1 + x6 = nI k2 ∧ k2 < 2560 ∧ (WS d m_Stck_negate1 6 [some (.ref 42), some (.int x1), some (.long x2), none, some (.long (x4 &&& ((aL u 43 k1) ^^^ x2))), none, some (.int (x6 + 1)), some (.long ((aL u 43 k1) ^^^ x2)), none] [] (uL u 43 k2 (((aL u 43 k1) ^^^ x2) ^^^ x4)) Q)))) :
    WS d m_Stck_negate1 6 [some (.ref 42), some (.int x1), some (.long x2), none, some (.long x4), none, some (.int x6), none, none] [] u Q := by
  refine w_iload (dk_Stck_negate1 4 rfl) rfl ?_
  refine w_bipush (v := 32) (dk_Stck_negate1 5 rfl) rfl ?_
  refine w_icmp_ge 53 (dk_Stck_negate1 6 rfl) (by decide) (fun c_ => ?_) (fun c_ => ?_)
  · replace h := h.1 c_
    exact w_vret (dk_Stck_negate1 31 rfl) rfl h
  · replace h := h.2 c_
    refine w_aload_n (dk_Stck_negate1 7 rfl) rfl ?_
    refine w_getr (dk_Stck_negate1 8 rfl) lk_Stck_9 rfl rfl rfl ?_
    refine w_iload_n (dk_Stck_negate1 9 rfl) rfl ?_
    refine w_iload (dk_Stck_negate1 10 rfl) rfl ?_
    refine w_iadd (dk_Stck_negate1 11 rfl) ?_
    obtain ⟨k1, e_k1, l_k1, h⟩ := h
    refine w_lald (k_ := k1) (dk_Stck_negate1 12 rfl) rfl (by decide) e_k1 l_k1 ?_
    refine w_lload_n (dk_Stck_negate1 13 rfl) rfl ?_
    refine w_lxor (dk_Stck_negate1 14 rfl) ?_
    refine w_lstore (ls' := [some (.ref 42), some (.int x1), some (.long x2), none, some (.long x4), none, some (.int x6), some (.long ((aL u 43 k1) ^^^ x2)), none]) (dk_Stck_negate1 15 rfl) (by decide) rfl ?_
    refine w_aload_n (dk_Stck_negate1 16 rfl) rfl ?_
    refine w_getr (dk_Stck_negate1 17 rfl) lk_Stck_9 rfl rfl rfl ?_
    refine w_iload_n (dk_Stck_negate1 18 rfl) rfl ?_
    refine w_iload (dk_Stck_negate1 19 rfl) rfl ?_
    refine w_iadd (dk_Stck_negate1 20 rfl) ?_
    refine w_lload (dk_Stck_negate1 21 rfl) rfl ?_
    refine w_lload (dk_Stck_negate1 22 rfl) rfl ?_
    refine w_lxor (dk_Stck_negate1 23 rfl) ?_
    obtain ⟨k2, e_k2, l_k2, h⟩ := h
    refine w_last (k_ := k2) (dk_Stck_negate1 24 rfl) rfl (by decide) e_k2 l_k2 ?_
    refine w_lload (dk_Stck_negate1 25 rfl) rfl ?_
    refine w_lload (dk_Stck_negate1 26 rfl) rfl ?_
    refine w_land (dk_Stck_negate1 27 rfl) ?_
    refine w_lstore (ls' := [some (.ref 42), some (.int x1), some (.long x2), none, some (.long (x4 &&& ((aL u 43 k1) ^^^ x2))), none, some (.int x6), some (.long ((aL u 43 k1) ^^^ x2)), none]) (dk_Stck_negate1 28 rfl) (by decide) rfl ?_
    refine w_iinc (v := x6 + 1) (ls' := [some (.ref 42), some (.int x1), some (.long x2), none, some (.long (x4 &&& ((aL u 43 k1) ^^^ x2))), none, some (.int (x6 + 1)), some (.long ((aL u 43 k1) ^^^ x2)), none]) (dk_Stck_negate1 29 rfl) rfl rfl (by decide) rfl ?_
    refine w_goto 6 (dk_Stck_negate1 30 rfl) (by decide) ?_
    exact h
theorem g_Stck_not_0 {d : Nat} {u : Us} {Q : Ot → Us → Prop} 
    (h : WS d m_Stck_at 0 [some (.ref 42), some (.int 1)] [] u (Ri (fun (r1 : Int32) (u2 : Us) => WS d m_Stck_at 0 [some (.ref 42), some (.int 1)] [] u2 (Ri (fun (r3 : Int32) (u4 : Us) => WS d m_Stck_truth 0 [some (.ref 42), some (.int r3), none, none, none] [] u4 (Rl (fun (r5 : Int64) (u6 : Us) => WS d m_Stck_put 0 [some (.ref 42), some (.int r1), some (.long (r5 ^^^ (-1))), none, none] [] u6 (Rv (fun (u8 : Us) => Q (.inl none) u8) (fun x u => Q (.inr x) u))) (fun x u => Q (.inr x) u))) (fun x u => Q (.inr x) u))) (fun x u => Q (.inr x) u))) :
    WS (d + 1) m_Stck_not 0 [some (.ref 42)] [] u Q := by
  refine w_aload_n (dk_Stck_not 0 rfl) rfl ?_
  refine w_aload_n (dk_Stck_not 1 rfl) rfl ?_
  refine w_iconst (v := 1) (dk_Stck_not 2 rfl) rfl ?_
  refine w_callVi (ls' := [some (.ref 42), some (.int 1)]) cv_Stck_25 (dk_Stck_not 3 rfl) (ci := 8) rfl rfl [.int 1] [.ref 42] rfl rfl (Nat.le_of_ble_eq_true rfl) (Nat.le_of_ble_eq_true rfl) rfl rfl rfl h (fun r1 u2 h => ?_)
  refine w_aload_n (dk_Stck_not 4 rfl) rfl ?_
  refine w_aload_n (dk_Stck_not 5 rfl) rfl ?_
  refine w_iconst (v := 1) (dk_Stck_not 6 rfl) rfl ?_
  refine w_callVi (ls' := [some (.ref 42), some (.int 1)]) cv_Stck_25 (dk_Stck_not 7 rfl) (ci := 8) rfl rfl [.int 1] [.ref 42, .int r1, .ref 42] rfl rfl (Nat.le_of_ble_eq_true rfl) (Nat.le_of_ble_eq_true rfl) rfl rfl rfl h (fun r3 u4 h => ?_)
  refine w_callVl (ls' := [some (.ref 42), some (.int r3), none, none, none]) cv_Stck_34 (dk_Stck_not 8 rfl) (ci := 8) rfl rfl [.int r3] [.int r1, .ref 42] rfl rfl (Nat.le_of_ble_eq_true rfl) (Nat.le_of_ble_eq_true rfl) rfl rfl rfl h (fun r5 u6 h => ?_)
  refine w_ldc2 (dk_Stck_not 9 rfl) kl_Stck_38 ?_
  refine w_lxor (dk_Stck_not 10 rfl) ?_
  refine w_callVv (ls' := [some (.ref 42), some (.int r1), some (.long (r5 ^^^ (-1))), none, none]) cv_Stck_40 (dk_Stck_not 11 rfl) (ci := 8) rfl rfl [.int r1, .long (r5 ^^^ (-1))] [] rfl rfl (Nat.le_of_ble_eq_true rfl) (Nat.le_of_ble_eq_true rfl) rfl rfl rfl h (fun u8 h => ?_)
  exact w_vret (dk_Stck_not 12 rfl) rfl h
theorem g_Stck_truth_0 {d : Nat} {u : Us} {Q : Ot → Us → Prop} (p1 : Int32)
    (h : WS d m_Stck_truth 5 [some (.ref 42), some (.int p1), some (.long 0), none, some (.int 0)] [] u Q) :
    WS d m_Stck_truth 0 [some (.ref 42), some (.int p1), none, none, none] [] u Q := by
  refine w_lconst (v := 0) (dk_Stck_truth 0 rfl) rfl ?_
  refine w_lstore_n (ls' := [some (.ref 42), some (.int p1), some (.long 0), none, none]) (dk_Stck_truth 1 rfl) (by decide) rfl ?_
  refine w_iconst (v := 0) (dk_Stck_truth 2 rfl) rfl ?_
  refine w_istore (ls' := [some (.ref 42), some (.int p1), some (.long 0), none, some (.int 0)]) (dk_Stck_truth 3 rfl) (by decide) rfl ?_
  exact h
theorem g_Stck_truth_5 {d : Nat} {u : Us} {Q : Ot → Us → Prop} (x1 : Int32) (x2 : Int64) (x4 : Int32)
    (h : (32 ≤ x4 → Q (.inl (some (.long x2))) u) ∧ (¬ (32 ≤ x4) → ∃ k1 : Nat, x1 + x4 = nI k1 ∧ k1 < 2560 ∧ (WS d m_Stck_truth 5 [some (.ref 42), some (.int x1), some (.long (x2 ||| (aL u 43 k1))), none, some (.int (x4 + 1))] [] u Q))) :
    WS d m_Stck_truth 5 [some (.ref 42), some (.int x1), some (.long x2), none, some (.int x4)] [] u Q := by
  refine w_iload (dk_Stck_truth 4 rfl) rfl ?_
  refine w_bipush (v := 32) (dk_Stck_truth 5 rfl) rfl ?_
  refine w_icmp_ge 30 (dk_Stck_truth 6 rfl) (by decide) (fun c_ => ?_) (fun c_ => ?_)
  · replace h := h.1 c_
    refine w_lload_n (dk_Stck_truth 18 rfl) rfl ?_
    exact w_lret (dk_Stck_truth 19 rfl) rfl h
  · replace h := h.2 c_
    refine w_lload_n (dk_Stck_truth 7 rfl) rfl ?_
    refine w_aload_n (dk_Stck_truth 8 rfl) rfl ?_
    refine w_getr (dk_Stck_truth 9 rfl) lk_Stck_9 rfl rfl rfl ?_
    refine w_iload_n (dk_Stck_truth 10 rfl) rfl ?_
    refine w_iload (dk_Stck_truth 11 rfl) rfl ?_
    refine w_iadd (dk_Stck_truth 12 rfl) ?_
    obtain ⟨k1, e_k1, l_k1, h⟩ := h
    refine w_lald (k_ := k1) (dk_Stck_truth 13 rfl) rfl (by decide) e_k1 l_k1 ?_
    refine w_lor (dk_Stck_truth 14 rfl) ?_
    refine w_lstore_n (ls' := [some (.ref 42), some (.int x1), some (.long (x2 ||| (aL u 43 k1))), none, some (.int x4)]) (dk_Stck_truth 15 rfl) (by decide) rfl ?_
    refine w_iinc (v := x4 + 1) (ls' := [some (.ref 42), some (.int x1), some (.long (x2 ||| (aL u 43 k1))), none, some (.int (x4 + 1))]) (dk_Stck_truth 16 rfl) rfl rfl (by decide) rfl ?_
    refine w_goto 5 (dk_Stck_truth 17 rfl) (by decide) ?_
    exact h
theorem g_Stck_put_0 {d : Nat} {u : Us} {Q : Ot → Us → Prop} (p1 : Int32) (p2 : Int64)
    (h : ∃ k1 : Nat, p1 = nI k1 ∧ k1 < 2560 ∧ (WS d m_Stck_put 10 [some (.ref 42), some (.int p1), some (.long p2), none, some (.int 1)] [] (uL u 43 k1 p2) Q)) :
    WS d m_Stck_put 0 [some (.ref 42), some (.int p1), some (.long p2), none, none] [] u Q := by
  refine w_aload_n (dk_Stck_put 0 rfl) rfl ?_
  refine w_getr (dk_Stck_put 1 rfl) lk_Stck_9 rfl rfl rfl ?_
  refine w_iload_n (dk_Stck_put 2 rfl) rfl ?_
  refine w_lload_n (dk_Stck_put 3 rfl) rfl ?_
  obtain ⟨k1, e_k1, l_k1, h⟩ := h
  refine w_last (k_ := k1) (dk_Stck_put 4 rfl) rfl (by decide) e_k1 l_k1 ?_
  refine w_iconst (v := 1) (dk_Stck_put 5 rfl) rfl ?_
  refine w_istore (ls' := [some (.ref 42), some (.int p1), some (.long p2), none, some (.int 1)]) (dk_Stck_put 6 rfl) (by decide) rfl ?_
  exact h
theorem g_Stck_put_10 {d : Nat} {u : Us} {Q : Ot → Us → Prop} (x1 : Int32) (x2 : Int64) (x4 : Int32)
    (h : (32 ≤ x4 → Q (.inl none) u) ∧ (¬ (32 ≤ x4) → ∃ k1 : Nat, x1 + x4 = nI k1 ∧ k1 < 2560 ∧ (WS d m_Stck_put 10 [some (.ref 42), some (.int x1), some (.long x2), none, some (.int (x4 + 1))] [] (uL u 43 k1 0) Q))) :
    WS d m_Stck_put 10 [some (.ref 42), some (.int x1), some (.long x2), none, some (.int x4)] [] u Q := by
  refine w_iload (dk_Stck_put 7 rfl) rfl ?_
  refine w_bipush (v := 32) (dk_Stck_put 8 rfl) rfl ?_
  refine w_icmp_ge 33 (dk_Stck_put 9 rfl) (by decide) (fun c_ => ?_) (fun c_ => ?_)
  · replace h := h.1 c_
    exact w_vret (dk_Stck_put 19 rfl) rfl h
  · replace h := h.2 c_
    refine w_aload_n (dk_Stck_put 10 rfl) rfl ?_
    refine w_getr (dk_Stck_put 11 rfl) lk_Stck_9 rfl rfl rfl ?_
    refine w_iload_n (dk_Stck_put 12 rfl) rfl ?_
    refine w_iload (dk_Stck_put 13 rfl) rfl ?_
    refine w_iadd (dk_Stck_put 14 rfl) ?_
    refine w_lconst (v := 0) (dk_Stck_put 15 rfl) rfl ?_
    obtain ⟨k1, e_k1, l_k1, h⟩ := h
    refine w_last (k_ := k1) (dk_Stck_put 16 rfl) rfl (by decide) e_k1 l_k1 ?_
    refine w_iinc (v := x4 + 1) (ls' := [some (.ref 42), some (.int x1), some (.long x2), none, some (.int (x4 + 1))]) (dk_Stck_put 17 rfl) rfl rfl (by decide) rfl ?_
    refine w_goto 10 (dk_Stck_put 18 rfl) (by decide) ?_
    exact h
theorem g_Stck_does_0 {d : Nat} {u : Us} {Q : Ot → Us → Prop} (p1 : Int32)
    (h : WS d m_Stck_at 0 [some (.ref 42), some (.int 2)] [] u (Ri (fun (r1 : Int32) (u2 : Us) => WS d m_Stck_truth 0 [some (.ref 42), some (.int r1), none, none, none] [] u2 (Rl (fun (r3 : Int64) (u4 : Us) => WS d m_Stck_at 0 [some (.ref 42), some (.int 1)] [] u4 (Ri (fun (r5 : Int32) (u6 : Us) => WS d m_Stck_truth 0 [some (.ref 42), some (.int r5), none, none, none] [] u6 (Rl (fun (r7 : Int64) (u8 : Us) => (p1 < 30 → WS (d + 1) m_Stck_does 39 [some (.ref 42), some (.int p1), some (.int r1), some (.long r3), none, some (.long r7), none] [] u8 Q) ∧ (¬ (p1 < 30) → (35 < p1 → WS (d + 1) m_Stck_does 39 [some (.ref 42), some (.int p1), some (.int r1), some (.long r3), none, some (.long r7), none] [] u8 Q) ∧ (¬ (35 < p1) → WS d m_Stck_compare 0 [some (.ref 42), none, none, none, none, none, none, none] [] u8 (Rv (fun (u10 : Us) => WS (d + 1) m_Stck_does 39 [some (.ref 42), some (.int p1), some (.int r1), some (.long r3), none, some (.long r7), none] [] u10 Q) (fun x u => Q (.inr x) u))))) (fun x u => Q (.inr x) u))) (fun x u => Q (.inr x) u))) (fun x u => Q (.inr x) u))) (fun x u => Q (.inr x) u))) :
    WS (d + 1) m_Stck_does 0 [some (.ref 42), some (.int p1), none, none, none, none, none] [] u Q := by
  refine w_aload_n (dk_Stck_does 0 rfl) rfl ?_
  refine w_iconst (v := 2) (dk_Stck_does 1 rfl) rfl ?_
  refine w_callVi (ls' := [some (.ref 42), some (.int 2)]) cv_Stck_25 (dk_Stck_does 2 rfl) (ci := 8) rfl rfl [.int 2] [] rfl rfl (Nat.le_of_ble_eq_true rfl) (Nat.le_of_ble_eq_true rfl) rfl rfl rfl h (fun r1 u2 h => ?_)
  refine w_istore_n (ls' := [some (.ref 42), some (.int p1), some (.int r1), none, none, none, none]) (dk_Stck_does 3 rfl) (by decide) rfl ?_
  refine w_aload_n (dk_Stck_does 4 rfl) rfl ?_
  refine w_iload_n (dk_Stck_does 5 rfl) rfl ?_
  refine w_callVl (ls' := [some (.ref 42), some (.int r1), none, none, none]) cv_Stck_34 (dk_Stck_does 6 rfl) (ci := 8) rfl rfl [.int r1] [] rfl rfl (Nat.le_of_ble_eq_true rfl) (Nat.le_of_ble_eq_true rfl) rfl rfl rfl h (fun r3 u4 h => ?_)
  refine w_lstore_n (ls' := [some (.ref 42), some (.int p1), some (.int r1), some (.long r3), none, none, none]) (dk_Stck_does 7 rfl) (by decide) rfl ?_
  refine w_aload_n (dk_Stck_does 8 rfl) rfl ?_
  refine w_aload_n (dk_Stck_does 9 rfl) rfl ?_
  refine w_iconst (v := 1) (dk_Stck_does 10 rfl) rfl ?_
  refine w_callVi (ls' := [some (.ref 42), some (.int 1)]) cv_Stck_25 (dk_Stck_does 11 rfl) (ci := 8) rfl rfl [.int 1] [.ref 42] rfl rfl (Nat.le_of_ble_eq_true rfl) (Nat.le_of_ble_eq_true rfl) rfl rfl rfl h (fun r5 u6 h => ?_)
  refine w_callVl (ls' := [some (.ref 42), some (.int r5), none, none, none]) cv_Stck_34 (dk_Stck_does 12 rfl) (ci := 8) rfl rfl [.int r5] [] rfl rfl (Nat.le_of_ble_eq_true rfl) (Nat.le_of_ble_eq_true rfl) rfl rfl rfl h (fun r7 u8 h => ?_)
  refine w_lstore (ls' := [some (.ref 42), some (.int p1), some (.int r1), some (.long r3), none, some (.long r7), none]) (dk_Stck_does 13 rfl) (by decide) rfl ?_
  refine w_iload_n (dk_Stck_does 14 rfl) rfl ?_
  refine w_bipush (v := 30) (dk_Stck_does 15 rfl) rfl ?_
  refine w_icmp_lt 39 (dk_Stck_does 16 rfl) (by decide) (fun c_ => ?_) (fun c_ => ?_)
  · replace h := h.1 c_
    exact h
  · replace h := h.2 c_
    refine w_iload_n (dk_Stck_does 17 rfl) rfl ?_
    refine w_bipush (v := 35) (dk_Stck_does 18 rfl) rfl ?_
    refine w_icmp_gt 39 (dk_Stck_does 19 rfl) (by decide) (fun c_ => ?_) (fun c_ => ?_)
    · replace h := h.1 c_
      exact h
    · replace h := h.2 c_
      refine w_aload_n (dk_Stck_does 20 rfl) rfl ?_
      refine w_callVv (ls' := [some (.ref 42), none, none, none, none, none, none, none]) cv_Stck_54 (dk_Stck_does 21 rfl) (ci := 8) rfl rfl [] [] rfl rfl (Nat.le_of_ble_eq_true rfl) (Nat.le_of_ble_eq_true rfl) rfl rfl rfl h (fun u10 h => ?_)
      exact h
theorem g_Stck_does_39 {d : Nat} {u : Us} {Q : Ot → Us → Prop} (x1 : Int32) (x2 : Int32) (x3 : Int64) (x5 : Int64)
    (h : (x1 = 13 → WS d m_Stck_put 0 [some (.ref 42), some (.int x2), some (.long (x3 &&& x5)), none, none] [] u (Rv (fun (u3 : Us) => WS (d + 1) m_Stck_does 318 [some (.ref 42), some (.int x1), some (.int x2), some (.long x3), none, some (.long x5), none] [] u3 Q) (fun x u => Q (.inr x) u))) ∧ ((x1 = 14 → WS d m_Stck_put 0 [some (.ref 42), some (.int x2), some (.long (x3 ||| x5)), none, none] [] u (Rv (fun (u6 : Us) => WS (d + 1) m_Stck_does 318 [some (.ref 42), some (.int x1), some (.int x2), some (.long x3), none, some (.long x5), none] [] u6 Q) (fun x u => Q (.inr x) u))) ∧ ((x1 = 30 → WS d m_Stck_put 0 [some (.ref 42), some (.int x2), some (.long (aL u 42 5)), none, none] [] u (Rv (fun (u9 : Us) => WS (d + 1) m_Stck_does 318 [some (.ref 42), some (.int x1), some (.int x2), some (.long x3), none, some (.long x5), none] [] u9 Q) (fun x u => Q (.inr x) u))) ∧ ((x1 = 31 → WS d m_Stck_put 0 [some (.ref 42), some (.int x2), some (.long ((aL u 42 5) ^^^ (-1))), none, none] [] u (Rv (fun (u12 : Us) => WS (d + 1) m_Stck_does 318 [some (.ref 42), some (.int x1), some (.int x2), some (.long x3), none, some (.long x5), none] [] u12 Q) (fun x u => Q (.inr x) u))) ∧ ((x1 = 32 → WS d m_Stck_put 0 [some (.ref 42), some (.int x2), some (.long (aL u 42 4)), none, none] [] u (Rv (fun (u15 : Us) => WS (d + 1) m_Stck_does 318 [some (.ref 42), some (.int x1), some (.int x2), some (.long x3), none, some (.long x5), none] [] u15 Q) (fun x u => Q (.inr x) u))) ∧ ((x1 = 33 → WS d m_Stck_put 0 [some (.ref 42), some (.int x2), some (.long ((aL u 42 4) ||| (aL u 42 5))), none, none] [] u (Rv (fun (u18 : Us) => WS (d + 1) m_Stck_does 318 [some (.ref 42), some (.int x1), some (.int x2), some (.long x3), none, some (.long x5), none] [] u18 Q) (fun x u => Q (.inr x) u))) ∧ ((x1 = 34 → WS d m_Stck_put 0 [some (.ref 42), some (.int x2), some (.long (((aL u 42 4) ||| (aL u 42 5)) ^^^ (-1))), none, none] [] u (Rv (fun (u21 : Us) => WS (d + 1) m_Stck_does 318 [some (.ref 42), some (.int x1), some (.int x2), some (.long x3), none, some (.long x5), none] [] u21 Q) (fun x u => Q (.inr x) u))) ∧ ((x1 = 35 → WS d m_Stck_put 0 [some (.ref 42), some (.int x2), some (.long ((aL u 42 4) ^^^ (-1))), none, none] [] u (Rv (fun (u24 : Us) => WS (d + 1) m_Stck_does 318 [some (.ref 42), some (.int x1), some (.int x2), some (.long x3), none, some (.long x5), none] [] u24 Q) (fun x u => Q (.inr x) u))) ∧ ((x1 = 36 → WS d m_Stck_add 0 [some (.ref 42), some (.int 0), none, none, none, none, none, none, none, none, none] [] u (Rv (fun (u27 : Us) => WS (d + 1) m_Stck_does 318 [some (.ref 42), some (.int x1), some (.int x2), some (.long x3), none, some (.long x5), none] [] u27 Q) (fun x u => Q (.inr x) u))) ∧ ((x1 = 37 → WS d m_Stck_add 0 [some (.ref 42), some (.int 1), none, none, none, none, none, none, none, none, none] [] u (Rv (fun (u30 : Us) => WS (d + 1) m_Stck_does 318 [some (.ref 42), some (.int x1), some (.int x2), some (.long x3), none, some (.long x5), none] [] u30 Q) (fun x u => Q (.inr x) u))) ∧ ((x1 = 38 → WS d m_Stck_multiply 0 [some (.ref 42), none, none, none, none, none, none, none, none, none, none] [] u (Rv (fun (u33 : Us) => WS (d + 1) m_Stck_does 318 [some (.ref 42), some (.int x1), some (.int x2), some (.long x3), none, some (.long x5), none] [] u33 Q) (fun x u => Q (.inr x) u))) ∧ ((x1 = 39 → WS d m_Stck_divide 0 [some (.ref 42), some (.int 0), none, none, none, none, none, none, none, none, none, none, none, none, none, none, none, none] [] u (Rv (fun (u36 : Us) => WS (d + 1) m_Stck_does 318 [some (.ref 42), some (.int x1), some (.int x2), some (.long x3), none, some (.long x5), none] [] u36 Q) (fun x u => Q (.inr x) u))) ∧ (((∀ v ∈ ([13, 14, 30, 31, 32, 33, 34, 35, 36, 37, 38, 39] : List Int32), x1 ≠ v) → WS d m_Stck_divide 0 [some (.ref 42), some (.int 1), none, none, none, none, none, none, none, none, none, none, none, none, none, none, none, none] [] u (Rv (fun (u39 : Us) => WS (d + 1) m_Stck_does 318 [some (.ref 42), some (.int x1), some (.int x2), some (.long x3), none, some (.long x5), none] [] u39 Q) (fun x u => Q (.inr x) u)))))))))))))))) :
    WS (d + 1) m_Stck_does 39 [some (.ref 42), some (.int x1), some (.int x2), some (.long x3), none, some (.long x5), none] [] u Q := by
  refine w_iload_n (dk_Stck_does 22 rfl) rfl ?_
  by_cases n1 : x1 = 13
  · replace h := h.1 n1
    refine w_tabI ds_Stck_does_40 136 176 (by rw [n1]; decide) (by decide) ?_
    refine w_aload_n (dk_Stck_does 31 rfl) rfl ?_
    refine w_iload_n (dk_Stck_does 32 rfl) rfl ?_
    refine w_lload_n (dk_Stck_does 33 rfl) rfl ?_
    refine w_lload (dk_Stck_does 34 rfl) rfl ?_
    refine w_land (dk_Stck_does 35 rfl) ?_
    refine w_callVv (ls' := [some (.ref 42), some (.int x2), some (.long (x3 &&& x5)), none, none]) cv_Stck_40 (dk_Stck_does 36 rfl) (ci := 8) rfl rfl [.int x2, .long (x3 &&& x5)] [] rfl rfl (Nat.le_of_ble_eq_true rfl) (Nat.le_of_ble_eq_true rfl) rfl rfl rfl h (fun u3 h => ?_)
    refine w_goto 318 (dk_Stck_does 37 rfl) (by decide) ?_
    exact h
  replace h := h.2
  by_cases n4 : x1 = 14
  · replace h := h.1 n4
    refine w_tabI ds_Stck_does_40 124 164 (by rw [n4]; decide) (by decide) ?_
    refine w_aload_n (dk_Stck_does 24 rfl) rfl ?_
    refine w_iload_n (dk_Stck_does 25 rfl) rfl ?_
    refine w_lload_n (dk_Stck_does 26 rfl) rfl ?_
    refine w_lload (dk_Stck_does 27 rfl) rfl ?_
    refine w_lor (dk_Stck_does 28 rfl) ?_
    refine w_callVv (ls' := [some (.ref 42), some (.int x2), some (.long (x3 ||| x5)), none, none]) cv_Stck_40 (dk_Stck_does 29 rfl) (ci := 8) rfl rfl [.int x2, .long (x3 ||| x5)] [] rfl rfl (Nat.le_of_ble_eq_true rfl) (Nat.le_of_ble_eq_true rfl) rfl rfl rfl h (fun u6 h => ?_)
    refine w_goto 318 (dk_Stck_does 30 rfl) (by decide) ?_
    exact h
  replace h := h.2
  by_cases n7 : x1 = 30
  · replace h := h.1 n7
    refine w_tabI ds_Stck_does_40 148 188 (by rw [n7]; decide) (by decide) ?_
    refine w_aload_n (dk_Stck_does 38 rfl) rfl ?_
    refine w_iload_n (dk_Stck_does 39 rfl) rfl ?_
    refine w_aload_n (dk_Stck_does 40 rfl) rfl ?_
    refine w_getl (v := aL u 42 5) (dk_Stck_does 41 rfl) lk_Stck_51 rfl rfl rfl ?_
    refine w_callVv (ls' := [some (.ref 42), some (.int x2), some (.long (aL u 42 5)), none, none]) cv_Stck_40 (dk_Stck_does 42 rfl) (ci := 8) rfl rfl [.int x2, .long (aL u 42 5)] [] rfl rfl (Nat.le_of_ble_eq_true rfl) (Nat.le_of_ble_eq_true rfl) rfl rfl rfl h (fun u9 h => ?_)
    refine w_goto 318 (dk_Stck_does 43 rfl) (by decide) ?_
    exact h
  replace h := h.2
  by_cases n10 : x1 = 31
  · replace h := h.1 n10
    refine w_tabI ds_Stck_does_40 160 200 (by rw [n10]; decide) (by decide) ?_
    refine w_aload_n (dk_Stck_does 44 rfl) rfl ?_
    refine w_iload_n (dk_Stck_does 45 rfl) rfl ?_
    refine w_aload_n (dk_Stck_does 46 rfl) rfl ?_
    refine w_getl (v := aL u 42 5) (dk_Stck_does 47 rfl) lk_Stck_51 rfl rfl rfl ?_
    refine w_ldc2 (dk_Stck_does 48 rfl) kl_Stck_38 ?_
    refine w_lxor (dk_Stck_does 49 rfl) ?_
    refine w_callVv (ls' := [some (.ref 42), some (.int x2), some (.long ((aL u 42 5) ^^^ (-1))), none, none]) cv_Stck_40 (dk_Stck_does 50 rfl) (ci := 8) rfl rfl [.int x2, .long ((aL u 42 5) ^^^ (-1))] [] rfl rfl (Nat.le_of_ble_eq_true rfl) (Nat.le_of_ble_eq_true rfl) rfl rfl rfl h (fun u12 h => ?_)
    refine w_goto 318 (dk_Stck_does 51 rfl) (by decide) ?_
    exact h
  replace h := h.2
  by_cases n13 : x1 = 32
  · replace h := h.1 n13
    refine w_tabI ds_Stck_does_40 176 216 (by rw [n13]; decide) (by decide) ?_
    refine w_aload_n (dk_Stck_does 52 rfl) rfl ?_
    refine w_iload_n (dk_Stck_does 53 rfl) rfl ?_
    refine w_aload_n (dk_Stck_does 54 rfl) rfl ?_
    refine w_getl (v := aL u 42 4) (dk_Stck_does 55 rfl) lk_Stck_47 rfl rfl rfl ?_
    refine w_callVv (ls' := [some (.ref 42), some (.int x2), some (.long (aL u 42 4)), none, none]) cv_Stck_40 (dk_Stck_does 56 rfl) (ci := 8) rfl rfl [.int x2, .long (aL u 42 4)] [] rfl rfl (Nat.le_of_ble_eq_true rfl) (Nat.le_of_ble_eq_true rfl) rfl rfl rfl h (fun u15 h => ?_)
    refine w_goto 318 (dk_Stck_does 57 rfl) (by decide) ?_
    exact h
  replace h := h.2
  by_cases n16 : x1 = 33
  · replace h := h.1 n16
    refine w_tabI ds_Stck_does_40 188 228 (by rw [n16]; decide) (by decide) ?_
    refine w_aload_n (dk_Stck_does 58 rfl) rfl ?_
    refine w_iload_n (dk_Stck_does 59 rfl) rfl ?_
    refine w_aload_n (dk_Stck_does 60 rfl) rfl ?_
    refine w_getl (v := aL u 42 4) (dk_Stck_does 61 rfl) lk_Stck_47 rfl rfl rfl ?_
    refine w_aload_n (dk_Stck_does 62 rfl) rfl ?_
    refine w_getl (v := aL u 42 5) (dk_Stck_does 63 rfl) lk_Stck_51 rfl rfl rfl ?_
    refine w_lor (dk_Stck_does 64 rfl) ?_
    refine w_callVv (ls' := [some (.ref 42), some (.int x2), some (.long ((aL u 42 4) ||| (aL u 42 5))), none, none]) cv_Stck_40 (dk_Stck_does 65 rfl) (ci := 8) rfl rfl [.int x2, .long ((aL u 42 4) ||| (aL u 42 5))] [] rfl rfl (Nat.le_of_ble_eq_true rfl) (Nat.le_of_ble_eq_true rfl) rfl rfl rfl h (fun u18 h => ?_)
    refine w_goto 318 (dk_Stck_does 66 rfl) (by decide) ?_
    exact h
  replace h := h.2
  by_cases n19 : x1 = 34
  · replace h := h.1 n19
    refine w_tabI ds_Stck_does_40 205 245 (by rw [n19]; decide) (by decide) ?_
    refine w_aload_n (dk_Stck_does 67 rfl) rfl ?_
    refine w_iload_n (dk_Stck_does 68 rfl) rfl ?_
    refine w_aload_n (dk_Stck_does 69 rfl) rfl ?_
    refine w_getl (v := aL u 42 4) (dk_Stck_does 70 rfl) lk_Stck_47 rfl rfl rfl ?_
    refine w_aload_n (dk_Stck_does 71 rfl) rfl ?_
    refine w_getl (v := aL u 42 5) (dk_Stck_does 72 rfl) lk_Stck_51 rfl rfl rfl ?_
    refine w_lor (dk_Stck_does 73 rfl) ?_
    refine w_ldc2 (dk_Stck_does 74 rfl) kl_Stck_38 ?_
    refine w_lxor (dk_Stck_does 75 rfl) ?_
    refine w_callVv (ls' := [some (.ref 42), some (.int x2), some (.long (((aL u 42 4) ||| (aL u 42 5)) ^^^ (-1))), none, none]) cv_Stck_40 (dk_Stck_does 76 rfl) (ci := 8) rfl rfl [.int x2, .long (((aL u 42 4) ||| (aL u 42 5)) ^^^ (-1))] [] rfl rfl (Nat.le_of_ble_eq_true rfl) (Nat.le_of_ble_eq_true rfl) rfl rfl rfl h (fun u21 h => ?_)
    refine w_goto 318 (dk_Stck_does 77 rfl) (by decide) ?_
    exact h
  replace h := h.2
  by_cases n22 : x1 = 35
  · replace h := h.1 n22
    refine w_tabI ds_Stck_does_40 226 266 (by rw [n22]; decide) (by decide) ?_
    refine w_aload_n (dk_Stck_does 78 rfl) rfl ?_
    refine w_iload_n (dk_Stck_does 79 rfl) rfl ?_
    refine w_aload_n (dk_Stck_does 80 rfl) rfl ?_
    refine w_getl (v := aL u 42 4) (dk_Stck_does 81 rfl) lk_Stck_47 rfl rfl rfl ?_
    refine w_ldc2 (dk_Stck_does 82 rfl) kl_Stck_38 ?_
    refine w_lxor (dk_Stck_does 83 rfl) ?_
    refine w_callVv (ls' := [some (.ref 42), some (.int x2), some (.long ((aL u 42 4) ^^^ (-1))), none, none]) cv_Stck_40 (dk_Stck_does 84 rfl) (ci := 8) rfl rfl [.int x2, .long ((aL u 42 4) ^^^ (-1))] [] rfl rfl (Nat.le_of_ble_eq_true rfl) (Nat.le_of_ble_eq_true rfl) rfl rfl rfl h (fun u24 h => ?_)
    refine w_goto 318 (dk_Stck_does 85 rfl) (by decide) ?_
    exact h
  replace h := h.2
  by_cases n25 : x1 = 36
  · replace h := h.1 n25
    refine w_tabI ds_Stck_does_40 242 282 (by rw [n25]; decide) (by decide) ?_
    refine w_aload_n (dk_Stck_does 86 rfl) rfl ?_
    refine w_iconst (v := 0) (dk_Stck_does 87 rfl) rfl ?_
    refine w_callVv (ls' := [some (.ref 42), some (.int 0), none, none, none, none, none, none, none, none, none]) cv_Stck_57 (dk_Stck_does 88 rfl) (ci := 8) rfl rfl [.int 0] [] rfl rfl (Nat.le_of_ble_eq_true rfl) (Nat.le_of_ble_eq_true rfl) rfl rfl rfl h (fun u27 h => ?_)
    refine w_goto 318 (dk_Stck_does 89 rfl) (by decide) ?_
    exact h
  replace h := h.2
  by_cases n28 : x1 = 37
  · replace h := h.1 n28
    refine w_tabI ds_Stck_does_40 250 290 (by rw [n28]; decide) (by decide) ?_
    refine w_aload_n (dk_Stck_does 90 rfl) rfl ?_
    refine w_iconst (v := 1) (dk_Stck_does 91 rfl) rfl ?_
    refine w_callVv (ls' := [some (.ref 42), some (.int 1), none, none, none, none, none, none, none, none, none]) cv_Stck_57 (dk_Stck_does 92 rfl) (ci := 8) rfl rfl [.int 1] [] rfl rfl (Nat.le_of_ble_eq_true rfl) (Nat.le_of_ble_eq_true rfl) rfl rfl rfl h (fun u30 h => ?_)
    refine w_goto 318 (dk_Stck_does 93 rfl) (by decide) ?_
    exact h
  replace h := h.2
  by_cases n31 : x1 = 38
  · replace h := h.1 n31
    refine w_tabI ds_Stck_does_40 258 298 (by rw [n31]; decide) (by decide) ?_
    refine w_aload_n (dk_Stck_does 94 rfl) rfl ?_
    refine w_callVv (ls' := [some (.ref 42), none, none, none, none, none, none, none, none, none, none]) cv_Stck_61 (dk_Stck_does 95 rfl) (ci := 8) rfl rfl [] [] rfl rfl (Nat.le_of_ble_eq_true rfl) (Nat.le_of_ble_eq_true rfl) rfl rfl rfl h (fun u33 h => ?_)
    refine w_goto 318 (dk_Stck_does 96 rfl) (by decide) ?_
    exact h
  replace h := h.2
  by_cases n34 : x1 = 39
  · replace h := h.1 n34
    refine w_tabI ds_Stck_does_40 265 305 (by rw [n34]; decide) (by decide) ?_
    refine w_aload_n (dk_Stck_does 97 rfl) rfl ?_
    refine w_iconst (v := 0) (dk_Stck_does 98 rfl) rfl ?_
    refine w_callVv (ls' := [some (.ref 42), some (.int 0), none, none, none, none, none, none, none, none, none, none, none, none, none, none, none, none]) cv_Stck_64 (dk_Stck_does 99 rfl) (ci := 8) rfl rfl [.int 0] [] rfl rfl (Nat.le_of_ble_eq_true rfl) (Nat.le_of_ble_eq_true rfl) rfl rfl rfl h (fun u36 h => ?_)
    refine w_goto 318 (dk_Stck_does 100 rfl) (by decide) ?_
    exact h
  replace h := h.2
  have hn37 : ∀ v ∈ ([13, 14, 30, 31, 32, 33, 34, 35, 36, 37, 38, 39] : List Int32), x1 ≠ v := by
    intro v hv e_
    rw [← e_] at hv
    simp only [List.mem_cons, List.not_mem_nil, or_false] at hv
    rcases hv with hv | hv | hv | hv | hv | hv | hv | hv | hv | hv | hv | hv
    · exact n1 hv
    · exact n4 hv
    · exact n7 hv
    · exact n10 hv
    · exact n13 hv
    · exact n16 hv
    · exact n19 hv
    · exact n22 hv
    · exact n25 hv
    · exact n28 hv
    · exact n31 hv
    · exact n34 hv
  replace h := h hn37
  refine w_tabD ds_Stck_does_40 313 [13, 14, 30, 31, 32, 33, 34, 35, 36, 37, 38, 39] (by decide) (by decide) hn37 (by decide) ?_
  refine w_aload_n (dk_Stck_does 101 rfl) rfl ?_
  refine w_iconst (v := 1) (dk_Stck_does 102 rfl) rfl ?_
  refine w_callVv (ls' := [some (.ref 42), some (.int 1), none, none, none, none, none, none, none, none, none, none, none, none, none, none, none, none]) cv_Stck_64 (dk_Stck_does 103 rfl) (ci := 8) rfl rfl [.int 1] [] rfl rfl (Nat.le_of_ble_eq_true rfl) (Nat.le_of_ble_eq_true rfl) rfl rfl rfl h (fun u39 h => ?_)
  exact h
theorem g_Stck_does_318 {d : Nat} {u : Us} {Q : Ot → Us → Prop} (x1 : Int32) (x2 : Int32) (x3 : Int64) (x5 : Int64)
    (h : Q (.inl none) (uI u 42 3 ((aI u 42 3) - 1))) :
    WS (d + 1) m_Stck_does 318 [some (.ref 42), some (.int x1), some (.int x2), some (.long x3), none, some (.long x5), none] [] u Q := by
  refine w_aload_n (dk_Stck_does 104 rfl) rfl ?_
  refine w_dup (dk_Stck_does 105 rfl) rfl ?_
  refine w_geti (v := aI u 42 3) (dk_Stck_does 106 rfl) lk_Stck_21 rfl rfl rfl ?_
  refine w_iconst (v := 1) (dk_Stck_does 107 rfl) rfl ?_
  refine w_isub (dk_Stck_does 108 rfl) ?_
  refine w_puti (dk_Stck_does 109 rfl) lk_Stck_21 rfl rfl ?_
  exact w_vret (dk_Stck_does 110 rfl) rfl h
theorem g_Stck_compare_0 {d : Nat} {u : Us} {Q : Ot → Us → Prop} 
    (h : WS d m_Stck_at 0 [some (.ref 42), some (.int 2)] [] u (Ri (fun (r1 : Int32) (u2 : Us) => WS d m_Stck_at 0 [some (.ref 42), some (.int 1)] [] u2 (Ri (fun (r3 : Int32) (u4 : Us) => WS (d + 1) m_Stck_compare 27 [some (.ref 42), some (.int r1), some (.int r3), some (.int 31), none, none, none, none] [] (uL (uL u4 42 4 0) 42 5 (-1)) Q) (fun x u => Q (.inr x) u))) (fun x u => Q (.inr x) u))) :
    WS (d + 1) m_Stck_compare 0 [some (.ref 42), none, none, none, none, none, none, none] [] u Q := by
  refine w_aload_n (dk_Stck_compare 0 rfl) rfl ?_
  refine w_iconst (v := 2) (dk_Stck_compare 1 rfl) rfl ?_
  refine w_callVi (ls' := [some (.ref 42), some (.int 2)]) cv_Stck_25 (dk_Stck_compare 2 rfl) (ci := 8) rfl rfl [.int 2] [] rfl rfl (Nat.le_of_ble_eq_true rfl) (Nat.le_of_ble_eq_true rfl) rfl rfl rfl h (fun r1 u2 h => ?_)
  refine w_istore_n (ls' := [some (.ref 42), some (.int r1), none, none, none, none, none, none]) (dk_Stck_compare 3 rfl) (by decide) rfl ?_
  refine w_aload_n (dk_Stck_compare 4 rfl) rfl ?_
  refine w_iconst (v := 1) (dk_Stck_compare 5 rfl) rfl ?_
  refine w_callVi (ls' := [some (.ref 42), some (.int 1)]) cv_Stck_25 (dk_Stck_compare 6 rfl) (ci := 8) rfl rfl [.int 1] [] rfl rfl (Nat.le_of_ble_eq_true rfl) (Nat.le_of_ble_eq_true rfl) rfl rfl rfl h (fun r3 u4 h => ?_)
  refine w_istore_n (ls' := [some (.ref 42), some (.int r1), some (.int r3), none, none, none, none, none]) (dk_Stck_compare 7 rfl) (by decide) rfl ?_
  refine w_aload_n (dk_Stck_compare 8 rfl) rfl ?_
  refine w_lconst (v := 0) (dk_Stck_compare 9 rfl) rfl ?_
  refine w_putl (dk_Stck_compare 10 rfl) lk_Stck_47 rfl rfl ?_
  refine w_aload_n (dk_Stck_compare 11 rfl) rfl ?_
  refine w_ldc2 (dk_Stck_compare 12 rfl) kl_Stck_38 ?_
  refine w_putl (dk_Stck_compare 13 rfl) lk_Stck_51 rfl rfl ?_
  refine w_bipush (v := 31) (dk_Stck_compare 14 rfl) rfl ?_
  refine w_istore_n (ls' := [some (.ref 42), some (.int r1), some (.int r3), some (.int 31), none, none, none, none]) (dk_Stck_compare 15 rfl) (by decide) rfl ?_
  exact h
theorem g_Stck_compare_27 {d : Nat} {u : Us} {Q : Ot → Us → Prop} (x1 : Int32) (x2 : Int32) (x3 : Int32)
    (h : (x3 < 0 → Q (.inl none) u) ∧ (¬ (x3 < 0) → ∃ k1 : Nat, x1 + x3 = nI k1 ∧ k1 < 2560 ∧ (∃ k2 : Nat, x2 + x3 = nI k2 ∧ k2 < 2560 ∧ ((x3 ≠ 31 → WS (d + 1) m_Stck_compare 27 [some (.ref 42), some (.int x1), some (.int x2), some (.int (x3 + (-1))), some (.long (aL u 43 k1)), none, some (.long (aL u 43 k2)), none] [] (uL (uL u 42 4 ((aL u 42 4) ||| ((aL u 42 5) &&& (((aL u 43 k1) ^^^ (-1)) &&& (aL u 43 k2))))) 42 5 ((aL u 42 5) &&& (((aL u 43 k1) ^^^ (aL u 43 k2)) ^^^ (-1)))) Q) ∧ (x3 = 31 → WS (d + 1) m_Stck_compare 27 [some (.ref 42), some (.int x1), some (.int x2), some (.int (x3 + (-1))), some (.long (aL u 43 k1)), none, some (.long (aL u 43 k2)), none] [] (uL (uL u 42 4 ((aL u 42 4) ||| ((aL u 42 5) &&& ((aL u 43 k1) &&& ((aL u 43 k2) ^^^ (-1)))))) 42 5 ((aL u 42 5) &&& (((aL u 43 k1) ^^^ (aL u 43 k2)) ^^^ (-1)))) Q))))) :
    WS (d + 1) m_Stck_compare 27 [some (.ref 42), some (.int x1), some (.int x2), some (.int x3), none, none, none, none] [] u Q := by
  refine w_iload_n (dk_Stck_compare 16 rfl) rfl ?_
  refine w_if_lt 116 (dk_Stck_compare 17 rfl) (by decide) (fun c_ => ?_) (fun c_ => ?_)
  · replace h := h.1 c_
    exact w_vret (dk_Stck_compare 66 rfl) rfl h
  · replace h := h.2 c_
    refine w_aload_n (dk_Stck_compare 18 rfl) rfl ?_
    refine w_getr (dk_Stck_compare 19 rfl) lk_Stck_9 rfl rfl rfl ?_
    refine w_iload_n (dk_Stck_compare 20 rfl) rfl ?_
    refine w_iload_n (dk_Stck_compare 21 rfl) rfl ?_
    refine w_iadd (dk_Stck_compare 22 rfl) ?_
    obtain ⟨k1, e_k1, l_k1, h⟩ := h
    refine w_lald (k_ := k1) (dk_Stck_compare 23 rfl) rfl (by decide) e_k1 l_k1 ?_
    refine w_lstore (ls' := [some (.ref 42), some (.int x1), some (.int x2), some (.int x3), some (.long (aL u 43 k1)), none, none, none]) (dk_Stck_compare 24 rfl) (by decide) rfl ?_
    refine w_aload_n (dk_Stck_compare 25 rfl) rfl ?_
    refine w_getr (dk_Stck_compare 26 rfl) lk_Stck_9 rfl rfl rfl ?_
    refine w_iload_n (dk_Stck_compare 27 rfl) rfl ?_
    refine w_iload_n (dk_Stck_compare 28 rfl) rfl ?_
    refine w_iadd (dk_Stck_compare 29 rfl) ?_
    obtain ⟨k2, e_k2, l_k2, h⟩ := h
    refine w_lald (k_ := k2) (dk_Stck_compare 30 rfl) rfl (by decide) e_k2 l_k2 ?_
    refine w_lstore (ls' := [some (.ref 42), some (.int x1), some (.int x2), some (.int x3), some (.long (aL u 43 k1)), none, some (.long (aL u 43 k2)), none]) (dk_Stck_compare 31 rfl) (by decide) rfl ?_
    refine w_aload_n (dk_Stck_compare 32 rfl) rfl ?_
    refine w_dup (dk_Stck_compare 33 rfl) rfl ?_
    refine w_getl (v := aL u 42 4) (dk_Stck_compare 34 rfl) lk_Stck_47 rfl rfl rfl ?_
    refine w_aload_n (dk_Stck_compare 35 rfl) rfl ?_
    refine w_getl (v := aL u 42 5) (dk_Stck_compare 36 rfl) lk_Stck_51 rfl rfl rfl ?_
    refine w_iload_n (dk_Stck_compare 37 rfl) rfl ?_
    refine w_bipush (v := 31) (dk_Stck_compare 38 rfl) rfl ?_
    refine w_icmp_ne 78 (dk_Stck_compare 39 rfl) (by decide) (fun c_ => ?_) (fun c_ => ?_)
    · replace h := h.1 c_
      refine w_lload (dk_Stck_compare 46 rfl) rfl ?_
      refine w_ldc2 (dk_Stck_compare 47 rfl) kl_Stck_38 ?_
      refine w_lxor (dk_Stck_compare 48 rfl) ?_
      refine w_lload (dk_Stck_compare 49 rfl) rfl ?_
      refine w_land (dk_Stck_compare 50 rfl) ?_
      refine w_land (dk_Stck_compare 51 rfl) ?_
      refine w_lor (dk_Stck_compare 52 rfl) ?_
      refine w_putl (dk_Stck_compare 53 rfl) lk_Stck_47 rfl rfl ?_
      refine w_aload_n (dk_Stck_compare 54 rfl) rfl ?_
      refine w_dup (dk_Stck_compare 55 rfl) rfl ?_
      refine w_getl (v := aL u 42 5) (dk_Stck_compare 56 rfl) lk_Stck_51 rfl rfl rfl ?_
      refine w_lload (dk_Stck_compare 57 rfl) rfl ?_
      refine w_lload (dk_Stck_compare 58 rfl) rfl ?_
      refine w_lxor (dk_Stck_compare 59 rfl) ?_
      refine w_ldc2 (dk_Stck_compare 60 rfl) kl_Stck_38 ?_
      refine w_lxor (dk_Stck_compare 61 rfl) ?_
      refine w_land (dk_Stck_compare 62 rfl) ?_
      refine w_putl (dk_Stck_compare 63 rfl) lk_Stck_51 rfl rfl ?_
      refine w_iinc (v := x3 + (-1)) (ls' := [some (.ref 42), some (.int x1), some (.int x2), some (.int (x3 + (-1))), some (.long (aL u 43 k1)), none, some (.long (aL u 43 k2)), none]) (dk_Stck_compare 64 rfl) rfl rfl (by decide) rfl ?_
      refine w_goto 27 (dk_Stck_compare 65 rfl) (by decide) ?_
      exact h
    · replace h := h.2 c_
      refine w_lload (dk_Stck_compare 40 rfl) rfl ?_
      refine w_lload (dk_Stck_compare 41 rfl) rfl ?_
      refine w_ldc2 (dk_Stck_compare 42 rfl) kl_Stck_38 ?_
      refine w_lxor (dk_Stck_compare 43 rfl) ?_
      refine w_land (dk_Stck_compare 44 rfl) ?_
      refine w_goto 87 (dk_Stck_compare 45 rfl) (by decide) ?_
      refine w_land (dk_Stck_compare 51 rfl) ?_
      refine w_lor (dk_Stck_compare 52 rfl) ?_
      refine w_putl (dk_Stck_compare 53 rfl) lk_Stck_47 rfl rfl ?_
      refine w_aload_n (dk_Stck_compare 54 rfl) rfl ?_
      refine w_dup (dk_Stck_compare 55 rfl) rfl ?_
      refine w_getl (v := aL u 42 5) (dk_Stck_compare 56 rfl) lk_Stck_51 rfl rfl rfl ?_
      refine w_lload (dk_Stck_compare 57 rfl) rfl ?_
      refine w_lload (dk_Stck_compare 58 rfl) rfl ?_
      refine w_lxor (dk_Stck_compare 59 rfl) ?_
      refine w_ldc2 (dk_Stck_compare 60 rfl) kl_Stck_38 ?_
      refine w_lxor (dk_Stck_compare 61 rfl) ?_
      refine w_land (dk_Stck_compare 62 rfl) ?_
      refine w_putl (dk_Stck_compare 63 rfl) lk_Stck_51 rfl rfl ?_
      refine w_iinc (v := x3 + (-1)) (ls' := [some (.ref 42), some (.int x1), some (.int x2), some (.int (x3 + (-1))), some (.long (aL u 43 k1)), none, some (.long (aL u 43 k2)), none]) (dk_Stck_compare 64 rfl) rfl rfl (by decide) rfl ?_
      refine w_goto 27 (dk_Stck_compare 65 rfl) (by decide) ?_
      exact h
theorem g_Stck_add_0 {d : Nat} {u : Us} {Q : Ot → Us → Prop} (p1 : Int32)
    (h : WS d m_Stck_at 0 [some (.ref 42), some (.int 2)] [] u (Ri (fun (r1 : Int32) (u2 : Us) => WS d m_Stck_at 0 [some (.ref 42), some (.int 1)] [] u2 (Ri (fun (r3 : Int32) (u4 : Us) => (p1 = 0 → WS (d + 1) m_Stck_add 28 [some (.ref 42), some (.int p1), some (.int r1), some (.int r3), some (.long 0), none, some (.int 0), none, none, none, none] [] u4 Q) ∧ (¬ (p1 = 0) → WS (d + 1) m_Stck_add 28 [some (.ref 42), some (.int p1), some (.int r1), some (.int r3), some (.long (-1)), none, some (.int 0), none, none, none, none] [] u4 Q)) (fun x u => Q (.inr x) u))) (fun x u => Q (.inr x) u))) :
    WS (d + 1) m_Stck_add 0 [some (.ref 42), some (.int p1), none, none, none, none, none, none, none, none, none] [] u Q := by
  refine w_aload_n (dk_Stck_add 0 rfl) rfl ?_
  refine w_iconst (v := 2) (dk_Stck_add 1 rfl) rfl ?_
  refine w_callVi (ls' := [some (.ref 42), some (.int 2)]) cv_Stck_25 (dk_Stck_add 2 rfl) (ci := 8) rfl rfl [.int 2] [] rfl rfl (Nat.le_of_ble_eq_true rfl) (Nat.le_of_ble_eq_true rfl) rfl rfl rfl h (fun r1 u2 h => ?_)
  refine w_istore_n (ls' := [some (.ref 42), some (.int p1), some (.int r1), none, none, none, none, none, none, none, none]) (dk_Stck_add 3 rfl) (by decide) rfl ?_
  refine w_aload_n (dk_Stck_add 4 rfl) rfl ?_
  refine w_iconst (v := 1) (dk_Stck_add 5 rfl) rfl ?_
  refine w_callVi (ls' := [some (.ref 42), some (.int 1)]) cv_Stck_25 (dk_Stck_add 6 rfl) (ci := 8) rfl rfl [.int 1] [] rfl rfl (Nat.le_of_ble_eq_true rfl) (Nat.le_of_ble_eq_true rfl) rfl rfl rfl h (fun r3 u4 h => ?_)
  refine w_istore_n (ls' := [some (.ref 42), some (.int p1), some (.int r1), some (.int r3), none, none, none, none, none, none, none]) (dk_Stck_add 7 rfl) (by decide) rfl ?_
  refine w_iload_n (dk_Stck_add 8 rfl) rfl ?_
  refine w_if_eq 22 (dk_Stck_add 9 rfl) (by decide) (fun c_ => ?_) (fun c_ => ?_)
  · replace h := h.1 c_
    refine w_lconst (v := 0) (dk_Stck_add 12 rfl) rfl ?_
    refine w_lstore (ls' := [some (.ref 42), some (.int p1), some (.int r1), some (.int r3), some (.long 0), none, none, none, none, none, none]) (dk_Stck_add 13 rfl) (by decide) rfl ?_
    refine w_iconst (v := 0) (dk_Stck_add 14 rfl) rfl ?_
    refine w_istore (ls' := [some (.ref 42), some (.int p1), some (.int r1), some (.int r3), some (.long 0), none, some (.int 0), none, none, none, none]) (dk_Stck_add 15 rfl) (by decide) rfl ?_
    exact h
  · replace h := h.2 c_
    refine w_ldc2 (dk_Stck_add 10 rfl) kl_Stck_38 ?_
    refine w_goto 23 (dk_Stck_add 11 rfl) (by decide) ?_
    refine w_lstore (ls' := [some (.ref 42), some (.int p1), some (.int r1), some (.int r3), some (.long (-1)), none, none, none, none, none, none]) (dk_Stck_add 13 rfl) (by decide) rfl ?_
    refine w_iconst (v := 0) (dk_Stck_add 14 rfl) rfl ?_
    refine w_istore (ls' := [some (.ref 42), some (.int p1), some (.int r1), some (.int r3), some (.long (-1)), none, some (.int 0), none, none, none, none]) (dk_Stck_add 15 rfl) (by decide) rfl ?_
    exact h
theorem g_Stck_add_28 {d : Nat} {u : Us} {Q : Ot → Us → Prop} (x1 : Int32) (x2 : Int32) (x3 : Int32) (x4 : Int64) (x6 : Int32)
    (h : (32 ≤ x6 → Q (.inl none) u) ∧ (¬ (32 ≤ x6) → ∃ k1 : Nat, x2 + x6 = nI k1 ∧ k1 < 2560 ∧ ((x1 = 0 → ∃ k2 : Nat, x3 + x6 = nI k2 ∧ k2 < 2560 ∧ (∃ k3 : Nat, x2 + x6 = nI k3 ∧ k3 < 2560 ∧ (WS (d + 1) m_Stck_add 28 [some (.ref 42), some (.int x1), some (.int x2), some (.int x3), some (.long (((aL u 43 k1) &&& (aL u 43 k2)) ||| (x4 &&& ((aL u 43 k1) ||| (aL u 43 k2))))), none, some (.int (x6 + 1)), some (.long (aL u 43 k1)), none, some (.long (aL u 43 k2)), none] [] (uL u 43 k3 (((aL u 43 k1) ^^^ (aL u 43 k2)) ^^^ x4)) Q))) ∧ (¬ (x1 = 0) → ∃ k4 : Nat, x3 + x6 = nI k4 ∧ k4 < 2560 ∧ (∃ k5 : Nat, x2 + x6 = nI k5 ∧ k5 < 2560 ∧ (WS (d + 1) m_Stck_add 28 [some (.ref 42), some (.int x1), some (.int x2), some (.int x3), some (.long (((aL u 43 k1) &&& ((aL u 43 k4) ^^^ (-1))) ||| (x4 &&& ((aL u 43 k1) ||| ((aL u 43 k4) ^^^ (-1)))))), none, some (.int (x6 + 1)), some (.long (aL u 43 k1)), none, some (.long ((aL u 43 k4) ^^^ (-1))), none] [] (uL u 43 k5 (((aL u 43 k1) ^^^ ((aL u 43 k4) ^^^ (-1))) ^^^ x4)) Q)))))) :
    WS (d + 1) m_Stck_add 28 [some (.ref 42), some (.int x1), some (.int x2), some (.int x3), some (.long x4), none, some (.int x6), none, none, none, none] [] u Q := by
  refine w_iload (dk_Stck_add 16 rfl) rfl ?_
  refine w_bipush (v := 32) (dk_Stck_add 17 rfl) rfl ?_
  refine w_icmp_ge 116 (dk_Stck_add 18 rfl) (by decide) (fun c_ => ?_) (fun c_ => ?_)
  · replace h := h.1 c_
    exact w_vret (dk_Stck_add 67 rfl) rfl h
  · replace h := h.2 c_
    refine w_aload_n (dk_Stck_add 19 rfl) rfl ?_
    refine w_getr (dk_Stck_add 20 rfl) lk_Stck_9 rfl rfl rfl ?_
    refine w_iload_n (dk_Stck_add 21 rfl) rfl ?_
    refine w_iload (dk_Stck_add 22 rfl) rfl ?_
    refine w_iadd (dk_Stck_add 23 rfl) ?_
    obtain ⟨k1, e_k1, l_k1, h⟩ := h
    refine w_lald (k_ := k1) (dk_Stck_add 24 rfl) rfl (by decide) e_k1 l_k1 ?_
    refine w_lstore (ls' := [some (.ref 42), some (.int x1), some (.int x2), some (.int x3), some (.long x4), none, some (.int x6), some (.long (aL u 43 k1)), none, none, none]) (dk_Stck_add 25 rfl) (by decide) rfl ?_
    refine w_iload_n (dk_Stck_add 26 rfl) rfl ?_
    refine w_if_eq 66 (dk_Stck_add 27 rfl) (by decide) (fun c_ => ?_) (fun c_ => ?_)
    · replace h := h.1 c_
      refine w_aload_n (dk_Stck_add 37 rfl) rfl ?_
      refine w_getr (dk_Stck_add 38 rfl) lk_Stck_9 rfl rfl rfl ?_
      refine w_iload_n (dk_Stck_add 39 rfl) rfl ?_
      refine w_iload (dk_Stck_add 40 rfl) rfl ?_
      refine w_iadd (dk_Stck_add 41 rfl) ?_
      obtain ⟨k2, e_k2, l_k2, h⟩ := h
      refine w_lald (k_ := k2) (dk_Stck_add 42 rfl) rfl (by decide) e_k2 l_k2 ?_
      refine w_lstore (ls' := [some (.ref 42), some (.int x1), some (.int x2), some (.int x3), some (.long x4), none, some (.int x6), some (.long (aL u 43 k1)), none, some (.long (aL u 43 k2)), none]) (dk_Stck_add 43 rfl) (by decide) rfl ?_
      refine w_aload_n (dk_Stck_add 44 rfl) rfl ?_
      refine w_getr (dk_Stck_add 45 rfl) lk_Stck_9 rfl rfl rfl ?_
      refine w_iload_n (dk_Stck_add 46 rfl) rfl ?_
      refine w_iload (dk_Stck_add 47 rfl) rfl ?_
      refine w_iadd (dk_Stck_add 48 rfl) ?_
      refine w_lload (dk_Stck_add 49 rfl) rfl ?_
      refine w_lload (dk_Stck_add 50 rfl) rfl ?_
      refine w_lxor (dk_Stck_add 51 rfl) ?_
      refine w_lload (dk_Stck_add 52 rfl) rfl ?_
      refine w_lxor (dk_Stck_add 53 rfl) ?_
      obtain ⟨k3, e_k3, l_k3, h⟩ := h
      refine w_last (k_ := k3) (dk_Stck_add 54 rfl) rfl (by decide) e_k3 l_k3 ?_
      refine w_lload (dk_Stck_add 55 rfl) rfl ?_
      refine w_lload (dk_Stck_add 56 rfl) rfl ?_
      refine w_land (dk_Stck_add 57 rfl) ?_
      refine w_lload (dk_Stck_add 58 rfl) rfl ?_
      refine w_lload (dk_Stck_add 59 rfl) rfl ?_
      refine w_lload (dk_Stck_add 60 rfl) rfl ?_
      refine w_lor (dk_Stck_add 61 rfl) ?_
      refine w_land (dk_Stck_add 62 rfl) ?_
      refine w_lor (dk_Stck_add 63 rfl) ?_
      refine w_lstore (ls' := [some (.ref 42), some (.int x1), some (.int x2), some (.int x3), some (.long (((aL u 43 k1) &&& (aL u 43 k2)) ||| (x4 &&& ((aL u 43 k1) ||| (aL u 43 k2))))), none, some (.int x6), some (.long (aL u 43 k1)), none, some (.long (aL u 43 k2)), none]) (dk_Stck_add 64 rfl) (by decide) rfl ?_
      refine w_iinc (v := x6 + 1) (ls' := [some (.ref 42), some (.int x1), some (.int x2), some (.int x3), some (.long (((aL u 43 k1) &&& (aL u 43 k2)) ||| (x4 &&& ((aL u 43 k1) ||| (aL u 43 k2))))), none, some (.int (x6 + 1)), some (.long (aL u 43 k1)), none, some (.long (aL u 43 k2)), none]) (dk_Stck_add 65 rfl) rfl rfl (by decide) rfl ?_
      refine w_goto 28 (dk_Stck_add 66 rfl) (by decide) ?_
      exact h
    · replace h := h.2 c_
      refine w_aload_n (dk_Stck_add 28 rfl) rfl ?_
      refine w_getr (dk_Stck_add 29 rfl) lk_Stck_9 rfl rfl rfl ?_
      refine w_iload_n (dk_Stck_add 30 rfl) rfl ?_
      refine w_iload (dk_Stck_add 31 rfl) rfl ?_
      refine w_iadd (dk_Stck_add 32 rfl) ?_
      obtain ⟨k4, e_k4, l_k4, h⟩ := h
      refine w_lald (k_ := k4) (dk_Stck_add 33 rfl) rfl (by decide) e_k4 l_k4 ?_
      refine w_ldc2 (dk_Stck_add 34 rfl) kl_Stck_38 ?_
      refine w_lxor (dk_Stck_add 35 rfl) ?_
      refine w_goto 75 (dk_Stck_add 36 rfl) (by decide) ?_
      refine w_lstore (ls' := [some (.ref 42), some (.int x1), some (.int x2), some (.int x3), some (.long x4), none, some (.int x6), some (.long (aL u 43 k1)), none, some (.long ((aL u 43 k4) ^^^ (-1))), none]) (dk_Stck_add 43 rfl) (by decide) rfl ?_
      refine w_aload_n (dk_Stck_add 44 rfl) rfl ?_
      refine w_getr (dk_Stck_add 45 rfl) lk_Stck_9 rfl rfl rfl ?_
      refine w_iload_n (dk_Stck_add 46 rfl) rfl ?_
      refine w_iload (dk_Stck_add 47 rfl) rfl ?_
      refine w_iadd (dk_Stck_add 48 rfl) ?_
      refine w_lload (dk_Stck_add 49 rfl) rfl ?_
      refine w_lload (dk_Stck_add 50 rfl) rfl ?_
      refine w_lxor (dk_Stck_add 51 rfl) ?_
      refine w_lload (dk_Stck_add 52 rfl) rfl ?_
      refine w_lxor (dk_Stck_add 53 rfl) ?_
      obtain ⟨k5, e_k5, l_k5, h⟩ := h
      refine w_last (k_ := k5) (dk_Stck_add 54 rfl) rfl (by decide) e_k5 l_k5 ?_
      refine w_lload (dk_Stck_add 55 rfl) rfl ?_
      refine w_lload (dk_Stck_add 56 rfl) rfl ?_
      refine w_land (dk_Stck_add 57 rfl) ?_
      refine w_lload (dk_Stck_add 58 rfl) rfl ?_
      refine w_lload (dk_Stck_add 59 rfl) rfl ?_
      refine w_lload (dk_Stck_add 60 rfl) rfl ?_
      refine w_lor (dk_Stck_add 61 rfl) ?_
      refine w_land (dk_Stck_add 62 rfl) ?_
      refine w_lor (dk_Stck_add 63 rfl) ?_
      refine w_lstore (ls' := [some (.ref 42), some (.int x1), some (.int x2), some (.int x3), some (.long (((aL u 43 k1) &&& ((aL u 43 k4) ^^^ (-1))) ||| (x4 &&& ((aL u 43 k1) ||| ((aL u 43 k4) ^^^ (-1)))))), none, some (.int x6), some (.long (aL u 43 k1)), none, some (.long ((aL u 43 k4) ^^^ (-1))), none]) (dk_Stck_add 64 rfl) (by decide) rfl ?_
      refine w_iinc (v := x6 + 1) (ls' := [some (.ref 42), some (.int x1), some (.int x2), some (.int x3), some (.long (((aL u 43 k1) &&& ((aL u 43 k4) ^^^ (-1))) ||| (x4 &&& ((aL u 43 k1) ||| ((aL u 43 k4) ^^^ (-1)))))), none, some (.int (x6 + 1)), some (.long (aL u 43 k1)), none, some (.long ((aL u 43 k4) ^^^ (-1))), none]) (dk_Stck_add 65 rfl) rfl rfl (by decide) rfl ?_
      refine w_goto 28 (dk_Stck_add 66 rfl) (by decide) ?_
      exact h
theorem g_Stck_multiply_0 {d : Nat} {u : Us} {Q : Ot → Us → Prop} 
    (h : WS d m_Stck_at 0 [some (.ref 42), some (.int 2)] [] u (Ri (fun (r1 : Int32) (u2 : Us) => WS d m_Stck_at 0 [some (.ref 42), some (.int 1)] [] u2 (Ri (fun (r3 : Int32) (u4 : Us) => WS (d + 1) m_Stck_multiply 14 [some (.ref 42), some (.int r1), some (.int r3), some (.int 0), none, none, none, none, none, none, none] [] u4 Q) (fun x u => Q (.inr x) u))) (fun x u => Q (.inr x) u))) :
    WS (d + 1) m_Stck_multiply 0 [some (.ref 42), none, none, none, none, none, none, none, none, none, none] [] u Q := by
  refine w_aload_n (dk_Stck_multiply 0 rfl) rfl ?_
  refine w_iconst (v := 2) (dk_Stck_multiply 1 rfl) rfl ?_
  refine w_callVi (ls' := [some (.ref 42), some (.int 2)]) cv_Stck_25 (dk_Stck_multiply 2 rfl) (ci := 8) rfl rfl [.int 2] [] rfl rfl (Nat.le_of_ble_eq_true rfl) (Nat.le_of_ble_eq_true rfl) rfl rfl rfl h (fun r1 u2 h => ?_)
  refine w_istore_n (ls' := [some (.ref 42), some (.int r1), none, none, none, none, none, none, none, none, none]) (dk_Stck_multiply 3 rfl) (by decide) rfl ?_
  refine w_aload_n (dk_Stck_multiply 4 rfl) rfl ?_
  refine w_iconst (v := 1) (dk_Stck_multiply 5 rfl) rfl ?_
  refine w_callVi (ls' := [some (.ref 42), some (.int 1)]) cv_Stck_25 (dk_Stck_multiply 6 rfl) (ci := 8) rfl rfl [.int 1] [] rfl rfl (Nat.le_of_ble_eq_true rfl) (Nat.le_of_ble_eq_true rfl) rfl rfl rfl h (fun r3 u4 h => ?_)
  refine w_istore_n (ls' := [some (.ref 42), some (.int r1), some (.int r3), none, none, none, none, none, none, none, none]) (dk_Stck_multiply 7 rfl) (by decide) rfl ?_
  refine w_iconst (v := 0) (dk_Stck_multiply 8 rfl) rfl ?_
  refine w_istore_n (ls' := [some (.ref 42), some (.int r1), some (.int r3), some (.int 0), none, none, none, none, none, none, none]) (dk_Stck_multiply 9 rfl) (by decide) rfl ?_
  exact h
theorem g_Stck_multiply_14 {d : Nat} {u : Us} {Q : Ot → Us → Prop} (x1 : Int32) (x2 : Int32) (x3 : Int32)
    (h : (32 ≤ x3 → WS (d + 1) m_Stck_multiply 35 [some (.ref 42), some (.int x1), some (.int x2), some (.int 0), none, none, none, none, none, none, none] [] u Q) ∧ (¬ (32 ≤ x3) → ∃ k1 : Nat, x3 = nI k1 ∧ k1 < 32 ∧ (WS (d + 1) m_Stck_multiply 14 [some (.ref 42), some (.int x1), some (.int x2), some (.int (x3 + 1)), none, none, none, none, none, none, none] [] (uL u 44 k1 0) Q))) :
    WS (d + 1) m_Stck_multiply 14 [some (.ref 42), some (.int x1), some (.int x2), some (.int x3), none, none, none, none, none, none, none] [] u Q := by
  refine w_iload_n (dk_Stck_multiply 10 rfl) rfl ?_
  refine w_bipush (v := 32) (dk_Stck_multiply 11 rfl) rfl ?_
  refine w_icmp_ge 33 (dk_Stck_multiply 12 rfl) (by decide) (fun c_ => ?_) (fun c_ => ?_)
  · replace h := h.1 c_
    refine w_iconst (v := 0) (dk_Stck_multiply 20 rfl) rfl ?_
    refine w_istore_n (ls' := [some (.ref 42), some (.int x1), some (.int x2), some (.int 0), none, none, none, none, none, none, none]) (dk_Stck_multiply 21 rfl) (by decide) rfl ?_
    exact h
  · replace h := h.2 c_
    refine w_aload_n (dk_Stck_multiply 13 rfl) rfl ?_
    refine w_getr (dk_Stck_multiply 14 rfl) lk_Stck_15 rfl rfl rfl ?_
    refine w_iload_n (dk_Stck_multiply 15 rfl) rfl ?_
    refine w_lconst (v := 0) (dk_Stck_multiply 16 rfl) rfl ?_
    obtain ⟨k1, e_k1, l_k1, h⟩ := h
    refine w_last (k_ := k1) (dk_Stck_multiply 17 rfl) rfl (by decide) e_k1 l_k1 ?_
    refine w_iinc (v := x3 + 1) (ls' := [some (.ref 42), some (.int x1), some (.int x2), some (.int (x3 + 1)), none, none, none, none, none, none, none]) (dk_Stck_multiply 18 rfl) rfl rfl (by decide) rfl ?_
    refine w_goto 14 (dk_Stck_multiply 19 rfl) (by decide) ?_
    exact h
theorem g_Stck_multiply_35 {d : Nat} {u : Us} {Q : Ot → Us → Prop} (x1 : Int32) (x2 : Int32) (x3 : Int32)
    (h : (32 ≤ x3 → WS (d + 1) m_Stck_multiply 130 [some (.ref 42), some (.int x1), some (.int x2), some (.int 0), none, none, none, none, none, none, none] [] u Q) ∧ (¬ (32 ≤ x3) → WS (d + 1) m_Stck_multiply 47 [some (.ref 42), some (.int x1), some (.int x2), some (.int x3), some (.long 0), none, some (.int x3), none, none, none, none] [] u Q)) :
    WS (d + 1) m_Stck_multiply 35 [some (.ref 42), some (.int x1), some (.int x2), some (.int x3), none, none, none, none, none, none, none] [] u Q := by
  refine w_iload_n (dk_Stck_multiply 22 rfl) rfl ?_
  refine w_bipush (v := 32) (dk_Stck_multiply 23 rfl) rfl ?_
  refine w_icmp_ge 128 (dk_Stck_multiply 24 rfl) (by decide) (fun c_ => ?_) (fun c_ => ?_)
  · replace h := h.1 c_
    refine w_iconst (v := 0) (dk_Stck_multiply 76 rfl) rfl ?_
    refine w_istore_n (ls' := [some (.ref 42), some (.int x1), some (.int x2), some (.int 0), none, none, none, none, none, none, none]) (dk_Stck_multiply 77 rfl) (by decide) rfl ?_
    exact h
  · replace h := h.2 c_
    refine w_lconst (v := 0) (dk_Stck_multiply 25 rfl) rfl ?_
    refine w_lstore (ls' := [some (.ref 42), some (.int x1), some (.int x2), some (.int x3), some (.long 0), none, none, none, none, none, none]) (dk_Stck_multiply 26 rfl) (by decide) rfl ?_
    refine w_iload_n (dk_Stck_multiply 27 rfl) rfl ?_
    refine w_istore (ls' := [some (.ref 42), some (.int x1), some (.int x2), some (.int x3), some (.long 0), none, some (.int x3), none, none, none, none]) (dk_Stck_multiply 28 rfl) (by decide) rfl ?_
    exact h
theorem g_Stck_multiply_47 {d : Nat} {u : Us} {Q : Ot → Us → Prop} (x1 : Int32) (x2 : Int32) (x3 : Int32) (x4 : Int64) (x6 : Int32)
    (h : (32 ≤ x6 → WS (d + 1) m_Stck_multiply 35 [some (.ref 42), some (.int x1), some (.int x2), some (.int (x3 + 1)), some (.long x4), none, some (.int x6), none, none, none, none] [] u Q) ∧ (¬ (32 ≤ x6) → ∃ k1 : Nat, (x1 + x6) - x3 = nI k1 ∧ k1 < 2560 ∧ (∃ k2 : Nat, x2 + x3 = nI k2 ∧ k2 < 2560 ∧ (∃ k3 : Nat, x6 = nI k3 ∧ k3 < 32 ∧ (∃ k4 : Nat, x6 = nI k4 ∧ k4 < 32 ∧ (WS (d + 1) m_Stck_multiply 47 [some (.ref 42), some (.int x1), some (.int x2), some (.int x3), some (.long (((aL u 44 k3) &&& ((aL u 43 k1) &&& (aL u 43 k2))) ||| (x4 &&& ((aL u 44 k3) ||| ((aL u 43 k1) &&& (aL u 43 k2)))))), none, some (.int (x6 + 1)), some (.long ((aL u 43 k1) &&& (aL u 43 k2))), none, some (.long (aL u 44 k3)), none] [] (uL u 44 k4 (((aL u 44 k3) ^^^ ((aL u 43 k1) &&& (aL u 43 k2))) ^^^ x4)) Q)))))) :
    WS (d + 1) m_Stck_multiply 47 [some (.ref 42), some (.int x1), some (.int x2), some (.int x3), some (.long x4), none, some (.int x6), none, none, none, none] [] u Q := by
  refine w_iload (dk_Stck_multiply 29 rfl) rfl ?_
  refine w_bipush (v := 32) (dk_Stck_multiply 30 rfl) rfl ?_
  refine w_icmp_ge 122 (dk_Stck_multiply 31 rfl) (by decide) (fun c_ => ?_) (fun c_ => ?_)
  · replace h := h.1 c_
    refine w_iinc (v := x3 + 1) (ls' := [some (.ref 42), some (.int x1), some (.int x2), some (.int (x3 + 1)), some (.long x4), none, some (.int x6), none, none, none, none]) (dk_Stck_multiply 74 rfl) rfl rfl (by decide) rfl ?_
    refine w_goto 35 (dk_Stck_multiply 75 rfl) (by decide) ?_
    exact h
  · replace h := h.2 c_
    refine w_aload_n (dk_Stck_multiply 32 rfl) rfl ?_
    refine w_getr (dk_Stck_multiply 33 rfl) lk_Stck_9 rfl rfl rfl ?_
    refine w_iload_n (dk_Stck_multiply 34 rfl) rfl ?_
    refine w_iload (dk_Stck_multiply 35 rfl) rfl ?_
    refine w_iadd (dk_Stck_multiply 36 rfl) ?_
    refine w_iload_n (dk_Stck_multiply 37 rfl) rfl ?_
    refine w_isub (dk_Stck_multiply 38 rfl) ?_
    obtain ⟨k1, e_k1, l_k1, h⟩ := h
    refine w_lald (k_ := k1) (dk_Stck_multiply 39 rfl) rfl (by decide) e_k1 l_k1 ?_
    refine w_aload_n (dk_Stck_multiply 40 rfl) rfl ?_
    refine w_getr (dk_Stck_multiply 41 rfl) lk_Stck_9 rfl rfl rfl ?_
    refine w_iload_n (dk_Stck_multiply 42 rfl) rfl ?_
    refine w_iload_n (dk_Stck_multiply 43 rfl) rfl ?_
    refine w_iadd (dk_Stck_multiply 44 rfl) ?_
    obtain ⟨k2, e_k2, l_k2, h⟩ := h
    refine w_lald (k_ := k2) (dk_Stck_multiply 45 rfl) rfl (by decide) e_k2 l_k2 ?_
    refine w_land (dk_Stck_multiply 46 rfl) ?_
    refine w_lstore (ls' := [some (.ref 42), some (.int x1), some (.int x2), some (.int x3), some (.long x4), none, some (.int x6), some (.long ((aL u 43 k1) &&& (aL u 43 k2))), none, none, none]) (dk_Stck_multiply 47 rfl) (by decide) rfl ?_
    refine w_aload_n (dk_Stck_multiply 48 rfl) rfl ?_
    refine w_getr (dk_Stck_multiply 49 rfl) lk_Stck_15 rfl rfl rfl ?_
    refine w_iload (dk_Stck_multiply 50 rfl) rfl ?_
    obtain ⟨k3, e_k3, l_k3, h⟩ := h
    refine w_lald (k_ := k3) (dk_Stck_multiply 51 rfl) rfl (by decide) e_k3 l_k3 ?_
    refine w_lstore (ls' := [some (.ref 42), some (.int x1), some (.int x2), some (.int x3), some (.long x4), none, some (.int x6), some (.long ((aL u 43 k1) &&& (aL u 43 k2))), none, some (.long (aL u 44 k3)), none]) (dk_Stck_multiply 52 rfl) (by decide) rfl ?_
    refine w_aload_n (dk_Stck_multiply 53 rfl) rfl ?_
    refine w_getr (dk_Stck_multiply 54 rfl) lk_Stck_15 rfl rfl rfl ?_
    refine w_iload (dk_Stck_multiply 55 rfl) rfl ?_
    refine w_lload (dk_Stck_multiply 56 rfl) rfl ?_
    refine w_lload (dk_Stck_multiply 57 rfl) rfl ?_
    refine w_lxor (dk_Stck_multiply 58 rfl) ?_
    refine w_lload (dk_Stck_multiply 59 rfl) rfl ?_
    refine w_lxor (dk_Stck_multiply 60 rfl) ?_
    obtain ⟨k4, e_k4, l_k4, h⟩ := h
    refine w_last (k_ := k4) (dk_Stck_multiply 61 rfl) rfl (by decide) e_k4 l_k4 ?_
    refine w_lload (dk_Stck_multiply 62 rfl) rfl ?_
    refine w_lload (dk_Stck_multiply 63 rfl) rfl ?_
    refine w_land (dk_Stck_multiply 64 rfl) ?_
    refine w_lload (dk_Stck_multiply 65 rfl) rfl ?_
    refine w_lload (dk_Stck_multiply 66 rfl) rfl ?_
    refine w_lload (dk_Stck_multiply 67 rfl) rfl ?_
    refine w_lor (dk_Stck_multiply 68 rfl) ?_
    refine w_land (dk_Stck_multiply 69 rfl) ?_
    refine w_lor (dk_Stck_multiply 70 rfl) ?_
    refine w_lstore (ls' := [some (.ref 42), some (.int x1), some (.int x2), some (.int x3), some (.long (((aL u 44 k3) &&& ((aL u 43 k1) &&& (aL u 43 k2))) ||| (x4 &&& ((aL u 44 k3) ||| ((aL u 43 k1) &&& (aL u 43 k2)))))), none, some (.int x6), some (.long ((aL u 43 k1) &&& (aL u 43 k2))), none, some (.long (aL u 44 k3)), none]) (dk_Stck_multiply 71 rfl) (by decide) rfl ?_
    refine w_iinc (v := x6 + 1) (ls' := [some (.ref 42), some (.int x1), some (.int x2), some (.int x3), some (.long (((aL u 44 k3) &&& ((aL u 43 k1) &&& (aL u 43 k2))) ||| (x4 &&& ((aL u 44 k3) ||| ((aL u 43 k1) &&& (aL u 43 k2)))))), none, some (.int (x6 + 1)), some (.long ((aL u 43 k1) &&& (aL u 43 k2))), none, some (.long (aL u 44 k3)), none]) (dk_Stck_multiply 72 rfl) rfl rfl (by decide) rfl ?_
    refine w_goto 47 (dk_Stck_multiply 73 rfl) (by decide) ?_
    exact h
theorem g_Stck_multiply_130 {d : Nat} {u : Us} {Q : Ot → Us → Prop} (x1 : Int32) (x2 : Int32) (x3 : Int32)
    (h : (32 ≤ x3 → Q (.inl none) u) ∧ (¬ (32 ≤ x3) → ∃ k1 : Nat, x3 = nI k1 ∧ k1 < 32 ∧ (∃ k2 : Nat, x1 + x3 = nI k2 ∧ k2 < 2560 ∧ (WS (d + 1) m_Stck_multiply 130 [some (.ref 42), some (.int x1), some (.int x2), some (.int (x3 + 1)), none, none, none, none, none, none, none] [] (uL u 43 k2 (aL u 44 k1)) Q)))) :
    WS (d + 1) m_Stck_multiply 130 [some (.ref 42), some (.int x1), some (.int x2), some (.int x3), none, none, none, none, none, none, none] [] u Q := by
  refine w_iload_n (dk_Stck_multiply 78 rfl) rfl ?_
  refine w_bipush (v := 32) (dk_Stck_multiply 79 rfl) rfl ?_
  refine w_icmp_ge 156 (dk_Stck_multiply 80 rfl) (by decide) (fun c_ => ?_) (fun c_ => ?_)
  · replace h := h.1 c_
    exact w_vret (dk_Stck_multiply 93 rfl) rfl h
  · replace h := h.2 c_
    refine w_aload_n (dk_Stck_multiply 81 rfl) rfl ?_
    refine w_getr (dk_Stck_multiply 82 rfl) lk_Stck_9 rfl rfl rfl ?_
    refine w_iload_n (dk_Stck_multiply 83 rfl) rfl ?_
    refine w_iload_n (dk_Stck_multiply 84 rfl) rfl ?_
    refine w_iadd (dk_Stck_multiply 85 rfl) ?_
    refine w_aload_n (dk_Stck_multiply 86 rfl) rfl ?_
    refine w_getr (dk_Stck_multiply 87 rfl) lk_Stck_15 rfl rfl rfl ?_
    refine w_iload_n (dk_Stck_multiply 88 rfl) rfl ?_
    obtain ⟨k1, e_k1, l_k1, h⟩ := h
    refine w_lald (k_ := k1) (dk_Stck_multiply 89 rfl) rfl (by decide) e_k1 l_k1 ?_
    obtain ⟨k2, e_k2, l_k2, h⟩ := h
    refine w_last (k_ := k2) (dk_Stck_multiply 90 rfl) rfl (by decide) e_k2 l_k2 ?_
    refine w_iinc (v := x3 + 1) (ls' := [some (.ref 42), some (.int x1), some (.int x2), some (.int (x3 + 1)), none, none, none, none, none, none, none]) (dk_Stck_multiply 91 rfl) rfl rfl (by decide) rfl ?_
    refine w_goto 130 (dk_Stck_multiply 92 rfl) (by decide) ?_
    exact h
theorem g_Stck_divide_0 {d : Nat} {u : Us} {Q : Ot → Us → Prop} (p1 : Int32)
    (h : WS d m_Stck_at 0 [some (.ref 42), some (.int 2)] [] u (Ri (fun (r1 : Int32) (u2 : Us) => WS d m_Stck_at 0 [some (.ref 42), some (.int 1)] [] u2 (Ri (fun (r3 : Int32) (u4 : Us) => ∃ k5 : Nat, r1 + 31 = nI k5 ∧ k5 < 2560 ∧ (∃ k6 : Nat, r3 + 31 = nI k6 ∧ k6 < 2560 ∧ (WS d m_Stck_truth 0 [some (.ref 42), some (.int r3), none, none, none] [] u4 (Rl (fun (r7 : Int64) (u8 : Us) => WS d m_Stck_negate1 0 [some (.ref 42), some (.int r1), some (.long (aL u4 43 k5)), none, none, none, none, none, none] [] u8 (Rv (fun (u10 : Us) => WS d m_Stck_negate1 0 [some (.ref 42), some (.int r3), some (.long (aL u4 43 k6)), none, none, none, none, none, none] [] u10 (Rv (fun (u12 : Us) => WS (d + 1) m_Stck_divide 62 [some (.ref 42), some (.int p1), some (.int r1), some (.int r3), some (.long (aL u4 43 k5)), none, some (.long (aL u4 43 k6)), none, some (.long (r7 ^^^ (-1))), none, some (.int 0), none, none, none, none, none, none, none] [] u12 Q) (fun x u => Q (.inr x) u))) (fun x u => Q (.inr x) u))) (fun x u => Q (.inr x) u))))) (fun x u => Q (.inr x) u))) (fun x u => Q (.inr x) u))) :
    WS (d + 1) m_Stck_divide 0 [some (.ref 42), some (.int p1), none, none, none, none, none, none, none, none, none, none, none, none, none, none, none, none] [] u Q := by
  refine w_aload_n (dk_Stck_divide 0 rfl) rfl ?_
  refine w_iconst (v := 2) (dk_Stck_divide 1 rfl) rfl ?_
  refine w_callVi (ls' := [some (.ref 42), some (.int 2)]) cv_Stck_25 (dk_Stck_divide 2 rfl) (ci := 8) rfl rfl [.int 2] [] rfl rfl (Nat.le_of_ble_eq_true rfl) (Nat.le_of_ble_eq_true rfl) rfl rfl rfl h (fun r1 u2 h => ?_)
  refine w_istore_n (ls' := [some (.ref 42), some (.int p1), some (.int r1), none, none, none, none, none, none, none, none, none, none, none, none, none, none, none]) (dk_Stck_divide 3 rfl) (by decide) rfl ?_
  refine w_aload_n (dk_Stck_divide 4 rfl) rfl ?_
  refine w_iconst (v := 1) (dk_Stck_divide 5 rfl) rfl ?_
  refine w_callVi (ls' := [some (.ref 42), some (.int 1)]) cv_Stck_25 (dk_Stck_divide 6 rfl) (ci := 8) rfl rfl [.int 1] [] rfl rfl (Nat.le_of_ble_eq_true rfl) (Nat.le_of_ble_eq_true rfl) rfl rfl rfl h (fun r3 u4 h => ?_)
  refine w_istore_n (ls' := [some (.ref 42), some (.int p1), some (.int r1), some (.int r3), none, none, none, none, none, none, none, none, none, none, none, none, none, none]) (dk_Stck_divide 7 rfl) (by decide) rfl ?_
  refine w_aload_n (dk_Stck_divide 8 rfl) rfl ?_
  refine w_getr (dk_Stck_divide 9 rfl) lk_Stck_9 rfl rfl rfl ?_
  refine w_iload_n (dk_Stck_divide 10 rfl) rfl ?_
  refine w_bipush (v := 31) (dk_Stck_divide 11 rfl) rfl ?_
  refine w_iadd (dk_Stck_divide 12 rfl) ?_
  obtain ⟨k5, e_k5, l_k5, h⟩ := h
  refine w_lald (k_ := k5) (dk_Stck_divide 13 rfl) rfl (by decide) e_k5 l_k5 ?_
  refine w_lstore (ls' := [some (.ref 42), some (.int p1), some (.int r1), some (.int r3), some (.long (aL u4 43 k5)), none, none, none, none, none, none, none, none, none, none, none, none, none]) (dk_Stck_divide 14 rfl) (by decide) rfl ?_
  refine w_aload_n (dk_Stck_divide 15 rfl) rfl ?_
  refine w_getr (dk_Stck_divide 16 rfl) lk_Stck_9 rfl rfl rfl ?_
  refine w_iload_n (dk_Stck_divide 17 rfl) rfl ?_
  refine w_bipush (v := 31) (dk_Stck_divide 18 rfl) rfl ?_
  refine w_iadd (dk_Stck_divide 19 rfl) ?_
  obtain ⟨k6, e_k6, l_k6, h⟩ := h
  refine w_lald (k_ := k6) (dk_Stck_divide 20 rfl) rfl (by decide) e_k6 l_k6 ?_
  refine w_lstore (ls' := [some (.ref 42), some (.int p1), some (.int r1), some (.int r3), some (.long (aL u4 43 k5)), none, some (.long (aL u4 43 k6)), none, none, none, none, none, none, none, none, none, none, none]) (dk_Stck_divide 21 rfl) (by decide) rfl ?_
  refine w_aload_n (dk_Stck_divide 22 rfl) rfl ?_
  refine w_iload_n (dk_Stck_divide 23 rfl) rfl ?_
  refine w_callVl (ls' := [some (.ref 42), some (.int r3), none, none, none]) cv_Stck_34 (dk_Stck_divide 24 rfl) (ci := 8) rfl rfl [.int r3] [] rfl rfl (Nat.le_of_ble_eq_true rfl) (Nat.le_of_ble_eq_true rfl) rfl rfl rfl h (fun r7 u8 h => ?_)
  refine w_ldc2 (dk_Stck_divide 25 rfl) kl_Stck_38 ?_
  refine w_lxor (dk_Stck_divide 26 rfl) ?_
  refine w_lstore (ls' := [some (.ref 42), some (.int p1), some (.int r1), some (.int r3), some (.long (aL u4 43 k5)), none, some (.long (aL u4 43 k6)), none, some (.long (r7 ^^^ (-1))), none, none, none, none, none, none, none, none, none]) (dk_Stck_divide 27 rfl) (by decide) rfl ?_
  refine w_aload_n (dk_Stck_divide 28 rfl) rfl ?_
  refine w_iload_n (dk_Stck_divide 29 rfl) rfl ?_
  refine w_lload (dk_Stck_divide 30 rfl) rfl ?_
  refine w_callVv (ls' := [some (.ref 42), some (.int r1), some (.long (aL u4 43 k5)), none, none, none, none, none, none]) cv_Stck_44 (dk_Stck_divide 31 rfl) (ci := 8) rfl rfl [.int r1, .long (aL u4 43 k5)] [] rfl rfl (Nat.le_of_ble_eq_true rfl) (Nat.le_of_ble_eq_true rfl) rfl rfl rfl h (fun u10 h => ?_)
  refine w_aload_n (dk_Stck_divide 32 rfl) rfl ?_
  refine w_iload_n (dk_Stck_divide 33 rfl) rfl ?_
  refine w_lload (dk_Stck_divide 34 rfl) rfl ?_
  refine w_callVv (ls' := [some (.ref 42), some (.int r3), some (.long (aL u4 43 k6)), none, none, none, none, none, none]) cv_Stck_44 (dk_Stck_divide 35 rfl) (ci := 8) rfl rfl [.int r3, .long (aL u4 43 k6)] [] rfl rfl (Nat.le_of_ble_eq_true rfl) (Nat.le_of_ble_eq_true rfl) rfl rfl rfl h (fun u12 h => ?_)
  refine w_iconst (v := 0) (dk_Stck_divide 36 rfl) rfl ?_
  refine w_istore (ls' := [some (.ref 42), some (.int p1), some (.int r1), some (.int r3), some (.long (aL u4 43 k5)), none, some (.long (aL u4 43 k6)), none, some (.long (r7 ^^^ (-1))), none, some (.int 0), none, none, none, none, none, none, none]) (dk_Stck_divide 37 rfl) (by decide) rfl ?_
  exact h
theorem g_Stck_divide_62 {d : Nat} {u : Us} {Q : Ot → Us → Prop} (x1 : Int32) (x2 : Int32) (x3 : Int32) (x4 : Int64) (x6 : Int64) (x8 : Int64) (x10 : Int32)
    (h : (32 ≤ x10 → WS (d + 1) m_Stck_divide 87 [some (.ref 42), some (.int x1), some (.int x2), some (.int x3), some (.long x4), none, some (.long x6), none, some (.long x8), none, some (.int 31), none, none, none, none, none, none, none] [] u Q) ∧ (¬ (32 ≤ x10) → ∃ k1 : Nat, x10 = nI k1 ∧ k1 < 32 ∧ (WS (d + 1) m_Stck_divide 62 [some (.ref 42), some (.int x1), some (.int x2), some (.int x3), some (.long x4), none, some (.long x6), none, some (.long x8), none, some (.int (x10 + 1)), none, none, none, none, none, none, none] [] (uL u 45 k1 0) Q))) :
    WS (d + 1) m_Stck_divide 62 [some (.ref 42), some (.int x1), some (.int x2), some (.int x3), some (.long x4), none, some (.long x6), none, some (.long x8), none, some (.int x10), none, none, none, none, none, none, none] [] u Q := by
  refine w_iload (dk_Stck_divide 38 rfl) rfl ?_
  refine w_bipush (v := 32) (dk_Stck_divide 39 rfl) rfl ?_
  refine w_icmp_ge 83 (dk_Stck_divide 40 rfl) (by decide) (fun c_ => ?_) (fun c_ => ?_)
  · replace h := h.1 c_
    refine w_bipush (v := 31) (dk_Stck_divide 48 rfl) rfl ?_
    refine w_istore (ls' := [some (.ref 42), some (.int x1), some (.int x2), some (.int x3), some (.long x4), none, some (.long x6), none, some (.long x8), none, some (.int 31), none, none, none, none, none, none, none]) (dk_Stck_divide 49 rfl) (by decide) rfl ?_
    exact h
  · replace h := h.2 c_
    refine w_aload_n (dk_Stck_divide 41 rfl) rfl ?_
    refine w_getr (dk_Stck_divide 42 rfl) lk_Stck_18 rfl rfl rfl ?_
    refine w_iload (dk_Stck_divide 43 rfl) rfl ?_
    refine w_lconst (v := 0) (dk_Stck_divide 44 rfl) rfl ?_
    obtain ⟨k1, e_k1, l_k1, h⟩ := h
    refine w_last (k_ := k1) (dk_Stck_divide 45 rfl) rfl (by decide) e_k1 l_k1 ?_
    refine w_iinc (v := x10 + 1) (ls' := [some (.ref 42), some (.int x1), some (.int x2), some (.int x3), some (.long x4), none, some (.long x6), none, some (.long x8), none, some (.int (x10 + 1)), none, none, none, none, none, none, none]) (dk_Stck_divide 46 rfl) rfl rfl (by decide) rfl ?_
    refine w_goto 62 (dk_Stck_divide 47 rfl) (by decide) ?_
    exact h
theorem g_Stck_divide_87 {d : Nat} {u : Us} {Q : Ot → Us → Prop} (x1 : Int32) (x2 : Int32) (x3 : Int32) (x4 : Int64) (x6 : Int64) (x8 : Int64) (x10 : Int32)
    (h : (x10 < 0 → WS (d + 1) m_Stck_divide 320 [some (.ref 42), some (.int x1), some (.int x2), some (.int x3), some (.long x4), none, some (.long x6), none, some (.long x8), none, some (.int 0), none, none, none, none, none, none, none] [] u Q) ∧ (¬ (x10 < 0) → WS (d + 1) m_Stck_divide 105 [some (.ref 42), some (.int x1), some (.int x2), some (.int x3), some (.long x4), none, some (.long x6), none, some (.long x8), none, some (.int x10), some (.long (aL u 45 31)), none, some (.int 31), none, none, none, none] [] u Q)) :
    WS (d + 1) m_Stck_divide 87 [some (.ref 42), some (.int x1), some (.int x2), some (.int x3), some (.long x4), none, some (.long x6), none, some (.long x8), none, some (.int x10), none, none, none, none, none, none, none] [] u Q := by
  refine w_iload (dk_Stck_divide 50 rfl) rfl ?_
  refine w_if_lt 317 (dk_Stck_divide 51 rfl) (by decide) (fun c_ => ?_) (fun c_ => ?_)
  · replace h := h.1 c_
    refine w_iconst (v := 0) (dk_Stck_divide 180 rfl) rfl ?_
    refine w_istore (ls' := [some (.ref 42), some (.int x1), some (.int x2), some (.int x3), some (.long x4), none, some (.long x6), none, some (.long x8), none, some (.int 0), none, none, none, none, none, none, none]) (dk_Stck_divide 181 rfl) (by decide) rfl ?_
    exact h
  · replace h := h.2 c_
    refine w_aload_n (dk_Stck_divide 52 rfl) rfl ?_
    refine w_getr (dk_Stck_divide 53 rfl) lk_Stck_18 rfl rfl rfl ?_
    refine w_bipush (v := 31) (dk_Stck_divide 54 rfl) rfl ?_
    refine w_lald (k_ := 31) (dk_Stck_divide 55 rfl) rfl (by decide) rfl (by decide) ?_
    refine w_lstore (ls' := [some (.ref 42), some (.int x1), some (.int x2), some (.int x3), some (.long x4), none, some (.long x6), none, some (.long x8), none, some (.int x10), some (.long (aL u 45 31)), none, none, none, none, none, none]) (dk_Stck_divide 56 rfl) (by decide) rfl ?_
    refine w_bipush (v := 31) (dk_Stck_divide 57 rfl) rfl ?_
    refine w_istore (ls' := [some (.ref 42), some (.int x1), some (.int x2), some (.int x3), some (.long x4), none, some (.long x6), none, some (.long x8), none, some (.int x10), some (.long (aL u 45 31)), none, some (.int 31), none, none, none, none]) (dk_Stck_divide 58 rfl) (by decide) rfl ?_
    exact h
theorem g_Stck_divide_105 {d : Nat} {u : Us} {Q : Ot → Us → Prop} (x1 : Int32) (x2 : Int32) (x3 : Int32) (x4 : Int64) (x6 : Int64) (x8 : Int64) (x10 : Int32) (x11 : Int64) (x13 : Int32)
    (h : (x13 ≤ 0 → ∃ k1 : Nat, x2 + x10 = nI k1 ∧ k1 < 2560 ∧ (WS (d + 1) m_Stck_divide 153 [some (.ref 42), some (.int x1), some (.int x2), some (.int x3), some (.long x4), none, some (.long x6), none, some (.long x8), none, some (.int x10), some (.long x11), none, some (.long 0), none, some (.int 0), none, none] [] (uL u 45 0 (aL u 43 k1)) Q)) ∧ (¬ (x13 ≤ 0) → ∃ k2 : Nat, x13 - 1 = nI k2 ∧ k2 < 32 ∧ (∃ k3 : Nat, x13 = nI k3 ∧ k3 < 32 ∧ (WS (d + 1) m_Stck_divide 105 [some (.ref 42), some (.int x1), some (.int x2), some (.int x3), some (.long x4), none, some (.long x6), none, some (.long x8), none, some (.int x10), some (.long x11), none, some (.int (x13 + (-1))), none, none, none, none] [] (uL u 45 k3 (aL u 45 k2)) Q)))) :
    WS (d + 1) m_Stck_divide 105 [some (.ref 42), some (.int x1), some (.int x2), some (.int x3), some (.long x4), none, some (.long x6), none, some (.long x8), none, some (.int x10), some (.long x11), none, some (.int x13), none, none, none, none] [] u Q := by
  refine w_iload (dk_Stck_divide 59 rfl) rfl ?_
  refine w_if_le 132 (dk_Stck_divide 60 rfl) (by decide) (fun c_ => ?_) (fun c_ => ?_)
  · replace h := h.1 c_
    refine w_aload_n (dk_Stck_divide 73 rfl) rfl ?_
    refine w_getr (dk_Stck_divide 74 rfl) lk_Stck_18 rfl rfl rfl ?_
    refine w_iconst (v := 0) (dk_Stck_divide 75 rfl) rfl ?_
    refine w_aload_n (dk_Stck_divide 76 rfl) rfl ?_
    refine w_getr (dk_Stck_divide 77 rfl) lk_Stck_9 rfl rfl rfl ?_
    refine w_iload_n (dk_Stck_divide 78 rfl) rfl ?_
    refine w_iload (dk_Stck_divide 79 rfl) rfl ?_
    refine w_iadd (dk_Stck_divide 80 rfl) ?_
    obtain ⟨k1, e_k1, l_k1, h⟩ := h
    refine w_lald (k_ := k1) (dk_Stck_divide 81 rfl) rfl (by decide) e_k1 l_k1 ?_
    refine w_last (k_ := 0) (dk_Stck_divide 82 rfl) rfl (by decide) rfl (by decide) ?_
    refine w_lconst (v := 0) (dk_Stck_divide 83 rfl) rfl ?_
    refine w_lstore (ls' := [some (.ref 42), some (.int x1), some (.int x2), some (.int x3), some (.long x4), none, some (.long x6), none, some (.long x8), none, some (.int x10), some (.long x11), none, some (.long 0), none, none, none, none]) (dk_Stck_divide 84 rfl) (by decide) rfl ?_
    refine w_iconst (v := 0) (dk_Stck_divide 85 rfl) rfl ?_
    refine w_istore (ls' := [some (.ref 42), some (.int x1), some (.int x2), some (.int x3), some (.long x4), none, some (.long x6), none, some (.long x8), none, some (.int x10), some (.long x11), none, some (.long 0), none, some (.int 0), none, none]) (dk_Stck_divide 86 rfl) (by decide) rfl ?_
    exact h
  · replace h := h.2 c_
    refine w_aload_n (dk_Stck_divide 61 rfl) rfl ?_
    refine w_getr (dk_Stck_divide 62 rfl) lk_Stck_18 rfl rfl rfl ?_
    refine w_iload (dk_Stck_divide 63 rfl) rfl ?_
    refine w_aload_n (dk_Stck_divide 64 rfl) rfl ?_
    refine w_getr (dk_Stck_divide 65 rfl) lk_Stck_18 rfl rfl rfl ?_
    refine w_iload (dk_Stck_divide 66 rfl) rfl ?_
    refine w_iconst (v := 1) (dk_Stck_divide 67 rfl) rfl ?_
    refine w_isub (dk_Stck_divide 68 rfl) ?_
    obtain ⟨k2, e_k2, l_k2, h⟩ := h
    refine w_lald (k_ := k2) (dk_Stck_divide 69 rfl) rfl (by decide) e_k2 l_k2 ?_
    obtain ⟨k3, e_k3, l_k3, h⟩ := h
    refine w_last (k_ := k3) (dk_Stck_divide 70 rfl) rfl (by decide) e_k3 l_k3 ?_
    refine w_iinc (v := x13 + (-1)) (ls' := [some (.ref 42), some (.int x1), some (.int x2), some (.int x3), some (.long x4), none, some (.long x6), none, some (.long x8), none, some (.int x10), some (.long x11), none, some (.int (x13 + (-1))), none, none, none, none]) (dk_Stck_divide 71 rfl) rfl rfl (by decide) rfl ?_
    refine w_goto 105 (dk_Stck_divide 72 rfl) (by decide) ?_
    exact h
theorem g_Stck_divide_153 {d : Nat} {u : Us} {Q : Ot → Us → Prop} (x1 : Int32) (x2 : Int32) (x3 : Int32) (x4 : Int64) (x6 : Int64) (x8 : Int64) (x10 : Int32) (x11 : Int64) (x13 : Int64) (x15 : Int32)
    (h : (32 ≤ x15 → WS (d + 1) m_Stck_divide 255 [some (.ref 42), some (.int x1), some (.int x2), some (.int x3), some (.long x4), none, some (.long x6), none, some (.long x8), none, some (.int x10), some (.long x11), none, some (.long x13), none, some (.long ((x13 ^^^ (-1)) ||| x11)), none, some (.int 0)] [] u Q) ∧ (¬ (32 ≤ x15) → ∃ k1 : Nat, x15 = nI k1 ∧ k1 < 32 ∧ (∃ k2 : Nat, x3 + x15 = nI k2 ∧ k2 < 2560 ∧ (∃ k3 : Nat, x15 = nI k3 ∧ k3 < 32 ∧ (∃ k4 : Nat, x15 = nI k4 ∧ k4 < 32 ∧ (∃ k5 : Nat, x3 + x15 = nI k5 ∧ k5 < 2560 ∧ (∃ k6 : Nat, x15 = nI k6 ∧ k6 < 32 ∧ (∃ k7 : Nat, x3 + x15 = nI k7 ∧ k7 < 2560 ∧ (WS (d + 1) m_Stck_divide 153 [some (.ref 42), some (.int x1), some (.int x2), some (.int x3), some (.long x4), none, some (.long x6), none, some (.long x8), none, some (.int x10), some (.long x11), none, some (.long ((((aL u 45 k4) ^^^ (-1)) &&& (aL u 43 k5)) ||| (x13 &&& (((aL u 45 k6) ^^^ (aL u 43 k7)) ^^^ (-1))))), none, some (.int (x15 + 1)), none, none] [] (uL u 44 k3 (((aL u 45 k1) ^^^ (aL u 43 k2)) ^^^ x13)) Q))))))))) :
    WS (d + 1) m_Stck_divide 153 [some (.ref 42), some (.int x1), some (.int x2), some (.int x3), some (.long x4), none, some (.long x6), none, some (.long x8), none, some (.int x10), some (.long x11), none, some (.long x13), none, some (.int x15), none, none] [] u Q := by
  refine w_iload (dk_Stck_divide 87 rfl) rfl ?_
  refine w_bipush (v := 32) (dk_Stck_divide 88 rfl) rfl ?_
  refine w_icmp_ge 241 (dk_Stck_divide 89 rfl) (by decide) (fun c_ => ?_) (fun c_ => ?_)
  · replace h := h.1 c_
    refine w_lload (dk_Stck_divide 139 rfl) rfl ?_
    refine w_ldc2 (dk_Stck_divide 140 rfl) kl_Stck_38 ?_
    refine w_lxor (dk_Stck_divide 141 rfl) ?_
    refine w_lload (dk_Stck_divide 142 rfl) rfl ?_
    refine w_lor (dk_Stck_divide 143 rfl) ?_
    refine w_lstore (ls' := [some (.ref 42), some (.int x1), some (.int x2), some (.int x3), some (.long x4), none, some (.long x6), none, some (.long x8), none, some (.int x10), some (.long x11), none, some (.long x13), none, some (.long ((x13 ^^^ (-1)) ||| x11)), none, none]) (dk_Stck_divide 144 rfl) (by decide) rfl ?_
    refine w_iconst (v := 0) (dk_Stck_divide 145 rfl) rfl ?_
    refine w_istore (ls' := [some (.ref 42), some (.int x1), some (.int x2), some (.int x3), some (.long x4), none, some (.long x6), none, some (.long x8), none, some (.int x10), some (.long x11), none, some (.long x13), none, some (.long ((x13 ^^^ (-1)) ||| x11)), none, some (.int 0)]) (dk_Stck_divide 146 rfl) (by decide) rfl ?_
    exact h
  · replace h := h.2 c_
    refine w_aload_n (dk_Stck_divide 90 rfl) rfl ?_
    refine w_getr (dk_Stck_divide 91 rfl) lk_Stck_15 rfl rfl rfl ?_
    refine w_iload (dk_Stck_divide 92 rfl) rfl ?_
    refine w_aload_n (dk_Stck_divide 93 rfl) rfl ?_
    refine w_getr (dk_Stck_divide 94 rfl) lk_Stck_18 rfl rfl rfl ?_
    refine w_iload (dk_Stck_divide 95 rfl) rfl ?_
    obtain ⟨k1, e_k1, l_k1, h⟩ := h
    refine w_lald (k_ := k1) (dk_Stck_divide 96 rfl) rfl (by decide) e_k1 l_k1 ?_
    refine w_aload_n (dk_Stck_divide 97 rfl) rfl ?_
    refine w_getr (dk_Stck_divide 98 rfl) lk_Stck_9 rfl rfl rfl ?_
    refine w_iload_n (dk_Stck_divide 99 rfl) rfl ?_
    refine w_iload (dk_Stck_divide 100 rfl) rfl ?_
    refine w_iadd (dk_Stck_divide 101 rfl) ?_
    obtain ⟨k2, e_k2, l_k2, h⟩ := h
    refine w_lald (k_ := k2) (dk_Stck_divide 102 rfl) rfl (by decide) e_k2 l_k2 ?_
    refine w_lxor (dk_Stck_divide 103 rfl) ?_
    refine w_lload (dk_Stck_divide 104 rfl) rfl ?_
    refine w_lxor (dk_Stck_divide 105 rfl) ?_
    obtain ⟨k3, e_k3, l_k3, h⟩ := h
    refine w_last (k_ := k3) (dk_Stck_divide 106 rfl) rfl (by decide) e_k3 l_k3 ?_
    refine w_aload_n (dk_Stck_divide 107 rfl) rfl ?_
    refine w_getr (dk_Stck_divide 108 rfl) lk_Stck_18 rfl rfl rfl ?_
    refine w_iload (dk_Stck_divide 109 rfl) rfl ?_
    obtain ⟨k4, e_k4, l_k4, h⟩ := h
    refine w_lald (k_ := k4) (dk_Stck_divide 110 rfl) rfl (by decide) e_k4 l_k4 ?_
    show WS _ _ _ _ [.long (aL u 45 k4)] _ _
    refine w_ldc2 (dk_Stck_divide 111 rfl) kl_Stck_38 ?_
    refine w_lxor (dk_Stck_divide 112 rfl) ?_
    refine w_aload_n (dk_Stck_divide 113 rfl) rfl ?_
    refine w_getr (dk_Stck_divide 114 rfl) lk_Stck_9 rfl rfl rfl ?_
    refine w_iload_n (dk_Stck_divide 115 rfl) rfl ?_
    refine w_iload (dk_Stck_divide 116 rfl) rfl ?_
    refine w_iadd (dk_Stck_divide 117 rfl) ?_
    obtain ⟨k5, e_k5, l_k5, h⟩ := h
    refine w_lald (k_ := k5) (dk_Stck_divide 118 rfl) rfl (by decide) e_k5 l_k5 ?_
    show WS _ _ _ _ [.long (aL u 43 k5), .long ((aL u 45 k4) ^^^ (-1))] _ _
    refine w_land (dk_Stck_divide 119 rfl) ?_
    refine w_lload (dk_Stck_divide 120 rfl) rfl ?_
    refine w_aload_n (dk_Stck_divide 121 rfl) rfl ?_
    refine w_getr (dk_Stck_divide 122 rfl) lk_Stck_18 rfl rfl rfl ?_
    refine w_iload (dk_Stck_divide 123 rfl) rfl ?_
    obtain ⟨k6, e_k6, l_k6, h⟩ := h
    refine w_lald (k_ := k6) (dk_Stck_divide 124 rfl) rfl (by decide) e_k6 l_k6 ?_
    show WS _ _ _ _ [.long (aL u 45 k6), .long x13, .long (((aL u 45 k4) ^^^ (-1)) &&& (aL u 43 k5))] _ _
    refine w_aload_n (dk_Stck_divide 125 rfl) rfl ?_
    refine w_getr (dk_Stck_divide 126 rfl) lk_Stck_9 rfl rfl rfl ?_
    refine w_iload_n (dk_Stck_divide 127 rfl) rfl ?_
    refine w_iload (dk_Stck_divide 128 rfl) rfl ?_
    refine w_iadd (dk_Stck_divide 129 rfl) ?_
    obtain ⟨k7, e_k7, l_k7, h⟩ := h
    refine w_lald (k_ := k7) (dk_Stck_divide 130 rfl) rfl (by decide) e_k7 l_k7 ?_
    show WS _ _ _ _ [.long (aL u 43 k7), .long (aL u 45 k6), .long x13, .long (((aL u 45 k4) ^^^ (-1)) &&& (aL u 43 k5))] _ _
    refine w_lxor (dk_Stck_divide 131 rfl) ?_
    refine w_ldc2 (dk_Stck_divide 132 rfl) kl_Stck_38 ?_
    refine w_lxor (dk_Stck_divide 133 rfl) ?_
    refine w_land (dk_Stck_divide 134 rfl) ?_
    refine w_lor (dk_Stck_divide 135 rfl) ?_
    refine w_lstore (ls' := [some (.ref 42), some (.int x1), some (.int x2), some (.int x3), some (.long x4), none, some (.long x6), none, some (.long x8), none, some (.int x10), some (.long x11), none, some (.long ((((aL u 45 k4) ^^^ (-1)) &&& (aL u 43 k5)) ||| (x13 &&& (((aL u 45 k6) ^^^ (aL u 43 k7)) ^^^ (-1))))), none, some (.int x15), none, none]) (dk_Stck_divide 136 rfl) (by decide) rfl ?_
    refine w_iinc (v := x15 + 1) (ls' := [some (.ref 42), some (.int x1), some (.int x2), some (.int x3), some (.long x4), none, some (.long x6), none, some (.long x8), none, some (.int x10), some (.long x11), none, some (.long ((((aL u 45 k4) ^^^ (-1)) &&& (aL u 43 k5)) ||| (x13 &&& (((aL u 45 k6) ^^^ (aL u 43 k7)) ^^^ (-1))))), none, some (.int (x15 + 1)), none, none]) (dk_Stck_divide 137 rfl) rfl rfl (by decide) rfl ?_
    refine w_goto 153 (dk_Stck_divide 138 rfl) (by decide) ?_
    exact h
theorem g_Stck_divide_255 {d : Nat} {u : Us} {Q : Ot → Us → Prop} (x1 : Int32) (x2 : Int32) (x3 : Int32) (x4 : Int64) (x6 : Int64) (x8 : Int64) (x10 : Int32) (x11 : Int64) (x13 : Int64) (x15 : Int64) (x17 : Int32)
    (h : (32 ≤ x17 → ∃ k1 : Nat, x2 + x10 = nI k1 ∧ k1 < 2560 ∧ (WS (d + 1) m_Stck_divide 87 [some (.ref 42), some (.int x1), some (.int x2), some (.int x3), some (.long x4), none, some (.long x6), none, some (.long x8), none, some (.int (x10 + (-1))), some (.long x11), none, some (.long x13), none, some (.long x15), none, some (.int x17)] [] (uL u 43 k1 x15) Q)) ∧ (¬ (32 ≤ x17) → ∃ k2 : Nat, x17 = nI k2 ∧ k2 < 32 ∧ (∃ k3 : Nat, x17 = nI k3 ∧ k3 < 32 ∧ (∃ k4 : Nat, x17 = nI k4 ∧ k4 < 32 ∧ (WS (d + 1) m_Stck_divide 255 [some (.ref 42), some (.int x1), some (.int x2), some (.int x3), some (.long x4), none, some (.long x6), none, some (.long x8), none, some (.int x10), some (.long x11), none, some (.long x13), none, some (.long x15), none, some (.int (x17 + 1))] [] (uL u 45 k4 (((aL u 45 k2) &&& (x15 ^^^ (-1))) ||| ((aL u 44 k3) &&& x15))) Q))))) :
    WS (d + 1) m_Stck_divide 255 [some (.ref 42), some (.int x1), some (.int x2), some (.int x3), some (.long x4), none, some (.long x6), none, some (.long x8), none, some (.int x10), some (.long x11), none, some (.long x13), none, some (.long x15), none, some (.int x17)] [] u Q := by
  refine w_iload (dk_Stck_divide 147 rfl) rfl ?_
  refine w_bipush (v := 32) (dk_Stck_divide 148 rfl) rfl ?_
  refine w_icmp_ge 300 (dk_Stck_divide 149 rfl) (by decide) (fun c_ => ?_) (fun c_ => ?_)
  · replace h := h.1 c_
    refine w_aload_n (dk_Stck_divide 171 rfl) rfl ?_
    refine w_getr (dk_Stck_divide 172 rfl) lk_Stck_9 rfl rfl rfl ?_
    refine w_iload_n (dk_Stck_divide 173 rfl) rfl ?_
    refine w_iload (dk_Stck_divide 174 rfl) rfl ?_
    refine w_iadd (dk_Stck_divide 175 rfl) ?_
    refine w_lload (dk_Stck_divide 176 rfl) rfl ?_
    obtain ⟨k1, e_k1, l_k1, h⟩ := h
    refine w_last (k_ := k1) (dk_Stck_divide 177 rfl) rfl (by decide) e_k1 l_k1 ?_
    refine w_iinc (v := x10 + (-1)) (ls' := [some (.ref 42), some (.int x1), some (.int x2), some (.int x3), some (.long x4), none, some (.long x6), none, some (.long x8), none, some (.int (x10 + (-1))), some (.long x11), none, some (.long x13), none, some (.long x15), none, some (.int x17)]) (dk_Stck_divide 178 rfl) rfl rfl (by decide) rfl ?_
    refine w_goto 87 (dk_Stck_divide 179 rfl) (by decide) ?_
    exact h
  · replace h := h.2 c_
    refine w_aload_n (dk_Stck_divide 150 rfl) rfl ?_
    refine w_getr (dk_Stck_divide 151 rfl) lk_Stck_18 rfl rfl rfl ?_
    refine w_iload (dk_Stck_divide 152 rfl) rfl ?_
    refine w_aload_n (dk_Stck_divide 153 rfl) rfl ?_
    refine w_getr (dk_Stck_divide 154 rfl) lk_Stck_18 rfl rfl rfl ?_
    refine w_iload (dk_Stck_divide 155 rfl) rfl ?_
    obtain ⟨k2, e_k2, l_k2, h⟩ := h
    refine w_lald (k_ := k2) (dk_Stck_divide 156 rfl) rfl (by decide) e_k2 l_k2 ?_
    refine w_lload (dk_Stck_divide 157 rfl) rfl ?_
    refine w_ldc2 (dk_Stck_divide 158 rfl) kl_Stck_38 ?_
    refine w_lxor (dk_Stck_divide 159 rfl) ?_
    refine w_land (dk_Stck_divide 160 rfl) ?_
    refine w_aload_n (dk_Stck_divide 161 rfl) rfl ?_
    refine w_getr (dk_Stck_divide 162 rfl) lk_Stck_15 rfl rfl rfl ?_
    refine w_iload (dk_Stck_divide 163 rfl) rfl ?_
    obtain ⟨k3, e_k3, l_k3, h⟩ := h
    refine w_lald (k_ := k3) (dk_Stck_divide 164 rfl) rfl (by decide) e_k3 l_k3 ?_
    refine w_lload (dk_Stck_divide 165 rfl) rfl ?_
    refine w_land (dk_Stck_divide 166 rfl) ?_
    refine w_lor (dk_Stck_divide 167 rfl) ?_
    obtain ⟨k4, e_k4, l_k4, h⟩ := h
    refine w_last (k_ := k4) (dk_Stck_divide 168 rfl) rfl (by decide) e_k4 l_k4 ?_
    refine w_iinc (v := x17 + 1) (ls' := [some (.ref 42), some (.int x1), some (.int x2), some (.int x3), some (.long x4), none, some (.long x6), none, some (.long x8), none, some (.int x10), some (.long x11), none, some (.long x13), none, some (.long x15), none, some (.int (x17 + 1))]) (dk_Stck_divide 169 rfl) rfl rfl (by decide) rfl ?_
    refine w_goto 255 (dk_Stck_divide 170 rfl) (by decide) ?_
    exact h
theorem g_Stck_divide_320 {d : Nat} {u : Us} {Q : Ot → Us → Prop} (x1 : Int32) (x2 : Int32) (x3 : Int32) (x4 : Int64) (x6 : Int64) (x8 : Int64) (x10 : Int32)
    (h : (32 ≤ x10 → WS (d + 1) m_Stck_divide 356 [some (.ref 42), some (.int x1), some (.int x2), some (.int x3), some (.long x4), none, some (.long x6), none, some (.long x8), none, some (.int 0), none, none, none, none, none, none, none] [] u Q) ∧ (¬ (32 ≤ x10) → (x1 = 0 → WS (d + 1) m_Stck_divide 356 [some (.ref 42), some (.int x1), some (.int x2), some (.int x3), some (.long x4), none, some (.long x6), none, some (.long x8), none, some (.int 0), none, none, none, none, none, none, none] [] u Q) ∧ (¬ (x1 = 0) → ∃ k1 : Nat, x10 = nI k1 ∧ k1 < 32 ∧ (∃ k2 : Nat, x2 + x10 = nI k2 ∧ k2 < 2560 ∧ (WS (d + 1) m_Stck_divide 320 [some (.ref 42), some (.int x1), some (.int x2), some (.int x3), some (.long x4), none, some (.long x6), none, some (.long x8), none, some (.int (x10 + 1)), none, none, none, none, none, none, none] [] (uL u 43 k2 (aL u 45 k1)) Q))))) :
    WS (d + 1) m_Stck_divide 320 [some (.ref 42), some (.int x1), some (.int x2), some (.int x3), some (.long x4), none, some (.long x6), none, some (.long x8), none, some (.int x10), none, none, none, none, none, none, none] [] u Q := by
  refine w_iload (dk_Stck_divide 182 rfl) rfl ?_
  refine w_bipush (v := 32) (dk_Stck_divide 183 rfl) rfl ?_
  refine w_icmp_ge 353 (dk_Stck_divide 184 rfl) (by decide) (fun c_ => ?_) (fun c_ => ?_)
  · replace h := h.1 c_
    refine w_iconst (v := 0) (dk_Stck_divide 199 rfl) rfl ?_
    refine w_istore (ls' := [some (.ref 42), some (.int x1), some (.int x2), some (.int x3), some (.long x4), none, some (.long x6), none, some (.long x8), none, some (.int 0), none, none, none, none, none, none, none]) (dk_Stck_divide 200 rfl) (by decide) rfl ?_
    exact h
  · replace h := h.2 c_
    refine w_iload_n (dk_Stck_divide 185 rfl) rfl ?_
    refine w_if_eq 353 (dk_Stck_divide 186 rfl) (by decide) (fun c_ => ?_) (fun c_ => ?_)
    · replace h := h.1 c_
      refine w_iconst (v := 0) (dk_Stck_divide 199 rfl) rfl ?_
      refine w_istore (ls' := [some (.ref 42), some (.int x1), some (.int x2), some (.int x3), some (.long x4), none, some (.long x6), none, some (.long x8), none, some (.int 0), none, none, none, none, none, none, none]) (dk_Stck_divide 200 rfl) (by decide) rfl ?_
      exact h
    · replace h := h.2 c_
      refine w_aload_n (dk_Stck_divide 187 rfl) rfl ?_
      refine w_getr (dk_Stck_divide 188 rfl) lk_Stck_9 rfl rfl rfl ?_
      refine w_iload_n (dk_Stck_divide 189 rfl) rfl ?_
      refine w_iload (dk_Stck_divide 190 rfl) rfl ?_
      refine w_iadd (dk_Stck_divide 191 rfl) ?_
      refine w_aload_n (dk_Stck_divide 192 rfl) rfl ?_
      refine w_getr (dk_Stck_divide 193 rfl) lk_Stck_18 rfl rfl rfl ?_
      refine w_iload (dk_Stck_divide 194 rfl) rfl ?_
      obtain ⟨k1, e_k1, l_k1, h⟩ := h
      refine w_lald (k_ := k1) (dk_Stck_divide 195 rfl) rfl (by decide) e_k1 l_k1 ?_
      obtain ⟨k2, e_k2, l_k2, h⟩ := h
      refine w_last (k_ := k2) (dk_Stck_divide 196 rfl) rfl (by decide) e_k2 l_k2 ?_
      refine w_iinc (v := x10 + 1) (ls' := [some (.ref 42), some (.int x1), some (.int x2), some (.int x3), some (.long x4), none, some (.long x6), none, some (.long x8), none, some (.int (x10 + 1)), none, none, none, none, none, none, none]) (dk_Stck_divide 197 rfl) rfl rfl (by decide) rfl ?_
      refine w_goto 320 (dk_Stck_divide 198 rfl) (by decide) ?_
      exact h
theorem g_Stck_divide_356 {d : Nat} {u : Us} {Q : Ot → Us → Prop} (x1 : Int32) (x2 : Int32) (x3 : Int32) (x4 : Int64) (x6 : Int64) (x8 : Int64) (x10 : Int32)
    (h : (32 ≤ x10 → (x1 = 0 → WS d m_Stck_negate1 0 [some (.ref 42), some (.int x2), some (.long (x4 ^^^ x6)), none, none, none, none, none, none] [] u (Rv (fun (u2 : Us) => Q (.inl none) u2) (fun x u => Q (.inr x) u))) ∧ (¬ (x1 = 0) → WS d m_Stck_negate1 0 [some (.ref 42), some (.int x2), some (.long x4), none, none, none, none, none, none] [] u (Rv (fun (u4 : Us) => Q (.inl none) u4) (fun x u => Q (.inr x) u)))) ∧ (¬ (32 ≤ x10) → ∃ k5 : Nat, x2 + x10 = nI k5 ∧ k5 < 2560 ∧ (∃ k6 : Nat, x2 + x10 = nI k6 ∧ k6 < 2560 ∧ (WS (d + 1) m_Stck_divide 356 [some (.ref 42), some (.int x1), some (.int x2), some (.int x3), some (.long x4), none, some (.long x6), none, some (.long x8), none, some (.int (x10 + 1)), none, none, none, none, none, none, none] [] (uL u 43 k6 ((aL u 43 k5) &&& (x8 ^^^ (-1)))) Q)))) :
    WS (d + 1) m_Stck_divide 356 [some (.ref 42), some (.int x1), some (.int x2), some (.int x3), some (.long x4), none, some (.long x6), none, some (.long x8), none, some (.int x10), none, none, none, none, none, none, none] [] u Q := by
  refine w_iload (dk_Stck_divide 201 rfl) rfl ?_
  refine w_bipush (v := 32) (dk_Stck_divide 202 rfl) rfl ?_
  refine w_icmp_ge 387 (dk_Stck_divide 203 rfl) (by decide) (fun c_ => ?_) (fun c_ => ?_)
  · replace h := h.1 c_
    refine w_aload_n (dk_Stck_divide 218 rfl) rfl ?_
    refine w_iload_n (dk_Stck_divide 219 rfl) rfl ?_
    refine w_iload_n (dk_Stck_divide 220 rfl) rfl ?_
    refine w_if_eq 398 (dk_Stck_divide 221 rfl) (by decide) (fun c_ => ?_) (fun c_ => ?_)
    · replace h := h.1 c_
      refine w_lload (dk_Stck_divide 224 rfl) rfl ?_
      refine w_lload (dk_Stck_divide 225 rfl) rfl ?_
      refine w_lxor (dk_Stck_divide 226 rfl) ?_
      refine w_callVv (ls' := [some (.ref 42), some (.int x2), some (.long (x4 ^^^ x6)), none, none, none, none, none, none]) cv_Stck_44 (dk_Stck_divide 227 rfl) (ci := 8) rfl rfl [.int x2, .long (x4 ^^^ x6)] [] rfl rfl (Nat.le_of_ble_eq_true rfl) (Nat.le_of_ble_eq_true rfl) rfl rfl rfl h (fun u2 h => ?_)
      exact w_vret (dk_Stck_divide 228 rfl) rfl h
    · replace h := h.2 c_
      refine w_lload (dk_Stck_divide 222 rfl) rfl ?_
      refine w_goto 403 (dk_Stck_divide 223 rfl) (by decide) ?_
      refine w_callVv (ls' := [some (.ref 42), some (.int x2), some (.long x4), none, none, none, none, none, none]) cv_Stck_44 (dk_Stck_divide 227 rfl) (ci := 8) rfl rfl [.int x2, .long x4] [] rfl rfl (Nat.le_of_ble_eq_true rfl) (Nat.le_of_ble_eq_true rfl) rfl rfl rfl h (fun u4 h => ?_)
      exact w_vret (dk_Stck_divide 228 rfl) rfl h
  · replace h := h.2 c_
    refine w_aload_n (dk_Stck_divide 204 rfl) rfl ?_
    refine w_getr (dk_Stck_divide 205 rfl) lk_Stck_9 rfl rfl rfl ?_
    refine w_iload_n (dk_Stck_divide 206 rfl) rfl ?_
    refine w_iload (dk_Stck_divide 207 rfl) rfl ?_
    refine w_iadd (dk_Stck_divide 208 rfl) ?_
    refine w_dup2 (dk_Stck_divide 209 rfl) rfl rfl ?_
    obtain ⟨k5, e_k5, l_k5, h⟩ := h
    refine w_lald (k_ := k5) (dk_Stck_divide 210 rfl) rfl (by decide) e_k5 l_k5 ?_
    refine w_lload (dk_Stck_divide 211 rfl) rfl ?_
    refine w_ldc2 (dk_Stck_divide 212 rfl) kl_Stck_38 ?_
    refine w_lxor (dk_Stck_divide 213 rfl) ?_
    refine w_land (dk_Stck_divide 214 rfl) ?_
    obtain ⟨k6, e_k6, l_k6, h⟩ := h
    refine w_last (k_ := k6) (dk_Stck_divide 215 rfl) rfl (by decide) e_k6 l_k6 ?_
    refine w_iinc (v := x10 + 1) (ls' := [some (.ref 42), some (.int x1), some (.int x2), some (.int x3), some (.long x4), none, some (.long x6), none, some (.long x8), none, some (.int (x10 + 1)), none, none, none, none, none, none, none]) (dk_Stck_divide 216 rfl) rfl rfl (by decide) rfl ?_
    refine w_goto 356 (dk_Stck_divide 217 rfl) (by decide) ?_
    exact h
