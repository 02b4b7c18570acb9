theorem g_Mod_wordIs_0 {d : Nat} {u : Us} {Q : Ot → Us → Prop} (p1 : Int32) (p2 : Int64)
    (h : WS d m_Mod_nameOf 0 [some (.long p2), none, none, none, none, none, none] [] u (Rl (fun (r1 : Int64) (u2 : Us) => ∃ k3 : Nat, p1 = nI k3 ∧ k3 < 20 ∧ (Q (.inl none) (uL u2 66 k3 r1))) (fun x u => Q (.inr x) u))) :
    WS (d + 1) m_Mod_wordIs 0 [some (.ref 52), some (.int p1), some (.long p2), none] [] u Q := by
  refine w_aload_n (dk_Mod_wordIs 0 rfl) rfl ?_
  refine w_getr (dk_Mod_wordIs 1 rfl) lk_Mod_69 rfl rfl rfl ?_
  refine w_iload_n (dk_Mod_wordIs 2 rfl) rfl ?_
  refine w_lload_n (dk_Mod_wordIs 3 rfl) rfl ?_
  refine w_callSl (ls' := [some (.long p2), none, none, none, none, none, none]) cv_Mod_208 (dk_Mod_wordIs 4 rfl) [.long p2] [.int p1, .ref 66] rfl rfl (Nat.le_of_ble_eq_true rfl) (Nat.le_of_ble_eq_true rfl) rfl rfl rfl h (fun r1 u2 h => ?_)
  obtain ⟨k3, e_k3, l_k3, h⟩ := h
  refine w_last (k_ := k3) (dk_Mod_wordIs 5 rfl) rfl (by decide) e_k3 l_k3 ?_
  exact w_vret (dk_Mod_wordIs 6 rfl) rfl h
theorem g_Mod_nameOf_0 {d : Nat} {u : Us} {Q : Ot → Us → Prop} (p1 : Int64)
    (h : WS d m_Mod_nameOf 6 [some (.long p1), none, some (.long 0), none, some (.int 56), none, none] [] u Q) :
    WS d m_Mod_nameOf 0 [some (.long p1), none, none, none, none, none, none] [] u Q := by
  refine w_lconst (v := 0) (dk_Mod_nameOf 0 rfl) rfl ?_
  refine w_lstore_n (ls' := [some (.long p1), none, some (.long 0), none, none, none, none]) (dk_Mod_nameOf 1 rfl) (by decide) rfl ?_
  refine w_bipush (v := 56) (dk_Mod_nameOf 2 rfl) rfl ?_
  refine w_istore (ls' := [some (.long p1), none, some (.long 0), none, some (.int 56), none, none]) (dk_Mod_nameOf 3 rfl) (by decide) rfl ?_
  exact h
theorem g_Mod_nameOf_6 {d : Nat} {u : Us} {Q : Ot → Us → Prop} (x0 : Int64) (x2 : Int64) (x4 : Int32)
    (h : (x4 < 0 → Q (.inl (some (.long x2))) u) ∧ (¬ (x4 < 0) → (((x0 >>> (Int32.toInt64 x4 &&& 63)) &&& 255) = 0 → WS d m_Mod_nameOf 6 [some (.long x0), none, some (.long x2), none, some (.int (x4 + (-8))), some (.long ((x0 >>> (Int32.toInt64 x4 &&& 63)) &&& 255)), none] [] u Q) ∧ (((x0 >>> (Int32.toInt64 x4 &&& 63)) &&& 255) ≠ 0 → WS d m_Mod_nameOf 6 [some (.long x0), none, some (.long (((x2 * 27) + ((x0 >>> (Int32.toInt64 x4 &&& 63)) &&& 255)) - 96)), none, some (.int (x4 + (-8))), some (.long ((x0 >>> (Int32.toInt64 x4 &&& 63)) &&& 255)), none] [] u Q))) :
    WS d m_Mod_nameOf 6 [some (.long x0), none, some (.long x2), none, some (.int x4), none, none] [] u Q := by
  refine w_iload (dk_Mod_nameOf 4 rfl) rfl ?_
  refine w_if_lt 47 (dk_Mod_nameOf 5 rfl) (by decide) (fun c_ => ?_) (fun c_ => ?_)
  · replace h := h.1 c_
    refine w_lload_n (dk_Mod_nameOf 26 rfl) rfl ?_
    exact w_lret (dk_Mod_nameOf 27 rfl) rfl h
  · replace h := h.2 c_
    refine w_lload_n (dk_Mod_nameOf 6 rfl) rfl ?_
    refine w_iload (dk_Mod_nameOf 7 rfl) rfl ?_
    refine w_lshr (dk_Mod_nameOf 8 rfl) ?_
    refine w_ldc2 (dk_Mod_nameOf 9 rfl) kl_Mod_202 ?_
    refine w_land (dk_Mod_nameOf 10 rfl) ?_
    refine w_lstore (ls' := [some (.long x0), none, some (.long x2), none, some (.int x4), some (.long ((x0 >>> (Int32.toInt64 x4 &&& 63)) &&& 255)), none]) (dk_Mod_nameOf 11 rfl) (by decide) rfl ?_
    refine w_lload (dk_Mod_nameOf 12 rfl) rfl ?_
    refine w_lconst (v := 0) (dk_Mod_nameOf 13 rfl) rfl ?_
    refine w_lcmp_eq 41 (dk_Mod_nameOf 14 rfl) (dk_Mod_nameOf 15 rfl) (by decide) (fun c_ => ?_) (fun c_ => ?_)
    · replace h := h.1 c_
      refine w_iinc (v := x4 + (-8)) (ls' := [some (.long x0), none, some (.long x2), none, some (.int (x4 + (-8))), some (.long ((x0 >>> (Int32.toInt64 x4 &&& 63)) &&& 255)), none]) (dk_Mod_nameOf 24 rfl) rfl rfl (by decide) rfl ?_
      refine w_goto 6 (dk_Mod_nameOf 25 rfl) (by decide) ?_
      exact h
    · replace h := h.2 c_
      refine w_lload_n (dk_Mod_nameOf 16 rfl) rfl ?_
      refine w_ldc2 (dk_Mod_nameOf 17 rfl) kl_Mod_204 ?_
      refine w_lmul (dk_Mod_nameOf 18 rfl) ?_
      refine w_lload (dk_Mod_nameOf 19 rfl) rfl ?_
      refine w_ladd (dk_Mod_nameOf 20 rfl) ?_
      refine w_ldc2 (dk_Mod_nameOf 21 rfl) kl_Mod_206 ?_
      refine w_lsub (dk_Mod_nameOf 22 rfl) ?_
      refine w_lstore_n (ls' := [some (.long x0), none, some (.long (((x2 * 27) + ((x0 >>> (Int32.toInt64 x4 &&& 63)) &&& 255)) - 96)), none, some (.int x4), some (.long ((x0 >>> (Int32.toInt64 x4 &&& 63)) &&& 255)), none]) (dk_Mod_nameOf 23 rfl) (by decide) rfl ?_
      refine w_iinc (v := x4 + (-8)) (ls' := [some (.long x0), none, some (.long (((x2 * 27) + ((x0 >>> (Int32.toInt64 x4 &&& 63)) &&& 255)) - 96)), none, some (.int (x4 + (-8))), some (.long ((x0 >>> (Int32.toInt64 x4 &&& 63)) &&& 255)), none]) (dk_Mod_nameOf 24 rfl) rfl rfl (by decide) rfl ?_
      refine w_goto 6 (dk_Mod_nameOf 25 rfl) (by decide) ?_
      exact h
theorem g_Mod_thrown_0 {d : Nat} {u : Us} {Q : Ot → Us → Prop} 
    (h : Q (.inl (some (.int (aI u 52 0)))) u) :
    WS d m_Mod_thrown 0 [some (.ref 52)] [] u Q := by
  refine w_aload_n (dk_Mod_thrown 0 rfl) rfl ?_
  refine w_geti (v := aI u 52 0) (dk_Mod_thrown 1 rfl) lk_Mod_7 rfl rfl rfl ?_
  exact w_iret (dk_Mod_thrown 2 rfl) rfl h
theorem g_Mod_feed_0 {d : Nat} {u : Us} {Q : Ot → Us → Prop} (p1 : Int64) (p2 : Int32)
    (h : (p2 < 1 → Q (.inl (some (.int 0))) (uI u 52 0 1)) ∧ (¬ (p2 < 1) → (p2 ≤ 8 → (((aI u 52 2) + p2) ≤ 500 → WS d m_Mod_feed 50 [some (.ref 52), some (.long p1), none, some (.int p2), some (.int (p2 - 1))] [] (uI u 52 0 0) Q) ∧ (¬ (((aI u 52 2) + p2) ≤ 500) → Q (.inl (some (.int 0))) (uI u 52 0 2))) ∧ (¬ (p2 ≤ 8) → Q (.inl (some (.int 0))) (uI u 52 0 1)))) :
    WS d m_Mod_feed 0 [some (.ref 52), some (.long p1), none, some (.int p2), none] [] u Q := by
  refine w_aload_n (dk_Mod_feed 0 rfl) rfl ?_
  refine w_iload_n (dk_Mod_feed 1 rfl) rfl ?_
  refine w_iconst (v := 1) (dk_Mod_feed 2 rfl) rfl ?_
  refine w_icmp_lt 12 (dk_Mod_feed 3 rfl) (by decide) (fun c_ => ?_) (fun c_ => ?_)
  · replace h := h.1 c_
    refine w_iconst (v := 1) (dk_Mod_feed 7 rfl) rfl ?_
    refine w_goto 33 (dk_Mod_feed 8 rfl) (by decide) ?_
    refine w_puti (dk_Mod_feed 18 rfl) lk_Mod_7 rfl rfl ?_
    refine w_aload_n (dk_Mod_feed 19 rfl) rfl ?_
    refine w_geti (v := 1) (dk_Mod_feed 20 rfl) lk_Mod_7 rfl rfl rfl ?_
    refine w_if_eq_f (dk_Mod_feed 21 rfl) 45 (by decide) (by decide) ?_
    refine w_iconst (v := 0) (dk_Mod_feed 22 rfl) rfl ?_
    exact w_iret (dk_Mod_feed 23 rfl) rfl h
  · replace h := h.2 c_
    refine w_iload_n (dk_Mod_feed 4 rfl) rfl ?_
    refine w_bipush (v := 8) (dk_Mod_feed 5 rfl) rfl ?_
    refine w_icmp_le 16 (dk_Mod_feed 6 rfl) (by decide) (fun c_ => ?_) (fun c_ => ?_)
    · replace h := h.1 c_
      refine w_aload_n (dk_Mod_feed 9 rfl) rfl ?_
      refine w_geti (v := aI u 52 2) (dk_Mod_feed 10 rfl) lk_Mod_17 rfl rfl rfl ?_
      refine w_iload_n (dk_Mod_feed 11 rfl) rfl ?_
      refine w_iadd (dk_Mod_feed 12 rfl) ?_
      refine w_sipush (v := 500) (dk_Mod_feed 13 rfl) rfl ?_
      refine w_icmp_le 32 (dk_Mod_feed 14 rfl) (by decide) (fun c_ => ?_) (fun c_ => ?_)
      · replace h := h.1 c_
        refine w_iconst (v := 0) (dk_Mod_feed 17 rfl) rfl ?_
        refine w_puti (dk_Mod_feed 18 rfl) lk_Mod_7 rfl rfl ?_
        refine w_aload_n (dk_Mod_feed 19 rfl) rfl ?_
        refine w_geti (v := 0) (dk_Mod_feed 20 rfl) lk_Mod_7 rfl rfl rfl ?_
        refine w_if_eq_t 45 (dk_Mod_feed 21 rfl) (by decide) (by decide) ?_
        refine w_iload_n (dk_Mod_feed 24 rfl) rfl ?_
        refine w_iconst (v := 1) (dk_Mod_feed 25 rfl) rfl ?_
        refine w_isub (dk_Mod_feed 26 rfl) ?_
        refine w_istore (ls' := [some (.ref 52), some (.long p1), none, some (.int p2), some (.int (p2 - 1))]) (dk_Mod_feed 27 rfl) (by decide) rfl ?_
        exact h
      · replace h := h.2 c_
        refine w_iconst (v := 2) (dk_Mod_feed 15 rfl) rfl ?_
        refine w_goto 33 (dk_Mod_feed 16 rfl) (by decide) ?_
        refine w_puti (dk_Mod_feed 18 rfl) lk_Mod_7 rfl rfl ?_
        refine w_aload_n (dk_Mod_feed 19 rfl) rfl ?_
        refine w_geti (v := 2) (dk_Mod_feed 20 rfl) lk_Mod_7 rfl rfl rfl ?_
        refine w_if_eq_f (dk_Mod_feed 21 rfl) 45 (by decide) (by decide) ?_
        refine w_iconst (v := 0) (dk_Mod_feed 22 rfl) rfl ?_
        exact w_iret (dk_Mod_feed 23 rfl) rfl h
    · replace h := h.2 c_
      refine w_iconst (v := 1) (dk_Mod_feed 7 rfl) rfl ?_
      refine w_goto 33 (dk_Mod_feed 8 rfl) (by decide) ?_
      refine w_puti (dk_Mod_feed 18 rfl) lk_Mod_7 rfl rfl ?_
      refine w_aload_n (dk_Mod_feed 19 rfl) rfl ?_
      refine w_geti (v := 1) (dk_Mod_feed 20 rfl) lk_Mod_7 rfl rfl rfl ?_
      refine w_if_eq_f (dk_Mod_feed 21 rfl) 45 (by decide) (by decide) ?_
      refine w_iconst (v := 0) (dk_Mod_feed 22 rfl) rfl ?_
      exact w_iret (dk_Mod_feed 23 rfl) rfl h
theorem g_Mod_feed_50 {d : Nat} {u : Us} {Q : Ot → Us → Prop} (x1 : Int64) (x3 : Int32) (x4 : Int32)
    (h : (x4 < 0 → Q (.inl (some (.int (aI u 52 2)))) u) ∧ (¬ (x4 < 0) → ∃ k1 : Nat, aI u 52 2 = nI k1 ∧ k1 < 500 ∧ (WS d m_Mod_feed 50 [some (.ref 52), some (.long x1), none, some (.int x3), some (.int (x4 + (-1)))] [] (uI (uI u 53 k1 ((Int64.toInt32 (x1 >>> (Int32.toInt64 (8 * x4) &&& 63))) &&& 255)) 52 2 ((aI u 52 2) + 1)) Q))) :
    WS d m_Mod_feed 50 [some (.ref 52), some (.long x1), none, some (.int x3), some (.int x4)] [] u Q := by
  refine w_iload (dk_Mod_feed 28 rfl) rfl ?_
  refine w_if_lt 92 (dk_Mod_feed 29 rfl) (by decide) (fun c_ => ?_) (fun c_ => ?_)
  · replace h := h.1 c_
    refine w_aload_n (dk_Mod_feed 51 rfl) rfl ?_
    refine w_geti (v := aI u 52 2) (dk_Mod_feed 52 rfl) lk_Mod_17 rfl rfl rfl ?_
    exact w_iret (dk_Mod_feed 53 rfl) rfl h
  · replace h := h.2 c_
    refine w_aload_n (dk_Mod_feed 30 rfl) rfl ?_
    refine w_getr (dk_Mod_feed 31 rfl) lk_Mod_13 rfl rfl rfl ?_
    refine w_aload_n (dk_Mod_feed 32 rfl) rfl ?_
    refine w_geti (v := aI u 52 2) (dk_Mod_feed 33 rfl) lk_Mod_17 rfl rfl rfl ?_
    refine w_lload_n (dk_Mod_feed 34 rfl) rfl ?_
    refine w_bipush (v := 8) (dk_Mod_feed 35 rfl) rfl ?_
    refine w_iload (dk_Mod_feed 36 rfl) rfl ?_
    refine w_imul (dk_Mod_feed 37 rfl) ?_
    refine w_lshr (dk_Mod_feed 38 rfl) ?_
    refine w_l2i (dk_Mod_feed 39 rfl) ?_
    refine w_sipush (v := 255) (dk_Mod_feed 40 rfl) rfl ?_
    refine w_iand (dk_Mod_feed 41 rfl) ?_
    obtain ⟨k1, e_k1, l_k1, h⟩ := h
    refine w_iast (k_ := k1) (dk_Mod_feed 42 rfl) rfl (by decide) e_k1 l_k1 ?_
    refine w_aload_n (dk_Mod_feed 43 rfl) rfl ?_
    refine w_dup (dk_Mod_feed 44 rfl) rfl ?_
    refine w_geti (v := aI u 52 2) (dk_Mod_feed 45 rfl) lk_Mod_17 rfl rfl rfl ?_
    refine w_iconst (v := 1) (dk_Mod_feed 46 rfl) rfl ?_
    refine w_iadd (dk_Mod_feed 47 rfl) ?_
    refine w_puti (dk_Mod_feed 48 rfl) lk_Mod_17 rfl rfl ?_
    refine w_iinc (v := x4 + (-1)) (ls' := [some (.ref 52), some (.long x1), none, some (.int x3), some (.int (x4 + (-1)))]) (dk_Mod_feed 49 rfl) rfl rfl (by decide) rfl ?_
    refine w_goto 50 (dk_Mod_feed 50 rfl) (by decide) ?_
    exact h
theorem g_Mod_load_0 {d : Nat} {u : Us} {Q : Ot → Us → Prop} 
    (h : WS d m_Mod_scan 0 [some (.ref 52), none] [] u (Rv (fun (u2 : Us) => WS d m_Mod_compile 0 [some (.ref 52), none] [] u2 (Ri (fun (r3 : Int32) (u4 : Us) => (r3 = 0 ∨ r3 = 1) ∧ ((r3 ≠ 0 → (r3 = 0 → (r3 ≠ 0 → Q (.inl (some (.int (aI u4 52 18)))) (uI (uI (uI (uI u4 52 23 r3) 52 22 (-1)) 52 0 1) 52 2 0)) ∧ (r3 = 0 → Q (.inl (some (.int 0))) (uI (uI (uI (uI (uI (uI u4 52 23 r3) 52 22 (-1)) 52 0 1) 52 2 0) 52 3 (aI u 52 3)) 52 8 (aI u 52 8)))) ∧ (¬ (r3 = 0) → (r3 ≠ 0 → Q (.inl (some (.int (aI u4 52 18)))) (uI (uI (uI (uI u4 52 23 r3) 52 22 (-1)) 52 0 0) 52 2 0)) ∧ (r3 = 0 → Q (.inl (some (.int 0))) (uI (uI (uI (uI (uI (uI u4 52 23 r3) 52 22 (-1)) 52 0 0) 52 2 0) 52 3 (aI u 52 3)) 52 8 (aI u 52 8))))) ∧ (r3 = 0 → ((aI u4 52 21) ≠ 1000 → (r3 = 0 → (r3 ≠ 0 → Q (.inl (some (.int (aI u4 52 18)))) (uI (uI (uI (uI u4 52 23 r3) 52 22 (aI u4 52 21)) 52 0 1) 52 2 0)) ∧ (r3 = 0 → Q (.inl (some (.int 0))) (uI (uI (uI (uI (uI (uI u4 52 23 r3) 52 22 (aI u4 52 21)) 52 0 1) 52 2 0) 52 3 (aI u 52 3)) 52 8 (aI u 52 8)))) ∧ (¬ (r3 = 0) → (r3 ≠ 0 → Q (.inl (some (.int (aI u4 52 18)))) (uI (uI (uI (uI u4 52 23 r3) 52 22 (aI u4 52 21)) 52 0 0) 52 2 0)) ∧ (r3 = 0 → Q (.inl (some (.int 0))) (uI (uI (uI (uI (uI (uI u4 52 23 r3) 52 22 (aI u4 52 21)) 52 0 0) 52 2 0) 52 3 (aI u 52 3)) 52 8 (aI u 52 8))))) ∧ ((aI u4 52 21) = 1000 → (r3 = 0 → (r3 ≠ 0 → Q (.inl (some (.int (aI u4 52 18)))) (uI (uI (uI (uI u4 52 23 r3) 52 22 (-1)) 52 0 1) 52 2 0)) ∧ (r3 = 0 → Q (.inl (some (.int 0))) (uI (uI (uI (uI (uI (uI u4 52 23 r3) 52 22 (-1)) 52 0 1) 52 2 0) 52 3 (aI u 52 3)) 52 8 (aI u 52 8)))) ∧ (¬ (r3 = 0) → (r3 ≠ 0 → Q (.inl (some (.int (aI u4 52 18)))) (uI (uI (uI (uI u4 52 23 r3) 52 22 (-1)) 52 0 0) 52 2 0)) ∧ (r3 = 0 → Q (.inl (some (.int 0))) (uI (uI (uI (uI (uI (uI u4 52 23 r3) 52 22 (-1)) 52 0 0) 52 2 0) 52 3 (aI u 52 3)) 52 8 (aI u 52 8)))))))) (fun x u => Q (.inr x) u))) (fun x u => Q (.inr x) u))) :
    WS (d + 1) m_Mod_load 0 [some (.ref 52), none, none] [] u Q := by
  refine w_aload_n (dk_Mod_load 0 rfl) rfl ?_
  refine w_geti (v := aI u 52 3) (dk_Mod_load 1 rfl) lk_Mod_20 rfl rfl rfl ?_
  refine w_istore_n (ls' := [some (.ref 52), some (.int (aI u 52 3)), none]) (dk_Mod_load 2 rfl) (by decide) rfl ?_
  refine w_aload_n (dk_Mod_load 3 rfl) rfl ?_
  refine w_geti (v := aI u 52 8) (dk_Mod_load 4 rfl) lk_Mod_36 rfl rfl rfl ?_
  refine w_istore_n (ls' := [some (.ref 52), some (.int (aI u 52 3)), some (.int (aI u 52 8))]) (dk_Mod_load 5 rfl) (by decide) rfl ?_
  refine w_aload_n (dk_Mod_load 6 rfl) rfl ?_
  refine w_callVv (ls' := [some (.ref 52), none]) cv_Mod_414 (dk_Mod_load 7 rfl) (ci := 10) rfl rfl [] [] rfl rfl (Nat.le_of_ble_eq_true rfl) (Nat.le_of_ble_eq_true rfl) rfl rfl rfl h (fun u2 h => ?_)
  refine w_aload_n (dk_Mod_load 8 rfl) rfl ?_
  refine w_aload_n (dk_Mod_load 9 rfl) rfl ?_
  refine w_callVi (ls' := [some (.ref 52), none]) cv_Mod_417 (dk_Mod_load 10 rfl) (ci := 10) rfl rfl [] [.ref 52] rfl rfl (Nat.le_of_ble_eq_true rfl) (Nat.le_of_ble_eq_true rfl) rfl rfl rfl h (fun r3 u4 h => ?_)
  obtain ⟨hz, h⟩ := h
  refine w_putz (dk_Mod_load 11 rfl) lk_Mod_81 rfl rfl hz ?_
  refine w_aload_n (dk_Mod_load 12 rfl) rfl ?_
  refine w_aload_n (dk_Mod_load 13 rfl) rfl ?_
  refine w_geti (v := r3) (dk_Mod_load 14 rfl) lk_Mod_81 rfl rfl rfl ?_
  refine w_if_ne 40 (dk_Mod_load 15 rfl) (by decide) (fun c_ => ?_) (fun c_ => ?_)
  · replace h := h.1 c_
    refine w_iconst (v := (-1)) (dk_Mod_load 20 rfl) rfl ?_
    refine w_goto 48 (dk_Mod_load 21 rfl) (by decide) ?_
    refine w_puti (dk_Mod_load 24 rfl) lk_Mod_78 rfl rfl ?_
    refine w_aload_n (dk_Mod_load 25 rfl) rfl ?_
    refine w_aload_n (dk_Mod_load 26 rfl) rfl ?_
    refine w_geti (v := r3) (dk_Mod_load 27 rfl) lk_Mod_81 rfl rfl rfl ?_
    refine w_if_eq 63 (dk_Mod_load 28 rfl) (by decide) (fun c_ => ?_) (fun c_ => ?_)
    · replace h := h.1 c_
      refine w_iconst (v := 1) (dk_Mod_load 31 rfl) rfl ?_
      refine w_puti (dk_Mod_load 32 rfl) lk_Mod_7 rfl rfl ?_
      refine w_aload_n (dk_Mod_load 33 rfl) rfl ?_
      refine w_iconst (v := 0) (dk_Mod_load 34 rfl) rfl ?_
      refine w_puti (dk_Mod_load 35 rfl) lk_Mod_17 rfl rfl ?_
      refine w_aload_n (dk_Mod_load 36 rfl) rfl ?_
      refine w_geti (v := r3) (dk_Mod_load 37 rfl) lk_Mod_81 rfl rfl rfl ?_
      refine w_if_ne 91 (dk_Mod_load 38 rfl) (by decide) (fun c_ => ?_) (fun c_ => ?_)
      · replace h := h.1 c_
        refine w_aload_n (dk_Mod_load 47 rfl) rfl ?_
        refine w_geti (v := aI u4 52 18) (dk_Mod_load 48 rfl) lk_Mod_66 rfl rfl rfl ?_
        exact w_iret (dk_Mod_load 49 rfl) rfl h
      · replace h := h.2 c_
        refine w_aload_n (dk_Mod_load 39 rfl) rfl ?_
        refine w_iload_n (dk_Mod_load 40 rfl) rfl ?_
        refine w_puti (dk_Mod_load 41 rfl) lk_Mod_20 rfl rfl ?_
        refine w_aload_n (dk_Mod_load 42 rfl) rfl ?_
        refine w_iload_n (dk_Mod_load 43 rfl) rfl ?_
        refine w_puti (dk_Mod_load 44 rfl) lk_Mod_36 rfl rfl ?_
        refine w_iconst (v := 0) (dk_Mod_load 45 rfl) rfl ?_
        exact w_iret (dk_Mod_load 46 rfl) rfl h
    · replace h := h.2 c_
      refine w_iconst (v := 0) (dk_Mod_load 29 rfl) rfl ?_
      refine w_goto 64 (dk_Mod_load 30 rfl) (by decide) ?_
      refine w_puti (dk_Mod_load 32 rfl) lk_Mod_7 rfl rfl ?_
      refine w_aload_n (dk_Mod_load 33 rfl) rfl ?_
      refine w_iconst (v := 0) (dk_Mod_load 34 rfl) rfl ?_
      refine w_puti (dk_Mod_load 35 rfl) lk_Mod_17 rfl rfl ?_
      refine w_aload_n (dk_Mod_load 36 rfl) rfl ?_
      refine w_geti (v := r3) (dk_Mod_load 37 rfl) lk_Mod_81 rfl rfl rfl ?_
      refine w_if_ne 91 (dk_Mod_load 38 rfl) (by decide) (fun c_ => ?_) (fun c_ => ?_)
      · replace h := h.1 c_
        refine w_aload_n (dk_Mod_load 47 rfl) rfl ?_
        refine w_geti (v := aI u4 52 18) (dk_Mod_load 48 rfl) lk_Mod_66 rfl rfl rfl ?_
        exact w_iret (dk_Mod_load 49 rfl) rfl h
      · replace h := h.2 c_
        refine w_aload_n (dk_Mod_load 39 rfl) rfl ?_
        refine w_iload_n (dk_Mod_load 40 rfl) rfl ?_
        refine w_puti (dk_Mod_load 41 rfl) lk_Mod_20 rfl rfl ?_
        refine w_aload_n (dk_Mod_load 42 rfl) rfl ?_
        refine w_iload_n (dk_Mod_load 43 rfl) rfl ?_
        refine w_puti (dk_Mod_load 44 rfl) lk_Mod_36 rfl rfl ?_
        refine w_iconst (v := 0) (dk_Mod_load 45 rfl) rfl ?_
        exact w_iret (dk_Mod_load 46 rfl) rfl h
  · replace h := h.2 c_
    refine w_aload_n (dk_Mod_load 16 rfl) rfl ?_
    refine w_geti (v := aI u4 52 21) (dk_Mod_load 17 rfl) lk_Mod_75 rfl rfl rfl ?_
    refine w_sipush (v := 1000) (dk_Mod_load 18 rfl) rfl ?_
    refine w_icmp_ne 44 (dk_Mod_load 19 rfl) (by decide) (fun c_ => ?_) (fun c_ => ?_)
    · replace h := h.1 c_
      refine w_aload_n (dk_Mod_load 22 rfl) rfl ?_
      refine w_geti (v := aI u4 52 21) (dk_Mod_load 23 rfl) lk_Mod_75 rfl rfl rfl ?_
      refine w_puti (dk_Mod_load 24 rfl) lk_Mod_78 rfl rfl ?_
      refine w_aload_n (dk_Mod_load 25 rfl) rfl ?_
      refine w_aload_n (dk_Mod_load 26 rfl) rfl ?_
      refine w_geti (v := r3) (dk_Mod_load 27 rfl) lk_Mod_81 rfl rfl rfl ?_
      refine w_if_eq 63 (dk_Mod_load 28 rfl) (by decide) (fun c_ => ?_) (fun c_ => ?_)
      · replace h := h.1 c_
        refine w_iconst (v := 1) (dk_Mod_load 31 rfl) rfl ?_
        refine w_puti (dk_Mod_load 32 rfl) lk_Mod_7 rfl rfl ?_
        refine w_aload_n (dk_Mod_load 33 rfl) rfl ?_
        refine w_iconst (v := 0) (dk_Mod_load 34 rfl) rfl ?_
        refine w_puti (dk_Mod_load 35 rfl) lk_Mod_17 rfl rfl ?_
        refine w_aload_n (dk_Mod_load 36 rfl) rfl ?_
        refine w_geti (v := r3) (dk_Mod_load 37 rfl) lk_Mod_81 rfl rfl rfl ?_
        refine w_if_ne 91 (dk_Mod_load 38 rfl) (by decide) (fun c_ => ?_) (fun c_ => ?_)
        · replace h := h.1 c_
          refine w_aload_n (dk_Mod_load 47 rfl) rfl ?_
          refine w_geti (v := aI u4 52 18) (dk_Mod_load 48 rfl) lk_Mod_66 rfl rfl rfl ?_
          exact w_iret (dk_Mod_load 49 rfl) rfl h
        · replace h := h.2 c_
          refine w_aload_n (dk_Mod_load 39 rfl) rfl ?_
          refine w_iload_n (dk_Mod_load 40 rfl) rfl ?_
          refine w_puti (dk_Mod_load 41 rfl) lk_Mod_20 rfl rfl ?_
          refine w_aload_n (dk_Mod_load 42 rfl) rfl ?_
          refine w_iload_n (dk_Mod_load 43 rfl) rfl ?_
          refine w_puti (dk_Mod_load 44 rfl) lk_Mod_36 rfl rfl ?_
          refine w_iconst (v := 0) (dk_Mod_load 45 rfl) rfl ?_
          exact w_iret (dk_Mod_load 46 rfl) rfl h
      · replace h := h.2 c_
        refine w_iconst (v := 0) (dk_Mod_load 29 rfl) rfl ?_
        refine w_goto 64 (dk_Mod_load 30 rfl) (by decide) ?_
        refine w_puti (dk_Mod_load 32 rfl) lk_Mod_7 rfl rfl ?_
        refine w_aload_n (dk_Mod_load 33 rfl) rfl ?_
        refine w_iconst (v := 0) (dk_Mod_load 34 rfl) rfl ?_
        refine w_puti (dk_Mod_load 35 rfl) lk_Mod_17 rfl rfl ?_
        refine w_aload_n (dk_Mod_load 36 rfl) rfl ?_
        refine w_geti (v := r3) (dk_Mod_load 37 rfl) lk_Mod_81 rfl rfl rfl ?_
        refine w_if_ne 91 (dk_Mod_load 38 rfl) (by decide) (fun c_ => ?_) (fun c_ => ?_)
        · replace h := h.1 c_
          refine w_aload_n (dk_Mod_load 47 rfl) rfl ?_
          refine w_geti (v := aI u4 52 18) (dk_Mod_load 48 rfl) lk_Mod_66 rfl rfl rfl ?_
          exact w_iret (dk_Mod_load 49 rfl) rfl h
        · replace h := h.2 c_
          refine w_aload_n (dk_Mod_load 39 rfl) rfl ?_
          refine w_iload_n (dk_Mod_load 40 rfl) rfl ?_
          refine w_puti (dk_Mod_load 41 rfl) lk_Mod_20 rfl rfl ?_
          refine w_aload_n (dk_Mod_load 42 rfl) rfl ?_
          refine w_iload_n (dk_Mod_load 43 rfl) rfl ?_
          refine w_puti (dk_Mod_load 44 rfl) lk_Mod_36 rfl rfl ?_
          refine w_iconst (v := 0) (dk_Mod_load 45 rfl) rfl ?_
          exact w_iret (dk_Mod_load 46 rfl) rfl h
    · replace h := h.2 c_
      refine w_iconst (v := (-1)) (dk_Mod_load 20 rfl) rfl ?_
      refine w_goto 48 (dk_Mod_load 21 rfl) (by decide) ?_
      refine w_puti (dk_Mod_load 24 rfl) lk_Mod_78 rfl rfl ?_
      refine w_aload_n (dk_Mod_load 25 rfl) rfl ?_
      refine w_aload_n (dk_Mod_load 26 rfl) rfl ?_
      refine w_geti (v := r3) (dk_Mod_load 27 rfl) lk_Mod_81 rfl rfl rfl ?_
      refine w_if_eq 63 (dk_Mod_load 28 rfl) (by decide) (fun c_ => ?_) (fun c_ => ?_)
      · replace h := h.1 c_
        refine w_iconst (v := 1) (dk_Mod_load 31 rfl) rfl ?_
        refine w_puti (dk_Mod_load 32 rfl) lk_Mod_7 rfl rfl ?_
        refine w_aload_n (dk_Mod_load 33 rfl) rfl ?_
        refine w_iconst (v := 0) (dk_Mod_load 34 rfl) rfl ?_
        refine w_puti (dk_Mod_load 35 rfl) lk_Mod_17 rfl rfl ?_
        refine w_aload_n (dk_Mod_load 36 rfl) rfl ?_
        refine w_geti (v := r3) (dk_Mod_load 37 rfl) lk_Mod_81 rfl rfl rfl ?_
        refine w_if_ne 91 (dk_Mod_load 38 rfl) (by decide) (fun c_ => ?_) (fun c_ => ?_)
        · replace h := h.1 c_
          refine w_aload_n (dk_Mod_load 47 rfl) rfl ?_
          refine w_geti (v := aI u4 52 18) (dk_Mod_load 48 rfl) lk_Mod_66 rfl rfl rfl ?_
          exact w_iret (dk_Mod_load 49 rfl) rfl h
        · replace h := h.2 c_
          refine w_aload_n (dk_Mod_load 39 rfl) rfl ?_
          refine w_iload_n (dk_Mod_load 40 rfl) rfl ?_
          refine w_puti (dk_Mod_load 41 rfl) lk_Mod_20 rfl rfl ?_
          refine w_aload_n (dk_Mod_load 42 rfl) rfl ?_
          refine w_iload_n (dk_Mod_load 43 rfl) rfl ?_
          refine w_puti (dk_Mod_load 44 rfl) lk_Mod_36 rfl rfl ?_
          refine w_iconst (v := 0) (dk_Mod_load 45 rfl) rfl ?_
          exact w_iret (dk_Mod_load 46 rfl) rfl h
      · replace h := h.2 c_
        refine w_iconst (v := 0) (dk_Mod_load 29 rfl) rfl ?_
        refine w_goto 64 (dk_Mod_load 30 rfl) (by decide) ?_
        refine w_puti (dk_Mod_load 32 rfl) lk_Mod_7 rfl rfl ?_
        refine w_aload_n (dk_Mod_load 33 rfl) rfl ?_
        refine w_iconst (v := 0) (dk_Mod_load 34 rfl) rfl ?_
        refine w_puti (dk_Mod_load 35 rfl) lk_Mod_17 rfl rfl ?_
        refine w_aload_n (dk_Mod_load 36 rfl) rfl ?_
        refine w_geti (v := r3) (dk_Mod_load 37 rfl) lk_Mod_81 rfl rfl rfl ?_
        refine w_if_ne 91 (dk_Mod_load 38 rfl) (by decide) (fun c_ => ?_) (fun c_ => ?_)
        · replace h := h.1 c_
          refine w_aload_n (dk_Mod_load 47 rfl) rfl ?_
          refine w_geti (v := aI u4 52 18) (dk_Mod_load 48 rfl) lk_Mod_66 rfl rfl rfl ?_
          exact w_iret (dk_Mod_load 49 rfl) rfl h
        · replace h := h.2 c_
          refine w_aload_n (dk_Mod_load 39 rfl) rfl ?_
          refine w_iload_n (dk_Mod_load 40 rfl) rfl ?_
          refine w_puti (dk_Mod_load 41 rfl) lk_Mod_20 rfl rfl ?_
          refine w_aload_n (dk_Mod_load 42 rfl) rfl ?_
          refine w_iload_n (dk_Mod_load 43 rfl) rfl ?_
          refine w_puti (dk_Mod_load 44 rfl) lk_Mod_36 rfl rfl ?_
          refine w_iconst (v := 0) (dk_Mod_load 45 rfl) rfl ?_
          exact w_iret (dk_Mod_load 46 rfl) rfl h
theorem g_Mod_scan_0 {d : Nat} {u : Us} {Q : Ot → Us → Prop} 
    (h : WS (d + 1) m_Mod_scan 7 [some (.ref 52), some (.int 0)] [] (uI u 52 18 0) Q) :
    WS (d + 1) m_Mod_scan 0 [some (.ref 52), none] [] u Q := by
  refine w_aload_n (dk_Mod_scan 0 rfl) rfl ?_
  refine w_iconst (v := 0) (dk_Mod_scan 1 rfl) rfl ?_
  refine w_puti (dk_Mod_scan 2 rfl) lk_Mod_66 rfl rfl ?_
  refine w_iconst (v := 0) (dk_Mod_scan 3 rfl) rfl ?_
  refine w_istore_n (ls' := [some (.ref 52), some (.int 0)]) (dk_Mod_scan 4 rfl) (by decide) rfl ?_
  exact h
theorem g_Mod_scan_7 {d : Nat} {u : Us} {Q : Ot → Us → Prop} (x1 : Int32)
    (h : (x1 < 0 → Q (.inl none) u) ∧ (¬ (x1 < 0) → WS (d + 1) m_Mod_scan 11 [some (.ref 52), some (.int x1)] [] u Q)) :
    WS (d + 1) m_Mod_scan 7 [some (.ref 52), some (.int x1)] [] u Q := by
  refine w_iload_n (dk_Mod_scan 5 rfl) rfl ?_
  refine w_if_lt 125 (dk_Mod_scan 6 rfl) (by decide) (fun c_ => ?_) (fun c_ => ?_)
  · replace h := h.1 c_
    exact w_vret (dk_Mod_scan 67 rfl) rfl h
  · replace h := h.2 c_
    exact h
theorem g_Mod_scan_11 {d : Nat} {u : Us} {Q : Ot → Us → Prop} (x1 : Int32)
    (h : WS d m_Mod_byteAt 0 [some (.ref 52), some (.int x1)] [] u (Ri (fun (r1 : Int32) (u2 : Us) => (r1 = 32 → WS (d + 1) m_Mod_scan 11 [some (.ref 52), some (.int (x1 + 1))] [] u2 Q) ∧ (¬ (r1 = 32) → WS d m_Mod_byteAt 0 [some (.ref 52), some (.int x1)] [] u2 (Ri (fun (r3 : Int32) (u4 : Us) => (r3 ≠ 10 → ∃ k5 : Nat, aI u4 52 18 = nI k5 ∧ k5 < 152 ∧ ((x1 ≠ (aI u4 52 2) → ((aI u4 52 18) ≠ 150 → WS d m_Mod_token 0 [some (.ref 52), some (.int x1), none, none, none, none, none, none] [] (uI u4 64 k5 x1) (Ri (fun (r6 : Int32) (u7 : Us) => (0 ≤ r6 → WS (d + 1) m_Mod_scan 7 [some (.ref 52), some (.int r6)] [] (uI u7 52 18 ((aI u7 52 18) + 1)) Q) ∧ (¬ (0 ≤ r6) → ∃ k8 : Nat, aI u7 52 18 = nI k8 ∧ k8 < 152 ∧ (WS (d + 1) m_Mod_scan 7 [some (.ref 52), some (.int r6)] [] (uI u7 63 k8 8) Q))) (fun x u => Q (.inr x) u))) ∧ ((aI u4 52 18) = 150 → ∃ k9 : Nat, aI u4 52 18 = nI k9 ∧ k9 < 152 ∧ (Q (.inl none) (uI (uI u4 64 k5 x1) 63 k9 7)))) ∧ (x1 = (aI u4 52 2) → ∃ k10 : Nat, aI u4 52 18 = nI k10 ∧ k10 < 152 ∧ (Q (.inl none) (uI (uI u4 64 k5 x1) 63 k10 0))))) ∧ (r3 = 10 → WS (d + 1) m_Mod_scan 11 [some (.ref 52), some (.int (x1 + 1))] [] u4 Q)) (fun x u => Q (.inr x) u)))) (fun x u => Q (.inr x) u))) :
    WS (d + 1) m_Mod_scan 11 [some (.ref 52), some (.int x1)] [] u Q := by
  refine w_aload_n (dk_Mod_scan 7 rfl) rfl ?_
  refine w_iload_n (dk_Mod_scan 8 rfl) rfl ?_
  refine w_callVi (ls' := [some (.ref 52), some (.int x1)]) cv_Mod_212 (dk_Mod_scan 9 rfl) (ci := 10) rfl rfl [.int x1] [] rfl rfl (Nat.le_of_ble_eq_true rfl) (Nat.le_of_ble_eq_true rfl) rfl rfl rfl h (fun r1 u2 h => ?_)
  refine w_bipush (v := 32) (dk_Mod_scan 10 rfl) rfl ?_
  refine w_icmp_eq 31 (dk_Mod_scan 11 rfl) (by decide) (fun c_ => ?_) (fun c_ => ?_)
  · replace h := h.1 c_
    refine w_iinc (v := x1 + 1) (ls' := [some (.ref 52), some (.int (x1 + 1))]) (dk_Mod_scan 17 rfl) rfl rfl (by decide) rfl ?_
    refine w_goto 11 (dk_Mod_scan 18 rfl) (by decide) ?_
    exact h
  · replace h := h.2 c_
    refine w_aload_n (dk_Mod_scan 12 rfl) rfl ?_
    refine w_iload_n (dk_Mod_scan 13 rfl) rfl ?_
    refine w_callVi (ls' := [some (.ref 52), some (.int x1)]) cv_Mod_212 (dk_Mod_scan 14 rfl) (ci := 10) rfl rfl [.int x1] [] rfl rfl (Nat.le_of_ble_eq_true rfl) (Nat.le_of_ble_eq_true rfl) rfl rfl rfl h (fun r3 u4 h => ?_)
    refine w_bipush (v := 10) (dk_Mod_scan 15 rfl) rfl ?_
    refine w_icmp_ne 37 (dk_Mod_scan 16 rfl) (by decide) (fun c_ => ?_) (fun c_ => ?_)
    · replace h := h.1 c_
      refine w_aload_n (dk_Mod_scan 19 rfl) rfl ?_
      refine w_getr (dk_Mod_scan 20 rfl) lk_Mod_60 rfl rfl rfl ?_
      refine w_aload_n (dk_Mod_scan 21 rfl) rfl ?_
      refine w_geti (v := aI u4 52 18) (dk_Mod_scan 22 rfl) lk_Mod_66 rfl rfl rfl ?_
      refine w_iload_n (dk_Mod_scan 23 rfl) rfl ?_
      obtain ⟨k5, e_k5, l_k5, h⟩ := h
      refine w_iast (k_ := k5) (dk_Mod_scan 24 rfl) rfl (by decide) e_k5 l_k5 ?_
      refine w_iload_n (dk_Mod_scan 25 rfl) rfl ?_
      refine w_aload_n (dk_Mod_scan 26 rfl) rfl ?_
      refine w_geti (v := aI u4 52 2) (dk_Mod_scan 27 rfl) lk_Mod_17 rfl rfl rfl ?_
      refine w_icmp_ne 66 (dk_Mod_scan 28 rfl) (by decide) (fun c_ => ?_) (fun c_ => ?_)
      · replace h := h.1 c_
        refine w_aload_n (dk_Mod_scan 36 rfl) rfl ?_
        refine w_geti (v := aI u4 52 18) (dk_Mod_scan 37 rfl) lk_Mod_66 rfl rfl rfl ?_
        refine w_sipush (v := 150) (dk_Mod_scan 38 rfl) rfl ?_
        refine w_icmp_ne 88 (dk_Mod_scan 39 rfl) (by decide) (fun c_ => ?_) (fun c_ => ?_)
        · replace h := h.1 c_
          refine w_aload_n (dk_Mod_scan 47 rfl) rfl ?_
          refine w_iload_n (dk_Mod_scan 48 rfl) rfl ?_
          refine w_callVi (ls' := [some (.ref 52), some (.int x1), none, none, none, none, none, none]) cv_Mod_229 (dk_Mod_scan 49 rfl) (ci := 10) rfl rfl [.int x1] [] rfl rfl (Nat.le_of_ble_eq_true rfl) (Nat.le_of_ble_eq_true rfl) rfl rfl rfl h (fun r6 u7 h => ?_)
          refine w_istore_n (ls' := [some (.ref 52), some (.int r6)]) (dk_Mod_scan 50 rfl) (by decide) rfl ?_
          refine w_iload_n (dk_Mod_scan 51 rfl) rfl ?_
          refine w_if_ge 112 (dk_Mod_scan 52 rfl) (by decide) (fun c_ => ?_) (fun c_ => ?_)
          · replace h := h.1 c_
            refine w_aload_n (dk_Mod_scan 60 rfl) rfl ?_
            refine w_dup (dk_Mod_scan 61 rfl) rfl ?_
            refine w_geti (v := aI u7 52 18) (dk_Mod_scan 62 rfl) lk_Mod_66 rfl rfl rfl ?_
            refine w_iconst (v := 1) (dk_Mod_scan 63 rfl) rfl ?_
            refine w_iadd (dk_Mod_scan 64 rfl) ?_
            refine w_puti (dk_Mod_scan 65 rfl) lk_Mod_66 rfl rfl ?_
            refine w_goto 7 (dk_Mod_scan 66 rfl) (by decide) ?_
            exact h
          · replace h := h.2 c_
            refine w_aload_n (dk_Mod_scan 53 rfl) rfl ?_
            refine w_getr (dk_Mod_scan 54 rfl) lk_Mod_57 rfl rfl rfl ?_
            refine w_aload_n (dk_Mod_scan 55 rfl) rfl ?_
            refine w_geti (v := aI u7 52 18) (dk_Mod_scan 56 rfl) lk_Mod_66 rfl rfl rfl ?_
            refine w_bipush (v := 8) (dk_Mod_scan 57 rfl) rfl ?_
            obtain ⟨k8, e_k8, l_k8, h⟩ := h
            refine w_iast (k_ := k8) (dk_Mod_scan 58 rfl) rfl (by decide) e_k8 l_k8 ?_
            refine w_goto 7 (dk_Mod_scan 59 rfl) (by decide) ?_
            exact h
        · replace h := h.2 c_
          refine w_aload_n (dk_Mod_scan 40 rfl) rfl ?_
          refine w_getr (dk_Mod_scan 41 rfl) lk_Mod_57 rfl rfl rfl ?_
          refine w_aload_n (dk_Mod_scan 42 rfl) rfl ?_
          refine w_geti (v := aI u4 52 18) (dk_Mod_scan 43 rfl) lk_Mod_66 rfl rfl rfl ?_
          refine w_bipush (v := 7) (dk_Mod_scan 44 rfl) rfl ?_
          obtain ⟨k9, e_k9, l_k9, h⟩ := h
          refine w_iast (k_ := k9) (dk_Mod_scan 45 rfl) rfl (by decide) e_k9 l_k9 ?_
          exact w_vret (dk_Mod_scan 46 rfl) rfl h
      · replace h := h.2 c_
        refine w_aload_n (dk_Mod_scan 29 rfl) rfl ?_
        refine w_getr (dk_Mod_scan 30 rfl) lk_Mod_57 rfl rfl rfl ?_
        refine w_aload_n (dk_Mod_scan 31 rfl) rfl ?_
        refine w_geti (v := aI u4 52 18) (dk_Mod_scan 32 rfl) lk_Mod_66 rfl rfl rfl ?_
        refine w_iconst (v := 0) (dk_Mod_scan 33 rfl) rfl ?_
        obtain ⟨k10, e_k10, l_k10, h⟩ := h
        refine w_iast (k_ := k10) (dk_Mod_scan 34 rfl) rfl (by decide) e_k10 l_k10 ?_
        exact w_vret (dk_Mod_scan 35 rfl) rfl h
    · replace h := h.2 c_
      refine w_iinc (v := x1 + 1) (ls' := [some (.ref 52), some (.int (x1 + 1))]) (dk_Mod_scan 17 rfl) rfl rfl (by decide) rfl ?_
      refine w_goto 11 (dk_Mod_scan 18 rfl) (by decide) ?_
      exact h
theorem g_Mod_byteAt_0 {d : Nat} {u : Us} {Q : Ot → Us → Prop} (p1 : Int32)
    (h : ((aI u 52 2) ≤ p1 → Q (.inl (some (.int (-1)))) u) ∧ (¬ ((aI u 52 2) ≤ p1) → ∃ k1 : Nat, p1 = nI k1 ∧ k1 < 500 ∧ (Q (.inl (some (.int (aI u 53 k1)))) u))) :
    WS d m_Mod_byteAt 0 [some (.ref 52), some (.int p1)] [] u Q := by
  refine w_iload_n (dk_Mod_byteAt 0 rfl) rfl ?_
  refine w_aload_n (dk_Mod_byteAt 1 rfl) rfl ?_
  refine w_geti (v := aI u 52 2) (dk_Mod_byteAt 2 rfl) lk_Mod_17 rfl rfl rfl ?_
  refine w_icmp_ge 17 (dk_Mod_byteAt 3 rfl) (by decide) (fun c_ => ?_) (fun c_ => ?_)
  · replace h := h.1 c_
    refine w_iconst (v := (-1)) (dk_Mod_byteAt 9 rfl) rfl ?_
    exact w_iret (dk_Mod_byteAt 10 rfl) rfl h
  · replace h := h.2 c_
    refine w_aload_n (dk_Mod_byteAt 4 rfl) rfl ?_
    refine w_getr (dk_Mod_byteAt 5 rfl) lk_Mod_13 rfl rfl rfl ?_
    refine w_iload_n (dk_Mod_byteAt 6 rfl) rfl ?_
    obtain ⟨k1, e_k1, l_k1, h⟩ := h
    refine w_iald (k_ := k1) (dk_Mod_byteAt 7 rfl) rfl (by decide) e_k1 l_k1 ?_
    refine w_goto 18 (dk_Mod_byteAt 8 rfl) (by decide) ?_
    exact w_iret (dk_Mod_byteAt 10 rfl) rfl h
theorem g_Mod_token_0 {d : Nat} {u : Us} {Q : Ot → Us → Prop} (p1 : Int32)
    (h : WS d m_Mod_byteAt 0 [some (.ref 52), some (.int p1)] [] u (Ri (fun (r1 : Int32) (u2 : Us) => ∃ k3 : Nat, aI u2 52 18 = nI k3 ∧ k3 < 152 ∧ (WS d m_Mod_letter 0 [some (.int r1)] [] (uI u2 64 k3 p1) (Ri (fun (r4 : Int32) (u5 : Us) => (r4 = 0 → WS d m_Mod_digit 0 [some (.int r1)] [] u5 (Ri (fun (r6 : Int32) (u7 : Us) => (r6 = 0 → ∃ k8 : Nat, aI u7 52 18 = nI k8 ∧ k8 < 152 ∧ (WS d m_Mod_byteAt 0 [some (.ref 52), some (.int (p1 + 1))] [] (uI u7 63 k8 4) (Ri (fun (r9 : Int32) (u10 : Us) => (r9 ≠ 61 → WS (d + 1) m_Mod_token 293 [some (.ref 52), some (.int p1), some (.int r1), some (.int p1), some (.long 0), none, none, none] [.int 0] u10 Q) ∧ (r9 = 61 → (r1 = 33 → WS (d + 1) m_Mod_token 293 [some (.ref 52), some (.int p1), some (.int r1), some (.int p1), some (.long 0), none, none, none] [.int 1] u10 Q) ∧ (¬ (r1 = 33) → (r1 = 60 → WS (d + 1) m_Mod_token 293 [some (.ref 52), some (.int p1), some (.int r1), some (.int p1), some (.long 0), none, none, none] [.int 1] u10 Q) ∧ (¬ (r1 = 60) → (r1 ≠ 62 → WS (d + 1) m_Mod_token 293 [some (.ref 52), some (.int p1), some (.int r1), some (.int p1), some (.long 0), none, none, none] [.int 0] u10 Q) ∧ (r1 = 62 → WS (d + 1) m_Mod_token 293 [some (.ref 52), some (.int p1), some (.int r1), some (.int p1), some (.long 0), none, none, none] [.int 1] u10 Q))))) (fun x u => Q (.inr x) u)))) ∧ (¬ (r6 = 0) → WS (d + 1) m_Mod_token 162 [some (.ref 52), some (.int p1), some (.int r1), some (.int p1), some (.long 0), none, none, none] [] u7 Q)) (fun x u => Q (.inr x) u))) ∧ (¬ (r4 = 0) → WS (d + 1) m_Mod_token 28 [some (.ref 52), some (.int p1), some (.int r1), some (.int p1), some (.long 0), none, none, none] [] u5 Q)) (fun x u => Q (.inr x) u)))) (fun x u => Q (.inr x) u))) :
    WS (d + 1) m_Mod_token 0 [some (.ref 52), some (.int p1), none, none, none, none, none, none] [] u Q := by
  refine w_aload_n (dk_Mod_token 0 rfl) rfl ?_
  refine w_iload_n (dk_Mod_token 1 rfl) rfl ?_
  refine w_callVi (ls' := [some (.ref 52), some (.int p1)]) cv_Mod_212 (dk_Mod_token 2 rfl) (ci := 10) rfl rfl [.int p1] [] rfl rfl (Nat.le_of_ble_eq_true rfl) (Nat.le_of_ble_eq_true rfl) rfl rfl rfl h (fun r1 u2 h => ?_)
  refine w_istore_n (ls' := [some (.ref 52), some (.int p1), some (.int r1), none, none, none, none, none]) (dk_Mod_token 3 rfl) (by decide) rfl ?_
  refine w_iload_n (dk_Mod_token 4 rfl) rfl ?_
  refine w_istore_n (ls' := [some (.ref 52), some (.int p1), some (.int r1), some (.int p1), none, none, none, none]) (dk_Mod_token 5 rfl) (by decide) rfl ?_
  refine w_lconst (v := 0) (dk_Mod_token 6 rfl) rfl ?_
  refine w_lstore (ls' := [some (.ref 52), some (.int p1), some (.int r1), some (.int p1), some (.long 0), none, none, none]) (dk_Mod_token 7 rfl) (by decide) rfl ?_
  refine w_aload_n (dk_Mod_token 8 rfl) rfl ?_
  refine w_getr (dk_Mod_token 9 rfl) lk_Mod_60 rfl rfl rfl ?_
  refine w_aload_n (dk_Mod_token 10 rfl) rfl ?_
  refine w_geti (v := aI u2 52 18) (dk_Mod_token 11 rfl) lk_Mod_66 rfl rfl rfl ?_
  refine w_iload_n (dk_Mod_token 12 rfl) rfl ?_
  obtain ⟨k3, e_k3, l_k3, h⟩ := h
  refine w_iast (k_ := k3) (dk_Mod_token 13 rfl) rfl (by decide) e_k3 l_k3 ?_
  refine w_iload_n (dk_Mod_token 14 rfl) rfl ?_
  refine w_callSi (ls' := [some (.int r1)]) cv_Mod_216 (dk_Mod_token 15 rfl) [.int r1] [] rfl rfl (Nat.le_of_ble_eq_true rfl) (Nat.le_of_ble_eq_true rfl) rfl rfl rfl h (fun r4 u5 h => ?_)
  refine w_if_eq 155 (dk_Mod_token 16 rfl) (by decide) (fun c_ => ?_) (fun c_ => ?_)
  · replace h := h.1 c_
    refine w_iload_n (dk_Mod_token 86 rfl) rfl ?_
    refine w_callSi (ls' := [some (.int r1)]) cv_Mod_220 (dk_Mod_token 87 rfl) [.int r1] [] rfl rfl (Nat.le_of_ble_eq_true rfl) (Nat.le_of_ble_eq_true rfl) rfl rfl rfl h (fun r6 u7 h => ?_)
    refine w_if_eq 248 (dk_Mod_token 88 rfl) (by decide) (fun c_ => ?_) (fun c_ => ?_)
    · replace h := h.1 c_
      refine w_aload_n (dk_Mod_token 133 rfl) rfl ?_
      refine w_getr (dk_Mod_token 134 rfl) lk_Mod_57 rfl rfl rfl ?_
      refine w_aload_n (dk_Mod_token 135 rfl) rfl ?_
      refine w_geti (v := aI u7 52 18) (dk_Mod_token 136 rfl) lk_Mod_66 rfl rfl rfl ?_
      refine w_iconst (v := 4) (dk_Mod_token 137 rfl) rfl ?_
      obtain ⟨k8, e_k8, l_k8, h⟩ := h
      refine w_iast (k_ := k8) (dk_Mod_token 138 rfl) rfl (by decide) e_k8 l_k8 ?_
      refine w_aload_n (dk_Mod_token 139 rfl) rfl ?_
      refine w_iload_n (dk_Mod_token 140 rfl) rfl ?_
      refine w_iconst (v := 1) (dk_Mod_token 141 rfl) rfl ?_
      refine w_iadd (dk_Mod_token 142 rfl) ?_
      refine w_callVi (ls' := [some (.ref 52), some (.int (p1 + 1))]) cv_Mod_212 (dk_Mod_token 143 rfl) (ci := 10) rfl rfl [.int (p1 + 1)] [] rfl rfl (Nat.le_of_ble_eq_true rfl) (Nat.le_of_ble_eq_true rfl) rfl rfl rfl h (fun r9 u10 h => ?_)
      refine w_bipush (v := 61) (dk_Mod_token 144 rfl) rfl ?_
      refine w_icmp_ne 292 (dk_Mod_token 145 rfl) (by decide) (fun c_ => ?_) (fun c_ => ?_)
      · replace h := h.1 c_
        refine w_iconst (v := 0) (dk_Mod_token 157 rfl) rfl ?_
        exact h
      · replace h := h.2 c_
        refine w_iload_n (dk_Mod_token 146 rfl) rfl ?_
        refine w_bipush (v := 33) (dk_Mod_token 147 rfl) rfl ?_
        refine w_icmp_eq 288 (dk_Mod_token 148 rfl) (by decide) (fun c_ => ?_) (fun c_ => ?_)
        · replace h := h.1 c_
          refine w_iconst (v := 1) (dk_Mod_token 155 rfl) rfl ?_
          refine w_goto 293 (dk_Mod_token 156 rfl) (by decide) ?_
          exact h
        · replace h := h.2 c_
          refine w_iload_n (dk_Mod_token 149 rfl) rfl ?_
          refine w_bipush (v := 60) (dk_Mod_token 150 rfl) rfl ?_
          refine w_icmp_eq 288 (dk_Mod_token 151 rfl) (by decide) (fun c_ => ?_) (fun c_ => ?_)
          · replace h := h.1 c_
            refine w_iconst (v := 1) (dk_Mod_token 155 rfl) rfl ?_
            refine w_goto 293 (dk_Mod_token 156 rfl) (by decide) ?_
            exact h
          · replace h := h.2 c_
            refine w_iload_n (dk_Mod_token 152 rfl) rfl ?_
            refine w_bipush (v := 62) (dk_Mod_token 153 rfl) rfl ?_
            refine w_icmp_ne 292 (dk_Mod_token 154 rfl) (by decide) (fun c_ => ?_) (fun c_ => ?_)
            · replace h := h.1 c_
              refine w_iconst (v := 0) (dk_Mod_token 157 rfl) rfl ?_
              exact h
            · replace h := h.2 c_
              refine w_iconst (v := 1) (dk_Mod_token 155 rfl) rfl ?_
              refine w_goto 293 (dk_Mod_token 156 rfl) (by decide) ?_
              exact h
    · replace h := h.2 c_
      exact h
  · replace h := h.2 c_
    exact h
theorem g_Mod_token_28 {d : Nat} {u : Us} {Q : Ot → Us → Prop} (x1 : Int32) (x2 : Int32) (x3 : Int32) (x4 : Int64)
    (h : WS d m_Mod_byteAt 0 [some (.ref 52), some (.int x3)] [] u (Ri (fun (r1 : Int32) (u2 : Us) => WS d m_Mod_letter 0 [some (.int r1)] [] u2 (Ri (fun (r3 : Int32) (u4 : Us) => (r3 = 0 → ∃ k5 : Nat, aI u4 52 18 = nI k5 ∧ k5 < 152 ∧ (WS (d + 1) m_Mod_token 85 [some (.ref 52), some (.int x1), some (.int x2), some (.int x3), some (.long x4), none, some (.int 0), none] [] (uI u4 63 k5 1) Q)) ∧ (¬ (r3 = 0) → ((x1 + 9) ≤ x3 → WS (d + 1) m_Mod_token 66 [some (.ref 52), some (.int x1), some (.int x2), some (.int x3), some (.long x4), none, none, none] [] u4 Q) ∧ (¬ ((x1 + 9) ≤ x3) → WS d m_Mod_byteAt 0 [some (.ref 52), some (.int x3)] [] u4 (Ri (fun (r6 : Int32) (u7 : Us) => WS (d + 1) m_Mod_token 66 [some (.ref 52), some (.int x1), some (.int x2), some (.int x3), some (.long (((x4 * 27) + (Int32.toInt64 r6)) - 96)), none, none, none] [] u7 Q) (fun x u => Q (.inr x) u))))) (fun x u => Q (.inr x) u))) (fun x u => Q (.inr x) u))) :
    WS (d + 1) m_Mod_token 28 [some (.ref 52), some (.int x1), some (.int x2), some (.int x3), some (.long x4), none, none, none] [] u Q := by
  refine w_aload_n (dk_Mod_token 17 rfl) rfl ?_
  refine w_iload_n (dk_Mod_token 18 rfl) rfl ?_
  refine w_callVi (ls' := [some (.ref 52), some (.int x3)]) cv_Mod_212 (dk_Mod_token 19 rfl) (ci := 10) rfl rfl [.int x3] [] rfl rfl (Nat.le_of_ble_eq_true rfl) (Nat.le_of_ble_eq_true rfl) rfl rfl rfl h (fun r1 u2 h => ?_)
  refine w_callSi (ls' := [some (.int r1)]) cv_Mod_216 (dk_Mod_token 20 rfl) [.int r1] [] rfl rfl (Nat.le_of_ble_eq_true rfl) (Nat.le_of_ble_eq_true rfl) rfl rfl rfl h (fun r3 u4 h => ?_)
  refine w_if_eq 72 (dk_Mod_token 21 rfl) (by decide) (fun c_ => ?_) (fun c_ => ?_)
  · replace h := h.1 c_
    refine w_aload_n (dk_Mod_token 40 rfl) rfl ?_
    refine w_getr (dk_Mod_token 41 rfl) lk_Mod_57 rfl rfl rfl ?_
    refine w_aload_n (dk_Mod_token 42 rfl) rfl ?_
    refine w_geti (v := aI u4 52 18) (dk_Mod_token 43 rfl) lk_Mod_66 rfl rfl rfl ?_
    refine w_iconst (v := 1) (dk_Mod_token 44 rfl) rfl ?_
    obtain ⟨k5, e_k5, l_k5, h⟩ := h
    refine w_iast (k_ := k5) (dk_Mod_token 45 rfl) rfl (by decide) e_k5 l_k5 ?_
    refine w_iconst (v := 0) (dk_Mod_token 46 rfl) rfl ?_
    refine w_istore (ls' := [some (.ref 52), some (.int x1), some (.int x2), some (.int x3), some (.long x4), none, some (.int 0), none]) (dk_Mod_token 47 rfl) (by decide) rfl ?_
    exact h
  · replace h := h.2 c_
    refine w_iload_n (dk_Mod_token 22 rfl) rfl ?_
    refine w_iload_n (dk_Mod_token 23 rfl) rfl ?_
    refine w_bipush (v := 9) (dk_Mod_token 24 rfl) rfl ?_
    refine w_iadd (dk_Mod_token 25 rfl) ?_
    refine w_icmp_ge 66 (dk_Mod_token 26 rfl) (by decide) (fun c_ => ?_) (fun c_ => ?_)
    · replace h := h.1 c_
      exact h
    · replace h := h.2 c_
      refine w_lload (dk_Mod_token 27 rfl) rfl ?_
      refine w_ldc2 (dk_Mod_token 28 rfl) kl_Mod_204 ?_
      refine w_lmul (dk_Mod_token 29 rfl) ?_
      refine w_aload_n (dk_Mod_token 30 rfl) rfl ?_
      refine w_iload_n (dk_Mod_token 31 rfl) rfl ?_
      refine w_callVi (ls' := [some (.ref 52), some (.int x3)]) cv_Mod_212 (dk_Mod_token 32 rfl) (ci := 10) rfl rfl [.int x3] [.long (x4 * 27)] rfl rfl (Nat.le_of_ble_eq_true rfl) (Nat.le_of_ble_eq_true rfl) rfl rfl rfl h (fun r6 u7 h => ?_)
      refine w_i2l (dk_Mod_token 33 rfl) ?_
      refine w_ladd (dk_Mod_token 34 rfl) ?_
      refine w_ldc2 (dk_Mod_token 35 rfl) kl_Mod_206 ?_
      refine w_lsub (dk_Mod_token 36 rfl) ?_
      refine w_lstore (ls' := [some (.ref 52), some (.int x1), some (.int x2), some (.int x3), some (.long (((x4 * 27) + (Int32.toInt64 r6)) - 96)), none, none, none]) (dk_Mod_token 37 rfl) (by decide) rfl ?_
      exact h
theorem g_Mod_token_66 {d : Nat} {u : Us} {Q : Ot → Us → Prop} (x1 : Int32) (x2 : Int32) (x3 : Int32) (x4 : Int64)
    (h : WS (d + 1) m_Mod_token 28 [some (.ref 52), some (.int x1), some (.int x2), some (.int (x3 + 1)), some (.long x4), none, none, none] [] u Q) :
    WS (d + 1) m_Mod_token 66 [some (.ref 52), some (.int x1), some (.int x2), some (.int x3), some (.long x4), none, none, none] [] u Q := by
  refine w_iinc (v := x3 + 1) (ls' := [some (.ref 52), some (.int x1), some (.int x2), some (.int (x3 + 1)), some (.long x4), none, none, none]) (dk_Mod_token 38 rfl) rfl rfl (by decide) rfl ?_
  refine w_goto 28 (dk_Mod_token 39 rfl) (by decide) ?_
  exact h
theorem g_Mod_token_85 {d : Nat} {u : Us} {Q : Ot → Us → Prop} (x1 : Int32) (x2 : Int32) (x3 : Int32) (x4 : Int64) (x6 : Int32)
    (h : (20 ≤ x6 → ∃ k1 : Nat, aI u 52 18 = nI k1 ∧ k1 < 152 ∧ (((x3 - x1) ≤ 8 → Q (.inl (some (.int x3))) (uL u 65 k1 x4)) ∧ (¬ ((x3 - x1) ≤ 8) → Q (.inl (some (.int (-1)))) (uL u 65 k1 x4)))) ∧ (¬ (20 ≤ x6) → ∃ k2 : Nat, x6 = nI k2 ∧ k2 < 20 ∧ (((aL u 66 k2) ≠ x4 → WS (d + 1) m_Mod_token 124 [some (.ref 52), some (.int x1), some (.int x2), some (.int x3), some (.long x4), none, some (.int x6), none] [] u Q) ∧ ((aL u 66 k2) = x4 → ∃ k3 : Nat, aI u 52 18 = nI k3 ∧ k3 < 152 ∧ (WS (d + 1) m_Mod_token 124 [some (.ref 52), some (.int x1), some (.int x2), some (.int x3), some (.long (Int32.toInt64 x6)), none, some (.int 20), none] [] (uI u 63 k3 3) Q))))) :
    WS (d + 1) m_Mod_token 85 [some (.ref 52), some (.int x1), some (.int x2), some (.int x3), some (.long x4), none, some (.int x6), none] [] u Q := by
  refine w_iload (dk_Mod_token 48 rfl) rfl ?_
  refine w_bipush (v := 20) (dk_Mod_token 49 rfl) rfl ?_
  refine w_icmp_ge 130 (dk_Mod_token 50 rfl) (by decide) (fun c_ => ?_) (fun c_ => ?_)
  · replace h := h.1 c_
    refine w_aload_n (dk_Mod_token 71 rfl) rfl ?_
    refine w_getr (dk_Mod_token 72 rfl) lk_Mod_63 rfl rfl rfl ?_
    refine w_aload_n (dk_Mod_token 73 rfl) rfl ?_
    refine w_geti (v := aI u 52 18) (dk_Mod_token 74 rfl) lk_Mod_66 rfl rfl rfl ?_
    refine w_lload (dk_Mod_token 75 rfl) rfl ?_
    obtain ⟨k1, e_k1, l_k1, h⟩ := h
    refine w_last (k_ := k1) (dk_Mod_token 76 rfl) rfl (by decide) e_k1 l_k1 ?_
    refine w_iload_n (dk_Mod_token 77 rfl) rfl ?_
    refine w_iload_n (dk_Mod_token 78 rfl) rfl ?_
    refine w_isub (dk_Mod_token 79 rfl) ?_
    refine w_bipush (v := 8) (dk_Mod_token 80 rfl) rfl ?_
    refine w_icmp_le 153 (dk_Mod_token 81 rfl) (by decide) (fun c_ => ?_) (fun c_ => ?_)
    · replace h := h.1 c_
      refine w_iload_n (dk_Mod_token 84 rfl) rfl ?_
      exact w_iret (dk_Mod_token 85 rfl) rfl h
    · replace h := h.2 c_
      refine w_iconst (v := (-1)) (dk_Mod_token 82 rfl) rfl ?_
      refine w_goto 154 (dk_Mod_token 83 rfl) (by decide) ?_
      exact w_iret (dk_Mod_token 85 rfl) rfl h
  · replace h := h.2 c_
    refine w_aload_n (dk_Mod_token 51 rfl) rfl ?_
    refine w_getr (dk_Mod_token 52 rfl) lk_Mod_69 rfl rfl rfl ?_
    refine w_iload (dk_Mod_token 53 rfl) rfl ?_
    obtain ⟨k2, e_k2, l_k2, h⟩ := h
    refine w_lald (k_ := k2) (dk_Mod_token 54 rfl) rfl (by decide) e_k2 l_k2 ?_
    refine w_lload (dk_Mod_token 55 rfl) rfl ?_
    refine w_lcmp_ne 124 (dk_Mod_token 56 rfl) (dk_Mod_token 57 rfl) (by decide) (fun c_ => ?_) (fun c_ => ?_)
    · replace h := h.1 c_
      exact h
    · replace h := h.2 c_
      refine w_aload_n (dk_Mod_token 58 rfl) rfl ?_
      refine w_getr (dk_Mod_token 59 rfl) lk_Mod_57 rfl rfl rfl ?_
      refine w_aload_n (dk_Mod_token 60 rfl) rfl ?_
      refine w_geti (v := aI u 52 18) (dk_Mod_token 61 rfl) lk_Mod_66 rfl rfl rfl ?_
      refine w_iconst (v := 3) (dk_Mod_token 62 rfl) rfl ?_
      obtain ⟨k3, e_k3, l_k3, h⟩ := h
      refine w_iast (k_ := k3) (dk_Mod_token 63 rfl) rfl (by decide) e_k3 l_k3 ?_
      refine w_iload (dk_Mod_token 64 rfl) rfl ?_
      refine w_i2l (dk_Mod_token 65 rfl) ?_
      refine w_lstore (ls' := [some (.ref 52), some (.int x1), some (.int x2), some (.int x3), some (.long (Int32.toInt64 x6)), none, some (.int x6), none]) (dk_Mod_token 66 rfl) (by decide) rfl ?_
      refine w_bipush (v := 20) (dk_Mod_token 67 rfl) rfl ?_
      refine w_istore (ls' := [some (.ref 52), some (.int x1), some (.int x2), some (.int x3), some (.long (Int32.toInt64 x6)), none, some (.int 20), none]) (dk_Mod_token 68 rfl) (by decide) rfl ?_
      exact h
theorem g_Mod_token_124 {d : Nat} {u : Us} {Q : Ot → Us → Prop} (x1 : Int32) (x2 : Int32) (x3 : Int32) (x4 : Int64) (x6 : Int32)
    (h : WS (d + 1) m_Mod_token 85 [some (.ref 52), some (.int x1), some (.int x2), some (.int x3), some (.long x4), none, some (.int (x6 + 1)), none] [] u Q) :
    WS (d + 1) m_Mod_token 124 [some (.ref 52), some (.int x1), some (.int x2), some (.int x3), some (.long x4), none, some (.int x6), none] [] u Q := by
  refine w_iinc (v := x6 + 1) (ls' := [some (.ref 52), some (.int x1), some (.int x2), some (.int x3), some (.long x4), none, some (.int (x6 + 1)), none]) (dk_Mod_token 69 rfl) rfl rfl (by decide) rfl ?_
  refine w_goto 85 (dk_Mod_token 70 rfl) (by decide) ?_
  exact h
theorem g_Mod_token_162 {d : Nat} {u : Us} {Q : Ot → Us → Prop} (x1 : Int32) (x2 : Int32) (x3 : Int32) (x4 : Int64)
    (h : WS d m_Mod_byteAt 0 [some (.ref 52), some (.int x3)] [] u (Ri (fun (r1 : Int32) (u2 : Us) => WS d m_Mod_digit 0 [some (.int r1)] [] u2 (Ri (fun (r3 : Int32) (u4 : Us) => (r3 = 0 → ∃ k5 : Nat, aI u4 52 18 = nI k5 ∧ k5 < 152 ∧ (∃ k6 : Nat, aI u4 52 18 = nI k6 ∧ k6 < 152 ∧ ((x4 ≤ 2147483647 → Q (.inl (some (.int x3))) (uL (uI u4 63 k5 2) 65 k6 x4)) ∧ (¬ (x4 ≤ 2147483647) → Q (.inl (some (.int (-1)))) (uL (uI u4 63 k5 2) 65 k6 x4))))) ∧ (¬ (r3 = 0) → (x4 ≤ 2147483647 → WS d m_Mod_byteAt 0 [some (.ref 52), some (.int x3)] [] u4 (Ri (fun (r7 : Int32) (u8 : Us) => WS (d + 1) m_Mod_token 162 [some (.ref 52), some (.int x1), some (.int x2), some (.int (x3 + 1)), some (.long (((10 * x4) + (Int32.toInt64 r7)) - 48)), none, none, none] [] u8 Q) (fun x u => Q (.inr x) u))) ∧ (¬ (x4 ≤ 2147483647) → WS (d + 1) m_Mod_token 162 [some (.ref 52), some (.int x1), some (.int x2), some (.int (x3 + 1)), some (.long x4), none, none, none] [] u4 Q))) (fun x u => Q (.inr x) u))) (fun x u => Q (.inr x) u))) :
    WS (d + 1) m_Mod_token 162 [some (.ref 52), some (.int x1), some (.int x2), some (.int x3), some (.long x4), none, none, none] [] u Q := by
  refine w_aload_n (dk_Mod_token 89 rfl) rfl ?_
  refine w_iload_n (dk_Mod_token 90 rfl) rfl ?_
  refine w_callVi (ls' := [some (.ref 52), some (.int x3)]) cv_Mod_212 (dk_Mod_token 91 rfl) (ci := 10) rfl rfl [.int x3] [] rfl rfl (Nat.le_of_ble_eq_true rfl) (Nat.le_of_ble_eq_true rfl) rfl rfl rfl h (fun r1 u2 h => ?_)
  refine w_callSi (ls' := [some (.int r1)]) cv_Mod_220 (dk_Mod_token 92 rfl) [.int r1] [] rfl rfl (Nat.le_of_ble_eq_true rfl) (Nat.le_of_ble_eq_true rfl) rfl rfl rfl h (fun r3 u4 h => ?_)
  refine w_if_eq 212 (dk_Mod_token 93 rfl) (by decide) (fun c_ => ?_) (fun c_ => ?_)
  · replace h := h.1 c_
    refine w_aload_n (dk_Mod_token 113 rfl) rfl ?_
    refine w_getr (dk_Mod_token 114 rfl) lk_Mod_57 rfl rfl rfl ?_
    refine w_aload_n (dk_Mod_token 115 rfl) rfl ?_
    refine w_geti (v := aI u4 52 18) (dk_Mod_token 116 rfl) lk_Mod_66 rfl rfl rfl ?_
    refine w_iconst (v := 2) (dk_Mod_token 117 rfl) rfl ?_
    obtain ⟨k5, e_k5, l_k5, h⟩ := h
    refine w_iast (k_ := k5) (dk_Mod_token 118 rfl) rfl (by decide) e_k5 l_k5 ?_
    refine w_aload_n (dk_Mod_token 119 rfl) rfl ?_
    refine w_getr (dk_Mod_token 120 rfl) lk_Mod_63 rfl rfl rfl ?_
    refine w_aload_n (dk_Mod_token 121 rfl) rfl ?_
    refine w_geti (v := aI u4 52 18) (dk_Mod_token 122 rfl) lk_Mod_66 rfl rfl rfl ?_
    refine w_lload (dk_Mod_token 123 rfl) rfl ?_
    obtain ⟨k6, e_k6, l_k6, h⟩ := h
    refine w_last (k_ := k6) (dk_Mod_token 124 rfl) rfl (by decide) e_k6 l_k6 ?_
    refine w_lload (dk_Mod_token 125 rfl) rfl ?_
    refine w_ldc2 (dk_Mod_token 126 rfl) kl_Mod_223 ?_
    refine w_lcmp_le 246 (dk_Mod_token 127 rfl) (dk_Mod_token 128 rfl) (by decide) (fun c_ => ?_) (fun c_ => ?_)
    · replace h := h.1 c_
      refine w_iload_n (dk_Mod_token 131 rfl) rfl ?_
      exact w_iret (dk_Mod_token 132 rfl) rfl h
    · replace h := h.2 c_
      refine w_iconst (v := (-1)) (dk_Mod_token 129 rfl) rfl ?_
      refine w_goto 247 (dk_Mod_token 130 rfl) (by decide) ?_
      exact w_iret (dk_Mod_token 132 rfl) rfl h
  · replace h := h.2 c_
    refine w_lload (dk_Mod_token 94 rfl) rfl ?_
    refine w_ldc2 (dk_Mod_token 95 rfl) kl_Mod_223 ?_
    refine w_lcmp_le 187 (dk_Mod_token 96 rfl) (dk_Mod_token 97 rfl) (by decide) (fun c_ => ?_) (fun c_ => ?_)
    · replace h := h.1 c_
      refine w_ldc2 (dk_Mod_token 100 rfl) kl_Mod_225 ?_
      refine w_lload (dk_Mod_token 101 rfl) rfl ?_
      refine w_lmul (dk_Mod_token 102 rfl) ?_
      refine w_aload_n (dk_Mod_token 103 rfl) rfl ?_
      refine w_iload_n (dk_Mod_token 104 rfl) rfl ?_
      refine w_callVi (ls' := [some (.ref 52), some (.int x3)]) cv_Mod_212 (dk_Mod_token 105 rfl) (ci := 10) rfl rfl [.int x3] [.long (10 * x4)] rfl rfl (Nat.le_of_ble_eq_true rfl) (Nat.le_of_ble_eq_true rfl) rfl rfl rfl h (fun r7 u8 h => ?_)
      refine w_i2l (dk_Mod_token 106 rfl) ?_
      refine w_ladd (dk_Mod_token 107 rfl) ?_
      refine w_ldc2 (dk_Mod_token 108 rfl) kl_Mod_227 ?_
      refine w_lsub (dk_Mod_token 109 rfl) ?_
      refine w_lstore (ls' := [some (.ref 52), some (.int x1), some (.int x2), some (.int x3), some (.long (((10 * x4) + (Int32.toInt64 r7)) - 48)), none, none, none]) (dk_Mod_token 110 rfl) (by decide) rfl ?_
      refine w_iinc (v := x3 + 1) (ls' := [some (.ref 52), some (.int x1), some (.int x2), some (.int (x3 + 1)), some (.long (((10 * x4) + (Int32.toInt64 r7)) - 48)), none, none, none]) (dk_Mod_token 111 rfl) rfl rfl (by decide) rfl ?_
      refine w_goto 162 (dk_Mod_token 112 rfl) (by decide) ?_
      exact h
    · replace h := h.2 c_
      refine w_lload (dk_Mod_token 98 rfl) rfl ?_
      refine w_goto 204 (dk_Mod_token 99 rfl) (by decide) ?_
      refine w_lstore (ls' := [some (.ref 52), some (.int x1), some (.int x2), some (.int x3), some (.long x4), none, none, none]) (dk_Mod_token 110 rfl) (by decide) rfl ?_
      refine w_iinc (v := x3 + 1) (ls' := [some (.ref 52), some (.int x1), some (.int x2), some (.int (x3 + 1)), some (.long x4), none, none, none]) (dk_Mod_token 111 rfl) rfl rfl (by decide) rfl ?_
      refine w_goto 162 (dk_Mod_token 112 rfl) (by decide) ?_
      exact h
theorem g_Mod_token_293 {d : Nat} {u : Us} {Q : Ot → Us → Prop} (x1 : Int32) (x2 : Int32) (x3 : Int32) (x4 : Int64) (s0 : Int32)
    (h : (s0 = 0 → ∃ k1 : Nat, aI u 52 18 = nI k1 ∧ k1 < 152 ∧ ((x2 = 61 → WS (d + 1) m_Mod_token 421 [some (.ref 52), some (.int x1), some (.int x2), some (.int x3), some (.long x4), none, some (.int s0), none] [.int 1] (uL u 65 k1 (Int32.toInt64 x2)) Q) ∧ (¬ (x2 = 61) → (x2 = 60 → WS (d + 1) m_Mod_token 421 [some (.ref 52), some (.int x1), some (.int x2), some (.int x3), some (.long x4), none, some (.int s0), none] [.int 1] (uL u 65 k1 (Int32.toInt64 x2)) Q) ∧ (¬ (x2 = 60) → (x2 = 62 → WS (d + 1) m_Mod_token 421 [some (.ref 52), some (.int x1), some (.int x2), some (.int x3), some (.long x4), none, some (.int s0), none] [.int 1] (uL u 65 k1 (Int32.toInt64 x2)) Q) ∧ (¬ (x2 = 62) → (x2 = 43 → WS (d + 1) m_Mod_token 421 [some (.ref 52), some (.int x1), some (.int x2), some (.int x3), some (.long x4), none, some (.int s0), none] [.int 1] (uL u 65 k1 (Int32.toInt64 x2)) Q) ∧ (¬ (x2 = 43) → (x2 = 45 → WS (d + 1) m_Mod_token 421 [some (.ref 52), some (.int x1), some (.int x2), some (.int x3), some (.long x4), none, some (.int s0), none] [.int 1] (uL u 65 k1 (Int32.toInt64 x2)) Q) ∧ (¬ (x2 = 45) → (x2 = 42 → WS (d + 1) m_Mod_token 421 [some (.ref 52), some (.int x1), some (.int x2), some (.int x3), some (.long x4), none, some (.int s0), none] [.int 1] (uL u 65 k1 (Int32.toInt64 x2)) Q) ∧ (¬ (x2 = 42) → (x2 = 47 → WS (d + 1) m_Mod_token 421 [some (.ref 52), some (.int x1), some (.int x2), some (.int x3), some (.long x4), none, some (.int s0), none] [.int 1] (uL u 65 k1 (Int32.toInt64 x2)) Q) ∧ (¬ (x2 = 47) → (x2 = 37 → WS (d + 1) m_Mod_token 421 [some (.ref 52), some (.int x1), some (.int x2), some (.int x3), some (.long x4), none, some (.int s0), none] [.int 1] (uL u 65 k1 (Int32.toInt64 x2)) Q) ∧ (¬ (x2 = 37) → (x2 = 40 → WS (d + 1) m_Mod_token 421 [some (.ref 52), some (.int x1), some (.int x2), some (.int x3), some (.long x4), none, some (.int s0), none] [.int 1] (uL u 65 k1 (Int32.toInt64 x2)) Q) ∧ (¬ (x2 = 40) → (x2 = 41 → WS (d + 1) m_Mod_token 421 [some (.ref 52), some (.int x1), some (.int x2), some (.int x3), some (.long x4), none, some (.int s0), none] [.int 1] (uL u 65 k1 (Int32.toInt64 x2)) Q) ∧ (¬ (x2 = 41) → (x2 = 123 → WS (d + 1) m_Mod_token 421 [some (.ref 52), some (.int x1), some (.int x2), some (.int x3), some (.long x4), none, some (.int s0), none] [.int 1] (uL u 65 k1 (Int32.toInt64 x2)) Q) ∧ (¬ (x2 = 123) → (x2 = 125 → WS (d + 1) m_Mod_token 421 [some (.ref 52), some (.int x1), some (.int x2), some (.int x3), some (.long x4), none, some (.int s0), none] [.int 1] (uL u 65 k1 (Int32.toInt64 x2)) Q) ∧ (¬ (x2 = 125) → (x2 = 44 → WS (d + 1) m_Mod_token 421 [some (.ref 52), some (.int x1), some (.int x2), some (.int x3), some (.long x4), none, some (.int s0), none] [.int 1] (uL u 65 k1 (Int32.toInt64 x2)) Q) ∧ (¬ (x2 = 44) → (x2 = 59 → WS (d + 1) m_Mod_token 421 [some (.ref 52), some (.int x1), some (.int x2), some (.int x3), some (.long x4), none, some (.int s0), none] [.int 1] (uL u 65 k1 (Int32.toInt64 x2)) Q) ∧ (¬ (x2 = 59) → (x2 = 58 → WS (d + 1) m_Mod_token 421 [some (.ref 52), some (.int x1), some (.int x2), some (.int x3), some (.long x4), none, some (.int s0), none] [.int 1] (uL u 65 k1 (Int32.toInt64 x2)) Q) ∧ (¬ (x2 = 58) → (x2 ≠ 46 → WS (d + 1) m_Mod_token 421 [some (.ref 52), some (.int x1), some (.int x2), some (.int x3), some (.long x4), none, some (.int s0), none] [.int 0] (uL u 65 k1 (Int32.toInt64 x2)) Q) ∧ (x2 = 46 → WS (d + 1) m_Mod_token 421 [some (.ref 52), some (.int x1), some (.int x2), some (.int x3), some (.long x4), none, some (.int s0), none] [.int 1] (uL u 65 k1 (Int32.toInt64 x2)) Q)))))))))))))))))) ∧ (¬ (s0 = 0) → ∃ k2 : Nat, aI u 52 18 = nI k2 ∧ k2 < 152 ∧ ((x2 = 61 → WS (d + 1) m_Mod_token 421 [some (.ref 52), some (.int x1), some (.int x2), some (.int x3), some (.long x4), none, some (.int s0), none] [.int 1] (uL u 65 k2 (Int32.toInt64 (256 + x2))) Q) ∧ (¬ (x2 = 61) → (x2 = 60 → WS (d + 1) m_Mod_token 421 [some (.ref 52), some (.int x1), some (.int x2), some (.int x3), some (.long x4), none, some (.int s0), none] [.int 1] (uL u 65 k2 (Int32.toInt64 (256 + x2))) Q) ∧ (¬ (x2 = 60) → (x2 = 62 → WS (d + 1) m_Mod_token 421 [some (.ref 52), some (.int x1), some (.int x2), some (.int x3), some (.long x4), none, some (.int s0), none] [.int 1] (uL u 65 k2 (Int32.toInt64 (256 + x2))) Q) ∧ (¬ (x2 = 62) → (x2 = 43 → WS (d + 1) m_Mod_token 421 [some (.ref 52), some (.int x1), some (.int x2), some (.int x3), some (.long x4), none, some (.int s0), none] [.int 1] (uL u 65 k2 (Int32.toInt64 (256 + x2))) Q) ∧ (¬ (x2 = 43) → (x2 = 45 → WS (d + 1) m_Mod_token 421 [some (.ref 52), some (.int x1), some (.int x2), some (.int x3), some (.long x4), none, some (.int s0), none] [.int 1] (uL u 65 k2 (Int32.toInt64 (256 + x2))) Q) ∧ (¬ (x2 = 45) → (x2 = 42 → WS (d + 1) m_Mod_token 421 [some (.ref 52), some (.int x1), some (.int x2), some (.int x3), some (.long x4), none, some (.int s0), none] [.int 1] (uL u 65 k2 (Int32.toInt64 (256 + x2))) Q) ∧ (¬ (x2 = 42) → (x2 = 47 → WS (d + 1) m_Mod_token 421 [some (.ref 52), some (.int x1), some (.int x2), some (.int x3), some (.long x4), none, some (.int s0), none] [.int 1] (uL u 65 k2 (Int32.toInt64 (256 + x2))) Q) ∧ (¬ (x2 = 47) → (x2 = 37 → WS (d + 1) m_Mod_token 421 [some (.ref 52), some (.int x1), some (.int x2), some (.int x3), some (.long x4), none, some (.int s0), none] [.int 1] (uL u 65 k2 (Int32.toInt64 (256 + x2))) Q) ∧ (¬ (x2 = 37) → (x2 = 40 → WS (d + 1) m_Mod_token 421 [some (.ref 52), some (.int x1), some (.int x2), some (.int x3), some (.long x4), none, some (.int s0), none] [.int 1] (uL u 65 k2 (Int32.toInt64 (256 + x2))) Q) ∧ (¬ (x2 = 40) → (x2 = 41 → WS (d + 1) m_Mod_token 421 [some (.ref 52), some (.int x1), some (.int x2), some (.int x3), some (.long x4), none, some (.int s0), none] [.int 1] (uL u 65 k2 (Int32.toInt64 (256 + x2))) Q) ∧ (¬ (x2 = 41) → (x2 = 123 → WS (d + 1) m_Mod_token 421 [some (.ref 52), some (.int x1), some (.int x2), some (.int x3), some (.long x4), none, some (.int s0), none] [.int 1] (uL u 65 k2 (Int32.toInt64 (256 + x2))) Q) ∧ (¬ (x2 = 123) → (x2 = 125 → WS (d + 1) m_Mod_token 421 [some (.ref 52), some (.int x1), some (.int x2), some (.int x3), some (.long x4), none, some (.int s0), none] [.int 1] (uL u 65 k2 (Int32.toInt64 (256 + x2))) Q) ∧ (¬ (x2 = 125) → (x2 = 44 → WS (d + 1) m_Mod_token 421 [some (.ref 52), some (.int x1), some (.int x2), some (.int x3), some (.long x4), none, some (.int s0), none] [.int 1] (uL u 65 k2 (Int32.toInt64 (256 + x2))) Q) ∧ (¬ (x2 = 44) → (x2 = 59 → WS (d + 1) m_Mod_token 421 [some (.ref 52), some (.int x1), some (.int x2), some (.int x3), some (.long x4), none, some (.int s0), none] [.int 1] (uL u 65 k2 (Int32.toInt64 (256 + x2))) Q) ∧ (¬ (x2 = 59) → (x2 = 58 → WS (d + 1) m_Mod_token 421 [some (.ref 52), some (.int x1), some (.int x2), some (.int x3), some (.long x4), none, some (.int s0), none] [.int 1] (uL u 65 k2 (Int32.toInt64 (256 + x2))) Q) ∧ (¬ (x2 = 58) → (x2 ≠ 46 → WS (d + 1) m_Mod_token 421 [some (.ref 52), some (.int x1), some (.int x2), some (.int x3), some (.long x4), none, some (.int s0), none] [.int 0] (uL u 65 k2 (Int32.toInt64 (256 + x2))) Q) ∧ (x2 = 46 → WS (d + 1) m_Mod_token 421 [some (.ref 52), some (.int x1), some (.int x2), some (.int x3), some (.long x4), none, some (.int s0), none] [.int 1] (uL u 65 k2 (Int32.toInt64 (256 + x2))) Q))))))))))))))))))) :
    WS (d + 1) m_Mod_token 293 [some (.ref 52), some (.int x1), some (.int x2), some (.int x3), some (.long x4), none, none, none] [.int s0] u Q := by
  refine w_istore (ls' := [some (.ref 52), some (.int x1), some (.int x2), some (.int x3), some (.long x4), none, some (.int s0), none]) (dk_Mod_token 158 rfl) (by decide) rfl ?_
  refine w_aload_n (dk_Mod_token 159 rfl) rfl ?_
  refine w_getr (dk_Mod_token 160 rfl) lk_Mod_63 rfl rfl rfl ?_
  refine w_aload_n (dk_Mod_token 161 rfl) rfl ?_
  refine w_geti (v := aI u 52 18) (dk_Mod_token 162 rfl) lk_Mod_66 rfl rfl rfl ?_
  refine w_iload (dk_Mod_token 163 rfl) rfl ?_
  refine w_if_eq 317 (dk_Mod_token 164 rfl) (by decide) (fun c_ => ?_) (fun c_ => ?_)
  · replace h := h.1 c_
    refine w_iload_n (dk_Mod_token 170 rfl) rfl ?_
    refine w_i2l (dk_Mod_token 171 rfl) ?_
    obtain ⟨k1, e_k1, l_k1, h⟩ := h
    refine w_last (k_ := k1) (dk_Mod_token 172 rfl) rfl (by decide) e_k1 l_k1 ?_
    refine w_iload_n (dk_Mod_token 173 rfl) rfl ?_
    refine w_bipush (v := 61) (dk_Mod_token 174 rfl) rfl ?_
    refine w_icmp_eq 416 (dk_Mod_token 175 rfl) (by decide) (fun c_ => ?_) (fun c_ => ?_)
    · replace h := h.1 c_
      refine w_iconst (v := 1) (dk_Mod_token 221 rfl) rfl ?_
      refine w_goto 421 (dk_Mod_token 222 rfl) (by decide) ?_
      exact h
    · replace h := h.2 c_
      refine w_iload_n (dk_Mod_token 176 rfl) rfl ?_
      refine w_bipush (v := 60) (dk_Mod_token 177 rfl) rfl ?_
      refine w_icmp_eq 416 (dk_Mod_token 178 rfl) (by decide) (fun c_ => ?_) (fun c_ => ?_)
      · replace h := h.1 c_
        refine w_iconst (v := 1) (dk_Mod_token 221 rfl) rfl ?_
        refine w_goto 421 (dk_Mod_token 222 rfl) (by decide) ?_
        exact h
      · replace h := h.2 c_
        refine w_iload_n (dk_Mod_token 179 rfl) rfl ?_
        refine w_bipush (v := 62) (dk_Mod_token 180 rfl) rfl ?_
        refine w_icmp_eq 416 (dk_Mod_token 181 rfl) (by decide) (fun c_ => ?_) (fun c_ => ?_)
        · replace h := h.1 c_
          refine w_iconst (v := 1) (dk_Mod_token 221 rfl) rfl ?_
          refine w_goto 421 (dk_Mod_token 222 rfl) (by decide) ?_
          exact h
        · replace h := h.2 c_
          refine w_iload_n (dk_Mod_token 182 rfl) rfl ?_
          refine w_bipush (v := 43) (dk_Mod_token 183 rfl) rfl ?_
          refine w_icmp_eq 416 (dk_Mod_token 184 rfl) (by decide) (fun c_ => ?_) (fun c_ => ?_)
          · replace h := h.1 c_
            refine w_iconst (v := 1) (dk_Mod_token 221 rfl) rfl ?_
            refine w_goto 421 (dk_Mod_token 222 rfl) (by decide) ?_
            exact h
          · replace h := h.2 c_
            refine w_iload_n (dk_Mod_token 185 rfl) rfl ?_
            refine w_bipush (v := 45) (dk_Mod_token 186 rfl) rfl ?_
            refine w_icmp_eq 416 (dk_Mod_token 187 rfl) (by decide) (fun c_ => ?_) (fun c_ => ?_)
            · replace h := h.1 c_
              refine w_iconst (v := 1) (dk_Mod_token 221 rfl) rfl ?_
              refine w_goto 421 (dk_Mod_token 222 rfl) (by decide) ?_
              exact h
            · replace h := h.2 c_
              refine w_iload_n (dk_Mod_token 188 rfl) rfl ?_
              refine w_bipush (v := 42) (dk_Mod_token 189 rfl) rfl ?_
              refine w_icmp_eq 416 (dk_Mod_token 190 rfl) (by decide) (fun c_ => ?_) (fun c_ => ?_)
              · replace h := h.1 c_
                refine w_iconst (v := 1) (dk_Mod_token 221 rfl) rfl ?_
                refine w_goto 421 (dk_Mod_token 222 rfl) (by decide) ?_
                exact h
              · replace h := h.2 c_
                refine w_iload_n (dk_Mod_token 191 rfl) rfl ?_
                refine w_bipush (v := 47) (dk_Mod_token 192 rfl) rfl ?_
                refine w_icmp_eq 416 (dk_Mod_token 193 rfl) (by decide) (fun c_ => ?_) (fun c_ => ?_)
                · replace h := h.1 c_
                  refine w_iconst (v := 1) (dk_Mod_token 221 rfl) rfl ?_
                  refine w_goto 421 (dk_Mod_token 222 rfl) (by decide) ?_
                  exact h
                · replace h := h.2 c_
                  refine w_iload_n (dk_Mod_token 194 rfl) rfl ?_
                  refine w_bipush (v := 37) (dk_Mod_token 195 rfl) rfl ?_
                  refine w_icmp_eq 416 (dk_Mod_token 196 rfl) (by decide) (fun c_ => ?_) (fun c_ => ?_)
                  · replace h := h.1 c_
                    refine w_iconst (v := 1) (dk_Mod_token 221 rfl) rfl ?_
                    refine w_goto 421 (dk_Mod_token 222 rfl) (by decide) ?_
                    exact h
                  · replace h := h.2 c_
                    refine w_iload_n (dk_Mod_token 197 rfl) rfl ?_
                    refine w_bipush (v := 40) (dk_Mod_token 198 rfl) rfl ?_
                    refine w_icmp_eq 416 (dk_Mod_token 199 rfl) (by decide) (fun c_ => ?_) (fun c_ => ?_)
                    · replace h := h.1 c_
                      refine w_iconst (v := 1) (dk_Mod_token 221 rfl) rfl ?_
                      refine w_goto 421 (dk_Mod_token 222 rfl) (by decide) ?_
                      exact h
                    · replace h := h.2 c_
                      refine w_iload_n (dk_Mod_token 200 rfl) rfl ?_
                      refine w_bipush (v := 41) (dk_Mod_token 201 rfl) rfl ?_
                      refine w_icmp_eq 416 (dk_Mod_token 202 rfl) (by decide) (fun c_ => ?_) (fun c_ => ?_)
                      · replace h := h.1 c_
                        refine w_iconst (v := 1) (dk_Mod_token 221 rfl) rfl ?_
                        refine w_goto 421 (dk_Mod_token 222 rfl) (by decide) ?_
                        exact h
                      · replace h := h.2 c_
                        refine w_iload_n (dk_Mod_token 203 rfl) rfl ?_
                        refine w_bipush (v := 123) (dk_Mod_token 204 rfl) rfl ?_
                        refine w_icmp_eq 416 (dk_Mod_token 205 rfl) (by decide) (fun c_ => ?_) (fun c_ => ?_)
                        · replace h := h.1 c_
                          refine w_iconst (v := 1) (dk_Mod_token 221 rfl) rfl ?_
                          refine w_goto 421 (dk_Mod_token 222 rfl) (by decide) ?_
                          exact h
                        · replace h := h.2 c_
                          refine w_iload_n (dk_Mod_token 206 rfl) rfl ?_
                          refine w_bipush (v := 125) (dk_Mod_token 207 rfl) rfl ?_
                          refine w_icmp_eq 416 (dk_Mod_token 208 rfl) (by decide) (fun c_ => ?_) (fun c_ => ?_)
                          · replace h := h.1 c_
                            refine w_iconst (v := 1) (dk_Mod_token 221 rfl) rfl ?_
                            refine w_goto 421 (dk_Mod_token 222 rfl) (by decide) ?_
                            exact h
                          · replace h := h.2 c_
                            refine w_iload_n (dk_Mod_token 209 rfl) rfl ?_
                            refine w_bipush (v := 44) (dk_Mod_token 210 rfl) rfl ?_
                            refine w_icmp_eq 416 (dk_Mod_token 211 rfl) (by decide) (fun c_ => ?_) (fun c_ => ?_)
                            · replace h := h.1 c_
                              refine w_iconst (v := 1) (dk_Mod_token 221 rfl) rfl ?_
                              refine w_goto 421 (dk_Mod_token 222 rfl) (by decide) ?_
                              exact h
                            · replace h := h.2 c_
                              refine w_iload_n (dk_Mod_token 212 rfl) rfl ?_
                              refine w_bipush (v := 59) (dk_Mod_token 213 rfl) rfl ?_
                              refine w_icmp_eq 416 (dk_Mod_token 214 rfl) (by decide) (fun c_ => ?_) (fun c_ => ?_)
                              · replace h := h.1 c_
                                refine w_iconst (v := 1) (dk_Mod_token 221 rfl) rfl ?_
                                refine w_goto 421 (dk_Mod_token 222 rfl) (by decide) ?_
                                exact h
                              · replace h := h.2 c_
                                refine w_iload_n (dk_Mod_token 215 rfl) rfl ?_
                                refine w_bipush (v := 58) (dk_Mod_token 216 rfl) rfl ?_
                                refine w_icmp_eq 416 (dk_Mod_token 217 rfl) (by decide) (fun c_ => ?_) (fun c_ => ?_)
                                · replace h := h.1 c_
                                  refine w_iconst (v := 1) (dk_Mod_token 221 rfl) rfl ?_
                                  refine w_goto 421 (dk_Mod_token 222 rfl) (by decide) ?_
                                  exact h
                                · replace h := h.2 c_
                                  refine w_iload_n (dk_Mod_token 218 rfl) rfl ?_
                                  refine w_bipush (v := 46) (dk_Mod_token 219 rfl) rfl ?_
                                  refine w_icmp_ne 420 (dk_Mod_token 220 rfl) (by decide) (fun c_ => ?_) (fun c_ => ?_)
                                  · replace h := h.1 c_
                                    refine w_iconst (v := 0) (dk_Mod_token 223 rfl) rfl ?_
                                    exact h
                                  · replace h := h.2 c_
                                    refine w_iconst (v := 1) (dk_Mod_token 221 rfl) rfl ?_
                                    refine w_goto 421 (dk_Mod_token 222 rfl) (by decide) ?_
                                    exact h
  · replace h := h.2 c_
    refine w_sipush (v := 256) (dk_Mod_token 165 rfl) rfl ?_
    refine w_iload_n (dk_Mod_token 166 rfl) rfl ?_
    refine w_iadd (dk_Mod_token 167 rfl) ?_
    refine w_i2l (dk_Mod_token 168 rfl) ?_
    refine w_goto 319 (dk_Mod_token 169 rfl) (by decide) ?_
    obtain ⟨k2, e_k2, l_k2, h⟩ := h
    refine w_last (k_ := k2) (dk_Mod_token 172 rfl) rfl (by decide) e_k2 l_k2 ?_
    refine w_iload_n (dk_Mod_token 173 rfl) rfl ?_
    refine w_bipush (v := 61) (dk_Mod_token 174 rfl) rfl ?_
    refine w_icmp_eq 416 (dk_Mod_token 175 rfl) (by decide) (fun c_ => ?_) (fun c_ => ?_)
    · replace h := h.1 c_
      refine w_iconst (v := 1) (dk_Mod_token 221 rfl) rfl ?_
      refine w_goto 421 (dk_Mod_token 222 rfl) (by decide) ?_
      exact h
    · replace h := h.2 c_
      refine w_iload_n (dk_Mod_token 176 rfl) rfl ?_
      refine w_bipush (v := 60) (dk_Mod_token 177 rfl) rfl ?_
      refine w_icmp_eq 416 (dk_Mod_token 178 rfl) (by decide) (fun c_ => ?_) (fun c_ => ?_)
      · replace h := h.1 c_
        refine w_iconst (v := 1) (dk_Mod_token 221 rfl) rfl ?_
        refine w_goto 421 (dk_Mod_token 222 rfl) (by decide) ?_
        exact h
      · replace h := h.2 c_
        refine w_iload_n (dk_Mod_token 179 rfl) rfl ?_
        refine w_bipush (v := 62) (dk_Mod_token 180 rfl) rfl ?_
        refine w_icmp_eq 416 (dk_Mod_token 181 rfl) (by decide) (fun c_ => ?_) (fun c_ => ?_)
        · replace h := h.1 c_
          refine w_iconst (v := 1) (dk_Mod_token 221 rfl) rfl ?_
          refine w_goto 421 (dk_Mod_token 222 rfl) (by decide) ?_
          exact h
        · replace h := h.2 c_
          refine w_iload_n (dk_Mod_token 182 rfl) rfl ?_
          refine w_bipush (v := 43) (dk_Mod_token 183 rfl) rfl ?_
          refine w_icmp_eq 416 (dk_Mod_token 184 rfl) (by decide) (fun c_ => ?_) (fun c_ => ?_)
          · replace h := h.1 c_
            refine w_iconst (v := 1) (dk_Mod_token 221 rfl) rfl ?_
            refine w_goto 421 (dk_Mod_token 222 rfl) (by decide) ?_
            exact h
          · replace h := h.2 c_
            refine w_iload_n (dk_Mod_token 185 rfl) rfl ?_
            refine w_bipush (v := 45) (dk_Mod_token 186 rfl) rfl ?_
            refine w_icmp_eq 416 (dk_Mod_token 187 rfl) (by decide) (fun c_ => ?_) (fun c_ => ?_)
            · replace h := h.1 c_
              refine w_iconst (v := 1) (dk_Mod_token 221 rfl) rfl ?_
              refine w_goto 421 (dk_Mod_token 222 rfl) (by decide) ?_
              exact h
            · replace h := h.2 c_
              refine w_iload_n (dk_Mod_token 188 rfl) rfl ?_
              refine w_bipush (v := 42) (dk_Mod_token 189 rfl) rfl ?_
              refine w_icmp_eq 416 (dk_Mod_token 190 rfl) (by decide) (fun c_ => ?_) (fun c_ => ?_)
              · replace h := h.1 c_
                refine w_iconst (v := 1) (dk_Mod_token 221 rfl) rfl ?_
                refine w_goto 421 (dk_Mod_token 222 rfl) (by decide) ?_
                exact h
              · replace h := h.2 c_
                refine w_iload_n (dk_Mod_token 191 rfl) rfl ?_
                refine w_bipush (v := 47) (dk_Mod_token 192 rfl) rfl ?_
                refine w_icmp_eq 416 (dk_Mod_token 193 rfl) (by decide) (fun c_ => ?_) (fun c_ => ?_)
                · replace h := h.1 c_
                  refine w_iconst (v := 1) (dk_Mod_token 221 rfl) rfl ?_
                  refine w_goto 421 (dk_Mod_token 222 rfl) (by decide) ?_
                  exact h
                · replace h := h.2 c_
                  refine w_iload_n (dk_Mod_token 194 rfl) rfl ?_
                  refine w_bipush (v := 37) (dk_Mod_token 195 rfl) rfl ?_
                  refine w_icmp_eq 416 (dk_Mod_token 196 rfl) (by decide) (fun c_ => ?_) (fun c_ => ?_)
                  · replace h := h.1 c_
                    refine w_iconst (v := 1) (dk_Mod_token 221 rfl) rfl ?_
                    refine w_goto 421 (dk_Mod_token 222 rfl) (by decide) ?_
                    exact h
                  · replace h := h.2 c_
                    refine w_iload_n (dk_Mod_token 197 rfl) rfl ?_
                    refine w_bipush (v := 40) (dk_Mod_token 198 rfl) rfl ?_
                    refine w_icmp_eq 416 (dk_Mod_token 199 rfl) (by decide) (fun c_ => ?_) (fun c_ => ?_)
                    · replace h := h.1 c_
                      refine w_iconst (v := 1) (dk_Mod_token 221 rfl) rfl ?_
                      refine w_goto 421 (dk_Mod_token 222 rfl) (by decide) ?_
                      exact h
                    · replace h := h.2 c_
                      refine w_iload_n (dk_Mod_token 200 rfl) rfl ?_
                      refine w_bipush (v := 41) (dk_Mod_token 201 rfl) rfl ?_
                      refine w_icmp_eq 416 (dk_Mod_token 202 rfl) (by decide) (fun c_ => ?_) (fun c_ => ?_)
                      · replace h := h.1 c_
                        refine w_iconst (v := 1) (dk_Mod_token 221 rfl) rfl ?_
                        refine w_goto 421 (dk_Mod_token 222 rfl) (by decide) ?_
                        exact h
                      · replace h := h.2 c_
                        refine w_iload_n (dk_Mod_token 203 rfl) rfl ?_
                        refine w_bipush (v := 123) (dk_Mod_token 204 rfl) rfl ?_
                        refine w_icmp_eq 416 (dk_Mod_token 205 rfl) (by decide) (fun c_ => ?_) (fun c_ => ?_)
                        · replace h := h.1 c_
                          refine w_iconst (v := 1) (dk_Mod_token 221 rfl) rfl ?_
                          refine w_goto 421 (dk_Mod_token 222 rfl) (by decide) ?_
                          exact h
                        · replace h := h.2 c_
                          refine w_iload_n (dk_Mod_token 206 rfl) rfl ?_
                          refine w_bipush (v := 125) (dk_Mod_token 207 rfl) rfl ?_
                          refine w_icmp_eq 416 (dk_Mod_token 208 rfl) (by decide) (fun c_ => ?_) (fun c_ => ?_)
                          · replace h := h.1 c_
                            refine w_iconst (v := 1) (dk_Mod_token 221 rfl) rfl ?_
                            refine w_goto 421 (dk_Mod_token 222 rfl) (by decide) ?_
                            exact h
                          · replace h := h.2 c_
                            refine w_iload_n (dk_Mod_token 209 rfl) rfl ?_
                            refine w_bipush (v := 44) (dk_Mod_token 210 rfl) rfl ?_
                            refine w_icmp_eq 416 (dk_Mod_token 211 rfl) (by decide) (fun c_ => ?_) (fun c_ => ?_)
                            · replace h := h.1 c_
                              refine w_iconst (v := 1) (dk_Mod_token 221 rfl) rfl ?_
                              refine w_goto 421 (dk_Mod_token 222 rfl) (by decide) ?_
                              exact h
                            · replace h := h.2 c_
                              refine w_iload_n (dk_Mod_token 212 rfl) rfl ?_
                              refine w_bipush (v := 59) (dk_Mod_token 213 rfl) rfl ?_
                              refine w_icmp_eq 416 (dk_Mod_token 214 rfl) (by decide) (fun c_ => ?_) (fun c_ => ?_)
                              · replace h := h.1 c_
                                refine w_iconst (v := 1) (dk_Mod_token 221 rfl) rfl ?_
                                refine w_goto 421 (dk_Mod_token 222 rfl) (by decide) ?_
                                exact h
                              · replace h := h.2 c_
                                refine w_iload_n (dk_Mod_token 215 rfl) rfl ?_
                                refine w_bipush (v := 58) (dk_Mod_token 216 rfl) rfl ?_
                                refine w_icmp_eq 416 (dk_Mod_token 217 rfl) (by decide) (fun c_ => ?_) (fun c_ => ?_)
                                · replace h := h.1 c_
                                  refine w_iconst (v := 1) (dk_Mod_token 221 rfl) rfl ?_
                                  refine w_goto 421 (dk_Mod_token 222 rfl) (by decide) ?_
                                  exact h
                                · replace h := h.2 c_
                                  refine w_iload_n (dk_Mod_token 218 rfl) rfl ?_
                                  refine w_bipush (v := 46) (dk_Mod_token 219 rfl) rfl ?_
                                  refine w_icmp_ne 420 (dk_Mod_token 220 rfl) (by decide) (fun c_ => ?_) (fun c_ => ?_)
                                  · replace h := h.1 c_
                                    refine w_iconst (v := 0) (dk_Mod_token 223 rfl) rfl ?_
                                    exact h
                                  · replace h := h.2 c_
                                    refine w_iconst (v := 1) (dk_Mod_token 221 rfl) rfl ?_
                                    refine w_goto 421 (dk_Mod_token 222 rfl) (by decide) ?_
                                    exact h
theorem g_Mod_token_421 {d : Nat} {u : Us} {Q : Ot → Us → Prop} (x1 : Int32) (x2 : Int32) (x3 : Int32) (x4 : Int64) (x6 : Int32) (s0 : Int32)
    (h : (x6 = 0 → (s0 = 0 → Q (.inl (some (.int (-1)))) u) ∧ (¬ (s0 = 0) → Q (.inl (some (.int (x1 + 1)))) u)) ∧ (¬ (x6 = 0) → Q (.inl (some (.int (x1 + 2)))) u)) :
    WS (d + 1) m_Mod_token 421 [some (.ref 52), some (.int x1), some (.int x2), some (.int x3), some (.long x4), none, some (.int x6), none] [.int s0] u Q := by
  refine w_istore (ls' := [some (.ref 52), some (.int x1), some (.int x2), some (.int x3), some (.long x4), none, some (.int x6), some (.int s0)]) (dk_Mod_token 224 rfl) (by decide) rfl ?_
  refine w_iload (dk_Mod_token 225 rfl) rfl ?_
  refine w_if_eq 434 (dk_Mod_token 226 rfl) (by decide) (fun c_ => ?_) (fun c_ => ?_)
  · replace h := h.1 c_
    refine w_iload (dk_Mod_token 231 rfl) rfl ?_
    refine w_if_eq 445 (dk_Mod_token 232 rfl) (by decide) (fun c_ => ?_) (fun c_ => ?_)
    · replace h := h.1 c_
      refine w_iconst (v := (-1)) (dk_Mod_token 237 rfl) rfl ?_
      exact w_iret (dk_Mod_token 238 rfl) rfl h
    · replace h := h.2 c_
      refine w_iload_n (dk_Mod_token 233 rfl) rfl ?_
      refine w_iconst (v := 1) (dk_Mod_token 234 rfl) rfl ?_
      refine w_iadd (dk_Mod_token 235 rfl) ?_
      refine w_goto 446 (dk_Mod_token 236 rfl) (by decide) ?_
      exact w_iret (dk_Mod_token 238 rfl) rfl h
  · replace h := h.2 c_
    refine w_iload_n (dk_Mod_token 227 rfl) rfl ?_
    refine w_iconst (v := 2) (dk_Mod_token 228 rfl) rfl ?_
    refine w_iadd (dk_Mod_token 229 rfl) ?_
    refine w_goto 446 (dk_Mod_token 230 rfl) (by decide) ?_
    exact w_iret (dk_Mod_token 238 rfl) rfl h
theorem g_Mod_letter_0 {d : Nat} {u : Us} {Q : Ot → Us → Prop} (p1 : Int32)
    (h : (p1 < 97 → Q (.inl (some (.int 0))) u) ∧ (¬ (p1 < 97) → (122 < p1 → Q (.inl (some (.int 0))) u) ∧ (¬ (122 < p1) → Q (.inl (some (.int 1))) u))) :
    WS d m_Mod_letter 0 [some (.int p1)] [] u Q := by
  refine w_iload_n (dk_Mod_letter 0 rfl) rfl ?_
  refine w_bipush (v := 97) (dk_Mod_letter 1 rfl) rfl ?_
  refine w_icmp_lt 16 (dk_Mod_letter 2 rfl) (by decide) (fun c_ => ?_) (fun c_ => ?_)
  · replace h := h.1 c_
    refine w_iconst (v := 0) (dk_Mod_letter 8 rfl) rfl ?_
    exact w_bret (dk_Mod_letter 9 rfl) rfl (Or.inl rfl) h
  · replace h := h.2 c_
    refine w_iload_n (dk_Mod_letter 3 rfl) rfl ?_
    refine w_bipush (v := 122) (dk_Mod_letter 4 rfl) rfl ?_
    refine w_icmp_gt 16 (dk_Mod_letter 5 rfl) (by decide) (fun c_ => ?_) (fun c_ => ?_)
    · replace h := h.1 c_
      refine w_iconst (v := 0) (dk_Mod_letter 8 rfl) rfl ?_
      exact w_bret (dk_Mod_letter 9 rfl) rfl (Or.inl rfl) h
    · replace h := h.2 c_
      refine w_iconst (v := 1) (dk_Mod_letter 6 rfl) rfl ?_
      refine w_goto 17 (dk_Mod_letter 7 rfl) (by decide) ?_
      exact w_bret (dk_Mod_letter 9 rfl) rfl (Or.inr rfl) h
theorem g_Mod_digit_0 {d : Nat} {u : Us} {Q : Ot → Us → Prop} (p1 : Int32)
    (h : (p1 < 48 → Q (.inl (some (.int 0))) u) ∧ (¬ (p1 < 48) → (57 < p1 → Q (.inl (some (.int 0))) u) ∧ (¬ (57 < p1) → Q (.inl (some (.int 1))) u))) :
    WS d m_Mod_digit 0 [some (.int p1)] [] u Q := by
  refine w_iload_n (dk_Mod_digit 0 rfl) rfl ?_
  refine w_bipush (v := 48) (dk_Mod_digit 1 rfl) rfl ?_
  refine w_icmp_lt 16 (dk_Mod_digit 2 rfl) (by decide) (fun c_ => ?_) (fun c_ => ?_)
  · replace h := h.1 c_
    refine w_iconst (v := 0) (dk_Mod_digit 8 rfl) rfl ?_
    exact w_bret (dk_Mod_digit 9 rfl) rfl (Or.inl rfl) h
  · replace h := h.2 c_
    refine w_iload_n (dk_Mod_digit 3 rfl) rfl ?_
    refine w_bipush (v := 57) (dk_Mod_digit 4 rfl) rfl ?_
    refine w_icmp_gt 16 (dk_Mod_digit 5 rfl) (by decide) (fun c_ => ?_) (fun c_ => ?_)
    · replace h := h.1 c_
      refine w_iconst (v := 0) (dk_Mod_digit 8 rfl) rfl ?_
      exact w_bret (dk_Mod_digit 9 rfl) rfl (Or.inl rfl) h
    · replace h := h.2 c_
      refine w_iconst (v := 1) (dk_Mod_digit 6 rfl) rfl ?_
      refine w_goto 17 (dk_Mod_digit 7 rfl) (by decide) ?_
      exact w_bret (dk_Mod_digit 9 rfl) rfl (Or.inr rfl) h
theorem g_Mod_compile_0 {d : Nat} {u : Us} {Q : Ot → Us → Prop} 
    (h : WS (d + 1) m_Mod_compile 32 [some (.ref 52), some (.int 1)] [] (uI (uI (uI (uI (uI (uI u 52 25 0) 52 20 0) 52 26 0) 52 28 0) 52 30 0) 52 21 (-1)) Q) :
    WS (d + 1) m_Mod_compile 0 [some (.ref 52), none] [] u Q := by
  refine w_aload_n (dk_Mod_compile 0 rfl) rfl ?_
  refine w_iconst (v := 0) (dk_Mod_compile 1 rfl) rfl ?_
  refine w_puti (dk_Mod_compile 2 rfl) lk_Mod_88 rfl rfl ?_
  refine w_aload_n (dk_Mod_compile 3 rfl) rfl ?_
  refine w_iconst (v := 0) (dk_Mod_compile 4 rfl) rfl ?_
  refine w_puti (dk_Mod_compile 5 rfl) lk_Mod_72 rfl rfl ?_
  refine w_aload_n (dk_Mod_compile 6 rfl) rfl ?_
  refine w_iconst (v := 0) (dk_Mod_compile 7 rfl) rfl ?_
  refine w_puti (dk_Mod_compile 8 rfl) lk_Mod_91 rfl rfl ?_
  refine w_aload_n (dk_Mod_compile 9 rfl) rfl ?_
  refine w_iconst (v := 0) (dk_Mod_compile 10 rfl) rfl ?_
  refine w_puti (dk_Mod_compile 11 rfl) lk_Mod_97 rfl rfl ?_
  refine w_aload_n (dk_Mod_compile 12 rfl) rfl ?_
  refine w_iconst (v := 0) (dk_Mod_compile 13 rfl) rfl ?_
  refine w_puti (dk_Mod_compile 14 rfl) lk_Mod_103 rfl rfl ?_
  refine w_aload_n (dk_Mod_compile 15 rfl) rfl ?_
  refine w_iconst (v := (-1)) (dk_Mod_compile 16 rfl) rfl ?_
  refine w_puti (dk_Mod_compile 17 rfl) lk_Mod_75 rfl rfl ?_
  refine w_iconst (v := 1) (dk_Mod_compile 18 rfl) rfl ?_
  refine w_istore_n (ls' := [some (.ref 52), some (.int 1)]) (dk_Mod_compile 19 rfl) (by decide) rfl ?_
  exact h
theorem g_Mod_compile_32 {d : Nat} {u : Us} {Q : Ot → Us → Prop} (x1 : Int32)
    (h : (x1 = 0 → (x1 = 0 → Q (.inl (some (.int 0))) u) ∧ (¬ (x1 = 0) → ((aI u 52 30) = 0 → Q (.inl (some (.int 1))) u) ∧ (¬ ((aI u 52 30) = 0) → WS d m_Mod_wrong 0 [some (.ref 52)] [] u (Ri (fun (r1 : Int32) (u2 : Us) => (r1 = 0 → Q (.inl (some (.int 0))) u2) ∧ (¬ (r1 = 0) → Q (.inl (some (.int 1))) u2)) (fun x u => Q (.inr x) u))))) ∧ (¬ (x1 = 0) → ∃ k3 : Nat, aI u 52 20 = nI k3 ∧ k3 < 152 ∧ (((aI u 63 k3) = 0 → (x1 = 0 → Q (.inl (some (.int 0))) u) ∧ (¬ (x1 = 0) → ((aI u 52 30) = 0 → Q (.inl (some (.int 1))) u) ∧ (¬ ((aI u 52 30) = 0) → WS d m_Mod_wrong 0 [some (.ref 52)] [] u (Ri (fun (r4 : Int32) (u5 : Us) => (r4 = 0 → Q (.inl (some (.int 0))) u5) ∧ (¬ (r4 = 0) → Q (.inl (some (.int 1))) u5)) (fun x u => Q (.inr x) u))))) ∧ (¬ ((aI u 63 k3) = 0) → WS d m_Mod_statement 0 [some (.ref 52), none] [] u (Ri (fun (r6 : Int32) (u7 : Us) => WS (d + 1) m_Mod_compile 32 [some (.ref 52), some (.int r6)] [] u7 Q) (fun x u => Q (.inr x) u)))))) :
    WS (d + 1) m_Mod_compile 32 [some (.ref 52), some (.int x1)] [] u Q := by
  refine w_iload_n (dk_Mod_compile 20 rfl) rfl ?_
  refine w_if_eq 56 (dk_Mod_compile 21 rfl) (by decide) (fun c_ => ?_) (fun c_ => ?_)
  · replace h := h.1 c_
    refine w_iload_n (dk_Mod_compile 32 rfl) rfl ?_
    refine w_if_eq 78 (dk_Mod_compile 33 rfl) (by decide) (fun c_ => ?_) (fun c_ => ?_)
    · replace h := h.1 c_
      refine w_iconst (v := 0) (dk_Mod_compile 42 rfl) rfl ?_
      exact w_bret (dk_Mod_compile 43 rfl) rfl (Or.inl rfl) h
    · replace h := h.2 c_
      refine w_aload_n (dk_Mod_compile 34 rfl) rfl ?_
      refine w_geti (v := aI u 52 30) (dk_Mod_compile 35 rfl) lk_Mod_103 rfl rfl rfl ?_
      refine w_if_eq 74 (dk_Mod_compile 36 rfl) (by decide) (fun c_ => ?_) (fun c_ => ?_)
      · replace h := h.1 c_
        refine w_iconst (v := 1) (dk_Mod_compile 40 rfl) rfl ?_
        refine w_goto 79 (dk_Mod_compile 41 rfl) (by decide) ?_
        exact w_bret (dk_Mod_compile 43 rfl) rfl (Or.inr rfl) h
      · replace h := h.2 c_
        refine w_aload_n (dk_Mod_compile 37 rfl) rfl ?_
        refine w_callVi (ls' := [some (.ref 52)]) cv_Mod_235 (dk_Mod_compile 38 rfl) (ci := 10) rfl rfl [] [] rfl rfl (Nat.le_of_ble_eq_true rfl) (Nat.le_of_ble_eq_true rfl) rfl rfl rfl h (fun r1 u2 h => ?_)
        refine w_if_eq 78 (dk_Mod_compile 39 rfl) (by decide) (fun c_ => ?_) (fun c_ => ?_)
        · replace h := h.1 c_
          refine w_iconst (v := 0) (dk_Mod_compile 42 rfl) rfl ?_
          exact w_bret (dk_Mod_compile 43 rfl) rfl (Or.inl rfl) h
        · replace h := h.2 c_
          refine w_iconst (v := 1) (dk_Mod_compile 40 rfl) rfl ?_
          refine w_goto 79 (dk_Mod_compile 41 rfl) (by decide) ?_
          exact w_bret (dk_Mod_compile 43 rfl) rfl (Or.inr rfl) h
  · replace h := h.2 c_
    refine w_aload_n (dk_Mod_compile 22 rfl) rfl ?_
    refine w_getr (dk_Mod_compile 23 rfl) lk_Mod_57 rfl rfl rfl ?_
    refine w_aload_n (dk_Mod_compile 24 rfl) rfl ?_
    refine w_geti (v := aI u 52 20) (dk_Mod_compile 25 rfl) lk_Mod_72 rfl rfl rfl ?_
    obtain ⟨k3, e_k3, l_k3, h⟩ := h
    refine w_iald (k_ := k3) (dk_Mod_compile 26 rfl) rfl (by decide) e_k3 l_k3 ?_
    refine w_if_eq 56 (dk_Mod_compile 27 rfl) (by decide) (fun c_ => ?_) (fun c_ => ?_)
    · replace h := h.1 c_
      refine w_iload_n (dk_Mod_compile 32 rfl) rfl ?_
      refine w_if_eq 78 (dk_Mod_compile 33 rfl) (by decide) (fun c_ => ?_) (fun c_ => ?_)
      · replace h := h.1 c_
        refine w_iconst (v := 0) (dk_Mod_compile 42 rfl) rfl ?_
        exact w_bret (dk_Mod_compile 43 rfl) rfl (Or.inl rfl) h
      · replace h := h.2 c_
        refine w_aload_n (dk_Mod_compile 34 rfl) rfl ?_
        refine w_geti (v := aI u 52 30) (dk_Mod_compile 35 rfl) lk_Mod_103 rfl rfl rfl ?_
        refine w_if_eq 74 (dk_Mod_compile 36 rfl) (by decide) (fun c_ => ?_) (fun c_ => ?_)
        · replace h := h.1 c_
          refine w_iconst (v := 1) (dk_Mod_compile 40 rfl) rfl ?_
          refine w_goto 79 (dk_Mod_compile 41 rfl) (by decide) ?_
          exact w_bret (dk_Mod_compile 43 rfl) rfl (Or.inr rfl) h
        · replace h := h.2 c_
          refine w_aload_n (dk_Mod_compile 37 rfl) rfl ?_
          refine w_callVi (ls' := [some (.ref 52)]) cv_Mod_235 (dk_Mod_compile 38 rfl) (ci := 10) rfl rfl [] [] rfl rfl (Nat.le_of_ble_eq_true rfl) (Nat.le_of_ble_eq_true rfl) rfl rfl rfl h (fun r4 u5 h => ?_)
          refine w_if_eq 78 (dk_Mod_compile 39 rfl) (by decide) (fun c_ => ?_) (fun c_ => ?_)
          · replace h := h.1 c_
            refine w_iconst (v := 0) (dk_Mod_compile 42 rfl) rfl ?_
            exact w_bret (dk_Mod_compile 43 rfl) rfl (Or.inl rfl) h
          · replace h := h.2 c_
            refine w_iconst (v := 1) (dk_Mod_compile 40 rfl) rfl ?_
            refine w_goto 79 (dk_Mod_compile 41 rfl) (by decide) ?_
            exact w_bret (dk_Mod_compile 43 rfl) rfl (Or.inr rfl) h
    · replace h := h.2 c_
      refine w_aload_n (dk_Mod_compile 28 rfl) rfl ?_
      refine w_callVi (ls' := [some (.ref 52), none]) cv_Mod_363 (dk_Mod_compile 29 rfl) (ci := 10) rfl rfl [] [] rfl rfl (Nat.le_of_ble_eq_true rfl) (Nat.le_of_ble_eq_true rfl) rfl rfl rfl h (fun r6 u7 h => ?_)
      refine w_istore_n (ls' := [some (.ref 52), some (.int r6)]) (dk_Mod_compile 30 rfl) (by decide) rfl ?_
      refine w_goto 32 (dk_Mod_compile 31 rfl) (by decide) ?_
      exact h
theorem g_Mod_statement_0 {d : Nat} {u : Us} {Q : Ot → Us → Prop} 
    (h : WS d m_Mod_isSign 0 [some (.ref 52), some (.int 125)] [] u (Ri (fun (r1 : Int32) (u2 : Us) => (r1 = 0 → ∃ k3 : Nat, aI u2 52 20 = nI k3 ∧ k3 < 152 ∧ (((aI u2 63 k3) ≠ 1 → ∃ k4 : Nat, aI u2 52 20 = nI k4 ∧ k4 < 152 ∧ (((aI u2 63 k4) = 3 → ∃ k5 : Nat, aI u2 52 20 = nI k5 ∧ k5 < 152 ∧ (((Int64.toInt32 (aL u2 65 k5)) = 0 → WS d m_Mod_emit 0 [some (.ref 52), some (.int 100)] [] u2 (Rv (fun (u8 : Us) => WS d m_Mod_newKind 0 [some (.ref 52), none, none, none] [] u8 (Ri (fun (r9 : Int32) (u10 : Us) => (r9 = 0 ∨ r9 = 1) ∧ Q (.inl (some (.int r9))) u10) (fun x u => Q (.inr x) u))) (fun x u => Q (.inr x) u))) ∧ (((Int64.toInt32 (aL u2 65 k5)) = 1 ∨ (Int64.toInt32 (aL u2 65 k5)) = 2 ∨ (Int64.toInt32 (aL u2 65 k5)) = 4 → WS d m_Mod_onKind 0 [some (.ref 52), some (.int (Int64.toInt32 (aL u2 65 k5))), none] [] u2 (Ri (fun (r12 : Int32) (u13 : Us) => (r12 = 0 ∨ r12 = 1) ∧ Q (.inl (some (.int r12))) u13) (fun x u => Q (.inr x) u))) ∧ (((Int64.toInt32 (aL u2 65 k5)) = 5 ∨ (Int64.toInt32 (aL u2 65 k5)) = 6 → ((Int64.toInt32 (aL u2 65 k5)) ≠ 5 → WS d m_Mod_letOrPrint 0 [some (.ref 52), some (.int 0), none] [] u2 (Ri (fun (r15 : Int32) (u16 : Us) => (r15 = 0 ∨ r15 = 1) ∧ Q (.inl (some (.int r15))) u16) (fun x u => Q (.inr x) u))) ∧ ((Int64.toInt32 (aL u2 65 k5)) = 5 → WS d m_Mod_letOrPrint 0 [some (.ref 52), some (.int 1), none] [] u2 (Ri (fun (r17 : Int32) (u18 : Us) => (r17 = 0 ∨ r17 = 1) ∧ Q (.inl (some (.int r17))) u18) (fun x u => Q (.inr x) u)))) ∧ (((Int64.toInt32 (aL u2 65 k5)) = 7 → WS d m_Mod_each 0 [some (.ref 52), none, none, none, none] [] u2 (Ri (fun (r20 : Int32) (u21 : Us) => (r20 = 0 ∨ r20 = 1) ∧ Q (.inl (some (.int r20))) u21) (fun x u => Q (.inr x) u))) ∧ (((Int64.toInt32 (aL u2 65 k5)) = 9 ∨ (Int64.toInt32 (aL u2 65 k5)) = 11 → ((Int64.toInt32 (aL u2 65 k5)) ≠ 11 → WS d m_Mod_condition 0 [some (.ref 52), some (.int 0), none] [] u2 (Ri (fun (r23 : Int32) (u24 : Us) => (r23 = 0 ∨ r23 = 1) ∧ Q (.inl (some (.int r23))) u24) (fun x u => Q (.inr x) u))) ∧ ((Int64.toInt32 (aL u2 65 k5)) = 11 → WS d m_Mod_condition 0 [some (.ref 52), some (.int 1), none] [] u2 (Ri (fun (r25 : Int32) (u26 : Us) => (r25 = 0 ∨ r25 = 1) ∧ Q (.inl (some (.int r25))) u26) (fun x u => Q (.inr x) u)))) ∧ (((Int64.toInt32 (aL u2 65 k5)) = 12 → WS d m_Mod_cursor 0 [some (.ref 52), some (.int 1), none, none, none] [] u2 (Ri (fun (r28 : Int32) (u29 : Us) => (r28 = 0 ∨ r28 = 1) ∧ Q (.inl (some (.int r28))) u29) (fun x u => Q (.inr x) u))) ∧ (((∀ v ∈ ([0, 1, 2, 4, 5, 6, 7, 9, 11, 12] : List Int32), (Int64.toInt32 (aL u2 65 k5)) ≠ v) → WS d m_Mod_wrong 0 [some (.ref 52)] [] u2 (Ri (fun (r31 : Int32) (u32 : Us) => (r31 = 0 ∨ r31 = 1) ∧ Q (.inl (some (.int r31))) u32) (fun x u => Q (.inr x) u))))))))))) ∧ (¬ ((aI u2 63 k4) = 3) → WS d m_Mod_wrong 0 [some (.ref 52)] [] u2 (Ri (fun (r33 : Int32) (u34 : Us) => (r33 = 0 ∨ r33 = 1) ∧ Q (.inl (some (.int r33))) u34) (fun x u => Q (.inr x) u))))) ∧ ((aI u2 63 k3) = 1 → WS d m_Mod_cursor 0 [some (.ref 52), some (.int 0), none, none, none] [] u2 (Ri (fun (r35 : Int32) (u36 : Us) => (r35 = 0 ∨ r35 = 1) ∧ Q (.inl (some (.int r35))) u36) (fun x u => Q (.inr x) u))))) ∧ (¬ (r1 = 0) → WS d m_Mod_ends 0 [some (.ref 52), none, none] [] u2 (Ri (fun (r37 : Int32) (u38 : Us) => (r37 = 0 ∨ r37 = 1) ∧ Q (.inl (some (.int r37))) u38) (fun x u => Q (.inr x) u)))) (fun x u => Q (.inr x) u))) :
    WS (d + 1) m_Mod_statement 0 [some (.ref 52), none] [] u Q := by
  refine w_aload_n (dk_Mod_statement 0 rfl) rfl ?_
  refine w_bipush (v := 125) (dk_Mod_statement 1 rfl) rfl ?_
  refine w_callVi (ls' := [some (.ref 52), some (.int 125)]) cv_Mod_232 (dk_Mod_statement 2 rfl) (ci := 10) rfl rfl [.int 125] [] rfl rfl (Nat.le_of_ble_eq_true rfl) (Nat.le_of_ble_eq_true rfl) rfl rfl rfl h (fun r1 u2 h => ?_)
  refine w_if_eq 14 (dk_Mod_statement 3 rfl) (by decide) (fun c_ => ?_) (fun c_ => ?_)
  · replace h := h.1 c_
    refine w_aload_n (dk_Mod_statement 7 rfl) rfl ?_
    refine w_getr (dk_Mod_statement 8 rfl) lk_Mod_57 rfl rfl rfl ?_
    refine w_aload_n (dk_Mod_statement 9 rfl) rfl ?_
    refine w_geti (v := aI u2 52 20) (dk_Mod_statement 10 rfl) lk_Mod_72 rfl rfl rfl ?_
    obtain ⟨k3, e_k3, l_k3, h⟩ := h
    refine w_iald (k_ := k3) (dk_Mod_statement 11 rfl) rfl (by decide) e_k3 l_k3 ?_
    refine w_iconst (v := 1) (dk_Mod_statement 12 rfl) rfl ?_
    refine w_icmp_ne 33 (dk_Mod_statement 13 rfl) (by decide) (fun c_ => ?_) (fun c_ => ?_)
    · replace h := h.1 c_
      refine w_aload_n (dk_Mod_statement 18 rfl) rfl ?_
      refine w_getr (dk_Mod_statement 19 rfl) lk_Mod_57 rfl rfl rfl ?_
      refine w_aload_n (dk_Mod_statement 20 rfl) rfl ?_
      refine w_geti (v := aI u2 52 20) (dk_Mod_statement 21 rfl) lk_Mod_72 rfl rfl rfl ?_
      obtain ⟨k4, e_k4, l_k4, h⟩ := h
      refine w_iald (k_ := k4) (dk_Mod_statement 22 rfl) rfl (by decide) e_k4 l_k4 ?_
      refine w_iconst (v := 3) (dk_Mod_statement 23 rfl) rfl ?_
      refine w_icmp_eq 51 (dk_Mod_statement 24 rfl) (by decide) (fun c_ => ?_) (fun c_ => ?_)
      · replace h := h.1 c_
        refine w_aload_n (dk_Mod_statement 28 rfl) rfl ?_
        refine w_getr (dk_Mod_statement 29 rfl) lk_Mod_63 rfl rfl rfl ?_
        refine w_aload_n (dk_Mod_statement 30 rfl) rfl ?_
        refine w_geti (v := aI u2 52 20) (dk_Mod_statement 31 rfl) lk_Mod_72 rfl rfl rfl ?_
        obtain ⟨k5, e_k5, l_k5, h⟩ := h
        refine w_lald (k_ := k5) (dk_Mod_statement 32 rfl) rfl (by decide) e_k5 l_k5 ?_
        refine w_l2i (dk_Mod_statement 33 rfl) ?_
        refine w_istore_n (ls' := [some (.ref 52), some (.int (Int64.toInt32 (aL u2 65 k5)))]) (dk_Mod_statement 34 rfl) (by decide) rfl ?_
        refine w_iload_n (dk_Mod_statement 35 rfl) rfl ?_
        by_cases n6 : (Int64.toInt32 (aL u2 65 k5)) = 0
        · replace h := h.1 n6
          refine w_tabI ds_Mod_statement_63 65 128 (by rw [n6]; decide) (by decide) ?_
          refine w_aload_n (dk_Mod_statement 37 rfl) rfl ?_
          refine w_bipush (v := 100) (dk_Mod_statement 38 rfl) rfl ?_
          refine w_callVv (ls' := [some (.ref 52), some (.int 100)]) cv_Mod_278 (dk_Mod_statement 39 rfl) (ci := 10) rfl rfl [.int 100] [] rfl rfl (Nat.le_of_ble_eq_true rfl) (Nat.le_of_ble_eq_true rfl) rfl rfl rfl h (fun u8 h => ?_)
          refine w_aload_n (dk_Mod_statement 40 rfl) rfl ?_
          refine w_callVi (ls' := [some (.ref 52), none, none, none]) cv_Mod_348 (dk_Mod_statement 41 rfl) (ci := 10) rfl rfl [] [] rfl rfl (Nat.le_of_ble_eq_true rfl) (Nat.le_of_ble_eq_true rfl) rfl rfl rfl h (fun r9 u10 h => ?_)
          exact w_bret (dk_Mod_statement 42 rfl) rfl h.1 h.2
        replace h := h.2
        by_cases n11 : (Int64.toInt32 (aL u2 65 k5)) = 1 ∨ (Int64.toInt32 (aL u2 65 k5)) = 2 ∨ (Int64.toInt32 (aL u2 65 k5)) = 4
        · replace h := h.1 n11
          refine w_tabI ds_Mod_statement_63 76 139 (by rcases n11 with n11 | n11 | n11 <;> rw [n11] <;> decide) (by decide) ?_
          refine w_aload_n (dk_Mod_statement 43 rfl) rfl ?_
          refine w_iload_n (dk_Mod_statement 44 rfl) rfl ?_
          refine w_callVi (ls' := [some (.ref 52), some (.int (Int64.toInt32 (aL u2 65 k5))), none]) cv_Mod_351 (dk_Mod_statement 45 rfl) (ci := 10) rfl rfl [.int (Int64.toInt32 (aL u2 65 k5))] [] rfl rfl (Nat.le_of_ble_eq_true rfl) (Nat.le_of_ble_eq_true rfl) rfl rfl rfl h (fun r12 u13 h => ?_)
          exact w_bret (dk_Mod_statement 46 rfl) rfl h.1 h.2
        replace h := h.2
        by_cases n14 : (Int64.toInt32 (aL u2 65 k5)) = 5 ∨ (Int64.toInt32 (aL u2 65 k5)) = 6
        · replace h := h.1 n14
          refine w_tabI ds_Mod_statement_63 82 145 (by rcases n14 with n14 | n14 <;> rw [n14] <;> decide) (by decide) ?_
          refine w_aload_n (dk_Mod_statement 47 rfl) rfl ?_
          refine w_iload_n (dk_Mod_statement 48 rfl) rfl ?_
          refine w_iconst (v := 5) (dk_Mod_statement 49 rfl) rfl ?_
          refine w_icmp_ne 155 (dk_Mod_statement 50 rfl) (by decide) (fun c_ => ?_) (fun c_ => ?_)
          · replace h := h.1 c_
            refine w_iconst (v := 0) (dk_Mod_statement 53 rfl) rfl ?_
            refine w_callVi (ls' := [some (.ref 52), some (.int 0), none]) cv_Mod_354 (dk_Mod_statement 54 rfl) (ci := 10) rfl rfl [.int 0] [] rfl rfl (Nat.le_of_ble_eq_true rfl) (Nat.le_of_ble_eq_true rfl) rfl rfl rfl h (fun r15 u16 h => ?_)
            exact w_bret (dk_Mod_statement 55 rfl) rfl h.1 h.2
          · replace h := h.2 c_
            refine w_iconst (v := 1) (dk_Mod_statement 51 rfl) rfl ?_
            refine w_goto 156 (dk_Mod_statement 52 rfl) (by decide) ?_
            refine w_callVi (ls' := [some (.ref 52), some (.int 1), none]) cv_Mod_354 (dk_Mod_statement 54 rfl) (ci := 10) rfl rfl [.int 1] [] rfl rfl (Nat.le_of_ble_eq_true rfl) (Nat.le_of_ble_eq_true rfl) rfl rfl rfl h (fun r17 u18 h => ?_)
            exact w_bret (dk_Mod_statement 55 rfl) rfl h.1 h.2
        replace h := h.2
        by_cases n19 : (Int64.toInt32 (aL u2 65 k5)) = 7
        · replace h := h.1 n19
          refine w_tabI ds_Mod_statement_63 97 160 (by rw [n19]; decide) (by decide) ?_
          refine w_aload_n (dk_Mod_statement 56 rfl) rfl ?_
          refine w_callVi (ls' := [some (.ref 52), none, none, none, none]) cv_Mod_357 (dk_Mod_statement 57 rfl) (ci := 10) rfl rfl [] [] rfl rfl (Nat.le_of_ble_eq_true rfl) (Nat.le_of_ble_eq_true rfl) rfl rfl rfl h (fun r20 u21 h => ?_)
          exact w_bret (dk_Mod_statement 58 rfl) rfl h.1 h.2
        replace h := h.2
        by_cases n22 : (Int64.toInt32 (aL u2 65 k5)) = 9 ∨ (Int64.toInt32 (aL u2 65 k5)) = 11
        · replace h := h.1 n22
          refine w_tabI ds_Mod_statement_63 102 165 (by rcases n22 with n22 | n22 <;> rw [n22] <;> decide) (by decide) ?_
          refine w_aload_n (dk_Mod_statement 59 rfl) rfl ?_
          refine w_iload_n (dk_Mod_statement 60 rfl) rfl ?_
          refine w_bipush (v := 11) (dk_Mod_statement 61 rfl) rfl ?_
          refine w_icmp_ne 176 (dk_Mod_statement 62 rfl) (by decide) (fun c_ => ?_) (fun c_ => ?_)
          · replace h := h.1 c_
            refine w_iconst (v := 0) (dk_Mod_statement 65 rfl) rfl ?_
            refine w_callVi (ls' := [some (.ref 52), some (.int 0), none]) cv_Mod_360 (dk_Mod_statement 66 rfl) (ci := 10) rfl rfl [.int 0] [] rfl rfl (Nat.le_of_ble_eq_true rfl) (Nat.le_of_ble_eq_true rfl) rfl rfl rfl h (fun r23 u24 h => ?_)
            exact w_bret (dk_Mod_statement 67 rfl) rfl h.1 h.2
          · replace h := h.2 c_
            refine w_iconst (v := 1) (dk_Mod_statement 63 rfl) rfl ?_
            refine w_goto 177 (dk_Mod_statement 64 rfl) (by decide) ?_
            refine w_callVi (ls' := [some (.ref 52), some (.int 1), none]) cv_Mod_360 (dk_Mod_statement 66 rfl) (ci := 10) rfl rfl [.int 1] [] rfl rfl (Nat.le_of_ble_eq_true rfl) (Nat.le_of_ble_eq_true rfl) rfl rfl rfl h (fun r25 u26 h => ?_)
            exact w_bret (dk_Mod_statement 67 rfl) rfl h.1 h.2
        replace h := h.2
        by_cases n27 : (Int64.toInt32 (aL u2 65 k5)) = 12
        · replace h := h.1 n27
          refine w_tabI ds_Mod_statement_63 118 181 (by rw [n27]; decide) (by decide) ?_
          refine w_aload_n (dk_Mod_statement 68 rfl) rfl ?_
          refine w_iconst (v := 1) (dk_Mod_statement 69 rfl) rfl ?_
          refine w_callVi (ls' := [some (.ref 52), some (.int 1), none, none, none]) cv_Mod_344 (dk_Mod_statement 70 rfl) (ci := 10) rfl rfl [.int 1] [] rfl rfl (Nat.le_of_ble_eq_true rfl) (Nat.le_of_ble_eq_true rfl) rfl rfl rfl h (fun r28 u29 h => ?_)
          exact w_bret (dk_Mod_statement 71 rfl) rfl h.1 h.2
        replace h := h.2
        have hn30 : ∀ v ∈ ([0, 1, 2, 4, 5, 6, 7, 9, 11, 12] : List Int32), (Int64.toInt32 (aL u2 65 k5)) ≠ v := by
          intro v hv e_
          rw [← e_] at hv
          simp only [List.mem_cons, List.not_mem_nil, or_false] at hv
          rcases hv with hv | hv | hv | hv | hv | hv | hv | hv | hv | hv
          · exact n6 hv
          · exact n11 (Or.inl hv)
          · exact n11 (Or.inr (Or.inl hv))
          · exact n11 (Or.inr (Or.inr hv))
          · exact n14 (Or.inl hv)
          · exact n14 (Or.inr hv)
          · exact n19 hv
          · exact n22 (Or.inl hv)
          · exact n22 (Or.inr hv)
          · exact n27 hv
        replace h := h hn30
        refine w_tabD ds_Mod_statement_63 187 [0, 1, 2, 4, 5, 6, 7, 9, 11, 12] (by decide) (by decide) hn30 (by decide) ?_
        refine w_aload_n (dk_Mod_statement 72 rfl) rfl ?_
        refine w_callVi (ls' := [some (.ref 52)]) cv_Mod_235 (dk_Mod_statement 73 rfl) (ci := 10) rfl rfl [] [] rfl rfl (Nat.le_of_ble_eq_true rfl) (Nat.le_of_ble_eq_true rfl) rfl rfl rfl h (fun r31 u32 h => ?_)
        exact w_bret (dk_Mod_statement 74 rfl) rfl h.1 h.2
      · replace h := h.2 c_
        refine w_aload_n (dk_Mod_statement 25 rfl) rfl ?_
        refine w_callVi (ls' := [some (.ref 52)]) cv_Mod_235 (dk_Mod_statement 26 rfl) (ci := 10) rfl rfl [] [] rfl rfl (Nat.le_of_ble_eq_true rfl) (Nat.le_of_ble_eq_true rfl) rfl rfl rfl h (fun r33 u34 h => ?_)
        exact w_bret (dk_Mod_statement 27 rfl) rfl h.1 h.2
    · replace h := h.2 c_
      refine w_aload_n (dk_Mod_statement 14 rfl) rfl ?_
      refine w_iconst (v := 0) (dk_Mod_statement 15 rfl) rfl ?_
      refine w_callVi (ls' := [some (.ref 52), some (.int 0), none, none, none]) cv_Mod_344 (dk_Mod_statement 16 rfl) (ci := 10) rfl rfl [.int 0] [] rfl rfl (Nat.le_of_ble_eq_true rfl) (Nat.le_of_ble_eq_true rfl) rfl rfl rfl h (fun r35 u36 h => ?_)
      exact w_bret (dk_Mod_statement 17 rfl) rfl h.1 h.2
  · replace h := h.2 c_
    refine w_aload_n (dk_Mod_statement 4 rfl) rfl ?_
    refine w_callVi (ls' := [some (.ref 52), none, none]) cv_Mod_341 (dk_Mod_statement 5 rfl) (ci := 10) rfl rfl [] [] rfl rfl (Nat.le_of_ble_eq_true rfl) (Nat.le_of_ble_eq_true rfl) rfl rfl rfl h (fun r37 u38 h => ?_)
    exact w_bret (dk_Mod_statement 6 rfl) rfl h.1 h.2
theorem g_Mod_isSign_0 {d : Nat} {u : Us} {Q : Ot → Us → Prop} (p1 : Int32)
    (h : ∃ k1 : Nat, aI u 52 20 = nI k1 ∧ k1 < 152 ∧ (((aI u 63 k1) ≠ 4 → Q (.inl (some (.int 0))) u) ∧ ((aI u 63 k1) = 4 → ∃ k2 : Nat, aI u 52 20 = nI k2 ∧ k2 < 152 ∧ (((aL u 65 k2) ≠ (Int32.toInt64 p1) → Q (.inl (some (.int 0))) u) ∧ ((aL u 65 k2) = (Int32.toInt64 p1) → Q (.inl (some (.int 1))) u))))) :
    WS d m_Mod_isSign 0 [some (.ref 52), some (.int p1)] [] u Q := by
  refine w_aload_n (dk_Mod_isSign 0 rfl) rfl ?_
  refine w_getr (dk_Mod_isSign 1 rfl) lk_Mod_57 rfl rfl rfl ?_
  refine w_aload_n (dk_Mod_isSign 2 rfl) rfl ?_
  refine w_geti (v := aI u 52 20) (dk_Mod_isSign 3 rfl) lk_Mod_72 rfl rfl rfl ?_
  obtain ⟨k1, e_k1, l_k1, h⟩ := h
  refine w_iald (k_ := k1) (dk_Mod_isSign 4 rfl) rfl (by decide) e_k1 l_k1 ?_
  refine w_iconst (v := 4) (dk_Mod_isSign 5 rfl) rfl ?_
  refine w_icmp_ne 32 (dk_Mod_isSign 6 rfl) (by decide) (fun c_ => ?_) (fun c_ => ?_)
  · replace h := h.1 c_
    refine w_iconst (v := 0) (dk_Mod_isSign 18 rfl) rfl ?_
    exact w_bret (dk_Mod_isSign 19 rfl) rfl (Or.inl rfl) h
  · replace h := h.2 c_
    refine w_aload_n (dk_Mod_isSign 7 rfl) rfl ?_
    refine w_getr (dk_Mod_isSign 8 rfl) lk_Mod_63 rfl rfl rfl ?_
    refine w_aload_n (dk_Mod_isSign 9 rfl) rfl ?_
    refine w_geti (v := aI u 52 20) (dk_Mod_isSign 10 rfl) lk_Mod_72 rfl rfl rfl ?_
    obtain ⟨k2, e_k2, l_k2, h⟩ := h
    refine w_lald (k_ := k2) (dk_Mod_isSign 11 rfl) rfl (by decide) e_k2 l_k2 ?_
    refine w_iload_n (dk_Mod_isSign 12 rfl) rfl ?_
    refine w_i2l (dk_Mod_isSign 13 rfl) ?_
    refine w_lcmp_ne 32 (dk_Mod_isSign 14 rfl) (dk_Mod_isSign 15 rfl) (by decide) (fun c_ => ?_) (fun c_ => ?_)
    · replace h := h.1 c_
      refine w_iconst (v := 0) (dk_Mod_isSign 18 rfl) rfl ?_
      exact w_bret (dk_Mod_isSign 19 rfl) rfl (Or.inl rfl) h
    · replace h := h.2 c_
      refine w_iconst (v := 1) (dk_Mod_isSign 16 rfl) rfl ?_
      refine w_goto 33 (dk_Mod_isSign 17 rfl) (by decide) ?_
      exact w_bret (dk_Mod_isSign 19 rfl) rfl (Or.inr rfl) h
theorem g_Mod_ends_0 {d : Nat} {u : Us} {Q : Ot → Us → Prop} 
    (h : ((aI u 52 30) ≠ 0 → ∃ k1 : Nat, (aI u 52 30) - 1 = nI k1 ∧ k1 < 12 ∧ (∃ k2 : Nat, (aI u 52 30) - 1 = nI k2 ∧ k2 < 12 ∧ (((aI u 69 k1) ≤ 2 → ((aI u 69 k1) ≠ 1 → ∃ k3 : Nat, aI u 70 k2 = nI k3 ∧ k3 < 3000 ∧ (Q (.inl (some (.int 1))) (uI (uI (uI (uI u 52 20 ((aI u 52 20) + 1)) 52 26 ((aI u 52 26) - 1)) 52 30 ((aI u 52 30) - 1)) 67 k3 (aI u 52 25)))) ∧ ((aI u 69 k1) = 1 → WS d m_Mod_isWord 0 [some (.ref 52), some (.int 10)] [] (uI (uI (uI u 52 20 ((aI u 52 20) + 1)) 52 26 ((aI u 52 26) - 1)) 52 30 ((aI u 52 30) - 1)) (Ri (fun (r4 : Int32) (u5 : Us) => (r4 = 0 → ∃ k6 : Nat, aI u 70 k2 = nI k6 ∧ k6 < 3000 ∧ (Q (.inl (some (.int 1))) (uI u5 67 k6 (aI u5 52 25)))) ∧ (¬ (r4 = 0) → WS d m_Mod_emit 0 [some (.ref 52), some (.int 111)] [] (uI u5 52 20 ((aI u5 52 20) + 1)) (Rv (fun (u8 : Us) => WS d m_Mod_emit 0 [some (.ref 52), some (.int 0)] [] u8 (Rv (fun (u10 : Us) => ∃ k11 : Nat, aI u 70 k2 = nI k11 ∧ k11 < 3000 ∧ (WS d m_Mod_block 0 [some (.ref 52), some (.int 2), some (.int ((aI u10 52 25) - 1)), some (.int 0), some (.int 0)] [] (uI u10 67 k11 (aI u10 52 25)) (Rv (fun (u13 : Us) => WS d m_Mod_opens 0 [some (.ref 52)] [] u13 (Ri (fun (r14 : Int32) (u15 : Us) => (r14 = 0 ∨ r14 = 1) ∧ Q (.inl (some (.int r14))) u15) (fun x u => Q (.inr x) u))) (fun x u => Q (.inr x) u)))) (fun x u => Q (.inr x) u))) (fun x u => Q (.inr x) u)))) (fun x u => Q (.inr x) u)))) ∧ (¬ ((aI u 69 k1) ≤ 2) → WS d m_Mod_emit 0 [some (.ref 52), some (.int 111)] [] (uI (uI (uI u 52 20 ((aI u 52 20) + 1)) 52 26 ((aI u 52 26) - 1)) 52 30 ((aI u 52 30) - 1)) (Rv (fun (u17 : Us) => ∃ k18 : Nat, aI u17 52 30 = nI k18 ∧ k18 < 12 ∧ (WS d m_Mod_emit 0 [some (.ref 52), some (.int (aI u17 71 k18))] [] u17 (Rv (fun (u20 : Us) => ((aI u 69 k1) ≠ 1 → ∃ k21 : Nat, aI u 70 k2 = nI k21 ∧ k21 < 3000 ∧ (Q (.inl (some (.int 1))) (uI u20 67 k21 (aI u20 52 25)))) ∧ ((aI u 69 k1) = 1 → WS d m_Mod_isWord 0 [some (.ref 52), some (.int 10)] [] u20 (Ri (fun (r22 : Int32) (u23 : Us) => (r22 = 0 → ∃ k24 : Nat, aI u 70 k2 = nI k24 ∧ k24 < 3000 ∧ (Q (.inl (some (.int 1))) (uI u23 67 k24 (aI u23 52 25)))) ∧ (¬ (r22 = 0) → WS d m_Mod_emit 0 [some (.ref 52), some (.int 111)] [] (uI u23 52 20 ((aI u23 52 20) + 1)) (Rv (fun (u26 : Us) => WS d m_Mod_emit 0 [some (.ref 52), some (.int 0)] [] u26 (Rv (fun (u28 : Us) => ∃ k29 : Nat, aI u 70 k2 = nI k29 ∧ k29 < 3000 ∧ (WS d m_Mod_block 0 [some (.ref 52), some (.int 2), some (.int ((aI u28 52 25) - 1)), some (.int 0), some (.int 0)] [] (uI u28 67 k29 (aI u28 52 25)) (Rv (fun (u31 : Us) => WS d m_Mod_opens 0 [some (.ref 52)] [] u31 (Ri (fun (r32 : Int32) (u33 : Us) => (r32 = 0 ∨ r32 = 1) ∧ Q (.inl (some (.int r32))) u33) (fun x u => Q (.inr x) u))) (fun x u => Q (.inr x) u)))) (fun x u => Q (.inr x) u))) (fun x u => Q (.inr x) u)))) (fun x u => Q (.inr x) u)))) (fun x u => Q (.inr x) u)))) (fun x u => Q (.inr x) u)))))) ∧ ((aI u 52 30) = 0 → WS d m_Mod_wrong 0 [some (.ref 52)] [] u (Ri (fun (r34 : Int32) (u35 : Us) => (r34 = 0 ∨ r34 = 1) ∧ Q (.inl (some (.int r34))) u35) (fun x u => Q (.inr x) u)))) :
    WS (d + 1) m_Mod_ends 0 [some (.ref 52), none, none] [] u Q := by
  refine w_aload_n (dk_Mod_ends 0 rfl) rfl ?_
  refine w_geti (v := aI u 52 30) (dk_Mod_ends 1 rfl) lk_Mod_103 rfl rfl rfl ?_
  refine w_if_ne 12 (dk_Mod_ends 2 rfl) (by decide) (fun c_ => ?_) (fun c_ => ?_)
  · replace h := h.1 c_
    refine w_aload_n (dk_Mod_ends 6 rfl) rfl ?_
    refine w_dup (dk_Mod_ends 7 rfl) rfl ?_
    refine w_geti (v := aI u 52 20) (dk_Mod_ends 8 rfl) lk_Mod_72 rfl rfl rfl ?_
    refine w_iconst (v := 1) (dk_Mod_ends 9 rfl) rfl ?_
    refine w_iadd (dk_Mod_ends 10 rfl) ?_
    refine w_puti (dk_Mod_ends 11 rfl) lk_Mod_72 rfl rfl ?_
    refine w_aload_n (dk_Mod_ends 12 rfl) rfl ?_
    refine w_dup (dk_Mod_ends 13 rfl) rfl ?_
    refine w_geti (v := aI u 52 26) (dk_Mod_ends 14 rfl) lk_Mod_91 rfl rfl rfl ?_
    refine w_iconst (v := 1) (dk_Mod_ends 15 rfl) rfl ?_
    refine w_isub (dk_Mod_ends 16 rfl) ?_
    refine w_puti (dk_Mod_ends 17 rfl) lk_Mod_91 rfl rfl ?_
    refine w_aload_n (dk_Mod_ends 18 rfl) rfl ?_
    refine w_dup (dk_Mod_ends 19 rfl) rfl ?_
    refine w_geti (v := aI u 52 30) (dk_Mod_ends 20 rfl) lk_Mod_103 rfl rfl rfl ?_
    refine w_iconst (v := 1) (dk_Mod_ends 21 rfl) rfl ?_
    refine w_isub (dk_Mod_ends 22 rfl) ?_
    refine w_puti (dk_Mod_ends 23 rfl) lk_Mod_103 rfl rfl ?_
    refine w_aload_n (dk_Mod_ends 24 rfl) rfl ?_
    refine w_getr (dk_Mod_ends 25 rfl) lk_Mod_106 rfl rfl rfl ?_
    refine w_aload_n (dk_Mod_ends 26 rfl) rfl ?_
    refine w_geti (v := (aI u 52 30) - 1) (dk_Mod_ends 27 rfl) lk_Mod_103 rfl rfl rfl ?_
    obtain ⟨k1, e_k1, l_k1, h⟩ := h
    refine w_iald (k_ := k1) (dk_Mod_ends 28 rfl) rfl (by decide) e_k1 l_k1 ?_
    show WS _ _ _ _ [.int (aI u 69 k1)] _ _
    refine w_istore_n (ls' := [some (.ref 52), some (.int (aI u 69 k1)), none]) (dk_Mod_ends 29 rfl) (by decide) rfl ?_
    refine w_aload_n (dk_Mod_ends 30 rfl) rfl ?_
    refine w_getr (dk_Mod_ends 31 rfl) lk_Mod_109 rfl rfl rfl ?_
    refine w_aload_n (dk_Mod_ends 32 rfl) rfl ?_
    refine w_geti (v := (aI u 52 30) - 1) (dk_Mod_ends 33 rfl) lk_Mod_103 rfl rfl rfl ?_
    obtain ⟨k2, e_k2, l_k2, h⟩ := h
    refine w_iald (k_ := k2) (dk_Mod_ends 34 rfl) rfl (by decide) e_k2 l_k2 ?_
    show WS _ _ _ _ [.int (aI u 70 k2)] _ _
    refine w_istore_n (ls' := [some (.ref 52), some (.int (aI u 69 k1)), some (.int (aI u 70 k2))]) (dk_Mod_ends 35 rfl) (by decide) rfl ?_
    refine w_iload_n (dk_Mod_ends 36 rfl) rfl ?_
    refine w_iconst (v := 2) (dk_Mod_ends 37 rfl) rfl ?_
    refine w_icmp_le 86 (dk_Mod_ends 38 rfl) (by decide) (fun c_ => ?_) (fun c_ => ?_)
    · replace h := h.1 c_
      refine w_iload_n (dk_Mod_ends 49 rfl) rfl ?_
      refine w_iconst (v := 1) (dk_Mod_ends 50 rfl) rfl ?_
      refine w_icmp_ne 149 (dk_Mod_ends 51 rfl) (by decide) (fun c_ => ?_) (fun c_ => ?_)
      · replace h := h.1 c_
        refine w_aload_n (dk_Mod_ends 86 rfl) rfl ?_
        refine w_getr (dk_Mod_ends 87 rfl) lk_Mod_85 rfl rfl rfl ?_
        refine w_iload_n (dk_Mod_ends 88 rfl) rfl ?_
        refine w_aload_n (dk_Mod_ends 89 rfl) rfl ?_
        refine w_geti (v := aI u 52 25) (dk_Mod_ends 90 rfl) lk_Mod_88 rfl rfl rfl ?_
        obtain ⟨k3, e_k3, l_k3, h⟩ := h
        refine w_iast (k_ := k3) (dk_Mod_ends 91 rfl) rfl (by decide) e_k3 l_k3 ?_
        refine w_iconst (v := 1) (dk_Mod_ends 92 rfl) rfl ?_
        exact w_bret (dk_Mod_ends 93 rfl) rfl (Or.inr rfl) h
      · replace h := h.2 c_
        refine w_aload_n (dk_Mod_ends 52 rfl) rfl ?_
        refine w_bipush (v := 10) (dk_Mod_ends 53 rfl) rfl ?_
        refine w_callVi (ls' := [some (.ref 52), some (.int 10)]) cv_Mod_239 (dk_Mod_ends 54 rfl) (ci := 10) rfl rfl [.int 10] [] rfl rfl (Nat.le_of_ble_eq_true rfl) (Nat.le_of_ble_eq_true rfl) rfl rfl rfl h (fun r4 u5 h => ?_)
        refine w_if_eq 149 (dk_Mod_ends 55 rfl) (by decide) (fun c_ => ?_) (fun c_ => ?_)
        · replace h := h.1 c_
          refine w_aload_n (dk_Mod_ends 86 rfl) rfl ?_
          refine w_getr (dk_Mod_ends 87 rfl) lk_Mod_85 rfl rfl rfl ?_
          refine w_iload_n (dk_Mod_ends 88 rfl) rfl ?_
          refine w_aload_n (dk_Mod_ends 89 rfl) rfl ?_
          refine w_geti (v := aI u5 52 25) (dk_Mod_ends 90 rfl) lk_Mod_88 rfl rfl rfl ?_
          obtain ⟨k6, e_k6, l_k6, h⟩ := h
          refine w_iast (k_ := k6) (dk_Mod_ends 91 rfl) rfl (by decide) e_k6 l_k6 ?_
          refine w_iconst (v := 1) (dk_Mod_ends 92 rfl) rfl ?_
          exact w_bret (dk_Mod_ends 93 rfl) rfl (Or.inr rfl) h
        · replace h := h.2 c_
          refine w_aload_n (dk_Mod_ends 56 rfl) rfl ?_
          refine w_dup (dk_Mod_ends 57 rfl) rfl ?_
          refine w_geti (v := aI u5 52 20) (dk_Mod_ends 58 rfl) lk_Mod_72 rfl rfl rfl ?_
          refine w_iconst (v := 1) (dk_Mod_ends 59 rfl) rfl ?_
          refine w_iadd (dk_Mod_ends 60 rfl) ?_
          refine w_puti (dk_Mod_ends 61 rfl) lk_Mod_72 rfl rfl ?_
          refine w_aload_n (dk_Mod_ends 62 rfl) rfl ?_
          refine w_bipush (v := 111) (dk_Mod_ends 63 rfl) rfl ?_
          refine w_callVv (ls' := [some (.ref 52), some (.int 111)]) cv_Mod_278 (dk_Mod_ends 64 rfl) (ci := 10) rfl rfl [.int 111] [] rfl rfl (Nat.le_of_ble_eq_true rfl) (Nat.le_of_ble_eq_true rfl) rfl rfl rfl h (fun u8 h => ?_)
          refine w_aload_n (dk_Mod_ends 65 rfl) rfl ?_
          refine w_iconst (v := 0) (dk_Mod_ends 66 rfl) rfl ?_
          refine w_callVv (ls' := [some (.ref 52), some (.int 0)]) cv_Mod_278 (dk_Mod_ends 67 rfl) (ci := 10) rfl rfl [.int 0] [] rfl rfl (Nat.le_of_ble_eq_true rfl) (Nat.le_of_ble_eq_true rfl) rfl rfl rfl h (fun u10 h => ?_)
          refine w_aload_n (dk_Mod_ends 68 rfl) rfl ?_
          refine w_getr (dk_Mod_ends 69 rfl) lk_Mod_85 rfl rfl rfl ?_
          refine w_iload_n (dk_Mod_ends 70 rfl) rfl ?_
          refine w_aload_n (dk_Mod_ends 71 rfl) rfl ?_
          refine w_geti (v := aI u10 52 25) (dk_Mod_ends 72 rfl) lk_Mod_88 rfl rfl rfl ?_
          obtain ⟨k11, e_k11, l_k11, h⟩ := h
          refine w_iast (k_ := k11) (dk_Mod_ends 73 rfl) rfl (by decide) e_k11 l_k11 ?_
          refine w_aload_n (dk_Mod_ends 74 rfl) rfl ?_
          refine w_iconst (v := 2) (dk_Mod_ends 75 rfl) rfl ?_
          refine w_aload_n (dk_Mod_ends 76 rfl) rfl ?_
          refine w_geti (v := aI u10 52 25) (dk_Mod_ends 77 rfl) lk_Mod_88 rfl rfl rfl ?_
          refine w_iconst (v := 1) (dk_Mod_ends 78 rfl) rfl ?_
          refine w_isub (dk_Mod_ends 79 rfl) ?_
          refine w_iconst (v := 0) (dk_Mod_ends 80 rfl) rfl ?_
          refine w_iconst (v := 0) (dk_Mod_ends 81 rfl) rfl ?_
          refine w_callVv (ls' := [some (.ref 52), some (.int 2), some (.int ((aI u10 52 25) - 1)), some (.int 0), some (.int 0)]) cv_Mod_330 (dk_Mod_ends 82 rfl) (ci := 10) rfl rfl [.int 2, .int ((aI u10 52 25) - 1), .int 0, .int 0] [] rfl rfl (Nat.le_of_ble_eq_true rfl) (Nat.le_of_ble_eq_true rfl) rfl rfl rfl h (fun u13 h => ?_)
          refine w_aload_n (dk_Mod_ends 83 rfl) rfl ?_
          refine w_callVi (ls' := [some (.ref 52)]) cv_Mod_334 (dk_Mod_ends 84 rfl) (ci := 10) rfl rfl [] [] rfl rfl (Nat.le_of_ble_eq_true rfl) (Nat.le_of_ble_eq_true rfl) rfl rfl rfl h (fun r14 u15 h => ?_)
          exact w_bret (dk_Mod_ends 85 rfl) rfl h.1 h.2
    · replace h := h.2 c_
      refine w_aload_n (dk_Mod_ends 39 rfl) rfl ?_
      refine w_bipush (v := 111) (dk_Mod_ends 40 rfl) rfl ?_
      refine w_callVv (ls' := [some (.ref 52), some (.int 111)]) cv_Mod_278 (dk_Mod_ends 41 rfl) (ci := 10) rfl rfl [.int 111] [] rfl rfl (Nat.le_of_ble_eq_true rfl) (Nat.le_of_ble_eq_true rfl) rfl rfl rfl h (fun u17 h => ?_)
      refine w_aload_n (dk_Mod_ends 42 rfl) rfl ?_
      refine w_aload_n (dk_Mod_ends 43 rfl) rfl ?_
      refine w_getr (dk_Mod_ends 44 rfl) lk_Mod_112 rfl rfl rfl ?_
      refine w_aload_n (dk_Mod_ends 45 rfl) rfl ?_
      refine w_geti (v := aI u17 52 30) (dk_Mod_ends 46 rfl) lk_Mod_103 rfl rfl rfl ?_
      obtain ⟨k18, e_k18, l_k18, h⟩ := h
      refine w_iald (k_ := k18) (dk_Mod_ends 47 rfl) rfl (by decide) e_k18 l_k18 ?_
      refine w_callVv (ls' := [some (.ref 52), some (.int (aI u17 71 k18))]) cv_Mod_278 (dk_Mod_ends 48 rfl) (ci := 10) rfl rfl [.int (aI u17 71 k18)] [] rfl rfl (Nat.le_of_ble_eq_true rfl) (Nat.le_of_ble_eq_true rfl) rfl rfl rfl h (fun u20 h => ?_)
      refine w_iload_n (dk_Mod_ends 49 rfl) rfl ?_
      refine w_iconst (v := 1) (dk_Mod_ends 50 rfl) rfl ?_
      refine w_icmp_ne 149 (dk_Mod_ends 51 rfl) (by decide) (fun c_ => ?_) (fun c_ => ?_)
      · replace h := h.1 c_
        refine w_aload_n (dk_Mod_ends 86 rfl) rfl ?_
        refine w_getr (dk_Mod_ends 87 rfl) lk_Mod_85 rfl rfl rfl ?_
        refine w_iload_n (dk_Mod_ends 88 rfl) rfl ?_
        refine w_aload_n (dk_Mod_ends 89 rfl) rfl ?_
        refine w_geti (v := aI u20 52 25) (dk_Mod_ends 90 rfl) lk_Mod_88 rfl rfl rfl ?_
        obtain ⟨k21, e_k21, l_k21, h⟩ := h
        refine w_iast (k_ := k21) (dk_Mod_ends 91 rfl) rfl (by decide) e_k21 l_k21 ?_
        refine w_iconst (v := 1) (dk_Mod_ends 92 rfl) rfl ?_
        exact w_bret (dk_Mod_ends 93 rfl) rfl (Or.inr rfl) h
      · replace h := h.2 c_
        refine w_aload_n (dk_Mod_ends 52 rfl) rfl ?_
        refine w_bipush (v := 10) (dk_Mod_ends 53 rfl) rfl ?_
        refine w_callVi (ls' := [some (.ref 52), some (.int 10)]) cv_Mod_239 (dk_Mod_ends 54 rfl) (ci := 10) rfl rfl [.int 10] [] rfl rfl (Nat.le_of_ble_eq_true rfl) (Nat.le_of_ble_eq_true rfl) rfl rfl rfl h (fun r22 u23 h => ?_)
        refine w_if_eq 149 (dk_Mod_ends 55 rfl) (by decide) (fun c_ => ?_) (fun c_ => ?_)
        · replace h := h.1 c_
          refine w_aload_n (dk_Mod_ends 86 rfl) rfl ?_
          refine w_getr (dk_Mod_ends 87 rfl) lk_Mod_85 rfl rfl rfl ?_
          refine w_iload_n (dk_Mod_ends 88 rfl) rfl ?_
          refine w_aload_n (dk_Mod_ends 89 rfl) rfl ?_
          refine w_geti (v := aI u23 52 25) (dk_Mod_ends 90 rfl) lk_Mod_88 rfl rfl rfl ?_
          obtain ⟨k24, e_k24, l_k24, h⟩ := h
          refine w_iast (k_ := k24) (dk_Mod_ends 91 rfl) rfl (by decide) e_k24 l_k24 ?_
          refine w_iconst (v := 1) (dk_Mod_ends 92 rfl) rfl ?_
          exact w_bret (dk_Mod_ends 93 rfl) rfl (Or.inr rfl) h
        · replace h := h.2 c_
          refine w_aload_n (dk_Mod_ends 56 rfl) rfl ?_
          refine w_dup (dk_Mod_ends 57 rfl) rfl ?_
          refine w_geti (v := aI u23 52 20) (dk_Mod_ends 58 rfl) lk_Mod_72 rfl rfl rfl ?_
          refine w_iconst (v := 1) (dk_Mod_ends 59 rfl) rfl ?_
          refine w_iadd (dk_Mod_ends 60 rfl) ?_
          refine w_puti (dk_Mod_ends 61 rfl) lk_Mod_72 rfl rfl ?_
          refine w_aload_n (dk_Mod_ends 62 rfl) rfl ?_
          refine w_bipush (v := 111) (dk_Mod_ends 63 rfl) rfl ?_
          refine w_callVv (ls' := [some (.ref 52), some (.int 111)]) cv_Mod_278 (dk_Mod_ends 64 rfl) (ci := 10) rfl rfl [.int 111] [] rfl rfl (Nat.le_of_ble_eq_true rfl) (Nat.le_of_ble_eq_true rfl) rfl rfl rfl h (fun u26 h => ?_)
          refine w_aload_n (dk_Mod_ends 65 rfl) rfl ?_
          refine w_iconst (v := 0) (dk_Mod_ends 66 rfl) rfl ?_
          refine w_callVv (ls' := [some (.ref 52), some (.int 0)]) cv_Mod_278 (dk_Mod_ends 67 rfl) (ci := 10) rfl rfl [.int 0] [] rfl rfl (Nat.le_of_ble_eq_true rfl) (Nat.le_of_ble_eq_true rfl) rfl rfl rfl h (fun u28 h => ?_)
          refine w_aload_n (dk_Mod_ends 68 rfl) rfl ?_
          refine w_getr (dk_Mod_ends 69 rfl) lk_Mod_85 rfl rfl rfl ?_
          refine w_iload_n (dk_Mod_ends 70 rfl) rfl ?_
          refine w_aload_n (dk_Mod_ends 71 rfl) rfl ?_
          refine w_geti (v := aI u28 52 25) (dk_Mod_ends 72 rfl) lk_Mod_88 rfl rfl rfl ?_
          obtain ⟨k29, e_k29, l_k29, h⟩ := h
          refine w_iast (k_ := k29) (dk_Mod_ends 73 rfl) rfl (by decide) e_k29 l_k29 ?_
          refine w_aload_n (dk_Mod_ends 74 rfl) rfl ?_
          refine w_iconst (v := 2) (dk_Mod_ends 75 rfl) rfl ?_
          refine w_aload_n (dk_Mod_ends 76 rfl) rfl ?_
          refine w_geti (v := aI u28 52 25) (dk_Mod_ends 77 rfl) lk_Mod_88 rfl rfl rfl ?_
          refine w_iconst (v := 1) (dk_Mod_ends 78 rfl) rfl ?_
          refine w_isub (dk_Mod_ends 79 rfl) ?_
          refine w_iconst (v := 0) (dk_Mod_ends 80 rfl) rfl ?_
          refine w_iconst (v := 0) (dk_Mod_ends 81 rfl) rfl ?_
          refine w_callVv (ls' := [some (.ref 52), some (.int 2), some (.int ((aI u28 52 25) - 1)), some (.int 0), some (.int 0)]) cv_Mod_330 (dk_Mod_ends 82 rfl) (ci := 10) rfl rfl [.int 2, .int ((aI u28 52 25) - 1), .int 0, .int 0] [] rfl rfl (Nat.le_of_ble_eq_true rfl) (Nat.le_of_ble_eq_true rfl) rfl rfl rfl h (fun u31 h => ?_)
          refine w_aload_n (dk_Mod_ends 83 rfl) rfl ?_
          refine w_callVi (ls' := [some (.ref 52)]) cv_Mod_334 (dk_Mod_ends 84 rfl) (ci := 10) rfl rfl [] [] rfl rfl (Nat.le_of_ble_eq_true rfl) (Nat.le_of_ble_eq_true rfl) rfl rfl rfl h (fun r32 u33 h => ?_)
          exact w_bret (dk_Mod_ends 85 rfl) rfl h.1 h.2
  · replace h := h.2 c_
    refine w_aload_n (dk_Mod_ends 3 rfl) rfl ?_
    refine w_callVi (ls' := [some (.ref 52)]) cv_Mod_235 (dk_Mod_ends 4 rfl) (ci := 10) rfl rfl [] [] rfl rfl (Nat.le_of_ble_eq_true rfl) (Nat.le_of_ble_eq_true rfl) rfl rfl rfl h (fun r34 u35 h => ?_)
    exact w_bret (dk_Mod_ends 5 rfl) rfl h.1 h.2
theorem g_Mod_wrong_0 {d : Nat} {u : Us} {Q : Ot → Us → Prop} 
    (h : (0 ≤ (aI u 52 21) → Q (.inl (some (.int 0))) u) ∧ (¬ (0 ≤ (aI u 52 21)) → ∃ k1 : Nat, aI u 52 20 = nI k1 ∧ k1 < 152 ∧ (((aI u 63 k1) ≠ 7 → ∃ k2 : Nat, aI u 52 20 = nI k2 ∧ k2 < 152 ∧ (Q (.inl (some (.int 0))) (uI u 52 21 (aI u 64 k2)))) ∧ ((aI u 63 k1) = 7 → Q (.inl (some (.int 0))) (uI u 52 21 1000))))) :
    WS d m_Mod_wrong 0 [some (.ref 52)] [] u Q := by
  refine w_aload_n (dk_Mod_wrong 0 rfl) rfl ?_
  refine w_geti (v := aI u 52 21) (dk_Mod_wrong 1 rfl) lk_Mod_75 rfl rfl rfl ?_
  refine w_if_ge 40 (dk_Mod_wrong 2 rfl) (by decide) (fun c_ => ?_) (fun c_ => ?_)
  · replace h := h.1 c_
    refine w_iconst (v := 0) (dk_Mod_wrong 19 rfl) rfl ?_
    exact w_bret (dk_Mod_wrong 20 rfl) rfl (Or.inl rfl) h
  · replace h := h.2 c_
    refine w_aload_n (dk_Mod_wrong 3 rfl) rfl ?_
    refine w_aload_n (dk_Mod_wrong 4 rfl) rfl ?_
    refine w_getr (dk_Mod_wrong 5 rfl) lk_Mod_57 rfl rfl rfl ?_
    refine w_aload_n (dk_Mod_wrong 6 rfl) rfl ?_
    refine w_geti (v := aI u 52 20) (dk_Mod_wrong 7 rfl) lk_Mod_72 rfl rfl rfl ?_
    obtain ⟨k1, e_k1, l_k1, h⟩ := h
    refine w_iald (k_ := k1) (dk_Mod_wrong 8 rfl) rfl (by decide) e_k1 l_k1 ?_
    refine w_bipush (v := 7) (dk_Mod_wrong 9 rfl) rfl ?_
    refine w_icmp_ne 28 (dk_Mod_wrong 10 rfl) (by decide) (fun c_ => ?_) (fun c_ => ?_)
    · replace h := h.1 c_
      refine w_aload_n (dk_Mod_wrong 13 rfl) rfl ?_
      refine w_getr (dk_Mod_wrong 14 rfl) lk_Mod_60 rfl rfl rfl ?_
      refine w_aload_n (dk_Mod_wrong 15 rfl) rfl ?_
      refine w_geti (v := aI u 52 20) (dk_Mod_wrong 16 rfl) lk_Mod_72 rfl rfl rfl ?_
      obtain ⟨k2, e_k2, l_k2, h⟩ := h
      refine w_iald (k_ := k2) (dk_Mod_wrong 17 rfl) rfl (by decide) e_k2 l_k2 ?_
      refine w_puti (dk_Mod_wrong 18 rfl) lk_Mod_75 rfl rfl ?_
      refine w_iconst (v := 0) (dk_Mod_wrong 19 rfl) rfl ?_
      exact w_bret (dk_Mod_wrong 20 rfl) rfl (Or.inl rfl) h
    · replace h := h.2 c_
      refine w_sipush (v := 1000) (dk_Mod_wrong 11 rfl) rfl ?_
      refine w_goto 37 (dk_Mod_wrong 12 rfl) (by decide) ?_
      refine w_puti (dk_Mod_wrong 18 rfl) lk_Mod_75 rfl rfl ?_
      refine w_iconst (v := 0) (dk_Mod_wrong 19 rfl) rfl ?_
      exact w_bret (dk_Mod_wrong 20 rfl) rfl (Or.inl rfl) h
theorem g_Mod_emit_0 {d : Nat} {u : Us} {Q : Ot → Us → Prop} (p1 : Int32)
    (h : ∃ k1 : Nat, aI u 52 25 = nI k1 ∧ k1 < 3000 ∧ (Q (.inl none) (uI (uI u 67 k1 p1) 52 25 ((aI u 52 25) + 1)))) :
    WS d m_Mod_emit 0 [some (.ref 52), some (.int p1)] [] u Q := by
  refine w_aload_n (dk_Mod_emit 0 rfl) rfl ?_
  refine w_getr (dk_Mod_emit 1 rfl) lk_Mod_85 rfl rfl rfl ?_
  refine w_aload_n (dk_Mod_emit 2 rfl) rfl ?_
  refine w_geti (v := aI u 52 25) (dk_Mod_emit 3 rfl) lk_Mod_88 rfl rfl rfl ?_
  refine w_iload_n (dk_Mod_emit 4 rfl) rfl ?_
  obtain ⟨k1, e_k1, l_k1, h⟩ := h
  refine w_iast (k_ := k1) (dk_Mod_emit 5 rfl) rfl (by decide) e_k1 l_k1 ?_
  refine w_aload_n (dk_Mod_emit 6 rfl) rfl ?_
  refine w_dup (dk_Mod_emit 7 rfl) rfl ?_
  refine w_geti (v := aI u 52 25) (dk_Mod_emit 8 rfl) lk_Mod_88 rfl rfl rfl ?_
  refine w_iconst (v := 1) (dk_Mod_emit 9 rfl) rfl ?_
  refine w_iadd (dk_Mod_emit 10 rfl) ?_
  refine w_puti (dk_Mod_emit 11 rfl) lk_Mod_88 rfl rfl ?_
  exact w_vret (dk_Mod_emit 12 rfl) rfl h
theorem g_Mod_isWord_0 {d : Nat} {u : Us} {Q : Ot → Us → Prop} (p1 : Int32)
    (h : ∃ k1 : Nat, aI u 52 20 = nI k1 ∧ k1 < 152 ∧ (((aI u 63 k1) ≠ 3 → Q (.inl (some (.int 0))) u) ∧ ((aI u 63 k1) = 3 → ∃ k2 : Nat, aI u 52 20 = nI k2 ∧ k2 < 152 ∧ (((aL u 65 k2) ≠ (Int32.toInt64 p1) → Q (.inl (some (.int 0))) u) ∧ ((aL u 65 k2) = (Int32.toInt64 p1) → Q (.inl (some (.int 1))) u))))) :
    WS d m_Mod_isWord 0 [some (.ref 52), some (.int p1)] [] u Q := by
  refine w_aload_n (dk_Mod_isWord 0 rfl) rfl ?_
  refine w_getr (dk_Mod_isWord 1 rfl) lk_Mod_57 rfl rfl rfl ?_
  refine w_aload_n (dk_Mod_isWord 2 rfl) rfl ?_
  refine w_geti (v := aI u 52 20) (dk_Mod_isWord 3 rfl) lk_Mod_72 rfl rfl rfl ?_
  obtain ⟨k1, e_k1, l_k1, h⟩ := h
  refine w_iald (k_ := k1) (dk_Mod_isWord 4 rfl) rfl (by decide) e_k1 l_k1 ?_
  refine w_iconst (v := 3) (dk_Mod_isWord 5 rfl) rfl ?_
  refine w_icmp_ne 32 (dk_Mod_isWord 6 rfl) (by decide) (fun c_ => ?_) (fun c_ => ?_)
  · replace h := h.1 c_
    refine w_iconst (v := 0) (dk_Mod_isWord 18 rfl) rfl ?_
    exact w_bret (dk_Mod_isWord 19 rfl) rfl (Or.inl rfl) h
  · replace h := h.2 c_
    refine w_aload_n (dk_Mod_isWord 7 rfl) rfl ?_
    refine w_getr (dk_Mod_isWord 8 rfl) lk_Mod_63 rfl rfl rfl ?_
    refine w_aload_n (dk_Mod_isWord 9 rfl) rfl ?_
    refine w_geti (v := aI u 52 20) (dk_Mod_isWord 10 rfl) lk_Mod_72 rfl rfl rfl ?_
    obtain ⟨k2, e_k2, l_k2, h⟩ := h
    refine w_lald (k_ := k2) (dk_Mod_isWord 11 rfl) rfl (by decide) e_k2 l_k2 ?_
    refine w_iload_n (dk_Mod_isWord 12 rfl) rfl ?_
    refine w_i2l (dk_Mod_isWord 13 rfl) ?_
    refine w_lcmp_ne 32 (dk_Mod_isWord 14 rfl) (dk_Mod_isWord 15 rfl) (by decide) (fun c_ => ?_) (fun c_ => ?_)
    · replace h := h.1 c_
      refine w_iconst (v := 0) (dk_Mod_isWord 18 rfl) rfl ?_
      exact w_bret (dk_Mod_isWord 19 rfl) rfl (Or.inl rfl) h
    · replace h := h.2 c_
      refine w_iconst (v := 1) (dk_Mod_isWord 16 rfl) rfl ?_
      refine w_goto 33 (dk_Mod_isWord 17 rfl) (by decide) ?_
      exact w_bret (dk_Mod_isWord 19 rfl) rfl (Or.inr rfl) h
theorem g_Mod_block_0 {d : Nat} {u : Us} {Q : Ot → Us → Prop} (p1 : Int32) (p2 : Int32) (p3 : Int32) (p4 : Int32)
    (h : ∃ k1 : Nat, aI u 52 30 = nI k1 ∧ k1 < 12 ∧ (∃ k2 : Nat, aI u 52 30 = nI k2 ∧ k2 < 12 ∧ (∃ k3 : Nat, aI u 52 30 = nI k3 ∧ k3 < 12 ∧ (∃ k4 : Nat, aI u 52 30 = nI k4 ∧ k4 < 12 ∧ (Q (.inl none) (uI (uI (uI (uI (uI u 69 k1 p1) 70 k2 p2) 71 k3 p3) 72 k4 p4) 52 30 ((aI u 52 30) + 1))))))) :
    WS d m_Mod_block 0 [some (.ref 52), some (.int p1), some (.int p2), some (.int p3), some (.int p4)] [] u Q := by
  refine w_aload_n (dk_Mod_block 0 rfl) rfl ?_
  refine w_getr (dk_Mod_block 1 rfl) lk_Mod_106 rfl rfl rfl ?_
  refine w_aload_n (dk_Mod_block 2 rfl) rfl ?_
  refine w_geti (v := aI u 52 30) (dk_Mod_block 3 rfl) lk_Mod_103 rfl rfl rfl ?_
  refine w_iload_n (dk_Mod_block 4 rfl) rfl ?_
  obtain ⟨k1, e_k1, l_k1, h⟩ := h
  refine w_iast (k_ := k1) (dk_Mod_block 5 rfl) rfl (by decide) e_k1 l_k1 ?_
  refine w_aload_n (dk_Mod_block 6 rfl) rfl ?_
  refine w_getr (dk_Mod_block 7 rfl) lk_Mod_109 rfl rfl rfl ?_
  refine w_aload_n (dk_Mod_block 8 rfl) rfl ?_
  refine w_geti (v := aI u 52 30) (dk_Mod_block 9 rfl) lk_Mod_103 rfl rfl rfl ?_
  refine w_iload_n (dk_Mod_block 10 rfl) rfl ?_
  obtain ⟨k2, e_k2, l_k2, h⟩ := h
  refine w_iast (k_ := k2) (dk_Mod_block 11 rfl) rfl (by decide) e_k2 l_k2 ?_
  refine w_aload_n (dk_Mod_block 12 rfl) rfl ?_
  refine w_getr (dk_Mod_block 13 rfl) lk_Mod_112 rfl rfl rfl ?_
  refine w_aload_n (dk_Mod_block 14 rfl) rfl ?_
  refine w_geti (v := aI u 52 30) (dk_Mod_block 15 rfl) lk_Mod_103 rfl rfl rfl ?_
  refine w_iload_n (dk_Mod_block 16 rfl) rfl ?_
  obtain ⟨k3, e_k3, l_k3, h⟩ := h
  refine w_iast (k_ := k3) (dk_Mod_block 17 rfl) rfl (by decide) e_k3 l_k3 ?_
  refine w_aload_n (dk_Mod_block 18 rfl) rfl ?_
  refine w_getr (dk_Mod_block 19 rfl) lk_Mod_115 rfl rfl rfl ?_
  refine w_aload_n (dk_Mod_block 20 rfl) rfl ?_
  refine w_geti (v := aI u 52 30) (dk_Mod_block 21 rfl) lk_Mod_103 rfl rfl rfl ?_
  refine w_iload (dk_Mod_block 22 rfl) rfl ?_
  obtain ⟨k4, e_k4, l_k4, h⟩ := h
  refine w_iast (k_ := k4) (dk_Mod_block 23 rfl) rfl (by decide) e_k4 l_k4 ?_
  refine w_aload_n (dk_Mod_block 24 rfl) rfl ?_
  refine w_dup (dk_Mod_block 25 rfl) rfl ?_
  refine w_geti (v := aI u 52 30) (dk_Mod_block 26 rfl) lk_Mod_103 rfl rfl rfl ?_
  refine w_iconst (v := 1) (dk_Mod_block 27 rfl) rfl ?_
  refine w_iadd (dk_Mod_block 28 rfl) ?_
  refine w_puti (dk_Mod_block 29 rfl) lk_Mod_103 rfl rfl ?_
  exact w_vret (dk_Mod_block 30 rfl) rfl h
theorem g_Mod_opens_0 {d : Nat} {u : Us} {Q : Ot → Us → Prop} 
    (h : WS d m_Mod_isSign 0 [some (.ref 52), some (.int 123)] [] u (Ri (fun (r1 : Int32) (u2 : Us) => (r1 = 0 → WS d m_Mod_wrong 0 [some (.ref 52)] [] u2 (Ri (fun (r3 : Int32) (u4 : Us) => (r3 = 0 ∨ r3 = 1) ∧ Q (.inl (some (.int r3))) u4) (fun x u => Q (.inr x) u))) ∧ (¬ (r1 = 0) → WS d m_Mod_bracket 0 [some (.ref 52)] [] u2 (Ri (fun (r5 : Int32) (u6 : Us) => (r5 ≠ 0 → Q (.inl (some (.int 1))) (uI u6 52 20 ((aI u6 52 20) + 1))) ∧ (r5 = 0 → WS d m_Mod_wrong 0 [some (.ref 52)] [] u6 (Ri (fun (r7 : Int32) (u8 : Us) => (r7 = 0 ∨ r7 = 1) ∧ Q (.inl (some (.int r7))) u8) (fun x u => Q (.inr x) u)))) (fun x u => Q (.inr x) u)))) (fun x u => Q (.inr x) u))) :
    WS (d + 1) m_Mod_opens 0 [some (.ref 52)] [] u Q := by
  refine w_aload_n (dk_Mod_opens 0 rfl) rfl ?_
  refine w_bipush (v := 123) (dk_Mod_opens 1 rfl) rfl ?_
  refine w_callVi (ls' := [some (.ref 52), some (.int 123)]) cv_Mod_232 (dk_Mod_opens 2 rfl) (ci := 10) rfl rfl [.int 123] [] rfl rfl (Nat.le_of_ble_eq_true rfl) (Nat.le_of_ble_eq_true rfl) rfl rfl rfl h (fun r1 u2 h => ?_)
  refine w_if_eq 16 (dk_Mod_opens 3 rfl) (by decide) (fun c_ => ?_) (fun c_ => ?_)
  · replace h := h.1 c_
    refine w_aload_n (dk_Mod_opens 7 rfl) rfl ?_
    refine w_callVi (ls' := [some (.ref 52)]) cv_Mod_235 (dk_Mod_opens 8 rfl) (ci := 10) rfl rfl [] [] rfl rfl (Nat.le_of_ble_eq_true rfl) (Nat.le_of_ble_eq_true rfl) rfl rfl rfl h (fun r3 u4 h => ?_)
    exact w_bret (dk_Mod_opens 9 rfl) rfl h.1 h.2
  · replace h := h.2 c_
    refine w_aload_n (dk_Mod_opens 4 rfl) rfl ?_
    refine w_callVi (ls' := [some (.ref 52)]) cv_Mod_285 (dk_Mod_opens 5 rfl) (ci := 10) rfl rfl [] [] rfl rfl (Nat.le_of_ble_eq_true rfl) (Nat.le_of_ble_eq_true rfl) rfl rfl rfl h (fun r5 u6 h => ?_)
    refine w_if_ne 21 (dk_Mod_opens 6 rfl) (by decide) (fun c_ => ?_) (fun c_ => ?_)
    · replace h := h.1 c_
      refine w_aload_n (dk_Mod_opens 10 rfl) rfl ?_
      refine w_dup (dk_Mod_opens 11 rfl) rfl ?_
      refine w_geti (v := aI u6 52 20) (dk_Mod_opens 12 rfl) lk_Mod_72 rfl rfl rfl ?_
      refine w_iconst (v := 1) (dk_Mod_opens 13 rfl) rfl ?_
      refine w_iadd (dk_Mod_opens 14 rfl) ?_
      refine w_puti (dk_Mod_opens 15 rfl) lk_Mod_72 rfl rfl ?_
      refine w_iconst (v := 1) (dk_Mod_opens 16 rfl) rfl ?_
      exact w_bret (dk_Mod_opens 17 rfl) rfl (Or.inr rfl) h
    · replace h := h.2 c_
      refine w_aload_n (dk_Mod_opens 7 rfl) rfl ?_
      refine w_callVi (ls' := [some (.ref 52)]) cv_Mod_235 (dk_Mod_opens 8 rfl) (ci := 10) rfl rfl [] [] rfl rfl (Nat.le_of_ble_eq_true rfl) (Nat.le_of_ble_eq_true rfl) rfl rfl rfl h (fun r7 u8 h => ?_)
      exact w_bret (dk_Mod_opens 9 rfl) rfl h.1 h.2
theorem g_Mod_bracket_0 {d : Nat} {u : Us} {Q : Ot → Us → Prop} 
    (h : (10 < ((aI u 52 26) + 1) → Q (.inl (some (.int 0))) (uI u 52 26 ((aI u 52 26) + 1))) ∧ (¬ (10 < ((aI u 52 26) + 1)) → Q (.inl (some (.int 1))) (uI u 52 26 ((aI u 52 26) + 1)))) :
    WS d m_Mod_bracket 0 [some (.ref 52)] [] u Q := by
  refine w_aload_n (dk_Mod_bracket 0 rfl) rfl ?_
  refine w_dup (dk_Mod_bracket 1 rfl) rfl ?_
  refine w_geti (v := aI u 52 26) (dk_Mod_bracket 2 rfl) lk_Mod_91 rfl rfl rfl ?_
  refine w_iconst (v := 1) (dk_Mod_bracket 3 rfl) rfl ?_
  refine w_iadd (dk_Mod_bracket 4 rfl) ?_
  refine w_puti (dk_Mod_bracket 5 rfl) lk_Mod_91 rfl rfl ?_
  refine w_aload_n (dk_Mod_bracket 6 rfl) rfl ?_
  refine w_geti (v := (aI u 52 26) + 1) (dk_Mod_bracket 7 rfl) lk_Mod_91 rfl rfl rfl ?_
  refine w_bipush (v := 10) (dk_Mod_bracket 8 rfl) rfl ?_
  refine w_icmp_gt 23 (dk_Mod_bracket 9 rfl) (by decide) (fun c_ => ?_) (fun c_ => ?_)
  · replace h := h.1 c_
    refine w_iconst (v := 0) (dk_Mod_bracket 12 rfl) rfl ?_
    exact w_bret (dk_Mod_bracket 13 rfl) rfl (Or.inl rfl) h
  · replace h := h.2 c_
    refine w_iconst (v := 1) (dk_Mod_bracket 10 rfl) rfl ?_
    refine w_goto 24 (dk_Mod_bracket 11 rfl) (by decide) ?_
    exact w_bret (dk_Mod_bracket 13 rfl) rfl (Or.inr rfl) h
theorem g_Mod_cursor_0 {d : Nat} {u : Us} {Q : Ot → Us → Prop} (p1 : Int32)
    (h : WS d m_Mod_emit 0 [some (.ref 52), some (.int 100)] [] u (Rv (fun (u2 : Us) => (p1 = 0 → ∃ k3 : Nat, aI u2 52 20 = nI k3 ∧ k3 < 152 ∧ (((aI u2 63 k3) ≠ 1 → WS d m_Mod_wrong 0 [some (.ref 52)] [] u2 (Ri (fun (r4 : Int32) (u5 : Us) => (r4 = 0 ∨ r4 = 1) ∧ Q (.inl (some (.int r4))) u5) (fun x u => Q (.inr x) u))) ∧ ((aI u2 63 k3) = 1 → ∃ k6 : Nat, aI u2 52 20 = nI k6 ∧ k6 < 152 ∧ (WS d m_Mod_kindOf 0 [some (.ref 52), some (.long (aL u2 65 k6)), none, none] [] u2 (Ri (fun (r7 : Int32) (u8 : Us) => (0 ≤ r7 → WS d m_Mod_levelOf 0 [some (.ref 52), some (.int r7), none, none, none] [] u8 (Ri (fun (r9 : Int32) (u10 : Us) => (0 ≤ r9 → (p1 = 0 → WS d m_Mod_sign 0 [some (.ref 52), some (.int 46)] [] (uI u10 52 20 ((aI u10 52 20) + 1)) (Ri (fun (r11 : Int32) (u12 : Us) => (r11 ≠ 0 → WS d m_Mod_takeField 0 [some (.ref 52), some (.int r7), none] [] u12 (Ri (fun (r13 : Int32) (u14 : Us) => (r13 < 0 → Q (.inl (some (.int 0))) u14) ∧ (¬ (r13 < 0) → WS d m_Mod_sign 0 [some (.ref 52), some (.int 61)] [] u14 (Ri (fun (r15 : Int32) (u16 : Us) => (r15 = 0 → Q (.inl (some (.int 0))) u16) ∧ (¬ (r15 = 0) → WS d m_Mod_inline 0 [some (.ref 52)] [] u16 (Ri (fun (r17 : Int32) (u18 : Us) => (r17 ≠ 0 → WS d m_Mod_emit 0 [some (.ref 52), some (.int 108)] [] u18 (Rv (fun (u20 : Us) => WS d m_Mod_emit 0 [some (.ref 52), some (.int r9)] [] u20 (Rv (fun (u22 : Us) => WS d m_Mod_emit 0 [some (.ref 52), some (.int r7)] [] u22 (Rv (fun (u24 : Us) => WS d m_Mod_emit 0 [some (.ref 52), some (.int r13)] [] u24 (Rv (fun (u26 : Us) => WS d m_Mod_sign 0 [some (.ref 52), some (.int 59)] [] u26 (Ri (fun (r27 : Int32) (u28 : Us) => (r27 = 0 ∨ r27 = 1) ∧ Q (.inl (some (.int r27))) u28) (fun x u => Q (.inr x) u))) (fun x u => Q (.inr x) u))) (fun x u => Q (.inr x) u))) (fun x u => Q (.inr x) u))) (fun x u => Q (.inr x) u))) ∧ (r17 = 0 → Q (.inl (some (.int 0))) u18)) (fun x u => Q (.inr x) u)))) (fun x u => Q (.inr x) u)))) (fun x u => Q (.inr x) u))) ∧ (r11 = 0 → Q (.inl (some (.int 0))) u12)) (fun x u => Q (.inr x) u))) ∧ (¬ (p1 = 0) → WS d m_Mod_emit 0 [some (.ref 52), some (.int 109)] [] (uI u10 52 20 ((aI u10 52 20) + 1)) (Rv (fun (u30 : Us) => WS d m_Mod_emit 0 [some (.ref 52), some (.int r9)] [] u30 (Rv (fun (u32 : Us) => WS d m_Mod_emit 0 [some (.ref 52), some (.int r7)] [] u32 (Rv (fun (u34 : Us) => WS d m_Mod_sign 0 [some (.ref 52), some (.int 59)] [] u34 (Ri (fun (r35 : Int32) (u36 : Us) => (r35 = 0 ∨ r35 = 1) ∧ Q (.inl (some (.int r35))) u36) (fun x u => Q (.inr x) u))) (fun x u => Q (.inr x) u))) (fun x u => Q (.inr x) u))) (fun x u => Q (.inr x) u)))) ∧ (¬ (0 ≤ r9) → WS d m_Mod_wrong 0 [some (.ref 52)] [] u10 (Ri (fun (r37 : Int32) (u38 : Us) => (r37 = 0 ∨ r37 = 1) ∧ Q (.inl (some (.int r37))) u38) (fun x u => Q (.inr x) u)))) (fun x u => Q (.inr x) u))) ∧ (¬ (0 ≤ r7) → WS d m_Mod_wrong 0 [some (.ref 52)] [] u8 (Ri (fun (r39 : Int32) (u40 : Us) => (r39 = 0 ∨ r39 = 1) ∧ Q (.inl (some (.int r39))) u40) (fun x u => Q (.inr x) u)))) (fun x u => Q (.inr x) u)))))) ∧ (¬ (p1 = 0) → ∃ k41 : Nat, (aI u2 52 20) + 1 = nI k41 ∧ k41 < 152 ∧ (((aI u2 63 k41) ≠ 1 → WS d m_Mod_wrong 0 [some (.ref 52)] [] (uI u2 52 20 ((aI u2 52 20) + 1)) (Ri (fun (r42 : Int32) (u43 : Us) => (r42 = 0 ∨ r42 = 1) ∧ Q (.inl (some (.int r42))) u43) (fun x u => Q (.inr x) u))) ∧ ((aI u2 63 k41) = 1 → ∃ k44 : Nat, (aI u2 52 20) + 1 = nI k44 ∧ k44 < 152 ∧ (WS d m_Mod_kindOf 0 [some (.ref 52), some (.long (aL u2 65 k44)), none, none] [] (uI u2 52 20 ((aI u2 52 20) + 1)) (Ri (fun (r45 : Int32) (u46 : Us) => (0 ≤ r45 → WS d m_Mod_levelOf 0 [some (.ref 52), some (.int r45), none, none, none] [] u46 (Ri (fun (r47 : Int32) (u48 : Us) => (0 ≤ r47 → (p1 = 0 → WS d m_Mod_sign 0 [some (.ref 52), some (.int 46)] [] (uI u48 52 20 ((aI u48 52 20) + 1)) (Ri (fun (r49 : Int32) (u50 : Us) => (r49 ≠ 0 → WS d m_Mod_takeField 0 [some (.ref 52), some (.int r45), none] [] u50 (Ri (fun (r51 : Int32) (u52 : Us) => (r51 < 0 → Q (.inl (some (.int 0))) u52) ∧ (¬ (r51 < 0) → WS d m_Mod_sign 0 [some (.ref 52), some (.int 61)] [] u52 (Ri (fun (r53 : Int32) (u54 : Us) => (r53 = 0 → Q (.inl (some (.int 0))) u54) ∧ (¬ (r53 = 0) → WS d m_Mod_inline 0 [some (.ref 52)] [] u54 (Ri (fun (r55 : Int32) (u56 : Us) => (r55 ≠ 0 → WS d m_Mod_emit 0 [some (.ref 52), some (.int 108)] [] u56 (Rv (fun (u58 : Us) => WS d m_Mod_emit 0 [some (.ref 52), some (.int r47)] [] u58 (Rv (fun (u60 : Us) => WS d m_Mod_emit 0 [some (.ref 52), some (.int r45)] [] u60 (Rv (fun (u62 : Us) => WS d m_Mod_emit 0 [some (.ref 52), some (.int r51)] [] u62 (Rv (fun (u64 : Us) => WS d m_Mod_sign 0 [some (.ref 52), some (.int 59)] [] u64 (Ri (fun (r65 : Int32) (u66 : Us) => (r65 = 0 ∨ r65 = 1) ∧ Q (.inl (some (.int r65))) u66) (fun x u => Q (.inr x) u))) (fun x u => Q (.inr x) u))) (fun x u => Q (.inr x) u))) (fun x u => Q (.inr x) u))) (fun x u => Q (.inr x) u))) ∧ (r55 = 0 → Q (.inl (some (.int 0))) u56)) (fun x u => Q (.inr x) u)))) (fun x u => Q (.inr x) u)))) (fun x u => Q (.inr x) u))) ∧ (r49 = 0 → Q (.inl (some (.int 0))) u50)) (fun x u => Q (.inr x) u))) ∧ (¬ (p1 = 0) → WS d m_Mod_emit 0 [some (.ref 52), some (.int 109)] [] (uI u48 52 20 ((aI u48 52 20) + 1)) (Rv (fun (u68 : Us) => WS d m_Mod_emit 0 [some (.ref 52), some (.int r47)] [] u68 (Rv (fun (u70 : Us) => WS d m_Mod_emit 0 [some (.ref 52), some (.int r45)] [] u70 (Rv (fun (u72 : Us) => WS d m_Mod_sign 0 [some (.ref 52), some (.int 59)] [] u72 (Ri (fun (r73 : Int32) (u74 : Us) => (r73 = 0 ∨ r73 = 1) ∧ Q (.inl (some (.int r73))) u74) (fun x u => Q (.inr x) u))) (fun x u => Q (.inr x) u))) (fun x u => Q (.inr x) u))) (fun x u => Q (.inr x) u)))) ∧ (¬ (0 ≤ r47) → WS d m_Mod_wrong 0 [some (.ref 52)] [] u48 (Ri (fun (r75 : Int32) (u76 : Us) => (r75 = 0 ∨ r75 = 1) ∧ Q (.inl (some (.int r75))) u76) (fun x u => Q (.inr x) u)))) (fun x u => Q (.inr x) u))) ∧ (¬ (0 ≤ r45) → WS d m_Mod_wrong 0 [some (.ref 52)] [] u46 (Ri (fun (r77 : Int32) (u78 : Us) => (r77 = 0 ∨ r77 = 1) ∧ Q (.inl (some (.int r77))) u78) (fun x u => Q (.inr x) u)))) (fun x u => Q (.inr x) u))))))) (fun x u => Q (.inr x) u))) :
    WS (d + 1) m_Mod_cursor 0 [some (.ref 52), some (.int p1), none, none, none] [] u Q := by
  refine w_aload_n (dk_Mod_cursor 0 rfl) rfl ?_
  refine w_bipush (v := 100) (dk_Mod_cursor 1 rfl) rfl ?_
  refine w_callVv (ls' := [some (.ref 52), some (.int 100)]) cv_Mod_278 (dk_Mod_cursor 2 rfl) (ci := 10) rfl rfl [.int 100] [] rfl rfl (Nat.le_of_ble_eq_true rfl) (Nat.le_of_ble_eq_true rfl) rfl rfl rfl h (fun u2 h => ?_)
  refine w_iload_n (dk_Mod_cursor 3 rfl) rfl ?_
  refine w_if_eq 20 (dk_Mod_cursor 4 rfl) (by decide) (fun c_ => ?_) (fun c_ => ?_)
  · replace h := h.1 c_
    refine w_aload_n (dk_Mod_cursor 11 rfl) rfl ?_
    refine w_getr (dk_Mod_cursor 12 rfl) lk_Mod_57 rfl rfl rfl ?_
    refine w_aload_n (dk_Mod_cursor 13 rfl) rfl ?_
    refine w_geti (v := aI u2 52 20) (dk_Mod_cursor 14 rfl) lk_Mod_72 rfl rfl rfl ?_
    obtain ⟨k3, e_k3, l_k3, h⟩ := h
    refine w_iald (k_ := k3) (dk_Mod_cursor 15 rfl) rfl (by decide) e_k3 l_k3 ?_
    refine w_iconst (v := 1) (dk_Mod_cursor 16 rfl) rfl ?_
    refine w_icmp_ne 49 (dk_Mod_cursor 17 rfl) (by decide) (fun c_ => ?_) (fun c_ => ?_)
    · replace h := h.1 c_
      refine w_iconst (v := (-1)) (dk_Mod_cursor 26 rfl) rfl ?_
      refine w_istore_n (ls' := [some (.ref 52), some (.int p1), some (.int (-1)), none, none]) (dk_Mod_cursor 27 rfl) (by decide) rfl ?_
      refine w_iload_n (dk_Mod_cursor 28 rfl) rfl ?_
      refine w_if_ge_f (dk_Mod_cursor 29 rfl) 59 (by decide) (by decide) ?_
      refine w_iconst (v := (-1)) (dk_Mod_cursor 30 rfl) rfl ?_
      refine w_goto 64 (dk_Mod_cursor 31 rfl) (by decide) ?_
      refine w_istore_n (ls' := [some (.ref 52), some (.int p1), some (.int (-1)), some (.int (-1)), none]) (dk_Mod_cursor 35 rfl) (by decide) rfl ?_
      refine w_iload_n (dk_Mod_cursor 36 rfl) rfl ?_
      refine w_if_ge_f (dk_Mod_cursor 37 rfl) 74 (by decide) (by decide) ?_
      refine w_aload_n (dk_Mod_cursor 38 rfl) rfl ?_
      refine w_callVi (ls' := [some (.ref 52)]) cv_Mod_235 (dk_Mod_cursor 39 rfl) (ci := 10) rfl rfl [] [] rfl rfl (Nat.le_of_ble_eq_true rfl) (Nat.le_of_ble_eq_true rfl) rfl rfl rfl h (fun r4 u5 h => ?_)
      exact w_bret (dk_Mod_cursor 40 rfl) rfl h.1 h.2
    · replace h := h.2 c_
      refine w_aload_n (dk_Mod_cursor 18 rfl) rfl ?_
      refine w_aload_n (dk_Mod_cursor 19 rfl) rfl ?_
      refine w_getr (dk_Mod_cursor 20 rfl) lk_Mod_63 rfl rfl rfl ?_
      refine w_aload_n (dk_Mod_cursor 21 rfl) rfl ?_
      refine w_geti (v := aI u2 52 20) (dk_Mod_cursor 22 rfl) lk_Mod_72 rfl rfl rfl ?_
      obtain ⟨k6, e_k6, l_k6, h⟩ := h
      refine w_lald (k_ := k6) (dk_Mod_cursor 23 rfl) rfl (by decide) e_k6 l_k6 ?_
      refine w_callVi (ls' := [some (.ref 52), some (.long (aL u2 65 k6)), none, none]) cv_Mod_242 (dk_Mod_cursor 24 rfl) (ci := 10) rfl rfl [.long (aL u2 65 k6)] [] rfl rfl (Nat.le_of_ble_eq_true rfl) (Nat.le_of_ble_eq_true rfl) rfl rfl rfl h (fun r7 u8 h => ?_)
      refine w_goto 50 (dk_Mod_cursor 25 rfl) (by decide) ?_
      refine w_istore_n (ls' := [some (.ref 52), some (.int p1), some (.int r7), none, none]) (dk_Mod_cursor 27 rfl) (by decide) rfl ?_
      refine w_iload_n (dk_Mod_cursor 28 rfl) rfl ?_
      refine w_if_ge 59 (dk_Mod_cursor 29 rfl) (by decide) (fun c_ => ?_) (fun c_ => ?_)
      · replace h := h.1 c_
        refine w_aload_n (dk_Mod_cursor 32 rfl) rfl ?_
        refine w_iload_n (dk_Mod_cursor 33 rfl) rfl ?_
        refine w_callVi (ls' := [some (.ref 52), some (.int r7), none, none, none]) cv_Mod_296 (dk_Mod_cursor 34 rfl) (ci := 10) rfl rfl [.int r7] [] rfl rfl (Nat.le_of_ble_eq_true rfl) (Nat.le_of_ble_eq_true rfl) rfl rfl rfl h (fun r9 u10 h => ?_)
        refine w_istore_n (ls' := [some (.ref 52), some (.int p1), some (.int r7), some (.int r9), none]) (dk_Mod_cursor 35 rfl) (by decide) rfl ?_
        refine w_iload_n (dk_Mod_cursor 36 rfl) rfl ?_
        refine w_if_ge 74 (dk_Mod_cursor 37 rfl) (by decide) (fun c_ => ?_) (fun c_ => ?_)
        · replace h := h.1 c_
          refine w_aload_n (dk_Mod_cursor 41 rfl) rfl ?_
          refine w_dup (dk_Mod_cursor 42 rfl) rfl ?_
          refine w_geti (v := aI u10 52 20) (dk_Mod_cursor 43 rfl) lk_Mod_72 rfl rfl rfl ?_
          refine w_iconst (v := 1) (dk_Mod_cursor 44 rfl) rfl ?_
          refine w_iadd (dk_Mod_cursor 45 rfl) ?_
          refine w_puti (dk_Mod_cursor 46 rfl) lk_Mod_72 rfl rfl ?_
          refine w_iload_n (dk_Mod_cursor 47 rfl) rfl ?_
          refine w_if_eq 111 (dk_Mod_cursor 48 rfl) (by decide) (fun c_ => ?_) (fun c_ => ?_)
          · replace h := h.1 c_
            refine w_aload_n (dk_Mod_cursor 62 rfl) rfl ?_
            refine w_bipush (v := 46) (dk_Mod_cursor 63 rfl) rfl ?_
            refine w_callVi (ls' := [some (.ref 52), some (.int 46)]) cv_Mod_299 (dk_Mod_cursor 64 rfl) (ci := 10) rfl rfl [.int 46] [] rfl rfl (Nat.le_of_ble_eq_true rfl) (Nat.le_of_ble_eq_true rfl) rfl rfl rfl h (fun r11 u12 h => ?_)
            refine w_if_ne 122 (dk_Mod_cursor 65 rfl) (by decide) (fun c_ => ?_) (fun c_ => ?_)
            · replace h := h.1 c_
              refine w_aload_n (dk_Mod_cursor 68 rfl) rfl ?_
              refine w_iload_n (dk_Mod_cursor 69 rfl) rfl ?_
              refine w_callVi (ls' := [some (.ref 52), some (.int r7), none]) cv_Mod_302 (dk_Mod_cursor 70 rfl) (ci := 10) rfl rfl [.int r7] [] rfl rfl (Nat.le_of_ble_eq_true rfl) (Nat.le_of_ble_eq_true rfl) rfl rfl rfl h (fun r13 u14 h => ?_)
              refine w_istore (ls' := [some (.ref 52), some (.int p1), some (.int r7), some (.int r9), some (.int r13)]) (dk_Mod_cursor 71 rfl) (by decide) rfl ?_
              refine w_iload (dk_Mod_cursor 72 rfl) rfl ?_
              refine w_if_lt 150 (dk_Mod_cursor 73 rfl) (by decide) (fun c_ => ?_) (fun c_ => ?_)
              · replace h := h.1 c_
                refine w_iconst (v := 0) (dk_Mod_cursor 81 rfl) rfl ?_
                exact w_bret (dk_Mod_cursor 82 rfl) rfl (Or.inl rfl) h
              · replace h := h.2 c_
                refine w_aload_n (dk_Mod_cursor 74 rfl) rfl ?_
                refine w_bipush (v := 61) (dk_Mod_cursor 75 rfl) rfl ?_
                refine w_callVi (ls' := [some (.ref 52), some (.int 61)]) cv_Mod_299 (dk_Mod_cursor 76 rfl) (ci := 10) rfl rfl [.int 61] [] rfl rfl (Nat.le_of_ble_eq_true rfl) (Nat.le_of_ble_eq_true rfl) rfl rfl rfl h (fun r15 u16 h => ?_)
                refine w_if_eq 150 (dk_Mod_cursor 77 rfl) (by decide) (fun c_ => ?_) (fun c_ => ?_)
                · replace h := h.1 c_
                  refine w_iconst (v := 0) (dk_Mod_cursor 81 rfl) rfl ?_
                  exact w_bret (dk_Mod_cursor 82 rfl) rfl (Or.inl rfl) h
                · replace h := h.2 c_
                  refine w_aload_n (dk_Mod_cursor 78 rfl) rfl ?_
                  refine w_callVi (ls' := [some (.ref 52)]) cv_Mod_318 (dk_Mod_cursor 79 rfl) (ci := 10) rfl rfl [] [] rfl rfl (Nat.le_of_ble_eq_true rfl) (Nat.le_of_ble_eq_true rfl) rfl rfl rfl h (fun r17 u18 h => ?_)
                  refine w_if_ne 152 (dk_Mod_cursor 80 rfl) (by decide) (fun c_ => ?_) (fun c_ => ?_)
                  · replace h := h.1 c_
                    refine w_aload_n (dk_Mod_cursor 83 rfl) rfl ?_
                    refine w_bipush (v := 108) (dk_Mod_cursor 84 rfl) rfl ?_
                    refine w_callVv (ls' := [some (.ref 52), some (.int 108)]) cv_Mod_278 (dk_Mod_cursor 85 rfl) (ci := 10) rfl rfl [.int 108] [] rfl rfl (Nat.le_of_ble_eq_true rfl) (Nat.le_of_ble_eq_true rfl) rfl rfl rfl h (fun u20 h => ?_)
                    refine w_aload_n (dk_Mod_cursor 86 rfl) rfl ?_
                    refine w_iload_n (dk_Mod_cursor 87 rfl) rfl ?_
                    refine w_callVv (ls' := [some (.ref 52), some (.int r9)]) cv_Mod_278 (dk_Mod_cursor 88 rfl) (ci := 10) rfl rfl [.int r9] [] rfl rfl (Nat.le_of_ble_eq_true rfl) (Nat.le_of_ble_eq_true rfl) rfl rfl rfl h (fun u22 h => ?_)
                    refine w_aload_n (dk_Mod_cursor 89 rfl) rfl ?_
                    refine w_iload_n (dk_Mod_cursor 90 rfl) rfl ?_
                    refine w_callVv (ls' := [some (.ref 52), some (.int r7)]) cv_Mod_278 (dk_Mod_cursor 91 rfl) (ci := 10) rfl rfl [.int r7] [] rfl rfl (Nat.le_of_ble_eq_true rfl) (Nat.le_of_ble_eq_true rfl) rfl rfl rfl h (fun u24 h => ?_)
                    refine w_aload_n (dk_Mod_cursor 92 rfl) rfl ?_
                    refine w_iload (dk_Mod_cursor 93 rfl) rfl ?_
                    refine w_callVv (ls' := [some (.ref 52), some (.int r13)]) cv_Mod_278 (dk_Mod_cursor 94 rfl) (ci := 10) rfl rfl [.int r13] [] rfl rfl (Nat.le_of_ble_eq_true rfl) (Nat.le_of_ble_eq_true rfl) rfl rfl rfl h (fun u26 h => ?_)
                    refine w_aload_n (dk_Mod_cursor 95 rfl) rfl ?_
                    refine w_bipush (v := 59) (dk_Mod_cursor 96 rfl) rfl ?_
                    refine w_callVi (ls' := [some (.ref 52), some (.int 59)]) cv_Mod_299 (dk_Mod_cursor 97 rfl) (ci := 10) rfl rfl [.int 59] [] rfl rfl (Nat.le_of_ble_eq_true rfl) (Nat.le_of_ble_eq_true rfl) rfl rfl rfl h (fun r27 u28 h => ?_)
                    exact w_bret (dk_Mod_cursor 98 rfl) rfl h.1 h.2
                  · replace h := h.2 c_
                    refine w_iconst (v := 0) (dk_Mod_cursor 81 rfl) rfl ?_
                    exact w_bret (dk_Mod_cursor 82 rfl) rfl (Or.inl rfl) h
            · replace h := h.2 c_
              refine w_iconst (v := 0) (dk_Mod_cursor 66 rfl) rfl ?_
              exact w_bret (dk_Mod_cursor 67 rfl) rfl (Or.inl rfl) h
          · replace h := h.2 c_
            refine w_aload_n (dk_Mod_cursor 49 rfl) rfl ?_
            refine w_bipush (v := 109) (dk_Mod_cursor 50 rfl) rfl ?_
            refine w_callVv (ls' := [some (.ref 52), some (.int 109)]) cv_Mod_278 (dk_Mod_cursor 51 rfl) (ci := 10) rfl rfl [.int 109] [] rfl rfl (Nat.le_of_ble_eq_true rfl) (Nat.le_of_ble_eq_true rfl) rfl rfl rfl h (fun u30 h => ?_)
            refine w_aload_n (dk_Mod_cursor 52 rfl) rfl ?_
            refine w_iload_n (dk_Mod_cursor 53 rfl) rfl ?_
            refine w_callVv (ls' := [some (.ref 52), some (.int r9)]) cv_Mod_278 (dk_Mod_cursor 54 rfl) (ci := 10) rfl rfl [.int r9] [] rfl rfl (Nat.le_of_ble_eq_true rfl) (Nat.le_of_ble_eq_true rfl) rfl rfl rfl h (fun u32 h => ?_)
            refine w_aload_n (dk_Mod_cursor 55 rfl) rfl ?_
            refine w_iload_n (dk_Mod_cursor 56 rfl) rfl ?_
            refine w_callVv (ls' := [some (.ref 52), some (.int r7)]) cv_Mod_278 (dk_Mod_cursor 57 rfl) (ci := 10) rfl rfl [.int r7] [] rfl rfl (Nat.le_of_ble_eq_true rfl) (Nat.le_of_ble_eq_true rfl) rfl rfl rfl h (fun u34 h => ?_)
            refine w_aload_n (dk_Mod_cursor 58 rfl) rfl ?_
            refine w_bipush (v := 59) (dk_Mod_cursor 59 rfl) rfl ?_
            refine w_callVi (ls' := [some (.ref 52), some (.int 59)]) cv_Mod_299 (dk_Mod_cursor 60 rfl) (ci := 10) rfl rfl [.int 59] [] rfl rfl (Nat.le_of_ble_eq_true rfl) (Nat.le_of_ble_eq_true rfl) rfl rfl rfl h (fun r35 u36 h => ?_)
            exact w_bret (dk_Mod_cursor 61 rfl) rfl h.1 h.2
        · replace h := h.2 c_
          refine w_aload_n (dk_Mod_cursor 38 rfl) rfl ?_
          refine w_callVi (ls' := [some (.ref 52)]) cv_Mod_235 (dk_Mod_cursor 39 rfl) (ci := 10) rfl rfl [] [] rfl rfl (Nat.le_of_ble_eq_true rfl) (Nat.le_of_ble_eq_true rfl) rfl rfl rfl h (fun r37 u38 h => ?_)
          exact w_bret (dk_Mod_cursor 40 rfl) rfl h.1 h.2
      · replace h := h.2 c_
        refine w_iconst (v := (-1)) (dk_Mod_cursor 30 rfl) rfl ?_
        refine w_goto 64 (dk_Mod_cursor 31 rfl) (by decide) ?_
        refine w_istore_n (ls' := [some (.ref 52), some (.int p1), some (.int r7), some (.int (-1)), none]) (dk_Mod_cursor 35 rfl) (by decide) rfl ?_
        refine w_iload_n (dk_Mod_cursor 36 rfl) rfl ?_
        refine w_if_ge_f (dk_Mod_cursor 37 rfl) 74 (by decide) (by decide) ?_
        refine w_aload_n (dk_Mod_cursor 38 rfl) rfl ?_
        refine w_callVi (ls' := [some (.ref 52)]) cv_Mod_235 (dk_Mod_cursor 39 rfl) (ci := 10) rfl rfl [] [] rfl rfl (Nat.le_of_ble_eq_true rfl) (Nat.le_of_ble_eq_true rfl) rfl rfl rfl h (fun r39 u40 h => ?_)
        exact w_bret (dk_Mod_cursor 40 rfl) rfl h.1 h.2
  · replace h := h.2 c_
    refine w_aload_n (dk_Mod_cursor 5 rfl) rfl ?_
    refine w_dup (dk_Mod_cursor 6 rfl) rfl ?_
    refine w_geti (v := aI u2 52 20) (dk_Mod_cursor 7 rfl) lk_Mod_72 rfl rfl rfl ?_
    refine w_iconst (v := 1) (dk_Mod_cursor 8 rfl) rfl ?_
    refine w_iadd (dk_Mod_cursor 9 rfl) ?_
    refine w_puti (dk_Mod_cursor 10 rfl) lk_Mod_72 rfl rfl ?_
    refine w_aload_n (dk_Mod_cursor 11 rfl) rfl ?_
    refine w_getr (dk_Mod_cursor 12 rfl) lk_Mod_57 rfl rfl rfl ?_
    refine w_aload_n (dk_Mod_cursor 13 rfl) rfl ?_
    refine w_geti (v := (aI u2 52 20) + 1) (dk_Mod_cursor 14 rfl) lk_Mod_72 rfl rfl rfl ?_
    obtain ⟨k41, e_k41, l_k41, h⟩ := h
    refine w_iald (k_ := k41) (dk_Mod_cursor 15 rfl) rfl (by decide) e_k41 l_k41 ?_
    show WS _ _ _ _ [.int (aI u2 63 k41)] _ _
    refine w_iconst (v := 1) (dk_Mod_cursor 16 rfl) rfl ?_
    refine w_icmp_ne 49 (dk_Mod_cursor 17 rfl) (by decide) (fun c_ => ?_) (fun c_ => ?_)
    · replace h := h.1 c_
      refine w_iconst (v := (-1)) (dk_Mod_cursor 26 rfl) rfl ?_
      refine w_istore_n (ls' := [some (.ref 52), some (.int p1), some (.int (-1)), none, none]) (dk_Mod_cursor 27 rfl) (by decide) rfl ?_
      refine w_iload_n (dk_Mod_cursor 28 rfl) rfl ?_
      refine w_if_ge_f (dk_Mod_cursor 29 rfl) 59 (by decide) (by decide) ?_
      refine w_iconst (v := (-1)) (dk_Mod_cursor 30 rfl) rfl ?_
      refine w_goto 64 (dk_Mod_cursor 31 rfl) (by decide) ?_
      refine w_istore_n (ls' := [some (.ref 52), some (.int p1), some (.int (-1)), some (.int (-1)), none]) (dk_Mod_cursor 35 rfl) (by decide) rfl ?_
      refine w_iload_n (dk_Mod_cursor 36 rfl) rfl ?_
      refine w_if_ge_f (dk_Mod_cursor 37 rfl) 74 (by decide) (by decide) ?_
      refine w_aload_n (dk_Mod_cursor 38 rfl) rfl ?_
      refine w_callVi (ls' := [some (.ref 52)]) cv_Mod_235 (dk_Mod_cursor 39 rfl) (ci := 10) rfl rfl [] [] rfl rfl (Nat.le_of_ble_eq_true rfl) (Nat.le_of_ble_eq_true rfl) rfl rfl rfl h (fun r42 u43 h => ?_)
      exact w_bret (dk_Mod_cursor 40 rfl) rfl h.1 h.2
    · replace h := h.2 c_
      refine w_aload_n (dk_Mod_cursor 18 rfl) rfl ?_
      refine w_aload_n (dk_Mod_cursor 19 rfl) rfl ?_
      refine w_getr (dk_Mod_cursor 20 rfl) lk_Mod_63 rfl rfl rfl ?_
      refine w_aload_n (dk_Mod_cursor 21 rfl) rfl ?_
      refine w_geti (v := (aI u2 52 20) + 1) (dk_Mod_cursor 22 rfl) lk_Mod_72 rfl rfl rfl ?_
      obtain ⟨k44, e_k44, l_k44, h⟩ := h
      refine w_lald (k_ := k44) (dk_Mod_cursor 23 rfl) rfl (by decide) e_k44 l_k44 ?_
      show WS _ _ _ _ [.long (aL u2 65 k44), .ref 52] _ _
      refine w_callVi (ls' := [some (.ref 52), some (.long (aL u2 65 k44)), none, none]) cv_Mod_242 (dk_Mod_cursor 24 rfl) (ci := 10) rfl rfl [.long (aL u2 65 k44)] [] rfl rfl (Nat.le_of_ble_eq_true rfl) (Nat.le_of_ble_eq_true rfl) rfl rfl rfl h (fun r45 u46 h => ?_)
      refine w_goto 50 (dk_Mod_cursor 25 rfl) (by decide) ?_
      refine w_istore_n (ls' := [some (.ref 52), some (.int p1), some (.int r45), none, none]) (dk_Mod_cursor 27 rfl) (by decide) rfl ?_
      refine w_iload_n (dk_Mod_cursor 28 rfl) rfl ?_
      refine w_if_ge 59 (dk_Mod_cursor 29 rfl) (by decide) (fun c_ => ?_) (fun c_ => ?_)
      · replace h := h.1 c_
        refine w_aload_n (dk_Mod_cursor 32 rfl) rfl ?_
        refine w_iload_n (dk_Mod_cursor 33 rfl) rfl ?_
        refine w_callVi (ls' := [some (.ref 52), some (.int r45), none, none, none]) cv_Mod_296 (dk_Mod_cursor 34 rfl) (ci := 10) rfl rfl [.int r45] [] rfl rfl (Nat.le_of_ble_eq_true rfl) (Nat.le_of_ble_eq_true rfl) rfl rfl rfl h (fun r47 u48 h => ?_)
        refine w_istore_n (ls' := [some (.ref 52), some (.int p1), some (.int r45), some (.int r47), none]) (dk_Mod_cursor 35 rfl) (by decide) rfl ?_
        refine w_iload_n (dk_Mod_cursor 36 rfl) rfl ?_
        refine w_if_ge 74 (dk_Mod_cursor 37 rfl) (by decide) (fun c_ => ?_) (fun c_ => ?_)
        · replace h := h.1 c_
          refine w_aload_n (dk_Mod_cursor 41 rfl) rfl ?_
          refine w_dup (dk_Mod_cursor 42 rfl) rfl ?_
          refine w_geti (v := aI u48 52 20) (dk_Mod_cursor 43 rfl) lk_Mod_72 rfl rfl rfl ?_
          refine w_iconst (v := 1) (dk_Mod_cursor 44 rfl) rfl ?_
          refine w_iadd (dk_Mod_cursor 45 rfl) ?_
          refine w_puti (dk_Mod_cursor 46 rfl) lk_Mod_72 rfl rfl ?_
          refine w_iload_n (dk_Mod_cursor 47 rfl) rfl ?_
          refine w_if_eq 111 (dk_Mod_cursor 48 rfl) (by decide) (fun c_ => ?_) (fun c_ => ?_)
          · replace h := h.1 c_
            refine w_aload_n (dk_Mod_cursor 62 rfl) rfl ?_
            refine w_bipush (v := 46) (dk_Mod_cursor 63 rfl) rfl ?_
            refine w_callVi (ls' := [some (.ref 52), some (.int 46)]) cv_Mod_299 (dk_Mod_cursor 64 rfl) (ci := 10) rfl rfl [.int 46] [] rfl rfl (Nat.le_of_ble_eq_true rfl) (Nat.le_of_ble_eq_true rfl) rfl rfl rfl h (fun r49 u50 h => ?_)
            refine w_if_ne 122 (dk_Mod_cursor 65 rfl) (by decide) (fun c_ => ?_) (fun c_ => ?_)
            · replace h := h.1 c_
              refine w_aload_n (dk_Mod_cursor 68 rfl) rfl ?_
              refine w_iload_n (dk_Mod_cursor 69 rfl) rfl ?_
              refine w_callVi (ls' := [some (.ref 52), some (.int r45), none]) cv_Mod_302 (dk_Mod_cursor 70 rfl) (ci := 10) rfl rfl [.int r45] [] rfl rfl (Nat.le_of_ble_eq_true rfl) (Nat.le_of_ble_eq_true rfl) rfl rfl rfl h (fun r51 u52 h => ?_)
              refine w_istore (ls' := [some (.ref 52), some (.int p1), some (.int r45), some (.int r47), some (.int r51)]) (dk_Mod_cursor 71 rfl) (by decide) rfl ?_
              refine w_iload (dk_Mod_cursor 72 rfl) rfl ?_
              refine w_if_lt 150 (dk_Mod_cursor 73 rfl) (by decide) (fun c_ => ?_) (fun c_ => ?_)
              · replace h := h.1 c_
                refine w_iconst (v := 0) (dk_Mod_cursor 81 rfl) rfl ?_
                exact w_bret (dk_Mod_cursor 82 rfl) rfl (Or.inl rfl) h
              · replace h := h.2 c_
                refine w_aload_n (dk_Mod_cursor 74 rfl) rfl ?_
                refine w_bipush (v := 61) (dk_Mod_cursor 75 rfl) rfl ?_
                refine w_callVi (ls' := [some (.ref 52), some (.int 61)]) cv_Mod_299 (dk_Mod_cursor 76 rfl) (ci := 10) rfl rfl [.int 61] [] rfl rfl (Nat.le_of_ble_eq_true rfl) (Nat.le_of_ble_eq_true rfl) rfl rfl rfl h (fun r53 u54 h => ?_)
                refine w_if_eq 150 (dk_Mod_cursor 77 rfl) (by decide) (fun c_ => ?_) (fun c_ => ?_)
                · replace h := h.1 c_
                  refine w_iconst (v := 0) (dk_Mod_cursor 81 rfl) rfl ?_
                  exact w_bret (dk_Mod_cursor 82 rfl) rfl (Or.inl rfl) h
                · replace h := h.2 c_
                  refine w_aload_n (dk_Mod_cursor 78 rfl) rfl ?_
                  refine w_callVi (ls' := [some (.ref 52)]) cv_Mod_318 (dk_Mod_cursor 79 rfl) (ci := 10) rfl rfl [] [] rfl rfl (Nat.le_of_ble_eq_true rfl) (Nat.le_of_ble_eq_true rfl) rfl rfl rfl h (fun r55 u56 h => ?_)
                  refine w_if_ne 152 (dk_Mod_cursor 80 rfl) (by decide) (fun c_ => ?_) (fun c_ => ?_)
                  · replace h := h.1 c_
                    refine w_aload_n (dk_Mod_cursor 83 rfl) rfl ?_
                    refine w_bipush (v := 108) (dk_Mod_cursor 84 rfl) rfl ?_
                    refine w_callVv (ls' := [some (.ref 52), some (.int 108)]) cv_Mod_278 (dk_Mod_cursor 85 rfl) (ci := 10) rfl rfl [.int 108] [] rfl rfl (Nat.le_of_ble_eq_true rfl) (Nat.le_of_ble_eq_true rfl) rfl rfl rfl h (fun u58 h => ?_)
                    refine w_aload_n (dk_Mod_cursor 86 rfl) rfl ?_
                    refine w_iload_n (dk_Mod_cursor 87 rfl) rfl ?_
                    refine w_callVv (ls' := [some (.ref 52), some (.int r47)]) cv_Mod_278 (dk_Mod_cursor 88 rfl) (ci := 10) rfl rfl [.int r47] [] rfl rfl (Nat.le_of_ble_eq_true rfl) (Nat.le_of_ble_eq_true rfl) rfl rfl rfl h (fun u60 h => ?_)
                    refine w_aload_n (dk_Mod_cursor 89 rfl) rfl ?_
                    refine w_iload_n (dk_Mod_cursor 90 rfl) rfl ?_
                    refine w_callVv (ls' := [some (.ref 52), some (.int r45)]) cv_Mod_278 (dk_Mod_cursor 91 rfl) (ci := 10) rfl rfl [.int r45] [] rfl rfl (Nat.le_of_ble_eq_true rfl) (Nat.le_of_ble_eq_true rfl) rfl rfl rfl h (fun u62 h => ?_)
                    refine w_aload_n (dk_Mod_cursor 92 rfl) rfl ?_
                    refine w_iload (dk_Mod_cursor 93 rfl) rfl ?_
                    refine w_callVv (ls' := [some (.ref 52), some (.int r51)]) cv_Mod_278 (dk_Mod_cursor 94 rfl) (ci := 10) rfl rfl [.int r51] [] rfl rfl (Nat.le_of_ble_eq_true rfl) (Nat.le_of_ble_eq_true rfl) rfl rfl rfl h (fun u64 h => ?_)
                    refine w_aload_n (dk_Mod_cursor 95 rfl) rfl ?_
                    refine w_bipush (v := 59) (dk_Mod_cursor 96 rfl) rfl ?_
                    refine w_callVi (ls' := [some (.ref 52), some (.int 59)]) cv_Mod_299 (dk_Mod_cursor 97 rfl) (ci := 10) rfl rfl [.int 59] [] rfl rfl (Nat.le_of_ble_eq_true rfl) (Nat.le_of_ble_eq_true rfl) rfl rfl rfl h (fun r65 u66 h => ?_)
                    exact w_bret (dk_Mod_cursor 98 rfl) rfl h.1 h.2
                  · replace h := h.2 c_
                    refine w_iconst (v := 0) (dk_Mod_cursor 81 rfl) rfl ?_
                    exact w_bret (dk_Mod_cursor 82 rfl) rfl (Or.inl rfl) h
            · replace h := h.2 c_
              refine w_iconst (v := 0) (dk_Mod_cursor 66 rfl) rfl ?_
              exact w_bret (dk_Mod_cursor 67 rfl) rfl (Or.inl rfl) h
          · replace h := h.2 c_
            refine w_aload_n (dk_Mod_cursor 49 rfl) rfl ?_
            refine w_bipush (v := 109) (dk_Mod_cursor 50 rfl) rfl ?_
            refine w_callVv (ls' := [some (.ref 52), some (.int 109)]) cv_Mod_278 (dk_Mod_cursor 51 rfl) (ci := 10) rfl rfl [.int 109] [] rfl rfl (Nat.le_of_ble_eq_true rfl) (Nat.le_of_ble_eq_true rfl) rfl rfl rfl h (fun u68 h => ?_)
            refine w_aload_n (dk_Mod_cursor 52 rfl) rfl ?_
            refine w_iload_n (dk_Mod_cursor 53 rfl) rfl ?_
            refine w_callVv (ls' := [some (.ref 52), some (.int r47)]) cv_Mod_278 (dk_Mod_cursor 54 rfl) (ci := 10) rfl rfl [.int r47] [] rfl rfl (Nat.le_of_ble_eq_true rfl) (Nat.le_of_ble_eq_true rfl) rfl rfl rfl h (fun u70 h => ?_)
            refine w_aload_n (dk_Mod_cursor 55 rfl) rfl ?_
            refine w_iload_n (dk_Mod_cursor 56 rfl) rfl ?_
            refine w_callVv (ls' := [some (.ref 52), some (.int r45)]) cv_Mod_278 (dk_Mod_cursor 57 rfl) (ci := 10) rfl rfl [.int r45] [] rfl rfl (Nat.le_of_ble_eq_true rfl) (Nat.le_of_ble_eq_true rfl) rfl rfl rfl h (fun u72 h => ?_)
            refine w_aload_n (dk_Mod_cursor 58 rfl) rfl ?_
            refine w_bipush (v := 59) (dk_Mod_cursor 59 rfl) rfl ?_
            refine w_callVi (ls' := [some (.ref 52), some (.int 59)]) cv_Mod_299 (dk_Mod_cursor 60 rfl) (ci := 10) rfl rfl [.int 59] [] rfl rfl (Nat.le_of_ble_eq_true rfl) (Nat.le_of_ble_eq_true rfl) rfl rfl rfl h (fun r73 u74 h => ?_)
            exact w_bret (dk_Mod_cursor 61 rfl) rfl h.1 h.2
        · replace h := h.2 c_
          refine w_aload_n (dk_Mod_cursor 38 rfl) rfl ?_
          refine w_callVi (ls' := [some (.ref 52)]) cv_Mod_235 (dk_Mod_cursor 39 rfl) (ci := 10) rfl rfl [] [] rfl rfl (Nat.le_of_ble_eq_true rfl) (Nat.le_of_ble_eq_true rfl) rfl rfl rfl h (fun r75 u76 h => ?_)
          exact w_bret (dk_Mod_cursor 40 rfl) rfl h.1 h.2
      · replace h := h.2 c_
        refine w_iconst (v := (-1)) (dk_Mod_cursor 30 rfl) rfl ?_
        refine w_goto 64 (dk_Mod_cursor 31 rfl) (by decide) ?_
        refine w_istore_n (ls' := [some (.ref 52), some (.int p1), some (.int r45), some (.int (-1)), none]) (dk_Mod_cursor 35 rfl) (by decide) rfl ?_
        refine w_iload_n (dk_Mod_cursor 36 rfl) rfl ?_
        refine w_if_ge_f (dk_Mod_cursor 37 rfl) 74 (by decide) (by decide) ?_
        refine w_aload_n (dk_Mod_cursor 38 rfl) rfl ?_
        refine w_callVi (ls' := [some (.ref 52)]) cv_Mod_235 (dk_Mod_cursor 39 rfl) (ci := 10) rfl rfl [] [] rfl rfl (Nat.le_of_ble_eq_true rfl) (Nat.le_of_ble_eq_true rfl) rfl rfl rfl h (fun r77 u78 h => ?_)
        exact w_bret (dk_Mod_cursor 40 rfl) rfl h.1 h.2
theorem g_Mod_kindOf_0 {d : Nat} {u : Us} {Q : Ot → Us → Prop} (p1 : Int64)
    (h : WS d m_Mod_kindOf 2 [some (.ref 52), some (.long p1), none, some (.int 0)] [] u Q) :
    WS d m_Mod_kindOf 0 [some (.ref 52), some (.long p1), none, none] [] u Q := by
  refine w_iconst (v := 0) (dk_Mod_kindOf 0 rfl) rfl ?_
  refine w_istore_n (ls' := [some (.ref 52), some (.long p1), none, some (.int 0)]) (dk_Mod_kindOf 1 rfl) (by decide) rfl ?_
  exact h
theorem g_Mod_kindOf_2 {d : Nat} {u : Us} {Q : Ot → Us → Prop} (x1 : Int64) (x3 : Int32)
    (h : ((aI u 52 3) ≤ x3 → Q (.inl (some (.int (-1)))) u) ∧ (¬ ((aI u 52 3) ≤ x3) → ∃ k1 : Nat, x3 = nI k1 ∧ k1 < 7 ∧ (((aL u 54 k1) ≠ x1 → WS d m_Mod_kindOf 2 [some (.ref 52), some (.long x1), none, some (.int (x3 + 1))] [] u Q) ∧ ((aL u 54 k1) = x1 → Q (.inl (some (.int x3))) u)))) :
    WS d m_Mod_kindOf 2 [some (.ref 52), some (.long x1), none, some (.int x3)] [] u Q := by
  refine w_iload_n (dk_Mod_kindOf 2 rfl) rfl ?_
  refine w_aload_n (dk_Mod_kindOf 3 rfl) rfl ?_
  refine w_geti (v := aI u 52 3) (dk_Mod_kindOf 4 rfl) lk_Mod_20 rfl rfl rfl ?_
  refine w_icmp_ge 29 (dk_Mod_kindOf 5 rfl) (by decide) (fun c_ => ?_) (fun c_ => ?_)
  · replace h := h.1 c_
    refine w_iconst (v := (-1)) (dk_Mod_kindOf 17 rfl) rfl ?_
    exact w_iret (dk_Mod_kindOf 18 rfl) rfl h
  · replace h := h.2 c_
    refine w_aload_n (dk_Mod_kindOf 6 rfl) rfl ?_
    refine w_getr (dk_Mod_kindOf 7 rfl) lk_Mod_23 rfl rfl rfl ?_
    refine w_iload_n (dk_Mod_kindOf 8 rfl) rfl ?_
    obtain ⟨k1, e_k1, l_k1, h⟩ := h
    refine w_lald (k_ := k1) (dk_Mod_kindOf 9 rfl) rfl (by decide) e_k1 l_k1 ?_
    refine w_lload_n (dk_Mod_kindOf 10 rfl) rfl ?_
    refine w_lcmp_ne 23 (dk_Mod_kindOf 11 rfl) (dk_Mod_kindOf 12 rfl) (by decide) (fun c_ => ?_) (fun c_ => ?_)
    · replace h := h.1 c_
      refine w_iinc (v := x3 + 1) (ls' := [some (.ref 52), some (.long x1), none, some (.int (x3 + 1))]) (dk_Mod_kindOf 15 rfl) rfl rfl (by decide) rfl ?_
      refine w_goto 2 (dk_Mod_kindOf 16 rfl) (by decide) ?_
      exact h
    · replace h := h.2 c_
      refine w_iload_n (dk_Mod_kindOf 13 rfl) rfl ?_
      exact w_iret (dk_Mod_kindOf 14 rfl) rfl h
theorem g_Mod_levelOf_0 {d : Nat} {u : Us} {Q : Ot → Us → Prop} (p1 : Int32)
    (h : WS d m_Mod_levelOf 7 [some (.ref 52), some (.int p1), some (.int (-1)), some (.int 0), some (.int 0)] [] u Q) :
    WS d m_Mod_levelOf 0 [some (.ref 52), some (.int p1), none, none, none] [] u Q := by
  refine w_iconst (v := (-1)) (dk_Mod_levelOf 0 rfl) rfl ?_
  refine w_istore_n (ls' := [some (.ref 52), some (.int p1), some (.int (-1)), none, none]) (dk_Mod_levelOf 1 rfl) (by decide) rfl ?_
  refine w_iconst (v := 0) (dk_Mod_levelOf 2 rfl) rfl ?_
  refine w_istore_n (ls' := [some (.ref 52), some (.int p1), some (.int (-1)), some (.int 0), none]) (dk_Mod_levelOf 3 rfl) (by decide) rfl ?_
  refine w_iconst (v := 0) (dk_Mod_levelOf 4 rfl) rfl ?_
  refine w_istore (ls' := [some (.ref 52), some (.int p1), some (.int (-1)), some (.int 0), some (.int 0)]) (dk_Mod_levelOf 5 rfl) (by decide) rfl ?_
  exact h
theorem g_Mod_levelOf_7 {d : Nat} {u : Us} {Q : Ot → Us → Prop} (x1 : Int32) (x2 : Int32) (x3 : Int32) (x4 : Int32)
    (h : ((aI u 52 30) ≤ x4 → Q (.inl (some (.int x2))) u) ∧ (¬ ((aI u 52 30) ≤ x4) → ∃ k1 : Nat, x4 = nI k1 ∧ k1 < 12 ∧ (((aI u 69 k1) ≠ 4 → WS d m_Mod_levelOf 7 [some (.ref 52), some (.int x1), some (.int x2), some (.int x3), some (.int (x4 + 1))] [] u Q) ∧ ((aI u 69 k1) = 4 → ∃ k2 : Nat, x4 = nI k2 ∧ k2 < 12 ∧ (((aI u 72 k2) ≠ x1 → WS d m_Mod_levelOf 7 [some (.ref 52), some (.int x1), some (.int x2), some (.int (x3 + 1)), some (.int (x4 + 1))] [] u Q) ∧ ((aI u 72 k2) = x1 → WS d m_Mod_levelOf 7 [some (.ref 52), some (.int x1), some (.int x3), some (.int (x3 + 1)), some (.int (x4 + 1))] [] u Q)))))) :
    WS d m_Mod_levelOf 7 [some (.ref 52), some (.int x1), some (.int x2), some (.int x3), some (.int x4)] [] u Q := by
  refine w_iload (dk_Mod_levelOf 6 rfl) rfl ?_
  refine w_aload_n (dk_Mod_levelOf 7 rfl) rfl ?_
  refine w_geti (v := aI u 52 30) (dk_Mod_levelOf 8 rfl) lk_Mod_103 rfl rfl rfl ?_
  refine w_icmp_ge 49 (dk_Mod_levelOf 9 rfl) (by decide) (fun c_ => ?_) (fun c_ => ?_)
  · replace h := h.1 c_
    refine w_iload_n (dk_Mod_levelOf 27 rfl) rfl ?_
    exact w_iret (dk_Mod_levelOf 28 rfl) rfl h
  · replace h := h.2 c_
    refine w_aload_n (dk_Mod_levelOf 10 rfl) rfl ?_
    refine w_getr (dk_Mod_levelOf 11 rfl) lk_Mod_106 rfl rfl rfl ?_
    refine w_iload (dk_Mod_levelOf 12 rfl) rfl ?_
    obtain ⟨k1, e_k1, l_k1, h⟩ := h
    refine w_iald (k_ := k1) (dk_Mod_levelOf 13 rfl) rfl (by decide) e_k1 l_k1 ?_
    refine w_iconst (v := 4) (dk_Mod_levelOf 14 rfl) rfl ?_
    refine w_icmp_ne 43 (dk_Mod_levelOf 15 rfl) (by decide) (fun c_ => ?_) (fun c_ => ?_)
    · replace h := h.1 c_
      refine w_iinc (v := x4 + 1) (ls' := [some (.ref 52), some (.int x1), some (.int x2), some (.int x3), some (.int (x4 + 1))]) (dk_Mod_levelOf 25 rfl) rfl rfl (by decide) rfl ?_
      refine w_goto 7 (dk_Mod_levelOf 26 rfl) (by decide) ?_
      exact h
    · replace h := h.2 c_
      refine w_aload_n (dk_Mod_levelOf 16 rfl) rfl ?_
      refine w_getr (dk_Mod_levelOf 17 rfl) lk_Mod_115 rfl rfl rfl ?_
      refine w_iload (dk_Mod_levelOf 18 rfl) rfl ?_
      obtain ⟨k2, e_k2, l_k2, h⟩ := h
      refine w_iald (k_ := k2) (dk_Mod_levelOf 19 rfl) rfl (by decide) e_k2 l_k2 ?_
      refine w_iload_n (dk_Mod_levelOf 20 rfl) rfl ?_
      refine w_icmp_ne 40 (dk_Mod_levelOf 21 rfl) (by decide) (fun c_ => ?_) (fun c_ => ?_)
      · replace h := h.1 c_
        refine w_iinc (v := x3 + 1) (ls' := [some (.ref 52), some (.int x1), some (.int x2), some (.int (x3 + 1)), some (.int x4)]) (dk_Mod_levelOf 24 rfl) rfl rfl (by decide) rfl ?_
        refine w_iinc (v := x4 + 1) (ls' := [some (.ref 52), some (.int x1), some (.int x2), some (.int (x3 + 1)), some (.int (x4 + 1))]) (dk_Mod_levelOf 25 rfl) rfl rfl (by decide) rfl ?_
        refine w_goto 7 (dk_Mod_levelOf 26 rfl) (by decide) ?_
        exact h
      · replace h := h.2 c_
        refine w_iload_n (dk_Mod_levelOf 22 rfl) rfl ?_
        refine w_istore_n (ls' := [some (.ref 52), some (.int x1), some (.int x3), some (.int x3), some (.int x4)]) (dk_Mod_levelOf 23 rfl) (by decide) rfl ?_
        refine w_iinc (v := x3 + 1) (ls' := [some (.ref 52), some (.int x1), some (.int x3), some (.int (x3 + 1)), some (.int x4)]) (dk_Mod_levelOf 24 rfl) rfl rfl (by decide) rfl ?_
        refine w_iinc (v := x4 + 1) (ls' := [some (.ref 52), some (.int x1), some (.int x3), some (.int (x3 + 1)), some (.int (x4 + 1))]) (dk_Mod_levelOf 25 rfl) rfl rfl (by decide) rfl ?_
        refine w_goto 7 (dk_Mod_levelOf 26 rfl) (by decide) ?_
        exact h
theorem g_Mod_sign_0 {d : Nat} {u : Us} {Q : Ot → Us → Prop} (p1 : Int32)
    (h : WS d m_Mod_isSign 0 [some (.ref 52), some (.int p1)] [] u (Ri (fun (r1 : Int32) (u2 : Us) => (r1 ≠ 0 → Q (.inl (some (.int 1))) (uI u2 52 20 ((aI u2 52 20) + 1))) ∧ (r1 = 0 → WS d m_Mod_wrong 0 [some (.ref 52)] [] u2 (Ri (fun (r3 : Int32) (u4 : Us) => (r3 = 0 ∨ r3 = 1) ∧ Q (.inl (some (.int r3))) u4) (fun x u => Q (.inr x) u)))) (fun x u => Q (.inr x) u))) :
    WS (d + 1) m_Mod_sign 0 [some (.ref 52), some (.int p1)] [] u Q := by
  refine w_aload_n (dk_Mod_sign 0 rfl) rfl ?_
  refine w_iload_n (dk_Mod_sign 1 rfl) rfl ?_
  refine w_callVi (ls' := [some (.ref 52), some (.int p1)]) cv_Mod_232 (dk_Mod_sign 2 rfl) (ci := 10) rfl rfl [.int p1] [] rfl rfl (Nat.le_of_ble_eq_true rfl) (Nat.le_of_ble_eq_true rfl) rfl rfl rfl h (fun r1 u2 h => ?_)
  refine w_if_ne 13 (dk_Mod_sign 3 rfl) (by decide) (fun c_ => ?_) (fun c_ => ?_)
  · replace h := h.1 c_
    refine w_aload_n (dk_Mod_sign 7 rfl) rfl ?_
    refine w_dup (dk_Mod_sign 8 rfl) rfl ?_
    refine w_geti (v := aI u2 52 20) (dk_Mod_sign 9 rfl) lk_Mod_72 rfl rfl rfl ?_
    refine w_iconst (v := 1) (dk_Mod_sign 10 rfl) rfl ?_
    refine w_iadd (dk_Mod_sign 11 rfl) ?_
    refine w_puti (dk_Mod_sign 12 rfl) lk_Mod_72 rfl rfl ?_
    refine w_iconst (v := 1) (dk_Mod_sign 13 rfl) rfl ?_
    exact w_bret (dk_Mod_sign 14 rfl) rfl (Or.inr rfl) h
  · replace h := h.2 c_
    refine w_aload_n (dk_Mod_sign 4 rfl) rfl ?_
    refine w_callVi (ls' := [some (.ref 52)]) cv_Mod_235 (dk_Mod_sign 5 rfl) (ci := 10) rfl rfl [] [] rfl rfl (Nat.le_of_ble_eq_true rfl) (Nat.le_of_ble_eq_true rfl) rfl rfl rfl h (fun r3 u4 h => ?_)
    exact w_bret (dk_Mod_sign 6 rfl) rfl h.1 h.2
theorem g_Mod_takeField_0 {d : Nat} {u : Us} {Q : Ot → Us → Prop} (p1 : Int32)
    (h : ∃ k1 : Nat, aI u 52 20 = nI k1 ∧ k1 < 152 ∧ (((aI u 63 k1) ≠ 1 → WS d m_Mod_wrong 0 [some (.ref 52)] [] u (Ri (fun (r2 : Int32) (u3 : Us) => Q (.inl (some (.int (-1)))) u3) (fun x u => Q (.inr x) u))) ∧ ((aI u 63 k1) = 1 → ∃ k4 : Nat, aI u 52 20 = nI k4 ∧ k4 < 152 ∧ (WS d m_Mod_fieldOf 0 [some (.ref 52), some (.int p1), some (.long (aL u 65 k4)), none, none] [] u (Ri (fun (r5 : Int32) (u6 : Us) => (0 ≤ r5 → Q (.inl (some (.int r5))) (uI u6 52 20 ((aI u6 52 20) + 1))) ∧ (¬ (0 ≤ r5) → WS d m_Mod_wrong 0 [some (.ref 52)] [] u6 (Ri (fun (r7 : Int32) (u8 : Us) => Q (.inl (some (.int r5))) u8) (fun x u => Q (.inr x) u)))) (fun x u => Q (.inr x) u)))))) :
    WS (d + 1) m_Mod_takeField 0 [some (.ref 52), some (.int p1), none] [] u Q := by
  refine w_aload_n (dk_Mod_takeField 0 rfl) rfl ?_
  refine w_getr (dk_Mod_takeField 1 rfl) lk_Mod_57 rfl rfl rfl ?_
  refine w_aload_n (dk_Mod_takeField 2 rfl) rfl ?_
  refine w_geti (v := aI u 52 20) (dk_Mod_takeField 3 rfl) lk_Mod_72 rfl rfl rfl ?_
  obtain ⟨k1, e_k1, l_k1, h⟩ := h
  refine w_iald (k_ := k1) (dk_Mod_takeField 4 rfl) rfl (by decide) e_k1 l_k1 ?_
  refine w_iconst (v := 1) (dk_Mod_takeField 5 rfl) rfl ?_
  refine w_icmp_ne 30 (dk_Mod_takeField 6 rfl) (by decide) (fun c_ => ?_) (fun c_ => ?_)
  · replace h := h.1 c_
    refine w_iconst (v := (-1)) (dk_Mod_takeField 16 rfl) rfl ?_
    refine w_istore_n (ls' := [some (.ref 52), some (.int p1), some (.int (-1))]) (dk_Mod_takeField 17 rfl) (by decide) rfl ?_
    refine w_iload_n (dk_Mod_takeField 18 rfl) rfl ?_
    refine w_if_ge_f (dk_Mod_takeField 19 rfl) 44 (by decide) (by decide) ?_
    refine w_aload_n (dk_Mod_takeField 20 rfl) rfl ?_
    refine w_callVi (ls' := [some (.ref 52)]) cv_Mod_235 (dk_Mod_takeField 21 rfl) (ci := 10) rfl rfl [] [] rfl rfl (Nat.le_of_ble_eq_true rfl) (Nat.le_of_ble_eq_true rfl) rfl rfl rfl h (fun r2 u3 h => ?_)
    refine w_pop (dk_Mod_takeField 22 rfl) rfl ?_
    refine w_goto 54 (dk_Mod_takeField 23 rfl) (by decide) ?_
    refine w_iload_n (dk_Mod_takeField 30 rfl) rfl ?_
    exact w_iret (dk_Mod_takeField 31 rfl) rfl h
  · replace h := h.2 c_
    refine w_aload_n (dk_Mod_takeField 7 rfl) rfl ?_
    refine w_iload_n (dk_Mod_takeField 8 rfl) rfl ?_
    refine w_aload_n (dk_Mod_takeField 9 rfl) rfl ?_
    refine w_getr (dk_Mod_takeField 10 rfl) lk_Mod_63 rfl rfl rfl ?_
    refine w_aload_n (dk_Mod_takeField 11 rfl) rfl ?_
    refine w_geti (v := aI u 52 20) (dk_Mod_takeField 12 rfl) lk_Mod_72 rfl rfl rfl ?_
    obtain ⟨k4, e_k4, l_k4, h⟩ := h
    refine w_lald (k_ := k4) (dk_Mod_takeField 13 rfl) rfl (by decide) e_k4 l_k4 ?_
    refine w_callVi (ls' := [some (.ref 52), some (.int p1), some (.long (aL u 65 k4)), none, none]) cv_Mod_246 (dk_Mod_takeField 14 rfl) (ci := 10) rfl rfl [.int p1, .long (aL u 65 k4)] [] rfl rfl (Nat.le_of_ble_eq_true rfl) (Nat.le_of_ble_eq_true rfl) rfl rfl rfl h (fun r5 u6 h => ?_)
    refine w_goto 31 (dk_Mod_takeField 15 rfl) (by decide) ?_
    refine w_istore_n (ls' := [some (.ref 52), some (.int p1), some (.int r5)]) (dk_Mod_takeField 17 rfl) (by decide) rfl ?_
    refine w_iload_n (dk_Mod_takeField 18 rfl) rfl ?_
    refine w_if_ge 44 (dk_Mod_takeField 19 rfl) (by decide) (fun c_ => ?_) (fun c_ => ?_)
    · replace h := h.1 c_
      refine w_aload_n (dk_Mod_takeField 24 rfl) rfl ?_
      refine w_dup (dk_Mod_takeField 25 rfl) rfl ?_
      refine w_geti (v := aI u6 52 20) (dk_Mod_takeField 26 rfl) lk_Mod_72 rfl rfl rfl ?_
      refine w_iconst (v := 1) (dk_Mod_takeField 27 rfl) rfl ?_
      refine w_iadd (dk_Mod_takeField 28 rfl) ?_
      refine w_puti (dk_Mod_takeField 29 rfl) lk_Mod_72 rfl rfl ?_
      refine w_iload_n (dk_Mod_takeField 30 rfl) rfl ?_
      exact w_iret (dk_Mod_takeField 31 rfl) rfl h
    · replace h := h.2 c_
      refine w_aload_n (dk_Mod_takeField 20 rfl) rfl ?_
      refine w_callVi (ls' := [some (.ref 52)]) cv_Mod_235 (dk_Mod_takeField 21 rfl) (ci := 10) rfl rfl [] [] rfl rfl (Nat.le_of_ble_eq_true rfl) (Nat.le_of_ble_eq_true rfl) rfl rfl rfl h (fun r7 u8 h => ?_)
      refine w_pop (dk_Mod_takeField 22 rfl) rfl ?_
      refine w_goto 54 (dk_Mod_takeField 23 rfl) (by decide) ?_
      refine w_iload_n (dk_Mod_takeField 30 rfl) rfl ?_
      exact w_iret (dk_Mod_takeField 31 rfl) rfl h
theorem g_Mod_fieldOf_0 {d : Nat} {u : Us} {Q : Ot → Us → Prop} (p1 : Int32) (p2 : Int64)
    (h : WS d m_Mod_fieldOf 3 [some (.ref 52), some (.int p1), some (.long p2), none, some (.int 0)] [] u Q) :
    WS d m_Mod_fieldOf 0 [some (.ref 52), some (.int p1), some (.long p2), none, none] [] u Q := by
  refine w_iconst (v := 0) (dk_Mod_fieldOf 0 rfl) rfl ?_
  refine w_istore (ls' := [some (.ref 52), some (.int p1), some (.long p2), none, some (.int 0)]) (dk_Mod_fieldOf 1 rfl) (by decide) rfl ?_
  exact h
theorem g_Mod_fieldOf_3 {d : Nat} {u : Us} {Q : Ot → Us → Prop} (x1 : Int32) (x2 : Int64) (x4 : Int32)
    (h : ∃ k1 : Nat, x1 = nI k1 ∧ k1 < 7 ∧ (((aI u 55 k1) ≤ x4 → Q (.inl (some (.int (-1)))) u) ∧ (¬ ((aI u 55 k1) ≤ x4) → ∃ k2 : Nat, (6 * x1) + x4 = nI k2 ∧ k2 < 42 ∧ (((aL u 56 k2) ≠ x2 → WS d m_Mod_fieldOf 3 [some (.ref 52), some (.int x1), some (.long x2), none, some (.int (x4 + 1))] [] u Q) ∧ ((aL u 56 k2) = x2 → Q (.inl (some (.int x4))) u))))) :
    WS d m_Mod_fieldOf 3 [some (.ref 52), some (.int x1), some (.long x2), none, some (.int x4)] [] u Q := by
  refine w_iload (dk_Mod_fieldOf 2 rfl) rfl ?_
  refine w_aload_n (dk_Mod_fieldOf 3 rfl) rfl ?_
  refine w_getr (dk_Mod_fieldOf 4 rfl) lk_Mod_27 rfl rfl rfl ?_
  refine w_iload_n (dk_Mod_fieldOf 5 rfl) rfl ?_
  obtain ⟨k1, e_k1, l_k1, h⟩ := h
  refine w_iald (k_ := k1) (dk_Mod_fieldOf 6 rfl) rfl (by decide) e_k1 l_k1 ?_
  refine w_icmp_ge 40 (dk_Mod_fieldOf 7 rfl) (by decide) (fun c_ => ?_) (fun c_ => ?_)
  · replace h := h.1 c_
    refine w_iconst (v := (-1)) (dk_Mod_fieldOf 23 rfl) rfl ?_
    exact w_iret (dk_Mod_fieldOf 24 rfl) rfl h
  · replace h := h.2 c_
    refine w_aload_n (dk_Mod_fieldOf 8 rfl) rfl ?_
    refine w_getr (dk_Mod_fieldOf 9 rfl) lk_Mod_30 rfl rfl rfl ?_
    refine w_bipush (v := 6) (dk_Mod_fieldOf 10 rfl) rfl ?_
    refine w_iload_n (dk_Mod_fieldOf 11 rfl) rfl ?_
    refine w_imul (dk_Mod_fieldOf 12 rfl) ?_
    refine w_iload (dk_Mod_fieldOf 13 rfl) rfl ?_
    refine w_iadd (dk_Mod_fieldOf 14 rfl) ?_
    obtain ⟨k2, e_k2, l_k2, h⟩ := h
    refine w_lald (k_ := k2) (dk_Mod_fieldOf 15 rfl) rfl (by decide) e_k2 l_k2 ?_
    refine w_lload_n (dk_Mod_fieldOf 16 rfl) rfl ?_
    refine w_lcmp_ne 34 (dk_Mod_fieldOf 17 rfl) (dk_Mod_fieldOf 18 rfl) (by decide) (fun c_ => ?_) (fun c_ => ?_)
    · replace h := h.1 c_
      refine w_iinc (v := x4 + 1) (ls' := [some (.ref 52), some (.int x1), some (.long x2), none, some (.int (x4 + 1))]) (dk_Mod_fieldOf 21 rfl) rfl rfl (by decide) rfl ?_
      refine w_goto 3 (dk_Mod_fieldOf 22 rfl) (by decide) ?_
      exact h
    · replace h := h.2 c_
      refine w_iload (dk_Mod_fieldOf 19 rfl) rfl ?_
      exact w_iret (dk_Mod_fieldOf 20 rfl) rfl h
theorem g_Mod_inline_0 {d : Nat} {u : Us} {Q : Ot → Us → Prop} 
    (h : WS d m_Mod_emit 0 [some (.ref 52), some (.int 112)] [] u (Rv (fun (u2 : Us) => WS d m_Mod_measured 0 [some (.ref 52), some (.int (-1)), none] [] u2 (Ri (fun (r3 : Int32) (u4 : Us) => (r3 = 0 ∨ r3 = 1) ∧ Q (.inl (some (.int r3))) u4) (fun x u => Q (.inr x) u))) (fun x u => Q (.inr x) u))) :
    WS (d + 1) m_Mod_inline 0 [some (.ref 52)] [] u Q := by
  refine w_aload_n (dk_Mod_inline 0 rfl) rfl ?_
  refine w_bipush (v := 112) (dk_Mod_inline 1 rfl) rfl ?_
  refine w_callVv (ls' := [some (.ref 52), some (.int 112)]) cv_Mod_278 (dk_Mod_inline 2 rfl) (ci := 10) rfl rfl [.int 112] [] rfl rfl (Nat.le_of_ble_eq_true rfl) (Nat.le_of_ble_eq_true rfl) rfl rfl rfl h (fun u2 h => ?_)
  refine w_aload_n (dk_Mod_inline 3 rfl) rfl ?_
  refine w_iconst (v := (-1)) (dk_Mod_inline 4 rfl) rfl ?_
  refine w_callVi (ls' := [some (.ref 52), some (.int (-1)), none]) cv_Mod_311 (dk_Mod_inline 5 rfl) (ci := 10) rfl rfl [.int (-1)] [] rfl rfl (Nat.le_of_ble_eq_true rfl) (Nat.le_of_ble_eq_true rfl) rfl rfl rfl h (fun r3 u4 h => ?_)
  exact w_bret (dk_Mod_inline 6 rfl) rfl h.1 h.2
theorem g_Mod_measured_0 {d : Nat} {u : Us} {Q : Ot → Us → Prop} (p1 : Int32)
    (h : WS d m_Mod_emit 0 [some (.ref 52), some (.int 0)] [] u (Rv (fun (u2 : Us) => WS d m_Mod_expression 0 [some (.ref 52), some (.int p1), none, none, none, none] [] u2 (Ri (fun (r3 : Int32) (u4 : Us) => (r3 ≠ 0 → ∃ k5 : Nat, aI u 52 25 = nI k5 ∧ k5 < 3000 ∧ (Q (.inl (some (.int 1))) (uI u4 67 k5 (((aI u4 52 25) - (aI u 52 25)) - 1)))) ∧ (r3 = 0 → Q (.inl (some (.int 0))) u4)) (fun x u => Q (.inr x) u))) (fun x u => Q (.inr x) u))) :
    WS (d + 1) m_Mod_measured 0 [some (.ref 52), some (.int p1), none] [] u Q := by
  refine w_aload_n (dk_Mod_measured 0 rfl) rfl ?_
  refine w_geti (v := aI u 52 25) (dk_Mod_measured 1 rfl) lk_Mod_88 rfl rfl rfl ?_
  refine w_istore_n (ls' := [some (.ref 52), some (.int p1), some (.int (aI u 52 25))]) (dk_Mod_measured 2 rfl) (by decide) rfl ?_
  refine w_aload_n (dk_Mod_measured 3 rfl) rfl ?_
  refine w_iconst (v := 0) (dk_Mod_measured 4 rfl) rfl ?_
  refine w_callVv (ls' := [some (.ref 52), some (.int 0)]) cv_Mod_278 (dk_Mod_measured 5 rfl) (ci := 10) rfl rfl [.int 0] [] rfl rfl (Nat.le_of_ble_eq_true rfl) (Nat.le_of_ble_eq_true rfl) rfl rfl rfl h (fun u2 h => ?_)
  refine w_aload_n (dk_Mod_measured 6 rfl) rfl ?_
  refine w_iload_n (dk_Mod_measured 7 rfl) rfl ?_
  refine w_callVi (ls' := [some (.ref 52), some (.int p1), none, none, none, none]) cv_Mod_308 (dk_Mod_measured 8 rfl) (ci := 10) rfl rfl [.int p1] [] rfl rfl (Nat.le_of_ble_eq_true rfl) (Nat.le_of_ble_eq_true rfl) rfl rfl rfl h (fun r3 u4 h => ?_)
  refine w_if_ne 20 (dk_Mod_measured 9 rfl) (by decide) (fun c_ => ?_) (fun c_ => ?_)
  · replace h := h.1 c_
    refine w_aload_n (dk_Mod_measured 12 rfl) rfl ?_
    refine w_getr (dk_Mod_measured 13 rfl) lk_Mod_85 rfl rfl rfl ?_
    refine w_iload_n (dk_Mod_measured 14 rfl) rfl ?_
    refine w_aload_n (dk_Mod_measured 15 rfl) rfl ?_
    refine w_geti (v := aI u4 52 25) (dk_Mod_measured 16 rfl) lk_Mod_88 rfl rfl rfl ?_
    refine w_iload_n (dk_Mod_measured 17 rfl) rfl ?_
    refine w_isub (dk_Mod_measured 18 rfl) ?_
    refine w_iconst (v := 1) (dk_Mod_measured 19 rfl) rfl ?_
    refine w_isub (dk_Mod_measured 20 rfl) ?_
    obtain ⟨k5, e_k5, l_k5, h⟩ := h
    refine w_iast (k_ := k5) (dk_Mod_measured 21 rfl) rfl (by decide) e_k5 l_k5 ?_
    refine w_iconst (v := 1) (dk_Mod_measured 22 rfl) rfl ?_
    exact w_bret (dk_Mod_measured 23 rfl) rfl (Or.inr rfl) h
  · replace h := h.2 c_
    refine w_iconst (v := 0) (dk_Mod_measured 10 rfl) rfl ?_
    exact w_bret (dk_Mod_measured 11 rfl) rfl (Or.inl rfl) h
theorem g_Mod_expression_0 {d : Nat} {u : Us} {Q : Ot → Us → Prop} (p1 : Int32)
    (h : WS (d + 1) m_Mod_expression 12 [some (.ref 52), some (.int p1), some (.int (aI u 52 28)), some (.int 1), none, none] [] (uI u 52 29 p1) Q) :
    WS (d + 1) m_Mod_expression 0 [some (.ref 52), some (.int p1), none, none, none, none] [] u Q := by
  refine w_aload_n (dk_Mod_expression 0 rfl) rfl ?_
  refine w_geti (v := aI u 52 28) (dk_Mod_expression 1 rfl) lk_Mod_97 rfl rfl rfl ?_
  refine w_istore_n (ls' := [some (.ref 52), some (.int p1), some (.int (aI u 52 28)), none, none, none]) (dk_Mod_expression 2 rfl) (by decide) rfl ?_
  refine w_aload_n (dk_Mod_expression 3 rfl) rfl ?_
  refine w_iload_n (dk_Mod_expression 4 rfl) rfl ?_
  refine w_puti (dk_Mod_expression 5 rfl) lk_Mod_100 rfl rfl ?_
  refine w_iconst (v := 1) (dk_Mod_expression 6 rfl) rfl ?_
  refine w_istore_n (ls' := [some (.ref 52), some (.int p1), some (.int (aI u 52 28)), some (.int 1), none, none]) (dk_Mod_expression 7 rfl) (by decide) rfl ?_
  exact h
theorem g_Mod_expression_12 {d : Nat} {u : Us} {Q : Ot → Us → Prop} (x1 : Int32) (x2 : Int32) (x3 : Int32)
    (h : (x3 = 0 → WS d m_Mod_operation 0 [some (.ref 52), none] [] u (Ri (fun (r1 : Int32) (u2 : Us) => (r1 ≤ 0 → WS d m_Mod_isSign 0 [some (.ref 52), some (.int 41)] [] u2 (Ri (fun (r3 : Int32) (u4 : Us) => (r3 = 0 → WS d m_Mod_unwind 0 [some (.ref 52), some (.int x2), some (.int 0)] [] u4 (Rv (fun (u6 : Us) => ((aI u6 52 28) ≤ x2 → Q (.inl (some (.int 1))) u6) ∧ (¬ ((aI u6 52 28) ≤ x2) → WS d m_Mod_wrong 0 [some (.ref 52)] [] u6 (Ri (fun (r7 : Int32) (u8 : Us) => (r7 = 0 ∨ r7 = 1) ∧ Q (.inl (some (.int r7))) u8) (fun x u => Q (.inr x) u)))) (fun x u => Q (.inr x) u))) ∧ (¬ (r3 = 0) → WS d m_Mod_closes 0 [some (.ref 52), some (.int x2)] [] u4 (Ri (fun (r9 : Int32) (u10 : Us) => (r9 = 0 → WS d m_Mod_unwind 0 [some (.ref 52), some (.int x2), some (.int 0)] [] u10 (Rv (fun (u12 : Us) => ((aI u12 52 28) ≤ x2 → Q (.inl (some (.int 1))) u12) ∧ (¬ ((aI u12 52 28) ≤ x2) → WS d m_Mod_wrong 0 [some (.ref 52)] [] u12 (Ri (fun (r13 : Int32) (u14 : Us) => (r13 = 0 ∨ r13 = 1) ∧ Q (.inl (some (.int r13))) u14) (fun x u => Q (.inr x) u)))) (fun x u => Q (.inr x) u))) ∧ (¬ (r9 = 0) → WS (d + 1) m_Mod_expression 12 [some (.ref 52), some (.int x1), some (.int x2), some (.int x3), some (.int r1), none] [] (uI u10 52 20 ((aI u10 52 20) + 1)) Q)) (fun x u => Q (.inr x) u)))) (fun x u => Q (.inr x) u))) ∧ (¬ (r1 ≤ 0) → WS d m_Mod_binary 0 [some (.ref 52), some (.int x2), some (.int r1), none] [] u2 (Ri (fun (r15 : Int32) (u16 : Us) => (r15 ≠ 0 → WS (d + 1) m_Mod_expression 12 [some (.ref 52), some (.int x1), some (.int x2), some (.int 1), some (.int r1), none] [] u16 Q) ∧ (r15 = 0 → Q (.inl (some (.int 0))) u16)) (fun x u => Q (.inr x) u)))) (fun x u => Q (.inr x) u))) ∧ (¬ (x3 = 0) → WS d m_Mod_operand 0 [some (.ref 52), some (.int x2), some (.int x1), none, none] [] u (Ri (fun (r17 : Int32) (u18 : Us) => (r17 ≠ 0 → ((aI u18 52 28) ≤ (aI u 52 28) → ((aI u18 52 28) ≤ (aI u 52 28) → WS (d + 1) m_Mod_expression 12 [some (.ref 52), some (.int x1), some (.int x2), some (.int 0), some (.int (aI u 52 28)), some (.int (aI u 52 25))] [] u18 Q) ∧ (¬ ((aI u18 52 28) ≤ (aI u 52 28)) → ∃ k19 : Nat, (aI u18 52 28) - 1 = nI k19 ∧ k19 < 160 ∧ (((aI u18 68 k19) ≠ 2 → WS (d + 1) m_Mod_expression 12 [some (.ref 52), some (.int x1), some (.int x2), some (.int 0), some (.int (aI u 52 28)), some (.int (aI u 52 25))] [] u18 Q) ∧ ((aI u18 68 k19) = 2 → WS (d + 1) m_Mod_expression 12 [some (.ref 52), some (.int x1), some (.int x2), some (.int 1), some (.int (aI u 52 28)), some (.int (aI u 52 25))] [] u18 Q)))) ∧ (¬ ((aI u18 52 28) ≤ (aI u 52 28)) → ((aI u18 52 25) = (aI u 52 25) → WS (d + 1) m_Mod_expression 12 [some (.ref 52), some (.int x1), some (.int x2), some (.int 1), some (.int (aI u 52 28)), some (.int (aI u 52 25))] [] u18 Q) ∧ (¬ ((aI u18 52 25) = (aI u 52 25)) → ((aI u18 52 28) ≤ (aI u 52 28) → WS (d + 1) m_Mod_expression 12 [some (.ref 52), some (.int x1), some (.int x2), some (.int 0), some (.int (aI u 52 28)), some (.int (aI u 52 25))] [] u18 Q) ∧ (¬ ((aI u18 52 28) ≤ (aI u 52 28)) → ∃ k20 : Nat, (aI u18 52 28) - 1 = nI k20 ∧ k20 < 160 ∧ (((aI u18 68 k20) ≠ 2 → WS (d + 1) m_Mod_expression 12 [some (.ref 52), some (.int x1), some (.int x2), some (.int 0), some (.int (aI u 52 28)), some (.int (aI u 52 25))] [] u18 Q) ∧ ((aI u18 68 k20) = 2 → WS (d + 1) m_Mod_expression 12 [some (.ref 52), some (.int x1), some (.int x2), some (.int 1), some (.int (aI u 52 28)), some (.int (aI u 52 25))] [] u18 Q)))))) ∧ (r17 = 0 → Q (.inl (some (.int 0))) u18)) (fun x u => Q (.inr x) u)))) :
    WS (d + 1) m_Mod_expression 12 [some (.ref 52), some (.int x1), some (.int x2), some (.int x3), none, none] [] u Q := by
  refine w_iload_n (dk_Mod_expression 8 rfl) rfl ?_
  refine w_if_eq 90 (dk_Mod_expression 9 rfl) (by decide) (fun c_ => ?_) (fun c_ => ?_)
  · replace h := h.1 c_
    refine w_aload_n (dk_Mod_expression 49 rfl) rfl ?_
    refine w_callVi (ls' := [some (.ref 52), none]) cv_Mod_261 (dk_Mod_expression 50 rfl) (ci := 10) rfl rfl [] [] rfl rfl (Nat.le_of_ble_eq_true rfl) (Nat.le_of_ble_eq_true rfl) rfl rfl rfl h (fun r1 u2 h => ?_)
    refine w_istore (ls' := [some (.ref 52), some (.int x1), some (.int x2), some (.int x3), some (.int r1), none]) (dk_Mod_expression 51 rfl) (by decide) rfl ?_
    refine w_iload (dk_Mod_expression 52 rfl) rfl ?_
    refine w_if_le 118 (dk_Mod_expression 53 rfl) (by decide) (fun c_ => ?_) (fun c_ => ?_)
    · replace h := h.1 c_
      refine w_aload_n (dk_Mod_expression 64 rfl) rfl ?_
      refine w_bipush (v := 41) (dk_Mod_expression 65 rfl) rfl ?_
      refine w_callVi (ls' := [some (.ref 52), some (.int 41)]) cv_Mod_232 (dk_Mod_expression 66 rfl) (ci := 10) rfl rfl [.int 41] [] rfl rfl (Nat.le_of_ble_eq_true rfl) (Nat.le_of_ble_eq_true rfl) rfl rfl rfl h (fun r3 u4 h => ?_)
      refine w_if_eq 148 (dk_Mod_expression 67 rfl) (by decide) (fun c_ => ?_) (fun c_ => ?_)
      · replace h := h.1 c_
        refine w_aload_n (dk_Mod_expression 79 rfl) rfl ?_
        refine w_iload_n (dk_Mod_expression 80 rfl) rfl ?_
        refine w_iconst (v := 0) (dk_Mod_expression 81 rfl) rfl ?_
        refine w_callVv (ls' := [some (.ref 52), some (.int x2), some (.int 0)]) cv_Mod_271 (dk_Mod_expression 82 rfl) (ci := 10) rfl rfl [.int x2, .int 0] [] rfl rfl (Nat.le_of_ble_eq_true rfl) (Nat.le_of_ble_eq_true rfl) rfl rfl rfl h (fun u6 h => ?_)
        refine w_aload_n (dk_Mod_expression 83 rfl) rfl ?_
        refine w_geti (v := aI u6 52 28) (dk_Mod_expression 84 rfl) lk_Mod_97 rfl rfl rfl ?_
        refine w_iload_n (dk_Mod_expression 85 rfl) rfl ?_
        refine w_icmp_le 167 (dk_Mod_expression 86 rfl) (by decide) (fun c_ => ?_) (fun c_ => ?_)
        · replace h := h.1 c_
          refine w_iconst (v := 1) (dk_Mod_expression 90 rfl) rfl ?_
          exact w_bret (dk_Mod_expression 91 rfl) rfl (Or.inr rfl) h
        · replace h := h.2 c_
          refine w_aload_n (dk_Mod_expression 87 rfl) rfl ?_
          refine w_callVi (ls' := [some (.ref 52)]) cv_Mod_235 (dk_Mod_expression 88 rfl) (ci := 10) rfl rfl [] [] rfl rfl (Nat.le_of_ble_eq_true rfl) (Nat.le_of_ble_eq_true rfl) rfl rfl rfl h (fun r7 u8 h => ?_)
          exact w_bret (dk_Mod_expression 89 rfl) rfl h.1 h.2
      · replace h := h.2 c_
        refine w_aload_n (dk_Mod_expression 68 rfl) rfl ?_
        refine w_iload_n (dk_Mod_expression 69 rfl) rfl ?_
        refine w_callVi (ls' := [some (.ref 52), some (.int x2)]) cv_Mod_268 (dk_Mod_expression 70 rfl) (ci := 10) rfl rfl [.int x2] [] rfl rfl (Nat.le_of_ble_eq_true rfl) (Nat.le_of_ble_eq_true rfl) rfl rfl rfl h (fun r9 u10 h => ?_)
        refine w_if_eq 148 (dk_Mod_expression 71 rfl) (by decide) (fun c_ => ?_) (fun c_ => ?_)
        · replace h := h.1 c_
          refine w_aload_n (dk_Mod_expression 79 rfl) rfl ?_
          refine w_iload_n (dk_Mod_expression 80 rfl) rfl ?_
          refine w_iconst (v := 0) (dk_Mod_expression 81 rfl) rfl ?_
          refine w_callVv (ls' := [some (.ref 52), some (.int x2), some (.int 0)]) cv_Mod_271 (dk_Mod_expression 82 rfl) (ci := 10) rfl rfl [.int x2, .int 0] [] rfl rfl (Nat.le_of_ble_eq_true rfl) (Nat.le_of_ble_eq_true rfl) rfl rfl rfl h (fun u12 h => ?_)
          refine w_aload_n (dk_Mod_expression 83 rfl) rfl ?_
          refine w_geti (v := aI u12 52 28) (dk_Mod_expression 84 rfl) lk_Mod_97 rfl rfl rfl ?_
          refine w_iload_n (dk_Mod_expression 85 rfl) rfl ?_
          refine w_icmp_le 167 (dk_Mod_expression 86 rfl) (by decide) (fun c_ => ?_) (fun c_ => ?_)
          · replace h := h.1 c_
            refine w_iconst (v := 1) (dk_Mod_expression 90 rfl) rfl ?_
            exact w_bret (dk_Mod_expression 91 rfl) rfl (Or.inr rfl) h
          · replace h := h.2 c_
            refine w_aload_n (dk_Mod_expression 87 rfl) rfl ?_
            refine w_callVi (ls' := [some (.ref 52)]) cv_Mod_235 (dk_Mod_expression 88 rfl) (ci := 10) rfl rfl [] [] rfl rfl (Nat.le_of_ble_eq_true rfl) (Nat.le_of_ble_eq_true rfl) rfl rfl rfl h (fun r13 u14 h => ?_)
            exact w_bret (dk_Mod_expression 89 rfl) rfl h.1 h.2
        · replace h := h.2 c_
          refine w_aload_n (dk_Mod_expression 72 rfl) rfl ?_
          refine w_dup (dk_Mod_expression 73 rfl) rfl ?_
          refine w_geti (v := aI u10 52 20) (dk_Mod_expression 74 rfl) lk_Mod_72 rfl rfl rfl ?_
          refine w_iconst (v := 1) (dk_Mod_expression 75 rfl) rfl ?_
          refine w_iadd (dk_Mod_expression 76 rfl) ?_
          refine w_puti (dk_Mod_expression 77 rfl) lk_Mod_72 rfl rfl ?_
          refine w_goto 169 (dk_Mod_expression 78 rfl) (by decide) ?_
          refine w_goto 12 (dk_Mod_expression 92 rfl) (by decide) ?_
          exact h
    · replace h := h.2 c_
      refine w_aload_n (dk_Mod_expression 54 rfl) rfl ?_
      refine w_iload_n (dk_Mod_expression 55 rfl) rfl ?_
      refine w_iload (dk_Mod_expression 56 rfl) rfl ?_
      refine w_callVi (ls' := [some (.ref 52), some (.int x2), some (.int r1), none]) cv_Mod_265 (dk_Mod_expression 57 rfl) (ci := 10) rfl rfl [.int x2, .int r1] [] rfl rfl (Nat.le_of_ble_eq_true rfl) (Nat.le_of_ble_eq_true rfl) rfl rfl rfl h (fun r15 u16 h => ?_)
      refine w_if_ne 113 (dk_Mod_expression 58 rfl) (by decide) (fun c_ => ?_) (fun c_ => ?_)
      · replace h := h.1 c_
        refine w_iconst (v := 1) (dk_Mod_expression 61 rfl) rfl ?_
        refine w_istore_n (ls' := [some (.ref 52), some (.int x1), some (.int x2), some (.int 1), some (.int r1), none]) (dk_Mod_expression 62 rfl) (by decide) rfl ?_
        refine w_goto 169 (dk_Mod_expression 63 rfl) (by decide) ?_
        refine w_goto 12 (dk_Mod_expression 92 rfl) (by decide) ?_
        exact h
      · replace h := h.2 c_
        refine w_iconst (v := 0) (dk_Mod_expression 59 rfl) rfl ?_
        exact w_bret (dk_Mod_expression 60 rfl) rfl (Or.inl rfl) h
  · replace h := h.2 c_
    refine w_aload_n (dk_Mod_expression 10 rfl) rfl ?_
    refine w_geti (v := aI u 52 28) (dk_Mod_expression 11 rfl) lk_Mod_97 rfl rfl rfl ?_
    refine w_istore (ls' := [some (.ref 52), some (.int x1), some (.int x2), some (.int x3), some (.int (aI u 52 28)), none]) (dk_Mod_expression 12 rfl) (by decide) rfl ?_
    refine w_aload_n (dk_Mod_expression 13 rfl) rfl ?_
    refine w_geti (v := aI u 52 25) (dk_Mod_expression 14 rfl) lk_Mod_88 rfl rfl rfl ?_
    refine w_istore (ls' := [some (.ref 52), some (.int x1), some (.int x2), some (.int x3), some (.int (aI u 52 28)), some (.int (aI u 52 25))]) (dk_Mod_expression 15 rfl) (by decide) rfl ?_
    refine w_aload_n (dk_Mod_expression 16 rfl) rfl ?_
    refine w_iload_n (dk_Mod_expression 17 rfl) rfl ?_
    refine w_iload_n (dk_Mod_expression 18 rfl) rfl ?_
    refine w_callVi (ls' := [some (.ref 52), some (.int x2), some (.int x1), none, none]) cv_Mod_257 (dk_Mod_expression 19 rfl) (ci := 10) rfl rfl [.int x2, .int x1] [] rfl rfl (Nat.le_of_ble_eq_true rfl) (Nat.le_of_ble_eq_true rfl) rfl rfl rfl h (fun r17 u18 h => ?_)
    refine w_if_ne 39 (dk_Mod_expression 20 rfl) (by decide) (fun c_ => ?_) (fun c_ => ?_)
    · replace h := h.1 c_
      refine w_aload_n (dk_Mod_expression 23 rfl) rfl ?_
      refine w_geti (v := aI u18 52 28) (dk_Mod_expression 24 rfl) lk_Mod_97 rfl rfl rfl ?_
      refine w_iload (dk_Mod_expression 25 rfl) rfl ?_
      refine w_icmp_le 57 (dk_Mod_expression 26 rfl) (by decide) (fun c_ => ?_) (fun c_ => ?_)
      · replace h := h.1 c_
        refine w_aload_n (dk_Mod_expression 31 rfl) rfl ?_
        refine w_geti (v := aI u18 52 28) (dk_Mod_expression 32 rfl) lk_Mod_97 rfl rfl rfl ?_
        refine w_iload (dk_Mod_expression 33 rfl) rfl ?_
        refine w_icmp_le 85 (dk_Mod_expression 34 rfl) (by decide) (fun c_ => ?_) (fun c_ => ?_)
        · replace h := h.1 c_
          refine w_iconst (v := 0) (dk_Mod_expression 46 rfl) rfl ?_
          refine w_istore_n (ls' := [some (.ref 52), some (.int x1), some (.int x2), some (.int 0), some (.int (aI u 52 28)), some (.int (aI u 52 25))]) (dk_Mod_expression 47 rfl) (by decide) rfl ?_
          refine w_goto 12 (dk_Mod_expression 48 rfl) (by decide) ?_
          exact h
        · replace h := h.2 c_
          refine w_aload_n (dk_Mod_expression 35 rfl) rfl ?_
          refine w_getr (dk_Mod_expression 36 rfl) lk_Mod_94 rfl rfl rfl ?_
          refine w_aload_n (dk_Mod_expression 37 rfl) rfl ?_
          refine w_geti (v := aI u18 52 28) (dk_Mod_expression 38 rfl) lk_Mod_97 rfl rfl rfl ?_
          refine w_iconst (v := 1) (dk_Mod_expression 39 rfl) rfl ?_
          refine w_isub (dk_Mod_expression 40 rfl) ?_
          obtain ⟨k19, e_k19, l_k19, h⟩ := h
          refine w_iald (k_ := k19) (dk_Mod_expression 41 rfl) rfl (by decide) e_k19 l_k19 ?_
          refine w_iconst (v := 2) (dk_Mod_expression 42 rfl) rfl ?_
          refine w_icmp_ne 85 (dk_Mod_expression 43 rfl) (by decide) (fun c_ => ?_) (fun c_ => ?_)
          · replace h := h.1 c_
            refine w_iconst (v := 0) (dk_Mod_expression 46 rfl) rfl ?_
            refine w_istore_n (ls' := [some (.ref 52), some (.int x1), some (.int x2), some (.int 0), some (.int (aI u 52 28)), some (.int (aI u 52 25))]) (dk_Mod_expression 47 rfl) (by decide) rfl ?_
            refine w_goto 12 (dk_Mod_expression 48 rfl) (by decide) ?_
            exact h
          · replace h := h.2 c_
            refine w_iconst (v := 1) (dk_Mod_expression 44 rfl) rfl ?_
            refine w_goto 86 (dk_Mod_expression 45 rfl) (by decide) ?_
            refine w_istore_n (ls' := [some (.ref 52), some (.int x1), some (.int x2), some (.int 1), some (.int (aI u 52 28)), some (.int (aI u 52 25))]) (dk_Mod_expression 47 rfl) (by decide) rfl ?_
            refine w_goto 12 (dk_Mod_expression 48 rfl) (by decide) ?_
            exact h
      · replace h := h.2 c_
        refine w_aload_n (dk_Mod_expression 27 rfl) rfl ?_
        refine w_geti (v := aI u18 52 25) (dk_Mod_expression 28 rfl) lk_Mod_88 rfl rfl rfl ?_
        refine w_iload (dk_Mod_expression 29 rfl) rfl ?_
        refine w_icmp_eq 81 (dk_Mod_expression 30 rfl) (by decide) (fun c_ => ?_) (fun c_ => ?_)
        · replace h := h.1 c_
          refine w_iconst (v := 1) (dk_Mod_expression 44 rfl) rfl ?_
          refine w_goto 86 (dk_Mod_expression 45 rfl) (by decide) ?_
          refine w_istore_n (ls' := [some (.ref 52), some (.int x1), some (.int x2), some (.int 1), some (.int (aI u 52 28)), some (.int (aI u 52 25))]) (dk_Mod_expression 47 rfl) (by decide) rfl ?_
          refine w_goto 12 (dk_Mod_expression 48 rfl) (by decide) ?_
          exact h
        · replace h := h.2 c_
          refine w_aload_n (dk_Mod_expression 31 rfl) rfl ?_
          refine w_geti (v := aI u18 52 28) (dk_Mod_expression 32 rfl) lk_Mod_97 rfl rfl rfl ?_
          refine w_iload (dk_Mod_expression 33 rfl) rfl ?_
          refine w_icmp_le 85 (dk_Mod_expression 34 rfl) (by decide) (fun c_ => ?_) (fun c_ => ?_)
          · replace h := h.1 c_
            refine w_iconst (v := 0) (dk_Mod_expression 46 rfl) rfl ?_
            refine w_istore_n (ls' := [some (.ref 52), some (.int x1), some (.int x2), some (.int 0), some (.int (aI u 52 28)), some (.int (aI u 52 25))]) (dk_Mod_expression 47 rfl) (by decide) rfl ?_
            refine w_goto 12 (dk_Mod_expression 48 rfl) (by decide) ?_
            exact h
          · replace h := h.2 c_
            refine w_aload_n (dk_Mod_expression 35 rfl) rfl ?_
            refine w_getr (dk_Mod_expression 36 rfl) lk_Mod_94 rfl rfl rfl ?_
            refine w_aload_n (dk_Mod_expression 37 rfl) rfl ?_
            refine w_geti (v := aI u18 52 28) (dk_Mod_expression 38 rfl) lk_Mod_97 rfl rfl rfl ?_
            refine w_iconst (v := 1) (dk_Mod_expression 39 rfl) rfl ?_
            refine w_isub (dk_Mod_expression 40 rfl) ?_
            obtain ⟨k20, e_k20, l_k20, h⟩ := h
            refine w_iald (k_ := k20) (dk_Mod_expression 41 rfl) rfl (by decide) e_k20 l_k20 ?_
            refine w_iconst (v := 2) (dk_Mod_expression 42 rfl) rfl ?_
            refine w_icmp_ne 85 (dk_Mod_expression 43 rfl) (by decide) (fun c_ => ?_) (fun c_ => ?_)
            · replace h := h.1 c_
              refine w_iconst (v := 0) (dk_Mod_expression 46 rfl) rfl ?_
              refine w_istore_n (ls' := [some (.ref 52), some (.int x1), some (.int x2), some (.int 0), some (.int (aI u 52 28)), some (.int (aI u 52 25))]) (dk_Mod_expression 47 rfl) (by decide) rfl ?_
              refine w_goto 12 (dk_Mod_expression 48 rfl) (by decide) ?_
              exact h
            · replace h := h.2 c_
              refine w_iconst (v := 1) (dk_Mod_expression 44 rfl) rfl ?_
              refine w_goto 86 (dk_Mod_expression 45 rfl) (by decide) ?_
              refine w_istore_n (ls' := [some (.ref 52), some (.int x1), some (.int x2), some (.int 1), some (.int (aI u 52 28)), some (.int (aI u 52 25))]) (dk_Mod_expression 47 rfl) (by decide) rfl ?_
              refine w_goto 12 (dk_Mod_expression 48 rfl) (by decide) ?_
              exact h
    · replace h := h.2 c_
      refine w_iconst (v := 0) (dk_Mod_expression 21 rfl) rfl ?_
      exact w_bret (dk_Mod_expression 22 rfl) rfl (Or.inl rfl) h
theorem g_Mod_operand_0 {d : Nat} {u : Us} {Q : Ot → Us → Prop} (p1 : Int32) (p2 : Int32)
    (h : ∃ k1 : Nat, aI u 52 20 = nI k1 ∧ k1 < 152 ∧ (((aI u 63 k1) ≠ 2 → WS d m_Mod_isSign 0 [some (.ref 52), some (.int 45)] [] u (Ri (fun (r2 : Int32) (u3 : Us) => (r2 = 0 → WS d m_Mod_isWord 0 [some (.ref 52), some (.int 15)] [] u3 (Ri (fun (r4 : Int32) (u5 : Us) => (r4 = 0 → WS d m_Mod_isSign 0 [some (.ref 52), some (.int 40)] [] u5 (Ri (fun (r6 : Int32) (u7 : Us) => (r6 = 0 → ∃ k8 : Nat, aI u7 52 20 = nI k8 ∧ k8 < 152 ∧ (((aI u7 63 k8) ≠ 3 → WS (d + 1) m_Mod_operand 191 [some (.ref 52), some (.int p1), some (.int p2), none, none] [] u7 Q) ∧ ((aI u7 63 k8) = 3 → ∃ k9 : Nat, aI u7 52 20 = nI k9 ∧ k9 < 152 ∧ (((aL u7 65 k9) < 16 → WS (d + 1) m_Mod_operand 191 [some (.ref 52), some (.int p1), some (.int p2), none, none] [] u7 Q) ∧ (¬ ((aL u7 65 k9) < 16) → ((aI u7 52 29) < 0 → WS d m_Mod_aggregate 0 [some (.ref 52), none, none, none] [] u7 (Ri (fun (r10 : Int32) (u11 : Us) => (r10 = 0 ∨ r10 = 1) ∧ Q (.inl (some (.int r10))) u11) (fun x u => Q (.inr x) u))) ∧ (¬ ((aI u7 52 29) < 0) → WS d m_Mod_wrong 0 [some (.ref 52)] [] u7 (Ri (fun (r12 : Int32) (u13 : Us) => (r12 = 0 ∨ r12 = 1) ∧ Q (.inl (some (.int r12))) u13) (fun x u => Q (.inr x) u)))))))) ∧ (¬ (r6 = 0) → WS d m_Mod_bracket 0 [some (.ref 52)] [] u7 (Ri (fun (r14 : Int32) (u15 : Us) => (r14 = 0 → WS d m_Mod_wrong 0 [some (.ref 52)] [] u15 (Ri (fun (r16 : Int32) (u17 : Us) => (r16 = 0 ∨ r16 = 1) ∧ Q (.inl (some (.int r16))) u17) (fun x u => Q (.inr x) u))) ∧ (¬ (r14 = 0) → WS d m_Mod_push 0 [some (.ref 52), some (.int 1)] [] u15 (Ri (fun (r18 : Int32) (u19 : Us) => (r18 = 0 ∨ r18 = 1) ∧ Q (.inl (some (.int r18))) u19) (fun x u => Q (.inr x) u)))) (fun x u => Q (.inr x) u)))) (fun x u => Q (.inr x) u))) ∧ (¬ (r4 = 0) → ((aI u5 52 28) ≤ p1 → WS d m_Mod_strength 0 [some (.int 0)] [] u5 (Ri (fun (r20 : Int32) (u21 : Us) => (r20 ≤ 3 → WS d m_Mod_push 0 [some (.ref 52), some (.int 6)] [] u21 (Ri (fun (r22 : Int32) (u23 : Us) => (r22 = 0 ∨ r22 = 1) ∧ Q (.inl (some (.int r22))) u23) (fun x u => Q (.inr x) u))) ∧ (¬ (r20 ≤ 3) → WS d m_Mod_wrong 0 [some (.ref 52)] [] u21 (Ri (fun (r24 : Int32) (u25 : Us) => (r24 = 0 ∨ r24 = 1) ∧ Q (.inl (some (.int r24))) u25) (fun x u => Q (.inr x) u)))) (fun x u => Q (.inr x) u))) ∧ (¬ ((aI u5 52 28) ≤ p1) → ∃ k26 : Nat, (aI u5 52 28) - 1 = nI k26 ∧ k26 < 160 ∧ (WS d m_Mod_strength 0 [some (.int (aI u5 68 k26))] [] u5 (Ri (fun (r27 : Int32) (u28 : Us) => (r27 ≤ 3 → WS d m_Mod_push 0 [some (.ref 52), some (.int 6)] [] u28 (Ri (fun (r29 : Int32) (u30 : Us) => (r29 = 0 ∨ r29 = 1) ∧ Q (.inl (some (.int r29))) u30) (fun x u => Q (.inr x) u))) ∧ (¬ (r27 ≤ 3) → WS d m_Mod_wrong 0 [some (.ref 52)] [] u28 (Ri (fun (r31 : Int32) (u32 : Us) => (r31 = 0 ∨ r31 = 1) ∧ Q (.inl (some (.int r31))) u32) (fun x u => Q (.inr x) u)))) (fun x u => Q (.inr x) u)))))) (fun x u => Q (.inr x) u))) ∧ (¬ (r2 = 0) → WS d m_Mod_push 0 [some (.ref 52), some (.int 5)] [] u3 (Ri (fun (r33 : Int32) (u34 : Us) => (r33 = 0 ∨ r33 = 1) ∧ Q (.inl (some (.int r33))) u34) (fun x u => Q (.inr x) u)))) (fun x u => Q (.inr x) u))) ∧ ((aI u 63 k1) = 2 → WS d m_Mod_emit 0 [some (.ref 52), some (.int 1)] [] u (Rv (fun (u36 : Us) => ∃ k37 : Nat, aI u36 52 20 = nI k37 ∧ k37 < 152 ∧ (WS d m_Mod_emit 0 [some (.ref 52), some (.int (Int64.toInt32 (aL u36 65 k37)))] [] u36 (Rv (fun (u39 : Us) => Q (.inl (some (.int 1))) (uI u39 52 20 ((aI u39 52 20) + 1))) (fun x u => Q (.inr x) u)))) (fun x u => Q (.inr x) u))))) :
    WS (d + 1) m_Mod_operand 0 [some (.ref 52), some (.int p1), some (.int p2), none, none] [] u Q := by
  refine w_aload_n (dk_Mod_operand 0 rfl) rfl ?_
  refine w_getr (dk_Mod_operand 1 rfl) lk_Mod_57 rfl rfl rfl ?_
  refine w_aload_n (dk_Mod_operand 2 rfl) rfl ?_
  refine w_geti (v := aI u 52 20) (dk_Mod_operand 3 rfl) lk_Mod_72 rfl rfl rfl ?_
  obtain ⟨k1, e_k1, l_k1, h⟩ := h
  refine w_iald (k_ := k1) (dk_Mod_operand 4 rfl) rfl (by decide) e_k1 l_k1 ?_
  refine w_iconst (v := 2) (dk_Mod_operand 5 rfl) rfl ?_
  refine w_icmp_ne 44 (dk_Mod_operand 6 rfl) (by decide) (fun c_ => ?_) (fun c_ => ?_)
  · replace h := h.1 c_
    refine w_aload_n (dk_Mod_operand 26 rfl) rfl ?_
    refine w_bipush (v := 45) (dk_Mod_operand 27 rfl) rfl ?_
    refine w_callVi (ls' := [some (.ref 52), some (.int 45)]) cv_Mod_232 (dk_Mod_operand 28 rfl) (ci := 10) rfl rfl [.int 45] [] rfl rfl (Nat.le_of_ble_eq_true rfl) (Nat.le_of_ble_eq_true rfl) rfl rfl rfl h (fun r2 u3 h => ?_)
    refine w_if_eq 59 (dk_Mod_operand 29 rfl) (by decide) (fun c_ => ?_) (fun c_ => ?_)
    · replace h := h.1 c_
      refine w_aload_n (dk_Mod_operand 34 rfl) rfl ?_
      refine w_bipush (v := 15) (dk_Mod_operand 35 rfl) rfl ?_
      refine w_callVi (ls' := [some (.ref 52), some (.int 15)]) cv_Mod_239 (dk_Mod_operand 36 rfl) (ci := 10) rfl rfl [.int 15] [] rfl rfl (Nat.le_of_ble_eq_true rfl) (Nat.le_of_ble_eq_true rfl) rfl rfl rfl h (fun r4 u5 h => ?_)
      refine w_if_eq 114 (dk_Mod_operand 37 rfl) (by decide) (fun c_ => ?_) (fun c_ => ?_)
      · replace h := h.1 c_
        refine w_aload_n (dk_Mod_operand 63 rfl) rfl ?_
        refine w_bipush (v := 40) (dk_Mod_operand 64 rfl) rfl ?_
        refine w_callVi (ls' := [some (.ref 52), some (.int 40)]) cv_Mod_232 (dk_Mod_operand 65 rfl) (ci := 10) rfl rfl [.int 40] [] rfl rfl (Nat.le_of_ble_eq_true rfl) (Nat.le_of_ble_eq_true rfl) rfl rfl rfl h (fun r6 u7 h => ?_)
        refine w_if_eq 143 (dk_Mod_operand 66 rfl) (by decide) (fun c_ => ?_) (fun c_ => ?_)
        · replace h := h.1 c_
          refine w_aload_n (dk_Mod_operand 77 rfl) rfl ?_
          refine w_getr (dk_Mod_operand 78 rfl) lk_Mod_57 rfl rfl rfl ?_
          refine w_aload_n (dk_Mod_operand 79 rfl) rfl ?_
          refine w_geti (v := aI u7 52 20) (dk_Mod_operand 80 rfl) lk_Mod_72 rfl rfl rfl ?_
          obtain ⟨k8, e_k8, l_k8, h⟩ := h
          refine w_iald (k_ := k8) (dk_Mod_operand 81 rfl) rfl (by decide) e_k8 l_k8 ?_
          refine w_iconst (v := 3) (dk_Mod_operand 82 rfl) rfl ?_
          refine w_icmp_ne 191 (dk_Mod_operand 83 rfl) (by decide) (fun c_ => ?_) (fun c_ => ?_)
          · replace h := h.1 c_
            exact h
          · replace h := h.2 c_
            refine w_aload_n (dk_Mod_operand 84 rfl) rfl ?_
            refine w_getr (dk_Mod_operand 85 rfl) lk_Mod_63 rfl rfl rfl ?_
            refine w_aload_n (dk_Mod_operand 86 rfl) rfl ?_
            refine w_geti (v := aI u7 52 20) (dk_Mod_operand 87 rfl) lk_Mod_72 rfl rfl rfl ?_
            obtain ⟨k9, e_k9, l_k9, h⟩ := h
            refine w_lald (k_ := k9) (dk_Mod_operand 88 rfl) rfl (by decide) e_k9 l_k9 ?_
            refine w_ldc2 (dk_Mod_operand 89 rfl) kl_Mod_288 ?_
            refine w_lcmp_lt 191 (dk_Mod_operand 90 rfl) (dk_Mod_operand 91 rfl) (by decide) (fun c_ => ?_) (fun c_ => ?_)
            · replace h := h.1 c_
              exact h
            · replace h := h.2 c_
              refine w_aload_n (dk_Mod_operand 92 rfl) rfl ?_
              refine w_geti (v := aI u7 52 29) (dk_Mod_operand 93 rfl) lk_Mod_100 rfl rfl rfl ?_
              refine w_if_lt 186 (dk_Mod_operand 94 rfl) (by decide) (fun c_ => ?_) (fun c_ => ?_)
              · replace h := h.1 c_
                refine w_aload_n (dk_Mod_operand 98 rfl) rfl ?_
                refine w_callVi (ls' := [some (.ref 52), none, none, none]) cv_Mod_290 (dk_Mod_operand 99 rfl) (ci := 10) rfl rfl [] [] rfl rfl (Nat.le_of_ble_eq_true rfl) (Nat.le_of_ble_eq_true rfl) rfl rfl rfl h (fun r10 u11 h => ?_)
                exact w_bret (dk_Mod_operand 100 rfl) rfl h.1 h.2
              · replace h := h.2 c_
                refine w_aload_n (dk_Mod_operand 95 rfl) rfl ?_
                refine w_callVi (ls' := [some (.ref 52)]) cv_Mod_235 (dk_Mod_operand 96 rfl) (ci := 10) rfl rfl [] [] rfl rfl (Nat.le_of_ble_eq_true rfl) (Nat.le_of_ble_eq_true rfl) rfl rfl rfl h (fun r12 u13 h => ?_)
                refine w_goto 190 (dk_Mod_operand 97 rfl) (by decide) ?_
                exact w_bret (dk_Mod_operand 100 rfl) rfl h.1 h.2
        · replace h := h.2 c_
          refine w_aload_n (dk_Mod_operand 67 rfl) rfl ?_
          refine w_callVi (ls' := [some (.ref 52)]) cv_Mod_285 (dk_Mod_operand 68 rfl) (ci := 10) rfl rfl [] [] rfl rfl (Nat.le_of_ble_eq_true rfl) (Nat.le_of_ble_eq_true rfl) rfl rfl rfl h (fun r14 u15 h => ?_)
          refine w_if_eq 138 (dk_Mod_operand 69 rfl) (by decide) (fun c_ => ?_) (fun c_ => ?_)
          · replace h := h.1 c_
            refine w_aload_n (dk_Mod_operand 74 rfl) rfl ?_
            refine w_callVi (ls' := [some (.ref 52)]) cv_Mod_235 (dk_Mod_operand 75 rfl) (ci := 10) rfl rfl [] [] rfl rfl (Nat.le_of_ble_eq_true rfl) (Nat.le_of_ble_eq_true rfl) rfl rfl rfl h (fun r16 u17 h => ?_)
            exact w_bret (dk_Mod_operand 76 rfl) rfl h.1 h.2
          · replace h := h.2 c_
            refine w_aload_n (dk_Mod_operand 70 rfl) rfl ?_
            refine w_iconst (v := 1) (dk_Mod_operand 71 rfl) rfl ?_
            refine w_callVi (ls' := [some (.ref 52), some (.int 1)]) cv_Mod_282 (dk_Mod_operand 72 rfl) (ci := 10) rfl rfl [.int 1] [] rfl rfl (Nat.le_of_ble_eq_true rfl) (Nat.le_of_ble_eq_true rfl) rfl rfl rfl h (fun r18 u19 h => ?_)
            refine w_goto 142 (dk_Mod_operand 73 rfl) (by decide) ?_
            exact w_bret (dk_Mod_operand 76 rfl) rfl h.1 h.2
      · replace h := h.2 c_
        refine w_aload_n (dk_Mod_operand 38 rfl) rfl ?_
        refine w_geti (v := aI u5 52 28) (dk_Mod_operand 39 rfl) lk_Mod_97 rfl rfl rfl ?_
        refine w_iload_n (dk_Mod_operand 40 rfl) rfl ?_
        refine w_icmp_le 90 (dk_Mod_operand 41 rfl) (by decide) (fun c_ => ?_) (fun c_ => ?_)
        · replace h := h.1 c_
          refine w_iconst (v := 0) (dk_Mod_operand 50 rfl) rfl ?_
          refine w_istore_n (ls' := [some (.ref 52), some (.int p1), some (.int p2), some (.int 0), none]) (dk_Mod_operand 51 rfl) (by decide) rfl ?_
          refine w_iload_n (dk_Mod_operand 52 rfl) rfl ?_
          refine w_callSi (ls' := [some (.int 0)]) cv_Mod_275 (dk_Mod_operand 53 rfl) [.int 0] [] rfl rfl (Nat.le_of_ble_eq_true rfl) (Nat.le_of_ble_eq_true rfl) rfl rfl rfl h (fun r20 u21 h => ?_)
          refine w_iconst (v := 3) (dk_Mod_operand 54 rfl) rfl ?_
          refine w_icmp_le 107 (dk_Mod_operand 55 rfl) (by decide) (fun c_ => ?_) (fun c_ => ?_)
          · replace h := h.1 c_
            refine w_aload_n (dk_Mod_operand 59 rfl) rfl ?_
            refine w_bipush (v := 6) (dk_Mod_operand 60 rfl) rfl ?_
            refine w_callVi (ls' := [some (.ref 52), some (.int 6)]) cv_Mod_282 (dk_Mod_operand 61 rfl) (ci := 10) rfl rfl [.int 6] [] rfl rfl (Nat.le_of_ble_eq_true rfl) (Nat.le_of_ble_eq_true rfl) rfl rfl rfl h (fun r22 u23 h => ?_)
            exact w_bret (dk_Mod_operand 62 rfl) rfl h.1 h.2
          · replace h := h.2 c_
            refine w_aload_n (dk_Mod_operand 56 rfl) rfl ?_
            refine w_callVi (ls' := [some (.ref 52)]) cv_Mod_235 (dk_Mod_operand 57 rfl) (ci := 10) rfl rfl [] [] rfl rfl (Nat.le_of_ble_eq_true rfl) (Nat.le_of_ble_eq_true rfl) rfl rfl rfl h (fun r24 u25 h => ?_)
            refine w_goto 113 (dk_Mod_operand 58 rfl) (by decide) ?_
            exact w_bret (dk_Mod_operand 62 rfl) rfl h.1 h.2
        · replace h := h.2 c_
          refine w_aload_n (dk_Mod_operand 42 rfl) rfl ?_
          refine w_getr (dk_Mod_operand 43 rfl) lk_Mod_94 rfl rfl rfl ?_
          refine w_aload_n (dk_Mod_operand 44 rfl) rfl ?_
          refine w_geti (v := aI u5 52 28) (dk_Mod_operand 45 rfl) lk_Mod_97 rfl rfl rfl ?_
          refine w_iconst (v := 1) (dk_Mod_operand 46 rfl) rfl ?_
          refine w_isub (dk_Mod_operand 47 rfl) ?_
          obtain ⟨k26, e_k26, l_k26, h⟩ := h
          refine w_iald (k_ := k26) (dk_Mod_operand 48 rfl) rfl (by decide) e_k26 l_k26 ?_
          refine w_goto 91 (dk_Mod_operand 49 rfl) (by decide) ?_
          refine w_istore_n (ls' := [some (.ref 52), some (.int p1), some (.int p2), some (.int (aI u5 68 k26)), none]) (dk_Mod_operand 51 rfl) (by decide) rfl ?_
          refine w_iload_n (dk_Mod_operand 52 rfl) rfl ?_
          refine w_callSi (ls' := [some (.int (aI u5 68 k26))]) cv_Mod_275 (dk_Mod_operand 53 rfl) [.int (aI u5 68 k26)] [] rfl rfl (Nat.le_of_ble_eq_true rfl) (Nat.le_of_ble_eq_true rfl) rfl rfl rfl h (fun r27 u28 h => ?_)
          refine w_iconst (v := 3) (dk_Mod_operand 54 rfl) rfl ?_
          refine w_icmp_le 107 (dk_Mod_operand 55 rfl) (by decide) (fun c_ => ?_) (fun c_ => ?_)
          · replace h := h.1 c_
            refine w_aload_n (dk_Mod_operand 59 rfl) rfl ?_
            refine w_bipush (v := 6) (dk_Mod_operand 60 rfl) rfl ?_
            refine w_callVi (ls' := [some (.ref 52), some (.int 6)]) cv_Mod_282 (dk_Mod_operand 61 rfl) (ci := 10) rfl rfl [.int 6] [] rfl rfl (Nat.le_of_ble_eq_true rfl) (Nat.le_of_ble_eq_true rfl) rfl rfl rfl h (fun r29 u30 h => ?_)
            exact w_bret (dk_Mod_operand 62 rfl) rfl h.1 h.2
          · replace h := h.2 c_
            refine w_aload_n (dk_Mod_operand 56 rfl) rfl ?_
            refine w_callVi (ls' := [some (.ref 52)]) cv_Mod_235 (dk_Mod_operand 57 rfl) (ci := 10) rfl rfl [] [] rfl rfl (Nat.le_of_ble_eq_true rfl) (Nat.le_of_ble_eq_true rfl) rfl rfl rfl h (fun r31 u32 h => ?_)
            refine w_goto 113 (dk_Mod_operand 58 rfl) (by decide) ?_
            exact w_bret (dk_Mod_operand 62 rfl) rfl h.1 h.2
    · replace h := h.2 c_
      refine w_aload_n (dk_Mod_operand 30 rfl) rfl ?_
      refine w_iconst (v := 5) (dk_Mod_operand 31 rfl) rfl ?_
      refine w_callVi (ls' := [some (.ref 52), some (.int 5)]) cv_Mod_282 (dk_Mod_operand 32 rfl) (ci := 10) rfl rfl [.int 5] [] rfl rfl (Nat.le_of_ble_eq_true rfl) (Nat.le_of_ble_eq_true rfl) rfl rfl rfl h (fun r33 u34 h => ?_)
      exact w_bret (dk_Mod_operand 33 rfl) rfl h.1 h.2
  · replace h := h.2 c_
    refine w_aload_n (dk_Mod_operand 7 rfl) rfl ?_
    refine w_iconst (v := 1) (dk_Mod_operand 8 rfl) rfl ?_
    refine w_callVv (ls' := [some (.ref 52), some (.int 1)]) cv_Mod_278 (dk_Mod_operand 9 rfl) (ci := 10) rfl rfl [.int 1] [] rfl rfl (Nat.le_of_ble_eq_true rfl) (Nat.le_of_ble_eq_true rfl) rfl rfl rfl h (fun u36 h => ?_)
    refine w_aload_n (dk_Mod_operand 10 rfl) rfl ?_
    refine w_aload_n (dk_Mod_operand 11 rfl) rfl ?_
    refine w_getr (dk_Mod_operand 12 rfl) lk_Mod_63 rfl rfl rfl ?_
    refine w_aload_n (dk_Mod_operand 13 rfl) rfl ?_
    refine w_geti (v := aI u36 52 20) (dk_Mod_operand 14 rfl) lk_Mod_72 rfl rfl rfl ?_
    obtain ⟨k37, e_k37, l_k37, h⟩ := h
    refine w_lald (k_ := k37) (dk_Mod_operand 15 rfl) rfl (by decide) e_k37 l_k37 ?_
    refine w_l2i (dk_Mod_operand 16 rfl) ?_
    refine w_callVv (ls' := [some (.ref 52), some (.int (Int64.toInt32 (aL u36 65 k37)))]) cv_Mod_278 (dk_Mod_operand 17 rfl) (ci := 10) rfl rfl [.int (Int64.toInt32 (aL u36 65 k37))] [] rfl rfl (Nat.le_of_ble_eq_true rfl) (Nat.le_of_ble_eq_true rfl) rfl rfl rfl h (fun u39 h => ?_)
    refine w_aload_n (dk_Mod_operand 18 rfl) rfl ?_
    refine w_dup (dk_Mod_operand 19 rfl) rfl ?_
    refine w_geti (v := aI u39 52 20) (dk_Mod_operand 20 rfl) lk_Mod_72 rfl rfl rfl ?_
    refine w_iconst (v := 1) (dk_Mod_operand 21 rfl) rfl ?_
    refine w_iadd (dk_Mod_operand 22 rfl) ?_
    refine w_puti (dk_Mod_operand 23 rfl) lk_Mod_72 rfl rfl ?_
    refine w_iconst (v := 1) (dk_Mod_operand 24 rfl) rfl ?_
    exact w_bret (dk_Mod_operand 25 rfl) rfl (Or.inr rfl) h
theorem g_Mod_operand_191 {d : Nat} {u : Us} {Q : Ot → Us → Prop} (x1 : Int32) (x2 : Int32)
    (h : ∃ k1 : Nat, aI u 52 20 = nI k1 ∧ k1 < 152 ∧ (((aI u 63 k1) = 1 → ((aI u 52 29) < 0 → WS (d + 1) m_Mod_operand 274 [some (.ref 52), some (.int x1), some (.int x2), none, none] [] u Q) ∧ (¬ ((aI u 52 29) < 0) → ∃ k2 : Nat, aI u 52 20 = nI k2 ∧ k2 < 152 ∧ (WS d m_Mod_fieldOf 0 [some (.ref 52), some (.int (aI u 52 29)), some (.long (aL u 65 k2)), none, none] [] u (Ri (fun (r3 : Int32) (u4 : Us) => (r3 < 0 → WS (d + 1) m_Mod_operand 274 [some (.ref 52), some (.int x1), some (.int x2), none, none] [] u4 Q) ∧ (¬ (r3 < 0) → WS d m_Mod_emit 0 [some (.ref 52), some (.int 3)] [] u4 (Rv (fun (u6 : Us) => ∃ k7 : Nat, aI u6 52 20 = nI k7 ∧ k7 < 152 ∧ (WS d m_Mod_fieldOf 0 [some (.ref 52), some (.int (aI u6 52 29)), some (.long (aL u6 65 k7)), none, none] [] u6 (Ri (fun (r8 : Int32) (u9 : Us) => WS d m_Mod_emit 0 [some (.ref 52), some (.int r8)] [] u9 (Rv (fun (u11 : Us) => Q (.inl (some (.int 1))) (uI u11 52 20 ((aI u11 52 20) + 1))) (fun x u => Q (.inr x) u))) (fun x u => Q (.inr x) u)))) (fun x u => Q (.inr x) u)))) (fun x u => Q (.inr x) u))))) ∧ (¬ ((aI u 63 k1) = 1) → WS d m_Mod_wrong 0 [some (.ref 52)] [] u (Ri (fun (r12 : Int32) (u13 : Us) => (r12 = 0 ∨ r12 = 1) ∧ Q (.inl (some (.int r12))) u13) (fun x u => Q (.inr x) u))))) :
    WS (d + 1) m_Mod_operand 191 [some (.ref 52), some (.int x1), some (.int x2), none, none] [] u Q := by
  refine w_aload_n (dk_Mod_operand 101 rfl) rfl ?_
  refine w_getr (dk_Mod_operand 102 rfl) lk_Mod_57 rfl rfl rfl ?_
  refine w_aload_n (dk_Mod_operand 103 rfl) rfl ?_
  refine w_geti (v := aI u 52 20) (dk_Mod_operand 104 rfl) lk_Mod_72 rfl rfl rfl ?_
  obtain ⟨k1, e_k1, l_k1, h⟩ := h
  refine w_iald (k_ := k1) (dk_Mod_operand 105 rfl) rfl (by decide) e_k1 l_k1 ?_
  refine w_iconst (v := 1) (dk_Mod_operand 106 rfl) rfl ?_
  refine w_icmp_eq 209 (dk_Mod_operand 107 rfl) (by decide) (fun c_ => ?_) (fun c_ => ?_)
  · replace h := h.1 c_
    refine w_aload_n (dk_Mod_operand 111 rfl) rfl ?_
    refine w_geti (v := aI u 52 29) (dk_Mod_operand 112 rfl) lk_Mod_100 rfl rfl rfl ?_
    refine w_if_lt 274 (dk_Mod_operand 113 rfl) (by decide) (fun c_ => ?_) (fun c_ => ?_)
    · replace h := h.1 c_
      exact h
    · replace h := h.2 c_
      refine w_aload_n (dk_Mod_operand 114 rfl) rfl ?_
      refine w_aload_n (dk_Mod_operand 115 rfl) rfl ?_
      refine w_geti (v := aI u 52 29) (dk_Mod_operand 116 rfl) lk_Mod_100 rfl rfl rfl ?_
      refine w_aload_n (dk_Mod_operand 117 rfl) rfl ?_
      refine w_getr (dk_Mod_operand 118 rfl) lk_Mod_63 rfl rfl rfl ?_
      refine w_aload_n (dk_Mod_operand 119 rfl) rfl ?_
      refine w_geti (v := aI u 52 20) (dk_Mod_operand 120 rfl) lk_Mod_72 rfl rfl rfl ?_
      obtain ⟨k2, e_k2, l_k2, h⟩ := h
      refine w_lald (k_ := k2) (dk_Mod_operand 121 rfl) rfl (by decide) e_k2 l_k2 ?_
      refine w_callVi (ls' := [some (.ref 52), some (.int (aI u 52 29)), some (.long (aL u 65 k2)), none, none]) cv_Mod_246 (dk_Mod_operand 122 rfl) (ci := 10) rfl rfl [.int (aI u 52 29), .long (aL u 65 k2)] [] rfl rfl (Nat.le_of_ble_eq_true rfl) (Nat.le_of_ble_eq_true rfl) rfl rfl rfl h (fun r3 u4 h => ?_)
      refine w_if_lt 274 (dk_Mod_operand 123 rfl) (by decide) (fun c_ => ?_) (fun c_ => ?_)
      · replace h := h.1 c_
        exact h
      · replace h := h.2 c_
        refine w_aload_n (dk_Mod_operand 124 rfl) rfl ?_
        refine w_iconst (v := 3) (dk_Mod_operand 125 rfl) rfl ?_
        refine w_callVv (ls' := [some (.ref 52), some (.int 3)]) cv_Mod_278 (dk_Mod_operand 126 rfl) (ci := 10) rfl rfl [.int 3] [] rfl rfl (Nat.le_of_ble_eq_true rfl) (Nat.le_of_ble_eq_true rfl) rfl rfl rfl h (fun u6 h => ?_)
        refine w_aload_n (dk_Mod_operand 127 rfl) rfl ?_
        refine w_aload_n (dk_Mod_operand 128 rfl) rfl ?_
        refine w_aload_n (dk_Mod_operand 129 rfl) rfl ?_
        refine w_geti (v := aI u6 52 29) (dk_Mod_operand 130 rfl) lk_Mod_100 rfl rfl rfl ?_
        refine w_aload_n (dk_Mod_operand 131 rfl) rfl ?_
        refine w_getr (dk_Mod_operand 132 rfl) lk_Mod_63 rfl rfl rfl ?_
        refine w_aload_n (dk_Mod_operand 133 rfl) rfl ?_
        refine w_geti (v := aI u6 52 20) (dk_Mod_operand 134 rfl) lk_Mod_72 rfl rfl rfl ?_
        obtain ⟨k7, e_k7, l_k7, h⟩ := h
        refine w_lald (k_ := k7) (dk_Mod_operand 135 rfl) rfl (by decide) e_k7 l_k7 ?_
        refine w_callVi (ls' := [some (.ref 52), some (.int (aI u6 52 29)), some (.long (aL u6 65 k7)), none, none]) cv_Mod_246 (dk_Mod_operand 136 rfl) (ci := 10) rfl rfl [.int (aI u6 52 29), .long (aL u6 65 k7)] [.ref 52] rfl rfl (Nat.le_of_ble_eq_true rfl) (Nat.le_of_ble_eq_true rfl) rfl rfl rfl h (fun r8 u9 h => ?_)
        refine w_callVv (ls' := [some (.ref 52), some (.int r8)]) cv_Mod_278 (dk_Mod_operand 137 rfl) (ci := 10) rfl rfl [.int r8] [] rfl rfl (Nat.le_of_ble_eq_true rfl) (Nat.le_of_ble_eq_true rfl) rfl rfl rfl h (fun u11 h => ?_)
        refine w_aload_n (dk_Mod_operand 138 rfl) rfl ?_
        refine w_dup (dk_Mod_operand 139 rfl) rfl ?_
        refine w_geti (v := aI u11 52 20) (dk_Mod_operand 140 rfl) lk_Mod_72 rfl rfl rfl ?_
        refine w_iconst (v := 1) (dk_Mod_operand 141 rfl) rfl ?_
        refine w_iadd (dk_Mod_operand 142 rfl) ?_
        refine w_puti (dk_Mod_operand 143 rfl) lk_Mod_72 rfl rfl ?_
        refine w_iconst (v := 1) (dk_Mod_operand 144 rfl) rfl ?_
        exact w_bret (dk_Mod_operand 145 rfl) rfl (Or.inr rfl) h
  · replace h := h.2 c_
    refine w_aload_n (dk_Mod_operand 108 rfl) rfl ?_
    refine w_callVi (ls' := [some (.ref 52)]) cv_Mod_235 (dk_Mod_operand 109 rfl) (ci := 10) rfl rfl [] [] rfl rfl (Nat.le_of_ble_eq_true rfl) (Nat.le_of_ble_eq_true rfl) rfl rfl rfl h (fun r12 u13 h => ?_)
    exact w_bret (dk_Mod_operand 110 rfl) rfl h.1 h.2
theorem g_Mod_operand_274 {d : Nat} {u : Us} {Q : Ot → Us → Prop} (x1 : Int32) (x2 : Int32)
    (h : ∃ k1 : Nat, aI u 52 20 = nI k1 ∧ k1 < 152 ∧ (WS d m_Mod_kindOf 0 [some (.ref 52), some (.long (aL u 65 k1)), none, none] [] u (Ri (fun (r2 : Int32) (u3 : Us) => (0 ≤ r2 → WS d m_Mod_levelOf 0 [some (.ref 52), some (.int r2), none, none, none] [] u3 (Ri (fun (r4 : Int32) (u5 : Us) => (0 ≤ r4 → WS d m_Mod_sign 0 [some (.ref 52), some (.int 46)] [] (uI u5 52 20 ((aI u5 52 20) + 1)) (Ri (fun (r6 : Int32) (u7 : Us) => (r6 ≠ 0 → WS d m_Mod_takeField 0 [some (.ref 52), some (.int r2), none] [] u7 (Ri (fun (r8 : Int32) (u9 : Us) => WS d m_Mod_emit 0 [some (.ref 52), some (.int 4)] [] u9 (Rv (fun (u11 : Us) => WS d m_Mod_levelOf 0 [some (.ref 52), some (.int r2), none, none, none] [] u11 (Ri (fun (r12 : Int32) (u13 : Us) => WS d m_Mod_emit 0 [some (.ref 52), some (.int r12)] [] u13 (Rv (fun (u15 : Us) => WS d m_Mod_emit 0 [some (.ref 52), some (.int r8)] [] u15 (Rv (fun (u17 : Us) => (r8 < 0 → Q (.inl (some (.int 0))) u17) ∧ (¬ (r8 < 0) → Q (.inl (some (.int 1))) u17)) (fun x u => Q (.inr x) u))) (fun x u => Q (.inr x) u))) (fun x u => Q (.inr x) u))) (fun x u => Q (.inr x) u))) (fun x u => Q (.inr x) u))) ∧ (r6 = 0 → Q (.inl (some (.int 0))) u7)) (fun x u => Q (.inr x) u))) ∧ (¬ (0 ≤ r4) → WS d m_Mod_wrong 0 [some (.ref 52)] [] u5 (Ri (fun (r18 : Int32) (u19 : Us) => (r18 = 0 ∨ r18 = 1) ∧ Q (.inl (some (.int r18))) u19) (fun x u => Q (.inr x) u)))) (fun x u => Q (.inr x) u))) ∧ (¬ (0 ≤ r2) → WS d m_Mod_takeVariable 0 [some (.ref 52), none] [] u3 (Ri (fun (r20 : Int32) (u21 : Us) => WS d m_Mod_emit 0 [some (.ref 52), some (.int 2)] [] u21 (Rv (fun (u23 : Us) => WS d m_Mod_emit 0 [some (.ref 52), some (.int r20)] [] u23 (Rv (fun (u25 : Us) => (r20 < 0 → Q (.inl (some (.int 0))) u25) ∧ (¬ (r20 < 0) → Q (.inl (some (.int 1))) u25)) (fun x u => Q (.inr x) u))) (fun x u => Q (.inr x) u))) (fun x u => Q (.inr x) u)))) (fun x u => Q (.inr x) u)))) :
    WS (d + 1) m_Mod_operand 274 [some (.ref 52), some (.int x1), some (.int x2), none, none] [] u Q := by
  refine w_aload_n (dk_Mod_operand 146 rfl) rfl ?_
  refine w_aload_n (dk_Mod_operand 147 rfl) rfl ?_
  refine w_getr (dk_Mod_operand 148 rfl) lk_Mod_63 rfl rfl rfl ?_
  refine w_aload_n (dk_Mod_operand 149 rfl) rfl ?_
  refine w_geti (v := aI u 52 20) (dk_Mod_operand 150 rfl) lk_Mod_72 rfl rfl rfl ?_
  obtain ⟨k1, e_k1, l_k1, h⟩ := h
  refine w_lald (k_ := k1) (dk_Mod_operand 151 rfl) rfl (by decide) e_k1 l_k1 ?_
  refine w_callVi (ls' := [some (.ref 52), some (.long (aL u 65 k1)), none, none]) cv_Mod_242 (dk_Mod_operand 152 rfl) (ci := 10) rfl rfl [.long (aL u 65 k1)] [] rfl rfl (Nat.le_of_ble_eq_true rfl) (Nat.le_of_ble_eq_true rfl) rfl rfl rfl h (fun r2 u3 h => ?_)
  refine w_istore_n (ls' := [some (.ref 52), some (.int x1), some (.int x2), some (.int r2), none]) (dk_Mod_operand 153 rfl) (by decide) rfl ?_
  refine w_iload_n (dk_Mod_operand 154 rfl) rfl ?_
  refine w_if_ge 320 (dk_Mod_operand 155 rfl) (by decide) (fun c_ => ?_) (fun c_ => ?_)
  · replace h := h.1 c_
    refine w_aload_n (dk_Mod_operand 171 rfl) rfl ?_
    refine w_iload_n (dk_Mod_operand 172 rfl) rfl ?_
    refine w_callVi (ls' := [some (.ref 52), some (.int r2), none, none, none]) cv_Mod_296 (dk_Mod_operand 173 rfl) (ci := 10) rfl rfl [.int r2] [] rfl rfl (Nat.le_of_ble_eq_true rfl) (Nat.le_of_ble_eq_true rfl) rfl rfl rfl h (fun r4 u5 h => ?_)
    refine w_if_ge 333 (dk_Mod_operand 174 rfl) (by decide) (fun c_ => ?_) (fun c_ => ?_)
    · replace h := h.1 c_
      refine w_aload_n (dk_Mod_operand 178 rfl) rfl ?_
      refine w_dup (dk_Mod_operand 179 rfl) rfl ?_
      refine w_geti (v := aI u5 52 20) (dk_Mod_operand 180 rfl) lk_Mod_72 rfl rfl rfl ?_
      refine w_iconst (v := 1) (dk_Mod_operand 181 rfl) rfl ?_
      refine w_iadd (dk_Mod_operand 182 rfl) ?_
      refine w_puti (dk_Mod_operand 183 rfl) lk_Mod_72 rfl rfl ?_
      refine w_aload_n (dk_Mod_operand 184 rfl) rfl ?_
      refine w_bipush (v := 46) (dk_Mod_operand 185 rfl) rfl ?_
      refine w_callVi (ls' := [some (.ref 52), some (.int 46)]) cv_Mod_299 (dk_Mod_operand 186 rfl) (ci := 10) rfl rfl [.int 46] [] rfl rfl (Nat.le_of_ble_eq_true rfl) (Nat.le_of_ble_eq_true rfl) rfl rfl rfl h (fun r6 u7 h => ?_)
      refine w_if_ne 354 (dk_Mod_operand 187 rfl) (by decide) (fun c_ => ?_) (fun c_ => ?_)
      · replace h := h.1 c_
        refine w_aload_n (dk_Mod_operand 190 rfl) rfl ?_
        refine w_iload_n (dk_Mod_operand 191 rfl) rfl ?_
        refine w_callVi (ls' := [some (.ref 52), some (.int r2), none]) cv_Mod_302 (dk_Mod_operand 192 rfl) (ci := 10) rfl rfl [.int r2] [] rfl rfl (Nat.le_of_ble_eq_true rfl) (Nat.le_of_ble_eq_true rfl) rfl rfl rfl h (fun r8 u9 h => ?_)
        refine w_istore (ls' := [some (.ref 52), some (.int x1), some (.int x2), some (.int r2), some (.int r8)]) (dk_Mod_operand 193 rfl) (by decide) rfl ?_
        refine w_aload_n (dk_Mod_operand 194 rfl) rfl ?_
        refine w_iconst (v := 4) (dk_Mod_operand 195 rfl) rfl ?_
        refine w_callVv (ls' := [some (.ref 52), some (.int 4)]) cv_Mod_278 (dk_Mod_operand 196 rfl) (ci := 10) rfl rfl [.int 4] [] rfl rfl (Nat.le_of_ble_eq_true rfl) (Nat.le_of_ble_eq_true rfl) rfl rfl rfl h (fun u11 h => ?_)
        refine w_aload_n (dk_Mod_operand 197 rfl) rfl ?_
        refine w_aload_n (dk_Mod_operand 198 rfl) rfl ?_
        refine w_iload_n (dk_Mod_operand 199 rfl) rfl ?_
        refine w_callVi (ls' := [some (.ref 52), some (.int r2), none, none, none]) cv_Mod_296 (dk_Mod_operand 200 rfl) (ci := 10) rfl rfl [.int r2] [.ref 52] rfl rfl (Nat.le_of_ble_eq_true rfl) (Nat.le_of_ble_eq_true rfl) rfl rfl rfl h (fun r12 u13 h => ?_)
        refine w_callVv (ls' := [some (.ref 52), some (.int r12)]) cv_Mod_278 (dk_Mod_operand 201 rfl) (ci := 10) rfl rfl [.int r12] [] rfl rfl (Nat.le_of_ble_eq_true rfl) (Nat.le_of_ble_eq_true rfl) rfl rfl rfl h (fun u15 h => ?_)
        refine w_aload_n (dk_Mod_operand 202 rfl) rfl ?_
        refine w_iload (dk_Mod_operand 203 rfl) rfl ?_
        refine w_callVv (ls' := [some (.ref 52), some (.int r8)]) cv_Mod_278 (dk_Mod_operand 204 rfl) (ci := 10) rfl rfl [.int r8] [] rfl rfl (Nat.le_of_ble_eq_true rfl) (Nat.le_of_ble_eq_true rfl) rfl rfl rfl h (fun u17 h => ?_)
        refine w_iload (dk_Mod_operand 205 rfl) rfl ?_
        refine w_if_lt 390 (dk_Mod_operand 206 rfl) (by decide) (fun c_ => ?_) (fun c_ => ?_)
        · replace h := h.1 c_
          refine w_iconst (v := 0) (dk_Mod_operand 209 rfl) rfl ?_
          exact w_bret (dk_Mod_operand 210 rfl) rfl (Or.inl rfl) h
        · replace h := h.2 c_
          refine w_iconst (v := 1) (dk_Mod_operand 207 rfl) rfl ?_
          refine w_goto 391 (dk_Mod_operand 208 rfl) (by decide) ?_
          exact w_bret (dk_Mod_operand 210 rfl) rfl (Or.inr rfl) h
      · replace h := h.2 c_
        refine w_iconst (v := 0) (dk_Mod_operand 188 rfl) rfl ?_
        exact w_bret (dk_Mod_operand 189 rfl) rfl (Or.inl rfl) h
    · replace h := h.2 c_
      refine w_aload_n (dk_Mod_operand 175 rfl) rfl ?_
      refine w_callVi (ls' := [some (.ref 52)]) cv_Mod_235 (dk_Mod_operand 176 rfl) (ci := 10) rfl rfl [] [] rfl rfl (Nat.le_of_ble_eq_true rfl) (Nat.le_of_ble_eq_true rfl) rfl rfl rfl h (fun r18 u19 h => ?_)
      exact w_bret (dk_Mod_operand 177 rfl) rfl h.1 h.2
  · replace h := h.2 c_
    refine w_aload_n (dk_Mod_operand 156 rfl) rfl ?_
    refine w_callVi (ls' := [some (.ref 52), none]) cv_Mod_293 (dk_Mod_operand 157 rfl) (ci := 10) rfl rfl [] [] rfl rfl (Nat.le_of_ble_eq_true rfl) (Nat.le_of_ble_eq_true rfl) rfl rfl rfl h (fun r20 u21 h => ?_)
    refine w_istore (ls' := [some (.ref 52), some (.int x1), some (.int x2), some (.int r2), some (.int r20)]) (dk_Mod_operand 158 rfl) (by decide) rfl ?_
    refine w_aload_n (dk_Mod_operand 159 rfl) rfl ?_
    refine w_iconst (v := 2) (dk_Mod_operand 160 rfl) rfl ?_
    refine w_callVv (ls' := [some (.ref 52), some (.int 2)]) cv_Mod_278 (dk_Mod_operand 161 rfl) (ci := 10) rfl rfl [.int 2] [] rfl rfl (Nat.le_of_ble_eq_true rfl) (Nat.le_of_ble_eq_true rfl) rfl rfl rfl h (fun u23 h => ?_)
    refine w_aload_n (dk_Mod_operand 162 rfl) rfl ?_
    refine w_iload (dk_Mod_operand 163 rfl) rfl ?_
    refine w_callVv (ls' := [some (.ref 52), some (.int r20)]) cv_Mod_278 (dk_Mod_operand 164 rfl) (ci := 10) rfl rfl [.int r20] [] rfl rfl (Nat.le_of_ble_eq_true rfl) (Nat.le_of_ble_eq_true rfl) rfl rfl rfl h (fun u25 h => ?_)
    refine w_iload (dk_Mod_operand 165 rfl) rfl ?_
    refine w_if_lt 318 (dk_Mod_operand 166 rfl) (by decide) (fun c_ => ?_) (fun c_ => ?_)
    · replace h := h.1 c_
      refine w_iconst (v := 0) (dk_Mod_operand 169 rfl) rfl ?_
      exact w_bret (dk_Mod_operand 170 rfl) rfl (Or.inl rfl) h
    · replace h := h.2 c_
      refine w_iconst (v := 1) (dk_Mod_operand 167 rfl) rfl ?_
      refine w_goto 319 (dk_Mod_operand 168 rfl) (by decide) ?_
      exact w_bret (dk_Mod_operand 170 rfl) rfl (Or.inr rfl) h
theorem g_Mod_push_0 {d : Nat} {u : Us} {Q : Ot → Us → Prop} (p1 : Int32)
    (h : ∃ k1 : Nat, aI u 52 28 = nI k1 ∧ k1 < 160 ∧ (Q (.inl (some (.int 1))) (uI (uI (uI u 68 k1 p1) 52 28 ((aI u 52 28) + 1)) 52 20 ((aI u 52 20) + 1)))) :
    WS d m_Mod_push 0 [some (.ref 52), some (.int p1)] [] u Q := by
  refine w_aload_n (dk_Mod_push 0 rfl) rfl ?_
  refine w_getr (dk_Mod_push 1 rfl) lk_Mod_94 rfl rfl rfl ?_
  refine w_aload_n (dk_Mod_push 2 rfl) rfl ?_
  refine w_geti (v := aI u 52 28) (dk_Mod_push 3 rfl) lk_Mod_97 rfl rfl rfl ?_
  refine w_iload_n (dk_Mod_push 4 rfl) rfl ?_
  obtain ⟨k1, e_k1, l_k1, h⟩ := h
  refine w_iast (k_ := k1) (dk_Mod_push 5 rfl) rfl (by decide) e_k1 l_k1 ?_
  refine w_aload_n (dk_Mod_push 6 rfl) rfl ?_
  refine w_dup (dk_Mod_push 7 rfl) rfl ?_
  refine w_geti (v := aI u 52 28) (dk_Mod_push 8 rfl) lk_Mod_97 rfl rfl rfl ?_
  refine w_iconst (v := 1) (dk_Mod_push 9 rfl) rfl ?_
  refine w_iadd (dk_Mod_push 10 rfl) ?_
  refine w_puti (dk_Mod_push 11 rfl) lk_Mod_97 rfl rfl ?_
  refine w_aload_n (dk_Mod_push 12 rfl) rfl ?_
  refine w_dup (dk_Mod_push 13 rfl) rfl ?_
  refine w_geti (v := aI u 52 20) (dk_Mod_push 14 rfl) lk_Mod_72 rfl rfl rfl ?_
  refine w_iconst (v := 1) (dk_Mod_push 15 rfl) rfl ?_
  refine w_iadd (dk_Mod_push 16 rfl) ?_
  refine w_puti (dk_Mod_push 17 rfl) lk_Mod_72 rfl rfl ?_
  refine w_iconst (v := 1) (dk_Mod_push 18 rfl) rfl ?_
  exact w_bret (dk_Mod_push 19 rfl) rfl (Or.inr rfl) h
theorem g_Mod_strength_0 {d : Nat} {u : Us} {Q : Ot → Us → Prop} (p1 : Int32)
    (h : (p1 ≠ 10 → (p1 ≠ 11 → (p1 ≠ 6 → (p1 < 12 → (p1 = 18 → Q (.inl (some (.int 5))) u) ∧ (¬ (p1 = 18) → (p1 ≠ 19 → (p1 < 20 → (p1 ≠ 5 → Q (.inl (some (.int 0))) u) ∧ (p1 = 5 → Q (.inl (some (.int 7))) u)) ∧ (¬ (p1 < 20) → Q (.inl (some (.int 6))) u)) ∧ (p1 = 19 → Q (.inl (some (.int 5))) u))) ∧ (¬ (p1 < 12) → (17 < p1 → (p1 = 18 → Q (.inl (some (.int 5))) u) ∧ (¬ (p1 = 18) → (p1 ≠ 19 → (p1 < 20 → (p1 ≠ 5 → Q (.inl (some (.int 0))) u) ∧ (p1 = 5 → Q (.inl (some (.int 7))) u)) ∧ (¬ (p1 < 20) → Q (.inl (some (.int 6))) u)) ∧ (p1 = 19 → Q (.inl (some (.int 5))) u))) ∧ (¬ (17 < p1) → Q (.inl (some (.int 4))) u))) ∧ (p1 = 6 → Q (.inl (some (.int 3))) u)) ∧ (p1 = 11 → Q (.inl (some (.int 2))) u)) ∧ (p1 = 10 → Q (.inl (some (.int 1))) u)) :
    WS d m_Mod_strength 0 [some (.int p1)] [] u Q := by
  refine w_iload_n (dk_Mod_strength 0 rfl) rfl ?_
  refine w_bipush (v := 10) (dk_Mod_strength 1 rfl) rfl ?_
  refine w_icmp_ne 10 (dk_Mod_strength 2 rfl) (by decide) (fun c_ => ?_) (fun c_ => ?_)
  · replace h := h.1 c_
    refine w_iload_n (dk_Mod_strength 5 rfl) rfl ?_
    refine w_bipush (v := 11) (dk_Mod_strength 6 rfl) rfl ?_
    refine w_icmp_ne 20 (dk_Mod_strength 7 rfl) (by decide) (fun c_ => ?_) (fun c_ => ?_)
    · replace h := h.1 c_
      refine w_iload_n (dk_Mod_strength 10 rfl) rfl ?_
      refine w_bipush (v := 6) (dk_Mod_strength 11 rfl) rfl ?_
      refine w_icmp_ne 30 (dk_Mod_strength 12 rfl) (by decide) (fun c_ => ?_) (fun c_ => ?_)
      · replace h := h.1 c_
        refine w_iload_n (dk_Mod_strength 15 rfl) rfl ?_
        refine w_bipush (v := 12) (dk_Mod_strength 16 rfl) rfl ?_
        refine w_icmp_lt 46 (dk_Mod_strength 17 rfl) (by decide) (fun c_ => ?_) (fun c_ => ?_)
        · replace h := h.1 c_
          refine w_iload_n (dk_Mod_strength 23 rfl) rfl ?_
          refine w_bipush (v := 18) (dk_Mod_strength 24 rfl) rfl ?_
          refine w_icmp_eq 58 (dk_Mod_strength 25 rfl) (by decide) (fun c_ => ?_) (fun c_ => ?_)
          · replace h := h.1 c_
            refine w_iconst (v := 5) (dk_Mod_strength 29 rfl) rfl ?_
            refine w_goto 84 (dk_Mod_strength 30 rfl) (by decide) ?_
            exact w_iret (dk_Mod_strength 42 rfl) rfl h
          · replace h := h.2 c_
            refine w_iload_n (dk_Mod_strength 26 rfl) rfl ?_
            refine w_bipush (v := 19) (dk_Mod_strength 27 rfl) rfl ?_
            refine w_icmp_ne 62 (dk_Mod_strength 28 rfl) (by decide) (fun c_ => ?_) (fun c_ => ?_)
            · replace h := h.1 c_
              refine w_iload_n (dk_Mod_strength 31 rfl) rfl ?_
              refine w_bipush (v := 20) (dk_Mod_strength 32 rfl) rfl ?_
              refine w_icmp_lt 73 (dk_Mod_strength 33 rfl) (by decide) (fun c_ => ?_) (fun c_ => ?_)
              · replace h := h.1 c_
                refine w_iload_n (dk_Mod_strength 36 rfl) rfl ?_
                refine w_iconst (v := 5) (dk_Mod_strength 37 rfl) rfl ?_
                refine w_icmp_ne 83 (dk_Mod_strength 38 rfl) (by decide) (fun c_ => ?_) (fun c_ => ?_)
                · replace h := h.1 c_
                  refine w_iconst (v := 0) (dk_Mod_strength 41 rfl) rfl ?_
                  exact w_iret (dk_Mod_strength 42 rfl) rfl h
                · replace h := h.2 c_
                  refine w_bipush (v := 7) (dk_Mod_strength 39 rfl) rfl ?_
                  refine w_goto 84 (dk_Mod_strength 40 rfl) (by decide) ?_
                  exact w_iret (dk_Mod_strength 42 rfl) rfl h
              · replace h := h.2 c_
                refine w_bipush (v := 6) (dk_Mod_strength 34 rfl) rfl ?_
                refine w_goto 84 (dk_Mod_strength 35 rfl) (by decide) ?_
                exact w_iret (dk_Mod_strength 42 rfl) rfl h
            · replace h := h.2 c_
              refine w_iconst (v := 5) (dk_Mod_strength 29 rfl) rfl ?_
              refine w_goto 84 (dk_Mod_strength 30 rfl) (by decide) ?_
              exact w_iret (dk_Mod_strength 42 rfl) rfl h
        · replace h := h.2 c_
          refine w_iload_n (dk_Mod_strength 18 rfl) rfl ?_
          refine w_bipush (v := 17) (dk_Mod_strength 19 rfl) rfl ?_
          refine w_icmp_gt 46 (dk_Mod_strength 20 rfl) (by decide) (fun c_ => ?_) (fun c_ => ?_)
          · replace h := h.1 c_
            refine w_iload_n (dk_Mod_strength 23 rfl) rfl ?_
            refine w_bipush (v := 18) (dk_Mod_strength 24 rfl) rfl ?_
            refine w_icmp_eq 58 (dk_Mod_strength 25 rfl) (by decide) (fun c_ => ?_) (fun c_ => ?_)
            · replace h := h.1 c_
              refine w_iconst (v := 5) (dk_Mod_strength 29 rfl) rfl ?_
              refine w_goto 84 (dk_Mod_strength 30 rfl) (by decide) ?_
              exact w_iret (dk_Mod_strength 42 rfl) rfl h
            · replace h := h.2 c_
              refine w_iload_n (dk_Mod_strength 26 rfl) rfl ?_
              refine w_bipush (v := 19) (dk_Mod_strength 27 rfl) rfl ?_
              refine w_icmp_ne 62 (dk_Mod_strength 28 rfl) (by decide) (fun c_ => ?_) (fun c_ => ?_)
              · replace h := h.1 c_
                refine w_iload_n (dk_Mod_strength 31 rfl) rfl ?_
                refine w_bipush (v := 20) (dk_Mod_strength 32 rfl) rfl ?_
                refine w_icmp_lt 73 (dk_Mod_strength 33 rfl) (by decide) (fun c_ => ?_) (fun c_ => ?_)
                · replace h := h.1 c_
                  refine w_iload_n (dk_Mod_strength 36 rfl) rfl ?_
                  refine w_iconst (v := 5) (dk_Mod_strength 37 rfl) rfl ?_
                  refine w_icmp_ne 83 (dk_Mod_strength 38 rfl) (by decide) (fun c_ => ?_) (fun c_ => ?_)
                  · replace h := h.1 c_
                    refine w_iconst (v := 0) (dk_Mod_strength 41 rfl) rfl ?_
                    exact w_iret (dk_Mod_strength 42 rfl) rfl h
                  · replace h := h.2 c_
                    refine w_bipush (v := 7) (dk_Mod_strength 39 rfl) rfl ?_
                    refine w_goto 84 (dk_Mod_strength 40 rfl) (by decide) ?_
                    exact w_iret (dk_Mod_strength 42 rfl) rfl h
                · replace h := h.2 c_
                  refine w_bipush (v := 6) (dk_Mod_strength 34 rfl) rfl ?_
                  refine w_goto 84 (dk_Mod_strength 35 rfl) (by decide) ?_
                  exact w_iret (dk_Mod_strength 42 rfl) rfl h
              · replace h := h.2 c_
                refine w_iconst (v := 5) (dk_Mod_strength 29 rfl) rfl ?_
                refine w_goto 84 (dk_Mod_strength 30 rfl) (by decide) ?_
                exact w_iret (dk_Mod_strength 42 rfl) rfl h
          · replace h := h.2 c_
            refine w_iconst (v := 4) (dk_Mod_strength 21 rfl) rfl ?_
            refine w_goto 84 (dk_Mod_strength 22 rfl) (by decide) ?_
            exact w_iret (dk_Mod_strength 42 rfl) rfl h
      · replace h := h.2 c_
        refine w_iconst (v := 3) (dk_Mod_strength 13 rfl) rfl ?_
        refine w_goto 84 (dk_Mod_strength 14 rfl) (by decide) ?_
        exact w_iret (dk_Mod_strength 42 rfl) rfl h
    · replace h := h.2 c_
      refine w_iconst (v := 2) (dk_Mod_strength 8 rfl) rfl ?_
      refine w_goto 84 (dk_Mod_strength 9 rfl) (by decide) ?_
      exact w_iret (dk_Mod_strength 42 rfl) rfl h
  · replace h := h.2 c_
    refine w_iconst (v := 1) (dk_Mod_strength 3 rfl) rfl ?_
    refine w_goto 84 (dk_Mod_strength 4 rfl) (by decide) ?_
    exact w_iret (dk_Mod_strength 42 rfl) rfl h
theorem g_Mod_aggregate_0 {d : Nat} {u : Us} {Q : Ot → Us → Prop} 
    (h : ∃ k1 : Nat, aI u 52 20 = nI k1 ∧ k1 < 152 ∧ (WS d m_Mod_isSign 0 [some (.ref 52), some (.int 40)] [] (uI u 52 20 ((aI u 52 20) + 1)) (Ri (fun (r2 : Int32) (u3 : Us) => (r2 = 0 → WS d m_Mod_wrong 0 [some (.ref 52)] [] u3 (Ri (fun (r4 : Int32) (u5 : Us) => (r4 = 0 ∨ r4 = 1) ∧ Q (.inl (some (.int r4))) u5) (fun x u => Q (.inr x) u))) ∧ (¬ (r2 = 0) → WS d m_Mod_bracket 0 [some (.ref 52)] [] u3 (Ri (fun (r6 : Int32) (u7 : Us) => (r6 ≠ 0 → WS d m_Mod_takeKind 0 [some (.ref 52), none] [] (uI u7 52 20 ((aI u7 52 20) + 1)) (Ri (fun (r8 : Int32) (u9 : Us) => (0 ≤ r8 → (((Int64.toInt32 (aL u 65 k1)) - 16) ≤ 0 → WS d m_Mod_emit 0 [some (.ref 52), some (.int 30)] [] u9 (Rv (fun (u11 : Us) => WS d m_Mod_emit 0 [some (.ref 52), some (.int ((Int64.toInt32 (aL u 65 k1)) - 16))] [] u11 (Rv (fun (u13 : Us) => WS d m_Mod_emit 0 [some (.ref 52), some (.int r8)] [] u13 (Rv (fun (u15 : Us) => WS d m_Mod_emit 0 [some (.ref 52), some (.int 0)] [] u15 (Rv (fun (u17 : Us) => WS d m_Mod_isWord 0 [some (.ref 52), some (.int 3)] [] u17 (Ri (fun (r18 : Int32) (u19 : Us) => (r18 = 0 → WS d m_Mod_emit 0 [some (.ref 52), some (.int 1)] [] u19 (Rv (fun (u21 : Us) => WS d m_Mod_emit 0 [some (.ref 52), some (.int 1)] [] u21 (Rv (fun (u23 : Us) => WS d m_Mod_emit 0 [some (.ref 52), some (.int 31)] [] u23 (Rv (fun (u25 : Us) => WS d m_Mod_sign 0 [some (.ref 52), some (.int 41)] [] (uI u25 52 26 ((aI u25 52 26) - 1)) (Ri (fun (r26 : Int32) (u27 : Us) => (r26 = 0 ∨ r26 = 1) ∧ Q (.inl (some (.int r26))) u27) (fun x u => Q (.inr x) u))) (fun x u => Q (.inr x) u))) (fun x u => Q (.inr x) u))) (fun x u => Q (.inr x) u))) ∧ (¬ (r18 = 0) → WS d m_Mod_push 0 [some (.ref 52), some (.int 2)] [] (uI u19 52 29 r8) (Ri (fun (r28 : Int32) (u29 : Us) => (r28 = 0 ∨ r28 = 1) ∧ Q (.inl (some (.int r28))) u29) (fun x u => Q (.inr x) u)))) (fun x u => Q (.inr x) u))) (fun x u => Q (.inr x) u))) (fun x u => Q (.inr x) u))) (fun x u => Q (.inr x) u))) (fun x u => Q (.inr x) u))) ∧ (¬ (((Int64.toInt32 (aL u 65 k1)) - 16) ≤ 0) → WS d m_Mod_sign 0 [some (.ref 52), some (.int 46)] [] u9 (Ri (fun (r30 : Int32) (u31 : Us) => (r30 ≠ 0 → WS d m_Mod_takeField 0 [some (.ref 52), some (.int r8), none] [] u31 (Ri (fun (r32 : Int32) (u33 : Us) => (0 ≤ r32 → WS d m_Mod_emit 0 [some (.ref 52), some (.int 30)] [] u33 (Rv (fun (u35 : Us) => WS d m_Mod_emit 0 [some (.ref 52), some (.int ((Int64.toInt32 (aL u 65 k1)) - 16))] [] u35 (Rv (fun (u37 : Us) => WS d m_Mod_emit 0 [some (.ref 52), some (.int r8)] [] u37 (Rv (fun (u39 : Us) => WS d m_Mod_emit 0 [some (.ref 52), some (.int r32)] [] u39 (Rv (fun (u41 : Us) => WS d m_Mod_isWord 0 [some (.ref 52), some (.int 3)] [] u41 (Ri (fun (r42 : Int32) (u43 : Us) => (r42 = 0 → WS d m_Mod_emit 0 [some (.ref 52), some (.int 1)] [] u43 (Rv (fun (u45 : Us) => WS d m_Mod_emit 0 [some (.ref 52), some (.int 1)] [] u45 (Rv (fun (u47 : Us) => WS d m_Mod_emit 0 [some (.ref 52), some (.int 31)] [] u47 (Rv (fun (u49 : Us) => WS d m_Mod_sign 0 [some (.ref 52), some (.int 41)] [] (uI u49 52 26 ((aI u49 52 26) - 1)) (Ri (fun (r50 : Int32) (u51 : Us) => (r50 = 0 ∨ r50 = 1) ∧ Q (.inl (some (.int r50))) u51) (fun x u => Q (.inr x) u))) (fun x u => Q (.inr x) u))) (fun x u => Q (.inr x) u))) (fun x u => Q (.inr x) u))) ∧ (¬ (r42 = 0) → WS d m_Mod_push 0 [some (.ref 52), some (.int 2)] [] (uI u43 52 29 r8) (Ri (fun (r52 : Int32) (u53 : Us) => (r52 = 0 ∨ r52 = 1) ∧ Q (.inl (some (.int r52))) u53) (fun x u => Q (.inr x) u)))) (fun x u => Q (.inr x) u))) (fun x u => Q (.inr x) u))) (fun x u => Q (.inr x) u))) (fun x u => Q (.inr x) u))) (fun x u => Q (.inr x) u))) ∧ (¬ (0 ≤ r32) → Q (.inl (some (.int 0))) u33)) (fun x u => Q (.inr x) u))) ∧ (r30 = 0 → Q (.inl (some (.int 0))) u31)) (fun x u => Q (.inr x) u)))) ∧ (¬ (0 ≤ r8) → Q (.inl (some (.int 0))) u9)) (fun x u => Q (.inr x) u))) ∧ (r6 = 0 → WS d m_Mod_wrong 0 [some (.ref 52)] [] u7 (Ri (fun (r54 : Int32) (u55 : Us) => (r54 = 0 ∨ r54 = 1) ∧ Q (.inl (some (.int r54))) u55) (fun x u => Q (.inr x) u)))) (fun x u => Q (.inr x) u)))) (fun x u => Q (.inr x) u)))) :
    WS (d + 1) m_Mod_aggregate 0 [some (.ref 52), none, none, none] [] u Q := by
  refine w_aload_n (dk_Mod_aggregate 0 rfl) rfl ?_
  refine w_getr (dk_Mod_aggregate 1 rfl) lk_Mod_63 rfl rfl rfl ?_
  refine w_aload_n (dk_Mod_aggregate 2 rfl) rfl ?_
  refine w_geti (v := aI u 52 20) (dk_Mod_aggregate 3 rfl) lk_Mod_72 rfl rfl rfl ?_
  obtain ⟨k1, e_k1, l_k1, h⟩ := h
  refine w_lald (k_ := k1) (dk_Mod_aggregate 4 rfl) rfl (by decide) e_k1 l_k1 ?_
  refine w_l2i (dk_Mod_aggregate 5 rfl) ?_
  refine w_bipush (v := 16) (dk_Mod_aggregate 6 rfl) rfl ?_
  refine w_isub (dk_Mod_aggregate 7 rfl) ?_
  refine w_istore_n (ls' := [some (.ref 52), some (.int ((Int64.toInt32 (aL u 65 k1)) - 16)), none, none]) (dk_Mod_aggregate 8 rfl) (by decide) rfl ?_
  refine w_aload_n (dk_Mod_aggregate 9 rfl) rfl ?_
  refine w_dup (dk_Mod_aggregate 10 rfl) rfl ?_
  refine w_geti (v := aI u 52 20) (dk_Mod_aggregate 11 rfl) lk_Mod_72 rfl rfl rfl ?_
  refine w_iconst (v := 1) (dk_Mod_aggregate 12 rfl) rfl ?_
  refine w_iadd (dk_Mod_aggregate 13 rfl) ?_
  refine w_puti (dk_Mod_aggregate 14 rfl) lk_Mod_72 rfl rfl ?_
  refine w_aload_n (dk_Mod_aggregate 15 rfl) rfl ?_
  refine w_bipush (v := 40) (dk_Mod_aggregate 16 rfl) rfl ?_
  refine w_callVi (ls' := [some (.ref 52), some (.int 40)]) cv_Mod_232 (dk_Mod_aggregate 17 rfl) (ci := 10) rfl rfl [.int 40] [] rfl rfl (Nat.le_of_ble_eq_true rfl) (Nat.le_of_ble_eq_true rfl) rfl rfl rfl h (fun r2 u3 h => ?_)
  refine w_if_eq 40 (dk_Mod_aggregate 18 rfl) (by decide) (fun c_ => ?_) (fun c_ => ?_)
  · replace h := h.1 c_
    refine w_aload_n (dk_Mod_aggregate 22 rfl) rfl ?_
    refine w_callVi (ls' := [some (.ref 52)]) cv_Mod_235 (dk_Mod_aggregate 23 rfl) (ci := 10) rfl rfl [] [] rfl rfl (Nat.le_of_ble_eq_true rfl) (Nat.le_of_ble_eq_true rfl) rfl rfl rfl h (fun r4 u5 h => ?_)
    exact w_bret (dk_Mod_aggregate 24 rfl) rfl h.1 h.2
  · replace h := h.2 c_
    refine w_aload_n (dk_Mod_aggregate 19 rfl) rfl ?_
    refine w_callVi (ls' := [some (.ref 52)]) cv_Mod_285 (dk_Mod_aggregate 20 rfl) (ci := 10) rfl rfl [] [] rfl rfl (Nat.le_of_ble_eq_true rfl) (Nat.le_of_ble_eq_true rfl) rfl rfl rfl h (fun r6 u7 h => ?_)
    refine w_if_ne 45 (dk_Mod_aggregate 21 rfl) (by decide) (fun c_ => ?_) (fun c_ => ?_)
    · replace h := h.1 c_
      refine w_aload_n (dk_Mod_aggregate 25 rfl) rfl ?_
      refine w_dup (dk_Mod_aggregate 26 rfl) rfl ?_
      refine w_geti (v := aI u7 52 20) (dk_Mod_aggregate 27 rfl) lk_Mod_72 rfl rfl rfl ?_
      refine w_iconst (v := 1) (dk_Mod_aggregate 28 rfl) rfl ?_
      refine w_iadd (dk_Mod_aggregate 29 rfl) ?_
      refine w_puti (dk_Mod_aggregate 30 rfl) lk_Mod_72 rfl rfl ?_
      refine w_aload_n (dk_Mod_aggregate 31 rfl) rfl ?_
      refine w_callVi (ls' := [some (.ref 52), none]) cv_Mod_305 (dk_Mod_aggregate 32 rfl) (ci := 10) rfl rfl [] [] rfl rfl (Nat.le_of_ble_eq_true rfl) (Nat.le_of_ble_eq_true rfl) rfl rfl rfl h (fun r8 u9 h => ?_)
      refine w_istore_n (ls' := [some (.ref 52), some (.int ((Int64.toInt32 (aL u 65 k1)) - 16)), some (.int r8), none]) (dk_Mod_aggregate 33 rfl) (by decide) rfl ?_
      refine w_iload_n (dk_Mod_aggregate 34 rfl) rfl ?_
      refine w_if_ge 66 (dk_Mod_aggregate 35 rfl) (by decide) (fun c_ => ?_) (fun c_ => ?_)
      · replace h := h.1 c_
        refine w_iconst (v := 0) (dk_Mod_aggregate 38 rfl) rfl ?_
        refine w_istore_n (ls' := [some (.ref 52), some (.int ((Int64.toInt32 (aL u 65 k1)) - 16)), some (.int r8), some (.int 0)]) (dk_Mod_aggregate 39 rfl) (by decide) rfl ?_
        refine w_iload_n (dk_Mod_aggregate 40 rfl) rfl ?_
        refine w_if_le 95 (dk_Mod_aggregate 41 rfl) (by decide) (fun c_ => ?_) (fun c_ => ?_)
        · replace h := h.1 c_
          refine w_aload_n (dk_Mod_aggregate 56 rfl) rfl ?_
          refine w_bipush (v := 30) (dk_Mod_aggregate 57 rfl) rfl ?_
          refine w_callVv (ls' := [some (.ref 52), some (.int 30)]) cv_Mod_278 (dk_Mod_aggregate 58 rfl) (ci := 10) rfl rfl [.int 30] [] rfl rfl (Nat.le_of_ble_eq_true rfl) (Nat.le_of_ble_eq_true rfl) rfl rfl rfl h (fun u11 h => ?_)
          refine w_aload_n (dk_Mod_aggregate 59 rfl) rfl ?_
          refine w_iload_n (dk_Mod_aggregate 60 rfl) rfl ?_
          refine w_callVv (ls' := [some (.ref 52), some (.int ((Int64.toInt32 (aL u 65 k1)) - 16))]) cv_Mod_278 (dk_Mod_aggregate 61 rfl) (ci := 10) rfl rfl [.int ((Int64.toInt32 (aL u 65 k1)) - 16)] [] rfl rfl (Nat.le_of_ble_eq_true rfl) (Nat.le_of_ble_eq_true rfl) rfl rfl rfl h (fun u13 h => ?_)
          refine w_aload_n (dk_Mod_aggregate 62 rfl) rfl ?_
          refine w_iload_n (dk_Mod_aggregate 63 rfl) rfl ?_
          refine w_callVv (ls' := [some (.ref 52), some (.int r8)]) cv_Mod_278 (dk_Mod_aggregate 64 rfl) (ci := 10) rfl rfl [.int r8] [] rfl rfl (Nat.le_of_ble_eq_true rfl) (Nat.le_of_ble_eq_true rfl) rfl rfl rfl h (fun u15 h => ?_)
          refine w_aload_n (dk_Mod_aggregate 65 rfl) rfl ?_
          refine w_iload_n (dk_Mod_aggregate 66 rfl) rfl ?_
          refine w_callVv (ls' := [some (.ref 52), some (.int 0)]) cv_Mod_278 (dk_Mod_aggregate 67 rfl) (ci := 10) rfl rfl [.int 0] [] rfl rfl (Nat.le_of_ble_eq_true rfl) (Nat.le_of_ble_eq_true rfl) rfl rfl rfl h (fun u17 h => ?_)
          refine w_aload_n (dk_Mod_aggregate 68 rfl) rfl ?_
          refine w_iconst (v := 3) (dk_Mod_aggregate 69 rfl) rfl ?_
          refine w_callVi (ls' := [some (.ref 52), some (.int 3)]) cv_Mod_239 (dk_Mod_aggregate 70 rfl) (ci := 10) rfl rfl [.int 3] [] rfl rfl (Nat.le_of_ble_eq_true rfl) (Nat.le_of_ble_eq_true rfl) rfl rfl rfl h (fun r18 u19 h => ?_)
          refine w_if_eq 135 (dk_Mod_aggregate 71 rfl) (by decide) (fun c_ => ?_) (fun c_ => ?_)
          · replace h := h.1 c_
            refine w_aload_n (dk_Mod_aggregate 79 rfl) rfl ?_
            refine w_iconst (v := 1) (dk_Mod_aggregate 80 rfl) rfl ?_
            refine w_callVv (ls' := [some (.ref 52), some (.int 1)]) cv_Mod_278 (dk_Mod_aggregate 81 rfl) (ci := 10) rfl rfl [.int 1] [] rfl rfl (Nat.le_of_ble_eq_true rfl) (Nat.le_of_ble_eq_true rfl) rfl rfl rfl h (fun u21 h => ?_)
            refine w_aload_n (dk_Mod_aggregate 82 rfl) rfl ?_
            refine w_iconst (v := 1) (dk_Mod_aggregate 83 rfl) rfl ?_
            refine w_callVv (ls' := [some (.ref 52), some (.int 1)]) cv_Mod_278 (dk_Mod_aggregate 84 rfl) (ci := 10) rfl rfl [.int 1] [] rfl rfl (Nat.le_of_ble_eq_true rfl) (Nat.le_of_ble_eq_true rfl) rfl rfl rfl h (fun u23 h => ?_)
            refine w_aload_n (dk_Mod_aggregate 85 rfl) rfl ?_
            refine w_bipush (v := 31) (dk_Mod_aggregate 86 rfl) rfl ?_
            refine w_callVv (ls' := [some (.ref 52), some (.int 31)]) cv_Mod_278 (dk_Mod_aggregate 87 rfl) (ci := 10) rfl rfl [.int 31] [] rfl rfl (Nat.le_of_ble_eq_true rfl) (Nat.le_of_ble_eq_true rfl) rfl rfl rfl h (fun u25 h => ?_)
            refine w_aload_n (dk_Mod_aggregate 88 rfl) rfl ?_
            refine w_dup (dk_Mod_aggregate 89 rfl) rfl ?_
            refine w_geti (v := aI u25 52 26) (dk_Mod_aggregate 90 rfl) lk_Mod_91 rfl rfl rfl ?_
            refine w_iconst (v := 1) (dk_Mod_aggregate 91 rfl) rfl ?_
            refine w_isub (dk_Mod_aggregate 92 rfl) ?_
            refine w_puti (dk_Mod_aggregate 93 rfl) lk_Mod_91 rfl rfl ?_
            refine w_aload_n (dk_Mod_aggregate 94 rfl) rfl ?_
            refine w_bipush (v := 41) (dk_Mod_aggregate 95 rfl) rfl ?_
            refine w_callVi (ls' := [some (.ref 52), some (.int 41)]) cv_Mod_299 (dk_Mod_aggregate 96 rfl) (ci := 10) rfl rfl [.int 41] [] rfl rfl (Nat.le_of_ble_eq_true rfl) (Nat.le_of_ble_eq_true rfl) rfl rfl rfl h (fun r26 u27 h => ?_)
            exact w_bret (dk_Mod_aggregate 97 rfl) rfl h.1 h.2
          · replace h := h.2 c_
            refine w_aload_n (dk_Mod_aggregate 72 rfl) rfl ?_
            refine w_iload_n (dk_Mod_aggregate 73 rfl) rfl ?_
            refine w_puti (dk_Mod_aggregate 74 rfl) lk_Mod_100 rfl rfl ?_
            refine w_aload_n (dk_Mod_aggregate 75 rfl) rfl ?_
            refine w_iconst (v := 2) (dk_Mod_aggregate 76 rfl) rfl ?_
            refine w_callVi (ls' := [some (.ref 52), some (.int 2)]) cv_Mod_282 (dk_Mod_aggregate 77 rfl) (ci := 10) rfl rfl [.int 2] [] rfl rfl (Nat.le_of_ble_eq_true rfl) (Nat.le_of_ble_eq_true rfl) rfl rfl rfl h (fun r28 u29 h => ?_)
            exact w_bret (dk_Mod_aggregate 78 rfl) rfl h.1 h.2
        · replace h := h.2 c_
          refine w_aload_n (dk_Mod_aggregate 42 rfl) rfl ?_
          refine w_bipush (v := 46) (dk_Mod_aggregate 43 rfl) rfl ?_
          refine w_callVi (ls' := [some (.ref 52), some (.int 46)]) cv_Mod_299 (dk_Mod_aggregate 44 rfl) (ci := 10) rfl rfl [.int 46] [] rfl rfl (Nat.le_of_ble_eq_true rfl) (Nat.le_of_ble_eq_true rfl) rfl rfl rfl h (fun r30 u31 h => ?_)
          refine w_if_ne 83 (dk_Mod_aggregate 45 rfl) (by decide) (fun c_ => ?_) (fun c_ => ?_)
          · replace h := h.1 c_
            refine w_aload_n (dk_Mod_aggregate 48 rfl) rfl ?_
            refine w_iload_n (dk_Mod_aggregate 49 rfl) rfl ?_
            refine w_callVi (ls' := [some (.ref 52), some (.int r8), none]) cv_Mod_302 (dk_Mod_aggregate 50 rfl) (ci := 10) rfl rfl [.int r8] [] rfl rfl (Nat.le_of_ble_eq_true rfl) (Nat.le_of_ble_eq_true rfl) rfl rfl rfl h (fun r32 u33 h => ?_)
            refine w_istore_n (ls' := [some (.ref 52), some (.int ((Int64.toInt32 (aL u 65 k1)) - 16)), some (.int r8), some (.int r32)]) (dk_Mod_aggregate 51 rfl) (by decide) rfl ?_
            refine w_iload_n (dk_Mod_aggregate 52 rfl) rfl ?_
            refine w_if_ge 95 (dk_Mod_aggregate 53 rfl) (by decide) (fun c_ => ?_) (fun c_ => ?_)
            · replace h := h.1 c_
              refine w_aload_n (dk_Mod_aggregate 56 rfl) rfl ?_
              refine w_bipush (v := 30) (dk_Mod_aggregate 57 rfl) rfl ?_
              refine w_callVv (ls' := [some (.ref 52), some (.int 30)]) cv_Mod_278 (dk_Mod_aggregate 58 rfl) (ci := 10) rfl rfl [.int 30] [] rfl rfl (Nat.le_of_ble_eq_true rfl) (Nat.le_of_ble_eq_true rfl) rfl rfl rfl h (fun u35 h => ?_)
              refine w_aload_n (dk_Mod_aggregate 59 rfl) rfl ?_
              refine w_iload_n (dk_Mod_aggregate 60 rfl) rfl ?_
              refine w_callVv (ls' := [some (.ref 52), some (.int ((Int64.toInt32 (aL u 65 k1)) - 16))]) cv_Mod_278 (dk_Mod_aggregate 61 rfl) (ci := 10) rfl rfl [.int ((Int64.toInt32 (aL u 65 k1)) - 16)] [] rfl rfl (Nat.le_of_ble_eq_true rfl) (Nat.le_of_ble_eq_true rfl) rfl rfl rfl h (fun u37 h => ?_)
              refine w_aload_n (dk_Mod_aggregate 62 rfl) rfl ?_
              refine w_iload_n (dk_Mod_aggregate 63 rfl) rfl ?_
              refine w_callVv (ls' := [some (.ref 52), some (.int r8)]) cv_Mod_278 (dk_Mod_aggregate 64 rfl) (ci := 10) rfl rfl [.int r8] [] rfl rfl (Nat.le_of_ble_eq_true rfl) (Nat.le_of_ble_eq_true rfl) rfl rfl rfl h (fun u39 h => ?_)
              refine w_aload_n (dk_Mod_aggregate 65 rfl) rfl ?_
              refine w_iload_n (dk_Mod_aggregate 66 rfl) rfl ?_
              refine w_callVv (ls' := [some (.ref 52), some (.int r32)]) cv_Mod_278 (dk_Mod_aggregate 67 rfl) (ci := 10) rfl rfl [.int r32] [] rfl rfl (Nat.le_of_ble_eq_true rfl) (Nat.le_of_ble_eq_true rfl) rfl rfl rfl h (fun u41 h => ?_)
              refine w_aload_n (dk_Mod_aggregate 68 rfl) rfl ?_
              refine w_iconst (v := 3) (dk_Mod_aggregate 69 rfl) rfl ?_
              refine w_callVi (ls' := [some (.ref 52), some (.int 3)]) cv_Mod_239 (dk_Mod_aggregate 70 rfl) (ci := 10) rfl rfl [.int 3] [] rfl rfl (Nat.le_of_ble_eq_true rfl) (Nat.le_of_ble_eq_true rfl) rfl rfl rfl h (fun r42 u43 h => ?_)
              refine w_if_eq 135 (dk_Mod_aggregate 71 rfl) (by decide) (fun c_ => ?_) (fun c_ => ?_)
              · replace h := h.1 c_
                refine w_aload_n (dk_Mod_aggregate 79 rfl) rfl ?_
                refine w_iconst (v := 1) (dk_Mod_aggregate 80 rfl) rfl ?_
                refine w_callVv (ls' := [some (.ref 52), some (.int 1)]) cv_Mod_278 (dk_Mod_aggregate 81 rfl) (ci := 10) rfl rfl [.int 1] [] rfl rfl (Nat.le_of_ble_eq_true rfl) (Nat.le_of_ble_eq_true rfl) rfl rfl rfl h (fun u45 h => ?_)
                refine w_aload_n (dk_Mod_aggregate 82 rfl) rfl ?_
                refine w_iconst (v := 1) (dk_Mod_aggregate 83 rfl) rfl ?_
                refine w_callVv (ls' := [some (.ref 52), some (.int 1)]) cv_Mod_278 (dk_Mod_aggregate 84 rfl) (ci := 10) rfl rfl [.int 1] [] rfl rfl (Nat.le_of_ble_eq_true rfl) (Nat.le_of_ble_eq_true rfl) rfl rfl rfl h (fun u47 h => ?_)
                refine w_aload_n (dk_Mod_aggregate 85 rfl) rfl ?_
                refine w_bipush (v := 31) (dk_Mod_aggregate 86 rfl) rfl ?_
                refine w_callVv (ls' := [some (.ref 52), some (.int 31)]) cv_Mod_278 (dk_Mod_aggregate 87 rfl) (ci := 10) rfl rfl [.int 31] [] rfl rfl (Nat.le_of_ble_eq_true rfl) (Nat.le_of_ble_eq_true rfl) rfl rfl rfl h (fun u49 h => ?_)
                refine w_aload_n (dk_Mod_aggregate 88 rfl) rfl ?_
                refine w_dup (dk_Mod_aggregate 89 rfl) rfl ?_
                refine w_geti (v := aI u49 52 26) (dk_Mod_aggregate 90 rfl) lk_Mod_91 rfl rfl rfl ?_
                refine w_iconst (v := 1) (dk_Mod_aggregate 91 rfl) rfl ?_
                refine w_isub (dk_Mod_aggregate 92 rfl) ?_
                refine w_puti (dk_Mod_aggregate 93 rfl) lk_Mod_91 rfl rfl ?_
                refine w_aload_n (dk_Mod_aggregate 94 rfl) rfl ?_
                refine w_bipush (v := 41) (dk_Mod_aggregate 95 rfl) rfl ?_
                refine w_callVi (ls' := [some (.ref 52), some (.int 41)]) cv_Mod_299 (dk_Mod_aggregate 96 rfl) (ci := 10) rfl rfl [.int 41] [] rfl rfl (Nat.le_of_ble_eq_true rfl) (Nat.le_of_ble_eq_true rfl) rfl rfl rfl h (fun r50 u51 h => ?_)
                exact w_bret (dk_Mod_aggregate 97 rfl) rfl h.1 h.2
              · replace h := h.2 c_
                refine w_aload_n (dk_Mod_aggregate 72 rfl) rfl ?_
                refine w_iload_n (dk_Mod_aggregate 73 rfl) rfl ?_
                refine w_puti (dk_Mod_aggregate 74 rfl) lk_Mod_100 rfl rfl ?_
                refine w_aload_n (dk_Mod_aggregate 75 rfl) rfl ?_
                refine w_iconst (v := 2) (dk_Mod_aggregate 76 rfl) rfl ?_
                refine w_callVi (ls' := [some (.ref 52), some (.int 2)]) cv_Mod_282 (dk_Mod_aggregate 77 rfl) (ci := 10) rfl rfl [.int 2] [] rfl rfl (Nat.le_of_ble_eq_true rfl) (Nat.le_of_ble_eq_true rfl) rfl rfl rfl h (fun r52 u53 h => ?_)
                exact w_bret (dk_Mod_aggregate 78 rfl) rfl h.1 h.2
            · replace h := h.2 c_
              refine w_iconst (v := 0) (dk_Mod_aggregate 54 rfl) rfl ?_
              exact w_bret (dk_Mod_aggregate 55 rfl) rfl (Or.inl rfl) h
          · replace h := h.2 c_
            refine w_iconst (v := 0) (dk_Mod_aggregate 46 rfl) rfl ?_
            exact w_bret (dk_Mod_aggregate 47 rfl) rfl (Or.inl rfl) h
      · replace h := h.2 c_
        refine w_iconst (v := 0) (dk_Mod_aggregate 36 rfl) rfl ?_
        exact w_bret (dk_Mod_aggregate 37 rfl) rfl (Or.inl rfl) h
    · replace h := h.2 c_
      refine w_aload_n (dk_Mod_aggregate 22 rfl) rfl ?_
      refine w_callVi (ls' := [some (.ref 52)]) cv_Mod_235 (dk_Mod_aggregate 23 rfl) (ci := 10) rfl rfl [] [] rfl rfl (Nat.le_of_ble_eq_true rfl) (Nat.le_of_ble_eq_true rfl) rfl rfl rfl h (fun r54 u55 h => ?_)
      exact w_bret (dk_Mod_aggregate 24 rfl) rfl h.1 h.2
theorem g_Mod_takeKind_0 {d : Nat} {u : Us} {Q : Ot → Us → Prop} 
    (h : ∃ k1 : Nat, aI u 52 20 = nI k1 ∧ k1 < 152 ∧ (((aI u 63 k1) ≠ 1 → WS d m_Mod_wrong 0 [some (.ref 52)] [] u (Ri (fun (r2 : Int32) (u3 : Us) => Q (.inl (some (.int (-1)))) u3) (fun x u => Q (.inr x) u))) ∧ ((aI u 63 k1) = 1 → ∃ k4 : Nat, aI u 52 20 = nI k4 ∧ k4 < 152 ∧ (WS d m_Mod_kindOf 0 [some (.ref 52), some (.long (aL u 65 k4)), none, none] [] u (Ri (fun (r5 : Int32) (u6 : Us) => (0 ≤ r5 → Q (.inl (some (.int r5))) (uI u6 52 20 ((aI u6 52 20) + 1))) ∧ (¬ (0 ≤ r5) → WS d m_Mod_wrong 0 [some (.ref 52)] [] u6 (Ri (fun (r7 : Int32) (u8 : Us) => Q (.inl (some (.int r5))) u8) (fun x u => Q (.inr x) u)))) (fun x u => Q (.inr x) u)))))) :
    WS (d + 1) m_Mod_takeKind 0 [some (.ref 52), none] [] u Q := by
  refine w_aload_n (dk_Mod_takeKind 0 rfl) rfl ?_
  refine w_getr (dk_Mod_takeKind 1 rfl) lk_Mod_57 rfl rfl rfl ?_
  refine w_aload_n (dk_Mod_takeKind 2 rfl) rfl ?_
  refine w_geti (v := aI u 52 20) (dk_Mod_takeKind 3 rfl) lk_Mod_72 rfl rfl rfl ?_
  obtain ⟨k1, e_k1, l_k1, h⟩ := h
  refine w_iald (k_ := k1) (dk_Mod_takeKind 4 rfl) rfl (by decide) e_k1 l_k1 ?_
  refine w_iconst (v := 1) (dk_Mod_takeKind 5 rfl) rfl ?_
  refine w_icmp_ne 29 (dk_Mod_takeKind 6 rfl) (by decide) (fun c_ => ?_) (fun c_ => ?_)
  · replace h := h.1 c_
    refine w_iconst (v := (-1)) (dk_Mod_takeKind 15 rfl) rfl ?_
    refine w_istore_n (ls' := [some (.ref 52), some (.int (-1))]) (dk_Mod_takeKind 16 rfl) (by decide) rfl ?_
    refine w_iload_n (dk_Mod_takeKind 17 rfl) rfl ?_
    refine w_if_ge_f (dk_Mod_takeKind 18 rfl) 43 (by decide) (by decide) ?_
    refine w_aload_n (dk_Mod_takeKind 19 rfl) rfl ?_
    refine w_callVi (ls' := [some (.ref 52)]) cv_Mod_235 (dk_Mod_takeKind 20 rfl) (ci := 10) rfl rfl [] [] rfl rfl (Nat.le_of_ble_eq_true rfl) (Nat.le_of_ble_eq_true rfl) rfl rfl rfl h (fun r2 u3 h => ?_)
    refine w_pop (dk_Mod_takeKind 21 rfl) rfl ?_
    refine w_goto 53 (dk_Mod_takeKind 22 rfl) (by decide) ?_
    refine w_iload_n (dk_Mod_takeKind 29 rfl) rfl ?_
    exact w_iret (dk_Mod_takeKind 30 rfl) rfl h
  · replace h := h.2 c_
    refine w_aload_n (dk_Mod_takeKind 7 rfl) rfl ?_
    refine w_aload_n (dk_Mod_takeKind 8 rfl) rfl ?_
    refine w_getr (dk_Mod_takeKind 9 rfl) lk_Mod_63 rfl rfl rfl ?_
    refine w_aload_n (dk_Mod_takeKind 10 rfl) rfl ?_
    refine w_geti (v := aI u 52 20) (dk_Mod_takeKind 11 rfl) lk_Mod_72 rfl rfl rfl ?_
    obtain ⟨k4, e_k4, l_k4, h⟩ := h
    refine w_lald (k_ := k4) (dk_Mod_takeKind 12 rfl) rfl (by decide) e_k4 l_k4 ?_
    refine w_callVi (ls' := [some (.ref 52), some (.long (aL u 65 k4)), none, none]) cv_Mod_242 (dk_Mod_takeKind 13 rfl) (ci := 10) rfl rfl [.long (aL u 65 k4)] [] rfl rfl (Nat.le_of_ble_eq_true rfl) (Nat.le_of_ble_eq_true rfl) rfl rfl rfl h (fun r5 u6 h => ?_)
    refine w_goto 30 (dk_Mod_takeKind 14 rfl) (by decide) ?_
    refine w_istore_n (ls' := [some (.ref 52), some (.int r5)]) (dk_Mod_takeKind 16 rfl) (by decide) rfl ?_
    refine w_iload_n (dk_Mod_takeKind 17 rfl) rfl ?_
    refine w_if_ge 43 (dk_Mod_takeKind 18 rfl) (by decide) (fun c_ => ?_) (fun c_ => ?_)
    · replace h := h.1 c_
      refine w_aload_n (dk_Mod_takeKind 23 rfl) rfl ?_
      refine w_dup (dk_Mod_takeKind 24 rfl) rfl ?_
      refine w_geti (v := aI u6 52 20) (dk_Mod_takeKind 25 rfl) lk_Mod_72 rfl rfl rfl ?_
      refine w_iconst (v := 1) (dk_Mod_takeKind 26 rfl) rfl ?_
      refine w_iadd (dk_Mod_takeKind 27 rfl) ?_
      refine w_puti (dk_Mod_takeKind 28 rfl) lk_Mod_72 rfl rfl ?_
      refine w_iload_n (dk_Mod_takeKind 29 rfl) rfl ?_
      exact w_iret (dk_Mod_takeKind 30 rfl) rfl h
    · replace h := h.2 c_
      refine w_aload_n (dk_Mod_takeKind 19 rfl) rfl ?_
      refine w_callVi (ls' := [some (.ref 52)]) cv_Mod_235 (dk_Mod_takeKind 20 rfl) (ci := 10) rfl rfl [] [] rfl rfl (Nat.le_of_ble_eq_true rfl) (Nat.le_of_ble_eq_true rfl) rfl rfl rfl h (fun r7 u8 h => ?_)
      refine w_pop (dk_Mod_takeKind 21 rfl) rfl ?_
      refine w_goto 53 (dk_Mod_takeKind 22 rfl) (by decide) ?_
      refine w_iload_n (dk_Mod_takeKind 29 rfl) rfl ?_
      exact w_iret (dk_Mod_takeKind 30 rfl) rfl h
theorem g_Mod_takeVariable_0 {d : Nat} {u : Us} {Q : Ot → Us → Prop} 
    (h : ∃ k1 : Nat, aI u 52 20 = nI k1 ∧ k1 < 152 ∧ (WS d m_Mod_varOf 0 [some (.ref 52), some (.long (aL u 65 k1)), none, none] [] u (Ri (fun (r2 : Int32) (u3 : Us) => (0 ≤ r2 → Q (.inl (some (.int r2))) (uI u3 52 20 ((aI u3 52 20) + 1))) ∧ (¬ (0 ≤ r2) → ((aI u3 52 8) ≠ 20 → ∃ k4 : Nat, aI u3 52 20 = nI k4 ∧ k4 < 152 ∧ (∃ k5 : Nat, aI u3 52 8 = nI k5 ∧ k5 < 20 ∧ (∃ k6 : Nat, aI u3 52 8 = nI k6 ∧ k6 < 20 ∧ (Q (.inl (some (.int (aI u3 52 8)))) (uI (uI (uI (uL u3 58 k5 (aL u3 65 k4)) 59 k6 0) 52 8 ((aI u3 52 8) + 1)) 52 20 ((aI u3 52 20) + 1)))))) ∧ ((aI u3 52 8) = 20 → WS d m_Mod_wrong 0 [some (.ref 52)] [] u3 (Ri (fun (r7 : Int32) (u8 : Us) => Q (.inl (some (.int (-1)))) u8) (fun x u => Q (.inr x) u))))) (fun x u => Q (.inr x) u)))) :
    WS (d + 1) m_Mod_takeVariable 0 [some (.ref 52), none] [] u Q := by
  refine w_aload_n (dk_Mod_takeVariable 0 rfl) rfl ?_
  refine w_aload_n (dk_Mod_takeVariable 1 rfl) rfl ?_
  refine w_getr (dk_Mod_takeVariable 2 rfl) lk_Mod_63 rfl rfl rfl ?_
  refine w_aload_n (dk_Mod_takeVariable 3 rfl) rfl ?_
  refine w_geti (v := aI u 52 20) (dk_Mod_takeVariable 4 rfl) lk_Mod_72 rfl rfl rfl ?_
  obtain ⟨k1, e_k1, l_k1, h⟩ := h
  refine w_lald (k_ := k1) (dk_Mod_takeVariable 5 rfl) rfl (by decide) e_k1 l_k1 ?_
  refine w_callVi (ls' := [some (.ref 52), some (.long (aL u 65 k1)), none, none]) cv_Mod_250 (dk_Mod_takeVariable 6 rfl) (ci := 10) rfl rfl [.long (aL u 65 k1)] [] rfl rfl (Nat.le_of_ble_eq_true rfl) (Nat.le_of_ble_eq_true rfl) rfl rfl rfl h (fun r2 u3 h => ?_)
  refine w_istore_n (ls' := [some (.ref 52), some (.int r2)]) (dk_Mod_takeVariable 7 rfl) (by decide) rfl ?_
  refine w_iload_n (dk_Mod_takeVariable 8 rfl) rfl ?_
  refine w_if_ge 71 (dk_Mod_takeVariable 9 rfl) (by decide) (fun c_ => ?_) (fun c_ => ?_)
  · replace h := h.1 c_
    refine w_aload_n (dk_Mod_takeVariable 42 rfl) rfl ?_
    refine w_dup (dk_Mod_takeVariable 43 rfl) rfl ?_
    refine w_geti (v := aI u3 52 20) (dk_Mod_takeVariable 44 rfl) lk_Mod_72 rfl rfl rfl ?_
    refine w_iconst (v := 1) (dk_Mod_takeVariable 45 rfl) rfl ?_
    refine w_iadd (dk_Mod_takeVariable 46 rfl) ?_
    refine w_puti (dk_Mod_takeVariable 47 rfl) lk_Mod_72 rfl rfl ?_
    refine w_iload_n (dk_Mod_takeVariable 48 rfl) rfl ?_
    exact w_iret (dk_Mod_takeVariable 49 rfl) rfl h
  · replace h := h.2 c_
    refine w_aload_n (dk_Mod_takeVariable 10 rfl) rfl ?_
    refine w_geti (v := aI u3 52 8) (dk_Mod_takeVariable 11 rfl) lk_Mod_36 rfl rfl rfl ?_
    refine w_bipush (v := 20) (dk_Mod_takeVariable 12 rfl) rfl ?_
    refine w_icmp_ne 34 (dk_Mod_takeVariable 13 rfl) (by decide) (fun c_ => ?_) (fun c_ => ?_)
    · replace h := h.1 c_
      refine w_aload_n (dk_Mod_takeVariable 19 rfl) rfl ?_
      refine w_geti (v := aI u3 52 8) (dk_Mod_takeVariable 20 rfl) lk_Mod_36 rfl rfl rfl ?_
      refine w_istore_n (ls' := [some (.ref 52), some (.int (aI u3 52 8))]) (dk_Mod_takeVariable 21 rfl) (by decide) rfl ?_
      refine w_aload_n (dk_Mod_takeVariable 22 rfl) rfl ?_
      refine w_getr (dk_Mod_takeVariable 23 rfl) lk_Mod_39 rfl rfl rfl ?_
      refine w_iload_n (dk_Mod_takeVariable 24 rfl) rfl ?_
      refine w_aload_n (dk_Mod_takeVariable 25 rfl) rfl ?_
      refine w_getr (dk_Mod_takeVariable 26 rfl) lk_Mod_63 rfl rfl rfl ?_
      refine w_aload_n (dk_Mod_takeVariable 27 rfl) rfl ?_
      refine w_geti (v := aI u3 52 20) (dk_Mod_takeVariable 28 rfl) lk_Mod_72 rfl rfl rfl ?_
      obtain ⟨k4, e_k4, l_k4, h⟩ := h
      refine w_lald (k_ := k4) (dk_Mod_takeVariable 29 rfl) rfl (by decide) e_k4 l_k4 ?_
      obtain ⟨k5, e_k5, l_k5, h⟩ := h
      refine w_last (k_ := k5) (dk_Mod_takeVariable 30 rfl) rfl (by decide) e_k5 l_k5 ?_
      refine w_aload_n (dk_Mod_takeVariable 31 rfl) rfl ?_
      refine w_getr (dk_Mod_takeVariable 32 rfl) lk_Mod_42 rfl rfl rfl ?_
      refine w_iload_n (dk_Mod_takeVariable 33 rfl) rfl ?_
      refine w_iconst (v := 0) (dk_Mod_takeVariable 34 rfl) rfl ?_
      obtain ⟨k6, e_k6, l_k6, h⟩ := h
      refine w_iast (k_ := k6) (dk_Mod_takeVariable 35 rfl) rfl (by decide) e_k6 l_k6 ?_
      refine w_aload_n (dk_Mod_takeVariable 36 rfl) rfl ?_
      refine w_dup (dk_Mod_takeVariable 37 rfl) rfl ?_
      refine w_geti (v := aI u3 52 8) (dk_Mod_takeVariable 38 rfl) lk_Mod_36 rfl rfl rfl ?_
      refine w_iconst (v := 1) (dk_Mod_takeVariable 39 rfl) rfl ?_
      refine w_iadd (dk_Mod_takeVariable 40 rfl) ?_
      refine w_puti (dk_Mod_takeVariable 41 rfl) lk_Mod_36 rfl rfl ?_
      refine w_aload_n (dk_Mod_takeVariable 42 rfl) rfl ?_
      refine w_dup (dk_Mod_takeVariable 43 rfl) rfl ?_
      refine w_geti (v := aI u3 52 20) (dk_Mod_takeVariable 44 rfl) lk_Mod_72 rfl rfl rfl ?_
      refine w_iconst (v := 1) (dk_Mod_takeVariable 45 rfl) rfl ?_
      refine w_iadd (dk_Mod_takeVariable 46 rfl) ?_
      refine w_puti (dk_Mod_takeVariable 47 rfl) lk_Mod_72 rfl rfl ?_
      refine w_iload_n (dk_Mod_takeVariable 48 rfl) rfl ?_
      exact w_iret (dk_Mod_takeVariable 49 rfl) rfl h
    · replace h := h.2 c_
      refine w_aload_n (dk_Mod_takeVariable 14 rfl) rfl ?_
      refine w_callVi (ls' := [some (.ref 52)]) cv_Mod_235 (dk_Mod_takeVariable 15 rfl) (ci := 10) rfl rfl [] [] rfl rfl (Nat.le_of_ble_eq_true rfl) (Nat.le_of_ble_eq_true rfl) rfl rfl rfl h (fun r7 u8 h => ?_)
      refine w_pop (dk_Mod_takeVariable 16 rfl) rfl ?_
      refine w_iconst (v := (-1)) (dk_Mod_takeVariable 17 rfl) rfl ?_
      exact w_iret (dk_Mod_takeVariable 18 rfl) rfl h
theorem g_Mod_varOf_0 {d : Nat} {u : Us} {Q : Ot → Us → Prop} (p1 : Int64)
    (h : WS d m_Mod_varOf 2 [some (.ref 52), some (.long p1), none, some (.int 0)] [] u Q) :
    WS d m_Mod_varOf 0 [some (.ref 52), some (.long p1), none, none] [] u Q := by
  refine w_iconst (v := 0) (dk_Mod_varOf 0 rfl) rfl ?_
  refine w_istore_n (ls' := [some (.ref 52), some (.long p1), none, some (.int 0)]) (dk_Mod_varOf 1 rfl) (by decide) rfl ?_
  exact h
theorem g_Mod_varOf_2 {d : Nat} {u : Us} {Q : Ot → Us → Prop} (x1 : Int64) (x3 : Int32)
    (h : ((aI u 52 8) ≤ x3 → Q (.inl (some (.int (-1)))) u) ∧ (¬ ((aI u 52 8) ≤ x3) → ∃ k1 : Nat, x3 = nI k1 ∧ k1 < 20 ∧ (((aL u 58 k1) ≠ x1 → WS d m_Mod_varOf 2 [some (.ref 52), some (.long x1), none, some (.int (x3 + 1))] [] u Q) ∧ ((aL u 58 k1) = x1 → Q (.inl (some (.int x3))) u)))) :
    WS d m_Mod_varOf 2 [some (.ref 52), some (.long x1), none, some (.int x3)] [] u Q := by
  refine w_iload_n (dk_Mod_varOf 2 rfl) rfl ?_
  refine w_aload_n (dk_Mod_varOf 3 rfl) rfl ?_
  refine w_geti (v := aI u 52 8) (dk_Mod_varOf 4 rfl) lk_Mod_36 rfl rfl rfl ?_
  refine w_icmp_ge 29 (dk_Mod_varOf 5 rfl) (by decide) (fun c_ => ?_) (fun c_ => ?_)
  · replace h := h.1 c_
    refine w_iconst (v := (-1)) (dk_Mod_varOf 17 rfl) rfl ?_
    exact w_iret (dk_Mod_varOf 18 rfl) rfl h
  · replace h := h.2 c_
    refine w_aload_n (dk_Mod_varOf 6 rfl) rfl ?_
    refine w_getr (dk_Mod_varOf 7 rfl) lk_Mod_39 rfl rfl rfl ?_
    refine w_iload_n (dk_Mod_varOf 8 rfl) rfl ?_
    obtain ⟨k1, e_k1, l_k1, h⟩ := h
    refine w_lald (k_ := k1) (dk_Mod_varOf 9 rfl) rfl (by decide) e_k1 l_k1 ?_
    refine w_lload_n (dk_Mod_varOf 10 rfl) rfl ?_
    refine w_lcmp_ne 23 (dk_Mod_varOf 11 rfl) (dk_Mod_varOf 12 rfl) (by decide) (fun c_ => ?_) (fun c_ => ?_)
    · replace h := h.1 c_
      refine w_iinc (v := x3 + 1) (ls' := [some (.ref 52), some (.long x1), none, some (.int (x3 + 1))]) (dk_Mod_varOf 15 rfl) rfl rfl (by decide) rfl ?_
      refine w_goto 2 (dk_Mod_varOf 16 rfl) (by decide) ?_
      exact h
    · replace h := h.2 c_
      refine w_iload_n (dk_Mod_varOf 13 rfl) rfl ?_
      exact w_iret (dk_Mod_varOf 14 rfl) rfl h
theorem g_Mod_operation_0 {d : Nat} {u : Us} {Q : Ot → Us → Prop} 
    (h : ∃ k1 : Nat, aI u 52 20 = nI k1 ∧ k1 < 152 ∧ (((aI u 63 k1) ≠ 3 → ∃ k2 : Nat, aI u 52 20 = nI k2 ∧ k2 < 152 ∧ (((aI u 63 k2) = 4 → ∃ k3 : Nat, aI u 52 20 = nI k3 ∧ k3 < 152 ∧ (((Int64.toInt32 (aL u 65 k3)) = 37 → Q (.inl (some (.int 22))) u) ∧ (((Int64.toInt32 (aL u 65 k3)) = 42 → Q (.inl (some (.int 20))) u) ∧ (((Int64.toInt32 (aL u 65 k3)) = 43 → Q (.inl (some (.int 18))) u) ∧ (((Int64.toInt32 (aL u 65 k3)) = 45 → Q (.inl (some (.int 19))) u) ∧ (((Int64.toInt32 (aL u 65 k3)) = 47 → Q (.inl (some (.int 21))) u) ∧ (((Int64.toInt32 (aL u 65 k3)) = 60 → Q (.inl (some (.int 14))) u) ∧ (((Int64.toInt32 (aL u 65 k3)) = 61 → Q (.inl (some (.int 12))) u) ∧ (((Int64.toInt32 (aL u 65 k3)) = 62 → Q (.inl (some (.int 16))) u) ∧ (((Int64.toInt32 (aL u 65 k3)) = 289 → Q (.inl (some (.int 13))) u) ∧ (((Int64.toInt32 (aL u 65 k3)) = 316 → Q (.inl (some (.int 15))) u) ∧ (((Int64.toInt32 (aL u 65 k3)) = 318 → Q (.inl (some (.int 17))) u) ∧ (((∀ v ∈ ([37, 42, 43, 45, 47, 60, 61, 62, 289, 316, 318] : List Int32), (Int64.toInt32 (aL u 65 k3)) ≠ v) → Q (.inl (some (.int 0))) u)))))))))))))) ∧ (¬ ((aI u 63 k2) = 4) → Q (.inl (some (.int 0))) u))) ∧ ((aI u 63 k1) = 3 → ∃ k16 : Nat, aI u 52 20 = nI k16 ∧ k16 < 152 ∧ (((aL u 65 k16) ≠ 14 → ∃ k17 : Nat, aI u 52 20 = nI k17 ∧ k17 < 152 ∧ (((aL u 65 k17) ≠ 13 → Q (.inl (some (.int 0))) u) ∧ ((aL u 65 k17) = 13 → Q (.inl (some (.int 11))) u))) ∧ ((aL u 65 k16) = 14 → Q (.inl (some (.int 10))) u))))) :
    WS d m_Mod_operation 0 [some (.ref 52), none] [] u Q := by
  refine w_aload_n (dk_Mod_operation 0 rfl) rfl ?_
  refine w_getr (dk_Mod_operation 1 rfl) lk_Mod_57 rfl rfl rfl ?_
  refine w_aload_n (dk_Mod_operation 2 rfl) rfl ?_
  refine w_geti (v := aI u 52 20) (dk_Mod_operation 3 rfl) lk_Mod_72 rfl rfl rfl ?_
  obtain ⟨k1, e_k1, l_k1, h⟩ := h
  refine w_iald (k_ := k1) (dk_Mod_operation 4 rfl) rfl (by decide) e_k1 l_k1 ?_
  refine w_iconst (v := 3) (dk_Mod_operation 5 rfl) rfl ?_
  refine w_icmp_ne 57 (dk_Mod_operation 6 rfl) (by decide) (fun c_ => ?_) (fun c_ => ?_)
  · replace h := h.1 c_
    refine w_aload_n (dk_Mod_operation 29 rfl) rfl ?_
    refine w_getr (dk_Mod_operation 30 rfl) lk_Mod_57 rfl rfl rfl ?_
    refine w_aload_n (dk_Mod_operation 31 rfl) rfl ?_
    refine w_geti (v := aI u 52 20) (dk_Mod_operation 32 rfl) lk_Mod_72 rfl rfl rfl ?_
    obtain ⟨k2, e_k2, l_k2, h⟩ := h
    refine w_iald (k_ := k2) (dk_Mod_operation 33 rfl) rfl (by decide) e_k2 l_k2 ?_
    refine w_iconst (v := 4) (dk_Mod_operation 34 rfl) rfl ?_
    refine w_icmp_eq 72 (dk_Mod_operation 35 rfl) (by decide) (fun c_ => ?_) (fun c_ => ?_)
    · replace h := h.1 c_
      refine w_aload_n (dk_Mod_operation 38 rfl) rfl ?_
      refine w_getr (dk_Mod_operation 39 rfl) lk_Mod_63 rfl rfl rfl ?_
      refine w_aload_n (dk_Mod_operation 40 rfl) rfl ?_
      refine w_geti (v := aI u 52 20) (dk_Mod_operation 41 rfl) lk_Mod_72 rfl rfl rfl ?_
      obtain ⟨k3, e_k3, l_k3, h⟩ := h
      refine w_lald (k_ := k3) (dk_Mod_operation 42 rfl) rfl (by decide) e_k3 l_k3 ?_
      refine w_l2i (dk_Mod_operation 43 rfl) ?_
      refine w_istore_n (ls' := [some (.ref 52), some (.int (Int64.toInt32 (aL u 65 k3)))]) (dk_Mod_operation 44 rfl) (by decide) rfl ?_
      refine w_iload_n (dk_Mod_operation 45 rfl) rfl ?_
      by_cases n4 : (Int64.toInt32 (aL u 65 k3)) = 37
      · replace h := h.1 n4
        refine w_lkI ds_Mod_operation_84 (by decide) 130 214 (by rw [n4]; decide) (by decide) ?_
        refine w_bipush (v := 22) (dk_Mod_operation 67 rfl) rfl ?_
        exact w_iret (dk_Mod_operation 68 rfl) rfl h
      replace h := h.2
      by_cases n5 : (Int64.toInt32 (aL u 65 k3)) = 42
      · replace h := h.1 n5
        refine w_lkI ds_Mod_operation_84 (by decide) 124 208 (by rw [n5]; decide) (by decide) ?_
        refine w_bipush (v := 20) (dk_Mod_operation 63 rfl) rfl ?_
        exact w_iret (dk_Mod_operation 64 rfl) rfl h
      replace h := h.2
      by_cases n6 : (Int64.toInt32 (aL u 65 k3)) = 43
      · replace h := h.1 n6
        refine w_lkI ds_Mod_operation_84 (by decide) 118 202 (by rw [n6]; decide) (by decide) ?_
        refine w_bipush (v := 18) (dk_Mod_operation 59 rfl) rfl ?_
        exact w_iret (dk_Mod_operation 60 rfl) rfl h
      replace h := h.2
      by_cases n7 : (Int64.toInt32 (aL u 65 k3)) = 45
      · replace h := h.1 n7
        refine w_lkI ds_Mod_operation_84 (by decide) 121 205 (by rw [n7]; decide) (by decide) ?_
        refine w_bipush (v := 19) (dk_Mod_operation 61 rfl) rfl ?_
        exact w_iret (dk_Mod_operation 62 rfl) rfl h
      replace h := h.2
      by_cases n8 : (Int64.toInt32 (aL u 65 k3)) = 47
      · replace h := h.1 n8
        refine w_lkI ds_Mod_operation_84 (by decide) 127 211 (by rw [n8]; decide) (by decide) ?_
        refine w_bipush (v := 21) (dk_Mod_operation 65 rfl) rfl ?_
        exact w_iret (dk_Mod_operation 66 rfl) rfl h
      replace h := h.2
      by_cases n9 : (Int64.toInt32 (aL u 65 k3)) = 60
      · replace h := h.1 n9
        refine w_lkI ds_Mod_operation_84 (by decide) 106 190 (by rw [n9]; decide) (by decide) ?_
        refine w_bipush (v := 14) (dk_Mod_operation 51 rfl) rfl ?_
        exact w_iret (dk_Mod_operation 52 rfl) rfl h
      replace h := h.2
      by_cases n10 : (Int64.toInt32 (aL u 65 k3)) = 61
      · replace h := h.1 n10
        refine w_lkI ds_Mod_operation_84 (by decide) 100 184 (by rw [n10]; decide) (by decide) ?_
        refine w_bipush (v := 12) (dk_Mod_operation 47 rfl) rfl ?_
        exact w_iret (dk_Mod_operation 48 rfl) rfl h
      replace h := h.2
      by_cases n11 : (Int64.toInt32 (aL u 65 k3)) = 62
      · replace h := h.1 n11
        refine w_lkI ds_Mod_operation_84 (by decide) 112 196 (by rw [n11]; decide) (by decide) ?_
        refine w_bipush (v := 16) (dk_Mod_operation 55 rfl) rfl ?_
        exact w_iret (dk_Mod_operation 56 rfl) rfl h
      replace h := h.2
      by_cases n12 : (Int64.toInt32 (aL u 65 k3)) = 289
      · replace h := h.1 n12
        refine w_lkI ds_Mod_operation_84 (by decide) 103 187 (by rw [n12]; decide) (by decide) ?_
        refine w_bipush (v := 13) (dk_Mod_operation 49 rfl) rfl ?_
        exact w_iret (dk_Mod_operation 50 rfl) rfl h
      replace h := h.2
      by_cases n13 : (Int64.toInt32 (aL u 65 k3)) = 316
      · replace h := h.1 n13
        refine w_lkI ds_Mod_operation_84 (by decide) 109 193 (by rw [n13]; decide) (by decide) ?_
        refine w_bipush (v := 15) (dk_Mod_operation 53 rfl) rfl ?_
        exact w_iret (dk_Mod_operation 54 rfl) rfl h
      replace h := h.2
      by_cases n14 : (Int64.toInt32 (aL u 65 k3)) = 318
      · replace h := h.1 n14
        refine w_lkI ds_Mod_operation_84 (by decide) 115 199 (by rw [n14]; decide) (by decide) ?_
        refine w_bipush (v := 17) (dk_Mod_operation 57 rfl) rfl ?_
        exact w_iret (dk_Mod_operation 58 rfl) rfl h
      replace h := h.2
      have hn15 : ∀ v ∈ ([37, 42, 43, 45, 47, 60, 61, 62, 289, 316, 318] : List Int32), (Int64.toInt32 (aL u 65 k3)) ≠ v := by
        intro v hv e_
        rw [← e_] at hv
        simp only [List.mem_cons, List.not_mem_nil, or_false] at hv
        rcases hv with hv | hv | hv | hv | hv | hv | hv | hv | hv | hv | hv
        · exact n4 hv
        · exact n5 hv
        · exact n6 hv
        · exact n7 hv
        · exact n8 hv
        · exact n9 hv
        · exact n10 hv
        · exact n11 hv
        · exact n12 hv
        · exact n13 hv
        · exact n14 hv
      replace h := h hn15
      refine w_lkD ds_Mod_operation_84 (by decide) 217 [37, 42, 43, 45, 47, 60, 61, 62, 289, 316, 318] (by decide) hn15 (by decide) ?_
      refine w_iconst (v := 0) (dk_Mod_operation 69 rfl) rfl ?_
      exact w_iret (dk_Mod_operation 70 rfl) rfl h
    · replace h := h.2 c_
      refine w_iconst (v := 0) (dk_Mod_operation 36 rfl) rfl ?_
      exact w_iret (dk_Mod_operation 37 rfl) rfl h
  · replace h := h.2 c_
    refine w_aload_n (dk_Mod_operation 7 rfl) rfl ?_
    refine w_getr (dk_Mod_operation 8 rfl) lk_Mod_63 rfl rfl rfl ?_
    refine w_aload_n (dk_Mod_operation 9 rfl) rfl ?_
    refine w_geti (v := aI u 52 20) (dk_Mod_operation 10 rfl) lk_Mod_72 rfl rfl rfl ?_
    obtain ⟨k16, e_k16, l_k16, h⟩ := h
    refine w_lald (k_ := k16) (dk_Mod_operation 11 rfl) rfl (by decide) e_k16 l_k16 ?_
    refine w_ldc2 (dk_Mod_operation 12 rfl) kl_Mod_253 ?_
    refine w_lcmp_ne 34 (dk_Mod_operation 13 rfl) (dk_Mod_operation 14 rfl) (by decide) (fun c_ => ?_) (fun c_ => ?_)
    · replace h := h.1 c_
      refine w_aload_n (dk_Mod_operation 17 rfl) rfl ?_
      refine w_getr (dk_Mod_operation 18 rfl) lk_Mod_63 rfl rfl rfl ?_
      refine w_aload_n (dk_Mod_operation 19 rfl) rfl ?_
      refine w_geti (v := aI u 52 20) (dk_Mod_operation 20 rfl) lk_Mod_72 rfl rfl rfl ?_
      obtain ⟨k17, e_k17, l_k17, h⟩ := h
      refine w_lald (k_ := k17) (dk_Mod_operation 21 rfl) rfl (by decide) e_k17 l_k17 ?_
      refine w_ldc2 (dk_Mod_operation 22 rfl) kl_Mod_255 ?_
      refine w_lcmp_ne 55 (dk_Mod_operation 23 rfl) (dk_Mod_operation 24 rfl) (by decide) (fun c_ => ?_) (fun c_ => ?_)
      · replace h := h.1 c_
        refine w_iconst (v := 0) (dk_Mod_operation 27 rfl) rfl ?_
        exact w_iret (dk_Mod_operation 28 rfl) rfl h
      · replace h := h.2 c_
        refine w_bipush (v := 11) (dk_Mod_operation 25 rfl) rfl ?_
        refine w_goto 56 (dk_Mod_operation 26 rfl) (by decide) ?_
        exact w_iret (dk_Mod_operation 28 rfl) rfl h
    · replace h := h.2 c_
      refine w_bipush (v := 10) (dk_Mod_operation 15 rfl) rfl ?_
      refine w_goto 56 (dk_Mod_operation 16 rfl) (by decide) ?_
      exact w_iret (dk_Mod_operation 28 rfl) rfl h
theorem g_Mod_binary_0 {d : Nat} {u : Us} {Q : Ot → Us → Prop} (p1 : Int32) (p2 : Int32)
    (h : WS d m_Mod_strength 0 [some (.int p2)] [] u (Ri (fun (r1 : Int32) (u2 : Us) => (r1 ≠ 4 → WS d m_Mod_unwind 0 [some (.ref 52), some (.int p1), some (.int (r1 - 1))] [] u2 (Rv (fun (u4 : Us) => (r1 ≠ 4 → ∃ k5 : Nat, aI u4 52 28 = nI k5 ∧ k5 < 160 ∧ (Q (.inl (some (.int 1))) (uI (uI (uI u4 68 k5 p2) 52 28 ((aI u4 52 28) + 1)) 52 20 ((aI u4 52 20) + 1)))) ∧ (r1 = 4 → ((aI u4 52 28) ≤ p1 → ∃ k6 : Nat, aI u4 52 28 = nI k6 ∧ k6 < 160 ∧ (Q (.inl (some (.int 1))) (uI (uI (uI u4 68 k6 p2) 52 28 ((aI u4 52 28) + 1)) 52 20 ((aI u4 52 20) + 1)))) ∧ (¬ ((aI u4 52 28) ≤ p1) → ∃ k7 : Nat, (aI u4 52 28) - 1 = nI k7 ∧ k7 < 160 ∧ (WS d m_Mod_strength 0 [some (.int (aI u4 68 k7))] [] u4 (Ri (fun (r8 : Int32) (u9 : Us) => (r8 ≠ 4 → ∃ k10 : Nat, aI u9 52 28 = nI k10 ∧ k10 < 160 ∧ (Q (.inl (some (.int 1))) (uI (uI (uI u9 68 k10 p2) 52 28 ((aI u9 52 28) + 1)) 52 20 ((aI u9 52 20) + 1)))) ∧ (r8 = 4 → WS d m_Mod_wrong 0 [some (.ref 52)] [] u9 (Ri (fun (r11 : Int32) (u12 : Us) => (r11 = 0 ∨ r11 = 1) ∧ Q (.inl (some (.int r11))) u12) (fun x u => Q (.inr x) u)))) (fun x u => Q (.inr x) u)))))) (fun x u => Q (.inr x) u))) ∧ (r1 = 4 → WS d m_Mod_unwind 0 [some (.ref 52), some (.int p1), some (.int 4)] [] u2 (Rv (fun (u14 : Us) => (r1 ≠ 4 → ∃ k15 : Nat, aI u14 52 28 = nI k15 ∧ k15 < 160 ∧ (Q (.inl (some (.int 1))) (uI (uI (uI u14 68 k15 p2) 52 28 ((aI u14 52 28) + 1)) 52 20 ((aI u14 52 20) + 1)))) ∧ (r1 = 4 → ((aI u14 52 28) ≤ p1 → ∃ k16 : Nat, aI u14 52 28 = nI k16 ∧ k16 < 160 ∧ (Q (.inl (some (.int 1))) (uI (uI (uI u14 68 k16 p2) 52 28 ((aI u14 52 28) + 1)) 52 20 ((aI u14 52 20) + 1)))) ∧ (¬ ((aI u14 52 28) ≤ p1) → ∃ k17 : Nat, (aI u14 52 28) - 1 = nI k17 ∧ k17 < 160 ∧ (WS d m_Mod_strength 0 [some (.int (aI u14 68 k17))] [] u14 (Ri (fun (r18 : Int32) (u19 : Us) => (r18 ≠ 4 → ∃ k20 : Nat, aI u19 52 28 = nI k20 ∧ k20 < 160 ∧ (Q (.inl (some (.int 1))) (uI (uI (uI u19 68 k20 p2) 52 28 ((aI u19 52 28) + 1)) 52 20 ((aI u19 52 20) + 1)))) ∧ (r18 = 4 → WS d m_Mod_wrong 0 [some (.ref 52)] [] u19 (Ri (fun (r21 : Int32) (u22 : Us) => (r21 = 0 ∨ r21 = 1) ∧ Q (.inl (some (.int r21))) u22) (fun x u => Q (.inr x) u)))) (fun x u => Q (.inr x) u)))))) (fun x u => Q (.inr x) u)))) (fun x u => Q (.inr x) u))) :
    WS (d + 1) m_Mod_binary 0 [some (.ref 52), some (.int p1), some (.int p2), none] [] u Q := by
  refine w_iload_n (dk_Mod_binary 0 rfl) rfl ?_
  refine w_callSi (ls' := [some (.int p2)]) cv_Mod_275 (dk_Mod_binary 1 rfl) [.int p2] [] rfl rfl (Nat.le_of_ble_eq_true rfl) (Nat.le_of_ble_eq_true rfl) rfl rfl rfl h (fun r1 u2 h => ?_)
  refine w_istore_n (ls' := [some (.ref 52), some (.int p1), some (.int p2), some (.int r1)]) (dk_Mod_binary 2 rfl) (by decide) rfl ?_
  refine w_aload_n (dk_Mod_binary 3 rfl) rfl ?_
  refine w_iload_n (dk_Mod_binary 4 rfl) rfl ?_
  refine w_iload_n (dk_Mod_binary 5 rfl) rfl ?_
  refine w_iconst (v := 4) (dk_Mod_binary 6 rfl) rfl ?_
  refine w_icmp_ne 16 (dk_Mod_binary 7 rfl) (by decide) (fun c_ => ?_) (fun c_ => ?_)
  · replace h := h.1 c_
    refine w_iload_n (dk_Mod_binary 10 rfl) rfl ?_
    refine w_iconst (v := 1) (dk_Mod_binary 11 rfl) rfl ?_
    refine w_isub (dk_Mod_binary 12 rfl) ?_
    refine w_callVv (ls' := [some (.ref 52), some (.int p1), some (.int (r1 - 1))]) cv_Mod_271 (dk_Mod_binary 13 rfl) (ci := 10) rfl rfl [.int p1, .int (r1 - 1)] [] rfl rfl (Nat.le_of_ble_eq_true rfl) (Nat.le_of_ble_eq_true rfl) rfl rfl rfl h (fun u4 h => ?_)
    refine w_iload_n (dk_Mod_binary 14 rfl) rfl ?_
    refine w_iconst (v := 4) (dk_Mod_binary 15 rfl) rfl ?_
    refine w_icmp_ne 58 (dk_Mod_binary 16 rfl) (by decide) (fun c_ => ?_) (fun c_ => ?_)
    · replace h := h.1 c_
      refine w_aload_n (dk_Mod_binary 34 rfl) rfl ?_
      refine w_getr (dk_Mod_binary 35 rfl) lk_Mod_94 rfl rfl rfl ?_
      refine w_aload_n (dk_Mod_binary 36 rfl) rfl ?_
      refine w_geti (v := aI u4 52 28) (dk_Mod_binary 37 rfl) lk_Mod_97 rfl rfl rfl ?_
      refine w_iload_n (dk_Mod_binary 38 rfl) rfl ?_
      obtain ⟨k5, e_k5, l_k5, h⟩ := h
      refine w_iast (k_ := k5) (dk_Mod_binary 39 rfl) rfl (by decide) e_k5 l_k5 ?_
      refine w_aload_n (dk_Mod_binary 40 rfl) rfl ?_
      refine w_dup (dk_Mod_binary 41 rfl) rfl ?_
      refine w_geti (v := aI u4 52 28) (dk_Mod_binary 42 rfl) lk_Mod_97 rfl rfl rfl ?_
      refine w_iconst (v := 1) (dk_Mod_binary 43 rfl) rfl ?_
      refine w_iadd (dk_Mod_binary 44 rfl) ?_
      refine w_puti (dk_Mod_binary 45 rfl) lk_Mod_97 rfl rfl ?_
      refine w_aload_n (dk_Mod_binary 46 rfl) rfl ?_
      refine w_dup (dk_Mod_binary 47 rfl) rfl ?_
      refine w_geti (v := aI u4 52 20) (dk_Mod_binary 48 rfl) lk_Mod_72 rfl rfl rfl ?_
      refine w_iconst (v := 1) (dk_Mod_binary 49 rfl) rfl ?_
      refine w_iadd (dk_Mod_binary 50 rfl) ?_
      refine w_puti (dk_Mod_binary 51 rfl) lk_Mod_72 rfl rfl ?_
      refine w_iconst (v := 1) (dk_Mod_binary 52 rfl) rfl ?_
      exact w_bret (dk_Mod_binary 53 rfl) rfl (Or.inr rfl) h
    · replace h := h.2 c_
      refine w_aload_n (dk_Mod_binary 17 rfl) rfl ?_
      refine w_geti (v := aI u4 52 28) (dk_Mod_binary 18 rfl) lk_Mod_97 rfl rfl rfl ?_
      refine w_iload_n (dk_Mod_binary 19 rfl) rfl ?_
      refine w_icmp_le 58 (dk_Mod_binary 20 rfl) (by decide) (fun c_ => ?_) (fun c_ => ?_)
      · replace h := h.1 c_
        refine w_aload_n (dk_Mod_binary 34 rfl) rfl ?_
        refine w_getr (dk_Mod_binary 35 rfl) lk_Mod_94 rfl rfl rfl ?_
        refine w_aload_n (dk_Mod_binary 36 rfl) rfl ?_
        refine w_geti (v := aI u4 52 28) (dk_Mod_binary 37 rfl) lk_Mod_97 rfl rfl rfl ?_
        refine w_iload_n (dk_Mod_binary 38 rfl) rfl ?_
        obtain ⟨k6, e_k6, l_k6, h⟩ := h
        refine w_iast (k_ := k6) (dk_Mod_binary 39 rfl) rfl (by decide) e_k6 l_k6 ?_
        refine w_aload_n (dk_Mod_binary 40 rfl) rfl ?_
        refine w_dup (dk_Mod_binary 41 rfl) rfl ?_
        refine w_geti (v := aI u4 52 28) (dk_Mod_binary 42 rfl) lk_Mod_97 rfl rfl rfl ?_
        refine w_iconst (v := 1) (dk_Mod_binary 43 rfl) rfl ?_
        refine w_iadd (dk_Mod_binary 44 rfl) ?_
        refine w_puti (dk_Mod_binary 45 rfl) lk_Mod_97 rfl rfl ?_
        refine w_aload_n (dk_Mod_binary 46 rfl) rfl ?_
        refine w_dup (dk_Mod_binary 47 rfl) rfl ?_
        refine w_geti (v := aI u4 52 20) (dk_Mod_binary 48 rfl) lk_Mod_72 rfl rfl rfl ?_
        refine w_iconst (v := 1) (dk_Mod_binary 49 rfl) rfl ?_
        refine w_iadd (dk_Mod_binary 50 rfl) ?_
        refine w_puti (dk_Mod_binary 51 rfl) lk_Mod_72 rfl rfl ?_
        refine w_iconst (v := 1) (dk_Mod_binary 52 rfl) rfl ?_
        exact w_bret (dk_Mod_binary 53 rfl) rfl (Or.inr rfl) h
      · replace h := h.2 c_
        refine w_aload_n (dk_Mod_binary 21 rfl) rfl ?_
        refine w_getr (dk_Mod_binary 22 rfl) lk_Mod_94 rfl rfl rfl ?_
        refine w_aload_n (dk_Mod_binary 23 rfl) rfl ?_
        refine w_geti (v := aI u4 52 28) (dk_Mod_binary 24 rfl) lk_Mod_97 rfl rfl rfl ?_
        refine w_iconst (v := 1) (dk_Mod_binary 25 rfl) rfl ?_
        refine w_isub (dk_Mod_binary 26 rfl) ?_
        obtain ⟨k7, e_k7, l_k7, h⟩ := h
        refine w_iald (k_ := k7) (dk_Mod_binary 27 rfl) rfl (by decide) e_k7 l_k7 ?_
        refine w_callSi (ls' := [some (.int (aI u4 68 k7))]) cv_Mod_275 (dk_Mod_binary 28 rfl) [.int (aI u4 68 k7)] [] rfl rfl (Nat.le_of_ble_eq_true rfl) (Nat.le_of_ble_eq_true rfl) rfl rfl rfl h (fun r8 u9 h => ?_)
        refine w_iconst (v := 4) (dk_Mod_binary 29 rfl) rfl ?_
        refine w_icmp_ne 58 (dk_Mod_binary 30 rfl) (by decide) (fun c_ => ?_) (fun c_ => ?_)
        · replace h := h.1 c_
          refine w_aload_n (dk_Mod_binary 34 rfl) rfl ?_
          refine w_getr (dk_Mod_binary 35 rfl) lk_Mod_94 rfl rfl rfl ?_
          refine w_aload_n (dk_Mod_binary 36 rfl) rfl ?_
          refine w_geti (v := aI u9 52 28) (dk_Mod_binary 37 rfl) lk_Mod_97 rfl rfl rfl ?_
          refine w_iload_n (dk_Mod_binary 38 rfl) rfl ?_
          obtain ⟨k10, e_k10, l_k10, h⟩ := h
          refine w_iast (k_ := k10) (dk_Mod_binary 39 rfl) rfl (by decide) e_k10 l_k10 ?_
          refine w_aload_n (dk_Mod_binary 40 rfl) rfl ?_
          refine w_dup (dk_Mod_binary 41 rfl) rfl ?_
          refine w_geti (v := aI u9 52 28) (dk_Mod_binary 42 rfl) lk_Mod_97 rfl rfl rfl ?_
          refine w_iconst (v := 1) (dk_Mod_binary 43 rfl) rfl ?_
          refine w_iadd (dk_Mod_binary 44 rfl) ?_
          refine w_puti (dk_Mod_binary 45 rfl) lk_Mod_97 rfl rfl ?_
          refine w_aload_n (dk_Mod_binary 46 rfl) rfl ?_
          refine w_dup (dk_Mod_binary 47 rfl) rfl ?_
          refine w_geti (v := aI u9 52 20) (dk_Mod_binary 48 rfl) lk_Mod_72 rfl rfl rfl ?_
          refine w_iconst (v := 1) (dk_Mod_binary 49 rfl) rfl ?_
          refine w_iadd (dk_Mod_binary 50 rfl) ?_
          refine w_puti (dk_Mod_binary 51 rfl) lk_Mod_72 rfl rfl ?_
          refine w_iconst (v := 1) (dk_Mod_binary 52 rfl) rfl ?_
          exact w_bret (dk_Mod_binary 53 rfl) rfl (Or.inr rfl) h
        · replace h := h.2 c_
          refine w_aload_n (dk_Mod_binary 31 rfl) rfl ?_
          refine w_callVi (ls' := [some (.ref 52)]) cv_Mod_235 (dk_Mod_binary 32 rfl) (ci := 10) rfl rfl [] [] rfl rfl (Nat.le_of_ble_eq_true rfl) (Nat.le_of_ble_eq_true rfl) rfl rfl rfl h (fun r11 u12 h => ?_)
          exact w_bret (dk_Mod_binary 33 rfl) rfl h.1 h.2
  · replace h := h.2 c_
    refine w_iconst (v := 4) (dk_Mod_binary 8 rfl) rfl ?_
    refine w_goto 19 (dk_Mod_binary 9 rfl) (by decide) ?_
    refine w_callVv (ls' := [some (.ref 52), some (.int p1), some (.int 4)]) cv_Mod_271 (dk_Mod_binary 13 rfl) (ci := 10) rfl rfl [.int p1, .int 4] [] rfl rfl (Nat.le_of_ble_eq_true rfl) (Nat.le_of_ble_eq_true rfl) rfl rfl rfl h (fun u14 h => ?_)
    refine w_iload_n (dk_Mod_binary 14 rfl) rfl ?_
    refine w_iconst (v := 4) (dk_Mod_binary 15 rfl) rfl ?_
    refine w_icmp_ne 58 (dk_Mod_binary 16 rfl) (by decide) (fun c_ => ?_) (fun c_ => ?_)
    · replace h := h.1 c_
      refine w_aload_n (dk_Mod_binary 34 rfl) rfl ?_
      refine w_getr (dk_Mod_binary 35 rfl) lk_Mod_94 rfl rfl rfl ?_
      refine w_aload_n (dk_Mod_binary 36 rfl) rfl ?_
      refine w_geti (v := aI u14 52 28) (dk_Mod_binary 37 rfl) lk_Mod_97 rfl rfl rfl ?_
      refine w_iload_n (dk_Mod_binary 38 rfl) rfl ?_
      obtain ⟨k15, e_k15, l_k15, h⟩ := h
      refine w_iast (k_ := k15) (dk_Mod_binary 39 rfl) rfl (by decide) e_k15 l_k15 ?_
      refine w_aload_n (dk_Mod_binary 40 rfl) rfl ?_
      refine w_dup (dk_Mod_binary 41 rfl) rfl ?_
      refine w_geti (v := aI u14 52 28) (dk_Mod_binary 42 rfl) lk_Mod_97 rfl rfl rfl ?_
      refine w_iconst (v := 1) (dk_Mod_binary 43 rfl) rfl ?_
      refine w_iadd (dk_Mod_binary 44 rfl) ?_
      refine w_puti (dk_Mod_binary 45 rfl) lk_Mod_97 rfl rfl ?_
      refine w_aload_n (dk_Mod_binary 46 rfl) rfl ?_
      refine w_dup (dk_Mod_binary 47 rfl) rfl ?_
      refine w_geti (v := aI u14 52 20) (dk_Mod_binary 48 rfl) lk_Mod_72 rfl rfl rfl ?_
      refine w_iconst (v := 1) (dk_Mod_binary 49 rfl) rfl ?_
      refine w_iadd (dk_Mod_binary 50 rfl) ?_
      refine w_puti (dk_Mod_binary 51 rfl) lk_Mod_72 rfl rfl ?_
      refine w_iconst (v := 1) (dk_Mod_binary 52 rfl) rfl ?_
      exact w_bret (dk_Mod_binary 53 rfl) rfl (Or.inr rfl) h
    · replace h := h.2 c_
      refine w_aload_n (dk_Mod_binary 17 rfl) rfl ?_
      refine w_geti (v := aI u14 52 28) (dk_Mod_binary 18 rfl) lk_Mod_97 rfl rfl rfl ?_
      refine w_iload_n (dk_Mod_binary 19 rfl) rfl ?_
      refine w_icmp_le 58 (dk_Mod_binary 20 rfl) (by decide) (fun c_ => ?_) (fun c_ => ?_)
      · replace h := h.1 c_
        refine w_aload_n (dk_Mod_binary 34 rfl) rfl ?_
        refine w_getr (dk_Mod_binary 35 rfl) lk_Mod_94 rfl rfl rfl ?_
        refine w_aload_n (dk_Mod_binary 36 rfl) rfl ?_
        refine w_geti (v := aI u14 52 28) (dk_Mod_binary 37 rfl) lk_Mod_97 rfl rfl rfl ?_
        refine w_iload_n (dk_Mod_binary 38 rfl) rfl ?_
        obtain ⟨k16, e_k16, l_k16, h⟩ := h
        refine w_iast (k_ := k16) (dk_Mod_binary 39 rfl) rfl (by decide) e_k16 l_k16 ?_
        refine w_aload_n (dk_Mod_binary 40 rfl) rfl ?_
        refine w_dup (dk_Mod_binary 41 rfl) rfl ?_
        refine w_geti (v := aI u14 52 28) (dk_Mod_binary 42 rfl) lk_Mod_97 rfl rfl rfl ?_
        refine w_iconst (v := 1) (dk_Mod_binary 43 rfl) rfl ?_
        refine w_iadd (dk_Mod_binary 44 rfl) ?_
        refine w_puti (dk_Mod_binary 45 rfl) lk_Mod_97 rfl rfl ?_
        refine w_aload_n (dk_Mod_binary 46 rfl) rfl ?_
        refine w_dup (dk_Mod_binary 47 rfl) rfl ?_
        refine w_geti (v := aI u14 52 20) (dk_Mod_binary 48 rfl) lk_Mod_72 rfl rfl rfl ?_
        refine w_iconst (v := 1) (dk_Mod_binary 49 rfl) rfl ?_
        refine w_iadd (dk_Mod_binary 50 rfl) ?_
        refine w_puti (dk_Mod_binary 51 rfl) lk_Mod_72 rfl rfl ?_
        refine w_iconst (v := 1) (dk_Mod_binary 52 rfl) rfl ?_
        exact w_bret (dk_Mod_binary 53 rfl) rfl (Or.inr rfl) h
      · replace h := h.2 c_
        refine w_aload_n (dk_Mod_binary 21 rfl) rfl ?_
        refine w_getr (dk_Mod_binary 22 rfl) lk_Mod_94 rfl rfl rfl ?_
        refine w_aload_n (dk_Mod_binary 23 rfl) rfl ?_
        refine w_geti (v := aI u14 52 28) (dk_Mod_binary 24 rfl) lk_Mod_97 rfl rfl rfl ?_
        refine w_iconst (v := 1) (dk_Mod_binary 25 rfl) rfl ?_
        refine w_isub (dk_Mod_binary 26 rfl) ?_
        obtain ⟨k17, e_k17, l_k17, h⟩ := h
        refine w_iald (k_ := k17) (dk_Mod_binary 27 rfl) rfl (by decide) e_k17 l_k17 ?_
        refine w_callSi (ls' := [some (.int (aI u14 68 k17))]) cv_Mod_275 (dk_Mod_binary 28 rfl) [.int (aI u14 68 k17)] [] rfl rfl (Nat.le_of_ble_eq_true rfl) (Nat.le_of_ble_eq_true rfl) rfl rfl rfl h (fun r18 u19 h => ?_)
        refine w_iconst (v := 4) (dk_Mod_binary 29 rfl) rfl ?_
        refine w_icmp_ne 58 (dk_Mod_binary 30 rfl) (by decide) (fun c_ => ?_) (fun c_ => ?_)
        · replace h := h.1 c_
          refine w_aload_n (dk_Mod_binary 34 rfl) rfl ?_
          refine w_getr (dk_Mod_binary 35 rfl) lk_Mod_94 rfl rfl rfl ?_
          refine w_aload_n (dk_Mod_binary 36 rfl) rfl ?_
          refine w_geti (v := aI u19 52 28) (dk_Mod_binary 37 rfl) lk_Mod_97 rfl rfl rfl ?_
          refine w_iload_n (dk_Mod_binary 38 rfl) rfl ?_
          obtain ⟨k20, e_k20, l_k20, h⟩ := h
          refine w_iast (k_ := k20) (dk_Mod_binary 39 rfl) rfl (by decide) e_k20 l_k20 ?_
          refine w_aload_n (dk_Mod_binary 40 rfl) rfl ?_
          refine w_dup (dk_Mod_binary 41 rfl) rfl ?_
          refine w_geti (v := aI u19 52 28) (dk_Mod_binary 42 rfl) lk_Mod_97 rfl rfl rfl ?_
          refine w_iconst (v := 1) (dk_Mod_binary 43 rfl) rfl ?_
          refine w_iadd (dk_Mod_binary 44 rfl) ?_
          refine w_puti (dk_Mod_binary 45 rfl) lk_Mod_97 rfl rfl ?_
          refine w_aload_n (dk_Mod_binary 46 rfl) rfl ?_
          refine w_dup (dk_Mod_binary 47 rfl) rfl ?_
          refine w_geti (v := aI u19 52 20) (dk_Mod_binary 48 rfl) lk_Mod_72 rfl rfl rfl ?_
          refine w_iconst (v := 1) (dk_Mod_binary 49 rfl) rfl ?_
          refine w_iadd (dk_Mod_binary 50 rfl) ?_
          refine w_puti (dk_Mod_binary 51 rfl) lk_Mod_72 rfl rfl ?_
          refine w_iconst (v := 1) (dk_Mod_binary 52 rfl) rfl ?_
          exact w_bret (dk_Mod_binary 53 rfl) rfl (Or.inr rfl) h
        · replace h := h.2 c_
          refine w_aload_n (dk_Mod_binary 31 rfl) rfl ?_
          refine w_callVi (ls' := [some (.ref 52)]) cv_Mod_235 (dk_Mod_binary 32 rfl) (ci := 10) rfl rfl [] [] rfl rfl (Nat.le_of_ble_eq_true rfl) (Nat.le_of_ble_eq_true rfl) rfl rfl rfl h (fun r21 u22 h => ?_)
          exact w_bret (dk_Mod_binary 33 rfl) rfl h.1 h.2
theorem g_Mod_unwind_0 {d : Nat} {u : Us} {Q : Ot → Us → Prop} (x1 : Int32) (x2 : Int32)
    (h : ((aI u 52 28) ≤ x1 → Q (.inl none) u) ∧ (¬ ((aI u 52 28) ≤ x1) → ∃ k1 : Nat, (aI u 52 28) - 1 = nI k1 ∧ k1 < 160 ∧ (WS d m_Mod_strength 0 [some (.int (aI u 68 k1))] [] u (Ri (fun (r2 : Int32) (u3 : Us) => (r2 ≤ x2 → Q (.inl none) u3) ∧ (¬ (r2 ≤ x2) → ∃ k4 : Nat, (aI u3 52 28) - 1 = nI k4 ∧ k4 < 160 ∧ (WS d m_Mod_emit 0 [some (.ref 52), some (.int (aI u3 68 k4))] [] (uI u3 52 28 ((aI u3 52 28) - 1)) (Rv (fun (u6 : Us) => WS (d + 1) m_Mod_unwind 0 [some (.ref 52), some (.int x1), some (.int x2)] [] u6 Q) (fun x u => Q (.inr x) u))))) (fun x u => Q (.inr x) u))))) :
    WS (d + 1) m_Mod_unwind 0 [some (.ref 52), some (.int x1), some (.int x2)] [] u Q := by
  refine w_aload_n (dk_Mod_unwind 0 rfl) rfl ?_
  refine w_geti (v := aI u 52 28) (dk_Mod_unwind 1 rfl) lk_Mod_97 rfl rfl rfl ?_
  refine w_iload_n (dk_Mod_unwind 2 rfl) rfl ?_
  refine w_icmp_le 52 (dk_Mod_unwind 3 rfl) (by decide) (fun c_ => ?_) (fun c_ => ?_)
  · replace h := h.1 c_
    exact w_vret (dk_Mod_unwind 28 rfl) rfl h
  · replace h := h.2 c_
    refine w_aload_n (dk_Mod_unwind 4 rfl) rfl ?_
    refine w_getr (dk_Mod_unwind 5 rfl) lk_Mod_94 rfl rfl rfl ?_
    refine w_aload_n (dk_Mod_unwind 6 rfl) rfl ?_
    refine w_geti (v := aI u 52 28) (dk_Mod_unwind 7 rfl) lk_Mod_97 rfl rfl rfl ?_
    refine w_iconst (v := 1) (dk_Mod_unwind 8 rfl) rfl ?_
    refine w_isub (dk_Mod_unwind 9 rfl) ?_
    obtain ⟨k1, e_k1, l_k1, h⟩ := h
    refine w_iald (k_ := k1) (dk_Mod_unwind 10 rfl) rfl (by decide) e_k1 l_k1 ?_
    refine w_callSi (ls' := [some (.int (aI u 68 k1))]) cv_Mod_275 (dk_Mod_unwind 11 rfl) [.int (aI u 68 k1)] [] rfl rfl (Nat.le_of_ble_eq_true rfl) (Nat.le_of_ble_eq_true rfl) rfl rfl rfl h (fun r2 u3 h => ?_)
    refine w_iload_n (dk_Mod_unwind 12 rfl) rfl ?_
    refine w_icmp_le 52 (dk_Mod_unwind 13 rfl) (by decide) (fun c_ => ?_) (fun c_ => ?_)
    · replace h := h.1 c_
      exact w_vret (dk_Mod_unwind 28 rfl) rfl h
    · replace h := h.2 c_
      refine w_aload_n (dk_Mod_unwind 14 rfl) rfl ?_
      refine w_dup (dk_Mod_unwind 15 rfl) rfl ?_
      refine w_geti (v := aI u3 52 28) (dk_Mod_unwind 16 rfl) lk_Mod_97 rfl rfl rfl ?_
      refine w_iconst (v := 1) (dk_Mod_unwind 17 rfl) rfl ?_
      refine w_isub (dk_Mod_unwind 18 rfl) ?_
      refine w_puti (dk_Mod_unwind 19 rfl) lk_Mod_97 rfl rfl ?_
      refine w_aload_n (dk_Mod_unwind 20 rfl) rfl ?_
      refine w_aload_n (dk_Mod_unwind 21 rfl) rfl ?_
      refine w_getr (dk_Mod_unwind 22 rfl) lk_Mod_94 rfl rfl rfl ?_
      refine w_aload_n (dk_Mod_unwind 23 rfl) rfl ?_
      refine w_geti (v := (aI u3 52 28) - 1) (dk_Mod_unwind 24 rfl) lk_Mod_97 rfl rfl rfl ?_
      obtain ⟨k4, e_k4, l_k4, h⟩ := h
      refine w_iald (k_ := k4) (dk_Mod_unwind 25 rfl) rfl (by decide) e_k4 l_k4 ?_
      show WS _ _ _ _ [.int (aI u3 68 k4), .ref 52] _ _
      refine w_callVv (ls' := [some (.ref 52), some (.int (aI u3 68 k4))]) cv_Mod_278 (dk_Mod_unwind 26 rfl) (ci := 10) rfl rfl [.int (aI u3 68 k4)] [] rfl rfl (Nat.le_of_ble_eq_true rfl) (Nat.le_of_ble_eq_true rfl) rfl rfl rfl h (fun u6 h => ?_)
      refine w_goto 0 (dk_Mod_unwind 27 rfl) (by decide) ?_
      exact h
theorem g_Mod_closes_0 {d : Nat} {u : Us} {Q : Ot → Us → Prop} (p1 : Int32)
    (h : WS d m_Mod_unwind 0 [some (.ref 52), some (.int p1), some (.int 0)] [] u (Rv (fun (u2 : Us) => ((aI u2 52 28) ≠ p1 → ∃ k3 : Nat, (aI u2 52 28) - 1 = nI k3 ∧ k3 < 160 ∧ (((aI u2 68 k3) ≠ 2 → Q (.inl (some (.int 1))) (uI (uI u2 52 28 ((aI u2 52 28) - 1)) 52 26 ((aI u2 52 26) - 1))) ∧ ((aI u2 68 k3) = 2 → WS d m_Mod_emit 0 [some (.ref 52), some (.int 31)] [] (uI (uI u2 52 28 ((aI u2 52 28) - 1)) 52 26 ((aI u2 52 26) - 1)) (Rv (fun (u5 : Us) => Q (.inl (some (.int 1))) (uI u5 52 29 (-1))) (fun x u => Q (.inr x) u))))) ∧ ((aI u2 52 28) = p1 → Q (.inl (some (.int 0))) u2)) (fun x u => Q (.inr x) u))) :
    WS (d + 1) m_Mod_closes 0 [some (.ref 52), some (.int p1)] [] u Q := by
  refine w_aload_n (dk_Mod_closes 0 rfl) rfl ?_
  refine w_iload_n (dk_Mod_closes 1 rfl) rfl ?_
  refine w_iconst (v := 0) (dk_Mod_closes 2 rfl) rfl ?_
  refine w_callVv (ls' := [some (.ref 52), some (.int p1), some (.int 0)]) cv_Mod_271 (dk_Mod_closes 3 rfl) (ci := 10) rfl rfl [.int p1, .int 0] [] rfl rfl (Nat.le_of_ble_eq_true rfl) (Nat.le_of_ble_eq_true rfl) rfl rfl rfl h (fun u2 h => ?_)
  refine w_aload_n (dk_Mod_closes 4 rfl) rfl ?_
  refine w_geti (v := aI u2 52 28) (dk_Mod_closes 5 rfl) lk_Mod_97 rfl rfl rfl ?_
  refine w_iload_n (dk_Mod_closes 6 rfl) rfl ?_
  refine w_icmp_ne 16 (dk_Mod_closes 7 rfl) (by decide) (fun c_ => ?_) (fun c_ => ?_)
  · replace h := h.1 c_
    refine w_aload_n (dk_Mod_closes 10 rfl) rfl ?_
    refine w_dup (dk_Mod_closes 11 rfl) rfl ?_
    refine w_geti (v := aI u2 52 28) (dk_Mod_closes 12 rfl) lk_Mod_97 rfl rfl rfl ?_
    refine w_iconst (v := 1) (dk_Mod_closes 13 rfl) rfl ?_
    refine w_isub (dk_Mod_closes 14 rfl) ?_
    refine w_puti (dk_Mod_closes 15 rfl) lk_Mod_97 rfl rfl ?_
    refine w_aload_n (dk_Mod_closes 16 rfl) rfl ?_
    refine w_dup (dk_Mod_closes 17 rfl) rfl ?_
    refine w_geti (v := aI u2 52 26) (dk_Mod_closes 18 rfl) lk_Mod_91 rfl rfl rfl ?_
    refine w_iconst (v := 1) (dk_Mod_closes 19 rfl) rfl ?_
    refine w_isub (dk_Mod_closes 20 rfl) ?_
    refine w_puti (dk_Mod_closes 21 rfl) lk_Mod_91 rfl rfl ?_
    refine w_aload_n (dk_Mod_closes 22 rfl) rfl ?_
    refine w_getr (dk_Mod_closes 23 rfl) lk_Mod_94 rfl rfl rfl ?_
    refine w_aload_n (dk_Mod_closes 24 rfl) rfl ?_
    refine w_geti (v := (aI u2 52 28) - 1) (dk_Mod_closes 25 rfl) lk_Mod_97 rfl rfl rfl ?_
    obtain ⟨k3, e_k3, l_k3, h⟩ := h
    refine w_iald (k_ := k3) (dk_Mod_closes 26 rfl) rfl (by decide) e_k3 l_k3 ?_
    show WS _ _ _ _ [.int (aI u2 68 k3)] _ _
    refine w_iconst (v := 2) (dk_Mod_closes 27 rfl) rfl ?_
    refine w_icmp_ne 60 (dk_Mod_closes 28 rfl) (by decide) (fun c_ => ?_) (fun c_ => ?_)
    · replace h := h.1 c_
      refine w_iconst (v := 1) (dk_Mod_closes 35 rfl) rfl ?_
      exact w_bret (dk_Mod_closes 36 rfl) rfl (Or.inr rfl) h
    · replace h := h.2 c_
      refine w_aload_n (dk_Mod_closes 29 rfl) rfl ?_
      refine w_bipush (v := 31) (dk_Mod_closes 30 rfl) rfl ?_
      refine w_callVv (ls' := [some (.ref 52), some (.int 31)]) cv_Mod_278 (dk_Mod_closes 31 rfl) (ci := 10) rfl rfl [.int 31] [] rfl rfl (Nat.le_of_ble_eq_true rfl) (Nat.le_of_ble_eq_true rfl) rfl rfl rfl h (fun u5 h => ?_)
      refine w_aload_n (dk_Mod_closes 32 rfl) rfl ?_
      refine w_iconst (v := (-1)) (dk_Mod_closes 33 rfl) rfl ?_
      refine w_puti (dk_Mod_closes 34 rfl) lk_Mod_100 rfl rfl ?_
      refine w_iconst (v := 1) (dk_Mod_closes 35 rfl) rfl ?_
      exact w_bret (dk_Mod_closes 36 rfl) rfl (Or.inr rfl) h
  · replace h := h.2 c_
    refine w_iconst (v := 0) (dk_Mod_closes 8 rfl) rfl ?_
    exact w_bret (dk_Mod_closes 9 rfl) rfl (Or.inl rfl) h
theorem g_Mod_newKind_0 {d : Nat} {u : Us} {Q : Ot → Us → Prop} 
    (h : ∃ k1 : Nat, (aI u 52 20) + 1 = nI k1 ∧ k1 < 152 ∧ (((aI u 63 k1) ≠ 1 → WS d m_Mod_wrong 0 [some (.ref 52)] [] (uI u 52 20 ((aI u 52 20) + 1)) (Ri (fun (r2 : Int32) (u3 : Us) => (r2 = 0 ∨ r2 = 1) ∧ Q (.inl (some (.int r2))) u3) (fun x u => Q (.inr x) u))) ∧ ((aI u 63 k1) = 1 → ∃ k4 : Nat, (aI u 52 20) + 1 = nI k4 ∧ k4 < 152 ∧ (WS d m_Mod_kindOf 0 [some (.ref 52), some (.long (aL u 65 k4)), none, none] [] (uI u 52 20 ((aI u 52 20) + 1)) (Ri (fun (r5 : Int32) (u6 : Us) => (0 ≤ r5 → WS d m_Mod_wrong 0 [some (.ref 52)] [] u6 (Ri (fun (r7 : Int32) (u8 : Us) => (r7 = 0 ∨ r7 = 1) ∧ Q (.inl (some (.int r7))) u8) (fun x u => Q (.inr x) u))) ∧ (¬ (0 ≤ r5) → ∃ k9 : Nat, aI u6 52 20 = nI k9 ∧ k9 < 152 ∧ (WS d m_Mod_varOf 0 [some (.ref 52), some (.long (aL u6 65 k9)), none, none] [] u6 (Ri (fun (r10 : Int32) (u11 : Us) => (0 ≤ r10 → WS d m_Mod_wrong 0 [some (.ref 52)] [] u11 (Ri (fun (r12 : Int32) (u13 : Us) => (r12 = 0 ∨ r12 = 1) ∧ Q (.inl (some (.int r12))) u13) (fun x u => Q (.inr x) u))) ∧ (¬ (0 ≤ r10) → ((aI u11 52 3) ≠ 7 → ∃ k14 : Nat, aI u11 52 20 = nI k14 ∧ k14 < 152 ∧ (∃ k15 : Nat, aI u11 52 3 = nI k15 ∧ k15 < 7 ∧ (∃ k16 : Nat, aI u11 52 3 = nI k16 ∧ k16 < 7 ∧ (WS (d + 1) m_Mod_newKind 110 [some (.ref 52), some (.int (aI u11 52 3)), some (.int 0), some (.int 1)] [] (uI (uI (uL u11 54 k15 (aL u11 65 k14)) 55 k16 0) 52 20 ((aI u11 52 20) + 1)) Q)))) ∧ ((aI u11 52 3) = 7 → WS d m_Mod_wrong 0 [some (.ref 52)] [] u11 (Ri (fun (r17 : Int32) (u18 : Us) => (r17 = 0 ∨ r17 = 1) ∧ Q (.inl (some (.int r17))) u18) (fun x u => Q (.inr x) u))))) (fun x u => Q (.inr x) u))))) (fun x u => Q (.inr x) u)))))) :
    WS (d + 1) m_Mod_newKind 0 [some (.ref 52), none, none, none] [] u Q := by
  refine w_aload_n (dk_Mod_newKind 0 rfl) rfl ?_
  refine w_dup (dk_Mod_newKind 1 rfl) rfl ?_
  refine w_geti (v := aI u 52 20) (dk_Mod_newKind 2 rfl) lk_Mod_72 rfl rfl rfl ?_
  refine w_iconst (v := 1) (dk_Mod_newKind 3 rfl) rfl ?_
  refine w_iadd (dk_Mod_newKind 4 rfl) ?_
  refine w_puti (dk_Mod_newKind 5 rfl) lk_Mod_72 rfl rfl ?_
  refine w_aload_n (dk_Mod_newKind 6 rfl) rfl ?_
  refine w_getr (dk_Mod_newKind 7 rfl) lk_Mod_57 rfl rfl rfl ?_
  refine w_aload_n (dk_Mod_newKind 8 rfl) rfl ?_
  refine w_geti (v := (aI u 52 20) + 1) (dk_Mod_newKind 9 rfl) lk_Mod_72 rfl rfl rfl ?_
  obtain ⟨k1, e_k1, l_k1, h⟩ := h
  refine w_iald (k_ := k1) (dk_Mod_newKind 10 rfl) rfl (by decide) e_k1 l_k1 ?_
  show WS _ _ _ _ [.int (aI u 63 k1)] _ _
  refine w_iconst (v := 1) (dk_Mod_newKind 11 rfl) rfl ?_
  refine w_icmp_ne 64 (dk_Mod_newKind 12 rfl) (by decide) (fun c_ => ?_) (fun c_ => ?_)
  · replace h := h.1 c_
    refine w_aload_n (dk_Mod_newKind 33 rfl) rfl ?_
    refine w_callVi (ls' := [some (.ref 52)]) cv_Mod_235 (dk_Mod_newKind 34 rfl) (ci := 10) rfl rfl [] [] rfl rfl (Nat.le_of_ble_eq_true rfl) (Nat.le_of_ble_eq_true rfl) rfl rfl rfl h (fun r2 u3 h => ?_)
    exact w_bret (dk_Mod_newKind 35 rfl) rfl h.1 h.2
  · replace h := h.2 c_
    refine w_aload_n (dk_Mod_newKind 13 rfl) rfl ?_
    refine w_aload_n (dk_Mod_newKind 14 rfl) rfl ?_
    refine w_getr (dk_Mod_newKind 15 rfl) lk_Mod_63 rfl rfl rfl ?_
    refine w_aload_n (dk_Mod_newKind 16 rfl) rfl ?_
    refine w_geti (v := (aI u 52 20) + 1) (dk_Mod_newKind 17 rfl) lk_Mod_72 rfl rfl rfl ?_
    obtain ⟨k4, e_k4, l_k4, h⟩ := h
    refine w_lald (k_ := k4) (dk_Mod_newKind 18 rfl) rfl (by decide) e_k4 l_k4 ?_
    show WS _ _ _ _ [.long (aL u 65 k4), .ref 52] _ _
    refine w_callVi (ls' := [some (.ref 52), some (.long (aL u 65 k4)), none, none]) cv_Mod_242 (dk_Mod_newKind 19 rfl) (ci := 10) rfl rfl [.long (aL u 65 k4)] [] rfl rfl (Nat.le_of_ble_eq_true rfl) (Nat.le_of_ble_eq_true rfl) rfl rfl rfl h (fun r5 u6 h => ?_)
    refine w_if_ge 64 (dk_Mod_newKind 20 rfl) (by decide) (fun c_ => ?_) (fun c_ => ?_)
    · replace h := h.1 c_
      refine w_aload_n (dk_Mod_newKind 33 rfl) rfl ?_
      refine w_callVi (ls' := [some (.ref 52)]) cv_Mod_235 (dk_Mod_newKind 34 rfl) (ci := 10) rfl rfl [] [] rfl rfl (Nat.le_of_ble_eq_true rfl) (Nat.le_of_ble_eq_true rfl) rfl rfl rfl h (fun r7 u8 h => ?_)
      exact w_bret (dk_Mod_newKind 35 rfl) rfl h.1 h.2
    · replace h := h.2 c_
      refine w_aload_n (dk_Mod_newKind 21 rfl) rfl ?_
      refine w_aload_n (dk_Mod_newKind 22 rfl) rfl ?_
      refine w_getr (dk_Mod_newKind 23 rfl) lk_Mod_63 rfl rfl rfl ?_
      refine w_aload_n (dk_Mod_newKind 24 rfl) rfl ?_
      refine w_geti (v := aI u6 52 20) (dk_Mod_newKind 25 rfl) lk_Mod_72 rfl rfl rfl ?_
      obtain ⟨k9, e_k9, l_k9, h⟩ := h
      refine w_lald (k_ := k9) (dk_Mod_newKind 26 rfl) rfl (by decide) e_k9 l_k9 ?_
      refine w_callVi (ls' := [some (.ref 52), some (.long (aL u6 65 k9)), none, none]) cv_Mod_250 (dk_Mod_newKind 27 rfl) (ci := 10) rfl rfl [.long (aL u6 65 k9)] [] rfl rfl (Nat.le_of_ble_eq_true rfl) (Nat.le_of_ble_eq_true rfl) rfl rfl rfl h (fun r10 u11 h => ?_)
      refine w_if_ge 64 (dk_Mod_newKind 28 rfl) (by decide) (fun c_ => ?_) (fun c_ => ?_)
      · replace h := h.1 c_
        refine w_aload_n (dk_Mod_newKind 33 rfl) rfl ?_
        refine w_callVi (ls' := [some (.ref 52)]) cv_Mod_235 (dk_Mod_newKind 34 rfl) (ci := 10) rfl rfl [] [] rfl rfl (Nat.le_of_ble_eq_true rfl) (Nat.le_of_ble_eq_true rfl) rfl rfl rfl h (fun r12 u13 h => ?_)
        exact w_bret (dk_Mod_newKind 35 rfl) rfl h.1 h.2
      · replace h := h.2 c_
        refine w_aload_n (dk_Mod_newKind 29 rfl) rfl ?_
        refine w_geti (v := aI u11 52 3) (dk_Mod_newKind 30 rfl) lk_Mod_20 rfl rfl rfl ?_
        refine w_bipush (v := 7) (dk_Mod_newKind 31 rfl) rfl ?_
        refine w_icmp_ne 69 (dk_Mod_newKind 32 rfl) (by decide) (fun c_ => ?_) (fun c_ => ?_)
        · replace h := h.1 c_
          refine w_aload_n (dk_Mod_newKind 36 rfl) rfl ?_
          refine w_geti (v := aI u11 52 3) (dk_Mod_newKind 37 rfl) lk_Mod_20 rfl rfl rfl ?_
          refine w_istore_n (ls' := [some (.ref 52), some (.int (aI u11 52 3)), none, none]) (dk_Mod_newKind 38 rfl) (by decide) rfl ?_
          refine w_aload_n (dk_Mod_newKind 39 rfl) rfl ?_
          refine w_getr (dk_Mod_newKind 40 rfl) lk_Mod_23 rfl rfl rfl ?_
          refine w_iload_n (dk_Mod_newKind 41 rfl) rfl ?_
          refine w_aload_n (dk_Mod_newKind 42 rfl) rfl ?_
          refine w_getr (dk_Mod_newKind 43 rfl) lk_Mod_63 rfl rfl rfl ?_
          refine w_aload_n (dk_Mod_newKind 44 rfl) rfl ?_
          refine w_geti (v := aI u11 52 20) (dk_Mod_newKind 45 rfl) lk_Mod_72 rfl rfl rfl ?_
          obtain ⟨k14, e_k14, l_k14, h⟩ := h
          refine w_lald (k_ := k14) (dk_Mod_newKind 46 rfl) rfl (by decide) e_k14 l_k14 ?_
          obtain ⟨k15, e_k15, l_k15, h⟩ := h
          refine w_last (k_ := k15) (dk_Mod_newKind 47 rfl) rfl (by decide) e_k15 l_k15 ?_
          refine w_aload_n (dk_Mod_newKind 48 rfl) rfl ?_
          refine w_getr (dk_Mod_newKind 49 rfl) lk_Mod_27 rfl rfl rfl ?_
          refine w_iload_n (dk_Mod_newKind 50 rfl) rfl ?_
          refine w_iconst (v := 0) (dk_Mod_newKind 51 rfl) rfl ?_
          obtain ⟨k16, e_k16, l_k16, h⟩ := h
          refine w_iast (k_ := k16) (dk_Mod_newKind 52 rfl) rfl (by decide) e_k16 l_k16 ?_
          refine w_aload_n (dk_Mod_newKind 53 rfl) rfl ?_
          refine w_dup (dk_Mod_newKind 54 rfl) rfl ?_
          refine w_geti (v := aI u11 52 20) (dk_Mod_newKind 55 rfl) lk_Mod_72 rfl rfl rfl ?_
          refine w_iconst (v := 1) (dk_Mod_newKind 56 rfl) rfl ?_
          refine w_iadd (dk_Mod_newKind 57 rfl) ?_
          refine w_puti (dk_Mod_newKind 58 rfl) lk_Mod_72 rfl rfl ?_
          refine w_iconst (v := 0) (dk_Mod_newKind 59 rfl) rfl ?_
          refine w_istore_n (ls' := [some (.ref 52), some (.int (aI u11 52 3)), some (.int 0), none]) (dk_Mod_newKind 60 rfl) (by decide) rfl ?_
          refine w_iconst (v := 1) (dk_Mod_newKind 61 rfl) rfl ?_
          refine w_istore_n (ls' := [some (.ref 52), some (.int (aI u11 52 3)), some (.int 0), some (.int 1)]) (dk_Mod_newKind 62 rfl) (by decide) rfl ?_
          exact h
        · replace h := h.2 c_
          refine w_aload_n (dk_Mod_newKind 33 rfl) rfl ?_
          refine w_callVi (ls' := [some (.ref 52)]) cv_Mod_235 (dk_Mod_newKind 34 rfl) (ci := 10) rfl rfl [] [] rfl rfl (Nat.le_of_ble_eq_true rfl) (Nat.le_of_ble_eq_true rfl) rfl rfl rfl h (fun r17 u18 h => ?_)
          exact w_bret (dk_Mod_newKind 35 rfl) rfl h.1 h.2
theorem g_Mod_newKind_110 {d : Nat} {u : Us} {Q : Ot → Us → Prop} (x1 : Int32) (x2 : Int32) (x3 : Int32)
    (h : (x3 = 0 → WS d m_Mod_sign 0 [some (.ref 52), some (.int 59)] [] (uI u 52 3 ((aI u 52 3) + 1)) (Ri (fun (r1 : Int32) (u2 : Us) => (r1 = 0 ∨ r1 = 1) ∧ Q (.inl (some (.int r1))) u2) (fun x u => Q (.inr x) u))) ∧ (¬ (x3 = 0) → ∃ k3 : Nat, x1 = nI k3 ∧ k3 < 7 ∧ (((aI u 55 k3) = 6 → WS d m_Mod_wrong 0 [some (.ref 52)] [] u (Ri (fun (r4 : Int32) (u5 : Us) => (r4 = 0 ∨ r4 = 1) ∧ Q (.inl (some (.int r4))) u5) (fun x u => Q (.inr x) u))) ∧ (¬ ((aI u 55 k3) = 6) → ∃ k6 : Nat, aI u 52 20 = nI k6 ∧ k6 < 152 ∧ (((aI u 63 k6) ≠ 1 → WS d m_Mod_wrong 0 [some (.ref 52)] [] u (Ri (fun (r7 : Int32) (u8 : Us) => (r7 = 0 ∨ r7 = 1) ∧ Q (.inl (some (.int r7))) u8) (fun x u => Q (.inr x) u))) ∧ ((aI u 63 k6) = 1 → ∃ k9 : Nat, aI u 52 20 = nI k9 ∧ k9 < 152 ∧ (WS d m_Mod_fieldOf 0 [some (.ref 52), some (.int x1), some (.long (aL u 65 k9)), none, none] [] u (Ri (fun (r10 : Int32) (u11 : Us) => (r10 < 0 → ∃ k12 : Nat, x1 = nI k12 ∧ k12 < 7 ∧ (∃ k13 : Nat, aI u11 52 20 = nI k13 ∧ k13 < 152 ∧ (∃ k14 : Nat, (6 * x1) + (aI u11 55 k12) = nI k14 ∧ k14 < 42 ∧ (WS d m_Mod_sign 0 [some (.ref 52), some (.int 58)] [] (uI (uL u11 56 k14 (aL u11 65 k13)) 52 20 ((aI u11 52 20) + 1)) (Ri (fun (r15 : Int32) (u16 : Us) => (r15 ≠ 0 → ∃ k17 : Nat, aI u16 52 20 = nI k17 ∧ k17 < 152 ∧ (((aI u16 63 k17) ≠ 2 → WS d m_Mod_wrong 0 [some (.ref 52)] [] u16 (Ri (fun (r18 : Int32) (u19 : Us) => (r18 = 0 ∨ r18 = 1) ∧ Q (.inl (some (.int r18))) u19) (fun x u => Q (.inr x) u))) ∧ ((aI u16 63 k17) = 2 → ∃ k20 : Nat, aI u16 52 20 = nI k20 ∧ k20 < 152 ∧ (((aL u16 65 k20) < 1 → WS d m_Mod_wrong 0 [some (.ref 52)] [] u16 (Ri (fun (r21 : Int32) (u22 : Us) => (r21 = 0 ∨ r21 = 1) ∧ Q (.inl (some (.int r21))) u22) (fun x u => Q (.inr x) u))) ∧ (¬ ((aL u16 65 k20) < 1) → ∃ k23 : Nat, aI u16 52 20 = nI k23 ∧ k23 < 152 ∧ ((32 < (aL u16 65 k23) → WS d m_Mod_wrong 0 [some (.ref 52)] [] u16 (Ri (fun (r24 : Int32) (u25 : Us) => (r24 = 0 ∨ r24 = 1) ∧ Q (.inl (some (.int r24))) u25) (fun x u => Q (.inr x) u))) ∧ (¬ (32 < (aL u16 65 k23)) → ∃ k26 : Nat, aI u16 52 20 = nI k26 ∧ k26 < 152 ∧ ((((Int32.toInt64 x2) + (aL u16 65 k26)) ≤ 84 → ∃ k27 : Nat, aI u16 52 20 = nI k27 ∧ k27 < 152 ∧ (∃ k28 : Nat, x1 = nI k28 ∧ k28 < 7 ∧ (∃ k29 : Nat, aI u16 52 20 = nI k29 ∧ k29 < 152 ∧ (∃ k30 : Nat, (6 * x1) + (aI u16 55 k28) = nI k30 ∧ k30 < 42 ∧ (∃ k31 : Nat, x1 = nI k31 ∧ k31 < 7 ∧ (∃ k32 : Nat, x1 = nI k32 ∧ k32 < 7 ∧ (WS d m_Mod_isSign 0 [some (.ref 52), some (.int 44)] [] (uI (uI (uI u16 57 k30 (Int64.toInt32 (aL u16 65 k29))) 55 k32 ((aI u16 55 k31) + 1)) 52 20 ((aI u16 52 20) + 1)) (Ri (fun (r33 : Int32) (u34 : Us) => (r33 = 0 → WS (d + 1) m_Mod_newKind 110 [some (.ref 52), some (.int x1), some (.int (x2 + (Int64.toInt32 (aL u16 65 k27)))), some (.int 0)] [] u34 Q) ∧ (¬ (r33 = 0) → ∃ k35 : Nat, x1 = nI k35 ∧ k35 < 7 ∧ ((6 ≤ (aI u34 55 k35) → WS (d + 1) m_Mod_newKind 110 [some (.ref 52), some (.int x1), some (.int (x2 + (Int64.toInt32 (aL u16 65 k27)))), some (.int 0)] [] u34 Q) ∧ (¬ (6 ≤ (aI u34 55 k35)) → WS (d + 1) m_Mod_newKind 110 [some (.ref 52), some (.int x1), some (.int (x2 + (Int64.toInt32 (aL u16 65 k27)))), some (.int 1)] [] (uI u34 52 20 ((aI u34 52 20) + 1)) Q)))) (fun x u => Q (.inr x) u))))))))) ∧ (¬ (((Int32.toInt64 x2) + (aL u16 65 k26)) ≤ 84) → WS d m_Mod_wrong 0 [some (.ref 52)] [] u16 (Ri (fun (r36 : Int32) (u37 : Us) => (r36 = 0 ∨ r36 = 1) ∧ Q (.inl (some (.int r36))) u37) (fun x u => Q (.inr x) u))))))))))) ∧ (r15 = 0 → Q (.inl (some (.int 0))) u16)) (fun x u => Q (.inr x) u)))))) ∧ (¬ (r10 < 0) → WS d m_Mod_wrong 0 [some (.ref 52)] [] u11 (Ri (fun (r38 : Int32) (u39 : Us) => (r38 = 0 ∨ r38 = 1) ∧ Q (.inl (some (.int r38))) u39) (fun x u => Q (.inr x) u)))) (fun x u => Q (.inr x) u))))))))) :
    WS (d + 1) m_Mod_newKind 110 [some (.ref 52), some (.int x1), some (.int x2), some (.int x3)] [] u Q := by
  refine w_iload_n (dk_Mod_newKind 63 rfl) rfl ?_
  refine w_if_eq 379 (dk_Mod_newKind 64 rfl) (by decide) (fun c_ => ?_) (fun c_ => ?_)
  · replace h := h.1 c_
    refine w_aload_n (dk_Mod_newKind 220 rfl) rfl ?_
    refine w_dup (dk_Mod_newKind 221 rfl) rfl ?_
    refine w_geti (v := aI u 52 3) (dk_Mod_newKind 222 rfl) lk_Mod_20 rfl rfl rfl ?_
    refine w_iconst (v := 1) (dk_Mod_newKind 223 rfl) rfl ?_
    refine w_iadd (dk_Mod_newKind 224 rfl) ?_
    refine w_puti (dk_Mod_newKind 225 rfl) lk_Mod_20 rfl rfl ?_
    refine w_aload_n (dk_Mod_newKind 226 rfl) rfl ?_
    refine w_bipush (v := 59) (dk_Mod_newKind 227 rfl) rfl ?_
    refine w_callVi (ls' := [some (.ref 52), some (.int 59)]) cv_Mod_299 (dk_Mod_newKind 228 rfl) (ci := 10) rfl rfl [.int 59] [] rfl rfl (Nat.le_of_ble_eq_true rfl) (Nat.le_of_ble_eq_true rfl) rfl rfl rfl h (fun r1 u2 h => ?_)
    exact w_bret (dk_Mod_newKind 229 rfl) rfl h.1 h.2
  · replace h := h.2 c_
    refine w_aload_n (dk_Mod_newKind 65 rfl) rfl ?_
    refine w_getr (dk_Mod_newKind 66 rfl) lk_Mod_27 rfl rfl rfl ?_
    refine w_iload_n (dk_Mod_newKind 67 rfl) rfl ?_
    obtain ⟨k3, e_k3, l_k3, h⟩ := h
    refine w_iald (k_ := k3) (dk_Mod_newKind 68 rfl) rfl (by decide) e_k3 l_k3 ?_
    refine w_bipush (v := 6) (dk_Mod_newKind 69 rfl) rfl ?_
    refine w_icmp_eq 155 (dk_Mod_newKind 70 rfl) (by decide) (fun c_ => ?_) (fun c_ => ?_)
    · replace h := h.1 c_
      refine w_aload_n (dk_Mod_newKind 87 rfl) rfl ?_
      refine w_callVi (ls' := [some (.ref 52)]) cv_Mod_235 (dk_Mod_newKind 88 rfl) (ci := 10) rfl rfl [] [] rfl rfl (Nat.le_of_ble_eq_true rfl) (Nat.le_of_ble_eq_true rfl) rfl rfl rfl h (fun r4 u5 h => ?_)
      exact w_bret (dk_Mod_newKind 89 rfl) rfl h.1 h.2
    · replace h := h.2 c_
      refine w_aload_n (dk_Mod_newKind 71 rfl) rfl ?_
      refine w_getr (dk_Mod_newKind 72 rfl) lk_Mod_57 rfl rfl rfl ?_
      refine w_aload_n (dk_Mod_newKind 73 rfl) rfl ?_
      refine w_geti (v := aI u 52 20) (dk_Mod_newKind 74 rfl) lk_Mod_72 rfl rfl rfl ?_
      obtain ⟨k6, e_k6, l_k6, h⟩ := h
      refine w_iald (k_ := k6) (dk_Mod_newKind 75 rfl) rfl (by decide) e_k6 l_k6 ?_
      refine w_iconst (v := 1) (dk_Mod_newKind 76 rfl) rfl ?_
      refine w_icmp_ne 155 (dk_Mod_newKind 77 rfl) (by decide) (fun c_ => ?_) (fun c_ => ?_)
      · replace h := h.1 c_
        refine w_aload_n (dk_Mod_newKind 87 rfl) rfl ?_
        refine w_callVi (ls' := [some (.ref 52)]) cv_Mod_235 (dk_Mod_newKind 88 rfl) (ci := 10) rfl rfl [] [] rfl rfl (Nat.le_of_ble_eq_true rfl) (Nat.le_of_ble_eq_true rfl) rfl rfl rfl h (fun r7 u8 h => ?_)
        exact w_bret (dk_Mod_newKind 89 rfl) rfl h.1 h.2
      · replace h := h.2 c_
        refine w_aload_n (dk_Mod_newKind 78 rfl) rfl ?_
        refine w_iload_n (dk_Mod_newKind 79 rfl) rfl ?_
        refine w_aload_n (dk_Mod_newKind 80 rfl) rfl ?_
        refine w_getr (dk_Mod_newKind 81 rfl) lk_Mod_63 rfl rfl rfl ?_
        refine w_aload_n (dk_Mod_newKind 82 rfl) rfl ?_
        refine w_geti (v := aI u 52 20) (dk_Mod_newKind 83 rfl) lk_Mod_72 rfl rfl rfl ?_
        obtain ⟨k9, e_k9, l_k9, h⟩ := h
        refine w_lald (k_ := k9) (dk_Mod_newKind 84 rfl) rfl (by decide) e_k9 l_k9 ?_
        refine w_callVi (ls' := [some (.ref 52), some (.int x1), some (.long (aL u 65 k9)), none, none]) cv_Mod_246 (dk_Mod_newKind 85 rfl) (ci := 10) rfl rfl [.int x1, .long (aL u 65 k9)] [] rfl rfl (Nat.le_of_ble_eq_true rfl) (Nat.le_of_ble_eq_true rfl) rfl rfl rfl h (fun r10 u11 h => ?_)
        refine w_if_lt 160 (dk_Mod_newKind 86 rfl) (by decide) (fun c_ => ?_) (fun c_ => ?_)
        · replace h := h.1 c_
          refine w_aload_n (dk_Mod_newKind 90 rfl) rfl ?_
          refine w_getr (dk_Mod_newKind 91 rfl) lk_Mod_30 rfl rfl rfl ?_
          refine w_bipush (v := 6) (dk_Mod_newKind 92 rfl) rfl ?_
          refine w_iload_n (dk_Mod_newKind 93 rfl) rfl ?_
          refine w_imul (dk_Mod_newKind 94 rfl) ?_
          refine w_aload_n (dk_Mod_newKind 95 rfl) rfl ?_
          refine w_getr (dk_Mod_newKind 96 rfl) lk_Mod_27 rfl rfl rfl ?_
          refine w_iload_n (dk_Mod_newKind 97 rfl) rfl ?_
          obtain ⟨k12, e_k12, l_k12, h⟩ := h
          refine w_iald (k_ := k12) (dk_Mod_newKind 98 rfl) rfl (by decide) e_k12 l_k12 ?_
          refine w_iadd (dk_Mod_newKind 99 rfl) ?_
          refine w_aload_n (dk_Mod_newKind 100 rfl) rfl ?_
          refine w_getr (dk_Mod_newKind 101 rfl) lk_Mod_63 rfl rfl rfl ?_
          refine w_aload_n (dk_Mod_newKind 102 rfl) rfl ?_
          refine w_geti (v := aI u11 52 20) (dk_Mod_newKind 103 rfl) lk_Mod_72 rfl rfl rfl ?_
          obtain ⟨k13, e_k13, l_k13, h⟩ := h
          refine w_lald (k_ := k13) (dk_Mod_newKind 104 rfl) rfl (by decide) e_k13 l_k13 ?_
          obtain ⟨k14, e_k14, l_k14, h⟩ := h
          refine w_last (k_ := k14) (dk_Mod_newKind 105 rfl) rfl (by decide) e_k14 l_k14 ?_
          refine w_aload_n (dk_Mod_newKind 106 rfl) rfl ?_
          refine w_dup (dk_Mod_newKind 107 rfl) rfl ?_
          refine w_geti (v := aI u11 52 20) (dk_Mod_newKind 108 rfl) lk_Mod_72 rfl rfl rfl ?_
          refine w_iconst (v := 1) (dk_Mod_newKind 109 rfl) rfl ?_
          refine w_iadd (dk_Mod_newKind 110 rfl) ?_
          refine w_puti (dk_Mod_newKind 111 rfl) lk_Mod_72 rfl rfl ?_
          refine w_aload_n (dk_Mod_newKind 112 rfl) rfl ?_
          refine w_bipush (v := 58) (dk_Mod_newKind 113 rfl) rfl ?_
          refine w_callVi (ls' := [some (.ref 52), some (.int 58)]) cv_Mod_299 (dk_Mod_newKind 114 rfl) (ci := 10) rfl rfl [.int 58] [] rfl rfl (Nat.le_of_ble_eq_true rfl) (Nat.le_of_ble_eq_true rfl) rfl rfl rfl h (fun r15 u16 h => ?_)
          refine w_if_ne 206 (dk_Mod_newKind 115 rfl) (by decide) (fun c_ => ?_) (fun c_ => ?_)
          · replace h := h.1 c_
            refine w_aload_n (dk_Mod_newKind 118 rfl) rfl ?_
            refine w_getr (dk_Mod_newKind 119 rfl) lk_Mod_57 rfl rfl rfl ?_
            refine w_aload_n (dk_Mod_newKind 120 rfl) rfl ?_
            refine w_geti (v := aI u16 52 20) (dk_Mod_newKind 121 rfl) lk_Mod_72 rfl rfl rfl ?_
            obtain ⟨k17, e_k17, l_k17, h⟩ := h
            refine w_iald (k_ := k17) (dk_Mod_newKind 122 rfl) rfl (by decide) e_k17 l_k17 ?_
            refine w_iconst (v := 2) (dk_Mod_newKind 123 rfl) rfl ?_
            refine w_icmp_ne 268 (dk_Mod_newKind 124 rfl) (by decide) (fun c_ => ?_) (fun c_ => ?_)
            · replace h := h.1 c_
              refine w_aload_n (dk_Mod_newKind 152 rfl) rfl ?_
              refine w_callVi (ls' := [some (.ref 52)]) cv_Mod_235 (dk_Mod_newKind 153 rfl) (ci := 10) rfl rfl [] [] rfl rfl (Nat.le_of_ble_eq_true rfl) (Nat.le_of_ble_eq_true rfl) rfl rfl rfl h (fun r18 u19 h => ?_)
              exact w_bret (dk_Mod_newKind 154 rfl) rfl h.1 h.2
            · replace h := h.2 c_
              refine w_aload_n (dk_Mod_newKind 125 rfl) rfl ?_
              refine w_getr (dk_Mod_newKind 126 rfl) lk_Mod_63 rfl rfl rfl ?_
              refine w_aload_n (dk_Mod_newKind 127 rfl) rfl ?_
              refine w_geti (v := aI u16 52 20) (dk_Mod_newKind 128 rfl) lk_Mod_72 rfl rfl rfl ?_
              obtain ⟨k20, e_k20, l_k20, h⟩ := h
              refine w_lald (k_ := k20) (dk_Mod_newKind 129 rfl) rfl (by decide) e_k20 l_k20 ?_
              refine w_lconst (v := 1) (dk_Mod_newKind 130 rfl) rfl ?_
              refine w_lcmp_lt 268 (dk_Mod_newKind 131 rfl) (dk_Mod_newKind 132 rfl) (by decide) (fun c_ => ?_) (fun c_ => ?_)
              · replace h := h.1 c_
                refine w_aload_n (dk_Mod_newKind 152 rfl) rfl ?_
                refine w_callVi (ls' := [some (.ref 52)]) cv_Mod_235 (dk_Mod_newKind 153 rfl) (ci := 10) rfl rfl [] [] rfl rfl (Nat.le_of_ble_eq_true rfl) (Nat.le_of_ble_eq_true rfl) rfl rfl rfl h (fun r21 u22 h => ?_)
                exact w_bret (dk_Mod_newKind 154 rfl) rfl h.1 h.2
              · replace h := h.2 c_
                refine w_aload_n (dk_Mod_newKind 133 rfl) rfl ?_
                refine w_getr (dk_Mod_newKind 134 rfl) lk_Mod_63 rfl rfl rfl ?_
                refine w_aload_n (dk_Mod_newKind 135 rfl) rfl ?_
                refine w_geti (v := aI u16 52 20) (dk_Mod_newKind 136 rfl) lk_Mod_72 rfl rfl rfl ?_
                obtain ⟨k23, e_k23, l_k23, h⟩ := h
                refine w_lald (k_ := k23) (dk_Mod_newKind 137 rfl) rfl (by decide) e_k23 l_k23 ?_
                refine w_ldc2 (dk_Mod_newKind 138 rfl) kl_Mod_314 ?_
                refine w_lcmp_gt 268 (dk_Mod_newKind 139 rfl) (dk_Mod_newKind 140 rfl) (by decide) (fun c_ => ?_) (fun c_ => ?_)
                · replace h := h.1 c_
                  refine w_aload_n (dk_Mod_newKind 152 rfl) rfl ?_
                  refine w_callVi (ls' := [some (.ref 52)]) cv_Mod_235 (dk_Mod_newKind 153 rfl) (ci := 10) rfl rfl [] [] rfl rfl (Nat.le_of_ble_eq_true rfl) (Nat.le_of_ble_eq_true rfl) rfl rfl rfl h (fun r24 u25 h => ?_)
                  exact w_bret (dk_Mod_newKind 154 rfl) rfl h.1 h.2
                · replace h := h.2 c_
                  refine w_iload_n (dk_Mod_newKind 141 rfl) rfl ?_
                  refine w_i2l (dk_Mod_newKind 142 rfl) ?_
                  refine w_aload_n (dk_Mod_newKind 143 rfl) rfl ?_
                  refine w_getr (dk_Mod_newKind 144 rfl) lk_Mod_63 rfl rfl rfl ?_
                  refine w_aload_n (dk_Mod_newKind 145 rfl) rfl ?_
                  refine w_geti (v := aI u16 52 20) (dk_Mod_newKind 146 rfl) lk_Mod_72 rfl rfl rfl ?_
                  obtain ⟨k26, e_k26, l_k26, h⟩ := h
                  refine w_lald (k_ := k26) (dk_Mod_newKind 147 rfl) rfl (by decide) e_k26 l_k26 ?_
                  refine w_ladd (dk_Mod_newKind 148 rfl) ?_
                  refine w_ldc2 (dk_Mod_newKind 149 rfl) kl_Mod_316 ?_
                  refine w_lcmp_le 273 (dk_Mod_newKind 150 rfl) (dk_Mod_newKind 151 rfl) (by decide) (fun c_ => ?_) (fun c_ => ?_)
                  · replace h := h.1 c_
                    refine w_iload_n (dk_Mod_newKind 155 rfl) rfl ?_
                    refine w_aload_n (dk_Mod_newKind 156 rfl) rfl ?_
                    refine w_getr (dk_Mod_newKind 157 rfl) lk_Mod_63 rfl rfl rfl ?_
                    refine w_aload_n (dk_Mod_newKind 158 rfl) rfl ?_
                    refine w_geti (v := aI u16 52 20) (dk_Mod_newKind 159 rfl) lk_Mod_72 rfl rfl rfl ?_
                    obtain ⟨k27, e_k27, l_k27, h⟩ := h
                    refine w_lald (k_ := k27) (dk_Mod_newKind 160 rfl) rfl (by decide) e_k27 l_k27 ?_
                    refine w_l2i (dk_Mod_newKind 161 rfl) ?_
                    refine w_iadd (dk_Mod_newKind 162 rfl) ?_
                    refine w_istore_n (ls' := [some (.ref 52), some (.int x1), some (.int (x2 + (Int64.toInt32 (aL u16 65 k27)))), some (.int x3)]) (dk_Mod_newKind 163 rfl) (by decide) rfl ?_
                    refine w_aload_n (dk_Mod_newKind 164 rfl) rfl ?_
                    refine w_getr (dk_Mod_newKind 165 rfl) lk_Mod_33 rfl rfl rfl ?_
                    refine w_bipush (v := 6) (dk_Mod_newKind 166 rfl) rfl ?_
                    refine w_iload_n (dk_Mod_newKind 167 rfl) rfl ?_
                    refine w_imul (dk_Mod_newKind 168 rfl) ?_
                    refine w_aload_n (dk_Mod_newKind 169 rfl) rfl ?_
                    refine w_getr (dk_Mod_newKind 170 rfl) lk_Mod_27 rfl rfl rfl ?_
                    refine w_iload_n (dk_Mod_newKind 171 rfl) rfl ?_
                    obtain ⟨k28, e_k28, l_k28, h⟩ := h
                    refine w_iald (k_ := k28) (dk_Mod_newKind 172 rfl) rfl (by decide) e_k28 l_k28 ?_
                    refine w_iadd (dk_Mod_newKind 173 rfl) ?_
                    refine w_aload_n (dk_Mod_newKind 174 rfl) rfl ?_
                    refine w_getr (dk_Mod_newKind 175 rfl) lk_Mod_63 rfl rfl rfl ?_
                    refine w_aload_n (dk_Mod_newKind 176 rfl) rfl ?_
                    refine w_geti (v := aI u16 52 20) (dk_Mod_newKind 177 rfl) lk_Mod_72 rfl rfl rfl ?_
                    obtain ⟨k29, e_k29, l_k29, h⟩ := h
                    refine w_lald (k_ := k29) (dk_Mod_newKind 178 rfl) rfl (by decide) e_k29 l_k29 ?_
                    refine w_l2i (dk_Mod_newKind 179 rfl) ?_
                    obtain ⟨k30, e_k30, l_k30, h⟩ := h
                    refine w_iast (k_ := k30) (dk_Mod_newKind 180 rfl) rfl (by decide) e_k30 l_k30 ?_
                    refine w_aload_n (dk_Mod_newKind 181 rfl) rfl ?_
                    refine w_getr (dk_Mod_newKind 182 rfl) lk_Mod_27 rfl rfl rfl ?_
                    refine w_iload_n (dk_Mod_newKind 183 rfl) rfl ?_
                    refine w_aload_n (dk_Mod_newKind 184 rfl) rfl ?_
                    refine w_getr (dk_Mod_newKind 185 rfl) lk_Mod_27 rfl rfl rfl ?_
                    refine w_iload_n (dk_Mod_newKind 186 rfl) rfl ?_
                    obtain ⟨k31, e_k31, l_k31, h⟩ := h
                    refine w_iald (k_ := k31) (dk_Mod_newKind 187 rfl) rfl (by decide) e_k31 l_k31 ?_
                    show WS _ _ _ _ [.int (aI u16 55 k31), .int x1, .ref 55] _ _
                    refine w_iconst (v := 1) (dk_Mod_newKind 188 rfl) rfl ?_
                    refine w_iadd (dk_Mod_newKind 189 rfl) ?_
                    obtain ⟨k32, e_k32, l_k32, h⟩ := h
                    refine w_iast (k_ := k32) (dk_Mod_newKind 190 rfl) rfl (by decide) e_k32 l_k32 ?_
                    refine w_aload_n (dk_Mod_newKind 191 rfl) rfl ?_
                    refine w_dup (dk_Mod_newKind 192 rfl) rfl ?_
                    refine w_geti (v := aI u16 52 20) (dk_Mod_newKind 193 rfl) lk_Mod_72 rfl rfl rfl ?_
                    refine w_iconst (v := 1) (dk_Mod_newKind 194 rfl) rfl ?_
                    refine w_iadd (dk_Mod_newKind 195 rfl) ?_
                    refine w_puti (dk_Mod_newKind 196 rfl) lk_Mod_72 rfl rfl ?_
                    refine w_aload_n (dk_Mod_newKind 197 rfl) rfl ?_
                    refine w_bipush (v := 44) (dk_Mod_newKind 198 rfl) rfl ?_
                    refine w_callVi (ls' := [some (.ref 52), some (.int 44)]) cv_Mod_232 (dk_Mod_newKind 199 rfl) (ci := 10) rfl rfl [.int 44] [] rfl rfl (Nat.le_of_ble_eq_true rfl) (Nat.le_of_ble_eq_true rfl) rfl rfl rfl h (fun r33 u34 h => ?_)
                    refine w_if_eq 360 (dk_Mod_newKind 200 rfl) (by decide) (fun c_ => ?_) (fun c_ => ?_)
                    · replace h := h.1 c_
                      refine w_iconst (v := 0) (dk_Mod_newKind 209 rfl) rfl ?_
                      refine w_istore_n (ls' := [some (.ref 52), some (.int x1), some (.int (x2 + (Int64.toInt32 (aL u16 65 k27)))), some (.int 0)]) (dk_Mod_newKind 210 rfl) (by decide) rfl ?_
                      refine w_iload_n (dk_Mod_newKind 211 rfl) rfl ?_
                      refine w_if_eq_t 110 (dk_Mod_newKind 212 rfl) (by decide) (by decide) ?_
                      exact h
                    · replace h := h.2 c_
                      refine w_aload_n (dk_Mod_newKind 201 rfl) rfl ?_
                      refine w_getr (dk_Mod_newKind 202 rfl) lk_Mod_27 rfl rfl rfl ?_
                      refine w_iload_n (dk_Mod_newKind 203 rfl) rfl ?_
                      obtain ⟨k35, e_k35, l_k35, h⟩ := h
                      refine w_iald (k_ := k35) (dk_Mod_newKind 204 rfl) rfl (by decide) e_k35 l_k35 ?_
                      refine w_bipush (v := 6) (dk_Mod_newKind 205 rfl) rfl ?_
                      refine w_icmp_ge 360 (dk_Mod_newKind 206 rfl) (by decide) (fun c_ => ?_) (fun c_ => ?_)
                      · replace h := h.1 c_
                        refine w_iconst (v := 0) (dk_Mod_newKind 209 rfl) rfl ?_
                        refine w_istore_n (ls' := [some (.ref 52), some (.int x1), some (.int (x2 + (Int64.toInt32 (aL u16 65 k27)))), some (.int 0)]) (dk_Mod_newKind 210 rfl) (by decide) rfl ?_
                        refine w_iload_n (dk_Mod_newKind 211 rfl) rfl ?_
                        refine w_if_eq_t 110 (dk_Mod_newKind 212 rfl) (by decide) (by decide) ?_
                        exact h
                      · replace h := h.2 c_
                        refine w_iconst (v := 1) (dk_Mod_newKind 207 rfl) rfl ?_
                        refine w_goto 361 (dk_Mod_newKind 208 rfl) (by decide) ?_
                        refine w_istore_n (ls' := [some (.ref 52), some (.int x1), some (.int (x2 + (Int64.toInt32 (aL u16 65 k27)))), some (.int 1)]) (dk_Mod_newKind 210 rfl) (by decide) rfl ?_
                        refine w_iload_n (dk_Mod_newKind 211 rfl) rfl ?_
                        refine w_if_eq_f (dk_Mod_newKind 212 rfl) 110 (by decide) (by decide) ?_
                        refine w_aload_n (dk_Mod_newKind 213 rfl) rfl ?_
                        refine w_dup (dk_Mod_newKind 214 rfl) rfl ?_
                        refine w_geti (v := aI u34 52 20) (dk_Mod_newKind 215 rfl) lk_Mod_72 rfl rfl rfl ?_
                        refine w_iconst (v := 1) (dk_Mod_newKind 216 rfl) rfl ?_
                        refine w_iadd (dk_Mod_newKind 217 rfl) ?_
                        refine w_puti (dk_Mod_newKind 218 rfl) lk_Mod_72 rfl rfl ?_
                        refine w_goto 110 (dk_Mod_newKind 219 rfl) (by decide) ?_
                        exact h
                  · replace h := h.2 c_
                    refine w_aload_n (dk_Mod_newKind 152 rfl) rfl ?_
                    refine w_callVi (ls' := [some (.ref 52)]) cv_Mod_235 (dk_Mod_newKind 153 rfl) (ci := 10) rfl rfl [] [] rfl rfl (Nat.le_of_ble_eq_true rfl) (Nat.le_of_ble_eq_true rfl) rfl rfl rfl h (fun r36 u37 h => ?_)
                    exact w_bret (dk_Mod_newKind 154 rfl) rfl h.1 h.2
          · replace h := h.2 c_
            refine w_iconst (v := 0) (dk_Mod_newKind 116 rfl) rfl ?_
            exact w_bret (dk_Mod_newKind 117 rfl) rfl (Or.inl rfl) h
        · replace h := h.2 c_
          refine w_aload_n (dk_Mod_newKind 87 rfl) rfl ?_
          refine w_callVi (ls' := [some (.ref 52)]) cv_Mod_235 (dk_Mod_newKind 88 rfl) (ci := 10) rfl rfl [] [] rfl rfl (Nat.le_of_ble_eq_true rfl) (Nat.le_of_ble_eq_true rfl) rfl rfl rfl h (fun r38 u39 h => ?_)
          exact w_bret (dk_Mod_newKind 89 rfl) rfl h.1 h.2
