theorem g_AR_place_0 {d : Nat} {u : Us} {Q : Ot → Us → Prop} 
    (h : Q (.inl (some (.int (aI u 10 8)))) u) :
    WS d m_AR_place 0 [some (.ref 0)] [] u Q := by
  refine w_aload_n (dk_AR_place 0 rfl) rfl ?_
  refine w_getr (dk_AR_place 1 rfl) lk_AR_23 rfl rfl rfl ?_
  refine w_geti (v := aI u 10 8) (dk_AR_place 2 rfl) lk_AR_59 rfl rfl rfl ?_
  exact w_iret (dk_AR_place 3 rfl) rfl h
theorem g_AR_steps_0 {d : Nat} {u : Us} {Q : Ot → Us → Prop} 
    (h : Q (.inl (some (.int (aI u 38 8)))) u) :
    WS d m_AR_steps 0 [some (.ref 0)] [] u Q := by
  refine w_aload_n (dk_AR_steps 0 rfl) rfl ?_
  refine w_getr (dk_AR_steps 1 rfl) lk_AR_55 rfl rfl rfl ?_
  refine w_geti (v := aI u 38 8) (dk_AR_steps 2 rfl) lk_AR_145 rfl rfl rfl ?_
  exact w_iret (dk_AR_steps 3 rfl) rfl h
theorem g_AR_printed_0 {d : Nat} {u : Us} {Q : Ot → Us → Prop} 
    (h : Q (.inl (some (.int (aI u 38 16)))) u) :
    WS d m_AR_printed 0 [some (.ref 0)] [] u Q := by
  refine w_aload_n (dk_AR_printed 0 rfl) rfl ?_
  refine w_getr (dk_AR_printed 1 rfl) lk_AR_55 rfl rfl rfl ?_
  refine w_geti (v := aI u 38 16) (dk_AR_printed 2 rfl) lk_AR_165 rfl rfl rfl ?_
  exact w_iret (dk_AR_printed 3 rfl) rfl h
theorem g_AR_records_0 {d : Nat} {u : Us} {Q : Ot → Us → Prop} 
    (h : WS d m_Stor_free 0 [some (.ref 39)] [] u (Rl (fun (r1 : Int64) (u2 : Us) => WS d m_JLong_bitCount 0 [some (.long r1), none] [] u2 (Ri (fun (r3 : Int32) (u4 : Us) => Q (.inl (some (.int (64 - r3)))) u4) (fun x u => Q (.inr x) u))) (fun x u => Q (.inr x) u))) :
    WS (d + 1) m_AR_records 0 [some (.ref 0)] [] u Q := by
  refine w_bipush (v := 64) (dk_AR_records 0 rfl) rfl ?_
  refine w_aload_n (dk_AR_records 1 rfl) rfl ?_
  refine w_getr (dk_AR_records 2 rfl) lk_AR_55 rfl rfl rfl ?_
  refine w_getr (dk_AR_records 3 rfl) lk_AR_175 rfl rfl rfl ?_
  refine w_callVl (ls' := [some (.ref 39)]) cv_AR_194 (dk_AR_records 4 rfl) (ci := 7) rfl rfl [] [.int 64] rfl rfl (Nat.le_of_ble_eq_true rfl) (Nat.le_of_ble_eq_true rfl) rfl rfl rfl h (fun r1 u2 h => ?_)
  refine w_callSi (ls' := [some (.long r1), none]) cv_AR_198 (dk_AR_records 5 rfl) [.long r1] [.int 64] rfl rfl (Nat.le_of_ble_eq_true rfl) (Nat.le_of_ble_eq_true rfl) rfl rfl rfl h (fun r3 u4 h => ?_)
  refine w_isub (dk_AR_records 6 rfl) ?_
  exact w_iret (dk_AR_records 7 rfl) rfl h
def hm_Law_feed_6 : Nat → Option (Nat × Nat × Nat) := fun x => match x with | 0 => some (14, 5, 2) | 1 => some (18, 5, 2) | _ => none
theorem ch_Law_feed_6 : Ch m_Law_feed 6 hm_Law_feed_6 := by
  intro x hpc k len h
  match x, h with
  | 0, h => cases h; exact ⟨⟨by decide, Or.inr ⟨rfl, (dk_Law_feed 9 rfl)⟩⟩, (tb3 17 rfl), Or.inr ⟨_, _, rfl, by decide, by decide, by decide, by decide, by decide, by decide, Or.inl ⟨rfl, (tb3 6 rfl)⟩⟩⟩
  | 1, h => cases h; exact ⟨⟨by decide, Or.inr ⟨rfl, (dk_Law_feed 12 rfl)⟩⟩, (tb3 84 rfl), Or.inr ⟨_, _, rfl, by decide, by decide, by decide, by decide, by decide, by decide, Or.inr ⟨rfl, rfl, (tb3 6 rfl), (tb3 7 rfl)⟩⟩⟩
  | x + 2, h => cases h
theorem g_Law_feed_0 {d : Nat} {u : Us} {Q : Ot → Us → Prop} (p2 : Int64) (p3 : Int32)
    (h : WS d m_AR_feed 0 [some (.ref 0), some (.long p2), none, some (.int p3), none] [] u (Ri (fun (r1 : Int32) (u2 : Us) => Q (.inl (some (.int 0))) (uL u2 82 0 (Int32.toInt64 r1))) (fun x3 u2 => (x3 = 0 ∧ (Q (.inl (some (.int 1))) u2)) ∨ (x3 = 1 ∧ (Q (.inl (some (.int 2))) u2))))) :
    WS (d + 1) m_Law_feed 0 [some (.ref 0), some (.long p2), none, some (.int p3), some (.ref 82), none] [] u Q := by
  refine w_aload (dk_Law_feed 0 rfl) rfl ?_
  refine w_iconst (v := 0) (dk_Law_feed 1 rfl) rfl ?_
  refine w_aload_n (dk_Law_feed 2 rfl) rfl ?_
  refine w_lload_n (dk_Law_feed 3 rfl) rfl ?_
  refine w_iload_n (dk_Law_feed 4 rfl) rfl ?_
  refine w_callVXi (ls' := [some (.ref 0), some (.long p2), none, some (.int p3), none]) ch_Law_feed_6 cv_Law_7 (dk_Law_feed 5 rfl) (ci := 9) rfl rfl [.long p2, .int p3] [.int 0, .ref 82] rfl rfl (Nat.le_of_ble_eq_true rfl) (Nat.le_of_ble_eq_true rfl) rfl rfl h (fun r1 u2 h => ?_) (fun x3 u2 h => ?_)
  · skip
    refine w_i2l (dk_Law_feed 6 rfl) ?_
    refine w_last (k_ := 0) (dk_Law_feed 7 rfl) rfl (by decide) rfl (by decide) ?_
    refine w_goto 22 (dk_Law_feed 8 rfl) (by decide) ?_
    refine w_iconst (v := 0) (dk_Law_feed 15 rfl) rfl ?_
    exact w_iret (dk_Law_feed 16 rfl) rfl h
  · rcases h with ⟨rfl, h⟩ | ⟨rfl, h⟩
    · skip
      refine ⟨14, 5, 2, rfl, ?_⟩
      show WS _ _ 16 [some (.ref 0), some (.long p2), none, some (.int p3), some (.ref 82), none] _ _ _
      refine w_iconst (v := 1) (dk_Law_feed 10 rfl) rfl ?_
      exact w_iret (dk_Law_feed 11 rfl) rfl h
    · skip
      refine ⟨18, 5, 2, rfl, ?_⟩
      show WS _ _ 20 [some (.ref 0), some (.long p2), none, some (.int p3), some (.ref 82), none] _ _ _
      refine w_iconst (v := 2) (dk_Law_feed 13 rfl) rfl ?_
      exact w_iret (dk_Law_feed 14 rfl) rfl h
theorem g_AR_feed_0 {d : Nat} {u : Us} {Q : Ot → Us → Prop} (p1 : Int64) (p2 : Int32)
    (h : (p2 ≤ 0 → WS d m_AR_need 0 [some (.int 0)] [] u (Rv (fun (u2 : Us) => (500 < ((aI u2 0 7) + p2) → WS d m_AR_must 0 [some (.int 0)] [] u2 (Rv (fun (u4 : Us) => WS (d + 1) m_AR_feed 43 [some (.ref 0), some (.long p1), none, some (.int p2), some (.int (p2 - 1))] [] u4 Q) (fun x u => Q (.inr x) u))) ∧ (¬ (500 < ((aI u2 0 7) + p2)) → WS d m_AR_must 0 [some (.int 1)] [] u2 (Rv (fun (u6 : Us) => WS (d + 1) m_AR_feed 43 [some (.ref 0), some (.long p1), none, some (.int p2), some (.int (p2 - 1))] [] u6 Q) (fun x u => Q (.inr x) u)))) (fun x u => Q (.inr x) u))) ∧ (¬ (p2 ≤ 0) → (9 ≤ p2 → WS d m_AR_need 0 [some (.int 0)] [] u (Rv (fun (u8 : Us) => (500 < ((aI u8 0 7) + p2) → WS d m_AR_must 0 [some (.int 0)] [] u8 (Rv (fun (u10 : Us) => WS (d + 1) m_AR_feed 43 [some (.ref 0), some (.long p1), none, some (.int p2), some (.int (p2 - 1))] [] u10 Q) (fun x u => Q (.inr x) u))) ∧ (¬ (500 < ((aI u8 0 7) + p2)) → WS d m_AR_must 0 [some (.int 1)] [] u8 (Rv (fun (u12 : Us) => WS (d + 1) m_AR_feed 43 [some (.ref 0), some (.long p1), none, some (.int p2), some (.int (p2 - 1))] [] u12 Q) (fun x u => Q (.inr x) u)))) (fun x u => Q (.inr x) u))) ∧ (¬ (9 ≤ p2) → WS d m_AR_need 0 [some (.int 1)] [] u (Rv (fun (u14 : Us) => (500 < ((aI u14 0 7) + p2) → WS d m_AR_must 0 [some (.int 0)] [] u14 (Rv (fun (u16 : Us) => WS (d + 1) m_AR_feed 43 [some (.ref 0), some (.long p1), none, some (.int p2), some (.int (p2 - 1))] [] u16 Q) (fun x u => Q (.inr x) u))) ∧ (¬ (500 < ((aI u14 0 7) + p2)) → WS d m_AR_must 0 [some (.int 1)] [] u14 (Rv (fun (u18 : Us) => WS (d + 1) m_AR_feed 43 [some (.ref 0), some (.long p1), none, some (.int p2), some (.int (p2 - 1))] [] u18 Q) (fun x u => Q (.inr x) u)))) (fun x u => Q (.inr x) u))))) :
    WS (d + 1) m_AR_feed 0 [some (.ref 0), some (.long p1), none, some (.int p2), none] [] u Q := by
  refine w_iload_n (dk_AR_feed 0 rfl) rfl ?_
  refine w_if_le 14 (dk_AR_feed 1 rfl) (by decide) (fun c_ => ?_) (fun c_ => ?_)
  · replace h := h.1 c_
    refine w_iconst (v := 0) (dk_AR_feed 7 rfl) rfl ?_
    refine w_callSv (ls' := [some (.int 0)]) cv_AR_69 (dk_AR_feed 8 rfl) [.int 0] [] rfl rfl (Nat.le_of_ble_eq_true rfl) (Nat.le_of_ble_eq_true rfl) rfl rfl rfl h (fun u2 h => ?_)
    refine w_aload_n (dk_AR_feed 9 rfl) rfl ?_
    refine w_geti (v := aI u2 0 7) (dk_AR_feed 10 rfl) lk_AR_73 rfl rfl rfl ?_
    refine w_iload_n (dk_AR_feed 11 rfl) rfl ?_
    refine w_iadd (dk_AR_feed 12 rfl) ?_
    refine w_sipush (v := 500) (dk_AR_feed 13 rfl) rfl ?_
    refine w_icmp_gt 34 (dk_AR_feed 14 rfl) (by decide) (fun c_ => ?_) (fun c_ => ?_)
    · replace h := h.1 c_
      refine w_iconst (v := 0) (dk_AR_feed 17 rfl) rfl ?_
      refine w_callSv (ls' := [some (.int 0)]) cv_AR_76 (dk_AR_feed 18 rfl) [.int 0] [] rfl rfl (Nat.le_of_ble_eq_true rfl) (Nat.le_of_ble_eq_true rfl) rfl rfl rfl h (fun u4 h => ?_)
      refine w_iload_n (dk_AR_feed 19 rfl) rfl ?_
      refine w_iconst (v := 1) (dk_AR_feed 20 rfl) rfl ?_
      refine w_isub (dk_AR_feed 21 rfl) ?_
      refine w_istore (ls' := [some (.ref 0), some (.long p1), none, some (.int p2), some (.int (p2 - 1))]) (dk_AR_feed 22 rfl) (by decide) rfl ?_
      exact h
    · replace h := h.2 c_
      refine w_iconst (v := 1) (dk_AR_feed 15 rfl) rfl ?_
      refine w_goto 35 (dk_AR_feed 16 rfl) (by decide) ?_
      refine w_callSv (ls' := [some (.int 1)]) cv_AR_76 (dk_AR_feed 18 rfl) [.int 1] [] rfl rfl (Nat.le_of_ble_eq_true rfl) (Nat.le_of_ble_eq_true rfl) rfl rfl rfl h (fun u6 h => ?_)
      refine w_iload_n (dk_AR_feed 19 rfl) rfl ?_
      refine w_iconst (v := 1) (dk_AR_feed 20 rfl) rfl ?_
      refine w_isub (dk_AR_feed 21 rfl) ?_
      refine w_istore (ls' := [some (.ref 0), some (.long p1), none, some (.int p2), some (.int (p2 - 1))]) (dk_AR_feed 22 rfl) (by decide) rfl ?_
      exact h
  · replace h := h.2 c_
    refine w_iload_n (dk_AR_feed 2 rfl) rfl ?_
    refine w_bipush (v := 9) (dk_AR_feed 3 rfl) rfl ?_
    refine w_icmp_ge 14 (dk_AR_feed 4 rfl) (by decide) (fun c_ => ?_) (fun c_ => ?_)
    · replace h := h.1 c_
      refine w_iconst (v := 0) (dk_AR_feed 7 rfl) rfl ?_
      refine w_callSv (ls' := [some (.int 0)]) cv_AR_69 (dk_AR_feed 8 rfl) [.int 0] [] rfl rfl (Nat.le_of_ble_eq_true rfl) (Nat.le_of_ble_eq_true rfl) rfl rfl rfl h (fun u8 h => ?_)
      refine w_aload_n (dk_AR_feed 9 rfl) rfl ?_
      refine w_geti (v := aI u8 0 7) (dk_AR_feed 10 rfl) lk_AR_73 rfl rfl rfl ?_
      refine w_iload_n (dk_AR_feed 11 rfl) rfl ?_
      refine w_iadd (dk_AR_feed 12 rfl) ?_
      refine w_sipush (v := 500) (dk_AR_feed 13 rfl) rfl ?_
      refine w_icmp_gt 34 (dk_AR_feed 14 rfl) (by decide) (fun c_ => ?_) (fun c_ => ?_)
      · replace h := h.1 c_
        refine w_iconst (v := 0) (dk_AR_feed 17 rfl) rfl ?_
        refine w_callSv (ls' := [some (.int 0)]) cv_AR_76 (dk_AR_feed 18 rfl) [.int 0] [] rfl rfl (Nat.le_of_ble_eq_true rfl) (Nat.le_of_ble_eq_true rfl) rfl rfl rfl h (fun u10 h => ?_)
        refine w_iload_n (dk_AR_feed 19 rfl) rfl ?_
        refine w_iconst (v := 1) (dk_AR_feed 20 rfl) rfl ?_
        refine w_isub (dk_AR_feed 21 rfl) ?_
        refine w_istore (ls' := [some (.ref 0), some (.long p1), none, some (.int p2), some (.int (p2 - 1))]) (dk_AR_feed 22 rfl) (by decide) rfl ?_
        exact h
      · replace h := h.2 c_
        refine w_iconst (v := 1) (dk_AR_feed 15 rfl) rfl ?_
        refine w_goto 35 (dk_AR_feed 16 rfl) (by decide) ?_
        refine w_callSv (ls' := [some (.int 1)]) cv_AR_76 (dk_AR_feed 18 rfl) [.int 1] [] rfl rfl (Nat.le_of_ble_eq_true rfl) (Nat.le_of_ble_eq_true rfl) rfl rfl rfl h (fun u12 h => ?_)
        refine w_iload_n (dk_AR_feed 19 rfl) rfl ?_
        refine w_iconst (v := 1) (dk_AR_feed 20 rfl) rfl ?_
        refine w_isub (dk_AR_feed 21 rfl) ?_
        refine w_istore (ls' := [some (.ref 0), some (.long p1), none, some (.int p2), some (.int (p2 - 1))]) (dk_AR_feed 22 rfl) (by decide) rfl ?_
        exact h
    · replace h := h.2 c_
      refine w_iconst (v := 1) (dk_AR_feed 5 rfl) rfl ?_
      refine w_goto 15 (dk_AR_feed 6 rfl) (by decide) ?_
      refine w_callSv (ls' := [some (.int 1)]) cv_AR_69 (dk_AR_feed 8 rfl) [.int 1] [] rfl rfl (Nat.le_of_ble_eq_true rfl) (Nat.le_of_ble_eq_true rfl) rfl rfl rfl h (fun u14 h => ?_)
      refine w_aload_n (dk_AR_feed 9 rfl) rfl ?_
      refine w_geti (v := aI u14 0 7) (dk_AR_feed 10 rfl) lk_AR_73 rfl rfl rfl ?_
      refine w_iload_n (dk_AR_feed 11 rfl) rfl ?_
      refine w_iadd (dk_AR_feed 12 rfl) ?_
      refine w_sipush (v := 500) (dk_AR_feed 13 rfl) rfl ?_
      refine w_icmp_gt 34 (dk_AR_feed 14 rfl) (by decide) (fun c_ => ?_) (fun c_ => ?_)
      · replace h := h.1 c_
        refine w_iconst (v := 0) (dk_AR_feed 17 rfl) rfl ?_
        refine w_callSv (ls' := [some (.int 0)]) cv_AR_76 (dk_AR_feed 18 rfl) [.int 0] [] rfl rfl (Nat.le_of_ble_eq_true rfl) (Nat.le_of_ble_eq_true rfl) rfl rfl rfl h (fun u16 h => ?_)
        refine w_iload_n (dk_AR_feed 19 rfl) rfl ?_
        refine w_iconst (v := 1) (dk_AR_feed 20 rfl) rfl ?_
        refine w_isub (dk_AR_feed 21 rfl) ?_
        refine w_istore (ls' := [some (.ref 0), some (.long p1), none, some (.int p2), some (.int (p2 - 1))]) (dk_AR_feed 22 rfl) (by decide) rfl ?_
        exact h
      · replace h := h.2 c_
        refine w_iconst (v := 1) (dk_AR_feed 15 rfl) rfl ?_
        refine w_goto 35 (dk_AR_feed 16 rfl) (by decide) ?_
        refine w_callSv (ls' := [some (.int 1)]) cv_AR_76 (dk_AR_feed 18 rfl) [.int 1] [] rfl rfl (Nat.le_of_ble_eq_true rfl) (Nat.le_of_ble_eq_true rfl) rfl rfl rfl h (fun u18 h => ?_)
        refine w_iload_n (dk_AR_feed 19 rfl) rfl ?_
        refine w_iconst (v := 1) (dk_AR_feed 20 rfl) rfl ?_
        refine w_isub (dk_AR_feed 21 rfl) ?_
        refine w_istore (ls' := [some (.ref 0), some (.long p1), none, some (.int p2), some (.int (p2 - 1))]) (dk_AR_feed 22 rfl) (by decide) rfl ?_
        exact h
theorem g_AR_feed_43 {d : Nat} {u : Us} {Q : Ot → Us → Prop} (x1 : Int64) (x3 : Int32) (x4 : Int32)
    (h : (x4 < 0 → Q (.inl (some (.int (aI u 0 7)))) u) ∧ (¬ (x4 < 0) → ∃ k1 : Nat, aI u 0 7 = nI k1 ∧ k1 < 500 ∧ (WS (d + 1) m_AR_feed 43 [some (.ref 0), some (.long x1), none, some (.int x3), some (.int (x4 + (-1)))] [] (uI (uI u 0 7 ((aI u 0 7) + 1)) 1 k1 (vp_nar .byte ((Int32.toInt8 (Int64.toInt32 (x1 >>> (Int32.toInt64 (8 * x4) &&& 63)))).toInt32))) Q))) :
    WS (d + 1) m_AR_feed 43 [some (.ref 0), some (.long x1), none, some (.int x3), some (.int x4)] [] u Q := by
  refine w_iload (dk_AR_feed 23 rfl) rfl ?_
  refine w_if_lt 79 (dk_AR_feed 24 rfl) (by decide) (fun c_ => ?_) (fun c_ => ?_)
  · replace h := h.1 c_
    refine w_aload_n (dk_AR_feed 44 rfl) rfl ?_
    refine w_geti (v := aI u 0 7) (dk_AR_feed 45 rfl) lk_AR_73 rfl rfl rfl ?_
    exact w_iret (dk_AR_feed 46 rfl) rfl h
  · replace h := h.2 c_
    refine w_aload_n (dk_AR_feed 25 rfl) rfl ?_
    refine w_getr (dk_AR_feed 26 rfl) lk_AR_9 rfl rfl rfl ?_
    refine w_aload_n (dk_AR_feed 27 rfl) rfl ?_
    refine w_dup (dk_AR_feed 28 rfl) rfl ?_
    refine w_geti (v := aI u 0 7) (dk_AR_feed 29 rfl) lk_AR_73 rfl rfl rfl ?_
    refine w_dup_x1 (dk_AR_feed 30 rfl) rfl rfl ?_
    refine w_iconst (v := 1) (dk_AR_feed 31 rfl) rfl ?_
    refine w_iadd (dk_AR_feed 32 rfl) ?_
    refine w_puti (dk_AR_feed 33 rfl) lk_AR_73 rfl rfl ?_
    refine w_lload_n (dk_AR_feed 34 rfl) rfl ?_
    refine w_bipush (v := 8) (dk_AR_feed 35 rfl) rfl ?_
    refine w_iload (dk_AR_feed 36 rfl) rfl ?_
    refine w_imul (dk_AR_feed 37 rfl) ?_
    refine w_lshr (dk_AR_feed 38 rfl) ?_
    refine w_l2i (dk_AR_feed 39 rfl) ?_
    refine w_i2b (dk_AR_feed 40 rfl) ?_
    obtain ⟨k1, e_k1, l_k1, h⟩ := h
    refine w_bast (k_ := k1) (dk_AR_feed 41 rfl) rfl (by decide) e_k1 l_k1 ?_
    refine w_iinc (v := x4 + (-1)) (ls' := [some (.ref 0), some (.long x1), none, some (.int x3), some (.int (x4 + (-1)))]) (dk_AR_feed 42 rfl) rfl rfl (by decide) rfl ?_
    refine w_goto 43 (dk_AR_feed 43 rfl) (by decide) ?_
    exact h
theorem g_AR_need_0 {d : Nat} {u : Us} {Q : Ot → Us → Prop} (p1 : Int32)
    (h : (p1 ≠ 0 → Q (.inl none) u) ∧ (p1 = 0 → 1 ≤ aC u ∧ 6 ≤ aN u ∧ Q (.inr 0) (uS u))) :
    WS d m_AR_need 0 [some (.int p1)] [] u Q := by
  refine w_iload_n (dk_AR_need 0 rfl) rfl ?_
  refine w_if_ne 12 (dk_AR_need 1 rfl) (by decide) (fun c_ => ?_) (fun c_ => ?_)
  · replace h := h.1 c_
    exact w_vret (dk_AR_need 6 rfl) rfl h
  · replace h := h.2 c_
    exact w_throw th_AR_63 (dk_AR_need 2 rfl) (dk_AR_need 3 rfl) (dk_AR_need 4 rfl) (dk_AR_need 5 rfl) rfl h.1 h.2.1 h.2.2
theorem g_AR_must_0 {d : Nat} {u : Us} {Q : Ot → Us → Prop} (p1 : Int32)
    (h : (p1 ≠ 0 → Q (.inl none) u) ∧ (p1 = 0 → 1 ≤ aC u ∧ 6 ≤ aN u ∧ Q (.inr 1) (uS u))) :
    WS d m_AR_must 0 [some (.int p1)] [] u Q := by
  refine w_iload_n (dk_AR_must 0 rfl) rfl ?_
  refine w_if_ne 12 (dk_AR_must 1 rfl) (by decide) (fun c_ => ?_) (fun c_ => ?_)
  · replace h := h.1 c_
    exact w_vret (dk_AR_must 6 rfl) rfl h
  · replace h := h.2 c_
    exact w_throw th_AR_66 (dk_AR_must 2 rfl) (dk_AR_must 3 rfl) (dk_AR_must 4 rfl) (dk_AR_must 5 rfl) rfl h.1 h.2.1 h.2.2
def hm_Law_load_3 : Nat → Option (Nat × Nat × Nat) := fun x => match x with | 0 => some (11, 2, 1) | _ => none
theorem ch_Law_load_3 : Ch m_Law_load 3 hm_Law_load_3 := by
  intro x hpc k len h
  match x, h with
  | 0, h => cases h; exact ⟨⟨by decide, Or.inl ⟨2, rfl, rfl, (dk_Law_load 7 rfl)⟩⟩, (tb3 17 rfl), Or.inl ⟨_, rfl, rfl, by decide, by decide, by decide, (tb3 6 rfl)⟩⟩
  | x + 1, h => cases h
theorem g_Law_load_0 {d : Nat} {u : Us} {Q : Ot → Us → Prop} 
    (h : WS d m_AR_load 0 [some (.ref 0), none, none, none] [] u (Ri (fun (r1 : Int32) (u2 : Us) => Q (.inl (some (.int 0))) (uL u2 82 0 (Int32.toInt64 r1))) (fun x3 u2 => (x3 = 0 ∧ (Q (.inl (some (.int 1))) u2))))) :
    WS (d + 1) m_Law_load 0 [some (.ref 0), some (.ref 82), none] [] u Q := by
  refine w_aload_n (dk_Law_load 0 rfl) rfl ?_
  refine w_iconst (v := 0) (dk_Law_load 1 rfl) rfl ?_
  refine w_aload_n (dk_Law_load 2 rfl) rfl ?_
  refine w_callVXi (ls' := [some (.ref 0), none, none, none]) ch_Law_load_3 cv_Law_17 (dk_Law_load 3 rfl) (ci := 9) rfl rfl [] [.int 0, .ref 82] rfl rfl (Nat.le_of_ble_eq_true rfl) (Nat.le_of_ble_eq_true rfl) rfl rfl h (fun r1 u2 h => ?_) (fun x3 u2 h => ?_)
  · skip
    refine w_i2l (dk_Law_load 4 rfl) ?_
    refine w_last (k_ := 0) (dk_Law_load 5 rfl) rfl (by decide) rfl (by decide) ?_
    refine w_goto 14 (dk_Law_load 6 rfl) (by decide) ?_
    refine w_iconst (v := 0) (dk_Law_load 10 rfl) rfl ?_
    exact w_iret (dk_Law_load 11 rfl) rfl h
  · obtain ⟨rfl, h⟩ := h
    refine ⟨11, 2, 1, rfl, ?_⟩
    show WS _ _ 12 [some (.ref 0), some (.ref 82), none] _ _ _
    refine w_iconst (v := 1) (dk_Law_load 8 rfl) rfl ?_
    exact w_iret (dk_Law_load 9 rfl) rfl h
theorem g_AR_load_0 {d : Nat} {u : Us} {Q : Ot → Us → Prop} 
    (h : ∃ k1 : Nat, aI u 0 7 = nI k1 ∧ k1 ≤ 500 ∧ (∀ q, q < k1 → fits .byte (.int (aI u 1 q)) = true) ∧ (WS d m_AR_reads 0 [some (.ref 0), none, none] [] (uI (uI (uCp u 1 11 0 0 k1) 10 2 (aI (uCp u 1 11 0 0 k1) 0 7)) 0 7 0) (Ri (fun (r2 : Int32) (u3 : Us) => (r2 = 0 ∨ r2 = 1) ∧ ((r2 ≠ 0 → WS d m_AR_need 0 [some (.int r2)] [] (uI u3 0 9 r2) (Rv (fun (u5 : Us) => Q (.inl (some (.int (aI u5 10 7)))) u5) (fun x u => Q (.inr x) u))) ∧ (r2 = 0 → WS d m_AR_need 0 [some (.int r2)] [] (uI (uI (uI (uI u3 0 9 r2) 2 7 (aI u 2 7)) 2 8 (aI u 2 8)) 12 1 (aI u 12 1)) (Rv (fun (u7 : Us) => Q (.inl (some (.int (aI u7 10 7)))) u7) (fun x u => Q (.inr x) u))))) (fun x u => Q (.inr x) u)))) :
    WS (d + 1) m_AR_load 0 [some (.ref 0), none, none, none] [] u Q := by
  refine w_aload_n (dk_AR_load 0 rfl) rfl ?_
  refine w_getr (dk_AR_load 1 rfl) lk_AR_16 rfl rfl rfl ?_
  refine w_geti (v := aI u 2 7) (dk_AR_load 2 rfl) lk_AR_108 rfl rfl rfl ?_
  refine w_istore_n (ls' := [some (.ref 0), some (.int (aI u 2 7)), none, none]) (dk_AR_load 3 rfl) (by decide) rfl ?_
  refine w_aload_n (dk_AR_load 4 rfl) rfl ?_
  refine w_getr (dk_AR_load 5 rfl) lk_AR_16 rfl rfl rfl ?_
  refine w_geti (v := aI u 2 8) (dk_AR_load 6 rfl) lk_AR_111 rfl rfl rfl ?_
  refine w_istore_n (ls' := [some (.ref 0), some (.int (aI u 2 7)), some (.int (aI u 2 8)), none]) (dk_AR_load 7 rfl) (by decide) rfl ?_
  refine w_aload_n (dk_AR_load 8 rfl) rfl ?_
  refine w_getr (dk_AR_load 9 rfl) lk_AR_23 rfl rfl rfl ?_
  refine w_getr (dk_AR_load 10 rfl) lk_AR_114 rfl rfl rfl ?_
  refine w_geti (v := aI u 12 1) (dk_AR_load 11 rfl) lk_AR_118 rfl rfl rfl ?_
  refine w_istore_n (ls' := [some (.ref 0), some (.int (aI u 2 7)), some (.int (aI u 2 8)), some (.int (aI u 12 1))]) (dk_AR_load 12 rfl) (by decide) rfl ?_
  refine w_aload_n (dk_AR_load 13 rfl) rfl ?_
  refine w_getr (dk_AR_load 14 rfl) lk_AR_9 rfl rfl rfl ?_
  refine w_iconst (v := 0) (dk_AR_load 15 rfl) rfl ?_
  refine w_aload_n (dk_AR_load 16 rfl) rfl ?_
  refine w_getr (dk_AR_load 17 rfl) lk_AR_23 rfl rfl rfl ?_
  refine w_getr (dk_AR_load 18 rfl) lk_AR_121 rfl rfl rfl ?_
  refine w_iconst (v := 0) (dk_AR_load 19 rfl) rfl ?_
  refine w_aload_n (dk_AR_load 20 rfl) rfl ?_
  refine w_geti (v := aI u 0 7) (dk_AR_load 21 rfl) lk_AR_73 rfl rfl rfl ?_
  obtain ⟨k1, e_k1, l_k1, f_k1, h⟩ := h
  refine w_copyb (a := 0) (b := 0) (k := k1) ac_AR_124 (dk_AR_load 22 rfl) rfl rfl rfl rfl e_k1 ⟨by decide, by decide, by omega⟩ (by omega) (by omega) (fun q hq => by rw [Nat.zero_add]; exact f_k1 q hq) (Nat.le_of_ble_eq_true rfl) ?_
  refine w_aload_n (dk_AR_load 23 rfl) rfl ?_
  refine w_getr (dk_AR_load 24 rfl) lk_AR_23 rfl rfl rfl ?_
  refine w_aload_n (dk_AR_load 25 rfl) rfl ?_
  refine w_geti (v := aI (uCp u 1 11 0 0 k1) 0 7) (dk_AR_load 26 rfl) lk_AR_73 rfl rfl rfl ?_
  refine w_puti (dk_AR_load 27 rfl) lk_AR_130 rfl rfl ?_
  refine w_aload_n (dk_AR_load 28 rfl) rfl ?_
  refine w_iconst (v := 0) (dk_AR_load 29 rfl) rfl ?_
  refine w_puti (dk_AR_load 30 rfl) lk_AR_73 rfl rfl ?_
  refine w_aload_n (dk_AR_load 31 rfl) rfl ?_
  refine w_aload_n (dk_AR_load 32 rfl) rfl ?_
  refine w_callVi (ls' := [some (.ref 0), none, none]) cv_AR_131 (dk_AR_load 33 rfl) (ci := 9) rfl rfl [] [.ref 0] rfl rfl (Nat.le_of_ble_eq_true rfl) (Nat.le_of_ble_eq_true rfl) rfl rfl rfl h (fun r2 u3 h => ?_)
  obtain ⟨hz, h⟩ := h
  refine w_putz (dk_AR_load 34 rfl) lk_AR_135 rfl rfl hz ?_
  refine w_aload_n (dk_AR_load 35 rfl) rfl ?_
  refine w_geti (v := r2) (dk_AR_load 36 rfl) lk_AR_135 rfl rfl rfl ?_
  refine w_if_ne 105 (dk_AR_load 37 rfl) (by decide) (fun c_ => ?_) (fun c_ => ?_)
  · replace h := h.1 c_
    refine w_aload_n (dk_AR_load 51 rfl) rfl ?_
    refine w_geti (v := r2) (dk_AR_load 52 rfl) lk_AR_135 rfl rfl rfl ?_
    refine w_callSv (ls' := [some (.int r2)]) cv_AR_69 (dk_AR_load 53 rfl) [.int r2] [] rfl rfl (Nat.le_of_ble_eq_true rfl) (Nat.le_of_ble_eq_true rfl) rfl rfl rfl h (fun u5 h => ?_)
    refine w_aload_n (dk_AR_load 54 rfl) rfl ?_
    refine w_getr (dk_AR_load 55 rfl) lk_AR_23 rfl rfl rfl ?_
    refine w_geti (v := aI u5 10 7) (dk_AR_load 56 rfl) lk_AR_139 rfl rfl rfl ?_
    exact w_iret (dk_AR_load 57 rfl) rfl h
  · replace h := h.2 c_
    refine w_aload_n (dk_AR_load 38 rfl) rfl ?_
    refine w_getr (dk_AR_load 39 rfl) lk_AR_16 rfl rfl rfl ?_
    refine w_iload_n (dk_AR_load 40 rfl) rfl ?_
    refine w_puti (dk_AR_load 41 rfl) lk_AR_108 rfl rfl ?_
    refine w_aload_n (dk_AR_load 42 rfl) rfl ?_
    refine w_getr (dk_AR_load 43 rfl) lk_AR_16 rfl rfl rfl ?_
    refine w_iload_n (dk_AR_load 44 rfl) rfl ?_
    refine w_puti (dk_AR_load 45 rfl) lk_AR_111 rfl rfl ?_
    refine w_aload_n (dk_AR_load 46 rfl) rfl ?_
    refine w_getr (dk_AR_load 47 rfl) lk_AR_23 rfl rfl rfl ?_
    refine w_getr (dk_AR_load 48 rfl) lk_AR_114 rfl rfl rfl ?_
    refine w_iload_n (dk_AR_load 49 rfl) rfl ?_
    refine w_puti (dk_AR_load 50 rfl) lk_AR_118 rfl rfl ?_
    refine w_aload_n (dk_AR_load 51 rfl) rfl ?_
    refine w_geti (v := r2) (dk_AR_load 52 rfl) lk_AR_135 rfl rfl rfl ?_
    refine w_callSv (ls' := [some (.int r2)]) cv_AR_69 (dk_AR_load 53 rfl) [.int r2] [] rfl rfl (Nat.le_of_ble_eq_true rfl) (Nat.le_of_ble_eq_true rfl) rfl rfl rfl h (fun u7 h => ?_)
    refine w_aload_n (dk_AR_load 54 rfl) rfl ?_
    refine w_getr (dk_AR_load 55 rfl) lk_AR_23 rfl rfl rfl ?_
    refine w_geti (v := aI u7 10 7) (dk_AR_load 56 rfl) lk_AR_139 rfl rfl rfl ?_
    exact w_iret (dk_AR_load 57 rfl) rfl h
def hm_AR_reads_72 : Nat → Option (Nat × Nat × Nat) := fun x => match x with | 2 => some (81, 2, 1) | _ => none
theorem ch_AR_reads_72 : Ch m_AR_reads 72 hm_AR_reads_72 := by
  intro x hpc k len h
  match x, h with
  | 2, h => cases h; exact ⟨⟨by decide, Or.inl ⟨2, rfl, rfl, (dk_AR_reads 40 rfl)⟩⟩, (tb3 126 rfl), Or.inl ⟨_, rfl, rfl, by decide, by decide, by decide, (tb3 111 rfl)⟩⟩
  | 0, h => cases h
  | 1, h => cases h
  | x + 3, h => cases h
def hm_AR_reads_62 : Nat → Option (Nat × Nat × Nat) := fun x => match x with | 2 => some (81, 2, 1) | _ => none
theorem ch_AR_reads_62 : Ch m_AR_reads 62 hm_AR_reads_62 := by
  intro x hpc k len h
  match x, h with
  | 2, h => cases h; exact ⟨⟨by decide, Or.inl ⟨2, rfl, rfl, (dk_AR_reads 40 rfl)⟩⟩, (tb3 126 rfl), Or.inl ⟨_, rfl, rfl, by decide, by decide, by decide, (tb3 111 rfl)⟩⟩
  | 0, h => cases h
  | 1, h => cases h
  | x + 3, h => cases h
theorem g_AR_reads_0 {d : Nat} {u : Us} {Q : Ot → Us → Prop} 
    (h : WS d m_Scan_begin 0 [some (.ref 10)] [] (uI (uI (uI (uI (uI (uI (uI u 14 2 0) 14 8 0) 22 13 0) 22 14 0) 36 5 0) 36 6 0) 36 7 (-1)) (Rv (fun (u2 : Us) => WS d m_Pars_all 0 [some (.ref 36), some (.int 22), none, none, none] [] u2 (Ri (fun (r4 : Int32) (u5 : Us) => Q (.inl (some (.int 1))) (uI u5 0 8 r4)) (fun x6 u5 => (x6 = 2 ∧ (Q (.inl (some (.int 0))) u5))))) (fun x3 u2 => (x3 = 2 ∧ (Q (.inl (some (.int 0))) u2))))) :
    WS (d + 1) m_AR_reads 0 [some (.ref 0), none, none] [] u Q := by
  refine w_iconst (v := 1) (dk_AR_reads 0 rfl) rfl ?_
  refine w_istore_n (ls' := [some (.ref 0), some (.int 1), none]) (dk_AR_reads 1 rfl) (by decide) rfl ?_
  refine w_aload_n (dk_AR_reads 2 rfl) rfl ?_
  refine w_getr (dk_AR_reads 3 rfl) lk_AR_30 rfl rfl rfl ?_
  refine w_iconst (v := 0) (dk_AR_reads 4 rfl) rfl ?_
  refine w_puti (dk_AR_reads 5 rfl) lk_AR_79 rfl rfl ?_
  refine w_aload_n (dk_AR_reads 6 rfl) rfl ?_
  refine w_getr (dk_AR_reads 7 rfl) lk_AR_30 rfl rfl rfl ?_
  refine w_iconst (v := 0) (dk_AR_reads 8 rfl) rfl ?_
  refine w_puti (dk_AR_reads 9 rfl) lk_AR_80 rfl rfl ?_
  refine w_aload_n (dk_AR_reads 10 rfl) rfl ?_
  refine w_getr (dk_AR_reads 11 rfl) lk_AR_37 rfl rfl rfl ?_
  refine w_iconst (v := 0) (dk_AR_reads 12 rfl) rfl ?_
  refine w_puti (dk_AR_reads 13 rfl) lk_AR_83 rfl rfl ?_
  refine w_aload_n (dk_AR_reads 14 rfl) rfl ?_
  refine w_getr (dk_AR_reads 15 rfl) lk_AR_37 rfl rfl rfl ?_
  refine w_iconst (v := 0) (dk_AR_reads 16 rfl) rfl ?_
  refine w_puti (dk_AR_reads 17 rfl) lk_AR_84 rfl rfl ?_
  refine w_aload_n (dk_AR_reads 18 rfl) rfl ?_
  refine w_getr (dk_AR_reads 19 rfl) lk_AR_46 rfl rfl rfl ?_
  refine w_iconst (v := 0) (dk_AR_reads 20 rfl) rfl ?_
  refine w_puti (dk_AR_reads 21 rfl) lk_AR_87 rfl rfl ?_
  refine w_aload_n (dk_AR_reads 22 rfl) rfl ?_
  refine w_getr (dk_AR_reads 23 rfl) lk_AR_46 rfl rfl rfl ?_
  refine w_iconst (v := 0) (dk_AR_reads 24 rfl) rfl ?_
  refine w_puti (dk_AR_reads 25 rfl) lk_AR_90 rfl rfl ?_
  refine w_aload_n (dk_AR_reads 26 rfl) rfl ?_
  refine w_getr (dk_AR_reads 27 rfl) lk_AR_46 rfl rfl rfl ?_
  refine w_iconst (v := (-1)) (dk_AR_reads 28 rfl) rfl ?_
  refine w_puti (dk_AR_reads 29 rfl) lk_AR_93 rfl rfl ?_
  refine w_aload_n (dk_AR_reads 30 rfl) rfl ?_
  refine w_getr (dk_AR_reads 31 rfl) lk_AR_23 rfl rfl rfl ?_
  refine w_callVXv (ls' := [some (.ref 10)]) ch_AR_reads_62 cv_AR_96 (dk_AR_reads 32 rfl) (ci := 1) rfl rfl [] [] rfl rfl (Nat.le_of_ble_eq_true rfl) (Nat.le_of_ble_eq_true rfl) rfl rfl h (fun u2 h => ?_) (fun x3 u2 h => ?_)
  · skip
    refine w_aload_n (dk_AR_reads 33 rfl) rfl ?_
    refine w_aload_n (dk_AR_reads 34 rfl) rfl ?_
    refine w_getr (dk_AR_reads 35 rfl) lk_AR_46 rfl rfl rfl ?_
    refine w_bipush (v := 22) (dk_AR_reads 36 rfl) rfl ?_
    refine w_callSXi (ls' := [some (.ref 36), some (.int 22), none, none, none]) ch_AR_reads_72 cv_AR_99 (dk_AR_reads 37 rfl) [.ref 36, .int 22] [.ref 0] rfl rfl (Nat.le_of_ble_eq_true rfl) (Nat.le_of_ble_eq_true rfl) rfl rfl h (fun r4 u5 h => ?_) (fun x6 u5 h => ?_)
    · skip
      refine w_puti (dk_AR_reads 38 rfl) lk_AR_103 rfl rfl ?_
      refine w_goto 84 (dk_AR_reads 39 rfl) (by decide) ?_
      refine w_iload_n (dk_AR_reads 43 rfl) rfl ?_
      exact w_bret (dk_AR_reads 44 rfl) rfl (Or.inr rfl) h
    · obtain ⟨rfl, h⟩ := h
      refine ⟨81, 2, 1, rfl, ?_⟩
      show WS _ _ 82 [some (.ref 0), some (.int 1), none] _ _ _
      refine w_iconst (v := 0) (dk_AR_reads 41 rfl) rfl ?_
      refine w_istore_n (ls' := [some (.ref 0), some (.int 0), none]) (dk_AR_reads 42 rfl) (by decide) rfl ?_
      refine w_iload_n (dk_AR_reads 43 rfl) rfl ?_
      exact w_bret (dk_AR_reads 44 rfl) rfl (Or.inl rfl) h
  · obtain ⟨rfl, h⟩ := h
    refine ⟨81, 2, 1, rfl, ?_⟩
    show WS _ _ 82 [some (.ref 0), some (.int 1), none] _ _ _
    refine w_iconst (v := 0) (dk_AR_reads 41 rfl) rfl ?_
    refine w_istore_n (ls' := [some (.ref 0), some (.int 0), none]) (dk_AR_reads 42 rfl) (by decide) rfl ?_
    refine w_iload_n (dk_AR_reads 43 rfl) rfl ?_
    exact w_bret (dk_AR_reads 44 rfl) rfl (Or.inl rfl) h
def hm_Law_run_4 : Nat → Option (Nat × Nat × Nat) := fun x => match x with | 0 => some (12, 3, 1) | 1 => some (15, 3, 1) | _ => none
theorem ch_Law_run_4 : Ch m_Law_run 4 hm_Law_run_4 := by
  intro x hpc k len h
  match x, h with
  | 0, h => cases h; exact ⟨⟨by decide, Or.inl ⟨3, rfl, rfl, (dk_Law_run 8 rfl)⟩⟩, (tb3 17 rfl), Or.inr ⟨_, _, rfl, by decide, by decide, by decide, by decide, by decide, by decide, Or.inl ⟨rfl, (tb3 6 rfl)⟩⟩⟩
  | 1, h => cases h; exact ⟨⟨by decide, Or.inl ⟨3, rfl, rfl, (dk_Law_run 11 rfl)⟩⟩, (tb3 84 rfl), Or.inr ⟨_, _, rfl, by decide, by decide, by decide, by decide, by decide, by decide, Or.inr ⟨rfl, rfl, (tb3 6 rfl), (tb3 7 rfl)⟩⟩⟩
  | x + 2, h => cases h
theorem g_Law_run_0 {d : Nat} {u : Us} {Q : Ot → Us → Prop} (p2 : Int32)
    (h : WS d m_AR_run 0 [some (.ref 0), some (.int p2), none] [] u (Ri (fun (r1 : Int32) (u2 : Us) => Q (.inl (some (.int 0))) (uL u2 82 0 (Int32.toInt64 r1))) (fun x3 u2 => (x3 = 0 ∧ (Q (.inl (some (.int 1))) u2)) ∨ (x3 = 1 ∧ (Q (.inl (some (.int 2))) u2))))) :
    WS (d + 1) m_Law_run 0 [some (.ref 0), some (.int p2), some (.ref 82), none] [] u Q := by
  refine w_aload_n (dk_Law_run 0 rfl) rfl ?_
  refine w_iconst (v := 0) (dk_Law_run 1 rfl) rfl ?_
  refine w_aload_n (dk_Law_run 2 rfl) rfl ?_
  refine w_iload_n (dk_Law_run 3 rfl) rfl ?_
  refine w_callVXi (ls' := [some (.ref 0), some (.int p2), none]) ch_Law_run_4 cv_Law_21 (dk_Law_run 4 rfl) (ci := 9) rfl rfl [.int p2] [.int 0, .ref 82] rfl rfl (Nat.le_of_ble_eq_true rfl) (Nat.le_of_ble_eq_true rfl) rfl rfl h (fun r1 u2 h => ?_) (fun x3 u2 h => ?_)
  · skip
    refine w_i2l (dk_Law_run 5 rfl) ?_
    refine w_last (k_ := 0) (dk_Law_run 6 rfl) rfl (by decide) rfl (by decide) ?_
    refine w_goto 18 (dk_Law_run 7 rfl) (by decide) ?_
    refine w_iconst (v := 0) (dk_Law_run 14 rfl) rfl ?_
    exact w_iret (dk_Law_run 15 rfl) rfl h
  · rcases h with ⟨rfl, h⟩ | ⟨rfl, h⟩
    · skip
      refine ⟨12, 3, 1, rfl, ?_⟩
      show WS _ _ 13 [some (.ref 0), some (.int p2), some (.ref 82), none] _ _ _
      refine w_iconst (v := 1) (dk_Law_run 9 rfl) rfl ?_
      exact w_iret (dk_Law_run 10 rfl) rfl h
    · skip
      refine ⟨15, 3, 1, rfl, ?_⟩
      show WS _ _ 16 [some (.ref 0), some (.int p2), some (.ref 82), none] _ _ _
      refine w_iconst (v := 2) (dk_Law_run 12 rfl) rfl ?_
      exact w_iret (dk_Law_run 13 rfl) rfl h
theorem g_AR_run_0 {d : Nat} {u : Us} {Q : Ot → Us → Prop} (p1 : Int32)
    (h : (p1 ≤ 0 → WS d m_AR_need 0 [some (.int 0)] [] u (Rv (fun (u2 : Us) => WS d m_AR_must 0 [some (.int (aI u2 0 9))] [] u2 (Rv (fun (u4 : Us) => WS d m_Mach_all 0 [some (.ref 38), some (.int (aI u4 0 8)), none] [] (uI (uI (uI (uI (uI (uI u4 38 7 p1) 38 8 0) 38 9 0) 38 6 0) 42 3 0) 38 14 0) (Ri (fun (r5 : Int32) (u6 : Us) => Q (.inl (some (.int (aI u6 38 9)))) u6) (fun x u => Q (.inr x) u))) (fun x u => Q (.inr x) u))) (fun x u => Q (.inr x) u))) ∧ (¬ (p1 ≤ 0) → (20000 < p1 → WS d m_AR_need 0 [some (.int 0)] [] u (Rv (fun (u8 : Us) => WS d m_AR_must 0 [some (.int (aI u8 0 9))] [] u8 (Rv (fun (u10 : Us) => WS d m_Mach_all 0 [some (.ref 38), some (.int (aI u10 0 8)), none] [] (uI (uI (uI (uI (uI (uI u10 38 7 p1) 38 8 0) 38 9 0) 38 6 0) 42 3 0) 38 14 0) (Ri (fun (r11 : Int32) (u12 : Us) => Q (.inl (some (.int (aI u12 38 9)))) u12) (fun x u => Q (.inr x) u))) (fun x u => Q (.inr x) u))) (fun x u => Q (.inr x) u))) ∧ (¬ (20000 < p1) → WS d m_AR_need 0 [some (.int 1)] [] u (Rv (fun (u14 : Us) => WS d m_AR_must 0 [some (.int (aI u14 0 9))] [] u14 (Rv (fun (u16 : Us) => WS d m_Mach_all 0 [some (.ref 38), some (.int (aI u16 0 8)), none] [] (uI (uI (uI (uI (uI (uI u16 38 7 p1) 38 8 0) 38 9 0) 38 6 0) 42 3 0) 38 14 0) (Ri (fun (r17 : Int32) (u18 : Us) => Q (.inl (some (.int (aI u18 38 9)))) u18) (fun x u => Q (.inr x) u))) (fun x u => Q (.inr x) u))) (fun x u => Q (.inr x) u))))) :
    WS (d + 1) m_AR_run 0 [some (.ref 0), some (.int p1), none] [] u Q := by
  refine w_iload_n (dk_AR_run 0 rfl) rfl ?_
  refine w_if_le 15 (dk_AR_run 1 rfl) (by decide) (fun c_ => ?_) (fun c_ => ?_)
  · replace h := h.1 c_
    refine w_iconst (v := 0) (dk_AR_run 7 rfl) rfl ?_
    refine w_callSv (ls' := [some (.int 0)]) cv_AR_69 (dk_AR_run 8 rfl) [.int 0] [] rfl rfl (Nat.le_of_ble_eq_true rfl) (Nat.le_of_ble_eq_true rfl) rfl rfl rfl h (fun u2 h => ?_)
    refine w_aload_n (dk_AR_run 9 rfl) rfl ?_
    refine w_geti (v := aI u2 0 9) (dk_AR_run 10 rfl) lk_AR_135 rfl rfl rfl ?_
    refine w_callSv (ls' := [some (.int (aI u2 0 9))]) cv_AR_76 (dk_AR_run 11 rfl) [.int (aI u2 0 9)] [] rfl rfl (Nat.le_of_ble_eq_true rfl) (Nat.le_of_ble_eq_true rfl) rfl rfl rfl h (fun u4 h => ?_)
    refine w_aload_n (dk_AR_run 12 rfl) rfl ?_
    refine w_getr (dk_AR_run 13 rfl) lk_AR_55 rfl rfl rfl ?_
    refine w_iload_n (dk_AR_run 14 rfl) rfl ?_
    refine w_puti (dk_AR_run 15 rfl) lk_AR_142 rfl rfl ?_
    refine w_aload_n (dk_AR_run 16 rfl) rfl ?_
    refine w_getr (dk_AR_run 17 rfl) lk_AR_55 rfl rfl rfl ?_
    refine w_iconst (v := 0) (dk_AR_run 18 rfl) rfl ?_
    refine w_puti (dk_AR_run 19 rfl) lk_AR_145 rfl rfl ?_
    refine w_aload_n (dk_AR_run 20 rfl) rfl ?_
    refine w_getr (dk_AR_run 21 rfl) lk_AR_55 rfl rfl rfl ?_
    refine w_iconst (v := 0) (dk_AR_run 22 rfl) rfl ?_
    refine w_puti (dk_AR_run 23 rfl) lk_AR_148 rfl rfl ?_
    refine w_aload_n (dk_AR_run 24 rfl) rfl ?_
    refine w_getr (dk_AR_run 25 rfl) lk_AR_55 rfl rfl rfl ?_
    refine w_iconst (v := 0) (dk_AR_run 26 rfl) rfl ?_
    refine w_puti (dk_AR_run 27 rfl) lk_AR_151 rfl rfl ?_
    refine w_aload_n (dk_AR_run 28 rfl) rfl ?_
    refine w_getr (dk_AR_run 29 rfl) lk_AR_55 rfl rfl rfl ?_
    refine w_getr (dk_AR_run 30 rfl) lk_AR_154 rfl rfl rfl ?_
    refine w_iconst (v := 0) (dk_AR_run 31 rfl) rfl ?_
    refine w_puti (dk_AR_run 32 rfl) lk_AR_158 rfl rfl ?_
    refine w_aload_n (dk_AR_run 33 rfl) rfl ?_
    refine w_getr (dk_AR_run 34 rfl) lk_AR_55 rfl rfl rfl ?_
    refine w_iconst (v := 0) (dk_AR_run 35 rfl) rfl ?_
    refine w_puti (dk_AR_run 36 rfl) lk_AR_161 rfl rfl ?_
    refine w_aload_n (dk_AR_run 37 rfl) rfl ?_
    refine w_getr (dk_AR_run 38 rfl) lk_AR_55 rfl rfl rfl ?_
    refine w_aload_n (dk_AR_run 39 rfl) rfl ?_
    refine w_geti (v := aI u4 0 8) (dk_AR_run 40 rfl) lk_AR_103 rfl rfl rfl ?_
    refine w_callSi (ls' := [some (.ref 38), some (.int (aI u4 0 8)), none]) cv_AR_162 (dk_AR_run 41 rfl) [.ref 38, .int (aI u4 0 8)] [] rfl rfl (Nat.le_of_ble_eq_true rfl) (Nat.le_of_ble_eq_true rfl) rfl rfl rfl h (fun r5 u6 h => ?_)
    refine w_istore_n (ls' := [some (.ref 0), some (.int p1), some (.int r5)]) (dk_AR_run 42 rfl) (by decide) rfl ?_
    refine w_aload_n (dk_AR_run 43 rfl) rfl ?_
    refine w_getr (dk_AR_run 44 rfl) lk_AR_55 rfl rfl rfl ?_
    refine w_geti (v := aI u6 38 9) (dk_AR_run 45 rfl) lk_AR_148 rfl rfl rfl ?_
    exact w_iret (dk_AR_run 46 rfl) rfl h
  · replace h := h.2 c_
    refine w_iload_n (dk_AR_run 2 rfl) rfl ?_
    refine w_sipush (v := 20000) (dk_AR_run 3 rfl) rfl ?_
    refine w_icmp_gt 15 (dk_AR_run 4 rfl) (by decide) (fun c_ => ?_) (fun c_ => ?_)
    · replace h := h.1 c_
      refine w_iconst (v := 0) (dk_AR_run 7 rfl) rfl ?_
      refine w_callSv (ls' := [some (.int 0)]) cv_AR_69 (dk_AR_run 8 rfl) [.int 0] [] rfl rfl (Nat.le_of_ble_eq_true rfl) (Nat.le_of_ble_eq_true rfl) rfl rfl rfl h (fun u8 h => ?_)
      refine w_aload_n (dk_AR_run 9 rfl) rfl ?_
      refine w_geti (v := aI u8 0 9) (dk_AR_run 10 rfl) lk_AR_135 rfl rfl rfl ?_
      refine w_callSv (ls' := [some (.int (aI u8 0 9))]) cv_AR_76 (dk_AR_run 11 rfl) [.int (aI u8 0 9)] [] rfl rfl (Nat.le_of_ble_eq_true rfl) (Nat.le_of_ble_eq_true rfl) rfl rfl rfl h (fun u10 h => ?_)
      refine w_aload_n (dk_AR_run 12 rfl) rfl ?_
      refine w_getr (dk_AR_run 13 rfl) lk_AR_55 rfl rfl rfl ?_
      refine w_iload_n (dk_AR_run 14 rfl) rfl ?_
      refine w_puti (dk_AR_run 15 rfl) lk_AR_142 rfl rfl ?_
      refine w_aload_n (dk_AR_run 16 rfl) rfl ?_
      refine w_getr (dk_AR_run 17 rfl) lk_AR_55 rfl rfl rfl ?_
      refine w_iconst (v := 0) (dk_AR_run 18 rfl) rfl ?_
      refine w_puti (dk_AR_run 19 rfl) lk_AR_145 rfl rfl ?_
      refine w_aload_n (dk_AR_run 20 rfl) rfl ?_
      refine w_getr (dk_AR_run 21 rfl) lk_AR_55 rfl rfl rfl ?_
      refine w_iconst (v := 0) (dk_AR_run 22 rfl) rfl ?_
      refine w_puti (dk_AR_run 23 rfl) lk_AR_148 rfl rfl ?_
      refine w_aload_n (dk_AR_run 24 rfl) rfl ?_
      refine w_getr (dk_AR_run 25 rfl) lk_AR_55 rfl rfl rfl ?_
      refine w_iconst (v := 0) (dk_AR_run 26 rfl) rfl ?_
      refine w_puti (dk_AR_run 27 rfl) lk_AR_151 rfl rfl ?_
      refine w_aload_n (dk_AR_run 28 rfl) rfl ?_
      refine w_getr (dk_AR_run 29 rfl) lk_AR_55 rfl rfl rfl ?_
      refine w_getr (dk_AR_run 30 rfl) lk_AR_154 rfl rfl rfl ?_
      refine w_iconst (v := 0) (dk_AR_run 31 rfl) rfl ?_
      refine w_puti (dk_AR_run 32 rfl) lk_AR_158 rfl rfl ?_
      refine w_aload_n (dk_AR_run 33 rfl) rfl ?_
      refine w_getr (dk_AR_run 34 rfl) lk_AR_55 rfl rfl rfl ?_
      refine w_iconst (v := 0) (dk_AR_run 35 rfl) rfl ?_
      refine w_puti (dk_AR_run 36 rfl) lk_AR_161 rfl rfl ?_
      refine w_aload_n (dk_AR_run 37 rfl) rfl ?_
      refine w_getr (dk_AR_run 38 rfl) lk_AR_55 rfl rfl rfl ?_
      refine w_aload_n (dk_AR_run 39 rfl) rfl ?_
      refine w_geti (v := aI u10 0 8) (dk_AR_run 40 rfl) lk_AR_103 rfl rfl rfl ?_
      refine w_callSi (ls' := [some (.ref 38), some (.int (aI u10 0 8)), none]) cv_AR_162 (dk_AR_run 41 rfl) [.ref 38, .int (aI u10 0 8)] [] rfl rfl (Nat.le_of_ble_eq_true rfl) (Nat.le_of_ble_eq_true rfl) rfl rfl rfl h (fun r11 u12 h => ?_)
      refine w_istore_n (ls' := [some (.ref 0), some (.int p1), some (.int r11)]) (dk_AR_run 42 rfl) (by decide) rfl ?_
      refine w_aload_n (dk_AR_run 43 rfl) rfl ?_
      refine w_getr (dk_AR_run 44 rfl) lk_AR_55 rfl rfl rfl ?_
      refine w_geti (v := aI u12 38 9) (dk_AR_run 45 rfl) lk_AR_148 rfl rfl rfl ?_
      exact w_iret (dk_AR_run 46 rfl) rfl h
    · replace h := h.2 c_
      refine w_iconst (v := 1) (dk_AR_run 5 rfl) rfl ?_
      refine w_goto 16 (dk_AR_run 6 rfl) (by decide) ?_
      refine w_callSv (ls' := [some (.int 1)]) cv_AR_69 (dk_AR_run 8 rfl) [.int 1] [] rfl rfl (Nat.le_of_ble_eq_true rfl) (Nat.le_of_ble_eq_true rfl) rfl rfl rfl h (fun u14 h => ?_)
      refine w_aload_n (dk_AR_run 9 rfl) rfl ?_
      refine w_geti (v := aI u14 0 9) (dk_AR_run 10 rfl) lk_AR_135 rfl rfl rfl ?_
      refine w_callSv (ls' := [some (.int (aI u14 0 9))]) cv_AR_76 (dk_AR_run 11 rfl) [.int (aI u14 0 9)] [] rfl rfl (Nat.le_of_ble_eq_true rfl) (Nat.le_of_ble_eq_true rfl) rfl rfl rfl h (fun u16 h => ?_)
      refine w_aload_n (dk_AR_run 12 rfl) rfl ?_
      refine w_getr (dk_AR_run 13 rfl) lk_AR_55 rfl rfl rfl ?_
      refine w_iload_n (dk_AR_run 14 rfl) rfl ?_
      refine w_puti (dk_AR_run 15 rfl) lk_AR_142 rfl rfl ?_
      refine w_aload_n (dk_AR_run 16 rfl) rfl ?_
      refine w_getr (dk_AR_run 17 rfl) lk_AR_55 rfl rfl rfl ?_
      refine w_iconst (v := 0) (dk_AR_run 18 rfl) rfl ?_
      refine w_puti (dk_AR_run 19 rfl) lk_AR_145 rfl rfl ?_
      refine w_aload_n (dk_AR_run 20 rfl) rfl ?_
      refine w_getr (dk_AR_run 21 rfl) lk_AR_55 rfl rfl rfl ?_
      refine w_iconst (v := 0) (dk_AR_run 22 rfl) rfl ?_
      refine w_puti (dk_AR_run 23 rfl) lk_AR_148 rfl rfl ?_
      refine w_aload_n (dk_AR_run 24 rfl) rfl ?_
      refine w_getr (dk_AR_run 25 rfl) lk_AR_55 rfl rfl rfl ?_
      refine w_iconst (v := 0) (dk_AR_run 26 rfl) rfl ?_
      refine w_puti (dk_AR_run 27 rfl) lk_AR_151 rfl rfl ?_
      refine w_aload_n (dk_AR_run 28 rfl) rfl ?_
      refine w_getr (dk_AR_run 29 rfl) lk_AR_55 rfl rfl rfl ?_
      refine w_getr (dk_AR_run 30 rfl) lk_AR_154 rfl rfl rfl ?_
      refine w_iconst (v := 0) (dk_AR_run 31 rfl) rfl ?_
      refine w_puti (dk_AR_run 32 rfl) lk_AR_158 rfl rfl ?_
      refine w_aload_n (dk_AR_run 33 rfl) rfl ?_
      refine w_getr (dk_AR_run 34 rfl) lk_AR_55 rfl rfl rfl ?_
      refine w_iconst (v := 0) (dk_AR_run 35 rfl) rfl ?_
      refine w_puti (dk_AR_run 36 rfl) lk_AR_161 rfl rfl ?_
      refine w_aload_n (dk_AR_run 37 rfl) rfl ?_
      refine w_getr (dk_AR_run 38 rfl) lk_AR_55 rfl rfl rfl ?_
      refine w_aload_n (dk_AR_run 39 rfl) rfl ?_
      refine w_geti (v := aI u16 0 8) (dk_AR_run 40 rfl) lk_AR_103 rfl rfl rfl ?_
      refine w_callSi (ls' := [some (.ref 38), some (.int (aI u16 0 8)), none]) cv_AR_162 (dk_AR_run 41 rfl) [.ref 38, .int (aI u16 0 8)] [] rfl rfl (Nat.le_of_ble_eq_true rfl) (Nat.le_of_ble_eq_true rfl) rfl rfl rfl h (fun r17 u18 h => ?_)
      refine w_istore_n (ls' := [some (.ref 0), some (.int p1), some (.int r17)]) (dk_AR_run 42 rfl) (by decide) rfl ?_
      refine w_aload_n (dk_AR_run 43 rfl) rfl ?_
      refine w_getr (dk_AR_run 44 rfl) lk_AR_55 rfl rfl rfl ?_
      refine w_geti (v := aI u18 38 9) (dk_AR_run 45 rfl) lk_AR_148 rfl rfl rfl ?_
      exact w_iret (dk_AR_run 46 rfl) rfl h
def hm_Law_print_4 : Nat → Option (Nat × Nat × Nat) := fun x => match x with | 3 => some (12, 3, 1) | _ => none
theorem ch_Law_print_4 : Ch m_Law_print 4 hm_Law_print_4 := by
  intro x hpc k len h
  match x, h with
  | 3, h => cases h; exact ⟨⟨by decide, Or.inl ⟨3, rfl, rfl, (dk_Law_print 8 rfl)⟩⟩, (tb5 13 rfl), Or.inl ⟨_, rfl, rfl, by decide, by decide, by decide, (tb5 6 rfl)⟩⟩
  | 0, h => cases h
  | 1, h => cases h
  | 2, h => cases h
  | x + 4, h => cases h
theorem g_Law_print_0 {d : Nat} {u : Us} {Q : Ot → Us → Prop} (p2 : Int32)
    (h : WS d m_AR_print 0 [some (.ref 0), some (.int p2)] [] u (Ri (fun (r1 : Int32) (u2 : Us) => Q (.inl (some (.int 0))) (uL u2 82 0 (Int32.toInt64 r1))) (fun x3 u2 => (x3 = 3 ∧ (Q (.inl (some (.int 1))) u2))))) :
    WS (d + 1) m_Law_print 0 [some (.ref 0), some (.int p2), some (.ref 82), none] [] u Q := by
  refine w_aload_n (dk_Law_print 0 rfl) rfl ?_
  refine w_iconst (v := 0) (dk_Law_print 1 rfl) rfl ?_
  refine w_aload_n (dk_Law_print 2 rfl) rfl ?_
  refine w_iload_n (dk_Law_print 3 rfl) rfl ?_
  refine w_callVXi (ls' := [some (.ref 0), some (.int p2)]) ch_Law_print_4 cv_Law_25 (dk_Law_print 4 rfl) (ci := 9) rfl rfl [.int p2] [.int 0, .ref 82] rfl rfl (Nat.le_of_ble_eq_true rfl) (Nat.le_of_ble_eq_true rfl) rfl rfl h (fun r1 u2 h => ?_) (fun x3 u2 h => ?_)
  · skip
    refine w_i2l (dk_Law_print 5 rfl) ?_
    refine w_last (k_ := 0) (dk_Law_print 6 rfl) rfl (by decide) rfl (by decide) ?_
    refine w_goto 15 (dk_Law_print 7 rfl) (by decide) ?_
    refine w_iconst (v := 0) (dk_Law_print 11 rfl) rfl ?_
    exact w_iret (dk_Law_print 12 rfl) rfl h
  · obtain ⟨rfl, h⟩ := h
    refine ⟨12, 3, 1, rfl, ?_⟩
    show WS _ _ 13 [some (.ref 0), some (.int p2), some (.ref 82), none] _ _ _
    refine w_iconst (v := 1) (dk_Law_print 9 rfl) rfl ?_
    exact w_iret (dk_Law_print 10 rfl) rfl h
theorem g_AR_print_0 {d : Nat} {u : Us} {Q : Ot → Us → Prop} (p1 : Int32)
    (h : (p1 < 0 → 1 ≤ aC u ∧ 6 ≤ aN u ∧ Q (.inr 3) (uS u)) ∧ (¬ (p1 < 0) → ((aI u 38 16) ≤ p1 → 1 ≤ aC u ∧ 6 ≤ aN u ∧ Q (.inr 3) (uS u)) ∧ (¬ ((aI u 38 16) ≤ p1) → (((aI u 38 16) - 64) ≤ p1 → ∃ k1 : Nat, p1 - p1 / 64 * 64 = nI k1 ∧ k1 < 64 ∧ (Q (.inl (some (.int (aI u 51 k1)))) u)) ∧ (¬ (((aI u 38 16) - 64) ≤ p1) → 1 ≤ aC u ∧ 6 ≤ aN u ∧ Q (.inr 3) (uS u))))) :
    WS d m_AR_print 0 [some (.ref 0), some (.int p1)] [] u Q := by
  refine w_iload_n (dk_AR_print 0 rfl) rfl ?_
  refine w_if_lt 29 (dk_AR_print 1 rfl) (by decide) (fun c_ => ?_) (fun c_ => ?_)
  · replace h := h.1 c_
    exact w_throw th_AR_168 (dk_AR_print 14 rfl) (dk_AR_print 15 rfl) (dk_AR_print 16 rfl) (dk_AR_print 17 rfl) rfl h.1 h.2.1 h.2.2
  · replace h := h.2 c_
    refine w_iload_n (dk_AR_print 2 rfl) rfl ?_
    refine w_aload_n (dk_AR_print 3 rfl) rfl ?_
    refine w_getr (dk_AR_print 4 rfl) lk_AR_55 rfl rfl rfl ?_
    refine w_geti (v := aI u 38 16) (dk_AR_print 5 rfl) lk_AR_165 rfl rfl rfl ?_
    refine w_icmp_ge 29 (dk_AR_print 6 rfl) (by decide) (fun c_ => ?_) (fun c_ => ?_)
    · replace h := h.1 c_
      exact w_throw th_AR_168 (dk_AR_print 14 rfl) (dk_AR_print 15 rfl) (dk_AR_print 16 rfl) (dk_AR_print 17 rfl) rfl h.1 h.2.1 h.2.2
    · replace h := h.2 c_
      refine w_iload_n (dk_AR_print 7 rfl) rfl ?_
      refine w_aload_n (dk_AR_print 8 rfl) rfl ?_
      refine w_getr (dk_AR_print 9 rfl) lk_AR_55 rfl rfl rfl ?_
      refine w_geti (v := aI u 38 16) (dk_AR_print 10 rfl) lk_AR_165 rfl rfl rfl ?_
      refine w_bipush (v := 64) (dk_AR_print 11 rfl) rfl ?_
      refine w_isub (dk_AR_print 12 rfl) ?_
      refine w_icmp_ge 37 (dk_AR_print 13 rfl) (by decide) (fun c_ => ?_) (fun c_ => ?_)
      · replace h := h.1 c_
        refine w_aload_n (dk_AR_print 18 rfl) rfl ?_
        refine w_getr (dk_AR_print 19 rfl) lk_AR_55 rfl rfl rfl ?_
        refine w_getr (dk_AR_print 20 rfl) lk_AR_171 rfl rfl rfl ?_
        refine w_iload_n (dk_AR_print 21 rfl) rfl ?_
        refine w_bipush (v := 64) (dk_AR_print 22 rfl) rfl ?_
        refine w_irem (dk_AR_print 23 rfl) (by decide) ?_
        obtain ⟨k1, e_k1, l_k1, h⟩ := h
        refine w_iald (k_ := k1) (dk_AR_print 24 rfl) rfl (by decide) e_k1 l_k1 ?_
        exact w_iret (dk_AR_print 25 rfl) rfl h
      · replace h := h.2 c_
        exact w_throw th_AR_168 (dk_AR_print 14 rfl) (dk_AR_print 15 rfl) (dk_AR_print 16 rfl) (dk_AR_print 17 rfl) rfl h.1 h.2.1 h.2.2
def hm_Law_word_5 : Nat → Option (Nat × Nat × Nat) := fun x => match x with | 0 => some (13, 4, 2) | _ => none
theorem ch_Law_word_5 : Ch m_Law_word 5 hm_Law_word_5 := by
  intro x hpc k len h
  match x, h with
  | 0, h => cases h; exact ⟨⟨by decide, Or.inr ⟨rfl, (dk_Law_word 9 rfl)⟩⟩, (tb3 17 rfl), Or.inl ⟨_, rfl, rfl, by decide, by decide, by decide, (tb3 6 rfl)⟩⟩
  | x + 1, h => cases h
theorem g_Law_word_0 {d : Nat} {u : Us} {Q : Ot → Us → Prop} (p2 : Int32) (p3 : Int32)
    (h : WS d m_AR_word 0 [some (.ref 0), some (.int p2), some (.int p3), none, none] [] u (Ri (fun (r1 : Int32) (u2 : Us) => Q (.inl (some (.int 0))) (uL u2 82 0 (Int32.toInt64 r1))) (fun x3 u2 => (x3 = 0 ∧ (Q (.inl (some (.int 1))) u2))))) :
    WS (d + 1) m_Law_word 0 [some (.ref 0), some (.int p2), some (.int p3), some (.ref 82), none] [] u Q := by
  refine w_aload_n (dk_Law_word 0 rfl) rfl ?_
  refine w_iconst (v := 0) (dk_Law_word 1 rfl) rfl ?_
  refine w_aload_n (dk_Law_word 2 rfl) rfl ?_
  refine w_iload_n (dk_Law_word 3 rfl) rfl ?_
  refine w_iload_n (dk_Law_word 4 rfl) rfl ?_
  refine w_callVXi (ls' := [some (.ref 0), some (.int p2), some (.int p3), none, none]) ch_Law_word_5 cv_Law_30 (dk_Law_word 5 rfl) (ci := 9) rfl rfl [.int p2, .int p3] [.int 0, .ref 82] rfl rfl (Nat.le_of_ble_eq_true rfl) (Nat.le_of_ble_eq_true rfl) rfl rfl h (fun r1 u2 h => ?_) (fun x3 u2 h => ?_)
  · skip
    refine w_i2l (dk_Law_word 6 rfl) ?_
    refine w_last (k_ := 0) (dk_Law_word 7 rfl) rfl (by decide) rfl (by decide) ?_
    refine w_goto 17 (dk_Law_word 8 rfl) (by decide) ?_
    refine w_iconst (v := 0) (dk_Law_word 12 rfl) rfl ?_
    exact w_iret (dk_Law_word 13 rfl) rfl h
  · obtain ⟨rfl, h⟩ := h
    refine ⟨13, 4, 2, rfl, ?_⟩
    show WS _ _ 15 [some (.ref 0), some (.int p2), some (.int p3), some (.ref 82), none] _ _ _
    refine w_iconst (v := 1) (dk_Law_word 10 rfl) rfl ?_
    exact w_iret (dk_Law_word 11 rfl) rfl h
theorem g_AR_word_0 {d : Nat} {u : Us} {Q : Ot → Us → Prop} (p1 : Int32) (p2 : Int32)
    (h : (p1 < 0 → WS (d + 1) m_AR_word 25 [some (.ref 0), some (.int p1), some (.int p2), none, none] [.int 0] u Q) ∧ (¬ (p1 < 0) → (64 ≤ p1 → WS (d + 1) m_AR_word 25 [some (.ref 0), some (.int p1), some (.int p2), none, none] [.int 0] u Q) ∧ (¬ (64 ≤ p1) → (p2 < 0 → WS (d + 1) m_AR_word 25 [some (.ref 0), some (.int p1), some (.int p2), none, none] [.int 0] u Q) ∧ (¬ (p2 < 0) → (6 < p2 → WS (d + 1) m_AR_word 25 [some (.ref 0), some (.int p1), some (.int p2), none, none] [.int 0] u Q) ∧ (¬ (6 < p2) → WS (d + 1) m_AR_word 25 [some (.ref 0), some (.int p1), some (.int p2), none, none] [.int 1] u Q))))) :
    WS (d + 1) m_AR_word 0 [some (.ref 0), some (.int p1), some (.int p2), none, none] [] u Q := by
  refine w_iload_n (dk_AR_word 0 rfl) rfl ?_
  refine w_if_lt 24 (dk_AR_word 1 rfl) (by decide) (fun c_ => ?_) (fun c_ => ?_)
  · replace h := h.1 c_
    refine w_iconst (v := 0) (dk_AR_word 12 rfl) rfl ?_
    exact h
  · replace h := h.2 c_
    refine w_iload_n (dk_AR_word 2 rfl) rfl ?_
    refine w_bipush (v := 64) (dk_AR_word 3 rfl) rfl ?_
    refine w_icmp_ge 24 (dk_AR_word 4 rfl) (by decide) (fun c_ => ?_) (fun c_ => ?_)
    · replace h := h.1 c_
      refine w_iconst (v := 0) (dk_AR_word 12 rfl) rfl ?_
      exact h
    · replace h := h.2 c_
      refine w_iload_n (dk_AR_word 5 rfl) rfl ?_
      refine w_if_lt 24 (dk_AR_word 6 rfl) (by decide) (fun c_ => ?_) (fun c_ => ?_)
      · replace h := h.1 c_
        refine w_iconst (v := 0) (dk_AR_word 12 rfl) rfl ?_
        exact h
      · replace h := h.2 c_
        refine w_iload_n (dk_AR_word 7 rfl) rfl ?_
        refine w_bipush (v := 6) (dk_AR_word 8 rfl) rfl ?_
        refine w_icmp_gt 24 (dk_AR_word 9 rfl) (by decide) (fun c_ => ?_) (fun c_ => ?_)
        · replace h := h.1 c_
          refine w_iconst (v := 0) (dk_AR_word 12 rfl) rfl ?_
          exact h
        · replace h := h.2 c_
          refine w_iconst (v := 1) (dk_AR_word 10 rfl) rfl ?_
          refine w_goto 25 (dk_AR_word 11 rfl) (by decide) ?_
          exact h
theorem g_AR_word_25 {d : Nat} {u : Us} {Q : Ot → Us → Prop} (x1 : Int32) (x2 : Int32) (s0 : Int32)
    (h : WS d m_AR_need 0 [some (.int s0)] [] u (Rv (fun (u2 : Us) => WS d m_Stor_read 0 [some (.ref 39), some (.int x1), some (.int 0), some (.int 3), none, none] [] u2 (Ri (fun (r3 : Int32) (u4 : Us) => (x2 = 0 → (x2 ≠ 0 → Q (.inl (some (.int 0))) u4) ∧ (x2 = 0 → Q (.inl (some (.int r3))) u4)) ∧ (¬ (x2 = 0) → (r3 = 0 → (x2 ≠ 0 → Q (.inl (some (.int 0))) u4) ∧ (x2 = 0 → Q (.inl (some (.int r3))) u4)) ∧ (¬ (r3 = 0) → ∃ k5 : Nat, r3 - 1 = nI k5 ∧ k5 < 7 ∧ ((x2 ≤ (aI u4 4 k5) → ∃ k6 : Nat, (((r3 - 1) * 6) + x2) - 1 = nI k6 ∧ k6 < 42 ∧ (∃ k7 : Nat, (((r3 - 1) * 6) + x2) - 1 = nI k7 ∧ k7 < 42 ∧ (WS d m_Stor_read 0 [some (.ref 39), some (.int x1), some (.int (aI u4 7 k6)), some (.int (aI u4 6 k7)), none, none] [] u4 (Ri (fun (r8 : Int32) (u9 : Us) => Q (.inl (some (.int r8))) u9) (fun x u => Q (.inr x) u))))) ∧ (¬ (x2 ≤ (aI u4 4 k5)) → (x2 ≠ 0 → Q (.inl (some (.int 0))) u4) ∧ (x2 = 0 → Q (.inl (some (.int r3))) u4)))))) (fun x u => Q (.inr x) u))) (fun x u => Q (.inr x) u))) :
    WS (d + 1) m_AR_word 25 [some (.ref 0), some (.int x1), some (.int x2), none, none] [.int s0] u Q := by
  refine w_callSv (ls' := [some (.int s0)]) cv_AR_69 (dk_AR_word 13 rfl) [.int s0] [] rfl rfl (Nat.le_of_ble_eq_true rfl) (Nat.le_of_ble_eq_true rfl) rfl rfl rfl h (fun u2 h => ?_)
  refine w_aload_n (dk_AR_word 14 rfl) rfl ?_
  refine w_getr (dk_AR_word 15 rfl) lk_AR_55 rfl rfl rfl ?_
  refine w_getr (dk_AR_word 16 rfl) lk_AR_175 rfl rfl rfl ?_
  refine w_iload_n (dk_AR_word 17 rfl) rfl ?_
  refine w_iconst (v := 0) (dk_AR_word 18 rfl) rfl ?_
  refine w_iconst (v := 3) (dk_AR_word 19 rfl) rfl ?_
  refine w_callVi (ls' := [some (.ref 39), some (.int x1), some (.int 0), some (.int 3), none, none]) cv_AR_179 (dk_AR_word 20 rfl) (ci := 7) rfl rfl [.int x1, .int 0, .int 3] [] rfl rfl (Nat.le_of_ble_eq_true rfl) (Nat.le_of_ble_eq_true rfl) rfl rfl rfl h (fun r3 u4 h => ?_)
  refine w_istore_n (ls' := [some (.ref 0), some (.int x1), some (.int x2), some (.int r3), none]) (dk_AR_word 21 rfl) (by decide) rfl ?_
  refine w_iload_n (dk_AR_word 22 rfl) rfl ?_
  refine w_if_eq 65 (dk_AR_word 23 rfl) (by decide) (fun c_ => ?_) (fun c_ => ?_)
  · replace h := h.1 c_
    refine w_iload_n (dk_AR_word 35 rfl) rfl ?_
    refine w_if_ne 73 (dk_AR_word 36 rfl) (by decide) (fun c_ => ?_) (fun c_ => ?_)
    · replace h := h.1 c_
      refine w_iconst (v := 0) (dk_AR_word 39 rfl) rfl ?_
      exact w_iret (dk_AR_word 40 rfl) rfl h
    · replace h := h.2 c_
      refine w_iload_n (dk_AR_word 37 rfl) rfl ?_
      refine w_goto 74 (dk_AR_word 38 rfl) (by decide) ?_
      exact w_iret (dk_AR_word 40 rfl) rfl h
  · replace h := h.2 c_
    refine w_iload_n (dk_AR_word 24 rfl) rfl ?_
    refine w_if_eq 65 (dk_AR_word 25 rfl) (by decide) (fun c_ => ?_) (fun c_ => ?_)
    · replace h := h.1 c_
      refine w_iload_n (dk_AR_word 35 rfl) rfl ?_
      refine w_if_ne 73 (dk_AR_word 36 rfl) (by decide) (fun c_ => ?_) (fun c_ => ?_)
      · replace h := h.1 c_
        refine w_iconst (v := 0) (dk_AR_word 39 rfl) rfl ?_
        exact w_iret (dk_AR_word 40 rfl) rfl h
      · replace h := h.2 c_
        refine w_iload_n (dk_AR_word 37 rfl) rfl ?_
        refine w_goto 74 (dk_AR_word 38 rfl) (by decide) ?_
        exact w_iret (dk_AR_word 40 rfl) rfl h
    · replace h := h.2 c_
      refine w_iload_n (dk_AR_word 26 rfl) rfl ?_
      refine w_aload_n (dk_AR_word 27 rfl) rfl ?_
      refine w_getr (dk_AR_word 28 rfl) lk_AR_16 rfl rfl rfl ?_
      refine w_getr (dk_AR_word 29 rfl) lk_AR_185 rfl rfl rfl ?_
      refine w_iload_n (dk_AR_word 30 rfl) rfl ?_
      refine w_iconst (v := 1) (dk_AR_word 31 rfl) rfl ?_
      refine w_isub (dk_AR_word 32 rfl) ?_
      obtain ⟨k5, e_k5, l_k5, h⟩ := h
      refine w_iald (k_ := k5) (dk_AR_word 33 rfl) rfl (by decide) e_k5 l_k5 ?_
      refine w_icmp_le 75 (dk_AR_word 34 rfl) (by decide) (fun c_ => ?_) (fun c_ => ?_)
      · replace h := h.1 c_
        refine w_iload_n (dk_AR_word 41 rfl) rfl ?_
        refine w_iconst (v := 1) (dk_AR_word 42 rfl) rfl ?_
        refine w_isub (dk_AR_word 43 rfl) ?_
        refine w_bipush (v := 6) (dk_AR_word 44 rfl) rfl ?_
        refine w_imul (dk_AR_word 45 rfl) ?_
        refine w_iload_n (dk_AR_word 46 rfl) rfl ?_
        refine w_iadd (dk_AR_word 47 rfl) ?_
        refine w_iconst (v := 1) (dk_AR_word 48 rfl) rfl ?_
        refine w_isub (dk_AR_word 49 rfl) ?_
        refine w_istore (ls' := [some (.ref 0), some (.int x1), some (.int x2), some (.int r3), some (.int ((((r3 - 1) * 6) + x2) - 1))]) (dk_AR_word 50 rfl) (by decide) rfl ?_
        refine w_aload_n (dk_AR_word 51 rfl) rfl ?_
        refine w_getr (dk_AR_word 52 rfl) lk_AR_55 rfl rfl rfl ?_
        refine w_getr (dk_AR_word 53 rfl) lk_AR_175 rfl rfl rfl ?_
        refine w_iload_n (dk_AR_word 54 rfl) rfl ?_
        refine w_aload_n (dk_AR_word 55 rfl) rfl ?_
        refine w_getr (dk_AR_word 56 rfl) lk_AR_16 rfl rfl rfl ?_
        refine w_getr (dk_AR_word 57 rfl) lk_AR_188 rfl rfl rfl ?_
        refine w_iload (dk_AR_word 58 rfl) rfl ?_
        obtain ⟨k6, e_k6, l_k6, h⟩ := h
        refine w_iald (k_ := k6) (dk_AR_word 59 rfl) rfl (by decide) e_k6 l_k6 ?_
        refine w_aload_n (dk_AR_word 60 rfl) rfl ?_
        refine w_getr (dk_AR_word 61 rfl) lk_AR_16 rfl rfl rfl ?_
        refine w_getr (dk_AR_word 62 rfl) lk_AR_191 rfl rfl rfl ?_
        refine w_iload (dk_AR_word 63 rfl) rfl ?_
        obtain ⟨k7, e_k7, l_k7, h⟩ := h
        refine w_iald (k_ := k7) (dk_AR_word 64 rfl) rfl (by decide) e_k7 l_k7 ?_
        refine w_callVi (ls' := [some (.ref 39), some (.int x1), some (.int (aI u4 7 k6)), some (.int (aI u4 6 k7)), none, none]) cv_AR_179 (dk_AR_word 65 rfl) (ci := 7) rfl rfl [.int x1, .int (aI u4 7 k6), .int (aI u4 6 k7)] [] rfl rfl (Nat.le_of_ble_eq_true rfl) (Nat.le_of_ble_eq_true rfl) rfl rfl rfl h (fun r8 u9 h => ?_)
        exact w_iret (dk_AR_word 66 rfl) rfl h
      · replace h := h.2 c_
        refine w_iload_n (dk_AR_word 35 rfl) rfl ?_
        refine w_if_ne 73 (dk_AR_word 36 rfl) (by decide) (fun c_ => ?_) (fun c_ => ?_)
        · replace h := h.1 c_
          refine w_iconst (v := 0) (dk_AR_word 39 rfl) rfl ?_
          exact w_iret (dk_AR_word 40 rfl) rfl h
        · replace h := h.2 c_
          refine w_iload_n (dk_AR_word 37 rfl) rfl ?_
          refine w_goto 74 (dk_AR_word 38 rfl) (by decide) ?_
          exact w_iret (dk_AR_word 40 rfl) rfl h
