-- the text of the words: String.length and charAt
section WJ
variable {d : Nat} {y : My} {pc idx : Nat} {ls : Lo} {stk : List Value} {u : Us} {Q : Ot → Us → Prop}
theorem w_sval (hd : decode y.2.1 pc = .ok (.getfield idx, 3)) (hw : Cond.fieldLink y.1.cls idx "java/lang/String" "value" "[B" ∈ lw_tbl) (kk : WS d y (pc + 3) ls (.ref 1001 :: stk) u Q) : WS d y pc ls (.ref 1000 :: stk) u Q := q_sval hd hw kk
theorem w_scod (hd : decode y.2.1 pc = .ok (.getfield idx, 3)) (hw : Cond.fieldLink y.1.cls idx "java/lang/String" "coder" "B" ∈ lw_tbl) (kk : WS d y (pc + 3) ls (.int 0 :: stk) u Q) : WS d y pc ls (.ref 1000 :: stk) u Q := q_scod hd hw kk
theorem w_scmp (hd : decode y.2.1 pc = .ok (.getstatic idx, 3)) (hw : Cond.fieldLink y.1.cls idx "java/lang/String" "COMPACT_STRINGS" "Z" ∈ lw_tbl) (kk : WS d y (pc + 3) ls (.int 1 :: stk) u Q) : WS d y pc ls stk u Q := q_scmp hd hw kk
theorem w_sfmt (hd : decode y.2.1 pc = .ok (.getstatic idx, 3)) (hw : Cond.fieldLink y.1.cls idx "jdk/internal/util/Preconditions" "SIOOBE_FORMATTER" "Ljava/util/function/BiFunction;" ∈ lw_tbl) (k1 : WS d y (pc + 3) ls (.null :: stk) u Q) (k2 : WS d y (pc + 3) ls (.ref 1002 :: stk) u Q) : WS d y pc ls stk u Q := q_sfmt hd hw k1 k2
theorem w_tlen (hd : decode y.2.1 pc = .ok (.arraylength, 1)) (kk : WS d y (pc + 1) ls (.int 104 :: stk) u Q) : WS d y pc ls (.ref 1001 :: stk) u Q := q_tlen hd kk
theorem w_tb {j : Int32} {k : Nat} (hd : decode y.2.1 pc = .ok (.baload, 1)) (hj : j = nI k) (hk : k < 104) (kk : WS d y (pc + 1) ls (.int (wBy.getD k 0) :: stk) u Q) : WS d y pc ls (.int j :: .ref 1001 :: stk) u Q := by
  subst hj
  refine q_tb hd (vp_in_nI hk (by decide)) ?_
  rw [nI_clamp (Nat.lt_trans hk (by decide))]
  exact kk
end WJ
theorem s_JStr_coder {d : Nat} {u : Us} {Q : Ot → Us → Prop} (hq : Q (.inl (some (.int 0))) u) : WS d m_JStr_coder 0 [some (.ref 1000)] [] u Q := by
  refine w_scmp (dk_JStr_coder 0 rfl) (tb3 156 rfl) ?_
  refine w_if_eq_f (dk_JStr_coder 1 rfl) 13 rfl (by decide) ?_
  refine w_aload_n (dk_JStr_coder 2 rfl) rfl ?_
  refine w_scod (dk_JStr_coder 3 rfl) (tb7 23 rfl) ?_
  refine w_goto 14 (dk_JStr_coder 4 rfl) rfl ?_
  exact w_zret (dk_JStr_coder 6 rfl) rfl rfl hq
theorem s_JStr_length {d : Nat} {u : Us} {Q : Ot → Us → Prop} (hq : Q (.inl (some (.int 104))) u) : WS (d + 1) m_JStr_length 0 [some (.ref 1000)] [] u Q := by
  refine w_aload_n (dk_JStr_length 0 rfl) rfl ?_
  refine w_sval (dk_JStr_length 1 rfl) (tb7 22 rfl) ?_
  refine w_tlen (dk_JStr_length 2 rfl) ?_
  refine w_aload_n (dk_JStr_length 3 rfl) rfl ?_
  refine w_callVsi (ls' := [some (.ref 1000)]) (T := fun r u1 => r = 0 ∧ u1 = u) cv_JStr_335 (dk_JStr_length 4 rfl) [] [.int 104] rfl rfl (Nat.le_of_ble_eq_true rfl) (Nat.le_of_ble_eq_true rfl) rfl rfl rfl (s_JStr_coder ⟨rfl, rfl⟩) (fun r u1 h => ?_)
  obtain ⟨rfl, rfl⟩ := h
  refine w_ishr (dk_JStr_length 5 rfl) ?_
  exact w_iret (dk_JStr_length 6 rfl) rfl hq
theorem s_JStr_isLatin1 {d : Nat} {u : Us} {Q : Ot → Us → Prop} (hq : Q (.inl (some (.int 1))) u) : WS d m_JStr_isLatin1 0 [some (.ref 1000)] [] u Q := by
  refine w_scmp (dk_JStr_isLatin1 0 rfl) (tb3 156 rfl) ?_
  refine w_if_eq_f (dk_JStr_isLatin1 1 rfl) 17 rfl (by decide) ?_
  refine w_aload_n (dk_JStr_isLatin1 2 rfl) rfl ?_
  refine w_scod (dk_JStr_isLatin1 3 rfl) (tb7 23 rfl) ?_
  refine w_if_ne_f (dk_JStr_isLatin1 4 rfl) 17 rfl rfl ?_
  refine w_iconst (dk_JStr_isLatin1 5 rfl) rfl ?_
  refine w_goto 18 (dk_JStr_isLatin1 6 rfl) rfl ?_
  exact w_bret (dk_JStr_isLatin1 8 rfl) rfl (.inr rfl) hq
theorem s_JPre_check {d k : Nat} {v : Value} {u : Us} {Q : Ot → Us → Prop} (hk : k < 104) (hq : Q (.inl (some (.int (nI k)))) u) : WS d m_JPre_checkIndex 0 [some (.int (nI k)), some (.int 104), some v] [] u Q := by
  refine w_iload_n (dk_JPre_checkIndex 0 rfl) rfl ?_
  refine w_if_lt_f (dk_JPre_checkIndex 1 rfl) 9 rfl (nI_pos (by omega)) ?_
  refine w_iload_n (dk_JPre_checkIndex 2 rfl) rfl ?_
  refine w_iload_n (dk_JPre_checkIndex 3 rfl) rfl ?_
  refine w_icmp_lt_t 16 (dk_JPre_checkIndex 4 rfl) rfl (nI_lt (b := 104) hk (by decide)) ?_
  refine w_iload_n (dk_JPre_checkIndex 10 rfl) rfl ?_
  exact w_iret (dk_JPre_checkIndex 11 rfl) rfl hq
theorem s_JStr_check {d k : Nat} {u : Us} {Q : Ot → Us → Prop} (hk : k < 104) (hq : Q (.inl none) u) : WS (d + 1) m_JStr_checkIndex 0 [some (.int (nI k)), some (.int 104)] [] u Q := by
  refine w_iload_n (dk_JStr_checkIndex 0 rfl) rfl ?_
  refine w_iload_n (dk_JStr_checkIndex 1 rfl) rfl ?_
  refine w_sfmt (dk_JStr_checkIndex 2 rfl) (tb3 172 rfl) ?_ ?_
  · refine w_callSi (ls' := [some (.int (nI k)), some (.int 104), some .null]) (T := fun r u1 => r = nI k ∧ u1 = u) cv_JStr_1059 (dk_JStr_checkIndex 3 rfl) [.int (nI k), .int 104, .null] [] rfl rfl (Nat.le_of_ble_eq_true rfl) (Nat.le_of_ble_eq_true rfl) rfl rfl rfl (s_JPre_check hk ⟨rfl, rfl⟩) (fun r u1 h => ?_)
    obtain ⟨rfl, rfl⟩ := h
    refine w_pop (dk_JStr_checkIndex 4 rfl) rfl ?_
    exact w_vret (dk_JStr_checkIndex 5 rfl) rfl hq
  · refine w_callSi (ls' := [some (.int (nI k)), some (.int 104), some (.ref 1002)]) (T := fun r u1 => r = nI k ∧ u1 = u) cv_JStr_1059 (dk_JStr_checkIndex 3 rfl) [.int (nI k), .int 104, .ref 1002] [] rfl rfl (Nat.le_of_ble_eq_true rfl) (Nat.le_of_ble_eq_true rfl) rfl rfl rfl (s_JPre_check hk ⟨rfl, rfl⟩) (fun r u1 h => ?_)
    obtain ⟨rfl, rfl⟩ := h
    refine w_pop (dk_JStr_checkIndex 4 rfl) rfl ?_
    exact w_vret (dk_JStr_checkIndex 5 rfl) rfl hq
theorem wBy_ok : ∀ k, k < 104 → ((wBy.getD k 0 &&& 255).toUInt32 % 65536).toInt32 = wBy.getD k 0 := by decide +kernel
theorem s_JLat_charAt {d k : Nat} {u : Us} {Q : Ot → Us → Prop} (hk : k < 104) (hq : Q (.inl (some (.int (wBy.getD k 0)))) u) : WS (d + 2) m_JLat_charAt 0 [some (.ref 1001), some (.int (nI k))] [] u Q := by
  refine w_iload_n (dk_JLat_charAt 0 rfl) rfl ?_
  refine w_aload_n (dk_JLat_charAt 1 rfl) rfl ?_
  refine w_tlen (dk_JLat_charAt 2 rfl) ?_
  refine w_callSv (ls' := [some (.int (nI k)), some (.int 104)]) (T := fun u1 => u1 = u) cv_JLat_9 (dk_JLat_charAt 3 rfl) [.int (nI k), .int 104] [] rfl rfl (Nat.le_of_ble_eq_true rfl) (Nat.le_of_ble_eq_true rfl) rfl rfl rfl (s_JStr_check hk rfl) (fun u1 h => ?_)
  subst h
  refine w_aload_n (dk_JLat_charAt 4 rfl) rfl ?_
  refine w_iload_n (dk_JLat_charAt 5 rfl) rfl ?_
  refine w_tb (dk_JLat_charAt 6 rfl) rfl hk ?_
  refine w_sipush (dk_JLat_charAt 7 rfl) rfl ?_
  refine w_iand (dk_JLat_charAt 8 rfl) ?_
  refine w_i2c (dk_JLat_charAt 9 rfl) ?_
  refine w_zret (dk_JLat_charAt 10 rfl) rfl (pk_nc _) ?_
  rw [show (((wBy.getD k 0) &&& (Int16.ofInt 255).toInt32).toUInt32 % 65536).toInt32 = wBy.getD k 0 from wBy_ok k hk]
  exact hq
theorem s_JStr_charAt {d k : Nat} {u : Us} {Q : Ot → Us → Prop} (hk : k < 104) (hq : Q (.inl (some (.int (wBy.getD k 0)))) u) : WS (d + 3) m_JStr_charAt 0 [some (.ref 1000), some (.int (nI k))] [] u Q := by
  refine w_aload_n (dk_JStr_charAt 0 rfl) rfl ?_
  refine w_callVsi (ls' := [some (.ref 1000)]) (T := fun r u1 => r = 1 ∧ u1 = u) cv_JStr_492 (dk_JStr_charAt 1 rfl) [] [] rfl rfl (Nat.le_of_ble_eq_true rfl) (Nat.le_of_ble_eq_true rfl) rfl rfl rfl (s_JStr_isLatin1 ⟨rfl, rfl⟩) (fun r u1 h => ?_)
  obtain ⟨rfl, rfl⟩ := h
  refine w_if_eq_f (dk_JStr_charAt 2 rfl) 16 rfl (by decide) ?_
  refine w_aload_n (dk_JStr_charAt 3 rfl) rfl ?_
  refine w_sval (dk_JStr_charAt 4 rfl) (tb7 22 rfl) ?_
  refine w_iload_n (dk_JStr_charAt 5 rfl) rfl ?_
  refine w_callSi (ls' := [some (.ref 1001), some (.int (nI k))]) (T := fun r u2 => r = wBy.getD k 0 ∧ u2 = u1) cv_JStr_495 (dk_JStr_charAt 6 rfl) [.ref 1001, .int (nI k)] [] rfl rfl (Nat.le_of_ble_eq_true rfl) (Nat.le_of_ble_eq_true rfl) rfl rfl rfl (s_JLat_charAt hk ⟨rfl, rfl⟩) (fun r u2 h => ?_)
  obtain ⟨rfl, rfl⟩ := h
  refine w_zret (dk_JStr_charAt 7 rfl) rfl ?_ hq
  have := pk_nc (wBy.getD k 0 &&& 255)
  rw [wBy_ok k hk] at this
  exact this
