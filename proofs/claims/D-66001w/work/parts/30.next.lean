-- the scanner: words, digits, signs, the next token
theorem drop_len {bs l : List Nat} {p : Nat} (h : bs.drop p = l) (hp : p ≤ bs.length) : p = bs.length - l.length := by
  have := congrArg List.length h
  rw [List.length_drop] at this
  omega
theorem tw_all {p : Nat → Bool} : ∀ {l : List Nat} {c : Nat}, c ∈ l.takeWhile p → p c = true
  | [], _, h => by simp at h
  | x :: l, c, h => by
    by_cases hx : p x = true
    · rw [List.takeWhile_cons_of_pos hx] at h
      rcases List.mem_cons.mp h with e | h
      · rw [e]; exact hx
      · exact tw_all (l := l) h
    · rw [List.takeWhile_cons_of_neg hx] at h
      cases h
theorem idx_first {α : Type} [BEq α] [LawfulBEq α] {w : α} : ∀ {L : List α} {k : Nat}, L[k]? = some w → (∀ j, j < k → L[j]? ≠ some w) → L.idxOf w = k
  | [], k, h, _ => by simp at h
  | x :: L, 0, h, _ => by
    simp at h
    subst h
    exact List.idxOf_cons_self
  | x :: L, k + 1, h, hf => by
    have hx : x ≠ w := fun e => hf 0 (Nat.succ_pos _) (by subst e; rfl)
    rw [List.idxOf_cons, beq_false_of_ne hx, idx_first (L := L) (k := k) (by simpa using h) (fun j hj => by
      have := hf (j + 1) (Nat.succ_lt_succ hj)
      simpa using this)]
    rfl
theorem s_NameOf {d : Nat} {u : Us} {Q : Ot → Us → Prop} {NT : List Nm} {w : Nm} (hR : nmR u (NT.map n5)) (hlt : NT.length < 240) (hg : ∀ x ∈ NT, gW x) (hw : gW w)
    (hq : w ∈ NT → Q (.inl (some (.int (nI (NT.idxOf w))))) u) (hn : w ∉ NT → Q (.inl (some (.int (nI NT.length)))) (uL (uI u 12 1 (nI (NT.length + 1))) 13 NT.length (n5 w))) :
    WS d m_Name_of 0 [some (.ref 12), some (.long (n5 w)), none, none] [] u Q := by
  have key : ∀ k : Nat, (NT.map n5)[k]? = some (n5 w) ↔ NT[k]? = some w := by
    intro k
    rw [List.getElem?_map]
    cases h : NT[k]? with
    | none => simp
    | some x =>
      have hx := hg x (List.mem_of_getElem? h)
      simp only [Option.map_some, Option.some.injEq]
      exact n5_inj hx hw
  refine s_Name_of hR (by simpa using hlt) (fun k h1 h2 => ?_) (fun h => ?_)
  · have e := idx_first ((key k).mp h1) (fun j hj z => h2 j hj ((key j).mpr z))
    rw [← e]
    exact hq (List.mem_of_getElem? ((key k).mp h1))
  · rw [List.length_map]
    refine hn (fun hm => h ?_)
    exact List.mem_map_of_mem hm
theorem s_wordloop {d : Nat} {Q : Ot → Us → Prop} {x1 : Int64} {x3 : Int32} : ∀ (l : List Int32) (i k : Nat) (r : Int64) (kd : Nat) (u : Us), wBy.drop i = l → i ≤ 104 → aI u 10 5 = nI kd →
    (l.foldl (stp x1) (k, r, kd)).2.2 < 2 ^ 31 →
    ((l.foldl (stp x1) (k, r, kd)).2.2 ≠ 20 → Q (.inl none) (uI u 10 5 (nI (l.foldl (stp x1) (k, r, kd)).2.2))) →
    ((l.foldl (stp x1) (k, r, kd)).2.2 = 20 → WS (d + 3) m_Name_of 0 [some (.ref 12), some (.long x1), none, none] [] (uI u 10 5 (nI 20)) (Ri (fun r u4 => Q (.inl none) (uI u4 10 6 r)) (fun x u => Q (.inr x) u))) →
    WS (d + 4) m_Scan_letters 81 [some (.ref 10), some (.long x1), none, some (.int x3), some (.int (nI k)), some (.long r), none, some (.int (nI i)), none] [] u Q := by
  intro l
  induction l with
  | nil =>
    intro i k r kd u hl hi hkd hb h1 h2
    have hi' : i = 104 := by
      have := congrArg List.length hl
      have e : wBy.length = 104 := by decide +kernel
      simp [e] at this
      omega
    subst hi'
    simp only [List.foldl_nil] at hb h1 h2
    refine g_Scan_letters_81 _ _ _ _ _ (s_JStr_length ?_)
    refine ⟨fun _ => ⟨fun z => ?_, fun z => ?_⟩, fun z => absurd (Int32.le_refl _) z⟩
    · have hne : kd ≠ 20 := fun e => z (by rw [hkd, e]; rfl)
      have := h1 hne
      rw [uI_same hkd] at this
      exact g_Scan_letters_176 _ _ _ _ _ this
    · have e20 : kd = 20 := (nI_eq (b := 20) hb (by decide)).mp (by rw [← hkd]; exact z)
      have := h2 e20
      rw [uI_same (by rw [hkd, e20])] at this
      refine WS.mono this (fun o u4 h => ?_)
      match o, h with
      | .inr x, h => exact h
      | .inl (some (.int r3)), h => exact g_Scan_letters_176 _ _ _ _ _ h
  | cons c l ih =>
    intro i k r kd u hl hi hkd hb h1 h2
    have e : wBy.length = 104 := by decide +kernel
    have hlt : i < 104 := by
      have := congrArg List.length hl
      simp [e] at this
      omega
    have hc : wBy.getD i 0 = c := by
      rw [List.drop_eq_getElem_cons (by omega)] at hl
      injection hl with hl _
      rw [← hl]
      simp [List.getD, e, hlt]
    have hr : wBy.drop (i + 1) = l := by
      rw [List.drop_eq_getElem_cons (by omega)] at hl
      injection hl with _ hl
    refine g_Scan_letters_81 _ _ _ _ _ (s_JStr_length ?_)
    refine ⟨fun z => absurd z (nI_ge (b := 104) hlt (by decide)), fun _ => s_JStr_charAt hlt ?_⟩
    rw [hc]
    by_cases h32 : c = 32
    · have es : stp x1 (k, r, kd) c = (k + 1, 0, if r = x1 then k else kd) := by simp only [stp, if_pos h32]
      rw [List.foldl_cons, es] at hb h1 h2
      refine ⟨fun z => absurd h32 z, fun _ => ⟨fun hne => ?_, fun heq => ?_⟩⟩
      · refine g_Scan_letters_123 _ _ _ _ _ _ ⟨fun z => absurd h32 z, fun _ => ?_⟩
        rw [if_neg hne] at hb h1 h2
        rw [nI_1, nI_1]
        refine WS.lw (by simp [Lw]) (ih (i + 1) (k + 1) 0 kd u hr (by omega) hkd hb h1 h2)
      · refine g_Scan_letters_123 _ _ _ _ _ _ ⟨fun z => absurd h32 z, fun _ => ?_⟩
        rw [if_pos heq] at hb h1 h2
        rw [nI_1, nI_1]
        refine WS.lw (by simp [Lw]) (ih (i + 1) (k + 1) 0 k _ hr (by omega) aI_uI hb (fun z => ?_) (fun z => ?_))
        · rw [uI_uI]; exact h1 z
        · rw [uI_uI]; exact h2 z
    · have es : stp x1 (k, r, kd) c = (k, (r <<< (Int32.toInt64 5 &&& 63)) ||| (Int32.toInt64 ((c - 97) + 1)), kd) := by simp only [stp, if_neg h32]
      rw [List.foldl_cons, es] at hb h1 h2
      refine ⟨fun _ => ?_, fun z => absurd z h32⟩
      refine g_Scan_letters_123 _ _ _ _ _ _ ⟨fun _ => ?_, fun z => absurd z h32⟩
      rw [nI_1]
      exact WS.lw (by simp [Lw]) (ih (i + 1) k _ kd u hr (by omega) hkd hb h1 h2)
theorem nmR.up {u : Us} {T : List Int64} (h : nmR u T) {k : Nat} {v : Int32} : nmR (uI u 10 k v) T := ⟨by rw [aI_uIc (by decide)]; exact h.1, h.2⟩
theorem s_letters {d p : Nat} {bs l : List Nat} {u : Us} {NT : List Nm} {Q : Ot → Us → Prop} (hl : bs.drop p = l) (hp : p ≤ bs.length) (ht : txR bs u) (ha : aI u 10 3 = nI p) (h1 : 1 ≤ aC u) (h2 : 6 ≤ aN u)
    (hN : nmR u (NT.map n5)) (hlt : NT.length < 240) (hg : ∀ x ∈ NT, gW x)
    (he : 8 < (l.takeWhile isLt).length → ∀ p', Q (.inr 2) (uS (uI (uI u 10 3 (nI p')) 10 8 (aI u 10 4))))
    (hk : (l.takeWhile isLt).length ≤ 8 → ∀ p', p' ≤ bs.length → bs.drop p' = l.dropWhile isLt → gW (lo96 (l.takeWhile isLt)) →
      (kwL.idxOf (lo96 (l.takeWhile isLt)) ≠ 20 → Q (.inl none) (uI (uI u 10 3 (nI p')) 10 5 (nI (kwL.idxOf (lo96 (l.takeWhile isLt)))))) ∧
      (kwL.idxOf (lo96 (l.takeWhile isLt)) = 20 → (lo96 (l.takeWhile isLt) ∈ NT → Q (.inl none) (uI (uI (uI u 10 3 (nI p')) 10 5 (nI 20)) 10 6 (nI (NT.idxOf (lo96 (l.takeWhile isLt)))))) ∧
        (lo96 (l.takeWhile isLt) ∉ NT → Q (.inl none) (uI (uL (uI (uI (uI u 10 3 (nI p')) 10 5 (nI 20)) 12 1 (nI (NT.length + 1))) 13 NT.length (n5 (lo96 (l.takeWhile isLt)))) 10 6 (nI NT.length))))) :
    WS (d + 4) m_Scan_letters 0 [some (.ref 10), none, none, none, none, none, none, none, none] [] u Q := by
  refine g_Scan_letters_0 (s_letloop (n := 0) l p 0 u hl hp (Nat.zero_le _) ht ha h1 h2 (fun p' q1 q2 => ?_))
  rw [Nat.zero_add]
  refine ⟨fun h8 => ?_, fun h8 => he h8 p'⟩
  have hall : ∀ c ∈ l.takeWhile isLt, 97 ≤ c ∧ c ≤ 122 := fun c hc => isLt_iff.mp (tw_all hc)
  have hw := gW_lo hall h8
  obtain ⟨k1, k2⟩ := hk h8 p' q1 q2 hw
  refine g_Scan_letters_66 _ _ ?_
  rw [e5f_n5 hall h8]
  have hst := stp_all hw
  refine s_wordloop (i := 0) (k := 0) wBy 0 20 _ rfl (by decide) aI_uI ?_ ?_ ?_
  · rw [hst]
    have := List.idxOf_le_length (l := kwL) (a := lo96 (l.takeWhile isLt))
    have e : kwL.length = 20 := rfl
    omega
  · rw [hst]
    intro z
    rw [uI_uI]
    exact k1 z
  · rw [hst]
    intro z
    rw [uI_uI]
    refine s_NameOf (hN.up.up) hlt hg hw (fun hm => (k2 z).1 hm) (fun hm => (k2 z).2 hm)
-- digits
theorem s_digloop {d : Nat} {bs : List Nat} {Q : Ot → Us → Prop} : ∀ (l : List Nat) (p v m : Nat) (u : Us), bs.drop p = l → p ≤ bs.length → txR bs u → aI u 10 3 = nI p → 1 ≤ aC u → 6 ≤ aN u → m = min v 2147483648 →
    (2147483647 < (l.takeWhile isDg).foldl (fun v c => 10 * v + (c - 48)) v → ∀ p', Q (.inr 2) (uS (uI (uI u 10 3 (nI p')) 10 8 (aI u 10 4)))) →
    ((l.takeWhile isDg).foldl (fun v c => 10 * v + (c - 48)) v ≤ 2147483647 → ∀ p', p' ≤ bs.length → bs.drop p' = l.dropWhile isDg → Q (.inl none) (uI (uI (uI u 10 3 (nI p')) 10 5 21) 10 6 (nI ((l.takeWhile isDg).foldl (fun v c => 10 * v + (c - 48)) v)))) →
    WS (d + 1) m_Scan_digits 2 [some (.ref 10), some (.long (lN m)), none] [] u Q := by
  intro l
  have fin : ∀ (p v m : Nat) (u : Us), aI u 10 3 = nI p → 1 ≤ aC u → 6 ≤ aN u → m = min v 2147483648 → (2147483647 < v → Q (.inr 2) (uS (uI u 10 8 (aI u 10 4)))) → (v ≤ 2147483647 → Q (.inl none) (uI (uI u 10 5 21) 10 6 (nI v))) →
      (lN m ≤ 2147483647 → Q (.inl none) (uI (uI u 10 5 21) 10 6 (Int64.toInt32 (lN m)))) ∧ (¬ (lN m ≤ 2147483647) → WS d m_Scan_fail 0 [some (.ref 10)] [] u (Rv (fun (u4 : Us) => Q (.inl none) (uI (uI u4 10 5 21) 10 6 (Int64.toInt32 (lN m)))) (fun x u => Q (.inr x) u))) := by
    intro p v m u ha h1 h2 hm e1 e2
    refine ⟨fun z => ?_, fun z => s_fail h1 h2 (e1 ?_)⟩
    · have := (pk_lLE (a := m) (b := 2147483647) (by omega) (by decide)).mp z
      have e : m = v := by omega
      rw [lN_i, e]
      exact e2 (by omega)
    · have : ¬ m ≤ 2147483647 := fun q => z ((pk_lLE (a := m) (b := 2147483647) (by omega) (by decide)).mpr q)
      omega
  induction l with
  | nil =>
    intro p v m u hl hp ht ha h1 h2 hm e1 e2
    have f := fin p v m u ha h1 h2 hm (fun z => by have := e1 z p; rw [uI_same ha] at this; exact this) (fun z => by have := e2 z p hp hl; rw [uI_same ha] at this; exact this)
    refine g_Scan_digits_2 _ (s_see0 hl ht ha hp ?_)
    exact ⟨fun _ => f, fun z => absurd (by decide : (-1 : Int32) < 48) z⟩
  | cons c r ih =>
    intro p v m u hl hp ht ha h1 h2 hm e1 e2
    obtain ⟨hc, hlt, hr⟩ := ht.lt hl
    have stop : isDg c ≠ true → _ := fun hb => fin p v m u ha h1 h2 hm (fun z => by
      rw [List.takeWhile_cons_of_neg hb] at e1
      have := e1 z p
      rw [uI_same ha] at this
      exact this) (fun z => by
      rw [List.takeWhile_cons_of_neg hb, List.dropWhile_cons_of_neg hb] at e2
      have := e2 z p hp hl
      rw [uI_same ha] at this
      exact this)
    refine g_Scan_digits_2 _ (s_see0 hl ht ha hp ?_)
    refine ⟨fun z => stop (fun q => ?_), fun z1 => s_see0 hl ht ha hp ⟨fun z => stop (fun q => ?_), fun z2 => s_see0 hl ht ha hp ?_⟩⟩
    · have := (nI_ltk (k := 48) hc (by decide)).mp z
      have := isDg_iff.mp q
      omega
    · have := (nI_ltk (c := 57) (by decide) hc).mp z
      have := isDg_iff.mp q
      omega
    have a1 : ¬ c < 48 := fun q => z1 ((nI_ltk (k := 48) hc (by decide)).mpr q)
    have a2 : ¬ 57 < c := fun q => z2 ((nI_ltk (c := 57) (by decide) hc).mpr q)
    have hb : isDg c = true := by rw [isDg_iff]; omega
    have ev : (10 * lN m + Int32.toInt64 (nI c)) - 48 = lN (10 * m + (c - 48)) := by
      have e0 : (10 : Int64) * lN m = lN (10 * m) := lN_mul 10 m
      have e1 : lN (10 * m + c) - 48 = lN (10 * m + c - 48) := lN_sub (a := 10 * m + c) (b := 48) (by omega)
      rw [e0, nI_l (by omega), lN_add, e1]
      congr 1
      omega
    show WS (d + 1) m_Scan_digits 2 [some (.ref 10), some (.long (if 2147483648 < ((10 * lN m) + (Int32.toInt64 (nI c))) - 48 then 2147483648 else ((10 * lN m) + (Int32.toInt64 (nI c))) - 48)), none] [] (uI u 10 3 (aI u 10 3 + 1)) Q
    rw [ev, ha, nI_1]
    have ev2 : (if 2147483648 < lN (10 * m + (c - 48)) then (2147483648 : Int64) else lN (10 * m + (c - 48))) = lN (min (10 * v + (c - 48)) 2147483648) := by
      by_cases h : 2147483648 < 10 * m + (c - 48)
      · have hh : (2147483648 : Int64) < lN (10 * m + (c - 48)) := (pk_lLT (a := 2147483648) (b := 10 * m + (c - 48)) (by decide) (by omega)).mpr h
        rw [if_pos hh]
        show lN 2147483648 = _
        congr 1
        omega
      · have hh : ¬ (2147483648 : Int64) < lN (10 * m + (c - 48)) := fun q => h ((pk_lLT (a := 2147483648) (b := 10 * m + (c - 48)) (by decide) (by omega)).mp q)
        rw [if_neg hh]
        congr 1
        omega
    rw [ev2]
    rw [List.takeWhile_cons_of_pos hb] at e1 e2
    rw [List.dropWhile_cons_of_pos hb] at e2
    refine ih (p + 1) (10 * v + (c - 48)) _ _ hr (by omega) (ht.up (by decide)) aI_uI h1 h2 rfl (fun z p' => ?_) (fun z p' q1 q2 => ?_)
    · rw [uI_uI, aI_uIk (by decide)]; exact e1 z p'
    · rw [uI_uI]; exact e2 z p' q1 q2
theorem s_digits {d p : Nat} {bs l : List Nat} {u : Us} {Q : Ot → Us → Prop} (hl : bs.drop p = l) (hp : p ≤ bs.length) (ht : txR bs u) (ha : aI u 10 3 = nI p) (h1 : 1 ≤ aC u) (h2 : 6 ≤ aN u)
    (e1 : 2147483647 < dv (l.takeWhile isDg) → ∀ p', Q (.inr 2) (uS (uI (uI u 10 3 (nI p')) 10 8 (aI u 10 4))))
    (e2 : dv (l.takeWhile isDg) ≤ 2147483647 → ∀ p', p' ≤ bs.length → bs.drop p' = l.dropWhile isDg → Q (.inl none) (uI (uI (uI u 10 3 (nI p')) 10 5 21) 10 6 (nI (dv (l.takeWhile isDg))))) :
    WS (d + 1) m_Scan_digits 0 [some (.ref 10), none, none] [] u Q :=
  g_Scan_digits_0 (s_digloop l p 0 0 u hl hp ht ha h1 h2 rfl e1 e2)
