-- locals that nobody reads any more
def Lw : Lo → Lo → Prop
  | [], _ => True
  | _ :: _, [] => False
  | none :: a, _ :: b => Lw a b
  | some v :: a, c :: b => c = some v ∧ Lw a b
theorem Lw.at : ∀ {a b : Lo} {i : Nat} {v : Value}, Lw a b → a[i]? = some (some v) → b[i]? = some (some v)
  | [], _, _, _, _, h => by simp at h
  | _ :: _, [], _, _, hw, _ => hw.elim
  | none :: _, _ :: _, 0, _, _, h => by simp at h
  | none :: a, _ :: b, i + 1, v, hw, h => by
    simp only [List.getElem?_cons_succ] at h ⊢
    exact Lw.at (a := a) hw h
  | some w :: a, c :: b, 0, v, hw, h => by
    simp at h
    subst h
    simp [hw.1]
  | some w :: a, c :: b, i + 1, v, hw, h => by
    simp only [List.getElem?_cons_succ] at h ⊢
    exact Lw.at (a := a) hw.2 h
theorem WS.lw {d : Nat} {y : My} {pc : Nat} {ls ls' : Lo} {stk : List Value} {u : Us} {Q : Ot → Us → Prop} (hl : Lw ls' ls) (h : WS d y pc ls' stk u Q) : WS d y pc ls stk u Q := by
  intro p l e R s m args below meth c H locs cells slots A ad ac D lsC F Wr hc hs hL
  exact h p l e R s m args below meth c H locs cells slots A ad ac D lsC F Wr hc hs ⟨hL.1, hL.2.1, fun i v hv => hL.2.2 i v (hl.at hv)⟩
theorem uI_same {u : Us} {i k : Nat} {v : Int32} (h : aI u i k = v) : uI u i k v = u := by
  subst h
  have e : u2 u.1 i k (u.1 i k) = u.1 := by
    funext a b
    unfold u2
    by_cases h1 : a = i
    · subst h1
      simp only [if_true]
      by_cases h2 : b = k
      · subst h2; simp
      · simp [h2]
    · simp [h1]
  show (u2 u.1 i k (u.1 i k), u.2) = u
  rw [e]
theorem uI_uI {u : Us} {i k : Nat} {v w : Int32} : uI (uI u i k v) i k w = uI u i k w := by
  have e : u2 (u2 u.1 i k v) i k w = u2 u.1 i k w := by
    funext a b
    unfold u2
    by_cases h1 : a = i
    · subst h1
      simp only [if_true]
      by_cases h2 : b = k
      · subst h2; simp
      · simp [h2]
    · simp [h1]
  show (u2 (u2 u.1 i k v) i k w, u.2) = (u2 u.1 i k w, u.2)
  rw [e]
theorem m1_ne {k : Nat} (h : k < 2 ^ 31) : (-1 : Int32) ≠ nI k := fun e => nI_pos h (e ▸ (by decide : (-1 : Int32) < 0))
theorem m1_ne' {k : Nat} (h : k < 2 ^ 31) : nI k ≠ (-1 : Int32) := fun e => m1_ne h e.symm
def hd : List Nat → Int32
  | [] => -1
  | c :: _ => nI c
def txR (bs : List Nat) (u : Us) : Prop := aI u 10 2 = nI bs.length ∧ bs.length ≤ 500 ∧ ∀ k c, bs[k]? = some c → c < 256 ∧ aI u 11 k &&& 255 = nI c
theorem txR.up {bs : List Nat} {u : Us} (h : txR bs u) {k : Nat} {v : Int32} (hk : 2 ≠ k) : txR bs (uI u 10 k v) := ⟨by rw [aI_uIk hk]; exact h.1, h.2.1, fun j c hc => by rw [aI_uIc (by decide)]; exact h.2.2 j c hc⟩
theorem txR.lt {bs : List Nat} {u : Us} (h : txR bs u) {p c : Nat} {r : List Nat} (e : bs.drop p = c :: r) : c < 256 ∧ p < bs.length ∧ bs.drop (p + 1) = r := by
  have hlt : p < bs.length := by
    have := congrArg List.length e
    simp at this
    omega
  rw [List.drop_eq_getElem_cons hlt] at e
  injection e with e1 e2
  exact ⟨(h.2.2 p c (by rw [List.getElem?_eq_getElem hlt, e1])).1, hlt, e2⟩
theorem s_see (a : Int32) {d k p : Nat} {bs : List Nat} {u : Us} {Q : Ot → Us → Prop} (ea : a = nI k) (ht : txR bs u) (ha : aI u 10 3 = nI p) (hp : p ≤ 500) (hk : k ≤ 1) (hq : Q (.inl (some (.int (hd (bs.drop (p + k)))))) u) : WS d m_Scan_see 0 [some (.ref 10), some (.int a)] [] u Q := by
  subst ea
  refine g_Scan_see_0 _ ?_
  have hl := ht.2.1
  rw [ht.1, ha, nI_add]
  by_cases h : bs.length ≤ p + k
  · refine ⟨fun _ => ?_, fun z => absurd (nI_le h (by omega)) z⟩
    rw [List.drop_eq_nil_of_le h] at hq; exact hq
  · refine ⟨fun z => absurd z (nI_ge (by omega) (by omega)), fun _ => ⟨p + k, rfl, by omega, ?_⟩⟩
    have hlt : p + k < bs.length := by omega
    rw [List.drop_eq_getElem_cons hlt] at hq
    rw [(ht.2.2 (p + k) _ (List.getElem?_eq_getElem hlt)).2]; exact hq
theorem s_see0 {d p : Nat} {bs l : List Nat} {u : Us} {Q : Ot → Us → Prop} (hl : bs.drop p = l) (ht : txR bs u) (ha : aI u 10 3 = nI p) (hp : p ≤ bs.length) (hq : Q (.inl (some (.int (hd l)))) u) : WS d m_Scan_see 0 [some (.ref 10), some (.int 0)] [] u Q :=
  s_see 0 (k := 0) rfl ht ha (Nat.le_trans hp ht.2.1) (by decide) (by rw [Nat.add_zero, hl]; exact hq)
theorem s_see1 {d p : Nat} {bs l : List Nat} {u : Us} {Q : Ot → Us → Prop} (hl : bs.drop p = l) (ht : txR bs u) (ha : aI u 10 3 = nI p) (hp : p ≤ bs.length) (hq : Q (.inl (some (.int (hd l.tail)))) u) : WS d m_Scan_see 0 [some (.ref 10), some (.int 1)] [] u Q :=
  s_see 1 (k := 1) rfl ht ha (Nat.le_trans hp ht.2.1) (by decide) (by rw [← List.drop_drop, hl, List.drop_one]; exact hq)
theorem s_fail {d : Nat} {u : Us} {Q : Ot → Us → Prop} (h1 : 1 ≤ aC u) (h2 : 6 ≤ aN u) (hq : Q (.inr 2) (uS (uI u 10 8 (aI u 10 4)))) : WS d m_Scan_fail 0 [some (.ref 10)] [] u Q := g_Scan_fail_0 ⟨h1, h2, hq⟩
theorem hd_eq {c k : Nat} (hc : c < 256) (hk : k < 256) : nI c = nI k ↔ c = k := nI_eq (by omega) (by omega)
theorem isBl_iff {c : Nat} : isBl c = true ↔ c = 32 ∨ c = 10 := by simp [isBl]
/-- what follows the blanks -/
def nx75 (d : Nat) (u : Us) (Q : Ot → Us → Prop) : Prop := (aI u 10 2 ≤ aI u 10 3 → WS (d + 1) m_Scan_next 75 [some (.ref 10), none] [] (uI u 10 4 (aI u 10 3)) Q) ∧ (¬ (aI u 10 2 ≤ aI u 10 3) → (aI u 10 7 ≠ 150 → WS (d + 1) m_Scan_next 75 [some (.ref 10), none] [] (uI u 10 4 (aI u 10 3)) Q) ∧ (aI u 10 7 = 150 → 1 ≤ aC u ∧ 6 ≤ aN u ∧ Q (.inr 2) (uS (uI (uI u 10 4 (aI u 10 3)) 10 9 1))))
theorem s_skip {d : Nat} {bs : List Nat} {Q : Ot → Us → Prop} : ∀ (l : List Nat) (p : Nat) (u : Us), bs.drop p = l → p ≤ bs.length → txR bs u → aI u 10 3 = nI p →
    (∀ p', p' ≤ bs.length → bs.drop p' = l.dropWhile isBl → nx75 d (uI u 10 3 (nI p')) Q) → WS (d + 1) m_Scan_next 0 [some (.ref 10), none] [] u Q := by
  intro l
  induction l with
  | nil =>
    intro p u hl hp ht ha hk
    have hlen := ht.2.1
    refine g_Scan_next_0 (s_see0 hl ht ha hp ?_)
    refine ⟨fun z => absurd z (by decide), fun _ => s_see0 hl ht ha hp ?_⟩
    refine ⟨fun _ => ?_, fun z => absurd z (by decide)⟩
    have h := hk p hp (by rw [hl]; rfl)
    rw [uI_same ha] at h
    exact h
  | cons c r ih =>
    intro p u hl hp ht ha hk
    have hlen := ht.2.1
    obtain ⟨hc, hlt, hr⟩ := ht.lt hl
    have go : isBl c = true → WS (d + 1) m_Scan_next 20 [some (.ref 10), none] [] u Q := by
      intro hb
      refine g_Scan_next_20 ?_
      rw [ha, nI_1]
      refine ih (p + 1) _ hr (by omega) (ht.up (by decide)) aI_uI (fun p' h1 h2 => ?_)
      rw [uI_uI]
      exact hk p' h1 (by rw [List.dropWhile_cons_of_pos hb]; exact h2)
    refine g_Scan_next_0 (s_see0 hl ht ha hp ?_)
    refine ⟨fun z => go (isBl_iff.mpr (.inl ((hd_eq hc (by decide)).mp z))), fun z1 => s_see0 hl ht ha hp ?_⟩
    refine ⟨fun z2 => ?_, fun z => go (isBl_iff.mpr (.inr ((hd_eq hc (by decide)).mp z)))⟩
    have h := hk p hp (by
      rw [hl, List.dropWhile_cons_of_neg]
      rw [isBl_iff]
      rintro (e | e)
      · exact z1 (by subst e; rfl)
      · exact z2 (by subst e; rfl))
    rw [uI_same ha] at h
    exact h
-- letters
theorem isLt_iff {c : Nat} : isLt c = true ↔ 97 ≤ c ∧ c ≤ 122 := by simp [isLt]
theorem isDg_iff {c : Nat} : isDg c = true ↔ 48 ≤ c ∧ c ≤ 57 := by simp [isDg]
def e5s (v : Int64) (c : Nat) : Int64 := (v <<< (Int32.toInt64 5 &&& 63)) ||| (Int32.toInt64 ((nI c - 97) + 1))
def e5f (v : Int64) (w : List Nat) : Int64 := w.foldl e5s v
theorem nI_ltk {c k : Nat} (hc : c < 256) (hk : k < 256) : nI c < nI k ↔ c < k := nI_ltI (by omega) (by omega)
theorem s_letloop {d : Nat} {bs : List Nat} {Q : Ot → Us → Prop} : ∀ (l : List Nat) (p n : Nat) (x : Int64) (u : Us), bs.drop p = l → p ≤ bs.length → n ≤ p → txR bs u → aI u 10 3 = nI p → 1 ≤ aC u → 6 ≤ aN u →
    (∀ p', p' ≤ bs.length → bs.drop p' = l.dropWhile isLt → (n + (l.takeWhile isLt).length ≤ 8 → WS (d + 1) m_Scan_letters 66 [some (.ref 10), some (.long (e5f x (l.takeWhile isLt))), none, some (.int (nI (n + (l.takeWhile isLt).length))), none, none, none, none, none] [] (uI u 10 3 (nI p')) Q) ∧
      (8 < n + (l.takeWhile isLt).length → Q (.inr 2) (uS (uI (uI u 10 3 (nI p')) 10 8 (aI u 10 4))))) →
    WS (d + 1) m_Scan_letters 4 [some (.ref 10), some (.long x), none, some (.int (nI n)), none, none, none, none, none] [] u Q := by
  intro l
  induction l with
  | nil =>
    intro p n x u hl hp hn ht ha h1 h2 hk
    have hlen := ht.2.1
    have h := hk p hp (by rw [hl]; rfl)
    rw [uI_same ha] at h
    refine g_Scan_letters_4 _ _ (s_see0 hl ht ha hp ?_)
    refine ⟨fun _ => ⟨fun z => ?_, fun z => ?_⟩, fun z => absurd (by decide : (-1 : Int32) < 97) z⟩
    · exact h.1 ((nI_leI (a := n) (b := 8) (by omega) (by decide)).mp z)
    · exact s_fail h1 h2 (h.2 (by
        have : ¬ n ≤ 8 := fun q => z ((nI_leI (a := n) (b := 8) (by omega) (by decide)).mpr q)
        show 8 < n + 0
        omega))
  | cons c r ih =>
    intro p n x u hl hp hn ht ha h1 h2 hk
    have hlen := ht.2.1
    obtain ⟨hc, hlt, hr⟩ := ht.lt hl
    have stop : isLt c ≠ true → (nI n ≤ 8 → WS (d + 1) m_Scan_letters 66 [some (.ref 10), some (.long x), none, some (.int (nI n)), none, none, none, none, none] [] u Q) ∧ (¬ (nI n ≤ 8) → WS d m_Scan_fail 0 [some (.ref 10)] [] u (Rv (fun (u4 : Us) => WS (d + 1) m_Scan_letters 66 [some (.ref 10), some (.long x), none, some (.int (nI n)), none, none, none, none, none] [] u4 Q) (fun x u => Q (.inr x) u))) := by
      intro hb
      have h := hk p hp (by rw [hl, List.dropWhile_cons_of_neg hb])
      rw [uI_same ha, List.takeWhile_cons_of_neg hb] at h
      refine ⟨fun z => h.1 ((nI_leI (a := n) (b := 8) (by omega) (by decide)).mp z), fun z => s_fail h1 h2 (h.2 ?_)⟩
      have : ¬ n ≤ 8 := fun q => z ((nI_leI (a := n) (b := 8) (by omega) (by decide)).mpr q)
      show 8 < n + 0
      omega
    refine g_Scan_letters_4 _ _ (s_see0 hl ht ha hp ?_)
    refine ⟨fun z => stop (fun q => ?_), fun z1 => s_see0 hl ht ha hp ?_⟩
    · have := (nI_ltk (k := 97) hc (by decide)).mp z
      have := isLt_iff.mp q
      omega
    refine ⟨fun z => stop (fun q => ?_), fun z2 => s_see0 hl ht ha hp ?_⟩
    · have := (nI_ltk (c := 122) (by decide) hc).mp z
      have := isLt_iff.mp q
      omega
    show WS (d + 1) m_Scan_letters 4 [some (.ref 10), some (.long (e5s x c)), none, some (.int (nI n + 1)), none, none, none, none, none] [] (uI u 10 3 (aI u 10 3 + 1)) Q
    rw [ha, nI_1]
    have hb : isLt c = true := by
      rw [isLt_iff]
      have a1 : ¬ c < 97 := fun q => z1 ((nI_ltk (k := 97) hc (by decide)).mpr q)
      have a2 : ¬ 122 < c := fun q => z2 ((nI_ltk (c := 122) (by decide) hc).mpr q)
      omega
    rw [nI_1]
    refine ih (p + 1) (n + 1) _ _ hr (by omega) (by omega) (ht.up (by decide)) aI_uI h1 h2 (fun p' q1 q2 => ?_)
    have h := hk p' q1 (by rw [List.dropWhile_cons_of_pos hb]; exact q2)
    rw [List.takeWhile_cons_of_pos hb, List.length_cons, show n + ((r.takeWhile isLt).length + 1) = n + 1 + (r.takeWhile isLt).length by omega] at h
    rw [uI_uI, aI_uIk (by decide)]
    exact h
