-- what stays: all cells but some
def Fm (li ll : List Nat) (u u' : Us) : Prop := (∀ i, i ∉ li → aI u' i = aI u i) ∧ (∀ i, i ∉ ll → aL u' i = aL u i) ∧ aX u' = aX u ∧ aC u' = aC u ∧ aN u' = aN u
section FM
variable {li ll li' ll' : List Nat} {u u' u2 : Us} {i k : Nat}
theorem Fm.refl : Fm li ll u u := ⟨fun _ _ => rfl, fun _ _ => rfl, rfl, rfl, rfl⟩
theorem Fm.trans (h : Fm li ll u u') (h2 : Fm li ll u' u2) : Fm li ll u u2 := ⟨fun i hi => (h2.1 i hi).trans (h.1 i hi), fun i hi => (h2.2.1 i hi).trans (h.2.1 i hi), h2.2.2.1.trans h.2.2.1, h2.2.2.2.1.trans h.2.2.2.1, h2.2.2.2.2.trans h.2.2.2.2⟩
theorem Fm.uI {v : Int32} (h : Fm li ll u u') (hi : i ∈ li) : Fm li ll u (uI u' i k v) := ⟨fun j hj => (aI_uIc (fun e : j = i => hj (by rw [e]; exact hi))).trans (h.1 j hj), h.2.1, h.2.2.1, h.2.2.2.1, h.2.2.2.2⟩
theorem Fm.uL {v : Int64} (h : Fm li ll u u') (hi : i ∈ ll) : Fm li ll u (uL u' i k v) := ⟨h.1, fun j hj => (aL_uLc (fun e : j = i => hj (by rw [e]; exact hi))).trans (h.2.1 j hj), h.2.2.1, h.2.2.2.1, h.2.2.2.2⟩
theorem Fm.mono (h : Fm li ll u u') (h1 : ∀ i, i ∈ li → i ∈ li') (h2 : ∀ i, i ∈ ll → i ∈ ll') : Fm li' ll' u u' := ⟨fun i hi => h.1 i (fun z => hi (h1 i z)), fun i hi => h.2.1 i (fun z => hi (h2 i z)), h.2.2⟩
end FM
theorem lx_suf (l : List Nat) : (lx l).2.2.2 <:+ l := by
  cases l with
  | nil => exact List.suffix_refl _
  | cons c r =>
    simp only [lx]
    split
    · split
      · exact List.nil_suffix
      · exact List.dropWhile_suffix _
    · split
      · split
        · exact List.nil_suffix
        · exact List.dropWhile_suffix _
      · show (if _ then _ else _) <:+ _
        split
        · exact List.nil_suffix
        · split
          · exact (List.tail_suffix r).trans (List.suffix_cons _ _)
          · exact List.suffix_cons _ _
theorem rm_suf (bs : List Nat) : ∀ j, rm bs j <:+ bs
  | 0 => List.dropWhile_suffix _
  | j + 1 => (List.dropWhile_suffix _).trans ((lx_suf _).trans (rm_suf bs j))
theorem tP_drop (bs : List Nat) (j : Nat) : bs.drop (tP bs j) = rm bs j := (List.suffix_iff_eq_drop.mp (rm_suf bs j)).symm
theorem tP_le (bs : List Nat) (j : Nat) : tP bs j ≤ bs.length := Nat.sub_le _ _
def plc (bs : List Nat) (j : Nat) : Int32 := if tK bs j = 98 then -1 else nI (tP bs j)
/-- the scanner stands at token j -/
def scR (bs : List Nat) (NT : List Nm) (j : Nat) (u : Us) : Prop :=
  txR bs u ∧ tK bs j < 90 ∧ j ≤ 150 ∧ aI u 10 3 = nI (bs.length - (lx (rm bs j)).2.2.2.length) ∧ aI u 10 4 = nI (tP bs j) ∧ aI u 10 5 = nI (tK bs j) ∧
  (tK bs j = 20 → tW bs j ∈ NT ∧ aI u 10 6 = nI (NT.idxOf (tW bs j))) ∧ (tK bs j = 21 → aI u 10 6 = nI (tV bs j)) ∧ aI u 10 7 = nI (if tK bs j = 22 then j else j + 1) ∧ aI u 10 8 = -1 ∧
  nmR u (NT.map n5) ∧ (∀ w ∈ NT, gW w) ∧ NT.Nodup
theorem kw_le (w : Nm) : kwL.idxOf w ≤ 20 := List.idxOf_le_length
theorem s_next {d p j : Nat} {bs : List Nat} {NT : List Nm} {u : Us} {Q : Ot → Us → Prop} (ht : txR bs u) (hat : aI u 10 3 = nI p) (hp : p ≤ bs.length) (hrm : (bs.drop p).dropWhile isBl = rm bs j) (htok : aI u 10 7 = nI j) (hj : j ≤ 150)
    (hN : nmR u (NT.map n5)) (hg : ∀ w ∈ NT, gW w) (hnd : NT.Nodup) (hnl : NT.length < 240) (h1 : 1 ≤ aC u) (h2 : 6 ≤ aN u) (hwr : aI u 10 8 = -1)
    (he : 90 ≤ tK bs j → ∀ u1, Fm [10] [] u u1 → aI u1 10 8 = plc bs j → aI u1 10 2 = aI u 10 2 → Q (.inr 2) (uS u1))
    (hk : tK bs j < 90 → ∀ u1 NT', Fm [10, 12] [13] u u1 → scR bs NT' j u1 → NT <+: NT' → NT'.length ≤ NT.length + 1 → (∀ w ∈ NT', w ∈ NT ∨ (tK bs j = 20 ∧ w = tW bs j)) → Q (.inl none) u1) :
    WS (d + 5) m_Scan_next 0 [some (.ref 10), none] [] u Q := by
  have hlen := ht.2.1
  refine s_skip (bs.drop p) p u rfl hp ht hat (fun p' q1 q2 => ?_)
  rw [hrm] at q2
  have hpp : p' = tP bs j := drop_len q2 q1
  have f0 : Fm [10] [] u (uI (uI u 10 3 (nI p')) 10 4 (nI p')) := (Fm.refl.uI (by simp)).uI (by simp)
  have f1 : Fm [10, 12] [13] u (uI (uI u 10 3 (nI p')) 10 4 (nI p')) := (Fm.refl.uI (by simp)).uI (by simp)
  have ht1 : txR bs (uI (uI u 10 3 (nI p')) 10 4 (nI p')) := (ht.up (by decide)).up (by decide)
  have hN1 : nmR (uI (uI u 10 3 (nI p')) 10 4 (nI p')) (NT.map n5) := hN.up.up
  have s2 : aI (uI (uI u 10 3 (nI p')) 10 4 (nI p')) 10 2 = aI u 10 2 := by simp [rI]
  have s3 : aI (uI (uI u 10 3 (nI p')) 10 4 (nI p')) 10 3 = nI p' := by simp [rI]
  have s4 : aI (uI (uI u 10 3 (nI p')) 10 4 (nI p')) 10 4 = nI p' := by simp [rI]
  have s7 : aI (uI (uI u 10 3 (nI p')) 10 4 (nI p')) 10 7 = nI j := by simp [rI, htok]
  have s8 : aI (uI (uI u 10 3 (nI p')) 10 4 (nI p')) 10 8 = -1 := by simp [rI, hwr]
  have sC : 1 ≤ aC (uI (uI u 10 3 (nI p')) 10 4 (nI p')) := h1
  have sN : 6 ≤ aN (uI (uI u 10 3 (nI p')) 10 4 (nI p')) := h2
  have e4 : uI (uI u 10 3 (nI p')) 10 4 (aI (uI u 10 3 (nI p')) 10 3) = uI (uI u 10 3 (nI p')) 10 4 (nI p') := by rw [aI_uI]
  unfold nx75
  rw [e4]
  generalize hv : uI (uI u 10 3 (nI p')) 10 4 (nI p') = v at f0 f1 ht1 hN1 s2 s3 s4 s7 s8 sC sN ⊢
  -- a token that is none
  have bad : ∀ v1 : Us, Fm [10] [] v v1 → tK bs j = 99 → aI v1 10 8 = nI p' → aI v1 10 2 = aI v 10 2 → Q (.inr 2) (uS v1) := fun v1 hf hk99 h8 h22 => he (by omega) v1 (f0.trans hf) (by rw [h8, hpp, plc, if_neg (by omega)]) (h22.trans s2)
  -- what follows a token
  have good : ∀ (v1 : Us) (x1 : Int32), tK bs j < 90 → tK bs j ≤ 48 → Fm [10, 12] [13] v v1 → txR bs v1 → aI v1 10 3 = nI (bs.length - (lx (rm bs j)).2.2.2.length) → aI v1 10 4 = nI p' → aI v1 10 5 = nI (tK bs j) → aI v1 10 7 = nI j → aI v1 10 8 = -1 →
      (tK bs j = 21 → aI v1 10 6 = nI (tV bs j)) → ∀ NT', NT <+: NT' → NT'.length ≤ NT.length + 1 → (∀ w ∈ NT', w ∈ NT ∨ (tK bs j = 20 ∧ w = tW bs j)) → (tK bs j = 20 → tW bs j ∈ NT' ∧ aI v1 10 6 = nI (NT'.idxOf (tW bs j))) → nmR v1 (NT'.map n5) → (∀ w ∈ NT', gW w) → NT'.Nodup → WS (d + 5) m_Scan_next 143 [some (.ref 10), some (.int x1)] [] v1 Q := by
    intro v1 x1 g0 g48 hf g1 g2 g3 g4 g5 g6 g7 NT' n0 n1 nw n2 n3 n4 n5'
    refine g_Scan_next_143 _ ?_
    rw [g4, g5, nI_1]
    refine ⟨fun z => ?_, fun z => ?_⟩
    · have e22 : tK bs j = 22 := (nI_eq (b := 22) (by omega) (by decide)).mp z
      exact hk g0 v1 NT' (f1.trans hf) ⟨g1, g0, hj, g2, by rw [g3, hpp], g4, n2, g7, by rw [if_pos e22]; exact g5, g6, n3, n4, n5'⟩ n0 n1 nw
    · have e22 : ¬ tK bs j = 22 := fun e => z (by rw [e]; rfl)
      exact hk g0 _ NT' ((f1.trans hf).uI (by simp)) ⟨g1.up (by decide), g0, hj, by simpa [rI] using g2, by simpa [rI, hpp] using g3, by simpa [rI] using g4, fun e => by simpa [rI] using n2 e, fun e => by simpa [rI] using g7 e, by simp [rI, e22], by simpa [rI] using g6, n3.up, n4, n5'⟩ n0 n1 nw
  have tKj : (rm bs j ≠ [] → ¬ 150 ≤ j) → tK bs j = (lx (rm bs j)).1 := fun h => by unfold tK; rw [if_neg (fun z => h z.2 z.1)]
  -- the token itself
  have tok : (rm bs j ≠ [] → ¬ 150 ≤ j) → WS (d + 5) m_Scan_next 75 [some (.ref 10), none] [] v Q := by
    intro h150
    have hK := tKj h150
    refine g_Scan_next_75 (s_see0 q2 ht1 s3 q1 ?_)
    cases hl : rm bs j with
    | nil =>
      rw [hl] at q2 hK
      have ep : p' = bs.length := by have := drop_len q2 q1; simpa using this
      refine ⟨fun z => absurd z (by decide), fun _ => ⟨fun _ => ?_, fun z => absurd (by rw [s2, ht.1, s3, ep]; exact Int32.le_refl _) z⟩⟩
      refine g_Scan_next_100 _ ⟨fun _ => ⟨fun _ => ?_, fun z => absurd (by decide : (-1 : Int32) < 48) z⟩, fun z => absurd (by decide : (-1 : Int32) < 97) z⟩
      have hK' : tK bs j = 22 := hK
      refine s_signE q2 q1 ht1 s3 ?_
      refine good _ _ (by omega) (by omega) ((Fm.refl.uI (by simp)).uI (by simp)) ((ht1.up (by decide)).up (by decide)) ?_ ?_ ?_ ?_ ?_ (fun e => by omega) NT (List.prefix_refl _) (by omega) (fun _ h => .inl h) (fun e => by omega) hN1.up.up hg hnd
      · simp [rI, hl, lx, ep]
      · simpa [rI] using s4
      · simp [rI, hK']; rfl
      · simpa [rI] using s7
      · simpa [rI] using s8
    | cons c r =>
      rw [hl] at q2 hK
      obtain ⟨hc, hlt, hr⟩ := ht1.lt q2
      refine ⟨fun _ => ?_, fun z => absurd (nI_pos' (by omega)) z⟩
      have sign_ : isLt c ≠ true → isDg c ≠ true → WS (d + 4) m_Scan_sign 0 [some (.ref 10), some (.int (nI c)), none, none] [] v (Rv (fun (u2 : Us) => WS (d + 5) m_Scan_next 143 [some (.ref 10), some (.int (nI c))] [] u2 Q) (fun x u => Q (.inr x) u)) := by
        intro n1 n2
        have hlx : lx (c :: r) = (sgn c (r.head? == some 61), [], 0, if sgn c (r.head? == some 61) = 99 then [] else if (r.head? == some 61) && (decide (c = 33) || decide (c = 60) || decide (c = 62)) then r.tail else r) := by
          simp only [lx]
          rw [if_neg n1, if_neg n2]
        have hkk : tK bs j = sgn c (r.head? == some 61) := by rw [hK, hlx]
        refine s_sign q2 q1 ht1 s3 sC sN (fun e => ?_) (fun e => ?_)
        · refine bad _ ((Fm.refl.uI (by simp)).uI (by simp)) (by rw [hkk, e]) (by simpa [rI] using s4) (by simp [rI])
        · have hrng := sgn_rng c (r.head? == some 61)
          have hrest : p' + slen c (r.head? == some 61) = bs.length - (lx (rm bs j)).2.2.2.length := by
            rw [hl, hlx]
            simp only
            rw [if_neg e]
            unfold slen
            by_cases h2 : ((r.head? == some 61) && (decide (c = 33) || decide (c = 60) || decide (c = 62))) = true
            · rw [if_pos h2, if_pos h2]
              have hne : r.head? = some 61 := by simp at h2; exact h2.1
              have hr1 : 1 ≤ r.length := by cases r with
                | nil => simp at hne
                | cons a b => simp
              have := congrArg List.length hr
              rw [List.length_drop] at this
              rw [List.length_tail]
              omega
            · rw [if_neg h2, if_neg h2]
              have := congrArg List.length hr
              rw [List.length_drop] at this
              omega
          rw [← hkk] at e ⊢
          refine good _ _ (by omega) (by omega) ((Fm.refl.uI (by simp)).uI (by simp)) ((ht1.up (by decide)).up (by decide)) ?_ ?_ ?_ ?_ ?_ (fun e => by omega) NT (List.prefix_refl _) (by omega) (fun _ h => .inl h) (fun e => by omega) hN1.up.up hg hnd
          · simp [rI, hrest]
          · simpa [rI] using s4
          · simp [rI]
          · simpa [rI] using s7
          · simpa [rI] using s8
      have dig_ : isLt c ≠ true → isDg c = true → WS (d + 4) m_Scan_digits 0 [some (.ref 10), none, none] [] v (Rv (fun (u2 : Us) => WS (d + 5) m_Scan_next 143 [some (.ref 10), some (.int (nI c))] [] u2 Q) (fun x u => Q (.inr x) u)) := by
        intro n1 n2
        refine s_digits q2 q1 ht1 s3 sC sN (fun e p2 => ?_) (fun e p2 r1 r2 => ?_)
        · have hlx : lx (c :: r) = (99, [], 0, []) := by
            simp only [lx]
            rw [if_neg n1, if_pos n2, if_pos e]
          exact bad _ ((Fm.refl.uI (by simp)).uI (by simp)) (by rw [hK, hlx]) (by simpa [rI] using s4) (by simp [rI])
        · have hlx : lx (c :: r) = (21, [], dv ((c :: r).takeWhile isDg), (c :: r).dropWhile isDg) := by
            simp only [lx]
            rw [if_neg n1, if_pos n2, if_neg (by omega)]
          have hkk : tK bs j = 21 := by rw [hK, hlx]
          have hvv : tV bs j = dv ((c :: r).takeWhile isDg) := by unfold tV; rw [hl, hlx]
          refine good _ _ (by omega) (by omega) (((Fm.refl.uI (by simp)).uI (by simp)).uI (by simp)) (((ht1.up (by decide)).up (by decide)).up (by decide)) ?_ ?_ ?_ ?_ ?_ (fun _ => ?_) NT (List.prefix_refl _) (by omega) (fun _ h => .inl h) (fun e => by omega) hN1.up.up.up hg hnd
          · simp only [hl, hlx]
            have := drop_len r2 r1
            simp [rI, this]
          · simpa [rI] using s4
          · simp [rI, hkk]; rfl
          · simpa [rI] using s7
          · simpa [rI] using s8
          · simp [rI, hvv]
      have let_ : isLt c = true → WS (d + 4) m_Scan_letters 0 [some (.ref 10), none, none, none, none, none, none, none, none] [] v (Rv (fun (u2 : Us) => WS (d + 5) m_Scan_next 143 [some (.ref 10), some (.int (nI c))] [] u2 Q) (fun x u => Q (.inr x) u)) := by
        intro n1
        refine s_letters q2 q1 ht1 s3 sC sN hN1 hnl hg (fun e p2 => ?_) (fun e p2 r1 r2 hw => ?_)
        · have hlx : lx (c :: r) = (99, [], 0, []) := by
            simp only [lx]
            rw [if_pos n1, if_pos e]
          exact bad _ ((Fm.refl.uI (by simp)).uI (by simp)) (by rw [hK, hlx]) (by simpa [rI] using s4) (by simp [rI])
        · have hlx : lx (c :: r) = (kwL.idxOf (lo96 ((c :: r).takeWhile isLt)), lo96 ((c :: r).takeWhile isLt), 0, (c :: r).dropWhile isLt) := by
            simp only [lx]
            rw [if_pos n1, if_neg (by omega)]
            rfl
          have hkk : tK bs j = kwL.idxOf (lo96 ((c :: r).takeWhile isLt)) := by rw [hK, hlx]
          have hww : tW bs j = lo96 ((c :: r).takeWhile isLt) := by unfold tW; rw [hl, hlx]
          have h20 := kw_le (lo96 ((c :: r).takeWhile isLt))
          have hrest : bs.length - (lx (rm bs j)).2.2.2.length = p2 := by
            simp only [hl, hlx]
            exact (drop_len r2 r1).symm
          rw [← hkk] at h20 ⊢
          rw [← hww] at hw ⊢
          refine ⟨fun z => ?_, fun z => ⟨fun hm => ?_, fun hm => ?_⟩⟩
          · refine good _ _ (by omega) (by omega) ((Fm.refl.uI (by simp)).uI (by simp)) ((ht1.up (by decide)).up (by decide)) ?_ ?_ ?_ ?_ ?_ (fun e => by omega) NT (List.prefix_refl _) (by omega) (fun _ h => .inl h) (fun e => absurd e z) hN1.up.up hg hnd
            · simp [rI, hrest]
            · simpa [rI] using s4
            · simp [rI]
            · simpa [rI] using s7
            · simpa [rI] using s8
          · refine good _ _ (by omega) (by omega) (((Fm.refl.uI (by simp)).uI (by simp)).uI (by simp)) (((ht1.up (by decide)).up (by decide)).up (by decide)) ?_ ?_ ?_ ?_ ?_ (fun e => by omega) NT (List.prefix_refl _) (by omega) (fun _ h => .inl h) (fun e => ⟨hm, by simp [rI]⟩) hN1.up.up.up hg hnd
            · simp [rI, hrest]
            · simpa [rI] using s4
            · simp [rI, z]
            · simpa [rI] using s7
            · simpa [rI] using s8
          · refine good _ _ (by omega) (by omega) (((((Fm.refl.uI (by simp)).uI (by simp)).uI (by simp)).uL (by simp)).uI (by simp)) ?_ ?_ ?_ ?_ ?_ ?_ (fun e => by omega) (NT ++ [tW bs j]) (List.prefix_append _ _) (by simp) (fun w h => by rcases List.mem_append.mp h with h | h; exact .inl h; exact .inr ⟨z, List.mem_singleton.mp h⟩) (fun e => ⟨by simp, ?_⟩) ⟨?_, fun i w hi => ?_⟩ (fun w hm2 => ?_) ?_
            · exact ⟨by simpa [rI, rIL] using ht1.1, hlen, fun k c hk => by simpa [rI, rIL] using ht1.2.2 k c hk⟩
            · simp [rI, rIL, hrest]
            · simpa [rI, rIL] using s4
            · simp [rI, rIL, z]
            · simpa [rI, rIL] using s7
            · simpa [rI, rIL] using s8
            · rw [List.idxOf_append, if_neg hm]
              simp [rI]
            · simp [rI, rIL]
            · rw [List.map_append] at hi
              by_cases hlt2 : i < NT.length
              · rw [List.getElem?_append_left (by simpa using hlt2)] at hi
                have := hN1.2 i w hi
                show aL (uL _ 13 NT.length _) 13 i = w
                rw [aL_uLk (by omega)]
                exact this
              · rw [List.getElem?_append_right (by simp; omega)] at hi
                rw [List.length_map] at hi
                have hi0 : i = NT.length := by
                  have := (List.getElem?_eq_some_iff.mp hi).1
                  simp at this
                  omega
                subst hi0
                simp at hi
                show aL (uL _ 13 NT.length _) 13 NT.length = w
                rw [aL_uL, hi]
            · rcases List.mem_append.mp hm2 with h | h
              · exact hg w h
              · rw [List.mem_singleton.mp h]; exact hw
            · rw [List.nodup_append]
              refine ⟨hnd, by simp, fun a ha b hb => ?_⟩
              rw [List.mem_singleton.mp hb]
              exact fun e => hm (e ▸ ha)
      refine g_Scan_next_100 _ ⟨fun z1 => ⟨fun z2 => ?_, fun z2 => ⟨fun z3 => ?_, fun z3 => ?_⟩⟩, fun z1 => ⟨fun z2 => ⟨fun z3 => ?_, fun z3 => ⟨fun z4 => ?_, fun z4 => ?_⟩⟩, fun z2 => ?_⟩⟩
      · exact sign_ (fun q => by have := isLt_iff.mp q; have := (nI_ltk (k := 48) hc (by decide)).mp z2; omega) (fun q => by have := isDg_iff.mp q; have := (nI_ltk (k := 48) hc (by decide)).mp z2; omega)
      · exact sign_ (fun q => by have := isLt_iff.mp q; have := (nI_ltk (k := 97) hc (by decide)).mp z1; omega) (fun q => by have := isDg_iff.mp q; have := (nI_ltk (c := 57) (by decide) hc).mp z3; omega)
      · have a1 := (nI_ltk (k := 97) hc (by decide)).mp z1
        have a2 : ¬ c < 48 := fun q => z2 ((nI_ltk (k := 48) hc (by decide)).mpr q)
        have a3 : ¬ 57 < c := fun q => z3 ((nI_ltk (c := 57) (by decide) hc).mpr q)
        exact dig_ (fun q => by have := isLt_iff.mp q; omega) (isDg_iff.mpr (by omega))
      · exact sign_ (fun q => by have := isLt_iff.mp q; have := (nI_ltk (k := 48) hc (by decide)).mp z3; omega) (fun q => by have := isDg_iff.mp q; have := (nI_ltk (k := 48) hc (by decide)).mp z3; omega)
      · exact sign_ (fun q => by have := isLt_iff.mp q; have := (nI_ltk (c := 122) (by decide) hc).mp z2; omega) (fun q => by have := isDg_iff.mp q; have := (nI_ltk (c := 57) (by decide) hc).mp z4; omega)
      · have a1 := (nI_ltk (c := 122) (by decide) hc).mp z2
        have a3 : ¬ 57 < c := fun q => z4 ((nI_ltk (c := 57) (by decide) hc).mpr q)
        omega
      · have a1 : ¬ c < 97 := fun q => z1 ((nI_ltk (k := 97) hc (by decide)).mpr q)
        have a2 : ¬ 122 < c := fun q => z2 ((nI_ltk (c := 122) (by decide) hc).mpr q)
        exact let_ (isLt_iff.mpr (by omega))
  rw [aI_uIk (by decide), aI_uI, aI_uIk (by decide), ht.1, htok]
  refine ⟨fun z => tok (fun hne => ?_), fun z => ⟨fun z2 => tok (fun _ q => ?_), fun z2 => ⟨h1, h2, ?_⟩⟩⟩
  · have := (nI_leI (by omega) (by omega)).mp z
    exact absurd (by rw [← q2]; exact List.drop_eq_nil_of_le this) hne
  · exact z2 (by rw [show j = 150 by omega]; rfl)
  · have ej : j = 150 := (nI_eq (b := 150) (by omega) (by decide)).mp z2
    have hne : rm bs j ≠ [] := fun e => z (by
      rw [e] at q2
      have := drop_len q2 q1
      simp at this
      rw [this]
      exact Int32.le_refl _)
    have hK : tK bs j = 98 := by unfold tK; rw [if_pos ⟨by omega, hne⟩]
    refine he (by omega) _ (f0.uI (by simp)) ?_ (by simpa [rI] using s2)
    rw [plc, if_pos hK]
    simpa [rI] using s8
