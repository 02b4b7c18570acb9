theorem tV_lt (bs : List Nat) (j : Nat) : tV bs j < 2 ^ 31 := by
  unfold tV
  generalize rm bs j = l
  cases l with
  | nil => decide
  | cons c r =>
    simp only [lx]
    split
    · split <;> exact (by decide : (0 : Nat) < 2 ^ 31)
    · split
      · split
        · decide
        · simp only
          omega
      · exact (by decide : (0 : Nat) < 2 ^ 31)
theorem ge_one {cu : List Nat} {wi : Option Nat} {H : Nat} {s s' : PS} {o : EO} (hH : 1 ≤ H) (hv : vG s s') (h1 : s.1 < s'.1) (hw : wtO o ≤ s'.1 - s.1) (ho : okO s.2.1 s'.2.2.length cu wi o) (h50 : 50 ≤ o.1.1) (h54 : o.1.1 ≠ 54) : geR cu wi H s [o] s' := by
  refine ⟨?_, h1, hv, fun x hx => by rw [List.mem_singleton.mp hx]; exact ho, fun h M hM => ?_⟩
  · rw [wt_cons, wt_nil]
    omega
  · show (ckS M o.1 h).bind _ = _
    have : ckS M o.1 h = some (h + 1) := by
      unfold ckS
      rw [if_neg (by omega), if_pos h50, if_pos (by omega)]
    rw [this]
    rfl
section GE2
variable {bs : List Nat} {cu : List Nat} {wi : Option Nat}
theorem ge_named {H : Nat} (hH : 1 ≤ H) : GE cu wi H (pNamed bs wi cu) := by
  intro s e s' h hc
  unfold pNamed at h
  have var : kOf s.2.1 (tW bs s.1) = none → (pb (pVar bs) fun v => pr [o1 51 v 0 0]) s = .inr (e, s') → geR cu wi H s e s' := by
    intro _ h
    obtain ⟨v, s1, h1, h⟩ := pb_ok h
    obtain ⟨rfl, rfl⟩ := pr_ok h
    obtain ⟨a1, a2, a3, a4, a5⟩ := pVar_ok h1 hc.2.2.2
    exact ge_one hH ⟨a2, a3, a4⟩ (by omega) (by rw [a1]; unfold wtO wtS o1; simp) (.inl ⟨by simp [o1], rfl, by simp [o1], by simp [o1], fun _ => (List.getElem?_eq_some_iff.mp a5).1, by simp [o1], by simp [o1]⟩) (by simp [o1]) (by simp [o1])
  have cur : (pb (pCur bs cu) fun ck => pb (pt bs 48) fun _ => pb (pField bs ck.2) fun f => pr [o1 53 ck.1 ck.2 f]) s = .inr (e, s') → geR cu wi H s e s' := by
    intro h
    obtain ⟨ck, s1, h1, h⟩ := pb_ok h
    obtain ⟨_, s2, h2, h⟩ := pb_ok h
    obtain ⟨f, s3, h3, h⟩ := pb_ok h
    obtain ⟨rfl, rfl⟩ := pr_ok h
    obtain ⟨a1, a2, a3, rfl⟩ := pCur_ok h1
    obtain ⟨b1, rfl⟩ := pt_ok h2
    obtain ⟨c1, c2, rfl⟩ := pField_ok h3
    refine ge_one hH ⟨rfl, List.prefix_refl _, hc.2.2.2⟩ (by simp only; omega) (by unfold wtO wtS o1; simp; omega) (.inl ⟨by simp [o1], rfl, by simp [o1], by simp [o1], by simp [o1], by simp [o1], fun _ => ⟨a3, kOf_lt a2, fOf_lt c2⟩⟩) (by simp [o1]) (by simp [o1])
  cases wi with
  | none =>
    simp only at h
    cases hk : kOf s.2.1 (tW bs s.1) with
    | none => rw [hk] at h; exact var hk h
    | some k => rw [hk] at h; exact cur h
  | some k =>
    simp only at h
    cases hf : fOf (fsOf s.2.1 k) (tW bs s.1) with
    | some f =>
      rw [hf] at h
      cases h
      exact ge_one hH ⟨rfl, List.prefix_refl _, hc.2.2.2⟩ (by simp only; omega) (by unfold wtO wtS o1; simp) (.inl ⟨by simp [o1], rfl, by simp [o1], by simp [o1], by simp [o1], fun _ => ⟨rfl, fOf_lt hf⟩, by simp [o1]⟩) (by simp [o1]) (by simp [o1])
    | none =>
      rw [hf] at h
      simp only [Option.map_none] at h
      cases hk : kOf s.2.1 (tW bs s.1) with
      | none => rw [hk] at h; exact var hk h
      | some k => rw [hk] at h; exact cur h
theorem wtL_map {e : Ex} (h : ∀ o ∈ e, o.1.1 ≠ 56) : wtL (e.map (fun y => y.1)) = wt e := by
  unfold wtL wt
  rw [List.map_map]
  congr 1
  refine List.map_congr_left (fun o ho => ?_)
  simp only [Function.comp, wtO, if_neg (h o ho)]
theorem ge_agg {H b which : Nat} (hH : 1 ≤ H) (hw : 16 ≤ which ∧ which ≤ 19) {HX : Nat} (hHX : HX ≤ 60) {X : Option Nat → Pr Ex} (hX : ∀ w, GE cu w HX (X w)) : GE cu none H (pAgg bs b X which) := by
  intro s e s' h hc
  obtain ⟨_, s1, h1, h⟩ := pb_ok h
  have := pn_ok h1; subst this
  obtain ⟨_, s2, h2, h⟩ := pb_ok h
  obtain ⟨-, -, rfl⟩ := pOpen_ok h2
  obtain ⟨k, s3, h3, h⟩ := pb_ok h
  obtain ⟨-, a2, rfl⟩ := pKind_ok h3
  obtain ⟨f, s4, h4, h⟩ := pb_ok h
  obtain ⟨i, s5, h5, h⟩ := pb_ok h
  obtain ⟨_, s6, h6, h⟩ := pb_ok h
  obtain ⟨rfl, rfl⟩ := pr_ok h
  obtain ⟨-, rfl⟩ := pt_ok h6
  have hkl : k < s.2.1.length := kOf_lt a2
  obtain ⟨nm, -, f2⟩ := fs_at hkl
  have hf1 := (hc.1.2 _ _ f2).1
  have h4' : f < (fsOf s.2.1 k).length ∧ s4.2 = s.2 ∧ s.1 + 3 ≤ s4.1 := by
    rcases pi_ok h4 with ⟨_, h4⟩ | ⟨_, h4⟩
    · obtain ⟨rfl, rfl⟩ := pr_ok h4
      exact ⟨hf1, rfl, Nat.le_refl _⟩
    · obtain ⟨_, s7, h7, h4⟩ := pb_ok h4
      obtain ⟨-, rfl⟩ := pt_ok h7
      obtain ⟨-, b2, rfl⟩ := pField_ok h4
      exact ⟨fOf_lt b2, rfl, by simp only; omega⟩
  obtain ⟨c1, c2, c3⟩ := h4'
  have hc4 : cxG cu (some k) s4 := by
    unfold cxG
    rw [c2]
    exact ⟨hc.1, fun q hq => by injection hq with hq; rw [← hq]; exact hkl, hc.2.2.1, hc.2.2.2⟩
  have hin : vG s s5 ∧ s.1 + 3 + wtL i ≤ s5.1 + 1 ∧ s.1 + 3 ≤ s5.1 ∧ (∀ x ∈ i, okS s.2.1 s5.2.2.length cu (some k) x) ∧ ckL 60 i 0 = some 1 := by
    rcases pi_ok (pk_ok h5) with ⟨_, h5⟩ | ⟨_, h5⟩
    · obtain ⟨_, s7, h7, h5⟩ := pb_ok h5
      have := pn_ok h7; subst this
      obtain ⟨e1, s8, h8, h5⟩ := pb_ok h5
      obtain ⟨rfl, rfl⟩ := pr_ok h5
      have g := hX _ _ _ _ h8 (hc4.go hc4.v1)
      have gv := hc4.v1.trans g.2.2.1
      have hn : ∀ o ∈ e1, o.1.1 ≠ 56 ∧ okS s.2.1 s5.2.2.length cu (some k) o.1 := by
        intro o ho
        have := g.2.2.2.1 o ho
        simp only [c2] at this
        rcases this with ⟨q1, -, q3⟩ | ⟨-, q2, -⟩
        · exact ⟨q1, q3⟩
        · cases q2
      have a := g.1
      have a' := g.2.1
      simp only at a a'
      refine ⟨⟨by rw [gv.1, c2], by have := gv.2.1; rw [c2] at this; exact this, gv.2.2⟩, ?_, by omega, fun x hx => ?_, g.2.2.2.2 0 60 (by omega)⟩
      · rw [wtL_map (fun o ho => (hn o ho).1)]
        omega
      · obtain ⟨o, ho, rfl⟩ := List.mem_map.mp hx
        exact (hn o ho).2
    · obtain ⟨rfl, rfl⟩ := pr_ok h5
      refine ⟨⟨by rw [c2], by rw [c2]; exact List.prefix_refl _, by rw [c2]; exact hc.2.2.2⟩, ?_, c3, fun x hx => ?_, rfl⟩
      · have : wtL [(50, 1, 0, 0)] = 1 := rfl
        omega
      · rw [List.mem_singleton.mp hx]
        exact ⟨by simp, by simp, by simp, by simp, by simp⟩
  obtain ⟨d1, d2, d3, d4, d5⟩ := hin
  refine ge_one hH d1 (by simp only; omega) ?_ (.inr ⟨rfl, rfl, hw.1, hw.2, hkl, c1, d4, d5⟩) (by simp) (by simp)
  unfold wtO
  simp only [if_true]
  omega
theorem ge_atom {H b : Nat} (hH : 1 ≤ H) (hH2 : H ≤ 60) {X : Option Nat → Pr Ex} (hX : ∀ w, GE cu w H (X w)) : GE cu wi H (pAtom bs wi cu b X) := by
  intro s e s' h hc
  rcases pi_ok (pk_ok h) with ⟨hx, h⟩ | ⟨_, h⟩
  · cases h
    exact ge_one hH ⟨rfl, List.prefix_refl _, hc.2.2.2⟩ (by simp only; omega) (by unfold wtO wtS o1; simp) (.inl ⟨by simp [o1], rfl, by simp [o1], fun _ => tV_lt _ _, by simp [o1], by simp [o1], by simp [o1]⟩) (by simp [o1]) (by simp [o1])
  rcases pi_ok h with ⟨hx, h⟩ | ⟨_, h⟩
  · obtain ⟨_, s1, h1, h⟩ := pb_ok h
    obtain ⟨-, -, rfl⟩ := pOpen_ok h1
    obtain ⟨e1, s2, h2, h⟩ := pb_ok h
    obtain ⟨_, s3, h3, h⟩ := pb_ok h
    obtain ⟨rfl, rfl⟩ := pr_ok h
    obtain ⟨-, rfl⟩ := pt_ok h3
    have g := hX wi _ _ _ h2 (hc.go hc.v1)
    have a := g.1
    have a2 := g.2.1
    simp only at a a2
    exact ⟨by simp only; omega, by simp only; omega, hc.v1.trans g.2.2.1, g.2.2.2.1, g.2.2.2.2⟩
  rcases pi_ok h with ⟨hx, h⟩ | ⟨_, h⟩
  · rcases pi_ok h with ⟨hw, h⟩ | ⟨hw, h⟩
    · exact (pe_ok h).elim
    · cases wi with
      | some k => simp at hw
      | none => exact ge_agg hH hx hH2 hX s e s' h hc
  rcases pi_ok h with ⟨hx, h⟩ | ⟨_, h⟩
  · exact ge_named hH s e s' h hc
  · exact (pe_ok h).elim
theorem ge_exp : ∀ (b : Nat) (wi : Option Nat), b ≤ 10 → GE cu wi (6 + 5 * b) (pExp bs cu b wi)
  | 0, wi, _ => ge_eith (H := 1) (ge_atom (by omega) (by omega) (fun w s e s' h => (pe_ok h).elim))
  | b + 1, wi, hb => by
    have := ge_eith (bs := bs) (cu := cu) (wi := wi) (ge_atom (bs := bs) (b := b + 1) (cu := cu) (wi := wi) (H := 6 + 5 * b) (by omega) (by omega) (fun w => ge_exp b w (by omega)))
    exact this
end GE2
