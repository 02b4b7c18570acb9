-- facts of the pure parser of expressions
section POK
variable {α β : Type} {bs : List Nat} {s s' : PS}
theorem pb_ok {f : Pr α} {g : α → Pr β} {b : β} (h : pb f g s = .inr (b, s')) : ∃ a s1, f s = .inr (a, s1) ∧ g a s1 = .inr (b, s') := by
  unfold pb at h
  cases hf : f s with
  | inl e => rw [hf] at h; cases h
  | inr p => obtain ⟨a, s1⟩ := p; rw [hf] at h; exact ⟨a, s1, rfl, h⟩
theorem pr_ok {a b : α} (h : pr a s = .inr (b, s')) : b = a ∧ s' = s := by
  unfold pr at h; cases h; exact ⟨rfl, rfl⟩
theorem pn_ok {b : Unit} (h : pn s = .inr (b, s')) : s' = (s.1 + 1, s.2) := by
  unfold pn at h; cases h; rfl
theorem pe_ok {b : α} (h : pe s = .inr (b, s')) : False := by
  unfold pe at h; cases h
theorem pt_ok {k : Nat} {b : Unit} (h : pt bs k s = .inr (b, s')) : tK bs s.1 = k ∧ s' = (s.1 + 1, s.2) := by
  rw [pt_eq] at h
  by_cases e : tK bs s.1 = k
  · rw [if_pos e] at h; cases h; exact ⟨e, rfl⟩
  · rw [if_neg e] at h; cases h
theorem pOpen_ok {k c : Nat} {b : Unit} (h : pOpen bs c k s = .inr (b, s')) : tK bs s.1 = k ∧ 0 < c ∧ s' = (s.1 + 1, s.2) := by
  rw [pOpen_eq] at h
  by_cases e : tK bs s.1 = k ∧ 0 < c
  · rw [if_pos e] at h; cases h; exact ⟨e.1, e.2, rfl⟩
  · rw [if_neg e] at h; cases h
theorem pi_ok {c : Prop} [Decidable c] {f g : Pr α} {r : Nat ⊕ (α × PS)} (h : pi c f g s = r) : (c ∧ f s = r) ∨ (¬ c ∧ g s = r) := by
  unfold pi at h
  by_cases e : c
  · rw [if_pos e] at h; exact .inl ⟨e, h⟩
  · rw [if_neg e] at h; exact .inr ⟨e, h⟩
theorem pk_ok {f : Nat → Pr α} {r : Nat ⊕ (α × PS)} (h : pk bs f s = r) : f (tK bs s.1) s = r := h
theorem po_ok {o : PS → Option Nat} {k : Nat} (h : po o s = .inr (k, s')) : o s = some k ∧ s' = (s.1 + 1, s.2) := by
  unfold po at h
  cases ho : o s with
  | none => rw [ho] at h; cases h
  | some x => rw [ho] at h; cases h; exact ⟨rfl, rfl⟩
theorem pKind_ok {k : Nat} (h : pKind bs s = .inr (k, s')) : tK bs s.1 = 20 ∧ kOf s.2.1 (tW bs s.1) = some k ∧ s' = (s.1 + 1, s.2) := by
  obtain ⟨h1, h2⟩ := po_ok h
  by_cases e : tK bs s.1 = 20
  · rw [if_pos e] at h1; exact ⟨e, h1, h2⟩
  · rw [if_neg e] at h1; cases h1
theorem pField_ok {k f : Nat} (h : pField bs k s = .inr (f, s')) : tK bs s.1 = 20 ∧ fOf (fsOf s.2.1 k) (tW bs s.1) = some f ∧ s' = (s.1 + 1, s.2) := by
  obtain ⟨h1, h2⟩ := po_ok h
  by_cases e : tK bs s.1 = 20
  · rw [if_pos e] at h1; exact ⟨e, h1, h2⟩
  · rw [if_neg e] at h1; cases h1
theorem pCur_ok {cu : List Nat} {ck : Nat × Nat} (h : pCur bs cu s = .inr (ck, s')) : tK bs s.1 = 20 ∧ kOf s.2.1 (tW bs s.1) = some ck.2 ∧ lvOf cu ck.2 = some ck.1 ∧ s' = (s.1 + 1, s.2) := by
  unfold pCur at h
  by_cases e : tK bs s.1 = 20
  · rw [if_pos e] at h
    cases hk : kOf s.2.1 (tW bs s.1) with
    | none => rw [hk] at h; cases h
    | some k =>
      rw [hk] at h
      simp only at h
      cases hl : lvOf cu k with
      | none => rw [hl] at h; cases h
      | some c => rw [hl] at h; cases h; exact ⟨e, rfl, hl, rfl⟩
  · rw [if_neg e] at h; cases h
theorem pVar_ok {v : Nat} (h : pVar bs s = .inr (v, s')) (h20 : s.2.2.length ≤ 20) : s'.1 = s.1 + 1 ∧ s'.2.1 = s.2.1 ∧ s.2.2 <+: s'.2.2 ∧ s'.2.2.length ≤ 20 ∧ s'.2.2[v]? = some (tW bs s.1) := by
  unfold pVar at h
  cases hv : vOf s.2.2 (tW bs s.1) with
  | some x =>
    rw [hv] at h
    cases h
    obtain ⟨h1, h2, -⟩ := List.findIdx?_eq_some_iff_getElem.mp hv
    refine ⟨rfl, rfl, List.prefix_refl _, h20, ?_⟩
    rw [List.getElem?_eq_getElem h1]
    simp at h2
    rw [h2]
  | none =>
    rw [hv] at h
    simp only at h
    by_cases e : s.2.2.length = 20
    · rw [if_pos e] at h; cases h
    · rw [if_neg e] at h
      cases h
      refine ⟨rfl, rfl, List.prefix_append _ _, by simp; omega, by simp⟩
end POK
-- sizes
def rn (n : Nat) : Nat := if 2 < n then 2 - n % 2 else n
theorem rn_le (n : Nat) : rn n ≤ n := by unfold rn; split <;> omega
def cS (o : So) : List (Nat × Nat) := if o.1 = 15 then List.replicate (rn o.2.1) (15, 0) else if o.1 = 54 then List.replicate (o.2.1 % 2) (54, 0) else if o.1 = 52 then [(52, 6 * o.2.1 + o.2.2.1)] else if o.1 = 53 then [(53, 42 * o.2.1 + (6 * o.2.2.1 + o.2.2.2))] else [(o.1, o.2.1)]
def wtS (o : So) : Nat := if o.1 = 15 ∨ o.1 = 54 then o.2.1 else 1
def wtL (l : List So) : Nat := (l.map wtS).sum
def wtO (o : EO) : Nat := if o.1.1 = 56 then 3 + wtL o.2 else wtS o.1
def wt (e : Ex) : Nat := (e.map wtO).sum
theorem wt_app (a b : Ex) : wt (a ++ b) = wt a + wt b := by simp [wt]
theorem wt_cons (a : EO) (b : Ex) : wt (a :: b) = wtO a + wt b := by simp [wt]
theorem wt_nil : wt [] = 0 := rfl
def ckS (M : Nat) (o : So) (h : Nat) : Option Nat := if o.1 = 15 ∨ o.1 = 54 then (if 1 ≤ h then some h else none) else if 50 ≤ o.1 then (if h + 1 ≤ M then some (h + 1) else none) else (if 2 ≤ h then some (h - 1) else none)
def ckL (M : Nat) : List So → Nat → Option Nat
  | [], h => some h
  | o :: r, h => (ckS M o h).bind (ckL M r)
theorem ckL_app (M : Nat) : ∀ (a b : List So) (h : Nat), ckL M (a ++ b) h = (ckL M a h).bind (ckL M b)
  | [], b, h => rfl
  | o :: a, b, h => by
    show (ckS M o h).bind (ckL M (a ++ b)) = ((ckS M o h).bind (ckL M a)).bind (ckL M b)
    cases ckS M o h with
    | none => rfl
    | some x => exact ckL_app M a b x
def HX (H : Nat) (e : Ex) : Prop := ∀ h M, h + H ≤ M → ckL M (e.map (fun y => y.1)) h = some (h + 1)
def LX (H : Nat) (e : Ex) : Prop := ∀ h M, h + 1 + H ≤ M → ckL M (e.map (fun y => y.1)) (h + 1) = some (h + 1)
def okS (kd : Kt) (nv : Nat) (cu : List Nat) (wi : Option Nat) (o : So) : Prop :=
  (o.1 = 13 ∨ o.1 = 14 ∨ o.1 = 15 ∨ (30 ≤ o.1 ∧ o.1 ≤ 40) ∨ (50 ≤ o.1 ∧ o.1 ≤ 54)) ∧ (o.1 = 50 → o.2.1 < 2 ^ 31) ∧ (o.1 = 51 → o.2.1 < nv) ∧ (o.1 = 52 → wi = some o.2.1 ∧ o.2.2.1 < (fsOf kd o.2.1).length) ∧ (o.1 = 53 → lvOf cu o.2.2.1 = some o.2.1 ∧ o.2.2.1 < kd.length ∧ o.2.2.2 < (fsOf kd o.2.2.1).length)
def okO (kd : Kt) (nv : Nat) (cu : List Nat) (wi : Option Nat) (o : EO) : Prop :=
  (o.1.1 ≠ 56 ∧ o.2 = [] ∧ okS kd nv cu wi o.1) ∨
  (o.1.1 = 56 ∧ wi = none ∧ 16 ≤ o.1.2.1 ∧ o.1.2.1 ≤ 19 ∧ o.1.2.2.1 < kd.length ∧ o.1.2.2.2 < (fsOf kd o.1.2.2.1).length ∧ (∀ x ∈ o.2, okS kd nv cu (some o.1.2.2.1) x) ∧ ckL 60 o.2 0 = some 1)
theorem okS.mono {kd : Kt} {nv nv' : Nat} {cu : List Nat} {wi : Option Nat} {o : So} (h : okS kd nv cu wi o) (hn : nv ≤ nv') : okS kd nv' cu wi o := ⟨h.1, h.2.1, fun e => Nat.lt_of_lt_of_le (h.2.2.1 e) hn, h.2.2.2⟩
theorem okO.mono {kd : Kt} {nv nv' : Nat} {cu : List Nat} {wi : Option Nat} {o : EO} (h : okO kd nv cu wi o) (hn : nv ≤ nv') : okO kd nv' cu wi o := by
  rcases h with ⟨h1, h2, h3⟩ | ⟨h1, h2, h3, h4, h5, h6, h7, h8⟩
  · exact .inl ⟨h1, h2, h3.mono hn⟩
  · exact .inr ⟨h1, h2, h3, h4, h5, h6, fun x hx => (h7 x hx).mono hn, h8⟩
def cxG (cu : List Nat) (wi : Option Nat) (s : PS) : Prop := kwf s.2.1 ∧ (∀ k, wi = some k → k < s.2.1.length) ∧ (∀ c ∈ cu, c < s.2.1.length) ∧ s.2.2.length ≤ 20
def vG (s s' : PS) : Prop := s'.2.1 = s.2.1 ∧ s.2.2 <+: s'.2.2 ∧ s'.2.2.length ≤ 20
theorem vG.trans {a b c : PS} (h : vG a b) (h2 : vG b c) : vG a c := ⟨h2.1.trans h.1, h.2.1.trans h2.2.1, h2.2.2⟩
theorem cxG.go {cu : List Nat} {wi : Option Nat} {s s' : PS} (h : cxG cu wi s) (hv : vG s s') : cxG cu wi s' := by
  unfold cxG
  rw [hv.1]
  exact ⟨h.1, h.2.1, h.2.2.1, hv.2.2⟩
theorem cxG.v1 {cu : List Nat} {wi : Option Nat} {s : PS} (h : cxG cu wi s) : vG s (s.1 + 1, s.2) := ⟨rfl, List.prefix_refl _, h.2.2.2⟩
def geR (cu : List Nat) (wi : Option Nat) (H : Nat) (s : PS) (e : Ex) (s' : PS) : Prop := s.1 + wt e ≤ s'.1 ∧ s.1 < s'.1 ∧ vG s s' ∧ (∀ o ∈ e, okO s.2.1 s'.2.2.length cu wi o) ∧ HX H e
def GE (cu : List Nat) (wi : Option Nat) (H : Nat) (f : Pr Ex) : Prop := ∀ s e s', f s = .inr (e, s') → cxG cu wi s → geR cu wi H s e s'
def glR (cu : List Nat) (wi : Option Nat) (H : Nat) (s : PS) (e : Ex) (s' : PS) : Prop := s.1 + wt e ≤ s'.1 ∧ vG s s' ∧ (∀ o ∈ e, okO s.2.1 s'.2.2.length cu wi o) ∧ LX H e
theorem ckS_bin {M x h : Nat} (hx : 13 ≤ x ∧ x ≤ 14 ∨ 30 ≤ x ∧ x ≤ 40) : ckS M (x, 0, 0, 0) (h + 2) = some (h + 1) := by
  unfold ckS
  rw [if_neg (by simp only; omega), if_neg (by simp only; omega), if_pos (by omega)]
  rfl
theorem okO_bin {kd : Kt} {nv : Nat} {cu : List Nat} {wi : Option Nat} {x : Nat} (hx : 13 ≤ x ∧ x ≤ 14 ∨ 30 ≤ x ∧ x ≤ 40) : okO kd nv cu wi (o1 x 0 0 0) := .inl ⟨by simp only [o1]; omega, rfl, by simp only [o1]; omega, fun h => by simp only [o1] at h; omega, fun h => by simp only [o1] at h; omega, fun h => by simp only [o1] at h; omega, fun h => by simp only [o1] at h; omega⟩
theorem wt_bin {x : Nat} (hx : 13 ≤ x ∧ x ≤ 14 ∨ 30 ≤ x ∧ x ≤ 40) : wtO (o1 x 0 0 0) = 1 := by
  unfold wtO wtS o1
  rw [if_neg (by simp only; omega), if_neg (by simp only; omega)]
section GEL
variable {bs : List Nat} {cu : List Nat} {wi : Option Nat}
theorem ge_loop {lo hi H : Nat} (hb : 13 ≤ lo ∧ hi ≤ 14 ∨ 30 ≤ lo ∧ hi ≤ 40) {it : Pr Ex} (hit : GE cu wi H it) : ∀ (n : Nat) (s : PS) (e : Ex) (s' : PS), pLoop bs lo hi it n s = .inr (e, s') → cxG cu wi s → glR cu wi H s e s'
  | 0, s, e, s', h, hc => by
    obtain ⟨rfl, rfl⟩ := pr_ok h
    exact ⟨by simp [wt], ⟨rfl, List.prefix_refl _, hc.2.2.2⟩, fun o ho => by simp at ho, fun h M _ => rfl⟩
  | n + 1, s, e, s', h, hc => by
    rcases pi_ok (pk_ok h) with ⟨hx, h⟩ | ⟨hx, h⟩
    · obtain ⟨_, s1, h1, h⟩ := pb_ok h
      have := pn_ok h1; subst this
      obtain ⟨e1, s2, h2, h⟩ := pb_ok h
      obtain ⟨r, s3, h3, h⟩ := pb_ok h
      obtain ⟨rfl, rfl⟩ := pr_ok h
      have g1 := hit _ _ _ h2 (hc.go hc.v1)
      have g2 := ge_loop hb hit n _ _ _ h3 ((hc.go hc.v1).go g1.2.2.1)
      have hx' : 13 ≤ tK bs s.1 ∧ tK bs s.1 ≤ 14 ∨ 30 ≤ tK bs s.1 ∧ tK bs s.1 ≤ 40 := by omega
      refine ⟨?_, hc.v1.trans (g1.2.2.1.trans g2.2.1), fun o ho => ?_, fun h M hM => ?_⟩
      · rw [wt_app, wt_cons, wt_bin hx']
        have a := g1.1
        have b := g2.1
        simp only at a b
        omega
      · rcases List.mem_append.mp ho with ho | ho
        · exact (g1.2.2.2.1 o ho).mono g2.2.1.2.1.length_le
        · rcases List.mem_cons.mp ho with ho | ho
          · rw [ho]; exact okO_bin hx'
          · have := g2.2.2.1 o ho
            rw [g1.2.2.1.1] at this
            exact this
      · rw [List.map_append, ckL_app, g1.2.2.2.2 (h + 1) M (by omega)]
        show (ckS M (tK bs s.1, 0, 0, 0) (h + 2)).bind _ = _
        rw [ckS_bin hx']
        exact g2.2.2.2 h M hM
    · obtain ⟨rfl, rfl⟩ := pr_ok h
      exact ⟨by simp [wt], ⟨rfl, List.prefix_refl _, hc.2.2.2⟩, fun o ho => by simp at ho, fun h M _ => rfl⟩
theorem ge_chain {lo hi H : Nat} (hb : 13 ≤ lo ∧ hi ≤ 14 ∨ 30 ≤ lo ∧ hi ≤ 40) {it : Pr Ex} (hit : GE cu wi H it) : GE cu wi (H + 1) (pChain bs lo hi it) := by
  intro s e s' h hc
  obtain ⟨e1, s1, h1, h⟩ := pb_ok h
  obtain ⟨r, s2, h2, h⟩ := pb_ok h
  obtain ⟨rfl, rfl⟩ := pr_ok h
  have g1 := hit _ _ _ h1 hc
  have g2 := ge_loop hb hit _ _ _ _ h2 (hc.go g1.2.2.1)
  refine ⟨?_, ?_, g1.2.2.1.trans g2.2.1, fun o ho => ?_, fun h M hM => ?_⟩
  · rw [wt_app]
    have a := g1.1
    have b := g2.1
    omega
  · have a := g1.2.1
    have b := g2.1
    omega
  · rcases List.mem_append.mp ho with ho | ho
    · exact (g1.2.2.2.1 o ho).mono g2.2.1.2.1.length_le
    · have := g2.2.2.1 o ho
      rw [g1.2.2.1.1] at this
      exact this
  · rw [List.map_append, ckL_app, g1.2.2.2.2 h M (by omega)]
    exact g2.2.2.2 h M (by omega)
theorem many_ok {k : Nat} : ∀ (n : Nat) (s : PS) (m : Nat) (s' : PS), pMany bs k n s = .inr (m, s') → s' = (s.1 + m, s.2)
  | 0, s, m, s', h => by obtain ⟨rfl, rfl⟩ := pr_ok h; rfl
  | n + 1, s, m, s', h => by
    rcases pi_ok (pk_ok h) with ⟨hx, h⟩ | ⟨hx, h⟩
    · obtain ⟨_, s1, h1, h⟩ := pb_ok h
      have := pn_ok h1; subst this
      obtain ⟨m1, s2, h2, h⟩ := pb_ok h
      obtain ⟨rfl, rfl⟩ := pr_ok h
      have := many_ok n _ _ _ h2
      rw [this]
      show (s.1 + 1 + m1, s.2) = (s.1 + (m1 + 1), s.2)
      rw [Nat.add_assoc, Nat.add_comm 1 m1]
    · obtain ⟨rfl, rfl⟩ := pr_ok h; rfl
theorem ge_un {H n op : Nat} (hop : op = 15 ∨ op = 54) {s s' : PS} {e : Ex} (hc : cxG cu wi s) (h : geR cu wi H (s.1 + n, s.2) e s') : geR cu wi H s (if n = 0 then e else e ++ [o1 op n 0 0]) s' := by
  obtain ⟨h1, h2, h3, h4, h5⟩ := h
  simp only at h1 h2
  by_cases hn : n = 0
  · subst hn
    rw [if_pos rfl]
    exact ⟨by omega, by omega, h3, h4, h5⟩
  · rw [if_neg hn]
    refine ⟨?_, by omega, h3, fun o ho => ?_, fun h M hM => ?_⟩
    · rw [wt_app]
      have : wt [o1 op n 0 0] = n := by
        rw [wt_cons, wt_nil]
        unfold wtO wtS o1
        rw [if_neg (by simp only; omega), if_pos (by simp only; omega)]
        rfl
      omega
    · rcases List.mem_append.mp ho with ho | ho
      · exact h4 o ho
      · rw [List.mem_singleton.mp ho]
        exact .inl ⟨by simp only [o1]; omega, rfl, by simp only [o1]; omega, fun h => by simp only [o1] at h; omega, fun h => by simp only [o1] at h; omega, fun h => by simp only [o1] at h; omega, fun h => by simp only [o1] at h; omega⟩
    · rw [List.map_append, ckL_app, h5 h M hM]
      show (ckS M (op, n, 0, 0) (h + 1)).bind _ = _
      have : ckS M (op, n, 0, 0) (h + 1) = some (h + 1) := by
        unfold ckS
        rw [if_pos (by simp only; omega), if_pos (by omega)]
      rw [this]
      rfl
theorem ge_signed {H : Nat} {a : Pr Ex} (ha : GE cu wi H a) : GE cu wi H (pSigned bs a) := by
  intro s e s' h hc
  obtain ⟨n, s1, h1, h⟩ := pb_ok h
  obtain ⟨e1, s2, h2, h⟩ := pb_ok h
  obtain ⟨rfl, rfl⟩ := pr_ok h
  have := many_ok _ _ _ _ h1
  subst this
  exact ge_un (.inr rfl) hc (ha _ _ _ h2 (hc.go ⟨rfl, List.prefix_refl _, hc.2.2.2⟩))
theorem ge_neg {H : Nat} {a : Pr Ex} (ha : GE cu wi H a) : GE cu wi (H + 1) (pNeg bs a) := by
  intro s e s' h hc
  obtain ⟨n, s1, h1, h⟩ := pb_ok h
  obtain ⟨e1, s2, h2, h⟩ := pb_ok h
  obtain ⟨r, s3, h3, h⟩ := pb_ok h
  obtain ⟨rfl, rfl⟩ := pr_ok h
  have := many_ok _ _ _ _ h1
  subst this
  have hc1 : cxG cu wi (s.1 + n, s.2) := hc.go ⟨rfl, List.prefix_refl _, hc.2.2.2⟩
  have g1 := ha _ _ _ h2 hc1
  have g2 : geR cu wi (H + 1) (s.1 + n, s.2) (e1 ++ r) s' := by
    rcases pi_ok (pk_ok h3) with ⟨hx, h3⟩ | ⟨hx, h3⟩
    · obtain ⟨_, s4, h4, h3⟩ := pb_ok h3
      have := pn_ok h4; subst this
      obtain ⟨r1, s5, h5, h3⟩ := pb_ok h3
      obtain ⟨rfl, rfl⟩ := pr_ok h3
      have hc2 := hc1.go g1.2.2.1
      have g3 := ha _ _ _ h5 (hc2.go hc2.v1)
      have hx' : 13 ≤ tK bs s2.1 ∧ tK bs s2.1 ≤ 14 ∨ 30 ≤ tK bs s2.1 ∧ tK bs s2.1 ≤ 40 := by omega
      have a := g1.1
      have b := g3.1
      have a2 := g1.2.1
      have b2 := g3.2.1
      simp only at a b a2 b2
      refine ⟨?_, ?_, g1.2.2.1.trans (hc2.v1.trans g3.2.2.1), fun o ho => ?_, fun h M hM => ?_⟩
      · rw [wt_app, wt_app, wt_cons, wt_bin hx', wt_nil]
        simp only
        omega
      · simp only
        omega
      · rcases List.mem_append.mp ho with ho | ho
        · exact (g1.2.2.2.1 o ho).mono g3.2.2.1.2.1.length_le
        · rcases List.mem_append.mp ho with ho | ho
          · have := g3.2.2.2.1 o ho
            simp only at this
            rw [g1.2.2.1.1] at this
            exact this
          · rw [List.mem_singleton.mp ho]; exact okO_bin hx'
      · rw [List.map_append, ckL_app, g1.2.2.2.2 h M (by omega), List.map_append]
        show ckL M (_ ++ _) (h + 1) = _
        rw [ckL_app, g3.2.2.2.2 (h + 1) M (by omega)]
        show (ckS M (tK bs s2.1, 0, 0, 0) (h + 2)).bind _ = _
        rw [ckS_bin hx']
        rfl
    · obtain ⟨rfl, rfl⟩ := pr_ok h3
      rw [List.append_nil]
      exact ⟨g1.1, g1.2.1, g1.2.2.1, g1.2.2.2.1, fun h M hM => g1.2.2.2.2 h M (by omega)⟩
  exact ge_un (.inl rfl) hc g2
theorem ge_sum {H : Nat} {a : Pr Ex} (ha : GE cu wi H a) : GE cu wi (H + 2) (pSum bs a) := ge_chain (.inr ⟨by decide, by decide⟩) (ge_chain (.inr ⟨by decide, by decide⟩) (ge_signed ha))
theorem ge_eith {H : Nat} {a : Pr Ex} (ha : GE cu wi H a) : GE cu wi (H + 5) (pEith bs a) := ge_chain (.inl ⟨by decide, by decide⟩) (ge_chain (.inl ⟨by decide, by decide⟩) (ge_neg (ge_sum ha)))
end GEL
