-- strictness: at a token that is none, a parser errs here or stands still; and a parser never goes back
def Sc {α : Type} (bs : List Nat) (f : Pr α) : Prop := ∀ s : PS, 90 ≤ tK bs s.1 → f s = .inl s.1 ∨ ∃ a s', f s = .inr (a, s') ∧ s'.1 = s.1
def Mo {α : Type} (f : Pr α) : Prop := ∀ (s : PS) a s', f s = .inr (a, s') → s.1 ≤ s'.1
def nrm {α : Type} (bs : List Nat) (r : Nat ⊕ (α × PS)) : Nat ⊕ (α × PS) := match r with
  | .inl e => .inl e
  | .inr (a, s) => if 90 ≤ tK bs s.1 then .inl s.1 else .inr (a, s)
section ST
variable {α β : Type} {bs : List Nat}
theorem sc_pr (a : α) : Sc bs (pr a) := fun s _ => .inr ⟨a, s, rfl, rfl⟩
theorem sc_pe : Sc bs (pe : Pr α) := fun _ _ => .inl rfl
theorem sc_pb {f : Pr α} {g : α → Pr β} (hf : Sc bs f) (hg : ∀ a, Sc bs (g a)) : Sc bs (pb f g) := by
  intro s hs
  rcases hf s hs with h | ⟨a, s', h, e⟩
  · exact .inl (by simp only [pb, h])
  · rcases hg a s' (by rw [e]; exact hs) with h2 | ⟨b, s2, h2, e2⟩
    · exact .inl (by simp only [pb, h, h2, e])
    · exact .inr ⟨b, s2, by simp only [pb, h, h2], by rw [e2, e]⟩
theorem sc_pk {f : Nat → Pr α} (h : ∀ x, 90 ≤ x → Sc bs (f x)) : Sc bs (pk bs f) := fun s hs => h _ hs s hs
theorem sc_pi {c : Prop} [Decidable c] {f g : Pr α} (hc : ¬ c) (h : Sc bs g) : Sc bs (pi c f g) := by
  unfold pi; rw [if_neg hc]; exact h
theorem sc_pi2 {c : Prop} [Decidable c] {f g : Pr α} (hf : Sc bs f) (h : Sc bs g) : Sc bs (pi c f g) := by
  unfold pi; split
  · exact hf
  · exact h
theorem sc_pt (k : Nat) (hk : k < 90) : Sc bs (pt bs k) := sc_pk fun x hx => sc_pi (by omega) sc_pe
theorem sc_pOpen (b k : Nat) (hk : k < 90) : Sc bs (pOpen bs b k) := sc_pk fun x hx => sc_pi (by omega) sc_pe
theorem sc_po {o : PS → Option Nat} (h : ∀ s, 90 ≤ tK bs s.1 → o s = none) : Sc bs (po o) := fun s hs => .inl (by simp only [po, h s hs])
theorem sc_pKind : Sc bs (pKind bs) := sc_po fun s hs => if_neg (by omega)
theorem sc_pField (k : Nat) : Sc bs (pField bs k) := sc_po fun s hs => if_neg (by omega)
theorem sc_pBits (k : Nat) : Sc bs (pBits bs k) := sc_po fun s hs => if_neg (by omega)
theorem sc_pCur (cu : List Nat) : Sc bs (pCur bs cu) := fun s hs => .inl (by simp only [pCur, if_neg (show ¬ tK bs s.1 = 20 by omega)])
theorem sc_pFresh (ok : PS → Bool) : Sc bs (pFresh bs ok) := fun s hs => .inl (by simp only [pFresh]; rw [if_neg (by omega)])
theorem sc_pMany (k n : Nat) (hk : k < 90) : Sc bs (pMany bs k n) := by
  cases n with
  | zero => exact sc_pr 0
  | succ n => exact sc_pk fun x hx => sc_pi (by omega) (sc_pr 0)
theorem sc_pLoop (lo hi n : Nat) (it : Pr Ex) (hk : hi < 90) : Sc bs (pLoop bs lo hi it n) := by
  cases n with
  | zero => exact sc_pr _
  | succ n => exact sc_pk fun x hx => sc_pi (by omega) (sc_pr _)
theorem sc_pChain (lo hi : Nat) {it : Pr Ex} (hk : hi < 90) (h : Sc bs it) : Sc bs (pChain bs lo hi it) := sc_pb h fun _ => sc_pb (sc_pLoop _ _ _ _ hk) fun _ => sc_pr _
theorem sc_pAtom (wi : Option Nat) (cu : List Nat) (b : Nat) (X : Option Nat → Pr Ex) : Sc bs (pAtom bs wi cu b X) := sc_pk fun x hx => sc_pi (by omega) (sc_pi (by omega) (sc_pi (by omega) (sc_pi (by omega) sc_pe)))
theorem sc_pSigned {a : Pr Ex} (h : Sc bs a) : Sc bs (pSigned bs a) := sc_pb (sc_pMany _ _ (by omega)) fun _ => sc_pb h fun _ => sc_pr _
theorem sc_pSum {a : Pr Ex} (h : Sc bs a) : Sc bs (pSum bs a) := sc_pChain _ _ (by omega) (sc_pChain _ _ (by omega) (sc_pSigned h))
theorem sc_cmp (sm : Pr Ex) : Sc bs (pk bs fun x => pi (30 ≤ x ∧ x ≤ 35) (pb pn fun _ => pb sm fun r => pr (r ++ [o1 x 0 0 0])) (pr [])) := sc_pk fun x hx => sc_pi (by omega) (sc_pr _)
theorem sc_pNeg {a : Pr Ex} (h : Sc bs a) : Sc bs (pNeg bs a) := sc_pb (sc_pMany _ _ (by omega)) fun _ => sc_pb h fun _ => sc_pb (sc_cmp _) fun _ => sc_pr _
theorem sc_pEith {a : Pr Ex} (h : Sc bs a) : Sc bs (pEith bs a) := sc_pChain _ _ (by omega) (sc_pChain _ _ (by omega) (sc_pNeg (sc_pSum h)))
theorem sc_pExp (cu : List Nat) (b : Nat) (wi : Option Nat) : Sc bs (pExp bs cu b wi) := by
  cases b with
  | zero => exact sc_pEith (sc_pAtom _ _ _ _)
  | succ b => exact sc_pEith (sc_pAtom _ _ _ _)
theorem sc_pWh (cu : List Nat) (b k : Nat) : Sc bs (pWh bs cu b k) := sc_pk fun x hx => sc_pi (by omega) (sc_pr _)
theorem sc_pFl (n : Nat) (fs : Fs) : Sc bs (pFl bs n fs) := by
  cases n with
  | zero => exact sc_pe
  | succ n => exact sc_pb (sc_pFresh _) fun _ => sc_pb (sc_pt _ (by omega)) fun _ => sc_pb (sc_pBits _) fun _ => sc_pk fun x hx => sc_pi (by omega) (sc_pr _)
theorem sc_pDecl : Sc bs (pDecl bs) := sc_pb (sc_pFresh _) fun nm => sc_pb (sc_pFl _ _) fun fs s _ => .inr ⟨(), (s.1, s.2.1 ++ [(nm, fs)], s.2.2), rfl, rfl⟩
theorem sc_putf (k : Nat) (seen : List Nat) : Sc bs (po fun s => if tK bs s.1 = 20 then (match fOf (fsOf s.2.1 k) (tW bs s.1) with | some f => if f ∈ seen then none else some f | none => none) else none) := sc_po fun s hs => if_neg (by omega)
theorem sc_pPuts (k : Nat) {e : Pr Ex} (he : Sc bs e) (n : Nat) (seen : List Nat) : Sc bs (pPuts bs k e n seen) := by
  cases n with
  | zero => exact sc_pe
  | succ n => exact sc_pb (sc_putf _ _) fun _ => sc_pb (sc_pt _ (by omega)) fun _ => sc_pb he fun _ => sc_pk fun x hx => sc_pi (by omega) (sc_pr _)
theorem sc_pEnd {f : Pr α} (h : Sc bs f) : Sc bs (pEnd bs f) := sc_pb h fun _ => sc_pb (sc_pt _ (by omega)) fun _ => sc_pr _
theorem sc_pBlock (b : Nat) (Y : Pr α) (hY : Sc bs Y) : Sc bs (pBlock bs b Y) := sc_pb (sc_pOpen _ _ (by omega)) fun _ => sc_pb hY fun _ => sc_pb (sc_pt _ (by omega)) fun _ => sc_pr _
theorem sc_pSt (b : Nat) (cu : List Nat) (Y : List Nat → Pr (Tr b)) : Sc bs (pSt bs b cu Y) := sc_pk fun x hx => sc_pi (by omega) (sc_pi (by omega) (sc_pi (by omega) (sc_pi (by omega) (sc_pi (by omega) (sc_pi (by omega) (sc_pi (by omega) (sc_pi (by omega) (sc_pi (by omega) (sc_pi (by omega) (sc_pi (by omega) sc_pe))))))))))
theorem sc_pSts (stop : Nat) {st_ : Pr α} (h : Sc bs st_) (n : Nat) : Sc bs (pSts bs stop st_ n) := by
  induction n with
  | zero => exact sc_pr _
  | succ n ih => exact sc_pk fun x _ => sc_pi2 (sc_pr _) (sc_pb h fun _ => sc_pb ih fun _ => sc_pr _)
theorem sc_pY (b : Nat) (cu : List Nat) : Sc bs (pY bs b cu) := by
  cases b with
  | zero => exact sc_pe
  | succ b => exact sc_pSts _ (sc_pSt _ _ _) _
-- going on
theorem nrm_l {f : Pr α} {g : α → Pr β} {s : PS} {e : Nat} (h : nrm bs (f s) = .inl e) (hg : ∀ a, Sc bs (g a)) : nrm bs (pb f g s) = .inl e := by
  unfold pb
  cases hf : f s with
  | inl e' =>
    rw [hf] at h
    simp only [nrm] at h ⊢
    injection h with h
    rw [h]
  | inr p =>
    obtain ⟨a, s'⟩ := p
    rw [hf] at h
    simp only [nrm] at h
    by_cases hb : 90 ≤ tK bs s'.1
    · rw [if_pos hb] at h
      injection h with h
      subst h
      rcases hg a s' hb with h2 | ⟨b, s2, h2, e2⟩
      · simp only [h2, nrm]
      · simp only [h2, nrm, e2, if_pos hb]
    · rw [if_neg hb] at h; cases h
theorem nrm_r {f : Pr α} {g : α → Pr β} {s s' : PS} {a : α} (h : nrm bs (f s) = .inr (a, s')) : nrm bs (pb f g s) = nrm bs (g a s') ∧ tK bs s'.1 < 90 := by
  unfold pb
  cases hf : f s with
  | inl e' => rw [hf] at h; cases h
  | inr p =>
    obtain ⟨a', s2⟩ := p
    rw [hf] at h
    simp only [nrm] at h
    by_cases hb : 90 ≤ tK bs s2.1
    · rw [if_pos hb] at h; cases h
    · rw [if_neg hb] at h
      cases h
      exact ⟨rfl, by omega⟩
theorem nrm_ok {f : Pr α} {s s' : PS} {a : α} (h : f s = .inr (a, s')) (hb : tK bs s'.1 < 90) : nrm bs (f s) = .inr (a, s') := by
  rw [h]; simp only [nrm]; rw [if_neg (by omega)]
theorem nrm_bad {f : Pr α} {s s' : PS} {a : α} (h : f s = .inr (a, s')) (hb : ¬ tK bs s'.1 < 90) : nrm bs (f s) = .inl s'.1 := by
  rw [h]; simp only [nrm]; rw [if_pos (by omega)]
theorem nrm_err {f : Pr α} {s : PS} {e : Nat} (h : f s = .inl e) : nrm bs (f s) = .inl e := by
  rw [h]; rfl
-- never back
theorem mo_pr (a : α) : Mo (pr a) := fun s b s' h => by simp only [pr] at h; cases h; exact Nat.le_refl _
theorem mo_pe : Mo (pe : Pr α) := fun s b s' h => by simp only [pe] at h; cases h
theorem mo_pn : Mo pn := fun s b s' h => by simp only [pn] at h; cases h; exact Nat.le_succ _
theorem mo_pb {f : Pr α} {g : α → Pr β} (hf : Mo f) (hg : ∀ a, Mo (g a)) : Mo (pb f g) := by
  intro s b s' h
  unfold pb at h
  cases hh : f s with
  | inl e => rw [hh] at h; cases h
  | inr p =>
    obtain ⟨a, s2⟩ := p
    rw [hh] at h
    exact Nat.le_trans (hf s a s2 hh) (hg a s2 b s' h)
theorem mo_pk {f : Nat → Pr α} (h : ∀ x, Mo (f x)) : Mo (pk bs f) := fun s a s' e => h _ s a s' e
theorem mo_pi {c : Prop} [Decidable c] {f g : Pr α} (hf : Mo f) (h : Mo g) : Mo (pi c f g) := by
  unfold pi; split
  · exact hf
  · exact h
theorem mo_pt (k : Nat) : Mo (pt bs k) := mo_pk fun _ => mo_pi mo_pn mo_pe
theorem mo_pOpen (b k : Nat) : Mo (pOpen bs b k) := mo_pk fun _ => mo_pi mo_pn mo_pe
theorem mo_po {o : PS → Option Nat} : Mo (po o) := by
  intro s a s' h
  unfold po at h
  split at h
  · cases h; exact Nat.le_succ _
  · cases h
theorem mo_pCur (cu : List Nat) : Mo (pCur bs cu) := by
  intro s a s' h
  unfold pCur at h
  split at h
  · split at h
    · cases h; exact Nat.le_succ _
    · cases h
  · cases h
theorem mo_pVar : Mo (pVar bs) := by
  intro s a s' h
  unfold pVar at h
  split at h
  · cases h; exact Nat.le_succ _
  · split at h
    · cases h
    · cases h; exact Nat.le_succ _
theorem mo_pFresh (ok : PS → Bool) : Mo (pFresh bs ok) := by
  intro s a s' h
  unfold pFresh at h
  split at h
  · cases h; exact Nat.le_succ _
  · cases h
theorem mo_pMany (k n : Nat) : Mo (pMany bs k n) := by
  induction n with
  | zero => exact mo_pr 0
  | succ n ih => exact mo_pk fun x => mo_pi (mo_pb mo_pn fun _ => mo_pb ih fun _ => mo_pr _) (mo_pr 0)
theorem mo_pLoop (lo hi n : Nat) {it : Pr Ex} (hi_ : Mo it) : Mo (pLoop bs lo hi it n) := by
  induction n with
  | zero => exact mo_pr _
  | succ n ih => exact mo_pk fun x => mo_pi (mo_pb mo_pn fun _ => mo_pb hi_ fun _ => mo_pb ih fun _ => mo_pr _) (mo_pr _)
theorem mo_pChain (lo hi : Nat) {it : Pr Ex} (h : Mo it) : Mo (pChain bs lo hi it) := mo_pb h fun _ => mo_pb (mo_pLoop _ _ _ h) fun _ => mo_pr _
theorem mo_pNamed (wi : Option Nat) (cu : List Nat) : Mo (pNamed bs wi cu) := by
  intro s a s' h
  unfold pNamed at h
  split at h
  · cases h; exact Nat.le_succ _
  · split at h
    · exact mo_pb (mo_pCur cu) (fun _ => mo_pb (mo_pt _) fun _ => mo_pb mo_po fun _ => mo_pr _) s a s' h
    · exact mo_pb mo_pVar (fun _ => mo_pr _) s a s' h
theorem mo_pAgg (b : Nat) {X : Option Nat → Pr Ex} (hX : ∀ w, Mo (X w)) (which : Nat) : Mo (pAgg bs b X which) :=
  mo_pb mo_pn fun _ => mo_pb (mo_pOpen _ _) fun _ => mo_pb mo_po fun _ => mo_pb (mo_pi (mo_pr _) (mo_pb (mo_pt _) fun _ => mo_po)) fun _ => mo_pb (mo_pk fun _ => mo_pi (mo_pb mo_pn fun _ => mo_pb (hX _) fun _ => mo_pr _) (mo_pr _)) fun _ => mo_pb (mo_pt _) fun _ => mo_pr _
theorem mo_pAtom (wi : Option Nat) (cu : List Nat) (b : Nat) {X : Option Nat → Pr Ex} (hX : ∀ w, Mo (X w)) : Mo (pAtom bs wi cu b X) :=
  mo_pk fun x => mo_pi (fun s a s' h => by cases h; exact Nat.le_succ _) (mo_pi (mo_pb (mo_pOpen _ _) fun _ => mo_pb (hX _) fun _ => mo_pb (mo_pt _) fun _ => mo_pr _) (mo_pi (mo_pi mo_pe (mo_pAgg b hX x)) (mo_pi (mo_pNamed _ _) mo_pe)))
theorem mo_pSigned {a : Pr Ex} (h : Mo a) : Mo (pSigned bs a) := mo_pb (mo_pMany _ _) fun _ => mo_pb h fun _ => mo_pr _
theorem mo_pSum {a : Pr Ex} (h : Mo a) : Mo (pSum bs a) := mo_pChain _ _ (mo_pChain _ _ (mo_pSigned h))
theorem mo_pNeg {a : Pr Ex} (h : Mo a) : Mo (pNeg bs a) := mo_pb (mo_pMany _ _) fun _ => mo_pb h fun _ => mo_pb (mo_pk fun _ => mo_pi (mo_pb mo_pn fun _ => mo_pb h fun _ => mo_pr _) (mo_pr _)) fun _ => mo_pr _
theorem mo_pEith {a : Pr Ex} (h : Mo a) : Mo (pEith bs a) := mo_pChain _ _ (mo_pChain _ _ (mo_pNeg (mo_pSum h)))
theorem mo_pExp (cu : List Nat) (b : Nat) (wi : Option Nat) : Mo (pExp bs cu b wi) := by
  induction b generalizing wi with
  | zero => exact mo_pEith (mo_pAtom _ _ _ fun _ => mo_pe)
  | succ b ih => exact mo_pEith (mo_pAtom _ _ _ ih)
theorem mo_pWh (cu : List Nat) (b k : Nat) : Mo (pWh bs cu b k) := mo_pk fun x => mo_pi (mo_pb mo_pn fun _ => mo_pExp _ _ _) (mo_pr _)
theorem mo_pFl (n : Nat) (fs : Fs) : Mo (pFl bs n fs) := by
  induction n generalizing fs with
  | zero => exact mo_pe
  | succ n ih => exact mo_pb (mo_pFresh _) fun _ => mo_pb (mo_pt _) fun _ => mo_pb mo_po fun _ => mo_pk fun x => mo_pi (mo_pi mo_pe (mo_pb mo_pn fun _ => ih _)) (mo_pr _)
theorem mo_pDecl : Mo (pDecl bs) := mo_pb (mo_pFresh _) fun nm => mo_pb (mo_pFl _ _) fun fs s a s' h => by cases h; exact Nat.le_refl _
theorem mo_pPuts (k : Nat) {e : Pr Ex} (he : Mo e) (n : Nat) (seen : List Nat) : Mo (pPuts bs k e n seen) := by
  induction n generalizing seen with
  | zero => exact mo_pe
  | succ n ih => exact mo_pb mo_po fun _ => mo_pb (mo_pt _) fun _ => mo_pb he fun _ => mo_pk fun x => mo_pi (mo_pb mo_pn fun _ => mo_pb (ih _) fun _ => mo_pr _) (mo_pr _)
theorem mo_pEnd {f : Pr α} (h : Mo f) : Mo (pEnd bs f) := mo_pb h fun _ => mo_pb (mo_pt _) fun _ => mo_pr _
theorem mo_pBlock (b : Nat) {Y : Pr α} (hY : Mo Y) : Mo (pBlock bs b Y) := mo_pb (mo_pOpen _ _) fun _ => mo_pb hY fun _ => mo_pb (mo_pt _) fun _ => mo_pr _
end ST
