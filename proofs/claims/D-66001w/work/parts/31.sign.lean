-- signs
def skv (k : Nat) : Int32 := if k = 99 then -1 else nI k
theorem s_sign42 {d c : Nat} {x3 : Int32} {two : Bool} {u : Us} {Q : Ot → Us → Prop} (hc : c < 256) (hk : WS (d + 1) m_Scan_sign 392 [some (.ref 10), some (.int (nI c)), some (.int (if two then 1 else 0)), some (.int x3)] [] (uI u 10 5 (skv (sgn c two))) Q) :
    WS (d + 1) m_Scan_sign 42 [some (.ref 10), some (.int (nI c)), some (.int (if two then 1 else 0)), some (.int x3)] [] u Q := by
  refine g_Scan_sign_42 _ _ _ ⟨fun e => absurd e (m1_ne' (by omega)), ?_⟩
  refine ⟨fun e => ?_, ?_⟩
  · obtain rfl := (hd_eq hc (by decide : 33 < 256)).mp e
    cases two with
    | true => exact ⟨fun z => absurd rfl z, fun _ => hk⟩
    | false => exact ⟨fun _ => hk, fun z => absurd z (by decide)⟩
  refine ⟨fun e => ?_, ?_⟩
  · obtain rfl := (hd_eq hc (by decide : 37 < 256)).mp e
    exact hk
  refine ⟨fun e => ?_, ?_⟩
  · obtain rfl := (hd_eq hc (by decide : 40 < 256)).mp e
    exact hk
  refine ⟨fun e => ?_, ?_⟩
  · obtain rfl := (hd_eq hc (by decide : 41 < 256)).mp e
    exact hk
  refine ⟨fun e => ?_, ?_⟩
  · obtain rfl := (hd_eq hc (by decide : 42 < 256)).mp e
    exact hk
  refine ⟨fun e => ?_, ?_⟩
  · obtain rfl := (hd_eq hc (by decide : 43 < 256)).mp e
    exact hk
  refine ⟨fun e => ?_, ?_⟩
  · obtain rfl := (hd_eq hc (by decide : 44 < 256)).mp e
    exact hk
  refine ⟨fun e => ?_, ?_⟩
  · obtain rfl := (hd_eq hc (by decide : 45 < 256)).mp e
    exact hk
  refine ⟨fun e => ?_, ?_⟩
  · obtain rfl := (hd_eq hc (by decide : 46 < 256)).mp e
    exact hk
  refine ⟨fun e => ?_, ?_⟩
  · obtain rfl := (hd_eq hc (by decide : 47 < 256)).mp e
    exact hk
  refine ⟨fun e => ?_, ?_⟩
  · obtain rfl := (hd_eq hc (by decide : 58 < 256)).mp e
    exact hk
  refine ⟨fun e => ?_, ?_⟩
  · obtain rfl := (hd_eq hc (by decide : 59 < 256)).mp e
    exact hk
  refine ⟨fun e => ?_, ?_⟩
  · obtain rfl := (hd_eq hc (by decide : 60 < 256)).mp e
    cases two with
    | true => exact ⟨fun z => absurd rfl z, fun _ => hk⟩
    | false => exact ⟨fun _ => hk, fun z => absurd z (by decide)⟩
  refine ⟨fun e => ?_, ?_⟩
  · obtain rfl := (hd_eq hc (by decide : 61 < 256)).mp e
    exact hk
  refine ⟨fun e => ?_, ?_⟩
  · obtain rfl := (hd_eq hc (by decide : 62 < 256)).mp e
    cases two with
    | true => exact ⟨fun z => absurd rfl z, fun _ => hk⟩
    | false => exact ⟨fun _ => hk, fun z => absurd z (by decide)⟩
  refine ⟨fun e => ?_, ?_⟩
  · obtain rfl := (hd_eq hc (by decide : 123 < 256)).mp e
    exact hk
  refine ⟨fun e => ?_, ?_⟩
  · obtain rfl := (hd_eq hc (by decide : 125 < 256)).mp e
    exact hk
  intro hall
  have hno : sgn c two = 99 := by
    have n33 : c ≠ 33 := fun e => hall 33 (by simp) (by rw [e]; rfl)
    have n37 : c ≠ 37 := fun e => hall 37 (by simp) (by rw [e]; rfl)
    have n40 : c ≠ 40 := fun e => hall 40 (by simp) (by rw [e]; rfl)
    have n41 : c ≠ 41 := fun e => hall 41 (by simp) (by rw [e]; rfl)
    have n42 : c ≠ 42 := fun e => hall 42 (by simp) (by rw [e]; rfl)
    have n43 : c ≠ 43 := fun e => hall 43 (by simp) (by rw [e]; rfl)
    have n44 : c ≠ 44 := fun e => hall 44 (by simp) (by rw [e]; rfl)
    have n45 : c ≠ 45 := fun e => hall 45 (by simp) (by rw [e]; rfl)
    have n46 : c ≠ 46 := fun e => hall 46 (by simp) (by rw [e]; rfl)
    have n47 : c ≠ 47 := fun e => hall 47 (by simp) (by rw [e]; rfl)
    have n58 : c ≠ 58 := fun e => hall 58 (by simp) (by rw [e]; rfl)
    have n59 : c ≠ 59 := fun e => hall 59 (by simp) (by rw [e]; rfl)
    have n60 : c ≠ 60 := fun e => hall 60 (by simp) (by rw [e]; rfl)
    have n61 : c ≠ 61 := fun e => hall 61 (by simp) (by rw [e]; rfl)
    have n62 : c ≠ 62 := fun e => hall 62 (by simp) (by rw [e]; rfl)
    have n123 : c ≠ 123 := fun e => hall 123 (by simp) (by rw [e]; rfl)
    have n125 : c ≠ 125 := fun e => hall 125 (by simp) (by rw [e]; rfl)
    simp only [sgn, if_neg n33, if_neg n37, if_neg n40, if_neg n41, if_neg n42, if_neg n43, if_neg n44, if_neg n45, if_neg n46, if_neg n47, if_neg n58, if_neg n59, if_neg n60, if_neg n61, if_neg n62, if_neg n123, if_neg n125]
  rw [hno] at hk
  exact hk
theorem hd_61 {r : List Nat} {bs : List Nat} {u : Us} {p : Nat} (ht : txR bs u) (e : bs.drop p = r) : hd r = 61 ↔ r.head? = some 61 := by
  cases r with
  | nil => simp [hd]
  | cons c r => simp only [hd, List.head?_cons, Option.some.injEq]; exact hd_eq (k := 61) (ht.lt e).1 (by decide)
def slen (c : Nat) (two : Bool) : Nat := if two && (decide (c = 33) || decide (c = 60) || decide (c = 62)) then 2 else 1
theorem s_sign16 {d c : Nat} {two : Bool} {u : Us} {Q : Ot → Us → Prop} (hc : c < 256) (hk : WS (d + 1) m_Scan_sign 42 [some (.ref 10), some (.int (nI c)), some (.int (if two then 1 else 0)), some (.int (nI (slen c two)))] [] u Q) :
    WS (d + 1) m_Scan_sign 16 [some (.ref 10), some (.int (nI c)), some (.int (if two then 1 else 0)), none] [] u Q := by
  refine g_Scan_sign_16 _ _ ⟨fun e => ?_, fun e1 => ⟨fun e => ?_, fun e2 => ⟨fun e3 => ?_, fun e => ?_⟩⟩⟩
  · obtain rfl := (hd_eq hc (by decide : 33 < 256)).mp e
    cases two <;> exact hk
  · obtain rfl := (hd_eq hc (by decide : 60 < 256)).mp e
    cases two <;> exact hk
  · have n1 : c ≠ 33 := fun e => e1 (by rw [e]; rfl)
    have n2 : c ≠ 60 := fun e => e2 (by rw [e]; rfl)
    have n3 : c ≠ 62 := fun e => e3 (by rw [e]; rfl)
    have es : slen c two = 1 := by simp [slen, n1, n2, n3]
    rw [es] at hk
    exact hk
  · obtain rfl := (hd_eq hc (by decide : 62 < 256)).mp e
    cases two <;> exact hk
theorem ite_rng {c : Prop} [Decidable c] {a b : Nat} (ha : a = 99 ∨ 30 ≤ a ∧ a ≤ 48) (hb : b = 99 ∨ 30 ≤ b ∧ b ≤ 48) : (if c then a else b) = 99 ∨ 30 ≤ (if c then a else b) ∧ (if c then a else b) ≤ 48 := by
  by_cases h : c
  · rw [if_pos h]; exact ha
  · rw [if_neg h]; exact hb
theorem sgn_rng (c : Nat) (two : Bool) : sgn c two = 99 ∨ 30 ≤ sgn c two ∧ sgn c two ≤ 48 := by
  unfold sgn
  repeat' (first | refine ite_rng ?_ ?_ | decide)
theorem s_sign {d p : Nat} {bs : List Nat} {u : Us} {Q : Ot → Us → Prop} {c : Nat} {r : List Nat} (hl : bs.drop p = c :: r) (hp : p ≤ bs.length) (ht : txR bs u) (ha : aI u 10 3 = nI p) (h1 : 1 ≤ aC u) (h2 : 6 ≤ aN u)
    (he : sgn c (r.head? == some 61) = 99 → Q (.inr 2) (uS (uI (uI u 10 5 (-1)) 10 8 (aI u 10 4))))
    (hk : sgn c (r.head? == some 61) ≠ 99 → Q (.inl none) (uI (uI u 10 5 (nI (sgn c (r.head? == some 61)))) 10 3 (nI (p + slen c (r.head? == some 61))))) :
    WS (d + 1) m_Scan_sign 0 [some (.ref 10), some (.int (nI c)), none, none] [] u Q := by
  obtain ⟨hc, hlt, hr⟩ := ht.lt hl
  have fin : WS (d + 1) m_Scan_sign 16 [some (.ref 10), some (.int (nI c)), some (.int (if (r.head? == some 61) then 1 else 0)), none] [] u Q := by
    refine s_sign16 hc (s_sign42 hc (g_Scan_sign_392 _ _ _ ?_))
    rw [aI_uI]
    have hs : sgn c (r.head? == some 61) < 2 ^ 31 := by have := sgn_rng c (r.head? == some 61); omega
    by_cases h99 : sgn c (r.head? == some 61) = 99
    · have e : skv (sgn c (r.head? == some 61)) = -1 := if_pos h99
      rw [e]
      refine ⟨fun z => absurd rfl z, fun _ => s_fail h1 h2 ?_⟩
      rw [aI_uIk (by decide)]
      exact he h99
    · have e : skv (sgn c (r.head? == some 61)) = nI (sgn c (r.head? == some 61)) := if_neg h99
      rw [e, aI_uIk (by decide), ha, nI_add]
      refine ⟨fun _ => ⟨fun _ => hk h99, fun z => ?_⟩, fun z => absurd z (m1_ne' hs)⟩
      exact absurd ((nI_eq (b := 22) hs (by decide)).mp z) (by have := sgn_rng c (r.head? == some 61); omega)
  refine g_Scan_sign_0 _ (s_see1 hl ht ha hp ?_)
  refine ⟨fun z => ?_, fun z => ?_⟩
  · have : (r.head? == some 61) = false := beq_false_of_ne (fun q => z ((hd_61 ht hr).mpr q))
    rw [this] at fin
    exact fin
  · have : (r.head? == some 61) = true := beq_iff_eq.mpr ((hd_61 ht hr).mp z)
    rw [this] at fin
    exact fin
theorem s_signE {d p : Nat} {bs : List Nat} {u : Us} {Q : Ot → Us → Prop} (hl : bs.drop p = []) (hp : p ≤ bs.length) (ht : txR bs u) (ha : aI u 10 3 = nI p)
    (hk : Q (.inl none) (uI (uI u 10 5 22) 10 3 (nI p))) : WS (d + 1) m_Scan_sign 0 [some (.ref 10), some (.int (-1)), none, none] [] u Q := by
  refine g_Scan_sign_0 _ (s_see1 hl ht ha hp ?_)
  refine ⟨fun _ => ?_, fun z => absurd z (by decide)⟩
  refine g_Scan_sign_16 _ _ ⟨fun z => absurd z (by decide), fun _ => ⟨fun z => absurd z (by decide), fun _ => ⟨fun _ => ?_, fun z => absurd z (by decide)⟩⟩⟩
  refine g_Scan_sign_42 _ _ _ ⟨fun _ => ?_, fun z => absurd z (by decide), fun z => absurd z (by decide), fun z => absurd z (by decide), fun z => absurd z (by decide), fun z => absurd z (by decide), fun z => absurd z (by decide), fun z => absurd z (by decide), fun z => absurd z (by decide), fun z => absurd z (by decide), fun z => absurd z (by decide), fun z => absurd z (by decide), fun z => absurd z (by decide), fun z => absurd z (by decide), fun z => absurd z (by decide), fun z => absurd z (by decide), fun z => absurd z (by decide), fun z => absurd z (by decide), fun z => absurd rfl (z (-1) (by simp))⟩
  refine g_Scan_sign_392 _ _ _ ?_
  rw [aI_uI, aI_uIk (by decide), ha]
  refine ⟨fun _ => ⟨fun z => absurd rfl z, fun _ => ?_⟩, fun z => absurd z (by decide)⟩
  rw [Int32.add_zero]
  exact hk
