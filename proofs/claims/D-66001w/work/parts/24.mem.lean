-- reading what was written, all in one
theorem rI {u : Us} {i k j l : Nat} {v : Int32} : aI (uI u i k v) j l = if j = i then (if l = k then v else aI u j l) else aI u j l := by
  by_cases h : j = i
  · subst h
    by_cases h2 : l = k
    · subst h2; rw [if_pos rfl, if_pos rfl]; exact aI_uI
    · rw [if_pos rfl, if_neg h2]; exact aI_uIk h2
  · rw [if_neg h, aI_uIc h]
theorem rL {u : Us} {i k j l : Nat} {v : Int64} : aL (uL u i k v) j l = if j = i then (if l = k then v else aL u j l) else aL u j l := by
  by_cases h : j = i
  · subst h
    by_cases h2 : l = k
    · subst h2; rw [if_pos rfl, if_pos rfl]; exact aL_uL
    · rw [if_pos rfl, if_neg h2]; exact aL_uLk h2
  · rw [if_neg h, aL_uLc h]
theorem rIL {u : Us} {i k j l : Nat} {v : Int64} : aI (uL u i k v) j l = aI u j l := rfl
theorem rLI {u : Us} {i k j l : Nat} {v : Int32} : aL (uI u i k v) j l = aL u j l := rfl
theorem rIS {u : Us} {j l : Nat} : aI (uS u) j l = aI u j l := rfl
theorem rLS {u : Us} {j l : Nat} : aL (uS u) j l = aL u j l := rfl
