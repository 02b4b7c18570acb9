-- reading what was written
section MEM
variable {u : Us} {i j k l : Nat}
theorem aI_uI {v : Int32} : aI (uI u i k v) i k = v := u2_at
theorem aI_uIk {v : Int32} (h : l ≠ k) : aI (uI u i k v) i l = aI u i l := u2_off h
theorem aI_uIc {v : Int32} (h : j ≠ i) : aI (uI u i k v) j = aI u j := u2_ne h
theorem aI_uL {v : Int64} : aI (uL u i k v) = aI u := rfl
theorem aL_uI {v : Int32} : aL (uI u i k v) = aL u := rfl
theorem aL_uL {v : Int64} : aL (uL u i k v) i k = v := u2_at
theorem aL_uLk {v : Int64} (h : l ≠ k) : aL (uL u i k v) i l = aL u i l := u2_off h
theorem aL_uLc {v : Int64} (h : j ≠ i) : aL (uL u i k v) j = aL u j := u2_ne h
theorem aI_uS : aI (uS u) = aI u := rfl
theorem aL_uS : aL (uS u) = aL u := rfl
theorem aC_uI {v : Int32} : aC (uI u i k v) = aC u := rfl
theorem aC_uL {v : Int64} : aC (uL u i k v) = aC u := rfl
theorem aN_uI {v : Int32} : aN (uI u i k v) = aN u := rfl
theorem aN_uL {v : Int64} : aN (uL u i k v) = aN u := rfl
theorem aX_uI {v : Int32} : aX (uI u i k v) = aX u := rfl
theorem aX_uL {v : Int64} : aX (uL u i k v) = aX u := rfl
theorem aX_uS : aX (uS u) = aX u := rfl
end MEM
-- small numbers
theorem nI_pred' {n : Nat} (h : 0 < n) : nI n - 1 = nI (n - 1) := by
  obtain ⟨m, rfl⟩ : ∃ m, n = m + 1 := ⟨n - 1, by omega⟩
  rw [nI_pred]; rfl
-- Names: all = 13, size = 12.1
def nmR (u : Us) (NT : List Int64) : Prop := aI u 12 1 = nI NT.length ∧ ∀ i w, NT[i]? = some w → aL u 13 i = w
theorem s_Name_of {d : Nat} {u : Us} {Q : Ot → Us → Prop} {NT : List Int64} {w : Int64} (hR : nmR u NT) (hlt : NT.length < 240)
    (hq : ∀ k, NT[k]? = some w → (∀ j, j < k → NT[j]? ≠ some w) → Q (.inl (some (.int (nI k)))) u)
    (hn : w ∉ NT → Q (.inl (some (.int (nI NT.length)))) (uL (uI u 12 1 (nI (NT.length + 1))) 13 NT.length w)) :
    WS d m_Name_of 0 [some (.ref 12), some (.long w), none, none] [] u Q := by
  refine g_Name_of_0 w ?_
  have loop : ∀ n k, k + n = NT.length → (∀ j, j < k → NT[j]? ≠ some w) → WS d m_Name_of 2 [some (.ref 12), some (.long w), none, some (.int (nI k))] [] u Q := by
    intro n
    induction n with
    | zero =>
      intro k hk hno
      have hk' : k = NT.length := by omega
      refine g_Name_of_2 _ _ ?_
      rw [hR.1, hk']
      refine ⟨fun _ => ⟨fun z => absurd rfl z, fun _ => ⟨NT.length, rfl, hlt, ?_⟩⟩, fun z => absurd (Int32.le_refl _) z⟩
      rw [nI_1]
      refine hn (fun hm => ?_)
      obtain ⟨j, hj⟩ := List.getElem?_of_mem hm
      exact hno j (by rw [hk']; exact (List.getElem?_eq_some_iff.mp hj).1) hj
    | succ n ih =>
      intro k hk hno
      have hkl : k < NT.length := by omega
      refine g_Name_of_2 _ _ ?_
      rw [hR.1]
      refine ⟨fun z => absurd z (nI_ge hkl (by omega)), fun _ => ⟨k, rfl, by omega, ?_⟩⟩
      have hv := hR.2 k _ (List.getElem?_eq_getElem hkl)
      rw [hv]
      refine ⟨fun e => ⟨fun _ => ?_, fun z => absurd ((nI_eq (by omega) (by omega)).mp z) (by omega)⟩, fun e => ?_⟩
      · exact hq k (by rw [← e]; exact List.getElem?_eq_getElem hkl) hno
      · rw [nI_1]
        refine ih (k + 1) (by omega) (fun j hj => ?_)
        by_cases ej : j = k
        · subst ej
          rw [List.getElem?_eq_getElem hkl]
          exact fun z => e (Option.some.inj z)
        · exact hno j (by omega)
  exact loop NT.length 0 (by omega) (fun j hj => absurd hj (Nat.not_lt_zero _))
