-- the law's start: from WQ of the law to the claim
def m_law : My := (⟨"ArrayRecordsLaw", "law", "([I)Z"⟩, code, 7, some .boolean, [])
def sg0 (L : Nat) (xs : Nat → Int32) : Sg := ([], fun _ _ => 0, fun _ _ => 0, fun _ _ => none, (L, xs), 601024, 7293034)
def LawOk : Prop := ∀ (L : Nat) (xs : Nat → Int32), L ≤ 2048 → WQ 1000 m_law 0 [some (.ref 999), none, none, none, none, none, none] [] (sg0 L xs) (fun o _ => o = .inl (some (.int 1)))
theorem nf {w : Cond} (k : Nat) (h : (flatC (Jvm.Cond.and given_1 narrow_1))[k]? = some w) : w ∈ flatC (Jvm.Cond.and given_1 narrow_1) := List.mem_of_getElem? h
def elc (j : Nat) : Cond := Cond.eq (.elem (.field (.string "ArrayRecords$Scanner" 68) "java/lang/String" "value" "[B") (.int (Int32.ofNat j))) (.int (wBy.getD j 0))
theorem el_seg : ((flatC (Jvm.Cond.and given_1 narrow_1)).drop 71).take 104 = (List.range 104).map elc := by decide +kernel
theorem el_all (j : Nat) (hj : j < 104) : elc j ∈ flatC (Jvm.Cond.and given_1 narrow_1) := by
  have h : elc j ∈ ((flatC (Jvm.Cond.and given_1 narrow_1)).drop 71).take 104 := by
    rw [el_seg]
    exact List.mem_map.mpr ⟨j, List.mem_range.mpr hj, rfl⟩
  exact List.mem_of_mem_drop (List.mem_of_mem_take h)
theorem isRef_val {args : Array Value} {s : State} {t : Term} (h : (Cond.isRef t).before args s = true) : ∃ v, t.eval args s none [] s = some v ∧ v.isRef = true := by
  cases hv : t.eval args s none [] s with
  | none => simp [Cond.before, Cond.holds, Cond.value, hv] at h
  | some v =>
    refine ⟨v, rfl, ?_⟩
    cases v <;> simp_all [Cond.before, Cond.holds, Cond.value, Value.isRef]
theorem Zs_of {args : Array Value} {s : State} {O f d : String} {A : Nat → Prop} (hl : (Cond.laysStatic O f d).before args s = true) (h : (Cond.isRef (.static O f d)).before args s = true) (hA : ∀ a : Nat, a < s.heap.size → ¬ A a) : Zs O f d A s s.heap := by
  obtain ⟨c, k, i, fd, a, cell, hc, hf, hst, hsta, hcell, hiss, hcls, hlt, hty⟩ := Cond.laysStatic_spec hl
  obtain ⟨v, hv, hr⟩ := isRef_val h
  obtain ⟨-, a', cell', ha', hcell', -, hslot⟩ := Term.static_spec hf hv
  cases hsta.symm.trans ha'
  cases hcell.symm.trans hcell'
  exact ⟨c, k, i, fd, a, cell, v, hc, hf, hst, hsta, hcell, hiss, hcls, hlt, hty, hslot, hr, hA a (Array.getElem?_eq_some_iff.mp hcell).1⟩
set_option maxHeartbeats 4000000 in
set_option maxRecDepth 100000 in
theorem cs_start {s : State} {b L : Nat} {xs : Nat → Int32} (hts : ∀ w ∈ lw_tbl, w.before #[Value.ref b] s = true) (hX : va_X b L xs s s.heap) (hbl : b < s.heap.size) (hgv : (Jvm.Cond.and given_1 narrow_1).before #[Value.ref b] s = true) : ∃ ad : Nat → Nat, ad 999 = b ∧ Cs L xs ad (fun q => s.heap.size ≤ q) s := by
  have hs := flat_of_before _ hgv
  have hA : ∀ a : Nat, a < s.heap.size → ¬ (fun q : Nat => s.heap.size ≤ q) a := fun a h => Nat.not_le.mpr h
  have z0 : ∀ {i : Nat}, i < 1 → i = 0 := fun h => by omega
  obtain ⟨adK, adV, hS, hev⟩ := vk_Sof (N := 1) (tm := fun _ => .string "ArrayRecords$Scanner" 68) (len := [104]) (byt := [wBy]) (A := fun q : Nat => s.heap.size ≤ q) (args := #[Value.ref b]) (s := s) (fun i hi => by rw [z0 hi]; decide) (fun i hi => hs _ (nf 67 (by decide +kernel))) (fun i hi => hs _ (nf 68 (by decide +kernel))) (fun i hi => hs _ (nf 69 (by decide +kernel))) (fun i hi => by rw [z0 hi]; exact hs _ (nf 70 (by decide +kernel)))
    (fun i hi j hj => by
      rw [z0 hi] at hj ⊢
      exact hs _ (el_all j hj)) (fun i j hi hj hij => by omega) hA
  have hfmt : va_Zq "jdk/internal/util/Preconditions" "SIOOBE_FORMATTER" "Ljava/util/function/BiFunction;" (fun q => s.heap.size ≤ q) s s.heap := va_Zqof (hts _ (tb3 173 rfl)) (hts _ (tb1 21 rfl)) (hs _ (nf 7 (by decide +kernel))) hA
  obtain ⟨q, hq⟩ : ∃ q : Nat, (va_Z "jdk/internal/util/Preconditions" "SIOOBE_FORMATTER" "Ljava/util/function/BiFunction;" .null (fun q => s.heap.size ≤ q) s s.heap ∨ va_Z "jdk/internal/util/Preconditions" "SIOOBE_FORMATTER" "Ljava/util/function/BiFunction;" (.ref q) (fun q => s.heap.size ≤ q) s s.heap) := by
    rcases hfmt with h | ⟨t, h⟩
    · exact ⟨0, Or.inl h⟩
    · exact ⟨t, Or.inr h⟩
  have hK : vk_S 1 [104] [wBy] (fun _ => adK 0) (fun _ => adV 0) (fun q => s.heap.size ≤ q) s s.heap := by
    refine ⟨fun i hi => ?_, fun i j hi hj _ => by omega⟩
    rw [z0 hi]
    exact hS.1 0 (by decide)
  refine ⟨fun i => if i = 999 then b else if i = 1000 then adK 0 else if i = 1001 then adV 0 else q, rfl, ?_⟩
  refine ⟨⟨hX, hbl, fun z => Nat.not_le.mpr hbl z⟩, ⟨?_, hev 0 (by decide)⟩, hK, va_Zof (hts _ (tb3 157 rfl)) (hts _ (tb1 19 rfl)) (va_eqi (hs _ (nf 6 (by decide +kernel)))) hA, hq, Zs_of (hts _ (tb3 42 rfl)) (hs _ (nf 4 (by decide +kernel))) hA, Zs_of (hts _ (tb3 44 rfl)) (hs _ (nf 5 (by decide +kernel))) hA, va_Nc.of (hs _ (nf 22 (by decide +kernel)))⟩
  have h1 : (Cond.stringRef "ArrayRecords$Scanner" 68 wTx).before #[Value.ref b] s = true := hts _ (tb3 147 rfl)
  exact h1
