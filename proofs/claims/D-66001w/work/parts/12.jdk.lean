-- the text of the words (1000), its bytes (1001), statics; copies of bytes
section QJ
variable {d : Nat} {y y' : My} {pc idx n : Nat} {ls : Lo} {st rest st0 : List Value} {σ : Sg} {Q : Ot → Sg → Prop}
theorem q_ldcS (hd : decode y.2.1 pc = .ok (.ldc 68, 2)) (hy : y.1.cls = "ArrayRecords$Scanner") (kk : WQ d y (pc + 2) ls (.ref 1000 :: st) σ Q) : WQ d y pc ls st σ Q := by
  intro p l e R s m args below meth c H locs cells slots A ad ac D lsC F Wr hc hs hl
  have ho := F.own
  rw [hy] at ho
  exact va_ldcS F.1 F.2.2.1 ho Wr.2.2.2.2.2.1.2.1 hd (kk p l e R s m args below meth c H locs cells slots A ad ac D lsC F Wr hc hs hl)
theorem q_sval (hd : decode y.2.1 pc = .ok (.getfield idx, 3)) (hw : Cond.fieldLink y.1.cls idx "java/lang/String" "value" "[B" ∈ lw_tbl) (kk : WQ d y (pc + 3) ls (.ref 1001 :: st) σ Q) : WQ d y pc ls (.ref 1000 :: st) σ Q := by
  intro p l e R s m args below meth c H locs cells slots A ad ac D lsC F Wr hc hs hl
  have hS := (Wr.2.2.2.2.2.1.2.2.1).1 0 (by decide)
  exact vk_getf F.1 F.2.2.1 hS.2.2.1 Wr.2.2.1 F.own (F.hts _ hw rfl) (fun x h => h) hd (kk p l e R s m args below meth c H locs cells slots A ad ac D lsC F Wr hc hs hl)
theorem q_scod (hd : decode y.2.1 pc = .ok (.getfield idx, 3)) (hw : Cond.fieldLink y.1.cls idx "java/lang/String" "coder" "B" ∈ lw_tbl) (kk : WQ d y (pc + 3) ls (.int 0 :: st) σ Q) : WQ d y pc ls (.ref 1000 :: st) σ Q := by
  intro p l e R s m args below meth c H locs cells slots A ad ac D lsC F Wr hc hs hl
  have hS := (Wr.2.2.2.2.2.1.2.2.1).1 0 (by decide)
  exact vk_getf F.1 F.2.2.1 hS.2.1 Wr.2.2.1 F.own (F.hts _ hw rfl) (fun x h => h) hd (kk p l e R s m args below meth c H locs cells slots A ad ac D lsC F Wr hc hs hl)
theorem q_scmp (hd : decode y.2.1 pc = .ok (.getstatic idx, 3)) (hw : Cond.fieldLink y.1.cls idx "java/lang/String" "COMPACT_STRINGS" "Z" ∈ lw_tbl) (kk : WQ d y (pc + 3) ls (.int 1 :: st) σ Q) : WQ d y pc ls st σ Q := by
  intro p l e R s m args below meth c H locs cells slots A ad ac D lsC F Wr hc hs hl
  exact va_gets F.1 F.2.2.1 Wr.2.2.2.2.2.1.2.2.2.1 Wr.2.2.1 F.own (F.hts _ hw rfl) (fun x h => h) hd (kk p l e R s m args below meth c H locs cells slots A ad ac D lsC F Wr hc hs hl)
theorem q_sfmt (hd : decode y.2.1 pc = .ok (.getstatic idx, 3)) (hw : Cond.fieldLink y.1.cls idx "jdk/internal/util/Preconditions" "SIOOBE_FORMATTER" "Ljava/util/function/BiFunction;" ∈ lw_tbl) (k1 : WQ d y (pc + 3) ls (.null :: st) σ Q) (k2 : WQ d y (pc + 3) ls (.ref 1002 :: st) σ Q) : WQ d y pc ls st σ Q := by
  intro p l e R s m args below meth c H locs cells slots A ad ac D lsC F Wr hc hs hl
  rcases Wr.2.2.2.2.2.1.2.2.2.2.1 with h | h
  · exact va_gets F.1 F.2.2.1 h Wr.2.2.1 F.own (F.hts _ hw rfl) (fun x h => h) hd (k1 p l e R s m args below meth c H locs cells slots A ad ac D lsC F Wr hc hs hl)
  · exact va_gets F.1 F.2.2.1 h Wr.2.2.1 F.own (F.hts _ hw rfl) (fun x h => h) hd (k2 p l e R s m args below meth c H locs cells slots A ad ac D lsC F Wr hc hs hl)
theorem q_tlen (hd : decode y.2.1 pc = .ok (.arraylength, 1)) (kk : WQ d y (pc + 1) ls (.int 104 :: st) σ Q) : WQ d y pc ls (.ref 1001 :: st) σ Q := by
  intro p l e R s m args below meth c H locs cells slots A ad ac D lsC F Wr hc hs hl
  have hS := (Wr.2.2.2.2.2.1.2.2.1).1 0 (by decide)
  exact va_tlen F.1 F.2.2.1 hS.2.2.2 Wr.2.2.1 rfl hd (kk p l e R s m args below meth c H locs cells slots A ad ac D lsC F Wr hc hs hl)
theorem q_tb {j : Int32} (hd : decode y.2.1 pc = .ok (.baload, 1)) (hin : vp_in j 104) (kk : WQ d y (pc + 1) ls (.int (wBy.getD j.toNatClampNeg 0) :: st) σ Q) : WQ d y pc ls (.int j :: .ref 1001 :: st) σ Q := by
  intro p l e R s m args below meth c H locs cells slots A ad ac D lsC F Wr hc hs hl
  have hS := (Wr.2.2.2.2.2.1.2.2.1).1 0 (by decide)
  exact va_tb F.1 F.2.2.1 hS.2.2.2 Wr.2.2.1 hin rfl hd (kk p l e R s m args below meth c H locs cells slots A ad ac D lsC F Wr hc hs hl)
theorem q_callVs (hC : Cv y.1.cls idx "java/lang/String" y' n) (hd : decode y.2.1 pc = .ok (.invokevirtual idx, 3)) (As rest : List Value) (hst : As.reverse ++ .ref 1000 :: rest = st0) (hn : As.length = n) (hrest : rest.length ≤ 8) (hfl : (flat (.ref 1000 :: As)).length ≤ y'.2.2.1) (hrf : rfOk (gS σ).length ls rest = true) (hnc : ncov y pc = true)
    (hcall : WQ d y' 0 (ent (.ref 1000 :: As) y'.2.2.1) [] σ (Cn (d + 1) y pc ls rest Q)) : WQ (d + 1) y pc ls st0 σ Q := by
  refine q_callG (fun p l e R s m args below meth c H locs cells slots A ad ac D lsC F Wr => ?_) hC.1 hd hrest hfl hrf hnc hcall
  have h1 : st0.map (cv ad) = (As.map (cv ad)).reverse ++ .ref (ad 1000) :: rest.map (cv ad) := by rw [← hst]; simp [List.map_reverse, cv]
  rw [h1]
  exact into_V F hC hd (vk_recv (Wr.2.2.2.2.2.1.2.2.1) (i := 0) (by decide) Wr.2.2.1) (by simpa using hn)
/-- Math.min of longs -/
def Mn (own : String) (idx : Nat) : Prop := Cond.methodLink own idx Lib.MathLoose.min_long.x ∈ lw_tbl ∧ Cond.static Lib.MathLoose.min_long.x ∈ lw_tbl ∧ Cond.initialized "java/lang/Math" ∈ lw_tbl ∧ Cond.code Lib.MathLoose.min_long.x Lib.MathLoose.min_long.code 4 (some .long) ∈ lw_tbl
theorem q_mmin {a b : Int64} (hA : Mn y.1.cls idx) (hd : decode y.2.1 pc = .ok (.invokestatic idx, 3)) (hrest : rest.length ≤ 8) (kk : WQ d y (pc + 3) ls (.long (if b < a then b else a) :: rest) σ Q) : WQ d y pc ls (.long b :: .long a :: rest) σ Q := by
  intro p l e R s m args below meth c H locs cells slots A ad ac D lsC F Wr hc hs hl
  obtain ⟨k1, k2, k3, k4⟩ := hA
  have hcs := catsum ad rest
  have hlo : 64 * d + 256 ≤ R.locals := F.2.2.2.2.2.2.2.2.2.2.2.1
  have hfr : d + 8 ≤ R.frames := F.2.2.2.2.2.2.2.2.2.2.1
  exact va_mmin_long F.1 F.2.2.1 (F.2.2.2.1.trans hl.1.symm) F.own (F.hts _ k1 rfl) (F.hts _ k2 rfl) (F.hts _ k3 rfl) (F.hts _ k4 rfl) (by omega) (by omega) (by omega) (by omega) hd (kk p l e R s m args below meth c H locs cells slots A ad ac D lsC F Wr hc hs hl)
theorem q_ldcw {n : Nat} {v : Int32} (hd : decode y.2.1 pc = .ok (.ldc_w n, 3)) (hw : Cond.constant y.1.cls n v ∈ lw_tbl) (kk : WQ d y (pc + 3) ls (.int v :: rest) σ Q) : WQ d y pc ls rest σ Q := by
  intro p l e R s m args below meth c H locs cells slots A ad ac D lsC F Wr hc hs hl
  exact lv_ldcw F.1 F.2.2.1 F.own (F.hts _ hw rfl) hd (kk p l e R s m args below meth c H locs cells slots A ad ac D lsC F Wr hc hs hl)
/-- System.arraycopy of bytes -/
def cpI (σ : Sg) (i j : Nat) (a b n : Nat) : Sg := (gS σ, (fun q => if q = j then va_cpy (gI σ i) (gI σ j) a b n else gI σ q), gL σ, gR σ, gX σ, gC σ, gN σ)
def Ac (own : String) (idx : Nat) : Prop := Cond.methodLink own idx arraycopyName ∈ lw_tbl ∧ Cond.native arraycopyName ∈ lw_tbl ∧ Cond.static arraycopyName ∈ lw_tbl ∧ Cond.initialized "java/lang/System" ∈ lw_tbl
theorem q_copyb {i j ni nj : Nat} {a b k : Int32} (hA : Ac y.1.cls idx) (hd : decode y.2.1 pc = .ok (.invokestatic idx, 3)) (hi : (gS σ)[i]? = some (.inr (.byte, ni))) (hj : (gS σ)[j]? = some (.inr (.byte, nj))) (h1 : ¬ a < 0) (h2 : ¬ b < 0) (h3 : ¬ k < 0) (h4 : a.toNatClampNeg + k.toNatClampNeg ≤ ni) (h5 : b.toNatClampNeg + k.toNatClampNeg ≤ nj)
    (hfit : ∀ q, q < k.toNatClampNeg → fits .byte (.int (gI σ i (a.toNatClampNeg + q))) = true) (hrest : rest.length ≤ 8)
    (kk : WQ d y (pc + 3) ls rest (cpI σ i j a.toNatClampNeg b.toNatClampNeg k.toNatClampNeg) Q) : WQ d y pc ls (.int k :: .int b :: .ref j :: .int a :: .ref i :: rest) σ Q := by
  intro p l e R s m args below meth c H locs cells slots A ad ac D lsC F Wr hc hs hl
  obtain ⟨k1, k2, k3, k4⟩ := hA
  obtain ⟨a1, a2, -⟩ := Wr.2.2.2.1 i _ _ hi
  obtain ⟨b1, b2, -⟩ := Wr.2.2.2.1 j _ _ hj
  have hcs := catsum ad rest
  have hlo : 64 * d + 256 ≤ R.locals := F.2.2.2.2.2.2.2.2.2.2.2.1
  have hfr : d + 8 ≤ R.frames := F.2.2.2.2.2.2.2.2.2.2.1
  have hKK : va_K D classes [(ac i, .byte), (ac j, .byte)] s := by
    refine ⟨F.kn.1, fun k q hq => ?_⟩
    match k, hq with
    | 0, hq => simp at hq; subst hq; exact ⟨a1, a2⟩
    | 1, hq => simp at hq; subst hq; exact ⟨b1, b2⟩
    | k + 2, hq => simp at hq
  have hnf : nativeFrameWords "java/lang/System" "arraycopy" 5 ≤ 100 := by decide
  refine va_copyi F.1 F.2.2.1 (F.2.2.2.1.trans hl.1.symm) F.own (F.hts _ k1 rfl) (F.hts _ k2 rfl) (F.hts _ k3 rfl) (F.hts _ k4 rfl) hKK Wr.1 Wr.2.1 Wr.2.2.1 i j 0 1 (ws_at hi) (ws_at hj) rfl rfl rfl h1 h2 h3 h4 h5 hfit (by omega) (by omega) hd (fun H1 locs1 c1 c2 c3 => ?_)
  refine kk p l e R s m args below meth c H1 locs1 cells slots A ad ac D lsC F (Wr.set (σ' := cpI σ i j a.toNatClampNeg b.toNatClampNeg k.toNatClampNeg) rfl rfl Wr.2.2.2.2.1 (ws_set (σ := σ) rfl hj (fun q kd hq => xe_ne (σ := σ) (σ' := cpI σ i j a.toNatClampNeg b.toNatClampNeg k.toNatClampNeg) (if_neg hq) rfl rfl kd) ?_) c1 c2 c3) hc hs hl
  simp only [xe, tk, cpI]
  show Sum.inl (ac j, nj, Sum.inl (if j = j then _ else _)) = _
  rw [if_pos rfl]
end QJ
