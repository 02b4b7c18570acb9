-- new cells
def zr {α : Type} (f : Nat → Nat → α) (n : Nat) (z : α) : Nat → Nat → α := fun a => if a = n then (fun _ => z) else f a
theorem zr_ne {α : Type} {f : Nat → Nat → α} {n a : Nat} {z : α} (h : a ≠ n) : zr f n z a = f a := by simp [zr, h]
theorem zr_eq {α : Type} {f : Nat → Nat → α} {n : Nat} {z : α} : zr f n z n = (fun _ => z) := by simp [zr]
/-- a new cell of kind kd, of k slots -/
def al (σ : Sg) (kd : Kd) (k : Nat) : Sg := (gS σ ++ [kd], zr (gI σ) (gS σ).length 0, zr (gL σ) (gS σ).length 0, zr (gR σ) (gS σ).length none, gX σ, gC σ - 1, gN σ - k)
def ex {α : Type} (f : Nat → α) (n : Nat) (q : α) : Nat → α := fun i => if i = n then q else f i
theorem ex_ne {α : Type} {f : Nat → α} {n i : Nat} {q : α} (h : i ≠ n) : ex f n q i = f i := by simp [ex, h]
theorem ex_eq {α : Type} {f : Nat → α} {n : Nat} {q : α} : ex f n q n = q := by simp [ex]
theorem ws_al {ad : Nat → Nat} {ac : Nat → ClassId} {σ : Sg} {kd : Kd} {k q : Nat} {cA : ClassId} (hR : ∀ i k j, gR σ i k = some j → j < (gS σ).length) : ws (ex ad (gS σ).length q) (ex ac (gS σ).length cA) (al σ kd k) = ws ad ac σ ++ [(q, xe (ex ad (gS σ).length q) (ex ac (gS σ).length cA) (al σ kd k) (gS σ).length kd)] := by
  have hl : (ws ad ac σ).length = (gS σ).length := by simp [ws]
  have hS : gS (al σ kd k) = gS σ ++ [kd] := rfl
  apply List.ext_getElem?
  intro j
  rw [ws_at', hS]
  by_cases e : j < (gS σ).length
  · rw [List.getElem?_append_left e, List.getElem?_append_left (by rw [hl]; exact e), ws_at', List.getElem?_eq_getElem e]
    simp only [Option.map_some]
    have e' : j ≠ (gS σ).length := by omega
    rw [ex_ne e']
    congr 2
    generalize (gS σ)[j] = kk
    have h1 : gI (al σ kd k) j = gI σ j := zr_ne e'
    have h2 : gL (al σ kd k) j = gL σ j := zr_ne e'
    have h3 : gR (al σ kd k) j = gR σ j := zr_ne e'
    have hx : ∀ ci, xf (ex ad (gS σ).length q) (al σ kd k) ci j = xf ad σ ci j := by
      intro ci
      funext t
      unfold xf
      rw [h1, h2, h3]
      have hrf : rf (ex ad (gS σ).length q) (gR σ j t) = rf ad (gR σ j t) := by
        cases hg : gR σ j t with
        | none => rfl
        | some w =>
          have := hR j t w hg
          show Value.ref _ = Value.ref _
          rw [ex_ne (by omega)]
      rw [hrf]
    cases kk with
    | inl ci => simp only [xe, hx]
    | inr t => simp only [xe, h1, h2, ex_ne e']
  · by_cases e2 : j = (gS σ).length
    · subst e2
      rw [List.getElem?_append_right (Nat.le_refl _), List.getElem?_append_right (by rw [hl]; exact Nat.le_refl _), hl]
      simp [ex_eq]
    · rw [List.getElem?_eq_none (by simp; omega), List.getElem?_eq_none (by simp [hl]; omega)]
      rfl
theorem agr_ex {ad : Nat → Nat} {n q : Nat} (h : n < 900) : agr n ad (ex ad n q) := by
  intro i hi
  exact ex_ne (by omega)
theorem wd_al {D : va_G} {ad : Nat → Nat} {ac : Nat → ClassId} {A : Nat → Prop} {s : State} {σ : Sg} {H H1 : Heap} {locs locs1 : List Loc} {kd : Kd} {k q : Nat} {cA : ClassId} {E : va_E} (Wr : Wd D ad ac A s σ H locs) (hlen : (gS σ).length < 900)
    (hE : xe (ex ad (gS σ).length q) (ex ac (gS σ).length cA) (al σ kd k) (gS σ).length kd = E) (hP : va_P D classes (ws ad ac σ ++ [(q, E)]) H1) (hD : va_D A (ws ad ac σ ++ [(q, E)])) (hS : va_S A s.heap H1 locs1) (hk : ∀ ty n, kd = .inr (ty, n) → ArrOfT s cA ty ∧ va_RA s cA ty ∧ tk ty < 2) :
    Wd D (ex ad (gS σ).length q) (ex ac (gS σ).length cA) A s (al σ kd k) H1 locs1 := by
  obtain ⟨h1, h2, h3, h4, h5, h6, h7⟩ := Wr
  have e := ws_al (ad := ad) (ac := ac) (kd := kd) (k := k) (q := q) (cA := cA) h5
  rw [hE] at e
  refine ⟨by rw [e]; exact hP, by rw [e]; exact hD, hS, fun i ty n hi => ?_, fun i j w hw => ?_, ?_, ?_⟩
  · have hi' : (gS σ ++ [kd])[i]? = some (.inr (ty, n)) := hi
    by_cases c : i < (gS σ).length
    · rw [List.getElem?_append_left c] at hi'
      rw [ex_ne (by omega)]
      exact h4 i ty n hi'
    · have : i = (gS σ).length := by
        have := (List.getElem?_eq_some_iff.mp hi').1
        simp at this
        omega
      subst this
      rw [ex_eq]
      simp at hi'
      exact hk ty n hi'
  · have hw' : zr (gR σ) (gS σ).length none i j = some w := hw
    show w < (gS σ ++ [kd]).length
    by_cases c : i = (gS σ).length
    · subst c; rw [zr_eq] at hw'; cases hw'
    · rw [zr_ne c] at hw'
      have := h5 i j w hw'
      simp; omega
  · have ec : ∀ i, 900 ≤ i → ex ad (gS σ).length q i = ad i := fun i hi => ex_ne (by omega)
    show Cs (gX σ).1 (gX σ).2 _ A s
    unfold Cs at h6 ⊢
    rw [ec 999 (by decide), ec 1000 (by decide), ec 1001 (by decide), ec 1002 (by decide)]
    exact h6
  · show (gS σ ++ [kd]).length ≤ 900
    simp; omega
section QA
variable {d : Nat} {y : My} {pc : Nat} {ls : Lo} {st : List Value} {σ : Sg} {Q : Ot → Sg → Prop}
theorem q_goal {p : Program} {l : Launch} {e : Env} {R : Room} {s : State} {m : MethodId} {args : Array Value} {below : List Frame} {meth : Method} {c : Code} {H1 : Heap} {locs : List Loc} {cells slots : Nat} {A : Nat → Prop} {ad : Nat → Nat} {ac : Nat → ClassId} {D : va_G} {lsC : Array Slot} {kd : Kd} {k q : Nat} {cA : ClassId}
    (kk : WQ d y pc ls (.ref (gS σ).length :: st) (al σ kd k) Q) (hlen : (gS σ).length < 900) (hgc : 1 ≤ gC σ) (hgn : k ≤ gN σ) (hrf : rfOk (gS σ).length ls st = true)
    (F : Fx p e R s m args meth c d y A D) (w : Wd D (ex ad (gS σ).length q) (ex ac (gS σ).length cA) A s (al σ kd k) H1 locs) (hc : cells + gC σ ≤ R.cells) (hs : slots + gN σ ≤ R.slots) (hl : LH lsC y.2.2.1 ad ls) :
    W p l e R s m args below meth c H1 locs (cells + 1) (slots + k) (Fin_ below s A R D ad (gS σ) Q) (F0 m pc lsC (.ref q :: st.map (cv ad))) := by
  intro T hT X
  have ha := agr_ex (ad := ad) (q := q) hlen
  obtain ⟨t, a1, a2⟩ := kk p l e R s m args below meth c H1 locs (cells + 1) (slots + k) A _ _ D lsC F w (by show cells + 1 + (gC σ - 1) ≤ R.cells; omega) (by show slots + k + (gN σ - k) ≤ R.slots; omega) (rfOk_ls hrf ha hl) T hT X
  refine ⟨t, ?_, a2.up ha ⟨[kd], rfl⟩⟩
  have e1 : (Value.ref (gS σ).length :: st).map (cv (ex ad (gS σ).length q)) = .ref q :: st.map (cv ad) := by
    rw [List.map_cons, rfOk_st hrf ha]
    show Value.ref (ex ad (gS σ).length q (gS σ).length) :: _ = _
    rw [ex_eq]
  rw [e1] at a1
  exact a1
theorem q_newa {at_ : ArrayType} {ty : FieldType} {n : Int32} {N : Nat} (hd : decode y.2.1 pc = .ok (.newarray at_, 2)) (hty : newarray.typeOf at_ = ty) (hw : Cond.arrayClass ty ∈ lw_tbl) (hz : (ty = .int ∨ ty = .byte ∨ ty = .boolean) ∨ ty = .long) (hn : ¬ n < 0) (hN : n.toNatClampNeg = N) (hbytes : N * componentBytes ty ≤ 536870912) (hlen : (gS σ).length < 900) (hgc : 1 ≤ gC σ) (hgn : N ≤ gN σ) (hrf : rfOk (gS σ).length ls st = true)
    (kk : WQ d y (pc + 2) ls (.ref (gS σ).length :: st) (al σ (.inr (ty, N)) N) Q) : WQ d y pc ls (.int n :: st) σ Q := by
  intro p l e R s m args below meth c H locs cells slots A ad ac D lsC F Wr hc hs hl
  have hA := F.2.2.2.2.2.2.2.2.2.2.2.2.1
  have hword : (Cond.arrayClass (newarray.typeOf at_)).before args s = true := by rw [hty]; exact F.hts _ hw rfl
  rcases hz with hz | hz
  · have hdv : defaultValue ty = .int 0 ∧ tk ty = 0 := by rcases hz with rfl | rfl | rfl <;> exact ⟨rfl, rfl⟩
    refine va_newa F.1 F.2.2.1 hword hty F.kn Wr.1 Wr.2.1 Wr.2.2.1 hA (a0 := (N, .inl (fun _ => 0))) (fun cA => by rw [vp_cell_i, hdv.1]) hn hN hbytes (by omega) (by omega) hd (fun q cA H1 b1 b2 b3 b4 => ?_)
    have b1' := b1.2 0 (cA, ty) rfl
    refine q_goal (cA := cA) kk hlen hgc hgn hrf F (wd_al Wr hlen ?_ b2 b3 b4 (fun ty' n' h => ?_)) hc hs hl
    · simp only [xe, hdv.2, ex_eq]
      show Sum.inl (cA, N, Sum.inl (zr (gI σ) (gS σ).length 0 (gS σ).length)) = _
      rw [zr_eq]
    · cases h
      exact ⟨b1'.1, b1'.2, by rw [hdv.2]; decide⟩
  · subst hz
    refine va_newa F.1 F.2.2.1 hword hty F.kn Wr.1 Wr.2.1 Wr.2.2.1 hA (a0 := (N, .inr (.inl (fun _ => 0)))) (fun cA => by rw [vp_cell_l]; rfl) hn hN hbytes (by omega) (by omega) hd (fun q cA H1 b1 b2 b3 b4 => ?_)
    have b1' := b1.2 0 (cA, .long) rfl
    refine q_goal (cA := cA) kk hlen hgc hgn hrf F (wd_al Wr hlen ?_ b2 b3 b4 (fun ty' n' h => ?_)) hc hs hl
    · simp only [xe, tk, ex_eq]
      show Sum.inl (cA, N, Sum.inr (Sum.inl (zr (gL σ) (gS σ).length 0 (gS σ).length))) = _
      rw [zr_eq]
    · cases h
      exact ⟨b1'.1, b1'.2, by decide⟩
/-- the default of a field -/
def dvf (ci k : Nat) : Value := match tk (tyOf ci k) with
  | 0 => .int 0
  | 1 => .long 0
  | _ => .null
theorem q_new {idx ci N : Nat} {C : String} {T : u_T} (hd : decode y.2.1 pc = .ok (.new idx, 3)) (hck : ck ci C T N) (hcl : Cond.classLink y.1.cls idx C ∈ lw_tbl) (hins : Cond.instantiable C N ∈ lw_tbl) (hini : Cond.initialized C ∈ lw_tbl) (hdv : ∀ j, j < N → defaultValue (tyOf ci j) = dvf ci j) (hlen : (gS σ).length < 900) (hgc : 1 ≤ gC σ) (hgn : N ≤ gN σ) (hrf : rfOk (gS σ).length ls st = true)
    (kk : WQ d y (pc + 3) ls (.ref (gS σ).length :: st) (al σ (.inl ci) N) Q) : WQ d y pc ls st σ Q := by
  intro p l e R s m args below meth c H locs cells slots A ad ac D lsC F Wr hc hs hl
  have hA := F.2.2.2.2.2.2.2.2.2.2.2.2.1
  obtain ⟨c1, c2, c3, c4, c5, c6⟩ := hck
  have hfs : ∀ (ad' : Nat → Nat), (List.range (nfl ci)).map (xf ad' (al σ (.inl ci) N) ci (gS σ).length) = (List.range (nfl ci)).map (dvf ci) := by
    intro ad'
    congr 1
    funext j
    unfold xf dvf
    have h1 : gI (al σ (.inl ci) N) (gS σ).length = (fun _ => 0) := zr_eq
    have h2 : gL (al σ (.inl ci) N) (gS σ).length = (fun _ => 0) := zr_eq
    have h3 : gR (al σ (.inl ci) N) (gS σ).length = (fun _ => none) := zr_eq
    rw [h1, h2, h3]
    rfl
  refine va_new F.1 F.2.2.1 (Ts := u_ws C T N) (fun w hw => F.hts w (c2 w hw) (u_mv hw)) (fun w hw => hw) (tyOf ci) c3 F.own (F.hts _ hcl rfl) (F.hts _ hins rfl) (F.hts _ hini rfl) F.kn Wr.1 Wr.2.1 Wr.2.2.1 hA c1 (fs := (List.range (nfl ci)).map (dvf ci)) (fun j hj => ?_) (by omega) (by omega) hd (fun q H1 b2 b3 b4 => ?_)
  · rw [hdv j hj, vp_V]
    simp [c6, hj]
  · refine q_goal (cA := 0) kk hlen hgc hgn hrf F (wd_al Wr hlen ?_ b2 b3 b4 (fun ty' n' h => by cases h)) hc hs hl
    simp only [xe, hfs]
end QA
