section RB
variable {p : Program} {l : Launch} {e : Env} {R R' : Room} {s : State} {m : MethodId} {args : Array Value} {below : List Frame} {meth : Method} {c : Code} {T : State} {locs : List Loc} {cells slots : Nat}
/-- the invocation seen from where it stands now -/
theorem st_rebase (X : Stand p l e R s m args below meth c T locs cells slots) (hf : R'.frames ≤ R.frames) (hlo : R'.locals ≤ R.locals) (hce : cells + R'.cells ≤ R.cells) (hsl : slots + R'.slots ≤ R.slots) :
    Stand p l e R' (T.setFrames (.invoking m args :: below)) m args below meth c T [] 0 0 := by
  obtain ⟨g₀, hfr⟩ := X.frames_eq
  have hcur : T.cur < T.threads.size := State.cur_lt_of_frames hfr
  have hF : (T.setFrames (.invoking m args :: below)).frames = .invoking m args :: below := State.frames_setFrames _ hcur
  have hmeth : (T.setFrames (.invoking m args :: below)).vm.method? m = some meth := X.method'
  obtain ⟨th, hth, -⟩ := State.frames_cons hfr
  have hself : (T.setFrames (.invoking m args :: below)).setFrames T.frames = T := by rw [State.setFrames_setFrames, State.setFrames_self hth]
  refine ⟨X.admits, X.cas, X.clock, hF, ?_, ?_, hmeth, X.code, X.here, X.tail, State.WarmedH.refl _, ?_, ?_, ?_⟩
  · have hr := X.room
    have hl1 := State.localsInUse_invoking X.frames X.method X.code
    have hl2 := State.localsInUse_invoking hF hmeth X.code
    have h1 := X.heapSize
    have h2 := X.used
    have h3 : e.platform.stackLimits (T.setFrames (.invoking m args :: below)).me = e.platform.stackLimits s.me := by rw [State.stackLimits_setFrames]; exact X.limits
    have h4 : (T.setFrames (.invoking m args :: below)).me.stackBytes = s.me.stackBytes := by rw [State.stackBytes_setFrames]; exact X.bytes
    have h5 : (T.setFrames (.invoking m args :: below)).heap = T.heap := rfl
    have h6 : (T.setFrames (.invoking m args :: below)).slotsUsed = T.slotsUsed := rfl
    have h7 : (T.setFrames (.invoking m args :: below)).slotsTrue = true := X.book
    simp only [State.hasRoom, Bool.and_eq_true, decide_eq_true_eq] at hr ⊢
    rw [hF, hl2, h3, h4, h5, h6]
    rw [X.frames, hl1] at hr
    obtain ⟨⟨⟨⟨r1, r2, r3, r4, r5, r6⟩, r7⟩, r8⟩, r9⟩ := hr
    exact ⟨⟨⟨⟨by omega, by omega, by omega, by omega, by omega, r6⟩, by omega⟩, by omega⟩, h7⟩
  · have hh := X.hears
    cases hb : below with
    | nil =>
      rw [hb] at hh
      simp only [State.hears] at hh ⊢
      rw [X.method] at hh
      rw [← hb, hmeth]
      exact hh
    | cons b r =>
      rw [hb] at hh
      cases b with
      | java g =>
        simp only [State.hears, State.code?_eq] at hh ⊢
        have e1 : (T.setFrames (.invoking m args :: .java g :: r)).vm.method? = s.vm.method? := by
          funext z
          exact X.warmed.alike.method? z
        rw [e1]
        exact hh
      | native _ => rfl
      | proc _ => rfl
      | _ =>
        simp only [State.hears] at hh ⊢
        rw [X.method] at hh
        rw [← hb, hmeth]
        exact hh
  · rw [State.stackLimits_setFrames]
  · rw [State.stackBytes_setFrames]
  · obtain ⟨t2, ht2, -⟩ := State.frames_cons hF
    have h := (State.sameButNew.refl (T.setFrames (.invoking m args :: below)) ht2).setFrames T.frames (State.cur_lt_of_frames hF)
    rw [hself] at h
    exact h
end RB
/-- one exception is made: a cell of six slots -/
def sp (σ : Sg) : Sg := (gS σ, gI σ, gL σ, gR σ, gX σ, gC σ - 1, gN σ - 6)
def tst : List Cond := [.laysStatic "java/lang/Throwable" "UNASSIGNED_STACK" "[Ljava/lang/StackTraceElement;", .laysStatic "java/lang/Throwable" "SUPPRESSED_SENTINEL" "Ljava/util/List;", .isRef (.static "java/lang/Throwable" "UNASSIGNED_STACK" "[Ljava/lang/StackTraceElement;"), .isRef (.static "java/lang/Throwable" "SUPPRESSED_SENTINEL" "Ljava/util/List;")]
abbrev sups : List String := ["java/lang/RuntimeException", "java/lang/Exception"]
def Th (own : String) (idx ic x : Nat) : Prop := Cond.classLink own idx (exn x) ∈ lw_tbl ∧ Cond.instantiable (exn x) 6 ∈ lw_tbl ∧ Cond.initialized (exn x) ∈ lw_tbl ∧ Bundle.fit (exn x) = true ∧ (∀ a ∈ Bundle.ownAtoms0 own ic (exn x) sups, (a ∈ lw_tbl ∧ mvOk a = true) ∨ a ∈ tst)
section QT
variable {d : Nat} {y : My} {pc : Nat} {ls : Lo} {σ : Sg} {Q : Ot → Sg → Prop}
set_option maxHeartbeats 4000000 in
theorem q_throw {idx ic x : Nat} (hT0 : Th y.1.cls idx ic x) (hd0 : decode y.2.1 pc = .ok (.new idx, 3)) (hd1 : decode y.2.1 (pc + 3) = .ok (.dup, 1)) (hd2 : decode y.2.1 (pc + 4) = .ok (.invokespecial ic, 3)) (hd3 : decode y.2.1 (pc + 7) = .ok (.athrow, 1)) (hnc : ncov y (pc + 7) = true) (hgc : 1 ≤ gC σ) (hgn : 6 ≤ gN σ) (hq : Q (.inr x) (sp σ)) : WQ d y pc ls [] σ Q := by
  intro p l e R s m args below meth c H locs cells slots A ad ac D lsC F Wr hc hs hl T hT X
  obtain ⟨hx, htr, hb, hmL, hret, hlk, hext, hown, hnm, hts, hfr, hlo, hA, hst, hK⟩ := id F
  obtain ⟨hP, hD, hS, hAK, hRf, hCs, hlen⟩ := id Wr
  have X' := st_rebase (R' := { frames := R.frames, cells := gC σ, slots := gN σ, locals := R.locals }) X (Nat.le_refl _) (Nat.le_refl _) hc hs
  have hWs : s.WarmedH (T.setFrames (.invoking m args :: below)).vm := X.warmed
  have hh1 : (T.setFrames (.invoking m args :: below)).heap = H := hT
  have hback : ∀ {t : State} {k n : Nat}, (T.setFrames (.invoking m args :: below)).sameButNew ({ t with vm := (T.setFrames (.invoking m args :: below)).vm } : State) [] k n → T.sameButNew ({ t with vm := T.vm } : State) [] k n := by
    intro t k n h
    obtain ⟨e2, q2, q3, q4, q5, q6⟩ := h
    refine ⟨?_, q2, q3, q4, q5, q6⟩
    rw [State.setFrames_setFrames] at e2
    exact e2
  generalize hs1 : T.setFrames (.invoking m args :: below) = s1 at *
  obtain ⟨w1, w2, w3, w4, w5⟩ := hT0
  have hown1 : s1.vm.findClass y.1.cls = some m.cls := by rw [hWs.alike.findClass]; exact hown
  have hts1 : ∀ w ∈ lw_tbl, mvOk w = true → w.before args s1 = true := fun w hw hm => mv_at hWs hm (hts w hw hm)
  have hkept : ∀ a : Nat, a < s.heap.size → ¬ A a → s1.heap[a]? = s.heap[a]? := fun a h1 h2 => by rw [hh1]; exact hS.2.1 a h1 h2
  have z1 := Zs.moved hWs.alike (hCs.2.2.2.2.2.1.kept hkept)
  have z2 := Zs.moved hWs.alike (hCs.2.2.2.2.2.2.1.kept hkept)
  have hat : ∀ a ∈ Bundle.ownAtoms0 y.1.cls ic (exn x) sups, a.before args s1 = true := by
    intro a ha
    rcases w5 a ha with ⟨h1, h2⟩ | h1
    · exact hts1 a h1 h2
    · simp only [tst, List.mem_cons, List.not_mem_nil, or_false] at h1
      rcases h1 with rfl | rfl | rfl | rfl
      · exact z1.lays
      · exact z2.lays
      · exact z1.isRef
      · exact z2.isRef
  have K : W p l e { frames := R.frames, cells := gC σ, slots := gN σ, locals := R.locals } s1 m args below meth c H [] 0 0
      (fun t => t.status = .running ∧ ∃ (a : Addr) (ce : Cell), Ended t below (.threw a) ∧ s1.WarmedH t.vm ∧ s1.sameButNew ({ t with vm := s1.vm } : State) [] 1 6 ∧ t.heap[a]? = some ce ∧ s1.vm.findClass (exn x) = some ce.cls ∧ ce.vm.isStatics = false) (F0 m pc lsC []) := by
    refine W.newc hx hb hown1 (hts1 _ w1 rfl) (hts1 _ w2 rfl) (hts1 _ w3 rfl) rfl hd0 hgc hgn (fun cC kC g1 g2 g3 g4 => ?_)
    refine lv_dup hx hb hd1 rfl ?_
    intro T2 hT2 X2
    obtain ⟨U, b1, b2, b3, b4, b5, ce, b6, b7⟩ := X2.ctorThrow0 hx htr (own := y.1.cls) (cls := exn x) (names := sups) (ic := ic) hown1 w4 (by decide) hat (fun q hq => by cases hq) (a := H.size) g1 g2 (by rw [hT2]; simp) (by rw [hh1]; exact Nat.le_refl _)
      (g := F0 m (pc + 3 + 1) lsC [.ref H.size, .ref H.size]) rfl (hl.1.trans hmL.symm) rfl rfl (rest := []) rfl (by rw [hb]; exact hd2) (by rw [hb]; exact hd3) (ncov_out hext hnc) (by show 2 + 3 < R.frames; omega) (by show 2 * 0 + 1 + (13 * 3 + 41) ≤ R.locals; omega) hlk
    exact ⟨U, b1, b2, H.size, ce, b3, b4, by simpa using b5, b6, b7.cls, by rw [b7.vm]; rfl⟩
  obtain ⟨t, k1, k2, a, ce, k3, k4, k5, k6, k7, k8⟩ := K T hT X'
  have hB := hback k5
  have hkp : ∀ q, q < H.size → t.heap[q]? = H[q]? := by
    intro q hq
    have hc0 : s1.heap[q]? = some H[q] := by rw [hh1]; exact Array.getElem?_eq_getElem hq
    have h2 := kept_of_same (keep := fun _ => True) k5 (fun _ h => by cases h) q _ trivial hc0
    rw [show t.heap[q]? = some H[q] from h2]
    exact (Array.getElem?_eq_getElem hq).symm
  have hsz : H.size ≤ t.heap.size := by
    have : s1.heap.size ≤ t.heap.size := k5.2.1
    rw [hh1] at this; exact this
  refine ⟨t, k1, .inr x, sp σ, ad, ac, .threw a, locs, cells + 1, slots + 6, k2, k3, ⟨a, ce, rfl, k6, by rw [k4.alike.findClass]; exact k7, k8⟩, hq, State.WarmedH.trans hWs k4, ?_, ?_, ?_, fun _ _ => rfl, ⟨[], by simp [sp]⟩, ?_⟩
  · have := X.same.trans (hB.setVm s.vm)
    rw [List.append_nil] at this
    exact this
  · show cells + 1 + (gC σ - 1) ≤ R.cells; omega
  · show slots + 6 + (gN σ - 6) ≤ R.slots; omega
  · refine ⟨hP.kept (fun k q hk => ?_), hD, ⟨Nat.le_trans hS.1 hsz, fun q h1 h2 => ?_, hS.2.2⟩, hAK, hRf, hCs, hlen⟩
    · refine hkp q.1 ?_
      have := hP k q hk
      unfold va_at at this
      cases hq2 : q.2 with
      | inl a => rw [hq2] at this; exact (Array.getElem?_eq_some_iff.mp this).1
      | inr o => rw [hq2] at this; obtain ⟨r, -, cl, g1, -⟩ := this; exact (Array.getElem?_eq_some_iff.mp g1).1
    · rw [hkp q (Nat.lt_of_lt_of_le h1 hS.1)]
      exact hS.2.1 q h1 h2
end QT
