-- catching with a class link that may be cold
section CC
variable {E : CtlPost} {e : Env} {d : Bool} {acts : List Action} {s : State} {f : JFrame} {a : Addr} {Q : Handler → Pre}
theorem go_cold {x : ExceptionTableEntry} {t : List ExceptionTableEntry} {c : ClassId} {vm' : Vm} (hx : covers x f.pc = true) (h0 : x.catchType ≠ 0)
    (hg : (Jvm.resolveClass f.method.cls x.catchType).Gives e.toSetting s.vm (.ok c) vm') (hr : vm'.classReady f.method.cls x.catchType c) (hsz : vm'.classes.size ≤ s.vm.classes.size) :
    wp (findHandler.go f a (x :: t)) Q E e d acts s ↔ wp (findHandler.go f a (x :: t)) Q E e d acts (s.setVm vm') := by
  obtain ⟨ha, ht⟩ := hg.op (op := VmOp.resolveClass f.method.cls x.catchType) rfl
  simp only [covers] at hx
  obtain ⟨k, hkd, hres⟩ := hr
  have hm := resolveClass_memo (vm := vm') e hkd hres
  simp [findHandler.go, hx, h0, ha, ht, hsz, hm.1, hm.2, VmOp.dirties, VmOp.acts]
  exact Iff.rfl
def FindsT (e : Env) (s : State) (f : JFrame) (a : Addr) (h : Handler) (s' : State) : Prop :=
  ∀ (Q : Handler → Pre) (E : CtlPost) (d : Bool) (acts : List Action), wp (findHandler f a) Q E e d acts s ↔ Q h d acts s'
theorem caughtT_step {s' : State} {r : List Frame} {pc : Nat} (hfind : FindsT e s f a (.found pc) s') :
    (stepThrowing e s a (.java f :: r)).Is (s'.setFrames (.java { f with pc := pc, stack := [.ref a] } :: r)) [] := by
  simp only [stepThrowing, searchFrame, vmDo]
  generalize hr : Sem.go _ e false [] s = res
  obtain ⟨as, rfl, ha⟩ := Sem.eq_ok_of hr (a := Handler.found pc) (s' := s') (acts' := []) (by simp [hfind _ _ _ _])
  exact ⟨rfl, ha⟩
theorem caughtT {tb : Tables} {target : State} {g : JFrame} {c : Code} {below : List Frame} {vm' : Vm} (h : At s g.method c below) {pc : Nat} (hfind : FindsT e ((s.setTop g).pushFrame (.throwing a)) g a (.found pc) (((s.setTop g).pushFrame (.throwing a)).setVm vm'))
    (hrest : Steps tb e below ((s.setVm vm').setTop { g with pc := pc, stack := [.ref a] }) target) :
    Steps tb e below ((s.setTop g).pushFrame (.throwing a)) target := by
  obtain ⟨hgo, hw⟩ := h.throwing a
  refine Steps.head hgo hw ?_
  rw [stepThread_throwing (frames_entered h.top _), (caughtT_step (s := (s.setTop g).pushFrame (.throwing a)) hfind).1]
  obtain ⟨g₀, hg⟩ := Option.isSome_iff_exists.mp h.top
  obtain ⟨r, hr⟩ := State.topJava?_eq_some.mp hg
  have hr' : (s.setVm vm').frames = .java g₀ :: r := hr
  rw [State.setTop_of_frames _ hr'] at hrest
  rw [State.pushFrame, State.setTop_of_frames _ hr, State.setFrames_setFrames]
  have e1 : ∀ X : List Frame, (s.setFrames X).setVm vm' = (s.setVm vm').setFrames X := fun _ => rfl
  rw [e1, State.setFrames_setFrames, hr]
  exact hrest
end CC
section CT
variable {p : Program} {l : Launch} {e : Env} {R : Room} {s : State} {m : MethodId} {args : Array Value} {below : List Frame} {meth : Method} {c : Code} {T : State} {locs : List Loc} {cells slots : Nat}
/-- one entry covers, its class is the exception's own -/
theorem catch1 (X : Stand p l e R s m args below meth c T locs cells slots) {own nm : String} (hown : s.vm.findClass own = some m.cls) {g : JFrame} (hg : g.method = m) {x : ExceptionTableEntry} {rest : List ExceptionTableEntry} (htab : c.exceptionTable.toList = x :: rest)
    (hx : covers x g.pc = true) (h0 : x.catchType ≠ 0) (hl : (Cond.classLink own x.catchType nm).before args s = true) (hcs : (Cond.castable nm nm).before args s = true) {a : Addr} {cell : Cell} (hcell : T.heap[a]? = some cell) (hst : cell.vm.isStatics = false) (hcl : T.vm.findClass nm = some cell.cls) :
    ∃ vm', Stand p l e R s m args below meth c (T.setVm vm') locs cells slots ∧ ∀ tg, Steps p.tables e below ((T.setVm vm').setTop { g with pc := x.handlerPc, stack := [.ref a] }) tg → Steps p.tables e below ((T.setTop g).pushFrame (.throwing a)) tg := by
  subst hg
  have hpl : e.platform.magicAccessors = ({} : Platform).magicAccessors := by rw [X.admits.platform]
  obtain ⟨cc, hfcc, hcl'⟩ := Cond.classLink_spec hown hl e.platform hpl
  obtain ⟨hg₁, hwarm₁, hready₁⟩ := State.classEntry (e := e) X.warmed hcl'
  generalize hvm : T.vm.noted g.method.cls x.catchType (.cls cc) = vm₁ at hg₁ hwarm₁ hready₁
  have X₁ := X.noted hwarm₁
  have hcls : cell.cls = cc := by
    rw [X.warmed.alike.findClass] at hcl
    exact Option.some.inj (hcl.symm.trans hfcc)
  obtain ⟨c3, c4, w1, w2, w3⟩ := Cond.castable_spec hcs
  cases Option.some.inj (w1.symm.trans hfcc)
  cases Option.some.inj (w2.symm.trans hfcc)
  refine ⟨vm₁, X₁, fun tg h => ?_⟩
  refine caughtT (vm' := vm₁) X.here ?_ h
  intro Q E d acts
  rw [W.findHandler_eq (meth := meth) (code := c) (by show T.vm.method? g.method = some meth; exact X.method') X.code, htab]
  rw [go_cold (s := (T.setTop g).pushFrame (.throwing a)) (vm' := vm₁) hx h0 hg₁ hready₁ (by rw [← hvm]; simp only [Vm.noted, Array.size_modify]; exact Nat.le_refl _)]
  rw [W.findHandler_go_class (s := ((T.setTop g).pushFrame (.throwing a)).setVm vm₁) (c := cc) (cell := cell) hx h0 hready₁ hcell (VmData.ne_statics_of hst) (by rw [hcls]; exact Vm.classAt_of_findClass (by show vm₁.findClass nm = some cc; rw [hwarm₁.alike.findClass]; exact hfcc)) (Vm.classAt_of_findClass (by show vm₁.findClass nm = some cc; rw [hwarm₁.alike.findClass]; exact hfcc)), if_pos (by show vm₁.assignable cell.cls cc = true; rw [hwarm₁.alike.assignable, hcls]; exact w3)]
/-- two entries cover: the first one's class isn't the exception's, the second one's is -/
theorem catch2 (X : Stand p l e R s m args below meth c T locs cells slots) {own nm nm0 : String} (hown : s.vm.findClass own = some m.cls) {g : JFrame} (hg : g.method = m) {x0 x : ExceptionTableEntry} {rest : List ExceptionTableEntry} (htab : c.exceptionTable.toList = x0 :: x :: rest)
    (hx0 : covers x0 g.pc = true) (h00 : x0.catchType ≠ 0) (hl0 : (Cond.classLink own x0.catchType nm0).before args s = true) (hnc : va_Nc nm nm0 s)
    (hx : covers x g.pc = true) (h0 : x.catchType ≠ 0) (hl : (Cond.classLink own x.catchType nm).before args s = true) (hcs : (Cond.castable nm nm).before args s = true) {a : Addr} {cell : Cell} (hcell : T.heap[a]? = some cell) (hst : cell.vm.isStatics = false) (hcl : T.vm.findClass nm = some cell.cls) :
    ∃ vm', Stand p l e R s m args below meth c (T.setVm vm') locs cells slots ∧ ∀ tg, Steps p.tables e below ((T.setVm vm').setTop { g with pc := x.handlerPc, stack := [.ref a] }) tg → Steps p.tables e below ((T.setTop g).pushFrame (.throwing a)) tg := by
  subst hg
  have hpl : e.platform.magicAccessors = ({} : Platform).magicAccessors := by rw [X.admits.platform]
  obtain ⟨c0, hfc0, hcl0⟩ := Cond.classLink_spec hown hl0 e.platform hpl
  obtain ⟨cc, hfcc, hcl'⟩ := Cond.classLink_spec hown hl e.platform hpl
  obtain ⟨hg₀, hwarm₀, hready₀⟩ := State.classEntry (e := e) X.warmed hcl0
  generalize hvm0 : T.vm.noted g.method.cls x0.catchType (.cls c0) = vm₀ at hg₀ hwarm₀ hready₀
  have X₀ := X.noted hwarm₀
  obtain ⟨hg₁, hwarm₁, hready₁⟩ := State.classEntry (e := e) X₀.warmed hcl'
  have hvms : (T.setVm vm₀).vm = vm₀ := rfl
  rw [hvms] at hg₁ hwarm₁ hready₁
  generalize hvm : vm₀.noted g.method.cls x.catchType (.cls cc) = vm₁ at hg₁ hwarm₁ hready₁
  have X₁ := X₀.noted hwarm₁
  have hcls : cell.cls = cc := by
    rw [X.warmed.alike.findClass] at hcl
    exact Option.some.inj (hcl.symm.trans hfcc)
  obtain ⟨c3, c4, w1, w2, w3⟩ := Cond.castable_spec hcs
  cases Option.some.inj (w1.symm.trans hfcc)
  cases Option.some.inj (w2.symm.trans hfcc)
  obtain ⟨c5, c6, v1, v2, v3⟩ := hnc
  cases Option.some.inj (v1.symm.trans hfcc)
  cases Option.some.inj (v2.symm.trans hfc0)
  refine ⟨vm₁, X₁, fun tg h => ?_⟩
  refine caughtT (vm' := vm₁) X.here ?_ h
  intro Q E d acts
  rw [W.findHandler_eq (meth := meth) (code := c) (by show T.vm.method? g.method = some meth; exact X.method') X.code, htab]
  rw [go_cold (s := (T.setTop g).pushFrame (.throwing a)) (vm' := vm₀) hx0 h00 hg₀ hready₀ (by rw [← hvm0]; simp only [Vm.noted, Array.size_modify]; exact Nat.le_refl _)]
  rw [W.findHandler_go_class (s := ((T.setTop g).pushFrame (.throwing a)).setVm vm₀) (c := c0) (cell := cell) hx0 h00 hready₀ hcell (VmData.ne_statics_of hst) (by rw [hcls]; exact Vm.classAt_of_findClass (by show vm₀.findClass nm = some cc; rw [hwarm₀.alike.findClass]; exact hfcc)) (Vm.classAt_of_findClass (by show vm₀.findClass nm0 = some c0; rw [hwarm₀.alike.findClass]; exact hfc0)), if_neg (by show ¬ vm₀.assignable cell.cls c0 = true; rw [hwarm₀.alike.assignable, hcls, v3]; decide)]
  rw [go_cold (s := ((T.setTop g).pushFrame (.throwing a)).setVm vm₀) (vm' := vm₁) hx h0 hg₁ hready₁ (by rw [← hvm]; simp only [Vm.noted, Array.size_modify]; exact Nat.le_refl _)]
  rw [W.findHandler_go_class (s := (((T.setTop g).pushFrame (.throwing a)).setVm vm₀).setVm vm₁) (c := cc) (cell := cell) hx h0 hready₁ hcell (VmData.ne_statics_of hst) (by rw [hcls]; exact Vm.classAt_of_findClass (by show vm₁.findClass nm = some cc; rw [hwarm₁.alike.findClass]; exact hfcc)) (Vm.classAt_of_findClass (by show vm₁.findClass nm = some cc; rw [hwarm₁.alike.findClass]; exact hfcc)), if_pos (by show vm₁.assignable cell.cls cc = true; rw [hwarm₁.alike.assignable, hcls]; exact w3)]
  exact Iff.rfl
end CT
