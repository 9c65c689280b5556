section
variable {E : CtlPost} {e : Env} {d : Bool} {acts : List Action} {s : State} {f : JFrame} {a : Addr} {Q : Handler → Pre}
theorem go_cold {x : ExceptionTableEntry} {t : List ExceptionTableEntry} {c : ClassId} {vm' : Vm} {cell : Cell} (hx : covers x f.pc = true) (h0 : x.catchType ≠ 0)
    (hg : (Jvm.resolveClass f.method.cls x.catchType).Gives e.toSetting s.vm (.ok c) vm') (hsz : vm'.classes.size ≤ s.vm.classes.size) (hcell : s.heap[a]? = some cell) (hobj : ∀ k, cell.vm ≠ .statics k)
    (hk : ∃ k, vm'.classes[cell.cls]? = some k) (hc : ∃ k, vm'.classes[c]? = some k) :
    wp (findHandler.go f a (x :: t)) Q E e d acts s ↔
      if vm'.assignable cell.cls c = true then Q (.found x.handlerPc) d acts (s.setVm vm') else wp (findHandler.go f a t) Q E e d acts (s.setVm vm') := by
  simp only [covers] at hx
  obtain ⟨ha, ht⟩ := hg.op (op := VmOp.resolveClass f.method.cls x.catchType) rfl
  cases hfit : vm'.assignable cell.cls c <;>
    simp [findHandler.go, hx, h0, ha, ht, hsz, hcell, hobj, hk, hc, hfit, VmOp.dirties, VmOp.acts]
end
/-- the search ends in a handler; the tables have warmed -/
theorem step_catch {e : Env} {s s' : State} {a : Addr} {f : JFrame} {r : List Frame} {pc : Nat} (hfind : ∀ (Q : Handler → Pre) (E : CtlPost) (d : Bool) (acts : List Action), wp (findHandler f a) Q E e d acts s ↔ Q (.found pc) d acts s') :
    (stepThrowing e s a (.java f :: r)).Is (s'.setFrames (.java { f with pc := pc, stack := [.ref a] } :: r)) [] := by
  simp only [stepThrowing, searchFrame, vmDo]
  generalize hr : Sem.go _ e false [] s = res
  obtain ⟨as, rfl, ha⟩ := Sem.eq_ok_of hr (a := Handler.found pc) (s' := s') (acts' := []) (by simp [hfind _ _ _ _])
  exact ⟨rfl, ha⟩
theorem steps_caught {tb : Tables} {e : Env} {s target : State} {vm' : Vm} {g : JFrame} {c : Code} {below : List Frame} {a : Addr} {pc : Nat} (h : At s g.method c below)
    (hfind : ∀ (Q : Handler → Pre) (E : CtlPost) (d : Bool) (acts : List Action), wp (findHandler g a) Q E e d acts ((s.setTop g).pushFrame (.throwing a)) ↔ Q (.found pc) d acts (((s.setTop g).pushFrame (.throwing a)).setVm vm'))
    (hrest : Steps tb e below ((s.setVm vm').setTop { g with pc := pc, stack := [.ref a] }) target) : Steps tb e below ((s.setTop g).pushFrame (.throwing a)) target := by
  obtain ⟨hgo, hw⟩ := h.throwing a
  refine Steps.head hgo hw ?_
  rw [stepThread_throwing (frames_entered h.top _), (step_catch hfind).1]
  obtain ⟨g₀, hg⟩ := Option.isSome_iff_exists.mp h.top
  obtain ⟨r, hr⟩ := State.topJava?_eq_some.mp hg
  have hr' : (s.setVm vm').frames = .java g₀ :: r := hr
  have e1 : (((s.setTop g).pushFrame (.throwing a)).setVm vm').setFrames (.java { g with pc := pc, stack := [.ref a] } :: s.frames.tail) = (s.setVm vm').setTop { g with pc := pc, stack := [.ref a] } := by
    rw [State.setTop_of_frames _ hr', hr]
    show (((s.setTop g).pushFrame (.throwing a)).setFrames _).setVm vm' = (s.setFrames _).setVm vm'
    rw [State.pushFrame, State.setFrames_setFrames, State.setTop_of_frames _ hr, State.setFrames_setFrames]
    rfl
  rw [e1]
  exact hrest
section
variable {p : Program} {l : Launch} {e : Env} {R : Room} {s : State} {m : MethodId} {args : Array Value} {below : List Frame} {meth : Method} {c : Code} {T : State} {locs : List Loc} {cells slots : Nat}
/-- caught by the first entry of the table -/
theorem catch1 (X : Stand p l e R s m args below meth c T locs cells slots) {g : JFrame} (hg : g.method = m) {a : Addr} {cell : Cell} (hcell : T.heap[a]? = some cell) (hobj : ∀ k, cell.vm ≠ .statics k)
    {own N C : String} (hown : s.vm.findClass own = some m.cls) {x : ExceptionTableEntry} {rest : List ExceptionTableEntry} (htab : c.exceptionTable.toList = x :: rest) (hx : covers x g.pc = true) (h0 : x.catchType ≠ 0)
    (hl : (Cond.classLink own x.catchType N).before args s = true) (hcls : s.vm.findClass C = some cell.cls) (hca : (Cond.castable C N).before args s = true) :
    ∃ vm', Stand p l e R s m args below meth c (T.setVm vm') locs cells slots ∧ ∀ target, Steps p.tables e below ((T.setVm vm').setTop { g with pc := x.handlerPc, stack := [.ref a] }) target → Steps p.tables e below ((T.setTop g).pushFrame (.throwing a)) target := by
  subst hg
  have hpl : e.platform.magicAccessors = ({} : Platform).magicAccessors := by rw [X.admits.platform]
  obtain ⟨cN, hfN, hcl⟩ := Cond.classLink_spec hown hl e.platform hpl
  obtain ⟨hg₁, hwarm₁, hready₁⟩ := State.classEntry (e := e) X.warmed hcl
  have hsz : (T.vm.noted g.method.cls x.catchType (.cls cN)).classes.size ≤ T.vm.classes.size := by no_record
  generalize T.vm.noted g.method.cls x.catchType (.cls cN) = vm₁ at hg₁ hwarm₁ hready₁ hsz
  have hal : s.vm.Alike vm₁ := hwarm₁.alike
  obtain ⟨c3, t3, w1, w2, w3⟩ := Cond.castable_spec hca
  cases hcls.symm.trans w1
  cases hfN.symm.trans w2
  obtain ⟨kc, hkc⟩ := Vm.classAt_of_findClass hcls
  obtain ⟨kn, hkn⟩ := Vm.classAt_of_findClass hfN
  obtain ⟨kc', hkc', -⟩ := hal.2.2 _ _ hkc
  obtain ⟨kn', hkn', -⟩ := hal.2.2 _ _ hkn
  refine ⟨vm₁, X.noted hwarm₁, fun target hrest => steps_caught X.here (fun Q E d acts => ?_) hrest⟩
  rw [W.findHandler_eq (meth := meth) (code := c) (by rw [Stand.throwing_vm]; exact X.method') X.code, htab]
  rw [go_cold hx h0 (by rw [Stand.throwing_vm]; exact hg₁) (by rw [Stand.throwing_vm]; exact hsz) (by rw [Stand.throwing_heap]; exact hcell) hobj ⟨_, hkc'⟩ ⟨_, hkn'⟩, if_pos (by rw [hal.assignable]; exact w3)]
/-- caught by the second entry, the first one passed -/
theorem catch2 (X : Stand p l e R s m args below meth c T locs cells slots) {g : JFrame} (hg : g.method = m) {a : Addr} {cell : Cell} (hcell : T.heap[a]? = some cell) (hobj : ∀ k, cell.vm ≠ .statics k)
    {own N N2 C : String} (hown : s.vm.findClass own = some m.cls) {x x2 : ExceptionTableEntry} {rest : List ExceptionTableEntry} (htab : c.exceptionTable.toList = x :: x2 :: rest) (hx : covers x g.pc = true) (h0 : x.catchType ≠ 0) (hx2 : covers x2 g.pc = true) (h02 : x2.catchType ≠ 0)
    (hl : (Cond.classLink own x.catchType N).before args s = true) (hl2 : (Cond.classLink own x2.catchType N2).before args s = true) (hcls : s.vm.findClass C = some cell.cls) (hno : va_Nc C N s) (hca : (Cond.castable C N2).before args s = true) :
    ∃ vm', Stand p l e R s m args below meth c (T.setVm vm') locs cells slots ∧ ∀ target, Steps p.tables e below ((T.setVm vm').setTop { g with pc := x2.handlerPc, stack := [.ref a] }) target → Steps p.tables e below ((T.setTop g).pushFrame (.throwing a)) target := by
  subst hg
  have hpl : e.platform.magicAccessors = ({} : Platform).magicAccessors := by rw [X.admits.platform]
  obtain ⟨cN, hfN, hcl⟩ := Cond.classLink_spec hown hl e.platform hpl
  obtain ⟨cN2, hfN2, hcl2⟩ := Cond.classLink_spec hown hl2 e.platform hpl
  obtain ⟨hg₁, hwarm₁, hready₁⟩ := State.classEntry (e := e) X.warmed hcl
  have hsz : (T.vm.noted g.method.cls x.catchType (.cls cN)).classes.size ≤ T.vm.classes.size := by no_record
  generalize T.vm.noted g.method.cls x.catchType (.cls cN) = vm₁ at hg₁ hwarm₁ hready₁ hsz
  obtain ⟨hg₂, hwarm₂, hready₂⟩ := State.classEntry (e := e) hwarm₁ hcl2
  have hsz2 : (vm₁.noted g.method.cls x2.catchType (.cls cN2)).classes.size ≤ vm₁.classes.size := by no_record
  generalize vm₁.noted g.method.cls x2.catchType (.cls cN2) = vm₂ at hg₂ hwarm₂ hready₂ hsz2
  have hal : s.vm.Alike vm₁ := hwarm₁.alike
  have hal2 : s.vm.Alike vm₂ := hwarm₂.alike
  obtain ⟨c3, t3, w1, w2, w3⟩ := Cond.castable_spec hca
  cases hcls.symm.trans w1
  cases hfN2.symm.trans w2
  obtain ⟨c4, t4, v1, v2, v3⟩ := hno
  cases hcls.symm.trans v1
  cases hfN.symm.trans v2
  obtain ⟨kc, hkc⟩ := Vm.classAt_of_findClass hcls
  obtain ⟨kn, hkn⟩ := Vm.classAt_of_findClass hfN
  obtain ⟨kn2, hkn2⟩ := Vm.classAt_of_findClass hfN2
  obtain ⟨kc', hkc', -⟩ := hal.2.2 _ _ hkc
  obtain ⟨kn', hkn', -⟩ := hal.2.2 _ _ hkn
  obtain ⟨kc'', hkc'', -⟩ := hal2.2.2 _ _ hkc
  obtain ⟨kn'', hkn'', -⟩ := hal2.2.2 _ _ hkn2
  refine ⟨vm₂, X.noted hwarm₂, fun target hrest => steps_caught X.here (fun Q E d acts => ?_) hrest⟩
  rw [W.findHandler_eq (meth := meth) (code := c) (by rw [Stand.throwing_vm]; exact X.method') X.code, htab]
  rw [go_cold hx h0 (by rw [Stand.throwing_vm]; exact hg₁) (by rw [Stand.throwing_vm]; exact hsz) (by rw [Stand.throwing_heap]; exact hcell) hobj ⟨_, hkc'⟩ ⟨_, hkn'⟩, if_neg (by rw [hal.assignable, v3]; decide)]
  rw [go_cold hx2 h02 (vm' := vm₂) hg₂ hsz2 (by rw [State.heap_setVm, Stand.throwing_heap]; exact hcell) hobj ⟨_, hkc''⟩ ⟨_, hkn''⟩, if_pos (by rw [hal2.assignable]; exact w3)]
  rfl
end
