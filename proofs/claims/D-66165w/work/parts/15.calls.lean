/-- a method with its code among the words -/
def hasCode (y : MethodName) (bytes : ByteArray) (nL : Nat) (ret : Option FieldType) (hh : List (Nat × Nat × Nat × Nat)) : Prop := Cond.code y bytes nL ret ∈ lw_t ∧ hh = [] ∨ Cond.codeWith y bytes nL ret hh ∈ lw_t
/-- a method that can be called with n arguments -/
def cal (y : MethodName) (n : Nat) : Prop := plainFor y = true ∧ (y.cls ≠ "java/lang/invoke/MethodHandle" ∧ y.cls ≠ "java/lang/invoke/VarHandle") ∧ (parseMethodDescriptor y.desc).map (fun q => q.parameters.length) = some n ∧ ∃ bytes nL ret hh, nL ≤ 40 ∧ hasCode y bytes nL ret hh
theorem cal_spec {s : State} {y : MethodName} {n : Nat} (hw : Wds s) (h : cal y n) : ∃ (mk : MethodId) (methk : Method) (ck : Code), s.methodNamed? y = some mk ∧ s.vm.method? mk = some methk ∧ methk.code = some ck ∧ ck.maxLocals ≤ 40 ∧ methk.locks = false ∧ methk.sig.parameters.length = n ∧ s.plainMethod mk := by
  obtain ⟨hpl, hmh, hlen, bytes, nL, ret, hh, hn, hc⟩ := h
  have key : ∃ (mk : MethodId) (methk : Method) (ck : Code), s.methodNamed? y = some mk ∧ s.vm.method? mk = some methk ∧ methk.code = some ck ∧ ck.maxLocals = nL ∧ methk.locks = false ∧ parseMethodDescriptor y.desc = some methk.sig := by
    rcases hc with ⟨hc, -⟩ | hc
    · obtain ⟨mk, hnm⟩ := Cond.code_named (hw _ hc #[])
      obtain ⟨meth, c, h1, h2, h3, h4, h5, h6, h7, h8⟩ := Cond.code_spec hnm (hw _ hc #[])
      exact ⟨mk, meth, c, hnm, h1, h2, h4, h6, h8⟩
    · obtain ⟨mk, meth, c, h0, h1, h2, h3, h4, h5, h6, h7, h8⟩ := Cond.codeWith_spec (hw _ hc #[])
      exact ⟨mk, meth, c, h0, h1, h2, h4, h7, h8⟩
  obtain ⟨mk, methk, ck, h1, h2, h3, h4, h5, h6⟩ := key
  refine ⟨mk, methk, ck, h1, h2, h3, by omega, h5, ?_, State.plainMethod.of_named hpl h1 h2⟩
  rw [h6] at hlen
  exact Option.some.inj hlen
theorem map_rev {as : List Vl} {f : Vl → Value} : (as.map f).reverse = as.reverse.map f := by simp
section
variable {μ : MI} {d pc : Nat} {A rest as : List Vl} {L : List Sh} {σ : Mm} {P : Out → List Sh → Mm → Prop}
theorem okrest {w : List Vl} (h : ∀ v ∈ as.reverse ++ w, okV v) : (∀ v ∈ as, okV v) ∧ ∀ v ∈ w, okV v := ⟨fun v hv => h v (List.mem_append_left _ (List.mem_reverse.mpr hv)), fun v hv => h v (List.mem_append_right _ hv)⟩
theorem plain_moved {s U : State} {mk : MethodId} (hvm : s.vm.Alike U.vm) (h : s.plainMethod mk) : U.plainMethod mk := by
  intro k hk
  cases hk0 : s.vm.classes[mk.cls]? with
  | none => rw [hvm.none hk0] at hk; cases hk
  | some k0 =>
    obtain ⟨k', hk', he⟩ := hvm.2.2 _ _ hk0
    cases hk.symm.trans hk'
    have h0 := h k0 hk0
    rw [he]
    exact h0
/-- invokevirtual of a method that its own class selects -/
def cVm (own : String) (idx ci : Nat) (y : MethodName) (n : Nat) : Prop := cal y n ∧ Cond.methodLink own idx y ∈ lw_t ∧ Cond.instanceMethod y ∈ lw_t ∧ ∃ q : vw_C, classes[ci]? = some q ∧ Cond.selects q.1 y y ∈ lw_t
theorem g_callV {idx ci : Nat} {y : MethodName} {k : Int} {fs : List (Option Vl)} {gg : Int → Vl} (hd : decode μ.1 pc = .ok (.invokevirtual idx, 3)) (hk : look L k = some (0, ci, fs, gg)) (hc : cVm μ.2.1 idx ci y as.length) (hrest : rest.length ≤ 20)
    (E : Ex d y (vr k :: as) L σ (Aft μ (d + 1) pc 3 A rest P)) : GS μ (d + 1) pc A (as.reverse ++ vr k :: rest) L σ P := by
  intro p l e R s m args below meth c b0 b D H0 Ls H locs cells slots ls S
  intro T hT X
  subst hT
  obtain ⟨hcal, hlk, hin, q, hq, hse⟩ := hc
  have hwd : Wds s := S.1.2.2.2.2.2.2.2.2.1
  have hkn := S.1.2.2.2.2.2.2.2.2.2.1
  obtain ⟨mk, methk, ck, hnm, hmk, hck, hml, hlo, hpar, hplm⟩ := cal_spec hwd hcal
  have hy := hcal.2.1
  obtain ⟨n, rfl, hn⟩ := look_nat hk
  obtain ⟨r, h1, h2, ⟨cell, q1, q2, q3, q4⟩, h4⟩ := S.2.1.cel hn
  cases h1.symm.trans hq
  have hcls : s.vm.findClass q.1 = some cell.cls := by rw [q2]; exact (hkn.1 ci q hq).2.1
  obtain ⟨mk', methM, hnamed, hmethM, hstM, habM⟩ := Cond.instanceMethod_spec (hwd _ hin args)
  cases hnm.symm.trans hnamed
  cases hmk.symm.trans hmethM
  obtain ⟨c2, r2, m2, w1, w2, w3, w4, kP, hkP, hkPi⟩ := Cond.selects_spec (hwd _ hse args)
  cases hcls.symm.trans w1
  cases (State.methodFound?_of_named hnamed hy).symm.trans w2
  cases hnamed.symm.trans w3
  have hselP : selectMethod e.platform s.vm cell.cls mk = .method mk := by rw [Launch.admits_selectMethod X.admits]; exact w4
  have hst : (F0 m pc ls ((as.reverse ++ vr (n : Int) :: rest).map (cv b0 b))).stack = (as.map (cv b0 b)).reverse ++ .ref (b0 + n) :: rest.map (cv b0 b) := by
    show List.map (cv b0 b) (as.reverse ++ vr (n : Int) :: rest) = _
    rw [List.map_append, ← map_rev, List.map_cons]
    rfl
  obtain ⟨vm₁, X₁, hstep₁⟩ := X.invokevirtual S.1.1 S.1.2.2.1 (hwd _ hlk args) hnamed hmk hstM hkP hkPi hy (a := b0 + n) (cell := cell) q1
    (fun z h => by rw [q3] at h; cases h) hselP hmk habM hkP hkPi (g := F0 m pc ls ((as.reverse ++ vr (n : Int) :: rest).map (cv b0 b))) rfl (argsL := as.map (cv b0 b)) (rest := rest.map (cv b0 b)) (by rw [List.length_map]; exact hpar.symm) hst (by rw [S.1.2.1]; exact hd)
  have hok := okrest S.2.2.2.2.2.2.2
  have hal : s.vm.Alike vm₁ := X₁.warmed.alike
  obtain ⟨t, ht, hq'⟩ := call_fin X₁ ⟨S.1, S.2.1, S.2.2.1, S.2.2.2.1, S.2.2.2.2.1, S.2.2.2.2.2.1, S.2.2.2.2.2.2.1, okt hok.2⟩ hrest hd (X₁.named hnamed) (by show vm₁.method? mk = _; rw [hal.method?]; exact hmk) hck hlo (plain_moved hal hplm) hml (ok1 hok.1 (okh hok.2)) E
  exact ⟨t, hstep₁ t (fun acts => ht acts), hq'⟩
/-- invokestatic -/
def cSm (own : String) (idx : Nat) (y : MethodName) (n : Nat) : Prop := cal y n ∧ Cond.methodLink own idx y ∈ lw_t ∧ Cond.static y ∈ lw_t ∧ Cond.initialized y.cls ∈ lw_t
theorem g_callS {idx : Nat} {y : MethodName} (hd : decode μ.1 pc = .ok (.invokestatic idx, 3)) (hc : cSm μ.2.1 idx y as.length) (hrest : rest.length ≤ 20)
    (E : Ex d y as L σ (Aft μ (d + 1) pc 3 A rest P)) : GS μ (d + 1) pc A (as.reverse ++ rest) L σ P := by
  intro p l e R s m args below meth c b0 b D H0 Ls H locs cells slots ls S
  intro T hT X
  subst hT
  obtain ⟨hcal, hlk, hstt, hini⟩ := hc
  have hwd : Wds s := S.1.2.2.2.2.2.2.2.2.1
  obtain ⟨mk, methk, ck, hnm, hmk, hck, hml, hlo, hpar, hplm⟩ := cal_spec hwd hcal
  have hy := hcal.2.1
  have hstatic : methk.isStatic = true := Cond.static_spec hnm hmk (hwd _ hstt args)
  obtain ⟨kP, hkP, -⟩ := className_of_methodNamed hnm
  have hinitP : kP.init = .initialized := Cond.initialized_spec (findClass_of_methodNamed hnm) hkP (hwd _ hini args)
  have hst : (F0 m pc ls ((as.reverse ++ rest).map (cv b0 b))).stack = (as.map (cv b0 b)).reverse ++ rest.map (cv b0 b) := by
    show List.map (cv b0 b) (as.reverse ++ rest) = _
    rw [List.map_append, ← map_rev]
  obtain ⟨vm₁, X₁, hstep₁⟩ := X.invokestatic S.1.1 S.1.2.2.1 (hwd _ hlk args) hnm hmk hstatic hkP hinitP hy (g := F0 m pc ls ((as.reverse ++ rest).map (cv b0 b))) rfl (argsL := as.map (cv b0 b)) (rest := rest.map (cv b0 b)) (by rw [List.length_map]; exact hpar.symm) hst (by rw [S.1.2.1]; exact hd)
  have hok := okrest S.2.2.2.2.2.2.2
  have hal : s.vm.Alike vm₁ := X₁.warmed.alike
  obtain ⟨t, ht, hq'⟩ := call_fin X₁ ⟨S.1, S.2.1, S.2.2.1, S.2.2.2.1, S.2.2.2.2.1, S.2.2.2.2.2.1, S.2.2.2.2.2.2.1, hok.2⟩ hrest hd (X₁.named hnm) (by show vm₁.method? mk = _; rw [hal.method?]; exact hmk) hck hlo (plain_moved hal hplm) hml hok.1 E
  exact ⟨t, hstep₁ t (fun acts => ht acts), hq'⟩
/-- invokespecial of a constructor -/
def cIm (own : String) (idx : Nat) (y : MethodName) (n : Nat) : Prop := (plainFor y = true ∧ (y.cls ≠ "java/lang/invoke/MethodHandle" ∧ y.cls ≠ "java/lang/invoke/VarHandle") ∧ (parseMethodDescriptor y.desc).map (fun q => q.parameters.length) = some n ∧ ∃ bytes nL, nL ≤ 40 ∧ Cond.code y bytes nL none ∈ lw_t) ∧ y.name = "<init>" ∧ (Cond.methodLink own idx y ∈ lw_t ∨ ∃ host, Cond.methodLinkNest own idx y host ∈ lw_t) ∧ Cond.instanceMethod y ∈ lw_t
theorem g_callI {idx : Nat} {y : MethodName} {k : Int} (hd : decode μ.1 pc = .ok (.invokespecial idx, 3)) (hk0 : 0 ≤ k) (hc : cIm μ.2.1 idx y as.length) (hrest : rest.length ≤ 20)
    (E : Ex d y (vr k :: as) L σ (Aft μ (d + 1) pc 3 A rest P)) : GS μ (d + 1) pc A (as.reverse ++ vr k :: rest) L σ P := by
  intro p l e R s m args below meth c b0 b D H0 Ls H locs cells slots ls S
  intro T hT X
  subst hT
  obtain ⟨⟨hpln, hy, hlen, bytes, nL, hnL, hcode⟩, hy1, hlk, hin⟩ := hc
  have hwd : Wds s := S.1.2.2.2.2.2.2.2.2.1
  have hpl : e.platform.magicAccessors = ({} : Platform).magicAccessors := by rw [X.admits.platform]
  have hst : (F0 m pc ls ((as.reverse ++ vr k :: rest).map (cv b0 b))).stack = (as.map (cv b0 b)).reverse ++ .ref (b0 + k.toNat) :: rest.map (cv b0 b) := by
    show List.map (cv b0 b) (as.reverse ++ vr k :: rest) = _
    rw [List.map_append, ← map_rev, List.map_cons]
    rfl
  have hle : ∀ sig, parseMethodDescriptor y.desc = some sig → (as.map (cv b0 b)).length = sig.parameters.length := by
    intro sig hs
    rw [hs] at hlen
    rw [List.length_map]
    exact (Option.some.inj hlen).symm
  have key : ∃ (mk : MethodId) (methM : Method) (cM : Code) (kP : Class) (vm₁ : Vm), s.methodNamed? y = some mk ∧ s.vm.method? mk = some methM ∧ methM.code = some cM ∧ cM.maxLocals = nL ∧ methM.locks = false ∧ s.vm.classes[mk.cls]? = some kP ∧ kP.name = y.cls ∧ s.WarmedH vm₁ ∧
      ∀ target, (∀ acts, Steps p.tables e below (doInvoke e ((T.setVm vm₁).setTop { (F0 m pc ls ((as.reverse ++ vr k :: rest).map (cv b0 b))) with stack := rest.map (cv b0 b) }) acts mk (.ref (b0 + k.toNat) :: as.map (cv b0 b)).toArray).1 target) → Steps p.tables e below (T.setTop (F0 m pc ls ((as.reverse ++ vr k :: rest).map (cv b0 b)))) target := by
    rcases hlk with hlk | ⟨host, hlk⟩
    · obtain ⟨mk, methM, cM, kP, vm₁, z1, z2, z3, -, z4, z5, z6, z7, z8, z9⟩ := Steps.initColdArgs (e := e) X.here S.1.1 X.warmed hpl S.1.2.2.1 hy1 hy (hwd _ hlk args) (hwd _ hin args) (hwd _ hcode args) (f := F0 m pc ls ((as.reverse ++ vr k :: rest).map (cv b0 b))) rfl hle hst (by rw [S.1.2.1]; exact hd)
      exact ⟨mk, methM, cM, kP, vm₁, z1, z2, z3, z4, z5, z6, z7, z8, z9⟩
    · obtain ⟨mk, methM, cM, kP, vm₁, z1, z2, z3, -, z4, z5, z6, z7, z8, z9⟩ := Steps.initColdArgsNest (e := e) X.here S.1.1 X.warmed hpl S.1.2.2.1 hy1 hy (hwd _ hlk args) (hwd _ hin args) (hwd _ hcode args) (f := F0 m pc ls ((as.reverse ++ vr k :: rest).map (cv b0 b))) rfl hle hst (by rw [S.1.2.1]; exact hd)
      exact ⟨mk, methM, cM, kP, vm₁, z1, z2, z3, z4, z5, z6, z7, z8, z9⟩
  obtain ⟨mk, methk, ck, kP, vm₁, hnm, hmk, hck, hml, hlo, hkP, hkPn, hW₁, hstep₁⟩ := key
  have X₁ := X.noted hW₁
  have hok := okrest S.2.2.2.2.2.2.2
  have hal : s.vm.Alike vm₁ := X₁.warmed.alike
  have hplm : s.plainMethod mk := State.plainMethod.of_named hpln hnm hmk
  obtain ⟨t, ht, hq'⟩ := call_fin X₁ ⟨S.1, S.2.1, S.2.2.1, S.2.2.2.1, S.2.2.2.2.1, S.2.2.2.2.2.1, S.2.2.2.2.2.2.1, okt hok.2⟩ hrest hd (X₁.named hnm) (by show vm₁.method? mk = _; rw [hal.method?]; exact hmk) hck hlo (plain_moved hal hplm) (by omega) (ok1 hok.1 (okh hok.2)) E
  exact ⟨t, hstep₁ t (fun acts => ht acts), hq'⟩
/-- invokevirtual through an abstract method x; the receiver's class selects y -/
def cUm (own : String) (idx ci : Nat) (x y : MethodName) (n : Nat) : Prop := cal y n ∧ Cond.methodLink own idx x ∈ lw_t ∧ Cond.sameMethod x.cls x.cls x.name x.desc ∈ lw_t ∧ Cond.declares x ∈ lw_t ∧ Cond.instanceMethod y ∈ lw_t ∧ (x.cls ≠ "java/lang/invoke/MethodHandle" ∧ x.cls ≠ "java/lang/invoke/VarHandle") ∧ (parseMethodDescriptor x.desc).map (fun q => q.parameters.length) = some n ∧ ∃ q : vw_C, classes[ci]? = some q ∧ Cond.selects q.1 x y ∈ lw_t
theorem g_callU {idx ci : Nat} {x y : MethodName} {k : Int} {fs : List (Option Vl)} {gg : Int → Vl} (hd : decode μ.1 pc = .ok (.invokevirtual idx, 3)) (hk : look L k = some (0, ci, fs, gg)) (hc : cUm μ.2.1 idx ci x y as.length) (hrest : rest.length ≤ 20)
    (E : Ex d y (vr k :: as) L σ (Aft μ (d + 1) pc 3 A rest P)) : GS μ (d + 1) pc A (as.reverse ++ vr k :: rest) L σ P := by
  intro p l e R s m args below meth c b0 b D H0 Ls H locs cells slots ls S
  intro T hT X
  subst hT
  obtain ⟨hcal, hlk, hsam, hdec, hin, hxm, hxn, q, hq, hse⟩ := hc
  have hwd : Wds s := S.1.2.2.2.2.2.2.2.2.1
  have hkn := S.1.2.2.2.2.2.2.2.2.2.1
  obtain ⟨mk, methk, ck, hnm, hmk, hck, hml, hlo, hpar, hplm⟩ := cal_spec hwd hcal
  obtain ⟨n, rfl, hn⟩ := look_nat hk
  obtain ⟨r, h1, h2, ⟨cell, q1, q2, q3, q4⟩, h4⟩ := S.2.1.cel hn
  cases h1.symm.trans hq
  have hcls : s.vm.findClass q.1 = some cell.cls := by rw [q2]; exact (hkn.1 ci q hq).2.1
  obtain ⟨r0, rr, hxn0, hrm, hstR, hsigR⟩ := Cond.declares_spec (hwd _ hdec args)
  obtain ⟨cn, ckk, r1, hcn, hckk, hni, hf, hn1⟩ := Cond.sameMethod_found (hwd _ hsam args)
  cases hxn0.symm.trans hn1
  obtain ⟨mk', methM, hnamed, hmethM, -, habM⟩ := Cond.instanceMethod_spec (hwd _ hin args)
  cases hnm.symm.trans hnamed
  cases hmk.symm.trans hmethM
  obtain ⟨c2, r2, m2, w1, w2, w3, w4, kP, hkP, hkPi⟩ := Cond.selects_spec (hwd _ hse args)
  cases hcls.symm.trans w1
  cases hf.symm.trans w2
  cases hnamed.symm.trans w3
  have hselP : selectMethod e.platform s.vm cell.cls r0 = .method mk := by rw [Launch.admits_selectMethod X.admits]; exact w4
  have hst : (F0 m pc ls ((as.reverse ++ vr (n : Int) :: rest).map (cv b0 b))).stack = (as.map (cv b0 b)).reverse ++ .ref (b0 + n) :: rest.map (cv b0 b) := by
    show List.map (cv b0 b) (as.reverse ++ vr (n : Int) :: rest) = _
    rw [List.map_append, ← map_rev, List.map_cons]
    rfl
  have hlx : (as.map (cv b0 b)).length = rr.sig.parameters.length := by
    rw [hsigR] at hxn
    rw [List.length_map]
    exact (Option.some.inj hxn).symm
  obtain ⟨vm₁, X₁, hstep₁⟩ := X.invokevirtualUp S.1.1 S.1.2.2.1 (hwd _ hlk args) (hwd _ hsam args) hxm hxn0 hrm hstR (a := b0 + n) (cell := cell) q1
    (fun z h => by rw [q3] at h; cases h) hselP hmk habM hkP hkPi (g := F0 m pc ls ((as.reverse ++ vr (n : Int) :: rest).map (cv b0 b))) rfl (argsL := as.map (cv b0 b)) (rest := rest.map (cv b0 b)) hlx hst (by rw [S.1.2.1]; exact hd)
  have hok := okrest S.2.2.2.2.2.2.2
  have hal : s.vm.Alike vm₁ := X₁.warmed.alike
  obtain ⟨t, ht, hq'⟩ := call_fin X₁ ⟨S.1, S.2.1, S.2.2.1, S.2.2.2.1, S.2.2.2.2.1, S.2.2.2.2.2.1, S.2.2.2.2.2.2.1, okt hok.2⟩ hrest hd (X₁.named hnamed) (by show vm₁.method? mk = _; rw [hal.method?]; exact hmk) hck hlo (plain_moved hal hplm) hml (ok1 hok.1 (okh hok.2)) E
  exact ⟨t, hstep₁ t (fun acts => ht acts), hq'⟩
/-- invokeinterface -/
def cFm (own : String) (idx ci : Nat) (x y : MethodName) (n : Nat) : Prop := cal y n ∧ Cond.methodLink own idx x ∈ lw_t ∧ Cond.declares x ∈ lw_t ∧ Cond.interfaceMethod x.cls x.cls x.name x.desc ∈ lw_t ∧ Cond.instanceMethod y ∈ lw_t ∧ Cond.publicMethod y ∈ lw_t ∧ (x.cls ≠ "java/lang/invoke/MethodHandle" ∧ x.cls ≠ "java/lang/invoke/VarHandle") ∧ (parseMethodDescriptor x.desc).map (fun q => q.parameters.length) = some n ∧ ∃ q : vw_C, classes[ci]? = some q ∧ Cond.selects q.1 x y ∈ lw_t ∧ Cond.unhidden q.1 x.name x.desc ∈ lw_t ∧ Cond.castable q.1 x.cls ∈ lw_t
theorem g_callF {idx cnt ci : Nat} {x y : MethodName} {k : Int} {fs : List (Option Vl)} {gg : Int → Vl} (hd : decode μ.1 pc = .ok (.invokeinterface idx cnt, 5)) (hk : look L k = some (0, ci, fs, gg)) (hc : cFm μ.2.1 idx ci x y as.length) (hrest : rest.length ≤ 20)
    (E : Ex d y (vr k :: as) L σ (Aft μ (d + 1) pc 5 A rest P)) : GS μ (d + 1) pc A (as.reverse ++ vr k :: rest) L σ P := by
  intro p l e R s m args below meth c b0 b D H0 Ls H locs cells slots ls S
  intro T hT X
  subst hT
  obtain ⟨hcal, hlk, hdec, hfac, hin, hpub, hxm, hxn, q, hq, hse, hunh, hcast⟩ := hc
  have hwd : Wds s := S.1.2.2.2.2.2.2.2.2.1
  have hkn := S.1.2.2.2.2.2.2.2.2.2.1
  obtain ⟨mk, methk, ck, hnm, hmk, hck, hml, hlo, hpar, hplm⟩ := cal_spec hwd hcal
  obtain ⟨n, rfl, hn⟩ := look_nat hk
  obtain ⟨r, h1, h2, ⟨cell, q1, q2, q3, q4⟩, h4⟩ := S.2.1.cel hn
  cases h1.symm.trans hq
  have hcls : s.vm.findClass q.1 = some cell.cls := by rw [q2]; exact (hkn.1 ci q hq).2.1
  obtain ⟨-, hCA⟩ := hkn.1 ci q hq
  obtain ⟨-, kB, hkB, -⟩ := hCA
  rw [← q2] at hkB
  obtain ⟨r0, rr, hxn0, hrm, hstR, hsigR⟩ := Cond.declares_spec (hwd _ hdec args)
  obtain ⟨cL, kL, r1, hcL, hkL, hiL, hfoundL, hn1⟩ := Cond.interfaceMethod_spec (hwd _ hfac args)
  cases hxn0.symm.trans hn1
  have hr0cls : r0.cls = cL := Option.some.inj ((findClass_of_methodNamed hxn0).symm.trans hcL)
  obtain ⟨hnameR, hdescR⟩ := name_of_methodNamed hxn0 hrm
  obtain ⟨mk', methM, hnamed, hmethM, -, habM⟩ := Cond.instanceMethod_spec (hwd _ hin args)
  cases hnm.symm.trans hnamed
  cases hmk.symm.trans hmethM
  obtain ⟨c2, r2, m2, w1, w2, w3, w4, -⟩ := Cond.selects_spec (hwd _ hse args)
  cases hcls.symm.trans w1
  cases hfoundL.symm.trans w2
  cases hnamed.symm.trans w3
  have hselP : selectMethod e.platform s.vm cell.cls r0 = .method mk := by rw [Launch.admits_selectMethod X.admits]; exact w4
  have hpubM : hasFlag methk.accessFlags Acc.public_ = true := Cond.publicMethod_spec hnamed hmk (hwd _ hpub args)
  have hway : ((cell.cls :: s.vm.superclasses cell.cls).any fun k => (declaredIn s.vm rr.name rr.desc k).any fun (_, z) => z.isPrivate || z.isStatic) = false := by
    rw [hnameR, hdescR]; exact Cond.unhidden_spec hcls (hwd _ hunh args)
  obtain ⟨c3, t3, v1, v2, v3⟩ := Cond.castable_spec (hwd _ hcast args)
  cases hcls.symm.trans v1
  cases hcL.symm.trans v2
  have hst : (F0 m pc ls ((as.reverse ++ vr (n : Int) :: rest).map (cv b0 b))).stack = (as.map (cv b0 b)).reverse ++ .ref (b0 + n) :: rest.map (cv b0 b) := by
    show List.map (cv b0 b) (as.reverse ++ vr (n : Int) :: rest) = _
    rw [List.map_append, ← map_rev, List.map_cons]
    rfl
  have hlx : (as.map (cv b0 b)).length = rr.sig.parameters.length := by
    rw [hsigR] at hxn
    rw [List.length_map]
    exact (Option.some.inj hxn).symm
  obtain ⟨vm₁, X₁, hstep₁⟩ := X.invokeinterface S.1.1 S.1.2.2.1 (hwd _ hlk args) hxn0 hrm hstR (by rw [hr0cls]; exact hkL) hiL hxm (a := b0 + n) (cell := cell) (kcell := kB) q1
    (fun z h => by rw [q3] at h; cases h) hkB (by rw [hr0cls]; exact v3) hselP hmk hway hpubM habM (g := F0 m pc ls ((as.reverse ++ vr (n : Int) :: rest).map (cv b0 b))) rfl (argsL := as.map (cv b0 b)) (rest := rest.map (cv b0 b)) hlx hst (by rw [S.1.2.1]; exact hd)
  have hok := okrest S.2.2.2.2.2.2.2
  have hal : s.vm.Alike vm₁ := X₁.warmed.alike
  obtain ⟨t, ht, hq'⟩ := call_fin X₁ ⟨S.1, S.2.1, S.2.2.1, S.2.2.2.1, S.2.2.2.2.1, S.2.2.2.2.2.1, S.2.2.2.2.2.2.1, okt hok.2⟩ hrest hd (X₁.named hnamed) (by show vm₁.method? mk = _; rw [hal.method?]; exact hmk) hck hlo (plain_moved hal hplm) hml (ok1 hok.1 (okh hok.2)) E
  exact ⟨t, hstep₁ t (fun acts => ht acts), hq'⟩
end
