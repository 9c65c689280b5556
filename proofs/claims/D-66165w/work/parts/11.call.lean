section
variable {p : Program} {l : Launch} {e : Env} {R : Room} {s : State} {m : MethodId} {args : Array Value} {below : List Frame} {meth : Method} {c : Code} {T : State} {locs : List Loc} {cells slots : Nat}
theorem st_weak {mid below : List Frame} {a b : State} (h : Steps p.tables e (mid ++ below) a b) : Steps p.tables e below a b := by
  obtain ⟨n, hn, w⟩ := h
  exact ⟨n, hn, fun k hk => (w k hk).weaken⟩
/-- where a call comes back to -/
def backTo (g : JFrame) (len : Nat) (T' : State) (o : Outcome) : State := match o with
  | .returned v => T'.setTop { g with pc := g.pc + len, stack := v.toList ++ g.stack }
  | .threw x => (T'.setTop g).pushFrame (.throwing x)
theorem celOK.vm {b0 b : Nat} {D : va_G} {sh : Sh} {f : Int → Int} {H : Heap} {a : Nat} (h : celOK b0 b D sh f H a) : ∃ cell : Cell, H[a]? = some cell ∧ cell.vm = .none := by
  obtain ⟨kd, n, fs, g⟩ := sh
  match kd, h with
  | 0, h =>
    obtain ⟨r, h1, h2, ⟨cell, q1, q2, q3, q4⟩, h4⟩ := h
    exact ⟨cell, q1, q3⟩
  | 1, h => exact ⟨_, h.1, rfl⟩
  | 2, h => exact ⟨_, h.1, rfl⟩
  | 3, h => exact ⟨_, h.1, rfl⟩
  | 4, h => exact ⟨_, h.1, rfl⟩
  | 5, h => exact ⟨_, h.1, rfl⟩
  | 7, h =>
    obtain ⟨cell, h1, h2, h3⟩ := h
    exact ⟨cell, h1, h3⟩
theorem Rel.stat {b0 b : Nat} {D : va_G} {H0 : Heap} {L : List Sh} {σ : Mm} {H : Heap} (h : Rel b0 b D H0 L σ H) {a : Nat} {cell : Cell} (ha : H[a]? = some cell) (hs : cell.vm.isStatics = true) : a < b0 ∧ H0[a]? = some cell := by
  have hlt : a < b0 := by
    rcases Nat.lt_or_ge a b0 with q | q
    · exact q
    · exfalso
      have hz : a < H.size := (Array.getElem?_eq_some_iff.mp ha).1
      have hk : a - b0 < L.length := by have := h.1; omega
      obtain ⟨cell', h1, h2⟩ := (h.cel (List.getElem?_eq_getElem hk)).vm
      rw [show b0 + (a - b0) = a by omega] at h1
      cases ha.symm.trans h1
      rw [h2] at hs
      cases hs
  exact ⟨hlt, by rw [← h.2.2.1 a hlt]; exact ha⟩
theorem Nrw.moved {e : Env} {b0 b : Nat} {D : va_G} {H0 : Heap} {s U : State} {L : List Sh} {σ : Mm} (hvm : s.vm.Alike U.vm) (hR : Rel b0 b D H0 L σ U.heap) (h : Nrw e b0 H0 s) : Nrw e b0 H0 U := by
  obtain ⟨h1, h2, h3, h4⟩ := h
  refine ⟨h1, fun q hq => (h2 q hq).moved hvm, fun V hV hs w hw A => h3 V (hvm.trans hV) (fun a cell ha hst => ?_) w hw A, fun a cell ha hs => hR.stat ha hs⟩
  obtain ⟨q1, q2⟩ := h4 a cell ha hst
  exact hs a cell (by rw [hR.2.2.1 a q1]; exact q2) hst
theorem ex_into (X : Stand p l e R s m args below meth c T locs cells slots) {μ : MI} {d b0 b : Nat} {D : va_G} {H0 : Heap} {Ls L : List Sh} {σ : Mm} (C : Cx μ (d + 1) p e R s m meth c b0 b D H0 Ls) (hRel : Rel b0 b D H0 L σ T.heap) (hc : cells + Ls.length = L.length) (hsl : slots + slt Ls = slt L)
    {g : JFrame} (hg : g.method = m) (hsize : g.locals.size = c.maxLocals) (hmon : g.monitorRoom = 0) (hst : (g.stack.map fun v => v.category).sum ≤ 40) {ig : Instr} {len : Nat} (hdg : decode c.code g.pc = .ok (ig, len))
    {y : MethodName} {mk : MethodId} {methk : Method} {ck : Code} {as : List Vl} {P : Out → List Sh → Mm → Prop} (hn : T.methodNamed? y = some mk) (hmk : T.vm.method? mk = some methk) (hck : methk.code = some ck) (hlk : methk.locks = false) (hpk : T.plainMethod mk) (hml : ck.maxLocals ≤ 40) (hok : ∀ v ∈ as, okV v) (E : Ex d y as L σ P) :
    ∃ (o : Out) (L' : List Sh) (σ' : Mm) (T' : State) (Lc : List Loc) (k n : Nat), Stand p l e R s m args below meth c T' (locs ++ Lc) (cells + k) (slots + n) ∧ (∀ q ∈ Lc, b0 ≤ q.base) ∧ cells + k + Ls.length = L'.length ∧ slots + n + slt Ls = slt L' ∧ Rel b0 b D H0 L' σ' T'.heap ∧ okO L' o ∧ P o L' σ' ∧
      ∀ acts, Steps p.tables e below (doInvoke e (T.setTop g) acts mk (as.map (cv b0 b)).toArray).1 (backTo g len T' (co b0 b o)) := by
  obtain ⟨hx, -, -, -, -, -, -, -, hwd, hkn, hnr, hfr, hlo, hcc, hss⟩ := C
  have hcap : L.length ≤ capC := hRel.2.2.2.2.2.1
  have hcaps : slt L ≤ capS := hRel.2.2.2.2.2.2
  obtain ⟨Y, hin⟩ := X.into hg hsize hdg (as.map (cv b0 b)).toArray (R' := { frames := R.frames - 1, cells := R.cells - cells, slots := R.slots - slots, locals := R.locals - 100 }) hmk hck hlk hpk (by show R.frames - 1 + 1 ≤ _; omega) (by show _ + (R.locals - 100) ≤ _; rw [hmon]; omega) (by show cells + (R.cells - cells) ≤ _; omega) (by show slots + (R.slots - slots) ≤ _; omega)
  have hvm : (T.calling g mk (as.map (cv b0 b)).toArray).vm = T.vm := rfl
  have hal : s.vm.Alike T.vm := X.warmed.alike
  obtain ⟨t, hsteps, o, L', σ', Lc, k, n, r1, r2, r3, r4, r5, r6, r7, r8, r9, r10⟩ := E p l e _ (T.calling g mk (as.map (cv b0 b)).toArray) mk (.java g :: below) methk ck b0 b D H0 _ hx hn Y rfl (hwd.moved X.warmed) (hkn.moved hal) (hnr.moved hal hRel) (by show d ≤ R.frames - 1; omega) (by show 100 * d ≤ R.locals - 100; omega) (by show capC ≤ R.cells - cells + L.length; omega) (by show capS ≤ R.slots - slots + slt L; omega) hRel hok
  have key : ∃ T', Stand p l e R s m args below meth c T' (locs ++ Lc) (cells + k) (slots + n) ∧ t = backTo g len T' (co b0 b o) := by
    generalize hoo : co b0 b o = oo at r2 ⊢
    cases oo with
    | returned v =>
      obtain ⟨T', X', -, -, ht⟩ := X.outOf hg hdg r2 r3 r4
      exact ⟨T', X', ht⟩
    | threw x =>
      obtain ⟨T', X', -, -, ht⟩ := X.outOfThrown hg r2 r3 r4
      exact ⟨T', X', ht⟩
  obtain ⟨T', X', ht⟩ := key
  have hheap : T'.heap = t.heap := by
    rw [ht]
    unfold backTo
    split
    · rw [State.heap_setTop]
    · exact (Stand.throwing_heap T' g _).symm
  refine ⟨o, L', σ', T', Lc, k, n, X', r5, by omega, by omega, by rw [hheap]; exact r8, r9, r10, fun acts => ?_⟩
  rw [hin acts, ← ht]
  exact st_weak (mid := [.java g]) hsteps
end
