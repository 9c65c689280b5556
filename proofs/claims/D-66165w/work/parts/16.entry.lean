def entL : List Vl → List Vl
  | [] => []
  | .inr (.inl z) :: r => vl z :: vj :: entL r
  | v :: r => v :: entL r
def ent (as : List Vl) (n : Nat) : List Vl := entL as ++ List.replicate (n - (entL as).length) vj
theorem entL_get {b0 b : Nat} : ∀ (as : List Vl) (i j : Nat) (v : Vl), (entL as)[j]? = some v → vok v = true → (i + j, cv b0 b v) ∈ lv_args i (as.map (cv b0 b))
  | [], i, j, v, h, _ => by simp [entL] at h
  | .inr (.inl z) :: r, i, 0, v, h, _ => by
    simp [entL] at h
    subst h
    exact List.mem_cons_self
  | .inr (.inl z) :: r, i, 1, v, h, ho => by
    simp [entL] at h
    subst h
    simp [vok] at ho
  | .inr (.inl z) :: r, i, j + 2, v, h, ho => by
    have h' : (entL r)[j]? = some v := by simpa [entL] using h
    have := entL_get (b0 := b0) (b := b) r (i + 2) j v h' ho
    refine List.mem_cons_of_mem _ ?_
    show _ ∈ lv_args (i + 2) _
    rw [show i + (j + 2) = i + 2 + j by omega]
    exact this
  | .inl z :: r, i, 0, v, h, _ => by
    simp [entL] at h
    subst h
    exact List.mem_cons_self
  | .inl z :: r, i, j + 1, v, h, ho => by
    have h' : (entL r)[j]? = some v := by simpa [entL] using h
    have := entL_get (b0 := b0) (b := b) r (i + 1) j v h' ho
    refine List.mem_cons_of_mem _ ?_
    show _ ∈ lv_args (i + 1) _
    rw [show i + (j + 1) = i + 1 + j by omega]
    exact this
  | .inr (.inr (.inl k)) :: r, i, 0, v, h, _ => by
    simp [entL] at h
    subst h
    exact List.mem_cons_self
  | .inr (.inr (.inl k)) :: r, i, j + 1, v, h, ho => by
    have h' : (entL r)[j]? = some v := by simpa [entL] using h
    have := entL_get (b0 := b0) (b := b) r (i + 1) j v h' ho
    refine List.mem_cons_of_mem _ ?_
    show _ ∈ lv_args (i + 1) _
    rw [show i + (j + 1) = i + 1 + j by omega]
    exact this
  | .inr (.inr (.inr n)) :: r, i, 0, v, h, _ => by
    simp [entL] at h
    subst h
    exact List.mem_cons_self
  | .inr (.inr (.inr n)) :: r, i, j + 1, v, h, ho => by
    have h' : (entL r)[j]? = some v := by simpa [entL] using h
    have := entL_get (b0 := b0) (b := b) r (i + 1) j v h' ho
    refine List.mem_cons_of_mem _ ?_
    have hc : ¬ (cv b0 b (.inr (.inr (.inr n)))).category = 2 := fun h => by obtain ⟨z, hz⟩ := cat2 h; cases hz
    show _ ∈ lv_args (if (cv b0 b (.inr (.inr (.inr n)))).category = 2 then _ else _) _
    rw [if_neg hc, show i + (j + 1) = i + 1 + j by omega]
    exact this
theorem entL_len {b0 b : Nat} : ∀ as : List Vl, (lg_sl (as.map (cv b0 b))).length = (entL as).length
  | [] => rfl
  | .inr (.inl z) :: r => by
    have := entL_len (b0 := b0) (b := b) r
    simp only [entL, List.map_cons, lg_sl, List.flatMap_cons, List.length_append, List.length_cons] at this ⊢
    rw [this]
    simp [cv, Value.category]
    omega
  | .inl z :: r => by
    have := entL_len (b0 := b0) (b := b) r
    simp only [entL, List.map_cons, lg_sl, List.flatMap_cons, List.length_append, List.length_cons] at this ⊢
    rw [this]
    simp [cv, Value.category]
    omega
  | .inr (.inr (.inl k)) :: r => by
    have := entL_len (b0 := b0) (b := b) r
    simp only [entL, List.map_cons, lg_sl, List.flatMap_cons, List.length_append, List.length_cons] at this ⊢
    rw [this]
    simp [cv, Value.category]
    omega
  | .inr (.inr (.inr n)) :: r => by
    have := entL_len (b0 := b0) (b := b) r
    have hc : ¬ (cv b0 b (.inr (.inr (.inr n)))).category = 2 := fun h => by obtain ⟨z, hz⟩ := cat2 h; cases hz
    simp only [entL, List.map_cons, lg_sl, List.flatMap_cons, List.length_append, List.length_cons, if_neg hc] at this ⊢
    rw [this]
    simp
    omega
theorem entL_ok : ∀ as : List Vl, (∀ v ∈ as, okV v) → ∀ v ∈ entL as, okV v
  | [], _ => fun v hv => by cases hv
  | .inr (.inl z) :: r, h => ok1 (ok1 (entL_ok r (okt h)) trivial) (okh h)
  | .inl z :: r, h => ok1 (entL_ok r (okt h)) (okh h)
  | .inr (.inr (.inl k)) :: r, h => ok1 (entL_ok r (okt h)) (okh h)
  | .inr (.inr (.inr n)) :: r, h => ok1 (entL_ok r (okt h)) (okh h)
theorem ent_ok {as : List Vl} {n : Nat} (h : ∀ v ∈ as, okV v) : ∀ v ∈ ent as n, okV v := by
  intro v hv
  rcases List.mem_append.mp hv with h1 | h1
  · exact entL_ok as h v h1
  · rw [(List.mem_replicate.mp h1).2]
    trivial
theorem ent_lv {b0 b : Nat} {as : List Vl} {n : Nat} (hn : (entL as).length ≤ n) : lv_has ((lg_sl (as.map (cv b0 b)) ++ List.replicate (n - (lg_sl (as.map (cv b0 b))).length) Slot.unset).toArray) n (lvOf b0 b (ent as n)) := by
  refine lv_mono (lv_entry (as.map (cv b0 b)) (by rw [entL_len]; exact hn)) ?_
  rintro ⟨i, x⟩ hq
  obtain ⟨v, hv, ho, rfl⟩ := mem_lvOf.mp hq
  unfold ent at hv
  by_cases e : i < (entL as).length
  · rw [List.getElem?_append_left e] at hv
    have := entL_get (b0 := b0) (b := b) as 0 i v hv ho
    rwa [Nat.zero_add] at this
  · rw [List.getElem?_append_right (by omega)] at hv
    rw [(List.mem_replicate.mp (List.mem_of_getElem? hv)).2] at ho
    simp [vok] at ho
/-- from a method's body to its run -/
theorem Ex.of {d : Nat} {y : MethodName} {bytes : ByteArray} {nL : Nat} {ret : Option FieldType} {hh : List (Nat × Nat × Nat × Nat)} {as : List Vl} {L : List Sh} {σ : Mm} {P : Out → List Sh → Mm → Prop} (hc : hasCode y bytes nL ret hh) (hn : (entL as).length ≤ nL)
    (G : GS (bytes, y.cls, nL, ret, hh, y.name) d 0 (ent as nL) [] L σ P) : Ex d y as L σ P := by
  intro p l e R s m below meth c b0 b D H0 s₁ hx hnm X hheap hwd hkn hnr hfr hlo hcc hss hRel hok
  have key : c.code = bytes ∧ c.maxLocals = nL ∧ meth.sig.returnType = ret ∧ meth.locks = false ∧ exT c = hh := by
    rcases hc with ⟨hc, rfl⟩ | hc
    · obtain ⟨meth', c', h1, h2, h3, h4, h5, h6, h7, h8⟩ := Cond.code_spec hnm (hwd _ hc #[])
      cases X.method.symm.trans h1
      cases X.code.symm.trans h2
      refine ⟨h3, h4, h5, h6, ?_⟩
      have : c.exceptionTable = #[] := Array.isEmpty_iff.mp h7
      simp [exT, this]
    · obtain ⟨m', meth', c', h0, h1, h2, h3, h4, h5, h6, h7, h8⟩ := Cond.codeWith_spec (hwd _ hc #[])
      cases hnm.symm.trans h0
      cases X.method.symm.trans h1
      cases X.code.symm.trans h2
      exact ⟨h3, h4, h6, h7, h5⟩
  obtain ⟨k1, k2, k3, k4, k5⟩ := key
  rw [k2, lg_entry_eq]
  refine G p l e R s m _ below meth c b0 b D H0 L s.heap [] 0 0 _ ⟨⟨hx, k1, findClass_of_methodNamed hnm, k2, k3, k4, k5, (name_of_methodNamed hnm X.method).1, hwd, hkn, hnr, hfr, hlo, hcc, hss⟩, hRel, (fun q hq => by cases hq), by omega, by omega, ent_lv hn, ent_ok hok, (fun v hv => by cases hv)⟩ s₁ hheap X
section
variable {μ : MI} {d pc : Nat} {A st : List Vl} {L : List Sh} {σ : Mm} {P : Out → List Sh → Mm → Prop}
/-- athrow, in a method without handlers -/
theorem g_athrow {k : Int} {c : Nat} {fs : List (Option Vl)} {gg : Int → Vl} (hd : decode μ.1 pc = .ok (.athrow, 1)) (hh : μ.2.2.2.2.1 = []) (hk : look L k = some (7, c, fs, gg)) (kk : P (2, vr k) L σ) : GS μ d pc A (vr k :: st) L σ P := by
  intro p l e R s m args below meth cd b0 b D H0 Ls H locs cells slots ls S
  intro T hT X
  obtain ⟨n, rfl, hn⟩ := look_nat hk
  have hexT : exT cd = [] := by rw [S.1.2.2.2.2.2.2.1]; exact hh
  have hemp : cd.exceptionTable.toList = [] := List.map_eq_nil_iff.mp hexT
  have hlocks : meth.locks = false := S.1.2.2.2.2.2.1
  obtain ⟨hst, h1, h2, h3, h4⟩ := X.athrowLeaves S.1.1 (g := F0 m pc ls ((vr (n : Int) :: st).map (cv b0 b))) rfl rfl rfl (fun x hx => by rw [hemp] at hx; cases hx) (a := b0 + n) (rest := st.map (cv b0 b)) rfl (by rw [S.1.2.1]; exact hd)
  refine ⟨_, hst, (2, vr (n : Int)), L, σ, locs, cells, slots, h1, h2, h3, h4, S.2.2.1, S.2.2.2.1, S.2.2.2.2.1, ?_, ⟨n, c, fs, gg, rfl, hk⟩, kk⟩
  show Rel b0 b D H0 L σ T.heap
  rw [hT]
  exact S.2.1
/-- new X; dup; invokespecial X.<init>: an exception -/
def xnames : List String := ["java/lang/RuntimeException", "java/lang/Exception"]
def cXm (own : String) (idx ic c : Nat) : Prop := c ≤ 2 ∧ Cond.classLink own idx (xname c) ∈ lw_t ∧ Cond.instantiable (xname c) 6 ∈ lw_t ∧ Cond.initialized (xname c) ∈ lw_t ∧ Bundle.fit (xname c) = true ∧ ∀ w ∈ Bundle.ownAtoms0 own ic (xname c) xnames, w ∈ lw_t ∨ w ∈ stw
theorem g_newx {idx ic c : Nat} (hd : decode μ.1 pc = .ok (.new idx, 3)) (hd2 : decode μ.1 (pc + 3) = .ok (.dup, 1)) (hd3 : decode μ.1 (pc + 3 + 1) = .ok (.invokespecial ic, 3)) (hc : cXm μ.2.1 idx ic c) (hd6 : 6 ≤ d) (hlen : st.length ≤ 20) (hcap : L.length + 1 ≤ capC) (hcaps : slt L + 6 ≤ capS)
    (kk : GS μ d (pc + 7) A (vr L.length :: st) (L ++ [(7, c, [], fun _ => vn)]) (updc σ L.length (fun _ => 0)) P) : GS μ d pc A st L σ P := by
  intro p l e R s m args below meth cd b0 b D H0 Ls H locs cells slots ls S
  obtain ⟨hc2, w1, w2, w3, w4, w5⟩ := hc
  have hwd : Wds s := S.1.2.2.2.2.2.2.2.2.1
  have hkn := S.1.2.2.2.2.2.2.2.2.2.1
  have hnr := S.1.2.2.2.2.2.2.2.2.2.2.1
  have hfr := S.1.2.2.2.2.2.2.2.2.2.2.2.1
  have hlo := S.1.2.2.2.2.2.2.2.2.2.2.2.2.1
  have hcc := S.1.2.2.2.2.2.2.2.2.2.2.2.2.2.1
  have hss := S.1.2.2.2.2.2.2.2.2.2.2.2.2.2.2
  have hx := S.1.1
  have hb := S.1.2.1
  have hown := S.1.2.2.1
  have hfx := hkn.xc hc2
  have h4 := S.2.2.2.1
  have h5 := S.2.2.2.2.1
  have hR := S.2.1
  have hsum : ((st.map (cv b0 b)).map fun v => v.category).sum ≤ 2 * st.length := by
    clear S kk hlen
    induction st with
    | nil => simp
    | cons v r ih =>
      have : (cv b0 b v).category ≤ 2 := by
        rcases lv_cat (cv b0 b v) with h | h <;> omega
      simp only [List.map_cons, List.sum_cons, List.length_cons]
      omega
  refine W.newcK hx hb hown (hwd _ w1 args) (hwd _ w2 args) (hwd _ w3 args) rfl hd (by omega) (by omega) hfx hR.1 (fun H' kC hkC e1 e2 e3 => ?_)
  refine lv_dup hx hb hd2 rfl ?_
  intro T hT X
  have hst : ∀ (a : Nat) (cell : Cell), s.heap[a]? = some cell → cell.vm.isStatics = true → T.heap[a]? = some cell := by
    intro a cell ha hs
    obtain ⟨z1, z2⟩ := hnr.2.2.2 a cell ha hs
    rw [hT, e3 a (by omega), hR.2.2.1 a z1]
    exact z2
  have hatoms : ∀ w ∈ Bundle.ownAtoms0 μ.2.1 ic (xname c) xnames, w.before args s = true := by
    intro w hw
    rcases w5 w hw with h | h
    · exact hwd w h args
    · exact hnr.2.2.1 s (Vm.Alike.refl _) (fun a cell ha _ => ha) w h args
  obtain ⟨vm', ce, Lc, X', hLc, hce1, hce2, hstep⟩ := ex_init X hx hnr.1 hown w4 (by decide +kernel) hatoms hst hfx hkC (a := b0 + L.length) (by rw [hT]; exact e1) (g := F0 m (pc + 3 + 1) ls (.ref (b0 + L.length) :: .ref (b0 + L.length) :: st.map (cv b0 b))) rfl (by rw [S.1.2.2.2.1]; exact S.2.2.2.2.2.1.1) (rest := .ref (b0 + L.length) :: st.map (cv b0 b)) rfl (by rw [hb]; exact hd3) (by show 2 + 3 < _; omega)
    (by
      show 2 * 0 + ((Value.ref (b0 + L.length) :: st.map (cv b0 b)).map fun v => v.category).sum + (13 * (2 + 1) + 41) ≤ _
      simp only [List.map_cons, List.sum_cons]
      show 2 * 0 + (1 + _) + _ ≤ _
      omega)
  have hz : b0 + L.length < T.heap.size := by rw [hT, e2]; omega
  have hq1 : ((T.setVm vm').setCell (b0 + L.length) ce).heap[b0 + L.length]? = some ce := heapAt_setCell_self _ hz
  have hq2 : ((T.setVm vm').setCell (b0 + L.length) ce).heap.size = b0 + L.length + 1 := by rw [size_setCell]; show T.heap.size = _; rw [hT, e2]
  have hq3 : ∀ q, q < b0 + L.length → ((T.setVm vm').setCell (b0 + L.length) ce).heap[q]? = H[q]? := by
    intro q hq
    rw [heapAt_setCell_ne _ (Nat.ne_of_gt hq)]
    show T.heap[q]? = _
    rw [hT, e3 q hq]
  have hRel' : Rel b0 b D H0 (L ++ [(7, c, [], fun _ => vn)]) (updc σ L.length (fun _ => 0)) ((T.setVm vm').setCell (b0 + L.length) ce).heap :=
    hR.push hq2 hq3 ⟨ce, hq1, hce1, hce2⟩ hcap hcaps
  obtain ⟨t, a1, b1⟩ := kk p l e R s m args below meth cd b0 b D H0 Ls _ (locs ++ Lc) (cells + 1) (slots + 6) ls ⟨S.1, hRel', fun q hq => by
      rcases List.mem_append.mp hq with h | h
      · exact S.2.2.1 q h
      · rw [hLc q h]; omega, by rw [List.length_append]; show _ = L.length + 1; omega, by rw [slt_push]; show _ = slt L + 6; omega, S.2.2.2.2.2.1, S.2.2.2.2.2.2.1, ok1 (v := vr (L.length : Int)) S.2.2.2.2.2.2.2 trivial⟩ _ rfl X'
  exact ⟨t, hstep t a1, b1⟩
end
