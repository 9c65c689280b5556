theorem arrV_ext {c : ClassId} {N : Nat} {f g : Nat → Value} (h : ∀ j, j < N → f j = g j) : arrV c N f = arrV c N g := by
  unfold arrV
  congr 1
  congr 1
  funext j
  exact h j.val j.isLt
section
variable {p : Program} {l : Launch} {e : Env} {R : Room} {s : State} {m : MethodId} {args : Array Value} {below : List Frame} {meth : Method} {c : Code} {T : State} {locs : List Loc} {cells slots : Nat}
theorem gf_stand (X : Stand p l e R s m args below meth c T locs cells slots) (cA cI : ClassId) (N M : Nat) : ∀ i, ∃ Lc : List Loc, (∀ q ∈ Lc, q.base = T.heap.size) ∧ Stand p l e R s m args below meth c (gf T cA cI N M i) (locs ++ Lc) (cells + 1 + i) (slots + N + i * M)
  | 0 => by
    refine ⟨[], (fun q hq => by cases hq), ?_⟩
    have h := X.pushed (gOut cA N T.heap.size 0)
    rw [show (gOut cA N T.heap.size 0).slots.size = N from arrV_size _ _ _] at h
    simpa [gf] using h
  | i + 1 => by
    obtain ⟨Lc, hLc, Xi⟩ := gf_stand X cA cI N M i
    obtain ⟨f1, f2, f3, f4, f5, f6⟩ := gf_facts T cA cI N M i
    have hlt0 : T.heap.size < (gf T cA cI N M i).heap.size := by rw [f1]; omega
    have hcell : ((gf T cA cI N M i).pushCell (gIn cI M)).heap[T.heap.size]? = some (gOut cA N T.heap.size i) := by rw [State.heap_pushCell_of_lt (h := hlt0)]; exact f2
    have h := (Xi.pushed (gIn cI M)).stored hcell i (.ref (T.heap.size + 1 + i))
    rw [gOut_set, show (gIn cI M).slots.size = M from arrV_size _ _ _] at h
    refine ⟨Lc ++ [⟨T.heap.size, i⟩], fun q hq => ?_, ?_⟩
    · rcases List.mem_append.mp hq with h1 | h1
      · exact hLc q h1
      · rw [List.mem_singleton.mp h1]
    · rw [← List.append_assoc, show slots + N + (i + 1) * M = slots + N + i * M + M by rw [Nat.succ_mul]; omega]
      exact h
theorem multi2 (X : Stand p l e R s m args below meth c T locs cells slots) (hexec : p.tables.exec = Jvm.exec) {own : String} {index : Nat} (hown : s.vm.findClass own = some m.cls) (hclink : (Cond.classLink own index "[[I").before args s = true)
    (hover : (Cond.arrayOver (.array .int)).before args s = true) (harr : (Cond.arrayClass .int).before args s = true)
    {g : JFrame} (hg : g.method = m) (hdg : decode c.code g.pc = .ok (.multianewarray index 2, 4)) {n k : Int32} {rest : List Value} (hstack : g.stack = .int k :: .int n :: rest)
    (hn : ¬ n < 0) (hk : ¬ k < 0) (hb1 : n.toNatClampNeg ≤ 1000000) (hb2 : k.toNatClampNeg ≤ 1000000)
    (hcells : cells + (1 + n.toNatClampNeg) ≤ R.cells) (hslots : slots + (n.toNatClampNeg + n.toNatClampNeg * k.toNatClampNeg) ≤ R.slots) :
    ∃ (vm₁ : Vm) (cA cI : ClassId) (Lc : List Loc), s.vm.findClass "[[I" = some cA ∧ s.vm.findClass "[I" = some cI ∧ (∀ q ∈ Lc, q.base = T.heap.size) ∧
      Stand p l e R s m args below meth c (gf (T.setVm vm₁) cA cI n.toNatClampNeg k.toNatClampNeg n.toNatClampNeg) (locs ++ Lc) (cells + 1 + n.toNatClampNeg) (slots + n.toNatClampNeg + n.toNatClampNeg * k.toNatClampNeg) ∧
      ∀ target, Steps p.tables e below ((gf (T.setVm vm₁) cA cI n.toNatClampNeg k.toNatClampNeg n.toNatClampNeg).setTop { g with pc := g.pc + 4, stack := .ref T.heap.size :: rest }) target → Steps p.tables e below (T.setTop g) target := by
  subst hg
  have hpl : e.platform.magicAccessors = ({} : Platform).magicAccessors := by rw [X.admits.platform]
  obtain ⟨comp, cA, kA, hcomp, hidx, hkA, hkindA, hnameA⟩ := arrayOverA_spec hover
  obtain ⟨comp', kC, cc, hcomp', hkC, hkindC⟩ := Cond.arrayClass_spec harr
  have ecomp : comp' = comp := Option.some.inj (hcomp'.symm.trans hcomp)
  subst ecomp
  obtain ⟨c0, hfc0, hcl⟩ := Cond.classLink_spec hown hclink e.platform hpl
  cases (show s.vm.findClass "[[I" = some cA from hnameA).symm.trans hfc0
  obtain ⟨hg₁, hwarm₁, hready₁⟩ := State.classEntry (e := e) X.warmed hcl
  generalize T.vm.noted g.method.cls index (.cls cA) = vm₁ at hg₁ hwarm₁ hready₁
  have hal : s.vm.Alike vm₁ := hwarm₁.alike
  obtain ⟨kA₁, hkA₁, heA⟩ := hal.2.2 _ _ hkA
  obtain ⟨kC₁, hkC₁, heC⟩ := hal.2.2 _ _ hkC
  have hkindA₁ : kA₁.kind = .array comp' (.array .int) := by rw [heA]; exact hkindA
  have hkindC₁ : kC₁.kind = .array cc .int := by rw [heC]; exact hkindC
  have X₁ := X.noted hwarm₁
  obtain ⟨hr1, hr2⟩ := X.roomAbove hcells hslots
  obtain ⟨Lc, hLc, XF⟩ := gf_stand X₁ cA comp' n.toNatClampNeg k.toNatClampNeg n.toNatClampNeg
  refine ⟨vm₁, cA, comp', Lc, hnameA, hcomp', hLc, XF, fun target hrest => ?_⟩
  have hl1 : ¬ n.toNatClampNeg > e.platform.arrayLengthLimit := by rw [Launch.admits_arrayLengthLimit X.admits]; omega
  have hh1 : ¬ n.toNatClampNeg * componentBytes (.array .int) > e.platform.maxHeapBytes := by
    rw [Launch.admits_maxHeapBytes X.admits]; show ¬ n.toNatClampNeg * 4 > 536870912; omega
  have hl2 : ¬ k.toNatClampNeg > e.platform.arrayLengthLimit := by rw [Launch.admits_arrayLengthLimit X.admits]; omega
  have hh2 : ¬ k.toNatClampNeg * componentBytes .int > e.platform.maxHeapBytes := by
    rw [Launch.admits_maxHeapBytes X.admits]; show ¬ k.toNatClampNeg * 4 > 536870912; omega
  jvm_step X.here [hexec, hdg]
  simp only [Op.multianewarray.sem, wp_bind', W.resolveClassAt_links (State.method?_setTop g X.here.top) hg₁]
  rw [W.popN, if_neg (by decide)]
  refine ⟨g, State.topJava?_setTop' (s := T.setVm vm₁) g X.here.top, [.int n, .int k], rest, rfl, hstack, ?_⟩
  simp only [List.mapM_cons, List.mapM_nil, wp_bind', wp_pure']
  refine g_make2 (k := kA₁) (kc := kC₁) (cI := comp') (cc := cc) hkA₁ hkindA₁ hkC₁ hkindC₁ hn hk hl1 hh1 hl2 hh2 (by show T.heap.size + 1 + _ ≤ _; omega) (by show T.slotsUsed + _ + _ ≤ _; omega) (fun d' acts' => ?_)
  have eS : ((T.setTop g).setVm vm₁).setTop { g with stack := rest } = (T.setVm vm₁).setTop { g with stack := rest } := by
    show ((T.setVm vm₁).setTop g).setTop _ = _
    rw [State.setTop_setTop]
  rw [eS, gf_setTop]
  simp only [wp_bind', W.mark, W.pushRef, State.topJava?_setTop' _ XF.here.top, Option.some.injEq, exists_eq_left', State.setTop_setTop, State.heap_setTop]
  intro acts
  simp [jvm, XF.here.top]
  exact hrest
end
def updr (σ : Mm) (lo hi : Int) : Mm := fun k => if lo ≤ k ∧ k < hi then (fun _ => 0) else σ k
def grid (n k h : Nat) : List Sh := (4, n, [], fun i => vr (h + 1 + i)) :: List.replicate n (1, k, [], fun _ => vn)
theorem slt_grid (n k h : Nat) : slt (grid n k h) = n + n * k := by
  unfold grid slt
  rw [List.map_cons, List.map_replicate, List.sum_cons]
  show n + (List.replicate n k).sum = _
  congr 1
  induction n with
  | zero => simp
  | succ n ih => rw [List.replicate_succ, List.sum_cons, ih, Nat.succ_mul]; omega
theorem slt_app (L M : List Sh) : slt (L ++ M) = slt L + slt M := by simp [slt]
section
variable {μ : MI} {d pc : Nat} {A st : List Vl} {L : List Sh} {σ : Mm} {P : Out → List Sh → Mm → Prop}
theorem g_multi {idx : Nat} {n k : Int} (hd : decode μ.1 pc = .ok (.multianewarray idx 2, 4)) (hc : Cond.classLink μ.2.1 idx "[[I" ∈ lw_t) (hn0 : 0 ≤ n) (hn1 : n ≤ 1000) (hk0 : 0 ≤ k) (hk1 : k ≤ 1000) (hcap : L.length + 1 + n.toNat ≤ capC) (hcaps : slt L + (n.toNat + n.toNat * k.toNat) ≤ capS)
    (kk : GS μ d (pc + 4) A (vr L.length :: st) (L ++ grid n.toNat k.toNat L.length) (updr σ L.length (L.length + 1 + n)) P) : GS μ d pc A (vi k :: vi n :: st) L σ P := by
  intro p l e R s m args below meth cd b0 b D H0 Ls H locs cells slots ls S
  intro T hT X
  have hwd : Wds s := S.1.2.2.2.2.2.2.2.2.1
  have hkn := S.1.2.2.2.2.2.2.2.2.2.1
  have hcc := S.1.2.2.2.2.2.2.2.2.2.2.2.2.2.1
  have hss := S.1.2.2.2.2.2.2.2.2.2.2.2.2.2.2
  have hR := S.2.1
  have h4 := S.2.2.2.1
  have h5 := S.2.2.2.2.1
  have ik : in32 k := okh S.2.2.2.2.2.2.2
  have iN : in32 n := okh (okt S.2.2.2.2.2.2.2)
  have en := cl32 hn0 iN
  have ek := cl32 hk0 ik
  obtain ⟨vm₁, cA, cI, Lc, fA, fI, hLc, X', hstep⟩ := multi2 X S.1.1 S.1.2.2.1 (hwd _ hc args) (hwd _ ao_grid args) (hwd _ ac_int args) (g := F0 m pc ls ((vi k :: vi n :: st).map (cv b0 b))) rfl (by rw [S.1.2.1]; exact hd) (n := Int32.ofInt n) (k := Int32.ofInt k) (rest := st.map (cv b0 b)) rfl (neg32 hn0 iN) (neg32 hk0 ik) (by rw [en]; omega) (by rw [ek]; omega) (by rw [en]; omega) (by rw [en, ek]; omega)
  rw [en, ek] at X' hstep
  cases hkn.2.2.2.2.1.2.symm.trans fA
  cases hkn.2.1.2.symm.trans fI
  have hTz : T.heap.size = b0 + L.length := by rw [hT]; exact hR.1
  obtain ⟨f1, f2, f3, f4, f5, f6⟩ := gf_facts (T.setVm vm₁) (D.1 33) (D.1 30) n.toNat k.toNat n.toNat
  have ez : (T.setVm vm₁).heap.size = b0 + L.length := hTz
  rw [ez] at f1 f2 f5 f6
  have hlen : (L ++ grid n.toNat k.toNat L.length).length = L.length + 1 + n.toNat := by
    rw [List.length_append]
    simp [grid]
    omega
  have hRel' : Rel b0 b D H0 (L ++ grid n.toNat k.toNat L.length) (updr σ L.length (L.length + 1 + n)) (gf (T.setVm vm₁) (D.1 33) (D.1 30) n.toNat k.toNat n.toNat).heap := by
    obtain ⟨r1, r2, r3, ⟨scr, s1, s2, s3, s4⟩, r5, r6, r7⟩ := hR
    have hold : ∀ q, q < b0 + L.length → (gf (T.setVm vm₁) (D.1 33) (D.1 30) n.toNat k.toNat n.toNat).heap[q]? = H[q]? := fun q hq => by
      rw [f6 q hq]
      show T.heap[q]? = _
      rw [hT]
    have hnew : ∀ j : Nat, L.length ≤ j → j < L.length + 1 + n.toNat → updr σ L.length (L.length + 1 + n) j = fun _ => 0 := fun j h1 h2 => if_pos ⟨by omega, by omega⟩
    refine ⟨by rw [f1, hlen]; omega, fun j sh hj => ?_, fun q hq => by rw [hold q (by omega)]; exact r3 q hq, ⟨scr, s1, by rw [show updr σ L.length (L.length + 1 + n) (-2) = σ (-2) from if_neg (by omega)]; exact s2, s3, fun j hj => by rw [show updr σ L.length (L.length + 1 + n) (-1) = σ (-1) from if_neg (by omega)]; exact s4 j hj⟩, r5, by rw [hlen]; exact hcap, by rw [slt_app, slt_grid]; exact hcaps⟩
    have hjl := (List.getElem?_eq_some_iff.mp hj).1
    rw [hlen] at hjl
    by_cases e1 : j < L.length
    · rw [List.getElem?_append_left e1] at hj
      rw [show updr σ L.length (L.length + 1 + n) j = σ j from if_neg (by omega)]
      exact (r2 j sh hj).kept (hold _ (by omega))
    · rw [List.getElem?_append_right (by omega)] at hj
      rw [hnew j (by omega) hjl]
      by_cases e2 : j = L.length
      · subst e2
        rw [Nat.sub_self] at hj
        cases hj
        refine ⟨?_, fun i hi => ⟨trivial, rfl⟩⟩
        rw [f2]
        unfold gOut
        refine congrArg some (arrV_ext fun i hi => ?_)
        rw [if_pos hi]
        have e9 : b0 + ((L.length : Int) + 1 + (i : Int)).toNat = b0 + L.length + 1 + i := by
          have e8 : ((L.length : Int) + 1 + (i : Int)).toNat = L.length + 1 + i := by omega
          rw [e8]
          omega
        show Value.ref (b0 + L.length + 1 + i) = Value.ref (b0 + ((L.length : Int) + 1 + (i : Int)).toNat)
        rw [e9]
      · obtain ⟨i, rfl⟩ : ∃ i, j = L.length + 1 + i := ⟨j - L.length - 1, by omega⟩
        rw [show L.length + 1 + i - L.length = i + 1 by omega] at hj
        unfold grid at hj
        rw [List.getElem?_cons_succ] at hj
        rw [(List.mem_replicate.mp (List.mem_of_getElem? hj)).2]
        refine ⟨?_, fun _ _ => z32⟩
        rw [show b0 + (L.length + 1 + i) = b0 + L.length + 1 + i by omega, f5 i (by omega)]
        rfl
  obtain ⟨t, a1, b1⟩ := kk p l e R s m args below meth cd b0 b D H0 Ls _ (locs ++ Lc) _ _ ls ⟨S.1, hRel', fun q hq => by
      rcases List.mem_append.mp hq with h | h
      · exact S.2.2.1 q h
      · rw [hLc q h, hTz]; omega, by rw [hlen]; omega, by rw [slt_app, slt_grid]; omega, S.2.2.2.2.2.1, S.2.2.2.2.2.2.1, ok1 (v := vr (L.length : Int)) (okt (okt S.2.2.2.2.2.2.2)) trivial⟩ _ rfl X'
  refine ⟨t, hstep t ?_, b1⟩
  rw [hTz]
  exact a1
/-- System.arraycopy(source, 0, target, 0, n) of ints -/
theorem g_copy {idx : Nat} {k k' n : Int} {n0 n1 : Nat} {fs fs' : List (Option Vl)} {gg gg' : Int → Vl} (hd : decode μ.1 pc = .ok (.invokestatic idx, 3)) (hc : Cond.methodLink μ.2.1 idx arraycopyName ∈ lw_t) (hk : look L k = some (1, n0, fs, gg)) (hk' : look L k' = some (1, n1, fs', gg')) (h0 : 0 ≤ n) (h1 : n ≤ n0) (h2 : n ≤ n1) (hd1 : 1 ≤ d) (hlen : st.length ≤ 20)
    (kk : GS μ d (pc + 3) A st L (updc σ k' (fun j => if 0 ≤ j ∧ j < n then σ k j else σ k' j)) P) : GS μ d pc A (vi n :: vi 0 :: vr k' :: vi 0 :: vr k :: st) L σ P := by
  intro p l e R s m args below meth cd b0 b D H0 Ls H locs cells slots ls S
  intro T hT X
  have hwd : Wds s := S.1.2.2.2.2.2.2.2.2.1
  have hkn := S.1.2.2.2.2.2.2.2.2.2.1
  have hfr := S.1.2.2.2.2.2.2.2.2.2.2.2.1
  have hlo := S.1.2.2.2.2.2.2.2.2.2.2.2.2.1
  have hR := S.2.1
  have iN : in32 n := okh S.2.2.2.2.2.2.2
  have en := cl32 h0 iN
  obtain ⟨w, rfl, hw⟩ := look_nat hk
  obtain ⟨w', rfl, hw'⟩ := look_nat hk'
  obtain ⟨a1, a2⟩ := hR.cel hw
  obtain ⟨b1, b2⟩ := hR.cel hw'
  have z0 : (Int32.ofInt 0).toNatClampNeg = 0 := by decide +kernel
  have hsum : ((st.map (cv b0 b)).map fun v => v.category).sum ≤ 2 * st.length := by
    clear S kk hlen X
    induction st with
    | nil => simp
    | cons v r ih =>
      have : (cv b0 b v).category ≤ 2 := by
        rcases lv_cat (cv b0 b v) with h | h <;> omega
      simp only [List.map_cons, List.sum_cons, List.length_cons]
      omega
  obtain ⟨-, k0, hk0, cm0, hkk0⟩ := hkn.2.1.1 n0 (fun j => .int (Int32.ofInt (σ w j)))
  obtain ⟨-, k1, hk1, cm1, hkk1⟩ := hkn.2.1.1 n1 (fun j => .int (Int32.ofInt (σ w' j)))
  obtain ⟨vm', X', step⟩ := X.arraycopy S.1.1 S.1.2.2.1 (hwd _ hc args) (hwd (.native arraycopyName) (by decide +kernel) args) (hwd (.static arraycopyName) (by decide +kernel) args) (hwd (.initialized "java/lang/System") (by decide +kernel) args) (src := b0 + w) (dst := b0 + w')
    (cs := arrV (D.1 30) n0 (fun j => .int (Int32.ofInt (σ w j)))) (cd := arrV (D.1 30) n1 (fun j => .int (Int32.ofInt (σ w' j)))) (srcPos := Int32.ofInt 0) (destPos := Int32.ofInt 0) (n := Int32.ofInt n) (by rw [hT]; exact a1) (by rw [hT]; exact b1)
    (fun _ h => by cases h) (fun _ h => by cases h) (fun h => by cases h) (fun h => by cases h) hk0 hk1 hkk0 hkk1 (by decide) (by decide +kernel) (by decide +kernel) (neg32 h0 iN)
    (by rw [of32 z32, of32 iN, arrV_size]; omega) (by rw [of32 z32, of32 iN, arrV_size]; omega)
    (fun vm₁ _ i hi => by
      rw [en] at hi
      have e : (arrV (D.1 30) n0 (fun j => .int (Int32.ofInt (σ w j)))).slots.getD ((Int32.ofInt 0).toNatClampNeg + i) .null = .int (Int32.ofInt (σ w i)) := by
        rw [z0, Nat.zero_add, Array.getD_eq_getD_getElem?, arrV_read _ _ (by omega)]
        rfl
      refine ⟨?_, ?_⟩
      · rw [e]
        rfl
      · rw [e]
        exact trivial)
    (g := F0 m pc ls ((vi n :: vi 0 :: vr (w' : Int) :: vi 0 :: vr (w : Int) :: st).map (cv b0 b))) rfl (by rw [S.1.2.2.2.1]; exact S.2.2.2.2.2.1.1) (rest := st.map (cv b0 b)) rfl (by rw [S.1.2.1]; exact hd) (by omega) (by
      have : nativeFrameWords "java/lang/System" "arraycopy" 5 + 11 ≤ 50 := by decide +kernel
      show 2 * 0 + _ + _ ≤ _
      omega)
  have e1 : copied (arrV (D.1 30) n0 (fun j => .int (Int32.ofInt (σ w j)))) (arrV (D.1 30) n1 (fun j => .int (Int32.ofInt (σ w' j)))) (Int32.ofInt 0) (Int32.ofInt 0) (Int32.ofInt n) = arrV (D.1 30) n1 (fun j => .int (va_cpy (fun j : Nat => Int32.ofInt (σ w j)) (fun j : Nat => Int32.ofInt (σ w' j)) (Int32.ofInt 0).toNatClampNeg (Int32.ofInt 0).toNatClampNeg (Int32.ofInt n).toNatClampNeg j)) :=
    va_copied (fun z => .int z) (D.1 30) (D.1 30) (fun j : Nat => Int32.ofInt (σ w j)) (fun j : Nat => Int32.ofInt (σ w' j)) (by rw [z0, en]; omega)
  have e2 : (fun j => Value.int (va_cpy (fun j : Nat => Int32.ofInt (σ w j)) (fun j : Nat => Int32.ofInt (σ w' j)) (Int32.ofInt 0).toNatClampNeg (Int32.ofInt 0).toNatClampNeg (Int32.ofInt n).toNatClampNeg j)) = fun j : Nat => Value.int (Int32.ofInt (if 0 ≤ (j : Int) ∧ (j : Int) < n then σ w j else σ w' j)) := by
    funext j
    unfold va_cpy
    rw [z0, en]
    by_cases hj : (j : Int) < n
    · rw [if_pos ⟨by omega, by omega⟩, if_pos ⟨by omega, hj⟩]
      simp
    · rw [if_neg (by omega), if_neg (by omega)]
  rw [e1, e2] at X' step
  have hl : b0 + w' < T.heap.size := by rw [hT]; exact (Array.getElem?_eq_some_iff.mp b1).1
  have hRel' : Rel b0 b D H0 L (updc σ w' (fun j => if 0 ≤ j ∧ j < n then σ w j else σ w' j)) ((T.setVm vm').setCell (b0 + w') (arrV (D.1 30) n1 (fun j : Nat => Value.int (Int32.ofInt (if 0 ≤ (j : Int) ∧ (j : Int) < n then σ w j else σ w' j))))).heap := by
    have := hR.put (σ' := updc σ w' (fun j => if 0 ≤ j ∧ j < n then σ w j else σ w' j)) (H' := ((T.setVm vm').setCell (b0 + w') (arrV (D.1 30) n1 (fun j : Nat => Value.int (Int32.ofInt (if 0 ≤ (j : Int) ∧ (j : Int) < n then σ w j else σ w' j))))).heap) (sh' := (1, n1, fs', gg')) hw' (by rw [size_setCell]; show T.heap.size = _; rw [hT]) (fun q hq => by rw [heapAt_setCell_ne _ (Ne.symm hq)]; show T.heap[q]? = _; rw [hT])
      (by
        rw [show updc σ w' (fun j => if 0 ≤ j ∧ j < n then σ w j else σ w' j) w' = _ from if_pos rfl]
        refine ⟨heapAt_setCell_self _ hl, fun j hj => ?_⟩
        show in32 (if 0 ≤ (j : Int) ∧ (j : Int) < n then σ w j else σ w' j)
        by_cases hj' : (j : Int) < n
        · rw [if_pos ⟨by omega, hj'⟩]; exact a2 j (by omega)
        · rw [if_neg (by omega)]; exact b2 j hj)
      (fun k' hk' => if_neg hk') rfl
    rw [set_same hw'] at this
    exact this
  obtain ⟨t, c1, c2⟩ := kk p l e R s m args below meth cd b0 b D H0 Ls _ _ cells slots ls ⟨S.1, hRel', fun q hq => by
      rcases List.mem_append.mp hq with h | h
      · exact S.2.2.1 q h
      · obtain ⟨z, -, hz⟩ := List.mem_map.mp h
        rw [← hz]
        show b0 ≤ b0 + w'
        omega, S.2.2.2.1, S.2.2.2.2.1, S.2.2.2.2.2.1, S.2.2.2.2.2.2.1, okt (okt (okt (okt (okt S.2.2.2.2.2.2.2))))⟩ _ rfl X'
  exact ⟨t, step t c1, c2⟩
/-- instanceof Scored, checkcast Scored -/
theorem g_inst {idx ci : Nat} {k : Int} {fs : List (Option Vl)} {gg : Int → Vl} (hd : decode μ.1 pc = .ok (.instanceof idx, 3)) (hk : look L k = some (0, ci, fs, gg)) (hc : Cond.classLink μ.2.1 idx "BallotDesk$Scored" ∈ lw_t) {r : Int} (hq : ∃ q : vw_C, classes[ci]? = some q ∧ (Cond.castable q.1 "BallotDesk$Scored" ∈ lw_t ∧ r = 1 ∨ (q.1, "BallotDesk$Scored") ∈ ncl ∧ r = 0))
    (kk : GS μ d (pc + 3) A (vi r :: st) L σ P) : GS μ d pc A (vr k :: st) L σ P := by
  intro p l e R s m args below meth cd b0 b D H0 Ls H locs cells slots ls S
  have hwd : Wds s := S.1.2.2.2.2.2.2.2.2.1
  have hkn := S.1.2.2.2.2.2.2.2.2.2.1
  have hnr := S.1.2.2.2.2.2.2.2.2.2.2.1
  obtain ⟨w, rfl, hw⟩ := look_nat hk
  obtain ⟨rr, hr, hlen, ⟨cell, q1, q2, q3, q4⟩, h4⟩ := S.2.1.cel hw
  obtain ⟨q, hq1, hq2⟩ := hq
  cases hr.symm.trans hq1
  have hrec : ∃ cell : Cell, H[b0 + w]? = some cell ∧ cell.vm.isStatics = false ∧ s.vm.findClass rr.1 = some cell.cls := ⟨cell, q1, by rw [q3]; rfl, by rw [q2]; exact (hkn.1 ci rr hr).2.1⟩
  have K := fun (ho : in32 r) => kk p l e R s m args below meth cd b0 b D H0 Ls H locs cells slots ls ⟨S.1, S.2.1, S.2.2.1, S.2.2.2.1, S.2.2.2.2.1, S.2.2.2.2.2.1, S.2.2.2.2.2.2.1, ok1 (okt S.2.2.2.2.2.2.2) ho⟩
  rcases hq2 with ⟨h1, rfl⟩ | ⟨h1, rfl⟩
  · exact va_instY S.1.1 S.1.2.1 S.1.2.2.1 (hwd _ hc args) (va_Nw.of rfl (hwd _ h1 args)) hrec hd (K (by unfold in32; omega))
  · exact va_instNo S.1.1 S.1.2.1 S.1.2.2.1 (hwd _ hc args) (hnr.2.1 _ h1) hrec hd (K z32)
theorem g_cast {idx ci : Nat} {k : Int} {fs : List (Option Vl)} {gg : Int → Vl} (hd : decode μ.1 pc = .ok (.checkcast idx, 3)) (hk : look L k = some (0, ci, fs, gg)) (hc : Cond.classLink μ.2.1 idx "BallotDesk$Scored" ∈ lw_t) (hq : ∃ q : vw_C, classes[ci]? = some q ∧ Cond.castable q.1 "BallotDesk$Scored" ∈ lw_t)
    (kk : GS μ d (pc + 3) A (vr k :: st) L σ P) : GS μ d pc A (vr k :: st) L σ P := by
  intro p l e R s m args below meth cd b0 b D H0 Ls H locs cells slots ls S
  have hwd : Wds s := S.1.2.2.2.2.2.2.2.2.1
  have hkn := S.1.2.2.2.2.2.2.2.2.2.1
  obtain ⟨w, rfl, hw⟩ := look_nat hk
  obtain ⟨rr, hr, hlen, ⟨cell, q1, q2, q3, q4⟩, h4⟩ := S.2.1.cel hw
  obtain ⟨q, hq1, hq2⟩ := hq
  cases hr.symm.trans hq1
  exact va_castY S.1.1 S.1.2.1 S.1.2.2.1 (hwd _ hc args) (va_Nw.of rfl (hwd _ hq2 args)) ⟨cell, q1, by rw [q3]; rfl, by rw [q2]; exact (hkn.1 ci rr hr).2.1⟩ hd (kk p l e R s m args below meth cd b0 b D H0 Ls H locs cells slots ls S)
end
