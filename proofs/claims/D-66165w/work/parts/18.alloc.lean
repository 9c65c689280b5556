section
variable {μ : MI} {d pc : Nat} {A st : List Vl} {L : List Sh} {σ : Mm} {P : Out → List Sh → Mm → Prop}
/-- the fields of a new object -/
def dfl (N : Nat) (ty : Nat → FieldType) : List (Option Vl) := (List.range N).map fun j => if (ty j).isReference then some vn else none
def cNm (own : String) (idx ci : Nat) : Prop := ∃ (q : vw_C) (ty : Nat → FieldType), classes[ci]? = some q ∧ ctys[ci]? = some ty ∧ Cond.classLink own idx q.1 ∈ lw_t ∧ ∀ j, j < q.2.2 → ty j = .int ∨ ty j = .boolean ∨ (ty j).isReference = true
def newSh (ci : Nat) : Sh := match classes[ci]?, ctys[ci]? with
  | some q, some ty => (0, ci, dfl q.2.2 ty, fun _ => vn)
  | _, _ => (9, 0, [], fun _ => vn)
theorem dfl_get {N j : Nat} {ty : Nat → FieldType} (h : j < N) : (dfl N ty)[j]? = some (if (ty j).isReference then some vn else none) := by
  unfold dfl
  rw [List.getElem?_map, List.getElem?_range h]
  rfl
theorem g_new {idx ci : Nat} (hd : decode μ.1 pc = .ok (.new idx, 3)) (hc : cNm μ.2.1 idx ci) (hcap : L.length + 1 ≤ capC) (hcaps : slt L + slt1 (newSh ci) ≤ capS)
    (kk : GS μ d (pc + 3) A (vr L.length :: st) (L ++ [newSh ci]) (updc σ L.length (fun _ => 0)) P) : GS μ d pc A st L σ P := by
  intro p l e R s m args below meth cd b0 b D H0 Ls H locs cells slots ls S
  obtain ⟨q, ty, hq, hty, w1, hall⟩ := hc
  have hwd : Wds s := S.1.2.2.2.2.2.2.2.2.1
  have hkn := S.1.2.2.2.2.2.2.2.2.2.1
  have hcc := S.1.2.2.2.2.2.2.2.2.2.2.2.2.2.1
  have hss := S.1.2.2.2.2.2.2.2.2.2.2.2.2.2.2
  have hR := S.2.1
  have h4 := S.2.2.2.1
  have h5 := S.2.2.2.2.1
  obtain ⟨ty', ht', hin, hpf, hnm, hinst, hini⟩ := cl_ok ci q hq
  cases hty.symm.trans ht'
  have hKn := hkn.1 ci q hq
  have hsh : newSh ci = (0, ci, dfl q.2.2 ty, fun _ => vn) := by unfold newSh; rw [hq, hty]
  have hl : (dfl q.2.2 ty).length = q.2.2 := by simp [dfl]
  rw [hsh] at kk hcaps
  have hs1 : slt1 (0, ci, dfl q.2.2 ty, fun _ => vn) = q.2.2 := hl
  rw [hs1] at hcaps
  have hts : ∀ w ∈ lw_t, w.before args s = true := fun w hw => hwd w hw args
  refine W.newcK S.1.1 S.1.2.1 S.1.2.2.1 (hwd _ w1 args) (hwd _ hinst args) (hwd _ hini args) rfl hd (by omega) (by omega) hKn.2.1 hR.1 (fun H' kC hkC e1 e2 e3 => ?_)
  have hOB := u_born ty hts hin hKn hkC e1 hpf
  refine kk p l e R s m args below meth cd b0 b D H0 Ls H' locs (cells + 1) (slots + q.2.2) ls ⟨S.1, hR.push e2 e3 ⟨q, hq, hl, hOB.to (fun j hj => ?_), fun j hj => z32⟩ hcap (by rw [hs1]; exact hcaps), S.2.2.1, by rw [List.length_append]; show _ = L.length + 1; omega, by rw [slt_push, hs1]; omega, S.2.2.2.2.2.1, S.2.2.2.2.2.2.1, ok1 (v := vr (L.length : Int)) S.2.2.2.2.2.2.2 trivial⟩
  unfold fv
  rw [dfl_get hj]
  rcases hall j hj with h | h | h
  · rw [h]; rfl
  · rw [h]; rfl
  · rw [if_pos h]
    cases htj : ty j <;> rw [htj] at h <;> first | rfl | (simp [FieldType.isReference] at h)
theorem ac_int : Cond.arrayClass .int ∈ lw_t := by decide +kernel
theorem ac_bool : Cond.arrayClass .boolean ∈ lw_t := by decide +kernel
theorem ac_long : Cond.arrayClass .long ∈ lw_t := by decide +kernel
theorem ao_rule : Cond.arrayOver (.object "BallotDesk$Rule") ∈ lw_t := by decide +kernel
theorem ao_grid : Cond.arrayOver (.array .int) ∈ lw_t := by decide +kernel
/-- a new array of ints, booleans, longs -/
def akd (a : ArrayType) : Nat := match a with
  | .int => 1
  | .boolean => 2
  | .long => 3
  | _ => 9
theorem g_newa {at_ : ArrayType} {n : Int} (hd : decode μ.1 pc = .ok (.newarray at_, 2)) (ha : at_ = .int ∨ at_ = .boolean ∨ at_ = .long) (h0 : 0 ≤ n) (h1 : n ≤ 1000000) (hcap : L.length + 1 ≤ capC) (hcaps : slt L + n.toNat ≤ capS)
    (kk : GS μ d (pc + 2) A (vr L.length :: st) (L ++ [(akd at_, n.toNat, [], fun _ => vn)]) (updc σ L.length (fun _ => 0)) P) : GS μ d pc A (vi n :: st) L σ P := by
  intro p l e R s m args below meth cd b0 b D H0 Ls H locs cells slots ls S
  have hwd : Wds s := S.1.2.2.2.2.2.2.2.2.1
  have hkn := S.1.2.2.2.2.2.2.2.2.2.1
  have hcc := S.1.2.2.2.2.2.2.2.2.2.2.2.2.2.1
  have hss := S.1.2.2.2.2.2.2.2.2.2.2.2.2.2.2
  have hR := S.2.1
  have h4 := S.2.2.2.1
  have h5 := S.2.2.2.2.1
  have hn : in32 n := okh S.2.2.2.2.2.2.2
  have go : ∀ (H' : Heap), celOK b0 b D (akd at_, n.toNat, [], fun _ => vn) (fun _ => 0) H' (b0 + L.length) → H'.size = b0 + L.length + 1 → (∀ q, q < b0 + L.length → H'[q]? = H[q]?) →
      W p l e R s m args below meth cd H' locs (cells + 1) (slots + n.toNat) (RQ b0 b D H0 below s Ls P) (F0 m (pc + 2) ls (.ref (b0 + L.length) :: st.map (cv b0 b))) := by
    intro H' e1 e2 e3
    have hs1 : slt1 (akd at_, n.toNat, [], fun _ => vn) = n.toNat := by rcases ha with rfl | rfl | rfl <;> rfl
    exact kk p l e R s m args below meth cd b0 b D H0 Ls H' locs (cells + 1) (slots + n.toNat) ls ⟨S.1, hR.push e2 e3 e1 hcap (by rw [hs1]; exact hcaps), S.2.2.1, by rw [List.length_append]; show _ = L.length + 1; omega, by rw [slt_push, hs1]; omega, S.2.2.2.2.2.1, S.2.2.2.2.2.2.1, ok1 (v := vr (L.length : Int)) (okt S.2.2.2.2.2.2.2) trivial⟩
  rcases ha with rfl | rfl | rfl
  · refine va_newaK (atype := .int) (n := Int32.ofInt n) (rest := st.map (cv b0 b)) (N := n.toNat) S.1.1 S.1.2.1 (show (Cond.arrayClass (newarray.typeOf .int)).before args s = true from hwd _ ac_int args) rfl hd rfl (neg32 h0 hn) (cl32 h0 hn) (by show n.toNat * 4 ≤ _; omega) (by omega) (by omega) hR.1 (fun H' cA e1 e2 e3 hA hf => go H' ?_ e2 e3)
    cases hkn.2.1.2.symm.trans hf
    exact ⟨e1, fun j hj => z32⟩
  · refine va_newaK (atype := .boolean) (n := Int32.ofInt n) (rest := st.map (cv b0 b)) (N := n.toNat) S.1.1 S.1.2.1 (show (Cond.arrayClass (newarray.typeOf .boolean)).before args s = true from hwd _ ac_bool args) rfl hd rfl (neg32 h0 hn) (cl32 h0 hn) (by show n.toNat * 1 ≤ _; omega) (by omega) (by omega) hR.1 (fun H' cA e1 e2 e3 hA hf => go H' ?_ e2 e3)
    cases hkn.2.2.1.2.symm.trans hf
    exact ⟨e1, fun j hj => Or.inl rfl⟩
  · refine va_newaK (atype := .long) (n := Int32.ofInt n) (rest := st.map (cv b0 b)) (N := n.toNat) S.1.1 S.1.2.1 (show (Cond.arrayClass (newarray.typeOf .long)).before args s = true from hwd _ ac_long args) rfl hd rfl (neg32 h0 hn) (cl32 h0 hn) (by show n.toNat * 8 ≤ _; omega) (by omega) (by omega) hR.1 (fun H' cA e1 e2 e3 hA hf => go H' ?_ e2 e3)
    cases hkn.2.2.2.1.2.symm.trans hf
    exact ⟨e1, fun j hj => by show in64 0; unfold in64; omega⟩
/-- the array of rules -/
theorem g_anew {idx : Nat} {n : Int} (hd : decode μ.1 pc = .ok (.anewarray idx, 3)) (hc : Cond.classLink μ.2.1 idx "BallotDesk$Rule" ∈ lw_t) (h0 : 0 ≤ n) (h1 : n ≤ 1000000) (hcap : L.length + 1 ≤ capC) (hcaps : slt L + n.toNat ≤ capS)
    (kk : GS μ d (pc + 3) A (vr L.length :: st) (L ++ [(5, n.toNat, [], fun _ => vn)]) (updc σ L.length (fun _ => 0)) P) : GS μ d pc A (vi n :: st) L σ P := by
  intro p l e R s m args below meth cd b0 b D H0 Ls H locs cells slots ls S
  have hwd : Wds s := S.1.2.2.2.2.2.2.2.2.1
  have hkn := S.1.2.2.2.2.2.2.2.2.2.1
  have hcc := S.1.2.2.2.2.2.2.2.2.2.2.2.2.2.1
  have hss := S.1.2.2.2.2.2.2.2.2.2.2.2.2.2.2
  have hR := S.2.1
  have h4 := S.2.2.2.1
  have h5 := S.2.2.2.2.1
  have hn : in32 n := okh S.2.2.2.2.2.2.2
  refine W.anew S.1.1 S.1.2.1 S.1.2.2.1 (hwd _ hc args) (hwd _ ao_rule args) rfl hd rfl (neg32 h0 hn) (by rw [cl32 h0 hn]; omega) (by omega) (by rw [cl32 h0 hn]; omega) (fun cA kA comp f1 f2 f3 f4 => ?_)
  cases hkn.2.2.2.2.2.1.2.symm.trans f1
  rw [cl32 h0 hn, arrV_new, hR.1]
  refine kk p l e R s m args below meth cd b0 b D H0 Ls _ locs (cells + 1) (slots + n.toNat) ls ⟨S.1, hR.push (by rw [Array.size_push, hR.1]) (fun q hq => ?_) ⟨?_, fun j hj => ⟨trivial, rfl⟩⟩ hcap hcaps, S.2.2.1, by rw [List.length_append]; show _ = L.length + 1; omega, by rw [slt_push]; show _ = slt L + n.toNat; omega, S.2.2.2.2.2.1, S.2.2.2.2.2.2.1, ok1 (v := vr (L.length : Int)) (okt S.2.2.2.2.2.2.2) trivial⟩
  · rw [Array.getElem?_push, if_neg (by rw [hR.1]; omega)]
  · rw [← hR.1, Array.getElem?_push_size]
    rfl
/-- a rule into the array of rules -/
theorem g_aast {k i k' : Int} {n ci : Nat} {fs fs' : List (Option Vl)} {gg gg' : Int → Vl} (hd : decode μ.1 pc = .ok (.aastore, 1)) (hk : look L k = some (5, n, fs, gg)) (hk' : look L k' = some (0, ci, fs', gg')) (hc : ∃ q : vw_C, classes[ci]? = some q ∧ Cond.castable q.1 "BallotDesk$Rule" ∈ lw_t) (h0 : 0 ≤ i) (hn : i < n)
    (kk : GS μ d (pc + 1) A st (L.set k.toNat (5, n, fs, fun j => if j = i then vr k' else gg j)) σ P) : GS μ d pc A (vr k' :: vi i :: vr k :: st) L σ P := by
  intro p l e R s m args below meth cd b0 b D H0 Ls H locs cells slots ls S
  have hwd : Wds s := S.1.2.2.2.2.2.2.2.2.1
  have hkn := S.1.2.2.2.2.2.2.2.2.2.1
  have hR := S.2.1
  obtain ⟨w, rfl, hw⟩ := look_nat hk
  obtain ⟨w', rfl, hw'⟩ := look_nat hk'
  obtain ⟨h1, h2⟩ := hR.cel hw
  obtain ⟨r, hr, hlen, ⟨cell, q1, q2, q3, q4⟩, h4⟩ := hR.cel hw'
  obtain ⟨q, hq, hca⟩ := hc
  cases hr.symm.trans hq
  have hi : in32 i := okh (okt S.2.2.2.2.2.2.2)
  obtain ⟨c3, t3, v1, v2, v3⟩ := Cond.castable_spec (hwd _ hca args)
  obtain ⟨hS0, hfc, kC, hkC, hkind⟩ := hkn.1 ci r hr
  cases hfc.symm.trans v1
  obtain ⟨hA, hfA⟩ := hkn.2.2.2.2.2.1
  obtain ⟨comp, cA, kA, g1, g2, g3, g4, g5⟩ := Cond.arrayOver_spec (hwd _ ao_rule args)
  cases hfA.symm.trans g5
  cases g1.symm.trans v2
  obtain ⟨kc2, hkc2⟩ := Vm.classAt_of_findClass v2
  refine W.aast S.1.1 S.1.2.1 h1 (fun z h => by cases h) (fun h => by cases h) g3 g4 rfl hkc2 ⟨neg32 h0 hi, by rw [cl32 h0 hi, arrV_size]; omega⟩ q1 (fun z h => by rw [q3] at h; cases h) (by rw [q2]; exact hkC) (by rw [q2]; exact v3) rfl rfl hd (fun H' e1 e2 e3 => ?_)
  refine kk p l e R s m args below meth cd b0 b D H0 Ls H' _ cells slots ls ⟨S.1, hR.put hw e2 e3 ⟨?_, fun j hj => ?_⟩ (fun _ _ => rfl) rfl, locs_ok S.2.2.1 (by omega), by rw [List.length_set]; exact S.2.2.2.1, ?_, S.2.2.2.2.2.1, S.2.2.2.2.2.2.1, okt (okt (okt S.2.2.2.2.2.2.2))⟩
  · show H'[b0 + w]? = _
    rw [e1, cl32 h0 hi]
    refine congrArg some (arr_sto fun j => ?_)
    show cv b0 b (if (j : Int) = i then vr (w' : Int) else gg j) = _
    by_cases e : j = i.toNat
    · have : (j : Int) = i := by omega
      rw [if_pos e, if_pos this]
      rfl
    · have : ¬ (j : Int) = i := by omega
      rw [if_neg e, if_neg this]
  · show okV (if (j : Int) = i then vr (w' : Int) else gg j) ∧ vok (if (j : Int) = i then vr (w' : Int) else gg j) = true
    by_cases e : (j : Int) = i
    · rw [if_pos e]
      exact ⟨trivial, rfl⟩
    · rw [if_neg e]
      exact h2 j hj
  · rw [S.2.2.2.2.1]
    exact (slt_set (sh' := (5, n, fs, fun j => if j = i then vr (w' : Int) else gg j)) hw rfl).symm
end
