/-! the machine's arithmetic on whole numbers -/
def aI (x y : Int) : Int := (Int32.ofInt x &&& Int32.ofInt y).toInt
def oI (x y : Int) : Int := (Int32.ofInt x ||| Int32.ofInt y).toInt
def xI (x y : Int) : Int := (Int32.ofInt x ^^^ Int32.ofInt y).toInt
def hI (x y : Int) : Int := (Int32.ofInt x <<< (Int32.ofInt y &&& 31)).toInt
def rI (x y : Int) : Int := (Int32.ofInt x >>> (Int32.ofInt y &&& 31)).toInt
def qI (x y : Int) : Int := (Int32.ofInt x / Int32.ofInt y).toInt
def mI (x y : Int) : Int := (Int32.ofInt x - Int32.ofInt x / Int32.ofInt y * Int32.ofInt y).toInt
def aL (x y : Int) : Int := (Int64.ofInt x &&& Int64.ofInt y).toInt
def oL (x y : Int) : Int := (Int64.ofInt x ||| Int64.ofInt y).toInt
def hL (x y : Int) : Int := (Int64.ofInt x <<< ((Int32.ofInt y).toInt64 &&& 63)).toInt
def rL (x y : Int) : Int := (Int64.ofInt x >>> ((Int32.ofInt y).toInt64 &&& 63)).toInt
def cL (x y : Int) : Int := if y < x then 1 else if x = y then 0 else -1
theorem in32_of (x : Int32) : in32 x.toInt := by
  have h1 := x.le_toInt
  have h2 := x.toInt_lt
  unfold in32
  omega
theorem in64_of (x : Int64) : in64 x.toInt := by
  have h1 := x.le_toInt
  have h2 := x.toInt_lt
  unfold in64
  omega
theorem lt32 {x y : Int} (hx : in32 x) (hy : in32 y) : Int32.ofInt x < Int32.ofInt y ↔ x < y := by rw [Int32.lt_iff_toInt_lt, of32 hx, of32 hy]
theorem le32 {x y : Int} (hx : in32 x) (hy : in32 y) : Int32.ofInt x ≤ Int32.ofInt y ↔ x ≤ y := by rw [Int32.le_iff_toInt_le, of32 hx, of32 hy]
theorem eq32 {x y : Int} (hx : in32 x) (hy : in32 y) : Int32.ofInt x = Int32.ofInt y ↔ x = y := by rw [← Int32.toInt_inj, of32 hx, of32 hy]
theorem lt64 {x y : Int} (hx : in64 x) (hy : in64 y) : Int64.ofInt x < Int64.ofInt y ↔ x < y := by rw [Int64.lt_iff_toInt_lt, of64 hx, of64 hy]
theorem eq64 {x y : Int} (hx : in64 x) (hy : in64 y) : Int64.ofInt x = Int64.ofInt y ↔ x = y := by rw [← Int64.toInt_inj, of64 hx, of64 hy]
theorem z32 : in32 0 := by unfold in32; omega
theorem of0 : Int32.ofInt 0 = 0 := rfl
theorem cl32 {x : Int} (h0 : 0 ≤ x) (h : in32 x) : (Int32.ofInt x).toNatClampNeg = x.toNat := by
  show (Int32.ofInt x).toInt.toNat = _
  rw [of32 h]
theorem neg32 {x : Int} (h0 : 0 ≤ x) (h : in32 x) : ¬ Int32.ofInt x < 0 := by
  rw [← of0, lt32 h z32]
  omega
section
variable {μ : MI} {d pc pc' : Nat} {A st st' : List Vl} {L : List Sh} {σ : Mm} {P : Out → List Sh → Mm → Prop}
theorem ok1 {v : Vl} (h : ∀ v ∈ st, okV v) (hv : okV v) : ∀ w ∈ v :: st, okV w := by
  intro w hw
  rcases List.mem_cons.mp hw with rfl | h1
  · exact hv
  · exact h w h1
theorem okt {v : Vl} (h : ∀ w ∈ v :: st, okV w) : ∀ w ∈ st, okV w := fun w hw => h w (List.mem_cons_of_mem _ hw)
theorem okh {v : Vl} (h : ∀ w ∈ v :: st, okV w) : okV v := h v List.mem_cons_self
/-- a step that moves operands alone -/
theorem GS.op (k : GS μ d pc' A st' L σ P) (hok : (∀ v ∈ st, okV v) → ∀ v ∈ st', okV v)
    (h : ∀ {p : Program} {l : Launch} {e : Env} {R : Room} {s : State} {m : MethodId} {args : Array Value} {below : List Frame} {meth : Method} {c : Code} {H : Heap} {locs : List Loc} {cells slots : Nat} {Q : State → Prop} {ls : Array Slot} (b0 b : Nat), p.tables.exec = Jvm.exec → c.code = μ.1 → s.vm.findClass μ.2.1 = some m.cls → Wds s → (∀ v ∈ st, okV v) →
      W p l e R s m args below meth c H locs cells slots Q (F0 m pc' ls (st'.map (cv b0 b))) → W p l e R s m args below meth c H locs cells slots Q (F0 m pc ls (st.map (cv b0 b)))) : GS μ d pc A st L σ P := by
  intro p l e R s m args below meth c b0 b D H0 Ls H locs cells slots ls S
  exact h b0 b S.1.1 S.1.2.1 S.1.2.2.1 S.1.2.2.2.2.2.2.2.2.1 S.2.2.2.2.2.2.2 (k p l e R s m args below meth c b0 b D H0 Ls H locs cells slots ls ⟨S.1, S.2.1, S.2.2.1, S.2.2.2.1, S.2.2.2.2.1, S.2.2.2.2.2.1, S.2.2.2.2.2.2.1, hok S.2.2.2.2.2.2.2⟩)
theorem g_iconst {n : Int} (hd : decode μ.1 pc = .ok (.iconst n, 1)) (hn : in32 n) (k : GS μ d (pc + 1) A (vi n :: st) L σ P) : GS μ d pc A st L σ P :=
  GS.op k (fun h => ok1 h hn) (fun b0 b hx hb _ _ _ w => lv_iconst hx hb hd rfl w)
theorem g_bipush {n : Int} (hd : decode μ.1 pc = .ok (.bipush n, 2)) (hn : in32 n) (hv : (Int8.ofInt n).toInt32 = Int32.ofInt n) (k : GS μ d (pc + 2) A (vi n :: st) L σ P) : GS μ d pc A st L σ P :=
  GS.op k (fun h => ok1 h hn) (fun b0 b hx hb _ _ _ w => lv_bipush hx hb hd hv w)
theorem g_sipush {n : Int} (hd : decode μ.1 pc = .ok (.sipush n, 3)) (hn : in32 n) (hv : (Int16.ofInt n).toInt32 = Int32.ofInt n) (k : GS μ d (pc + 3) A (vi n :: st) L σ P) : GS μ d pc A st L σ P :=
  GS.op k (fun h => ok1 h hn) (fun b0 b hx hb _ _ _ w => lv_sipush hx hb hd hv w)
theorem g_lconst {n : Fin 2} (hd : decode μ.1 pc = .ok (.lconst n, 1)) (k : GS μ d (pc + 1) A (vl ((n : Nat) : Int) :: st) L σ P) : GS μ d pc A st L σ P :=
  GS.op k (fun h => ok1 h (show in64 _ by unfold in64; omega)) (fun b0 b hx hb _ _ _ w => lv_lconst hx hb hd rfl w)
theorem g_ldc {idx : Nat} {n : Int} (hd : decode μ.1 pc = .ok (.ldc idx, 2)) (hn : in32 n) (hc : Cond.constant μ.2.1 idx (Int32.ofInt n) ∈ lw_t) (k : GS μ d (pc + 2) A (vi n :: st) L σ P) : GS μ d pc A st L σ P :=
  GS.op k (fun h => ok1 h hn) (fun b0 b hx hb ho hw _ w => lv_ldc hx hb ho (hw _ hc _) hd w)
theorem g_ldc2 {idx : Nat} {n : Int} (hd : decode μ.1 pc = .ok (.ldc2_w idx, 3)) (hn : in64 n) (hc : Cond.constantLong μ.2.1 idx (Int64.ofInt n) ∈ lw_t) (k : GS μ d (pc + 3) A (vl n :: st) L σ P) : GS μ d pc A st L σ P :=
  GS.op k (fun h => ok1 h hn) (fun b0 b hx hb ho hw _ w => lv_ldc2 hx hb ho (hw _ hc _) hd w)
theorem g_iadd {x y : Int} (hd : decode μ.1 pc = .ok (.iadd, 1)) (k : GS μ d (pc + 1) A (vi (wI (x + y)) :: st) L σ P) : GS μ d pc A (vi y :: vi x :: st) L σ P :=
  GS.op k (fun h => ok1 (okt (okt h)) (wI_in _)) (fun b0 b hx hb _ _ _ w => lv_iadd hx hb hd (by simpa only [List.map_cons, cv, wI_of, Int32.ofInt_add] using w))
theorem g_isub {x y : Int} (hd : decode μ.1 pc = .ok (.isub, 1)) (k : GS μ d (pc + 1) A (vi (wI (x - y)) :: st) L σ P) : GS μ d pc A (vi y :: vi x :: st) L σ P :=
  GS.op k (fun h => ok1 (okt (okt h)) (wI_in _)) (fun b0 b hx hb _ _ _ w => lv_isub hx hb hd (by simpa only [List.map_cons, cv, wI_of, Int32.ofInt_sub] using w))
theorem g_imul {x y : Int} (hd : decode μ.1 pc = .ok (.imul, 1)) (k : GS μ d (pc + 1) A (vi (wI (x * y)) :: st) L σ P) : GS μ d pc A (vi y :: vi x :: st) L σ P :=
  GS.op k (fun h => ok1 (okt (okt h)) (wI_in _)) (fun b0 b hx hb _ _ _ w => lv_imul hx hb hd (by simpa only [List.map_cons, cv, wI_of, Int32.ofInt_mul] using w))
theorem g_ineg {x : Int} (hd : decode μ.1 pc = .ok (.ineg, 1)) (k : GS μ d (pc + 1) A (vi (wI (-x)) :: st) L σ P) : GS μ d pc A (vi x :: st) L σ P :=
  GS.op k (fun h => ok1 (okt h) (wI_in _)) (fun b0 b hx hb _ _ _ w => lv_ineg hx hb hd (by simpa only [List.map_cons, cv, wI_of, Int32.ofInt_neg] using w))
theorem g_iand {x y : Int} (hd : decode μ.1 pc = .ok (.iand, 1)) (k : GS μ d (pc + 1) A (vi (aI x y) :: st) L σ P) : GS μ d pc A (vi y :: vi x :: st) L σ P :=
  GS.op k (fun h => ok1 (okt (okt h)) (in32_of _)) (fun b0 b hx hb _ _ _ w => lv_iand hx hb hd (by simpa only [List.map_cons, cv, aI, Int32.ofInt_toInt] using w))
theorem g_ior {x y : Int} (hd : decode μ.1 pc = .ok (.ior, 1)) (k : GS μ d (pc + 1) A (vi (oI x y) :: st) L σ P) : GS μ d pc A (vi y :: vi x :: st) L σ P :=
  GS.op k (fun h => ok1 (okt (okt h)) (in32_of _)) (fun b0 b hx hb _ _ _ w => lv_ior hx hb hd (by simpa only [List.map_cons, cv, oI, Int32.ofInt_toInt] using w))
theorem g_ixor {x y : Int} (hd : decode μ.1 pc = .ok (.ixor, 1)) (k : GS μ d (pc + 1) A (vi (xI x y) :: st) L σ P) : GS μ d pc A (vi y :: vi x :: st) L σ P :=
  GS.op k (fun h => ok1 (okt (okt h)) (in32_of _)) (fun b0 b hx hb _ _ _ w => lv_ixor hx hb hd (by simpa only [List.map_cons, cv, xI, Int32.ofInt_toInt] using w))
theorem g_ishl {x y : Int} (hd : decode μ.1 pc = .ok (.ishl, 1)) (k : GS μ d (pc + 1) A (vi (hI x y) :: st) L σ P) : GS μ d pc A (vi y :: vi x :: st) L σ P :=
  GS.op k (fun h => ok1 (okt (okt h)) (in32_of _)) (fun b0 b hx hb _ _ _ w => lv_ishl hx hb hd (by simpa only [List.map_cons, cv, hI, Int32.ofInt_toInt] using w))
theorem g_ishr {x y : Int} (hd : decode μ.1 pc = .ok (.ishr, 1)) (k : GS μ d (pc + 1) A (vi (rI x y) :: st) L σ P) : GS μ d pc A (vi y :: vi x :: st) L σ P :=
  GS.op k (fun h => ok1 (okt (okt h)) (in32_of _)) (fun b0 b hx hb _ _ _ w => lv_ishr hx hb hd (by simpa only [List.map_cons, cv, rI, Int32.ofInt_toInt] using w))
theorem g_idiv {x y : Int} (hd : decode μ.1 pc = .ok (.idiv, 1)) (hy : y ≠ 0) (k : GS μ d (pc + 1) A (vi (qI x y) :: st) L σ P) : GS μ d pc A (vi y :: vi x :: st) L σ P :=
  GS.op k (fun h => ok1 (okt (okt h)) (in32_of _)) (fun b0 b hx hb _ _ hs w => lv_idiv hx hb hd (by rw [← of0, eq32 (okh hs) z32]; exact hy) (by simpa only [List.map_cons, cv, qI, Int32.ofInt_toInt] using w))
theorem g_irem {x y : Int} (hd : decode μ.1 pc = .ok (.irem, 1)) (hy : y ≠ 0) (k : GS μ d (pc + 1) A (vi (mI x y) :: st) L σ P) : GS μ d pc A (vi y :: vi x :: st) L σ P :=
  GS.op k (fun h => ok1 (okt (okt h)) (in32_of _)) (fun b0 b hx hb _ _ hs w => lv_irem hx hb hd (by rw [← of0, eq32 (okh hs) z32]; exact hy) (by simpa only [List.map_cons, cv, mI, Int32.ofInt_toInt] using w))
theorem g_ladd {x y : Int} (hd : decode μ.1 pc = .ok (.ladd, 1)) (k : GS μ d (pc + 1) A (vl (wL (x + y)) :: st) L σ P) : GS μ d pc A (vl y :: vl x :: st) L σ P :=
  GS.op k (fun h => ok1 (okt (okt h)) (wL_in _)) (fun b0 b hx hb _ _ _ w => lv_ladd hx hb hd (by simpa only [List.map_cons, cv, wL_of, Int64.ofInt_add] using w))
theorem g_lmul {x y : Int} (hd : decode μ.1 pc = .ok (.lmul, 1)) (k : GS μ d (pc + 1) A (vl (wL (x * y)) :: st) L σ P) : GS μ d pc A (vl y :: vl x :: st) L σ P :=
  GS.op k (fun h => ok1 (okt (okt h)) (wL_in _)) (fun b0 b hx hb _ _ _ w => lv_lmul hx hb hd (by simpa only [List.map_cons, cv, wL_of, Int64.ofInt_mul] using w))
theorem g_land {x y : Int} (hd : decode μ.1 pc = .ok (.land, 1)) (k : GS μ d (pc + 1) A (vl (aL x y) :: st) L σ P) : GS μ d pc A (vl y :: vl x :: st) L σ P :=
  GS.op k (fun h => ok1 (okt (okt h)) (in64_of _)) (fun b0 b hx hb _ _ _ w => lv_land hx hb hd (by simpa only [List.map_cons, cv, aL, Int64.ofInt_toInt] using w))
theorem g_lor {x y : Int} (hd : decode μ.1 pc = .ok (.lor, 1)) (k : GS μ d (pc + 1) A (vl (oL x y) :: st) L σ P) : GS μ d pc A (vl y :: vl x :: st) L σ P :=
  GS.op k (fun h => ok1 (okt (okt h)) (in64_of _)) (fun b0 b hx hb _ _ _ w => lv_lor hx hb hd (by simpa only [List.map_cons, cv, oL, Int64.ofInt_toInt] using w))
theorem g_lshl {x y : Int} (hd : decode μ.1 pc = .ok (.lshl, 1)) (k : GS μ d (pc + 1) A (vl (hL x y) :: st) L σ P) : GS μ d pc A (vi y :: vl x :: st) L σ P :=
  GS.op k (fun h => ok1 (okt (okt h)) (in64_of _)) (fun b0 b hx hb _ _ _ w => lv_lshl hx hb hd rfl (by simpa only [List.map_cons, cv, hL, Int64.ofInt_toInt] using w))
theorem g_lshr {x y : Int} (hd : decode μ.1 pc = .ok (.lshr, 1)) (k : GS μ d (pc + 1) A (vl (rL x y) :: st) L σ P) : GS μ d pc A (vi y :: vl x :: st) L σ P :=
  GS.op k (fun h => ok1 (okt (okt h)) (in64_of _)) (fun b0 b hx hb _ _ _ w => lv_lshr hx hb hd rfl (by simpa only [List.map_cons, cv, rL, Int64.ofInt_toInt] using w))
theorem g_i2l {x : Int} (hd : decode μ.1 pc = .ok (.i2l, 1)) (k : GS μ d (pc + 1) A (vl x :: st) L σ P) : GS μ d pc A (vi x :: st) L σ P := by
  refine GS.op (st' := vl x :: st) k (fun h => ok1 (okt h) ?_) (fun b0 b hx hb _ _ hs w => lv_i2l (v := Int64.ofInt x) hx hb hd ?_ w)
  · have h0 : in32 x := okh h
    have h1 : -2147483648 ≤ x := h0.1
    have h2 : x < 2147483648 := h0.2
    exact ⟨by omega, by omega⟩
  · have h : in32 x := okh hs
    have h1 : -2147483648 ≤ x := h.1
    have h2 : x < 2147483648 := h.2
    rw [← Int64.toInt_inj, Int32.toInt_toInt64, of32 h, of64 ⟨by omega, by omega⟩]
theorem g_lcmp {x y : Int} (hd : decode μ.1 pc = .ok (.lcmp, 1)) (k : GS μ d (pc + 1) A (vi (cL x y) :: st) L σ P) : GS μ d pc A (vl y :: vl x :: st) L σ P := by
  refine GS.op (st' := vi (cL x y) :: st) k (fun h => ok1 (okt (okt h)) ?_) (fun b0 b hx hb _ _ hs w => W.lcmp hx hb hd ?_)
  · show in32 _
    unfold cL in32
    split
    · omega
    · split <;> omega
  · have hy : in64 y := okh hs
    have hx' : in64 x := okh (okt hs)
    have e1 : lg_cmp (Int64.ofInt x) (Int64.ofInt y) = Int32.ofInt (cL x y) := by
      unfold lg_cmp cL
      simp only [gt_iff_lt, lt64 hy hx', eq64 hx' hy]
      split
      · rfl
      · split <;> rfl
    rw [e1]
    exact w
theorem cat1 {v : Vl} (hv : ∀ z, v ≠ vl z) (b0 b : Nat) : (cv b0 b v).category = 1 := by
  rcases v with z | z | k | n
  · rfl
  · exact absurd rfl (hv z)
  · rfl
  · rcases n with _ | _ | n <;> rfl
theorem g_dup {v : Vl} (hd : decode μ.1 pc = .ok (.dup, 1)) (hv : ∀ z, v ≠ vl z) (k : GS μ d (pc + 1) A (v :: v :: st) L σ P) : GS μ d pc A (v :: st) L σ P :=
  GS.op k (fun h => ok1 h (okh h)) (fun b0 b hx hb _ _ _ w => lv_dup hx hb hd (cat1 hv b0 b) w)
theorem g_pop {v : Vl} (hd : decode μ.1 pc = .ok (.pop, 1)) (hv : ∀ z, v ≠ vl z) (k : GS μ d (pc + 1) A st L σ P) : GS μ d pc A (v :: st) L σ P :=
  GS.op k (fun h => okt h) (fun b0 b hx hb _ _ _ w => lv_pop hx hb hd (cat1 hv b0 b) w)
theorem g_dup2 {v u : Vl} (hd : decode μ.1 pc = .ok (.dup2, 1)) (hv : ∀ z, v ≠ vl z) (hu : ∀ z, u ≠ vl z) (k : GS μ d (pc + 1) A (v :: u :: v :: u :: st) L σ P) : GS μ d pc A (v :: u :: st) L σ P :=
  GS.op k (fun h => ok1 (ok1 h (okh (okt h))) (okh h)) (fun b0 b hx hb _ _ _ w => lv_dup2_11 hx hb hd (cat1 hv b0 b) (cat1 hu b0 b) w)
theorem g_goto {off : Int} {tgt : Nat} (hd : decode μ.1 pc = .ok (.goto off, 3)) (ht : (pc : Int) + off = (tgt : Int)) (k : GS μ d tgt A st L σ P) : GS μ d pc A st L σ P :=
  GS.op k (fun h => h) (fun b0 b hx hb _ _ _ w => lv_goto hx hb hd ht w)
/-- a branch: both roads -/
theorem GS.br {c : Prop} {tgt : Nat} (kt : c → GS μ d tgt A st' L σ P) (kf : ¬ c → GS μ d pc' A st' L σ P) (hok : (∀ v ∈ st, okV v) → ∀ v ∈ st', okV v)
    (h : ∀ {p : Program} {l : Launch} {e : Env} {R : Room} {s : State} {m : MethodId} {args : Array Value} {below : List Frame} {meth : Method} {cd : Code} {H : Heap} {locs : List Loc} {cells slots : Nat} {Q : State → Prop} {ls : Array Slot} (b0 b : Nat), p.tables.exec = Jvm.exec → cd.code = μ.1 → (∀ v ∈ st, okV v) →
      (c → W p l e R s m args below meth cd H locs cells slots Q (F0 m tgt ls (st'.map (cv b0 b)))) → (¬ c → W p l e R s m args below meth cd H locs cells slots Q (F0 m pc' ls (st'.map (cv b0 b)))) → W p l e R s m args below meth cd H locs cells slots Q (F0 m pc ls (st.map (cv b0 b)))) : GS μ d pc A st L σ P := by
  intro p l e R s m args below meth cd b0 b D H0 Ls H locs cells slots ls S
  have S' : Sx μ d A st' L σ p e R s m meth cd b0 b D H0 Ls H locs cells slots ls := ⟨S.1, S.2.1, S.2.2.1, S.2.2.2.1, S.2.2.2.2.1, S.2.2.2.2.2.1, S.2.2.2.2.2.2.1, hok S.2.2.2.2.2.2.2⟩
  exact h b0 b S.1.1 S.1.2.1 S.2.2.2.2.2.2.2 (fun q => kt q p l e R s m args below meth cd b0 b D H0 Ls H locs cells slots ls S') (fun q => kf q p l e R s m args below meth cd b0 b D H0 Ls H locs cells slots ls S')
/-- the comparison that a branch asks -/
def icm (c : ClassFile.Cond) (x y : Int) : Prop := match c with
  | .eq => x = y
  | .ne => x ≠ y
  | .lt => x < y
  | .ge => y ≤ x
  | .gt => y < x
  | .le => x ≤ y
theorem g_icmp {cn : ClassFile.Cond} {x y off : Int} {tgt : Nat} (hd : decode μ.1 pc = .ok (.if_icmp cn off, 3)) (ht : (pc : Int) + off = (tgt : Int)) (kt : icm cn x y → GS μ d tgt A st L σ P) (kf : ¬ icm cn x y → GS μ d (pc + 3) A st L σ P) : GS μ d pc A (vi y :: vi x :: st) L σ P := by
  refine GS.br kt kf (fun h => okt (okt h)) (fun b0 b hx hb hs wt wf => ?_)
  have hy : in32 y := okh hs
  have hx' : in32 x := okh (okt hs)
  cases cn with
  | eq => exact lv_icmp_eq hx hb hd ht (fun q => wt ((eq32 hx' hy).mp q)) (fun q => wf (fun q' => q ((eq32 hx' hy).mpr q')))
  | ne => exact lv_icmp_ne hx hb hd ht (fun q => wt (fun q' => q ((eq32 hx' hy).mpr q'))) (fun q => wf (fun q' => q' ((eq32 hx' hy).mp q)))
  | lt => exact lv_icmp_lt hx hb hd ht (fun q => wt ((lt32 hx' hy).mp q)) (fun q => wf (fun q' => q ((lt32 hx' hy).mpr q')))
  | ge => exact lv_icmp_ge hx hb hd ht (fun q => wt ((le32 hy hx').mp q)) (fun q => wf (fun q' => q ((le32 hy hx').mpr q')))
  | gt => exact lv_icmp_gt hx hb hd ht (fun q => wt ((lt32 hy hx').mp q)) (fun q => wf (fun q' => q ((lt32 hy hx').mpr q')))
  | le => exact lv_icmp_le hx hb hd ht (fun q => wt ((le32 hx' hy).mp q)) (fun q => wf (fun q' => q ((le32 hx' hy).mpr q')))
theorem g_ifc {cn : ClassFile.Cond} {x off : Int} {tgt : Nat} (hd : decode μ.1 pc = .ok (.ifCond cn off, 3)) (ht : (pc : Int) + off = (tgt : Int)) (kt : icm cn x 0 → GS μ d tgt A st L σ P) (kf : ¬ icm cn x 0 → GS μ d (pc + 3) A st L σ P) : GS μ d pc A (vi x :: st) L σ P := by
  refine GS.br kt kf (fun h => okt h) (fun b0 b hx hb hs wt wf => ?_)
  have hx' : in32 x := okh hs
  cases cn with
  | eq => exact lv_if_eq hx hb hd ht (fun q => wt ((eq32 hx' z32).mp q)) (fun q => wf (fun q' => q ((eq32 hx' z32).mpr q')))
  | ne => exact lv_if_ne hx hb hd ht (fun q => wt (fun q' => q ((eq32 hx' z32).mpr q'))) (fun q => wf (fun q' => q' ((eq32 hx' z32).mp q)))
  | lt => exact lv_if_lt hx hb hd ht (fun q => wt ((lt32 hx' z32).mp q)) (fun q => wf (fun q' => q ((lt32 hx' z32).mpr q')))
  | ge => exact lv_if_ge hx hb hd ht (fun q => wt ((le32 z32 hx').mp q)) (fun q => wf (fun q' => q ((le32 z32 hx').mpr q')))
  | gt => exact lv_if_gt hx hb hd ht (fun q => wt ((lt32 z32 hx').mp q)) (fun q => wf (fun q' => q ((lt32 z32 hx').mpr q')))
  | le => exact lv_if_le hx hb hd ht (fun q => wt ((le32 hx' z32).mp q)) (fun q => wf (fun q' => q ((le32 hx' z32).mpr q')))
theorem g_tableOut {dflt lo hi : Int} {offs : Array Int} {len tgt : Nat} {x : Int} (hd : decode μ.1 pc = .ok (.tableswitch dflt lo hi offs, len)) (h : x < lo ∨ hi < x) (ht : (pc : Int) + dflt = (tgt : Int)) (k : GS μ d tgt A st L σ P) : GS μ d pc A (vi x :: st) L σ P :=
  GS.op k (fun h => okt h) (fun b0 b hx hb _ _ hs w => lv_tableOut hx hb hd (by rw [of32 (okh hs)]; exact h) ht w)
theorem g_tableIn {dflt lo hi : Int} {offs : Array Int} {len tgt : Nat} {x off : Int} (hd : decode μ.1 pc = .ok (.tableswitch dflt lo hi offs, len)) (h1 : lo ≤ x) (h2 : x ≤ hi) (ho : offs[(x - lo).toNat]? = some off) (ht : (pc : Int) + off = (tgt : Int)) (k : GS μ d tgt A st L σ P) : GS μ d pc A (vi x :: st) L σ P :=
  GS.op k (fun h => okt h) (fun b0 b hx hb _ _ hs w => lv_tableIn hx hb hd (by rw [of32 (okh hs)]; omega) (by rw [of32 (okh hs)]; omega) (by rw [of32 (okh hs)]; exact ho) ht w)
end
