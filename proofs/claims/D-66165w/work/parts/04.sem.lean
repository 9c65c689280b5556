/-! WHAT THE PURE MACHINE's STATES MEAN -/
abbrev MI : Type := ByteArray × String × Nat × Option FieldType × List (Nat × Nat × Nat × Nat) × String
def capC : Nat := 601024
def capS : Nat := 7293034
def fv (b0 b : Nat) (fs : List (Option Vl)) (f : Int → Int) (j : Nat) : Value := match fs[j]? with
  | some none => .int (Int32.ofInt (f j))
  | some (some v) => cv b0 b v
  | none => .null
/-- a cell of the heap is as its shape and its data say -/
def celOK (b0 b : Nat) (D : va_G) (sh : Sh) (f : Int → Int) (H : Heap) (a : Nat) : Prop := match sh with
  | (0, c, fs, _) => ∃ r : vw_C, classes[c]? = some r ∧ fs.length = r.2.2 ∧ t_OB a (D.1 c) r.2.2 (D.2 c) H (fv b0 b fs f) ∧ ∀ j : Nat, fs[j]? = some none → in32 (f j)
  | (1, n, _, _) => H[a]? = some (arrV (D.1 30) n (fun j => .int (Int32.ofInt (f j)))) ∧ ∀ j : Nat, j < n → in32 (f j)
  | (2, n, _, _) => H[a]? = some (arrV (D.1 31) n (fun j => .int (Int32.ofInt (f j)))) ∧ ∀ j : Nat, j < n → f j = 0 ∨ f j = 1
  | (3, n, _, _) => H[a]? = some (arrV (D.1 32) n (fun j => .long (Int64.ofInt (f j)))) ∧ ∀ j : Nat, j < n → in64 (f j)
  | (4, n, _, g) => H[a]? = some (arrV (D.1 33) n (fun j => cv b0 b (g j))) ∧ ∀ j : Nat, j < n → okV (g j) ∧ vok (g j) = true
  | (5, n, _, g) => H[a]? = some (arrV (D.1 34) n (fun j => cv b0 b (g j))) ∧ ∀ j : Nat, j < n → okV (g j) ∧ vok (g j) = true
  | (7, c, _, _) => ∃ cell : Cell, H[a]? = some cell ∧ cell.cls = D.1 (40 + c) ∧ cell.vm = .none
  | _ => False
/-- the script that the law is given: its ints are row -1 of the data, its length place 0 of row -2 -/
def Scr (b : Nat) (σ : Mm) (H0 : Heap) : Prop := ∃ scr : Cell, H0[b]? = some scr ∧ (scr.slots.size : Int) = σ (-2) 0 ∧ scr.slots.size ≤ 2048 ∧ ∀ j : Nat, j < scr.slots.size → scr.slots[j]? = some (.int (Int32.ofInt (σ (-1) j))) ∧ in32 (σ (-1) j)
def Rel (b0 b : Nat) (D : va_G) (H0 : Heap) (L : List Sh) (σ : Mm) (H : Heap) : Prop :=
  H.size = b0 + L.length ∧ (∀ (k : Nat) (sh : Sh), L[k]? = some sh → celOK b0 b D sh (σ k) H (b0 + k)) ∧ (∀ q : Nat, q < b0 → H[q]? = H0[q]?) ∧ Scr b σ H0 ∧ b < b0 ∧ L.length ≤ capC ∧ slt L ≤ capS
/-- what is known of the tables in a state -/
def KN (b : Nat) (D : va_G) (H0 : Heap) (u : State) : Prop :=
  (∀ (c : Nat) (q : vw_C), classes[c]? = some q → u_Kn u q.1 q.2.1 q.2.2 (D.1 c) (D.2 c)) ∧
  (ArrOfT u (D.1 30) .int ∧ u.vm.findClass "[I" = some (D.1 30)) ∧ (ArrOfT u (D.1 31) .boolean ∧ u.vm.findClass "[Z" = some (D.1 31)) ∧ (ArrOfT u (D.1 32) .long ∧ u.vm.findClass "[J" = some (D.1 32)) ∧
  (ArrOfT u (D.1 33) (.array .int) ∧ u.vm.findClass "[[I" = some (D.1 33)) ∧ (ArrOfT u (D.1 34) (.object "BallotDesk$Rule") ∧ u.vm.findClass "[LBallotDesk$Rule;" = some (D.1 34)) ∧
  (u.vm.findClass "java/lang/IllegalArgumentException" = some (D.1 40) ∧ u.vm.findClass "java/lang/IllegalStateException" = some (D.1 41) ∧ u.vm.findClass "java/util/NoSuchElementException" = some (D.1 42)) ∧
  (∃ scr : Cell, H0[b]? = some scr ∧ u.isArrayOf scr .int ∧ scr.vm ≠ .unknown)
/-- every word of the tables -/
def Wds (s : State) : Prop := ∀ w ∈ lw_t, ∀ A : Array Value, w.before A s = true
def exT (c : Code) : List (Nat × Nat × Nat × Nat) := c.exceptionTable.toList.map fun x => (x.startPc, x.endPc, x.handlerPc, x.catchType)
/-- pairs of classes that are not castable, Throwable's statics: out of narrow_1 -/
def ncl : List (String × String) := [("java/lang/IllegalStateException", "java/lang/IllegalArgumentException"), ("java/lang/IllegalArgumentException", "java/util/NoSuchElementException"), ("BallotDesk$Runoff", "BallotDesk$Scored"), ("BallotDesk$Elimination", "BallotDesk$Scored"), ("BallotDesk$Paths", "BallotDesk$Scored"), ("BallotDesk$Locks", "BallotDesk$Scored"), ("BallotDesk$Agreement", "BallotDesk$Scored"), ("BallotDesk$Uncovered", "BallotDesk$Scored"), ("BallotDesk$Agenda", "BallotDesk$Scored")]
def stw : List Cond := [.laysStatic "java/lang/Throwable" "UNASSIGNED_STACK" "[Ljava/lang/StackTraceElement;", .laysStatic "java/lang/Throwable" "SUPPRESSED_SENTINEL" "Ljava/util/List;", .isRef (.static "java/lang/Throwable" "UNASSIGNED_STACK" "[Ljava/lang/StackTraceElement;"), .isRef (.static "java/lang/Throwable" "SUPPRESSED_SENTINEL" "Ljava/util/List;")]
def Nrw (e : Env) (b0 : Nat) (H0 : Heap) (s : State) : Prop := e.platform.stackTraces = false ∧ (∀ q ∈ ncl, va_Nc q.1 q.2 s) ∧
  (∀ U : State, s.vm.Alike U.vm → (∀ (a : Nat) (cell : Cell), s.heap[a]? = some cell → cell.vm.isStatics = true → U.heap[a]? = some cell) → ∀ w ∈ stw, ∀ A : Array Value, w.before A U = true) ∧
  (∀ (a : Nat) (cell : Cell), s.heap[a]? = some cell → cell.vm.isStatics = true → a < b0 ∧ H0[a]? = some cell)
def Cx (μ : MI) (d : Nat) (p : Program) (e : Env) (R : Room) (s : State) (m : MethodId) (meth : Method) (c : Code) (b0 b : Nat) (D : va_G) (H0 : Heap) (Ls : List Sh) : Prop :=
  p.tables.exec = Jvm.exec ∧ c.code = μ.1 ∧ s.vm.findClass μ.2.1 = some m.cls ∧ c.maxLocals = μ.2.2.1 ∧ meth.sig.returnType = μ.2.2.2.1 ∧ meth.locks = false ∧ exT c = μ.2.2.2.2.1 ∧ meth.name = μ.2.2.2.2.2 ∧
  Wds s ∧ KN b D H0 s ∧ Nrw e b0 H0 s ∧ d ≤ R.frames ∧ 100 * d ≤ R.locals ∧ capC ≤ R.cells + Ls.length ∧ capS ≤ R.slots + slt Ls
def lvOf (b0 b : Nat) (A : List Vl) : List (Nat × Value) := (List.range A.length).filterMap fun i => match A[i]? with
  | some v => if vok v = true then some (i, cv b0 b v) else none
  | none => none
def RQ (b0 b : Nat) (D : va_G) (H0 : Heap) (below : List Frame) (s : State) (Ls : List Sh) (P : Out → List Sh → Mm → Prop) : State → Prop := fun t =>
  ∃ (o : Out) (L' : List Sh) (σ' : Mm) (Lc : List Loc) (k n : Nat), t.status = .running ∧ Ended t below (co b0 b o) ∧ s.WarmedH t.vm ∧ s.sameButNew ({ t with vm := s.vm } : State) Lc k n ∧ (∀ q ∈ Lc, b0 ≤ q.base) ∧
    k + Ls.length = L'.length ∧ n + slt Ls = slt L' ∧ Rel b0 b D H0 L' σ' t.heap ∧ okO L' o ∧ P o L' σ'
def Sx (μ : MI) (d : Nat) (A st : List Vl) (L : List Sh) (σ : Mm) (p : Program) (e : Env) (R : Room) (s : State) (m : MethodId) (meth : Method) (c : Code) (b0 b : Nat) (D : va_G) (H0 : Heap) (Ls : List Sh) (H : Heap) (locs : List Loc) (cells slots : Nat) (ls : Array Slot) : Prop :=
  Cx μ d p e R s m meth c b0 b D H0 Ls ∧ Rel b0 b D H0 L σ H ∧ (∀ q ∈ locs, b0 ≤ q.base) ∧ cells + Ls.length = L.length ∧ slots + slt Ls = slt L ∧ lv_has ls μ.2.2.1 (lvOf b0 b A) ∧ (∀ v ∈ A, okV v) ∧ (∀ v ∈ st, okV v)
/-- A POINT OF A METHOD: from pc, with locals A, operands st, cells L, data σ, the method ends in P -/
def GS (μ : MI) (d pc : Nat) (A st : List Vl) (L : List Sh) (σ : Mm) (P : Out → List Sh → Mm → Prop) : Prop :=
  ∀ (p : Program) (l : Launch) (e : Env) (R : Room) (s : State) (m : MethodId) (args : Array Value) (below : List Frame) (meth : Method) (c : Code) (b0 b : Nat) (D : va_G) (H0 : Heap) (Ls : List Sh) (H : Heap) (locs : List Loc) (cells slots : Nat) (ls : Array Slot),
    Sx μ d A st L σ p e R s m meth c b0 b D H0 Ls H locs cells slots ls → W p l e R s m args below meth c H locs cells slots (RQ b0 b D H0 below s Ls P) (F0 m pc ls (st.map (cv b0 b)))
/-- A METHOD's RUN: called with these arguments, it ends in P -/
def Ex (d : Nat) (y : MethodName) (as : List Vl) (L : List Sh) (σ : Mm) (P : Out → List Sh → Mm → Prop) : Prop :=
  ∀ (p : Program) (l : Launch) (e : Env) (R : Room) (s : State) (m : MethodId) (below : List Frame) (meth : Method) (c : Code) (b0 b : Nat) (D : va_G) (H0 : Heap) (s₁ : State),
    p.tables.exec = Jvm.exec → s.methodNamed? y = some m → Stand p l e R s m (as.map (cv b0 b)).toArray below meth c s₁ [] 0 0 → s₁.heap = s.heap → Wds s → KN b D H0 s → Nrw e b0 H0 s → d ≤ R.frames → 100 * d ≤ R.locals → capC ≤ R.cells + L.length → capS ≤ R.slots + slt L →
    Rel b0 b D H0 L σ s.heap → (∀ v ∈ as, okV v) → ∃ t, Steps p.tables e below (s₁.setTop (entryFrame m (as.map (cv b0 b)).toArray c.maxLocals)) t ∧ RQ b0 b D H0 below s L P t
theorem Ex.mono {d : Nat} {y : MethodName} {as : List Vl} {L : List Sh} {σ : Mm} {P Q : Out → List Sh → Mm → Prop} (h : Ex d y as L σ P) (hPQ : ∀ o L' σ', P o L' σ' → Q o L' σ') : Ex d y as L σ Q := by
  intro p l e R s m below meth c b0 b D H0 s₁ h1 h2 h3 h4 h5 h6 h7 h8 h9 h10 h11 h12 h13
  obtain ⟨t, ht, o, L', σ', Lc, k, n, q⟩ := h p l e R s m below meth c b0 b D H0 s₁ h1 h2 h3 h4 h5 h6 h7 h8 h9 h10 h11 h12 h13
  exact ⟨t, ht, o, L', σ', Lc, k, n, q.1, q.2.1, q.2.2.1, q.2.2.2.1, q.2.2.2.2.1, q.2.2.2.2.2.1, q.2.2.2.2.2.2.1, q.2.2.2.2.2.2.2.1, q.2.2.2.2.2.2.2.2.1, hPQ _ _ _ q.2.2.2.2.2.2.2.2.2⟩
theorem Ex.deep {d d' : Nat} {y : MethodName} {as : List Vl} {L : List Sh} {σ : Mm} {P : Out → List Sh → Mm → Prop} (h : Ex d y as L σ P) (hd : d ≤ d') : Ex d' y as L σ P := by
  intro p l e R s m below meth c b0 b D H0 s₁ h1 h2 h3 h4 h5 h6 h7 h8 h9 h10 h11 h12 h13
  exact h p l e R s m below meth c b0 b D H0 s₁ h1 h2 h3 h4 h5 h6 h7 (Nat.le_trans hd h8) (Nat.le_trans (Nat.mul_le_mul_left 100 hd) h9) h10 h11 h12 h13
/-- numbers that wrap -/
def wI (z : Int) : Int := (Int32.ofInt z).toInt
def wL (z : Int) : Int := (Int64.ofInt z).toInt
theorem wI_in (z : Int) : in32 (wI z) := by
  have h1 := (Int32.ofInt z).le_toInt
  have h2 := (Int32.ofInt z).toInt_lt
  unfold in32 wI
  omega
theorem wL_in (z : Int) : in64 (wL z) := by
  have h1 := (Int64.ofInt z).le_toInt
  have h2 := (Int64.ofInt z).toInt_lt
  unfold in64 wL
  omega
theorem wI_of (z : Int) : Int32.ofInt (wI z) = Int32.ofInt z := Int32.ofInt_toInt _
theorem wL_of (z : Int) : Int64.ofInt (wL z) = Int64.ofInt z := Int64.ofInt_toInt _
theorem of32 {z : Int} (h : in32 z) : (Int32.ofInt z).toInt = z := by
  have h1 : -2147483648 ≤ z := h.1
  have h2 : z < 2147483648 := h.2
  exact Int32.toInt_ofInt_of_le (by simpa using h1) (by simpa using h2)
theorem of64 {z : Int} (h : in64 z) : (Int64.ofInt z).toInt = z := by
  have h1 : -9223372036854775808 ≤ z := h.1
  have h2 : z < 9223372036854775808 := h.2
  exact Int64.toInt_ofInt_of_le (by simpa using h1) (by simpa using h2)
theorem wI_id {z : Int} (h1 : -2147483648 ≤ z) (h2 : z < 2147483648) : wI z = z := of32 ⟨h1, h2⟩
theorem wL_id {z : Int} (h1 : -9223372036854775808 ≤ z) (h2 : z < 9223372036854775808) : wL z = z := of64 ⟨h1, h2⟩
