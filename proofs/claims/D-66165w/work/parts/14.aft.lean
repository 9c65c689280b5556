/-! behind a call -/
def xname (c : Nat) : String := match c with
  | 0 => "java/lang/IllegalArgumentException"
  | 1 => "java/lang/IllegalStateException"
  | _ => "java/util/NoSuchElementException"
/-- the law's own catch types -/
def okct (own : String) (ct c : Nat) : Prop := own = "BallotDeskLaw" ∧ (ct = 13 ∧ c = 0 ∨ ct = 19 ∧ c = 1 ∨ ct = 24 ∧ c = 2)
/-- an exception of kind c passes a clause of type ct -/
def noct (own : String) (ct c : Nat) : Prop := own = "BallotDeskLaw" ∧ (ct = 13 ∧ c = 1 ∨ ct = 24 ∧ c = 0)
def ThC (μ : MI) (d pc : Nat) (A : List Vl) (P : Out → List Sh → Mm → Prop) (k : Int) (c : Nat) (L : List Sh) (σ : Mm) : Prop := match μ.2.2.2.2.1 with
  | [] => P (2, vr k) L σ
  | [(s, e, hp, ct)] => s ≤ pc ∧ pc < e ∧ okct μ.2.1 ct c ∧ GS μ d hp A [vr k] L σ P
  | [(s, e, hp, ct), (s2, e2, hp2, ct2)] => s ≤ pc ∧ pc < e ∧ s2 ≤ pc ∧ pc < e2 ∧ (okct μ.2.1 ct c ∧ GS μ d hp A [vr k] L σ P ∨ noct μ.2.1 ct c ∧ okct μ.2.1 ct2 c ∧ GS μ d hp2 A [vr k] L σ P)
  | _ => False
def Aft (μ : MI) (d pc len : Nat) (A rest : List Vl) (P : Out → List Sh → Mm → Prop) : Out → List Sh → Mm → Prop := fun o L σ => match o with
  | (0, _) => GS μ d (pc + len) A rest L σ P
  | (1, v) => GS μ d (pc + len) A (v :: rest) L σ P
  | (_, v) => ∀ (k : Int) (c : Nat) (fs : List (Option Vl)) (g : Int → Vl), v = vr k → look L k = some (7, c, fs, g) → c ≤ 2 ∧ ThC μ d pc A P k c L σ
theorem okct_w {own : String} {ct c : Nat} (h : okct own ct c) : Cond.classLink own ct (xname c) ∈ lw_t ∧ Cond.castable (xname c) (xname c) ∈ lw_t ∧ ct ≠ 0 := by
  obtain ⟨rfl, ⟨rfl, rfl⟩ | ⟨rfl, rfl⟩ | ⟨rfl, rfl⟩⟩ := h
  · exact ⟨by decide +kernel, by decide +kernel, by decide⟩
  · exact ⟨by decide +kernel, by decide +kernel, by decide⟩
  · exact ⟨by decide +kernel, by decide +kernel, by decide⟩
theorem noct_w {own : String} {ct c : Nat} (h : noct own ct c) : ∃ N, Cond.classLink own ct N ∈ lw_t ∧ (xname c, N) ∈ ncl ∧ ct ≠ 0 := by
  obtain ⟨rfl, ⟨rfl, rfl⟩ | ⟨rfl, rfl⟩⟩ := h
  · exact ⟨"java/lang/IllegalArgumentException", by decide +kernel, by decide +kernel, by decide⟩
  · exact ⟨"java/util/NoSuchElementException", by decide +kernel, by decide +kernel, by decide⟩
section
variable {p : Program} {l : Launch} {e : Env} {R : Room} {s : State} {m : MethodId} {args : Array Value} {below : List Frame} {meth : Method} {c : Code} {T : State} {locs : List Loc} {cells slots : Nat}
theorem KN.xc {b : Nat} {D : va_G} {H0 : Heap} {u : State} (h : KN b D H0 u) {c : Nat} (hc : c ≤ 2) : u.vm.findClass (xname c) = some (D.1 (40 + c)) := by
  obtain ⟨-, -, -, -, -, -, ⟨e1, e2, e3⟩, -⟩ := h
  rcases (show c = 0 ∨ c = 1 ∨ c = 2 by omega) with rfl | rfl | rfl
  · exact e1
  · exact e2
  · exact e3
theorem thr_fin (X : Stand p l e R s m args below meth c T locs cells slots) {μ : MI} {d pc b0 b : Nat} {D : va_G} {H0 : Heap} {Ls L : List Sh} {σ : Mm} {A : List Vl} {P : Out → List Sh → Mm → Prop} {ls : Array Slot} {st : List Value}
    (S : Sx μ d A [] L σ p e R s m meth c b0 b D H0 Ls T.heap locs cells slots ls) {k : Int} {xc : Nat} {fs : List (Option Vl)} {gg : Int → Vl} (hk : look L k = some (7, xc, fs, gg)) (hxc : xc ≤ 2) (h : ThC μ d pc A P k xc L σ) :
    ∃ t, Steps p.tables e below ((T.setTop (F0 m pc ls st)).pushFrame (.throwing (b0 + k.toNat))) t ∧ RQ b0 b D H0 below s Ls P t := by
  obtain ⟨n, rfl, hn⟩ := look_nat hk
  obtain ⟨cell, hc1, hc2, hc3⟩ := S.2.1.cel hn
  have hC := S.1
  have hexT : exT c = μ.2.2.2.2.1 := hC.2.2.2.2.2.2.1
  have hlocks : meth.locks = false := hC.2.2.2.2.2.1
  have hown := hC.2.2.1
  have hwd := hC.2.2.2.2.2.2.2.2.1
  have hkn := hC.2.2.2.2.2.2.2.2.2.1
  have hnr := hC.2.2.2.2.2.2.2.2.2.2.1
  have hobj : ∀ q, cell.vm ≠ .statics q := fun q hq => by rw [hc3] at hq; cases hq
  have hcls : s.vm.findClass (xname xc) = some cell.cls := by rw [hc2]; exact hkn.xc hxc
  have hgo : ∀ (vm' : Vm) (hp : Nat), Stand p l e R s m args below meth c (T.setVm vm') locs cells slots → GS μ d hp A [vr (n : Int)] L σ P → ∃ t, Steps p.tables e below ((T.setVm vm').setTop (F0 m hp ls [.ref (b0 + n)])) t ∧ RQ b0 b D H0 below s Ls P t := by
    intro vm' hp X' G
    exact G p l e R s m args below meth c b0 b D H0 Ls T.heap locs cells slots ls ⟨S.1, S.2.1, S.2.2.1, S.2.2.2.1, S.2.2.2.2.1, S.2.2.2.2.2.1, S.2.2.2.2.2.2.1, ok1 (v := vr (n : Int)) (fun v hv => by cases hv) trivial⟩ (T.setVm vm') rfl X'
  unfold ThC at h
  split at h
  · rename_i he
    have hemp : c.exceptionTable.toList = [] := by
      rw [he] at hexT
      exact List.map_eq_nil_iff.mp hexT
    obtain ⟨hst, h1, h2, h3, h4⟩ := X.leaveThrown (b0 + n) (g := F0 m pc ls st) rfl rfl rfl (fun x hx => by rw [hemp] at hx; cases hx)
    exact ⟨_, hst, (2, vr (n : Int)), L, σ, locs, cells, slots, h1, h2, h3, h4, S.2.2.1, S.2.2.2.1, S.2.2.2.2.1, S.2.1, ⟨n, xc, fs, gg, rfl, hk⟩, h⟩
  · rename_i s1 e1 hp ct he
    rw [he] at hexT
    obtain ⟨x, hx⟩ : ∃ x, c.exceptionTable.toList = [x] := by
      have := congrArg List.length hexT
      simp [exT] at this
      exact List.length_eq_one_iff.mp (by simpa using this)
    simp [exT, hx] at hexT
    obtain ⟨q1, q2, q3, q4⟩ := hexT
    obtain ⟨h1, h2, h3, h4⟩ := h
    obtain ⟨w1, w2, w3⟩ := okct_w h3
    obtain ⟨vm', X', st'⟩ := catch1 X (g := F0 m pc ls st) rfl hc1 hobj hown hx (by simp [covers, q1, q2, h1, h2]) (by rw [q4]; exact w3) (by rw [q4]; exact hwd _ w1 _) hcls (hwd _ w2 _)
    rw [q3] at st'
    obtain ⟨t, a1, b1⟩ := hgo vm' hp X' h4
    exact ⟨t, st' t a1, b1⟩
  · rename_i s1 e1 hp ct s2 e2 hp2 ct2 he
    rw [he] at hexT
    obtain ⟨x, x2, hx⟩ : ∃ x x2, c.exceptionTable.toList = [x, x2] := by
      have h2 := congrArg List.length hexT
      simp [exT] at h2
      cases hl : c.exceptionTable.toList with
      | nil => rw [← Array.length_toList, hl] at h2; cases h2
      | cons x r =>
        cases r with
        | nil => rw [← Array.length_toList, hl] at h2; cases h2
        | cons x2 r =>
          cases r with
          | nil => exact ⟨x, x2, rfl⟩
          | cons x3 r => rw [← Array.length_toList, hl] at h2; simp at h2
    simp [exT, hx] at hexT
    obtain ⟨⟨q1, q2, q3, q4⟩, r1, r2, r3, r4⟩ := hexT
    obtain ⟨h1, h2, h3, h4, h5⟩ := h
    rcases h5 with ⟨h5, h6⟩ | ⟨h5, h6, h7⟩
    · obtain ⟨w1, w2, w3⟩ := okct_w h5
      obtain ⟨vm', X', st'⟩ := catch1 X (g := F0 m pc ls st) rfl hc1 hobj hown hx (by simp [covers, q1, q2, h1, h2]) (by rw [q4]; exact w3) (by rw [q4]; exact hwd _ w1 _) hcls (hwd _ w2 _)
      rw [q3] at st'
      obtain ⟨t, a1, b1⟩ := hgo vm' hp X' h6
      exact ⟨t, st' t a1, b1⟩
    · obtain ⟨w1, w2, w3⟩ := okct_w h6
      obtain ⟨N, v1, v2, v3⟩ := noct_w h5
      obtain ⟨vm', X', st'⟩ := catch2 X (g := F0 m pc ls st) rfl hc1 hobj hown hx (by simp [covers, q1, q2, h1, h2]) (by rw [q4]; exact v3) (by simp [covers, r1, r2, h3, h4]) (by rw [r4]; exact w3) (by rw [q4]; exact hwd _ v1 _) (by rw [r4]; exact hwd _ w1 _) hcls (hnr.2.1 _ v2) (hwd _ w2 _)
      rw [r3] at st'
      obtain ⟨t, a1, b1⟩ := hgo vm' hp2 X' h7
      exact ⟨t, st' t a1, b1⟩
  · cases h
/-- a call from its frame on -/
theorem call_fin (X : Stand p l e R s m args below meth c T locs cells slots) {μ : MI} {d pc b0 b : Nat} {D : va_G} {H0 : Heap} {Ls L : List Sh} {σ : Mm} {A rest as : List Vl} {P : Out → List Sh → Mm → Prop} {ls : Array Slot}
    (S : Sx μ (d + 1) A rest L σ p e R s m meth c b0 b D H0 Ls T.heap locs cells slots ls) (hrest : rest.length ≤ 20) {ig : Instr} {len : Nat} (hdg : decode μ.1 pc = .ok (ig, len))
    {y : MethodName} {mk : MethodId} {methk : Method} {ck : Code} (hn : T.methodNamed? y = some mk) (hmk : T.vm.method? mk = some methk) (hck : methk.code = some ck) (hlk : methk.locks = false) (hpk : T.plainMethod mk) (hml : ck.maxLocals ≤ 40) (hok : ∀ v ∈ as, okV v) (E : Ex d y as L σ (Aft μ (d + 1) pc len A rest P)) :
    ∃ t, (∀ acts, Steps p.tables e below (doInvoke e (T.setTop (F0 m pc ls (rest.map (cv b0 b)))) acts mk (as.map (cv b0 b)).toArray).1 t) ∧ RQ b0 b D H0 below s Ls P t := by
  have hsum : ((rest.map (cv b0 b)).map fun v => v.category).sum ≤ 2 * rest.length := by
    clear E S hrest
    induction rest with
    | nil => simp
    | cons v r ih =>
      have : (cv b0 b v).category ≤ 2 := by
        rcases lv_cat (cv b0 b v) with h | h <;> omega
      simp only [List.map_cons, List.sum_cons, List.length_cons]
      omega
  obtain ⟨o, L', σ', T', Lc, k, n, X', h1, h2, h3, h4, h5, h6, h7⟩ := ex_into X S.1 S.2.1 S.2.2.2.1 S.2.2.2.2.1 (g := F0 m pc ls (rest.map (cv b0 b))) rfl (by rw [S.1.2.2.2.1]; exact S.2.2.2.2.2.1.1) rfl (show ((rest.map (cv b0 b)).map fun v => v.category).sum ≤ 40 by omega) (by rw [S.1.2.1]; exact hdg) hn hmk hck hlk hpk hml hok E
  have hlocs : ∀ q ∈ locs ++ Lc, b0 ≤ q.base := by
    intro q hq
    rcases List.mem_append.mp hq with h | h
    · exact S.2.2.1 q h
    · exact h1 q h
  obtain ⟨oc, ov⟩ := o
  match oc, h5, h6, h7 with
  | 0, h5, h6, h7 =>
    obtain ⟨t, a1, b1⟩ := h6 p l e R s m args below meth c b0 b D H0 Ls T'.heap _ _ _ ls ⟨S.1, h4, hlocs, h2, h3, S.2.2.2.2.2.1, S.2.2.2.2.2.2.1, S.2.2.2.2.2.2.2⟩ T' rfl X'
    exact ⟨t, fun acts => (h7 acts).trans a1, b1⟩
  | 1, h5, h6, h7 =>
    obtain ⟨t, a1, b1⟩ := h6 p l e R s m args below meth c b0 b D H0 Ls T'.heap _ _ _ ls ⟨S.1, h4, hlocs, h2, h3, S.2.2.2.2.2.1, S.2.2.2.2.2.2.1, ok1 S.2.2.2.2.2.2.2 h5.1⟩ T' rfl X'
    exact ⟨t, fun acts => (h7 acts).trans a1, b1⟩
  | oc + 2, h5, h6, h7 =>
    obtain ⟨k', xc, fs, gg, rfl, hlk'⟩ := h5
    obtain ⟨hx1, hx2⟩ := h6 k' xc fs gg rfl hlk'
    obtain ⟨t, a1, b1⟩ := thr_fin X' (st := rest.map (cv b0 b)) ⟨S.1, h4, hlocs, h2, h3, S.2.2.2.2.2.1, S.2.2.2.2.2.2.1, fun v hv => by cases hv⟩ hlk' hx1 hx2
    exact ⟨t, fun acts => (h7 acts).trans a1, b1⟩
end
