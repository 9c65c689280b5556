/-- Object's own constructor: nothing happens -/
def cOm (own : String) (idx : Nat) : Prop := Cond.methodLink own idx ⟨"java/lang/Object", "<init>", "()V"⟩ ∈ lw_t ∧ Cond.instanceMethod ⟨"java/lang/Object", "<init>", "()V"⟩ ∈ lw_t ∧ Cond.code ⟨"java/lang/Object", "<init>", "()V"⟩ ⟨#[0xb1]⟩ 1 none ∈ lw_t
theorem g_callO {μ : MI} {d pc : Nat} {A rest : List Vl} {L : List Sh} {σ : Mm} {P : Out → List Sh → Mm → Prop} {idx : Nat} {k : Int} (hd : decode μ.1 pc = .ok (.invokespecial idx, 3)) (hc : cOm μ.2.1 idx) (h1 : 1 ≤ d) (hrest : rest.length ≤ 20) (kk : GS μ d (pc + 3) A rest L σ P) : GS μ d pc A (vr k :: rest) L σ P := by
  intro p l e R s m args below meth c b0 b D H0 Ls H locs cells slots ls S
  intro T hT X
  subst hT
  obtain ⟨hlk, hin, hcode⟩ := hc
  have hwd : Wds s := S.1.2.2.2.2.2.2.2.2.1
  have hfr := S.1.2.2.2.2.2.2.2.2.2.2.2.1
  have hlo := S.1.2.2.2.2.2.2.2.2.2.2.2.2.1
  have hpl : e.platform.magicAccessors = ({} : Platform).magicAccessors := by rw [X.admits.platform]
  have hsum : ((rest.map (cv b0 b)).map fun v => v.category).sum ≤ 2 * rest.length := by
    clear S kk hrest X
    induction rest with
    | nil => simp
    | cons v r ih =>
      have : (cv b0 b v).category ≤ 2 := by
        rcases lv_cat (cv b0 b v) with h | h <;> omega
      simp only [List.map_cons, List.sum_cons, List.length_cons]
      omega
  obtain ⟨mk, methM, cM, kP, vm₁, z1, z2, z3, zb, z4, z5, z6, z7, z8, z9⟩ := Steps.initColdArgs (e := e) X.here S.1.1 X.warmed hpl S.1.2.2.1 rfl (by decide +kernel) (hwd _ hlk args) (hwd _ hin args) (hwd _ hcode args) (f := F0 m pc ls ((vr k :: rest).map (cv b0 b))) (argsL := []) (a := b0 + k.toNat) (rest := rest.map (cv b0 b)) rfl (fun sig hs => by
    have e : parseMethodDescriptor "()V" = some sig := hs
    have e2 : (parseMethodDescriptor "()V").map (fun q => q.parameters.length) = some 0 := by decide +kernel
    rw [e] at e2
    exact (Option.some.inj e2).symm) rfl (by rw [S.1.2.1]; exact hd)
  have X₁ := X.noted z8
  have hal : s.vm.Alike vm₁ := X₁.warmed.alike
  obtain ⟨k', hk', he⟩ := hal.2.2 _ _ z6
  obtain ⟨t, ht, hq⟩ := kk p l e R s m args below meth c b0 b D H0 Ls T.heap locs cells slots ls ⟨S.1, S.2.1, S.2.2.1, S.2.2.2.1, S.2.2.2.2.1, S.2.2.2.2.2.1, S.2.2.2.2.2.2.1, okt S.2.2.2.2.2.2.2⟩ (T.setVm vm₁) rfl X₁
  refine ⟨t, z9 t fun acts => X₁.objectInit S.1.1 (g := F0 m pc ls (rest.map (cv b0 b))) rfl (by rw [S.1.2.2.2.1]; exact S.2.2.2.2.2.1.1) acts hk' (by rw [he]; exact z7) (by show vm₁.method? mk = _; rw [hal.method?]; exact z2) z3 zb z5 (by omega) (by show 2 * 0 + ((rest.map (cv b0 b)).map fun v => v.category).sum + _ ≤ _; omega) (by rw [S.1.2.1]; exact hd) ht, hq⟩
