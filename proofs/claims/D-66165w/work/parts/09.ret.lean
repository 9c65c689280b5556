section
variable {μ : MI} {d pc pc' : Nat} {A st st' : List Vl} {L : List Sh} {σ : Mm} {P : Out → List Sh → Mm → Prop}
theorem g_vret (hd : decode μ.1 pc = .ok (.return_, 1)) (hr : μ.2.2.2.1 = none) (kk : P (0, vn) L σ) : GS μ d pc A [] L σ P := by
  intro p l e R s m args below meth c b0 b D H0 Ls H locs cells slots ls S
  intro T hT X
  have hexec := S.1.1
  have hb := S.1.2.1
  have hlocks : meth.locks = false := S.1.2.2.2.2.2.1
  have hr' : meth.sig.returnType = none := by rw [S.1.2.2.2.2.1]; exact hr
  obtain ⟨fs, hret, hrun, hended, hW, hframe⟩ := X.leave (v := none) (fun _ => rfl)
  have hmeth' : T.vm.method? m = some meth := X.method'
  refine ⟨T.setFrames fs, ?_, (0, vn), L, σ, locs, cells, slots, hrun, hended, hW, hframe, S.2.2.1, S.2.2.2.1, S.2.2.2.2.1, ?_, trivial, kk⟩
  · jvm_step X.here [X.here.top, hexec, hb, hd, hmeth', hr']
    (try refine ⟨rfl, ?_⟩); (try refine ⟨rfl, ?_⟩)
    first | (intro acts; rw [hret _ acts rfl rfl rfl]) | rw [hret _ _ rfl rfl rfl]
    exact Steps.refl _
  · show Rel b0 b D H0 L σ T.heap
    rw [hT]
    exact S.2.1
theorem g_iret {z : Int} {ty : FieldType} (hd : decode μ.1 pc = .ok (.ireturn, 1)) (hr : μ.2.2.2.1 = some ty) (hty : ty = .int ∨ ty = .boolean ∧ (z = 0 ∨ z = 1)) (kk : P (1, vi z) L σ) : GS μ d pc A [vi z] L σ P := by
  intro p l e R s m args below meth c b0 b D H0 Ls H locs cells slots ls S
  intro T hT X
  have hexec := S.1.1
  have hb := S.1.2.1
  have hlocks : meth.locks = false := S.1.2.2.2.2.2.1
  have hr' : meth.sig.returnType = some ty := by rw [S.1.2.2.2.2.1]; exact hr
  have hn : narrow ty (.int (Int32.ofInt z)) = .int (Int32.ofInt z) := by
    rcases hty with rfl | ⟨rfl, rfl | rfl⟩
    · rfl
    · exact (by decide +kernel : narrow .boolean (.int (Int32.ofInt 0)) = .int (Int32.ofInt 0))
    · exact (by decide +kernel : narrow .boolean (.int (Int32.ofInt 1)) = .int (Int32.ofInt 1))
  have hz : okV (vi z) := okh S.2.2.2.2.2.2.2
  obtain ⟨fs, hret, hrun, hended, hW, hframe⟩ := X.leave (v := some (.int (Int32.ofInt z))) (fun h => by rw [hr'] at h; cases h)
  have hmeth' : T.vm.method? m = some meth := X.method'
  refine ⟨T.setFrames fs, ?_, (1, vi z), L, σ, locs, cells, slots, hrun, hended, hW, hframe, S.2.2.1, S.2.2.2.1, S.2.2.2.2.1, ?_, ⟨hz, rfl⟩, kk⟩
  · simp only [List.map_cons, List.map_nil, cv]
    jvm_step X.here [X.here.top, hexec, hb, hd, hmeth', hr', hn]
    (try refine ⟨rfl, ?_⟩); (try refine ⟨rfl, ?_⟩)
    first | (intro acts; rw [hret _ acts rfl rfl rfl]) | rw [hret _ _ rfl rfl rfl]
    exact Steps.refl _
  · show Rel b0 b D H0 L σ T.heap
    rw [hT]
    exact S.2.1
theorem g_lret {z : Int} (hd : decode μ.1 pc = .ok (.lreturn, 1)) (hr : μ.2.2.2.1 = some .long) (kk : P (1, vl z) L σ) : GS μ d pc A [vl z] L σ P := by
  intro p l e R s m args below meth c b0 b D H0 Ls H locs cells slots ls S
  intro T hT X
  have hexec := S.1.1
  have hb := S.1.2.1
  have hlocks : meth.locks = false := S.1.2.2.2.2.2.1
  have hr' : meth.sig.returnType = some .long := by rw [S.1.2.2.2.2.1]; exact hr
  have hz : okV (vl z) := okh S.2.2.2.2.2.2.2
  obtain ⟨fs, hret, hrun, hended, hW, hframe⟩ := X.leave (v := some (.long (Int64.ofInt z))) (fun h => by rw [hr'] at h; cases h)
  have hmeth' : T.vm.method? m = some meth := X.method'
  refine ⟨T.setFrames fs, ?_, (1, vl z), L, σ, locs, cells, slots, hrun, hended, hW, hframe, S.2.2.1, S.2.2.2.1, S.2.2.2.2.1, ?_, ⟨hz, rfl⟩, kk⟩
  · simp only [List.map_cons, List.map_nil, cv]
    jvm_step X.here [X.here.top, hexec, hb, hd, hmeth', hr']
    (try refine ⟨rfl, ?_⟩); (try refine ⟨rfl, ?_⟩)
    first | (intro acts; rw [hret _ acts rfl rfl rfl]) | rw [hret _ _ rfl rfl rfl]
    exact Steps.refl _
  · show Rel b0 b D H0 L σ T.heap
    rw [hT]
    exact S.2.1
end
