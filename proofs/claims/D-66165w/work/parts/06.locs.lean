/-! locals -/
def fixl : Vl → Vl
  | .inr (.inl _) => vj
  | v => v
def st1 : List Vl → Nat → Vl → List Vl
  | [], _, _ => []
  | _ :: A, 0, v => v :: A
  | a :: A, 1, v => fixl a :: st1 A 0 v
  | a :: A, n + 2, v => a :: st1 A (n + 1) v
def st2 : List Vl → Nat → Vl → List Vl
  | [], _, _ => []
  | _ :: [], 0, v => v :: []
  | _ :: _ :: A, 0, v => v :: vj :: A
  | a :: A, 1, v => fixl a :: st2 A 0 v
  | a :: A, n + 2, v => a :: st2 A (n + 1) v
theorem mem_lvOf {b0 b : Nat} {A : List Vl} {i : Nat} {x : Value} : (i, x) ∈ lvOf b0 b A ↔ ∃ v, A[i]? = some v ∧ vok v = true ∧ x = cv b0 b v := by
  unfold lvOf
  rw [List.mem_filterMap]
  constructor
  · rintro ⟨j, hj, h⟩
    cases hv : A[j]? with
    | none => simp [hv] at h
    | some v =>
      simp only [hv] at h
      split at h
      · rename_i ho
        cases h
        exact ⟨v, hv, ho, rfl⟩
      · cases h
  · rintro ⟨v, hv, ho, rfl⟩
    exact ⟨i, List.mem_range.mpr (List.getElem?_eq_some_iff.mp hv).1, by simp [hv, ho]⟩
theorem fixl_get {a w : Vl} (h : fixl a = w) (hw : vok w = true) : a = w ∧ ∀ z, w ≠ vl z := by
  rcases a with z | z | k | n
  · cases h; exact ⟨rfl, fun z h => by cases h⟩
  · cases h; simp [vok, fixl] at hw
  · cases h; exact ⟨rfl, fun z h => by cases h⟩
  · cases h; exact ⟨rfl, fun z h => by cases h⟩
theorem st1_get {v w : Vl} (hw : vok w = true) : ∀ (A : List Vl) (i j : Nat), (st1 A i v)[j]? = some w → (j = i ∧ w = v) ∨ (j ≠ i ∧ A[j]? = some w ∧ ¬ (j + 1 = i ∧ ∃ z, w = vl z))
  | [], i, j, h => by simp [st1] at h
  | a :: A, 0, 0, h => by simp [st1] at h; exact Or.inl ⟨rfl, h.symm⟩
  | a :: A, 0, j + 1, h => by
    simp [st1] at h
    exact Or.inr ⟨by omega, by simpa using h, by omega⟩
  | a :: A, 1, 0, h => by
    simp [st1] at h
    obtain ⟨h1, h2⟩ := fixl_get h hw
    exact Or.inr ⟨by omega, by simp [h1], fun ⟨_, z, hz⟩ => h2 z hz⟩
  | a :: A, 1, j + 1, h => by
    have h' : (st1 A 0 v)[j]? = some w := by simpa [st1] using h
    rcases st1_get hw A 0 j h' with ⟨h1, h2⟩ | ⟨h1, h2, h3⟩
    · exact Or.inl ⟨by omega, h2⟩
    · exact Or.inr ⟨by omega, by simpa using h2, by omega⟩
  | a :: A, n + 2, 0, h => by
    simp [st1] at h
    exact Or.inr ⟨by omega, by simp [h], by omega⟩
  | a :: A, n + 2, j + 1, h => by
    have h' : (st1 A (n + 1) v)[j]? = some w := by simpa [st1] using h
    rcases st1_get hw A (n + 1) j h' with ⟨h1, h2⟩ | ⟨h1, h2, h3⟩
    · exact Or.inl ⟨by omega, h2⟩
    · exact Or.inr ⟨by omega, by simpa using h2, fun ⟨q1, q2⟩ => h3 ⟨by omega, q2⟩⟩
theorem st2_get {v w : Vl} (hw : vok w = true) : ∀ (A : List Vl) (i j : Nat), (st2 A i v)[j]? = some w → (j = i ∧ w = v) ∨ (j ≠ i ∧ j ≠ i + 1 ∧ A[j]? = some w ∧ ¬ (j + 1 = i ∧ ∃ z, w = vl z))
  | [], i, j, h => by simp [st2] at h
  | [a], 0, 0, h => by simp [st2] at h; exact Or.inl ⟨rfl, h.symm⟩
  | [a], 0, j + 1, h => by simp [st2] at h
  | a :: a' :: A, 0, 0, h => by simp [st2] at h; exact Or.inl ⟨rfl, h.symm⟩
  | a :: a' :: A, 0, 1, h => by simp [st2] at h; subst h; simp [vok] at hw
  | a :: a' :: A, 0, j + 2, h => by
    simp [st2] at h
    exact Or.inr ⟨by omega, by omega, by simpa using h, by omega⟩
  | a :: A, 1, 0, h => by
    have h' : fixl a = w := by cases A <;> simpa [st2] using h
    obtain ⟨h1, h2⟩ := fixl_get h' hw
    exact Or.inr ⟨by omega, by omega, by simp [h1], fun ⟨_, z, hz⟩ => h2 z hz⟩
  | a :: A, 1, j + 1, h => by
    have h' : (st2 A 0 v)[j]? = some w := by cases A <;> simpa [st2] using h
    rcases st2_get hw A 0 j h' with ⟨h1, h2⟩ | ⟨h1, h2, h3, h4⟩
    · exact Or.inl ⟨by omega, h2⟩
    · exact Or.inr ⟨by omega, by omega, by simpa using h3, by omega⟩
  | a :: A, n + 2, 0, h => by
    have h' : a = w := by cases A <;> simpa [st2] using h
    exact Or.inr ⟨by omega, by omega, by simp [h'], by omega⟩
  | a :: A, n + 2, j + 1, h => by
    have h' : (st2 A (n + 1) v)[j]? = some w := by cases A <;> simpa [st2] using h
    rcases st2_get hw A (n + 1) j h' with ⟨h1, h2⟩ | ⟨h1, h2, h3, h4⟩
    · exact Or.inl ⟨by omega, h2⟩
    · exact Or.inr ⟨by omega, by omega, by simpa using h3, fun ⟨q1, q2⟩ => h4 ⟨by omega, q2⟩⟩
theorem cat2 {v : Vl} {b0 b : Nat} (h : (cv b0 b v).category = 2) : ∃ z, v = vl z := by
  rcases v with z | z | k | n
  · cases h
  · exact ⟨z, rfl⟩
  · cases h
  · rcases n with _ | _ | n <;> cases h
theorem lv_mono {ls : Array Slot} {nL : Nat} {l l' : List (Nat × Value)} (h : lv_has ls nL l) (hs : ∀ q ∈ l', q ∈ l) : lv_has ls nL l' := ⟨h.1, h.2.1, fun q hq => h.2.2 q (hs q hq)⟩
theorem lv_st1 {b0 b : Nat} {ls : Array Slot} {nL i : Nat} {A : List Vl} {v : Vl} (h : lv_has ls nL ((i, cv b0 b v) :: (lvOf b0 b A).filter (fun q => !(q.1 == i) && !(q.1 + 1 == i && q.2.category == 2)))) : lv_has ls nL (lvOf b0 b (st1 A i v)) := by
  refine lv_mono h ?_
  rintro ⟨j, x⟩ hq
  obtain ⟨w, hw, ho, rfl⟩ := mem_lvOf.mp hq
  rcases st1_get ho A i j hw with ⟨rfl, rfl⟩ | ⟨h1, h2, h3⟩
  · exact List.mem_cons_self
  · refine List.mem_cons_of_mem _ (List.mem_filter.mpr ⟨mem_lvOf.mpr ⟨w, h2, ho, rfl⟩, ?_⟩)
    have h4 : ¬ (j + 1 = i ∧ (cv b0 b w).category = 2) := fun q => h3 ⟨q.1, cat2 q.2⟩
    simp [h1]
    exact Classical.not_and_iff_not_or_not.mp h4
theorem lv_st2 {b0 b : Nat} {ls : Array Slot} {nL i : Nat} {A : List Vl} {v : Vl} (h : lv_has ls nL ((i, cv b0 b v) :: (lvOf b0 b A).filter (fun q => !(q.1 == i) && (!(q.1 == i + 1) && !(q.1 + 1 == i && q.2.category == 2))))) : lv_has ls nL (lvOf b0 b (st2 A i v)) := by
  refine lv_mono h ?_
  rintro ⟨j, x⟩ hq
  obtain ⟨w, hw, ho, rfl⟩ := mem_lvOf.mp hq
  rcases st2_get ho A i j hw with ⟨rfl, rfl⟩ | ⟨h1, h0, h2, h3⟩
  · exact List.mem_cons_self
  · refine List.mem_cons_of_mem _ (List.mem_filter.mpr ⟨mem_lvOf.mpr ⟨w, h2, ho, rfl⟩, ?_⟩)
    have h4 : ¬ (j + 1 = i ∧ (cv b0 b w).category = 2) := fun q => h3 ⟨q.1, cat2 q.2⟩
    simp [h1, h0]
    exact Classical.not_and_iff_not_or_not.mp h4
theorem fixl_ok {a : Vl} (h : okV a) : okV (fixl a) := by
  rcases a with z | z | k | n <;> first | exact h | trivial
theorem st1_ok {v : Vl} (hv : okV v) : ∀ (A : List Vl) (i : Nat), (∀ w ∈ A, okV w) → ∀ w ∈ st1 A i v, okV w
  | [], i, h => by simp [st1]
  | a :: A, 0, h => ok1 (okt h) hv
  | a :: A, 1, h => by
    show ∀ w ∈ fixl a :: st1 A 0 v, okV w
    exact ok1 (st1_ok hv A 0 (okt h)) (fixl_ok (okh h))
  | a :: A, n + 2, h => by
    show ∀ w ∈ a :: st1 A (n + 1) v, okV w
    exact ok1 (st1_ok hv A (n + 1) (okt h)) (okh h)
theorem st2_ok {v : Vl} (hv : okV v) : ∀ (A : List Vl) (i : Nat), (∀ w ∈ A, okV w) → ∀ w ∈ st2 A i v, okV w
  | [], i, h => by simp [st2]
  | [a], 0, h => ok1 (okt h) hv
  | a :: a' :: A, 0, h => ok1 (ok1 (okt (okt h)) trivial) hv
  | a :: A, 1, h => by
    have e : st2 (a :: A) 1 v = fixl a :: st2 A 0 v := by cases A <;> rfl
    rw [e]
    exact ok1 (st2_ok hv A 0 (okt h)) (fixl_ok (okh h))
  | a :: A, n + 2, h => by
    have e : st2 (a :: A) (n + 2) v = a :: st2 A (n + 1) v := by cases A <;> rfl
    rw [e]
    exact ok1 (st2_ok hv A (n + 1) (okt h)) (okh h)
section
variable {μ : MI} {d pc pc' : Nat} {A st st' : List Vl} {L : List Sh} {σ : Mm} {P : Out → List Sh → Mm → Prop}
theorem lv_gl {b0 b : Nat} {ls : Array Slot} {nL i : Nat} {v : Vl} (h : lv_has ls nL (lvOf b0 b A)) (hv : A[i]? = some v) (ho : vok v = true) : ls[i]? = some (.val (cv b0 b v)) := h.2.2 _ (mem_lvOf.mpr ⟨v, hv, ho, rfl⟩)
theorem GS.ld {v : Vl} {i : Nat} (hi : A[i]? = some v) (ho : vok v = true) (k : GS μ d pc' A (v :: st) L σ P)
    (h : ∀ {p : Program} {l : Launch} {e : Env} {R : Room} {s : State} {m : MethodId} {args : Array Value} {below : List Frame} {meth : Method} {c : Code} {H : Heap} {locs : List Loc} {cells slots : Nat} {Q : State → Prop} {ls : Array Slot} (b0 b : Nat), p.tables.exec = Jvm.exec → c.code = μ.1 → ls[i]? = some (.val (cv b0 b v)) →
      W p l e R s m args below meth c H locs cells slots Q (F0 m pc' ls (cv b0 b v :: st.map (cv b0 b))) → W p l e R s m args below meth c H locs cells slots Q (F0 m pc ls (st.map (cv b0 b)))) : GS μ d pc A st L σ P := by
  intro p l e R s m args below meth c b0 b D H0 Ls H locs cells slots ls S
  exact h b0 b S.1.1 S.1.2.1 (lv_gl S.2.2.2.2.2.1 hi ho) (k p l e R s m args below meth c b0 b D H0 Ls H locs cells slots ls ⟨S.1, S.2.1, S.2.2.1, S.2.2.2.1, S.2.2.2.2.1, S.2.2.2.2.2.1, S.2.2.2.2.2.2.1, ok1 S.2.2.2.2.2.2.2 (S.2.2.2.2.2.2.1 _ (List.mem_of_getElem? hi))⟩)
theorem g_iload {i : Nat} {z : Int} (hd : decode μ.1 pc = .ok (.iload i, 2)) (hi : A[i]? = some (vi z)) (k : GS μ d (pc + 2) A (vi z :: st) L σ P) : GS μ d pc A st L σ P := GS.ld hi rfl k (fun b0 b hx hb hl w => lv_iload hx hb hd hl w)
theorem g_iload_n {i : Fin 4} {z : Int} (hd : decode μ.1 pc = .ok (.iload_n i, 1)) (hi : A[(i : Nat)]? = some (vi z)) (k : GS μ d (pc + 1) A (vi z :: st) L σ P) : GS μ d pc A st L σ P := GS.ld hi rfl k (fun b0 b hx hb hl w => lv_iload_n hx hb hd rfl hl w)
theorem g_lload {i : Nat} {z : Int} (hd : decode μ.1 pc = .ok (.lload i, 2)) (hi : A[i]? = some (vl z)) (k : GS μ d (pc + 2) A (vl z :: st) L σ P) : GS μ d pc A st L σ P := GS.ld hi rfl k (fun b0 b hx hb hl w => lv_lload hx hb hd hl w)
theorem g_lload_n {i : Fin 4} {z : Int} (hd : decode μ.1 pc = .ok (.lload_n i, 1)) (hi : A[(i : Nat)]? = some (vl z)) (k : GS μ d (pc + 1) A (vl z :: st) L σ P) : GS μ d pc A st L σ P := GS.ld hi rfl k (fun b0 b hx hb hl w => lv_lload_n hx hb hd rfl hl w)
theorem g_aload {i : Nat} {z : Int} (hd : decode μ.1 pc = .ok (.aload i, 2)) (hi : A[i]? = some (vr z)) (k : GS μ d (pc + 2) A (vr z :: st) L σ P) : GS μ d pc A st L σ P := GS.ld hi rfl k (fun b0 b hx hb hl w => lv_aload hx hb hd hl w)
theorem g_aload_n {i : Fin 4} {z : Int} (hd : decode μ.1 pc = .ok (.aload_n i, 1)) (hi : A[(i : Nat)]? = some (vr z)) (k : GS μ d (pc + 1) A (vr z :: st) L σ P) : GS μ d pc A st L σ P := GS.ld hi rfl k (fun b0 b hx hb hl w => lv_aload_n hx hb hd rfl hl w)
theorem g_aload_s {i : Fin 4} (hd : decode μ.1 pc = .ok (.aload_n i, 1)) (hi : A[(i : Nat)]? = some vs) (k : GS μ d (pc + 1) A (vs :: st) L σ P) : GS μ d pc A st L σ P := GS.ld hi rfl k (fun b0 b hx hb hl w => lv_aload_n hx hb hd rfl hl w)
/-- a store into a local -/
theorem GS.sto {A' : List Vl} (k : GS μ d pc' A' st' L σ P) (hA : (∀ w ∈ A, okV w) → (∀ v ∈ st, okV v) → (∀ w ∈ A', okV w) ∧ ∀ v ∈ st', okV v)
    (h : ∀ {p : Program} {l : Launch} {e : Env} {R : Room} {s : State} {m : MethodId} {args : Array Value} {below : List Frame} {meth : Method} {c : Code} {H : Heap} {locs : List Loc} {cells slots : Nat} {Q : State → Prop} {ls : Array Slot} (b0 b : Nat), p.tables.exec = Jvm.exec → c.code = μ.1 → lv_has ls μ.2.2.1 (lvOf b0 b A) → (∀ w ∈ A, okV w) →
      (∀ ls' : Array Slot, lv_has ls' μ.2.2.1 (lvOf b0 b A') → W p l e R s m args below meth c H locs cells slots Q (F0 m pc' ls' (st'.map (cv b0 b)))) → W p l e R s m args below meth c H locs cells slots Q (F0 m pc ls (st.map (cv b0 b)))) : GS μ d pc A st L σ P := by
  intro p l e R s m args below meth c b0 b D H0 Ls H locs cells slots ls S
  have q := hA S.2.2.2.2.2.2.1 S.2.2.2.2.2.2.2
  exact h b0 b S.1.1 S.1.2.1 S.2.2.2.2.2.1 S.2.2.2.2.2.2.1 (fun ls' hl => k p l e R s m args below meth c b0 b D H0 Ls H locs cells slots ls' ⟨S.1, S.2.1, S.2.2.1, S.2.2.2.1, S.2.2.2.2.1, hl, q.1, q.2⟩)
theorem g_istore {i : Nat} {z : Int} (hd : decode μ.1 pc = .ok (.istore i, 2)) (hn : i < μ.2.2.1) (k : GS μ d (pc + 2) (st1 A i (vi z)) st L σ P) : GS μ d pc A (vi z :: st) L σ P :=
  GS.sto k (fun h h2 => ⟨st1_ok (okh h2) _ _ h, okt h2⟩) (fun b0 b hx hb hl _ w => lv_istore hx hb hd hl hn rfl (fun ls' h => w ls' (lv_st1 (v := vi z) h)))
theorem g_istore_n {i : Fin 4} {z : Int} (hd : decode μ.1 pc = .ok (.istore_n i, 1)) (hn : (i : Nat) < μ.2.2.1) (k : GS μ d (pc + 1) (st1 A i (vi z)) st L σ P) : GS μ d pc A (vi z :: st) L σ P :=
  GS.sto k (fun h h2 => ⟨st1_ok (okh h2) _ _ h, okt h2⟩) (fun b0 b hx hb hl _ w => lv_istore_n hx hb hd rfl hl hn rfl (fun ls' h => w ls' (lv_st1 (v := vi z) h)))
theorem g_astore {i : Nat} {z : Int} (hd : decode μ.1 pc = .ok (.astore i, 2)) (hn : i < μ.2.2.1) (k : GS μ d (pc + 2) (st1 A i (vr z)) st L σ P) : GS μ d pc A (vr z :: st) L σ P :=
  GS.sto k (fun h h2 => ⟨st1_ok (okh h2) _ _ h, okt h2⟩) (fun b0 b hx hb hl _ w => lv_astore hx hb hd hl hn rfl (fun ls' h => w ls' (lv_st1 (v := vr z) h)))
theorem g_astore_n {i : Fin 4} {z : Int} (hd : decode μ.1 pc = .ok (.astore_n i, 1)) (hn : (i : Nat) < μ.2.2.1) (k : GS μ d (pc + 1) (st1 A i (vr z)) st L σ P) : GS μ d pc A (vr z :: st) L σ P :=
  GS.sto k (fun h h2 => ⟨st1_ok (okh h2) _ _ h, okt h2⟩) (fun b0 b hx hb hl _ w => lv_astore_n hx hb hd rfl hl hn rfl (fun ls' h => w ls' (lv_st1 (v := vr z) h)))
theorem g_lstore {i : Nat} {z : Int} (hd : decode μ.1 pc = .ok (.lstore i, 2)) (hn : i + 1 < μ.2.2.1) (k : GS μ d (pc + 2) (st2 A i (vl z)) st L σ P) : GS μ d pc A (vl z :: st) L σ P :=
  GS.sto k (fun h h2 => ⟨st2_ok (okh h2) _ _ h, okt h2⟩) (fun b0 b hx hb hl _ w => lv_lstore hx hb hd hl hn rfl (fun ls' h => w ls' (lv_st2 (v := vl z) h)))
theorem g_lstore_n {i : Fin 4} {z : Int} (hd : decode μ.1 pc = .ok (.lstore_n i, 1)) (hn : (i : Nat) + 1 < μ.2.2.1) (k : GS μ d (pc + 1) (st2 A i (vl z)) st L σ P) : GS μ d pc A (vl z :: st) L σ P :=
  GS.sto k (fun h h2 => ⟨st2_ok (okh h2) _ _ h, okt h2⟩) (fun b0 b hx hb hl _ w => lv_lstore_n hx hb hd rfl hl hn rfl (fun ls' h => w ls' (lv_st2 (v := vl z) h)))
theorem g_iinc {i : Nat} {z n : Int} (hd : decode μ.1 pc = .ok (.iinc i n, 3)) (hi : A[i]? = some (vi z)) (hn : i < μ.2.2.1) (k : GS μ d (pc + 3) (st1 A i (vi (wI (z + n)))) st L σ P) : GS μ d pc A st L σ P :=
  GS.sto k (fun h h2 => ⟨st1_ok (v := vi (wI (z + n))) (wI_in _) _ _ h, h2⟩) (fun b0 b hx hb hl _ w => by
    obtain ⟨kk, hk⟩ := List.getElem?_of_mem (mem_lvOf.mpr ⟨vi z, hi, rfl, rfl⟩ : (i, cv b0 b (vi z)) ∈ lvOf b0 b A)
    exact lv_iinc hx hb hd hl (v := Int32.ofInt (wI (z + n))) hk (by rw [wI_of, Int32.ofInt_add]) hn rfl (fun ls' h => w ls' (lv_st1 (v := vi (wI (z + n))) h)))
end
