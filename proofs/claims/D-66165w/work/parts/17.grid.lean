/-! multianewarray, two dimensions of ints -/
def gOut (cA : ClassId) (N h i : Nat) : Cell := arrV cA N (fun j => if j < i then .ref (h + 1 + j) else .null)
def gIn (cI : ClassId) (M : Nat) : Cell := arrV cI M (fun _ => .int 0)
def gf (s : State) (cA cI : ClassId) (N M : Nat) : Nat → State
  | 0 => s.pushCell (gOut cA N s.heap.size 0)
  | i + 1 => ((gf s cA cI N M i).pushCell (gIn cI M)).setCell s.heap.size (gOut cA N s.heap.size (i + 1))
theorem gOut_set (cA : ClassId) (N h i : Nat) : (gOut cA N h i).setSlot i (.ref (h + 1 + i)) = gOut cA N h (i + 1) := by
  unfold gOut
  rw [arrV_store]
  congr 1
  funext j
  unfold updV
  by_cases e : j = i
  · subst e
    rw [if_pos rfl, if_pos (by omega)]
  · rw [if_neg e]
    show (if j < i then _ else _) = _
    by_cases e2 : j < i
    · rw [if_pos e2, if_pos (by omega)]
    · rw [if_neg e2, if_neg (by omega)]
theorem gf_facts (s : State) (cA cI : ClassId) (N M : Nat) : ∀ i, (gf s cA cI N M i).heap.size = s.heap.size + 1 + i ∧ (gf s cA cI N M i).heap[s.heap.size]? = some (gOut cA N s.heap.size i) ∧ (gf s cA cI N M i).vm = s.vm ∧ (gf s cA cI N M i).slotsUsed = s.slotsUsed + N + i * M ∧
    (∀ j, j < i → (gf s cA cI N M i).heap[s.heap.size + 1 + j]? = some (gIn cI M)) ∧ ∀ q, q < s.heap.size → (gf s cA cI N M i).heap[q]? = s.heap[q]?
  | 0 => by
    refine ⟨by simp [gf], by simp [gf], rfl, ?_, fun j hj => by omega, fun q hq => State.heap_pushCell_of_lt _ _ hq⟩
    show s.slotsUsed + (gOut cA N s.heap.size 0).slots.size = _
    rw [gOut, arrV_size]
    omega
  | i + 1 => by
    obtain ⟨h1, h2, h3, h4, h5, h6⟩ := gf_facts s cA cI N M i
    have hz : ((gf s cA cI N M i).pushCell (gIn cI M)).heap.size = s.heap.size + 1 + i + 1 := by rw [size_pushCell, h1]
    refine ⟨?_, ?_, h3, ?_, fun j hj => ?_, fun q hq => ?_⟩
    · show (((gf s cA cI N M i).pushCell (gIn cI M)).setCell s.heap.size _).heap.size = _
      rw [size_setCell, hz]
      omega
    · exact heapAt_setCell_self _ (show s.heap.size < ((gf s cA cI N M i).pushCell (gIn cI M)).heap.size by rw [hz]; omega)
    · show (gf s cA cI N M i).slotsUsed + (gIn cI M).slots.size = _
      rw [h4, gIn, arrV_size, Nat.succ_mul]
      omega
    · show (((gf s cA cI N M i).pushCell (gIn cI M)).setCell s.heap.size _).heap[_]? = _
      rw [heapAt_setCell_ne _ (show s.heap.size ≠ s.heap.size + 1 + j by omega)]
      by_cases e : j = i
      · subst e
        rw [show s.heap.size + 1 + j = (gf s cA cI N M j).heap.size by rw [h1]]
        exact State.heap_pushCell_size _ _
      · rw [State.heap_pushCell_of_lt _ _ (show s.heap.size + 1 + j < (gf s cA cI N M i).heap.size by rw [h1]; omega)]
        exact h5 j (by omega)
    · show (((gf s cA cI N M i).pushCell (gIn cI M)).setCell s.heap.size _).heap[q]? = _
      rw [heapAt_setCell_ne _ (show s.heap.size ≠ q from Nat.ne_of_gt hq), State.heap_pushCell_of_lt _ _ (show q < (gf s cA cI N M i).heap.size by rw [h1]; omega)]
      exact h6 q hq
theorem gf_setTop (s : State) (f : JFrame) (cA cI : ClassId) (N M : Nat) : ∀ i, gf (s.setTop f) cA cI N M i = (gf s cA cI N M i).setTop f
  | 0 => rfl
  | i + 1 => by simp only [gf, gf_setTop s f cA cI N M i, State.heap_setTop, State.pushCell_setTop, State.setCell_setTop]
section
variable {E : CtlPost} {e : Env} {d : Bool} {acts : List Action} {s : State}
theorem arrV_rep (c : ClassId) (n : Nat) (v : Value) : ({ cls := c, slots := Array.replicate n v } : Cell) = arrV c n (fun _ => v) := arrV_new c n v
theorem g_make1 {cI cc : ClassId} {kc : Class} {m : Int32} (hkc : s.vm.classes[cI]? = some kc) (hkind : kc.kind = .array cc .int) (hm : ¬ m < 0) (hl : ¬ m.toNatClampNeg > e.platform.arrayLengthLimit) (hh : ¬ m.toNatClampNeg * componentBytes .int > e.platform.maxHeapBytes)
    (h1 : s.heap.size < e.platform.maxCells) (h2 : s.slotsUsed + m.toNatClampNeg ≤ e.platform.maxSlots) {Q : Addr → Pre} (hq : ∀ acts', Q s.heap.size d acts' (s.pushCell (gIn cI m.toNatClampNeg))) : wp (Op.multianewarray.make cI [m]) Q E e d acts s := by
  rw [Op.multianewarray.make]
  simp only [wp_bind', W.ite, hm, if_false, wp_pure', W.theClass, hkc, hkind, Option.some.injEq, exists_eq_left']
  refine W.newArray_of hkc hkind hl hh h1 h2 rfl (fun acts' => ?_)
  rw [arrV_rep]
  exact hq acts'
theorem g_make2 {cA cI cc : ClassId} {k kc : Class} {n m : Int32} (hk : s.vm.classes[cA]? = some k) (hkind : k.kind = .array cI (.array .int)) (hkc : s.vm.classes[cI]? = some kc) (hkindc : kc.kind = .array cc .int) (hn : ¬ n < 0) (hm : ¬ m < 0)
    (hl1 : ¬ n.toNatClampNeg > e.platform.arrayLengthLimit) (hh1 : ¬ n.toNatClampNeg * componentBytes (.array .int) > e.platform.maxHeapBytes) (hl2 : ¬ m.toNatClampNeg > e.platform.arrayLengthLimit) (hh2 : ¬ m.toNatClampNeg * componentBytes .int > e.platform.maxHeapBytes)
    (hc : s.heap.size + 1 + n.toNatClampNeg ≤ e.platform.maxCells) (hs : s.slotsUsed + n.toNatClampNeg + n.toNatClampNeg * m.toNatClampNeg ≤ e.platform.maxSlots)
    {Q : Addr → Pre} (hq : ∀ d' acts', Q s.heap.size d' acts' (gf s cA cI n.toNatClampNeg m.toNatClampNeg n.toNatClampNeg)) : wp (Op.multianewarray.make cA [n, m]) Q E e d acts s := by
  have hfind : ([m].find? (· < 0)) = none := by simp [hm]
  rw [Op.multianewarray.make]
  simp only [wp_bind', W.ite, hn, if_false, wp_pure', W.theClass, hk, hkind, Option.some.injEq, exists_eq_left']
  refine W.newArray_of hk hkind hl1 hh1 (by omega) (by have := Nat.zero_le (n.toNatClampNeg * m.toNatClampNeg); omega) rfl (fun acts' => ?_)
  simp only [hfind]
  rw [ite_self, wp_bind', Std.Legacy.Range.forIn_eq_forIn_range']
  have hsz : ([:n.toNatClampNeg] : Std.Legacy.Range).size = n.toNatClampNeg := by simp [Std.Legacy.Range.size]
  rw [hsz]
  generalize hN : n.toNatClampNeg = N at hc hs hq ⊢
  generalize hM : m.toNatClampNeg = M at hs hq hl2 hh2 ⊢
  have e0 : s.pushCell { cls := cA, slots := Array.replicate N .null } = gf s cA cI N M 0 := by
    rw [arrV_rep]
    show _ = s.pushCell (gOut cA N s.heap.size 0)
    congr 2
  rw [e0]
  show wp (forIn (List.range' 0 N 1) PUnit.unit _) _ E e d acts' _
  refine wp_forIn_inv (fun rest s' => ∃ i, i ≤ N ∧ rest = List.range' i (N - i) ∧ s' = gf s cA cI N M i) _ _ ⟨0, Nat.zero_le _, rfl, rfl⟩ ?_ ?_
  · rintro x rest s' d' acts' Q' ⟨i, hi, hl, rfl⟩ hnext
    have hlt : i < N := by
      rcases Nat.lt_or_ge i N with h | h
      · exact h
      · rw [show N - i = 0 from by omega] at hl; simp at hl
    obtain ⟨rfl, hrest⟩ : x = i ∧ rest = List.range' (i + 1) (N - (i + 1)) := by
      rw [show N - i = (N - (i + 1)) + 1 from by omega, List.range'_succ] at hl
      exact ⟨(List.cons.inj hl).1, (List.cons.inj hl).2⟩
    obtain ⟨f1, f2, f3, f4, f5, f6⟩ := gf_facts s cA cI N M x
    have hmul : x * M + M ≤ N * M := by
      have := Nat.mul_le_mul_right M (show x + 1 ≤ N from hlt)
      rw [Nat.succ_mul] at this; exact this
    simp only [wp_bind']
    refine g_make1 (by rw [f3]; exact hkc) hkindc hm (by rw [hM]; exact hl2) (by rw [hM]; exact hh2) (by rw [f1]; omega) (by rw [f4, hM]; omega) (fun acts'' => ?_)
    have hlt0 : s.heap.size < (gf s cA cI N M x).heap.size := by rw [f1]; omega
    simp only [wp_bind', W.writeLoc, wp_pure']
    refine ⟨gOut cA N s.heap.size x, by rw [State.heap_pushCell_of_lt (h := hlt0)]; exact f2, (fun h => by cases h), by rw [gOut, arrV_size]; exact hlt, ?_, hnext _ _ _ ⟨x + 1, hlt, hrest, ?_⟩⟩
    · show State.fitsSlot _ cA .none x _ = true
      simp [State.fitsSlot, State.slotType?, f3, hk, hkind, fits]
    · rw [hM, f1]
      show _ = ((gf s cA cI N M x).pushCell (gIn cI M)).setCell s.heap.size (gOut cA N s.heap.size (x + 1))
      rw [← gOut_set]
  · rintro s' d' acts' ⟨i, hi, hl, rfl⟩
    have hiN : i = N := by
      rcases Nat.lt_or_ge i N with h | h
      · rw [show N - i = (N - (i + 1)) + 1 from by omega, List.range'_succ] at hl; cases hl
      · omega
    subst hiN
    simp only [wp_pure']
    exact hq _ _
end
