/-! THE LAYOUT of the cells that the law makes before its loop; ids are literals; a profile is cell 30 or 66 -/
def LkO (L : List Sh) (k : Int) (ci : Nat) (fs : List (Option Vl)) : Prop := ∃ gg, look L k = some (0, ci, fs, gg)
def LkA (L : List Sh) (k : Int) (kd n : Nat) : Prop := ∃ fs gg, look L k = some (kd, n, fs, gg)
def LkG (L : List Sh) (k : Int) (kd n : Nat) (f : Int → Int) : Prop := ∃ fs gg, look L k = some (kd, n, fs, gg) ∧ ∀ i : Int, 0 ≤ i → i < n → gg i = vr (f i)
def rl (i : Int) : Int := if i = 0 then 15 else if i = 1 then 16 else if i = 2 then 17 else if i = 3 then 18 else if i = 4 then 1 else if i = 5 then 20 else if i = 6 then 21 else if i = 7 then 3 else if i = 8 then 22 else if i = 9 then 12 else if i = 10 then 26 else 27
def layT : List (Nat × Nat × List (Option Vl) × Int) := [(0, 0, [some (vr 1), some (vr 3), some (vr 12), some (vr 14), some (vr 28), some (vr 29), some (vr 30), some (vr 66), none, none], 0), (0, 2, [some (vr 2), none], 0), (2, 128, [], 0), (0, 3, [some (vr 4)], 0), (4, 7, [], 5), (1, 7, [], 0), (1, 7, [], 0), (1, 7, [], 0), (1, 7, [], 0), (1, 7, [], 0), (1, 7, [], 0), (1, 7, [], 0), (0, 4, [some (vr 13)], 0), (3, 128, [], 0), (5, 12, [], 0), (0, 9, [none], 0), (0, 10, [none], 0), (0, 11, [none], 0), (0, 5, [some (vr 19)], 0), (1, 7, [], 0), (0, 12, [none], 0), (0, 13, [none], 0), (0, 6, [some (vr 23), some (vr 24), some (vr 25)], 0), (1, 49, [], 0), (1, 49, [], 0), (1, 7, [], 0), (0, 7, [], 0), (0, 8, [], 0), (1, 7, [], 0), (1, 7, [], 0), (0, 1, [none, none, some (vr 31), some (vr 53), some (vr 54), some (vr 62), some (vr 63), some (vr 64), some (vr 65)], 0), (4, 21, [], 32), (1, 7, [], 0), (1, 7, [], 0), (1, 7, [], 0), (1, 7, [], 0), (1, 7, [], 0), (1, 7, [], 0), (1, 7, [], 0), (1, 7, [], 0), (1, 7, [], 0), (1, 7, [], 0), (1, 7, [], 0), (1, 7, [], 0), (1, 7, [], 0), (1, 7, [], 0), (1, 7, [], 0), (1, 7, [], 0), (1, 7, [], 0), (1, 7, [], 0), (1, 7, [], 0), (1, 7, [], 0), (1, 7, [], 0), (1, 21, [], 0), (4, 7, [], 55), (1, 7, [], 0), (1, 7, [], 0), (1, 7, [], 0), (1, 7, [], 0), (1, 7, [], 0), (1, 7, [], 0), (1, 7, [], 0), (1, 7, [], 0), (1, 7, [], 0), (1, 7, [], 0), (1, 7, [], 0), (0, 1, [none, none, some (vr 67), some (vr 89), some (vr 90), some (vr 98), some (vr 99), some (vr 100), some (vr 101)], 0), (4, 21, [], 68), (1, 7, [], 0), (1, 7, [], 0), (1, 7, [], 0), (1, 7, [], 0), (1, 7, [], 0), (1, 7, [], 0), (1, 7, [], 0), (1, 7, [], 0), (1, 7, [], 0), (1, 7, [], 0), (1, 7, [], 0), (1, 7, [], 0), (1, 7, [], 0), (1, 7, [], 0), (1, 7, [], 0), (1, 7, [], 0), (1, 7, [], 0), (1, 7, [], 0), (1, 7, [], 0), (1, 7, [], 0), (1, 7, [], 0), (1, 21, [], 0), (4, 7, [], 91), (1, 7, [], 0), (1, 7, [], 0), (1, 7, [], 0), (1, 7, [], 0), (1, 7, [], 0), (1, 7, [], 0), (1, 7, [], 0), (1, 7, [], 0), (1, 7, [], 0), (1, 7, [], 0), (1, 7, [], 0), (0, 14, [none, none, none, some (vr 103), some (vr 104), some (vr 105), some (vr 106), some (vr 107), none, none, some (vr 108), some (vr 109), some (vr 110), some (vr 111), some (vr 112), some (vr 113), some (vr 114), some (vr 115), some (vr 116), some (vr 117), some (vr 118), some (vr 119), none, none], 0), (1, 140, [], 0), (1, 20, [], 0), (1, 7, [], 0), (1, 7, [], 0), (1, 7, [], 0), (1, 154, [], 0), (1, 22, [], 0), (1, 7, [], 0), (1, 7, [], 0), (1, 7, [], 0), (1, 49, [], 0), (1, 49, [], 0), (2, 49, [], 0), (2, 128, [], 0), (3, 128, [], 0), (1, 7, [], 0), (1, 7, [], 0), (3, 1, [], 0)]
def LkE (L : List Sh) (k : Int) (e : Nat × Nat × List (Option Vl) × Int) : Prop := match e with
  | (0, ci, fs, _) => LkO L k ci fs
  | (4, n, _, b) => LkG L k 4 n (fun i => b + i)
  | (5, n, _, _) => LkG L k 5 n rl
  | (kd, n, _, _) => LkA L k kd n
/-- the layout, with room for one more exception -/
def Lay (L : List Sh) : Prop := (∀ (k : Nat) (e : Nat × Nat × List (Option Vl) × Int), layT[k]? = some e → LkE L k e) ∧ L.length + 1 ≤ capC ∧ slt L + 6 ≤ capS
def isPr (p : Int) : Prop := p = 30 ∨ p = 66
def prF (p : Int) : List (Option Vl) := [none, none, some (vr (p + 1)), some (vr (p + 23)), some (vr (p + 24)), some (vr (p + 32)), some (vr (p + 33)), some (vr (p + 34)), some (vr (p + 35))]
section
variable {L : List Sh} {p t : Int}
theorem LkA.int {k k' : Int} {kd n : Nat} (h : LkA L k kd n) (e : k = k') : LkA L k' kd n := e ▸ h
theorem lk_0 (h : Lay L) : LkO L 0 0 [some (vr 1), some (vr 3), some (vr 12), some (vr 14), some (vr 28), some (vr 29), some (vr 30), some (vr 66), none, none] := h.1 0 _ rfl
theorem lk_1 (h : Lay L) : LkO L 1 2 [some (vr 2), none] := h.1 1 _ rfl
theorem lk_2 (h : Lay L) : LkA L 2 2 128 := h.1 2 _ rfl
theorem lk_3 (h : Lay L) : LkO L 3 3 [some (vr 4)] := h.1 3 _ rfl
theorem lk_4 (h : Lay L) : LkG L 4 4 7 (fun i => 5 + i) := h.1 4 _ rfl
theorem lk_12 (h : Lay L) : LkO L 12 4 [some (vr 13)] := h.1 12 _ rfl
theorem lk_13 (h : Lay L) : LkA L 13 3 128 := h.1 13 _ rfl
theorem lk_14 (h : Lay L) : LkG L 14 5 12 rl := h.1 14 _ rfl
theorem lk_15 (h : Lay L) : LkO L 15 9 [none] := h.1 15 _ rfl
theorem lk_16 (h : Lay L) : LkO L 16 10 [none] := h.1 16 _ rfl
theorem lk_17 (h : Lay L) : LkO L 17 11 [none] := h.1 17 _ rfl
theorem lk_18 (h : Lay L) : LkO L 18 5 [some (vr 19)] := h.1 18 _ rfl
theorem lk_19 (h : Lay L) : LkA L 19 1 7 := h.1 19 _ rfl
theorem lk_20 (h : Lay L) : LkO L 20 12 [none] := h.1 20 _ rfl
theorem lk_21 (h : Lay L) : LkO L 21 13 [none] := h.1 21 _ rfl
theorem lk_22 (h : Lay L) : LkO L 22 6 [some (vr 23), some (vr 24), some (vr 25)] := h.1 22 _ rfl
theorem lk_23 (h : Lay L) : LkA L 23 1 49 := h.1 23 _ rfl
theorem lk_24 (h : Lay L) : LkA L 24 1 49 := h.1 24 _ rfl
theorem lk_25 (h : Lay L) : LkA L 25 1 7 := h.1 25 _ rfl
theorem lk_26 (h : Lay L) : LkO L 26 7 [] := h.1 26 _ rfl
theorem lk_27 (h : Lay L) : LkO L 27 8 [] := h.1 27 _ rfl
theorem lk_28 (h : Lay L) : LkA L 28 1 7 := h.1 28 _ rfl
theorem lk_29 (h : Lay L) : LkA L 29 1 7 := h.1 29 _ rfl
theorem lk_102 (h : Lay L) : LkO L 102 14 [none, none, none, some (vr 103), some (vr 104), some (vr 105), some (vr 106), some (vr 107), none, none, some (vr 108), some (vr 109), some (vr 110), some (vr 111), some (vr 112), some (vr 113), some (vr 114), some (vr 115), some (vr 116), some (vr 117), some (vr 118), some (vr 119), none, none] := h.1 102 _ rfl
theorem lk_103 (h : Lay L) : LkA L 103 1 140 := h.1 103 _ rfl
theorem lk_104 (h : Lay L) : LkA L 104 1 20 := h.1 104 _ rfl
theorem lk_105 (h : Lay L) : LkA L 105 1 7 := h.1 105 _ rfl
theorem lk_106 (h : Lay L) : LkA L 106 1 7 := h.1 106 _ rfl
theorem lk_107 (h : Lay L) : LkA L 107 1 7 := h.1 107 _ rfl
theorem lk_108 (h : Lay L) : LkA L 108 1 154 := h.1 108 _ rfl
theorem lk_109 (h : Lay L) : LkA L 109 1 22 := h.1 109 _ rfl
theorem lk_110 (h : Lay L) : LkA L 110 1 7 := h.1 110 _ rfl
theorem lk_111 (h : Lay L) : LkA L 111 1 7 := h.1 111 _ rfl
theorem lk_112 (h : Lay L) : LkA L 112 1 7 := h.1 112 _ rfl
theorem lk_113 (h : Lay L) : LkA L 113 1 49 := h.1 113 _ rfl
theorem lk_114 (h : Lay L) : LkA L 114 1 49 := h.1 114 _ rfl
theorem lk_115 (h : Lay L) : LkA L 115 2 49 := h.1 115 _ rfl
theorem lk_116 (h : Lay L) : LkA L 116 2 128 := h.1 116 _ rfl
theorem lk_117 (h : Lay L) : LkA L 117 3 128 := h.1 117 _ rfl
theorem lk_118 (h : Lay L) : LkA L 118 1 7 := h.1 118 _ rfl
theorem lk_119 (h : Lay L) : LkA L 119 1 7 := h.1 119 _ rfl
theorem lk_120 (h : Lay L) : LkA L 120 3 1 := h.1 120 _ rfl
theorem lk_strong (h : Lay L) (ht : 0 ≤ t ∧ t < 7) : LkA L (5 + t) 1 7 := by
  obtain ⟨n, rfl⟩ := Int.eq_ofNat_of_zero_le ht.1
  have hn : n < 7 := by omega
  have key : ∀ n, n < 7 → layT[5 + n]? = some (1, 7, [], 0) := fun n hn => match n, hn with
    | 0, _ => rfl
    | 1, _ => rfl
    | 2, _ => rfl
    | 3, _ => rfl
    | 4, _ => rfl
    | 5, _ => rfl
    | 6, _ => rfl
    | n + 7, h => absurd h (by omega)
  exact LkA.int (h.1 (5 + n) _ (key n hn)) (by omega)
theorem lk_prof (h : Lay L) (hp : isPr p) : LkO L p 1 (prF p) := by
  rcases hp with rfl | rfl
  · exact h.1 30 _ rfl
  · exact h.1 66 _ rfl
theorem lk_plg (h : Lay L) (hp : isPr p) : LkG L (p + 1) 4 21 (fun i => p + 2 + i) := by
  rcases hp with rfl | rfl
  · exact h.1 31 _ rfl
  · exact h.1 67 _ rfl
theorem lk_prg (h : Lay L) (hp : isPr p) : LkG L (p + 24) 4 7 (fun i => p + 25 + i) := by
  rcases hp with rfl | rfl
  · exact h.1 54 _ rfl
  · exact h.1 90 _ rfl
theorem lk_am (h : Lay L) (hp : isPr p) : LkA L (p + 23) 1 21 := by
  rcases hp with rfl | rfl
  · exact h.1 53 _ rfl
  · exact h.1 89 _ rfl
theorem lk_pl (h : Lay L) (hp : isPr p) (ht : 0 ≤ t ∧ t < 21) : LkA L (p + 2 + t) 1 7 := by
  obtain ⟨n, rfl⟩ := Int.eq_ofNat_of_zero_le ht.1
  have hn : n < 21 := by omega
  have k1 : ∀ n, n < 21 → layT[32 + n]? = some (1, 7, [], 0) := fun n hn => match n, hn with
    | 0, _ => rfl
    | 1, _ => rfl
    | 2, _ => rfl
    | 3, _ => rfl
    | 4, _ => rfl
    | 5, _ => rfl
    | 6, _ => rfl
    | 7, _ => rfl
    | 8, _ => rfl
    | 9, _ => rfl
    | 10, _ => rfl
    | 11, _ => rfl
    | 12, _ => rfl
    | 13, _ => rfl
    | 14, _ => rfl
    | 15, _ => rfl
    | 16, _ => rfl
    | 17, _ => rfl
    | 18, _ => rfl
    | 19, _ => rfl
    | 20, _ => rfl
    | n + 21, h => absurd h (by omega)
  have k2 : ∀ n, n < 21 → layT[68 + n]? = some (1, 7, [], 0) := fun n hn => match n, hn with
    | 0, _ => rfl
    | 1, _ => rfl
    | 2, _ => rfl
    | 3, _ => rfl
    | 4, _ => rfl
    | 5, _ => rfl
    | 6, _ => rfl
    | 7, _ => rfl
    | 8, _ => rfl
    | 9, _ => rfl
    | 10, _ => rfl
    | 11, _ => rfl
    | 12, _ => rfl
    | 13, _ => rfl
    | 14, _ => rfl
    | 15, _ => rfl
    | 16, _ => rfl
    | 17, _ => rfl
    | 18, _ => rfl
    | 19, _ => rfl
    | 20, _ => rfl
    | n + 21, h => absurd h (by omega)
  rcases hp with rfl | rfl
  · exact LkA.int (h.1 (32 + n) _ (k1 n hn)) (by omega)
  · exact LkA.int (h.1 (68 + n) _ (k2 n hn)) (by omega)
theorem lk_pr (h : Lay L) (hp : isPr p) (ht : 0 ≤ t ∧ t < 7) : LkA L (p + 25 + t) 1 7 := by
  obtain ⟨n, rfl⟩ := Int.eq_ofNat_of_zero_le ht.1
  have hn : n < 7 := by omega
  have k1 : ∀ n, n < 7 → layT[55 + n]? = some (1, 7, [], 0) := fun n hn => match n, hn with
    | 0, _ => rfl
    | 1, _ => rfl
    | 2, _ => rfl
    | 3, _ => rfl
    | 4, _ => rfl
    | 5, _ => rfl
    | 6, _ => rfl
    | n + 7, h => absurd h (by omega)
  have k2 : ∀ n, n < 7 → layT[91 + n]? = some (1, 7, [], 0) := fun n hn => match n, hn with
    | 0, _ => rfl
    | 1, _ => rfl
    | 2, _ => rfl
    | 3, _ => rfl
    | 4, _ => rfl
    | 5, _ => rfl
    | 6, _ => rfl
    | n + 7, h => absurd h (by omega)
  rcases hp with rfl | rfl
  · exact LkA.int (h.1 (55 + n) _ (k1 n hn)) (by omega)
  · exact LkA.int (h.1 (91 + n) _ (k2 n hn)) (by omega)
theorem lk_ti (h : Lay L) (hp : isPr p) : LkA L (p + 32) 1 7 := by
  rcases hp with rfl | rfl
  · exact h.1 62 _ rfl
  · exact h.1 98 _ rfl
theorem lk_ag (h : Lay L) (hp : isPr p) : LkA L (p + 33) 1 7 := by
  rcases hp with rfl | rfl
  · exact h.1 63 _ rfl
  · exact h.1 99 _ rfl
theorem lk_we (h : Lay L) (hp : isPr p) : LkA L (p + 34) 1 7 := by
  rcases hp with rfl | rfl
  · exact h.1 64 _ rfl
  · exact h.1 100 _ rfl
theorem lk_ro (h : Lay L) (hp : isPr p) : LkA L (p + 35) 1 7 := by
  rcases hp with rfl | rfl
  · exact h.1 65 _ rfl
  · exact h.1 101 _ rfl
end
theorem pr30 : isPr 30 := Or.inl rfl
theorem pr66 : isPr 66 := Or.inr rfl
/-! outcomes -/
def xS (c : Nat) : Sh := (7, c, [], fun _ : Int => vn)
def ThrO (L : List Sh) (T : Nat → Mm → Prop) (o : Out) (L' : List Sh) (σ' : Mm) : Prop := ∃ (c : Nat) (σ₁ : Mm), c ≤ 2 ∧ o = (2, vr L.length) ∧ L' = L ++ [xS c] ∧ σ' = updc σ₁ L.length (fun _ => 0) ∧ T c σ₁
def PI (L : List Sh) (K : Int → Mm → Prop) (T : Nat → Mm → Prop) : Out → List Sh → Mm → Prop := fun o L' σ' => (∃ z, o = (1, vi z) ∧ L' = L ∧ K z σ') ∨ ThrO L T o L' σ'
def PL (L : List Sh) (K : Int → Mm → Prop) (T : Nat → Mm → Prop) : Out → List Sh → Mm → Prop := fun o L' σ' => (∃ z, o = (1, vl z) ∧ L' = L ∧ K z σ') ∨ ThrO L T o L' σ'
def PV (L : List Sh) (K : Mm → Prop) (T : Nat → Mm → Prop) : Out → List Sh → Mm → Prop := fun o L' σ' => (o = (0, vn) ∧ L' = L ∧ K σ') ∨ ThrO L T o L' σ'
def NT : Nat → Mm → Prop := fun _ _ => False
section
variable {d : Nat} {y : MethodName} {as : List Vl} {L : List Sh} {σ : Mm}
theorem Ex.toI {K K' : Int → Mm → Prop} {T T' : Nat → Mm → Prop} (h : Ex d y as L σ (PI L K T)) (h1 : ∀ z σ', K z σ' → K' z σ') (h2 : ∀ c σ', T c σ' → T' c σ') : Ex d y as L σ (PI L K' T') := h.mono fun o L' σ' q => q.elim (fun ⟨z, a, b, c⟩ => Or.inl ⟨z, a, b, h1 z σ' c⟩) (fun ⟨c, s, a, b, e, f, g⟩ => Or.inr ⟨c, s, a, b, e, f, h2 c s g⟩)
theorem Ex.toL {K K' : Int → Mm → Prop} {T T' : Nat → Mm → Prop} (h : Ex d y as L σ (PL L K T)) (h1 : ∀ z σ', K z σ' → K' z σ') (h2 : ∀ c σ', T c σ' → T' c σ') : Ex d y as L σ (PL L K' T') := h.mono fun o L' σ' q => q.elim (fun ⟨z, a, b, c⟩ => Or.inl ⟨z, a, b, h1 z σ' c⟩) (fun ⟨c, s, a, b, e, f, g⟩ => Or.inr ⟨c, s, a, b, e, f, h2 c s g⟩)
theorem Ex.toV {K K' : Mm → Prop} {T T' : Nat → Mm → Prop} (h : Ex d y as L σ (PV L K T)) (h1 : ∀ σ', K σ' → K' σ') (h2 : ∀ c σ', T c σ' → T' c σ') : Ex d y as L σ (PV L K' T') := h.mono fun o L' σ' q => q.elim (fun ⟨a, b, c⟩ => Or.inl ⟨a, b, h1 σ' c⟩) (fun ⟨c, s, a, b, e, f, g⟩ => Or.inr ⟨c, s, a, b, e, f, h2 c s g⟩)
end
/-- a call that only answers -/
def IsI (d : Nat) (y : MethodName) (as : List Vl) (L : List Sh) (σ : Mm) (r : Int) : Prop := Ex d y as L σ (PI L (fun z σ' => z = r ∧ σ' = σ) NT)
def IsL (d : Nat) (y : MethodName) (as : List Vl) (L : List Sh) (σ : Mm) (r : Int) : Prop := Ex d y as L σ (PL L (fun z σ' => z = r ∧ σ' = σ) NT)
theorem IsI.to {d d' : Nat} {y : MethodName} {as : List Vl} {L : List Sh} {σ : Mm} {r : Int} {K : Int → Mm → Prop} {T : Nat → Mm → Prop} (h : IsI d y as L σ r) (hd : d ≤ d') (k : K r σ) : Ex d' y as L σ (PI L K T) := (Ex.toI h (fun z s e => by rw [e.1, e.2]; exact k) (fun _ _ q => q.elim)).deep hd
theorem IsL.to {d d' : Nat} {y : MethodName} {as : List Vl} {L : List Sh} {σ : Mm} {r : Int} {K : Int → Mm → Prop} {T : Nat → Mm → Prop} (h : IsL d y as L σ r) (hd : d ≤ d') (k : K r σ) : Ex d' y as L σ (PL L K T) := (Ex.toL h (fun z s e => by rw [e.1, e.2]; exact k) (fun _ _ q => q.elim)).deep hd
/-! the rows over the layout -/
def leV : List Vl → List Vl → Prop
  | _, [] => True
  | [], b :: B => b = vj ∧ leV [] B
  | a :: A, b :: B => (b = vj ∨ a = b) ∧ leV A B
theorem leV_get : ∀ (A B : List Vl) (i : Nat) (v : Vl), leV A B → B[i]? = some v → v = vj ∨ A[i]? = some v
  | _, [], i, v, _, h => by simp at h
  | [], b :: B, 0, v, h, hv => by
    simp at hv
    exact Or.inl (hv ▸ h.1)
  | [], b :: B, i + 1, v, h, hv => by
    have := leV_get [] B i v h.2 (by simpa using hv)
    simpa using this
  | a :: A, b :: B, 0, v, h, hv => by
    simp at hv
    rcases h.1 with h1 | h1
    · exact Or.inl (hv ▸ h1)
    · exact Or.inr (by simp [h1, hv])
  | a :: A, b :: B, i + 1, v, h, hv => by
    have := leV_get A B i v h.2 (by simpa using hv)
    simpa using this
section
variable {μ : MI} {d pc : Nat} {A A' st : List Vl} {L : List Sh} {σ : Mm} {P : Out → List Sh → Mm → Prop}
theorem GS.weak (h : leV A A') (k : GS μ d pc A' st L σ P) : GS μ d pc A st L σ P := by
  intro p l e R s m args below meth c b0 b D H0 Ls H locs cells slots ls S
  refine k p l e R s m args below meth c b0 b D H0 Ls H locs cells slots ls ⟨S.1, S.2.1, S.2.2.1, S.2.2.2.1, S.2.2.2.2.1, lv_mono S.2.2.2.2.2.1 ?_, ?_, S.2.2.2.2.2.2.2⟩
  · rintro ⟨i, x⟩ hq
    obtain ⟨v, h1, h2, h3⟩ := mem_lvOf.mp hq
    rcases leV_get A A' i v h h1 with rfl | h4
    · simp [vok] at h2
    · exact mem_lvOf.mpr ⟨v, h4, h2, h3⟩
  · intro v hv
    obtain ⟨i, hi⟩ := List.getElem?_of_mem hv
    rcases leV_get A A' i v h hi with rfl | h4
    · trivial
    · exact S.2.2.2.2.2.2.1 v (List.mem_of_getElem? h4)
theorem n_iadd {x y : Int} (hd : decode μ.1 pc = .ok (.iadd, 1)) (h : -2147483648 ≤ x + y ∧ x + y < 2147483648) (k : GS μ d (pc + 1) A (vi (x + y) :: st) L σ P) : GS μ d pc A (vi y :: vi x :: st) L σ P := g_iadd hd (by rw [wI_id h.1 h.2]; exact k)
theorem n_isub {x y : Int} (hd : decode μ.1 pc = .ok (.isub, 1)) (h : -2147483648 ≤ x - y ∧ x - y < 2147483648) (k : GS μ d (pc + 1) A (vi (x - y) :: st) L σ P) : GS μ d pc A (vi y :: vi x :: st) L σ P := g_isub hd (by rw [wI_id h.1 h.2]; exact k)
theorem n_imul {x y : Int} (hd : decode μ.1 pc = .ok (.imul, 1)) (h : -2147483648 ≤ x * y ∧ x * y < 2147483648) (k : GS μ d (pc + 1) A (vi (x * y) :: st) L σ P) : GS μ d pc A (vi y :: vi x :: st) L σ P := g_imul hd (by rw [wI_id h.1 h.2]; exact k)
theorem n_ineg {x : Int} (hd : decode μ.1 pc = .ok (.ineg, 1)) (h : -2147483648 ≤ -x ∧ -x < 2147483648) (k : GS μ d (pc + 1) A (vi (-x) :: st) L σ P) : GS μ d pc A (vi x :: st) L σ P := g_ineg hd (by rw [wI_id h.1 h.2]; exact k)
theorem n_ladd {x y : Int} (hd : decode μ.1 pc = .ok (.ladd, 1)) (h : -9223372036854775808 ≤ x + y ∧ x + y < 9223372036854775808) (k : GS μ d (pc + 1) A (vl (x + y) :: st) L σ P) : GS μ d pc A (vl y :: vl x :: st) L σ P := g_ladd hd (by rw [wL_id h.1 h.2]; exact k)
theorem n_lmul {x y : Int} (hd : decode μ.1 pc = .ok (.lmul, 1)) (h : -9223372036854775808 ≤ x * y ∧ x * y < 9223372036854775808) (k : GS μ d (pc + 1) A (vl (x * y) :: st) L σ P) : GS μ d pc A (vl y :: vl x :: st) L σ P := g_lmul hd (by rw [wL_id h.1 h.2]; exact k)
theorem n_iinc {i : Nat} {z n : Int} (hd : decode μ.1 pc = .ok (.iinc i n, 3)) (hi : A[i]? = some (vi z)) (hn : i < μ.2.2.1) (h : -2147483648 ≤ z + n ∧ z + n < 2147483648) (k : GS μ d (pc + 3) (st1 A i (vi (z + n))) st L σ P) : GS μ d pc A st L σ P := g_iinc hd hi hn (by rw [wI_id h.1 h.2]; exact k)
theorem n_getI {idx ci j : Nat} {k : Int} {fs : List (Option Vl)} (hd : decode μ.1 pc = .ok (.getfield idx, 3)) (hk : LkO L k ci fs) (hf : fLink μ.2.1 idx ci j) (hj : fs[j]? = some none) (kk : GS μ d (pc + 3) A (vi (σ k j) :: st) L σ P) : GS μ d pc A (vr k :: st) L σ P := hk.elim fun _ h => g_getI hd h hf hj kk
theorem n_getR {idx ci j : Nat} {k k' : Int} {fs : List (Option Vl)} (hd : decode μ.1 pc = .ok (.getfield idx, 3)) (hk : LkO L k ci fs) (hf : fLink μ.2.1 idx ci j) (hj : fs[j]? = some (some (vr k'))) (kk : GS μ d (pc + 3) A (vr k' :: st) L σ P) : GS μ d pc A (vr k :: st) L σ P := hk.elim fun _ h => g_getR hd h hf hj kk
theorem n_putI {idx ci j : Nat} {k z : Int} {fs : List (Option Vl)} (hd : decode μ.1 pc = .ok (.putfield idx, 3)) (hk : LkO L k ci fs) (hf : pLk μ.2.1 idx ci j false 0) (hj : fs[j]? = some none) (kk : GS μ d (pc + 3) A st L (upd2 σ k j z) P) : GS μ d pc A (vi z :: vr k :: st) L σ P := hk.elim fun _ h => hf.elim fun ty hf => g_putI hd h hf.1 (Or.inl (hf.2.1 rfl)) (fun e => by cases e) hj kk
theorem n_iaload {k i : Int} {n : Nat} (hd : decode μ.1 pc = .ok (.iaload, 1)) (hk : LkA L k 1 n) (h : 0 ≤ i ∧ i < n) (kk : GS μ d (pc + 1) A (vi (σ k i) :: st) L σ P) : GS μ d pc A (vi i :: vr k :: st) L σ P := hk.elim fun _ hk => hk.elim fun _ hk => g_iaload hd hk h.1 h.2 kk
theorem n_baload {k i : Int} {n : Nat} (hd : decode μ.1 pc = .ok (.baload, 1)) (hk : LkA L k 2 n) (h : 0 ≤ i ∧ i < n) (kk : GS μ d (pc + 1) A (vi (σ k i) :: st) L σ P) : GS μ d pc A (vi i :: vr k :: st) L σ P := hk.elim fun _ hk => hk.elim fun _ hk => g_baload hd hk h.1 h.2 kk
theorem n_laload {k i : Int} {n : Nat} (hd : decode μ.1 pc = .ok (.laload, 1)) (hk : LkA L k 3 n) (h : 0 ≤ i ∧ i < n) (kk : GS μ d (pc + 1) A (vl (σ k i) :: st) L σ P) : GS μ d pc A (vi i :: vr k :: st) L σ P := hk.elim fun _ hk => hk.elim fun _ hk => g_laload hd hk h.1 h.2 kk
theorem n_aaload {k i : Int} {kd n : Nat} {f : Int → Int} (hd : decode μ.1 pc = .ok (.aaload, 1)) (hkd : kd = 4 ∨ kd = 5) (hk : LkG L k kd n f) (h : 0 ≤ i ∧ i < n) (kk : GS μ d (pc + 1) A (vr (f i) :: st) L σ P) : GS μ d pc A (vi i :: vr k :: st) L σ P := hk.elim fun _ hk => hk.elim fun _ hk => g_aaload hd hkd hk.1 h.1 h.2 (hk.2 i h.1 h.2) kk
theorem n_iastore {k i z : Int} {n : Nat} (hd : decode μ.1 pc = .ok (.iastore, 1)) (hk : LkA L k 1 n) (h : 0 ≤ i ∧ i < n) (kk : GS μ d (pc + 1) A st L (upd2 σ k i z) P) : GS μ d pc A (vi z :: vi i :: vr k :: st) L σ P := hk.elim fun _ hk => hk.elim fun _ hk => g_iastore hd hk h.1 h.2 kk
theorem n_bastore {k i z : Int} {n : Nat} (hd : decode μ.1 pc = .ok (.bastore, 1)) (hk : LkA L k 2 n) (h : 0 ≤ i ∧ i < n) (hz : z = 0 ∨ z = 1) (kk : GS μ d (pc + 1) A st L (upd2 σ k i z) P) : GS μ d pc A (vi z :: vi i :: vr k :: st) L σ P := hk.elim fun _ hk => hk.elim fun _ hk => g_bastore hd hk h.1 h.2 hz kk
theorem n_lastore {k i z : Int} {n : Nat} (hd : decode μ.1 pc = .ok (.lastore, 1)) (hk : LkA L k 3 n) (h : 0 ≤ i ∧ i < n) (kk : GS μ d (pc + 1) A st L (upd2 σ k i z) P) : GS μ d pc A (vl z :: vi i :: vr k :: st) L σ P := hk.elim fun _ hk => hk.elim fun _ hk => g_lastore hd hk h.1 h.2 kk
theorem n_alen {k : Int} {kd n : Nat} (hd : decode μ.1 pc = .ok (.arraylength, 1)) (hkd : kd = 1 ∨ kd = 2 ∨ kd = 5) (hk : LkA L k kd n) (hn : n < 2147483648) (kk : GS μ d (pc + 1) A (vi n :: st) L σ P) : GS μ d pc A (vr k :: st) L σ P := hk.elim fun _ hk => hk.elim fun _ hk => g_alen hd hkd hk hn kk
theorem LkG.toA {k : Int} {kd n : Nat} {f : Int → Int} (h : LkG L k kd n f) : LkA L k kd n := h.elim fun a h => h.elim fun b h => ⟨a, b, h.1⟩
theorem n_copy {idx : Nat} {k k' n : Int} {n0 n1 : Nat} (hd : decode μ.1 pc = .ok (.invokestatic idx, 3)) (hc : Cond.methodLink μ.2.1 idx arraycopyName ∈ lw_t) (hk : LkA L k 1 n0) (hk' : LkA L k' 1 n1) (h : 0 ≤ n ∧ n ≤ n0 ∧ n ≤ n1) (hd1 : 1 ≤ d) (hlen : st.length ≤ 20)
    (kk : GS μ d (pc + 3) A st L (updc σ k' (fun j => if 0 ≤ j ∧ j < n then σ k j else σ k' j)) P) : GS μ d pc A (vi n :: vi 0 :: vr k' :: vi 0 :: vr k :: st) L σ P := hk.elim fun _ hk => hk.elim fun _ hk => hk'.elim fun _ hk' => hk'.elim fun _ hk' => g_copy hd hc hk hk' h.1 h.2.1 h.2.2 hd1 hlen kk
theorem n_throw {idx ic c : Nat} {T : Nat → Mm → Prop} (hd : decode μ.1 pc = .ok (.new idx, 3)) (hd2 : decode μ.1 (pc + 3) = .ok (.dup, 1)) (hd3 : decode μ.1 (pc + 3 + 1) = .ok (.invokespecial ic, 3)) (hd4 : decode μ.1 (pc + 7) = .ok (.athrow, 1)) (hc : cXm μ.2.1 idx ic c) (hh : μ.2.2.2.2.1 = []) (hd6 : 6 ≤ d) (hlen : st.length ≤ 20) (hL : Lay L) (hP : P (2, vr L.length) (L ++ [xS c]) (updc σ L.length (fun _ => 0))) : GS μ d pc A st L σ P :=
  g_newx hd hd2 hd3 hc hd6 hlen hL.2.1 hL.2.2 (g_athrow hd4 hh (c := c) (fs := []) (gg := fun _ => vn) (by
    show look (L ++ [xS c]) (L.length : Int) = _
    unfold look
    rw [if_pos (by omega), Int.toNat_natCast, List.getElem?_append_right (Nat.le_refl _), Nat.sub_self]
    rfl) hP)
theorem aftI {len : Nat} {K : Int → Mm → Prop} {T : Nat → Mm → Prop} {rest : List Vl} (hh : μ.2.2.2.2.1 = []) (hT : ∀ c σ₁, T c σ₁ → c ≤ 2 → P (2, vr L.length) (L ++ [xS c]) (updc σ₁ L.length (fun _ => 0))) (hK : ∀ z σ', K z σ' → GS μ d (pc + len) A (vi z :: rest) L σ' P) {o : Out} {L' : List Sh} {σ' : Mm} (h : PI L K T o L' σ') : Aft μ d pc len A rest P o L' σ' := by
  rcases h with ⟨z, rfl, rfl, h⟩ | ⟨c, s, hc, rfl, rfl, rfl, h⟩
  · exact hK z _ h
  · intro k c' fs g e hl
    cases e
    have e2 : look (L ++ [xS c]) (L.length : Int) = some (xS c) := by
      unfold look
      rw [if_pos (by omega), Int.toNat_natCast, List.getElem?_append_right (Nat.le_refl _), Nat.sub_self]
      rfl
    rw [e2] at hl
    cases hl
    refine ⟨hc, ?_⟩
    unfold ThC
    rw [hh]
    exact hT _ s h hc
theorem aftL {len : Nat} {K : Int → Mm → Prop} {T : Nat → Mm → Prop} {rest : List Vl} (hh : μ.2.2.2.2.1 = []) (hT : ∀ c σ₁, T c σ₁ → c ≤ 2 → P (2, vr L.length) (L ++ [xS c]) (updc σ₁ L.length (fun _ => 0))) (hK : ∀ z σ', K z σ' → GS μ d (pc + len) A (vl z :: rest) L σ' P) {o : Out} {L' : List Sh} {σ' : Mm} (h : PL L K T o L' σ') : Aft μ d pc len A rest P o L' σ' := by
  rcases h with ⟨z, rfl, rfl, h⟩ | h
  · exact hK z _ h
  · exact aftI (K := fun _ _ => False) hh hT (fun z σ' h => h.elim) (Or.inr h)
theorem aftV {len : Nat} {K : Mm → Prop} {T : Nat → Mm → Prop} {rest : List Vl} (hh : μ.2.2.2.2.1 = []) (hT : ∀ c σ₁, T c σ₁ → c ≤ 2 → P (2, vr L.length) (L ++ [xS c]) (updc σ₁ L.length (fun _ => 0))) (hK : ∀ σ', K σ' → GS μ d (pc + len) A rest L σ' P) {o : Out} {L' : List Sh} {σ' : Mm} (h : PV L K T o L' σ') : Aft μ d pc len A rest P o L' σ' := by
  rcases h with ⟨rfl, rfl, h⟩ | h
  · exact hK _ h
  · exact aftI (K := fun _ _ => False) hh hT (fun z σ' h => h.elim) (Or.inr h)
theorem n_callV {idx ci n : Nat} {y : MethodName} {k : Int} {fs : List (Option Vl)} {l : List (Nat × MethodName)} (as : List Vl) (rest : List Vl) {Q : Out → List Sh → Mm → Prop} (hd : decode μ.1 pc = .ok (.invokevirtual idx, 3)) (hk : LkO L k ci fs) (hv : vk μ.2.1 idx n l) (hn : n = as.length) (hq : disp l ci = some y) (hrest : rest.length ≤ 20) (E : Ex d y (vr k :: as) L σ Q) (hQ : ∀ o L' σ', Q o L' σ' → Aft μ (d + 1) pc 3 A rest P o L' σ') : GS μ (d + 1) pc A (as.reverse ++ vr k :: rest) L σ P := by
  subst hn
  obtain ⟨gg, hk⟩ := hk
  rcases hv ci y hq with h | ⟨x, h⟩
  · exact g_callV hd hk h hrest (E.mono hQ)
  · exact g_callU hd hk h hrest (E.mono hQ)
theorem n_callS {idx n : Nat} {y : MethodName} (as : List Vl) (rest : List Vl) {Q : Out → List Sh → Mm → Prop} (hd : decode μ.1 pc = .ok (.invokestatic idx, 3)) (hv : cSm μ.2.1 idx y n) (hn : n = as.length) (hrest : rest.length ≤ 20) (E : Ex d y as L σ Q) (hQ : ∀ o L' σ', Q o L' σ' → Aft μ (d + 1) pc 3 A rest P o L' σ') : GS μ (d + 1) pc A (as.reverse ++ rest) L σ P := by
  subst hn
  exact g_callS hd hv hrest (E.mono hQ)
theorem n_case {x v : Int} (e : x = v) (k : GS μ d pc A (vi v :: st) L σ P) : GS μ d pc A (vi x :: st) L σ P := e ▸ k
theorem n_by {c : Prop} (h1 : c → GS μ d pc A st L σ P) (h2 : ¬ c → GS μ d pc A st L σ P) : GS μ d pc A st L σ P := (Classical.em c).elim h1 h2
end
theorem thI {L : List Sh} {K : Int → Mm → Prop} {T : Nat → Mm → Prop} (c : Nat) (σ₁ : Mm) (h : T c σ₁) (hc : c ≤ 2) : PI L K T (2, vr L.length) (L ++ [xS c]) (updc σ₁ L.length (fun _ => 0)) := Or.inr ⟨c, σ₁, hc, rfl, rfl, rfl, h⟩
theorem thL {L : List Sh} {K : Int → Mm → Prop} {T : Nat → Mm → Prop} (c : Nat) (σ₁ : Mm) (h : T c σ₁) (hc : c ≤ 2) : PL L K T (2, vr L.length) (L ++ [xS c]) (updc σ₁ L.length (fun _ => 0)) := Or.inr ⟨c, σ₁, hc, rfl, rfl, rfl, h⟩
theorem thV {L : List Sh} {K : Mm → Prop} {T : Nat → Mm → Prop} (c : Nat) (σ₁ : Mm) (h : T c σ₁) (hc : c ≤ 2) : PV L K T (2, vr L.length) (L ++ [xS c]) (updc σ₁ L.length (fun _ => 0)) := Or.inr ⟨c, σ₁, hc, rfl, rfl, rfl, h⟩
theorem noT {P : Out → List Sh → Mm → Prop} {L : List Sh} (c : Nat) (σ₁ : Mm) (h : NT c σ₁) (hc : c ≤ 2) : P (2, vr L.length) (L ++ [xS c]) (updc σ₁ L.length (fun _ => 0)) := h.elim
/-! comparisons -/
theorem ic_nlt {x y : Int} (h : ¬ icm .lt x y) : y ≤ x := Int.not_lt.mp h
theorem ic_nge {x y : Int} (h : ¬ icm .ge x y) : x < y := Int.not_le.mp h
theorem ic_ngt {x y : Int} (h : ¬ icm .gt x y) : x ≤ y := Int.not_lt.mp h
theorem ic_nle {x y : Int} (h : ¬ icm .le x y) : y < x := Int.not_le.mp h
theorem ic_nne {x y : Int} (h : ¬ icm .ne x y) : x = y := Classical.not_not.mp h
theorem ic_neq {x y : Int} (h : ¬ icm .eq x y) : x ≠ y := h
theorem cL3 (x y : Int) : (x < y ∧ cL x y = -1) ∨ (x = y ∧ cL x y = 0) ∨ (y < x ∧ cL x y = 1) := by
  unfold cL
  rcases Int.lt_trichotomy x y with h | h | h
  · exact Or.inl ⟨h, by rw [if_neg (by omega), if_neg (by omega)]⟩
  · exact Or.inr (Or.inl ⟨h, by rw [if_neg (by omega), if_pos h]⟩)
  · exact Or.inr (Or.inr ⟨h, by rw [if_pos h]⟩)
theorem cl_lt {x y : Int} (h : icm .lt (cL x y) 0) : x < y := by
  have h : cL x y < 0 := h
  rcases cL3 x y with e | e | e <;> omega
theorem cl_nlt {x y : Int} (h : ¬ icm .lt (cL x y) 0) : y ≤ x := by
  have h : ¬ (cL x y < 0) := h
  rcases cL3 x y with e | e | e <;> omega
theorem cl_ge {x y : Int} (h : icm .ge (cL x y) 0) : y ≤ x := by
  have h : 0 ≤ cL x y := h
  rcases cL3 x y with e | e | e <;> omega
theorem cl_nge {x y : Int} (h : ¬ icm .ge (cL x y) 0) : x < y := by
  have h : ¬ (0 ≤ cL x y) := h
  rcases cL3 x y with e | e | e <;> omega
theorem cl_gt {x y : Int} (h : icm .gt (cL x y) 0) : y < x := by
  have h : 0 < cL x y := h
  rcases cL3 x y with e | e | e <;> omega
theorem cl_ngt {x y : Int} (h : ¬ icm .gt (cL x y) 0) : x ≤ y := by
  have h : ¬ (0 < cL x y) := h
  rcases cL3 x y with e | e | e <;> omega
theorem cl_le {x y : Int} (h : icm .le (cL x y) 0) : x ≤ y := by
  have h : cL x y ≤ 0 := h
  rcases cL3 x y with e | e | e <;> omega
theorem cl_nle {x y : Int} (h : ¬ icm .le (cL x y) 0) : y < x := by
  have h : ¬ (cL x y ≤ 0) := h
  rcases cL3 x y with e | e | e <;> omega
theorem cl_ne {x y : Int} (h : icm .ne (cL x y) 0) : x ≠ y := by
  have h : cL x y ≠ 0 := h
  rcases cL3 x y with e | e | e <;> omega
theorem cl_nne {x y : Int} (h : ¬ icm .ne (cL x y) 0) : x = y := by
  have h : ¬ (cL x y ≠ 0) := h
  rcases cL3 x y with e | e | e <;> omega
theorem cl_eq {x y : Int} (h : icm .eq (cL x y) 0) : x = y := by
  have h : cL x y = 0 := h
  rcases cL3 x y with e | e | e <;> omega
theorem cl_neq {x y : Int} (h : ¬ icm .eq (cL x y) 0) : x ≠ y := by
  have h : ¬ (cL x y = 0) := h
  rcases cL3 x y with e | e | e <;> omega
/-- the bytes of a method, decoded: (pc, instruction, length) -/
def dOK (bytes : ByteArray) (e : Nat × Instr × Nat) : Bool := match decode bytes e.1 with
  | .ok (i, n) => decide (i = e.2.1) && decide (n = e.2.2)
  | _ => false
theorem dOK_get {bytes : ByteArray} {l : List (Nat × Instr × Nat)} (h : l.all (dOK bytes) = true) (i : Nat) {pc n : Nat} {ins : Instr} (hi : l[i]? = some (pc, ins, n)) : decode bytes pc = .ok (ins, n) := by
  have h1 := List.all_eq_true.mp h _ (List.mem_of_getElem? hi)
  unfold dOK at h1
  dsimp only at h1
  split at h1
  · rename_i i' n' e
    simp only [Bool.and_eq_true, decide_eq_true_eq] at h1
    rw [e, h1.1, h1.2]
  · cases h1
