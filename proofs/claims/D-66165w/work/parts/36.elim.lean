/-! ELIMINATION, plainly -/
theorem bk_or2 : ∀ z, z < 128 → ∀ w, w < 128 → oI (z : Nat) (w : Nat) = ((z ||| w : Nat) : Int) := by decide +kernel
theorem isM.union {z w n : Int} {f g : Int → Prop} (h : isM z n f) (k : isM w n g) : isM (oI z w) n (fun i => f i ∨ g i) := by
  obtain ⟨a, rfl⟩ := nat_of h.1
  obtain ⟨b, rfl⟩ := nat_of k.1
  have h1 := h.2.1
  have k1 := k.2.1
  rw [bk_or2 a (by omega) b (by omega)]
  have := lt7_or (show a < 128 by omega) (show b < 128 by omega)
  refine ⟨by omega, by omega, fun i i0 i7 => ?_⟩
  have e1 := h.2.2 i i0 i7
  have e2 := k.2.2 i i0 i7
  rw [bz_iff, Int.toNat_natCast] at e1 e2 ⊢
  rw [Nat.testBit_or, Bool.or_eq_true, e1, e2]
  constructor
  · rintro (q | q)
    · exact ⟨q.1, Or.inl q.2⟩
    · exact ⟨q.1, Or.inr q.2⟩
  · rintro ⟨q, w | w⟩
    · exact Or.inl ⟨q, w⟩
    · exact Or.inr ⟨q, w⟩
theorem isM.self {z n : Int} (h0 : 0 ≤ z) (h1 : z < 128) (hb : ∀ i, 0 ≤ i → i < 7 → bz z i = 1 → i < n) : isM z n (fun i => bz z i = 1) := ⟨h0, h1, fun i i0 i7 => ⟨fun h => ⟨hb i i0 i7 h, h⟩, fun h => h.2⟩⟩
theorem bk_single : ∀ s, s < 128 → 0 < s → aI (s : Nat) ((s : Nat) - 1) = 0 → ∃ c, c < 7 ∧ (s : Int) = hI 1 (c : Nat) := by decide +kernel
theorem bk_single' : ∀ c, c < 7 → aI (hI 1 (c : Nat)) (hI 1 (c : Nat) - 1) = 0 := by decide +kernel
theorem bk_inj : ∀ c, c < 7 → ∀ b, b < 7 → hI 1 (c : Nat) = hI 1 (b : Nat) → c = b := by decide +kernel
theorem single_of {s : Int} (h0 : 0 < s) (h1 : s < 128) (h : aI s (s - 1) = 0) : ∃ c, 0 ≤ c ∧ c < 7 ∧ s = hI 1 c := by
  obtain ⟨n, rfl⟩ := nat_of (show 0 ≤ s by omega)
  obtain ⟨c, h2, h3⟩ := bk_single n (by omega) (by omega) h
  exact ⟨c, by omega, by omega, h3⟩
theorem single_is {c : Int} (c0 : 0 ≤ c) (c1 : c < 7) : aI (hI 1 c) (hI 1 c - 1) = 0 := by
  obtain ⟨n, rfl⟩ := nat_of c0
  exact bk_single' n (by omega)
theorem one_inj {c b : Int} (c0 : 0 ≤ c) (c1 : c < 7) (b0 : 0 ≤ b) (b1 : b < 7) (h : hI 1 c = hI 1 b) : c = b := by
  obtain ⟨n, rfl⟩ := nat_of c0
  obtain ⟨m, rfl⟩ := nat_of b0
  have := bk_inj n (by omega) m (by omega) h
  omega
/-- a set of candidates -/
def sub (z n : Int) : Prop := 0 ≤ z ∧ z < 128 ∧ ∀ i, 0 ≤ i → i < 7 → bz z i = 1 → i < n
theorem clr_sub {z n c : Int} (h : sub z n) (c0 : 0 ≤ c) (c1 : c < 7) : sub (aI z (xI (hI 1 c) (-1))) n := by
  have := clr_in h.1 h.2.1 c0 c1
  exact ⟨this.1, this.2.1, fun i i0 i7 hi => h.2.2 i i0 i7 ((this.2.2 i i0).mp hi).1⟩
theorem pos_of {z n : Int} (h : nz z n) : 0 < z := by
  obtain ⟨h0, h1, c, c0, c1, hc⟩ := h
  by_cases e : z = 0
  · rw [e, bz_iff] at hc
    simp at hc
  · omega
theorem nz_of {z n : Int} (h : sub z n) (hz : z ≠ 0) : nz z n := by
  refine ⟨h.1, h.2.1, Classical.byContradiction fun w => hz ?_⟩
  exact (isM.self h.1 h.2.1 h.2.2).zero_iff.mpr fun i i0 i1 i7 hi => w ⟨i, i0, i1, hi⟩
/-- not single: another one beside each -/
theorem other_of {z n : Int} (h : sub z n) (n7 : n ≤ 7) (hs : aI z (z - 1) ≠ 0) {c : Int} (c0 : 0 ≤ c) (c1 : c < n) : nz (aI z (xI (hI 1 c) (-1))) n := by
  have hc := clr_in h.1 h.2.1 c0 (show c < 7 by omega)
  refine ⟨hc.1, hc.2.1, Classical.byContradiction fun w => ?_⟩
  by_cases e : bz z c = 1
  · have : isM z n (fun i => i = c) := (isM.self h.1 h.2.1 h.2.2).ext fun i i0 i1 i7 => by
      constructor
      · intro hi
        exact Classical.byContradiction fun g => w ⟨i, i0, i1, (hc.2.2 i i0).mpr ⟨hi, g⟩⟩
      · exact fun g => by rw [g]; exact e
    have e2 := this.uniq (isM.sing c0 c1 n7)
    exact hs (by rw [e2]; exact single_is c0 (by omega))
  · have : z = 0 := (isM.self h.1 h.2.1 h.2.2).zero_iff.mpr fun i i0 i1 i7 hi => w ⟨i, i0, i1, (hc.2.2 i i0).mpr ⟨hi, fun g => e (by rw [← g]; exact hi)⟩⟩
    exact hs (by rw [this]; decide +kernel)
/-- those who may go -/
def lw (q : Pf) (z c : Int) : Prop := bz z c = 1 ∧ ∀ b, 0 ≤ b → b < qN q → bz z b = 1 → fs q z c ≤ fs q z b
def stp (q : Pf) (s s' : Int) : Prop := aI s (s - 1) ≠ 0 ∧ ∃ c, 0 ≤ c ∧ c < qN q ∧ lw q s c ∧ s' = aI s (xI (hI 1 c) (-1))
/-- the sets that can be left -/
def Dn (q : Pf) (s s' : Int) : Prop := ∀ Q : Int → Prop, Q s → (∀ x y, Q x → stp q x y → Q y) → Q s'
theorem Dn.refl (q : Pf) (s : Int) : Dn q s s := fun _ h _ => h
theorem Dn.step {q : Pf} {s x y : Int} (h : Dn q s x) (hs : stp q x y) : Dn q s y := fun Q h0 h1 => h1 x y (h Q h0 h1) hs
theorem Dn.trans {q : Pf} {s x y : Int} (h : Dn q s x) (g : Dn q x y) : Dn q s y := g (Dn q s) h (fun _ _ a b => a.step b)
def W4 (q : Pf) (c : Int) : Prop := Dn q (alq q) (hI 1 c)
theorem Dn.ok {q : Pf} (hq : okP q) {s x : Int} (h : Dn q s x) (hs : sub s (qN q)) (hz : nz s (qN q)) : sub x (qN q) ∧ nz x (qN q) := by
  refine h (fun x => sub x (qN q) ∧ nz x (qN q)) ⟨hs, hz⟩ ?_
  rintro x y ⟨h1, h2⟩ ⟨h3, c, c0, c1, h4, rfl⟩
  have hn := hq.1
  exact ⟨clr_sub h1 c0 (by omega), other_of h1 hn.2 h3 c0 c1⟩
theorem al_sub {q : Pf} (hq : okP q) : sub (alq q) (qN q) := ⟨(al_is hq).1, (al_is hq).2.1, fun i i0 i7 h => (((al_is hq).2.2 i i0 i7).mp h).1⟩
/-- how many are in a set -/
def pc (s : Int) : Int := S (bz s) 7
theorem pc_clr {z c : Int} (h0 : 0 ≤ z) (h1 : z < 128) (c0 : 0 ≤ c) (c1 : c < 7) (hc : bz z c = 1) : pc (aI z (xI (hI 1 c) (-1))) = pc z - 1 := by
  have hb := clr_in h0 h1 c0 c1
  have := S_chg (f := bz z) (g := bz (aI z (xI (hI 1 c) (-1)))) (n := 7) (t := c) c0 (fun i i0 i1 hi => by
    have e := hb.2.2 i i0
    rcases bz01 z i with g | g
    · rcases bz01 (aI z (xI (hI 1 c) (-1))) i with k | k
      · rw [g, k]
      · have := (e.mp k).1; omega
    · rw [g, e.mpr ⟨g, hi⟩]) 7 (by omega) (by omega)
  unfold pc
  rw [this, if_pos c1, hc]
  have e2 : bz (aI z (xI (hI 1 c) (-1))) c = 0 := by
    rcases bz01 (aI z (xI (hI 1 c) (-1))) c with k | k
    · exact k
    · exact absurd rfl ((hb.2.2 c c0).mp k).2
  rw [e2]
  omega
theorem pc_pos {z n : Int} (n7 : n ≤ 7) (h : nz z n) : 1 ≤ pc z := by
  obtain ⟨-, -, c, c0, c1, hc⟩ := h
  have hbd := S_bd (f := bz z) (n := 7) (B := 1) (fun i _ _ => by rcases bz01 z i with g | g <;> omega)
  have e1 := hbd c c0 (by omega)
  have e2 := S_s (bz z) c0
  have mono : ∀ k, c + 1 ≤ k → 1 ≤ S (bz z) k := by
    intro k hk
    refine upFrom (P := fun k => 1 ≤ S (bz z) k) (a := c + 1) (by rw [e2, hc]; omega) ?_ k hk
    intro k hk ih
    rw [S_s (bz z) (by omega)]
    rcases bz01 z k with g | g <;> omega
  exact mono 7 (by omega)
theorem pc_le (z : Int) : pc z ≤ 7 := by
  have := S_bd (f := bz z) (n := 7) (B := 1) (fun i _ _ => by rcases bz01 z i with g | g <;> omega) 7 (by omega) (by omega)
  unfold pc
  omega
/-- someone may always go -/
theorem lw_ex {q : Pf} (hq : okP q) {z : Int} (h : nz z (qN q)) : ∃ c, 0 ≤ c ∧ c < qN q ∧ lw q z c := by
  obtain ⟨-, -, c, c0, c1, hc⟩ := h
  have key : ∀ m : Nat, ∀ c, 0 ≤ c → c < qN q → bz z c = 1 → fs q z c ≤ m → ∃ c, 0 ≤ c ∧ c < qN q ∧ lw q z c := by
    intro m
    induction m with
    | zero =>
      intro c c0 c1 hc hm
      exact ⟨c, c0, c1, hc, fun b b0 b1 hb => by have := (fs_bd' hq z b).1; omega⟩
    | succ m ih =>
      intro c c0 c1 hc hm
      by_cases e : ∀ b, 0 ≤ b → b < qN q → bz z b = 1 → fs q z c ≤ fs q z b
      · exact ⟨c, c0, c1, hc, e⟩
      · have : ∃ b, 0 ≤ b ∧ b < qN q ∧ bz z b = 1 ∧ fs q z b < fs q z c := Classical.byContradiction fun w => e fun b b0 b1 hb => by
          by_cases g : fs q z b < fs q z c
          · exact absurd ⟨b, b0, b1, hb, g⟩ w
          · omega
        obtain ⟨b, b0, b1, hb, hl⟩ := this
        exact ih b b0 b1 hb (by omega)
  exact key (fs q z c).toNat c c0 c1 hc (by have := (fs_bd' hq z c).1; omega)
/-- someone is left at the end -/
theorem W4_ex {q : Pf} (hq : okP q) : ∃ c, 0 ≤ c ∧ c < qN q ∧ W4 q c := by
  have hn := hq.1
  have key : ∀ m : Nat, ∀ s, Dn q (alq q) s → sub s (qN q) → nz s (qN q) → pc s ≤ m → ∃ c, 0 ≤ c ∧ c < qN q ∧ W4 q c := by
    intro m
    induction m with
    | zero => intro s _ _ h3 h4; have := pc_pos hn.2 h3; omega
    | succ m ih =>
      intro s h1 h2 h3 h4
      by_cases e : aI s (s - 1) = 0
      · obtain ⟨c, c0, c7, rfl⟩ := single_of (pos_of h3) h2.2.1 e
        have hb : bz (hI 1 c) c = 1 := ((isM.sing c0 c7 (Int.le_refl 7)).2.2 c c0 c7).mpr ⟨c7, rfl⟩
        exact ⟨c, c0, h2.2.2 c c0 c7 hb, h1⟩
      · obtain ⟨c, c0, c1, hl⟩ := lw_ex hq h3
        have := pc_clr h2.1 h2.2.1 c0 (by omega) hl.1
        exact ih _ (h1.step ⟨e, c, c0, c1, hl, rfl⟩) (clr_sub h2 c0 (by omega)) (other_of h2 hn.2 e c0 c1) (by omega)
  exact key 7 (alq q) (Dn.refl _ _) (al_sub hq) (al_nz hq) (pc_le _)
