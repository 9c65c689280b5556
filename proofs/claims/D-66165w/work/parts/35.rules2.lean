theorem isM.ins {z n c : Int} {f g : Int → Prop} (h : isM z n f) (c0 : 0 ≤ c) (cn : c < n) (c7 : c < 7) (hg : ∀ i, 0 ≤ i → i < n → (g i ↔ f i ∨ i = c)) : isM (oI z (hI 1 c)) n g := by
  have := or_in h.1 h.2.1 c0 c7
  refine ⟨this.1, this.2.1, fun i i0 i7 => ?_⟩
  rw [this.2.2 i i0, h.2.2 i i0 i7]
  constructor
  · rintro (q | q)
    · exact ⟨q.1, (hg i i0 q.1).mpr (Or.inl q.2)⟩
    · exact ⟨by omega, (hg i i0 (by omega)).mpr (Or.inr q)⟩
  · rintro ⟨q1, q2⟩
    rcases (hg i i0 q1).mp q2 with e | e
    · exact Or.inl ⟨q1, e⟩
    · exact Or.inr e
theorem isM.empty {n : Int} {f : Int → Prop} (h : ∀ i, 0 ≤ i → i < n → ¬ f i) : isM 0 n f := ⟨by omega, by omega, fun i i0 i7 => by
  constructor
  · intro h
    rw [bz_iff] at h
    simp at h
  · exact fun q => absurd q.2 (h i i0 q.1)⟩
theorem isM.sing {n c : Int} (c0 : 0 ≤ c) (cn : c < n) (n7 : n ≤ 7) : isM (hI 1 c) n (fun i => i = c) := by
  have h := isM.one (f := fun i => i = c) c0 (by omega) (fun i _ _ => Iff.rfl)
  refine ⟨h.1, h.2.1, fun i i0 i7 => ?_⟩
  rw [h.2.2 i i0 i7]
  constructor
  · exact fun q => ⟨by omega, q.2⟩
  · exact fun q => ⟨by omega, q.2⟩
theorem isM.zero_iff {z n : Int} {f : Int → Prop} (h : isM z n f) : z = 0 ↔ ∀ i, 0 ≤ i → i < n → i < 7 → ¬ f i := by
  constructor
  · intro e i i0 i1 i7 hf
    have := (h.2.2 i i0 i7).mpr ⟨i1, hf⟩
    rw [e, bz_iff] at this
    simp at this
  · intro hn
    refine h.uniq (isM.ext (isM.empty (n := n) (f := fun _ => False) (fun _ _ _ q => q)) fun i i0 i1 i7 => ?_)
    exact ⟨fun q => q.elim, fun q => hn i i0 i1 i7 q⟩
theorem isM.andNot {z w n : Int} {f g : Int → Prop} (h : isM z n f) (k : isM w n g) : isM (aI z (xI w (-1))) n (fun i => f i ∧ ¬ g i) := by
  have := an_in h.1 h.2.1 k.1 k.2.1
  refine ⟨this.1, this.2.1, fun i i0 i7 => ?_⟩
  rw [this.2.2 i i0, Ne, h.2.2 i i0 i7, k.2.2 i i0 i7]
  constructor
  · rintro ⟨⟨a, b⟩, c⟩
    exact ⟨a, b, fun e => c ⟨a, e⟩⟩
  · rintro ⟨a, b, c⟩
    exact ⟨⟨a, b⟩, fun e => c e.2⟩
theorem isM.bit {z n c : Int} {f : Int → Prop} (h : isM z n f) (c0 : 0 ≤ c) (cn : c < n) (n7 : n ≤ 7) : (aI (rI z c) 1 = 1 ↔ f c) ∧ (aI (rI z c) 1 = 0 ↔ ¬ f c) := by
  have e := bit_eq h.1 h.2.1 c0 (show c < 7 by omega)
  have := h.2.2 c c0 (by omega)
  rw [e]
  rcases bz01 z c with g | g
  · rw [g] at this ⊢
    constructor
    · exact ⟨fun h => by omega, fun h => this.mpr ⟨cn, h⟩⟩
    · exact ⟨fun _ h => by have := this.mpr ⟨cn, h⟩; omega, fun _ => rfl⟩
  · rw [g] at this ⊢
    constructor
    · exact ⟨fun _ => (this.mp rfl).2, fun _ => rfl⟩
    · exact ⟨fun h => by omega, fun h => absurd (this.mp rfl).2 h⟩
/-- the runoff -/
def two (q : Pf) (a b : Int) : Prop := ∀ c, 0 ≤ c → c < qN q → c = a ∨ c = b ∨ (sc0 q c ≤ sc0 q a ∧ sc0 q c ≤ sc0 q b)
def W3p (q : Pf) (a b i : Int) : Prop := ∃ x y, 0 ≤ x ∧ x < y ∧ y < qN q ∧ (x < a ∨ x = a ∧ y < b) ∧ two q x y ∧ (i = x ∧ ¬ bts q y x ∨ i = y ∧ ¬ bts q x y)
def W3 (q : Pf) (i : Int) : Prop := ∃ x y, 0 ≤ x ∧ x < y ∧ y < qN q ∧ two q x y ∧ (i = x ∧ ¬ bts q y x ∨ i = y ∧ ¬ bts q x y)
theorem W3p_0 {q : Pf} {i : Int} : ¬ W3p q 0 1 i := by
  rintro ⟨x, y, h1, h2, h3, h4, -⟩
  omega
theorem W3p_next {q : Pf} {a i : Int} : W3p q a (qN q) i ↔ W3p q (a + 1) (a + 2) i := by
  constructor
  · rintro ⟨x, y, h1, h2, h3, h4, h5⟩
    exact ⟨x, y, h1, h2, h3, by omega, h5⟩
  · rintro ⟨x, y, h1, h2, h3, h4, h5⟩
    exact ⟨x, y, h1, h2, h3, by omega, h5⟩
theorem W3p_end {q : Pf} {b i : Int} : W3p q (qN q) b i ↔ W3 q i := by
  constructor
  · rintro ⟨x, y, h1, h2, h3, h4, h5⟩
    exact ⟨x, y, h1, h2, h3, h5⟩
  · rintro ⟨x, y, h1, h2, h3, h5⟩
    exact ⟨x, y, h1, h2, h3, by omega, h5⟩
theorem W3p_step {q : Pf} {a b i : Int} (a0 : 0 ≤ a) (ab : a < b) (bn : b < qN q) : W3p q a (b + 1) i ↔ W3p q a b i ∨ two q a b ∧ (i = a ∧ ¬ bts q b a ∨ i = b ∧ ¬ bts q a b) := by
  constructor
  · rintro ⟨x, y, h1, h2, h3, h4, h5⟩
    by_cases e : x = a ∧ y = b
    · rw [e.1, e.2] at h5; exact Or.inr h5
    · exact Or.inl ⟨x, y, h1, h2, h3, by omega, h5⟩
  · rintro (⟨x, y, h1, h2, h3, h4, h5⟩ | h)
    · exact ⟨x, y, h1, h2, h3, by omega, h5⟩
    · exact ⟨a, b, a0, ab, bn, by omega, h⟩
/-- uncovered -/
def cov (q : Pf) (a b : Int) : Prop := bts q a b ∧ ∀ c, 0 ≤ c → c < qN q → bts q b c → bts q a c
def W10 (q : Pf) (i : Int) : Prop := ¬ ∃ a, 0 ≤ a ∧ a < qN q ∧ cov q a i
/-- the agenda: who stays after the place k -/
noncomputable def svr (q : Pf) : Nat → Int
  | 0 => qG q 0
  | k + 1 => @ite _ (bts q (qG q ((k : Int) + 1)) (svr q k) ∨ (¬ bts q (svr q k) (qG q ((k : Int) + 1)) ∧ ps (qI' q) (qG q ((k : Int) + 1)) < ps (qI' q) (svr q k))) (Classical.propDecidable _) (qG q ((k : Int) + 1)) (svr q k)
theorem svr_in {q : Pf} (hq : okP q) : ∀ k : Nat, (k : Int) < qN q → 0 ≤ svr q k ∧ svr q k < qN q
  | 0, h => hq.2.2.2.2.2.1.1 0 (by omega) (by omega)
  | k + 1, h => by
    have h1 := svr_in hq k (by omega)
    have h2 := hq.2.2.2.2.2.1.1 ((k : Int) + 1) (by omega) (by omega)
    unfold svr
    split
    · exact h2
    · exact h1
def W11 (q : Pf) (i : Int) : Prop := i = svr q (qN q - 1).toNat
