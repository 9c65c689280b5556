/-! PLAIN MATHEMATICS: sums, searches, sets as bits, profiles -/
theorem upto {P : Int → Prop} {a n : Int} (hn : P n) (hs : ∀ k, a ≤ k → k < n → P (k + 1) → P k) : ∀ k, a ≤ k → k ≤ n → P k := by
  have key : ∀ (m : Nat) (k : Int), n - k = m → a ≤ k → P k := by
    intro m
    induction m with
    | zero => intro k h _; rw [show k = n by omega]; exact hn
    | succ m ih => intro k h ha; exact hs k ha (by omega) (ih (k + 1) (by omega) (by omega))
  intro k ha hk
  exact key (n - k).toNat k (by omega) ha
theorem upFrom {P : Int → Prop} {a : Int} (h0 : P a) (hs : ∀ k, a ≤ k → P k → P (k + 1)) : ∀ k, a ≤ k → P k := by
  have key : ∀ (m : Nat), P (a + m) := by
    intro m
    induction m with
    | zero => simpa using h0
    | succ m ih => have := hs (a + m) (by omega) ih; rwa [show a + (m : Int) + 1 = a + ((m + 1 : Nat) : Int) by omega] at this
  intro k hk
  have := key (k - a).toNat
  rwa [show a + ((k - a).toNat : Int) = k by omega] at this
def sm (f : Int → Int) : Nat → Int
  | 0 => 0
  | k + 1 => sm f k + f k
def S (f : Int → Int) (n : Int) : Int := sm f n.toNat
theorem S_0 (f : Int → Int) : S f 0 = 0 := rfl
theorem S_s (f : Int → Int) {n : Int} (h : 0 ≤ n) : S f (n + 1) = S f n + f n := by
  unfold S
  rw [show (n + 1).toNat = n.toNat + 1 by omega]
  show sm f n.toNat + f (n.toNat : Int) = _
  rw [show (n.toNat : Int) = n by omega]
theorem S_congr {f g : Int → Int} {n : Int} (h : ∀ i, 0 ≤ i → i < n → f i = g i) : ∀ k, 0 ≤ k → k ≤ n → S f k = S g k := by
  intro k hk
  refine upFrom (P := fun k => k ≤ n → S f k = S g k) (a := 0) (fun _ => rfl) ?_ k hk
  intro k hk ih hk2
  rw [S_s f hk, S_s g hk, ih (by omega), h k hk (by omega)]
theorem S_ext {f g : Int → Int} {n : Int} (h0 : 0 ≤ n) (h : ∀ i, 0 ≤ i → i < n → f i = g i) : S f n = S g n := S_congr h n h0 (Int.le_refl n)
theorem S_bd {f : Int → Int} {n B : Int} (h : ∀ i, 0 ≤ i → i < n → 0 ≤ f i ∧ f i ≤ B) : ∀ k, 0 ≤ k → k ≤ n → 0 ≤ S f k ∧ S f k ≤ B * k := by
  intro k hk
  refine upFrom (P := fun k => k ≤ n → 0 ≤ S f k ∧ S f k ≤ B * k) (a := 0) (fun _ => by simp [S_0]) ?_ k hk
  intro k hk ih hk2
  have h1 := ih (by omega)
  have h2 := h k hk (by omega)
  rw [S_s f hk, Int.mul_add, Int.mul_one]
  omega
theorem S_add (f g : Int → Int) {n : Int} (h : 0 ≤ n) : S (fun i => f i + g i) n = S f n + S g n := by
  refine upFrom (P := fun n => S (fun i => f i + g i) n = S f n + S g n) (a := 0) rfl ?_ n h
  intro k hk ih
  rw [S_s _ hk, S_s _ hk, S_s _ hk, ih]
  omega
theorem S_le {f g : Int → Int} {n : Int} (h0 : 0 ≤ n) (h : ∀ i, 0 ≤ i → i < n → f i ≤ g i) : S f n ≤ S g n := by
  have : ∀ k, 0 ≤ k → k ≤ n → S f k ≤ S g k := by
    intro k hk
    refine upFrom (P := fun k => k ≤ n → S f k ≤ S g k) (a := 0) (fun _ => by simp [S_0]) ?_ k hk
    intro k hk ih hk2
    have h1 := ih (by omega)
    have h2 := h k hk (by omega)
    rw [S_s f hk, S_s g hk]
    omega
  exact this n h0 (Int.le_refl n)
/-- the first place from k on, at most m further, with P -/
noncomputable def fst (P : Int → Prop) : Nat → Int → Int
  | 0, k => k
  | m + 1, k => @ite _ (P k) (Classical.propDecidable _) k (fst P m (k + 1))
theorem fst_eq {P : Int → Prop} : ∀ (m : Nat) (k r : Int), k ≤ r → r < k + m → P r → (∀ i, k ≤ i → i < r → ¬ P i) → fst P m k = r
  | 0, k, r, h1, h2, _, _ => by omega
  | m + 1, k, r, h1, h2, h3, h4 => by
    unfold fst
    by_cases e : k = r
    · subst e; rw [if_pos h3]
    · rw [if_neg (h4 k (Int.le_refl k) (by omega))]
      exact fst_eq m (k + 1) r (by omega) (by omega) h3 (fun i hi => h4 i (by omega))
theorem fst_has {P : Int → Prop} : ∀ (m : Nat) (k j : Int), k ≤ j → j < k + m → P j → ∃ r, k ≤ r ∧ r ≤ j ∧ P r ∧ ∀ i, k ≤ i → i < r → ¬ P i
  | 0, k, j, h1, h2, _ => by omega
  | m + 1, k, j, h1, h2, h3 => by
    by_cases e : P k
    · exact ⟨k, Int.le_refl k, h1, e, fun i h4 h5 => absurd h5 (by omega)⟩
    · have hne : k ≠ j := fun q => e (q ▸ h3)
      obtain ⟨r, a, b, c, f⟩ := fst_has m (k + 1) j (by omega) (by omega) h3
      refine ⟨r, by omega, b, c, fun i h4 h5 => ?_⟩
      by_cases q : i = k
      · rw [q]; exact e
      · exact f i (by omega) h5
theorem fst_spec {P : Int → Prop} {m : Nat} {k j : Int} (h1 : k ≤ j) (h2 : j < k + m) (h3 : P j) : k ≤ fst P m k ∧ fst P m k ≤ j ∧ P (fst P m k) ∧ ∀ i, k ≤ i → i < fst P m k → ¬ P i := by
  obtain ⟨r, a, b, c, f⟩ := fst_has m k j h1 h2 h3
  rw [fst_eq m k r a (by omega) c f]
  exact ⟨a, b, c, f⟩
/-! bits -/
def bz (z i : Int) : Int := if z.toNat.testBit i.toNat then 1 else 0
theorem bz01 (z i : Int) : bz z i = 0 ∨ bz z i = 1 := by
  unfold bz
  split
  · exact Or.inr rfl
  · exact Or.inl rfl
theorem bz_iff {z i : Int} : bz z i = 1 ↔ z.toNat.testBit i.toNat = true := by
  unfold bz
  split
  · rename_i h; simp [h]
  · rename_i h; simp [h]
/-- z is the set of those below n that have f -/
def isM (z n : Int) (f : Int → Prop) : Prop := 0 ≤ z ∧ z < 128 ∧ ∀ i, 0 ≤ i → i < 7 → (bz z i = 1 ↔ i < n ∧ f i)
theorem isM.ext {z n : Int} {f g : Int → Prop} (h : isM z n f) (e : ∀ i, 0 ≤ i → i < n → i < 7 → (f i ↔ g i)) : isM z n g := ⟨h.1, h.2.1, fun i h0 h7 => by
  rw [h.2.2 i h0 h7]
  constructor
  · exact fun q => ⟨q.1, (e i h0 q.1 h7).mp q.2⟩
  · exact fun q => ⟨q.1, (e i h0 q.1 h7).mpr q.2⟩⟩
theorem isM.uniq {z z' n : Int} {f : Int → Prop} (h : isM z n f) (h' : isM z' n f) : z = z' := by
  obtain ⟨a1, a2, a3⟩ := h
  obtain ⟨b1, b2, b3⟩ := h'
  have e : z.toNat = z'.toNat := by
    apply Nat.eq_of_testBit_eq
    intro i
    by_cases hi : i < 7
    · have h1 := a3 i (by omega) (by omega)
      have h2 := b3 i (by omega) (by omega)
      rw [bz_iff] at h1 h2
      rw [Int.toNat_natCast] at h1 h2
      have h3 := h1.trans h2.symm
      cases e1 : z.toNat.testBit i <;> cases e2 : z'.toNat.testBit i <;> simp [e1, e2] at h3 ⊢
    · have hp : (2 : Nat) ^ 7 ≤ 2 ^ i := Nat.pow_le_pow_right (by decide) (by omega)
      rw [Nat.testBit_lt_two_pow (Nat.lt_of_lt_of_le (show z.toNat < 2 ^ 7 by omega) hp), Nat.testBit_lt_two_pow (Nat.lt_of_lt_of_le (show z'.toNat < 2 ^ 7 by omega) hp)]
  omega
theorem bk_bit : ∀ z, z < 128 → ∀ c, c < 7 → aI (rI (z : Nat) (c : Nat)) 1 = bz (z : Nat) (c : Nat) := by decide +kernel
theorem bk_or : ∀ z, z < 128 → ∀ c, c < 7 → oI (z : Nat) (hI 1 (c : Nat)) = ((z ||| 2 ^ c : Nat) : Int) := by decide +kernel
theorem bk_clr : ∀ z, z < 128 → ∀ c, c < 7 → aI (z : Nat) (xI (hI 1 (c : Nat)) (-1)) = ((z &&& (127 - 2 ^ c) : Nat) : Int) := by decide +kernel
theorem bk_one : ∀ c, c < 8 → hI 1 (c : Nat) = ((2 ^ c : Nat) : Int) := by decide +kernel
