/-! more of bits -/
theorem nat_of {z : Int} (h : 0 ≤ z) : ∃ n : Nat, z = n := Int.eq_ofNat_of_zero_le h
theorem bit_eq {z c : Int} (h0 : 0 ≤ z) (h1 : z < 128) (c0 : 0 ≤ c) (c1 : c < 7) : aI (rI z c) 1 = bz z c := by
  obtain ⟨n, rfl⟩ := nat_of h0
  obtain ⟨m, rfl⟩ := nat_of c0
  exact bk_bit n (by omega) m (by omega)
theorem one_eq {c : Int} (c0 : 0 ≤ c) (c1 : c < 8) : hI 1 c = ((2 ^ c.toNat : Nat) : Int) := by
  obtain ⟨m, rfl⟩ := nat_of c0
  rw [Int.toNat_natCast]
  exact bk_one m (by omega)
theorem pow_lt {m : Nat} (h : m < 7) : (2 : Nat) ^ m ≤ 64 := Nat.pow_le_pow_right (by decide) (show m ≤ 6 by omega)
theorem lt7_or {a b : Nat} (ha : a < 128) (hb : b < 128) : a ||| b < 128 := Nat.or_lt_two_pow (n := 7) ha hb
theorem or_in {z c : Int} (h0 : 0 ≤ z) (h1 : z < 128) (c0 : 0 ≤ c) (c1 : c < 7) : 0 ≤ oI z (hI 1 c) ∧ oI z (hI 1 c) < 128 ∧ ∀ i, 0 ≤ i → (bz (oI z (hI 1 c)) i = 1 ↔ bz z i = 1 ∨ i = c) := by
  obtain ⟨n, rfl⟩ := nat_of h0
  obtain ⟨m, rfl⟩ := nat_of c0
  rw [bk_or n (by omega) m (by omega)]
  have hp := pow_lt (show m < 7 by omega)
  have := lt7_or (show n < 128 by omega) (show 2 ^ m < 128 by omega)
  refine ⟨by omega, by omega, fun i hi => ?_⟩
  obtain ⟨j, rfl⟩ := nat_of hi
  rw [bz_iff, bz_iff, Int.toNat_natCast, Int.toNat_natCast, Int.toNat_natCast, Nat.testBit_or, Nat.testBit_two_pow]
  simp only [Bool.or_eq_true, decide_eq_true_eq]
  constructor
  · rintro (h | h)
    · exact Or.inl h
    · exact Or.inr (by omega)
  · rintro (h | h)
    · exact Or.inl h
    · exact Or.inr (by omega)
theorem bk_nb : ∀ c, c < 7 → ∀ i, i < 7 → (127 - 2 ^ c : Nat).testBit i = !decide (c = i) := by decide +kernel
theorem bz_big {z i : Int} (h0 : 0 ≤ z) (h1 : z < 128) (hi : 7 ≤ i) : bz z i = 0 := by
  unfold bz
  have hp : (2 : Nat) ^ 7 ≤ 2 ^ i.toNat := Nat.pow_le_pow_right (by decide) (by omega)
  rw [Nat.testBit_lt_two_pow (Nat.lt_of_lt_of_le (show z.toNat < 2 ^ 7 by omega) hp)]
  rfl
theorem clr_in {z c : Int} (h0 : 0 ≤ z) (h1 : z < 128) (c0 : 0 ≤ c) (c1 : c < 7) : 0 ≤ aI z (xI (hI 1 c) (-1)) ∧ aI z (xI (hI 1 c) (-1)) < 128 ∧ ∀ i, 0 ≤ i → (bz (aI z (xI (hI 1 c) (-1))) i = 1 ↔ bz z i = 1 ∧ i ≠ c) := by
  obtain ⟨n, rfl⟩ := nat_of h0
  obtain ⟨m, rfl⟩ := nat_of c0
  have e := bk_clr n (by omega) m (by omega)
  rw [e]
  have hle : n &&& (127 - 2 ^ m) ≤ n := Nat.and_le_left
  refine ⟨by omega, by omega, fun i hi => ?_⟩
  by_cases h7 : i < 7
  · obtain ⟨j, rfl⟩ := nat_of hi
    rw [bz_iff, bz_iff, Int.toNat_natCast, Int.toNat_natCast, Int.toNat_natCast, Nat.testBit_and, bk_nb m (by omega) j (by omega)]
    simp only [Bool.and_eq_true, Bool.not_eq_true', decide_eq_false_iff_not]
    constructor
    · exact fun h => ⟨h.1, by omega⟩
    · exact fun h => ⟨h.1, by omega⟩
  · rw [bz_big (by omega) (by omega) (by omega), bz_big (by omega) (by omega) (by omega)]
    simp
theorem bk_not : ∀ w, w < 128 → ∀ i, i < 7 → (127 - w : Nat).testBit i = !w.testBit i := by decide +kernel
theorem bk_an : ∀ z, z < 128 → ∀ w, w < 128 → aI (z : Nat) (xI (w : Nat) (-1)) = ((z &&& (127 - w) : Nat) : Int) := by decide +kernel
theorem an_in {z w : Int} (h0 : 0 ≤ z) (h1 : z < 128) (c0 : 0 ≤ w) (c1 : w < 128) : 0 ≤ aI z (xI w (-1)) ∧ aI z (xI w (-1)) < 128 ∧ ∀ i, 0 ≤ i → (bz (aI z (xI w (-1))) i = 1 ↔ bz z i = 1 ∧ bz w i ≠ 1) := by
  obtain ⟨n, rfl⟩ := nat_of h0
  obtain ⟨m, rfl⟩ := nat_of c0
  rw [bk_an n (by omega) m (by omega)]
  have hle : n &&& (127 - m) ≤ n := Nat.and_le_left
  refine ⟨by omega, by omega, fun i hi => ?_⟩
  by_cases h7 : i < 7
  · obtain ⟨j, rfl⟩ := nat_of hi
    rw [bz_iff, bz_iff, Ne, bz_iff, Int.toNat_natCast, Int.toNat_natCast, Int.toNat_natCast, Int.toNat_natCast, Nat.testBit_and, bk_not m (by omega) j (by omega)]
    simp
  · rw [bz_big (by omega) (by omega) (by omega), bz_big (by omega) (by omega) (by omega)]
    simp
