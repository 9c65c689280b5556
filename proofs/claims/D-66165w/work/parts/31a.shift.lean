/-! shifts and digits -/
theorem sh_cnt : ∀ n, n < 32 → ((Int32.ofInt (n : Nat) &&& 31).toBitVec.smod 32).toNat = n := by decide +kernel
theorem rI_div {x s : Int} (h : in32 x) (s0 : 0 ≤ s) (s1 : s < 32) : rI x s = x / ((2 ^ s.toNat : Nat) : Int) := by
  obtain ⟨n, rfl⟩ := nat_of s0
  unfold rI
  rw [Int.toNat_natCast]
  show (Int32.ofInt x >>> (Int32.ofInt (n : Int) &&& 31)).toBitVec.toInt = _
  rw [Int32.toBitVec_shiftRight]
  show (BitVec.sshiftRight (Int32.ofInt x).toBitVec ((Int32.ofInt (n : Int) &&& 31).toBitVec.smod 32).toNat).toInt = _
  rw [sh_cnt n (by omega), BitVec.toInt_sshiftRight]
  show (Int32.ofInt x).toInt >>> n = _
  rw [of32 h, Int.shiftRight_eq_div_pow]
theorem aI_7 {x : Int} (h0 : 0 ≤ x) (h1 : x < 2147483648) : aI x 7 = x % 8 := by
  obtain ⟨n, rfl⟩ := nat_of h0
  unfold aI
  show (Int32.ofInt (n : Int) &&& 7).toBitVec.toInt = _
  rw [Int32.toBitVec_and]
  have e : ((Int32.ofInt (n : Int)).toBitVec &&& (7 : Int32).toBitVec).toNat = n % 8 := by
    rw [BitVec.toNat_and]
    have e1 : (Int32.ofInt (n : Int)).toBitVec.toNat = n := by
      show (BitVec.ofInt 32 (n : Int)).toNat = n
      rw [BitVec.toNat_ofInt]
      omega
    have e2 : (7 : Int32).toBitVec.toNat = 7 := rfl
    rw [e1, e2]
    exact Nat.and_two_pow_sub_one_eq_mod n 3
  show BitVec.toInt ((Int32.ofInt (n : Int)).toBitVec &&& (7 : Int32).toBitVec) = _
  rw [BitVec.toInt_eq_toNat_of_lt (by rw [e]; omega), e]
  omega
theorem aI_7r (x : Int) : 0 ≤ aI x 7 ∧ aI x 7 < 8 := by
  unfold aI
  have e : ((Int32.ofInt x).toBitVec &&& (7 : Int32).toBitVec).toNat < 8 := by
    rw [BitVec.toNat_and]
    have e2 : (7 : Int32).toBitVec.toNat = 7 := rfl
    rw [e2]
    have : (Int32.ofInt x).toBitVec.toNat &&& 7 = (Int32.ofInt x).toBitVec.toNat % 8 := Nat.and_two_pow_sub_one_eq_mod _ 3
    omega
  show 0 ≤ BitVec.toInt ((Int32.ofInt x).toBitVec &&& (7 : Int32).toBitVec) ∧ BitVec.toInt ((Int32.ofInt x).toBitVec &&& (7 : Int32).toBitVec) < 8
  rw [BitVec.toInt_eq_toNat_of_lt (by omega)]
  omega
/-- the digits of an order -/
def dg (o k : Int) : Int := o / ((8 ^ k.toNat : Nat) : Int) % 8
theorem pow83 (m : Nat) : 2 ^ (3 * m) = 8 ^ m := by rw [Nat.pow_mul]
theorem dg_eq {o k : Int} (h0 : 0 ≤ o) (h1 : o < 2147483648) (k0 : 0 ≤ k) (k1 : k < 8) : aI (rI o (3 * k)) 7 = dg o k := by
  rw [rI_div ⟨by omega, h1⟩ (by omega) (by omega)]
  have e : (2 ^ (3 * k).toNat : Nat) = 8 ^ k.toNat := by rw [show (3 * k).toNat = 3 * k.toNat by omega, pow83]
  rw [e]
  have hp : (0 : Int) < ((8 ^ k.toNat : Nat) : Int) := by
    have : 0 < 8 ^ k.toNat := Nat.pow_pos (by decide)
    omega
  have a := Int.ediv_nonneg h0 (Int.le_of_lt hp)
  have b := Int.ediv_le_self ((8 ^ k.toNat : Nat) : Int) h0
  exact aI_7 a (by omega)
theorem dg_in (o k : Int) : 0 ≤ dg o k ∧ dg o k < 8 := by unfold dg; omega
theorem sh3 {o n : Int} (h0 : 0 ≤ o) (h1 : o < 2147483648) (n0 : 0 ≤ n) (n1 : n ≤ 7) : rI o (3 * n) = 0 ↔ o < ((8 ^ n.toNat : Nat) : Int) := by
  rw [rI_div ⟨by omega, h1⟩ (by omega) (by omega)]
  have e : (2 ^ (3 * n).toNat : Nat) = 8 ^ n.toNat := by rw [show (3 * n).toNat = 3 * n.toNat by omega, pow83]
  rw [e]
  have hp : (0 : Int) < ((8 ^ n.toNat : Nat) : Int) := by
    have : 0 < 8 ^ n.toNat := Nat.pow_pos (by decide)
    omega
  constructor
  · intro h
    by_cases g : o < ((8 ^ n.toNat : Nat) : Int)
    · exact g
    · have : 1 ≤ o / ((8 ^ n.toNat : Nat) : Int) := (Int.le_ediv_iff_mul_le hp).mpr (by omega)
      omega
  · exact fun h => Int.ediv_eq_zero_of_lt h0 h
/-- told is an order of n -/
def isOrd (n o : Int) : Prop := (0 ≤ o ∧ o < ((8 ^ n.toNat : Nat) : Int)) ∧ (∀ k, 0 ≤ k → k < n → dg o k < n) ∧ ∀ j k, 0 ≤ j → j < n → 0 ≤ k → k < n → dg o j = dg o k → j = k
theorem bvNat {x : Int} (h0 : 0 ≤ x) (h1 : x < 2147483648) : (Int32.ofInt x).toBitVec.toNat = x.toNat := by
  obtain ⟨n, rfl⟩ := nat_of h0
  show (BitVec.ofInt 32 (n : Int)).toNat = _
  rw [BitVec.toNat_ofInt, Int.toNat_natCast]
  omega
theorem oI_nat {z w : Int} (z0 : 0 ≤ z) (z1 : z < 2147483648) (w0 : 0 ≤ w) (w1 : w < 2147483648) : oI z w = ((z.toNat ||| w.toNat : Nat) : Int) := by
  unfold oI
  show (Int32.ofInt z ||| Int32.ofInt w).toBitVec.toInt = _
  rw [Int32.toBitVec_or]
  have e : ((Int32.ofInt z).toBitVec ||| (Int32.ofInt w).toBitVec).toNat = z.toNat ||| w.toNat := by rw [BitVec.toNat_or, bvNat z0 z1, bvNat w0 w1]
  have hl : z.toNat ||| w.toNat < 2 ^ 31 := Nat.or_lt_two_pow (by omega) (by omega)
  rw [BitVec.toInt_eq_toNat_of_lt (by rw [e]; omega), e]
theorem hI_mul {x s : Int} (x0 : 0 ≤ x) (s0 : 0 ≤ s) (s1 : s < 32) (h : x * ((2 ^ s.toNat : Nat) : Int) < 2147483648) (x1 : x < 2147483648) : hI x s = x * ((2 ^ s.toNat : Nat) : Int) := by
  obtain ⟨m, rfl⟩ := nat_of x0
  obtain ⟨n, rfl⟩ := nat_of s0
  rw [Int.toNat_natCast] at h ⊢
  unfold hI
  show (Int32.ofInt (m : Int) <<< (Int32.ofInt (n : Int) &&& 31)).toBitVec.toInt = _
  rw [Int32.toBitVec_shiftLeft]
  have e : ((Int32.ofInt (m : Int)).toBitVec <<< ((Int32.ofInt (n : Int) &&& 31).toBitVec.smod 32).toNat).toNat = m * 2 ^ n := by
    rw [sh_cnt n (by omega), BitVec.toNat_shiftLeft, bvNat x0 x1, Int.toNat_natCast, Nat.shiftLeft_eq]
    have : m * 2 ^ n < 2147483648 := by
      have h2 : ((m * 2 ^ n : Nat) : Int) < 2147483648 := by rw [Int.natCast_mul]; exact h
      omega
    omega
  show ((Int32.ofInt (m : Int)).toBitVec <<< ((Int32.ofInt (n : Int) &&& 31).toBitVec.smod 32).toNat).toInt = _
  have h2 : ((m * 2 ^ n : Nat) : Int) < 2147483648 := by rw [Int.natCast_mul]; exact h
  rw [BitVec.toInt_eq_toNat_of_lt (by rw [e]; omega), e, Int.natCast_mul]
/-- a digit below -/
theorem or_dig {x d : Int} (x0 : 0 ≤ x) (x1 : x < 268435456) (d0 : 0 ≤ d) (d1 : d < 8) : oI (hI x 3) d = 8 * x + d := by
  rw [hI_mul x0 (by omega) (by omega) (by show x * 8 < _; omega) (by omega)]
  show oI (x * 8) d = _
  obtain ⟨n, rfl⟩ := nat_of x0
  obtain ⟨m, rfl⟩ := nat_of d0
  rw [oI_nat (by omega) (by omega) (by omega) (by omega)]
  have e : ((n : Int) * 8).toNat = n <<< 3 := by rw [Nat.shiftLeft_eq]; omega
  rw [e, Int.toNat_natCast, ← Nat.shiftLeft_add_eq_or_of_lt (show m < 2 ^ 3 by omega) n, Nat.shiftLeft_eq]
  omega
/-- a digit above -/
theorem or_top {x d k : Int} (k0 : 0 ≤ k) (k1 : k < 7) (x0 : 0 ≤ x) (x1 : x < ((8 ^ k.toNat : Nat) : Int)) (d0 : 0 ≤ d) (d1 : d < 8) : oI x (hI d (3 * k)) = x + d * ((8 ^ k.toNat : Nat) : Int) := by
  obtain ⟨i, rfl⟩ := nat_of k0
  obtain ⟨n, rfl⟩ := nat_of x0
  obtain ⟨m, rfl⟩ := nat_of d0
  rw [Int.toNat_natCast] at x1 ⊢
  have hp : 8 ^ i ≤ 262144 := Nat.pow_le_pow_right (by decide) (show i ≤ 6 by omega)
  have e3 : (3 * (i : Int)).toNat = 3 * i := by omega
  have hmul : m * 8 ^ i ≤ 7 * 262144 := Nat.mul_le_mul (by omega) hp
  have e : ((2 ^ (3 * (i : Int)).toNat : Nat) : Int) = ((8 ^ i : Nat) : Int) := by rw [e3, pow83]
  rw [hI_mul (by omega) (by omega) (by omega) (by rw [e, ← Int.natCast_mul]; omega) (by omega), e, ← Int.natCast_mul]
  rw [oI_nat (by omega) (by omega) (by omega) (by omega), Int.toNat_natCast, Int.toNat_natCast, Nat.or_comm]
  have e4 : m * 8 ^ i = m <<< (3 * i) := by rw [Nat.shiftLeft_eq, pow83]
  rw [e4, ← Nat.shiftLeft_add_eq_or_of_lt (show n < 2 ^ (3 * i) by rw [pow83]; omega) m]
  omega
theorem inj_surj : ∀ (n : Nat) (f : Int → Int), (∀ k : Int, 0 ≤ k → k < n → 0 ≤ f k ∧ f k < n) → (∀ j k : Int, 0 ≤ j → j < n → 0 ≤ k → k < n → f j = f k → j = k) → ∀ c : Int, 0 ≤ c → c < n → ∃ k : Int, 0 ≤ k ∧ k < n ∧ f k = c
  | 0, f, _, _, c, c0, c1 => by omega
  | n + 1, f, h1, h2, c, c0, c1 => by
    have hn := h1 n (by omega) (by omega)
    have g1 : ∀ k, 0 ≤ k → k < (n : Int) → 0 ≤ (if f k = n then f n else f k) ∧ (if f k = n then f n else f k) < (n : Int) := by
      intro k k0 k1
      have hk := h1 k k0 (by omega)
      by_cases e : f k = n
      · rw [if_pos e]
        have : f n ≠ n := fun w => by have := h2 k n k0 (by omega) (by omega) (by omega) (e.trans w.symm); omega
        omega
      · rw [if_neg e]; omega
    have g2 : ∀ j k, 0 ≤ j → j < (n : Int) → 0 ≤ k → k < (n : Int) → (if f j = n then f n else f j) = (if f k = n then f n else f k) → j = k := by
      intro j k j0 j1 k0 k1 e
      by_cases e1 : f j = n <;> by_cases e2 : f k = n
      · exact h2 j k j0 (by omega) k0 (by omega) (e1.trans e2.symm)
      · rw [if_pos e1, if_neg e2] at e
        have := h2 n k (by omega) (by omega) k0 (by omega) e
        omega
      · rw [if_neg e1, if_pos e2] at e
        have := h2 j n j0 (by omega) (by omega) (by omega) e
        omega
      · rw [if_neg e1, if_neg e2] at e
        exact h2 j k j0 (by omega) k0 (by omega) e
    have ih := inj_surj n (fun k => if f k = n then f n else f k) g1 g2
    by_cases e : c = n
    · by_cases w : f n = n
      · exact ⟨n, by omega, by omega, by rw [w, e]⟩
      · obtain ⟨k, k0, k1, hk⟩ := ih (f n) hn.1 (by omega)
        by_cases v : f k = n
        · exact ⟨k, k0, by omega, by rw [v, e]⟩
        · rw [if_neg v] at hk
          have := h2 k n k0 (by omega) (by omega) (by omega) hk
          omega
    · obtain ⟨k, k0, k1, hk⟩ := ih c c0 (by omega)
      by_cases v : f k = n
      · rw [if_pos v] at hk
        exact ⟨n, by omega, by omega, hk⟩
      · rw [if_neg v] at hk
        exact ⟨k, k0, by omega, hk⟩
