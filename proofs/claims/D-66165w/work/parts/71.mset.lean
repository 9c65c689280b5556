/-! THE MODEL's ORDERS -/
theorem bk_or8 : ∀ z, z < 256 → ∀ c, c < 8 → oI (z : Nat) (hI 1 (c : Nat)) = ((z ||| 2 ^ c : Nat) : Int) := by decide +kernel
theorem or8_in {z c : Int} (h0 : 0 ≤ z) (h1 : z < 256) (c0 : 0 ≤ c) (c1 : c < 8) : 0 ≤ oI z (hI 1 c) ∧ oI z (hI 1 c) < 256 ∧ ∀ i, 0 ≤ i → (bz (oI z (hI 1 c)) i = 1 ↔ bz z i = 1 ∨ i = c) := by
  obtain ⟨n, rfl⟩ := nat_of h0
  obtain ⟨m, rfl⟩ := nat_of c0
  rw [bk_or8 n (by omega) m (by omega)]
  have hp : (2 : Nat) ^ m ≤ 128 := Nat.pow_le_pow_right (by decide) (show m ≤ 7 by omega)
  have hor : n ||| 2 ^ m < 2 ^ 8 := Nat.or_lt_two_pow (by omega) (by omega)
  refine ⟨by omega, by omega, fun i hi => ?_⟩
  obtain ⟨j, rfl⟩ := nat_of hi
  rw [bz_iff, bz_iff, Int.toNat_natCast, Int.toNat_natCast, Int.toNat_natCast, Nat.testBit_or, Nat.testBit_two_pow]
  simp only [Bool.or_eq_true, decide_eq_true_eq]
  constructor
  · rintro (h | h)
    · exact Or.inl h
    · exact Or.inr (by omega)
  · rintro (h | h)
    · exact Or.inl h
    · exact Or.inr (by omega)
theorem eq8 {z w : Int} (z0 : 0 ≤ z) (z1 : z < 256) (w0 : 0 ≤ w) (w1 : w < 256) (h : ∀ i, 0 ≤ i → i < 8 → (bz z i = 1 ↔ bz w i = 1)) : z = w := by
  have e : z.toNat = w.toNat := by
    apply Nat.eq_of_testBit_eq
    intro i
    by_cases hi : i < 8
    · have h1 := h i (by omega) (by omega)
      rw [bz_iff, bz_iff, Int.toNat_natCast] at h1
      cases e1 : z.toNat.testBit i <;> cases e2 : w.toNat.testBit i <;> simp [e1, e2] at h1 ⊢
    · have hp : (2 : Nat) ^ 8 ≤ 2 ^ i := Nat.pow_le_pow_right (by decide) (by omega)
      rw [Nat.testBit_lt_two_pow (Nat.lt_of_lt_of_le (show z.toNat < 2 ^ 8 by omega) hp), Nat.testBit_lt_two_pow (Nat.lt_of_lt_of_le (show w.toNat < 2 ^ 8 by omega) hp)]
  omega
/-- a map onto is one to one -/
theorem surj_inj {n : Int} (n0 : 0 ≤ n) {f : Int → Int} (h1 : ∀ k, 0 ≤ k → k < n → 0 ≤ f k ∧ f k < n) (h2 : ∀ c, 0 ≤ c → c < n → ∃ k, 0 ≤ k ∧ k < n ∧ f k = c) : ∀ j k, 0 ≤ j → j < n → 0 ≤ k → k < n → f j = f k → j = k := by
  have hg : ∀ c, ∃ k, 0 ≤ c → c < n → 0 ≤ k ∧ k < n ∧ f k = c := by
    intro c
    by_cases hc : 0 ≤ c ∧ c < n
    · obtain ⟨k, a, b, e⟩ := h2 c hc.1 hc.2
      exact ⟨k, fun _ _ => ⟨a, b, e⟩⟩
    · exact ⟨0, fun a b => absurd ⟨a, b⟩ hc⟩
  obtain ⟨g, hg⟩ := Classical.axiomOfChoice hg
  have pg : Pm n g := Pm.mk n0 (fun k k0 k1 => ⟨(hg k k0 k1).1, (hg k k0 k1).2.1⟩) (fun j k j0 j1 k0 k1 e => by
    have a := (hg j j0 j1).2.2
    have b := (hg k k0 k1).2.2
    rw [e] at a
    omega)
  intro j k j0 j1 k0 k1 e
  obtain ⟨c, c0, c1, hc⟩ := pg.2.2 j j0 j1
  obtain ⟨d, d0, d1, hd⟩ := pg.2.2 k k0 k1
  have a := (hg c c0 c1).2.2
  have b := (hg d d0 d1).2.2
  rw [hc] at a
  rw [hd] at b
  have : c = d := by omega
  rw [← hc, ← hd, this]
section
variable {L : List Sh} {σ : Mm} {s : St}
theorem m_isOrder (hY : Lay L) {o n : Int} (h32 : in32 o) (hn : σ 102 1 = n) (h7 : 2 ≤ n ∧ n ≤ 7) : IsI 0 y_Mod_isOrder [vr 102, vi o] L σ (bI (isOrd n o)) := by
  have h32 : -2147483648 ≤ o ∧ o < 2147483648 := h32
  have hal := hI_al (n := n) ⟨by omega, h7.2⟩
  refine e_Mod_isOrder hY ?_
  by_cases ho : 0 ≤ o
  · refine upto (P := fun k => ∀ z, 0 ≤ z → z < 256 → (∀ i, 0 ≤ i → (bz z i = 1 ↔ ∃ j, 0 ≤ j ∧ j < k ∧ dg o j = i)) → G_Mod_isOrder_4 0 L σ (fun z σ' => z = bI (isOrd n o) ∧ σ' = σ) NT o z k) (a := 0) (n := n) ?_ ?_ 0 (by omega) (by omega) 0 (by omega) (by omega) (fun i i0 => ⟨fun h => by rw [bz_iff] at h; simp at h, fun ⟨j, j0, j1, _⟩ => by omega⟩)
    · intro z z0 z1 hz
      refine r_Mod_isOrder_4 hY ⟨fun _ => ⟨fun g => absurd g (by omega), fun _ => ⟨by omega, ?_⟩⟩, fun g => absurd g (by omega)⟩
      rw [hn]
      have hsh := sh3 ho h32.2 (show 0 ≤ n by omega) h7.2
      refine ⟨fun g => ⟨(bI_n fun w => g (hsh.mpr w.1.2)).symm, rfl⟩, fun g => ⟨by omega, fun g2 => ⟨(bI_n fun w => g2 ?_).symm, rfl⟩, fun g2 => ⟨(bI_p ?_).symm, rfl⟩⟩⟩
      · have pm := isOrd.pm (show 0 ≤ n by omega) w
        refine eq8 z0 z1 (by omega) (by omega) fun i i0 i8 => ?_
        rw [hz i i0]
        by_cases h7' : i < 7
        · rw [hal.2.2.2.2 i i0 h7']
          constructor
          · rintro ⟨j, j0, j1, e⟩
            have := (pm.1 j j0 j1).2
            exact ⟨by omega, trivial⟩
          · rintro ⟨h, -⟩
            obtain ⟨j, j0, j1, e⟩ := pm.2.2 i i0 h
            exact ⟨j, j0, j1, e⟩
        · rw [bz_big (by omega) (by omega) (show 7 ≤ i by omega)]
          constructor
          · rintro ⟨j, j0, j1, e⟩
            have := (pm.1 j j0 j1).2
            omega
          · exact fun h => absurd h (by omega)
      · have rng : ∀ k, 0 ≤ k → k < n → dg o k < n := by
          intro k k0 k1
          have hb := (hz (dg o k) (dg_in o k).1).mpr ⟨k, k0, k1, rfl⟩
          have hd := dg_in o k
          rw [g2] at hb
          by_cases h7' : dg o k < 7
          · exact ((hal.2.2.2.2 _ hd.1 h7').mp hb).1
          · rw [bz_big (by omega) (by omega) (by omega)] at hb; omega
        refine ⟨⟨ho, hsh.mp g⟩, rng, surj_inj (by omega) (fun k k0 k1 => ⟨(dg_in o k).1, rng k k0 k1⟩) fun c c0 c1 => ?_⟩
        have hb : bz z c = 1 := by rw [g2]; exact (hal.2.2.2.2 c c0 (by omega)).mpr ⟨c1, trivial⟩
        exact (hz c c0).mp hb
    · intro k k0 k1 ih z z0 z1 hz
      have hd := dg_in o k
      have hor := or8_in z0 z1 hd.1 hd.2
      refine r_Mod_isOrder_4 hY ⟨fun g => absurd g (by omega), fun _ => ⟨by omega, by omega, ?_⟩⟩
      rw [dg_eq ho h32.2 k0 (by omega)]
      refine ih _ hor.1 hor.2.1 fun i i0 => ?_
      rw [hor.2.2 i i0, hz i i0]
      constructor
      · rintro (⟨j, j0, j1, e⟩ | e)
        · exact ⟨j, j0, by omega, e⟩
        · exact ⟨k, k0, by omega, e.symm⟩
      · rintro ⟨j, j0, j1, e⟩
        by_cases w : j = k
        · rw [w] at e; exact Or.inr e.symm
        · exact Or.inl ⟨j, j0, by omega, e⟩
  · refine upto (P := fun k => ∀ z, G_Mod_isOrder_4 0 L σ (fun z σ' => z = bI (isOrd n o) ∧ σ' = σ) NT o z k) (a := 0) (n := n) ?_ ?_ 0 (by omega) (by omega) 0
    · intro z
      exact r_Mod_isOrder_4 hY ⟨fun _ => ⟨fun _ => ⟨(bI_n fun w => ho w.1.1).symm, rfl⟩, fun g => absurd g ho⟩, fun g => absurd g (by omega)⟩
    · intro k k0 k1 ih z
      exact r_Mod_isOrder_4 hY ⟨fun g => absurd g (by omega), fun _ => ⟨by omega, by omega, ih _⟩⟩
theorem m_unpack (hY : Lay L) {o n x f : Int} {n2 : Nat} (hx : LkA L x 1 n2) (hx2 : x ≠ 102) (h0 : 0 ≤ o) (h32 : o < 2147483648) (hn : σ 102 1 = n) (h7 : 2 ≤ n ∧ n ≤ 7) (f0 : 0 ≤ f) (f1 : f + n ≤ n2) (f2 : f ≤ 1000) : Ex 0 y_Mod_unpack [vr 102, vi o, vr x, vi f] L σ (PV L (fun σ' => (∀ k, 0 ≤ k → k < n → σ' x (f + k) = dg o k) ∧ (∀ j, ¬ (f ≤ j ∧ j < f + n) → σ' x j = σ x j) ∧ ∀ k j, k ≠ x → σ' k j = σ k j) NT) := by
  refine e_Mod_unpack hY hx ?_
  refine upto (P := fun k => ∀ σ', (∀ j, 0 ≤ j → j < k → σ' x (f + j) = dg o j) → (∀ j, ¬ (f ≤ j ∧ j < f + n) → σ' x j = σ x j) → (∀ k j, k ≠ x → σ' k j = σ k j) → G_Mod_unpack_3 0 L σ' (fun σ' => (∀ k, 0 ≤ k → k < n → σ' x (f + k) = dg o k) ∧ (∀ j, ¬ (f ≤ j ∧ j < f + n) → σ' x j = σ x j) ∧ ∀ k j, k ≠ x → σ' k j = σ k j) NT x o f k) (a := 0) (n := n) ?_ ?_ 0 (by omega) (by omega) σ (fun j j0 j1 => absurd j1 (by omega)) (fun _ _ => rfl) (fun _ _ _ => rfl)
  · intro σ' a b c
    have e1 : σ' 102 1 = n := by rw [c _ _ (Ne.symm hx2)]; exact hn
    exact r_Mod_unpack_3 hY hx ⟨fun _ => ⟨a, b, c⟩, fun g => absurd g (by omega)⟩
  · intro k k0 k1 ih σ' a b c
    have e1 : σ' 102 1 = n := by rw [c _ _ (Ne.symm hx2)]; exact hn
    refine r_Mod_unpack_3 hY hx ⟨fun g => absurd g (by omega), fun _ => ⟨by omega, by omega, by omega, by omega, ih _ (fun j j0 j1 => ?_) (fun j hj => ?_) (fun i j hi => by rw [u_ne hi]; exact c i j hi)⟩⟩
    · rw [u_if, dg_eq h0 h32 k0 (by omega)]
      by_cases w : j = k
      · rw [if_pos (by omega), w]
      · rw [if_neg (by omega)]; exact a j j0 (by omega)
    · rw [u_ne2 (by omega)]; exact b j hj
theorem m_packed (hY : Lay L) {x f n : Int} {n1 : Nat} (hx : LkA L x 1 n1) (hn : σ 102 1 = n) (h7 : 2 ≤ n ∧ n ≤ 7) (f0 : 0 ≤ f) (f1 : f + n ≤ n1) (f2 : f ≤ 1000) {g : Int → Int} (hg : ∀ k, 0 ≤ k → k < n → σ x (f + k) = g k ∧ 0 ≤ g k ∧ g k < 8) : IsI 0 y_Mod_packed [vr 102, vr x, vi f] L σ (pk g n) := by
  have hb := pk_bd (f := g) (n := n) fun k k0 k1 => (hg k k0 k1).2
  refine e_Mod_packed hY hx ?_
  refine upto (P := fun k => G_Mod_packed_5 0 L σ (fun z σ' => z = pk g n ∧ σ' = σ) NT x f (pk g k) k) (a := 0) (n := n) ?_ ?_ 0 (by omega) (by omega)
  · exact r_Mod_packed_5 hY hx ⟨fun _ => ⟨rfl, rfl⟩, fun w => absurd w (by omega)⟩
  · intro k k0 k1 ih
    have h1 := hb k k0 (by omega)
    have h2 := hg k k0 k1
    have e : pk g (k + 1) = pk g k + g k * ((8 ^ k.toNat : Nat) : Int) := by
      unfold pk
      rw [S_s _ k0]
    rw [e] at ih
    refine r_Mod_packed_5 hY hx ⟨fun w => absurd w (by omega), fun _ => ⟨by omega, by omega, by omega, by omega, ?_⟩⟩
    rw [h2.1, or_top k0 (by omega) h1.1 h1.2 h2.2.1 h2.2.2]
    exact ih
theorem m_reset (hY : Lay L) {n : Int} (hn : σ 102 1 = n) (h7 : 2 ≤ n ∧ n ≤ 7) : Ex 0 y_Mod_reset [vr 102] L σ (PV L (fun σ' => σ' 102 2 = 0 ∧ (∀ k, 0 ≤ k → k < n → σ' 105 k = k ∧ σ' 106 k = k ∧ σ' 107 k = n - 1 - k) ∧ (∀ k j, ¬ (105 ≤ k ∧ k < 108) → ¬ (k = 102 ∧ j = 2) → σ' k j = σ k j)) NT) := by
  refine e_Mod_reset hY ?_
  refine upto (P := fun k => ∀ σ', σ' 102 2 = 0 → (∀ j, 0 ≤ j → j < k → σ' 105 j = j ∧ σ' 106 j = j ∧ (j < n → σ' 107 j = n - 1 - j)) → (∀ k j, ¬ (105 ≤ k ∧ k < 108) → ¬ (k = 102 ∧ j = 2) → σ' k j = σ k j) → G_Mod_reset_7 0 L σ' (fun σ' => σ' 102 2 = 0 ∧ (∀ k, 0 ≤ k → k < n → σ' 105 k = k ∧ σ' 106 k = k ∧ σ' 107 k = n - 1 - k) ∧ (∀ k j, ¬ (105 ≤ k ∧ k < 108) → ¬ (k = 102 ∧ j = 2) → σ' k j = σ k j)) NT k) (a := 0) (n := 7) ?_ ?_ 0 (by omega) (by omega) _ u_eq (fun j j0 j1 => absurd j1 (by omega)) (fun k j h1 h2 => ?_)
  · intro σ' a b c
    exact r_Mod_reset_7 hY ⟨fun _ => ⟨a, fun k k0 k1 => ⟨(b k k0 (by omega)).1, (b k k0 (by omega)).2.1, (b k k0 (by omega)).2.2 k1⟩, c⟩, fun g => absurd g (by omega)⟩
  · intro k k0 k1 ih σ' a b c
    have e1 : σ' 102 1 = n := by rw [c _ _ (by omega) (by omega)]; exact hn
    have put : ∀ v, (k < n → v = n - 1 - k) → G_Mod_reset_7 0 L (upd2 (upd2 (upd2 σ' 105 k k) 106 k k) 107 k v) (fun σ' => σ' 102 2 = 0 ∧ (∀ k, 0 ≤ k → k < n → σ' 105 k = k ∧ σ' 106 k = k ∧ σ' 107 k = n - 1 - k) ∧ (∀ k j, ¬ (105 ≤ k ∧ k < 108) → ¬ (k = 102 ∧ j = 2) → σ' k j = σ k j)) NT (k + 1) := by
      intro v hv
      refine ih _ (by rw [u_ne (by omega), u_ne (by omega), u_ne (by omega)]; exact a) (fun j j0 j1 => ?_) (fun i j h1 h2 => by rw [u_ne (by omega), u_ne (by omega), u_ne (by omega)]; exact c i j h1 h2)
      rw [u_ne (show (105 : Int) ≠ 107 by omega), u_ne (show (105 : Int) ≠ 106 by omega), u_if, u_ne (show (106 : Int) ≠ 107 by omega), u_if, u_ne (show (106 : Int) ≠ 105 by omega), u_if, u_ne (show (107 : Int) ≠ 106 by omega), u_ne (show (107 : Int) ≠ 105 by omega)]
      by_cases w : j = k
      · rw [if_pos w, if_pos w, if_pos w, w]; exact ⟨rfl, rfl, hv⟩
      · rw [if_neg w, if_neg w, if_neg w]; exact b j j0 (by omega)
    refine r_Mod_reset_7 hY ⟨fun g => absurd g (by omega), fun _ => ⟨by omega, by omega, ?_⟩⟩
    rw [u_ne (show (102 : Int) ≠ 106 by omega), u_ne (show (102 : Int) ≠ 105 by omega), e1]
    exact ⟨fun g => ⟨by omega, by omega, put 0 fun w => by omega⟩, fun g => ⟨by omega, by omega, by omega, by omega, put _ fun _ => rfl⟩⟩
  · by_cases e : k = 102
    · rw [e, u_ne2 (by omega)]
    · rw [u_ne e]
end
