/-! clones: runs of a set in an order -/
theorem bk_hi : ∀ n, n < 8 → ∀ i, i < 32 → (4294967296 - 2 ^ n : Nat).testBit i = decide (n ≤ i) := by decide +kernel
theorem bk_hm : ∀ n, n < 8 → (Int32.ofInt (xI ((2 ^ n : Nat) - 1 : Int) (-1))).toBitVec.toNat = 4294967296 - 2 ^ n := by decide +kernel
theorem and_hi {N n : Nat} (hN : N < 4294967296) (hn : n < 8) : N &&& (4294967296 - 2 ^ n) = 0 ↔ N < 2 ^ n := by
  constructor
  · intro h
    refine Classical.byContradiction fun hc => ?_
    obtain ⟨i, hi, ht⟩ := Nat.exists_ge_and_testBit_of_ge_two_pow (show N ≥ 2 ^ n by omega)
    have hi32 : i < 32 := by
      refine Classical.byContradiction fun h32 => ?_
      have := Nat.testBit_lt_two_pow (Nat.lt_of_lt_of_le (show N < 2 ^ 32 from hN) (Nat.pow_le_pow_right (by decide) (show 32 ≤ i by omega)))
      rw [this] at ht
      cases ht
    have hb := bk_hi n hn i hi32
    have h2 : (N &&& (4294967296 - 2 ^ n)).testBit i = true := by rw [Nat.testBit_and, ht, hb]; simp [hi]
    rw [h, Nat.zero_testBit] at h2
    cases h2
  · intro h
    apply Nat.eq_of_testBit_eq
    intro i
    rw [Nat.testBit_and, Nat.zero_testBit]
    by_cases hi : i < n
    · rw [bk_hi n hn i (by omega), decide_eq_false (show ¬ n ≤ i by omega), Bool.and_false]
    · rw [Nat.testBit_lt_two_pow (Nat.lt_of_lt_of_le h (Nat.pow_le_pow_right (by decide) (by omega))), Bool.false_and]
theorem clr_big {x n : Int} (h : in32 x) (n0 : 0 ≤ n) (n7 : n ≤ 7) : aI x (xI (hI 1 n - 1) (-1)) = 0 ↔ 0 ≤ x ∧ x < hI 1 n := by
  obtain ⟨m, rfl⟩ := nat_of n0
  rw [one_eq (by omega) (by omega), Int.toNat_natCast]
  have hp : 2 ^ m ≤ 128 := Nat.pow_le_pow_right (by decide) (show m ≤ 7 by omega)
  have hp0 : 0 < 2 ^ m := Nat.pow_pos (by decide)
  unfold aI
  show BitVec.toInt ((Int32.ofInt x).toBitVec &&& (Int32.ofInt (xI ((2 ^ m : Nat) - 1 : Int) (-1))).toBitVec) = 0 ↔ _
  have e1 : (Int32.ofInt x).toBitVec.toNat = (x % 4294967296).toNat := by
    show (BitVec.ofInt 32 x).toNat = _
    rw [BitVec.toNat_ofInt]
    rfl
  have e2 : ((Int32.ofInt x).toBitVec &&& (Int32.ofInt (xI ((2 ^ m : Nat) - 1 : Int) (-1))).toBitVec).toNat = (x % 4294967296).toNat &&& (4294967296 - 2 ^ m) := by
    rw [BitVec.toNat_and, e1, bk_hm m (by omega)]
  have e3 := and_hi (N := (x % 4294967296).toNat) (n := m) (by omega) (by omega)
  have e4 := ((Int32.ofInt x).toBitVec &&& (Int32.ofInt (xI ((2 ^ m : Nat) - 1 : Int) (-1))).toBitVec).isLt
  rw [BitVec.toInt_eq_toNat_cond]
  rw [e2] at e4 ⊢
  have h1 := h.1
  have h2 := h.2
  generalize (x % 4294967296).toNat &&& (4294967296 - 2 ^ m) = y at e3 e4
  constructor
  · intro g
    have : y = 0 := by split at g <;> omega
    have := e3.mp this
    omega
  · intro g
    have : y = 0 := e3.mpr (by omega)
    rw [this]
    rfl
def runs (z : Int) (f : Int → Int) (k : Int) : Int := S (fun i => if bz z (f i) = 1 ∧ ¬ (0 < i ∧ bz z (f (i - 1)) = 1) then 1 else 0) k
theorem runs_s {z : Int} {f : Int → Int} {k : Int} (h : 0 ≤ k) : runs z f (k + 1) = runs z f k + if bz z (f k) = 1 ∧ ¬ (0 < k ∧ bz z (f (k - 1)) = 1) then 1 else 0 := S_s _ h
theorem runs_bd {z : Int} {f : Int → Int} {k : Int} (h : 0 ≤ k) : 0 ≤ runs z f k ∧ runs z f k ≤ k := by
  have := S_bd (f := fun i => if bz z (f i) = 1 ∧ ¬ (0 < i ∧ bz z (f (i - 1)) = 1) then 1 else 0) (n := k) (B := 1) (fun i _ _ => by split <;> omega) k h (Int.le_refl k)
  unfold runs
  omega
theorem runs_pos {z n : Int} {f : Int → Int} (hn : n ≤ 7) (h : Pm n f) (hz : nz z n) : 1 ≤ runs z f n := by
  obtain ⟨a, b, c, d⟩ := fz_ok hn h hz
  have key : ∀ k, fz f z + 1 ≤ k → 1 ≤ runs z f k := by
    refine upFrom (P := fun k => 1 ≤ runs z f k) (a := fz f z + 1) ?_ ?_
    · have h0 := runs_bd (z := z) (f := f) a
      rw [runs_s a, if_pos ⟨c, fun g => d _ (by omega) (by omega) g.2⟩]
      omega
    · intro k hk ih
      rw [runs_s (by omega)]
      split <;> omega
  exact key n (by omega)
def cloneP (q : Pf) (z : Int) (T : Int) : Prop := ∀ t, 0 ≤ t → t < T → qA q t ≠ 0 → runs z (qL q t) (qN q) ≤ 1
theorem cloneP.s {q : Pf} {z T : Int} (h0 : 0 ≤ T) : cloneP q z (T + 1) ↔ cloneP q z T ∧ (qA q T ≠ 0 → runs z (qL q T) (qN q) ≤ 1) := by
  constructor
  · exact fun h => ⟨fun t a b => h t a (by omega), h T h0 (by omega)⟩
  · intro h t a b
    by_cases e : t = T
    · rw [e]; exact h.2
    · exact h.1 t a (by omega)
def goodS (n z : Int) : Prop := (0 < z ∧ z < hI 1 n) ∧ aI z (z - 1) ≠ 0
theorem goodS_nz {n z : Int} (h : goodS n z) (n0 : 0 ≤ n) (n7 : n ≤ 7) : nz z n := by
  obtain ⟨m, rfl⟩ := nat_of n0
  have h1 := h.1.2
  have h0 := h.1.1
  rw [one_eq (by omega) (by omega), Int.toNat_natCast] at h1
  have hp : 2 ^ m ≤ 128 := Nat.pow_le_pow_right (by decide) (show m ≤ 7 by omega)
  obtain ⟨i, -, ht⟩ := Nat.exists_ge_and_testBit_of_ge_two_pow (n := 0) (x := z.toNat) (show 1 ≤ z.toNat by omega)
  refine ⟨by omega, by omega, i, by omega, ?_, ?_⟩
  · refine Classical.byContradiction fun hc => ?_
    have := Nat.ge_two_pow_of_testBit ht
    have : 2 ^ m ≤ 2 ^ i := Nat.pow_le_pow_right (by decide) (by omega)
    omega
  · rw [bz_iff, Int.toNat_natCast]; exact ht
def spClo (s : St) (z₀ : Int) : Sp := fun k z s' => (goodS (qN s.1) z₀ ∧ k = 0 ∧ z = bI (cloneP s.1 z₀ (qT s.1)) ∧ s' = s) ∨ (¬ goodS (qN s.1) z₀ ∧ k = 1 ∧ s' = s)
section
variable {L : List Sh} {σ : Mm} {s : St} {q : Pf}
theorem d_clones (hY : Lay L) (hD : DI σ s) {z₀ : Int} (h32 : in32 z₀) : DOp y_Desk_clones [vr 0, vi z₀] L σ (spClo s z₀) (fun _ => 1) := by
  refine Ex.deep (d := 7) ?_ (by omega)
  have hn := hD.1.1.1
  have hT := hD.1.1.2.1
  have hP := hD.2.1
  have go : ∀ x : Int, (x ≠ 0 ↔ goodS (qN s.1) z₀) → G_Desk_clones_29 6 L σ (fun z σ' => ∃ s', spClo s z₀ 0 z s' ∧ DI σ' s' ∧ FD σ σ') (fun c σ' => ∃ s', spClo s z₀ ((fun _ => 1) c) 0 s' ∧ DI σ' s' ∧ FD σ σ' ∧ 1 ≤ (fun _ => (1 : Int)) c) z₀ x := by
    intro x hx
    refine r_Desk_clones_29 hY ((c_allow hY).to (by omega) (fun w => ?_) (fun w => ⟨s, Or.inr ⟨fun g => w (hx.mpr g), rfl, rfl⟩, hD, FD.refl σ, by decide⟩))
    have hg := hx.mp w
    have hz := goodS_nz hg (show 0 ≤ qN s.1 by omega) hn.2
    refine upto (P := fun t => cloneP s.1 z₀ t → G_Desk_clones_34 6 L σ (fun z σ' => ∃ s', spClo s z₀ 0 z s' ∧ DI σ' s' ∧ FD σ σ') (fun c σ' => ∃ s', spClo s z₀ ((fun _ => 1) c) 0 s' ∧ DI σ' s' ∧ FD σ σ' ∧ 1 ≤ (fun _ => (1 : Int)) c) z₀ t) (a := 0) (n := qT s.1) ?_ ?_ 0 (by omega) (by omega) (fun t a b => absurd b (by omega))
    · intro h
      exact r_Desk_clones_34 hY ⟨fun _ => ⟨s, Or.inl ⟨hg, rfl, (bI_p h).symm, rfl⟩, hD, FD.refl σ⟩, fun g => absurd g (by rw [hP.2.1]; omega)⟩
    · intro t t0 t1 ih h
      have hm := hD.1.1.2.2.1 t t0 t1
      refine r_Desk_clones_34 hY ⟨fun g => absurd g (by rw [hP.2.1]; omega), fun _ => ⟨by omega, ?_⟩⟩
      rw [hP.2.2.2.1 t t0 t1]
      refine ⟨fun ha => ?_, fun ha => ⟨by omega, ih ((cloneP.s t0).mpr ⟨h, fun g => absurd ha g⟩)⟩⟩
      refine upto (P := fun k => ∀ x, x = (if 0 < k ∧ bz z₀ (qL s.1 t (k - 1)) = 1 then 1 else 0) → G_Desk_clones_63 6 L σ (fun z σ' => ∃ s', spClo s z₀ 0 z s' ∧ DI σ' s' ∧ FD σ σ') (fun c σ' => ∃ s', spClo s z₀ ((fun _ => 1) c) 0 s' ∧ DI σ' s' ∧ FD σ σ' ∧ 1 ≤ (fun _ => (1 : Int)) c) z₀ t (runs z₀ (qL s.1 t) k) x k) (a := 0) (n := qN s.1) ?_ ?_ 0 (by omega) (by omega) 0 (by rw [if_neg (by omega)])
      · intro x _
        refine r_Desk_clones_63 hY ⟨fun _ => ⟨fun g => ⟨by omega, ih ((cloneP.s t0).mpr ⟨h, fun _ => g⟩)⟩, fun g => ⟨s, Or.inl ⟨hg, rfl, (bI_n fun v => ?_).symm, rfl⟩, hD, FD.refl σ⟩⟩, fun g => absurd g (by rw [hP.1]; omega)⟩
        have := v t t0 t1 ha
        omega
      · intro k k0 k1 ihk x hx
        have hr := hm.1 k k0 k1
        have hb := runs_bd (z := z₀) (f := qL s.1 t) k0
        refine r_Desk_clones_63 hY ⟨fun g => absurd g (by rw [hP.1]; omega), fun _ => ⟨by omega, by omega, ?_⟩⟩
        rw [hP.2.2.1 t k t0 t1 k0 k1, bit_eq hz.1 hz.2.1 hr.1 (by omega)]
        rw [show k + 1 - 1 = k by omega] at ihk
        refine ⟨fun g => ?_, fun g => ?_⟩
        · have i0 := ihk 0 (by rw [if_neg fun v => g v.2])
          rw [runs_s k0, if_neg (fun v => g v.1), Int.add_zero] at i0
          exact r_Desk_clones_94 hY ⟨fun _ => ⟨by omega, i0⟩, fun v => absurd rfl v⟩
        · have i1 := ihk 1 (by rw [if_pos ⟨by omega, g⟩])
          rw [runs_s k0] at i1
          refine r_Desk_clones_94 hY ⟨fun v => absurd v (by decide), fun _ => ⟨fun v => ⟨by omega, ?_⟩, fun v => ⟨by omega, by omega, ?_⟩⟩⟩
          · have hc : 0 < k ∧ bz z₀ (qL s.1 t (k - 1)) = 1 := Classical.byContradiction fun c => v (by rw [hx, if_neg c])
            rw [if_neg (fun u => u.2 hc), Int.add_zero] at i1
            exact i1
          · have hc : ¬ (0 < k ∧ bz z₀ (qL s.1 t (k - 1)) = 1) := fun c => by rw [hx, if_pos c] at v; exact absurd v (by decide)
            rw [if_pos ⟨g, hc⟩] at i1
            exact i1
  refine e_Desk_clones hY ((c_all hY pr30 hD.1.1 hP).to (by omega) ?_)
  have key := clr_big h32 (show 0 ≤ qN s.1 by omega) hn.2
  have hp : hI 1 (qN s.1) ≤ 128 := by
    rw [one_eq (by omega) (by omega)]
    have : 2 ^ (qN s.1).toNat ≤ 2 ^ 7 := Nat.pow_le_pow_right (by decide) (by omega)
    omega
  refine ⟨fun h => go 0 ⟨fun w => absurd rfl w, fun w => absurd (key.mpr ⟨by have := w.1.1; omega, w.1.2⟩) h⟩, fun h => ?_⟩
  have hk := key.mp h
  refine ⟨by omega, fun h2 => go 0 ⟨fun w => absurd rfl w, fun w => absurd h2 w.2⟩, fun h2 => go 1 ⟨fun _ => ⟨⟨?_, hk.2⟩, h2⟩, fun _ => by decide⟩⟩
  refine Classical.byContradiction fun c => h2 ?_
  have : z₀ = 0 := by omega
  rw [this]
  decide
theorem m_single (hY : Lay L) {z₀ : Int} (h : -2147483648 ≤ z₀ - 1 ∧ z₀ - 1 < 2147483648) : IsI 0 y_Mod_single [vi z₀] L σ (bI (aI z₀ (z₀ - 1) = 0)) := e_Mod_single hY ⟨h, fun g => ⟨(bI_n g).symm, rfl⟩, fun g => ⟨(bI_p g).symm, rfl⟩⟩
theorem mo_clones (hY : Lay L) (hq : okB s.1) (hB : MB σ s) {z₀ : Int} : MOp y_Mod_clones [vr 102, vi z₀] L σ (spClo s z₀) := by
  refine Ex.deep (d := 1) ?_ (by omega)
  have hn := hq.1.1
  have hT := hq.1.2.1
  have hT2 := hq.2.1
  have go : ∀ x : Int, (x ≠ 0 ↔ goodS (qN s.1) z₀) → G_Mod_clones_27 0 L σ (fun z σ' => ∃ k s', spClo s z₀ k z s' ∧ σ' 102 0 = k ∧ MB σ' s' ∧ FM σ σ') NT z₀ x := by
    intro x hx
    refine r_Mod_clones_27 hY (m_gate hY hB rfl (fun h1 h2 σ' hB' hf h0 _ => ⟨fun _ => ?_, fun w => absurd w (by decide)⟩) (fun h1 σ' hB' hf h0 => ⟨fun w => absurd rfl w, fun _ => ⟨1, s, Or.inr ⟨fun w => (hx.mpr w) h1, rfl, rfl⟩, h0, hB', hf.fm⟩⟩) (fun _ w => absurd w (by decide)))
    have hg := hx.mp h1
    have hz := goodS_nz hg (show 0 ≤ qN s.1 by omega) hn.2
    have hB'' := hB'
    obtain ⟨b1, b2, b3, b4, -⟩ := hB''
    refine upto (P := fun t => ∀ x, x = bI (cloneP s.1 z₀ t) → G_Mod_clones_40 0 L σ' (fun z σ' => ∃ k s', spClo s z₀ k z s' ∧ σ' 102 0 = k ∧ MB σ' s' ∧ FM σ σ') NT z₀ x t) (a := 0) (n := qT s.1) ?_ ?_ 0 (by omega) (by omega) 1 (bI_p fun t a b => absurd b (by omega)).symm
    · intro x hx
      exact r_Mod_clones_40 hY ⟨fun _ => ⟨by rw [hx]; exact bI01 _, 0, s, Or.inl ⟨hg, rfl, hx, rfl⟩, h0, hB', hf.fm⟩, fun g => absurd g (by omega)⟩
    · intro t t0 t1 ih x hx
      have hm := hq.1.2.2.1 t t0 t1
      refine r_Mod_clones_40 hY ⟨fun g => absurd g (by omega), fun _ => ?_⟩
      refine upto (P := fun k => G_Mod_clones_54 0 L σ' (fun z σ' => ∃ k s', spClo s z₀ k z s' ∧ σ' 102 0 = k ∧ MB σ' s' ∧ FM σ σ') NT z₀ x t (runs z₀ (qL s.1 t) k) k) (a := 0) (n := qN s.1) ?_ ?_ 0 (by omega) (by omega)
      · have hr := runs_pos hn.2 hm hz
        refine r_Mod_clones_54 hY ⟨fun _ => ?_, fun g => absurd g (by omega)⟩
        rw [b4 t t0 t1]
        refine ⟨fun e => ⟨by omega, ih 0 (bI_n fun v => ?_).symm⟩, fun e => ⟨by omega, fun g => ⟨by omega, ih 1 (bI_p ?_).symm⟩, fun g => ⟨fun g2 => ⟨by omega, ih 0 (bI_n fun v => ?_).symm⟩, fun g2 => ⟨by omega, ih 1 (bI_p ?_).symm⟩⟩⟩⟩
        · rw [hx] at e
          exact bI_f e ((cloneP.s t0).mp v).1
        · rw [hx] at e
          exact (cloneP.s t0).mpr ⟨bI_t e, fun w => absurd g w⟩
        · have := ((cloneP.s t0).mp v).2 g
          omega
        · rw [hx] at e
          exact (cloneP.s t0).mpr ⟨bI_t e, fun _ => by omega⟩
      · intro k k0 k1 ihk
        have hr := hm.1 k k0 k1
        have hb := runs_bd (z := z₀) (f := qL s.1 t) k0
        refine r_Mod_clones_54 hY ⟨fun g => absurd g (by omega), fun _ => ⟨by omega, by omega, by omega, ?_⟩⟩
        rw [b3 t k t0 t1 k0 k1, bit_eq hz.1 hz.2.1 hr.1 (by omega)]
        rw [runs_s k0] at ihk
        have nx : ∀ x6 x7, (x6 ≠ 0 ↔ bz z₀ (qL s.1 t k) = 1) → (x7 ≠ 0 ↔ (0 < k ∧ bz z₀ (qL s.1 t (k - 1)) = 1)) → G_Mod_clones_122 0 L σ' (fun z σ' => ∃ k s', spClo s z₀ k z s' ∧ σ' 102 0 = k ∧ MB σ' s' ∧ FM σ σ') NT z₀ x t (runs z₀ (qL s.1 t) k) k x6 x7 := by
          intro x6 x7 h6 h7
          refine r_Mod_clones_122 hY ⟨fun e => ⟨by omega, ?_⟩, fun e => ⟨fun e2 => ⟨by omega, ?_⟩, fun e2 => ⟨by omega, by omega, ?_⟩⟩⟩
          · rw [if_neg (fun v => h6.mpr v.1 e), Int.add_zero] at ihk
            exact ihk
          · rw [if_neg (fun v => v.2 (h7.mp e2)), Int.add_zero] at ihk
            exact ihk
          · rw [if_pos ⟨h6.mp e, fun v => h7.mpr v e2⟩] at ihk
            exact ihk
        have mid : ∀ x6, (x6 ≠ 0 ↔ bz z₀ (qL s.1 t k) = 1) → G_Mod_clones_88 0 L σ' (fun z σ' => ∃ k s', spClo s z₀ k z s' ∧ σ' 102 0 = k ∧ MB σ' s' ∧ FM σ σ') NT z₀ x t (runs z₀ (qL s.1 t) k) k x6 := by
          intro x6 h6
          refine r_Mod_clones_88 hY ⟨fun g => nx x6 0 h6 ⟨fun v => absurd rfl v, fun v => absurd v.1 (by omega)⟩, fun g => ⟨by omega, by omega, by omega, by omega, ?_⟩⟩
          have hr2 := hm.1 (k - 1) (by omega) (by omega)
          rw [show 7 * t + k - 1 = 7 * t + (k - 1) by omega, b3 t (k - 1) t0 t1 (by omega) (by omega), bit_eq hz.1 hz.2.1 hr2.1 (by omega)]
          exact ⟨fun g2 => nx x6 0 h6 ⟨fun v => absurd rfl v, fun v => absurd v.2 g2⟩, fun g2 => nx x6 1 h6 ⟨fun _ => ⟨g, g2⟩, fun _ => by decide⟩⟩
        exact ⟨fun g => mid 0 ⟨fun v => absurd rfl v, fun v => absurd v g⟩, fun g => mid 1 ⟨fun _ => g, fun _ => by decide⟩⟩
  refine e_Mod_clones hY ?_
  rw [hB.1]
  have hp : hI 1 (qN s.1) ≤ 128 := by
    rw [one_eq (by omega) (by omega)]
    have : 2 ^ (qN s.1).toNat ≤ 2 ^ 7 := Nat.pow_le_pow_right (by decide) (by omega)
    omega
  refine ⟨fun h => go 0 ⟨fun w => absurd rfl w, fun w => absurd w.1.1 (by omega)⟩, fun h => ⟨fun h2 => go 0 ⟨fun w => absurd rfl w, fun w => absurd w.1.2 (by omega)⟩, fun h2 => ?_⟩⟩
  exact (m_single hY (by omega)).to (by omega) ⟨fun g => go 0 ⟨fun w => absurd rfl w, fun w => absurd (bI_t g) w.2⟩, fun g => go 1 ⟨fun _ => ⟨⟨h, h2⟩, bI_f g⟩, fun _ => by decide⟩⟩
end
