/-! THE MODEL's LOCKS -/
theorem sh_cnt64 : ∀ n, n < 64 → (((Int32.ofInt (n : Nat)).toInt64 &&& 63).toBitVec.smod 64).toNat = n := by decide +kernel
theorem bvNat64 {x : Int} (h0 : 0 ≤ x) (h1 : x < 9223372036854775808) : (Int64.ofInt x).toBitVec.toNat = x.toNat := by
  obtain ⟨n, rfl⟩ := nat_of h0
  show (BitVec.ofInt 64 (n : Int)).toNat = _
  rw [BitVec.toNat_ofInt, Int.toNat_natCast]
  omega
theorem lbit {x k : Int} (h0 : 0 ≤ x) (h1 : x < 9223372036854775808) (k0 : 0 ≤ k) (k1 : k < 63) : aL (rL x k) 1 = bz x k := by
  obtain ⟨n, rfl⟩ := nat_of k0
  have e1 : rL x (n : Int) = x / ((2 ^ n : Nat) : Int) := by
    unfold rL
    show (Int64.ofInt x >>> ((Int32.ofInt (n : Int)).toInt64 &&& 63)).toBitVec.toInt = _
    rw [Int64.toBitVec_shiftRight]
    show (BitVec.sshiftRight (Int64.ofInt x).toBitVec (((Int32.ofInt (n : Int)).toInt64 &&& 63).toBitVec.smod 64).toNat).toInt = _
    rw [sh_cnt64 n (by omega), BitVec.toInt_sshiftRight]
    show (Int64.ofInt x).toInt >>> n = _
    rw [of64 ⟨by omega, h1⟩, Int.shiftRight_eq_div_pow]
  have hp : (0 : Int) < ((2 ^ n : Nat) : Int) := by
    have : 0 < 2 ^ n := Nat.pow_pos (by decide)
    omega
  have a := Int.ediv_nonneg h0 (Int.le_of_lt hp)
  have b := Int.ediv_le_self ((2 ^ n : Nat) : Int) h0
  rw [e1]
  unfold aL
  show (Int64.ofInt (x / ((2 ^ n : Nat) : Int)) &&& 1).toBitVec.toInt = _
  rw [Int64.toBitVec_and]
  have e : ((Int64.ofInt (x / ((2 ^ n : Nat) : Int))).toBitVec &&& (1 : Int64).toBitVec).toNat = x.toNat / 2 ^ n % 2 := by
    rw [BitVec.toNat_and, bvNat64 a (by omega)]
    have e2 : (1 : Int64).toBitVec.toNat = 1 := rfl
    rw [e2, show (x / ((2 ^ n : Nat) : Int)).toNat = x.toNat / 2 ^ n by
      obtain ⟨m, rfl⟩ := nat_of h0
      rw [← Int.natCast_ediv, Int.toNat_natCast, Int.toNat_natCast]]
    exact Nat.and_two_pow_sub_one_eq_mod _ 1
  show BitVec.toInt ((Int64.ofInt (x / ((2 ^ n : Nat) : Int))).toBitVec &&& (1 : Int64).toBitVec) = _
  rw [BitVec.toInt_eq_toNat_of_lt (by rw [e]; omega), e]
  unfold bz
  rw [Int.toNat_natCast, Nat.testBit_eq_decide_div_mod_eq]
  have hr : x.toNat / 2 ^ n % 2 < 2 := Nat.mod_lt _ (by decide)
  generalize x.toNat / 2 ^ n % 2 = r at hr
  rcases (show r = 0 ∨ r = 1 by omega) with rfl | rfl
  · rfl
  · rfl
theorem bk_l1 : ∀ k, k < 49 → hL 1 (k : Nat) = ((2 ^ k : Nat) : Int) := by decide +kernel
theorem lor_in {x k : Int} (h0 : 0 ≤ x) (h1 : x < 562949953421312) (k0 : 0 ≤ k) (k1 : k < 49) : 0 ≤ oL x (hL 1 k) ∧ oL x (hL 1 k) < 562949953421312 ∧ ∀ i, 0 ≤ i → (bz (oL x (hL 1 k)) i = 1 ↔ bz x i = 1 ∨ i = k) := by
  obtain ⟨n, rfl⟩ := nat_of k0
  obtain ⟨m, rfl⟩ := nat_of h0
  rw [bk_l1 n (by omega)]
  have hp : 2 ^ n < 2 ^ 49 := Nat.pow_lt_pow_right (by decide) (by omega)
  have hor : m ||| 2 ^ n < 2 ^ 49 := Nat.or_lt_two_pow (by omega) hp
  have e0 : oL (m : Int) ((2 ^ n : Nat) : Int) = ((m ||| 2 ^ n : Nat) : Int) := by
    unfold oL
    show (Int64.ofInt (m : Int) ||| Int64.ofInt ((2 ^ n : Nat) : Int)).toBitVec.toInt = _
    rw [Int64.toBitVec_or]
    generalize 2 ^ n = w at hp hor ⊢
    have e : ((Int64.ofInt (m : Int)).toBitVec ||| (Int64.ofInt (w : Int)).toBitVec).toNat = m ||| w := by
      rw [BitVec.toNat_or, bvNat64 (by omega) (by omega), bvNat64 (by omega) (by omega), Int.toNat_natCast, Int.toNat_natCast]
    rw [BitVec.toInt_eq_toNat_of_lt (by rw [e]; omega), e]
  rw [e0]
  refine ⟨by omega, by omega, fun i hi => ?_⟩
  obtain ⟨j, rfl⟩ := nat_of hi
  rw [bz_iff, bz_iff, Int.toNat_natCast, Int.toNat_natCast, Int.toNat_natCast, Nat.testBit_or, Nat.testBit_two_pow]
  simp only [Bool.or_eq_true, decide_eq_true_eq]
  constructor
  · rintro (h | h)
    · exact Or.inl h
    · exact Or.inr (by omega)
  · rintro (h | h)
    · exact Or.inl h
    · exact Or.inr (by omega)
theorem bk_q7 : ∀ p, p < 49 → qI (p : Nat) 7 = ((p / 7 : Nat) : Int) ∧ mI (p : Nat) 7 = ((p % 7 : Nat) : Int) := by decide +kernel
theorem q7 {p : Int} (p0 : 0 ≤ p) (p1 : p < 49) : qI p 7 = p / 7 ∧ mI p 7 = p % 7 := by
  obtain ⟨n, rfl⟩ := nat_of p0
  have := bk_q7 n (by omega)
  rw [this.1, this.2]
  omega
theorem S_lt {f g : Int → Int} {n t : Int} (t0 : 0 ≤ t) (t1 : t < n) (h : ∀ i, 0 ≤ i → i < n → f i ≤ g i) (hs : f t < g t) : S f n < S g n := by
  have : ∀ k, 0 ≤ k → k ≤ n → S f k + (if t < k then 1 else 0) ≤ S g k := by
    intro k hk
    refine upFrom (P := fun k => k ≤ n → S f k + (if t < k then 1 else 0) ≤ S g k) (a := 0) (fun _ => by rw [S_0, S_0, if_neg (by omega)]; omega) ?_ k hk
    intro k hk ih hk2
    have h1 := ih (by omega)
    have h2 := h k hk (by omega)
    rw [S_s f hk, S_s g hk]
    by_cases e : k = t
    · rw [e] at h1 h2 ⊢
      rw [if_neg (by omega)] at h1
      rw [if_pos (by omega)]
      omega
    · by_cases e2 : t < k
      · rw [if_pos e2] at h1
        rw [if_pos (by omega)]
        omega
      · rw [if_neg e2] at h1
        rw [if_neg (by omega)]
        omega
  have := this n (by omega) (Int.le_refl n)
  rw [if_pos t1] at this
  omega
section
variable {L : List Sh} {σ : Mm} {q : Pf}
/-- the locked pairs in the model's table -/
def lkE (q : Pf) (σ : Mm) (x y : Int) : Prop := (0 ≤ x ∧ x < qN q) ∧ (0 ≤ y ∧ y < qN q) ∧ σ 115 (7 * x + y) ≠ 0
theorem m_leads (hY : Lay L) (hq : okP q) (hC : isC σ q) {a b : Int} (ha : 0 ≤ a ∧ a < qN q) (hb : 0 ≤ b ∧ b < qN q) : IsI 0 y_Mod_leads [vr 102, vi a, vi b] L σ (bI (b = a ∨ rE (lkE q σ) a b)) := by
  have hn := hq.1
  refine e_Mod_leads hY ?_
  have h0 := isM.sing ha.1 ha.2 hn.2
  -- found: reached ones; after k rounds closed, or more than k
  refine upto (P := fun k => ∀ z f, isM z (qN q) f → f a → (∀ i, f i → i = a ∨ rE (lkE q σ) a i) → ((∀ x y, f x → lkE q σ x y → f y) ∨ k + 1 ≤ pc z) → G_Mod_leads_7 0 L σ (fun z σ' => z = bI (b = a ∨ rE (lkE q σ) a b) ∧ σ' = σ) NT b z k) (a := 0) (n := qN q) ?_ ?_ 0 (by omega) (by omega) (hI 1 a) (fun i => i = a) h0 rfl (fun i hi => Or.inl hi) (Or.inr (pc_pos hn.2 ⟨h0.1, h0.2.1, a, ha.1, ha.2, (h0.2.2 a ha.1 (by omega)).mpr ⟨ha.2, rfl⟩⟩))
  · intro z f hz hfa hs hcl
    have hcl2 : ∀ x y, f x → lkE q σ x y → f y := by
      rcases hcl with h | h
      · exact h
      · -- more than n are not in a set of n
        exfalso
        have h1 : pc z ≤ qN q := by
          unfold pc
          have e : ∀ k, 0 ≤ k → k ≤ 7 → S (bz z) k ≤ qN q ∧ S (bz z) k ≤ k := by
            intro k hk
            refine upFrom (P := fun k => k ≤ 7 → S (bz z) k ≤ qN q ∧ S (bz z) k ≤ k) (a := 0) (fun _ => by rw [S_0]; omega) ?_ k hk
            intro k hk ih hk2
            have h2 := ih (by omega)
            rw [S_s (bz z) hk]
            rcases bz01 z k with g | g
            · omega
            · have := ((hz.2.2 k hk (by omega)).mp g).1
              omega
          exact (e 7 (by omega) (by omega)).1
        omega
    have hbit := hz.bit hb.1 hb.2 hn.2
    have iff : f b ↔ (b = a ∨ rE (lkE q σ) a b) := by
      refine ⟨hs b, ?_⟩
      rintro (e | e)
      · rw [e]; exact hfa
      · exact e f (fun y hy => hcl2 a y hfa hy) (fun u y hu hy => hcl2 u y hu hy)
    refine r_Mod_leads_7 hY ⟨fun _ => ⟨fun g => ⟨(bI_n fun w => g (hbit.1.mpr (iff.mpr w))).symm, rfl⟩, fun g => ⟨(bI_p (iff.mp (hbit.1.mp g))).symm, rfl⟩⟩, fun g => absurd g (by rw [hC.1]; omega)⟩
  · intro k k0 k1 ihk z0 f0 hz0 hfa0 hs0 hcl0
    refine r_Mod_leads_7 hY ⟨fun g => absurd g (by rw [hC.1]; omega), fun _ => ?_⟩
    -- one round: found grows, or is closed
    refine upto (P := fun x => ∀ z f, isM z (qN q) f → f a → (∀ i, f i → i = a ∨ rE (lkE q σ) a i) → (∀ i, f0 i → f i) → (pc z0 < pc z ∨ (z = z0 ∧ ∀ u y, 0 ≤ u → u < x → f0 u → lkE q σ u y → f0 y)) → ((∀ u y, f0 u → lkE q σ u y → f0 y) → z = z0) → G_Mod_leads_19 0 L σ (fun z σ' => z = bI (b = a ∨ rE (lkE q σ) a b) ∧ σ' = σ) NT b z k x) (a := 0) (n := qN q) ?_ ?_ 0 (by omega) (by omega) z0 f0 hz0 hfa0 hs0 (fun _ h => h) (Or.inr ⟨rfl, fun u y u0 u1 => absurd u1 (by omega)⟩) (fun _ => rfl)
    · intro z f hz hfa hs hsub hgr hst
      refine r_Mod_leads_19 hY ⟨fun _ => ⟨by omega, ?_⟩, fun g => absurd g (by rw [hC.1]; omega)⟩
      rcases hgr with h | ⟨rfl, h⟩
      · refine ihk z f hz hfa hs (Or.inr ?_)
        rcases hcl0 with h2 | h2
        · have := hst h2
          rw [this] at h
          omega
        · omega
      · exact ihk z f0 hz0 hfa0 hs0 (Or.inl fun u y hu hy => h u y hy.1.1 hy.1.2 hu hy)
    · intro x x0 x1 ihx z f hz hfa hs hsub hgr hst
      refine r_Mod_leads_19 hY ⟨fun g => absurd g (by rw [hC.1]; omega), fun _ => ?_⟩
      refine upto (P := fun y => ∀ z f, isM z (qN q) f → f a → (∀ i, f i → i = a ∨ rE (lkE q σ) a i) → (∀ i, f0 i → f i) → (pc z0 < pc z ∨ (z = z0 ∧ ∀ u v, 0 ≤ u → (u < x ∨ u = x ∧ v < y) → f0 u → lkE q σ u v → f0 v)) → ((∀ u y, f0 u → lkE q σ u y → f0 y) → z = z0) → G_Mod_leads_31 0 L σ (fun z σ' => z = bI (b = a ∨ rE (lkE q σ) a b) ∧ σ' = σ) NT b z k x y) (a := 0) (n := qN q) ?_ ?_ 0 (by omega) (by omega) z f hz hfa hs hsub (hgr.elim Or.inl fun h => Or.inr ⟨h.1, fun u v u0 huv hu hv => h.2 u v u0 (by have := hv.2.1.1; omega) hu hv⟩) hst
      · intro z f hz hfa hs hsub hgr hst
        exact r_Mod_leads_31 hY ⟨fun _ => ⟨by omega, ihx z f hz hfa hs hsub (hgr.elim Or.inl fun h => Or.inr ⟨h.1, fun u v u0 u1 hu hv => h.2 u v u0 (by have := hv.2.1.2; omega) hu hv⟩) hst⟩, fun g => absurd g (by rw [hC.1]; omega)⟩
      · intro y y0 y1 ihy z f hz hfa hs hsub hgr hst
        have hbx := hz.bit x0 x1 hn.2
        have keep : ¬ (f x ∧ lkE q σ x y) → G_Mod_leads_31 0 L σ (fun z σ' => z = bI (b = a ∨ rE (lkE q σ) a b) ∧ σ' = σ) NT b z k x (y + 1) := by
          intro hno
          refine ihy z f hz hfa hs hsub (hgr.elim Or.inl fun h => Or.inr ⟨h.1, fun u v u0 huv hu hv => ?_⟩) hst
          by_cases e : u = x ∧ v = y
          · rw [e.1] at hu; rw [e.1, e.2] at hv
            exact absurd ⟨hsub x hu, hv⟩ hno
          · exact h.2 u v u0 (by omega) hu hv
        refine r_Mod_leads_31 hY ⟨fun g => absurd g (by rw [hC.1]; omega), fun _ => ⟨fun g => ⟨by omega, keep fun w => g (hbx.1.mpr w.1)⟩, fun g => ⟨by omega, by omega, by omega, fun g2 => ⟨by omega, keep fun w => w.2.2.2 g2⟩, fun g2 => ⟨by omega, ?_⟩⟩⟩⟩
        have hfx := hbx.1.mp g
        have hE : lkE q σ x y := ⟨⟨x0, x1⟩, ⟨y0, y1⟩, g2⟩
        have hz' : isM (oI z (hI 1 y)) (qN q) (fun i => f i ∨ i = y) := hz.ins y0 y1 (by omega) (fun i _ _ => Iff.rfl)
        have hs' : ∀ i, (f i ∨ i = y) → i = a ∨ rE (lkE q σ) a i := by
          rintro i (h | h)
          · exact hs i h
          · rw [h]
            rcases hs x hfx with e | e
            · rw [e] at hE; exact Or.inr (rE.one hE)
            · exact Or.inr (e.step hE)
        -- does it grow?
        by_cases hfy : f y
        · have ez : oI z (hI 1 y) = z := (hz'.ext fun i _ _ _ => ⟨fun h => h.elim id (fun h => by rw [h]; exact hfy), Or.inl⟩).uniq hz
          rw [ez]
          refine ihy z f hz hfa hs hsub (hgr.elim Or.inl fun h => Or.inr ⟨h.1, fun u v u0 huv hu hv => ?_⟩) hst
          by_cases e : u = x ∧ v = y
          · -- z = z0: f0 y
            rw [e.2]
            have e0 := h.1
            have := (hz0.2.2 y y0 (by omega))
            rw [← e0] at this
            exact (this.mp ((hz.2.2 y y0 (by omega)).mpr ⟨y1, hfy⟩)).2
          · exact h.2 u v u0 (by omega) hu hv
        · have hlt : pc z < pc (oI z (hI 1 y)) := by
            refine S_lt (t := y) y0 (show y < 7 by omega) (fun i i0 i7 => ?_) ?_
            · have e1 := hz.2.2 i i0 i7
              have e2 := hz'.2.2 i i0 i7
              rcases bz01 z i with w | w
              · rcases bz01 (oI z (hI 1 y)) i with v | v <;> omega
              · have := e2.mpr ⟨(e1.mp w).1, Or.inl (e1.mp w).2⟩
                omega
            · have e1 := hz.2.2 y y0 (by omega)
              have e2 := hz'.2.2 y y0 (by omega)
              have w1 := e2.mpr ⟨y1, Or.inr rfl⟩
              rcases bz01 z y with w | w
              · omega
              · exact absurd (e1.mp w).2 hfy
          refine ihy _ _ hz' (Or.inl hfa) hs' (fun i hi => Or.inl (hsub i hi)) (Or.inl ?_) (fun hc => ?_)
          · rcases hgr with h | h
            · omega
            · rw [← h.1]; omega
          · exfalso
            have ez := hst hc
            have same : ∀ i, 0 ≤ i → i < qN q → (f i ↔ f0 i) := fun i i0 i1 => by
              have e1 := hz.2.2 i i0 (by omega)
              have e2 := hz0.2.2 i i0 (by omega)
              rw [ez] at e1
              constructor
              · exact fun w => (e2.mp (e1.mpr ⟨i1, w⟩)).2
              · exact fun w => (e1.mp (e2.mpr ⟨i1, w⟩)).2
            exact hfy ((same y y0 y1).mpr (hc x y ((same x x0 x1).mp hfx) hE))
end
