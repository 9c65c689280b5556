/-! AGREEMENT, plainly -/
/-- a set without one -/
def cl (z c : Int) : Int := aI z (xI (hI 1 c) (-1))
theorem cl_lt' {z c : Int} (h0 : 0 ≤ z) (h1 : z < 128) (c0 : 0 ≤ c) (c1 : c < 7) (hc : bz z c = 1) : 0 ≤ cl z c ∧ cl z c < z := by
  have hb := clr_in h0 h1 c0 c1
  refine ⟨hb.1, ?_⟩
  have hle : cl z c ≤ z := by
    unfold cl
    obtain ⟨n, rfl⟩ := nat_of h0
    obtain ⟨m, rfl⟩ := nat_of c0
    rw [bk_clr n (by omega) m (by omega)]
    have hle : n &&& (127 - 2 ^ m) ≤ n := Nat.and_le_left
    omega
  have hne : cl z c ≠ z := fun e => by
    have := (hb.2.2 c c0).mp (by show bz (cl z c) c = 1; rw [e]; exact hc)
    exact this.2 rfl
  omega
theorem alq_pow {q : Pf} (hq : okP q) : (alq q).toNat + 1 = 2 ^ (qN q).toNat := by
  have hn := hq.1
  have h := al_is hq
  unfold alq at h ⊢
  rw [one_eq (by omega) (by omega)] at h ⊢
  have hp : 0 < 2 ^ (qN q).toNat := Nat.pow_pos (by decide)
  omega
theorem sub_le {q : Pf} (hq : okP q) {z : Int} (h : sub z (qN q)) : z ≤ alq q := by
  have hn := hq.1
  have e := alq_pow hq
  have h0 := (al_is hq).1
  have : z.toNat < 2 ^ (qN q).toNat := by
    apply Nat.lt_pow_two_of_testBit
    intro i hi
    by_cases h7 : i < 7
    · cases g : z.toNat.testBit i with
      | false => rfl
      | true =>
        have := h.2.2 i (by omega) (by omega) (by rw [bz_iff, Int.toNat_natCast]; exact g)
        omega
    · have := bz_big h.1 h.2.1 (show 7 ≤ (i : Int) by omega)
      unfold bz at this
      rw [Int.toNat_natCast] at this
      cases g : z.toNat.testBit i with
      | false => rfl
      | true => rw [g] at this; simp at this
  have := h.1
  omega
theorem le_sub {q : Pf} (hq : okP q) {z : Int} (z0 : 0 ≤ z) (h : z ≤ alq q) : sub z (qN q) := by
  have hn := hq.1
  have e := alq_pow hq
  have ha := al_is hq
  have h1 := ha.2.1
  refine ⟨z0, by omega, fun i i0 i7 hi => ?_⟩
  rw [bz_iff] at hi
  by_cases g : i < qN q
  · exact g
  · have hp : (2 : Nat) ^ (qN q).toNat ≤ 2 ^ i.toNat := Nat.pow_le_pow_right (by decide) (by omega)
    rw [Nat.testBit_lt_two_pow (Nat.lt_of_lt_of_le (show z.toNat < 2 ^ (qN q).toNat by omega) hp)] at hi
    cases hi
/-- what it costs to have f ahead of a set -/
noncomputable def cst (q : Pf) (f r : Int) : Int := S (fun c => if bz r c = 1 then pr q c f else 0) (qN q)
theorem co_bd {q : Pf} (hq : okP q) (f r : Int) : ∀ k, 0 ≤ k → k ≤ qN q → 0 ≤ S (fun c => if bz r c = 1 then pr q c f else 0) k ∧ S (fun c => if bz r c = 1 then pr q c f else 0) k ≤ 2100021 * k := by
  refine S_bd fun i h0 h1 => ?_
  have := pr_bd hq i f
  split <;> omega
theorem co_bd' {q : Pf} (hq : okP q) (f r : Int) : 0 ≤ cst q f r ∧ cst q f r ≤ 14700147 := by
  have hn := hq.1
  have := co_bd hq f r (qN q) (by omega) (Int.le_refl _)
  unfold cst
  omega
/-- the least disagreements of the sets below N -/
def isL (q : Pf) (f : Int → Int) (N : Int) : Prop := f 0 = 0 ∧ ∀ z, 0 < z → z < N → sub z (qN q) → (∀ c, 0 ≤ c → c < qN q → bz z c = 1 → f z ≤ cst q c (cl z c) + f (cl z c)) ∧ (∃ c, 0 ≤ c ∧ c < qN q ∧ bz z c = 1 ∧ f z = cst q c (cl z c) + f (cl z c)) ∧ 0 ≤ f z ∧ f z ≤ 14700147 * pc z
theorem pc_0 : pc 0 = 0 := by decide +kernel
theorem isL.bd {q : Pf} {f : Int → Int} {N z : Int} (h : isL q f N) (z0 : 0 ≤ z) (zN : z < N) (hz : sub z (qN q)) : 0 ≤ f z ∧ f z ≤ 14700147 * pc z := by
  by_cases e : z = 0
  · rw [e, h.1, pc_0]; omega
  · exact (h.2 z (by omega) zN hz).2.2
theorem isL.uniq {q : Pf} (hq : okP q) {f g : Int → Int} {N : Int} (h : isL q f N) (k : isL q g N) : ∀ z, 0 ≤ z → z < N → sub z (qN q) → f z = g z := by
  have hn := hq.1
  have key : ∀ (m : Nat) (z : Int), 0 ≤ z → z ≤ m → z < N → sub z (qN q) → f z = g z := by
    intro m
    induction m with
    | zero => intro z z0 z1 _ _; rw [show z = 0 by omega, h.1, k.1]
    | succ m ih =>
      intro z z0 z1 zN hz
      by_cases e : z = 0
      · rw [e, h.1, k.1]
      · obtain ⟨a1, ⟨c, c0, c1, hc, ec⟩, -⟩ := h.2 z (by omega) zN hz
        obtain ⟨b1, ⟨d, d0, d1, hd, edd⟩, -⟩ := k.2 z (by omega) zN hz
        have hcl := cl_lt' z0 hz.2.1 c0 (by omega) hc
        have hdl := cl_lt' z0 hz.2.1 d0 (by omega) hd
        have i1 := ih (cl z c) hcl.1 (by omega) (by omega) (clr_sub hz c0 (by omega))
        have i2 := ih (cl z d) hdl.1 (by omega) (by omega) (clr_sub hz d0 (by omega))
        have e1 := a1 d d0 d1 hd
        have e2 := b1 c c0 c1 hc
        omega
  intro z z0 zN hz
  exact key z.toNat z z0 (by omega) zN hz
def W9 (q : Pf) (c : Int) : Prop := ∃ f, isL q f 128 ∧ cst q c (cl (alq q) c) + f (cl (alq q) c) = f (alq q)
theorem W9_iff {q : Pf} (hq : okP q) {f : Int → Int} (h : isL q f 128) {c : Int} (c0 : 0 ≤ c) (c1 : c < qN q) : W9 q c ↔ cst q c (cl (alq q) c) + f (cl (alq q) c) = f (alq q) := by
  have hn := hq.1
  constructor
  · rintro ⟨g, hg, e⟩
    have ha := al_sub hq
    have hs : sub (cl (alq q) c) (qN q) := clr_sub ha c0 (show c < 7 by omega)
    rw [h.uniq hq hg _ hs.1 hs.2.1 hs, h.uniq hq hg _ ha.1 ha.2.1 ha]
    exact e
  · exact fun e => ⟨f, h, e⟩
theorem W9_ex {q : Pf} (hq : okP q) {f : Int → Int} (h : isL q f 128) : ∃ c, 0 ≤ c ∧ c < qN q ∧ W9 q c := by
  have ha := al_sub hq
  obtain ⟨-, ⟨c, c0, c1, hc, e⟩, -⟩ := h.2 (alq q) (pos_of (al_nz hq)) ha.2.1 ha
  exact ⟨c, c0, c1, (W9_iff hq h c0 c1).mpr e.symm⟩
