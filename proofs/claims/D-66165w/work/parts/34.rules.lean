/-! WHAT THE RULES SAY -/
theorem isM.zero (f : Int → Prop) : isM 0 0 f := ⟨by omega, by omega, fun i i0 i7 => by
  constructor
  · intro h
    rw [bz_iff] at h
    simp at h
  · exact fun h => absurd h.1 (by omega)⟩
theorem isM.or {z c : Int} {f : Int → Prop} (h : isM z c f) (c0 : 0 ≤ c) (c7 : c < 7) (hf : f c) : isM (oI z (hI 1 c)) (c + 1) f := by
  have := or_in h.1 h.2.1 c0 c7
  refine ⟨this.1, this.2.1, fun i i0 i7 => ?_⟩
  rw [this.2.2 i i0, h.2.2 i i0 i7]
  constructor
  · rintro (q | q)
    · exact ⟨by omega, q.2⟩
    · rw [q]; exact ⟨by omega, hf⟩
  · intro q
    by_cases e : i = c
    · exact Or.inr e
    · exact Or.inl ⟨by omega, q.2⟩
theorem isM.skip {z c : Int} {f : Int → Prop} (h : isM z c f) (hf : ¬ f c) : isM z (c + 1) f := by
  refine ⟨h.1, h.2.1, fun i i0 i7 => ?_⟩
  rw [h.2.2 i i0 i7]
  constructor
  · exact fun q => ⟨by omega, q.2⟩
  · intro q
    by_cases e : i = c
    · rw [e] at q; exact absurd q.2 hf
    · exact ⟨by omega, q.2⟩
theorem or0 {c : Int} (c0 : 0 ≤ c) (c7 : c < 7) : oI 0 (hI 1 c) = hI 1 c := by
  obtain ⟨m, rfl⟩ := nat_of c0
  have := bk_or 0 (by omega) m (by omega)
  rw [Nat.zero_or] at this
  rw [← bk_one m (by omega)] at this
  exact this
theorem isM.one {c : Int} {f : Int → Prop} (c0 : 0 ≤ c) (c7 : c < 7) (hf : ∀ i, 0 ≤ i → i < c + 1 → (f i ↔ i = c)) : isM (hI 1 c) (c + 1) f := by
  have h : isM (oI 0 (hI 1 c)) (c + 1) (fun i => i = c) := isM.or (f := fun i => i = c) (z := 0) (by
    refine ⟨by omega, by omega, fun i i0 i7 => ?_⟩
    constructor
    · intro h
      rw [bz_iff] at h
      simp at h
    · exact fun h => absurd h.1 (by omega)) c0 c7 rfl
  rw [or0 c0 c7] at h
  exact h.ext fun i i0 i1 _ => (hf i i0 i1).symm
theorem hI_al {n : Int} (h : 0 ≤ n ∧ n ≤ 7) : hI 1 n - 1 < 128 ∧ 0 ≤ hI 1 n - 1 ∧ isM (hI 1 n - 1) n (fun _ => True) := by
  obtain ⟨m, rfl⟩ := nat_of h.1
  have hm : m ≤ 7 := by omega
  rw [bk_one m (by omega)]
  have key : ∀ m, m < 8 → ((2 ^ m - 1 : Nat) < 128 ∧ ∀ i, i < 7 → (2 ^ m - 1 : Nat).testBit i = decide (i < m)) := by decide +kernel
  have hk := key m (by omega)
  have hp : 0 < 2 ^ m := Nat.pow_pos (by decide)
  have e : ((2 ^ m : Nat) : Int) - 1 = ((2 ^ m - 1 : Nat) : Int) := by omega
  rw [e]
  refine ⟨by omega, by omega, by omega, by omega, fun i i0 i7 => ?_⟩
  obtain ⟨j, rfl⟩ := nat_of i0
  rw [bz_iff, Int.toNat_natCast, Int.toNat_natCast, hk.2 j (by omega)]
  simp
/-- all candidates -/
def alq (q : Pf) : Int := hI 1 (qN q) - 1
theorem al_is {q : Pf} (hq : okP q) : isM (alq q) (qN q) (fun _ => True) := (hI_al ⟨by have := hq.1; omega, hq.1.2⟩).2.2
theorem al_nz {q : Pf} (hq : okP q) : nz (alq q) (qN q) := ⟨(al_is hq).1, (al_is hq).2.1, 0, by omega, by have := hq.1; omega, ((al_is hq).2.2 0 (by omega) (by omega)).mpr ⟨by have := hq.1; omega, trivial⟩⟩
/-- scores -/
noncomputable def sc0 (q : Pf) (c : Int) : Int := fs q (alq q) c
noncomputable def sc1 (q : Pf) (c : Int) : Int := S (fun t => if qL q t (qN q - 1) = c then qA q t else 0) (qT q)
noncomputable def sc2 (q : Pf) (c : Int) : Int := S (fun t => qA q t * qW q (ps (qL q t) c)) (qT q)
noncomputable def md (q : Pf) (a : Int) : Nat → Int
  | 0 => 0
  | k + 1 => @ite _ (bts q k a ∧ md q a k < pr q k a) (Classical.propDecidable _) (pr q k a) (md q a k)
noncomputable def sc5 (q : Pf) (a : Int) : Int := md q a (qN q).toNat
noncomputable def w6 (q : Pf) (a b : Int) : Int := @ite _ (b = a) (Classical.propDecidable _) 0 (@ite _ (bts q a b) (Classical.propDecidable _) 2 (@ite _ (bts q b a) (Classical.propDecidable _) 0 1))
noncomputable def sc6 (q : Pf) (a : Int) : Int := S (w6 q a) (qN q)
def Wtop (s : Int → Int) (n c : Int) : Prop := ∀ b, 0 ≤ b → b < n → s b ≤ s c
def Wlow (s : Int → Int) (n c : Int) : Prop := ∀ b, 0 ≤ b → b < n → s c ≤ s b
theorem md_s (q : Pf) (a : Int) {k : Int} (h : 0 ≤ k) : md q a (k + 1).toNat = @ite _ (bts q k a ∧ md q a k.toNat < pr q k a) (Classical.propDecidable _) (pr q k a) (md q a k.toNat) := by
  rw [show (k + 1).toNat = k.toNat + 1 by omega]
  show @ite _ (bts q (k.toNat : Int) a ∧ md q a k.toNat < pr q (k.toNat : Int) a) (Classical.propDecidable _) (pr q (k.toNat : Int) a) (md q a k.toNat) = _
  rw [show (k.toNat : Int) = k by omega]
theorem md_bd {q : Pf} (hq : okP q) (a : Int) : ∀ k : Nat, 0 ≤ md q a k ∧ md q a k ≤ 2100021
  | 0 => by unfold md; omega
  | k + 1 => by
    have h1 := md_bd hq a k
    have h2 := pr_bd hq k a
    unfold md
    by_cases e : bts q k a ∧ md q a k < pr q k a
    · rw [if_pos e]; exact h2
    · rw [if_neg e]; exact h1
theorem sc1_bd {q : Pf} (h : okP q) (c : Int) : ∀ k, 0 ≤ k → k ≤ qT q → 0 ≤ S (fun t => if qL q t (qN q - 1) = c then qA q t else 0) k ∧ S (fun t => if qL q t (qN q - 1) = c then qA q t else 0) k ≤ 100001 * k := by
  refine S_bd fun i h0 h1 => ?_
  have := h.2.2.2.1 i h0 h1
  split <;> omega
theorem sc2_bd {q : Pf} (h : okP q) {c : Int} (hc : 0 ≤ c ∧ c < qN q) : (∀ t, 0 ≤ t → t < qT q → 0 ≤ qA q t * qW q (ps (qL q t) c) ∧ qA q t * qW q (ps (qL q t) c) ≤ 100001000) ∧ ∀ k, 0 ≤ k → k ≤ qT q → 0 ≤ S (fun t => qA q t * qW q (ps (qL q t) c)) k ∧ S (fun t => qA q t * qW q (ps (qL q t) c)) k ≤ 100001000 * k := by
  have key : ∀ t, 0 ≤ t → t < qT q → 0 ≤ qA q t * qW q (ps (qL q t) c) ∧ qA q t * qW q (ps (qL q t) c) ≤ 100001000 := by
    intro t t0 t1
    have h1 := h.2.2.2.1 t t0 t1
    have hs := ps_spec h.1.2 (h.2.2.1 t t0 t1) hc.1 hc.2
    have h2 := h.2.2.2.2.2.2 _ hs.1 hs.2.1
    refine ⟨Int.mul_nonneg h1.1 h2.1, ?_⟩
    have : qA q t * qW q (ps (qL q t) c) ≤ 100001 * 1000 := Int.mul_le_mul h1.2 h2.2 h2.1 (by omega)
    omega
  exact ⟨key, S_bd key⟩
theorem w6_in (q : Pf) (a b : Int) : 0 ≤ w6 q a b ∧ w6 q a b ≤ 2 := by
  unfold w6
  split
  · omega
  · split
    · omega
    · split <;> omega
theorem sc6_bd (q : Pf) (a : Int) : ∀ k, 0 ≤ k → 0 ≤ S (w6 q a) k ∧ S (w6 q a) k ≤ 2 * k := fun k hk => S_bd (n := k) (fun i _ _ => w6_in q a i) k hk (Int.le_refl k)
