/-! ORDERS, one after the other -/
/-- first by its places -/
def lx (n : Int) (f g : Int → Int) : Prop := ∃ p, (0 ≤ p ∧ p < n) ∧ (∀ i, 0 ≤ i → i < p → f i = g i) ∧ f p < g p
def eqn (n : Int) (f g : Int → Int) : Prop := ∀ i, 0 ≤ i → i < n → f i = g i
theorem first_ne {f g : Int → Int} : ∀ n, 0 ≤ n → (∀ i, 0 ≤ i → i < n → f i = g i) ∨ ∃ p, (0 ≤ p ∧ p < n) ∧ (∀ i, 0 ≤ i → i < p → f i = g i) ∧ f p ≠ g p := by
  refine upFrom (P := fun n => (∀ i, 0 ≤ i → i < n → f i = g i) ∨ ∃ p, (0 ≤ p ∧ p < n) ∧ (∀ i, 0 ≤ i → i < p → f i = g i) ∧ f p ≠ g p) (a := 0) (Or.inl fun i a b => absurd b (by omega)) ?_
  intro k hk ih
  rcases ih with h | ⟨p, hp, h1, h2⟩
  · by_cases e : f k = g k
    · refine Or.inl fun i a b => ?_
      by_cases e2 : i = k
      · rw [e2]; exact e
      · exact h i a (by omega)
    · exact Or.inr ⟨k, ⟨hk, by omega⟩, h, e⟩
  · exact Or.inr ⟨p, ⟨hp.1, by omega⟩, h1, h2⟩
theorem lx_tri {n : Int} (h0 : 0 ≤ n) (f g : Int → Int) : eqn n f g ∨ lx n f g ∨ lx n g f := by
  rcases first_ne (f := f) (g := g) n h0 with h | ⟨p, hp, h1, h2⟩
  · exact Or.inl h
  · rcases Int.lt_or_gt_of_ne h2 with h | h
    · exact Or.inr (Or.inl ⟨p, hp, h1, h⟩)
    · exact Or.inr (Or.inr ⟨p, hp, fun i a b => (h1 i a b).symm, h⟩)
theorem lx_asym {n : Int} {f g : Int → Int} (h : lx n f g) (k : lx n g f) : False := by
  obtain ⟨p, hp, h1, h2⟩ := h
  obtain ⟨r, hr, k1, k2⟩ := k
  rcases Int.lt_trichotomy p r with e | e | e
  · have := k1 p hp.1 e; omega
  · subst e; omega
  · have := h1 r hr.1 e; omega
theorem lx_irr {n : Int} {f g : Int → Int} (h : lx n f g) (k : eqn n f g) : False := by
  obtain ⟨p, hp, h1, h2⟩ := h
  have := k p hp.1 hp.2
  omega
/-- the order as a number -/
def vnum (f : Int → Int) : Nat → Int
  | 0 => 0
  | k + 1 => 8 * vnum f k + f k
theorem vnum_eq {f g : Int → Int} : ∀ m : Nat, (∀ i : Int, 0 ≤ i → i < (m : Int) → f i = g i) → vnum f m = vnum g m
  | 0, _ => rfl
  | m + 1, h => by
    unfold vnum
    rw [vnum_eq m fun i a b => h i a (by omega), h m (by omega) (by omega)]
theorem vnum_bd {f : Int → Int} : ∀ m : Nat, (∀ i : Int, 0 ≤ i → i < (m : Int) → 0 ≤ f i ∧ f i < 8) → 0 ≤ vnum f m ∧ vnum f m < ((8 ^ m : Nat) : Int)
  | 0, _ => by unfold vnum; omega
  | m + 1, h => by
    have ih := vnum_bd m fun i a b => h i a (by omega)
    have hm := h m (by omega) (by omega)
    unfold vnum
    rw [Nat.pow_succ]
    omega
theorem vnum_lt {f g : Int → Int} {p : Nat} (h1 : ∀ i, 0 ≤ i → i < (p : Int) → f i = g i) (h2 : f p < g p) (N : Nat) (hf : ∀ i, 0 ≤ i → i < (N : Int) → f i < 8) (hg : ∀ i, 0 ≤ i → i < (N : Int) → 0 ≤ g i) : ∀ m : Nat, p < m → m ≤ N → vnum f m < vnum g m
  | 0, h, _ => absurd h (by omega)
  | m + 1, h, hN => by
    have a := hf m (by omega) (by omega)
    have b := hg m (by omega) (by omega)
    by_cases e : m = p
    · subst e
      have := vnum_eq m h1
      unfold vnum
      omega
    · have ih := vnum_lt h1 h2 N hf hg m (by omega) (by omega)
      unfold vnum
      omega
theorem lx_num {n : Int} {f g : Int → Int} (h : lx n f g) (hf : ∀ i, 0 ≤ i → i < n → f i < 8) (hg : ∀ i, 0 ≤ i → i < n → 0 ≤ g i) : vnum f n.toNat < vnum g n.toNat := by
  obtain ⟨p, hp, h1, h2⟩ := h
  obtain ⟨m, rfl⟩ := nat_of hp.1
  exact vnum_lt h1 h2 n.toNat (fun i a b => hf i a (by omega)) (fun i a b => hg i a (by omega)) n.toNat (by omega) (Nat.le_refl _)
theorem Pm_num {n : Int} {f : Int → Int} (hn : 0 ≤ n ∧ n ≤ 7) (h : Pm n f) : 0 ≤ vnum f n.toNat ∧ vnum f n.toNat < 2097152 := by
  have := vnum_bd (f := f) n.toNat fun i a b => by have := h.1 i a (by omega); omega
  have hp : 8 ^ n.toNat ≤ 8 ^ 7 := Nat.pow_le_pow_right (by decide) (by omega)
  omega
/-- what stands at p or behind it in one order stands there in the other, if they are alike before -/
theorem Pm_at {n p : Int} {f h : Int → Int} (hf : Pm n f) (hh : Pm n h) (hp : 0 ≤ p ∧ p < n) (e : ∀ i, 0 ≤ i → i < p → f i = h i) : ∃ i, (p ≤ i ∧ i < n) ∧ f i = h p := by
  have a := hh.1 p hp.1 hp.2
  obtain ⟨i, i0, i1, hi⟩ := hf.2.2 (h p) a.1 a.2
  refine ⟨i, ⟨?_, i1⟩, hi⟩
  refine Classical.byContradiction fun c => ?_
  rw [e i i0 (by omega)] at hi
  have := hh.2.1 i p i0 i1 hp.1 hp.2 hi
  omega
theorem dec_le {n p : Int} {f : Int → Int} (h : ∀ i, p ≤ i → i < n - 1 → f (i + 1) < f i) : ∀ i, p ≤ i → i < n → f i ≤ f p := by
  intro i hi
  refine upFrom (P := fun i => i < n → f i ≤ f p) (a := p) (fun _ => Int.le_refl _) ?_ i hi
  intro k hk ih hk2
  have := h k hk (by omega)
  have := ih (by omega)
  omega
theorem inc_le {n p : Int} {f : Int → Int} (h : ∀ i, p ≤ i → i < n - 1 → f i < f (i + 1)) : ∀ i, p ≤ i → i < n → f p ≤ f i := by
  intro i hi
  refine upFrom (P := fun i => i < n → f p ≤ f i) (a := p) (fun _ => Int.le_refl _) ?_ i hi
  intro k hk ih hk2
  have := h k hk (by omega)
  have := ih (by omega)
  omega
/-- falling from p on: none comes behind that is alike before p -/
theorem dec_top {n p : Int} {f h : Int → Int} (hf : Pm n f) (hh : Pm n h) (hp : 0 ≤ p ∧ p < n) (hd : ∀ i, p ≤ i → i < n - 1 → f (i + 1) < f i) (e : ∀ i, 0 ≤ i → i < p → f i = h i) : h p ≤ f p := by
  obtain ⟨i, hi, e2⟩ := Pm_at hf hh hp e
  rw [← e2]
  exact dec_le hd i hi.1 hi.2
theorem inc_low {n p : Int} {f h : Int → Int} (hf : Pm n f) (hh : Pm n h) (hp : 0 ≤ p ∧ p < n) (hd : ∀ i, p ≤ i → i < n - 1 → f i < f (i + 1)) (e : ∀ i, 0 ≤ i → i < p → f i = h i) : f p ≤ h p := by
  obtain ⟨i, hi, e2⟩ := Pm_at hf hh hp e
  rw [← e2]
  exact inc_le hd i hi.1 hi.2
def isLast (n : Int) (f : Int → Int) : Prop := ∀ i, 0 ≤ i → i < n - 1 → f (i + 1) < f i
theorem isLast.top {n : Int} {f h : Int → Int} (hl : isLast n f) (hf : Pm n f) (hh : Pm n h) : ¬ lx n f h := by
  rintro ⟨p, hp, h1, h2⟩
  have := dec_top hf hh hp (fun i a b => hl i (by omega) b) h1
  omega
/-- places k and j change -/
def sw2 (f : Int → Int) (k j : Int) : Int → Int := fun i => if i = k then f j else if i = j then f k else f i
/-- the next order -/
def isNx (n : Int) (f g : Int → Int) : Prop := ∃ k j, (0 ≤ k ∧ k < n - 1) ∧ f k < f (k + 1) ∧ (∀ i, k < i → i < n - 1 → f (i + 1) < f i) ∧ (k < j ∧ j < n) ∧ f k < f j ∧ (∀ i, j < i → i < n → f i < f k) ∧ (∀ i, 0 ≤ i → i ≤ k → g i = sw2 f k j i) ∧ ∀ i, k < i → i < n → g i = sw2 f k j (n + k - i)
theorem isNx.pm {n : Int} {f g : Int → Int} (h : isNx n f g) (hf : Pm n f) : Pm n g := by
  obtain ⟨k, j, hk, h1, h2, hj, h3, h4, g1, g2⟩ := h
  -- where each comes from
  have key : ∀ i, 0 ≤ i → i < n → ∃ m, (0 ≤ m ∧ m < n) ∧ g i = f m ∧ m = (if i < k then i else if i = k then j else if n + k - i = j then k else n + k - i) := by
    intro i i0 i1
    by_cases e1 : i < k
    · exact ⟨i, ⟨i0, i1⟩, by rw [g1 i i0 (by omega)]; unfold sw2; rw [if_neg (by omega), if_neg (by omega)], by rw [if_pos e1]⟩
    · by_cases e2 : i = k
      · exact ⟨j, ⟨by omega, hj.2⟩, by rw [g1 i i0 (by omega)]; unfold sw2; rw [if_pos e2], by rw [if_neg e1, if_pos e2]⟩
      · by_cases e3 : n + k - i = j
        · exact ⟨k, ⟨hk.1, by omega⟩, by rw [g2 i (by omega) i1]; unfold sw2; rw [if_neg (by omega), if_pos e3], by rw [if_neg e1, if_neg e2, if_pos e3]⟩
        · exact ⟨n + k - i, ⟨by omega, by omega⟩, by rw [g2 i (by omega) i1]; unfold sw2; rw [if_neg (by omega), if_neg e3], by rw [if_neg e1, if_neg e2, if_neg e3]⟩
  have inj : ∀ i l, 0 ≤ i → i < n → 0 ≤ l → l < n → g i = g l → i = l := by
    intro i l i0 i1 l0 l1 e
    obtain ⟨m, hm, e1, e2⟩ := key i i0 i1
    obtain ⟨m', hm', e1', e2'⟩ := key l l0 l1
    rw [e1, e1'] at e
    have := hf.2.1 m m' hm.1 hm.2 hm'.1 hm'.2 e
    subst this
    split at e2 <;> split at e2' <;> (try split at e2) <;> (try split at e2') <;> (try split at e2) <;> (try split at e2') <;> omega
  have rng : ∀ i, 0 ≤ i → i < n → 0 ≤ g i ∧ g i < n := by
    intro i i0 i1
    obtain ⟨m, hm, e1, -⟩ := key i i0 i1
    rw [e1]
    exact hf.1 m hm.1 hm.2
  refine ⟨rng, inj, fun c c0 c1 => ?_⟩
  have hn : ((n.toNat : Nat) : Int) = n := by omega
  obtain ⟨i, i0, i1, hi⟩ := inj_surj n.toNat g (fun i a b => by rw [hn] at b ⊢; exact rng i a b) (fun a b a0 a1 b0 b1 => by rw [hn] at a1 b1; exact inj a b a0 a1 b0 b1) c c0 (by omega)
  exact ⟨i, i0, by omega, hi⟩
theorem isNx.lt {n : Int} {f g : Int → Int} (h : isNx n f g) : lx n f g := by
  obtain ⟨k, j, hk, h1, h2, hj, h3, h4, g1, g2⟩ := h
  refine ⟨k, ⟨hk.1, by omega⟩, fun i a b => ?_, ?_⟩
  · rw [g1 i a (by omega)]; unfold sw2; rw [if_neg (by omega), if_neg (by omega)]
  · rw [g1 k hk.1 (Int.le_refl k)]; unfold sw2; rw [if_pos rfl]; exact h3
theorem dec_lt {n p : Int} {f : Int → Int} (h : ∀ i, p ≤ i → i < n - 1 → f (i + 1) < f i) {a b : Int} (pa : p ≤ a) (ab : a < b) (bn : b < n) : f b < f a := by
  have h1 := dec_le (n := n) (p := a + 1) (f := f) (fun i x y => h i (by omega) y) b (by omega) bn
  have h2 := h a pa (by omega)
  omega
/-- none lies between -/
theorem isNx.btw {n : Int} {f g h : Int → Int} (x : isNx n f g) (hf : Pm n f) (hh : Pm n h) (hlt : lx n f h) : ¬ lx n h g := by
  have hg := x.pm hf
  obtain ⟨k, j, hk, h1, h2, hj, h3, h4, g1, g2⟩ := x
  have gk : g k = f j := by rw [g1 k hk.1 (Int.le_refl k)]; unfold sw2; rw [if_pos rfl]
  have gl : ∀ i, 0 ≤ i → i < k → g i = f i := fun i a b => by rw [g1 i a (by omega)]; unfold sw2; rw [if_neg (by omega), if_neg (by omega)]
  -- behind k it rises
  have up : ∀ i, k + 1 ≤ i → i < n - 1 → g i < g (i + 1) := by
    intro i a b
    rw [g2 i (by omega) (by omega), g2 (i + 1) (by omega) (by omega)]
    have e : n + k - i = n + k - (i + 1) + 1 := by omega
    rw [e]
    have r : k + 1 ≤ n + k - (i + 1) ∧ n + k - (i + 1) < n - 1 := by omega
    generalize n + k - (i + 1) = m at r
    unfold sw2
    rw [if_neg (show ¬ m = k by omega), if_neg (show ¬ m + 1 = k by omega)]
    by_cases e1 : m = j
    · rw [if_pos e1, if_neg (by omega)]
      exact h4 _ (by omega) (by omega)
    · rw [if_neg e1]
      by_cases e2 : m + 1 = j
      · rw [if_pos e2]
        have := h2 m (by omega) (by omega)
        rw [e2] at this
        omega
      · rw [if_neg e2]
        exact h2 m (by omega) (by omega)
  rintro ⟨r, hr, k1, k2⟩
  obtain ⟨p, hp, a1, a2⟩ := hlt
  -- p can't be behind k
  have pk : p ≤ k := by
    refine Classical.byContradiction fun c => ?_
    have := dec_top hf hh hp (fun i u v => h2 i (by omega) v) a1
    omega
  by_cases e : p = k
  · subst e
    obtain ⟨i, hi, e2⟩ := Pm_at hf hh hp a1
    have hne : i ≠ p := fun u => by rw [u] at e2; omega
    -- what stands at k is at least what g has there
    have ge : g p ≤ h p := by
      rw [gk, ← e2]
      refine Classical.byContradiction fun c => ?_
      have hij : j < i := by
        refine Classical.byContradiction fun u => ?_
        by_cases v : i = j
        · rw [v] at c; omega
        · have := dec_lt (n := n) (p := p + 1) (f := f) (fun i u v => h2 i (by omega) v) (a := i) (b := j) (by omega) (by omega) hj.2
          omega
      have := h4 i hij hi.2
      omega
    rcases Int.lt_trichotomy r p with u | u | u
    · have := k1 r
      have q1 := a1 r hr.1 u
      have q2 := gl r hr.1 u
      omega
    · subst u; omega
    · have := inc_low hg hh hr (fun i u v => up i (by omega) v) (fun i u v => (k1 i u v).symm)
      omega
  · have q0 := gl p hp.1 (by omega)
    rcases Int.lt_trichotomy r p with u | u | u
    · have q1 := a1 r hr.1 u
      have q2 := gl r hr.1 (by omega)
      omega
    · subst u; omega
    · have := k1 p hp.1 u
      omega
/-- the order 0, 1, 2 .. is the first -/
theorem id_low {n : Int} {h f : Int → Int} (hf : ∀ i, 0 ≤ i → i < n → f i = i) (hh : Pm n h) : ¬ lx n h f := by
  rintro ⟨p, hp, h1, h2⟩
  have e := hf p hp.1 hp.2
  have a := hh.1 p hp.1 hp.2
  have e2 := h1 (h p) a.1 (by omega)
  rw [hf (h p) a.1 (by omega)] at e2
  have := hh.2.1 (h p) p a.1 a.2 hp.1 hp.2 e2
  omega
