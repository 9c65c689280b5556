/-! PATHS, plainly -/
theorem maxel {R : Int → Int → Prop} (irr : ∀ a, ¬ R a a) (tr : ∀ a b c, R a b → R b c → R a c) : ∀ n, 1 ≤ n → ∃ a, 0 ≤ a ∧ a < n ∧ ∀ b, 0 ≤ b → b < n → ¬ R b a := by
  intro n hn
  refine upFrom (P := fun n => ∃ a, 0 ≤ a ∧ a < n ∧ ∀ b, 0 ≤ b → b < n → ¬ R b a) (a := 1) ⟨0, by omega, by omega, fun b b0 b1 => by rw [show b = 0 by omega]; exact irr 0⟩ ?_ n hn
  rintro k hk ⟨a, a0, a1, h⟩
  by_cases e : R k a
  · refine ⟨k, by omega, by omega, fun b b0 b1 hb => ?_⟩
    by_cases g : b = k
    · rw [g] at hb; exact irr k hb
    · exact h b b0 (by omega) (tr b k a hb e)
  · refine ⟨a, a0, by omega, fun b b0 b1 => ?_⟩
    by_cases g : b = k
    · rw [g]; exact e
    · exact h b b0 (by omega)
/-- a pair of at least v -/
def ed (q : Pf) (v x y : Int) : Prop := (0 ≤ x ∧ x < qN q) ∧ (0 ≤ y ∧ y < qN q) ∧ bts q x y ∧ v ≤ pr q x y
/-- a path of pairs of at least v, those between below k -/
def rk (q : Pf) (v k a b : Int) : Prop := ∀ Q : Int → Prop, (∀ y, ed q v a y → Q y) → (∀ x y, Q x → x < k → ed q v x y → Q y) → Q b
section
variable {q : Pf} {v k a b : Int}
theorem rk.in2 (h : rk q v k a b) : 0 ≤ b ∧ b < qN q := h (fun y => 0 ≤ y ∧ y < qN q) (fun y e => e.2.1) (fun _ y _ _ e => e.2.1)
theorem rk.ed (h : ed q v a b) : rk q v k a b := fun _ h1 _ => h1 b h
theorem rk.step {c : Int} (h : rk q v k a b) (hb : b < k) (e : Jvm.Pilot.CBallotDeskLaw_law_r5075_f3b600.ed q v b c) : rk q v k a c := fun Q h1 h2 => h2 b c (h Q h1 h2) hb e
theorem rk.mono {k' : Int} (h : rk q v k a b) (hk : k ≤ k') : rk q v k' a b := h (rk q v k' a) (fun _ e => rk.ed e) (fun _ _ w hx e => w.step (by omega) e)
theorem rk.trans {c : Int} (h : rk q v k a b) (hb : b < k) (g : rk q v k b c) : rk q v k a c := g (rk q v k a) (fun _ e => h.step hb e) (fun _ _ w hx e => w.step hx e)
theorem rk.low {v' : Int} (h : rk q v k a b) (hv : v' ≤ v) : rk q v' k a b := h (rk q v' k a) (fun _ e => rk.ed ⟨e.1, e.2.1, e.2.2.1, by have := e.2.2.2; omega⟩) (fun _ _ w hx e => w.step hx ⟨e.1, e.2.1, e.2.2.1, by have := e.2.2.2; omega⟩)
theorem rk_0 : rk q v 0 a b ↔ Jvm.Pilot.CBallotDeskLaw_law_r5075_f3b600.ed q v a b := by
  constructor
  · intro h
    exact h (fun y => Jvm.Pilot.CBallotDeskLaw_law_r5075_f3b600.ed q v a y) (fun _ e => e) (fun x y w hx e => absurd e.1.1 (by omega))
  · exact fun e => rk.ed e
theorem rk_s : rk q v (k + 1) a b ↔ rk q v k a b ∨ (rk q v k a k ∧ rk q v k k b) := by
  constructor
  · intro h
    refine h (fun y => rk q v k a y ∨ (rk q v k a k ∧ rk q v k k y)) (fun y e => Or.inl (rk.ed e)) ?_
    rintro x y w hx e
    by_cases g : x = k
    · rw [g] at w e
      rcases w with w | ⟨w, -⟩
      · exact Or.inr ⟨w, rk.ed e⟩
      · exact Or.inr ⟨w, rk.ed e⟩
    · rcases w with w | ⟨w, w2⟩
      · exact Or.inl (w.step (by omega) e)
      · exact Or.inr ⟨w, w2.step (by omega) e⟩
  · rintro (h | ⟨h1, h2⟩)
    · exact h.mono (by omega)
    · exact (h1.mono (by omega)).trans (by omega) (h2.mono (by omega))
end
/-- paths among all -/
def rc (q : Pf) (v a b : Int) : Prop := rk q v (qN q) a b
def W7 (q : Pf) (a : Int) : Prop := ∀ b, 0 ≤ b → b < qN q → b ≠ a → ∀ v, 1 ≤ v → rc q v b a → rc q v a b
theorem W7_ex {q : Pf} (hq : okP q) : ∃ a, 0 ≤ a ∧ a < qN q ∧ W7 q a := by
  obtain ⟨a, a0, a1, h⟩ := maxel (R := fun a b => ∃ v, 1 ≤ v ∧ rc q v a b ∧ ¬ rc q v b a) (fun a => by rintro ⟨v, -, h1, h2⟩; exact h2 h1) (by
    rintro a b c ⟨u, u1, h1, h2⟩ ⟨v, v1, h3, h4⟩
    have tr : ∀ {x y z w : Int}, rc q w x y → rc q w y z → rc q w x z := fun h g => rk.trans h h.in2.2 g
    by_cases e : u ≤ v
    · exact ⟨u, u1, tr h1 (h3.low e), fun w => h2 (tr (h3.low e) w)⟩
    · exact ⟨v, v1, tr (h1.low (by omega)) h3, fun w => h4 (tr w (h1.low (by omega)))⟩) (qN q) (by have := hq.1; omega)
  refine ⟨a, a0, a1, fun b b0 b1 _ v v1 hv => Classical.byContradiction fun w => h b b0 b1 ⟨v, v1, hv, w⟩⟩
theorem W10_ex {q : Pf} (hq : okP q) : ∃ a, 0 ≤ a ∧ a < qN q ∧ W10 q a := by
  obtain ⟨a, a0, a1, h⟩ := maxel (R := fun a b => (0 ≤ b ∧ b < qN q) ∧ cov q a b) (fun a => by rintro ⟨-, h, -⟩; unfold bts at h; omega) (by
    rintro a b c ⟨h0, h1, h2⟩ ⟨h3, h4, h5⟩
    exact ⟨h3, h2 c h3.1 h3.2 h4, fun d d0 d1 hd => h2 d d0 d1 (h5 d d0 d1 hd)⟩) (qN q) (by have := hq.1; omega)
  exact ⟨a, a0, a1, fun ⟨b, b0, b1, hb⟩ => h b b0 b1 ⟨⟨a0, a1⟩, hb⟩⟩
/-- a table of strengths: of paths with those between below k, in part already k + 1 -/
def mat (q : Pf) (s : Int → Int → Int) (k a b : Int) : Prop := (∀ x, 0 ≤ x → x < qN q → s x x = 0) ∧ (∀ x y, 0 ≤ x → x < qN q → 0 ≤ y → y < qN q → 0 ≤ s x y) ∧ ∀ x y, 0 ≤ x → x < qN q → 0 ≤ y → y < qN q → x ≠ y → ∀ v, 1 ≤ v → (v ≤ s x y ↔ ((x < a ∨ x = a ∧ y < b) ∧ rk q v (k + 1) x y) ∨ (¬ (x < a ∨ x = a ∧ y < b) ∧ rk q v k x y))
theorem mat.get {q : Pf} {s : Int → Int → Int} {k a b : Int} (h : mat q s k a b) {x y : Int} (x0 : 0 ≤ x) (x1 : x < qN q) (y0 : 0 ≤ y) (y1 : y < qN q) (hne : x ≠ y) {v : Int} (v1 : 1 ≤ v) : (v ≤ s x y ↔ ((x < a ∨ x = a ∧ y < b) ∧ rk q v (k + 1) x y) ∨ (¬ (x < a ∨ x = a ∧ y < b) ∧ rk q v k x y)) := h.2.2 x y x0 x1 y0 y1 hne v v1
/-- in the row and the column of k nothing changes -/
theorem mat.row {q : Pf} {s : Int → Int → Int} {k a b : Int} (h : mat q s k a b) (k0 : 0 ≤ k) (k1 : k < qN q) {y : Int} (y0 : 0 ≤ y) (y1 : y < qN q) (hne : k ≠ y) {v : Int} (v1 : 1 ≤ v) : v ≤ s k y ↔ rk q v k k y := by
  rw [h.get k0 k1 y0 y1 hne v1, rk_s]
  by_cases e : k < a ∨ k = a ∧ y < b
  · constructor
    · rintro (⟨-, w | w⟩ | ⟨w, -⟩)
      · exact w
      · exact w.2
      · exact absurd e w
    · exact fun w => Or.inl ⟨e, Or.inl w⟩
  · constructor
    · rintro (⟨w, -⟩ | ⟨-, w⟩)
      · exact absurd w e
      · exact w
    · exact fun w => Or.inr ⟨e, w⟩
theorem mat.col {q : Pf} {s : Int → Int → Int} {k a b : Int} (h : mat q s k a b) (k0 : 0 ≤ k) (k1 : k < qN q) {x : Int} (x0 : 0 ≤ x) (x1 : x < qN q) (hne : x ≠ k) {v : Int} (v1 : 1 ≤ v) : v ≤ s x k ↔ rk q v k x k := by
  rw [h.get x0 x1 k0 k1 hne v1, rk_s]
  by_cases e : x < a ∨ x = a ∧ k < b
  · constructor
    · rintro (⟨-, w | w⟩ | ⟨w, -⟩)
      · exact w
      · exact w.1
      · exact absurd e w
    · exact fun w => Or.inl ⟨e, Or.inl w⟩
  · constructor
    · rintro (⟨w, -⟩ | ⟨-, w⟩)
      · exact absurd w e
      · exact w
    · exact fun w => Or.inr ⟨e, w⟩
/-- what widening a pair makes -/
theorem mat.wide {q : Pf} {s s' : Int → Int → Int} {k a b : Int} (h : mat q s k a b) (k0 : 0 ≤ k) (k1 : k < qN q) (a0 : 0 ≤ a) (a1 : a < qN q) (b0 : 0 ≤ b) (b1 : b < qN q) (hs : ∀ x y, ¬ (x = a ∧ y = b) → s' x y = s x y) (hd : a = b → s' a b = s a b) (hw : a ≠ b → ∀ v, 1 ≤ v → (v ≤ s' a b ↔ v ≤ s a b ∨ (v ≤ s a k ∧ v ≤ s k b))) (h0 : 0 ≤ s' a b) : mat q s' k a (b + 1) := by
  refine ⟨fun x x0 x1 => ?_, fun x y x0 x1 y0 y1 => ?_, fun x y x0 x1 y0 y1 hne v v1 => ?_⟩
  · by_cases e : x = a ∧ x = b
    · rw [show s' x x = s' a b by rw [← e.1, ← e.2], hd (by omega), show s a b = s x x by rw [← e.1, ← e.2]]; exact h.1 x x0 x1
    · rw [hs x x e]; exact h.1 x x0 x1
  · by_cases e : x = a ∧ y = b
    · rw [e.1, e.2]; exact h0
    · rw [hs x y e]; exact h.2.1 x y x0 x1 y0 y1
  · by_cases e : x = a ∧ y = b
    · obtain ⟨rfl, rfl⟩ := e
      rw [hw hne v v1, h.get x0 x1 y0 y1 hne v1, rk_s]
      have e1 : v ≤ s x k ↔ (x ≠ k ∧ rk q v k x k) := by
        by_cases g : x = k
        · rw [g, h.1 k k0 k1]
          exact ⟨fun w => by omega, fun w => absurd rfl w.1⟩
        · rw [h.col k0 k1 x0 x1 g v1]
          exact ⟨fun w => ⟨g, w⟩, fun w => w.2⟩
      have e2 : v ≤ s k y ↔ (k ≠ y ∧ rk q v k k y) := by
        by_cases g : k = y
        · rw [← g, h.1 k k0 k1]
          exact ⟨fun w => by omega, fun w => absurd rfl w.1⟩
        · rw [h.row k0 k1 y0 y1 g v1]
          exact ⟨fun w => ⟨g, w⟩, fun w => w.2⟩
      rw [e1, e2]
      constructor
      · rintro ((⟨w, -⟩ | ⟨-, w⟩) | ⟨w1, w2⟩)
        · omega
        · exact Or.inl ⟨by omega, Or.inl w⟩
        · exact Or.inl ⟨by omega, Or.inr ⟨w1.2, w2.2⟩⟩
      · rintro (⟨-, w | ⟨w1, w2⟩⟩ | ⟨w, -⟩)
        · exact Or.inl (Or.inr ⟨by omega, w⟩)
        · by_cases g1 : x = k
          · refine Or.inl (Or.inr ⟨by omega, ?_⟩)
            rw [g1]; exact w2
          · by_cases g2 : k = y
            · refine Or.inl (Or.inr ⟨by omega, ?_⟩)
              rw [← g2]; exact w1
            · exact Or.inr ⟨⟨g1, w1⟩, g2, w2⟩
        · omega
    · rw [hs x y e, h.get x0 x1 y0 y1 hne v1]
      have : (x < a ∨ x = a ∧ y < b) ↔ (x < a ∨ x = a ∧ y < b + 1) := by omega
      rw [this]
theorem mat.next {q : Pf} {s : Int → Int → Int} {k a : Int} (h : mat q s k a (qN q)) : mat q s k (a + 1) 0 := by
  refine ⟨h.1, h.2.1, fun x y x0 x1 y0 y1 hne v v1 => ?_⟩
  rw [h.get x0 x1 y0 y1 hne v1]
  have : (x < a ∨ x = a ∧ y < qN q) ↔ (x < a + 1 ∨ x = a + 1 ∧ y < 0) := by omega
  rw [this]
theorem mat.up {q : Pf} {s : Int → Int → Int} {k : Int} (h : mat q s k (qN q) 0) : mat q s (k + 1) 0 0 := by
  refine ⟨h.1, h.2.1, fun x y x0 x1 y0 y1 hne v v1 => ?_⟩
  rw [h.get x0 x1 y0 y1 hne v1]
  constructor
  · rintro (⟨-, w⟩ | ⟨w, -⟩)
    · exact Or.inr ⟨by omega, w⟩
    · omega
  · rintro (⟨w, -⟩ | ⟨-, w⟩)
    · omega
    · exact Or.inl ⟨by omega, w⟩
/-- the strengths of the strongest paths -/
def isS (q : Pf) (s : Int → Int → Int) : Prop := (∀ x, 0 ≤ x → x < qN q → s x x = 0) ∧ (∀ x y, 0 ≤ x → x < qN q → 0 ≤ y → y < qN q → 0 ≤ s x y) ∧ ∀ x y, 0 ≤ x → x < qN q → 0 ≤ y → y < qN q → x ≠ y → ∀ v, 1 ≤ v → (v ≤ s x y ↔ rc q v x y)
theorem mat.fin {q : Pf} {s : Int → Int → Int} (h : mat q s (qN q) 0 0) : isS q s := by
  refine ⟨h.1, h.2.1, fun x y x0 x1 y0 y1 hne v v1 => ?_⟩
  rw [h.get x0 x1 y0 y1 hne v1]
  constructor
  · rintro (⟨w, -⟩ | ⟨-, w⟩)
    · omega
    · exact w
  · exact fun w => Or.inr ⟨by omega, w⟩
theorem isS.uniq {q : Pf} {s s' : Int → Int → Int} (h : isS q s) (h' : isS q s') {x y : Int} (x0 : 0 ≤ x) (x1 : x < qN q) (y0 : 0 ≤ y) (y1 : y < qN q) : s x y = s' x y := by
  by_cases e : x = y
  · rw [e, h.1 y y0 y1, h'.1 y y0 y1]
  · have a := h.2.2 x y x0 x1 y0 y1 e
    have b := h'.2.2 x y x0 x1 y0 y1 e
    have c := h.2.1 x y x0 x1 y0 y1
    have d := h'.2.1 x y x0 x1 y0 y1
    rcases Int.lt_trichotomy (s x y) (s' x y) with g | g | g
    · have := (a (s' x y) (by omega)).mpr ((b (s' x y) (by omega)).mp (Int.le_refl _)); omega
    · exact g
    · have := (b (s x y) (by omega)).mpr ((a (s x y) (by omega)).mp (Int.le_refl _)); omega
theorem isS.win {q : Pf} {s : Int → Int → Int} (h : isS q s) {a : Int} (a0 : 0 ≤ a) (a1 : a < qN q) : W7 q a ↔ ∀ b, 0 ≤ b → b < qN q → s b a ≤ s a b := by
  constructor
  · intro w b b0 b1
    by_cases e : b = a
    · rw [e]; exact Int.le_refl _
    · by_cases g : s b a ≤ 0
      · have := h.2.1 a b a0 a1 b0 b1; omega
      · exact (h.2.2 a b a0 a1 b0 b1 (Ne.symm e) _ (by omega)).mpr (w b b0 b1 e _ (by omega) ((h.2.2 b a b0 b1 a0 a1 e _ (by omega)).mp (Int.le_refl _)))
  · intro w b b0 b1 e v v1 hv
    have e1 := (h.2.2 b a b0 b1 a0 a1 e v v1).mpr hv
    have e2 := w b b0 b1
    exact (h.2.2 a b a0 a1 b0 b1 (Ne.symm e) v v1).mp (by omega)
/-- the first table -/
theorem mat.init {q : Pf} (hq : okP q) {s : Int → Int → Int} (h : ∀ x y, 0 ≤ x → x < qN q → 0 ≤ y → y < qN q → (bts q x y → s x y = pr q x y) ∧ (¬ bts q x y → s x y = 0)) : mat q s 0 0 0 := by
  refine ⟨fun x x0 x1 => (h x x x0 x1 x0 x1).2 (by unfold bts; omega), fun x y x0 x1 y0 y1 => ?_, fun x y x0 x1 y0 y1 hne v v1 => ?_⟩
  · by_cases e : bts q x y
    · rw [(h x y x0 x1 y0 y1).1 e]; exact (pr_bd hq x y).1
    · rw [(h x y x0 x1 y0 y1).2 e]; exact Int.le_refl 0
  · rw [rk_0]
    constructor
    · intro w
      refine Or.inr ⟨by omega, ⟨x0, x1⟩, ⟨y0, y1⟩, ?_⟩
      by_cases e : bts q x y
      · rw [(h x y x0 x1 y0 y1).1 e] at w; exact ⟨e, w⟩
      · rw [(h x y x0 x1 y0 y1).2 e] at w; omega
    · rintro (⟨w, -⟩ | ⟨-, w⟩)
      · omega
      · rw [(h x y x0 x1 y0 y1).1 w.2.2.1]; exact w.2.2.2
