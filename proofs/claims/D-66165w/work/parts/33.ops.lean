/-! CHANGES OF PROFILES -/
theorem S_chg {f g : Int → Int} {n t : Int} (t0 : 0 ≤ t) (h : ∀ i, 0 ≤ i → i < n → i ≠ t → f i = g i) : ∀ k, 0 ≤ k → k ≤ n → S g k = S f k + if t < k then g t - f t else 0 := by
  intro k hk
  refine upFrom (P := fun k => k ≤ n → S g k = S f k + if t < k then g t - f t else 0) (a := 0) (fun _ => by rw [S_0, S_0, if_neg (by omega)]; rfl) ?_ k hk
  intro k hk ih hk2
  rw [S_s g hk, S_s f hk, ih (by omega)]
  by_cases e : k = t
  · subst e
    rw [if_neg (by omega), if_pos (by omega)]
    omega
  · rw [← h k hk (by omega) e]
    by_cases e2 : t < k
    · rw [if_pos e2, if_pos (by omega)]; omega
    · rw [if_neg e2, if_neg (by omega)]; omega
theorem S_drop {f : Int → Int} {t : Int} (t0 : 0 ≤ t) : ∀ n, 0 ≤ n → S (fun k => if k < t then f k else f (k + 1)) n = if t ≤ n then S f (n + 1) - f t else S f n := by
  intro n hn
  refine upFrom (P := fun n => S (fun k => if k < t then f k else f (k + 1)) n = if t ≤ n then S f (n + 1) - f t else S f n) (a := 0) ?_ ?_ n hn
  · by_cases e : t ≤ 0
    · rw [if_pos e, S_s f (Int.le_refl 0), S_0, S_0, show t = 0 by omega]; omega
    · rw [if_neg e]; rfl
  · intro k hk ih
    rw [S_s _ hk, ih]
    by_cases e : t ≤ k
    · rw [if_pos e, if_neg (show ¬ k < t by omega), if_pos (show t ≤ k + 1 by omega), S_s f (show 0 ≤ k + 1 by omega)]; omega
    · rw [if_neg e, if_pos (show k < t by omega)]
      by_cases e2 : t ≤ k + 1
      · rw [if_pos e2, S_s f (show 0 ≤ k + 1 by omega), show t = k + 1 by omega, S_s f hk]; omega
      · rw [if_neg e2, S_s f hk]
def qam (q : Pf) (t a : Int) : Pf := (qN q, qT q, qL q, fun s => if s = t then a else qA q s, qI' q, qG q, qW q)
def qadd (q : Pf) (f : Int → Int) (a : Int) : Pf := (qN q, qT q + 1, fun s => if s = qT q then f else qL q s, fun s => if s = qT q then a else qA q s, qI' q, qG q, qW q)
def qdrop (q : Pf) (t : Int) : Pf := (qN q, qT q - 1, fun s => if s < t then qL q s else qL q (s + 1), fun s => if s < t then qA q s else qA q (s + 1), qI' q, qG q, qW q)
def q0 (n : Int) : Pf := (n, 0, fun _ _ => 0, fun _ => 0, fun k => k, fun k => k, fun k => n - 1 - k)
/-- an order without a candidate -/
noncomputable def wo (f : Int → Int) (c : Int) : Int → Int := fun j => if c < f (if j < ps f c then j else j + 1) then f (if j < ps f c then j else j + 1) - 1 else f (if j < ps f c then j else j + 1)
noncomputable def qwo (q : Pf) (c : Int) : Pf := (qN q - 1, qT q, fun t => wo (qL q t) c, qA q, wo (qI' q) c, wo (qG q) c, qW q)
def qties (q : Pf) (f : Int → Int) : Pf := (qN q, qT q, qL q, qA q, f, qG q, qW q)
def qags (q : Pf) (f : Int → Int) : Pf := (qN q, qT q, qL q, qA q, qI' q, f, qW q)
def qwe (q : Pf) (k w : Int) : Pf := (qN q, qT q, qL q, qA q, qI' q, qG q, fun j => if j = k then w else qW q j)
def sw (f : Int → Int) (k : Int) : Int → Int := fun j => if j = k then f (k - 1) else if j = k - 1 then f k else f j
def qsw (q : Pf) (t k : Int) : Pf := (qN q, qT q, fun s => if s = t then sw (qL q t) k else qL q s, qA q, qI' q, qG q, qW q)
theorem qam_qam (q : Pf) (t a : Int) : qam (qam q t a) t (qA q t) = q := by
  obtain ⟨n, T, l, am, ti, ag, we⟩ := q
  unfold qam
  have : (fun s => if s = t then am t else if s = t then a else am s) = am := by
    funext s
    by_cases e : s = t
    · rw [if_pos e, e]
    · rw [if_neg e, if_neg e]
  show (n, T, l, (fun s => if s = t then am t else if s = t then a else am s), ti, ag, we) = _
  rw [this]
/-- alike in all that counts -/
def Eqv (q r : Pf) : Prop := qN q = qN r ∧ qT q = qT r ∧ (∀ t k, 0 ≤ t → t < qT q → 0 ≤ k → k < qN q → qL q t k = qL r t k) ∧ (∀ t, 0 ≤ t → t < qT q → qA q t = qA r t) ∧ (∀ k, 0 ≤ k → k < qN q → qI' q k = qI' r k) ∧ (∀ k, 0 ≤ k → k < qN q → qG q k = qG r k) ∧ (∀ k, 0 ≤ k → k < qN q → qW q k = qW r k)
theorem Pm.ext {n : Int} {f g : Int → Int} (h : Pm n f) (e : ∀ k, 0 ≤ k → k < n → f k = g k) : Pm n g := by
  refine ⟨fun k a b => by rw [← e k a b]; exact h.1 k a b, fun j k a b c d => by rw [← e j a b, ← e k c d]; exact h.2.1 j k a b c d, fun c a b => ?_⟩
  obtain ⟨k, k0, k1, hk⟩ := h.2.2 c a b
  exact ⟨k, k0, k1, by rw [← e k k0 k1]; exact hk⟩
theorem ps_ext {n : Int} {f g : Int → Int} (hn : n ≤ 7) (h : Pm n f) (e : ∀ k, 0 ≤ k → k < n → f k = g k) {c : Int} (c0 : 0 ≤ c) (c1 : c < n) : ps f c = ps g c := by
  have a := ps_spec hn h c0 c1
  have b := ps_spec hn (h.ext e) c0 c1
  have := ps_at hn (h.ext e) a.1 a.2.1
  rw [← e _ a.1 a.2.1, a.2.2] at this
  exact this.symm
theorem okP.eqv {q r : Pf} (h : okP q) (e : Eqv q r) : okP r := by
  obtain ⟨e1, e2, e3, e4, e5, e6, e7⟩ := e
  obtain ⟨h1, h2, h3, h4, h5, h6, h7⟩ := h
  refine ⟨e1 ▸ h1, e2 ▸ h2, fun t a b => ?_, fun t a b => ?_, ?_, ?_, fun k a b => ?_⟩
  · rw [← e2] at b; rw [← e1]; exact (h3 t a b).ext (fun k => e3 t k a b)
  · rw [← e2] at b; rw [← e4 t a b]; exact h4 t a b
  · rw [← e1]; exact h5.ext e5
  · rw [← e1]; exact h6.ext e6
  · rw [← e1] at b; rw [← e7 k a b]; exact h7 k a b
theorem pr_eqv {q r : Pf} (h : okP q) (e : Eqv q r) {a b : Int} (ha : 0 ≤ a ∧ a < qN q) (hb : 0 ≤ b ∧ b < qN q) : pr q a b = pr r a b := by
  unfold pr
  rw [← e.2.1]
  refine S_ext h.2.1.1 fun t t0 t1 => ?_
  have hm := h.2.2.1 t t0 t1
  rw [ps_ext h.1.2 hm (fun k => e.2.2.1 t k t0 t1) ha.1 ha.2, ps_ext h.1.2 hm (fun k => e.2.2.1 t k t0 t1) hb.1 hb.2, e.2.2.2.1 t t0 t1]
theorem isP.eqv {q r : Pf} {σ : Mm} {p : Int} (hq : okP q) (h : isP σ p q) (e : Eqv q r) : isP σ p r := by
  have pe := fun a b ha hb => pr_eqv hq e (a := a) (b := b) ha hb
  obtain ⟨e1, e2, e3, e4, e5, e6, e7⟩ := e
  obtain ⟨h1, h2, h3, h4, h5, h6, h7, h8⟩ := h
  refine ⟨e1 ▸ h1, e2 ▸ h2, fun t k a b c d => ?_, fun t a b => ?_, fun x y a b c d => ?_, fun k a b => ?_, fun k a b => ?_, fun k a b => ?_⟩
  · rw [← e2] at b; rw [← e1] at d; rw [← e3 t k a b c d]; exact h3 t k a b c d
  · rw [← e2] at b; rw [← e4 t a b]; exact h4 t a b
  · rw [← e1] at b d; rw [← pe x y ⟨a, b⟩ ⟨c, d⟩]; exact h5 x y a b c d
  · rw [← e1] at b; rw [← e5 k a b]; exact h6 k a b
  · rw [← e1] at b; rw [← e6 k a b]; exact h7 k a b
  · rw [← e1] at b; rw [← e7 k a b]; exact h8 k a b
theorem pr_qam {q : Pf} (hq : okP q) {t a x y : Int} (ht : 0 ≤ t ∧ t < qT q) : pr (qam q t a) x y = pr q x y + if ps (qL q t) x < ps (qL q t) y then a - qA q t else 0 := by
  have := S_chg (f := fun s => if ps (qL q s) x < ps (qL q s) y then qA q s else 0) (g := fun s => if ps (qL q s) x < ps (qL q s) y then (if s = t then a else qA q s) else 0) (n := qT q) (t := t) ht.1 (fun i _ _ hi => by rw [if_neg hi]) (qT q) hq.2.1.1 (Int.le_refl _)
  rw [if_pos ht.2] at this
  show S (fun s => if ps (qL q s) x < ps (qL q s) y then (if s = t then a else qA q s) else 0) (qT q) = _
  rw [this, if_pos rfl]
  unfold pr
  by_cases e : ps (qL q t) x < ps (qL q t) y
  · rw [if_pos e, if_pos e, if_pos e]
  · rw [if_neg e, if_neg e, if_neg e]; omega
theorem pr_qadd {q : Pf} (hq : okP q) {f : Int → Int} {a x y : Int} : pr (qadd q f a) x y = pr q x y + if ps f x < ps f y then a else 0 := by
  show S (fun s => if ps ((fun s => if s = qT q then f else qL q s) s) x < ps ((fun s => if s = qT q then f else qL q s) s) y then (if s = qT q then a else qA q s) else 0) (qT q + 1) = _
  rw [S_s _ hq.2.1.1]
  simp only [↓reduceIte]
  congr 1
  unfold pr
  refine S_ext hq.2.1.1 fun t t0 t1 => ?_
  have hne : ¬ t = qT q := by omega
  simp only [if_neg hne]
theorem pr_qdrop {q : Pf} {t x y : Int} (ht : 0 ≤ t ∧ t < qT q) : pr (qdrop q t) x y = pr q x y - if ps (qL q t) x < ps (qL q t) y then qA q t else 0 := by
  have := S_drop (f := fun s => if ps (qL q s) x < ps (qL q s) y then qA q s else 0) ht.1 (qT q - 1) (by omega)
  rw [if_pos (by omega), show qT q - 1 + 1 = qT q by omega] at this
  unfold pr
  rw [← this]
  refine S_ext (by show 0 ≤ qT q - 1; omega) fun s s0 s1 => ?_
  show (if ps ((if s < t then qL q s else qL q (s + 1))) x < ps ((if s < t then qL q s else qL q (s + 1))) y then (if s < t then qA q s else qA q (s + 1)) else 0) = _
  by_cases e : s < t
  · rw [if_pos e, if_pos e, if_pos e]
  · rw [if_neg e, if_neg e, if_neg e]
theorem okP.qam {q : Pf} (h : okP q) {t a : Int} (ha : 0 ≤ a ∧ a ≤ 100001) : okP (qam q t a) := by
  refine ⟨h.1, h.2.1, h.2.2.1, fun s s0 s1 => ?_, h.2.2.2.2⟩
  have := h.2.2.2.1 s s0 s1
  show 0 ≤ (if s = t then a else qA q s) ∧ (if s = t then a else qA q s) ≤ _
  split <;> omega
theorem okP.qadd {q : Pf} (h : okP q) {f : Int → Int} {a : Int} (hf : Pm (qN q) f) (ha : 0 ≤ a ∧ a ≤ 100001) (hT : qT q ≤ 20) : okP (qadd q f a) := by
  have h0 := h.2.1
  refine ⟨h.1, ⟨by show 0 ≤ qT q + 1; omega, by show qT q + 1 ≤ 21; omega⟩, fun s s0 s1 => ?_, fun s s0 s1 => ?_, h.2.2.2.2⟩
  · have s1 : s < qT q + 1 := s1
    show Pm (qN q) (if s = qT q then f else qL q s)
    by_cases e : s = qT q
    · rw [if_pos e]; exact hf
    · rw [if_neg e]; exact h.2.2.1 s s0 (by omega)
  · have s1 : s < qT q + 1 := s1
    show 0 ≤ (if s = qT q then a else qA q s) ∧ (if s = qT q then a else qA q s) ≤ _
    by_cases e : s = qT q
    · rw [if_pos e]; exact ha
    · rw [if_neg e]; exact h.2.2.2.1 s s0 (by omega)
theorem okP.qdrop {q : Pf} (h : okP q) {t : Int} (ht : 0 ≤ t ∧ t < qT q) : okP (qdrop q t) := by
  have h0 := h.2.1
  refine ⟨h.1, ⟨by show 0 ≤ qT q - 1; omega, by show qT q - 1 ≤ 21; omega⟩, fun s s0 s1 => ?_, fun s s0 s1 => ?_, h.2.2.2.2⟩
  · have s1 : s < qT q - 1 := s1
    show Pm (qN q) (if s < t then qL q s else qL q (s + 1))
    by_cases e : s < t
    · rw [if_pos e]; exact h.2.2.1 s s0 (by omega)
    · rw [if_neg e]; exact h.2.2.1 (s + 1) (by omega) (by omega)
  · have s1 : s < qT q - 1 := s1
    show 0 ≤ (if s < t then qA q s else qA q (s + 1)) ∧ (if s < t then qA q s else qA q (s + 1)) ≤ _
    by_cases e : s < t
    · rw [if_pos e]; exact h.2.2.2.1 s s0 (by omega)
    · rw [if_neg e]; exact h.2.2.2.1 (s + 1) (by omega) (by omega)
theorem Pm.id {n : Int} : Pm n (fun k => k) := ⟨fun k a b => ⟨a, b⟩, fun j k _ _ _ _ e => e, fun c a b => ⟨c, a, b, rfl⟩⟩
theorem okP.q0 {n : Int} (h : 2 ≤ n ∧ n ≤ 7) : okP (q0 n) := ⟨h, ⟨Int.le_refl 0, by show (0 : Int) ≤ 21; omega⟩, fun t a b => absurd (show t < 0 from b) (by omega), fun t a b => absurd (show t < 0 from b) (by omega), Pm.id, Pm.id, fun k a b => by
  have b : k < n := b
  show 0 ≤ n - 1 - k ∧ n - 1 - k ≤ 1000
  omega⟩
/-- an order without one of its candidates is an order -/
theorem Pm_wo {n c : Int} {f : Int → Int} (hn : n ≤ 7) (h : Pm n f) (c0 : 0 ≤ c) (c1 : c < n) : Pm (n - 1) (wo f c) := by
  have hs := ps_spec hn h c0 c1
  have key : ∀ j, 0 ≤ j → j < n - 1 → ∃ i, 0 ≤ i ∧ i < n ∧ i ≠ ps f c ∧ i = (if j < ps f c then j else j + 1) ∧ f i ≠ c ∧ wo f c j = (if c < f i then f i - 1 else f i) := by
    intro j j0 j1
    refine ⟨if j < ps f c then j else j + 1, by split <;> omega, by split <;> omega, by split <;> omega, rfl, fun e => ?_, rfl⟩
    have := h.2.1 (if j < ps f c then j else j + 1) (ps f c) (by split <;> omega) (by split <;> omega) hs.1 hs.2.1 (e.trans hs.2.2.symm)
    split at this <;> omega
  refine ⟨fun j j0 j1 => ?_, fun j k j0 j1 k0 k1 e => ?_, fun x x0 x1 => ?_⟩
  · obtain ⟨i, i0, i1, i2, i3, i4, i5⟩ := key j j0 j1
    have := h.1 i i0 i1
    rw [i5]
    split <;> omega
  · obtain ⟨i, i0, i1, i2, i3, i4, i5⟩ := key j j0 j1
    obtain ⟨m, m0, m1, m2, m3, m4, m5⟩ := key k k0 k1
    rw [i5, m5] at e
    have e2 : f i = f m := by split at e <;> split at e <;> omega
    have e3 := h.2.1 i m i0 i1 m0 m1 e2
    split at i3 <;> split at m3 <;> omega
  · obtain ⟨i, i0, i1, hi⟩ := h.2.2 (if x < c then x else x + 1) (by split <;> omega) (by split <;> omega)
    have hne : i ≠ ps f c := fun e => by
      rw [e, hs.2.2] at hi
      split at hi <;> omega
    refine ⟨if i < ps f c then i else i - 1, by split <;> omega, by split <;> omega, ?_⟩
    have e : (if (if i < ps f c then i else i - 1) < ps f c then (if i < ps f c then i else i - 1) else (if i < ps f c then i else i - 1) + 1) = i := by
      by_cases q : i < ps f c
      · rw [if_pos q, if_pos q]
      · rw [if_neg q, if_neg (by omega)]; omega
    unfold wo
    rw [e, hi]
    by_cases q : x < c
    · rw [if_pos q, if_neg (by omega)]
    · rw [if_neg q, if_pos (by omega)]; omega
theorem okP.qwo {q : Pf} (h : okP q) {c : Int} (hc : 0 ≤ c ∧ c < qN q) (h3 : 3 ≤ qN q) : okP (qwo q c) := by
  have hn := h.1
  refine ⟨⟨by show 2 ≤ qN q - 1; omega, by show qN q - 1 ≤ 7; omega⟩, h.2.1, fun t t0 t1 => Pm_wo hn.2 (h.2.2.1 t t0 t1) hc.1 hc.2, h.2.2.2.1, Pm_wo hn.2 h.2.2.2.2.1 hc.1 hc.2, Pm_wo hn.2 h.2.2.2.2.2.1 hc.1 hc.2, fun k a b => h.2.2.2.2.2.2 k a (by have : k < qN q - 1 := b; omega)⟩
