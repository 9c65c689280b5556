section
variable {L : List Sh} {σ : Mm} {p : Int} {q : Pf}
theorem c_begin (hY : Lay L) (hp : isPr p) {n : Int} (hn : 2 ≤ n ∧ n ≤ 7) : Ex 0 y_Prof_begin [vr p, vi n] L σ (PV L (fun σ' => isP σ' p (q0 n) ∧ FrP p σ σ') NT) := by
  refine e_Prof_begin hY hp ?_
  have fin := upto (P := fun k => ∀ σ', (σ' p 0 = n ∧ σ' p 1 = 0 ∧ (∀ a b, 0 ≤ a → a < 7 → 0 ≤ b → b < 7 → σ' (p + 25 + a) b = 0) ∧ (∀ j, 0 ≤ j → j < k → σ' (p + 32) j = j ∧ σ' (p + 33) j = j ∧ σ' (p + 34) j = n - 1 - j) ∧ FrP p σ σ') → G_Prof_begin_49 0 L σ' (fun σ' => isP σ' p (q0 n) ∧ FrP p σ σ') NT p n k) (a := 0) (n := n) ?_ ?_ 0 (by omega) (by omega)
  · have outer := upto (P := fun x => ∀ σ', (σ' p 0 = n ∧ σ' p 1 = 0 ∧ (∀ a b, 0 ≤ a → a < x → 0 ≤ b → b < 7 → σ' (p + 25 + a) b = 0) ∧ FrP p σ σ') → G_Prof_begin_12 0 L σ' (fun σ' => isP σ' p (q0 n) ∧ FrP p σ σ') NT p n x) (a := 0) (n := 7) ?_ ?_ 0 (by omega) (by omega)
    · refine outer _ ⟨?_, u_eq, fun a b a0 a1 => absurd a1 (by omega), fun k j hk => ?_⟩
      · rw [u_ne2 (by omega), u_eq]
      · rw [u_ne (by omega), u_ne (by omega)]
    · rintro σ' ⟨h1, h2, h3, h4⟩
      exact r_Prof_begin_12 hY hp ⟨fun h => fin σ' ⟨h1, h2, h3, fun j j0 j1 => absurd j1 (by omega), h4⟩, fun h => absurd h (by omega)⟩
    · rintro x x0 x1 ih σ' ⟨h1, h2, h3, h4⟩
      refine r_Prof_begin_12 hY hp ⟨fun h => absurd h (by omega), fun h => ?_⟩
      refine upto (P := fun y => ∀ σ', (σ' p 0 = n ∧ σ' p 1 = 0 ∧ (∀ a b, 0 ≤ a → a < x → 0 ≤ b → b < 7 → σ' (p + 25 + a) b = 0) ∧ (∀ b, 0 ≤ b → b < y → σ' (p + 25 + x) b = 0) ∧ FrP p σ σ') → G_Prof_begin_20 0 L σ' (fun σ' => isP σ' p (q0 n) ∧ FrP p σ σ') NT p n x y) (a := 0) (n := 7) ?_ ?_ 0 (by omega) (by omega) σ' ⟨h1, h2, h3, fun b b0 b1 => absurd b1 (by omega), h4⟩
      · rintro σ' ⟨h1, h2, h3, h5, h4⟩
        refine r_Prof_begin_20 hY hp ⟨fun h => ⟨by omega, ih σ' ⟨h1, h2, fun a b a0 a1 b0 b1 => ?_, h4⟩⟩, fun h => absurd h (by omega)⟩
        by_cases e : a = x
        · rw [e]; exact h5 b b0 b1
        · exact h3 a b a0 (by omega) b0 b1
      · rintro y y0 y1 ihy σ' ⟨h1, h2, h3, h5, h4⟩
        refine r_Prof_begin_20 hY hp ⟨fun h => absurd h (by omega), fun h => ⟨by omega, by omega, by omega, ihy _ ⟨?_, ?_, fun a b a0 a1 b0 b1 => ?_, fun b b0 b1 => ?_, fun k j hk => ?_⟩⟩⟩
        · rw [u_ne (by omega)]; exact h1
        · rw [u_ne (by omega)]; exact h2
        · rw [u_ne (by omega)]; exact h3 a b a0 a1 b0 b1
        · rw [u_if]
          by_cases e : b = y
          · rw [if_pos e]
          · rw [if_neg e]; exact h5 b b0 (by omega)
        · rw [u_ne (by omega)]; exact h4 k j hk
  · rintro σ' ⟨h1, h2, h3, h5, h4⟩
    refine r_Prof_begin_49 hY hp ⟨fun h => ⟨⟨h1, h2, fun t k t0 t1 => absurd (show t < 0 from t1) (by omega), fun t t0 t1 => absurd (show t < 0 from t1) (by omega), fun a b a0 a1 b0 b1 => ?_, fun k k0 k1 => (h5 k k0 k1).1, fun k k0 k1 => (h5 k k0 k1).2.1, fun k k0 k1 => (h5 k k0 k1).2.2⟩, h4⟩, fun h => absurd h (by omega)⟩
    have a1 : a < n := a1
    have b1 : b < n := b1
    rw [h3 a b a0 (by omega) b0 (by omega)]
    rfl
  · rintro k k0 k1 ih σ' ⟨h1, h2, h3, h5, h4⟩
    refine r_Prof_begin_49 hY hp ⟨fun h => absurd h (by omega), fun h => ⟨by omega, by omega, by omega, by omega, by omega, by omega, ih _ ⟨?_, ?_, fun a b a0 a1 b0 b1 => ?_, fun j j0 j1 => ?_, fun k' j hk => ?_⟩⟩⟩
    · rw [u_ne (by omega), u_ne (by omega), u_ne (by omega)]; exact h1
    · rw [u_ne (by omega), u_ne (by omega), u_ne (by omega)]; exact h2
    · rw [u_ne (by omega), u_ne (by omega), u_ne (by omega)]; exact h3 a b a0 a1 b0 b1
    · rw [u_ne (show p + 32 ≠ p + 34 by omega), u_ne (show p + 32 ≠ p + 33 by omega), u_if, u_ne (show p + 33 ≠ p + 34 by omega), u_if, u_ne (show p + 33 ≠ p + 32 by omega), u_if, u_ne (show p + 34 ≠ p + 33 by omega), u_ne (show p + 34 ≠ p + 32 by omega)]
      by_cases e : j = k
      · rw [if_pos e, if_pos e, if_pos e]; omega
      · rw [if_neg e, if_neg e, if_neg e]; exact h5 j j0 (by omega)
    · rw [u_ne (by omega), u_ne (by omega), u_ne (by omega)]; exact h4 k' j hk
/-- an order is written elsewhere without a candidate -/
theorem c_leave (hY : Lay L) {x y n c : Int} {n0 n1 : Nat} (hx : LkA L x 1 n0) (hy : LkA L y 1 n1) (hn0 : n ≤ n0) (hn1 : n ≤ n1 + 1) (hxy : x ≠ y) (hn : 2 ≤ n ∧ n ≤ 7) {f : Int → Int} (hf : Pm n f) (hfx : ∀ k, 0 ≤ k → k < n → σ x k = f k) (hc : 0 ≤ c ∧ c < n) :
    Ex 0 y_Prof_leave [vr x, vr y, vi n, vi c] L σ (PV L (fun σ' => (∀ j, 0 ≤ j → j < n - 1 → σ' y j = wo f c j) ∧ ∀ k j, k ≠ y → σ' k j = σ k j) NT) := by
  have hs := ps_spec hn.2 hf hc.1 hc.2
  refine e_Prof_leave hY hx hy ?_
  have main := upto (P := fun i => ∀ σ', ((∀ j, 0 ≤ j → j < (if i ≤ ps f c then i else i - 1) → σ' y j = wo f c j) ∧ ∀ k j, k ≠ y → σ' k j = σ k j) → G_Prof_leave_6 0 L σ' (fun σ' => (∀ j, 0 ≤ j → j < n - 1 → σ' y j = wo f c j) ∧ ∀ k j, k ≠ y → σ' k j = σ k j) NT x y n c (if i ≤ ps f c then i else i - 1) i) (a := 0) (n := n) ?_ ?_ 0 (by omega) (by omega) σ
  · rw [if_pos (by omega)] at main
    exact main ⟨fun j j0 j1 => absurd j1 (by omega), fun _ _ _ => rfl⟩
  · rintro σ' ⟨h1, h2⟩
    rw [if_neg (by omega)] at h1
    rw [if_neg (by omega)]
    exact r_Prof_leave_6 hY hx hy ⟨fun h => ⟨h1, h2⟩, fun h => absurd h (by omega)⟩
  · rintro i i0 i1 ih σ' ⟨h1, h2⟩
    have ex := h2 x i hxy
    rw [hfx i i0 i1] at ex
    have fi := hf.1 i i0 i1
    have hw : i ≠ ps f c → wo f c (if i ≤ ps f c then i else i - 1) = if c < f i then f i - 1 else f i := by
      intro hne
      unfold wo
      have e : (if (if i ≤ ps f c then i else i - 1) < ps f c then (if i ≤ ps f c then i else i - 1) else (if i ≤ ps f c then i else i - 1) + 1) = i := by
        by_cases g : i ≤ ps f c
        · rw [if_pos g, if_pos (by omega)]
        · rw [if_neg g, if_neg (by omega)]; omega
      rw [e]
    have hat := ps_at hn.2 hf i0 i1
    have hidx : (if i + 1 ≤ ps f c then i + 1 else i + 1 - 1) = if i = ps f c then (if i ≤ ps f c then i else i - 1) else (if i ≤ ps f c then i else i - 1) + 1 := by
      by_cases g : i = ps f c
      · rw [if_neg (show ¬ i + 1 ≤ ps f c by omega), if_pos g, if_pos (show i ≤ ps f c by omega)]; omega
      · rw [if_neg g]
        by_cases g2 : i ≤ ps f c
        · rw [if_pos g2, if_pos (by omega)]
        · rw [if_neg g2, if_neg (by omega)]; omega
    have hr : 0 ≤ (if i ≤ ps f c then i else i - 1) ∧ (if i ≤ ps f c then i else i - 1) ≤ i ∧ (i ≠ ps f c → (if i ≤ ps f c then i else i - 1) < n - 1) := by
      split <;> omega
    have wr : i ≠ ps f c → ∀ v, v = (if c < f i then f i - 1 else f i) → G_Prof_leave_6 0 L (upd2 σ' y (if i ≤ ps f c then i else i - 1) v) (fun σ' => (∀ j, 0 ≤ j → j < n - 1 → σ' y j = wo f c j) ∧ ∀ k j, k ≠ y → σ' k j = σ k j) NT x y n c ((if i ≤ ps f c then i else i - 1) + 1) (i + 1) := by
      intro hne v hv
      have hi := ih (upd2 σ' y (if i ≤ ps f c then i else i - 1) v)
      rw [hidx, if_neg hne] at hi
      refine hi ⟨fun j j0 j1 => ?_, fun k j hk => by rw [u_ne hk]; exact h2 k j hk⟩
      rw [u_if]
      by_cases g : j = (if i ≤ ps f c then i else i - 1)
      · rw [if_pos g, g, hw hne]; exact hv
      · rw [if_neg g]; exact h1 j j0 (by omega)
    refine r_Prof_leave_6 hY hx hy ⟨fun h => absurd h (by omega), fun h => ⟨by omega, fun h3 => ⟨by omega, fun h4 => ?_, fun h4 => ?_⟩, fun h3 => ⟨by omega, ?_⟩⟩⟩
    · rw [ex] at h3 h4
      have hne : i ≠ ps f c := fun e => h3 (by rw [e]; exact hs.2.2)
      refine ⟨by omega, by have := hr.2.2 hne; omega, by omega, by omega, ?_⟩
      rw [ex]
      exact wr hne _ (by rw [if_neg (by omega)])
    · rw [ex] at h3 h4
      have hne : i ≠ ps f c := fun e => h3 (by rw [e]; exact hs.2.2)
      refine ⟨by omega, by rw [ex]; omega, by have := hr.2.2 hne; omega, by omega, by omega, ?_⟩
      rw [ex]
      exact wr hne _ (by rw [if_pos h4])
    · rw [ex] at h3
      rw [h3] at hat
      have hi := ih σ'
      rw [hidx, if_pos hat.symm] at hi
      exact hi ⟨h1, h2⟩
/-- the types so far without a candidate -/
noncomputable def qpt (q : Pf) (c t : Int) : Pf := (qN q - 1, t, fun s => wo (qL q s) c, qA q, fun k => k, fun k => k, fun k => qN q - 1 - 1 - k)
theorem okP.qpt {q : Pf} (h : okP q) {c t : Int} (hc : 0 ≤ c ∧ c < qN q) (h3 : 3 ≤ qN q) (ht : 0 ≤ t ∧ t ≤ qT q) : okP (qpt q c t) := by
  have hn := h.1
  have hT := h.2.1
  refine ⟨⟨by show 2 ≤ qN q - 1; omega, by show qN q - 1 ≤ 7; omega⟩, ⟨ht.1, by show t ≤ 21; omega⟩, fun s s0 s1 => ?_, fun s s0 s1 => ?_, Pm.id, Pm.id, fun k a b => ?_⟩
  · have s1 : s < t := s1
    exact Pm_wo hn.2 (h.2.2.1 s s0 (by omega)) hc.1 hc.2
  · have s1 : s < t := s1
    exact h.2.2.2.1 s s0 (by omega)
  · have b : k < qN q - 1 := b
    show 0 ≤ qN q - 1 - 1 - k ∧ qN q - 1 - 1 - k ≤ 1000
    omega
theorem c_without (hY : Lay L) (hp : isPr p) {p' : Int} (hp' : isPr p') (hne : p ≠ p') (hq : okP q) (hP : isP σ p q) {c : Int} (hc : 0 ≤ c ∧ c < qN q) (h3 : 3 ≤ qN q) :
    Ex 2 y_Prof_without [vr p, vi c, vr p'] L σ (PV L (fun σ' => isP σ' p' (qwo q c) ∧ ∀ k j, ¬ (p' ≤ k ∧ k < p' + 35) → k ≠ p + 35 → σ' k j = σ k j) NT) := by
  have hn := hq.1
  have hT := hq.2.1
  have hpp : (p = 30 ∧ p' = 66) ∨ (p = 66 ∧ p' = 30) := by
    unfold isPr at hp hp'
    omega
  refine e_Prof_without hY hp hp' ⟨by rw [hP.1]; omega, ?_⟩
  rw [hP.1]
  refine (Ex.toV (c_begin hY hp' (n := qN q - 1) (by omega)) ?_ (fun _ _ h => h)).deep (by omega)
  rintro σ₁ ⟨b1, b2⟩
  have isq : ∀ σ' : Mm, (∀ k j, ¬ (p' ≤ k ∧ k < p' + 35) → k ≠ p + 35 → σ' k j = σ k j) → isP σ' p q := by
    intro σ' h
    refine ⟨by rw [h _ _ (by omega) (by omega)]; exact hP.1, by rw [h _ _ (by omega) (by omega)]; exact hP.2.1, fun t k t0 t1 k0 k1 => by rw [h _ _ (by omega) (by omega)]; exact hP.2.2.1 t k t0 t1 k0 k1, fun t t0 t1 => by rw [h _ _ (by omega) (by omega)]; exact hP.2.2.2.1 t t0 t1, fun a b a0 a1 b0 b1 => by rw [h _ _ (by omega) (by omega)]; exact hP.2.2.2.2.1 a b a0 a1 b0 b1, fun k k0 k1 => by rw [h _ _ (by omega) (by omega)]; exact hP.2.2.2.2.2.1 k k0 k1, fun k k0 k1 => by rw [h _ _ (by omega) (by omega)]; exact hP.2.2.2.2.2.2.1 k k0 k1, fun k k0 k1 => by rw [h _ _ (by omega) (by omega)]; exact hP.2.2.2.2.2.2.2 k k0 k1⟩
  refine upto (P := fun t => ∀ σ', (isP σ' p' (qpt q c t) ∧ ∀ k j, ¬ (p' ≤ k ∧ k < p' + 35) → k ≠ p + 35 → σ' k j = σ k j) → G_Prof_without_12 1 L σ' (fun σ' => isP σ' p' (qwo q c) ∧ ∀ k j, ¬ (p' ≤ k ∧ k < p' + 35) → k ≠ p + 35 → σ' k j = σ k j) NT p p' c t) (a := 0) (n := qT q) ?_ ?_ 0 (by omega) (by omega) σ₁ ⟨?_, fun k j h1 h2 => b2 k j h1⟩
  · rintro σ' ⟨i1, i2⟩
    have iq := isq σ' i2
    refine r_Prof_without_12 hY hp hp' ⟨fun h => ?_, fun h => absurd h (by rw [iq.2.1]; omega)⟩
    rw [iq.1]
    refine (Ex.toV (c_leave hY (lk_ti hY hp) (lk_ti hY hp') (by omega) (by omega) (by omega) (by omega) hq.2.2.2.2.1 iq.2.2.2.2.2.1 hc) ?_ (fun _ _ h => h)).deep (by omega)
    rintro σ₂ ⟨l1, l2⟩
    rw [l2 p 0 (by omega), iq.1]
    refine (Ex.toV (c_leave hY (lk_ag hY hp) (lk_ag hY hp') (by omega) (by omega) (by omega) (by omega) hq.2.2.2.2.2.1 (fun k k0 k1 => by rw [l2 _ _ (by omega)]; exact iq.2.2.2.2.2.2.1 k k0 k1) hc) ?_ (fun _ _ h => h)).deep (by omega)
    rintro σ₃ ⟨m1, m2⟩
    have e0 : σ₃ p 0 = qN q := by rw [m2 _ _ (by omega), l2 _ _ (by omega)]; exact iq.1
    rw [e0]
    refine ⟨by omega, by omega, ⟨?_, ?_, fun t k t0 t1 k0 k1 => ?_, fun t t0 t1 => ?_, fun a b a0 a1 b0 b1 => ?_, fun k k0 k1 => ?_, fun k k0 k1 => ?_, fun k k0 k1 => ?_⟩, fun k j h1 h2 => ?_⟩
    · rw [uc_ne (by omega), m2 _ _ (by omega), l2 _ _ (by omega)]; exact i1.1
    · rw [uc_ne (by omega), m2 _ _ (by omega), l2 _ _ (by omega)]; exact i1.2.1
    · have t1 : t < qT q := t1
      rw [uc_ne (by omega), m2 _ _ (by omega), l2 _ _ (by omega)]; exact i1.2.2.1 t k t0 t1 k0 k1
    · have t1 : t < qT q := t1
      rw [uc_ne (by omega), m2 _ _ (by omega), l2 _ _ (by omega)]; exact i1.2.2.2.1 t t0 t1
    · have a1 : a < qN q - 1 := a1
      rw [uc_ne (by omega), m2 _ _ (by omega), l2 _ _ (by omega)]; exact i1.2.2.2.2.1 a b a0 a1 b0 b1
    · rw [uc_ne (by omega), m2 _ _ (by omega)]; exact l1 k k0 k1
    · rw [uc_ne (by omega)]; exact m1 k k0 k1
    · have k1 : k < qN q - 1 := k1
      rw [uc_eq, if_pos ⟨k0, k1⟩, m2 _ _ (by omega), l2 _ _ (by omega)]; exact iq.2.2.2.2.2.2.2 k k0 (by omega)
    · rw [uc_ne (by omega), m2 _ _ (by omega), l2 _ _ (by omega)]; exact i2 k j h1 h2
  · rintro t t0 t1 ih σ' ⟨i1, i2⟩
    have iq := isq σ' i2
    have hm := hq.2.2.1 t t0 t1
    have ha := hq.2.2.2.1 t t0 t1
    refine r_Prof_without_12 hY hp hp' ⟨fun h => absurd h (by rw [iq.2.1]; omega), fun h => ⟨by omega, ?_⟩⟩
    rw [iq.1]
    refine (Ex.toV (c_leave hY (lk_pl hY hp (t := t) (by omega)) (lk_ro hY hp) (by omega) (by omega) (by omega) (by omega) hm (fun k k0 k1 => iq.2.2.1 t k t0 t1 k0 k1) hc) ?_ (fun _ _ h => h)).deep (by omega)
    rintro σ₂ ⟨l1, l2⟩
    have ea : σ₂ (p + 23) t = qA q t := by rw [l2 _ _ (by omega)]; exact iq.2.2.2.1 t t0 t1
    rw [ea]
    have ok1 := hq.qpt hc h3 (t := t) (by omega)
    have i1' : isP σ₂ p' (qpt q c t) := by
      refine ⟨by rw [l2 _ _ (by omega)]; exact i1.1, by rw [l2 _ _ (by omega)]; exact i1.2.1, fun s k s0 s1 k0 k1 => ?_, fun s s0 s1 => ?_, fun a b a0 a1 b0 b1 => ?_, fun k k0 k1 => ?_, fun k k0 k1 => ?_, fun k k0 k1 => ?_⟩
      · have s1 : s < t := s1
        rw [l2 _ _ (by omega)]; exact i1.2.2.1 s k s0 s1 k0 k1
      · have s1 : s < t := s1
        rw [l2 _ _ (by omega)]; exact i1.2.2.2.1 s s0 s1
      · have a1 : a < qN q - 1 := a1
        rw [l2 _ _ (by omega)]; exact i1.2.2.2.2.1 a b a0 a1 b0 b1
      · rw [l2 _ _ (by omega)]; exact i1.2.2.2.2.2.1 k k0 k1
      · rw [l2 _ _ (by omega)]; exact i1.2.2.2.2.2.2.1 k k0 k1
      · rw [l2 _ _ (by omega)]; exact i1.2.2.2.2.2.2.2 k k0 k1
    have hpm : Pm (qN q - 1) (σ₂ (p + 35)) := (Pm_wo hn.2 hm hc.1 hc.2).ext (fun k k0 k1 => (l1 k k0 k1).symm)
    refine ⟨by omega, ?_⟩
    refine (Ex.toV (c_add hY hp' ok1 i1' (lk_ro hY hp) (by show qN q - 1 ≤ 7; omega) (by omega) hpm ha (by show t ≤ 20; omega)) ?_ (fun _ _ h => h)).deep (by omega)
    rintro σ₃ ⟨a1, a2⟩
    refine ⟨by omega, ih σ₃ ⟨isP.eqv (ok1.qadd hpm ha (by show t ≤ 20; omega)) a1 ⟨rfl, rfl, fun s k s0 s1 k0 k1 => ?_, fun s s0 s1 => ?_, fun _ _ _ => rfl, fun _ _ _ => rfl, fun _ _ _ => rfl⟩, fun k j h1 h2 => ?_⟩⟩
    · show (if s = t then σ₂ (p + 35) else wo (qL q s) c) k = wo (qL q s) c k
      by_cases e : s = t
      · rw [if_pos e, e]; exact l1 k k0 k1
      · rw [if_neg e]
    · show (if s = t then qA q t else qA q s) = qA q s
      by_cases e : s = t
      · rw [if_pos e, e]
      · rw [if_neg e]
    · rw [a2 k j h1, l2 k j h2]; exact i2 k j h1 h2
  · exact b1.eqv (okP.q0 (by omega)) ⟨rfl, rfl, fun t k t0 t1 => absurd (show t < 0 from t1) (by omega), fun t t0 t1 => absurd (show t < 0 from t1) (by omega), fun _ _ _ => rfl, fun _ _ _ => rfl, fun _ _ _ => rfl⟩
end
