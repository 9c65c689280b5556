section
variable {L : List Sh} {σ : Mm} {p : Int} {q : Pf}
theorem tl_pair {n b x y : Int} {f : Int → Int} (hn : n ≤ 7) (hf : Pm n f) (hx : 0 ≤ x ∧ x < n) (hy : 0 ≤ y ∧ y < n) : tl σ p n f b n (n + 1) (p + 25 + x) y = σ (p + 25 + x) y + if ps f x < ps f y then b else 0 := by
  have s := ps_spec hn hf hx.1 hx.2
  unfold tl
  rw [show p + 25 + x - (p + 25) = x by omega]
  by_cases e : ps f x < ps f y
  · rw [if_pos ⟨by omega, e, by omega⟩, if_pos e]
  · rw [if_neg (fun h => e h.2.1), if_neg e]; omega
theorem u_ne {k i v k' i' : Int} (h : k' ≠ k) : upd2 σ k i v k' i' = σ k' i' := by unfold upd2; rw [if_neg (fun e => h e.1)]
theorem u_ne2 {k i v k' i' : Int} (h : i' ≠ i) : upd2 σ k i v k' i' = σ k' i' := by unfold upd2; rw [if_neg (fun e => h e.2)]
theorem u_eq {k i v : Int} : upd2 σ k i v k i = v := by unfold upd2; rw [if_pos ⟨rfl, rfl⟩]
theorem u_if {k i v i' : Int} : upd2 σ k i v k i' = if i' = i then v else σ k i' := by
  unfold upd2
  by_cases e : i' = i
  · rw [if_pos ⟨rfl, e⟩, if_pos e]
  · rw [if_neg (fun h => e h.2), if_neg e]
theorem uc_ne {k k' : Int} {f : Int → Int} (h : k' ≠ k) : updc σ k f k' = σ k' := by unfold updc; rw [if_neg h]
theorem uc_eq {k : Int} {f : Int → Int} : updc σ k f k = f := by unfold updc; rw [if_pos rfl]
theorem pr_rng (hq : okP q) (hP : isP σ p q) : ∀ a c, 0 ≤ a → a < qN q → 0 ≤ c → c < qN q → -1000000000 ≤ σ (p + 25 + a) c ∧ σ (p + 25 + a) c ≤ 1000000000 := by
  intro a c a0 a1 c0 c1
  rw [hP.2.2.2.2.1 a c a0 a1 c0 c1]
  have := pr_bd hq a c
  omega
theorem c_amount (hY : Lay L) (hp : isPr p) (hq : okP q) (hP : isP σ p q) {t a : Int} (ht : 0 ≤ t ∧ t < qT q) (ha : 0 ≤ a ∧ a ≤ 100001) : Ex 1 y_Prof_amount [vr p, vi t, vi a] L σ (PI L (fun z σ' => z = qA q t ∧ isP σ' p (qam q t a) ∧ FrP p σ σ') NT) := by
  have hn := hq.1
  have hT := hq.2.1
  have hm := hq.2.2.1 t ht.1 ht.2
  have h0 := hq.2.2.2.1 t ht.1 ht.2
  have ea := hP.2.2.2.1 t ht.1 ht.2
  refine e_Prof_amount hY hp ⟨by omega, by omega, ?_⟩
  refine Ex.toV (c_tally hY hp hn.1 hn.2 hm (by omega) hP.1 (fun k k0 k1 => hP.2.2.1 t k ht.1 ht.2 k0 k1) (by omega) (pr_rng hq hP)) ?_ (fun _ _ h => h)
  rintro σ' rfl
  refine ⟨by omega, ea, ⟨?_, ?_, fun s k s0 s1 k0 k1 => ?_, fun s s0 s1 => ?_, fun x y x0 x1 y0 y1 => ?_, fun k k0 k1 => ?_, fun k k0 k1 => ?_, fun k k0 k1 => ?_⟩, fun k j hk => ?_⟩
  · rw [u_ne (by omega), tl_off (by omega)]; exact hP.1
  · rw [u_ne (by omega), tl_off (by omega)]; exact hP.2.1
  · have s1 : s < qT q := s1
    rw [u_ne (by omega), tl_off (by omega)]; exact hP.2.2.1 s k s0 s1 k0 k1
  · have s1 : s < qT q := s1
    rw [u_if, tl_off (by omega), hP.2.2.2.1 s s0 s1]; rfl
  · have x1 : x < qN q := x1
    have y1 : y < qN q := y1
    rw [u_ne (by omega), tl_pair hn.2 hm ⟨x0, x1⟩ ⟨y0, y1⟩, hP.2.2.2.2.1 x y x0 x1 y0 y1, pr_qam hq ht, ea]
  · rw [u_ne (by omega), tl_off (by omega)]; exact hP.2.2.2.2.2.1 k k0 k1
  · rw [u_ne (by omega), tl_off (by omega)]; exact hP.2.2.2.2.2.2.1 k k0 k1
  · rw [u_ne (by omega), tl_off (by omega)]; exact hP.2.2.2.2.2.2.2 k k0 k1
  · rw [u_ne (by omega), tl_off (by omega)]
theorem c_add (hY : Lay L) (hp : isPr p) (hq : okP q) (hP : isP σ p q) {x a : Int} {n1 : Nat} (hx : LkA L x 1 n1) (hn1 : qN q ≤ n1) (hxp : x < p ∨ p + 35 ≤ x) (hf : Pm (qN q) (σ x)) (ha : 0 ≤ a ∧ a ≤ 100001) (hT0 : qT q ≤ 20) : Ex 1 y_Prof_add [vr p, vr x, vi a] L σ (PV L (fun σ' => isP σ' p (qadd q (σ x) a) ∧ FrP p σ σ') NT) := by
  have hn := hq.1
  have hT := hq.2.1
  have e0 := hP.1
  have e1 := hP.2.1
  refine e_Prof_add hY hp hx ?_
  rw [e1, e0, uc_ne (show p ≠ p + 2 + qT q by omega), e1, u_ne (show p ≠ p + 23 by omega), uc_ne (show p ≠ p + 2 + qT q by omega), e1]
  refine ⟨by omega, by omega, by omega, ?_⟩
  generalize hσ₁ : upd2 (updc σ (p + 2 + qT q) (fun j => if 0 ≤ j ∧ j < qN q then σ x j else σ (p + 2 + qT q) j)) (p + 23) (qT q) a = σ₁
  have o : ∀ k j, k ≠ p + 23 → k ≠ p + 2 + qT q → σ₁ k j = σ k j := by
    intro k j h1 h2
    rw [← hσ₁, u_ne h1, uc_ne h2]
  have ol : ∀ k, 0 ≤ k → k < qN q → σ₁ (p + 2 + qT q) k = σ x k := by
    intro k k0 k1
    rw [← hσ₁, u_ne (by omega), uc_eq, if_pos ⟨k0, k1⟩]
  have oa : ∀ k, σ₁ (p + 23) k = if k = qT q then a else σ (p + 23) k := by
    intro k
    rw [← hσ₁, u_if, uc_ne (by omega)]
  refine Ex.toV (c_tally hY hp hn.1 hn.2 hf (by omega) (by rw [o _ _ (by omega) (by omega)]; exact e0) ol (by omega) (fun a c a0 a1 c0 c1 => by rw [o _ _ (by omega) (by omega)]; exact pr_rng hq hP a c a0 a1 c0 c1)) ?_ (fun _ _ h => h)
  rintro σ' rfl
  rw [tl_off (show ¬ (p + 25 ≤ p ∧ p < p + 25 + qN q) by omega), o _ _ (show p ≠ p + 23 by omega) (show p ≠ p + 2 + qT q by omega), e1]
  refine ⟨by omega, ⟨?_, ?_, fun s k s0 s1 k0 k1 => ?_, fun s s0 s1 => ?_, fun x y x0 x1 y0 y1 => ?_, fun k k0 k1 => ?_, fun k k0 k1 => ?_, fun k k0 k1 => ?_⟩, fun k j hk => ?_⟩
  · rw [u_ne2 (by omega), tl_off (by omega), o _ _ (by omega) (by omega)]; exact hP.1
  · rw [u_eq]; rfl
  · have s1 : s < qT q + 1 := s1
    rw [u_ne (by omega), tl_off (by omega)]
    show _ = (if s = qT q then σ x else qL q s) k
    by_cases e : s = qT q
    · rw [if_pos e, e, ol k k0 k1]
    · rw [if_neg e, o _ _ (by omega) (by omega)]; exact hP.2.2.1 s k s0 (by omega) k0 k1
  · have s1 : s < qT q + 1 := s1
    rw [u_ne (by omega), tl_off (by omega), oa]
    show _ = (if s = qT q then a else qA q s)
    by_cases e : s = qT q
    · rw [if_pos e, if_pos e]
    · rw [if_neg e, if_neg e]; exact hP.2.2.2.1 s s0 (by omega)
  · have x1 : x < qN q := x1
    have y1 : y < qN q := y1
    rw [u_ne (by omega), tl_pair hn.2 hf ⟨x0, x1⟩ ⟨y0, y1⟩, o _ _ (by omega) (by omega), hP.2.2.2.2.1 x y x0 x1 y0 y1, pr_qadd hq]
  · rw [u_ne (by omega), tl_off (by omega), o _ _ (by omega) (by omega)]; exact hP.2.2.2.2.2.1 k k0 k1
  · rw [u_ne (by omega), tl_off (by omega), o _ _ (by omega) (by omega)]; exact hP.2.2.2.2.2.2.1 k k0 k1
  · rw [u_ne (by omega), tl_off (by omega), o _ _ (by omega) (by omega)]; exact hP.2.2.2.2.2.2.2 k k0 k1
  · rw [u_ne (by omega), tl_off (by omega), o _ _ (by omega) (by omega)]
/-- while types move up -/
def dropI (σ σ₀ : Mm) (p : Int) (q : Pf) (t k : Int) : Prop := σ p 0 = qN q ∧ σ p 1 = qT q - 1 ∧ (∀ s j, 0 ≤ s → s < qT q → 0 ≤ j → j < qN q → (s < k → σ (p + 2 + s) j = if s < t then qL q s j else qL q (s + 1) j) ∧ (k ≤ s → σ (p + 2 + s) j = qL q s j)) ∧ (∀ s, 0 ≤ s → s < qT q → (s < k → σ (p + 23) s = if s < t then qA q s else qA q (s + 1)) ∧ (k ≤ s → σ (p + 23) s = qA q s)) ∧ (∀ a b, 0 ≤ a → a < qN q → 0 ≤ b → b < qN q → σ (p + 25 + a) b = pr (qdrop q t) a b) ∧ (∀ k j, k = p + 32 ∨ k = p + 33 ∨ k = p + 34 → σ k j = σ₀ k j) ∧ FrP p σ₀ σ
theorem c_drop (hY : Lay L) (hp : isPr p) (hq : okP q) (hP : isP σ p q) {t : Int} (ht : 0 ≤ t ∧ t < qT q) : Ex 1 y_Prof_drop [vr p, vi t] L σ (PV L (fun σ' => isP σ' p (qdrop q t) ∧ FrP p σ σ') NT) := by
  have hn := hq.1
  have hT := hq.2.1
  have hm := hq.2.2.1 t ht.1 ht.2
  have h0 := hq.2.2.2.1 t ht.1 ht.2
  have ea := hP.2.2.2.1 t ht.1 ht.2
  refine e_Prof_drop hY hp ⟨by omega, by omega, ?_⟩
  refine Ex.toV (c_tally hY hp hn.1 hn.2 hm (by omega) hP.1 (fun k k0 k1 => hP.2.2.1 t k ht.1 ht.2 k0 k1) (by omega) (pr_rng hq hP)) ?_ (fun _ _ h => h)
  rintro σ' rfl
  have e1 := hP.2.1
  rw [tl_off (show ¬ (p + 25 ≤ p ∧ p < p + 25 + qN q) by omega), e1]
  refine ⟨by omega, ?_⟩
  have key := upto (P := fun k => ∀ σ', dropI σ' σ p q t k → G_Prof_drop_24 0 L σ' (fun σ' => isP σ' p (qdrop q t) ∧ FrP p σ σ') NT p k) (a := t) (n := qT q - 1) ?_ ?_ t (by omega) (by omega)
  · refine key _ ⟨?_, ?_, fun s j s0 s1 j0 j1 => ⟨fun h => ?_, fun h => ?_⟩, fun s s0 s1 => ⟨fun h => ?_, fun h => ?_⟩, fun a b a0 a1 b0 b1 => ?_, fun k j hk => ?_, fun k j hk => ?_⟩
    · rw [u_ne2 (by omega), tl_off (by omega)]; exact hP.1
    · rw [u_eq]
    · rw [if_pos h, u_ne (by omega), tl_off (by omega)]; exact hP.2.2.1 s j s0 s1 j0 j1
    · rw [u_ne (by omega), tl_off (by omega)]; exact hP.2.2.1 s j s0 s1 j0 j1
    · rw [if_pos h, u_ne (by omega), tl_off (by omega)]; exact hP.2.2.2.1 s s0 s1
    · rw [u_ne (by omega), tl_off (by omega)]; exact hP.2.2.2.1 s s0 s1
    · rw [u_ne (by omega), tl_pair hn.2 hm ⟨a0, a1⟩ ⟨b0, b1⟩, hP.2.2.2.2.1 a b a0 a1 b0 b1, pr_qdrop ht, ea]
      split <;> omega
    · rw [u_ne (by omega), tl_off (by omega)]
    · rw [u_ne (by omega), tl_off (by omega)]
  · rintro σ' ⟨i1, i2, i3, i4, i5, i6, i7⟩
    refine r_Prof_drop_24 hY hp ⟨fun h => ⟨⟨i1, i2, fun s k s0 s1 k0 k1 => ?_, fun s s0 s1 => ?_, i5, fun k k0 k1 => ?_, fun k k0 k1 => ?_, fun k k0 k1 => ?_⟩, i7⟩, fun h => absurd h (by omega)⟩
    · have s1 : s < qT q - 1 := s1
      rw [(i3 s k s0 (by omega) k0 k1).1 (by omega)]
      show _ = (if s < t then qL q s else qL q (s + 1)) k
      split <;> rfl
    · have s1 : s < qT q - 1 := s1
      rw [(i4 s s0 (by omega)).1 (by omega)]; rfl
    · rw [i6 _ _ (by omega)]; exact hP.2.2.2.2.2.1 k k0 k1
    · rw [i6 _ _ (by omega)]; exact hP.2.2.2.2.2.2.1 k k0 k1
    · rw [i6 _ _ (by omega)]; exact hP.2.2.2.2.2.2.2 k k0 k1
  · rintro k k0 k1 ih σ' ⟨i1, i2, i3, i4, i5, i6, i7⟩
    refine r_Prof_drop_24 hY hp ⟨fun h => absurd h (by omega), fun h => ⟨by omega, by omega, by omega, by omega, by omega, by omega, by omega, by omega, ?_⟩⟩
    rw [i1, uc_ne (show p + 23 ≠ p + 2 + k by omega)]
    refine ih _ ⟨?_, ?_, fun s j s0 s1 j0 j1 => ⟨fun h => ?_, fun h => ?_⟩, fun s s0 s1 => ⟨fun h => ?_, fun h => ?_⟩, fun a b a0 a1 b0 b1 => ?_, fun k j hk => ?_, fun k' j hk => ?_⟩
    · rw [u_ne (by omega), uc_ne (by omega)]; exact i1
    · rw [u_ne (by omega), uc_ne (by omega)]; exact i2
    · rw [u_ne (by omega)]
      by_cases e : s = k
      · rw [e, uc_eq, if_pos ⟨j0, j1⟩, if_neg (by omega), show p + 2 + (k + 1) = p + 2 + (k + 1) from rfl]
        exact (i3 (k + 1) j (by omega) (by omega) j0 j1).2 (by omega)
      · rw [uc_ne (by omega)]
        exact (i3 s j s0 s1 j0 j1).1 (by omega)
    · rw [u_ne (by omega), uc_ne (by omega)]
      exact (i3 s j s0 s1 j0 j1).2 (by omega)
    · rw [u_if, uc_ne (by omega)]
      by_cases e : s = k
      · rw [if_pos e, if_neg (by omega), e]
        exact (i4 (k + 1) (by omega) (by omega)).2 (by omega)
      · rw [if_neg e]
        exact (i4 s s0 s1).1 (by omega)
    · rw [u_if, uc_ne (by omega), if_neg (by omega)]
      exact (i4 s s0 s1).2 (by omega)
    · rw [u_ne (by omega), uc_ne (by omega)]; exact i5 a b a0 a1 b0 b1
    · rw [u_ne (by omega), uc_ne (by omega)]; exact i6 k j hk
    · rw [u_ne (by omega), uc_ne (by omega)]; exact i7 k' j hk
end
