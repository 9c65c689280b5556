/-! THE MODEL's ELIMINATION -/
section
variable {L : List Sh} {σ : Mm} {q : Pf}
theorem m_weakest (hY : Lay L) (hq : okP q) (hC : isC σ q) {s : Int} (hs : nz s (qN q)) : Ex 1 y_Mod_weakest [vr 102, vi s] L σ (PI L (fun z σ' => isM z (qN q) (lw q s) ∧ σ' = σ) NT) := by
  have hn := hq.1
  refine e_Mod_weakest hY ?_
  refine upto (P := fun a => ∀ z, isM z a (lw q s) → G_Mod_weakest_4 0 L σ (fun z σ' => isM z (qN q) (lw q s) ∧ σ' = σ) NT s z a) (a := 0) (n := qN q) ?_ ?_ 0 (by omega) (by omega) 0 (isM.zero _)
  · intro z hz
    exact r_Mod_weakest_4 hY ⟨fun _ => ⟨hz, rfl⟩, fun g => absurd g (by rw [hC.1]; omega)⟩
  · intro a a0 a1 ih z hz
    have inner : ∀ w, w = bI (bz s a = 1) → G_Mod_weakest_31 0 L σ (fun z σ' => isM z (qN q) (lw q s) ∧ σ' = σ) NT s z a w 0 := by
      intro w hw
      have out0 : ∀ b, G_Mod_weakest_31 0 L σ (fun z σ' => isM z (qN q) (lw q s) ∧ σ' = σ) NT s z a 0 b ∨ True := fun _ => Or.inr trivial
      refine upto (P := fun b => ∀ w, w = bI (bz s a = 1 ∧ ∀ j, 0 ≤ j → j < b → bz s j = 1 → fs q s a ≤ fs q s j) → G_Mod_weakest_31 0 L σ (fun z σ' => isM z (qN q) (lw q s) ∧ σ' = σ) NT s z a w b) (a := 0) (n := qN q) ?_ ?_ 0 (by omega) (by omega) w (by rw [hw]; exact bI_iff ⟨fun h => ⟨h, fun j j0 j1 => absurd j1 (by omega)⟩, fun h => h.1⟩)
      · intro w hw
        refine r_Mod_weakest_31 hY ⟨fun _ => ⟨fun e => ⟨by omega, ih z (hz.skip ?_)⟩, fun e => ⟨by omega, ih _ (hz.or a0 (by omega) ?_)⟩⟩, fun g => absurd g (by rw [hC.1]; omega)⟩
        · rw [hw] at e; exact bI_f e
        · rw [hw] at e; exact bI_t e
      · intro b b0 b1 ihb w hw
        refine r_Mod_weakest_31 hY ⟨fun g => absurd g (by rw [hC.1]; omega), fun _ => ⟨fun e => ⟨fun _ => ⟨by omega, ih z (hz.skip ?_)⟩, fun w => absurd e w⟩, fun e => ?_⟩⟩
        · rw [hw] at e
          exact fun v => bI_f e ⟨v.1, fun j j0 j1 => v.2 j j0 (by omega)⟩
        · rw [hw] at e
          have e := bI_t e
          rw [bit_eq hs.1 hs.2.1 b0 (by omega)]
          have yes : (bz s b = 1 → fs q s a ≤ fs q s b) → G_Mod_weakest_31 0 L σ (fun z σ' => isM z (qN q) (lw q s) ∧ σ' = σ) NT s z a 1 (b + 1) := fun g => ihb 1 (bI_p ⟨e.1, fun j j0 j1 => by
            by_cases v : j = b
            · rw [v]; exact g
            · exact e.2 j j0 (by omega)⟩).symm
          refine ⟨fun g => ⟨by omega, yes fun v => by omega⟩, fun g => ?_⟩
          have g : bz s b = 1 := by rcases bz01 s b with v | v <;> omega
          exact (m_ahead hY hq hC hs).to (by omega) ((m_ahead hY hq hC hs).to (by omega) ⟨fun g2 => ⟨by omega, ihb 0 (bI_n fun v => by have := v.2 b b0 (by omega) g; omega).symm⟩, fun g2 => ⟨by omega, yes fun _ => g2⟩⟩)
    refine r_Mod_weakest_4 hY ⟨fun g => absurd g (by rw [hC.1]; omega), fun _ => ?_⟩
    rw [bit_eq hs.1 hs.2.1 a0 (by omega)]
    exact ⟨fun g => inner 0 (bI_n g).symm, fun g => inner 1 (bI_p g).symm⟩
/-- the sets that can be left, those above s gone through -/
def lfI (q : Pf) (σ : Mm) (s z : Int) : Prop := (∀ x, 0 < x → x ≤ alq q → σ 116 x = 0 ∨ σ 116 x = 1) ∧ (∀ x, 0 < x → x ≤ alq q → σ 116 x = 1 → Dn q (alq q) x) ∧ σ 116 (alq q) = 1 ∧ (∀ x, s < x → 0 < x → x ≤ alq q → σ 116 x = 1 → ∀ y, stp q x y → σ 116 y = 1) ∧ isM z (qN q) (fun c => s < hI 1 c ∧ σ 116 (hI 1 c) = 1)
/-- all that can be left is marked -/
def leftE (q : Pf) (σ : Mm) : Prop := (∀ x, 0 < x → x ≤ alq q → (σ 116 x = 1 ↔ Dn q (alq q) x)) ∧ ∀ x, 0 < x → x ≤ alq q → σ 116 x = 0 ∨ σ 116 x = 1
theorem Dn.le {q : Pf} (hq : okP q) {x : Int} (h : Dn q (alq q) x) : 0 < x ∧ x ≤ alq q := by
  have := Dn.ok hq h (al_sub hq) (al_nz hq)
  exact ⟨pos_of this.2, sub_le hq this.1⟩
theorem one_pos {c : Int} (c0 : 0 ≤ c) (c7 : c < 7) : 0 < hI 1 c ∧ hI 1 c < 128 := by
  have := isM.sing c0 c7 (Int.le_refl 7)
  have hb : bz (hI 1 c) c = 1 := (this.2.2 c c0 c7).mpr ⟨c7, rfl⟩
  exact ⟨pos_of ⟨this.1, this.2.1, c, c0, c7, hb⟩, this.2.1⟩
theorem m_eliminate (hY : Lay L) (hq : okP q) (hC : isC σ q) : Ex 2 y_Mod_eliminate [vr 102] L σ (PI L (fun z σ' => isM z (qN q) (W4 q) ∧ leftE q σ' ∧ ∀ k j, k ≠ 116 → σ' k j = σ k j) NT) := by
  have hn := hq.1
  have hal := (al_is hq).2.1
  have hap := pos_of (al_nz hq)
  have one_le : ∀ c, 0 ≤ c → c < qN q → 0 < hI 1 c ∧ hI 1 c ≤ alq q := by
    intro c c0 c1
    have h1 := one_pos c0 (show c < 7 by omega)
    have h2 := isM.sing c0 c1 hn.2
    exact ⟨h1.1, sub_le hq ⟨h2.1, h2.2.1, fun i i0 i7 hi => ((h2.2.2 i i0 i7).mp hi).1⟩⟩
  have isc : ∀ σ' : Mm, (∀ k j, k ≠ 116 → σ' k j = σ k j) → isC σ' q := fun σ' h => hC.fc fun k j hk => h k j (by omega)
  refine e_Mod_eliminate hY ((m_all hY hq hC).to (by omega) ?_)
  -- the second loop
  have main : ∀ (m : Nat) (s z : Int) (σ' : Mm), s = m → s ≤ alq q → (∀ k j, k ≠ 116 → σ' k j = σ k j) → lfI q σ' s z → G_Mod_eliminate_41 1 L σ' (fun z σ' => isM z (qN q) (W4 q) ∧ leftE q σ' ∧ ∀ k j, k ≠ 116 → σ' k j = σ k j) NT z s := by
    intro m
    induction m with
    | zero =>
      rintro s z σ' hs hsa hf ⟨i1, i2, i3, i4, i5⟩
      refine r_Mod_eliminate_41 hY ⟨fun _ => ?_, fun g => absurd g (by omega)⟩
      have iff : ∀ x, 0 < x → x ≤ alq q → (σ' 116 x = 1 ↔ Dn q (alq q) x) := by
        intro x x0 x1
        refine ⟨i2 x x0 x1, fun h => ?_⟩
        refine (h (fun x => σ' 116 x = 1 ∧ Dn q (alq q) x) ⟨i3, Dn.refl _ _⟩ ?_).1
        rintro x y ⟨h1, h2⟩ hxy
        have hx := Dn.le hq h2
        exact ⟨i4 x (by omega) hx.1 hx.2 h1 y hxy, h2.step hxy⟩
      refine ⟨i5.ext fun i i0 i1' i7 => ?_, ⟨iff, i1⟩, hf⟩
      have h1 := one_le i i0 i1'
      constructor
      · exact fun w => (iff _ h1.1 h1.2).mp w.2
      · exact fun w => ⟨by omega, (iff _ h1.1 h1.2).mpr w⟩
    | succ m ih =>
      rintro s z σ' hs hsa hf ⟨i1, i2, i3, i4, i5⟩
      have hC' := isc σ' hf
      have hsub := le_sub hq (show 0 ≤ s by omega) hsa
      -- s is not a single one that is left
      have next0 : σ' 116 s = 0 → lfI q σ' (s - 1) z := by
        intro h0
        refine ⟨i1, i2, i3, fun x x0 x1 x2 hx y hy => ?_, i5.ext fun i i0 i1' i7 => ?_⟩
        · by_cases e : x = s
          · rw [e] at hx; omega
          · exact i4 x (by omega) x1 x2 hx y hy
        · constructor
          · exact fun w => ⟨by omega, w.2⟩
          · intro w
            by_cases e : hI 1 i = s
            · rw [e] at w; omega
            · exact ⟨by omega, w.2⟩
      have go68 : (σ' 116 s ≠ 0 → aI s (s - 1) ≠ 0) → G_Mod_eliminate_68 1 L σ' (fun z σ' => isM z (qN q) (W4 q) ∧ leftE q σ' ∧ ∀ k j, k ≠ 116 → σ' k j = σ k j) NT z s := by
        intro hns
        refine r_Mod_eliminate_68 hY ⟨by omega, fun e => ⟨by omega, ih (s + (-1)) z σ' (by omega) (by omega) hf (next0 e)⟩, fun e => ?_⟩
        have hns2 : aI s (s - 1) ≠ 0 := hns e
        have h1 : σ' 116 s = 1 := by rcases i1 s (by omega) hsa with w | w <;> omega
        have hDs := i2 s (by omega) hsa h1
        refine Ex.toI (m_weakest hY hq hC' (nz_of hsub (by omega))) ?_ (fun _ _ h => h)
        rintro gone σ₁ ⟨hg, rfl⟩
        refine upto (P := fun c => ∀ σ₂, (∀ k j, k ≠ 116 → σ₂ k j = σ k j) → ((∀ x, 0 < x → x ≤ alq q → σ₂ 116 x = 0 ∨ σ₂ 116 x = 1) ∧ (∀ x, 0 < x → x ≤ alq q → σ₂ 116 x = 1 → Dn q (alq q) x) ∧ (∀ x, 0 < x → x ≤ alq q → σ₁ 116 x = 1 → σ₂ 116 x = 1) ∧ (∀ x, s ≤ x → σ₂ 116 x = σ₁ 116 x) ∧ ∀ i, 0 ≤ i → i < c → lw q s i → σ₂ 116 (aI s (xI (hI 1 i) (-1))) = 1) → G_Mod_eliminate_86 1 L σ₂ (fun z σ' => isM z (qN q) (W4 q) ∧ leftE q σ' ∧ ∀ k j, k ≠ 116 → σ' k j = σ k j) NT z s gone c) (a := 0) (n := qN q) ?_ ?_ 0 (by omega) (by omega) σ₁ hf ⟨i1, i2, fun x _ _ h => h, fun _ _ => rfl, fun i i0 i1 => absurd i1 (by omega)⟩
        · rintro σ₂ hf2 ⟨j1, j2, j3, j4, j5⟩
          have hC2 := isc σ₂ hf2
          refine r_Mod_eliminate_86 hY ⟨fun _ => ⟨by omega, ih (s + (-1)) z σ₂ (by omega) (by omega) hf2 ⟨j1, j2, by rw [j4 _ hsa]; exact i3, fun x x0 x1 x2 hx y hy => ?_, i5.ext fun i i0 i1' i7 => ?_⟩⟩, fun g => absurd g (by rw [hC2.1]; omega)⟩
          · by_cases e : x = s
            · obtain ⟨-, c, c0, c1, hl, rfl⟩ := hy
              rw [e] at hl ⊢
              exact j5 c c0 c1 hl
            · rw [j4 x (by omega)] at hx
              have hy1 := i4 x (by omega) x1 x2 hx y hy
              have hyd := Dn.le hq ((i2 x x1 x2 hx).step hy)
              exact j3 y hyd.1 hyd.2 hy1
          · constructor
            · exact fun w => ⟨by omega, by rw [j4 _ (by omega)]; exact w.2⟩
            · intro w
              by_cases e : hI 1 i = s
              · exact absurd (by rw [← e]; exact single_is i0 i7) hns2
              · exact ⟨by omega, by rw [← j4 _ (by omega)]; exact w.2⟩
        · rintro c c0 c1 ihc σ₂ hf2 ⟨j1, j2, j3, j4, j5⟩
          have hC2 := isc σ₂ hf2
          have hb := hg.bit c0 c1 hn.2
          have hcl := clr_in hsub.1 hsub.2.1 c0 (show c < 7 by omega)
          refine r_Mod_eliminate_86 hY ⟨fun g => absurd g (by rw [hC2.1]; omega), fun _ => ⟨fun g => ⟨by omega, ihc σ₂ hf2 ⟨j1, j2, j3, j4, fun i i0 i1 hi => ?_⟩⟩, fun g => ⟨⟨hcl.1, hcl.2.1⟩, by omega, ?_⟩⟩⟩
          · by_cases e : i = c
            · rw [e] at hi; exact absurd (hb.1.mpr hi) g
            · exact j5 i i0 (by omega) hi
          · have hl := hb.1.mp g
            have hlt := cl_lt' hsub.1 hsub.2.1 c0 (show c < 7 by omega) hl.1
            have hlt : aI s (xI (hI 1 c) (-1)) < s := hlt.2
            have hD := hDs.step ⟨hns2, c, c0, c1, hl, rfl⟩
            refine ihc _ (fun k j hk => by rw [u_ne hk]; exact hf2 k j hk) ⟨fun x x0 x1 => ?_, fun x x0 x1 hx => ?_, fun x x0 x1 hx => ?_, fun x hx => ?_, fun i i0 i1 hi => ?_⟩
            · rw [u_if]
              split
              · exact Or.inr rfl
              · exact j1 x x0 x1
            · rw [u_if] at hx
              by_cases e : x = aI s (xI (hI 1 c) (-1))
              · rw [e]; exact hD
              · rw [if_neg e] at hx; exact j2 x x0 x1 hx
            · rw [u_if]
              split
              · rfl
              · exact j3 x x0 x1 hx
            · rw [u_ne2 (by omega)]; exact j4 x hx
            · rw [u_if]
              split
              · rfl
              · rename_i w
                by_cases e : i = c
                · exact absurd (by rw [e]) w
                · exact j5 i i0 (by omega) hi
      refine r_Mod_eliminate_41 hY ⟨fun g => absurd g (by omega), fun _ => ⟨by omega, fun e => go68 fun w => absurd e w, fun e => ?_⟩⟩
      have h1 : σ' 116 s = 1 := by rcases i1 s (by omega) hsa with w | w <;> omega
      refine e_Mod_single hY ⟨by omega, fun e2 => ⟨fun _ => go68 fun _ => e2, fun w => absurd rfl w⟩, fun e2 => ⟨fun w => absurd w (by decide), fun _ => ⟨by omega, ih (s + (-1)) _ σ' (by omega) (by omega) hf ⟨i1, i2, i3, fun x x0 x1 x2 hx y hy => ?_, ?_⟩⟩⟩⟩
      · by_cases w : x = s
        · rw [w] at hy; exact absurd e2 hy.1
        · exact i4 x (by omega) x1 x2 hx y hy
      · obtain ⟨c, c0, c7, rfl⟩ := single_of (by omega) hsub.2.1 e2
        have hbc : bz (hI 1 c) c = 1 := ((isM.sing c0 c7 (Int.le_refl 7)).2.2 c c0 c7).mpr ⟨c7, rfl⟩
        have c1 := hsub.2.2 c c0 c7 hbc
        refine (i5.union (isM.sing c0 c1 hn.2)).ext fun i i0 i1' i7 => ?_
        constructor
        · rintro (w | w)
          · exact ⟨by omega, w.2⟩
          · rw [w]; exact ⟨by omega, h1⟩
        · rintro ⟨w1, w2⟩
          by_cases v : i = c
          · exact Or.inr v
          · refine Or.inl ⟨?_, w2⟩
            have : hI 1 i ≠ hI 1 c := fun u => v (one_inj i0 i7 c0 c7 u)
            omega
  -- the first loop
  have first : ∀ (m : Nat) (s : Int) (σ' : Mm), s = m → s ≤ alq q → (∀ k j, k ≠ 116 → σ' k j = σ k j) → (∀ x, s < x → x ≤ alq q → σ' 116 x = if x = alq q then 1 else 0) → G_Mod_eliminate_7 1 L σ' (fun z σ' => isM z (qN q) (W4 q) ∧ leftE q σ' ∧ ∀ k j, k ≠ 116 → σ' k j = σ k j) NT 0 s := by
    intro m
    induction m with
    | zero =>
      intro s σ' hs hsa hf h
      have hC' := isc σ' hf
      have hx0 : ∀ x, 0 < x → x ≤ alq q → σ' 116 x = if x = alq q then 1 else 0 := fun x x0 x1 => h x (by omega) x1
      refine r_Mod_eliminate_7 hY ⟨fun _ => (m_all hY hq hC').to (by omega) (main (alq q).toNat (alq q) 0 σ' (by omega) (Int.le_refl _) hf ⟨fun x x0 x1 => ?_, fun x x0 x1 hx => ?_, ?_, fun x x0 x1 x2 => absurd x0 (by omega), isM.empty fun i i0 i1' w => ?_⟩), fun g => absurd g (by omega)⟩
      · rw [hx0 x x0 x1]
        split
        · exact Or.inr rfl
        · exact Or.inl rfl
      · rw [hx0 x x0 x1] at hx
        by_cases e : x = alq q
        · rw [e]; exact Dn.refl _ _
        · rw [if_neg e] at hx; omega
      · rw [hx0 _ hap (Int.le_refl _), if_pos rfl]
      · have := one_le i i0 i1'
        omega
    | succ m ih =>
      intro s σ' hs hsa hf h
      have hC' := isc σ' hf
      refine r_Mod_eliminate_7 hY ⟨fun g => absurd g (by omega), fun _ => (m_all hY hq hC').to (by omega) ⟨fun e => ⟨by omega, by omega, ih _ _ (by omega) (by omega) (fun k j hk => by rw [u_ne hk]; exact hf k j hk) fun x x0 x1 => ?_⟩, fun e => ⟨by omega, by omega, ih _ _ (by omega) (by omega) (fun k j hk => by rw [u_ne hk]; exact hf k j hk) fun x x0 x1 => ?_⟩⟩⟩
      · rw [u_if]
        by_cases w : x = s
        · rw [if_pos w, if_neg (by omega)]
        · rw [if_neg w]; exact h x (by omega) x1
      · rw [u_if]
        by_cases w : x = s
        · rw [if_pos w, if_pos (by omega)]
        · rw [if_neg w]; exact h x (by omega) x1
  exact first (alq q).toNat (alq q) σ (by omega) (Int.le_refl _) (fun _ _ _ => rfl) (fun x x0 x1 => absurd x0 (by omega))
end
