/-! THE MODEL: the copy that it works with, and what is counted of it -/
def isC (σ : Mm) (q : Pf) : Prop := σ 102 8 = qN q ∧ σ 102 9 = qT q ∧ (∀ t k, 0 ≤ t → t < qT q → 0 ≤ k → k < qN q → σ 108 (7 * t + k) = qL q t k) ∧ (∀ t, 0 ≤ t → t < qT q → σ 109 t = qA q t) ∧ (∀ k, 0 ≤ k → k < qN q → σ 110 k = qI' q k) ∧ (∀ k, 0 ≤ k → k < qN q → σ 111 k = qG q k) ∧ (∀ k, 0 ≤ k → k < qN q → σ 112 k = qW q k)
def isT (σ : Mm) (q : Pf) : Prop := ∀ a b, 0 ≤ a → a < qN q → 0 ≤ b → b < qN q → σ 113 (7 * a + b) = pr q a b
/-- only what is counted changes -/
def FC (σ σ' : Mm) : Prop := ∀ k j, ¬ (113 ≤ k ∧ k < 118) → σ' k j = σ k j
theorem FC.refl (σ : Mm) : FC σ σ := fun _ _ _ => rfl
theorem FC.trans {a b c : Mm} (h : FC a b) (g : FC b c) : FC a c := fun k j hk => (g k j hk).trans (h k j hk)
theorem isC.fc {σ σ' : Mm} {q : Pf} (h : isC σ q) (f : FC σ σ') : isC σ' q := by
  obtain ⟨h1, h2, h3, h4, h5, h6, h7⟩ := h
  exact ⟨by rw [f _ _ (by omega)]; exact h1, by rw [f _ _ (by omega)]; exact h2, fun t k a b c d => by rw [f _ _ (by omega)]; exact h3 t k a b c d, fun t a b => by rw [f _ _ (by omega)]; exact h4 t a b, fun k a b => by rw [f _ _ (by omega)]; exact h5 k a b, fun k a b => by rw [f _ _ (by omega)]; exact h6 k a b, fun k a b => by rw [f _ _ (by omega)]; exact h7 k a b⟩
section
variable {L : List Sh} {σ : Mm} {q : Pf}
theorem m_beats (hY : Lay L) (hq : okP q) (hT : isT σ q) {a b : Int} (ha : 0 ≤ a ∧ a < qN q) (hb : 0 ≤ b ∧ b < qN q) : IsI 0 y_Mod_beats [vr 102, vi a, vi b] L σ (bI (bts q a b)) := by
  have hn := hq.1
  have e1 := hT a b ha.1 ha.2 hb.1 hb.2
  have e2 := hT b a hb.1 hb.2 ha.1 ha.2
  refine e_Mod_beats hY ⟨by omega, by omega, by omega, by omega, by omega, by omega, fun h => ⟨?_, rfl⟩, fun h => ⟨?_, rfl⟩⟩
  · rw [e1, e2] at h
    exact (bI_n (by unfold bts; omega)).symm
  · rw [e1, e2] at h
    exact (bI_p h).symm
theorem m_tie (hY : Lay L) (hq : okP q) (hC : isC σ q) {c : Int} (hc : 0 ≤ c ∧ c < qN q) : IsI 0 y_Mod_tiePlace [vr 102, vi c] L σ (ps (qI' q) c) := by
  have hn := hq.1
  have hs := ps_spec hn.2 hq.2.2.2.2.1 hc.1 hc.2
  refine e_Mod_tiePlace hY ?_
  refine upto (P := fun k => G_Mod_tiePlace_2 0 L σ _ _ c k) (a := 0) (n := ps (qI' q) c) ?_ ?_ 0 (by omega) (by omega)
  · have e := hC.2.2.2.2.1 _ hs.1 hs.2.1
    exact r_Mod_tiePlace_2 hY ⟨by omega, fun h => ⟨rfl, rfl⟩, fun h => absurd (e.trans hs.2.2) h⟩
  · intro k k0 k1 ih
    have e := hC.2.2.2.2.1 k k0 (by omega)
    refine r_Mod_tiePlace_2 hY ⟨by omega, fun h => ?_, fun h => ⟨by omega, ih⟩⟩
    have := ps_at hn.2 hq.2.2.2.2.1 k0 (show k < qN q by omega)
    rw [← e, h] at this
    omega
theorem m_placeOf (hY : Lay L) (hq : okP q) (hC : isC σ q) {t c : Int} (ht : 0 ≤ t ∧ t < qT q) (hc : 0 ≤ c ∧ c < qN q) : IsI 0 y_Mod_placeOf [vr 102, vi t, vi c] L σ (ps (qL q t) c) := by
  have hn := hq.1
  have hT := hq.2.1
  have hm := hq.2.2.1 t ht.1 ht.2
  have hs := ps_spec hn.2 hm hc.1 hc.2
  refine e_Mod_placeOf hY ?_
  refine upto (P := fun k => G_Mod_placeOf_2 0 L σ _ _ t c k) (a := 0) (n := ps (qL q t) c) ?_ ?_ 0 (by omega) (by omega)
  · have e := hC.2.2.1 t _ ht.1 ht.2 hs.1 hs.2.1
    exact r_Mod_placeOf_2 hY ⟨by omega, by omega, by omega, fun h => ⟨rfl, rfl⟩, fun h => absurd (e.trans hs.2.2) h⟩
  · intro k k0 k1 ih
    have e := hC.2.2.1 t k ht.1 ht.2 k0 (by omega)
    refine r_Mod_placeOf_2 hY ⟨by omega, by omega, by omega, fun h => ?_, fun h => ⟨by omega, ih⟩⟩
    have := ps_at hn.2 hm k0 (show k < qN q by omega)
    rw [← e, h] at this
    omega
theorem m_ahead (hY : Lay L) (hq : okP q) (hC : isC σ q) {z c : Int} (hz : nz z (qN q)) : IsI 0 y_Mod_ahead [vr 102, vi c, vi z] L σ (fs q z c) := by
  have hn := hq.1
  have hT := hq.2.1
  refine e_Mod_ahead hY ?_
  refine upto (P := fun t => G_Mod_ahead_5 0 L σ _ _ c z (S (fun t => if qL q t (fz (qL q t) z) = c then qA q t else 0) t) t) (a := 0) (n := qT q) ?_ ?_ 0 (by omega) (by omega)
  · exact r_Mod_ahead_5 hY ⟨fun h => ⟨rfl, rfl⟩, fun h => absurd h (by rw [hC.2.1]; omega)⟩
  · intro t t0 t1 ih
    refine r_Mod_ahead_5 hY ⟨fun h => absurd h (by rw [hC.2.1]; omega), fun h => ?_⟩
    have hm := hq.2.2.1 t t0 t1
    have hs := fz_ok hn.2 hm hz
    have hb := fs_bd hq z c t t0 (by omega)
    have ha := hq.2.2.2.1 t t0 t1
    have hl : ∀ k, 0 ≤ k → k < qN q → σ 108 (7 * t + k) = qL q t k ∧ aI (rI z (σ 108 (7 * t + k))) 1 = bz z (qL q t k) := by
      intro k k0 k1
      have e := hC.2.2.1 t k t0 t1 k0 k1
      have r := hm.1 k k0 k1
      rw [e]
      exact ⟨rfl, bit_eq hz.1 hz.2.1 r.1 (by omega)⟩
    refine upto (P := fun k => G_Mod_ahead_17 0 L σ _ _ c z (S (fun t => if qL q t (fz (qL q t) z) = c then qA q t else 0) t) t k) (a := 0) (n := fz (qL q t) z) ?_ ?_ 0 (by omega) (by omega)
    · have e := hl _ hs.1 hs.2.1
      have ea := hC.2.2.2.1 t t0 t1
      have es := S_s (fun t => if qL q t (fz (qL q t) z) = c then qA q t else 0) t0
      refine r_Mod_ahead_17 hY ⟨by omega, by omega, by omega, fun h => ⟨by omega, by omega, by omega, fun h2 => ⟨by omega, ?_⟩, fun h2 => ⟨by omega, by omega, by omega, ?_⟩⟩, fun h => absurd (e.2.symm.trans h) (by omega)⟩
      · rw [e.1] at h2
        rw [es, if_neg h2, Int.add_zero] at ih
        exact ih
      · rw [e.1] at h2
        rw [es, if_pos h2] at ih
        rw [ea]
        exact ih
    · intro k k0 k1 ihk
      have e := hl k k0 (by omega)
      refine r_Mod_ahead_17 hY ⟨by omega, by omega, by omega, fun h => ?_, fun h => ⟨by omega, ihk⟩⟩
      rw [e.2] at h
      have := hs.2.2.2 k k0 k1
      rcases bz01 z (qL q t k) with g | g
      · exact absurd g h
      · exact absurd g this
theorem m_all (hY : Lay L) (hq : okP q) (hC : isC σ q) : IsI 0 y_Mod_all [vr 102] L σ (alq q) := by
  have hn := hq.1
  have h := hI_al (n := qN q) ⟨by omega, hn.2⟩
  refine e_Mod_all hY ?_
  rw [hC.1]
  exact ⟨by omega, rfl, rfl⟩
/-- the first of a set in the tie order -/
noncomputable def fo (q : Pf) (z : Int) : Int := qI' q (fz (qI' q) z)
theorem m_firstOf (hY : Lay L) (hq : okP q) (hC : isC σ q) {z : Int} (hz : nz z (qN q)) : IsI 0 y_Mod_firstOf [vr 102, vi z] L σ (fo q z) := by
  have hn := hq.1
  have hm := hq.2.2.2.2.1
  have hs := fz_ok hn.2 hm hz
  have hl : ∀ k, 0 ≤ k → k < qN q → σ 110 k = qI' q k ∧ aI (rI z (σ 110 k)) 1 = bz z (qI' q k) := by
    intro k k0 k1
    have e := hC.2.2.2.2.1 k k0 k1
    have r := hm.1 k k0 k1
    rw [e]
    exact ⟨rfl, bit_eq hz.1 hz.2.1 r.1 (by omega)⟩
  refine e_Mod_firstOf hY ?_
  refine upto (P := fun k => G_Mod_firstOf_2 0 L σ _ _ z k) (a := 0) (n := fz (qI' q) z) ?_ ?_ 0 (by omega) (by omega)
  · have e := hl _ hs.1 hs.2.1
    exact r_Mod_firstOf_2 hY ⟨by omega, fun h => ⟨by omega, e.1, rfl⟩, fun h => absurd (e.2.symm.trans h) (by omega)⟩
  · intro k k0 k1 ih
    have e := hl k k0 (by omega)
    refine r_Mod_firstOf_2 hY ⟨by omega, fun h => ?_, fun h => ⟨by omega, ih⟩⟩
    rw [e.2] at h
    rcases bz01 z (qI' q k) with g | g
    · exact absurd g h
    · exact absurd g (hs.2.2.2 k k0 k1)
/-- the pairs, counted so far -/
def tlI (q : Pf) (σ : Mm) (t i j : Int) : Prop := ∀ a b, 0 ≤ a → a < qN q → 0 ≤ b → b < qN q → σ 113 (7 * a + b) = S (fun s => if ps (qL q s) a < ps (qL q s) b then qA q s else 0) t + if ps (qL q t) a < ps (qL q t) b ∧ (ps (qL q t) a < i ∨ ps (qL q t) a = i ∧ ps (qL q t) b < j) then qA q t else 0
theorem m_tally (hY : Lay L) (hq : okP q) (hC : isC σ q) : Ex 0 y_Mod_tally [vr 102] L σ (PV L (fun σ' => isT σ' q ∧ ∀ k j, k ≠ 113 → σ' k j = σ k j) NT) := by
  have hn := hq.1
  have hT := hq.2.1
  have isc : ∀ σ' : Mm, (∀ k j, k ≠ 113 → σ' k j = σ k j) → isC σ' q := fun σ' h => hC.fc fun k j hk => h k j (by omega)
  have main : ∀ σ₀, (∀ k j, k ≠ 113 → σ₀ k j = σ k j) → (∀ j, 0 ≤ j → j < 49 → σ₀ 113 j = 0) → G_Mod_tally_23 0 L σ₀ (fun σ' => isT σ' q ∧ ∀ k j, k ≠ 113 → σ' k j = σ k j) NT 0 := by
    intro σ₀ hf0 hz
    refine upto (P := fun t => ∀ σ', (∀ k j, k ≠ 113 → σ' k j = σ k j) → (∀ a b, 0 ≤ a → a < qN q → 0 ≤ b → b < qN q → σ' 113 (7 * a + b) = S (fun s => if ps (qL q s) a < ps (qL q s) b then qA q s else 0) t) → G_Mod_tally_23 0 L σ' (fun σ' => isT σ' q ∧ ∀ k j, k ≠ 113 → σ' k j = σ k j) NT t) (a := 0) (n := qT q) ?_ ?_ 0 (by omega) (by omega) σ₀ hf0 (fun a b a0 a1 b0 b1 => by rw [hz _ (by omega) (by omega)]; rfl)
    · intro σ' hf h
      have hC' := isc σ' hf
      exact r_Mod_tally_23 hY ⟨fun _ => ⟨h, hf⟩, fun g => absurd g (by rw [hC'.2.1]; omega)⟩
    · intro t t0 t1 iht σ' hf h
      have hC' := isc σ' hf
      have hm := hq.2.2.1 t t0 t1
      have ha := hq.2.2.2.1 t t0 t1
      refine r_Mod_tally_23 hY ⟨fun g => absurd g (by rw [hC'.2.1]; omega), fun _ => ?_⟩
      refine upto (P := fun i => ∀ σ', (∀ k j, k ≠ 113 → σ' k j = σ k j) → tlI q σ' t i (i + 1) → G_Mod_tally_33 0 L σ' (fun σ' => isT σ' q ∧ ∀ k j, k ≠ 113 → σ' k j = σ k j) NT t i) (a := 0) (n := qN q) ?_ ?_ 0 (by omega) (by omega) σ' hf (fun a b a0 a1 b0 b1 => ?_)
      · intro σ' hf h
        have hC' := isc σ' hf
        refine r_Mod_tally_33 hY ⟨fun _ => ⟨by omega, iht σ' hf fun a b a0 a1 b0 b1 => ?_⟩, fun g => absurd g (by rw [hC'.1]; omega)⟩
        rw [S_s _ t0, h a b a0 a1 b0 b1]
        have s1 := ps_spec hn.2 hm a0 a1
        by_cases e : ps (qL q t) a < ps (qL q t) b
        · rw [if_pos e, if_pos ⟨e, by omega⟩]
        · rw [if_neg e, if_neg (fun w => e w.1)]
      · intro i i0 i1 ihi σ' hf h
        have hC' := isc σ' hf
        refine r_Mod_tally_33 hY ⟨fun g => absurd g (by rw [hC'.1]; omega), fun _ => ⟨by omega, ?_⟩⟩
        refine upto (P := fun j => ∀ σ', (∀ k j, k ≠ 113 → σ' k j = σ k j) → tlI q σ' t i j → G_Mod_tally_45 0 L σ' (fun σ' => isT σ' q ∧ ∀ k j, k ≠ 113 → σ' k j = σ k j) NT t i j) (a := i + 1) (n := qN q) ?_ ?_ (i + 1) (by omega) (by omega) σ' hf h
        · intro σ' hf h
          have hC' := isc σ' hf
          refine r_Mod_tally_45 hY ⟨fun _ => ⟨by omega, ihi σ' hf fun a b a0 a1 b0 b1 => ?_⟩, fun g => absurd g (by rw [hC'.1]; omega)⟩
          rw [h a b a0 a1 b0 b1]
          have s2 := ps_spec hn.2 hm b0 b1
          by_cases e : ps (qL q t) a < ps (qL q t) b ∧ (ps (qL q t) a < i ∨ ps (qL q t) a = i ∧ ps (qL q t) b < qN q)
          · rw [if_pos e, if_pos ⟨e.1, by omega⟩]
          · rw [if_neg e, if_neg (fun w => e ⟨w.1, by omega⟩)]
        · intro j j0 j1 ihj σ' hf h
          have hC' := isc σ' hf
          have f1 := hm.1 i i0 i1
          have f2 := hm.1 j (by omega) j1
          have p1 := ps_at hn.2 hm i0 i1
          have p2 := ps_at hn.2 hm (show 0 ≤ j by omega) j1
          have hv := h (qL q t i) (qL q t j) f1.1 f1.2 f2.1 f2.2
          have hbd := S_bd (f := fun s => if ps (qL q s) (qL q t i) < ps (qL q s) (qL q t j) then qA q s else 0) (n := qT q) (B := 100001) (fun s s0 s1 => by
            have := hq.2.2.2.1 s s0 s1
            split <;> omega) t t0 (by omega)
          rw [p1, p2, if_neg (by omega)] at hv
          refine r_Mod_tally_45 hY ⟨fun g => absurd g (by rw [hC'.1]; omega), fun _ => ?_⟩
          rw [hC'.2.2.1 t i t0 t1 i0 i1, hC'.2.2.1 t j t0 t1 (by omega) j1, hC'.2.2.2.1 t t0 t1]
          refine ⟨by omega, by omega, by omega, by omega, by omega, by omega, by omega, by omega, by omega, by omega, by omega, by omega, by omega, ihj _ (fun k j hk => by rw [u_ne hk]; exact hf k j hk) fun a b a0 a1 b0 b1 => ?_⟩
          rw [u_if]
          have s1 := ps_spec hn.2 hm a0 a1
          have s2 := ps_spec hn.2 hm b0 b1
          by_cases e : 7 * a + b = 7 * qL q t i + qL q t j
          · have ea : a = qL q t i := by omega
            have eb : b = qL q t j := by omega
            rw [if_pos e, hv, ea, eb, p1, p2, if_pos (by omega)]
            omega
          · rw [if_neg e, h a b a0 a1 b0 b1]
            have hne : ¬ (ps (qL q t) a = i ∧ ps (qL q t) b = j) := by
              rintro ⟨w1, w2⟩
              rw [w1] at s1
              rw [w2] at s2
              exact e (by rw [s1.2.2, s2.2.2])
            by_cases w : ps (qL q t) a < ps (qL q t) b ∧ (ps (qL q t) a < i ∨ ps (qL q t) a = i ∧ ps (qL q t) b < j)
            · rw [if_pos w, if_pos ⟨w.1, by omega⟩]
            · rw [if_neg w, if_neg (fun v => w ⟨v.1, by omega⟩)]
      · rw [h a b a0 a1 b0 b1, if_neg (fun w => by
          have s1 := ps_spec hn.2 hm a0 a1
          have := w.2
          have := w.1
          omega)]
        omega
  refine e_Mod_tally hY ?_
  refine upto (P := fun k => ∀ σ', (∀ k j, k ≠ 113 → σ' k j = σ k j) → (∀ j, 0 ≤ j → j < k → σ' 113 j = 0) → G_Mod_tally_2 0 L σ' (fun σ' => isT σ' q ∧ ∀ k j, k ≠ 113 → σ' k j = σ k j) NT k) (a := 0) (n := 49) ?_ ?_ 0 (by omega) (by omega) σ (fun _ _ _ => rfl) (fun j j0 j1 => absurd j1 (by omega))
  · intro σ' hf h
    exact r_Mod_tally_2 hY ⟨fun _ => main σ' hf h, fun g => absurd g (by omega)⟩
  · intro k k0 k1 ih σ' hf h
    refine r_Mod_tally_2 hY ⟨fun g => absurd g (by omega), fun _ => ⟨by omega, by omega, ih _ (fun k j hk => by rw [u_ne hk]; exact hf k j hk) fun j j0 j1 => ?_⟩⟩
    rw [u_if]
    split
    · rfl
    · exact h j j0 (by omega)
end
