/-! THE PROFILE's METHODS: those that only answer -/
noncomputable def bI (P : Prop) : Int := @ite _ P (Classical.propDecidable P) 1 0
theorem bI_p {P : Prop} (h : P) : bI P = 1 := by unfold bI; rw [if_pos h]
theorem bI_n {P : Prop} (h : ¬ P) : bI P = 0 := by unfold bI; rw [if_neg h]
theorem bI_t {P : Prop} (h : bI P ≠ 0) : P := Classical.byContradiction fun c => h (bI_n c)
theorem bI_f {P : Prop} (h : bI P = 0) : ¬ P := fun c => by rw [bI_p c] at h; cases h
theorem bI_1 {P : Prop} (h : bI P = 1) : P := bI_t (by omega)
theorem bI_n1 {P : Prop} (h : bI P ≠ 1) : ¬ P := fun c => h (bI_p c)
theorem bI01 (P : Prop) : bI P = 0 ∨ bI P = 1 := (Classical.em P).elim (fun h => Or.inr (bI_p h)) (fun h => Or.inl (bI_n h))
theorem bI_iff {P Q : Prop} (h : P ↔ Q) : bI P = bI Q := by rw [propext h]
section
variable {L : List Sh} {σ : Mm} {p : Int} {q : Pf}
theorem c_beats (hY : Lay L) (hp : isPr p) (hq : okP q) (hP : isP σ p q) {a b : Int} (ha : 0 ≤ a ∧ a < qN q) (hb : 0 ≤ b ∧ b < qN q) : IsI 0 y_Prof_beats [vr p, vi a, vi b] L σ (bI (bts q a b)) := by
  have hn := hq.1
  have e1 := hP.2.2.2.2.1 a b ha.1 ha.2 hb.1 hb.2
  have e2 := hP.2.2.2.2.1 b a hb.1 hb.2 ha.1 ha.2
  refine e_Prof_beats hY hp ⟨by omega, by omega, by omega, by omega, fun h => ⟨?_, rfl⟩, fun h => ⟨?_, rfl⟩⟩
  · rw [e1, e2] at h
    exact (bI_n (by unfold bts; omega)).symm
  · rw [e1, e2] at h
    exact (bI_p h).symm
theorem c_tie (hY : Lay L) (hp : isPr p) (hq : okP q) (hP : isP σ p q) {c : Int} (hc : 0 ≤ c ∧ c < qN q) : IsI 0 y_Prof_tie [vr p, vi c] L σ (ps (qI' q) c) := by
  have hn := hq.1
  have hs := ps_spec hn.2 hq.2.2.2.2.1 hc.1 hc.2
  refine e_Prof_tie hY hp ?_
  refine upto (P := fun k => G_Prof_tie_2 0 L σ _ _ p c k) (a := 0) (n := ps (qI' q) c) ?_ ?_ 0 (by omega) (by omega)
  · have e := hP.2.2.2.2.2.1 _ hs.1 hs.2.1
    exact r_Prof_tie_2 hY hp ⟨by omega, fun h => ⟨rfl, rfl⟩, fun h => absurd (e.trans hs.2.2) h⟩
  · intro k k0 k1 ih
    have e := hP.2.2.2.2.2.1 k k0 (by omega)
    refine r_Prof_tie_2 hY hp ⟨by omega, fun h => ?_, fun h => ⟨by omega, ih⟩⟩
    have := ps_at hn.2 hq.2.2.2.2.1 k0 (show k < qN q by omega)
    rw [← e, h] at this
    omega
theorem c_placeOf (hY : Lay L) (hp : isPr p) (hq : okP q) (hP : isP σ p q) {t c : Int} (ht : 0 ≤ t ∧ t < qT q) (hc : 0 ≤ c ∧ c < qN q) : IsI 0 y_Prof_placeOf [vr p, vi t, vi c] L σ (ps (qL q t) c) := by
  have hn := hq.1
  have hT := hq.2.1
  have hm := hq.2.2.1 t ht.1 ht.2
  have hs := ps_spec hn.2 hm hc.1 hc.2
  refine e_Prof_placeOf hY hp ?_
  refine upto (P := fun k => G_Prof_placeOf_2 0 L σ _ _ p t c k) (a := 0) (n := ps (qL q t) c) ?_ ?_ 0 (by omega) (by omega)
  · have e := hP.2.2.1 t _ ht.1 ht.2 hs.1 hs.2.1
    exact r_Prof_placeOf_2 hY hp ⟨by omega, by omega, fun h => ⟨rfl, rfl⟩, fun h => absurd (e.trans hs.2.2) h⟩
  · intro k k0 k1 ih
    have e := hP.2.2.1 t k ht.1 ht.2 k0 (by omega)
    refine r_Prof_placeOf_2 hY hp ⟨by omega, by omega, fun h => ?_, fun h => ⟨by omega, ih⟩⟩
    have := ps_at hn.2 hm k0 (show k < qN q by omega)
    rw [← e, h] at this
    omega
theorem c_firsts (hY : Lay L) (hp : isPr p) (hq : okP q) (hP : isP σ p q) {z c : Int} (hz : nz z (qN q)) : IsI 0 y_Prof_firsts [vr p, vi z, vi c] L σ (fs q z c) := by
  have hn := hq.1
  have hT := hq.2.1
  refine e_Prof_firsts hY hp ?_
  refine upto (P := fun t => G_Prof_firsts_5 0 L σ _ _ p z c (S (fun t => if qL q t (fz (qL q t) z) = c then qA q t else 0) t) t) (a := 0) (n := qT q) ?_ ?_ 0 (by omega) (by omega)
  · exact r_Prof_firsts_5 hY hp ⟨fun h => ⟨rfl, rfl⟩, fun h => absurd h (by rw [hP.2.1]; omega)⟩
  · intro t t0 t1 ih
    refine r_Prof_firsts_5 hY hp ⟨fun h => absurd h (by rw [hP.2.1]; omega), fun h => ?_⟩
    have hm := hq.2.2.1 t t0 t1
    have hs := fz_ok hn.2 hm hz
    have hb := fs_bd hq z c t t0 (by omega)
    have ha := hq.2.2.2.1 t t0 t1
    have hl : ∀ k, 0 ≤ k → k < qN q → σ (p + 2 + t) k = qL q t k ∧ aI (rI z (σ (p + 2 + t) k)) 1 = bz z (qL q t k) := by
      intro k k0 k1
      have e := hP.2.2.1 t k t0 t1 k0 k1
      have r := hm.1 k k0 k1
      rw [e]
      exact ⟨rfl, bit_eq hz.1 hz.2.1 r.1 (by omega)⟩
    refine upto (P := fun k => G_Prof_firsts_17 0 L σ _ _ p z c (S (fun t => if qL q t (fz (qL q t) z) = c then qA q t else 0) t) t k) (a := 0) (n := fz (qL q t) z) ?_ ?_ 0 (by omega) (by omega)
    · have e := hl _ hs.1 hs.2.1
      have ea := hP.2.2.2.1 t t0 t1
      have es := S_s (fun t => if qL q t (fz (qL q t) z) = c then qA q t else 0) t0
      refine r_Prof_firsts_17 hY hp ⟨by omega, by omega, fun h => ⟨by omega, by omega, fun h2 => ⟨by omega, ?_⟩, fun h2 => ⟨by omega, by omega, by omega, ?_⟩⟩, fun h => absurd (e.2.symm.trans h) (by omega)⟩
      · rw [e.1] at h2
        rw [es, if_neg h2, Int.add_zero] at ih
        exact ih
      · rw [e.1] at h2
        rw [es, if_pos h2] at ih
        rw [ea]
        exact ih
    · intro k k0 k1 ihk
      have e := hl k k0 (by omega)
      refine r_Prof_firsts_17 hY hp ⟨by omega, by omega, fun h => ?_, fun h => ⟨by omega, ihk⟩⟩
      rw [e.2] at h
      have := hs.2.2.2 k k0 k1
      rcases bz01 z (qL q t k) with g | g
      · exact absurd g h
      · exact absurd g this
theorem c_all (hY : Lay L) (hp : isPr p) (hq : okP q) (hP : isP σ p q) : IsI 0 y_Prof_all [vr p] L σ (alq q) := by
  have hn := hq.1
  have h := hI_al (n := qN q) ⟨by omega, hn.2⟩
  refine e_Prof_all hY hp ?_
  rw [hP.1]
  exact ⟨by omega, rfl, rfl⟩
end
