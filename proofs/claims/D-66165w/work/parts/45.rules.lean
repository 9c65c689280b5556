/-! RUNOFF, UNCOVERED, AGENDA -/
section
variable {L : List Sh} {σ : Mm} {p : Int} {q : Pf}
theorem c_goOn (hY : Lay L) (hp : isPr p) (hq : okP q) (hP : isP σ p q) (h19 : ∀ c, 0 ≤ c → c < qN q → σ 19 c = sc0 q c) {a b : Int} (ha : 0 ≤ a ∧ a < qN q) (hb : 0 ≤ b ∧ b < qN q) : IsI 0 y_Runo_goOn [vr 18, vr p, vi a, vi b] L σ (bI (two q a b)) := by
  have hn := hq.1
  refine e_Runo_goOn hY hp ?_
  refine upto (P := fun c => (∀ j, 0 ≤ j → j < c → j = a ∨ j = b ∨ (sc0 q j ≤ sc0 q a ∧ sc0 q j ≤ sc0 q b)) → G_Runo_goOn_3 0 L σ _ _ p a b c) (a := 0) (n := qN q) ?_ ?_ 0 (by omega) (by omega) (fun j j0 j1 => absurd j1 (by omega))
  · intro h
    exact r_Runo_goOn_3 hY hp ⟨fun _ => ⟨(bI_p h).symm, rfl⟩, fun g => absurd g (by rw [hP.1]; omega)⟩
  · intro c c0 c1 ih h
    have nxt : (c = a ∨ c = b ∨ (sc0 q c ≤ sc0 q a ∧ sc0 q c ≤ sc0 q b)) → G_Runo_goOn_3 0 L σ (fun z σ' => z = bI (two q a b) ∧ σ' = σ) NT p a b (c + 1) := fun g => ih fun j j0 j1 => by
      by_cases e : j = c
      · rw [e]; exact g
      · exact h j j0 (by omega)
    refine r_Runo_goOn_3 hY hp ⟨fun g => absurd g (by rw [hP.1]; omega), fun g => ⟨fun e => ⟨by omega, nxt (Or.inl e)⟩, fun e => ⟨fun e2 => ⟨by omega, nxt (Or.inr (Or.inl e2))⟩, fun e2 => ?_⟩⟩⟩
    rw [h19 a ha.1 ha.2, h19 b hb.1 hb.2, h19 c c0 c1]
    refine ⟨by omega, by omega, fun e3 => ⟨(bI_n fun w => ?_).symm, rfl⟩, fun e3 => ⟨by omega, by omega, fun e4 => ⟨by omega, nxt (Or.inr (Or.inr ⟨e3, e4⟩))⟩, fun e4 => ⟨(bI_n fun w => ?_).symm, rfl⟩⟩⟩
    · have := w c c0 c1; omega
    · have := w c c0 c1; omega
theorem c_win18 (hY : Lay L) (hp : isPr p) (hq : okP q) (hP : isP σ p q) : Ex 1 y_Runo_winners [vr 18, vr p] L σ (PI L (fun z σ' => isM z (qN q) (W3 q) ∧ Fr σ σ') NT) := by
  have hn := hq.1
  refine e_Runo_winners hY hp ?_
  refine upto (P := fun c => ∀ σ', (Fr σ σ' ∧ ∀ j, 0 ≤ j → j < c → σ' 19 j = sc0 q j) → G_Runo_winners_4 0 L σ' (fun z σ' => isM z (qN q) (W3 q) ∧ Fr σ σ') NT p 0 c) (a := 0) (n := qN q) ?_ ?_ 0 (by omega) (by omega) σ ⟨Fr.refl σ, fun j j0 j1 => absurd j1 (by omega)⟩
  · rintro σ' ⟨f1, f2⟩
    have hP' := hP.fr hq hp f1
    refine r_Runo_winners_4 hY hp ⟨fun _ => ?_, fun g => absurd g (by rw [hP'.1]; omega)⟩
    refine upto (P := fun a => ∀ z, isM z (qN q) (W3p q a (a + 1)) → G_Runo_winners_35 0 L σ' (fun z σ' => isM z (qN q) (W3 q) ∧ Fr σ σ') NT p z a) (a := 0) (n := qN q) ?_ ?_ 0 (by omega) (by omega) 0 (isM.empty fun i _ _ => W3p_0)
    · intro z hz
      exact r_Runo_winners_35 hY hp ⟨fun _ => ⟨hz.ext fun i _ _ _ => W3p_end, f1⟩, fun g => absurd g (by rw [hP'.1]; omega)⟩
    · intro a a0 a1 ih z hz
      refine r_Runo_winners_35 hY hp ⟨fun g => absurd g (by rw [hP'.1]; omega), fun _ => ⟨by omega, ?_⟩⟩
      refine upto (P := fun b => ∀ z, isM z (qN q) (W3p q a b) → G_Runo_winners_48 0 L σ' (fun z σ' => isM z (qN q) (W3 q) ∧ Fr σ σ') NT p z a b) (a := a + 1) (n := qN q) ?_ ?_ (a + 1) (by omega) (by omega) z hz
      · intro z hz
        refine r_Runo_winners_48 hY hp ⟨fun _ => ⟨by omega, ih z (hz.ext fun i _ _ _ => ?_)⟩, fun g => absurd g (by rw [hP'.1]; omega)⟩
        rw [W3p_next, show a + 2 = a + 1 + 1 by omega]
      · intro b b0 b1 ihb z hz
        refine r_Runo_winners_48 hY hp ⟨fun g => absurd g (by rw [hP'.1]; omega), fun _ => ?_⟩
        refine (c_goOn hY hp hq hP' f2 ⟨a0, a1⟩ ⟨by omega, b1⟩).to (by omega) ⟨fun g => ?_, fun g => ⟨by omega, ihb z (hz.ext fun i _ _ _ => ?_)⟩⟩
        · have g := bI_t g
          have fin : ∀ z, isM z (qN q) (fun i => W3p q a b i ∨ i = a ∧ ¬ bts q b a) → G_Runo_winners_87 0 L σ' (fun z σ' => isM z (qN q) (W3 q) ∧ Fr σ σ') NT p z a b := by
            intro z hz
            refine r_Runo_winners_87 hY hp ((c_beats hY hp hq hP' ⟨a0, a1⟩ ⟨by omega, b1⟩).to (by omega) ⟨fun e => ⟨by omega, ihb z (hz.ext fun i _ _ _ => ?_)⟩, fun e => ⟨by omega, ihb _ (hz.ins (by omega) b1 (by omega) fun i _ _ => ?_)⟩⟩)
            · have e := bI_t e
              rw [W3p_step a0 (by omega) b1]
              constructor
              · rintro (h | h)
                · exact Or.inl h
                · exact Or.inr ⟨g, Or.inl h⟩
              · rintro (h | ⟨-, h | h⟩)
                · exact Or.inl h
                · exact Or.inr h
                · exact absurd e h.2
            · have e := bI_f e
              rw [W3p_step a0 (by omega) b1]
              constructor
              · rintro (h | ⟨-, h | h⟩)
                · exact Or.inl (Or.inl h)
                · exact Or.inl (Or.inr h)
                · exact Or.inr h.1
              · rintro ((h | h) | h)
                · exact Or.inl h
                · exact Or.inr ⟨g, Or.inl h⟩
                · exact Or.inr ⟨g, Or.inr ⟨h, e⟩⟩
          refine (c_beats hY hp hq hP' ⟨by omega, b1⟩ ⟨a0, a1⟩).to (by omega) ⟨fun e => fin z (hz.ext fun i _ _ _ => ?_), fun e => fin _ (hz.ins a0 a1 (by omega) fun i _ _ => ?_)⟩
          · exact ⟨Or.inl, fun h => h.elim id (fun h => absurd (bI_t e) h.2)⟩
          · exact ⟨fun h => h.elim Or.inl (fun h => Or.inr h.1), fun h => h.elim Or.inl (fun h => Or.inr ⟨h, bI_f e⟩)⟩
        · have g := bI_f g
          rw [W3p_step a0 (by omega) b1]
          exact ⟨Or.inl, fun h => h.elim id (fun h => absurd h.1 g)⟩
  · rintro c c0 c1 ih σ' ⟨f1, f2⟩
    have hP' := hP.fr hq hp f1
    refine r_Runo_winners_4 hY hp ⟨fun g => absurd g (by rw [hP'.1]; omega), fun _ => ?_⟩
    refine (c_all hY hp hq hP').to (by omega) ?_
    refine (c_firsts hY hp hq hP' (al_nz hq)).to (by omega) ⟨by omega, by omega, ih _ ⟨fun k j hk => ?_, fun j j0 j1 => ?_⟩⟩
    · rw [u_ne (by rintro rfl; exact hk (by unfold scr; omega))]; exact f1 k j hk
    · rw [u_if]
      by_cases e : j = c
      · rw [if_pos e, e]; rfl
      · rw [if_neg e]; exact f2 j j0 (by omega)
theorem c_beaten (hY : Lay L) (hp : isPr p) (hq : okP q) (hP : isP σ p q) {a : Int} (ha : 0 ≤ a ∧ a < qN q) : Ex 1 y_Unco_beaten [vr p, vi a] L σ (PI L (fun z σ' => isM z (qN q) (bts q a) ∧ σ' = σ) NT) := by
  have hn := hq.1
  refine e_Unco_beaten hY hp ?_
  refine upto (P := fun b => ∀ z, isM z b (bts q a) → G_Unco_beaten_4 0 L σ (fun z σ' => isM z (qN q) (bts q a) ∧ σ' = σ) NT p a z b) (a := 0) (n := qN q) ?_ ?_ 0 (by omega) (by omega) 0 (isM.zero _)
  · intro z hz
    exact r_Unco_beaten_4 hY hp ⟨fun _ => ⟨hz, rfl⟩, fun g => absurd g (by rw [hP.1]; omega)⟩
  · intro b b0 b1 ih z hz
    refine r_Unco_beaten_4 hY hp ⟨fun g => absurd g (by rw [hP.1]; omega), fun _ => ?_⟩
    exact (c_beats hY hp hq hP ha ⟨b0, b1⟩).to (by omega) ⟨fun e => ⟨by omega, ih z (hz.skip (bI_f e))⟩, fun e => ⟨by omega, ih _ (hz.or b0 (by omega) (bI_t e))⟩⟩
theorem c_win26 (hY : Lay L) (hp : isPr p) (hq : okP q) (hP : isP σ p q) : Ex 2 y_Unco_winners [vr 26, vr p] L σ (PI L (fun z σ' => isM z (qN q) (W10 q) ∧ σ' = σ) NT) := by
  have hn := hq.1
  refine e_Unco_winners hY hp ?_
  refine upto (P := fun a => ∀ z, isM z (qN q) (fun i => ∃ x, 0 ≤ x ∧ x < a ∧ cov q x i) → G_Unco_winners_4 1 L σ (fun z σ' => isM z (qN q) (W10 q) ∧ σ' = σ) NT p z a) (a := 0) (n := qN q) ?_ ?_ 0 (by omega) (by omega) 0 (isM.empty fun i _ _ => by rintro ⟨x, h1, h2, -⟩; omega)
  · intro z hz
    refine r_Unco_winners_4 hY hp ⟨fun _ => (c_all hY hp hq hP).to (by omega) ⟨((al_is hq).andNot hz).ext fun i _ _ _ => ?_, rfl⟩, fun g => absurd g (by rw [hP.1]; omega)⟩
    exact ⟨fun h => h.2, fun h => ⟨trivial, h⟩⟩
  · intro a a0 a1 ih z hz
    refine r_Unco_winners_4 hY hp ⟨fun g => absurd g (by rw [hP.1]; omega), fun _ => ?_⟩
    refine Ex.toI (c_beaten hY hp hq hP ⟨a0, a1⟩) ?_ (fun _ _ h => h)
    rintro mine σ' ⟨hmine, rfl⟩
    refine upto (P := fun b => ∀ z, isM z (qN q) (fun i => (∃ x, 0 ≤ x ∧ x < a ∧ cov q x i) ∨ i < b ∧ cov q a i) → G_Unco_winners_22 1 L σ' (fun z σ'' => isM z (qN q) (W10 q) ∧ σ'' = σ') NT p z a mine b) (a := 0) (n := qN q) ?_ ?_ 0 (by omega) (by omega) z (hz.ext fun i i0 _ _ => ⟨Or.inl, fun h => h.elim id (fun h => absurd h.1 (by omega))⟩)
    · intro z hz
      refine r_Unco_winners_22 hY hp ⟨fun _ => ⟨by omega, ih z (hz.ext fun i _ i1 _ => ?_)⟩, fun g => absurd g (by rw [hP.1]; omega)⟩
      constructor
      · rintro (⟨x, h1, h2, h3⟩ | h)
        · exact ⟨x, h1, by omega, h3⟩
        · exact ⟨a, a0, by omega, h.2⟩
      · rintro ⟨x, h1, h2, h3⟩
        by_cases e : x = a
        · rw [e] at h3; exact Or.inr ⟨i1, h3⟩
        · exact Or.inl ⟨x, h1, by omega, h3⟩
    · intro b b0 b1 ihb z hz
      have no : ¬ cov q a b → isM z (qN q) (fun i => (∃ x, 0 ≤ x ∧ x < a ∧ cov q x i) ∨ i < b + 1 ∧ cov q a i) := fun hc => hz.ext fun i _ _ _ => ⟨fun h => h.elim Or.inl (fun h => Or.inr ⟨by omega, h.2⟩), fun h => h.elim Or.inl (fun h => by
        by_cases e : i = b
        · rw [e] at h; exact absurd h.2 hc
        · exact Or.inr ⟨by omega, h.2⟩)⟩
      refine r_Unco_winners_22 hY hp ⟨fun g => absurd g (by rw [hP.1]; omega), fun _ => ?_⟩
      refine (c_beats hY hp hq hP ⟨a0, a1⟩ ⟨b0, b1⟩).to (by omega) ⟨fun e => ⟨by omega, ihb z (no fun h => bI_f e h.1)⟩, fun e => ?_⟩
      refine Ex.toI (c_beaten hY hp hq hP ⟨b0, b1⟩) ?_ (fun _ _ h => h)
      rintro his σ'' ⟨hhis, rfl⟩
      have hz2 := hhis.andNot hmine
      refine ⟨fun e2 => ⟨by omega, ihb z (no fun h => e2 (hz2.zero_iff.mpr fun i i0 i1 _ w => w.2 (h.2 i i0 i1 w.1)))⟩, fun e2 => ⟨by omega, ihb _ (hz.ins b0 b1 (by omega) fun i i0 i1 => ?_)⟩⟩
      have hc : cov q a b := ⟨bI_t e, fun c c0 c1 hb => Classical.byContradiction fun w => hz2.zero_iff.mp e2 c c0 c1 (by omega) ⟨hb, w⟩⟩
      constructor
      · rintro (h | h)
        · exact Or.inl (Or.inl h)
        · by_cases e3 : i = b
          · exact Or.inr e3
          · exact Or.inl (Or.inr ⟨by omega, h.2⟩)
      · rintro ((h | h) | h)
        · exact Or.inl h
        · exact Or.inr ⟨by omega, h.2⟩
        · rw [h]; exact Or.inr ⟨by omega, hc⟩
theorem c_win27 (hY : Lay L) (hp : isPr p) (hq : okP q) (hP : isP σ p q) : Ex 1 y_Agen_winners [vr 27, vr p] L σ (PI L (fun z σ' => isM z (qN q) (W11 q) ∧ σ' = σ) NT) := by
  have hn := hq.1
  refine e_Agen_winners hY hp ?_
  rw [hP.2.2.2.2.2.2.1 0 (by omega) (by omega)]
  refine upto (P := fun k => G_Agen_winners_9 0 L σ (fun z σ' => isM z (qN q) (W11 q) ∧ σ' = σ) NT p (svr q (k - 1).toNat) k) (a := 1) (n := qN q) ?_ ?_ 1 (by omega) (by omega)
  · have h := svr_in hq (qN q - 1).toNat (by omega)
    exact r_Agen_winners_9 hY hp ⟨fun _ => ⟨isM.sing h.1 h.2 hn.2, rfl⟩, fun g => absurd g (by rw [hP.1]; omega)⟩
  · intro k k0 k1 ih
    have h := svr_in hq (k - 1).toNat (by omega)
    have hc := hq.2.2.2.2.2.1.1 k (by omega) k1
    rw [show k + 1 - 1 = (k - 1) + 1 by omega, show (k - 1 + 1).toNat = (k - 1).toNat + 1 by omega] at ih
    unfold svr at ih
    rw [show (((k - 1).toNat : Nat) : Int) + 1 = k by omega] at ih
    refine r_Agen_winners_9 hY hp ⟨fun g => absurd g (by rw [hP.1]; omega), fun _ => ⟨by omega, ?_⟩⟩
    rw [hP.2.2.2.2.2.2.1 k (by omega) k1]
    refine (c_beats hY hp hq hP hc h).to (by omega) ⟨fun e => ⟨by omega, ?_⟩, fun e => ?_⟩
    · rw [if_pos (Or.inl (bI_t e))] at ih
      exact ih
    · refine (c_beats hY hp hq hP h hc).to (by omega) ⟨fun e2 => ⟨by omega, ?_⟩, fun e2 => ?_⟩
      · rw [if_neg (fun w => w.elim (bI_f e) (fun w => w.1 (bI_t e2)))] at ih
        exact ih
      · refine (c_tie hY hp hq hP hc).to (by omega) ((c_tie hY hp hq hP h).to (by omega) ⟨fun e3 => ⟨by omega, ?_⟩, fun e3 => ⟨by omega, ?_⟩⟩)
        · rw [if_neg (fun w => w.elim (bI_f e) (fun w => by have := w.2; omega))] at ih
          exact ih
        · rw [if_pos (Or.inr ⟨bI_f e2, e3⟩)] at ih
          exact ih
end
