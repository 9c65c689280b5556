/-! SCORE -/
def scR (r : Int) : Prop := r = 0 ∨ r = 1 ∨ r = 2 ∨ r = 5 ∨ r = 6
noncomputable def scV (q : Pf) (r c : Int) : Int := if r = 0 then sc0 q c else if r = 1 then sc1 q c else if r = 2 then sc2 q c else if r = 5 then sc5 q c else sc6 q c
def spSc (s : St) (r c : Int) : Sp := fun k z s' => (((0 ≤ r ∧ r < 12) ∧ 0 ≤ c ∧ c < qN s.1) ∧ scR r ∧ k = 0 ∧ z = scV s.1 r c ∧ s' = s) ∨ (¬ ((0 ≤ r ∧ r < 12) ∧ 0 ≤ c ∧ c < qN s.1) ∧ k = 1 ∧ s' = s) ∨ (((0 ≤ r ∧ r < 12) ∧ 0 ≤ c ∧ c < qN s.1) ∧ ¬ scR r ∧ k = 2 ∧ s' = s)
section
variable {L : List Sh} {σ : Mm} {s : St} {q : Pf}
theorem d_score (hY : Lay L) (hD : DI σ s) {r c : Int} : DOpL y_Desk_score [vr 0, vi r, vi c] L σ (spSc s r c) (fun c => if c = 2 then 1 else 2) := by
  refine Ex.deep (d := 8) ?_ (by omega)
  have hq := hD.1.1
  have hP := hD.2.1
  refine e_Desk_score hY ((c_ruled hY).to (by omega) (fun hr => ?_) (fun hr => ⟨s, Or.inr (Or.inl ⟨fun g => hr g.1, rfl, rfl⟩), hD, FD.refl σ, by decide⟩))
  refine (c_stands hY hP.1).to (by omega) (fun hc => ?_) (fun hc => ⟨s, Or.inr (Or.inl ⟨fun g => hc g.2, rfl, rfl⟩), hD, FD.refl σ, by decide⟩)
  refine ⟨hr, fun e => ?_, fun e => ?_, fun e => ?_, fun e => ?_, fun e => ?_, fun e => ⟨by omega, s, Or.inr (Or.inr ⟨⟨hr, hc⟩, e, rfl, rfl⟩), hD, FD.refl σ, by decide⟩⟩
  · subst e; exact (c_sc0 hY pr30 hq hP).to (by omega) ⟨s, Or.inl ⟨⟨hr, hc⟩, by unfold scR; omega, rfl, rfl, rfl⟩, hD, FD.refl σ⟩
  · subst e; exact (c_sc1 hY pr30 hq hP).to (by omega) ⟨s, Or.inl ⟨⟨hr, hc⟩, by unfold scR; omega, rfl, rfl, rfl⟩, hD, FD.refl σ⟩
  · subst e; exact (c_sc2 hY pr30 hq hP hc).to (by omega) ⟨s, Or.inl ⟨⟨hr, hc⟩, by unfold scR; omega, rfl, rfl, rfl⟩, hD, FD.refl σ⟩
  · subst e; exact (c_sc5 hY pr30 hq hP hc).to (by omega) ⟨s, Or.inl ⟨⟨hr, hc⟩, by unfold scR; omega, rfl, rfl, rfl⟩, hD, FD.refl σ⟩
  · subst e; exact (c_sc6 hY pr30 hq hP hc).to (by omega) ⟨s, Or.inl ⟨⟨hr, hc⟩, by unfold scR; omega, rfl, rfl, rfl⟩, hD, FD.refl σ⟩
theorem mo_score (hY : Lay L) (hq : okB s.1) (hB : MB σ s) {r c : Int} : MOpL y_Mod_score [vr 102, vi r, vi c] L σ (spSc s r c) := by
  refine Ex.deep (d := 3) ?_ (by omega)
  have hn := hq.1.1
  have go : ∀ x y : Int, (x ≠ 0 ↔ ((0 ≤ r ∧ r < 12) ∧ 0 ≤ c ∧ c < qN s.1)) → (y ≠ 0 ↔ scR r) → G_Mod_score_45 2 L σ (fun z σ' => ∃ k s', spSc s r c k z s' ∧ σ' 102 0 = k ∧ MB σ' s' ∧ FM σ σ') NT r c y x := by
    intro x y hx hy
    refine r_Mod_score_45 hY (m_gate hY hB rfl (fun h1 h2 σ' hB' hf h0 _ => ⟨fun _ => ?_, fun w => absurd w (by decide)⟩) (fun h1 σ' hB' hf h0 => ⟨fun w => absurd rfl w, fun _ => ⟨1, s, Or.inr (Or.inl ⟨fun w => (hx.mpr w) h1, rfl, rfl⟩), h0, hB', hf.fm⟩⟩) (fun h1 h2 σ' hB' hf h0 => ⟨fun w => absurd rfl w, fun _ => ⟨2, s, Or.inr (Or.inr ⟨hx.mp h1, fun w => (hy.mpr w) h2, rfl, rfl⟩), h0, hB', hf.fm⟩⟩))
    have hg := hx.mp h1
    have hs := hy.mp h2
    refine (Ex.toV (m_load hY hq hB') ?_ (fun _ _ h => h)).deep (by omega)
    rintro σ₁ ⟨hC, hl⟩
    refine (Ex.toV (m_tally hY hq.1 hC) ?_ (fun _ _ h => h)).deep (by omega)
    rintro σ₂ ⟨hT, ht⟩
    have C2 : isC σ₂ s.1 := hC.fc fun k j hk => ht k j (by omega)
    have f2 : FS σ' σ₂ := hl.fs.trans fun k j h1 _ => ht k j (by omega)
    have fin : ∀ z, z = scV s.1 r c → ∃ k s', spSc s r c k z s' ∧ σ₂ 102 0 = k ∧ MB σ₂ s' ∧ FM σ σ₂ := fun z hz => ⟨0, s, Or.inl ⟨hg, hs, rfl, hz, rfl⟩, by rw [ht _ _ (by omega), hl _ _ (by omega) (by omega)]; exact h0, hB'.fs f2, (hf.trans f2).fm⟩
    rcases hs with e | e | e | e | e
    · subst e; exact (m_sc0 hY hq.1 C2).to (by omega) (fin _ rfl)
    · subst e; exact (m_sc1 hY hq.1 C2 hg.2).to (by omega) (fin _ rfl)
    · subst e; exact (m_sc2 hY hq.1 C2 hg.2).to (by omega) (fin _ rfl)
    · subst e; exact (m_sc5 hY hq.1 C2 hT hg.2).to (by omega) (fin _ rfl)
    · subst e; exact (m_sc6 hY hq.1 C2 hT hg.2).to (by omega) (fin _ rfl)
  have mid : ∀ x : Int, (x ≠ 0 ↔ ((0 ≤ r ∧ r < 12) ∧ 0 ≤ c ∧ c < qN s.1)) → G_Mod_score_21 2 L σ (fun z σ' => ∃ k s', spSc s r c k z s' ∧ σ' 102 0 = k ∧ MB σ' s' ∧ FM σ σ') NT r c x := by
    intro x hx
    refine r_Mod_score_21 hY ((m_within hY).to (by omega) ⟨fun h => go x 1 hx ⟨fun _ => by have := bI_t h; unfold scR; omega, fun _ => by decide⟩, fun h => ?_⟩)
    have h := bI_f h
    exact (m_within hY).to (by omega) ⟨fun h2 => go x 0 hx ⟨fun w => absurd rfl w, fun w => by have := bI_f h2; unfold scR at w; omega⟩, fun h2 => go x 1 hx ⟨fun _ => by have := bI_t h2; unfold scR; omega, fun _ => by decide⟩⟩
  refine e_Mod_score hY ((m_isRule hY).to (by omega) ⟨fun h => mid 0 ⟨fun w => absurd rfl w, fun w => absurd w.1 (bI_f h)⟩, fun h => ?_⟩)
  exact (m_isCandidate hY hB.1 hn).to (by omega) ⟨fun h2 => mid 0 ⟨fun w => absurd rfl w, fun w => absurd w.2 (bI_f h2)⟩, fun h2 => mid 1 ⟨fun _ => ⟨bI_t h, bI_t h2⟩, fun _ => by decide⟩⟩
end
