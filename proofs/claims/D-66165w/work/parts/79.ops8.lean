section
variable {L : List Sh} {σ : Mm} {s : St} {q : Pf}
theorem mo_step (hY : Lay L) (hq : okB s.1) (hB : MB σ s) {k₀ : Int} : MOp y_Mod_step [vr 102, vi k₀] L σ (spStep s k₀) := by
  refine Ex.deep (d := 2) ?_ (by omega)
  have hn := hq.1.1
  have hm := hq.1.2.2.2.2.1
  refine e_Mod_step hY ⟨by rw [hB.1]; omega, ?_⟩
  rw [hB.1]
  refine (m_within hY).to (by omega) ?_
  refine m_gate hY hB rfl (fun h1 h2 σ' hB' hf h0 _ => ⟨fun _ => ?_, fun w => absurd w (by decide)⟩) (fun h1 σ' hB' hf h0 => ⟨fun w => absurd rfl w, fun _ => ⟨1, s, Or.inr ⟨fun w => bI_f h1 (by omega), rfl, rfl⟩, h0, hB', hf.fm⟩⟩) (fun _ w => absurd w (by decide))
  have hk : 0 ≤ k₀ ∧ k₀ < qN s.1 := by have := bI_t h1; omega
  refine (Ex.toV (m_load hY hq hB') ?_ (fun _ _ h => h)).deep (by omega)
  rintro σ₁ ⟨hC, hl⟩
  have hB1 := hB'.fs hl.fs
  have e0 : σ₁ 102 0 = 0 := by rw [hl _ _ (by omega) (by omega)]; exact h0
  have hfm := (hf.trans hl.fs).fm
  refine (m_all hY hq.1 hC).to (by omega) ?_
  -- at i: who is left; who went last, if any
  refine upto (P := fun i => ∀ z g, (i ≤ k₀ → stS s.1 i.toNat z) → (i = k₀ + 1 → ∃ y, stS s.1 k₀.toNat y ∧ isLa s.1 (lw s.1 y) g) → G_Mod_step_35 1 L σ₁ (fun z σ' => ∃ k s', spStep s k₀ k z s' ∧ σ' 102 0 = k ∧ MB σ' s' ∧ FM σ σ') NT k₀ z g i) (a := 0) (n := k₀ + 1) ?_ ?_ 0 (by omega) (by omega) (alq s.1) (-1) (fun _ => rfl) (fun w => absurd w (by omega))
  · intro z g _ hg
    exact r_Mod_step_35 hY ⟨fun _ => ⟨0, s, Or.inl ⟨hk, rfl, hg rfl, rfl⟩, e0, hB1, hfm⟩, fun w => absurd w (by omega)⟩
  · intro i i0 i1 ih z g hz _
    have hz := hz (by omega)
    have hnz := hz.nz hq.1 (by omega)
    refine r_Mod_step_35 hY ⟨fun w => absurd w (by omega), fun _ => ?_⟩
    refine Ex.toI (m_weakest hY hq.1 hC hnz) ?_ (fun _ _ h => h)
    rintro gone σ₂ ⟨hg, rfl⟩
    refine upto (P := fun j => ∀ g, ((∀ b, 0 ≤ b → b < qN s.1 → lw s.1 z b → ¬ ps (qI' s.1) b < j) ∨ ((0 ≤ g ∧ g < qN s.1) ∧ lw s.1 z g ∧ ∀ b, 0 ≤ b → b < qN s.1 → lw s.1 z b → ps (qI' s.1) b < j → ps (qI' s.1) b ≤ ps (qI' s.1) g)) → G_Mod_step_51 1 L σ₂ (fun z σ' => ∃ k s', spStep s k₀ k z s' ∧ σ' 102 0 = k ∧ MB σ' s' ∧ FM σ σ') NT k₀ z g i gone j) (a := 0) (n := qN s.1) ?_ ?_ 0 (by omega) (by omega) g (Or.inl fun b b0 b1 _ w => by have := ps_spec hn.2 hm b0 b1; omega)
    · intro g hgg
      have hla : isLa s.1 (lw s.1 z) g := by
        rcases hgg with h | h
        · obtain ⟨c, c0, c1, hc⟩ := lw_ex hq.1 hnz
          exact absurd (ps_spec hn.2 hm c0 c1).2.1 (h c c0 c1 hc)
        · exact ⟨h.1, h.2.1, fun b b0 b1 hb => h.2.2 b b0 b1 hb (ps_spec hn.2 hm b0 b1).2.1⟩
      refine r_Mod_step_51 hY ⟨fun _ => ⟨by omega, ih _ g (fun w => ?_) (fun w => ⟨z, ?_, hla⟩)⟩, fun w => absurd w (by rw [hC.1]; omega)⟩
      · rw [show (i + 1).toNat = i.toNat + 1 by omega]
        exact ⟨z, g, hz, hla, rfl⟩
      · rw [show k₀ = i by omega]; exact hz
    · intro j j0 j1 ihj g hgg
      have hr := hm.1 j j0 j1
      have hb := hg.bit hr.1 hr.2 hn.2
      have hat := ps_at hn.2 hm j0 j1
      have e := hC.2.2.2.2.1 j j0 j1
      refine r_Mod_step_51 hY ⟨fun w => absurd w (by rw [hC.1]; omega), fun _ => ?_⟩
      rw [e]
      refine ⟨by omega, fun w => ⟨by omega, ihj g ?_⟩, fun w => ⟨by omega, by omega, ihj _ (Or.inr ⟨hr, hb.1.mp w, fun b b0 b1 hfb hlt => by rw [hat]; omega⟩)⟩⟩
      have no : ∀ b, 0 ≤ b → b < qN s.1 → lw s.1 z b → ps (qI' s.1) b ≠ j := fun b b0 b1 hfb v => by
        have sb := ps_spec hn.2 hm b0 b1
        rw [v] at sb
        rw [sb.2.2] at w hb
        exact w (hb.1.mpr hfb)
      rcases hgg with h | h
      · exact Or.inl fun b b0 b1 hfb v => h b b0 b1 hfb (by have := no b b0 b1 hfb; omega)
      · exact Or.inr ⟨h.1, h.2.1, fun b b0 b1 hfb v => h.2.2 b b0 b1 hfb (by have := no b b0 b1 hfb; omega)⟩
end
