/-! branches, count, circle -/
def spCnt (s : St) (w : Int) : Sp := fun k z s' => ((0 ≤ w ∧ w ≤ 2) ∧ k = 0 ∧ z = (if w = 0 then qN s.1 else if w = 1 then qT s.1 else S (qA s.1) (qT s.1)) ∧ s' = s) ∨ (¬ (0 ≤ w ∧ w ≤ 2) ∧ k = 1 ∧ s' = s)
section
variable {L : List Sh} {σ : Mm} {s : St} {p : Int} {q : Pf}
theorem mo_branches (hY : Lay L) (hq : okB s.1) (hB : MB σ s) : MOp y_Mod_branches [vr 102] L σ (spBr s) := by
  refine Ex.deep (d := 4) ?_ (by omega)
  obtain ⟨b1, b2, b3⟩ := hB.thr (σ := σ) 0
  have hal := (al_is hq.1).2.1
  have hap := pos_of (al_nz hq.1)
  refine e_Mod_branches hY ((Ex.toV (m_load hY hq b1) ?_ (fun _ _ h => h)).deep (by omega))
  rintro σ₁ ⟨hC, hl⟩
  refine (Ex.toI (m_work hY hq.1 hC (r := 4) (by omega)) ?_ (fun _ _ h => h)).deep (by omega)
  rintro z σ₂ ⟨w1, w2, w3⟩
  have hC2 := hC.fc w2
  obtain ⟨l1, l2⟩ := w3.1 rfl
  have f2 : FS σ σ₂ := b2.trans (hl.fs.trans w2.fs)
  have e0 : σ₂ 102 0 = 0 := by rw [w2 _ _ (by omega), hl _ _ (by omega) (by omega)]; exact b3
  have val : ∀ x, 0 < x → x ≤ alq s.1 → σ₂ 116 x = bI (Dn s.1 (alq s.1) x) := fun x x0 x1 => by
    by_cases e : Dn s.1 (alq s.1) x
    · rw [bI_p e]; exact (l1 x x0 x1).mpr e
    · rw [bI_n e]
      rcases l2 x x0 x1 with g | g
      · exact g
      · exact absurd ((l1 x x0 x1).mp g) e
  have no : ∀ x, ¬ (0 < x ∧ x ≤ alq s.1) → bI (Dn s.1 (alq s.1) x) = 0 := fun x hx => bI_n fun w => hx (Dn.le hq.1 w)
  have hbd : ∀ k, 0 ≤ k → 0 ≤ S (fun x => bI (Dn s.1 (alq s.1) x)) k ∧ S (fun x => bI (Dn s.1 (alq s.1) x)) k ≤ 1 * k := fun k hk => S_bd (n := k) (fun i _ _ => by rcases bI01 (Dn s.1 (alq s.1) i) with g | g <;> omega) k hk (Int.le_refl k)
  have h := upto (P := fun x => G_Mod_branches_19 3 L σ₂ (fun z σ' => ∃ k s', spBr s k z s' ∧ σ' 102 0 = k ∧ MB σ' s' ∧ FM σ σ') NT (S (fun x => bI (Dn s.1 (alq s.1) x)) x) x) (a := 1) (n := alq s.1 + 1) ?_ ?_ 1 (by omega) (by omega)
  · have e : S (fun x => bI (Dn s.1 (alq s.1) x)) 1 = 0 := by
      have := S_s (fun x => bI (Dn s.1 (alq s.1) x)) (n := 0) (by omega)
      rw [S_0, no 0 (by omega)] at this
      exact this
    rw [e] at h
    exact h
  · refine r_Mod_branches_19 hY ((m_all hY hq.1 hC2).to (by omega) ⟨fun _ => ⟨0, s, ⟨rfl, ?_, rfl⟩, e0, hB.fs f2, f2.fm⟩, fun g => absurd g (by omega)⟩)
    -- above all there is nothing
    have : ∀ k, alq s.1 + 1 ≤ k → S (fun x => bI (Dn s.1 (alq s.1) x)) k = S (fun x => bI (Dn s.1 (alq s.1) x)) (alq s.1 + 1) := by
      intro k hk
      refine upFrom (P := fun k => S (fun x => bI (Dn s.1 (alq s.1) x)) k = S (fun x => bI (Dn s.1 (alq s.1) x)) (alq s.1 + 1)) (a := alq s.1 + 1) rfl ?_ k hk
      intro k hk ih
      rw [S_s _ (by omega), ih, no k (by omega)]
      omega
    exact (this 128 (by omega)).symm
  · intro x x0 x1 ih
    have hb := hbd x (by omega)
    rw [S_s _ (by omega)] at ih
    refine r_Mod_branches_19 hY ((m_all hY hq.1 hC2).to (by omega) ⟨fun g => absurd g (by omega), fun _ => ⟨by omega, fun g => ⟨by omega, ?_⟩, fun g => ⟨by omega, by omega, ?_⟩⟩⟩)
    · rw [val x (by omega) (by omega)] at g
      rw [g, Int.add_zero] at ih
      exact ih
    · rw [val x (by omega) (by omega)] at g
      have : bI (Dn s.1 (alq s.1) x) = 1 := by rcases bI01 (Dn s.1 (alq s.1) x) with v | v <;> omega
      rw [this] at ih
      exact ih
theorem qA_bd (hq : okB q) : ∀ k, 0 ≤ k → k ≤ qT q → 0 ≤ S (qA q) k ∧ S (qA q) k ≤ 100000 * k := S_bd fun i h0 h1 => ⟨(hq.1.2.2.2.1 i h0 h1).1, hq.2.2 i h0 h1⟩
theorem d_count (hY : Lay L) (hD : DI σ s) {w : Int} : DOp y_Desk_count [vr 0, vi w] L σ (spCnt s w) (fun _ => 1) := by
  refine Ex.deep (d := 6) ?_ (by omega)
  have hT := hD.1.1.2.1
  have hP := hD.2.1
  refine e_Desk_count hY ⟨fun e => ?_, fun e => ?_, fun e => ?_, fun e => ?_⟩
  · subst e
    exact r_Desk_count_28 hY ⟨s, Or.inl ⟨by omega, rfl, hP.1, rfl⟩, hD, FD.refl σ⟩
  · subst e
    exact r_Desk_count_36 hY ⟨s, Or.inl ⟨by omega, rfl, hP.2.1, rfl⟩, hD, FD.refl σ⟩
  · subst e
    refine r_Desk_count_44 hY ?_
    refine upto (P := fun t => G_Desk_count_48 6 L σ (fun z σ' => ∃ s', spCnt s 2 0 z s' ∧ DI σ' s' ∧ FD σ σ') (fun c σ' => ∃ s', spCnt s 2 ((fun _ => 1) c) 0 s' ∧ DI σ' s' ∧ FD σ σ' ∧ 1 ≤ (fun _ => (1 : Int)) c) (S (qA s.1) t) t) (a := 0) (n := qT s.1) ?_ ?_ 0 (by omega) (by omega)
    · exact r_Desk_count_48 hY ⟨fun _ => ⟨s, Or.inl ⟨by omega, rfl, rfl, rfl⟩, hD, FD.refl σ⟩, fun g => absurd g (by rw [hP.2.1]; omega)⟩
    · intro t t0 t1 ih
      have hb := qA_bd hD.1 t t0 (by omega)
      have ha := hD.1.1.2.2.2.1 t t0 t1
      rw [S_s _ t0] at ih
      refine r_Desk_count_48 hY ⟨fun g => absurd g (by rw [hP.2.1]; omega), fun _ => ?_⟩
      rw [hP.2.2.2.1 t t0 t1]
      exact ⟨by omega, by omega, by omega, ih⟩
  · exact r_Desk_count_79 hY ⟨by omega, s, Or.inr ⟨by omega, rfl, rfl⟩, hD, FD.refl σ, by decide⟩
theorem mo_count (hY : Lay L) (hq : okB s.1) (hB : MB σ s) {w : Int} : MOp y_Mod_count [vr 102, vi w] L σ (spCnt s w) := by
  refine Ex.deep (d := 1) ?_ (by omega)
  have hT := hq.1.2.1
  have hT2 := hq.2.1
  refine e_Mod_count hY ((m_within hY).to (by omega) ?_)
  refine m_gate hY hB rfl (fun h1 h2 σ' hB' hf h0 _ => ⟨fun _ => ?_, fun w => absurd w (by decide)⟩) (fun h1 σ' hB' hf h0 => ⟨fun w => absurd rfl w, fun _ => ⟨1, s, Or.inr ⟨bI_f h1, rfl, rfl⟩, h0, hB', hf.fm⟩⟩) (fun _ w => absurd w (by decide))
  have hw := bI_t h1
  refine upto (P := fun t => G_Mod_count_20 0 L σ' (fun z σ' => ∃ k s', spCnt s w k z s' ∧ σ' 102 0 = k ∧ MB σ' s' ∧ FM σ σ') NT w (S (qA s.1) t) t) (a := 0) (n := qT s.1) ?_ ?_ 0 (by omega) (by omega)
  · refine r_Mod_count_20 hY ⟨fun _ => ⟨fun e => ⟨fun e2 => ⟨0, s, Or.inl ⟨hw, rfl, ?_, rfl⟩, h0, hB', hf.fm⟩, fun e2 => ⟨0, s, Or.inl ⟨hw, rfl, ?_, rfl⟩, h0, hB', hf.fm⟩⟩, fun e => ⟨0, s, Or.inl ⟨hw, rfl, ?_, rfl⟩, h0, hB', hf.fm⟩⟩, fun g => absurd g (by rw [hB'.2.1]; omega)⟩
    · rw [if_neg e, if_neg e2]
    · rw [if_neg e, if_pos e2]; exact hB'.2.1
    · rw [if_pos e]; exact hB'.1
  · intro t t0 t1 ih
    have hb := qA_bd hq t t0 (by omega)
    have ha := hq.1.2.2.2.1 t t0 t1
    rw [S_s _ t0] at ih
    refine r_Mod_count_20 hY ⟨fun g => absurd g (by rw [hB'.2.1]; omega), fun _ => ?_⟩
    rw [hB'.2.2.2.1 t t0 t1]
    exact ⟨by omega, by omega, by omega, ih⟩
end
