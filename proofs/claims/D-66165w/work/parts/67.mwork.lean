/-! THE MODEL's RULES, all -/
section
variable {L : List Sh} {σ : Mm} {q : Pf}
theorem m_work (hY : Lay L) (hq : okP q) (hC : isC σ q) {r : Int} (hr : 0 ≤ r ∧ r < 12) : Ex 3 y_Mod_work [vr 102, vi r] L σ (PI L (fun z σ' => isM z (qN q) (Wr r q) ∧ FC σ σ' ∧ (r = 4 → leftE q σ') ∧ isT σ' q) NT) := by
  refine e_Mod_work hY ?_
  refine (Ex.toV (m_tally hY hq hC) ?_ (fun _ _ h => h)).deep (by omega)
  rintro σ₁ ⟨hT, hf⟩
  have f1 : FC σ σ₁ := fun k j hk => hf k j (by omega)
  have hC1 := hC.fc f1
  have fin : ∀ (σ' : Mm), (∀ k j, ¬ (113 ≤ k ∧ k < 118) → σ' k j = σ₁ k j) → FC σ σ' := fun σ' h => FC.trans f1 h
  have tT : ∀ σ' : Mm, (∀ j, σ' 113 j = σ₁ 113 j) → isT σ' q := fun σ' h a b a0 a1 b0 b1 => by rw [h]; exact hT a b a0 a1 b0 b1
  refine ⟨fun e => ?_, fun e => ?_, fun e => ?_, fun e => ?_, fun e => ?_, fun e => ?_, fun e => ?_, fun e => ?_, fun e => ?_, fun e => ?_, fun e => ?_, fun e => ?_⟩
  · subst e
    exact r_Mod_work_64 hY (Ex.toI (m_top hY hq hC1 (s := sc0 q) fun c _ _ => m_sc0 hY hq hC1) (fun z σ' h => ⟨h.1, h.2 ▸ f1, (fun w => absurd w (by omega)), h.2 ▸ hT⟩) (fun _ _ h => h))
  · subst e
    exact r_Mod_work_71 hY (Ex.toI (m_low hY hq hC1 (s := sc1 q) fun c c0 c1 => m_sc1 hY hq hC1 ⟨c0, c1⟩) (fun z σ' h => ⟨h.1, h.2 ▸ f1, (fun w => absurd w (by omega)), h.2 ▸ hT⟩) (fun _ _ h => h))
  · subst e
    exact r_Mod_work_64 hY (Ex.toI (m_top hY hq hC1 (s := sc2 q) fun c c0 c1 => m_sc2 hY hq hC1 ⟨c0, c1⟩) (fun z σ' h => ⟨h.1, h.2 ▸ f1, (fun w => absurd w (by omega)), h.2 ▸ hT⟩) (fun _ _ h => h))
  · subst e
    exact r_Mod_work_78 hY (Ex.toI (m_runoff hY hq hC1 hT) (fun z σ' h => ⟨h.1, h.2 ▸ f1, (fun w => absurd w (by omega)), h.2 ▸ hT⟩) (fun _ _ h => h))
  · subst e
    exact r_Mod_work_83 hY (Ex.toI (m_eliminate hY hq hC1) (fun z σ' h => ⟨h.1, fin σ' fun k j hk => h.2.2 k j (by omega), (fun _ => h.2.1), tT σ' fun j => h.2.2 113 j (by omega)⟩) (fun _ _ h => h))
  · subst e
    exact r_Mod_work_71 hY (Ex.toI (m_low hY hq hC1 (s := sc5 q) fun c c0 c1 => m_sc5 hY hq hC1 hT ⟨c0, c1⟩) (fun z σ' h => ⟨h.1, h.2 ▸ f1, (fun w => absurd w (by omega)), h.2 ▸ hT⟩) (fun _ _ h => h))
  · subst e
    exact r_Mod_work_64 hY (Ex.toI (m_top hY hq hC1 (s := sc6 q) fun c c0 c1 => m_sc6 hY hq hC1 hT ⟨c0, c1⟩) (fun z σ' h => ⟨h.1, h.2 ▸ f1, (fun w => absurd w (by omega)), h.2 ▸ hT⟩) (fun _ _ h => h))
  · subst e
    exact r_Mod_work_88 hY (Ex.toI (m_pathWinners hY hq hC1 hT) (fun z σ' h => ⟨h.1, fin σ' fun k j hk => h.2 k j (by omega), (fun w => absurd w (by omega)), tT σ' fun j => h.2 113 j (by omega)⟩) (fun _ _ h => h))
  · subst e
    exact r_Mod_work_93 hY (Ex.toI (m_lockWinners hY hq hC1 hT) (fun z σ' h => ⟨h.1, fin σ' fun k j hk => h.2 k j (by omega), (fun w => absurd w (by omega)), tT σ' fun j => h.2 113 j (by omega)⟩) (fun _ _ h => h))
  · subst e
    exact r_Mod_work_98 hY (Ex.toI (m_agreeing hY hq hC1 hT) (fun z σ' h => ⟨h.1, fin σ' fun k j hk => h.2 k j (by omega), (fun w => absurd w (by omega)), tT σ' fun j => h.2 113 j (by omega)⟩) (fun _ _ h => h))
  · subst e
    exact r_Mod_work_103 hY ((Ex.toI (m_uncovered hY hq hC1 hT) (fun z σ' h => ⟨h.1, h.2 ▸ f1, (fun w => absurd w (by omega)), h.2 ▸ hT⟩) (fun _ _ h => h)).deep (by omega))
  · have e : r = 11 := by omega
    subst e
    exact r_Mod_work_108 hY ((Ex.toI (m_agenda hY hq hC1 hT) (fun z σ' h => ⟨h.1, h.2 ▸ f1, (fun w => absurd w (by omega)), h.2 ▸ hT⟩) (fun _ _ h => h)).deep (by omega))
end
