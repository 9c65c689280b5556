/-! properties: who beats all, whom all beat -/
def allB (q : Pf) (w a : Int) : Prop := ∀ b, 0 ≤ b → b < qN q → b ≠ a → ((w ≠ 0 → bts q a b) ∧ (w = 0 → bts q b a))
theorem allB.uniq {q : Pf} {w a b : Int} (ha : 0 ≤ a ∧ a < qN q) (hb : 0 ≤ b ∧ b < qN q) (h : allB q w a) (g : allB q w b) : a = b := by
  by_cases e : a = b
  · exact e
  · exfalso
    have h1 := h b hb.1 hb.2 (Ne.symm e)
    have g1 := g a ha.1 ha.2 e
    by_cases hw : w = 0
    · have x := h1.2 hw
      have y := g1.2 hw
      unfold bts at x y
      omega
    · have x := h1.1 hw
      have y := g1.1 hw
      unfold bts at x y
      omega
/-- the one, or -1 -/
def exR (q : Pf) (w z : Int) : Prop := ((0 ≤ z ∧ z < qN q) ∧ allB q w z) ∨ (z = -1 ∧ ∀ a, 0 ≤ a → a < qN q → ¬ allB q w a)
section
variable {L : List Sh} {σ : Mm} {s : St} {q : Pf}
theorem c_extreme (hY : Lay L) (hq : okP q) (hP : isP σ 30 q) {w : Int} : Ex 1 y_Desk_extreme [vr 0, vi w] L σ (PI L (fun z σ' => exR q w z ∧ σ' = σ) NT) := by
  have hn := hq.1
  refine e_Desk_extreme hY ?_
  refine upto (P := fun a => (∀ j, 0 ≤ j → j < a → ¬ allB q w j) → G_Desk_extreme_7 0 L σ (fun z σ' => exR q w z ∧ σ' = σ) NT w a) (a := 0) (n := qN q) ?_ ?_ 0 (by omega) (by omega) (fun j j0 j1 => absurd j1 (by omega))
  · intro h
    exact r_Desk_extreme_7 hY ⟨fun _ => ⟨Or.inr ⟨rfl, h⟩, rfl⟩, fun g => absurd g (by rw [hP.1]; omega)⟩
  · intro a a0 a1 iha h
    refine r_Desk_extreme_7 hY ⟨fun g => absurd g (by rw [hP.1]; omega), fun _ => ?_⟩
    refine upto (P := fun b => ∀ x, x = bI (∀ j, 0 ≤ j → j < b → j ≠ a → ((w ≠ 0 → bts q a j) ∧ (w = 0 → bts q j a))) → G_Desk_extreme_21 0 L σ (fun z σ' => exR q w z ∧ σ' = σ) NT w a x b) (a := 0) (n := qN q) ?_ ?_ 0 (by omega) (by omega) 1 (bI_p fun j j0 j1 => absurd j1 (by omega)).symm
    · intro x hx
      refine r_Desk_extreme_21 hY ⟨fun _ => ⟨fun e => ⟨by omega, iha fun j j0 j1 => ?_⟩, fun e => ⟨Or.inl ⟨⟨a0, a1⟩, ?_⟩, rfl⟩⟩, fun g => absurd g (by rw [hP.1]; omega)⟩
      · by_cases v : j = a
        · rw [hx] at e; rw [v]; exact bI_f e
        · exact h j j0 (by omega)
      · rw [hx] at e; exact bI_t e
    · intro b b0 b1 ihb x hx
      have keep : (b ≠ a → ((w ≠ 0 → bts q a b) ∧ (w = 0 → bts q b a))) → G_Desk_extreme_21 0 L σ (fun z σ' => exR q w z ∧ σ' = σ) NT w a x (b + 1) := fun g => ihb x (by
        rw [hx]
        refine bI_iff ⟨fun h j j0 j1 hj => ?_, fun h j j0 j1 => h j j0 (by omega)⟩
        by_cases v : j = b
        · rw [v] at hj ⊢; exact g hj
        · exact h j j0 (by omega) hj)
      have drop : b ≠ a → ¬ ((w ≠ 0 → bts q a b) ∧ (w = 0 → bts q b a)) → G_Desk_extreme_21 0 L σ (fun z σ' => exR q w z ∧ σ' = σ) NT w a 0 (b + 1) := fun hb g => ihb 0 (bI_n fun v => g (v b b0 (by omega) hb)).symm
      refine r_Desk_extreme_21 hY ⟨fun g => absurd g (by rw [hP.1]; omega), fun _ => ⟨fun e => ⟨by omega, keep fun v => absurd e v⟩, fun e => ⟨fun hw => ?_, fun hw => ?_⟩⟩⟩
      · exact (c_beats hY pr30 hq hP ⟨b0, b1⟩ ⟨a0, a1⟩).to (by omega) ⟨fun g => ⟨by omega, keep fun _ => ⟨fun v => absurd hw v, fun _ => bI_t g⟩⟩, fun g => ⟨by omega, drop e fun v => bI_f g (v.2 hw)⟩⟩
      · exact (c_beats hY pr30 hq hP ⟨a0, a1⟩ ⟨b0, b1⟩).to (by omega) ⟨fun g => ⟨by omega, drop e fun v => bI_f g (v.1 hw)⟩, fun g => ⟨by omega, keep fun _ => ⟨fun _ => bI_t g, fun v => absurd v hw⟩⟩⟩
theorem m_over2 (hY : Lay L) (hq : okP q) (hC : isC σ q) (hT : isT σ q) {w c : Int} (hc : 0 ≤ c ∧ c < qN q) : IsI 1 y_Mod_over_IZ [vr 102, vi c, vi w] L σ (bI (allB q w c)) := by
  have hn := hq.1
  refine e_Mod_over_IZ hY ?_
  refine upto (P := fun b => ∀ x, x = bI (∀ j, 0 ≤ j → j < b → j ≠ c → ((w ≠ 0 → bts q c j) ∧ (w = 0 → bts q j c))) → G_Mod_over_IZ_5 0 L σ (fun z σ' => z = bI (allB q w c) ∧ σ' = σ) NT c w x b) (a := 0) (n := qN q) ?_ ?_ 0 (by omega) (by omega) 1 (bI_p fun j j0 j1 => absurd j1 (by omega)).symm
  · intro x hx
    exact r_Mod_over_IZ_5 hY ⟨fun _ => ⟨by rw [hx]; exact bI01 _, hx, rfl⟩, fun g => absurd g (by rw [hC.1]; omega)⟩
  · intro b b0 b1 ihb x hx
    refine r_Mod_over_IZ_5 hY ⟨fun g => absurd g (by rw [hC.1]; omega), fun _ => ⟨fun e => ⟨by omega, ihb 0 ?_⟩, fun e => ?_⟩⟩
    · rw [hx] at e
      exact (bI_n fun v => bI_f e fun j j0 j1 => v j j0 (by omega)).symm
    · rw [hx] at e
      have e := bI_t e
      have keep : (b ≠ c → ((w ≠ 0 → bts q c b) ∧ (w = 0 → bts q b c))) → G_Mod_over_IZ_5 0 L σ (fun z σ' => z = bI (allB q w c) ∧ σ' = σ) NT c w 1 (b + 1) := fun g => ihb 1 (bI_p fun j j0 j1 hj => by
        by_cases v : j = b
        · rw [v] at hj ⊢; exact g hj
        · exact e j j0 (by omega) hj).symm
      have drop : b ≠ c → ¬ ((w ≠ 0 → bts q c b) ∧ (w = 0 → bts q b c)) → G_Mod_over_IZ_5 0 L σ (fun z σ' => z = bI (allB q w c) ∧ σ' = σ) NT c w 0 (b + 1) := fun hb g => ihb 0 (bI_n fun v => g (v b b0 (by omega) hb)).symm
      refine ⟨fun g => ⟨by omega, keep fun v => absurd g v⟩, fun g => ⟨fun hw => ?_, fun hw => ?_⟩⟩
      · exact (m_beats hY hq hT ⟨b0, b1⟩ hc).to (by omega) ⟨fun k => ⟨by omega, drop g fun v => bI_f k (v.2 hw)⟩, fun k => ⟨by omega, keep fun _ => ⟨fun v => absurd hw v, fun _ => bI_t k⟩⟩⟩
      · exact (m_beats hY hq hT hc ⟨b0, b1⟩).to (by omega) ⟨fun k => ⟨by omega, drop g fun v => bI_f k (v.1 hw)⟩, fun k => ⟨by omega, keep fun _ => ⟨fun _ => bI_t k, fun v => absurd v hw⟩⟩⟩
end
