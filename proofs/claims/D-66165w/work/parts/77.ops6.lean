/-! circle -/
def cyP (q : Pf) (x : Int) : Prop := (0 ≤ x ∧ x < 343) ∧ x / 49 < qN q ∧ x / 7 % 7 < qN q ∧ x % 7 < qN q ∧ bts q (x / 49) (x / 7 % 7) ∧ bts q (x / 7 % 7) (x % 7) ∧ bts q (x % 7) (x / 49)
def cyZ (j x : Int) : Int := if j = 0 then x / 49 else if j = 1 then x / 7 % 7 else x % 7
def cyR (q : Pf) (j z : Int) : Prop := (∃ x, cyP q x ∧ (∀ y, y < x → ¬ cyP q y) ∧ z = cyZ j x) ∨ ((∀ x, ¬ cyP q x) ∧ z = -1)
def spCir (s : St) (j : Int) : Sp := fun k z s' => ((0 ≤ j ∧ j < 3) ∧ k = 0 ∧ cyR s.1 j z ∧ s' = s) ∨ (¬ (0 ≤ j ∧ j < 3) ∧ k = 1 ∧ s' = s)
theorem cyR.uniq {q : Pf} {j a b : Int} (h : cyR q j a) (g : cyR q j b) : a = b := by
  rcases h with ⟨x, h1, h2, h3⟩ | ⟨h1, h2⟩ <;> rcases g with ⟨y, g1, g2, g3⟩ | ⟨g1, g2⟩
  · have : x = y := by
      rcases Int.lt_trichotomy x y with e | e | e
      · exact absurd h1 (g2 x e)
      · exact e
      · exact absurd g1 (h2 y e)
    rw [h3, g3, this]
  · exact absurd h1 (g1 x)
  · exact absurd g1 (h1 y)
  · rw [h2, g2]
theorem bk_343 : ∀ x, x < 343 → qI (x : Nat) 49 = ((x / 49 : Nat) : Int) ∧ mI (qI (x : Nat) 7) 7 = ((x / 7 % 7 : Nat) : Int) ∧ mI (x : Nat) 7 = ((x % 7 : Nat) : Int) := by decide +kernel
theorem i343 {x : Int} (x0 : 0 ≤ x) (x1 : x < 343) : qI x 49 = x / 49 ∧ mI (qI x 7) 7 = x / 7 % 7 ∧ mI x 7 = x % 7 := by
  obtain ⟨n, rfl⟩ := nat_of x0
  have := bk_343 n (by omega)
  rw [this.1, this.2.1, this.2.2]
  omega
section
variable {L : List Sh} {σ : Mm} {s : St} {p : Int} {q : Pf}
theorem d_circle (hY : Lay L) (hD : DI σ s) {j : Int} : DOp y_Desk_circle [vr 0, vi j] L σ (spCir s j) (fun _ => 1) := by
  refine Ex.deep (d := 7) ?_ (by omega)
  have hn := hD.1.1.1
  have hP := hD.2.1
  have main : (0 ≤ j ∧ j < 3) → G_Desk_circle_24 6 L σ (fun z σ' => ∃ s', spCir s j 0 z s' ∧ DI σ' s' ∧ FD σ σ') (fun c σ' => ∃ s', spCir s j ((fun _ => 1) c) 0 s' ∧ DI σ' s' ∧ FD σ σ' ∧ 1 ≤ (fun _ => (1 : Int)) c) j 0 := by
    intro hj
    refine upto (P := fun a => (∀ y, y < 49 * a → ¬ cyP s.1 y) → G_Desk_circle_24 6 L σ (fun z σ' => ∃ s', spCir s j 0 z s' ∧ DI σ' s' ∧ FD σ σ') (fun c σ' => ∃ s', spCir s j ((fun _ => 1) c) 0 s' ∧ DI σ' s' ∧ FD σ σ' ∧ 1 ≤ (fun _ => (1 : Int)) c) j a) (a := 0) (n := qN s.1) ?_ ?_ 0 (by omega) (by omega) (fun y hy w => by have := w.1; omega)
    · intro h
      refine r_Desk_circle_24 hY ⟨fun _ => ⟨s, Or.inl ⟨hj, rfl, Or.inr ⟨fun x hx => ?_, rfl⟩, rfl⟩, hD, FD.refl σ⟩, fun g => absurd g (by rw [hP.1]; omega)⟩
      have := hx.2.1
      exact h x (by omega) hx
    · intro a a0 a1 iha h
      refine r_Desk_circle_24 hY ⟨fun g => absurd g (by rw [hP.1]; omega), fun _ => ?_⟩
      refine upto (P := fun b => (∀ y, y < 49 * a + 7 * b → ¬ cyP s.1 y) → G_Desk_circle_35 6 L σ (fun z σ' => ∃ s', spCir s j 0 z s' ∧ DI σ' s' ∧ FD σ σ') (fun c σ' => ∃ s', spCir s j ((fun _ => 1) c) 0 s' ∧ DI σ' s' ∧ FD σ σ' ∧ 1 ≤ (fun _ => (1 : Int)) c) j a b) (a := 0) (n := qN s.1) ?_ ?_ 0 (by omega) (by omega) (fun y hy => h y (by omega))
      · intro h
        refine r_Desk_circle_35 hY ⟨fun _ => ⟨by omega, iha fun y hy w => ?_⟩, fun g => absurd g (by rw [hP.1]; omega)⟩
        by_cases e : y < 49 * a + 7 * qN s.1
        · exact h y e w
        · have := w.2.2.1; have := w.1; omega
      · intro b b0 b1 ihb h
        refine r_Desk_circle_35 hY ⟨fun g => absurd g (by rw [hP.1]; omega), fun _ => ?_⟩
        refine upto (P := fun c => (∀ y, y < 49 * a + 7 * b + c → ¬ cyP s.1 y) → G_Desk_circle_47 6 L σ (fun z σ' => ∃ s', spCir s j 0 z s' ∧ DI σ' s' ∧ FD σ σ') (fun c σ' => ∃ s', spCir s j ((fun _ => 1) c) 0 s' ∧ DI σ' s' ∧ FD σ σ' ∧ 1 ≤ (fun _ => (1 : Int)) c) j a b c) (a := 0) (n := qN s.1) ?_ ?_ 0 (by omega) (by omega) (fun y hy => h y (by omega))
        · intro h
          refine r_Desk_circle_47 hY ⟨fun _ => ⟨by omega, ihb fun y hy w => ?_⟩, fun g => absurd g (by rw [hP.1]; omega)⟩
          by_cases e : y < 49 * a + 7 * b + qN s.1
          · exact h y e w
          · have := w.2.2.2.1; have := w.1; omega
        · intro c c0 c1 ihc h
          have e1 : (49 * a + 7 * b + c) / 49 = a := by omega
          have e2 : (49 * a + 7 * b + c) / 7 % 7 = b := by omega
          have e3 : (49 * a + 7 * b + c) % 7 = c := by omega
          have nx : ¬ (bts s.1 a b ∧ bts s.1 b c ∧ bts s.1 c a) → ∀ y, y < 49 * a + 7 * b + (c + 1) → ¬ cyP s.1 y := fun hno y hy w => by
            by_cases e : y = 49 * a + 7 * b + c
            · rw [e] at w
              obtain ⟨-, -, -, -, w5⟩ := w
              rw [e1, e2, e3] at w5
              exact hno w5
            · exact h y (by omega) w
          refine r_Desk_circle_47 hY ⟨fun g => absurd g (by rw [hP.1]; omega), fun _ => ?_⟩
          refine (c_beats hY pr30 hD.1.1 hP ⟨a0, a1⟩ ⟨b0, b1⟩).to (by omega) ⟨fun g => ⟨by omega, ihb fun y hy w => ?_⟩, fun g => ?_⟩
          · by_cases e : y < 49 * a + 7 * b + c
            · exact h y e w
            · have f1 : y / 49 = a := by omega
              have f2 : y / 7 % 7 = b := by omega
              have w5 := w.2.2.2.2.1
              rw [f1, f2] at w5
              exact bI_f g w5
          · refine (c_beats hY pr30 hD.1.1 hP ⟨b0, b1⟩ ⟨c0, c1⟩).to (by omega) ⟨fun g2 => ⟨by omega, ihc (nx fun w => bI_f g2 w.2.1)⟩, fun g2 => ?_⟩
            refine (c_beats hY pr30 hD.1.1 hP ⟨c0, c1⟩ ⟨a0, a1⟩).to (by omega) ⟨fun g3 => ⟨by omega, ihc (nx fun w => bI_f g3 w.2.2)⟩, fun g3 => ?_⟩
            have hc : cyP s.1 (49 * a + 7 * b + c) := ⟨by omega, by omega, by omega, by omega, by rw [e1, e2, e3]; exact ⟨bI_t g, bI_t g2, bI_t g3⟩⟩
            have fin : ∀ z, z = cyZ j (49 * a + 7 * b + c) → ∃ s', spCir s j 0 z s' ∧ DI σ s' ∧ FD σ σ := fun z hz => ⟨s, Or.inl ⟨hj, rfl, Or.inl ⟨_, hc, h, hz⟩, rfl⟩, hD, FD.refl σ⟩
            refine ⟨fun k0 => ⟨fun k1 => fin c ?_, fun k1 => fin b ?_⟩, fun k0 => fin a ?_⟩
            · unfold cyZ; rw [if_neg k0, if_neg k1, e3]
            · unfold cyZ; rw [if_neg k0, if_pos k1, e2]
            · unfold cyZ; rw [if_pos k0, e1]
  have go : ∀ x : Int, (x ≠ 0 ↔ (0 ≤ j ∧ j < 3)) → G_Desk_circle_14 6 L σ (fun z σ' => ∃ s', spCir s j 0 z s' ∧ DI σ' s' ∧ FD σ σ') (fun c σ' => ∃ s', spCir s j ((fun _ => 1) c) 0 s' ∧ DI σ' s' ∧ FD σ σ' ∧ 1 ≤ (fun _ => (1 : Int)) c) j x := fun x hx =>
    r_Desk_circle_14 hY ((c_exists hY).to (by omega) (fun w => main (hx.mp w)) (fun w => ⟨s, Or.inr ⟨fun g => w (hx.mpr g), rfl, rfl⟩, hD, FD.refl σ, by decide⟩))
  exact e_Desk_circle hY ⟨fun h => go 0 (by omega), fun h => ⟨fun h2 => go 0 (by omega), fun h2 => go 1 (by omega)⟩⟩
theorem mo_circle (hY : Lay L) (hq : okB s.1) (hB : MB σ s) {j : Int} : MOp y_Mod_circle [vr 102, vi j] L σ (spCir s j) := by
  refine Ex.deep (d := 1) ?_ (by omega)
  have hn := hq.1.1
  refine e_Mod_circle hY ((m_within hY).to (by omega) ?_)
  refine m_gate hY hB rfl (fun h1 h2 σ' hB' hf h0 _ => ⟨fun _ => ?_, fun w => absurd w (by decide)⟩) (fun h1 σ' hB' hf h0 => ⟨fun w => absurd rfl w, fun _ => ⟨1, s, Or.inr ⟨fun w => bI_f h1 (by omega), rfl, rfl⟩, h0, hB', hf.fm⟩⟩) (fun _ w => absurd w (by decide))
  have hj : 0 ≤ j ∧ j < 3 := by have := bI_t h1; omega
  refine Ex.toV (m_load hY hq hB') ?_ (fun _ _ h => h)
  rintro σ₁ ⟨hC, hl⟩
  refine Ex.toV (m_tally hY hq.1 hC) ?_ (fun _ _ h => h)
  rintro σ₂ ⟨hT, ht⟩
  have f2 : FS σ' σ₂ := hl.fs.trans fun k j h1 _ => ht k j (by omega)
  have hB2 := hB'.fs f2
  have e0 : σ₂ 102 0 = 0 := by rw [ht _ _ (by omega), hl _ _ (by omega) (by omega)]; exact h0
  refine upto (P := fun x => (∀ y, y < x → ¬ cyP s.1 y) → G_Mod_circle_26 0 L σ₂ (fun z σ' => ∃ k s', spCir s j k z s' ∧ σ' 102 0 = k ∧ MB σ' s' ∧ FM σ σ') NT j x) (a := 0) (n := 343) ?_ ?_ 0 (by omega) (by omega) (fun y hy w => by have := w.1; omega)
  · intro h
    exact r_Mod_circle_26 hY ⟨fun _ => ⟨0, s, Or.inl ⟨hj, rfl, Or.inr ⟨fun x hx => h x hx.1.2 hx, rfl⟩, rfl⟩, e0, hB2, (hf.trans f2).fm⟩, fun g => absurd g (by omega)⟩
  · intro x x0 x1 ih h
    have hi := i343 x0 x1
    have nx : ¬ cyP s.1 x → ∀ y, y < x + 1 → ¬ cyP s.1 y := fun hno y hy => by
      by_cases e : y = x
      · rw [e]; exact hno
      · exact h y (by omega)
    refine r_Mod_circle_26 hY ⟨fun g => absurd g (by omega), fun _ => ?_⟩
    rw [hB2.1, hi.1, hi.2.1, hi.2.2]
    refine ⟨fun g => ⟨by omega, ih (nx fun w => by have := w.2.1; omega)⟩, fun g => ⟨fun g2 => ⟨by omega, ih (nx fun w => by have := w.2.2.1; omega)⟩, fun g2 => ⟨fun g3 => ⟨by omega, ih (nx fun w => by have := w.2.2.2.1; omega)⟩, fun g3 => ?_⟩⟩⟩
    refine (m_beats hY hq.1 hT ⟨by omega, g⟩ ⟨by omega, g2⟩).to (by omega) ⟨fun k1 => ⟨by omega, ih (nx fun w => bI_f k1 w.2.2.2.2.1)⟩, fun k1 => ?_⟩
    refine (m_beats hY hq.1 hT ⟨by omega, g2⟩ ⟨by omega, g3⟩).to (by omega) ⟨fun k2 => ⟨by omega, ih (nx fun w => bI_f k2 w.2.2.2.2.2.1)⟩, fun k2 => ?_⟩
    refine (m_beats hY hq.1 hT ⟨by omega, g3⟩ ⟨by omega, g⟩).to (by omega) ⟨fun k3 => ⟨by omega, ih (nx fun w => bI_f k3 w.2.2.2.2.2.2)⟩, fun k3 => ?_⟩
    have hc : cyP s.1 x := ⟨⟨x0, x1⟩, g, g2, g3, bI_t k1, bI_t k2, bI_t k3⟩
    have fin : ∀ z, z = cyZ j x → ∃ k s', spCir s j k z s' ∧ σ₂ 102 0 = k ∧ MB σ₂ s' ∧ FM σ σ₂ := fun z hz => ⟨0, s, Or.inl ⟨hj, rfl, Or.inl ⟨x, hc, h, hz⟩, rfl⟩, e0, hB2, (hf.trans f2).fm⟩
    refine ⟨fun j0 => ⟨fun j1 => fin _ ?_, fun j1 => fin _ ?_⟩, fun j0 => fin _ ?_⟩
    · unfold cyZ; rw [if_neg j0, if_neg j1]
    · unfold cyZ; rw [if_neg j0, if_pos j1]
    · unfold cyZ; rw [if_pos j0]
end
