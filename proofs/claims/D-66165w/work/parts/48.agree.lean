/-! THE AGREEMENT's METHODS -/
def fr13 (σ σ' : Mm) : Prop := ∀ k j, k ≠ 13 → σ' k j = σ k j
theorem fr13.fr {σ σ' : Mm} (h : fr13 σ σ') : Fr σ σ' := fun k j hk => h k j (by rintro rfl; exact hk (by unfold scr; omega))
section
variable {L : List Sh} {σ : Mm} {p : Int} {q : Pf}
theorem c_cost (hY : Lay L) (hp : isPr p) (hq : okP q) (hP : isP σ p q) {f r : Int} (hf : 0 ≤ f ∧ f < qN q) (hr : 0 ≤ r ∧ r < 128) : IsL 0 y_Agre_cost [vr p, vi f, vi r] L σ (cst q f r) := by
  have hn := hq.1
  refine e_Agre_cost hY hp ?_
  refine upto (P := fun c => G_Agre_cost_5 0 L σ _ _ p f r (S (fun c => if bz r c = 1 then pr q c f else 0) c) c) (a := 0) (n := qN q) ?_ ?_ 0 (by omega) (by omega)
  · exact r_Agre_cost_5 hY hp ⟨fun _ => ⟨rfl, rfl⟩, fun g => absurd g (by rw [hP.1]; omega)⟩
  · intro c c0 c1 ih
    rw [S_s _ c0] at ih
    have hb := co_bd hq f r c c0 (by omega)
    have hb2 := pr_bd hq c f
    refine r_Agre_cost_5 hY hp ⟨fun g => absurd g (by rw [hP.1]; omega), fun _ => ?_⟩
    rw [bit_eq hr.1 hr.2 c0 (by omega), hP.2.2.2.2.1 c f c0 c1 hf.1 hf.2]
    refine ⟨fun e => ⟨by omega, ?_⟩, fun e => ⟨by omega, by omega, by omega, by omega, ?_⟩⟩
    · rw [if_neg e, Int.add_zero] at ih
      exact ih
    · rw [if_pos e] at ih
      exact ih
theorem c_with (hY : Lay L) (hp : isPr p) (hq : okP q) (hP : isP σ p q) {z c : Int} (hz : sub z (qN q)) (hc : 0 ≤ c ∧ c < qN q) (hb : 0 ≤ σ 13 (cl z c) ∧ σ 13 (cl z c) ≤ 1000000000) : IsL 1 y_Agre_with [vr 12, vr p, vi z, vi c] L σ (cst q c (cl z c) + σ 13 (cl z c)) := by
  have hn := hq.1
  have hr := clr_in hz.1 hz.2.1 hc.1 (show c < 7 by omega)
  have hco := co_bd' hq c (cl z c)
  refine e_Agre_with hY hp ?_
  refine (c_cost hY hp hq hP hc ⟨hr.1, hr.2.1⟩).to (by omega) ?_
  show (0 ≤ cl z c ∧ cl z c < 128) ∧ (-9223372036854775808 ≤ cst q c (cl z c) + σ 13 (cl z c) ∧ cst q c (cl z c) + σ 13 (cl z c) < 9223372036854775808) ∧ _
  exact ⟨⟨hr.1, hr.2.1⟩, by omega, rfl, rfl⟩
theorem c_find9 (hY : Lay L) (hp : isPr p) (hq : okP q) (hP : isP σ p q) : Ex 2 y_Agre_find [vr 12, vr p] L σ (PV L (fun σ' => isL q (σ' 13) 128 ∧ fr13 σ σ') NT) := by
  have hn := hq.1
  have ha := al_sub hq
  refine e_Agre_find hY hp ?_
  refine upto (P := fun z => ∀ σ', isL q (σ' 13) z → fr13 σ σ' → G_Agre_find_9 1 L σ' (fun σ' => isL q (σ' 13) 128 ∧ fr13 σ σ') NT p z) (a := 1) (n := alq q + 1) ?_ ?_ 1 (by omega) (by have := pos_of (al_nz hq); omega) _ ⟨by rw [u_eq], fun z z0 z1 => absurd z1 (by omega)⟩ (fun k j hk => by rw [u_ne hk])
  · intro σ' hl hf
    have hP' := hP.fr hq hp hf.fr
    refine r_Agre_find_9 hY hp ((c_all hY hp hq hP').to (by omega) ⟨fun _ => ⟨⟨hl.1, fun z z0 z1 hz => hl.2 z z0 (by have := sub_le hq hz; omega) hz⟩, hf⟩, fun g => absurd g (by omega)⟩)
  · intro z z0 z1 ih σ' hl hf
    have hP' := hP.fr hq hp hf.fr
    have hz := le_sub hq (show 0 ≤ z by omega) (show z ≤ alq q by omega)
    have hcl : ∀ c, 0 ≤ c → c < qN q → bz z c = 1 → 0 ≤ σ' 13 (cl z c) ∧ σ' 13 (cl z c) ≤ 14700147 * (pc z - 1) := by
      intro c c0 c1 hc
      have h1 := cl_lt' hz.1 hz.2.1 c0 (show c < 7 by omega) hc
      have h2 := hl.bd h1.1 h1.2 (clr_sub hz c0 (by omega))
      have h3 := pc_clr hz.1 hz.2.1 c0 (show c < 7 by omega) hc
      have h3 : pc (cl z c) = pc z - 1 := h3
      rw [h3] at h2
      exact h2
    have hpl := pc_le z
    refine r_Agre_find_9 hY hp ((c_all hY hp hq hP').to (by omega) ⟨fun g => absurd g (by omega), fun _ => ?_⟩)
    refine upto (P := fun c => ∀ m, ((∀ i, 0 ≤ i → i < c → bz z i = 1 → m ≤ cst q i (cl z i) + σ' 13 (cl z i)) ∧ ((∃ i, 0 ≤ i ∧ i < c ∧ bz z i = 1 ∧ m = cst q i (cl z i) + σ' 13 (cl z i)) ∨ (m = 9223372036854775807 ∧ ∀ i, 0 ≤ i → i < c → bz z i ≠ 1))) → G_Agre_find_24 1 L σ' (fun σ' => isL q (σ' 13) 128 ∧ fr13 σ σ') NT p z m c) (a := 0) (n := qN q) ?_ ?_ 0 (by omega) (by omega) _ ⟨fun i i0 i1 => absurd i1 (by omega), Or.inr ⟨rfl, fun i i0 i1 => absurd i1 (by omega)⟩⟩
    · rintro m ⟨h1, h2⟩
      refine r_Agre_find_24 hY hp ⟨fun _ => ⟨by have := hz.2.1; omega, by have := hz.2.1; omega, ih _ ⟨?_, fun w w0 w1 hw => ?_⟩ fun k j hk => by rw [u_ne hk]; exact hf k j hk⟩, fun g => absurd g (by rw [hP'.1]; omega)⟩
      · rw [u_ne2 (by omega)]; exact hl.1
      · have hcl2 : ∀ c, 0 ≤ c → c < qN q → bz w c = 1 → upd2 σ' 13 z m 13 (cl w c) = σ' 13 (cl w c) := fun c c0 c1 hc => u_ne2 (by have := cl_lt' hw.1 hw.2.1 c0 (show c < 7 by omega) hc; omega)
        by_cases e : w = z
        · subst e
          rw [u_eq]
          rcases h2 with ⟨i, i0, i1, i2, i3⟩ | ⟨-, h⟩
          · refine ⟨fun c c0 c1 hc => by rw [hcl2 c c0 c1 hc]; exact h1 c c0 c1 hc, ⟨i, i0, i1, i2, by rw [hcl2 i i0 i1 i2]; exact i3⟩, ?_, ?_⟩
            · have a1 := co_bd' hq i (cl w i)
              have a2 := hcl i i0 i1 i2
              omega
            · have a1 := co_bd' hq i (cl w i)
              have a2 := hcl i i0 i1 i2
              omega
          · obtain ⟨-, -, c, c0, c1, hc⟩ := nz_of hw (by omega)
            exact absurd hc (h c c0 c1)
        · rw [u_ne2 e]
          obtain ⟨a1, ⟨c, c0, c1, hc, ec⟩, a3⟩ := hl.2 w w0 (by omega) hw
          exact ⟨fun c c0 c1 hc => by rw [hcl2 c c0 c1 hc]; exact a1 c c0 c1 hc, ⟨c, c0, c1, hc, by rw [hcl2 c c0 c1 hc]; exact ec⟩, a3⟩
    · rintro c c0 c1 ihc m ⟨h1, h2⟩
      refine r_Agre_find_24 hY hp ⟨fun g => absurd g (by rw [hP'.1]; omega), fun _ => ?_⟩
      rw [bit_eq hz.1 hz.2.1 c0 (by omega)]
      refine ⟨fun e => ⟨by omega, ihc m ⟨fun i i0 i1 hi => ?_, ?_⟩⟩, fun e => ?_⟩
      · by_cases g : i = c
        · rw [g] at hi; exact absurd hi e
        · exact h1 i i0 (by omega) hi
      · rcases h2 with ⟨i, i0, i1, i2, i3⟩ | ⟨h, h'⟩
        · exact Or.inl ⟨i, i0, by omega, i2, i3⟩
        · refine Or.inr ⟨h, fun i i0 i1 => ?_⟩
          by_cases g : i = c
          · rw [g]; exact e
          · exact h' i i0 (by omega)
      · have a1 := hcl c c0 c1 e
        refine (c_with hY hp hq hP' hz ⟨c0, c1⟩ ⟨a1.1, by omega⟩).to (by omega) ?_
        have a2 := co_bd' hq c (cl z c)
        refine e_Math_min hY ⟨fun g => ⟨by omega, ihc _ ⟨fun i i0 i1 hi => ?_, Or.inl ⟨c, c0, by omega, e, rfl⟩⟩⟩, fun g => ⟨by omega, ihc m ⟨fun i i0 i1 hi => ?_, ?_⟩⟩⟩
        · by_cases w : i = c
          · rw [w]; exact Int.le_refl _
          · have := h1 i i0 (by omega) hi; omega
        · by_cases w : i = c
          · rw [w]; exact g
          · exact h1 i i0 (by omega) hi
        · rcases h2 with ⟨i, i0, i1, i2, i3⟩ | ⟨h, h'⟩
          · exact Or.inl ⟨i, i0, by omega, i2, i3⟩
          · omega
theorem c_heads (hY : Lay L) (hp : isPr p) (hq : okP q) (hP : isP σ p q) (hl : isL q (σ 13) 128) {z : Int} (hz : sub z (qN q)) : Ex 2 y_Agre_heads [vr 12, vr p, vi z] L σ (PI L (fun h σ' => isM h (qN q) (fun c => bz z c = 1 ∧ cst q c (cl z c) + σ 13 (cl z c) = σ 13 z) ∧ σ' = σ) NT) := by
  have hn := hq.1
  refine e_Agre_heads hY hp ?_
  refine upto (P := fun c => ∀ h, isM h c (fun c => bz z c = 1 ∧ cst q c (cl z c) + σ 13 (cl z c) = σ 13 z) → G_Agre_heads_5 1 L σ (fun h σ' => isM h (qN q) (fun c => bz z c = 1 ∧ cst q c (cl z c) + σ 13 (cl z c) = σ 13 z) ∧ σ' = σ) NT p z h c) (a := 0) (n := qN q) ?_ ?_ 0 (by omega) (by omega) 0 (isM.zero _)
  · intro h hh
    exact r_Agre_heads_5 hY hp ⟨fun _ => ⟨hh, rfl⟩, fun g => absurd g (by rw [hP.1]; omega)⟩
  · intro c c0 c1 ih h hh
    refine r_Agre_heads_5 hY hp ⟨fun g => absurd g (by rw [hP.1]; omega), fun _ => ?_⟩
    rw [bit_eq hz.1 hz.2.1 c0 (by omega)]
    refine ⟨fun e => ⟨by omega, ih h (hh.skip fun w => e w.1)⟩, fun e => ?_⟩
    have hs := clr_sub hz c0 (show c < 7 by omega)
    have hb := hl.bd hs.1 hs.2.1 hs
    have hpl := pc_le (cl z c)
    have hb : 0 ≤ σ 13 (cl z c) ∧ σ 13 (cl z c) ≤ 14700147 * pc (cl z c) := hb
    refine (c_with hY hp hq hP hz ⟨c0, c1⟩ ⟨hb.1, by omega⟩).to (by omega) ⟨⟨hz.1, hz.2.1⟩, fun g => ⟨by omega, ih h (hh.skip fun w => g w.2)⟩, fun g => ⟨by omega, ih _ (hh.or c0 (by omega) ⟨e, g⟩)⟩⟩
theorem c_win12 (hY : Lay L) (hp : isPr p) (hq : okP q) (hP : isP σ p q) : Ex 3 y_Agre_winners [vr 12, vr p] L σ (PI L (fun z σ' => (isM z (qN q) (W9 q) ∧ ∃ c, 0 ≤ c ∧ c < qN q ∧ W9 q c) ∧ Fr σ σ') NT) := by
  have hn := hq.1
  have ha := al_sub hq
  refine e_Agre_winners hY hp ?_
  refine Ex.toV (c_find9 hY hp hq hP) ?_ (fun _ _ h => h)
  rintro σ' ⟨hl, hf⟩
  have hP' := hP.fr hq hp hf.fr
  refine (c_all hY hp hq hP').to (by omega) ?_
  refine Ex.toI (c_heads hY hp hq hP' hl ha) ?_ (fun _ _ h => h)
  rintro z σ'' ⟨hz, rfl⟩
  refine ⟨⟨hz.ext fun i i0 i1 i7 => ?_, W9_ex hq hl⟩, hf.fr⟩
  rw [W9_iff hq hl i0 i1]
  exact ⟨fun w => w.2, fun w => ⟨((al_is hq).2.2 i i0 i7).mpr ⟨i1, trivial⟩, w⟩⟩
end
