/-! THE MODEL's AGREEMENT -/
theorem cl_same {z c : Int} (h0 : 0 ≤ z) (h1 : z < 128) (c0 : 0 ≤ c) (c1 : c < 7) : cl z c = z ↔ bz z c ≠ 1 := by
  constructor
  · intro e w
    have := (cl_lt' h0 h1 c0 c1 w).2
    omega
  · intro w
    have hb := clr_in h0 h1 c0 c1
    refine isM.uniq (n := 7) (f := fun i => bz z i = 1) ⟨hb.1, hb.2.1, fun i i0 i7 => ?_⟩ ⟨h0, h1, fun i i0 i7 => ⟨fun h => ⟨i7, h⟩, fun h => h.2⟩⟩
    show bz (aI z (xI (hI 1 c) (-1))) i = 1 ↔ _
    rw [hb.2.2 i i0]
    exact ⟨fun h => ⟨i7, h.1⟩, fun h => ⟨h.2, fun e => w (by rw [← e]; exact h.2)⟩⟩
section
variable {L : List Sh} {σ : Mm} {q : Pf}
theorem m_over (hY : Lay L) (hq : okP q) (hC : isC σ q) (hT : isT σ q) {f r : Int} (hf : 0 ≤ f ∧ f < qN q) (hr : 0 ≤ r ∧ r < 128) : IsL 0 y_Mod_over_II [vr 102, vi f, vi r] L σ (cst q f r) := by
  have hn := hq.1
  refine e_Mod_over_II hY ?_
  refine upto (P := fun c => G_Mod_over_II_5 0 L σ _ _ f r (S (fun c => if bz r c = 1 then pr q c f else 0) c) c) (a := 0) (n := qN q) ?_ ?_ 0 (by omega) (by omega)
  · exact r_Mod_over_II_5 hY ⟨fun _ => ⟨rfl, rfl⟩, fun g => absurd g (by rw [hC.1]; omega)⟩
  · intro c c0 c1 ih
    rw [S_s _ c0] at ih
    have hb := co_bd hq f r c c0 (by omega)
    have hb2 := pr_bd hq c f
    refine r_Mod_over_II_5 hY ⟨fun g => absurd g (by rw [hC.1]; omega), fun _ => ?_⟩
    rw [bit_eq hr.1 hr.2 c0 (by omega), hT c f c0 c1 hf.1 hf.2]
    refine ⟨fun e => ⟨by omega, ?_⟩, fun e => ⟨by omega, by omega, by omega, by omega, by omega, ?_⟩⟩
    · rw [if_neg e, Int.add_zero] at ih
      exact ih
    · rw [if_pos e] at ih
      exact ih
theorem m_findLeast (hY : Lay L) (hq : okP q) (hC : isC σ q) (hT : isT σ q) : Ex 1 y_Mod_findLeast [vr 102] L σ (PV L (fun σ' => isL q (σ' 117) 128 ∧ ∀ k j, k ≠ 117 → σ' k j = σ k j) NT) := by
  have hn := hq.1
  have ha := al_sub hq
  have isc : ∀ σ' : Mm, (∀ k j, k ≠ 117 → σ' k j = σ k j) → isC σ' q ∧ isT σ' q := fun σ' h => ⟨hC.fc fun k j hk => h k j (by omega), fun x y x0 x1 y0 y1 => by rw [h _ _ (by omega)]; exact hT x y x0 x1 y0 y1⟩
  refine e_Mod_findLeast hY ?_
  refine upto (P := fun z => ∀ σ', isL q (σ' 117) z → (∀ k j, k ≠ 117 → σ' k j = σ k j) → G_Mod_findLeast_9 0 L σ' (fun σ' => isL q (σ' 117) 128 ∧ ∀ k j, k ≠ 117 → σ' k j = σ k j) NT z) (a := 1) (n := alq q + 1) ?_ ?_ 1 (by omega) (by have := pos_of (al_nz hq); omega) _ ⟨by rw [u_eq], fun z z0 z1 => absurd z1 (by omega)⟩ (fun k j hk => by rw [u_ne hk])
  · intro σ' hl hf
    exact r_Mod_findLeast_9 hY ((m_all hY hq (isc σ' hf).1).to (by omega) ⟨fun _ => ⟨⟨hl.1, fun z z0 z1 hz => hl.2 z z0 (by have := sub_le hq hz; omega) hz⟩, hf⟩, fun g => absurd g (by omega)⟩)
  · intro z z0 z1 ih σ' hl hf
    have hz := le_sub hq (show 0 ≤ z by omega) (show z ≤ alq q by omega)
    have hz1 := hz.2.1
    have hpl := pc_le z
    refine r_Mod_findLeast_9 hY ((m_all hY hq (isc σ' hf).1).to (by omega) ⟨fun g => absurd g (by omega), fun _ => ?_⟩)
    refine upto (P := fun c => ∀ w σ'', (∀ k j, k ≠ 117 → σ'' k j = σ k j) → (∀ x, x ≠ z → σ'' 117 x = σ' 117 x) → ((w ≠ 0 ∧ ∀ i, 0 ≤ i → i < c → bz z i ≠ 1) ∨ (w = 0 ∧ (∀ i, 0 ≤ i → i < c → bz z i = 1 → σ'' 117 z ≤ cst q i (cl z i) + σ' 117 (cl z i)) ∧ ∃ i, 0 ≤ i ∧ i < c ∧ bz z i = 1 ∧ σ'' 117 z = cst q i (cl z i) + σ' 117 (cl z i))) → G_Mod_findLeast_21 0 L σ'' (fun σ' => isL q (σ' 117) 128 ∧ ∀ k j, k ≠ 117 → σ' k j = σ k j) NT z w c) (a := 0) (n := qN q) ?_ ?_ 0 (by omega) (by omega) 1 σ' hf (fun _ _ => rfl) (Or.inl ⟨by omega, fun i i0 i1 => absurd i1 (by omega)⟩)
    · intro w σ'' hf2 hx hw
      have hC2 := (isc σ'' hf2).1
      refine r_Mod_findLeast_21 hY ⟨fun _ => ⟨by omega, ih σ'' ⟨by rw [hx 0 (by omega)]; exact hl.1, fun y y0 y1 hy => ?_⟩ hf2⟩, fun g => absurd g (by rw [hC2.1]; omega)⟩
      have hcl2 : ∀ c, 0 ≤ c → c < qN q → bz y c = 1 → σ'' 117 (cl y c) = σ' 117 (cl y c) := fun c c0 c1 hc => hx _ (by have := cl_lt' hy.1 hy.2.1 c0 (show c < 7 by omega) hc; omega)
      by_cases e : y = z
      · subst e
        rcases hw with ⟨-, h⟩ | ⟨-, h1, i, i0, i1, i2, i3⟩
        · obtain ⟨-, -, c, c0, c1, hc⟩ := nz_of hy (by omega)
          exact absurd hc (h c c0 c1)
        · have b1 := co_bd' hq i (cl y i)
          have hlt := cl_lt' hy.1 hy.2.1 i0 (show i < 7 by omega) i2
          have b2 := hl.bd hlt.1 hlt.2 (clr_sub hy i0 (by omega))
          have b3 : pc (cl y i) = pc y - 1 := pc_clr hy.1 hy.2.1 i0 (show i < 7 by omega) i2
          rw [b3] at b2
          exact ⟨fun c c0 c1 hc => by rw [hcl2 c c0 c1 hc]; exact h1 c c0 c1 hc, ⟨i, i0, i1, i2, by rw [hcl2 i i0 i1 i2]; exact i3⟩, by omega, by omega⟩
      · rw [hx y e]
        obtain ⟨a1, ⟨c, c0, c1, hc, ec⟩, a3⟩ := hl.2 y y0 (by omega) hy
        exact ⟨fun c c0 c1 hc => by rw [hcl2 c c0 c1 hc]; exact a1 c c0 c1 hc, ⟨c, c0, c1, hc, by rw [hcl2 c c0 c1 hc]; exact ec⟩, a3⟩
    · intro c c0 c1 ihc w σ'' hf2 hx hw
      have hC2 := isc σ'' hf2
      refine r_Mod_findLeast_21 hY ⟨fun g => absurd g (by rw [hC2.1.1]; omega), fun _ => ?_⟩
      show (cl z c = z → _) ∧ (cl z c ≠ z → _)
      refine ⟨fun e => ⟨by omega, ihc w σ'' hf2 hx ?_⟩, fun e => ?_⟩
      · have e := (cl_same hz.1 hz1 c0 (show c < 7 by omega)).mp e
        rcases hw with ⟨h1, h2⟩ | ⟨h1, h2, i, i0, i1, i2, i3⟩
        · exact Or.inl ⟨h1, fun i i0 i1 => by
            by_cases v : i = c
            · rw [v]; exact e
            · exact h2 i i0 (by omega)⟩
        · exact Or.inr ⟨h1, fun i i0 i1 hi => by
            by_cases v : i = c
            · rw [v] at hi; exact absurd hi e
            · exact h2 i i0 (by omega) hi, i, i0, by omega, i2, i3⟩
      · have hbc : bz z c = 1 := Classical.byContradiction fun v => e ((cl_same hz.1 hz1 c0 (show c < 7 by omega)).mpr v)
        have hlt := cl_lt' hz.1 hz1 c0 (show c < 7 by omega) hbc
        have b1 := co_bd' hq c (cl z c)
        have b2 := hl.bd hlt.1 hlt.2 (clr_sub hz c0 (by omega))
        have b3 : pc (cl z c) = pc z - 1 := pc_clr hz.1 hz1 c0 (show c < 7 by omega) hbc
        have b4 := pc_pos hn.2 (nz_of hz (by omega))
        rw [b3] at b2
        refine (m_over hY hq hC2.1 hC2.2 (r := cl z c) ⟨c0, c1⟩ ⟨hlt.1, by omega⟩).to (by omega) ?_
        show (0 ≤ cl z c ∧ cl z c < 128) ∧ (-9223372036854775808 ≤ cst q c (cl z c) + σ'' 117 (cl z c) ∧ cst q c (cl z c) + σ'' 117 (cl z c) < 9223372036854775808) ∧ (w ≠ 0 → _ ∧ _ ∧ G_Mod_findLeast_21 0 L (upd2 σ'' 117 z (cst q c (cl z c) + σ'' 117 (cl z c))) _ NT z 0 (c + 1)) ∧ (w = 0 → _ ∧ (σ'' 117 z ≤ cst q c (cl z c) + σ'' 117 (cl z c) → _) ∧ (cst q c (cl z c) + σ'' 117 (cl z c) < σ'' 117 z → _ ∧ _ ∧ G_Mod_findLeast_21 0 L (upd2 σ'' 117 z (cst q c (cl z c) + σ'' 117 (cl z c))) _ NT z 0 (c + 1)))
        rw [hx (cl z c) (by omega)]
        have put : ∀ v, v = cst q c (cl z c) + σ' 117 (cl z c) → ((∀ i, 0 ≤ i → i < c → bz z i = 1 → v ≤ cst q i (cl z i) + σ' 117 (cl z i))) → G_Mod_findLeast_21 0 L (upd2 σ'' 117 z v) (fun σ' => isL q (σ' 117) 128 ∧ ∀ k j, k ≠ 117 → σ' k j = σ k j) NT z 0 (c + 1) := by
          intro v hv h1
          refine ihc 0 _ (fun k j hk => by rw [u_ne hk]; exact hf2 k j hk) (fun x hxz => by rw [u_ne2 hxz]; exact hx x hxz) (Or.inr ⟨rfl, fun i i0 i1 hi => ?_, c, c0, by omega, hbc, by rw [u_eq]; exact hv⟩)
          rw [u_eq]
          by_cases u : i = c
          · rw [u, hv]; exact Int.le_refl _
          · exact h1 i i0 (by omega) hi
        refine ⟨⟨hlt.1, by omega⟩, by omega, fun hw0 => ⟨by omega, by omega, put _ rfl fun i i0 i1 hi => ?_⟩, fun hw0 => ⟨by omega, fun g => ⟨by omega, by omega, by omega, ?_⟩, fun g => ⟨by omega, by omega, put _ rfl fun i i0 i1 hi => ?_⟩⟩⟩
        · rcases hw with ⟨-, h2⟩ | ⟨h1, -⟩
          · exact absurd hi (h2 i i0 i1)
          · exact absurd h1 hw0
        · rcases hw with ⟨h1, -⟩ | ⟨-, h2, i, i0, i1, i2, i3⟩
          · exact absurd hw0 h1
          · refine ihc 0 _ (fun k j hk => by rw [u_ne hk]; exact hf2 k j hk) (fun x hxz => by rw [u_ne2 hxz]; exact hx x hxz) (Or.inr ⟨rfl, fun i i0 i1 hi => ?_, i, i0, by omega, i2, by rw [u_eq]; exact i3⟩)
            rw [u_eq]
            by_cases u : i = c
            · rw [u]; exact g
            · exact h2 i i0 (by omega) hi
        · rcases hw with ⟨h1, -⟩ | ⟨-, h2, -⟩
          · exact absurd hw0 h1
          · have := h2 i i0 i1 hi; omega
theorem m_agreeing (hY : Lay L) (hq : okP q) (hC : isC σ q) (hT : isT σ q) : Ex 2 y_Mod_agreeing [vr 102] L σ (PI L (fun z σ' => isM z (qN q) (W9 q) ∧ ∀ k j, k ≠ 117 → σ' k j = σ k j) NT) := by
  have hn := hq.1
  have ha := al_sub hq
  refine e_Mod_agreeing hY ?_
  refine Ex.toV (m_findLeast hY hq hC hT) ?_ (fun _ _ h => h)
  rintro σ' ⟨hl, hf⟩
  have hC' : isC σ' q := hC.fc fun k j hk => hf k j (by omega)
  have hT' : isT σ' q := fun x y x0 x1 y0 y1 => by rw [hf _ _ (by omega)]; exact hT x y x0 x1 y0 y1
  refine upto (P := fun c => ∀ z, isM z c (W9 q) → G_Mod_agreeing_8 1 L σ' (fun z σ' => isM z (qN q) (W9 q) ∧ ∀ k j, k ≠ 117 → σ' k j = σ k j) NT z c) (a := 0) (n := qN q) ?_ ?_ 0 (by omega) (by omega) 0 (isM.zero _)
  · intro z hz
    exact r_Mod_agreeing_8 hY ⟨fun _ => ⟨hz, hf⟩, fun g => absurd g (by rw [hC'.1]; omega)⟩
  · intro c c0 c1 ih z hz
    have hs := clr_sub ha c0 (show c < 7 by omega)
    have hb := hl.bd hs.1 hs.2.1 hs
    have hpl := pc_le (aI (alq q) (xI (hI 1 c) (-1)))
    have b1 := co_bd' hq c (cl (alq q) c)
    have hiff := W9_iff hq hl c0 c1
    refine r_Mod_agreeing_8 hY ⟨fun g => absurd g (by rw [hC'.1]; omega), fun _ => (m_all hY hq hC').to (by omega) ?_⟩
    refine (m_over hY hq hC' hT' (r := cl (alq q) c) ⟨c0, c1⟩ ⟨hs.1, hs.2.1⟩).to (by omega) ⟨⟨hs.1, hs.2.1⟩, ?_, ?_⟩
    · constructor
      · have := hb.1; omega
      · have := hb.2; omega
    · exact (m_all hY hq hC').to (by omega) ⟨⟨ha.1, ha.2.1⟩, fun g => ⟨by omega, ih z (hz.skip fun w => g (hiff.mp w))⟩, fun g => ⟨by omega, ih _ (hz.or c0 (by omega) (hiff.mpr g))⟩⟩
end
