/-! THE MODEL's RULES: scores, runoff, uncovered, agenda -/
theorem isM.rem {z n c : Int} {f : Int → Prop} (h : isM z n f) (c0 : 0 ≤ c) (c7 : c < 7) : isM (aI z (xI (hI 1 c) (-1))) n (fun i => f i ∧ i ≠ c) := by
  have := clr_in h.1 h.2.1 c0 c7
  refine ⟨this.1, this.2.1, fun i i0 i7 => ?_⟩
  rw [this.2.2 i i0, h.2.2 i i0 i7]
  exact ⟨fun q => ⟨q.1.1, q.1.2, q.2⟩, fun q => ⟨⟨q.1, q.2.1⟩, q.2.2⟩⟩
section
variable {L : List Sh} {σ : Mm} {q : Pf}
theorem m_sc0 (hY : Lay L) (hq : okP q) (hC : isC σ q) {c : Int} : IsL 1 y_Mod_scored [vr 102, vi 0, vi c] L σ (sc0 q c) := by
  refine e_Mod_scored hY ⟨fun w => absurd rfl w, fun _ => ?_⟩
  exact (m_all hY hq hC).to (by omega) ((m_ahead hY hq hC (al_nz hq)).to (by omega) ⟨rfl, rfl⟩)
theorem m_sc1 (hY : Lay L) (hq : okP q) (hC : isC σ q) {c : Int} (hc : 0 ≤ c ∧ c < qN q) : IsL 1 y_Mod_scored [vr 102, vi 1, vi c] L σ (sc1 q c) := by
  have hn := hq.1
  have hT := hq.2.1
  refine e_Mod_scored hY ⟨fun _ => ?_, fun w => absurd w (by omega)⟩
  have fin : ∀ x, x = sc1 q c → G_Mod_scored_103 0 L σ (fun z σ' => z = sc1 q c ∧ σ' = σ) NT 1 c x 0 := fun x hx => r_Mod_scored_103 hY ⟨fun _ => ⟨hx, rfl⟩, fun _ => ⟨fun _ => ⟨hx, rfl⟩, fun g => absurd g (by omega)⟩⟩
  refine upto (P := fun t => G_Mod_scored_20 0 L σ (fun z σ' => z = sc1 q c ∧ σ' = σ) NT 1 c (S (fun t => if qL q t (qN q - 1) = c then qA q t else 0) t) t) (a := 0) (n := qT q) ?_ ?_ 0 (by omega) (by omega)
  · exact r_Mod_scored_20 hY ⟨fun _ => fin _ rfl, fun g => absurd g (by rw [hC.2.1]; omega)⟩
  · intro t t0 t1 ih
    have hb := sc1_bd hq c t t0 (by omega)
    have ha := hq.2.2.2.1 t t0 t1
    have hm := hq.2.2.1 t t0 t1
    have hs := ps_spec hn.2 hm hc.1 hc.2
    rw [S_s _ t0] at ih
    refine r_Mod_scored_20 hY ⟨fun g => absurd g (by rw [hC.2.1]; omega), fun _ => ⟨fun g => absurd g (by omega), fun _ => ?_⟩⟩
    refine (m_placeOf hY hq hC ⟨t0, t1⟩ hc).to (by omega) ?_
    rw [hC.1, hC.2.2.2.1 t t0 t1]
    refine ⟨fun w => absurd rfl w, fun _ => ⟨by omega, fun e => ⟨by omega, by omega, ?_⟩, fun e => ⟨by omega, by omega, by omega, ?_⟩⟩⟩
    · rw [if_neg (fun w => e (by rw [← w]; exact ps_at hn.2 hm (by omega) (by omega)))] at ih
      exact ih
    · rw [if_pos (by rw [← e]; exact hs.2.2)] at ih
      exact ih
theorem m_sc2 (hY : Lay L) (hq : okP q) (hC : isC σ q) {c : Int} (hc : 0 ≤ c ∧ c < qN q) : IsL 1 y_Mod_scored [vr 102, vi 2, vi c] L σ (sc2 q c) := by
  have hn := hq.1
  have hT := hq.2.1
  have hb := sc2_bd hq hc
  refine e_Mod_scored hY ⟨fun _ => ?_, fun w => absurd w (by omega)⟩
  have fin : ∀ x, x = sc2 q c → G_Mod_scored_103 0 L σ (fun z σ' => z = sc2 q c ∧ σ' = σ) NT 2 c x 0 := fun x hx => r_Mod_scored_103 hY ⟨fun _ => ⟨hx, rfl⟩, fun _ => ⟨fun _ => ⟨hx, rfl⟩, fun g => absurd g (by omega)⟩⟩
  refine upto (P := fun t => G_Mod_scored_20 0 L σ (fun z σ' => z = sc2 q c ∧ σ' = σ) NT 2 c (S (fun t => qA q t * qW q (ps (qL q t) c)) t) t) (a := 0) (n := qT q) ?_ ?_ 0 (by omega) (by omega)
  · exact r_Mod_scored_20 hY ⟨fun _ => fin _ rfl, fun g => absurd g (by rw [hC.2.1]; omega)⟩
  · intro t t0 t1 ih
    have b1 := hb.1 t t0 t1
    have b2 := hb.2 t t0 (by omega)
    have hs := ps_spec hn.2 (hq.2.2.1 t t0 t1) hc.1 hc.2
    rw [S_s _ t0] at ih
    refine r_Mod_scored_20 hY ⟨fun g => absurd g (by rw [hC.2.1]; omega), fun _ => ⟨fun g => absurd g (by omega), fun _ => ?_⟩⟩
    refine (m_placeOf hY hq hC ⟨t0, t1⟩ hc).to (by omega) ?_
    rw [hC.2.2.2.1 t t0 t1, hC.2.2.2.2.2.2 _ hs.1 hs.2.1, Int.mul_comm]
    exact ⟨fun _ => ⟨by omega, by omega, by omega, by omega, by omega, ih⟩, fun w => absurd w (by omega)⟩
theorem m_sc5 (hY : Lay L) (hq : okP q) (hC : isC σ q) (hT : isT σ q) {a : Int} (ha : 0 ≤ a ∧ a < qN q) : IsL 1 y_Mod_scored [vr 102, vi 5, vi a] L σ (sc5 q a) := by
  have hn := hq.1
  refine e_Mod_scored hY ⟨fun _ => ?_, fun w => absurd w (by omega)⟩
  have main : G_Mod_scored_103 0 L σ (fun z σ' => z = sc5 q a ∧ σ' = σ) NT 5 a 0 0 := by
    refine upto (P := fun b => G_Mod_scored_103 0 L σ (fun z σ' => z = sc5 q a ∧ σ' = σ) NT 5 a (md q a b.toNat) b) (a := 0) (n := qN q) ?_ ?_ 0 (by omega) (by omega)
    · exact r_Mod_scored_103 hY ⟨fun _ => ⟨rfl, rfl⟩, fun g => absurd g (by rw [hC.1]; omega)⟩
    · intro b b0 b1 ih
      rw [md_s q a b0] at ih
      have nx : ∀ x, G_Mod_scored_103 0 L σ (fun z σ' => z = sc5 q a ∧ σ' = σ) NT 5 a x (b + 1) → G_Mod_scored_174 0 L σ (fun z σ' => z = sc5 q a ∧ σ' = σ) NT 5 a x b := fun x h => r_Mod_scored_174 hY ⟨fun _ => ⟨by omega, h⟩, fun w => absurd w (by omega)⟩
      refine r_Mod_scored_103 hY ⟨fun g => absurd g (by rw [hC.1]; omega), fun _ => ⟨fun g => absurd g (by omega), fun _ => ⟨fun w => absurd rfl w, fun _ => ⟨fun e => nx _ ?_, fun e => ?_⟩⟩⟩⟩
      · rw [if_neg (fun w => by rw [e] at w; have := w.1; unfold bts at this; omega)] at ih
        exact ih
      · refine (m_beats hY hq hT ⟨b0, b1⟩ ha).to (by omega) ?_
        rw [hT b a b0 b1 ha.1 ha.2]
        refine ⟨fun h2 => nx _ ?_, fun h2 => ⟨by omega, by omega, by omega, fun h3 => nx _ ?_, fun h3 => ⟨by omega, by omega, by omega, nx _ ?_⟩⟩⟩
        · rw [if_neg (fun e => bI_f h2 e.1)] at ih
          exact ih
        · rw [if_neg (fun e => by have := e.2; omega)] at ih
          exact ih
        · rw [if_pos ⟨bI_t h2, h3⟩] at ih
          exact ih
  exact r_Mod_scored_20 hY ⟨fun _ => main, fun _ => ⟨fun _ => main, fun g => absurd g (by omega)⟩⟩
theorem m_sc6 (hY : Lay L) (hq : okP q) (hC : isC σ q) (hT : isT σ q) {a : Int} (ha : 0 ≤ a ∧ a < qN q) : IsL 1 y_Mod_scored [vr 102, vi 6, vi a] L σ (sc6 q a) := by
  have hn := hq.1
  refine e_Mod_scored hY ⟨fun _ => ?_, fun w => absurd w (by omega)⟩
  have main : G_Mod_scored_103 0 L σ (fun z σ' => z = sc6 q a ∧ σ' = σ) NT 6 a 0 0 := by
    refine upto (P := fun b => G_Mod_scored_103 0 L σ (fun z σ' => z = sc6 q a ∧ σ' = σ) NT 6 a (S (w6 q a) b) b) (a := 0) (n := qN q) ?_ ?_ 0 (by omega) (by omega)
    · exact r_Mod_scored_103 hY ⟨fun _ => ⟨rfl, rfl⟩, fun g => absurd g (by rw [hC.1]; omega)⟩
    · intro b b0 b1 ih
      rw [S_s (w6 q a) b0] at ih
      have hb := sc6_bd q a b b0
      refine r_Mod_scored_103 hY ⟨fun g => absurd g (by rw [hC.1]; omega), fun _ => ⟨fun g => absurd g (by omega), fun _ => ⟨fun _ => ?_, fun w => absurd w (by omega)⟩⟩⟩
      refine r_Mod_scored_174 hY ⟨fun w => absurd rfl w, fun _ => ⟨fun h2 => ⟨by omega, ?_⟩, fun h2 => ?_⟩⟩
      · unfold w6 at ih
        rw [if_pos h2, Int.add_zero] at ih
        exact ih
      · refine (m_beats hY hq hT ha ⟨b0, b1⟩).to (by omega) ⟨fun h3 => ?_, fun h3 => ⟨by omega, by omega, ?_⟩⟩
        · refine (m_beats hY hq hT ⟨b0, b1⟩ ha).to (by omega) ⟨fun h4 => ⟨by omega, by omega, ?_⟩, fun h4 => ⟨by omega, ?_⟩⟩
          · unfold w6 at ih
            rw [if_neg h2, if_neg (bI_f h3), if_neg (bI_f h4)] at ih
            exact ih
          · unfold w6 at ih
            rw [if_neg h2, if_neg (bI_f h3), if_pos (bI_t h4), Int.add_zero] at ih
            exact ih
        · unfold w6 at ih
          rw [if_neg h2, if_pos (bI_t h3)] at ih
          exact ih
  exact r_Mod_scored_20 hY ⟨fun _ => main, fun _ => ⟨fun _ => main, fun g => absurd g (by omega)⟩⟩
theorem m_top (hY : Lay L) (hq : okP q) (hC : isC σ q) {r : Int} {s : Int → Int} (hs : ∀ c, 0 ≤ c → c < qN q → IsL 1 y_Mod_scored [vr 102, vi r, vi c] L σ (s c)) : Ex 2 y_Mod_extreme [vr 102, vi r, vi 1] L σ (PI L (fun z σ' => isM z (qN q) (Wtop s (qN q)) ∧ σ' = σ) NT) := by
  have hn := hq.1
  refine e_Mod_extreme hY ?_
  refine upto (P := fun a => ∀ z, isM z a (Wtop s (qN q)) → G_Mod_extreme_5 1 L σ (fun z σ' => isM z (qN q) (Wtop s (qN q)) ∧ σ' = σ) NT r 1 z a) (a := 0) (n := qN q) ?_ ?_ 0 (by omega) (by omega) 0 (isM.zero _)
  · intro z hz
    exact r_Mod_extreme_5 hY ⟨fun _ => ⟨hz, rfl⟩, fun g => absurd g (by rw [hC.1]; omega)⟩
  · intro a a0 a1 ih z hz
    refine r_Mod_extreme_5 hY ⟨fun g => absurd g (by rw [hC.1]; omega), fun _ => ?_⟩
    refine upto (P := fun b => ∀ w, w = bI (∀ j, 0 ≤ j → j < b → s j ≤ s a) → G_Mod_extreme_20 1 L σ (fun z σ' => isM z (qN q) (Wtop s (qN q)) ∧ σ' = σ) NT r 1 z a w b) (a := 0) (n := qN q) ?_ ?_ 0 (by omega) (by omega) 1 (bI_p fun j j0 j1 => absurd j1 (by omega)).symm
    · intro w hw
      refine r_Mod_extreme_20 hY ⟨fun _ => ⟨fun e => ⟨by omega, ih z (hz.skip ?_)⟩, fun e => ⟨by omega, ih _ (hz.or a0 (by omega) ?_)⟩⟩, fun g => absurd g (by rw [hC.1]; omega)⟩
      · rw [hw] at e; exact bI_f e
      · rw [hw] at e; exact bI_t e
    · intro b b0 b1 ihb w hw
      refine r_Mod_extreme_20 hY ⟨fun g => absurd g (by rw [hC.1]; omega), fun _ => ⟨fun e => ⟨by omega, ihb 0 ?_⟩, fun e => ⟨fun v => absurd v (by omega), fun _ => ?_⟩⟩⟩
      · rw [hw] at e
        exact (bI_n fun v => bI_f e fun j j0 j1 => v j j0 (by omega)).symm
      · rw [hw] at e
        have e := bI_t e
        refine (hs b b0 b1).to (by omega) ((hs a a0 a1).to (by omega) ⟨fun g => ⟨by omega, ihb 0 (bI_n fun v => by have := v b b0 (by omega); omega).symm⟩, fun g => ⟨by omega, ihb 1 (bI_p fun j j0 j1 => ?_).symm⟩⟩)
        by_cases v : j = b
        · rw [v]; exact g
        · exact e j j0 (by omega)
theorem m_low (hY : Lay L) (hq : okP q) (hC : isC σ q) {r : Int} {s : Int → Int} (hs : ∀ c, 0 ≤ c → c < qN q → IsL 1 y_Mod_scored [vr 102, vi r, vi c] L σ (s c)) : Ex 2 y_Mod_extreme [vr 102, vi r, vi 0] L σ (PI L (fun z σ' => isM z (qN q) (Wlow s (qN q)) ∧ σ' = σ) NT) := by
  have hn := hq.1
  refine e_Mod_extreme hY ?_
  refine upto (P := fun a => ∀ z, isM z a (Wlow s (qN q)) → G_Mod_extreme_5 1 L σ (fun z σ' => isM z (qN q) (Wlow s (qN q)) ∧ σ' = σ) NT r 0 z a) (a := 0) (n := qN q) ?_ ?_ 0 (by omega) (by omega) 0 (isM.zero _)
  · intro z hz
    exact r_Mod_extreme_5 hY ⟨fun _ => ⟨hz, rfl⟩, fun g => absurd g (by rw [hC.1]; omega)⟩
  · intro a a0 a1 ih z hz
    refine r_Mod_extreme_5 hY ⟨fun g => absurd g (by rw [hC.1]; omega), fun _ => ?_⟩
    refine upto (P := fun b => ∀ w, w = bI (∀ j, 0 ≤ j → j < b → s a ≤ s j) → G_Mod_extreme_20 1 L σ (fun z σ' => isM z (qN q) (Wlow s (qN q)) ∧ σ' = σ) NT r 0 z a w b) (a := 0) (n := qN q) ?_ ?_ 0 (by omega) (by omega) 1 (bI_p fun j j0 j1 => absurd j1 (by omega)).symm
    · intro w hw
      refine r_Mod_extreme_20 hY ⟨fun _ => ⟨fun e => ⟨by omega, ih z (hz.skip ?_)⟩, fun e => ⟨by omega, ih _ (hz.or a0 (by omega) ?_)⟩⟩, fun g => absurd g (by rw [hC.1]; omega)⟩
      · rw [hw] at e; exact bI_f e
      · rw [hw] at e; exact bI_t e
    · intro b b0 b1 ihb w hw
      refine r_Mod_extreme_20 hY ⟨fun g => absurd g (by rw [hC.1]; omega), fun _ => ⟨fun e => ⟨by omega, ihb 0 ?_⟩, fun e => ⟨fun _ => ?_, fun v => absurd rfl v⟩⟩⟩
      · rw [hw] at e
        exact (bI_n fun v => bI_f e fun j j0 j1 => v j j0 (by omega)).symm
      · rw [hw] at e
        have e := bI_t e
        refine (hs b b0 b1).to (by omega) ((hs a a0 a1).to (by omega) ⟨fun g => ⟨by omega, ihb 0 (bI_n fun v => by have := v b b0 (by omega); omega).symm⟩, fun g => ⟨by omega, ihb 1 (bI_p fun j j0 j1 => ?_).symm⟩⟩)
        by_cases v : j = b
        · rw [v]; exact g
        · exact e j j0 (by omega)
theorem m_runoff (hY : Lay L) (hq : okP q) (hC : isC σ q) (hT : isT σ q) : Ex 2 y_Mod_runoff [vr 102] L σ (PI L (fun z σ' => isM z (qN q) (W3 q) ∧ σ' = σ) NT) := by
  have hn := hq.1
  refine e_Mod_runoff hY ?_
  refine upto (P := fun a => ∀ z, isM z (qN q) (W3p q a (a + 1)) → G_Mod_runoff_4 1 L σ (fun z σ' => isM z (qN q) (W3 q) ∧ σ' = σ) NT z a) (a := 0) (n := qN q) ?_ ?_ 0 (by omega) (by omega) 0 (isM.empty fun i _ _ => W3p_0)
  · intro z hz
    exact r_Mod_runoff_4 hY ⟨fun _ => ⟨hz.ext fun i _ _ _ => W3p_end, rfl⟩, fun g => absurd g (by rw [hC.1]; omega)⟩
  · intro a a0 a1 ih z hz
    refine r_Mod_runoff_4 hY ⟨fun g => absurd g (by rw [hC.1]; omega), fun _ => ⟨by omega, ?_⟩⟩
    refine upto (P := fun b => ∀ z, isM z (qN q) (W3p q a b) → G_Mod_runoff_16 1 L σ (fun z σ' => isM z (qN q) (W3 q) ∧ σ' = σ) NT z a b) (a := a + 1) (n := qN q) ?_ ?_ (a + 1) (by omega) (by omega) z hz
    · intro z hz
      refine r_Mod_runoff_16 hY ⟨fun _ => ⟨by omega, ih z (hz.ext fun i _ _ _ => ?_)⟩, fun g => absurd g (by rw [hC.1]; omega)⟩
      rw [W3p_next, show a + 2 = a + 1 + 1 by omega]
    · intro b b0 b1 ihb z hz
      refine r_Mod_runoff_16 hY ⟨fun g => absurd g (by rw [hC.1]; omega), fun _ => ?_⟩
      refine upto (P := fun c => ∀ w, w = bI (∀ j, 0 ≤ j → j < c → j = a ∨ j = b ∨ (sc0 q j ≤ sc0 q a ∧ sc0 q j ≤ sc0 q b)) → G_Mod_runoff_30 1 L σ (fun z σ' => isM z (qN q) (W3 q) ∧ σ' = σ) NT z a b w c) (a := 0) (n := qN q) ?_ ?_ 0 (by omega) (by omega) 1 (bI_p fun j j0 j1 => absurd j1 (by omega)).symm
      · intro w hw
        refine r_Mod_runoff_30 hY ⟨fun _ => ⟨fun e => ⟨by omega, ihb z (hz.ext fun i _ _ _ => ?_)⟩, fun e => ?_⟩, fun g => absurd g (by rw [hC.1]; omega)⟩
        · rw [hw] at e
          have g : ¬ two q a b := bI_f e
          rw [W3p_step a0 (by omega) b1]
          exact ⟨Or.inl, fun h => h.elim id (fun h => absurd h.1 g)⟩
        · rw [hw] at e
          have g : two q a b := bI_t e
          have fin : ∀ z, isM z (qN q) (fun i => W3p q a b i ∨ i = a ∧ ¬ bts q b a) → G_Mod_runoff_125 1 L σ (fun z σ' => isM z (qN q) (W3 q) ∧ σ' = σ) NT a b z := by
            intro z hz
            refine r_Mod_runoff_125 hY ((m_beats hY hq hT ⟨a0, a1⟩ ⟨by omega, b1⟩).to (by omega) ⟨fun e => ⟨by omega, ihb _ (hz.ins (by omega) b1 (by omega) fun i _ _ => ?_)⟩, fun e => ⟨by omega, ihb z (hz.ext fun i _ _ _ => ?_)⟩⟩)
            · have e := bI_f e
              rw [W3p_step a0 (by omega) b1]
              constructor
              · rintro (h | ⟨-, h | h⟩)
                · exact Or.inl (Or.inl h)
                · exact Or.inl (Or.inr h)
                · exact Or.inr h.1
              · rintro ((h | h) | h)
                · exact Or.inl h
                · exact Or.inr ⟨g, Or.inl h⟩
                · exact Or.inr ⟨g, Or.inr ⟨h, e⟩⟩
            · have e := bI_t e
              rw [W3p_step a0 (by omega) b1]
              constructor
              · rintro (h | h)
                · exact Or.inl h
                · exact Or.inr ⟨g, Or.inl h⟩
              · rintro (h | ⟨-, h | h⟩)
                · exact Or.inl h
                · exact Or.inr h
                · exact absurd e h.2
          refine (m_beats hY hq hT ⟨by omega, b1⟩ ⟨a0, a1⟩).to (by omega) ⟨fun e => fin _ (hz.ins a0 a1 (by omega) fun i _ _ => ?_), fun e => fin z (hz.ext fun i _ _ _ => ?_)⟩
          · exact ⟨fun h => h.elim Or.inl (fun h => Or.inr h.1), fun h => h.elim Or.inl (fun h => Or.inr ⟨h, bI_f e⟩)⟩
          · exact ⟨Or.inl, fun h => h.elim id (fun h => absurd (bI_t e) h.2)⟩
      · intro c c0 c1 ihc w hw
        have yes : (∀ j, 0 ≤ j → j < c → j = a ∨ j = b ∨ (sc0 q j ≤ sc0 q a ∧ sc0 q j ≤ sc0 q b)) → (c = a ∨ c = b ∨ (sc0 q c ≤ sc0 q a ∧ sc0 q c ≤ sc0 q b)) → G_Mod_runoff_30 1 L σ (fun z σ' => isM z (qN q) (W3 q) ∧ σ' = σ) NT z a b 1 (c + 1) := fun e g => ihc 1 (bI_p fun j j0 j1 => by
          by_cases v : j = c
          · rw [v]; exact g
          · exact e j j0 (by omega)).symm
        have no : ¬ (c = a ∨ c = b ∨ (sc0 q c ≤ sc0 q a ∧ sc0 q c ≤ sc0 q b)) → G_Mod_runoff_30 1 L σ (fun z σ' => isM z (qN q) (W3 q) ∧ σ' = σ) NT z a b 0 (c + 1) := fun g => ihc 0 (bI_n fun v => g (v c c0 (by omega))).symm
        refine r_Mod_runoff_30 hY ⟨fun g => absurd g (by rw [hC.1]; omega), fun _ => ?_⟩
        refine (m_sc0 hY hq hC).to (by omega) ⟨fun e => ⟨by omega, ihc 0 ?_⟩, fun e => ?_⟩
        · rw [hw] at e
          exact (bI_n fun v => bI_f e fun j j0 j1 => v j j0 (by omega)).symm
        · rw [hw] at e
          have e := bI_t e
          refine ⟨fun g => ⟨by omega, yes e (Or.inl g)⟩, fun g => ⟨fun g2 => ⟨by omega, yes e (Or.inr (Or.inl g2))⟩, fun g2 => ?_⟩⟩
          refine (m_sc0 hY hq hC).to (by omega) ⟨fun g3 => ⟨by omega, no (by omega)⟩, fun g3 => ?_⟩
          exact (m_sc0 hY hq hC).to (by omega) ⟨fun g4 => ⟨by omega, no (by omega)⟩, fun g4 => ⟨by omega, yes e (Or.inr (Or.inr ⟨g3, g4⟩))⟩⟩
theorem m_uncovered (hY : Lay L) (hq : okP q) (hC : isC σ q) (hT : isT σ q) : Ex 1 y_Mod_uncovered [vr 102] L σ (PI L (fun z σ' => isM z (qN q) (W10 q) ∧ σ' = σ) NT) := by
  have hn := hq.1
  refine e_Mod_uncovered hY ?_
  refine (m_all hY hq hC).to (by omega) ?_
  refine upto (P := fun a => ∀ z, isM z (qN q) (fun i => ¬ ∃ x, 0 ≤ x ∧ x < a ∧ cov q x i) → G_Mod_uncovered_7 0 L σ (fun z σ' => isM z (qN q) (W10 q) ∧ σ' = σ) NT z a) (a := 0) (n := qN q) ?_ ?_ 0 (by omega) (by omega) _ ((al_is hq).ext fun i _ _ _ => ⟨fun _ => by rintro ⟨x, h1, h2, -⟩; omega, fun _ => trivial⟩)
  · intro z hz
    exact r_Mod_uncovered_7 hY ⟨fun _ => ⟨hz, rfl⟩, fun g => absurd g (by rw [hC.1]; omega)⟩
  · intro a a0 a1 ih z hz
    refine r_Mod_uncovered_7 hY ⟨fun g => absurd g (by rw [hC.1]; omega), fun _ => ?_⟩
    refine upto (P := fun b => ∀ z, isM z (qN q) (fun i => (¬ ∃ x, 0 ≤ x ∧ x < a ∧ cov q x i) ∧ ¬ (i < b ∧ cov q a i)) → G_Mod_uncovered_17 0 L σ (fun z σ' => isM z (qN q) (W10 q) ∧ σ' = σ) NT z a b) (a := 0) (n := qN q) ?_ ?_ 0 (by omega) (by omega) z (hz.ext fun i i0 _ _ => ⟨fun h => ⟨h, fun w => absurd w.1 (by omega)⟩, fun h => h.1⟩)
    · intro z hz
      refine r_Mod_uncovered_17 hY ⟨fun _ => ⟨by omega, ih z (hz.ext fun i _ i1 _ => ?_)⟩, fun g => absurd g (by rw [hC.1]; omega)⟩
      constructor
      · rintro ⟨h1, h2⟩ ⟨x, x0, x1, hx⟩
        by_cases e : x = a
        · rw [e] at hx; exact h2 ⟨i1, hx⟩
        · exact h1 ⟨x, x0, by omega, hx⟩
      · intro h
        exact ⟨fun ⟨x, x0, x1, hx⟩ => h ⟨x, x0, by omega, hx⟩, fun w => h ⟨a, a0, by omega, w.2⟩⟩
    · intro b b0 b1 ihb z hz
      -- the inner loop
      have inner : ∀ w, w = bI (bts q a b) → G_Mod_uncovered_49 0 L σ (fun z σ' => isM z (qN q) (W10 q) ∧ σ' = σ) NT z a b w 0 := by
        intro w hw
        refine upto (P := fun c => ∀ w, w = bI (bts q a b ∧ ∀ j, 0 ≤ j → j < c → bts q b j → bts q a j) → G_Mod_uncovered_49 0 L σ (fun z σ' => isM z (qN q) (W10 q) ∧ σ' = σ) NT z a b w c) (a := 0) (n := qN q) ?_ ?_ 0 (by omega) (by omega) w (by rw [hw]; exact bI_iff ⟨fun h => ⟨h, fun j j0 j1 => absurd j1 (by omega)⟩, fun h => h.1⟩)
        · intro w hw
          refine r_Mod_uncovered_49 hY ⟨fun _ => ⟨fun e => ⟨by omega, ihb z (hz.ext fun i _ _ _ => ?_)⟩, fun e => ⟨by omega, ihb _ ((hz.rem b0 (by omega)).ext fun i _ _ _ => ?_)⟩⟩, fun g => absurd g (by rw [hC.1]; omega)⟩
          · rw [hw] at e
            have e : ¬ cov q a b := bI_f e
            exact ⟨fun h => ⟨h.1, fun v => by
              by_cases g : i = b
              · rw [g] at v; exact e v.2
              · exact h.2 ⟨by omega, v.2⟩⟩, fun h => ⟨h.1, fun v => h.2 ⟨by omega, v.2⟩⟩⟩
          · rw [hw] at e
            have e : cov q a b := bI_t e
            constructor
            · rintro ⟨⟨h1, h2⟩, h3⟩
              exact ⟨h1, fun v => h2 ⟨by omega, v.2⟩⟩
            · rintro ⟨h1, h2⟩
              exact ⟨⟨h1, fun v => h2 ⟨by omega, v.2⟩⟩, fun g => h2 (by rw [g]; exact ⟨by omega, e⟩)⟩
        · intro c c0 c1 ihc w hw
          refine r_Mod_uncovered_49 hY ⟨fun g => absurd g (by rw [hC.1]; omega), fun _ => ⟨fun e => ⟨by omega, ihc 0 ?_⟩, fun e => ?_⟩⟩
          · rw [hw] at e
            exact (bI_n fun v => bI_f e ⟨v.1, fun j j0 j1 => v.2 j j0 (by omega)⟩).symm
          · rw [hw] at e
            have e := bI_t e
            have yes : (bts q b c → bts q a c) → G_Mod_uncovered_49 0 L σ (fun z σ' => isM z (qN q) (W10 q) ∧ σ' = σ) NT z a b 1 (c + 1) := fun g => ihc 1 (bI_p ⟨e.1, fun j j0 j1 => by
              by_cases v : j = c
              · rw [v]; exact g
              · exact e.2 j j0 (by omega)⟩).symm
            refine ⟨fun g => ⟨by omega, yes fun v => ?_⟩, fun g => ⟨fun g2 => ⟨by omega, yes fun v => ?_⟩, fun g2 => ?_⟩⟩
            · rw [g] at v ⊢
              have := e.1
              unfold bts at this v
              omega
            · rw [g2] at v ⊢
              exact e.1
            · refine (m_beats hY hq hT ⟨b0, b1⟩ ⟨c0, c1⟩).to (by omega) ⟨fun g3 => ⟨by omega, yes fun v => absurd v (bI_f g3)⟩, fun g3 => ?_⟩
              exact (m_beats hY hq hT ⟨a0, a1⟩ ⟨c0, c1⟩).to (by omega) ⟨fun g4 => ⟨by omega, ihc 0 (bI_n fun v => bI_f g4 (v.2 c c0 (by omega) (bI_t g3))).symm⟩, fun g4 => ⟨by omega, yes fun _ => bI_t g4⟩⟩
      refine r_Mod_uncovered_17 hY ⟨fun g => absurd g (by rw [hC.1]; omega), fun _ => ⟨fun e => inner 0 (bI_n fun v => ?_).symm, fun e => ?_⟩⟩
      · rw [e] at v; unfold bts at v; omega
      · exact (m_beats hY hq hT ⟨a0, a1⟩ ⟨b0, b1⟩).to (by omega) ⟨fun g => inner 0 (bI_n (bI_f g)).symm, fun g => inner 1 (bI_p (bI_t g)).symm⟩
theorem m_agenda (hY : Lay L) (hq : okP q) (hC : isC σ q) (hT : isT σ q) : Ex 1 y_Mod_byAgenda [vr 102] L σ (PI L (fun z σ' => isM z (qN q) (W11 q) ∧ σ' = σ) NT) := by
  have hn := hq.1
  refine e_Mod_byAgenda hY ?_
  rw [hC.2.2.2.2.2.1 0 (by omega) (by omega)]
  refine upto (P := fun k => G_Mod_byAgenda_9 0 L σ (fun z σ' => isM z (qN q) (W11 q) ∧ σ' = σ) NT (svr q (k - 1).toNat) k) (a := 1) (n := qN q) ?_ ?_ 1 (by omega) (by omega)
  · have h := svr_in hq (qN q - 1).toNat (by omega)
    exact r_Mod_byAgenda_9 hY ⟨fun _ => ⟨isM.sing h.1 h.2 hn.2, rfl⟩, fun g => absurd g (by rw [hC.1]; omega)⟩
  · intro k k0 k1 ih
    have h := svr_in hq (k - 1).toNat (by omega)
    have hc := hq.2.2.2.2.2.1.1 k (by omega) k1
    rw [show k + 1 - 1 = (k - 1) + 1 by omega, show (k - 1 + 1).toNat = (k - 1).toNat + 1 by omega] at ih
    unfold svr at ih
    rw [show (((k - 1).toNat : Nat) : Int) + 1 = k by omega] at ih
    refine r_Mod_byAgenda_9 hY ⟨fun g => absurd g (by rw [hC.1]; omega), fun _ => ⟨by omega, ?_⟩⟩
    rw [hC.2.2.2.2.2.1 k (by omega) k1]
    refine (m_beats hY hq hT hc h).to (by omega) ⟨fun e => ⟨by omega, ?_⟩, fun e => ?_⟩
    · rw [if_pos (Or.inl (bI_t e))] at ih
      exact ih
    · refine (m_beats hY hq hT h hc).to (by omega) ⟨fun e2 => ⟨by omega, ?_⟩, fun e2 => ?_⟩
      · rw [if_neg (fun w => w.elim (bI_f e) (fun w => w.1 (bI_t e2)))] at ih
        exact ih
      · refine (m_tie hY hq hC hc).to (by omega) ((m_tie hY hq hC h).to (by omega) ⟨fun e3 => ⟨by omega, ?_⟩, fun e3 => ⟨by omega, ?_⟩⟩)
        · rw [if_neg (fun w => w.elim (bI_f e) (fun w => by have := w.2; omega))] at ih
          exact ih
        · rw [if_pos (Or.inr ⟨bI_f e2, e3⟩)] at ih
          exact ih
end
