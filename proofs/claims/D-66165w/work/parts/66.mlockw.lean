section
variable {L : List Sh} {σ : Mm} {q : Pf}
theorem m_sooner (hY : Lay L) (hq : okP q) (hC : isC σ q) (hT : isT σ q) {a b c d : Int} (ha : 0 ≤ a ∧ a < qN q) (hb : 0 ≤ b ∧ b < qN q) (hc : 0 ≤ c ∧ c < qN q) (hd : 0 ≤ d ∧ d < qN q) : IsI 1 y_Mod_sooner_IIII [vr 102, vi a, vi b, vi c, vi d] L σ (bI (key q a b < key q c d)) := by
  have hn := hq.1
  have ht := hq.2.2.2.2.1
  have s1 := ps_spec hn.2 ht ha.1 ha.2
  have s2 := ps_spec hn.2 ht hb.1 hb.2
  have s3 := ps_spec hn.2 ht hc.1 hc.2
  have s4 := ps_spec hn.2 ht hd.1 hd.2
  have ne : a ≠ c → ps (qI' q) a ≠ ps (qI' q) c := fun w e => w (by rw [← s1.2.2, e, s3.2.2])
  refine e_Mod_sooner_IIII hY ?_
  rw [hT a b ha.1 ha.2 hb.1 hb.2, hT c d hc.1 hc.2 hd.1 hd.2]
  refine ⟨by omega, by omega, by omega, by omega, by omega, by omega, fun e => ⟨fun e2 => ?_, fun e2 => ?_⟩, fun e => ⟨fun e2 => ⟨?_, rfl⟩, fun e2 => ⟨?_, rfl⟩⟩⟩
  · refine (m_tie hY hq hC hb).to (by omega) ((m_tie hY hq hC hd).to (by omega) ⟨fun e3 => ⟨?_, rfl⟩, fun e3 => ⟨?_, rfl⟩⟩)
    · subst e2; exact (bI_n (by unfold key; omega)).symm
    · subst e2; exact (bI_p (by unfold key; omega)).symm
  · refine (m_tie hY hq hC ha).to (by omega) ((m_tie hY hq hC hc).to (by omega) ⟨fun e3 => ⟨?_, rfl⟩, fun e3 => ⟨?_, rfl⟩⟩)
    · have := ne e2; exact (bI_n (by unfold key; omega)).symm
    · exact (bI_p (by unfold key; omega)).symm
  · exact (bI_n (by unfold key; omega)).symm
  · exact (bI_p (by unfold key; omega)).symm
/-- a pair's number -/
def bp (q : Pf) (p : Int) : Prop := (0 ≤ p ∧ p < 49) ∧ p / 7 < qN q ∧ p % 7 < qN q ∧ bts q (p / 7) (p % 7)
theorem m_lockWinners (hY : Lay L) (hq : okP q) (hC : isC σ q) (hT : isT σ q) : Ex 2 y_Mod_lockWinners [vr 102] L σ (PI L (fun z σ' => isM z (qN q) (W8 q) ∧ ∀ k j, k ≠ 115 → σ' k j = σ k j) NT) := by
  have hn := hq.1
  have isc : ∀ σ' : Mm, (∀ k j, k ≠ 115 → σ' k j = σ k j) → isC σ' q ∧ isT σ' q := fun σ' h => ⟨hC.fc fun k j hk => h k j (by omega), fun x y x0 x1 y0 y1 => by rw [h _ _ (by omega)]; exact hT x y x0 x1 y0 y1⟩
  refine e_Mod_lockWinners hY ?_
  -- the pairs, one after the other
  have main : ∀ σ₀, (∀ k j, k ≠ 115 → σ₀ k j = σ k j) → (∀ j, 0 ≤ j → j < 49 → σ₀ 115 j = 0) → G_Mod_lockWinners_25 1 L σ₀ (fun z σ' => isM z (qN q) (W8 q) ∧ ∀ k j, k ≠ 115 → σ' k j = σ k j) NT 0 0 := by
    intro σ₀ hf0 hz0
    refine upto (P := fun k => ∀ D σ', (0 ≤ D ∧ D < 562949953421312) → (∀ k j, k ≠ 115 → σ' k j = σ k j) → (∀ p, bz D p = 1 → 0 ≤ p → p < 49 → bp q p) → (∀ p r, 0 ≤ p → p < 49 → bz D p = 1 → bp q r → bz D r ≠ 1 → key q (p / 7) (p % 7) < key q (r / 7) (r % 7)) → (∀ p, 0 ≤ p → p < 49 → bz D p ≠ 1 → σ' 115 p = 0) → lkS q (lkE q σ') (fun x y => (0 ≤ x ∧ x < qN q) ∧ (0 ≤ y ∧ y < qN q) ∧ bz D (7 * x + y) = 1) → ((∀ p, bp q p → bz D p = 1) ∨ S (bz D) 49 = k) → G_Mod_lockWinners_25 1 L σ' (fun z σ' => isM z (qN q) (W8 q) ∧ ∀ k j, k ≠ 115 → σ' k j = σ k j) NT D k) (a := 0) (n := 49) ?_ ?_ 0 (by omega) (by omega) 0 σ₀ (by omega) hf0 (fun p hp => by rw [bz_iff] at hp; simp at hp) (fun p r _ _ hp => by rw [bz_iff] at hp; simp at hp) (fun p p0 p1 _ => hz0 p p0 p1) ⟨fun x y w => absurd (hz0 _ (by have := w.1; have := w.2.1; omega) (by have := w.1; have := w.2.1; omega)) w.2.2, fun x y w => by have := w.2.2; rw [bz_iff] at this; simp at this, fun x w => w.last.elim fun u e => e.2.2 (hz0 _ (by have := e.1; have := e.2.1; omega) (by have := e.1; have := e.2.1; omega))⟩ (Or.inr (by decide +kernel))
    · intro D σ' hD hf p1 p2 p3 hl hall
      have hC' := isc σ' hf
      have hall : ∀ p, bp q p → bz D p = 1 := by
        rcases hall with h | h
        · exact h
        · intro p hp
          rcases bz01 D p with g | g
          · exfalso
            have := S_lt (f := bz D) (g := fun _ => 1) (n := 49) (t := p) hp.1.1 hp.1.2 (fun i _ _ => by rcases bz01 D i with w | w <;> omega) (by omega)
            have e : S (fun _ => (1 : Int)) 49 = 49 := by decide +kernel
            omega
          · exact g
      have hLk : isLk q (lkE q σ') := hl.fin fun x y => by
        constructor
        · rintro ⟨a, b, c⟩
          have := p1 _ c (by omega) (by omega)
          have e1 : (7 * x + y) / 7 = x := by omega
          have e2 : (7 * x + y) % 7 = y := by omega
          have h4 := this.2.2.2
          rw [e1, e2] at h4
          exact ⟨a, b, h4⟩
        · rintro ⟨a, b, c⟩
          have e1 : (7 * x + y) / 7 = x := by omega
          have e2 : (7 * x + y) % 7 = y := by omega
          exact ⟨a, b, hall _ ⟨by omega, by omega, by omega, by rw [e1, e2]; exact c⟩⟩
      refine r_Mod_lockWinners_25 hY ⟨fun _ => (m_all hY hq hC'.1).to (by omega) ?_, fun g => absurd g (by omega)⟩
      refine upto (P := fun p => ∀ z, isM z (qN q) (fun i => ¬ ∃ x, (0 ≤ x ∧ x < qN q) ∧ 7 * x + i < p ∧ lkE q σ' x i) → G_Mod_lockWinners_223 1 L σ' (fun z σ' => isM z (qN q) (W8 q) ∧ ∀ k j, k ≠ 115 → σ' k j = σ k j) NT z p) (a := 0) (n := 49) ?_ ?_ 0 (by omega) (by omega) _ ((al_is hq).ext fun i i0 i1 _ => ⟨fun _ => by rintro ⟨x, x0, x1, -⟩; omega, fun _ => trivial⟩)
      · intro z hz
        refine r_Mod_lockWinners_223 hY ⟨fun _ => ⟨hz.ext fun i i0 i1 _ => ?_, hf⟩, fun g => absurd g (by omega)⟩
        rw [W8_iff hq hLk]
        exact ⟨fun h a ha => h ⟨a, ha.1, by have := ha.1; omega, ha⟩, fun h ⟨x, _, _, hx⟩ => h x hx⟩
      · intro p p0 p1' ih z hz
        have hq7 := q7 p0 p1'
        refine r_Mod_lockWinners_223 hY ⟨fun g => absurd g (by omega), fun _ => ⟨by omega, fun e => ⟨by omega, ih z (hz.ext fun i i0 i1 _ => ?_)⟩, fun e => ⟨by omega, ?_⟩⟩⟩
        · constructor
          · rintro h ⟨x, x0, x1, hx⟩
            by_cases g : 7 * x + i = p
            · exact hx.2.2 (by rw [g]; exact e)
            · exact h ⟨x, x0, by omega, hx⟩
          · rintro h ⟨x, x0, x1, hx⟩
            exact h ⟨x, x0, by omega, hx⟩
        · rw [hq7.2]
          have hD1 : bz D p = 1 := Classical.byContradiction fun w => e (p3 p p0 p1' w)
          have hbp := p1 p hD1 p0 p1'
          refine ih _ ((hz.rem (show 0 ≤ p % 7 by omega) (by omega)).ext fun i i0 i1 _ => ?_)
          constructor
          · rintro ⟨h, h2⟩ ⟨x, x0, x1, hx⟩
            by_cases g : 7 * x + i = p
            · exact h2 (by omega)
            · exact h ⟨x, x0, by omega, hx⟩
          · intro h
            refine ⟨fun ⟨x, x0, x1, hx⟩ => h ⟨x, x0, by omega, hx⟩, fun g => h ⟨p / 7, ⟨by omega, hbp.2.1⟩, by omega, ⟨by omega, hbp.2.1⟩, ⟨i0, i1⟩, ?_⟩⟩
            rw [show 7 * (p / 7) + i = p by omega]
            exact e
    · intro k k0 k1 ihk D σ' hD hf p1 p2 p3 hl hall
      have hC' := isc σ' hf
      refine r_Mod_lockWinners_25 hY ⟨fun g => absurd g (by omega), fun _ => ?_⟩
      -- the first of those that are not done
      refine upto (P := fun p => ∀ f, ((f = -1 ∧ ∀ r, r < p → bp q r → bz D r = 1) ∨ (bp q f ∧ f < p ∧ bz D f ≠ 1 ∧ ∀ r, r < p → bp q r → bz D r ≠ 1 → key q (f / 7) (f % 7) ≤ key q (r / 7) (r % 7))) → G_Mod_lockWinners_37 1 L σ' (fun z σ' => isM z (qN q) (W8 q) ∧ ∀ k j, k ≠ 115 → σ' k j = σ k j) NT D k f p) (a := 0) (n := 49) ?_ ?_ 0 (by omega) (by omega) (-1) (Or.inl ⟨rfl, fun r hr hb => absurd hb.1.1 (by omega)⟩)
      · intro f hf'
        rcases hf' with ⟨rfl, h⟩ | ⟨h1, h2, h3, h4⟩
        · refine r_Mod_lockWinners_37 hY ⟨fun _ => ⟨fun _ => ⟨by omega, ihk D σ' hD hf p1 p2 p3 hl (Or.inl fun p hp => h p hp.1.2 hp)⟩, fun g => absurd g (by omega)⟩, fun g => absurd g (by omega)⟩
        · have hq7 := q7 h1.1.1 h1.1.2
          have h10 := h1.1
          refine r_Mod_lockWinners_37 hY ⟨fun _ => ⟨fun g => absurd g (by omega), fun _ => ?_⟩, fun g => absurd g (by omega)⟩
          rw [hq7.1, hq7.2]
          have r1 : 0 ≤ f / 7 ∧ f / 7 < qN q := ⟨by omega, h1.2.1⟩
          have r2 : 0 ≤ f % 7 ∧ f % 7 < qN q := ⟨by omega, h1.2.2.1⟩
          have ef : 7 * (f / 7) + f % 7 = f := by omega
          have hne : f / 7 ≠ f % 7 := fun w => by have := h1.2.2.2; rw [w] at this; unfold bts at this; omega
          have hor := lor_in hD.1 hD.2 h1.1.1 h1.1.2
          have add := hl.add hne (by
            rintro x y ⟨a, b, c⟩
            have := p2 (7 * x + y) f (by omega) (by omega) c h1 h3
            rw [show (7 * x + y) / 7 = x by omega, show (7 * x + y) % 7 = y by omega] at this
            exact this)
          have eD : (fun x y => ((0 ≤ x ∧ x < qN q) ∧ (0 ≤ y ∧ y < qN q) ∧ bz D (7 * x + y) = 1) ∨ x = f / 7 ∧ y = f % 7) = fun x y => (0 ≤ x ∧ x < qN q) ∧ (0 ≤ y ∧ y < qN q) ∧ bz (oL D (hL 1 f)) (7 * x + y) = 1 := by
            funext x y
            apply propext
            constructor
            · rintro (⟨a, b, c⟩ | ⟨rfl, rfl⟩)
              · exact ⟨a, b, (hor.2.2 _ (by omega)).mpr (Or.inl c)⟩
              · exact ⟨r1, r2, (hor.2.2 _ (by omega)).mpr (Or.inr ef)⟩
            · rintro ⟨a, b, c⟩
              rcases (hor.2.2 _ (by omega)).mp c with e | e
              · exact Or.inl ⟨a, b, e⟩
              · exact Or.inr ⟨by omega, by omega⟩
          rw [eD] at add
          -- the next state of the loop
          have nxt : ∀ v, (v = 0 ∨ v = 1) → lkS q (lkE q (upd2 σ' 115 f v)) (fun x y => (0 ≤ x ∧ x < qN q) ∧ (0 ≤ y ∧ y < qN q) ∧ bz (oL D (hL 1 f)) (7 * x + y) = 1) → G_Mod_lockWinners_25 1 L (upd2 σ' 115 f v) (fun z σ' => isM z (qN q) (W8 q) ∧ ∀ k j, k ≠ 115 → σ' k j = σ k j) NT (oL D (hL 1 f)) (k + 1) := by
            intro v hv hl2
            refine ihk _ _ ⟨hor.1, hor.2.1⟩ (fun k j hk => by rw [u_ne hk]; exact hf k j hk) (fun p hp p0 p1' => ?_) (fun p r p0 p1' hp hr hnr => ?_) (fun p p0 p1' hp => ?_) hl2 ?_
            · rcases (hor.2.2 p p0).mp hp with e | e
              · exact p1 p e p0 p1'
              · rw [e]; exact h1
            · have hnr1 : bz D r ≠ 1 := fun w => hnr ((hor.2.2 r hr.1.1).mpr (Or.inl w))
              have hnr2 : r ≠ f := fun w => hnr ((hor.2.2 r hr.1.1).mpr (Or.inr w))
              rcases (hor.2.2 p p0).mp hp with e | e
              · exact p2 p r p0 p1' e hr hnr1
              · rw [e]
                have hle := h4 r hr.1.2 hr hnr1
                have hne2 : key q (f / 7) (f % 7) ≠ key q (r / 7) (r % 7) := fun w => by
                  have hr0 := hr.1
                  have := key_inj hq r1 r2 (c := r / 7) (d := r % 7) ⟨by omega, hr.2.1⟩ ⟨by omega, hr.2.2.1⟩ w
                  omega
                omega
            · have hp1 : bz D p ≠ 1 := fun w => hp ((hor.2.2 p p0).mpr (Or.inl w))
              have hp2 : p ≠ f := fun w => hp ((hor.2.2 p p0).mpr (Or.inr w))
              rw [u_ne2 hp2]; exact p3 p p0 p1' hp1
            · rcases hall with h | h
              · exact absurd (h f h1) h3
              · refine Or.inr ?_
                have := S_chg (f := bz D) (g := bz (oL D (hL 1 f))) (n := 49) (t := f) h1.1.1 (fun i i0 i1 hi => by
                  have e := hor.2.2 i i0
                  rcases bz01 D i with g | g
                  · rcases bz01 (oL D (hL 1 f)) i with g2 | g2
                    · rw [g, g2]
                    · exact absurd (e.mp g2) (by omega)
                  · rw [g, e.mpr (Or.inl g)]) 49 (by omega) (by omega)
                rw [this, if_pos h1.1.2, (hor.2.2 f h1.1.1).mpr (Or.inr rfl)]
                rcases bz01 D f with g | g
                · omega
                · exact absurd g h3
          have eE : ∀ v, ∀ x y, lkE q (upd2 σ' 115 f v) x y ↔ (lkE q σ' x y ∧ ¬ (x = f / 7 ∧ y = f % 7)) ∨ (v ≠ 0 ∧ x = f / 7 ∧ y = f % 7) := by
            intro v x y
            unfold lkE
            rw [u_if]
            constructor
            · rintro ⟨a, b, c⟩
              by_cases e : 7 * x + y = f
              · rw [if_pos e] at c; exact Or.inr ⟨c, by omega, by omega⟩
              · rw [if_neg e] at c; exact Or.inl ⟨⟨a, b, c⟩, by omega⟩
            · rintro (⟨⟨a, b, c⟩, w⟩ | ⟨c, rfl, rfl⟩)
              · exact ⟨a, b, by rw [if_neg (by omega)]; exact c⟩
              · exact ⟨r1, r2, by rw [if_pos ef]; exact c⟩
          have noE : ¬ lkE q σ' (f / 7) (f % 7) := fun w => w.2.2 (by rw [ef]; exact p3 f h1.1.1 h1.1.2 h3)
          have e0 : lkE q (upd2 σ' 115 f 0) = lkE q σ' := by
            funext x y
            apply propext
            rw [eE]
            constructor
            · rintro (w | w)
              · exact w.1
              · exact absurd rfl w.1
            · exact fun w => Or.inl ⟨w, fun e => noE (by rw [← e.1, ← e.2]; exact w)⟩
          have e1 : lkE q (upd2 σ' 115 f 1) = fun x y => lkE q σ' x y ∨ x = f / 7 ∧ y = f % 7 := by
            funext x y
            apply propext
            rw [eE]
            constructor
            · rintro (w | w)
              · exact Or.inl w.1
              · exact Or.inr w.2
            · rintro (w | w)
              · exact Or.inl ⟨w, fun e => noE (by rw [← e.1, ← e.2]; exact w)⟩
              · exact Or.inr ⟨by omega, w⟩
          refine (m_leads hY hq hC'.1 r2 r1).to (by omega) ⟨fun g => ⟨by omega, by omega, nxt 0 (Or.inl rfl) ?_⟩, fun g => ⟨by omega, by omega, nxt 1 (Or.inr rfl) ?_⟩⟩
          · rw [e0]
            exact add.1 ((bI_t g).resolve_left hne)
          · rw [e1]
            exact add.2 fun w => bI_f g (Or.inr w)
      · intro p p0 p1' ihp f hf'
        have hq7 := q7 p0 p1'
        -- not one of those
        have skip : ¬ (bp q p ∧ bz D p ≠ 1) → G_Mod_lockWinners_114 1 L σ' (fun z σ' => isM z (qN q) (W8 q) ∧ ∀ k j, k ≠ 115 → σ' k j = σ k j) NT D k f p 0 := by
          intro hno
          refine r_Mod_lockWinners_114 hY ⟨fun _ => ⟨by omega, ihp f ?_⟩, fun w => absurd rfl w⟩
          rcases hf' with ⟨h1, h2⟩ | ⟨h1, h2, h3, h4⟩
          · refine Or.inl ⟨h1, fun r hr hb => ?_⟩
            by_cases e : r = p
            · rw [e] at hb ⊢
              exact Classical.byContradiction fun w => hno ⟨hb, w⟩
            · exact h2 r (by omega) hb
          · refine Or.inr ⟨h1, by omega, h3, fun r hr hb hnb => ?_⟩
            by_cases e : r = p
            · rw [e] at hb hnb; exact absurd ⟨hb, hnb⟩ hno
            · exact h4 r (by omega) hb hnb
        have take : bp q p → bz D p ≠ 1 → G_Mod_lockWinners_114 1 L σ' (fun z σ' => isM z (qN q) (W8 q) ∧ ∀ k j, k ≠ 115 → σ' k j = σ k j) NT D k f p 1 := by
          intro hb hnb
          refine r_Mod_lockWinners_114 hY ⟨fun w => absurd w (by decide), fun _ => ⟨fun g => ⟨by omega, ihp p (Or.inr ⟨hb, by omega, hnb, fun r hr hbr hnr => ?_⟩)⟩, fun g => ?_⟩⟩
          · rcases hf' with ⟨h1, h2⟩ | ⟨h1, -⟩
            · by_cases e : r = p
              · rw [e]; exact Int.le_refl _
              · exact absurd (h2 r (by omega) hbr) hnr
            · exact absurd h1.1.1 (by omega)
          · rcases hf' with ⟨h1, -⟩ | ⟨h1, h2, h3, h4⟩
            · omega
            · have hqf := q7 h1.1.1 h1.1.2
              rw [hq7.1, hq7.2, hqf.1, hqf.2]
              have hb0 := hb.1
              have h10 := h1.1
              refine (m_sooner hY hq hC'.1 hC'.2 ⟨by omega, hb.2.1⟩ ⟨by omega, hb.2.2.1⟩ ⟨by omega, h1.2.1⟩ ⟨by omega, h1.2.2.1⟩).to (by omega) ⟨fun g2 => ⟨by omega, ihp f (Or.inr ⟨h1, by omega, h3, fun r hr hbr hnr => ?_⟩)⟩, fun g2 => ⟨by omega, ihp p (Or.inr ⟨hb, by omega, hnb, fun r hr hbr hnr => ?_⟩)⟩⟩
              · by_cases e : r = p
                · have := bI_f g2; rw [e]; omega
                · exact h4 r (by omega) hbr hnr
              · by_cases e : r = p
                · rw [e]; exact Int.le_refl _
                · have := h4 r (by omega) hbr hnr
                  have := bI_t g2
                  omega
        refine r_Mod_lockWinners_37 hY ⟨fun g => absurd g (by omega), fun _ => ?_⟩
        rw [hC'.1.1, hq7.1, hq7.2, lbit hD.1 (by omega) p0 (by omega)]
        refine ⟨fun g => skip fun w => by have := w.1.2.1; omega, fun g => ⟨fun g2 => skip fun w => by have := w.1.2.2.1; omega, fun g2 => ⟨fun g3 => skip fun w => ?_, fun g3 => ?_⟩⟩⟩
        · have := w.1.2.2.2
          rw [g3] at this
          unfold bts at this
          omega
        · refine (m_beats hY hq hC'.2 ⟨by omega, g⟩ ⟨by omega, g2⟩).to (by omega) ⟨fun g4 => skip fun w => bI_f g4 w.1.2.2.2, fun g4 => ⟨fun g5 => skip fun w => w.2 (by rcases bz01 D p with v | v <;> omega), fun g5 => take ⟨⟨p0, p1'⟩, g, g2, bI_t g4⟩ (by omega)⟩⟩
  refine upto (P := fun k => ∀ σ', (∀ k j, k ≠ 115 → σ' k j = σ k j) → (∀ j, 0 ≤ j → j < k → σ' 115 j = 0) → G_Mod_lockWinners_2 1 L σ' (fun z σ' => isM z (qN q) (W8 q) ∧ ∀ k j, k ≠ 115 → σ' k j = σ k j) NT k) (a := 0) (n := 49) ?_ ?_ 0 (by omega) (by omega) σ (fun _ _ _ => rfl) (fun j j0 j1 => absurd j1 (by omega))
  · intro σ' hf h
    exact r_Mod_lockWinners_2 hY ⟨fun _ => main σ' hf h, fun g => absurd g (by omega)⟩
  · intro k k0 k1 ih σ' hf h
    refine r_Mod_lockWinners_2 hY ⟨fun g => absurd g (by omega), fun _ => ⟨by omega, by omega, ih _ (fun k j hk => by rw [u_ne hk]; exact hf k j hk) fun j j0 j1 => ?_⟩⟩
    rw [u_if]
    split
    · rfl
    · exact h j j0 (by omega)
end
