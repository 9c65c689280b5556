/-! THE SCORED RULES -/
/-- the rules' own flags -/
def Fl (σ : Mm) : Prop := σ 15 0 = 1 ∧ σ 16 0 = 0 ∧ σ 17 0 = 1 ∧ σ 20 0 = 0 ∧ σ 21 0 = 1
theorem Fl.fr {σ σ' : Mm} (h : Fl σ) (f : Fr σ σ') : Fl σ' := by
  unfold Fl at h ⊢
  rw [f 15 0 (by unfold scr; omega), f 16 0 (by unfold scr; omega), f 17 0 (by unfold scr; omega), f 20 0 (by unfold scr; omega), f 21 0 (by unfold scr; omega)]
  exact h
section
variable {L : List Sh} {σ : Mm} {p : Int} {q : Pf}
theorem c_sc0 (hY : Lay L) (hp : isPr p) (hq : okP q) (hP : isP σ p q) {c : Int} : IsL 1 y_Firs_score [vr 15, vr p, vi c] L σ (sc0 q c) := by
  refine e_Firs_score hY hp ?_
  refine (c_all hY hp hq hP).to (by omega) ?_
  exact (c_firsts hY hp hq hP (al_nz hq)).to (by omega) ⟨rfl, rfl⟩
theorem c_sc1 (hY : Lay L) (hp : isPr p) (hq : okP q) (hP : isP σ p q) {c : Int} : IsL 0 y_Last_score [vr 16, vr p, vi c] L σ (sc1 q c) := by
  have hn := hq.1
  have hT := hq.2.1
  refine e_Last_score hY hp ?_
  refine upto (P := fun t => G_Last_score_5 0 L σ _ _ p c (S (fun t => if qL q t (qN q - 1) = c then qA q t else 0) t) t) (a := 0) (n := qT q) ?_ ?_ 0 (by omega) (by omega)
  · exact r_Last_score_5 hY hp ⟨fun h => ⟨rfl, rfl⟩, fun h => absurd h (by rw [hP.2.1]; omega)⟩
  · intro t t0 t1 ih
    have hb := sc1_bd hq c t t0 (by omega)
    have ha := hq.2.2.2.1 t t0 t1
    have es := S_s (fun t => if qL q t (qN q - 1) = c then qA q t else 0) t0
    refine r_Last_score_5 hY hp ⟨fun h => absurd h (by rw [hP.2.1]; omega), fun h => ?_⟩
    rw [hP.1, hP.2.2.1 t (qN q - 1) t0 t1 (by omega) (by omega), hP.2.2.2.1 t t0 t1]
    refine ⟨by omega, by omega, by omega, fun h2 => ⟨by omega, ?_⟩, fun h2 => ⟨by omega, by omega, by omega, ?_⟩⟩
    · rw [es, if_neg h2, Int.add_zero] at ih
      exact ih
    · rw [es, if_pos h2] at ih
      exact ih
theorem c_sc2 (hY : Lay L) (hp : isPr p) (hq : okP q) (hP : isP σ p q) {c : Int} (hc : 0 ≤ c ∧ c < qN q) : IsL 1 y_Poin_score [vr 17, vr p, vi c] L σ (sc2 q c) := by
  have hn := hq.1
  have hT := hq.2.1
  have hb := sc2_bd hq hc
  refine e_Poin_score hY hp ?_
  refine upto (P := fun t => G_Poin_score_5 0 L σ _ _ p c (S (fun t => qA q t * qW q (ps (qL q t) c)) t) t) (a := 0) (n := qT q) ?_ ?_ 0 (by omega) (by omega)
  · exact r_Poin_score_5 hY hp ⟨fun h => ⟨rfl, rfl⟩, fun h => absurd h (by rw [hP.2.1]; omega)⟩
  · intro t t0 t1 ih
    have b1 := hb.1 t t0 t1
    have b2 := hb.2 t t0 (by omega)
    have hs := ps_spec hn.2 (hq.2.2.1 t t0 t1) hc.1 hc.2
    have es := S_s (fun t => qA q t * qW q (ps (qL q t) c)) t0
    refine r_Poin_score_5 hY hp ⟨fun h => absurd h (by rw [hP.2.1]; omega), fun h => ⟨by omega, ?_⟩⟩
    refine (c_placeOf hY hp hq hP ⟨t0, t1⟩ hc).to (by omega) ?_
    rw [hP.2.2.2.1 t t0 t1, hP.2.2.2.2.2.2.2 _ hs.1 hs.2.1, ← es]
    refine ⟨by omega, by omega, ?_, by omega, ih⟩
    rw [es]
    omega
theorem c_sc5 (hY : Lay L) (hp : isPr p) (hq : okP q) (hP : isP σ p q) {a : Int} (ha : 0 ≤ a ∧ a < qN q) : IsL 1 y_Defe_score [vr 20, vr p, vi a] L σ (sc5 q a) := by
  have hn := hq.1
  refine e_Defe_score hY hp ?_
  refine upto (P := fun b => G_Defe_score_5 0 L σ _ _ p a (md q a b.toNat) b) (a := 0) (n := qN q) ?_ ?_ 0 (by omega) (by omega)
  · exact r_Defe_score_5 hY hp ⟨fun h => ⟨rfl, rfl⟩, fun h => absurd h (by rw [hP.1]; omega)⟩
  · intro b b0 b1 ih
    rw [md_s q a b0] at ih
    refine r_Defe_score_5 hY hp ⟨fun h => absurd h (by rw [hP.1]; omega), fun h => ?_⟩
    refine (c_beats hY hp hq hP ⟨b0, b1⟩ ha).to (by omega) ?_
    rw [hP.2.2.2.2.1 b a b0 b1 ha.1 ha.2]
    refine ⟨fun h2 => ⟨by omega, ?_⟩, fun h2 => ⟨by omega, by omega, fun h3 => ⟨by omega, ?_⟩, fun h3 => ⟨by omega, by omega, by omega, ?_⟩⟩⟩
    · rw [if_neg (fun e => bI_f h2 e.1)] at ih
      exact ih
    · rw [if_neg (fun e => by have := e.2; omega)] at ih
      exact ih
    · rw [if_pos ⟨bI_t h2, h3⟩] at ih
      exact ih
theorem c_sc6 (hY : Lay L) (hp : isPr p) (hq : okP q) (hP : isP σ p q) {a : Int} (ha : 0 ≤ a ∧ a < qN q) : IsL 1 y_Wins_score [vr 21, vr p, vi a] L σ (sc6 q a) := by
  have hn := hq.1
  refine e_Wins_score hY hp ?_
  refine upto (P := fun b => G_Wins_score_5 0 L σ _ _ p a (S (w6 q a) b) b) (a := 0) (n := qN q) ?_ ?_ 0 (by omega) (by omega)
  · exact r_Wins_score_5 hY hp ⟨fun h => ⟨rfl, rfl⟩, fun h => absurd h (by rw [hP.1]; omega)⟩
  · intro b b0 b1 ih
    rw [S_s (w6 q a) b0] at ih
    have hb := sc6_bd q a b b0
    refine r_Wins_score_5 hY hp ⟨fun h => absurd h (by rw [hP.1]; omega), fun h => ⟨fun h2 => ⟨by omega, ?_⟩, fun h2 => ?_⟩⟩
    · unfold w6 at ih
      rw [if_pos h2, Int.add_zero] at ih
      exact ih
    · refine (c_beats hY hp hq hP ha ⟨b0, b1⟩).to (by omega) ⟨fun h3 => ?_, fun h3 => ⟨by omega, by omega, ?_⟩⟩
      · refine (c_beats hY hp hq hP ⟨b0, b1⟩ ha).to (by omega) ⟨fun h4 => ⟨by omega, by omega, ?_⟩, fun h4 => ⟨by omega, by omega, ?_⟩⟩
        · unfold w6 at ih
          rw [if_neg h2, if_neg (bI_f h3), if_neg (bI_f h4)] at ih
          exact ih
        · unfold w6 at ih
          rw [if_neg h2, if_neg (bI_f h3), if_pos (bI_t h4)] at ih
          exact ih
      · unfold w6 at ih
        rw [if_neg h2, if_pos (bI_t h3)] at ih
        exact ih
theorem c_win15 (hY : Lay L) (hp : isPr p) (hq : okP q) (hP : isP σ p q) (hF : Fl σ) : Ex 2 y_Scor_winners [vr 15, vr p] L σ (PI L (fun z σ' => isM z (qN q) (Wtop (sc0 q) (qN q)) ∧ σ' = σ) NT) := by
  have hn := hq.1
  have hfl := hF.1
  refine e_Scor_winners_15 hY hp ?_
  refine (c_sc0 hY hp hq hP).to (by omega) ?_
  refine upto (P := fun c => ∀ b z, (isM z c (fun i => sc0 q i = b) ∧ (∀ i, 0 ≤ i → i < c → sc0 q i ≤ b) ∧ ∃ i, 0 ≤ i ∧ i < c ∧ sc0 q i = b) → G_Scor_winners_15_13 1 L σ (fun z σ' => isM z (qN q) (Wtop (sc0 q) (qN q)) ∧ σ' = σ) NT p b z c) (a := 1) (n := qN q) ?_ ?_ 1 (by omega) (by omega) _ _ ⟨?_, fun i i0 i1 => ?_, 0, by omega, by omega, rfl⟩
  · rintro b z ⟨h1, h2, i, i0, i1, h3⟩
    refine r_Scor_winners_15_13 hY hp ⟨fun h => ⟨h1.ext fun j j0 j1 _ => ?_, rfl⟩, fun h => absurd h (by rw [hP.1]; omega)⟩
    constructor
    · intro e k k0 k1
      have := h2 k k0 k1
      omega
    · intro e
      have h4 := e i i0 i1
      have h5 := h2 j j0 j1
      omega
  · rintro c c0 c1 ih b z ⟨h1, h2, i, i0, i1, h3⟩
    have c0 : 0 ≤ c := by omega
    refine r_Scor_winners_15_13 hY hp ⟨fun h => absurd h (by rw [hP.1]; omega), fun h => ?_⟩
    refine (c_sc0 hY hp hq hP).to (by omega) ?_
    rw [hfl]
    refine ⟨fun h4 => ⟨fun h5 => ⟨fun h6 => ⟨by omega, ?_⟩, fun h6 => absurd h6 (by omega)⟩, fun h5 => ⟨fun h6 => absurd rfl h6, fun h6 => ⟨by omega, ?_⟩⟩⟩, fun h4 => ⟨by omega, ?_⟩⟩
    · exact ih b z ⟨h1.skip (by omega), fun j j0 j1 => by
        by_cases e : j = c
        · rw [e]; omega
        · exact h2 j j0 (by omega), i, i0, by omega, h3⟩
    · exact ih _ _ ⟨isM.one c0 (by omega) (fun j j0 j1 => ⟨fun e => by
        by_cases g : j = c
        · exact g
        · have := h2 j j0 (by omega)
          omega, fun e => by rw [e]⟩), fun j j0 j1 => by
        by_cases e : j = c
        · rw [e]; omega
        · have := h2 j j0 (by omega)
          omega, c, c0, by omega, rfl⟩
    · exact ih b _ ⟨h1.or c0 (by omega) h4, fun j j0 j1 => by
        by_cases e : j = c
        · rw [e]; omega
        · exact h2 j j0 (by omega), i, i0, by omega, h3⟩
  · have h := isM.one (c := 0) (f := fun i => sc0 q i = sc0 q 0) (by omega) (by omega) (fun i i0 i1 => ⟨fun _ => by omega, fun e => by rw [e]⟩)
    exact h
  · rw [show i = 0 by omega]; exact Int.le_refl _
theorem c_win16 (hY : Lay L) (hp : isPr p) (hq : okP q) (hP : isP σ p q) (hF : Fl σ) : Ex 2 y_Scor_winners [vr 16, vr p] L σ (PI L (fun z σ' => isM z (qN q) (Wlow (sc1 q) (qN q)) ∧ σ' = σ) NT) := by
  have hn := hq.1
  have hfl := hF.2.1
  refine e_Scor_winners_16 hY hp ?_
  refine (c_sc1 hY hp hq hP).to (by omega) ?_
  refine upto (P := fun c => ∀ b z, (isM z c (fun i => sc1 q i = b) ∧ (∀ i, 0 ≤ i → i < c → b ≤ sc1 q i) ∧ ∃ i, 0 ≤ i ∧ i < c ∧ sc1 q i = b) → G_Scor_winners_16_13 1 L σ (fun z σ' => isM z (qN q) (Wlow (sc1 q) (qN q)) ∧ σ' = σ) NT p b z c) (a := 1) (n := qN q) ?_ ?_ 1 (by omega) (by omega) _ _ ⟨?_, fun i i0 i1 => ?_, 0, by omega, by omega, rfl⟩
  · rintro b z ⟨h1, h2, i, i0, i1, h3⟩
    refine r_Scor_winners_16_13 hY hp ⟨fun h => ⟨h1.ext fun j j0 j1 _ => ?_, rfl⟩, fun h => absurd h (by rw [hP.1]; omega)⟩
    constructor
    · intro e k k0 k1
      have := h2 k k0 k1
      omega
    · intro e
      have h4 := e i i0 i1
      have h5 := h2 j j0 j1
      omega
  · rintro c c0 c1 ih b z ⟨h1, h2, i, i0, i1, h3⟩
    have c0 : 0 ≤ c := by omega
    refine r_Scor_winners_16_13 hY hp ⟨fun h => absurd h (by rw [hP.1]; omega), fun h => ?_⟩
    refine (c_sc1 hY hp hq hP).to (by omega) ?_
    rw [hfl]
    refine ⟨fun h4 => ⟨fun h5 => ⟨fun h6 => absurd rfl h6, fun h6 => ⟨by omega, ?_⟩⟩, fun h5 => ⟨fun h6 => ⟨by omega, ?_⟩, fun h6 => absurd h6 (by omega)⟩⟩, fun h4 => ⟨by omega, ?_⟩⟩
    · exact ih _ _ ⟨isM.one c0 (by omega) (fun j j0 j1 => ⟨fun e => by
        by_cases g : j = c
        · exact g
        · have := h2 j j0 (by omega)
          omega, fun e => by rw [e]⟩), fun j j0 j1 => by
        by_cases e : j = c
        · rw [e]; omega
        · have := h2 j j0 (by omega)
          omega, c, c0, by omega, rfl⟩
    · exact ih b z ⟨h1.skip (by omega), fun j j0 j1 => by
        by_cases e : j = c
        · rw [e]; omega
        · exact h2 j j0 (by omega), i, i0, by omega, h3⟩
    · exact ih b _ ⟨h1.or c0 (by omega) h4, fun j j0 j1 => by
        by_cases e : j = c
        · rw [e]; omega
        · exact h2 j j0 (by omega), i, i0, by omega, h3⟩
  · have h := isM.one (c := 0) (f := fun i => sc1 q i = sc1 q 0) (by omega) (by omega) (fun i i0 i1 => ⟨fun _ => by omega, fun e => by rw [e]⟩)
    exact h
  · rw [show i = 0 by omega]; exact Int.le_refl _
theorem c_win17 (hY : Lay L) (hp : isPr p) (hq : okP q) (hP : isP σ p q) (hF : Fl σ) : Ex 2 y_Scor_winners [vr 17, vr p] L σ (PI L (fun z σ' => isM z (qN q) (Wtop (sc2 q) (qN q)) ∧ σ' = σ) NT) := by
  have hn := hq.1
  have hfl := hF.2.2.1
  refine e_Scor_winners_17 hY hp ?_
  refine (c_sc2 hY hp hq hP ⟨(show (0 : Int) ≤ 0 by omega), (show (0 : Int) < qN q by omega)⟩).to (by omega) ?_
  refine upto (P := fun c => ∀ b z, (isM z c (fun i => sc2 q i = b) ∧ (∀ i, 0 ≤ i → i < c → sc2 q i ≤ b) ∧ ∃ i, 0 ≤ i ∧ i < c ∧ sc2 q i = b) → G_Scor_winners_17_13 1 L σ (fun z σ' => isM z (qN q) (Wtop (sc2 q) (qN q)) ∧ σ' = σ) NT p b z c) (a := 1) (n := qN q) ?_ ?_ 1 (by omega) (by omega) _ _ ⟨?_, fun i i0 i1 => ?_, 0, by omega, by omega, rfl⟩
  · rintro b z ⟨h1, h2, i, i0, i1, h3⟩
    refine r_Scor_winners_17_13 hY hp ⟨fun h => ⟨h1.ext fun j j0 j1 _ => ?_, rfl⟩, fun h => absurd h (by rw [hP.1]; omega)⟩
    constructor
    · intro e k k0 k1
      have := h2 k k0 k1
      omega
    · intro e
      have h4 := e i i0 i1
      have h5 := h2 j j0 j1
      omega
  · rintro c c0 c1 ih b z ⟨h1, h2, i, i0, i1, h3⟩
    have c0 : 0 ≤ c := by omega
    refine r_Scor_winners_17_13 hY hp ⟨fun h => absurd h (by rw [hP.1]; omega), fun h => ?_⟩
    refine (c_sc2 hY hp hq hP ⟨c0, c1⟩).to (by omega) ?_
    rw [hfl]
    refine ⟨fun h4 => ⟨fun h5 => ⟨fun h6 => ⟨by omega, ?_⟩, fun h6 => absurd h6 (by omega)⟩, fun h5 => ⟨fun h6 => absurd rfl h6, fun h6 => ⟨by omega, ?_⟩⟩⟩, fun h4 => ⟨by omega, ?_⟩⟩
    · exact ih b z ⟨h1.skip (by omega), fun j j0 j1 => by
        by_cases e : j = c
        · rw [e]; omega
        · exact h2 j j0 (by omega), i, i0, by omega, h3⟩
    · exact ih _ _ ⟨isM.one c0 (by omega) (fun j j0 j1 => ⟨fun e => by
        by_cases g : j = c
        · exact g
        · have := h2 j j0 (by omega)
          omega, fun e => by rw [e]⟩), fun j j0 j1 => by
        by_cases e : j = c
        · rw [e]; omega
        · have := h2 j j0 (by omega)
          omega, c, c0, by omega, rfl⟩
    · exact ih b _ ⟨h1.or c0 (by omega) h4, fun j j0 j1 => by
        by_cases e : j = c
        · rw [e]; omega
        · exact h2 j j0 (by omega), i, i0, by omega, h3⟩
  · have h := isM.one (c := 0) (f := fun i => sc2 q i = sc2 q 0) (by omega) (by omega) (fun i i0 i1 => ⟨fun _ => by omega, fun e => by rw [e]⟩)
    exact h
  · rw [show i = 0 by omega]; exact Int.le_refl _
theorem c_win20 (hY : Lay L) (hp : isPr p) (hq : okP q) (hP : isP σ p q) (hF : Fl σ) : Ex 2 y_Scor_winners [vr 20, vr p] L σ (PI L (fun z σ' => isM z (qN q) (Wlow (sc5 q) (qN q)) ∧ σ' = σ) NT) := by
  have hn := hq.1
  have hfl := hF.2.2.2.1
  refine e_Scor_winners_20 hY hp ?_
  refine (c_sc5 hY hp hq hP ⟨(show (0 : Int) ≤ 0 by omega), (show (0 : Int) < qN q by omega)⟩).to (by omega) ?_
  refine upto (P := fun c => ∀ b z, (isM z c (fun i => sc5 q i = b) ∧ (∀ i, 0 ≤ i → i < c → b ≤ sc5 q i) ∧ ∃ i, 0 ≤ i ∧ i < c ∧ sc5 q i = b) → G_Scor_winners_20_13 1 L σ (fun z σ' => isM z (qN q) (Wlow (sc5 q) (qN q)) ∧ σ' = σ) NT p b z c) (a := 1) (n := qN q) ?_ ?_ 1 (by omega) (by omega) _ _ ⟨?_, fun i i0 i1 => ?_, 0, by omega, by omega, rfl⟩
  · rintro b z ⟨h1, h2, i, i0, i1, h3⟩
    refine r_Scor_winners_20_13 hY hp ⟨fun h => ⟨h1.ext fun j j0 j1 _ => ?_, rfl⟩, fun h => absurd h (by rw [hP.1]; omega)⟩
    constructor
    · intro e k k0 k1
      have := h2 k k0 k1
      omega
    · intro e
      have h4 := e i i0 i1
      have h5 := h2 j j0 j1
      omega
  · rintro c c0 c1 ih b z ⟨h1, h2, i, i0, i1, h3⟩
    have c0 : 0 ≤ c := by omega
    refine r_Scor_winners_20_13 hY hp ⟨fun h => absurd h (by rw [hP.1]; omega), fun h => ?_⟩
    refine (c_sc5 hY hp hq hP ⟨c0, c1⟩).to (by omega) ?_
    rw [hfl]
    refine ⟨fun h4 => ⟨fun h5 => ⟨fun h6 => absurd rfl h6, fun h6 => ⟨by omega, ?_⟩⟩, fun h5 => ⟨fun h6 => ⟨by omega, ?_⟩, fun h6 => absurd h6 (by omega)⟩⟩, fun h4 => ⟨by omega, ?_⟩⟩
    · exact ih _ _ ⟨isM.one c0 (by omega) (fun j j0 j1 => ⟨fun e => by
        by_cases g : j = c
        · exact g
        · have := h2 j j0 (by omega)
          omega, fun e => by rw [e]⟩), fun j j0 j1 => by
        by_cases e : j = c
        · rw [e]; omega
        · have := h2 j j0 (by omega)
          omega, c, c0, by omega, rfl⟩
    · exact ih b z ⟨h1.skip (by omega), fun j j0 j1 => by
        by_cases e : j = c
        · rw [e]; omega
        · exact h2 j j0 (by omega), i, i0, by omega, h3⟩
    · exact ih b _ ⟨h1.or c0 (by omega) h4, fun j j0 j1 => by
        by_cases e : j = c
        · rw [e]; omega
        · exact h2 j j0 (by omega), i, i0, by omega, h3⟩
  · have h := isM.one (c := 0) (f := fun i => sc5 q i = sc5 q 0) (by omega) (by omega) (fun i i0 i1 => ⟨fun _ => by omega, fun e => by rw [e]⟩)
    exact h
  · rw [show i = 0 by omega]; exact Int.le_refl _
theorem c_win21 (hY : Lay L) (hp : isPr p) (hq : okP q) (hP : isP σ p q) (hF : Fl σ) : Ex 2 y_Scor_winners [vr 21, vr p] L σ (PI L (fun z σ' => isM z (qN q) (Wtop (sc6 q) (qN q)) ∧ σ' = σ) NT) := by
  have hn := hq.1
  have hfl := hF.2.2.2.2
  refine e_Scor_winners_21 hY hp ?_
  refine (c_sc6 hY hp hq hP ⟨(show (0 : Int) ≤ 0 by omega), (show (0 : Int) < qN q by omega)⟩).to (by omega) ?_
  refine upto (P := fun c => ∀ b z, (isM z c (fun i => sc6 q i = b) ∧ (∀ i, 0 ≤ i → i < c → sc6 q i ≤ b) ∧ ∃ i, 0 ≤ i ∧ i < c ∧ sc6 q i = b) → G_Scor_winners_21_13 1 L σ (fun z σ' => isM z (qN q) (Wtop (sc6 q) (qN q)) ∧ σ' = σ) NT p b z c) (a := 1) (n := qN q) ?_ ?_ 1 (by omega) (by omega) _ _ ⟨?_, fun i i0 i1 => ?_, 0, by omega, by omega, rfl⟩
  · rintro b z ⟨h1, h2, i, i0, i1, h3⟩
    refine r_Scor_winners_21_13 hY hp ⟨fun h => ⟨h1.ext fun j j0 j1 _ => ?_, rfl⟩, fun h => absurd h (by rw [hP.1]; omega)⟩
    constructor
    · intro e k k0 k1
      have := h2 k k0 k1
      omega
    · intro e
      have h4 := e i i0 i1
      have h5 := h2 j j0 j1
      omega
  · rintro c c0 c1 ih b z ⟨h1, h2, i, i0, i1, h3⟩
    have c0 : 0 ≤ c := by omega
    refine r_Scor_winners_21_13 hY hp ⟨fun h => absurd h (by rw [hP.1]; omega), fun h => ?_⟩
    refine (c_sc6 hY hp hq hP ⟨c0, c1⟩).to (by omega) ?_
    rw [hfl]
    refine ⟨fun h4 => ⟨fun h5 => ⟨fun h6 => ⟨by omega, ?_⟩, fun h6 => absurd h6 (by omega)⟩, fun h5 => ⟨fun h6 => absurd rfl h6, fun h6 => ⟨by omega, ?_⟩⟩⟩, fun h4 => ⟨by omega, ?_⟩⟩
    · exact ih b z ⟨h1.skip (by omega), fun j j0 j1 => by
        by_cases e : j = c
        · rw [e]; omega
        · exact h2 j j0 (by omega), i, i0, by omega, h3⟩
    · exact ih _ _ ⟨isM.one c0 (by omega) (fun j j0 j1 => ⟨fun e => by
        by_cases g : j = c
        · exact g
        · have := h2 j j0 (by omega)
          omega, fun e => by rw [e]⟩), fun j j0 j1 => by
        by_cases e : j = c
        · rw [e]; omega
        · have := h2 j j0 (by omega)
          omega, c, c0, by omega, rfl⟩
    · exact ih b _ ⟨h1.or c0 (by omega) h4, fun j j0 j1 => by
        by_cases e : j = c
        · rw [e]; omega
        · exact h2 j j0 (by omega), i, i0, by omega, h3⟩
  · have h := isM.one (c := 0) (f := fun i => sc6 q i = sc6 q 0) (by omega) (by omega) (fun i i0 i1 => ⟨fun _ => by omega, fun e => by rw [e]⟩)
    exact h
  · rw [show i = 0 by omega]; exact Int.le_refl _
end
