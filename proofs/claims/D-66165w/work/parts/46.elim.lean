/-! THE ELIMINATION's METHODS -/
section
variable {L : List Sh} {σ : Mm} {p : Int} {q : Pf}
theorem c_lowest (hY : Lay L) (hp : isPr p) (hq : okP q) (hP : isP σ p q) {s : Int} (hs : nz s (qN q)) : Ex 1 y_Elim_lowest [vr p, vi s] L σ (PI L (fun z σ' => isM z (qN q) (lw q s) ∧ σ' = σ) NT) := by
  have hn := hq.1
  refine e_Elim_lowest hY hp ?_
  refine upto (P := fun c => ∀ m z, (isM z c (fun i => bz s i = 1 ∧ fs q s i = m) ∧ (∀ i, 0 ≤ i → i < c → bz s i = 1 → m ≤ fs q s i) ∧ ((∃ i, 0 ≤ i ∧ i < c ∧ bz s i = 1 ∧ fs q s i = m) ∨ (m = 2147483647 ∧ ∀ i, 0 ≤ i → i < c → bz s i ≠ 1))) → G_Elim_lowest_8 0 L σ (fun z σ' => isM z (qN q) (lw q s) ∧ σ' = σ) NT p s m z c) (a := 0) (n := qN q) ?_ ?_ 0 (by omega) (by omega) _ _ ⟨isM.zero _, fun i i0 i1 => absurd i1 (by omega), Or.inr ⟨rfl, fun i i0 i1 => absurd i1 (by omega)⟩⟩
  · rintro m z ⟨h1, h2, h3⟩
    refine r_Elim_lowest_8 hY hp ⟨fun _ => ⟨h1.ext fun i i0 i1 _ => ?_, rfl⟩, fun g => absurd g (by rw [hP.1]; omega)⟩
    constructor
    · rintro ⟨a, b⟩
      exact ⟨a, fun j j0 j1 hj => by have := h2 j j0 j1 hj; omega⟩
    · rintro ⟨a, b⟩
      refine ⟨a, ?_⟩
      rcases h3 with ⟨j, j0, j1, j2, j3⟩ | ⟨-, h⟩
      · have e1 := b j j0 j1 j2
        have e2 := h2 i i0 i1 a
        omega
      · exact absurd a (h i i0 i1)
  · rintro c c0 c1 ih m z ⟨h1, h2, h3⟩
    have eb := bit_eq hs.1 hs.2.1 c0 (show c < 7 by omega)
    have hfb := fs_bd' hq s c
    refine r_Elim_lowest_8 hY hp ⟨fun g => absurd g (by rw [hP.1]; omega), fun _ => ⟨fun g => ?_, fun g => ⟨by omega, ih m z ⟨h1.skip ?_, fun i i0 i1 hi => ?_, ?_⟩⟩⟩⟩
    · rw [eb] at g
      have hc : bz s c = 1 := by rcases bz01 s c with w | w <;> omega
      refine (c_firsts hY hp hq hP hs).to (by omega) ⟨fun e => ⟨fun e2 => ⟨by omega, ih m z ⟨h1.skip (by omega), fun i i0 i1 hi => ?_, ?_⟩⟩, fun e2 => ⟨by omega, ih _ _ ⟨?_, fun i i0 i1 hi => ?_, Or.inl ⟨c, c0, by omega, hc, rfl⟩⟩⟩⟩, fun e => ⟨fun e2 => absurd e2 (by omega), fun e2 => ⟨by omega, ih _ _ ⟨?_, fun i i0 i1 hi => ?_, Or.inl ⟨c, c0, by omega, hc, rfl⟩⟩⟩⟩⟩
      · by_cases w : i = c
        · rw [w]; omega
        · exact h2 i i0 (by omega) hi
      · rcases h3 with ⟨j, j0, j1, j2, j3⟩ | ⟨h, -⟩
        · exact Or.inl ⟨j, j0, by omega, j2, j3⟩
        · omega
      · have em : fs q s c = m := by omega
        rw [em]
        exact h1.or c0 (by omega) ⟨hc, em⟩
      · by_cases w : i = c
        · rw [w]; omega
        · have := h2 i i0 (by omega) hi; omega
      · rw [or0 c0 (by omega)]
        refine isM.one c0 (by omega) fun i i0 i1 => ⟨fun w => ?_, fun w => by rw [w]; exact ⟨hc, rfl⟩⟩
        by_cases v : i = c
        · exact v
        · have := h2 i i0 (by omega) w.1; omega
      · by_cases w : i = c
        · rw [w]; omega
        · have := h2 i i0 (by omega) hi; omega
    · rw [eb] at g
      omega
    · rw [eb] at g
      by_cases w : i = c
      · rw [w] at hi; omega
      · exact h2 i i0 (by omega) hi
    · rw [eb] at g
      rcases h3 with ⟨j, j0, j1, j2, j3⟩ | ⟨h, h'⟩
      · exact Or.inl ⟨j, j0, by omega, j2, j3⟩
      · refine Or.inr ⟨h, fun i i0 i1 => ?_⟩
        by_cases w : i = c
        · rw [w]; omega
        · exact h' i i0 (by omega)
/-- the search's own cells -/
def gdE (σ : Mm) : Prop := (∀ x, 0 ≤ x → x < 128 → σ 2 x = 0 ∨ σ 2 x = 1) ∧ σ 1 1 = S (σ 2) 128
def frE (σ σ' : Mm) : Prop := ∀ k j, k ≠ 2 → ¬ (k = 1 ∧ j = 1) → σ' k j = σ k j
def nwE (σ σ' : Mm) (x : Int) : Prop := 0 ≤ x ∧ x < 128 ∧ σ 2 x ≠ 1 ∧ σ' 2 x = 1
theorem frE.fr {σ σ' : Mm} (h : frE σ σ') : Fr σ σ' := fun k j hk => h k j (by rintro rfl; exact hk (by unfold scr; omega)) (by rintro ⟨rfl, -⟩; exact hk (by unfold scr; omega))
def LfP (q : Pf) (σ : Mm) (s z : Int) (σ' : Mm) : Prop := frE σ σ' ∧ gdE σ' ∧ (∀ x, 0 ≤ x → x < 128 → σ 2 x = 1 → σ' 2 x = 1) ∧ σ' 2 s = 1 ∧ (∀ x, nwE σ σ' x → Dn q s x) ∧ (∀ x, nwE σ σ' x → ∀ y, stp q x y → σ' 2 y = 1) ∧ isM z (qN q) (fun c => nwE σ σ' (hI 1 c))
theorem gdE.cnt {σ : Mm} (h : gdE σ) : 0 ≤ σ 1 1 ∧ σ 1 1 ≤ 128 := by
  have := S_bd (f := σ 2) (n := 128) (B := 1) (fun i i0 i1 => by rcases h.1 i i0 i1 with g | g <;> omega) 128 (by omega) (by omega)
  rw [h.2]
  omega
theorem mark {σ : Mm} (h : gdE σ) {s : Int} (s0 : 0 ≤ s) (s1 : s < 128) (hs : σ 2 s = 0) : gdE (upd2 (upd2 σ 2 s 1) 1 1 ((upd2 σ 2 s 1) 1 1 + 1)) ∧ frE σ (upd2 (upd2 σ 2 s 1) 1 1 ((upd2 σ 2 s 1) 1 1 + 1)) ∧ ∀ x, (upd2 (upd2 σ 2 s 1) 1 1 ((upd2 σ 2 s 1) 1 1 + 1)) 2 x = if x = s then 1 else σ 2 x := by
  have e : ∀ x, (upd2 (upd2 σ 2 s 1) 1 1 ((upd2 σ 2 s 1) 1 1 + 1)) 2 x = if x = s then 1 else σ 2 x := fun x => by rw [u_ne (by omega), u_if]
  refine ⟨⟨fun x x0 x1 => ?_, ?_⟩, fun k j h1 h2 => ?_, e⟩
  · rw [e]
    split
    · exact Or.inr rfl
    · exact h.1 x x0 x1
  · have hb : (upd2 (upd2 σ 2 s 1) 1 1 ((upd2 σ 2 s 1) 1 1 + 1)) 1 1 = S (σ 2) 128 + 1 := by rw [u_eq, u_ne (by omega), h.2]
    rw [hb]
    have := S_chg (f := σ 2) (g := (upd2 (upd2 σ 2 s 1) 1 1 ((upd2 σ 2 s 1) 1 1 + 1)) 2) (n := 128) (t := s) s0 (fun i _ _ hi => by rw [e, if_neg hi]) 128 (by omega) (by omega)
    rw [this, if_pos s1, e, if_pos rfl, hs]
    omega
  · by_cases g : k = 1
    · rw [g, u_ne2 (fun e => h2 ⟨g, e⟩), u_ne (by omega)]
    · rw [u_ne g, u_ne h1]
theorem c_left (hY : Lay L) (hp : isPr p) (hq : okP q) : ∀ (m : Nat) (s : Int) (σ : Mm), isP σ p q → sub s (qN q) → nz s (qN q) → pc s ≤ m → 1 ≤ m → gdE σ → Ex (m + 1) y_Elim_left [vr 1, vr p, vi s] L σ (PI L (fun z σ' => LfP q σ s z σ') NT) := by
  have hn := hq.1
  intro m
  induction m with
  | zero => intro s σ _ _ _ _ h; omega
  | succ m ihm =>
    intro s σ hP hsub hnz hpc _ hg
    have hcn := hg.cnt
    have s0 := hsub.1
    have s1 := hsub.2.1
    refine e_Elim_left hY hp ⟨by omega, fun h0 => ⟨by omega, ?_, by omega, fun hns => ?_, fun hsi => ?_⟩, fun h0 => ?_⟩
    · rw [u_ne (by omega)]; omega
    · obtain ⟨g1, f1, e1⟩ := mark hg s0 s1 h0
      revert g1 f1 e1
      generalize upd2 (upd2 σ 2 s 1) 1 1 ((upd2 σ 2 s 1) 1 1 + 1) = σ₁
      intro g1 f1 e1
      refine (Ex.toI (c_lowest hY hp hq (hP.fr hq hp f1.fr) hnz) ?_ (fun _ _ h => h)).deep (by omega)
      rintro low σ' ⟨hlow, rfl⟩
      refine upto (P := fun c => ∀ z σ', (frE σ σ' ∧ gdE σ' ∧ (∀ x, 0 ≤ x → x < 128 → σ 2 x = 1 → σ' 2 x = 1) ∧ σ' 2 s = 1 ∧ (∀ x, nwE σ σ' x → Dn q s x) ∧ (∀ x, nwE σ σ' x → x ≠ s → ∀ y, stp q x y → σ' 2 y = 1) ∧ (∀ i, 0 ≤ i → i < c → lw q s i → σ' 2 (aI s (xI (hI 1 i) (-1))) = 1) ∧ isM z (qN q) (fun i => nwE σ σ' (hI 1 i))) → G_Elim_left_50 (m + 1) L σ' (fun z σ' => LfP q σ s z σ') NT p s low z c) (a := 0) (n := qN q) ?_ ?_ 0 (by omega) (by omega) 0 σ' ⟨f1, g1, fun x x0 x1 hx => ?_, ?_, fun x hx => ?_, fun x hx hne => ?_, fun i i0 i1 => absurd i1 (by omega), isM.empty fun i i0 i1 hi => ?_⟩
      · rintro z σ' ⟨a1, a2, a3, a4, a5, a6, a7, a8⟩
        have hP' := hP.fr hq hp a1.fr
        refine r_Elim_left_50 hY hp ⟨fun _ => ⟨a1, a2, a3, a4, a5, fun x hx y hy => ?_, a8⟩, fun g => absurd g (by rw [hP'.1]; omega)⟩
        by_cases e : x = s
        · obtain ⟨-, c, c0, c1, hl, rfl⟩ := hy
          rw [e] at hl ⊢
          exact a7 c c0 c1 hl
        · exact a6 x hx e y hy
      · rintro c c0 c1 ihc z σ' ⟨a1, a2, a3, a4, a5, a6, a7, a8⟩
        have hP' := hP.fr hq hp a1.fr
        have hb := hlow.bit c0 c1 hn.2
        refine r_Elim_left_50 hY hp ⟨fun g => absurd g (by rw [hP'.1]; omega), fun _ => ⟨fun g => ⟨by omega, ihc z σ' ⟨a1, a2, a3, a4, a5, a6, fun i i0 i1 hi => ?_, a8⟩⟩, fun g => ?_⟩⟩
        · by_cases e : i = c
          · rw [e] at hi; exact absurd (hb.1.mpr hi) g
          · exact a7 i i0 (by omega) hi
        · have hl := hb.1.mp g
          have hpc' := pc_clr s0 s1 c0 (show c < 7 by omega) hl.1
          have hnz' := other_of hsub hn.2 hns c0 c1
          have hsub' := clr_sub hsub c0 (show c < 7 by omega)
          have hp1 := pc_pos hn.2 hnz'
          refine Ex.toI (ihm _ σ' hP' hsub' hnz' (by omega) (by omega) a2) ?_ (fun _ _ h => h)
          rintro z2 σ'' ⟨b1, b2, b3, b4, b5, b6, b7⟩
          have spl : ∀ x, nwE σ σ'' x ↔ nwE σ σ' x ∨ nwE σ' σ'' x := by
            intro x
            constructor
            · rintro ⟨x0, x1, x2, x3⟩
              by_cases e : σ' 2 x = 1
              · exact Or.inl ⟨x0, x1, x2, e⟩
              · exact Or.inr ⟨x0, x1, e, x3⟩
            · rintro (⟨x0, x1, x2, x3⟩ | ⟨x0, x1, x2, x3⟩)
              · exact ⟨x0, x1, x2, b3 x x0 x1 x3⟩
              · exact ⟨x0, x1, fun e => x2 (a3 x x0 x1 e), x3⟩
          refine ⟨by omega, ihc _ σ'' ⟨fun k j h1 h2 => (b1 k j h1 h2).trans (a1 k j h1 h2), b2, fun x x0 x1 hx => b3 x x0 x1 (a3 x x0 x1 hx), b3 s s0 s1 a4, fun x hx => ?_, fun x hx hne y hy => ?_, fun i i0 i1 hi => ?_, (a8.union b7).ext fun i _ _ _ => (spl _).symm⟩⟩
          · rcases (spl x).mp hx with h | h
            · exact a5 x h
            · exact Dn.trans ((Dn.refl q s).step ⟨hns, c, c0, c1, hl, rfl⟩) (b5 x h)
          · rcases (spl x).mp hx with h | h
            · have e := a6 x h hne y hy
              have hk := (Dn.ok hq ((a5 x h).step hy) hsub hnz).1
              exact b3 y hk.1 hk.2.1 e
            · exact b6 x h y hy
          · by_cases e : i = c
            · rw [e]; exact b4
            · have e2 := a7 i i0 (by omega) hi
              have hk := clr_sub hsub i0 (show i < 7 by omega)
              exact b3 _ hk.1 hk.2.1 e2
      · rw [e1]
        split
        · rfl
        · exact hx
      · rw [e1, if_pos rfl]
      · obtain ⟨x0, x1, x2, x3⟩ := hx
        rw [e1] at x3
        by_cases e : x = s
        · rw [e]; exact Dn.refl q s
        · rw [if_neg e] at x3; exact absurd x3 x2
      · obtain ⟨x0, x1, x2, x3⟩ := hx
        rw [e1, if_neg hne] at x3
        exact absurd x3 x2
      · obtain ⟨x0, x1, x2, x3⟩ := hi
        rw [e1] at x3
        by_cases e : hI 1 i = s
        · exact hns (by rw [← e]; exact single_is i0 (by omega))
        · rw [if_neg e] at x3; exact x2 x3
    · obtain ⟨g1, f1, e1⟩ := mark hg s0 s1 h0
      revert g1 f1 e1
      generalize upd2 (upd2 σ 2 s 1) 1 1 ((upd2 σ 2 s 1) 1 1 + 1) = σ₁
      intro g1 f1 e1
      obtain ⟨c, c0, c7, rfl⟩ := single_of (pos_of hnz) s1 hsi
      have hbc : bz (hI 1 c) c = 1 := ((isM.sing c0 c7 (Int.le_refl 7)).2.2 c c0 c7).mpr ⟨c7, rfl⟩
      have c1 := hsub.2.2 c c0 c7 hbc
      have nw1 : ∀ x, nwE σ σ₁ x ↔ x = hI 1 c := by
        intro x
        constructor
        · rintro ⟨x0, x1, x2, x3⟩
          rw [e1] at x3
          by_cases e : x = hI 1 c
          · exact e
          · rw [if_neg e] at x3; exact absurd x3 x2
        · rintro rfl
          exact ⟨s0, s1, by omega, by rw [e1, if_pos rfl]⟩
      refine ⟨f1, g1, fun x x0 x1 hx => ?_, by rw [e1, if_pos rfl], fun x hx => ?_, fun x hx y hy => ?_, (isM.sing c0 c1 hn.2).ext fun i i0 i1 i7 => ?_⟩
      · rw [e1]
        split
        · rfl
        · exact hx
      · rw [(nw1 x).mp hx]; exact Dn.refl q _
      · rw [(nw1 x).mp hx] at hy
        exact absurd hsi hy.1
      · rw [nw1]
        exact ⟨fun e => by rw [e], fun e => one_inj i0 i7 c0 c7 e⟩
    · have h1 : σ 2 s = 1 := by rcases hg.1 s s0 s1 with w | w <;> omega
      refine ⟨fun _ _ _ _ => rfl, hg, fun _ _ _ h => h, h1, fun x hx => absurd hx.2.2.2 hx.2.2.1, fun x hx => absurd hx.2.2.2 hx.2.2.1, isM.empty fun i _ _ hi => hi.2.2.1 hi.2.2.2⟩
/-- after the search the seen ones are those that can be left -/
def seenE (q : Pf) (σ : Mm) : Prop := (∀ x, 0 ≤ x → x < 128 → (σ 2 x = 1 ↔ Dn q (alq q) x)) ∧ gdE σ
theorem c_win1 (hY : Lay L) (hp : isPr p) (hq : okP q) (hP : isP σ p q) : Ex 9 y_Elim_winners [vr 1, vr p] L σ (PI L (fun z σ' => isM z (qN q) (W4 q) ∧ Fr σ σ' ∧ seenE q σ') NT) := by
  have hn := hq.1
  refine e_Elim_winners hY hp ?_
  refine upto (P := fun x => ∀ σ', ((∀ k j, k ≠ 2 → σ' k j = σ k j) ∧ ∀ j, 0 ≤ j → j < x → σ' 2 j = 0) → G_Elim_winners_2 8 L σ' (fun z σ' => isM z (qN q) (W4 q) ∧ Fr σ σ' ∧ seenE q σ') NT p x) (a := 0) (n := 128) ?_ ?_ 0 (by omega) (by omega) σ ⟨fun _ _ _ => rfl, fun j j0 j1 => absurd j1 (by omega)⟩
  · rintro σ' ⟨h1, h2⟩
    have z2 : ∀ j, 0 ≤ j → j < 128 → (upd2 σ' 1 1 0) 2 j = 0 := fun j j0 j1 => by rw [u_ne (by omega)]; exact h2 j j0 j1
    have g0 : gdE (upd2 σ' 1 1 0) := by
      refine ⟨fun x x0 x1 => Or.inl (z2 x x0 x1), ?_⟩
      rw [u_eq]
      have := S_bd (f := (upd2 σ' 1 1 0) 2) (n := 128) (B := 0) (fun i i0 i1 => by rw [z2 i i0 i1]; omega) 128 (by omega) (by omega)
      omega
    have f0 : frE σ (upd2 σ' 1 1 0) := fun k j k1 k2 => by
      by_cases e : k = 1
      · rw [e, u_ne2 (fun w => k2 ⟨e, w⟩)]; exact h1 1 j (by omega)
      · rw [u_ne e]; exact h1 k j k1
    refine r_Elim_winners_2 hY hp ⟨fun _ => ?_, fun g => absurd g (by omega)⟩
    revert z2 g0 f0
    generalize upd2 σ' 1 1 0 = σ₀
    intro z2 g0 f0
    have hP0 := hP.fr hq hp f0.fr
    refine (c_all hY hp hq hP0).to (by omega) ?_
    refine Ex.toI (c_left hY hp hq 7 (alq q) σ₀ hP0 (al_sub hq) (al_nz hq) (pc_le _) (by omega) g0) ?_ (fun _ _ h => h)
    rintro z σ'' ⟨b1, b2, b3, b4, b5, b6, b7⟩
    have nw : ∀ x, 0 ≤ x → x < 128 → (nwE σ₀ σ'' x ↔ σ'' 2 x = 1) := fun x x0 x1 => ⟨fun h => h.2.2.2, fun h => ⟨x0, x1, by rw [z2 x x0 x1]; omega, h⟩⟩
    have all : ∀ x, Dn q (alq q) x → σ'' 2 x = 1 ∧ Dn q (alq q) x := by
      intro x hx
      refine hx (fun x => σ'' 2 x = 1 ∧ Dn q (alq q) x) ⟨b4, Dn.refl _ _⟩ ?_
      rintro x y ⟨h1, h2⟩ hs
      have hk := (Dn.ok hq h2 (al_sub hq) (al_nz hq)).1
      exact ⟨b6 x ((nw x hk.1 hk.2.1).mpr h1) y hs, h2.step hs⟩
    have iff : ∀ x, 0 ≤ x → x < 128 → (σ'' 2 x = 1 ↔ Dn q (alq q) x) := fun x x0 x1 => ⟨fun h => b5 x ((nw x x0 x1).mpr h), fun h => (all x h).1⟩
    refine ⟨b7.ext fun i i0 i1 i7 => ?_, fun k j hk => ((b1.fr k j hk).trans (f0.fr k j hk)), iff, b2⟩
    have hr := isM.sing i0 i7 (Int.le_refl 7)
    rw [nw _ hr.1 hr.2.1]
    exact iff _ hr.1 hr.2.1
  · rintro x x0 x1 ih σ' ⟨h1, h2⟩
    refine r_Elim_winners_2 hY hp ⟨fun g => absurd g (by omega), fun _ => ⟨by omega, by omega, ih _ ⟨fun k j hk => by rw [u_ne hk]; exact h1 k j hk, fun j j0 j1 => ?_⟩⟩⟩
    rw [u_if]
    split
    · rfl
    · exact h2 j j0 (by omega)
end
