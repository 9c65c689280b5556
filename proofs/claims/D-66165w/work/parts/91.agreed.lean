/-! DISAGREEMENT, AGREED -/
theorem dR_ext {q : Pf} (hq : okP q) {f g : Int → Int} (h : eqn (qN q) f g) {i : Int} (i0 : 0 ≤ i) (i1 : i < qN q) : dR q f i = dR q g i := by
  have hn := hq.1
  unfold dR
  refine S_ext (by omega) fun j j0 j1 => ?_
  rw [h j j0 j1, h i i0 i1]
theorem dD_ext {q : Pf} (hq : okP q) {f g : Int → Int} (h : eqn (qN q) f g) : dD q f = dD q g := by
  have hn := hq.1
  unfold dD
  exact S_ext (by omega) fun i i0 i1 => dR_ext hq h i0 i1
theorem pk_ext {f g : Int → Int} {n : Int} (h0 : 0 ≤ n) (h : eqn n f g) : pk f n = pk g n := by
  unfold pk
  exact S_ext h0 fun k k0 k1 => by rw [h k k0 k1]
theorem eqn.symm {n : Int} {f g : Int → Int} (h : eqn n f g) : eqn n g f := fun i a b => (h i a b).symm
theorem eqn.trans {n : Int} {f g h : Int → Int} (a : eqn n f g) (b : eqn n g h) : eqn n f h := fun i x y => (a i x y).trans (b i x y)
theorem snr_at {q : Pf} {f g : Int → Int} {p : Int} (hp : 0 ≤ p ∧ p < qN q) (h1 : ∀ i, 0 ≤ i → i < p → f i = g i) (h2 : f p ≠ g p) : snr q f g ↔ ps (qI' q) (f p) < ps (qI' q) (g p) := by
  constructor
  · rintro ⟨r, hr, k1, k2, k3⟩
    rcases Int.lt_trichotomy p r with e | e | e
    · exact absurd (k1 p hp.1 e) h2
    · subst e; exact k3
    · exact absurd (h1 r hr.1 e) k2
  · exact fun h => ⟨p, hp, h1, h2, h⟩
def DOpL (y : MethodName) (as : List Vl) (L : List Sh) (σ : Mm) (sp : Sp) (code : Nat → Int) : Prop := Ex 14 y as L σ (PL L (fun z σ' => ∃ s', sp 0 z s' ∧ DI σ' s' ∧ FD σ σ') (fun c σ' => ∃ s', sp (code c) 0 s' ∧ DI σ' s' ∧ FD σ σ' ∧ 1 ≤ code c))
def MOpL (y : MethodName) (as : List Vl) (L : List Sh) (σ : Mm) (sp : Sp) : Prop := Ex 14 y as L σ (PL L (fun z σ' => ∃ k s', sp k z s' ∧ σ' 102 0 = k ∧ MB σ' s' ∧ FM σ σ') NT)
def spDis (s : St) : Sp := fun k z s' => k = 0 ∧ z = lf s.1 (alq s.1) ∧ s' = s
def spAgr (s : St) : Sp := fun k z s' => k = 0 ∧ z = pk (gr s.1) (qN s.1) ∧ s' = s
section
variable {L : List Sh} {σ : Mm} {s : St} {q : Pf}
theorem d_dis (hY : Lay L) (hD : DI σ s) : DOpL y_Desk_disagreement [vr 0] L σ (spDis s) (fun _ => 1) := by
  refine Ex.deep (d := 3) ?_ (by omega)
  refine e_Desk_disagreement hY (Ex.toV (c_find9 hY pr30 hD.1.1 hD.2.1) ?_ (fun _ _ h => h))
  rintro σ₁ ⟨hl, hf⟩
  have D1 := hD.fr hf.fr
  have hs := al_sub hD.1.1
  exact (c_all hY pr30 hD.1.1 D1.2.1).to (by omega) ⟨⟨hs.1, hs.2.1⟩, s, ⟨rfl, hl.lf hD.1.1 hs, rfl⟩, D1, hf.fr.fd⟩
theorem d_agreed (hY : Lay L) (hD : DI σ s) : DOp y_Desk_agreed [vr 0] L σ (spAgr s) (fun _ => 1) := by
  refine Ex.deep (d := 3) ?_ (by omega)
  have hq := hD.1.1
  have hn := hq.1
  have hm := hq.2.2.2.2.1
  refine e_Desk_agreed hY (Ex.toV (c_find9 hY pr30 hq hD.2.1) ?_ (fun _ _ h => h))
  rintro σ₁ ⟨hl, hf⟩
  have D1 := hD.fr hf.fr
  refine (c_all hY pr30 hq D1.2.1).to (by omega) ?_
  refine upto (P := fun k => ∀ σ', DI σ' s → FD σ σ' → isL s.1 (σ' 13) 128 → (∀ i, 0 ≤ i → i < k → σ' 29 i = gr s.1 i) → G_Desk_agreed_21 2 L σ' (fun z σ' => ∃ s', spAgr s 0 z s' ∧ DI σ' s' ∧ FD σ σ') (fun c σ' => ∃ s', spAgr s ((fun _ => 1) c) 0 s' ∧ DI σ' s' ∧ FD σ σ' ∧ 1 ≤ (fun _ => (1 : Int)) c) (gz s.1 k.toNat) k) (a := 0) (n := qN s.1) ?_ ?_ 0 (by omega) (by omega) σ₁ D1 hf.fr.fd hl (fun i a b => absurd b (by omega))
  · intro σ' D' f' l' h
    refine r_Desk_agreed_21 hY ⟨fun _ => ?_, fun g => absurd g (by rw [D'.2.1.1]; omega)⟩
    exact (c_pack hY (lk_29 hY) D'.2.1.1 hn (by omega) (f := gr s.1) (fun k k0 k1 => ⟨h k k0 k1, by have := (gr_in hq k0 k1).1; omega⟩)).to (by omega) ⟨s, ⟨rfl, rfl, rfl⟩, D', f'⟩
  · intro k k0 k1 ih σ' D' f' l' h
    have hz := (gz_ok hq k.toNat (by omega)).1
    have hne := gz_ne hq (k := k.toNat) (by omega)
    refine r_Desk_agreed_21 hY ⟨fun g => absurd g (by rw [D'.2.1.1]; omega), fun _ => ?_⟩
    refine Ex.toI (c_heads hY pr30 hq D'.2.1 l' hz) ?_ (fun _ _ h => h)
    rintro m σ₂ ⟨hmm, rfl⟩
    -- the heads by the least
    have hH : isM m (qN s.1) (HD s.1 (gz s.1 k.toNat)) := hmm.ext fun c c0 c1 c7 => by
      have e1 := l'.lf hq (clr_sub hz c0 c7)
      have e2 := l'.lf hq hz
      unfold HD
      constructor
      · exact fun w => ⟨w.1, by rw [← e2, ← w.2]; exact congrArg _ e1.symm⟩
      · exact fun w => ⟨w.1, by rw [e2, ← w.2]; exact congrArg _ e1⟩
    have hnz := nz_of_isM hH hn.2 (HD_ex hq hz hne)
    have ho : fo s.1 m = gr s.1 k := by
      have sp := hd_spec hq hz hne
      have a := ps_spec hn.2 hm sp.1.1 sp.1.2
      show qI' s.1 (fz (qI' s.1) m) = hd s.1 (gz s.1 k.toNat)
      have : fz (qI' s.1) m = ps (qI' s.1) (hd s.1 (gz s.1 k.toNat)) := by
        refine fz_is a.1 (by omega) ?_ fun j j0 j1 w => ?_
        · rw [a.2.2]; exact (hH.2.2 _ sp.1.1 (by omega)).mpr ⟨sp.1.2, sp.2.1⟩
        · have r := hm.1 j j0 (by omega)
          have := sp.2.2 _ r.1 r.2 ((hH.2.2 _ r.1 (by omega)).mp w).2
          rw [ps_at hn.2 hm j0 (by omega)] at this
          omega
      rw [this]; exact a.2.2
    refine (c_first hY pr30 hq D'.2.1 hnz).to (by omega) ?_
    rw [u_eq, ho]
    refine ⟨by omega, by omega, by omega, ?_⟩
    have e : aI (gz s.1 k.toNat) (xI (hI 1 (gr s.1 k)) (-1)) = gz s.1 (k + 1).toNat := by
      rw [show (k + 1).toNat = k.toNat + 1 by omega]
      rfl
    rw [e]
    refine ih _ (D'.off fun x j hx => by rw [u_ne (by omega)]) (f'.trans fun x j hx => by rw [u_ne (by omega)]) (by rw [show (upd2 σ₂ 29 k (gr s.1 k)) 13 = σ₂ 13 from funext fun j => u_ne (by omega)]; exact l') (fun i i0 i1 => ?_)
    rw [u_if]
    by_cases v : i = k
    · rw [if_pos v, v]
    · rw [if_neg v]; exact h i i0 (by omega)
theorem m_disOf (hY : Lay L) (hq : okP q) (h1 : σ 102 1 = qN q) (hT : isT σ q) (hf : Pm (qN q) (σ 118)) : IsL 0 y_Mod_disagreementOf [vr 102] L σ (dD q (σ 118)) := by
  have hn := hq.1
  have bd : ∀ i, 0 ≤ i → i < qN q → ∀ k, 0 ≤ k → k ≤ qN q → 0 ≤ S (fun j => if i < j then pr q (σ 118 j) (σ 118 i) else 0) k ∧ S (fun j => if i < j then pr q (σ 118 j) (σ 118 i) else 0) k ≤ 2100021 * k := fun i i0 i1 => S_bd (n := qN q) fun j _ _ => by
    have := pr_bd hq (σ 118 j) (σ 118 i)
    split <;> omega
  have bd2 : ∀ k, 0 ≤ k → k ≤ qN q → 0 ≤ S (dR q (σ 118)) k ∧ S (dR q (σ 118)) k ≤ 14700147 * k := S_bd (n := qN q) fun i i0 i1 => by
    have := bd i i0 i1 (qN q) (by omega) (Int.le_refl _)
    unfold dR
    omega
  refine e_Mod_disagreementOf hY ?_
  refine upto (P := fun i => G_Mod_disagreementOf_4 0 L σ (fun z σ' => z = dD q (σ 118) ∧ σ' = σ) NT (S (dR q (σ 118)) i) i) (a := 0) (n := qN q) ?_ ?_ 0 (by omega) (by omega)
  · exact r_Mod_disagreementOf_4 hY ⟨fun _ => ⟨rfl, rfl⟩, fun g => absurd g (by omega)⟩
  · intro i i0 i1 ih
    have ri := hf.1 i i0 i1
    have b2 := bd2 i i0 (by omega)
    refine r_Mod_disagreementOf_4 hY ⟨fun g => absurd g (by omega), fun _ => ⟨by omega, ?_⟩⟩
    have main := upto (P := fun j => G_Mod_disagreementOf_17 0 L σ (fun z σ' => z = dD q (σ 118) ∧ σ' = σ) NT (S (dR q (σ 118)) i + S (fun j => if i < j then pr q (σ 118 j) (σ 118 i) else 0) j) i j) (a := i + 1) (n := qN q) ?_ ?_ (i + 1) (by omega) (by omega)
    · have e : S (fun j => if i < j then pr q (σ 118 j) (σ 118 i) else 0) (i + 1) = 0 := by
        rw [S_ext (g := fun _ => 0) (by omega) fun j j0 j1 => by rw [if_neg (by omega)]]
        exact S_zero _ (by omega)
      rw [e, Int.add_zero] at main
      exact main
    · refine r_Mod_disagreementOf_17 hY ⟨fun _ => ⟨by omega, ?_⟩, fun g => absurd g (by omega)⟩
      rw [S_s _ i0] at ih
      exact ih
    · intro j j0 j1 ihj
      have rj := hf.1 j (by omega) j1
      have bj := bd i i0 i1 j (by omega) (by omega)
      have hp := pr_bd hq (σ 118 j) (σ 118 i)
      rw [S_s _ (by omega), if_pos (by omega), ← Int.add_assoc] at ihj
      refine r_Mod_disagreementOf_17 hY ⟨fun g => absurd g (by omega), fun _ => ?_⟩
      rw [hT _ _ rj.1 rj.2 ri.1 ri.2]
      exact ⟨by omega, by omega, by omega, by omega, by omega, by omega, by omega, ihj⟩
theorem m_sooner0 (hY : Lay L) (hq : okP q) (h1 : σ 102 1 = qN q) (hC : isC σ q) (hf : Pm (qN q) (σ 118)) (hg : Pm (qN q) (σ 119)) : IsI 1 y_Mod_sooner_0 [vr 102] L σ (bI (snr q (σ 118) (σ 119))) := by
  have hn := hq.1
  refine e_Mod_sooner_0 hY ?_
  refine upto (P := fun k => (∀ i, 0 ≤ i → i < k → σ 118 i = σ 119 i) → G_Mod_sooner_0_2 0 L σ (fun z σ' => z = bI (snr q (σ 118) (σ 119)) ∧ σ' = σ) NT k) (a := 0) (n := qN q) ?_ ?_ 0 (by omega) (by omega) (fun i a b => absurd b (by omega))
  · intro h
    refine r_Mod_sooner_0_2 hY ⟨fun _ => r_Mod_sooner_0_31 hY ⟨fun _ => ⟨(bI_n ?_).symm, rfl⟩, fun g => absurd g (by omega)⟩, fun g => absurd g (by omega)⟩
    rintro ⟨p, hp, -, k2, -⟩
    exact k2 (h p hp.1 hp.2)
  · intro k k0 k1 ih h
    have rf := hf.1 k k0 k1
    have rg := hg.1 k k0 k1
    refine r_Mod_sooner_0_2 hY ⟨fun g => absurd g (by omega), fun _ => ⟨by omega, by omega, fun e => ?_, fun e => ⟨by omega, ih fun i i0 i1 => ?_⟩⟩⟩
    · have hs := snr_at (q := q) ⟨k0, k1⟩ h e
      refine r_Mod_sooner_0_31 hY ⟨fun g => absurd g (by omega), fun _ => ⟨by omega, ?_⟩⟩
      refine (m_tie hY hq hC rf).to (by omega) ⟨by omega, ?_⟩
      exact (m_tie hY hq hC rg).to (by omega) ⟨fun g => ⟨(bI_n fun w => by have := hs.mp w; omega).symm, rfl⟩, fun g => ⟨(bI_p (hs.mpr g)).symm, rfl⟩⟩
    · by_cases v : i = k
      · rw [v]; exact e
      · exact h i i0 (by omega)
/-- goes over all orders: the least disagreement, and the first order that has it -/
theorem m_findAgreed (hY : Lay L) (hq : okB s.1) (hB : MB σ s) : Ex 2 y_Mod_findAgreed [vr 102] L σ (PL L (fun z σ' => z = lf s.1 (alq s.1) ∧ (∀ i, 0 ≤ i → i < qN s.1 → σ' 119 i = gr s.1 i) ∧ FW σ σ') NT) := by
  have hn := hq.1.1
  have hG := gr_pm hq.1
  refine e_Mod_findAgreed hY ?_
  refine (Ex.toV (m_load hY hq hB) ?_ (fun _ _ h => h)).deep (by omega)
  rintro σ₁ ⟨hC, hl⟩
  refine (Ex.toV (m_tally hY hq.1 hC) ?_ (fun _ _ h => h)).deep (by omega)
  rintro σ₂ ⟨hT, ht⟩
  have C2 : isC σ₂ s.1 := hC.fc fun k j hk => ht k j (by omega)
  have F2 : FW σ σ₂ := hl.fw.trans fun k j h1 _ => ht k j (by omega)
  refine (Ex.toV (m_firstOrder hY) ?_ (fun _ _ h => h)).deep (by omega)
  rintro σ₃ ⟨hid, h3⟩
  have oth : ∀ {a b : Mm}, (∀ k j, k ≠ 118 → k ≠ 119 → b k j = a k j) → isC a s.1 → isT a s.1 → FW σ a → isC b s.1 ∧ isT b s.1 ∧ FW σ b := by
    intro a b h c t f
    refine ⟨?_, fun x y x0 x1 y0 y1 => by rw [h _ _ (by omega) (by omega)]; exact t x y x0 x1 y0 y1, f.trans fun k j h1 _ => h k j (by omega) (by omega)⟩
    obtain ⟨c1, c2, c3, c4, c5, c6, c7⟩ := c
    exact ⟨by rw [h _ _ (by omega) (by omega)]; exact c1, by rw [h _ _ (by omega) (by omega)]; exact c2, fun t k a b c d => by rw [h _ _ (by omega) (by omega)]; exact c3 t k a b c d, fun t a b => by rw [h _ _ (by omega) (by omega)]; exact c4 t a b, fun k a b => by rw [h _ _ (by omega) (by omega)]; exact c5 k a b, fun k a b => by rw [h _ _ (by omega) (by omega)]; exact c6 k a b, fun k a b => by rw [h _ _ (by omega) (by omega)]; exact c7 k a b⟩
  -- the loop over the orders
  have loop : ∀ (N : Nat) (σ' : Mm) (x : Int), 2097152 - vnum (σ' 118) (qN s.1).toNat ≤ N → isC σ' s.1 → isT σ' s.1 → FW σ σ' → Pm (qN s.1) (σ' 118) → ((x < 0 ∧ ¬ lx (qN s.1) (gr s.1) (σ' 118)) ∨ (0 ≤ x ∧ Pm (qN s.1) (σ' 119) ∧ x = dD s.1 (σ' 119) ∧ (lx (qN s.1) (gr s.1) (σ' 118) → eqn (qN s.1) (σ' 119) (gr s.1)))) → G_Mod_findAgreed_18 1 L σ' (fun z σ' => z = lf s.1 (alq s.1) ∧ (∀ i, 0 ≤ i → i < qN s.1 → σ' 119 i = gr s.1 i) ∧ FW σ σ') NT x 1 := by
    intro N
    induction N with
    | zero =>
      intro σ' x hN _ _ _ hp _
      have := Pm_num ⟨by omega, hn.2⟩ hp
      omega
    | succ N ih =>
      intro σ' x hN c t f hp hx
      have e1 : σ' 102 1 = qN s.1 := by rw [f _ _ (by omega) (by omega)]; exact hB.1
      -- when this order was looked at
      have after : ∀ (σ₄ : Mm) (x : Int), (∀ k j, k ≠ 118 → k ≠ 119 → σ₄ k j = σ' k j) → (∀ i, 0 ≤ i → i < qN s.1 → σ₄ 118 i = σ' 118 i) → Pm (qN s.1) (σ₄ 119) → x = dD s.1 (σ₄ 119) → (eqn (qN s.1) (gr s.1) (σ' 118) ∨ lx (qN s.1) (gr s.1) (σ' 118) → eqn (qN s.1) (σ₄ 119) (gr s.1)) → G_Mod_findAgreed_88 1 L σ₄ (fun z σ' => z = lf s.1 (alq s.1) ∧ (∀ i, 0 ≤ i → i < qN s.1 → σ' 119 i = gr s.1 i) ∧ FW σ σ') NT x := by
        intro σ₄ x h4 h5 hp4 hx4 hg4
        obtain ⟨c4, t4, f4⟩ := oth h4 c t f
        have e4 : σ₄ 102 1 = qN s.1 := by rw [f4 _ _ (by omega) (by omega)]; exact hB.1
        have p4 : Pm (qN s.1) (σ₄ 118) := hp.ext fun i a b => (h5 i a b).symm
        have hg5 : ¬ lx (qN s.1) (σ₄ 118) (gr s.1) → eqn (qN s.1) (σ₄ 119) (gr s.1) := by
          intro hno
          refine hg4 ?_
          rcases lx_tri (show 0 ≤ qN s.1 by omega) (gr s.1) (σ₄ 118) with u | u | u
          · exact Or.inl (u.trans h5)
          · obtain ⟨p, hp, k1, k2⟩ := u
            exact Or.inr ⟨p, hp, fun i a b => by rw [k1 i a b]; exact h5 i a (by omega), by rw [← h5 p hp.1 hp.2]; exact k2⟩
          · exact absurd u hno
        refine r_Mod_findAgreed_88 hY ((Ex.toI (m_nextOrder hY e4 hn p4) ?_ (fun _ _ h => h)).deep (by omega))
        rintro z σ₅ ⟨hz, hz0, h6⟩
        rcases hz with ⟨rfl, hlast⟩ | ⟨rfl, hnx⟩
        · rw [hz0 rfl]
          have hb := hg5 (hlast.top p4 hG)
          refine r_Mod_findAgreed_18 hY ⟨fun _ => ⟨?_, hb, f4⟩, fun w => absurd rfl w⟩
          rw [hx4, dD_ext hq.1 hb]
          exact dD_gr hq.1
        · have h9 : σ₅ 119 = σ₄ 119 := funext fun j => h6 119 j (by omega)
          obtain ⟨c5, t5, f5⟩ := oth (a := σ₄) (b := σ₅) (fun k j h _ => h6 k j h) c4 t4 f4
          have p5 := hnx.pm p4
          have hd0 : 0 ≤ x := by
            rw [hx4]
            have h1 := dD_lo hq.1 hp4
            have h2 := ((lf_is hq.1).bd (al_sub hq.1).1 (al_sub hq.1).2.1 (al_sub hq.1)).1
            omega
          refine ih σ₅ x ?_ c5 t5 f5 p5 (Or.inr ⟨hd0, by rw [h9]; exact hp4, by rw [h9]; exact hx4, fun hlt => ?_⟩)
          · have h7 := lx_num hnx.lt (fun i a b => by have := p4.1 i a b; omega) (fun i a b => (p5.1 i a b).1)
            have h8 : vnum (σ₄ 118) (qN s.1).toNat = vnum (σ' 118) (qN s.1).toNat := vnum_eq _ fun i a b => h5 i a (by omega)
            omega
          · rw [h9]
            exact hg5 fun hlt2 => hnx.btw p4 hG hlt2 hlt
      -- this order becomes the best
      have take : ¬ (lx (qN s.1) (gr s.1) (σ' 118)) → G_Mod_findAgreed_61 1 L σ' (fun z σ' => z = lf s.1 (alq s.1) ∧ (∀ i, 0 ≤ i → i < qN s.1 → σ' 119 i = gr s.1 i) ∧ FW σ σ') NT (dD s.1 (σ' 118)) 0 := by
        intro hno
        refine upto (P := fun k => ∀ σ₄, (∀ i, 0 ≤ i → i < k → σ₄ 119 i = σ' 118 i) → (∀ k j, k ≠ 119 → σ₄ k j = σ' k j) → G_Mod_findAgreed_61 1 L σ₄ (fun z σ' => z = lf s.1 (alq s.1) ∧ (∀ i, 0 ≤ i → i < qN s.1 → σ' 119 i = gr s.1 i) ∧ FW σ σ') NT (dD s.1 (σ' 118)) k) (a := 0) (n := 7) ?_ ?_ 0 (by omega) (by omega) σ' (fun i a b => absurd b (by omega)) (fun _ _ _ => rfl)
        · intro σ₄ a1 a2
          have e9 : eqn (qN s.1) (σ' 118) (σ₄ 119) := fun i x y => (a1 i x (by omega)).symm
          refine r_Mod_findAgreed_61 hY ⟨fun _ => after σ₄ _ (fun k j _ h => a2 k j h) (fun i _ _ => a2 118 i (by omega)) (hp.ext e9) (dD_ext hq.1 e9) (fun h => ?_), fun g => absurd g (by omega)⟩
          rcases h with h | h
          · exact (h.trans e9).symm
          · exact absurd h hno
        · intro k k0 k1 ihk σ₄ a1 a2
          refine r_Mod_findAgreed_61 hY ⟨fun g => absurd g (by omega), fun _ => ⟨by omega, by omega, by omega, ihk _ (fun i i0 i1 => ?_) (fun x j hx => by rw [u_ne hx]; exact a2 x j hx)⟩⟩
          rw [u_if, a2 118 k (by omega)]
          by_cases v : i = k
          · rw [if_pos v, v]
          · rw [if_neg v]; exact a1 i i0 (by omega)
      refine r_Mod_findAgreed_18 hY ⟨fun w => absurd w (by decide), fun _ => ?_⟩
      refine (m_disOf hY hq.1 e1 t hp).to (by omega) ⟨fun g => take ?_, fun g => ?_⟩
      · rcases hx with h | h
        · exact h.2
        · omega
      rcases hx with h | ⟨x0, hpb, hxb, hgb⟩
      · omega
      have lo := dD_lo hq.1 hp
      refine ⟨fun g2 => take fun hlt => ?_, fun g2 => ⟨fun g3 => ?_, fun g3 => ?_⟩⟩
      · have := hgb hlt
        rw [dD_ext hq.1 this, dD_gr hq.1] at hxb
        omega
      · refine after σ' x (fun _ _ _ _ => rfl) (fun _ _ _ => rfl) hpb hxb fun h => ?_
        rcases h with h | h
        · have lo2 := dD_lo hq.1 hpb
          have e := dD_ext hq.1 h
          rw [dD_gr hq.1] at e
          omega
        · exact hgb h
      · refine (m_sooner0 hY hq.1 e1 c hp hpb).to (by omega) ⟨fun g4 => after σ' x (fun _ _ _ _ => rfl) (fun _ _ _ => rfl) hpb hxb fun h => ?_, fun g4 => ?_⟩
        · rcases h with h | h
          · -- this is the one: the best is no other one
            have hno := bI_f g4
            have e := dD_ext hq.1 h
            rw [dD_gr hq.1] at e
            rcases first_ne (f := σ' 119) (g := gr s.1) (qN s.1) (by omega) with u | ⟨p, hpp, k1, k2⟩
            · exact u
            · have hlt := gr_first hq.1 hpb (by omega) hpp k1 k2
              refine absurd ⟨p, hpp, fun i a b => ?_, fun w => ?_, ?_⟩ hno
              · rw [k1 i a b]; exact (h i a (by omega)).symm
              · exact k2 (by rw [← w]; exact (h p hpp.1 hpp.2).symm)
              · rw [← h p hpp.1 hpp.2]; exact hlt
          · exact hgb h
        · rw [g3]
          rw [show x = dD s.1 (σ' 118) from g3.symm]
          refine take fun hlt => ?_
          have hb := hgb hlt
          rw [dD_ext hq.1 hb, dD_gr hq.1] at hxb
          obtain ⟨p, hpp, k1, k2, k3⟩ := bI_t g4
          have := gr_first hq.1 hp (by omega) hpp (fun i a b => by rw [k1 i a b]; exact hb i a (by omega)) (fun w => k2 (by rw [w]; exact (hb p hpp.1 hpp.2).symm))
          rw [hb p hpp.1 hpp.2] at k3
          omega
  obtain ⟨c3, t3, f3⟩ := oth (a := σ₂) (b := σ₃) (fun k j h _ => h3 k j h) C2 hT F2
  have p3 : Pm (qN s.1) (σ₃ 118) := Pm.id.ext fun i a b => (hid i a (by omega)).symm
  exact loop 2097152 σ₃ (-1) (by have := (Pm_num ⟨by omega, hn.2⟩ p3).1; omega) c3 t3 f3 p3 (Or.inl ⟨by omega, id_low (fun i a b => hid i a (by omega)) hG⟩)
theorem mo_dis (hY : Lay L) (hq : okB s.1) (hB : MB σ s) : MOpL y_Mod_disagreement [vr 102] L σ (spDis s) := by
  refine Ex.deep (d := 3) ?_ (by omega)
  obtain ⟨a, b, c⟩ := hB.thr (σ := σ) 0
  refine e_Mod_disagreement hY (Ex.toL (m_findAgreed hY hq a) ?_ (fun _ _ h => h))
  rintro z σ' ⟨hz, -, hf⟩
  exact ⟨0, s, ⟨rfl, hz, rfl⟩, by rw [hf _ _ (by omega) (by omega)]; exact c, a.fs hf.fs, (b.trans hf.fs).fm⟩
theorem mo_agreed (hY : Lay L) (hq : okB s.1) (hB : MB σ s) : MOp y_Mod_agreed [vr 102] L σ (spAgr s) := by
  refine Ex.deep (d := 3) ?_ (by omega)
  have hn := hq.1.1
  obtain ⟨a, b, c⟩ := hB.thr (σ := σ) 0
  refine e_Mod_agreed hY (Ex.toL (m_findAgreed hY hq a) ?_ (fun _ _ h => h))
  rintro z σ' ⟨-, hg, hf⟩
  have B' := a.fs hf.fs
  exact (m_packed hY (lk_119 hY) B'.1 hn (Int.le_refl 0) (by omega) (by omega) (g := gr s.1) (fun k k0 k1 => ⟨by rw [Int.zero_add]; exact hg k k0 k1, by have := (gr_in hq.1 k0 k1).1; omega⟩)).to (by omega) ⟨0, s, ⟨rfl, rfl, rfl⟩, by rw [hf _ _ (by omega) (by omega)]; exact c, B', (b.trans hf.fs).fm⟩
end
