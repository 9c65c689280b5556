/-! step -/
/-- the last of them in the tie order -/
def isLa (q : Pf) (f : Int → Prop) (c : Int) : Prop := (0 ≤ c ∧ c < qN q) ∧ f c ∧ ∀ b, 0 ≤ b → b < qN q → f b → ps (qI' q) b ≤ ps (qI' q) c
theorem isLa.uniq {q : Pf} (hq : okP q) {f : Int → Prop} {a b : Int} (h : isLa q f a) (g : isLa q f b) : a = b := by
  have h1 := h.2.2 b g.1.1 g.1.2 g.2.1
  have h2 := g.2.2 a h.1.1 h.1.2 h.2.1
  have s1 := ps_spec hq.1.2 hq.2.2.2.2.1 h.1.1 h.1.2
  have s2 := ps_spec hq.1.2 hq.2.2.2.2.1 g.1.1 g.1.2
  have e : ps (qI' q) a = ps (qI' q) b := by omega
  rw [← s1.2.2, e, s2.2.2]
/-- who is left after k steps -/
def stS (q : Pf) : Nat → Int → Prop
  | 0, z => z = alq q
  | k + 1, z => ∃ y g, stS q k y ∧ isLa q (lw q y) g ∧ z = cl y g
theorem stS.uniq {q : Pf} (hq : okP q) : ∀ (k : Nat) {a b : Int}, stS q k a → stS q k b → a = b
  | 0, a, b, h, g => by rw [show a = alq q from h, show b = alq q from g]
  | k + 1, a, b, ⟨y, c, h1, h2, h3⟩, ⟨z, d, g1, g2, g3⟩ => by
    have e := stS.uniq hq k h1 g1
    subst e
    rw [h3, g3, h2.uniq hq g2]
theorem pc_al {q : Pf} (hq : okP q) : pc (alq q) = qN q := by
  have hn := hq.1
  have h := al_is hq
  have key : ∀ k, 0 ≤ k → k ≤ 7 → S (bz (alq q)) k = if k ≤ qN q then k else qN q := by
    intro k hk
    refine upFrom (P := fun k => k ≤ 7 → S (bz (alq q)) k = if k ≤ qN q then k else qN q) (a := 0) (fun _ => by rw [S_0, if_pos (by omega)]) ?_ k hk
    intro k hk ih hk2
    rw [S_s _ hk, ih (by omega)]
    have hb := h.2.2 k hk (by omega)
    by_cases e : k < qN q
    · rw [if_pos (by omega), if_pos (by omega), hb.mpr ⟨e, trivial⟩]
    · have : bz (alq q) k = 0 := by
        rcases bz01 (alq q) k with g | g
        · exact g
        · exact absurd (hb.mp g).1 e
      rw [this]
      by_cases e2 : k = qN q
      · rw [if_pos (by omega), if_neg (by omega)]; omega
      · rw [if_neg (by omega), if_neg (by omega)]; omega
  have := key 7 (by omega) (by omega)
  unfold pc
  rw [this]
  split <;> omega
theorem stS.ok {q : Pf} (hq : okP q) : ∀ (k : Nat) {z : Int}, stS q k z → sub z (qN q) ∧ pc z = qN q - k
  | 0, z, h => by rw [show z = alq q from h]; exact ⟨al_sub hq, by rw [pc_al hq]; omega⟩
  | k + 1, z, ⟨y, g, h1, h2, h3⟩ => by
    have hn := hq.1
    obtain ⟨a, b⟩ := stS.ok hq k h1
    have e := pc_clr a.1 a.2.1 h2.1.1 (show g < 7 by have := h2.1; omega) h2.2.1.1
    rw [h3]
    exact ⟨clr_sub a h2.1.1 (by have := h2.1; omega), by unfold cl; rw [e, b]; omega⟩
theorem stS.nz {q : Pf} (hq : okP q) {k : Nat} {z : Int} (h : stS q k z) (hk : (k : Int) < qN q) : Jvm.Pilot.CBallotDeskLaw_law_r5075_f3b600.nz z (qN q) := by
  obtain ⟨a, b⟩ := stS.ok hq k h
  refine nz_of a fun e => ?_
  rw [e, pc_0] at b
  omega
def spStep (s : St) (k₀ : Int) : Sp := fun k z s' => ((0 ≤ k₀ ∧ k₀ < qN s.1) ∧ k = 0 ∧ (∃ y, stS s.1 k₀.toNat y ∧ isLa s.1 (lw s.1 y) z) ∧ s' = s) ∨ (¬ (0 ≤ k₀ ∧ k₀ < qN s.1) ∧ k = 1 ∧ s' = s)
section
variable {L : List Sh} {σ : Mm} {s : St} {q : Pf}
theorem c_last (hY : Lay L) (hq : okP q) (hP : isP σ 30 q) {z : Int} {f : Int → Prop} (hz : isM z (qN q) f) (hne : ∃ c, 0 ≤ c ∧ c < qN q ∧ f c) : Ex 0 y_Desk_last [vr 0, vi z] L σ (PI L (fun c σ' => isLa q f c ∧ σ' = σ) NT) := by
  have hn := hq.1
  have hm := hq.2.2.2.2.1
  obtain ⟨c, c0, c1, hc⟩ := hne
  have hs := ps_spec hn.2 hm c0 c1
  refine e_Desk_last hY ⟨by rw [hP.1]; omega, ?_⟩
  rw [hP.1]
  have key : ∀ (m : Nat) (k : Int), k = ps (qI' q) c + m → k < qN q → (∀ b, 0 ≤ b → b < qN q → f b → ps (qI' q) b ≤ k) → G_Desk_last_10 0 L σ (fun c σ' => isLa q f c ∧ σ' = σ) NT z k := by
    intro m
    induction m with
    | zero =>
      intro k hk k1 h
      have e := hP.2.2.2.2.2.1 k (by omega) k1
      have hk2 : k = ps (qI' q) c := by omega
      have ec : qI' q k = c := by rw [hk2]; exact hs.2.2
      have hb := hz.bit c0 c1 hn.2
      refine r_Desk_last_10 hY ⟨by omega, fun g => ⟨by omega, ?_, rfl⟩, fun g => ?_⟩
      · rw [e, ec]
        exact ⟨⟨c0, c1⟩, hc, fun b b0 b1 hfb => by have := h b b0 b1 hfb; omega⟩
      · rw [e, ec] at g
        exact absurd hc (hb.2.mp g)
    | succ m ih =>
      intro k hk k1 h
      have e := hP.2.2.2.2.2.1 k (by omega) k1
      have hr := hm.1 k (by omega) k1
      have hb := hz.bit hr.1 hr.2 hn.2
      have hat := ps_at hn.2 hm (show 0 ≤ k by omega) k1
      refine r_Desk_last_10 hY ⟨by omega, fun g => ⟨by omega, ?_, rfl⟩, fun g => ⟨by omega, ih (k + (-1)) (by omega) (by omega) fun b b0 b1 hfb => ?_⟩⟩
      · rw [e] at g ⊢
        have hf : f (qI' q k) := Classical.byContradiction fun w => g (hb.2.mpr w)
        exact ⟨hr, hf, fun b b0 b1 hfb => by rw [hat]; exact h b b0 b1 hfb⟩
      · rw [e] at g
        have h1 := h b b0 b1 hfb
        have hne : ps (qI' q) b ≠ k := fun w => by
          have sb := ps_spec hn.2 hm b0 b1
          rw [w] at sb
          rw [sb.2.2] at g hb
          exact hb.2.mp g hfb
        omega
  refine key (qN q - 1 - ps (qI' q) c).toNat (qN q - 1) (by omega) (by omega) fun b b0 b1 hfb => ?_
  have := ps_spec hn.2 hm b0 b1
  omega
theorem d_step (hY : Lay L) (hD : DI σ s) {k₀ : Int} : DOp y_Desk_step [vr 0, vi k₀] L σ (spStep s k₀) (fun _ => 1) := by
  refine Ex.deep (d := 7) ?_ (by omega)
  have hn := hD.1.1.1
  have hP := hD.2.1
  have main : (0 ≤ k₀ ∧ k₀ < qN s.1) → ∀ (m : Nat) (i z : Int), i + m = k₀ → 0 ≤ i → stS s.1 i.toNat z → G_Desk_step_33 6 L σ (fun z σ' => ∃ s', spStep s k₀ 0 z s' ∧ DI σ' s' ∧ FD σ σ') (fun c σ' => ∃ s', spStep s k₀ ((fun _ => 1) c) 0 s' ∧ DI σ' s' ∧ FD σ σ' ∧ 1 ≤ (fun _ => (1 : Int)) c) k₀ z i := by
    intro hk m
    induction m with
    | zero =>
      intro i z hi i0 hz
      have hnz := hz.nz hD.1.1 (by omega)
      refine r_Desk_step_33 hY ((Ex.toI (c_lowest hY pr30 hD.1.1 hP hnz) ?_ (fun _ _ h => h)).deep (by omega))
      rintro low σ' ⟨hl, rfl⟩
      refine (Ex.toI (c_last hY hD.1.1 hP hl (lw_ex hD.1.1 hnz)) ?_ (fun _ _ h => h)).deep (by omega)
      rintro c σ'' ⟨hc, rfl⟩
      refine ⟨fun w => absurd (show i = k₀ by omega) w, fun _ => ⟨s, Or.inl ⟨hk, rfl, ⟨z, ?_, hc⟩, rfl⟩, hD, FD.refl _⟩⟩
      rw [show k₀ = i by omega]; exact hz
    | succ m ih =>
      intro i z hi i0 hz
      have hnz := hz.nz hD.1.1 (by omega)
      refine r_Desk_step_33 hY ((Ex.toI (c_lowest hY pr30 hD.1.1 hP hnz) ?_ (fun _ _ h => h)).deep (by omega))
      rintro low σ' ⟨hl, rfl⟩
      refine (Ex.toI (c_last hY hD.1.1 hP hl (lw_ex hD.1.1 hnz)) ?_ (fun _ _ h => h)).deep (by omega)
      rintro c σ'' ⟨hc, rfl⟩
      refine ⟨fun _ => ⟨by omega, ih (i + 1) _ (by omega) (by omega) ?_⟩, fun w => absurd w (by omega)⟩
      rw [show (i + 1).toNat = i.toNat + 1 by omega]
      exact ⟨z, c, hz, hc, rfl⟩
  have go : ∀ x : Int, (x ≠ 0 ↔ (0 ≤ k₀ ∧ k₀ < qN s.1)) → G_Desk_step_20 6 L σ (fun z σ' => ∃ s', spStep s k₀ 0 z s' ∧ DI σ' s' ∧ FD σ σ') (fun c σ' => ∃ s', spStep s k₀ ((fun _ => 1) c) 0 s' ∧ DI σ' s' ∧ FD σ σ' ∧ 1 ≤ (fun _ => (1 : Int)) c) k₀ x := fun x hx =>
    r_Desk_step_20 hY ((c_exists hY).to (by omega) (fun w => (c_all hY pr30 hD.1.1 hP).to (by omega) (main (hx.mp w) k₀.toNat 0 _ (by have := (hx.mp w).1; omega) (by omega) rfl)) (fun w => ⟨s, Or.inr ⟨fun g => w (hx.mpr g), rfl, rfl⟩, hD, FD.refl σ, by decide⟩))
  refine e_Desk_step hY ?_
  rw [hP.1]
  exact ⟨fun h => go 0 (by omega), fun h => ⟨fun h2 => go 0 (by omega), fun h2 => go 1 (by omega)⟩⟩
end
