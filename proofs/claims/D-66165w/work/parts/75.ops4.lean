/-! the answers -/
def spWin (s : St) (r : Int) : Sp := fun k z s' => ((0 ≤ r ∧ r < 12) ∧ k = 0 ∧ isM z (qN s.1) (Wr r s.1) ∧ s' = s) ∨ (¬ (0 ≤ r ∧ r < 12) ∧ k = 1 ∧ s' = s)
/-- c is the rule's winner -/
def wn (r : Int) (q : Pf) (c : Int) : Prop := ∃ m, isM m (qN q) (Wr r q) ∧ c = fo q m
def spWnr (s : St) (r : Int) : Sp := fun k z s' => ((0 ≤ r ∧ r < 12) ∧ k = 0 ∧ wn r s.1 z ∧ s' = s) ∨ (¬ (0 ≤ r ∧ r < 12) ∧ k = 1 ∧ s' = s)
def spPair (s : St) (a b : Int) : Sp := fun k z s' => (((0 ≤ a ∧ a < qN s.1) ∧ 0 ≤ b ∧ b < qN s.1) ∧ k = 0 ∧ z = pr s.1 a b ∧ s' = s) ∨ (¬ ((0 ≤ a ∧ a < qN s.1) ∧ 0 ≤ b ∧ b < qN s.1) ∧ k = 1 ∧ s' = s)
def spPath (s : St) (a b : Int) : Sp := fun k z s' => (((0 ≤ a ∧ a < qN s.1) ∧ 0 ≤ b ∧ b < qN s.1) ∧ k = 0 ∧ (∃ st, isS s.1 st ∧ z = st a b) ∧ s' = s) ∨ (¬ ((0 ≤ a ∧ a < qN s.1) ∧ 0 ≤ b ∧ b < qN s.1) ∧ k = 1 ∧ s' = s)
def spBr (s : St) : Sp := fun k z s' => k = 0 ∧ z = S (fun x => bI (Dn s.1 (alq s.1) x)) 128 ∧ s' = s
def spCh (s : St) : Sp := fun k z s' => k = 0 ∧ z = s.2.1 ∧ s' = s
def spWi (s : St) : Sp := fun k z s' => k = 0 ∧ z = s.2.2 ∧ s' = s
theorem nz_of_isM {z n : Int} {f : Int → Prop} (h : isM z n f) (n7 : n ≤ 7) (he : ∃ c, 0 ≤ c ∧ c < n ∧ f c) : nz z n := by
  obtain ⟨c, c0, c1, hc⟩ := he
  exact ⟨h.1, h.2.1, c, c0, c1, (h.2.2 c c0 (by omega)).mpr ⟨c1, hc⟩⟩
theorem fo_in {q : Pf} (hq : okP q) {z : Int} (hz : nz z (qN q)) : 0 ≤ fo q z ∧ fo q z < qN q := by
  have h := fz_ok hq.1.2 hq.2.2.2.2.1 hz
  exact hq.2.2.2.2.1.1 _ h.1 h.2.1
section
variable {L : List Sh} {σ : Mm} {s : St} {p : Int} {q : Pf}
theorem c_first (hY : Lay L) (hp : isPr p) (hq : okP q) (hP : isP σ p q) {z : Int} (hz : nz z (qN q)) : IsI 0 y_Desk_first [vr p, vi z] L σ (fo q z) := by
  have hn := hq.1
  have hm := hq.2.2.2.2.1
  have hs := fz_ok hn.2 hm hz
  have hl : ∀ k, 0 ≤ k → k < qN q → σ (p + 32) k = qI' q k ∧ aI (rI z (σ (p + 32) k)) 1 = bz z (qI' q k) := by
    intro k k0 k1
    have e := hP.2.2.2.2.2.1 k k0 k1
    have r := hm.1 k k0 k1
    rw [e]
    exact ⟨rfl, bit_eq hz.1 hz.2.1 r.1 (by omega)⟩
  refine e_Desk_first hY hp ?_
  refine upto (P := fun k => G_Desk_first_2 0 L σ _ _ p z k) (a := 0) (n := fz (qI' q) z) ?_ ?_ 0 (by omega) (by omega)
  · have e := hl _ hs.1 hs.2.1
    exact r_Desk_first_2 hY hp ⟨by omega, fun h => ⟨by omega, e.1, rfl⟩, fun h => absurd (e.2.symm.trans h) (by omega)⟩
  · intro k k0 k1 ih
    have e := hl k k0 (by omega)
    refine r_Desk_first_2 hY hp ⟨by omega, fun h => ?_, fun h => ⟨by omega, ih⟩⟩
    rw [e.2] at h
    rcases bz01 z (qI' q k) with g | g
    · exact absurd g h
    · exact absurd g (hs.2.2.2 k k0 k1)
theorem c_chosen (hY : Lay L) (hp : isPr p) (hq : okP q) (hP : isP σ p q) (hF : Fl σ) {r : Int} (hr : 0 ≤ r ∧ r < 12) : Ex 10 y_Desk_chosen [vr 0, vi r, vr p] L σ (PI L (fun z σ' => (wn r q z ∧ 0 ≤ z ∧ z < qN q) ∧ Fr σ σ') NT) := by
  refine e_Desk_chosen hY hp ⟨hr, ?_⟩
  refine Ex.toI (c_rule hY hp hq hP hF hr) ?_ (fun _ _ h => h)
  rintro m σ' ⟨⟨h1, h2⟩, hf⟩
  have hz := nz_of_isM h1 hq.1.2 h2
  exact (c_first hY hp hq (hP.fr hq hp hf) hz).to (by omega) ⟨⟨⟨m, h1, rfl⟩, fo_in hq hz⟩, hf⟩
theorem wn.uniq {r : Int} {q : Pf} {a b : Int} (h : wn r q a) (g : wn r q b) : a = b := by
  obtain ⟨m, h1, rfl⟩ := h
  obtain ⟨n, g1, rfl⟩ := g
  rw [h1.uniq g1]
theorem d_winners (hY : Lay L) (hD : DI σ s) {r : Int} : DOp y_Desk_winners [vr 0, vi r] L σ (spWin s r) (fun _ => 1) := by
  refine Ex.deep (d := 10) ?_ (by omega)
  refine e_Desk_winners hY ((c_ruled hY).to (by omega) (fun hr => ⟨hr, ?_⟩) (fun hr => ⟨s, Or.inr ⟨hr, rfl, rfl⟩, hD, FD.refl σ, by decide⟩))
  refine Ex.toI (c_rule hY pr30 hD.1.1 hD.2.1 hD.2.2.1 hr) ?_ (fun _ _ h => h.elim)
  rintro m σ' ⟨⟨h1, h2⟩, hf⟩
  exact ⟨s, Or.inl ⟨hr, rfl, h1, rfl⟩, hD.fr hf, hf.fd⟩
theorem d_winner (hY : Lay L) (hD : DI σ s) {r : Int} : DOp y_Desk_winner [vr 0, vi r] L σ (spWnr s r) (fun _ => 1) := by
  refine Ex.deep (d := 11) ?_ (by omega)
  refine e_Desk_winner hY ((c_ruled hY).to (by omega) (fun hr => ?_) (fun hr => ⟨s, Or.inr ⟨hr, rfl, rfl⟩, hD, FD.refl σ, by decide⟩))
  refine Ex.toI (c_chosen hY pr30 hD.1.1 hD.2.1 hD.2.2.1 hr) ?_ (fun _ _ h => h.elim)
  rintro m σ' ⟨⟨h1, -⟩, hf⟩
  exact ⟨s, Or.inl ⟨hr, rfl, h1, rfl⟩, hD.fr hf, hf.fd⟩
theorem d_pair (hY : Lay L) (hD : DI σ s) {a b : Int} : DOp y_Desk_pair [vr 0, vi a, vi b] L σ (spPair s a b) (fun _ => 1) := by
  refine Ex.deep (d := 8) ?_ (by omega)
  have hn := hD.1.1.1
  refine e_Desk_pair hY ((c_stands hY hD.2.1.1).to (by omega) (fun ha => ?_) (fun ha => ⟨s, Or.inr ⟨fun w => ha w.1, rfl, rfl⟩, hD, FD.refl σ, by decide⟩))
  exact (c_stands hY hD.2.1.1).to (by omega) (fun hb => ⟨by omega, by omega, s, Or.inl ⟨⟨ha, hb⟩, rfl, hD.2.1.2.2.2.2.1 a b ha.1 ha.2 hb.1 hb.2, rfl⟩, hD, FD.refl σ⟩) (fun hb => ⟨s, Or.inr ⟨fun w => hb w.2, rfl, rfl⟩, hD, FD.refl σ, by decide⟩)
theorem d_path (hY : Lay L) (hD : DI σ s) {a b : Int} : DOp y_Desk_path [vr 0, vi a, vi b] L σ (spPath s a b) (fun _ => 1) := by
  refine Ex.deep (d := 8) ?_ (by omega)
  have hn := hD.1.1.1
  refine e_Desk_path hY ((c_stands hY hD.2.1.1).to (by omega) (fun ha => ?_) (fun ha => ⟨s, Or.inr ⟨fun w => ha w.1, rfl, rfl⟩, hD, FD.refl σ, by decide⟩))
  refine (c_stands hY hD.2.1.1).to (by omega) (fun hb => ?_) (fun hb => ⟨s, Or.inr ⟨fun w => hb w.2, rfl, rfl⟩, hD, FD.refl σ, by decide⟩)
  refine (Ex.toV (c_find7 hY pr30 hD.1.1 hD.2.1) ?_ (fun _ _ h => h.elim)).deep (by omega)
  rintro σ' ⟨hS, hf⟩
  exact ⟨by omega, by omega, s, Or.inl ⟨⟨ha, hb⟩, rfl, ⟨_, hS, rfl⟩, rfl⟩, hD.fr hf.fr, hf.fr.fd⟩
theorem d_branches (hY : Lay L) (hD : DI σ s) : DOp y_Desk_branches [vr 0] L σ (spBr s) (fun _ => 1) := by
  refine Ex.deep (d := 10) ?_ (by omega)
  refine e_Desk_branches hY (Ex.toI (c_win1 hY pr30 hD.1.1 hD.2.1) ?_ (fun _ _ h => h.elim))
  rintro m σ' ⟨h1, hf, h2, h3⟩
  refine ⟨s, ⟨rfl, ?_, rfl⟩, hD.fr hf, hf.fd⟩
  rw [h3.2]
  refine S_ext (by omega) fun x x0 x1 => ?_
  by_cases e : Dn s.1 (alq s.1) x
  · rw [bI_p e]; exact (h2 x x0 x1).mpr e
  · rw [bI_n e]
    rcases h3.1 x x0 x1 with g | g
    · exact g
    · exact absurd ((h2 x x0 x1).mp g) e
theorem d_changed (hY : Lay L) (hD : DI σ s) : DOp y_Desk_changed [vr 0] L σ (spCh s) (fun _ => 1) := Ex.deep (d := 0) (e_Desk_changed hY ⟨s, ⟨rfl, hD.2.2.2.1, rfl⟩, hD, FD.refl σ⟩) (by omega)
theorem d_witness (hY : Lay L) (hD : DI σ s) : DOp y_Desk_witness [vr 0] L σ (spWi s) (fun _ => 1) := Ex.deep (d := 0) (e_Desk_witness hY ⟨s, ⟨rfl, hD.2.2.2.2, rfl⟩, hD, FD.refl σ⟩) (by omega)
/-! the model's -/
theorem mo_winners (hY : Lay L) (hq : okB s.1) (hB : MB σ s) {r : Int} : MOp y_Mod_winners [vr 102, vi r] L σ (spWin s r) := by
  refine Ex.deep (d := 4) ?_ (by omega)
  refine e_Mod_winners hY ((m_isRule hY).to (by omega) ?_)
  refine m_gate hY hB rfl (fun h1 h2 σ' hB' hf h0 _ => ⟨fun _ => ?_, fun w => absurd w (by decide)⟩) (fun h1 σ' hB' hf h0 => ⟨fun w => absurd rfl w, fun _ => ⟨1, s, Or.inr ⟨bI_f h1, rfl, rfl⟩, h0, hB', hf.fm⟩⟩) (fun _ w => absurd w (by decide))
  have hr := bI_t h1
  refine (Ex.toV (m_load hY hq hB') ?_ (fun _ _ h => h)).deep (by omega)
  rintro σ₁ ⟨hC, hl⟩
  refine (Ex.toI (m_work hY hq.1 hC hr) ?_ (fun _ _ h => h)).deep (by omega)
  rintro z σ₂ ⟨w1, w2, -⟩
  have f2 : FS σ' σ₂ := hl.fs.trans w2.fs
  exact ⟨0, s, Or.inl ⟨hr, rfl, w1, rfl⟩, by rw [w2 _ _ (by omega), hl _ _ (by omega) (by omega)]; exact h0, hB'.fs f2, (hf.trans f2).fm⟩
theorem mo_winner (hY : Lay L) (hq : okB s.1) (hB : MB σ s) {r : Int} (hex : 0 ≤ r → r < 12 → ∃ c, 0 ≤ c ∧ c < qN s.1 ∧ Wr r s.1 c) : MOp y_Mod_winner [vr 102, vi r] L σ (spWnr s r) := by
  refine Ex.deep (d := 4) ?_ (by omega)
  refine e_Mod_winner hY ((m_isRule hY).to (by omega) ?_)
  refine m_gate hY hB rfl (fun h1 h2 σ' hB' hf h0 _ => ⟨fun _ => ?_, fun w => absurd w (by decide)⟩) (fun h1 σ' hB' hf h0 => ⟨fun w => absurd rfl w, fun _ => ⟨1, s, Or.inr ⟨bI_f h1, rfl, rfl⟩, h0, hB', hf.fm⟩⟩) (fun _ w => absurd w (by decide))
  have hr := bI_t h1
  refine (Ex.toV (m_load hY hq hB') ?_ (fun _ _ h => h)).deep (by omega)
  rintro σ₁ ⟨hC, hl⟩
  refine (Ex.toI (m_work hY hq.1 hC hr) ?_ (fun _ _ h => h)).deep (by omega)
  rintro z σ₂ ⟨w1, w2, -⟩
  have f2 : FS σ' σ₂ := hl.fs.trans w2.fs
  exact (m_firstOf hY hq.1 (hC.fc w2) (nz_of_isM w1 hq.1.1.2 (hex hr.1 hr.2))).to (by omega) ⟨0, s, Or.inl ⟨hr, rfl, ⟨z, w1, rfl⟩, rfl⟩, by rw [w2 _ _ (by omega), hl _ _ (by omega) (by omega)]; exact h0, hB'.fs f2, (hf.trans f2).fm⟩
theorem mo_changed (hY : Lay L) (hB : MB σ s) : MOp y_Mod_changed [vr 102] L σ (spCh s) := by
  obtain ⟨a, b, c⟩ := hB.thr (σ := σ) 0
  exact Ex.deep (d := 0) (e_Mod_changed hY ⟨0, s, ⟨rfl, by rw [u_ne2 (by omega)]; exact hB.2.2.2.2.2.2.2.1, rfl⟩, c, a, b.fm⟩) (by omega)
theorem mo_witness (hY : Lay L) (hB : MB σ s) : MOp y_Mod_witness [vr 102] L σ (spWi s) := by
  obtain ⟨a, b, c⟩ := hB.thr (σ := σ) 0
  exact Ex.deep (d := 0) (e_Mod_witness hY ⟨0, s, ⟨rfl, by rw [u_ne2 (by omega)]; exact hB.2.2.2.2.2.2.2.2, rfl⟩, c, a, b.fm⟩) (by omega)
theorem mo_pair (hY : Lay L) (hq : okB s.1) (hB : MB σ s) {a b : Int} : MOp y_Mod_pair [vr 102, vi a, vi b] L σ (spPair s a b) := by
  refine Ex.deep (d := 2) ?_ (by omega)
  have hn := hq.1.1
  have go : ∀ x : Int, (x ≠ 0 ↔ ((0 ≤ a ∧ a < qN s.1) ∧ 0 ≤ b ∧ b < qN s.1)) → G_Mod_pair_22 1 L σ (fun z σ' => ∃ k s', spPair s a b k z s' ∧ σ' 102 0 = k ∧ MB σ' s' ∧ FM σ σ') NT a b x := by
    intro x hx
    refine r_Mod_pair_22 hY (m_gate hY hB rfl (fun h1 h2 σ' hB' hf h0 _ => ⟨fun _ => ?_, fun w => absurd w (by decide)⟩) (fun h1 σ' hB' hf h0 => ⟨fun w => absurd rfl w, fun _ => ⟨1, s, Or.inr ⟨fun w => (hx.mpr w) h1, rfl, rfl⟩, h0, hB', hf.fm⟩⟩) (fun _ w => absurd w (by decide)))
    have hab := hx.mp h1
    refine (Ex.toV (m_load hY hq hB') ?_ (fun _ _ h => h)).deep (by omega)
    rintro σ₁ ⟨hC, hl⟩
    refine (Ex.toV (m_tally hY hq.1 hC) ?_ (fun _ _ h => h)).deep (by omega)
    rintro σ₂ ⟨hT, ht⟩
    have f2 : FS σ' σ₂ := hl.fs.trans fun k j h1 _ => ht k j (by omega)
    exact ⟨by omega, by omega, by omega, 0, s, Or.inl ⟨hab, rfl, hT a b hab.1.1 hab.1.2 hab.2.1 hab.2.2, rfl⟩, by rw [ht _ _ (by omega), hl _ _ (by omega) (by omega)]; exact h0, hB'.fs f2, (hf.trans f2).fm⟩
  refine e_Mod_pair hY ((m_isCandidate hY hB.1 hn).to (by omega) ⟨fun h => go 0 ⟨fun w => absurd rfl w, fun w => absurd w.1 (bI_f h)⟩, fun h => ?_⟩)
  exact (m_isCandidate hY hB.1 hn).to (by omega) ⟨fun h2 => go 0 ⟨fun w => absurd rfl w, fun w => absurd w.2 (bI_f h2)⟩, fun h2 => go 1 ⟨fun _ => ⟨bI_t h, bI_t h2⟩, fun _ => by decide⟩⟩
theorem mo_path (hY : Lay L) (hq : okB s.1) (hB : MB σ s) {a b : Int} : MOp y_Mod_path [vr 102, vi a, vi b] L σ (spPath s a b) := by
  refine Ex.deep (d := 2) ?_ (by omega)
  have hn := hq.1.1
  have go : ∀ x : Int, (x ≠ 0 ↔ ((0 ≤ a ∧ a < qN s.1) ∧ 0 ≤ b ∧ b < qN s.1)) → G_Mod_path_22 1 L σ (fun z σ' => ∃ k s', spPath s a b k z s' ∧ σ' 102 0 = k ∧ MB σ' s' ∧ FM σ σ') NT a b x := by
    intro x hx
    refine r_Mod_path_22 hY (m_gate hY hB rfl (fun h1 h2 σ' hB' hf h0 _ => ⟨fun _ => ?_, fun w => absurd w (by decide)⟩) (fun h1 σ' hB' hf h0 => ⟨fun w => absurd rfl w, fun _ => ⟨1, s, Or.inr ⟨fun w => (hx.mpr w) h1, rfl, rfl⟩, h0, hB', hf.fm⟩⟩) (fun _ w => absurd w (by decide)))
    have hab := hx.mp h1
    refine (Ex.toV (m_load hY hq hB') ?_ (fun _ _ h => h)).deep (by omega)
    rintro σ₁ ⟨hC, hl⟩
    refine (Ex.toV (m_tally hY hq.1 hC) ?_ (fun _ _ h => h)).deep (by omega)
    rintro σ₂ ⟨hT, ht⟩
    have hC2 : isC σ₂ s.1 := hC.fc fun k j hk => ht k j (by omega)
    refine Ex.toV (m_findPaths hY hq.1 hC2 hT) ?_ (fun _ _ h => h)
    rintro σ₃ ⟨hS, hp⟩
    have f2 : FS σ' σ₃ := (hl.fs.trans fun k j h1 _ => ht k j (by omega)).trans fun k j h1 _ => hp k j (by omega)
    have e0 : σ₃ 102 0 = 0 := by rw [hp _ _ (by omega), ht _ _ (by omega), hl _ _ (by omega) (by omega)]; exact h0
    refine ⟨fun e => ⟨by omega, by omega, by omega, 0, s, Or.inl ⟨hab, rfl, ⟨_, hS, rfl⟩, rfl⟩, e0, hB'.fs f2, (hf.trans f2).fm⟩, fun e => ⟨0, s, Or.inl ⟨hab, rfl, ⟨_, hS, ?_⟩, rfl⟩, e0, hB'.fs f2, (hf.trans f2).fm⟩⟩
    rw [e]
    exact (hS.1 b hab.2.1 hab.2.2).symm
  refine e_Mod_path hY ((m_isCandidate hY hB.1 hn).to (by omega) ⟨fun h => go 0 ⟨fun w => absurd rfl w, fun w => absurd w.1 (bI_f h)⟩, fun h => ?_⟩)
  exact (m_isCandidate hY hB.1 hn).to (by omega) ⟨fun h2 => go 0 ⟨fun w => absurd rfl w, fun w => absurd w.2 (bI_f h2)⟩, fun h2 => go 1 ⟨fun _ => ⟨bI_t h, bI_t h2⟩, fun _ => by decide⟩⟩
end
