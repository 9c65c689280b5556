section
variable {L : List Sh} {σ : Mm} {s : St}
/-- a setting becomes an order -/
theorem c_become (hY : Lay L) (hD : DI σ s) {x o : Int} (hx : x = 30 + 32 ∨ x = 30 + 33) (hlk : LkA L x 1 7) {f : Int → Int} (hf : ∀ k, 0 ≤ k → k < qN s.1 → σ x k = f k) (hpm : Pm (qN s.1) f) (h32 : in32 o) : Ex 8 y_Desk_become [vr 0, vr x, vi o] L σ (PI L (fun z σ' => isOrd (qN s.1) o ∧ z = pk f (qN s.1) ∧ (∀ k, 0 ≤ k → k < qN s.1 → σ' x k = dg o k) ∧ ∀ k j, k ≠ 28 → k ≠ x → σ' k j = σ k j) (fun c σ' => ¬ isOrd (qN s.1) o ∧ c = 0 ∧ ∀ k j, k ≠ 28 → σ' k j = σ k j)) := by
  have hn := hD.1.1.1
  have hP := hD.2.1
  refine e_Desk_become hY hlk ?_
  refine Ex.toV (c_unpack hY h32 hP.1 hn) ?_ (fun c σ' h => h)
  rintro σ₁ ⟨ho, h28, h1⟩
  have e0 : σ₁ 30 0 = qN s.1 := by rw [h1 _ _ (by omega)]; exact hP.1
  refine (c_pack hY hlk e0 hn (by omega) (f := f) (fun k k0 k1 => ?_)).to (by omega) ?_
  · have := hpm.1 k k0 k1
    exact ⟨by rw [h1 _ _ (by omega)]; exact hf k k0 k1, by omega, by omega⟩
  · rw [e0]
    refine ⟨by omega, ho, rfl, fun k k0 k1 => ?_, fun k j a b => ?_⟩
    · rw [uc_eq, if_pos ⟨k0, k1⟩]; exact h28 k k0 k1
    · rw [uc_ne b]; exact h1 k j a
theorem d_tie (hY : Lay L) (hD : DI σ s) {o : Int} (h32 : in32 o) : DOp y_Desk_tieOrder [vr 0, vi o] L σ (spTie s o) (fun _ => 1) := by
  refine Ex.deep (d := 9) ?_ (by omega)
  have hn := hD.1.1.1
  have hT := hD.1.1.2.1
  have hP := hD.2.1
  refine e_Desk_tieOrder hY (Ex.toI (c_become hY hD (Or.inl rfl) (lk_ti hY pr30) hP.2.2.2.2.2.1 hD.1.1.2.2.2.2.1 h32) ?_ ?_)
  · rintro z σ' ⟨ho, rfl, h1, h2⟩
    refine ⟨_, Or.inl ⟨ho, rfl, rfl, rfl⟩, hD.prof (hD.1.ties (isOrd.pm (by omega) ho)) ⟨by rw [h2 _ _ (by omega) (by omega)]; exact hP.1, by rw [h2 _ _ (by omega) (by omega)]; exact hP.2.1, fun t k a b c d => by
      have b : t < qT s.1 := b
      rw [h2 _ _ (by omega) (by omega)]; exact hP.2.2.1 t k a b c d, fun t a b => by rw [h2 _ _ (by omega) (by omega)]; exact hP.2.2.2.1 t a b, fun x y a b c d => by
      have b : x < qN s.1 := b
      rw [h2 _ _ (by omega) (by omega)]; exact hP.2.2.2.2.1 x y a b c d, h1, fun k a b => by rw [h2 _ _ (by omega) (by omega)]; exact hP.2.2.2.2.2.2.1 k a b, fun k a b => by rw [h2 _ _ (by omega) (by omega)]; exact hP.2.2.2.2.2.2.2 k a b⟩ (fun k j hk => h2 k j (by omega) (by omega)), fun k j hk => h2 k j (by omega) (by omega)⟩
  · rintro c σ' ⟨ho, rfl, h1⟩
    exact ⟨s, Or.inr ⟨ho, rfl, rfl⟩, hD.off fun k j hk => h1 k j (by omega), fun k j hk => h1 k j (by omega), by decide⟩
theorem d_agenda (hY : Lay L) (hD : DI σ s) {o : Int} (h32 : in32 o) : DOp y_Desk_agenda [vr 0, vi o] L σ (spAg s o) (fun _ => 1) := by
  refine Ex.deep (d := 9) ?_ (by omega)
  have hn := hD.1.1.1
  have hT := hD.1.1.2.1
  have hP := hD.2.1
  refine e_Desk_agenda hY (Ex.toI (c_become hY hD (Or.inr rfl) (lk_ag hY pr30) hP.2.2.2.2.2.2.1 hD.1.1.2.2.2.2.2.1 h32) ?_ ?_)
  · rintro z σ' ⟨ho, rfl, h1, h2⟩
    refine ⟨_, Or.inl ⟨ho, rfl, rfl, rfl⟩, hD.prof (hD.1.ags (isOrd.pm (by omega) ho)) ⟨by rw [h2 _ _ (by omega) (by omega)]; exact hP.1, by rw [h2 _ _ (by omega) (by omega)]; exact hP.2.1, fun t k a b c d => by
      have b : t < qT s.1 := b
      rw [h2 _ _ (by omega) (by omega)]; exact hP.2.2.1 t k a b c d, fun t a b => by rw [h2 _ _ (by omega) (by omega)]; exact hP.2.2.2.1 t a b, fun x y a b c d => by
      have b : x < qN s.1 := b
      rw [h2 _ _ (by omega) (by omega)]; exact hP.2.2.2.2.1 x y a b c d, fun k a b => by rw [h2 _ _ (by omega) (by omega)]; exact hP.2.2.2.2.2.1 k a b, h1, fun k a b => by rw [h2 _ _ (by omega) (by omega)]; exact hP.2.2.2.2.2.2.2 k a b⟩ (fun k j hk => h2 k j (by omega) (by omega)), fun k j hk => h2 k j (by omega) (by omega)⟩
  · rintro c σ' ⟨ho, rfl, h1⟩
    exact ⟨s, Or.inr ⟨ho, rfl, rfl⟩, hD.off fun k j hk => h1 k j (by omega), fun k j hk => h1 k j (by omega), by decide⟩
/-! the model's -/
theorem MB.thr (h : MB σ s) (k : Int) : MB (upd2 σ 102 0 k) s ∧ FS σ (upd2 σ 102 0 k) ∧ (upd2 σ 102 0 k) 102 0 = k := by
  have f : FS σ (upd2 σ 102 0 k) := fun i j _ h2 => by
    unfold upd2
    rw [if_neg (fun e => h2 ⟨e.1, Or.inl e.2⟩)]
  exact ⟨h.fs f, f, u_eq⟩
/-- the check ahead of a call -/
theorem m_gate (hY : Lay L) (hB : MB σ s) {a b d : _} {K : Int → Mm → Prop} {y : MethodName} (hy : y = y_Mod_goes) (k1 : a ≠ 0 → b ≠ 0 → ∀ σ', MB σ' s → FS σ σ' → σ' 102 0 = 0 → (∀ k j, ¬ (k = 102 ∧ j = 0) → σ' k j = σ k j) → K 1 σ') (k2 : a = 0 → ∀ σ', MB σ' s → FS σ σ' → σ' 102 0 = 1 → K 0 σ') (k3 : a ≠ 0 → b = 0 → ∀ σ', MB σ' s → FS σ σ' → σ' 102 0 = 2 → K 0 σ') : Ex d y [vr 102, vi a, vi b] L σ (PI L K NT) := by
  subst hy
  refine (Ex.toI (m_goes hY) ?_ (fun _ _ h => h)).deep (Nat.zero_le d)
  rintro z σ' (⟨h1, h2, rfl, rfl⟩ | ⟨h1, rfl, rfl⟩ | ⟨h1, h2, rfl, rfl⟩)
  · obtain ⟨a, b, c⟩ := hB.thr (σ := σ) 0
    exact k1 h1 h2 _ a b c fun k j hk => by unfold upd2; rw [if_neg hk]
  · obtain ⟨a, b, c⟩ := hB.thr (σ := σ) 1
    exact k2 h1 _ a b c
  · obtain ⟨a, b, c⟩ := hB.thr (σ := σ) 2
    exact k3 h1 h2 _ a b c
theorem mo_cand (hY : Lay L) (hq : okB s.1) (hB : MB σ s) {n : Int} : MOp y_Mod_candidates [vr 102, vi n] L σ (spCand s n) := by
  refine Ex.deep (d := 1) ?_ (by omega)
  refine e_Mod_candidates hY ((m_within hY).to (by omega) ?_)
  refine m_gate hY hB rfl (fun h1 _ σ' hB' hf h0 _ => ⟨fun _ => ?_, fun w => absurd w (by decide)⟩) (fun h1 σ' hB' hf h0 => ⟨fun w => absurd rfl w, fun _ => ⟨1, s, Or.inr ⟨bI_f h1, rfl, rfl⟩, h0, hB', hf.fm⟩⟩) (fun _ w => absurd w (by decide))
  have h7 := bI_t h1
  refine Ex.toV (m_reset hY u_eq h7) ?_ (fun _ _ h => h)
  rintro σ'' ⟨r1, r2, r3⟩
  have off : ∀ k j, ¬ (105 ≤ k ∧ k < 108) → ¬ (k = 102 ∧ (j = 1 ∨ j = 2)) → σ'' k j = σ' k j := fun k j a b => by
    rw [r3 k j a (by omega)]
    unfold upd2
    rw [if_neg (by omega)]
  refine ⟨0, (q0 n, s.2), Or.inl ⟨h7, rfl, hB'.1, rfl⟩, by rw [off _ _ (by omega) (by omega)]; exact h0, ⟨?_, r1, fun t k a b => absurd (show t < 0 from b) (by omega), fun t a b => absurd (show t < 0 from b) (by omega), fun k a b => (r2 k a b).1, fun k a b => (r2 k a b).2.1, fun k a b => (r2 k a b).2.2, by rw [off _ _ (by omega) (by omega)]; exact hB'.2.2.2.2.2.2.2.1, by rw [off _ _ (by omega) (by omega)]; exact hB'.2.2.2.2.2.2.2.2⟩, fun k j hk => by rw [off k j (by omega) (by omega)]; exact hf.fm k j hk⟩
  rw [r3 _ _ (by omega) (by omega), u_eq]
  rfl
theorem mo_amount (hY : Lay L) (hq : okB s.1) (hB : MB σ s) {t a : Int} : MOp y_Mod_amount [vr 102, vi t, vi a] L σ (spAm s t a) := by
  refine Ex.deep (d := 1) ?_ (by omega)
  have hT2 := hq.2.1
  refine e_Mod_amount hY ((m_isType hY hB.2.1).to (by omega) ((m_within hY).to (by omega) ?_))
  refine m_gate hY hB rfl (fun h1 h2 σ' hB' hf h0 _ => ⟨fun _ => ?_, fun w => absurd w (by decide)⟩) (fun h1 σ' hB' hf h0 => ⟨fun w => absurd rfl w, fun _ => ⟨1, s, Or.inr (Or.inl ⟨bI_f h1, rfl, rfl⟩), h0, hB', hf.fm⟩⟩) (fun h1 h2 σ' hB' hf h0 => ⟨fun w => absurd rfl w, fun _ => ⟨2, s, Or.inr (Or.inr ⟨bI_t h1, bI_f h2, rfl, rfl⟩), h0, hB', hf.fm⟩⟩)
  have ht := bI_t h1
  have ha := bI_t h2
  refine ⟨by omega, by omega, 0, (qam s.1 t a, s.2), Or.inl ⟨ht, ha, rfl, hB'.2.2.2.1 t ht.1 ht.2, rfl⟩, by rw [u_ne (by omega)]; exact h0, ⟨by rw [u_ne (by omega)]; exact hB'.1, by rw [u_ne (by omega)]; exact hB'.2.1, fun t k a b c d => by rw [u_ne (by omega)]; exact hB'.2.2.1 t k a b c d, fun u a b => ?_, fun k a b => by rw [u_ne (by omega)]; exact hB'.2.2.2.2.1 k a b, fun k a b => by rw [u_ne (by omega)]; exact hB'.2.2.2.2.2.1 k a b, fun k a b => by rw [u_ne (by omega)]; exact hB'.2.2.2.2.2.2.1 k a b, by rw [u_ne (by omega)]; exact hB'.2.2.2.2.2.2.2.1, by rw [u_ne (by omega)]; exact hB'.2.2.2.2.2.2.2.2⟩, fun k j hk => by rw [u_ne (by omega)]; exact hf.fm k j hk⟩
  rw [u_if, hB'.2.2.2.1 u a b]
  rfl
theorem mo_weight (hY : Lay L) (hq : okB s.1) (hB : MB σ s) {i w : Int} : MOp y_Mod_weight [vr 102, vi i, vi w] L σ (spWe s i w) := by
  refine Ex.deep (d := 1) ?_ (by omega)
  have hn := hq.1.1
  refine e_Mod_weight hY ⟨by rw [hB.1]; omega, ?_⟩
  rw [hB.1]
  refine (m_within hY).to (by omega) ((m_within hY).to (by omega) ?_)
  refine m_gate hY hB rfl (fun h1 h2 σ' hB' hf h0 _ => ⟨fun _ => ?_, fun w => absurd w (by decide)⟩) (fun h1 σ' hB' hf h0 => ⟨fun w => absurd rfl w, fun _ => ⟨1, s, Or.inr (Or.inl ⟨fun v => bI_f h1 (by omega), rfl, rfl⟩), h0, hB', hf.fm⟩⟩) (fun h1 h2 σ' hB' hf h0 => ⟨fun w => absurd rfl w, fun _ => ⟨2, s, Or.inr (Or.inr ⟨by have := bI_t h1; omega, bI_f h2, rfl, rfl⟩), h0, hB', hf.fm⟩⟩)
  have hi := bI_t h1
  have hw := bI_t h2
  refine ⟨by omega, by omega, 0, (qwe s.1 i w, s.2), Or.inl ⟨by omega, hw, rfl, hB'.2.2.2.2.2.2.1 i hi.1 (by omega), rfl⟩, by rw [u_ne (by omega)]; exact h0, ⟨by rw [u_ne (by omega)]; exact hB'.1, by rw [u_ne (by omega)]; exact hB'.2.1, fun t k a b c d => by rw [u_ne (by omega)]; exact hB'.2.2.1 t k a b c d, fun u a b => by rw [u_ne (by omega)]; exact hB'.2.2.2.1 u a b, fun k a b => by rw [u_ne (by omega)]; exact hB'.2.2.2.2.1 k a b, fun k a b => by rw [u_ne (by omega)]; exact hB'.2.2.2.2.2.1 k a b, fun k a b => ?_, by rw [u_ne (by omega)]; exact hB'.2.2.2.2.2.2.2.1, by rw [u_ne (by omega)]; exact hB'.2.2.2.2.2.2.2.2⟩, fun k j hk => by rw [u_ne (by omega)]; exact hf.fm k j hk⟩
  rw [u_if, hB'.2.2.2.2.2.2.1 k a b]
  rfl
theorem mo_tie (hY : Lay L) (hq : okB s.1) (hB : MB σ s) {o : Int} (h32 : in32 o) : MOp y_Mod_tieOrder [vr 102, vi o] L σ (spTie s o) := by
  refine Ex.deep (d := 1) ?_ (by omega)
  have hn := hq.1.1
  refine e_Mod_tieOrder hY ((m_isOrder hY h32 hB.1 hn).to (by omega) ?_)
  refine m_gate hY hB rfl (fun h1 h2 σ' hB' hf h0 _ => ⟨fun _ => ?_, fun w => absurd w (by decide)⟩) (fun h1 σ' hB' hf h0 => ⟨fun w => absurd rfl w, fun _ => ⟨1, s, Or.inr ⟨bI_f h1, rfl, rfl⟩, h0, hB', hf.fm⟩⟩) (fun _ w => absurd w (by decide))
  have ho := bI_t h1
  refine (m_packed hY (lk_105 hY) hB'.1 hn (by omega) (by omega) (by omega) (g := qI' s.1) (fun k k0 k1 => ?_)).to (by omega) ?_
  · have := hq.1.2.2.2.2.1.1 k k0 k1
    exact ⟨by rw [Int.zero_add]; exact hB'.2.2.2.2.1 k k0 k1, by omega, by omega⟩
  · refine Ex.toV (m_unpack hY (lk_105 hY) (by omega) ho.1.1 h32.2 hB'.1 hn (by omega) (by omega) (by omega)) ?_ (fun _ _ h => h)
    rintro σ'' ⟨u1, u2, u3⟩
    refine ⟨0, (qties s.1 (dg o), s.2), Or.inl ⟨ho, rfl, rfl, rfl⟩, by rw [u3 _ _ (by omega)]; exact h0, ⟨by rw [u3 _ _ (by omega)]; exact hB'.1, by rw [u3 _ _ (by omega)]; exact hB'.2.1, fun t k a b c d => by rw [u3 _ _ (by omega)]; exact hB'.2.2.1 t k a b c d, fun u a b => by rw [u3 _ _ (by omega)]; exact hB'.2.2.2.1 u a b, fun k a b => ?_, fun k a b => by rw [u3 _ _ (by omega)]; exact hB'.2.2.2.2.2.1 k a b, fun k a b => by rw [u3 _ _ (by omega)]; exact hB'.2.2.2.2.2.2.1 k a b, by rw [u3 _ _ (by omega)]; exact hB'.2.2.2.2.2.2.2.1, by rw [u3 _ _ (by omega)]; exact hB'.2.2.2.2.2.2.2.2⟩, fun k j hk => by rw [u3 _ _ (by omega)]; exact hf.fm k j hk⟩
    have := u1 k a b
    rw [Int.zero_add] at this
    exact this
theorem mo_agenda (hY : Lay L) (hq : okB s.1) (hB : MB σ s) {o : Int} (h32 : in32 o) : MOp y_Mod_agenda [vr 102, vi o] L σ (spAg s o) := by
  refine Ex.deep (d := 1) ?_ (by omega)
  have hn := hq.1.1
  refine e_Mod_agenda hY ((m_isOrder hY h32 hB.1 hn).to (by omega) ?_)
  refine m_gate hY hB rfl (fun h1 h2 σ' hB' hf h0 _ => ⟨fun _ => ?_, fun w => absurd w (by decide)⟩) (fun h1 σ' hB' hf h0 => ⟨fun w => absurd rfl w, fun _ => ⟨1, s, Or.inr ⟨bI_f h1, rfl, rfl⟩, h0, hB', hf.fm⟩⟩) (fun _ w => absurd w (by decide))
  have ho := bI_t h1
  refine (m_packed hY (lk_106 hY) hB'.1 hn (by omega) (by omega) (by omega) (g := qG s.1) (fun k k0 k1 => ?_)).to (by omega) ?_
  · have := hq.1.2.2.2.2.2.1.1 k k0 k1
    exact ⟨by rw [Int.zero_add]; exact hB'.2.2.2.2.2.1 k k0 k1, by omega, by omega⟩
  · refine Ex.toV (m_unpack hY (lk_106 hY) (by omega) ho.1.1 h32.2 hB'.1 hn (by omega) (by omega) (by omega)) ?_ (fun _ _ h => h)
    rintro σ'' ⟨u1, u2, u3⟩
    refine ⟨0, (qags s.1 (dg o), s.2), Or.inl ⟨ho, rfl, rfl, rfl⟩, by rw [u3 _ _ (by omega)]; exact h0, ⟨by rw [u3 _ _ (by omega)]; exact hB'.1, by rw [u3 _ _ (by omega)]; exact hB'.2.1, fun t k a b c d => by rw [u3 _ _ (by omega)]; exact hB'.2.2.1 t k a b c d, fun u a b => by rw [u3 _ _ (by omega)]; exact hB'.2.2.2.1 u a b, fun k a b => by rw [u3 _ _ (by omega)]; exact hB'.2.2.2.2.1 k a b, fun k a b => ?_, fun k a b => by rw [u3 _ _ (by omega)]; exact hB'.2.2.2.2.2.2.1 k a b, by rw [u3 _ _ (by omega)]; exact hB'.2.2.2.2.2.2.2.1, by rw [u3 _ _ (by omega)]; exact hB'.2.2.2.2.2.2.2.2⟩, fun k j hk => by rw [u3 _ _ (by omega)]; exact hf.fm k j hk⟩
    have := u1 k a b
    rw [Int.zero_add] at this
    exact this
end
