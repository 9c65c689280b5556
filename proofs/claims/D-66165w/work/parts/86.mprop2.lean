/-! THE MODEL's PROPERTIES, two: a candidate leaves -/
section
variable {L : List Sh} {σ : Mm} {s : St} {q : Pf}
theorem m_leaveOut (hY : Lay L) (hq : okP q) (hC : isC σ q) {c : Int} (hc : 0 ≤ c ∧ c < qN q) : Ex 1 y_Mod_leaveOut [vr 102, vi c] L σ (PV L (fun σ' => isC σ' (qwo q c) ∧ FL σ σ') NT) := by
  have hn := hq.1
  have hT := hq.2.1
  obtain ⟨h1, h2, h3, h4, h5, h6, h7⟩ := hC
  refine e_Mod_leaveOut hY ?_
  refine upto (P := fun t => ∀ σ', (∀ u k, 0 ≤ u → u < t → 0 ≤ k → k < qN q - 1 → σ' 108 (7 * u + k) = wo (qL q u) c k) → (∀ u k, t ≤ u → u < qT q → 0 ≤ k → k < qN q → σ' 108 (7 * u + k) = qL q u k) → (∀ k j, k ≠ 108 → σ' k j = σ k j) → G_Mod_leaveOut_2 0 L σ' (fun σ' => isC σ' (qwo q c) ∧ FL σ σ') NT c t) (a := 0) (n := qT q) ?_ ?_ 0 (by omega) (by omega) σ (fun u k u0 u1 => absurd u1 (by omega)) (fun u k u0 u1 k0 k1 => h3 u k u0 u1 k0 k1) (fun _ _ _ => rfl)
  · intro σ' a1 a2 a3
    have e9 : σ' 102 9 = qT q := by rw [a3 _ _ (by omega)]; exact h2
    refine r_Mod_leaveOut_2 hY ⟨fun _ => ?_, fun g => absurd g (by omega)⟩
    refine Ex.toV (m_without hY (lk_110 hY) (by omega) (n := qN q) (by rw [a3 _ _ (by omega)]; exact h1) hn (Int.le_refl 0) (by omega) (by omega) (g := qI' q) (fun k k0 k1 => by rw [Int.zero_add, a3 _ _ (by omega)]; exact h5 k k0 k1) hq.2.2.2.2.1 hc) ?_ (fun _ _ h => h)
    rintro σ₁ ⟨b1, b2, b3⟩
    refine Ex.toV (m_without hY (lk_111 hY) (by omega) (n := qN q) (by rw [b3 _ _ (by omega), a3 _ _ (by omega)]; exact h1) hn (Int.le_refl 0) (by omega) (by omega) (g := qG q) (fun k k0 k1 => by rw [Int.zero_add, b3 _ _ (by omega), a3 _ _ (by omega)]; exact h6 k k0 k1) hq.2.2.2.2.2.1 hc) ?_ (fun _ _ h => h)
    rintro σ₂ ⟨c1, c2, c3⟩
    have e8 : σ₂ 102 8 = qN q := by rw [c3 _ _ (by omega), b3 _ _ (by omega), a3 _ _ (by omega)]; exact h1
    rw [e8]
    refine ⟨by omega, ⟨u_eq, ?_, fun t k t0 t1 k0 k1 => ?_, fun t t0 t1 => ?_, fun k k0 k1 => ?_, fun k k0 k1 => ?_, fun k k0 k1 => ?_⟩, fun k j hk hj => ?_⟩
    · rw [u_ne2 (by omega), c3 _ _ (by omega), b3 _ _ (by omega), a3 _ _ (by omega)]; exact h2
    · rw [u_ne (by omega), c3 _ _ (by omega), b3 _ _ (by omega)]; exact a1 t k t0 t1 k0 k1
    · rw [u_ne (by omega), c3 _ _ (by omega), b3 _ _ (by omega), a3 _ _ (by omega)]; exact h4 t t0 t1
    · have := b1 k k0 k1
      rw [Int.zero_add] at this
      rw [u_ne (by omega), c3 _ _ (by omega)]; exact this
    · have := c1 k k0 k1
      rw [Int.zero_add] at this
      rw [u_ne (by omega)]; exact this
    · have k1 : k < qN q - 1 := k1
      rw [u_ne (by omega), c3 _ _ (by omega), b3 _ _ (by omega), a3 _ _ (by omega)]; exact h7 k k0 (by omega)
    · by_cases e : k = 102
      · subst e
        rw [u_ne2 (by omega), c3 _ _ (by omega), b3 _ _ (by omega), a3 _ _ (by omega)]
      · rw [u_ne e, c3 _ _ (by omega), b3 _ _ (by omega), a3 _ _ (by omega)]
  · intro t t0 t1 ih σ' a1 a2 a3
    have e9 : σ' 102 9 = qT q := by rw [a3 _ _ (by omega)]; exact h2
    refine r_Mod_leaveOut_2 hY ⟨fun g => absurd g (by omega), fun _ => ⟨by omega, ?_⟩⟩
    refine Ex.toV (m_without hY (lk_108 hY) (by omega) (n := qN q) (f := 7 * t) (by rw [a3 _ _ (by omega)]; exact h1) hn (by omega) (by omega) (by omega) (g := qL q t) (fun k k0 k1 => a2 t k (Int.le_refl t) t1 k0 k1) (hq.2.2.1 t t0 t1) hc) ?_ (fun _ _ h => h)
    rintro σ₁ ⟨b1, b2, b3⟩
    refine ⟨by omega, ih σ₁ (fun u k u0 u1 k0 k1 => ?_) (fun u k u0 u1 k0 k1 => ?_) (fun k j hk => by rw [b3 k j hk]; exact a3 k j hk)⟩
    · by_cases e : u = t
      · rw [e]; exact b1 k k0 k1
      · rw [b2 _ (by omega)]; exact a1 u k u0 (by omega) k0 k1
    · rw [b2 _ (by omega)]; exact a2 u k (by omega) u1 k0 k1
/-- the copy alone, and what is counted -/
def FW (σ σ' : Mm) : Prop := ∀ k j, ¬ (108 ≤ k ∧ k < 120) → ¬ (k = 102 ∧ (j = 8 ∨ j = 9)) → σ' k j = σ k j
theorem FW.refl (σ : Mm) : FW σ σ := fun _ _ _ _ => rfl
theorem FW.trans {a b c : Mm} (h : FW a b) (g : FW b c) : FW a c := fun k j h1 h2 => (g k j h1 h2).trans (h k j h1 h2)
theorem FW.fs {a b : Mm} (h : FW a b) : FS a b := fun k j h1 h2 => h k j h1 (by omega)
theorem FL.fw {a b : Mm} (h : FL a b) : FW a b := fun k j h1 h2 => h k j (by omega) h2
theorem FC.fw {a b : Mm} (h : FC a b) : FW a b := fun k j h1 h2 => h k j (by omega)
/-- work, and the first of them -/
theorem m_wf (hY : Lay L) (hq : okP q) (hC : isC σ q) {r : Int} (hr : 0 ≤ r ∧ r < 12) {d : Nat} (hd : 3 ≤ d) {K : Int → Mm → Prop} (h : ∀ z σ', wn r q z → (0 ≤ z ∧ z < qN q) → FC σ σ' → K z σ') : Ex d y_Mod_work [vr 102, vi r] L σ (PI L (fun z6 m6 => Ex d y_Mod_firstOf [vr 102, vi z6] L m6 (PI L K NT)) NT) := by
  refine (Ex.toI (m_work hY hq hC hr) ?_ (fun _ _ h => h)).deep hd
  rintro z σ₂ ⟨w1, w2, -⟩
  have hz := nz_of_isM w1 hq.1.2 (Wr_ex hq hr.1 hr.2)
  exact (m_firstOf hY hq (hC.fc w2) hz).to (by omega) (h _ _ ⟨z, w1, rfl⟩ (fo_in hq hz) w2)
theorem m_bPairs (hY : Lay L) (hq : okB s.1) (hB : MB σ s) {r p : Int} (hr : 0 ≤ r ∧ r < 12) {B : Int → Prop} (h0 : p = 0 → ∀ c, B c ↔ (allB s.1 1 c ∧ ¬ isM (hI 1 c) (qN s.1) (Wr r s.1))) (h1 : p ≠ 0 → ∀ c, B c ↔ (allB s.1 0 c ∧ Wr r s.1 c)) : Ex 4 y_Mod_brokenByPairs [vr 102, vi r, vi p] L σ (PI L (fun z σ' => leR B (qN s.1) z ∧ FW σ σ') NT) := by
  have hn := hq.1.1
  refine e_Mod_brokenByPairs hY ?_
  refine (Ex.toV (m_load hY hq hB) ?_ (fun _ _ h => h)).deep (by omega)
  rintro σ₁ ⟨hC, hl⟩
  refine (Ex.toI (m_work hY hq.1 hC hr) ?_ (fun _ _ h => h)).deep (by omega)
  rintro m σ₂ ⟨w1, w2, -, hT⟩
  have hC2 := hC.fc w2
  have F2 : FW σ σ₂ := hl.fw.trans w2.fw
  have e1 : σ₂ 102 1 = qN s.1 := by rw [F2 _ _ (by omega) (by omega)]; exact hB.1
  refine upto (P := fun c => (∀ y, 0 ≤ y → y < c → ¬ B y) → G_Mod_brokenByPairs_13 3 L σ₂ (fun z σ' => leR B (qN s.1) z ∧ FW σ σ') NT p m c) (a := 0) (n := qN s.1) ?_ ?_ 0 (by omega) (by omega) (fun y y0 y1 => absurd y1 (by omega))
  · intro h
    exact r_Mod_brokenByPairs_13 hY ⟨fun _ => ⟨Or.inr ⟨rfl, h⟩, F2⟩, fun g => absurd g (by omega)⟩
  · intro c c0 c1 ih h
    have hb := w1.bit c0 c1 hn.2
    have no : ¬ B c → G_Mod_brokenByPairs_77 3 L σ₂ (fun z σ' => leR B (qN s.1) z ∧ FW σ σ') NT p m c 0 := fun hno => r_Mod_brokenByPairs_77 hY ⟨fun _ => ⟨by omega, ih fun y y0 y1 => by
      by_cases e : y = c
      · rw [e]; exact hno
      · exact h y y0 (by omega)⟩, fun w => absurd rfl w⟩
    have ye : B c → G_Mod_brokenByPairs_77 3 L σ₂ (fun z σ' => leR B (qN s.1) z ∧ FW σ σ') NT p m c 1 := fun hy => r_Mod_brokenByPairs_77 hY ⟨fun w => absurd w (by decide), fun _ => ⟨Or.inl ⟨⟨c0, c1⟩, hy, h⟩, F2⟩⟩
    refine r_Mod_brokenByPairs_13 hY ⟨fun g => absurd g (by omega), fun _ => ⟨fun hp => ?_, fun hp => ?_⟩⟩
    · exact (m_over2 hY hq.1 hC2 hT ⟨c0, c1⟩).to (by omega) ⟨fun g => no fun v => bI_f g ((h1 hp c).mp v).1, fun g => ⟨fun g2 => no fun v => g2 (hb.1.mpr ((h1 hp c).mp v).2), fun g2 => ye ((h1 hp c).mpr ⟨bI_t g, hb.1.mp g2⟩)⟩⟩
    · exact (m_over2 hY hq.1 hC2 hT ⟨c0, c1⟩).to (by omega) ⟨fun g => no fun v => bI_f g ((h0 hp c).mp v).1, fun g => ⟨fun g2 => no fun v => ((h0 hp c).mp v).2 (g2 ▸ w1), fun g2 => ye ((h0 hp c).mpr ⟨bI_t g, fun v => g2 (w1.uniq v)⟩)⟩⟩
theorem isC_sw (hq : okP q) (h : isC σ q) {t k w : Int} (ht : 0 ≤ t ∧ t < qT q) (hk : 1 ≤ k ∧ k < qN q) (hw : qL q t k = w) : isC (upd2 (upd2 σ 108 (7 * t + k) (σ 108 (7 * t + k - 1))) 108 (7 * t + k - 1) w) (qsw q t k) := by
  have hn := hq.1
  obtain ⟨h1, h2, h3, h4, h5, h6, h7⟩ := h
  refine ⟨by rw [u_ne (by omega), u_ne (by omega)]; exact h1, by rw [u_ne (by omega), u_ne (by omega)]; exact h2, fun u i u0 u1 i0 i1 => ?_, fun u u0 u1 => by rw [u_ne (by omega), u_ne (by omega)]; exact h4 u u0 u1, fun k k0 k1 => by rw [u_ne (by omega), u_ne (by omega)]; exact h5 k k0 k1, fun k k0 k1 => by rw [u_ne (by omega), u_ne (by omega)]; exact h6 k k0 k1, fun k k0 k1 => by rw [u_ne (by omega), u_ne (by omega)]; exact h7 k k0 k1⟩
  have u1 : u < qT q := u1
  have i1 : i < qN q := i1
  have hr := h3 u i u0 u1 i0 i1
  have hp := h3 t (k - 1) ht.1 ht.2 (by omega) (by omega)
  show _ = (if u = t then sw (qL q t) k else qL q u) i
  rw [u_if, u_if]
  by_cases e : u = t
  · subst e
    rw [if_pos rfl]
    unfold sw
    by_cases e1 : i = k
    · rw [if_neg (by omega), if_pos (by omega), if_pos e1, show 7 * u + k - 1 = 7 * u + (k - 1) by omega]; exact hp
    · by_cases e2 : i = k - 1
      · rw [if_pos (by omega), if_neg e1, if_pos e2]; exact hw.symm
      · rw [if_neg (by omega), if_neg (by omega), if_neg e1, if_neg e2]; exact hr
  · rw [if_neg (by omega), if_neg (by omega), if_neg e]; exact hr
theorem isC_am (h : isC σ q) {t a : Int} : isC (upd2 σ 109 t a) (qam q t a) := by
  obtain ⟨h1, h2, h3, h4, h5, h6, h7⟩ := h
  refine ⟨by rw [u_ne (by omega)]; exact h1, by rw [u_ne (by omega)]; exact h2, fun u i u0 u1 i0 i1 => by rw [u_ne (by omega)]; exact h3 u i u0 u1 i0 i1, fun u u0 u1 => ?_, fun k k0 k1 => by rw [u_ne (by omega)]; exact h5 k k0 k1, fun k k0 k1 => by rw [u_ne (by omega)]; exact h6 k k0 k1, fun k k0 k1 => by rw [u_ne (by omega)]; exact h7 k k0 k1⟩
  show _ = if u = t then a else qA q u
  rw [u_if]
  by_cases e : u = t
  · rw [if_pos e, if_pos e]
  · rw [if_neg e, if_neg e]; exact h4 u u0 u1
theorem qam_id (q : Pf) (t : Int) : qam q t (qA q t) = q := by
  obtain ⟨n, T, l, am, ti, ag, we⟩ := q
  unfold qam
  show (n, T, l, (fun s => if s = t then am t else am s), ti, ag, we) = _
  have : (fun s => if s = t then am t else am s) = am := by
    funext s
    by_cases e : s = t
    · rw [if_pos e, e]
    · rw [if_neg e]
  rw [this]
theorem m_bType (hY : Lay L) (hq : okB s.1) (hB : MB σ s) {r p : Int} (hr : 0 ≤ r ∧ r < 12) {B : Int → Int → Prop} (h2 : p = 2 → B = bad2 s.1 r) (h3 : p ≠ 2 → p = 3 ∧ B = bad3 s.1 r) : Ex 4 y_Mod_brokenByType [vr 102, vi r, vi p] L σ (PI L (fun z σ' => (∃ w, wn r s.1 w ∧ leR (B w) (qT s.1) z) ∧ FW σ σ') NT) := by
  have hn := hq.1.1
  have hT := hq.1.2.1
  have hT2 := hq.2.1
  refine e_Mod_brokenByType hY ?_
  refine (Ex.toV (m_load hY hq hB) ?_ (fun _ _ h => h)).deep (by omega)
  rintro σ₁ ⟨hC, hl⟩
  refine m_wf hY hq.1 hC hr (by omega) fun w σ₂ hw hwi w2 => ?_
  have F2 : FW σ σ₂ := hl.fw.trans w2.fw
  refine upto (P := fun t => ∀ σ', (∀ y, 0 ≤ y → y < t → ¬ B w y) → FW σ σ' → G_Mod_brokenByType_17 3 L σ' (fun z σ' => (∃ w, wn r s.1 w ∧ leR (B w) (qT s.1) z) ∧ FW σ σ') NT r p w t) (a := 0) (n := qT s.1) ?_ ?_ 0 (by omega) (by omega) σ₂ (fun y y0 y1 => absurd y1 (by omega)) F2
  · intro σ' h hf
    have e2 : σ' 102 2 = qT s.1 := by rw [hf _ _ (by omega) (by omega)]; exact hB.2.1
    exact r_Mod_brokenByType_17 hY ⟨fun _ => ⟨⟨w, hw, Or.inr ⟨rfl, h⟩⟩, hf⟩, fun g => absurd g (by omega)⟩
  · intro t t0 t1 ih σ' h hf
    have e2 : σ' 102 2 = qT s.1 := by rw [hf _ _ (by omega) (by omega)]; exact hB.2.1
    have nx : ¬ B w t → ∀ y, 0 ≤ y → y < t + 1 → ¬ B w y := fun hno y y0 y1 => by
      by_cases e : y = t
      · rw [e]; exact hno
      · exact h y y0 (by omega)
    have hm := hq.1.2.2.1 t t0 t1
    have hs := ps_spec hn.2 hm hwi.1 hwi.2
    have ha := hq.1.2.2.2.1 t t0 t1
    have ha2 := hq.2.2 t t0 t1
    have last : ∀ σ' q' a, isC σ' q' → okP q' → FW σ σ' → (0 ≤ a ∧ a ≤ 100001) → (∀ c, wn r (qam q' t a) c → (c ≠ w ↔ B w t)) → G_Mod_brokenByType_128 3 L σ' (fun z σ' => (∃ w, wn r s.1 w ∧ leR (B w) (qT s.1) z) ∧ FW σ σ') NT r p w t a t := by
      intro σ' q' a hC' hq' hf' ha' hx
      refine r_Mod_brokenByType_128 hY ⟨by omega, m_wf hY (hq'.qam ha') (isC_am hC') hr (by omega) fun c σ₃ hc hci w3 => ?_⟩
      have F3 : FW σ σ₃ := (hf'.trans fun k j h1 h2 => by rw [u_ne (by omega)]).trans w3.fw
      exact ⟨fun e => ⟨by omega, ih σ₃ (nx fun v => (hx c hc).mpr v e) F3⟩, fun e => ⟨⟨w, hw, Or.inl ⟨⟨t0, t1⟩, (hx c hc).mp e, h⟩⟩, F3⟩⟩
    refine r_Mod_brokenByType_17 hY ⟨fun g => absurd g (by omega), fun _ => ?_⟩
    refine (Ex.toV (m_load hY hq (hB.fs hf.fs)) ?_ (fun _ _ h => h)).deep (by omega)
    rintro σ₃ ⟨hC3, hl3⟩
    have F3 : FW σ σ₃ := hf.trans hl3.fw
    have e9 : σ₃ 109 t = qA s.1 t := hC3.2.2.2.1 t t0 t1
    refine (m_placeOf hY hq.1 hC3 ⟨t0, t1⟩ hwi).to (by omega) ⟨fun hp => ?_, fun hp => ⟨fun hk => ?_, fun hk => ⟨by omega, by omega, by omega, by omega, by omega, by omega, by omega, by omega, by omega, by omega, by omega, ?_⟩⟩⟩
    · obtain ⟨hp3, hB3⟩ := h3 hp
      have at0 : qL s.1 t 0 = w ↔ ps (qL s.1 t) w = 0 := by
        constructor
        · intro e
          have := ps_at hn.2 hm (Int.le_refl 0) (show (0 : Int) < qN s.1 by omega)
          rw [e] at this
          exact this
        · intro e
          rw [← e]; exact hs.2.2
      refine r_Mod_brokenByType_93 hY ⟨fun g => absurd hp3 g, fun _ => ⟨fun g => ⟨by omega, ?_⟩, fun g => ⟨by omega, by omega, ?_⟩⟩⟩
      · rw [e9]
        refine last σ₃ s.1 _ hC3 hq.1 F3 (by omega) fun c hc => ?_
        rw [qam_id] at hc
        rw [hB3]
        exact ⟨fun e => absurd (hc.uniq hw) e, fun e => absurd (at0.mp e.1) g⟩
      · rw [e9]
        refine last σ₃ s.1 _ hC3 hq.1 F3 (by omega) fun c hc => ?_
        rw [hB3]
        refine ⟨fun e => ⟨at0.mpr g, c, hc, e⟩, fun e => ?_⟩
        obtain ⟨-, c', hc', hne⟩ := e
        rw [hc.uniq hc']; exact hne
    · refine r_Mod_brokenByType_93 hY ⟨fun _ => ⟨by omega, ?_⟩, fun g => absurd g (by omega)⟩
      rw [e9]
      refine last σ₃ s.1 _ hC3 hq.1 F3 (by omega) fun c hc => ?_
      rw [qam_id] at hc
      rw [h2 hp]
      exact ⟨fun e => absurd (hc.uniq hw) e, fun e => absurd (show ps (qL s.1 t) w = 0 by omega) e.1⟩
    · have hk2 : 1 ≤ ps (qL s.1 t) w ∧ ps (qL s.1 t) w < qN s.1 := by omega
      have C4 := isC_sw hq.1 hC3 ⟨t0, t1⟩ hk2 hs.2.2
      refine r_Mod_brokenByType_93 hY ⟨fun _ => ⟨by omega, ?_⟩, fun g => absurd g (by omega)⟩
      rw [u_ne (show (109 : Int) ≠ 108 by omega), u_ne (show (109 : Int) ≠ 108 by omega), e9]
      refine last _ _ _ C4 (hq.1.qsw ⟨t0, t1⟩ hk2) (F3.trans fun k j h1 h2 => by rw [u_ne (by omega), u_ne (by omega)]) (by omega) fun c hc => ?_
      have e : qam (qsw s.1 t (ps (qL s.1 t) w)) t (qA s.1 t) = qsw s.1 t (ps (qL s.1 t) w) := qam_id (qsw s.1 t (ps (qL s.1 t) w)) t
      rw [e] at hc
      rw [h2 hp]
      refine ⟨fun e => ⟨by omega, c, hc, e⟩, fun e => ?_⟩
      obtain ⟨-, c', hc', hne⟩ := e
      rw [hc.uniq hc']; exact hne
theorem m_bLeave (hY : Lay L) (hq : okB s.1) (hB : MB σ s) {r : Int} (hr : 0 ≤ r ∧ r < 12) : Ex 4 y_Mod_brokenByLeaving [vr 102, vi r] L σ (PI L (fun z σ' => (∃ w, wn r s.1 w ∧ leR (bad4 s.1 r w) (qN s.1) z) ∧ FW σ σ') NT) := by
  have hn := hq.1.1
  refine e_Mod_brokenByLeaving hY ?_
  refine (Ex.toV (m_load hY hq hB) ?_ (fun _ _ h => h)).deep (by omega)
  rintro σ₁ ⟨hC, hl⟩
  refine (Ex.toI (m_work hY hq.1 hC hr) ?_ (fun _ _ h => h)).deep (by omega)
  rintro m σ₂ ⟨w1, w2, -⟩
  have hz := nz_of_isM w1 hn.2 (Wr_ex hq.1 hr.1 hr.2)
  have hw : wn r s.1 (fo s.1 m) := ⟨m, w1, rfl⟩
  refine (m_firstOf hY hq.1 (hC.fc w2) hz).to (by omega) ?_
  have hwi := fo_in hq.1 hz
  generalize fo s.1 m = w at hw hwi
  have F2 : FW σ σ₂ := hl.fw.trans w2.fw
  refine upto (P := fun c => ∀ σ', (∀ y, 0 ≤ y → y < c → ¬ bad4 s.1 r w y) → FW σ σ' → G_Mod_brokenByLeaving_19 3 L σ' (fun z σ' => (∃ w, wn r s.1 w ∧ leR (bad4 s.1 r w) (qN s.1) z) ∧ FW σ σ') NT r m w c) (a := 0) (n := qN s.1) ?_ ?_ 0 (by omega) (by omega) σ₂ (fun y y0 y1 => absurd y1 (by omega)) F2
  · intro σ' h hf
    have e1 : σ' 102 1 = qN s.1 := by rw [hf _ _ (by omega) (by omega)]; exact hB.1
    exact r_Mod_brokenByLeaving_19 hY ⟨fun _ => ⟨⟨w, hw, Or.inr ⟨rfl, h⟩⟩, hf⟩, fun g => absurd g (by omega)⟩
  · intro c c0 c1 ih σ' h hf
    have e1 : σ' 102 1 = qN s.1 := by rw [hf _ _ (by omega) (by omega)]; exact hB.1
    have hb := w1.bit c0 c1 hn.2
    have nx : ¬ bad4 s.1 r w c → ∀ y, 0 ≤ y → y < c + 1 → ¬ bad4 s.1 r w y := fun hno y y0 y1 => by
      by_cases e : y = c
      · rw [e]; exact hno
      · exact h y y0 (by omega)
    refine r_Mod_brokenByLeaving_19 hY ⟨fun g => absurd g (by omega), fun _ => ?_⟩
    rw [e1]
    refine ⟨fun g => ⟨⟨w, hw, Or.inr ⟨rfl, fun y _ _ v => by have := v.1; omega⟩⟩, hf⟩, fun g => ⟨fun e => ⟨by omega, ih σ' (nx fun v => e (hb.2.mpr v.2.1)) hf⟩, fun e => ?_⟩⟩
    have hno : ¬ Wr r s.1 c := hb.2.mp e
    have ok2 := hq.1.qwo ⟨c0, c1⟩ (by omega)
    refine (Ex.toV (m_load hY hq (hB.fs hf.fs)) ?_ (fun _ _ h => h)).deep (by omega)
    rintro σ₃ ⟨hC3, hl3⟩
    refine (Ex.toV (m_leaveOut hY hq.1 hC3 ⟨c0, c1⟩) ?_ (fun _ _ h => h)).deep (by omega)
    rintro σ₄ ⟨hC4, hl4⟩
    refine m_wf hY ok2 hC4 hr (by omega) fun x σ₅ hx hxi w5 => ?_
    have F5 : FW σ σ₅ := ((hf.trans hl3.fw).trans hl4.fw).trans w5.fw
    refine ⟨fun g2 => ⟨fun g3 => ⟨by omega, ih σ₅ (nx fun v => ?_) F5⟩, fun g3 => ⟨⟨w, hw, Or.inl ⟨⟨c0, c1⟩, ⟨g, hno, x, hx, ?_⟩, h⟩⟩, F5⟩⟩, fun g2 => ⟨by omega, fun g3 => ⟨by omega, ih σ₅ (nx fun v => ?_) F5⟩, fun g3 => ⟨⟨w, hw, Or.inl ⟨⟨c0, c1⟩, ⟨g, hno, x, hx, ?_⟩, h⟩⟩, F5⟩⟩⟩
    · obtain ⟨-, -, y, hy, hne⟩ := v
      rw [if_neg (by omega)] at hne
      exact hne (by rw [hy.uniq hx]; exact g3)
    · rw [if_neg (by omega)]; exact g3
    · obtain ⟨-, -, y, hy, hne⟩ := v
      rw [if_pos g2] at hne
      exact hne (by rw [hy.uniq hx]; exact g3)
    · rw [if_pos g2]; exact g3
theorem MB.wit (h : MB σ s) (v : Int) : MB (upd2 σ 102 23 v) (s.1, s.2.1, v) := by
  obtain ⟨h1, h2, h3, h4, h5, h6, h7, h8, h9⟩ := h
  exact ⟨by rw [u_ne2 (by omega)]; exact h1, by rw [u_ne2 (by omega)]; exact h2, fun t k a b c d => by rw [u_ne (by omega)]; exact h3 t k a b c d, fun t a b => by rw [u_ne (by omega)]; exact h4 t a b, fun k a b => by rw [u_ne (by omega)]; exact h5 k a b, fun k a b => by rw [u_ne (by omega)]; exact h6 k a b, fun k a b => by rw [u_ne (by omega)]; exact h7 k a b, by rw [u_ne2 (by omega)]; exact h8, u_eq⟩
theorem mo_property (hY : Lay L) (hq : okB s.1) (hB : MB σ s) {r p : Int} : MOp y_Mod_property [vr 102, vi r, vi p] L σ (spProp s r p) := by
  refine Ex.deep (d := 5) ?_ (by omega)
  have go : ∀ x : Int, (x ≠ 0 ↔ ((0 ≤ r ∧ r < 12) ∧ 0 ≤ p ∧ p < 5)) → G_Mod_property_22 4 L σ (fun z σ' => ∃ k s', spProp s r p k z s' ∧ σ' 102 0 = k ∧ MB σ' s' ∧ FM σ σ') NT r p x := by
    intro x hx
    refine r_Mod_property_22 hY (m_gate hY hB rfl (fun h1 h2 σ' hB' hf h0 _ => ⟨fun _ => ?_, fun w => absurd w (by decide)⟩) (fun h1 σ' hB' hf h0 => ⟨fun w => absurd rfl w, fun _ => ⟨1, s, Or.inr ⟨fun w => (hx.mpr w) h1, rfl, rfl⟩, h0, hB', hf.fm⟩⟩) (fun _ w => absurd w (by decide)))
    have hg := hx.mp h1
    have fin : ∀ σ₁ v, wiR s.1 r p v → FW σ' σ₁ → (((upd2 σ₁ 102 23 v) 102 23 ≠ -1 → ∃ k s', spProp s r p k 0 s' ∧ (upd2 σ₁ 102 23 v) 102 0 = k ∧ MB (upd2 σ₁ 102 23 v) s' ∧ FM σ (upd2 σ₁ 102 23 v)) ∧ ((upd2 σ₁ 102 23 v) 102 23 = -1 → ∃ k s', spProp s r p k 1 s' ∧ (upd2 σ₁ 102 23 v) 102 0 = k ∧ MB (upd2 σ₁ 102 23 v) s' ∧ FM σ (upd2 σ₁ 102 23 v))) := by
      intro σ₁ v hv f1
      have M1 := (hB'.fs f1.fs).wit v
      have z1 : (upd2 σ₁ 102 23 v) 102 0 = 0 := by rw [u_ne2 (by omega), f1 _ _ (by omega) (by omega)]; exact h0
      have F1 : FM σ (upd2 σ₁ 102 23 v) := (hf.trans f1.fs).fm.trans fun k j hk => by rw [u_ne (by omega)]
      rw [u_eq]
      exact ⟨fun g => ⟨0, _, Or.inl ⟨hg, rfl, v, hv, rfl, (bI_n g).symm⟩, z1, M1, F1⟩, fun g => ⟨0, _, Or.inl ⟨hg, rfl, v, hv, rfl, (bI_p g).symm⟩, z1, M1, F1⟩⟩
    refine ⟨fun p2 => ⟨fun p4 => ?_, fun p4 => ?_⟩, fun p2 => ?_⟩
    · refine Ex.toI (m_bLeave hY hq hB' hg.1) ?_ (fun _ _ h => h)
      rintro v σ₁ ⟨hv, f1⟩
      refine fin σ₁ v ?_ f1
      unfold wiR
      rw [if_neg (by omega), if_neg (by omega), if_neg (by omega), if_neg (by omega)]
      exact hv
    · by_cases e : p = 2
      · subst e
        refine Ex.toI (m_bType hY hq hB' hg.1 (B := bad2 s.1 r) (fun _ => rfl) (fun w => absurd rfl w)) ?_ (fun _ _ h => h)
        rintro v σ₁ ⟨hv, f1⟩
        refine fin σ₁ v ?_ f1
        unfold wiR
        rw [if_neg (by omega), if_neg (by omega), if_pos rfl]
        exact hv
      · have e : p = 3 := by omega
        subst e
        refine Ex.toI (m_bType hY hq hB' hg.1 (B := bad3 s.1 r) (fun w => absurd w (by omega)) (fun _ => ⟨rfl, rfl⟩)) ?_ (fun _ _ h => h)
        rintro v σ₁ ⟨hv, f1⟩
        refine fin σ₁ v ?_ f1
        unfold wiR
        rw [if_neg (by omega), if_neg (by omega), if_neg (by omega), if_pos rfl]
        exact hv
    · by_cases e : p = 0
      · subst e
        refine Ex.toI (m_bPairs hY hq hB' hg.1 (fun _ c => Iff.rfl) (fun w => absurd rfl w)) ?_ (fun _ _ h => h)
        rintro v σ₁ ⟨hv, f1⟩
        refine fin σ₁ v ?_ f1
        unfold wiR
        rw [if_pos rfl]
        exact hv
      · have e : p = 1 := by omega
        subst e
        refine Ex.toI (m_bPairs hY hq hB' hg.1 (fun w => absurd w (by omega)) (fun _ c => Iff.rfl)) ?_ (fun _ _ h => h)
        rintro v σ₁ ⟨hv, f1⟩
        refine fin σ₁ v ?_ f1
        unfold wiR
        rw [if_neg (by omega), if_pos rfl]
        exact hv
  refine e_Mod_property hY ((m_isRule hY).to (by omega) ⟨fun h => go 0 ⟨fun w => absurd rfl w, fun w => absurd w.1 (bI_f h)⟩, fun h => ?_⟩)
  refine (m_within hY).to (by omega) ⟨fun h2 => go 0 ⟨fun w => absurd rfl w, fun w => absurd (show 0 ≤ p ∧ p ≤ 4 by omega) (bI_f h2)⟩, fun h2 => go 1 ⟨fun _ => ⟨bI_t h, ?_⟩, fun _ => by decide⟩⟩
  have := bI_t h2
  omega
end
