/-! CHANGE: some voters of a type vote otherwise -/
def qch (q : Pf) (t a : Int) (f : Int → Int) : Pf := qadd (qam q t (qA q t - a)) f a
theorem qch_L {q : Pf} {t a : Int} {f : Int → Int} (ht : t < qT q) : qL (qch q t a f) t = qL q t := by
  show (if t = qT q then f else qL q t) = qL q t
  rw [if_neg (by omega)]
def Pz (n : Int) (f : Int → Int) : Prop := Pm n f ∧ ∀ k, ¬ (0 ≤ k ∧ k < n) → f k = 0
def nrm (n : Int) (f : Int → Int) : Int → Int := fun k => if 0 ≤ k ∧ k < n then f k else 0
theorem nrm_eq (n : Int) (f : Int → Int) : eqn n f (nrm n f) := fun i a b => by unfold nrm; rw [if_pos ⟨a, b⟩]
theorem nrm_pz {n : Int} {f : Int → Int} (h : Pm n f) : Pz n (nrm n f) := ⟨h.ext (nrm_eq n f), fun k hk => by unfold nrm; rw [if_neg hk]⟩
theorem Pz.ext {n : Int} {f g : Int → Int} (h : Pz n f) (k : Pz n g) (e : eqn n f g) : f = g := by
  funext i
  by_cases c : 0 ≤ i ∧ i < n
  · exact e i c.1 c.2
  · rw [h.2 i c, k.2 i c]
theorem lx_r {n : Int} {f g h : Int → Int} (a : lx n h f) (e : eqn n f g) : lx n h g := by
  obtain ⟨p, hp, h1, h2⟩ := a
  exact ⟨p, hp, fun i x y => by rw [h1 i x y]; exact e i x (by omega), by rw [← e p hp.1 hp.2]; exact h2⟩
theorem lx_l {n : Int} {f g h : Int → Int} (a : lx n f h) (e : eqn n f g) : lx n g h := by
  obtain ⟨p, hp, h1, h2⟩ := a
  exact ⟨p, hp, fun i x y => by rw [← h1 i x y]; exact (e i x (by omega)).symm, by rw [← e p hp.1 hp.2]; exact h2⟩
/-- the winner's place in the type's own order, if the others vote so -/
def plR (q : Pf) (r t a : Int) (f : Int → Int) (v : Int) : Prop := ∃ w, wn r (qch q t a f) w ∧ (0 ≤ w ∧ w < qN q) ∧ v = ps (qL q t) w
theorem plR.uniq {q : Pf} {r t a : Int} {f : Int → Int} {v v' : Int} (h : plR q r t a f v) (k : plR q r t a f v') : v = v' := by
  obtain ⟨w, h1, -, rfl⟩ := h
  obtain ⟨w', k1, -, rfl⟩ := k
  rw [h1.uniq k1]
def cB (q : Pf) (r t a now v c : Int) : Prop := (v = now ∧ c = -1) ∨ (v < now ∧ ∃ g, Pz (qN q) g ∧ plR q r t a g v ∧ c = pk g (qN q) ∧ ∀ h v', Pz (qN q) h → lx (qN q) h g → plR q r t a h v' → v < v')
def chR (q : Pf) (r t a now v c : Int) : Prop := (∀ h v', Pz (qN q) h → plR q r t a h v' → v ≤ v') ∧ cB q r t a now v c
def cI (q : Pf) (r t a now v c : Int) (f : Int → Int) : Prop := (∀ h v', Pz (qN q) h → lx (qN q) h f → plR q r t a h v' → v ≤ v') ∧ cB q r t a now v c
def cJ (q : Pf) (r t a now v c : Int) (f : Int → Int) : Prop := (∀ h v', Pz (qN q) h → (lx (qN q) h f ∨ h = f) → plR q r t a h v' → v ≤ v') ∧ cB q r t a now v c
theorem cB.le {q : Pf} {r t a now v c : Int} (h : cB q r t a now v c) : v ≤ now := by
  rcases h with h | h <;> omega
theorem cI.step {q : Pf} {r t a now v c v0 : Int} {f : Int → Int} (hf : Pz (qN q) f) (hv : plR q r t a f v0) (h : cI q r t a now v c f) : (v0 < v → cJ q r t a now v0 (pk f (qN q)) f) ∧ (v ≤ v0 → cJ q r t a now v c f) := by
  have hle := h.2.le
  refine ⟨fun hlt => ⟨fun x v' hx hl hp => ?_, Or.inr ⟨by omega, f, hf, hv, rfl, fun x v' hx hl hp => ?_⟩⟩, fun hge => ⟨fun x v' hx hl hp => ?_, h.2⟩⟩
  · rcases hl with hl | rfl
    · have := h.1 x v' hx hl hp
      omega
    · rw [hv.uniq hp]; exact Int.le_refl _
  · have := h.1 x v' hx hl hp
    omega
  · rcases hl with hl | rfl
    · exact h.1 x v' hx hl hp
    · rw [← hv.uniq hp]; exact hge
theorem cJ.next {q : Pf} (hq : okP q) {r t a now v c : Int} {f g : Int → Int} (h : cJ q r t a now v c (nrm (qN q) f)) (hf : Pm (qN q) f) (hn : isNx (qN q) f g) : cI q r t a now v c (nrm (qN q) g) := by
  have h7 := hq.1
  refine ⟨fun x v' hx hl hp => h.1 x v' hx ?_ hp, h.2⟩
  have hl2 := lx_r hl (nrm_eq (qN q) g).symm
  rcases lx_tri (show 0 ≤ qN q by omega) x f with u | u | u
  · exact Or.inr (hx.ext (nrm_pz hf) (u.trans (nrm_eq (qN q) f)))
  · exact Or.inl (lx_r u (nrm_eq (qN q) f))
  · exact absurd hl2 (hn.btw hf hx.1 u)
theorem cJ.last {q : Pf} (hq : okP q) {r t a now v c : Int} {f : Int → Int} (h : cJ q r t a now v c (nrm (qN q) f)) (hf : Pm (qN q) f) (hn : isLast (qN q) f) : chR q r t a now v c := by
  have h7 := hq.1
  refine ⟨fun x v' hx hp => h.1 x v' hx ?_ hp, h.2⟩
  rcases lx_tri (show 0 ≤ qN q by omega) x f with u | u | u
  · exact Or.inr (hx.ext (nrm_pz hf) (u.trans (nrm_eq (qN q) f)))
  · exact Or.inl (lx_r u (nrm_eq (qN q) f))
  · exact absurd u (hn.top hf hx.1)
theorem cJ.zero {q : Pf} (hq : okP q) {r t a now v c : Int} {f : Int → Int} (ht : 0 ≤ t ∧ t < qT q) (h : cJ q r t a now v c f) (hv : v ≤ 0) : chR q r t a now v c := by
  refine ⟨fun x v' hx hp => ?_, h.2⟩
  obtain ⟨w, -, hw, rfl⟩ := hp
  have := ps_spec hq.1.2 (hq.2.2.1 t ht.1 ht.2) hw.1 hw.2
  omega
theorem chR.uniq {q : Pf} (hq : okP q) {r t a now v c v' c' : Int} (h : chR q r t a now v c) (k : chR q r t a now v' c') : v = v' ∧ c = c' := by
  have h7 := hq.1
  have e : v = v' := by
    rcases h.2 with ⟨h1, -⟩ | ⟨h1, g, hg, hp, -, -⟩ <;> rcases k.2 with ⟨k1, -⟩ | ⟨k1, g', hg', hp', -, -⟩
    · omega
    · have := h.1 g' v' hg' hp'
      omega
    · have := k.1 g v hg hp
      omega
    · have := h.1 g' v' hg' hp'
      have := k.1 g v hg hp
      omega
  subst e
  refine ⟨rfl, ?_⟩
  rcases h.2 with ⟨h1, h2⟩ | ⟨h1, g, hg, hp, h3, h4⟩ <;> rcases k.2 with ⟨k1, k2⟩ | ⟨k1, g', hg', hp', k3, k4⟩
  · omega
  · omega
  · omega
  · rw [h3, k3]
    rcases lx_tri (show 0 ≤ qN q by omega) g g' with u | u | u
    · exact pk_ext (by omega) u
    · have := k4 g v hg u hp
      omega
    · have := h4 g' v hg' u hp'
      omega
def nowR (q : Pf) (r t now : Int) : Prop := ∃ w, wn r q w ∧ now = ps (qL q t) w
def spChg (s : St) (r t a : Int) : Sp := fun k z s' => (((0 ≤ r ∧ r < 12) ∧ 0 ≤ t ∧ t < qT s.1) ∧ (1 ≤ a ∧ a ≤ qA s.1 t) ∧ k = 0 ∧ ∃ now v c, nowR s.1 r t now ∧ chR s.1 r t a now v c ∧ s' = (s.1, c, s.2.2) ∧ z = if v < now then v + 1 else 0) ∨ (¬ ((0 ≤ r ∧ r < 12) ∧ 0 ≤ t ∧ t < qT s.1) ∧ k = 1 ∧ s' = s) ∨ (((0 ≤ r ∧ r < 12) ∧ 0 ≤ t ∧ t < qT s.1) ∧ ¬ (1 ≤ a ∧ a ≤ qA s.1 t) ∧ k = 2 ∧ s' = s)
theorem cI.first {q : Pf} {r t a now : Int} {f : Int → Int} (hid : ∀ i, 0 ≤ i → i < qN q → f i = i) : cI q r t a now now (-1) (nrm (qN q) f) := ⟨fun _ _ hx hl _ => absurd (lx_r hl (nrm_eq (qN q) f).symm) (id_low hid hx.1), Or.inl ⟨rfl, rfl⟩⟩
section
variable {L : List Sh} {σ : Mm} {s : St} {q : Pf}
theorem DI.chg (h : DI σ s) (v : Int) : DI (upd2 σ 0 8 v) (s.1, v, s.2.2) ∧ FD σ (upd2 σ 0 8 v) := by
  have hn := h.1.1.1
  have hT := h.1.1.2.1
  have hP := h.2.1
  refine ⟨⟨h.1, ⟨by rw [u_ne (by omega)]; exact hP.1, by rw [u_ne (by omega)]; exact hP.2.1, fun t k a b c d => by rw [u_ne (by omega)]; exact hP.2.2.1 t k a b c d, fun t a b => by rw [u_ne (by omega)]; exact hP.2.2.2.1 t a b, fun x y a b c d => by rw [u_ne (by omega)]; exact hP.2.2.2.2.1 x y a b c d, fun k a b => by rw [u_ne (by omega)]; exact hP.2.2.2.2.2.1 k a b, fun k a b => by rw [u_ne (by omega)]; exact hP.2.2.2.2.2.2.1 k a b, fun k a b => by rw [u_ne (by omega)]; exact hP.2.2.2.2.2.2.2 k a b⟩, ?_, u_eq, by rw [u_ne2 (by omega)]; exact h.2.2.2.2⟩, fun k j hk => by rw [u_ne (by omega)]⟩
  have h3 := h.2.2.1
  unfold Fl at h3 ⊢
  rw [u_ne (by omega), u_ne (by omega), u_ne (by omega), u_ne (by omega), u_ne (by omega)]
  exact h3
theorem okP.qch (hq : okP q) (hT : qT q ≤ 20) {t a : Int} (h1 : 0 ≤ qA q t - a ∧ qA q t - a ≤ 100001) (ha : 0 ≤ a ∧ a ≤ 100001) {f : Int → Int} (hf : Pm (qN q) f) : okP (Jvm.Pilot.CBallotDeskLaw_law_r5075_f3b600.qch q t a f) := (hq.qam h1).qadd hf ha hT
theorem d_change (hY : Lay L) (hD : DI σ s) {r t a : Int} : DOp y_Desk_change [vr 0, vi r, vi t, vi a] L σ (spChg s r t a) (fun c => if c = 2 then 1 else 2) := by
  refine Ex.deep (d := 12) ?_ (by omega)
  have hq := hD.1.1
  have hn := hq.1
  have hT := hq.2.1
  have hT2 := hD.1.2.1
  have go : (0 ≤ r ∧ r < 12) → (0 ≤ t ∧ t < qT s.1) → ∀ x : Int, (x ≠ 0 ↔ (1 ≤ a ∧ a ≤ qA s.1 t)) → G_Desk_change_33 11 L σ (fun z σ' => ∃ s', spChg s r t a 0 z s' ∧ DI σ' s' ∧ FD σ σ') (fun c σ' => ∃ s', spChg s r t a ((fun c => if c = 2 then 1 else 2) c) 0 s' ∧ DI σ' s' ∧ FD σ σ' ∧ 1 ≤ (fun c => if c = 2 then (1 : Int) else 2) c) r t a x := by
    intro hr ht x hx
    refine r_Desk_change_33 hY ((c_allow hY).to (by omega) (fun w => ?_) (fun w => ⟨s, Or.inr (Or.inr ⟨⟨hr, ht⟩, fun g => w (hx.mpr g), rfl, rfl⟩), hD, FD.refl σ, by decide⟩))
    have ha := hx.mp w
    have hA := hD.1.2.2 t ht.1 ht.2
    have hm := hq.2.2.1 t ht.1 ht.2
    refine Ex.deep (d := 10) ?_ (by omega)
    refine Ex.toI (c_chosen hY pr30 hq hD.2.1 hD.2.2.1 hr) ?_ (fun _ _ h => h.elim)
    rintro w0 σ₀ ⟨⟨hw0, hwi⟩, f0⟩
    have D0 := hD.fr f0
    refine Ex.deep (d := 0) ?_ (by omega)
    refine (c_placeOf hY pr30 hq D0.2.1 ht hwi).to (by omega) ?_
    have hnow : nowR s.1 r t (ps (qL s.1 t) w0) := ⟨w0, hw0, rfl⟩
    have hnr := ps_spec hn.2 hm hwi.1 hwi.2
    generalize ps (qL s.1 t) w0 = now at hnow hnr
    obtain ⟨D1, F1⟩ := D0.chg (-1)
    have F1 := f0.fd.trans F1
    generalize upd2 σ₀ 0 8 (-1) = σ₁ at D1 F1
    -- the profile without those voters
    have okb1 : okB (qam s.1 t (qA s.1 t - a)) := hD.1.am (by omega)
    have ok1 := okb1.1
    have back : qam (qam s.1 t (qA s.1 t - a)) t (qA s.1 t) = s.1 := qam_qam _ _ _
    -- the end
    have fin : ∀ σ' v c, DI σ' (qam s.1 t (qA s.1 t - a), c, s.2.2) → FD σ σ' → chR s.1 r t a now v c → G_Desk_change_183 11 L σ' (fun z σ' => ∃ s', spChg s r t a 0 z s' ∧ DI σ' s' ∧ FD σ σ') (fun c σ' => ∃ s', spChg s r t a ((fun c => if c = 2 then 1 else 2) c) 0 s' ∧ DI σ' s' ∧ FD σ σ' ∧ 1 ≤ (fun c => if c = 2 then (1 : Int) else 2) c) t v now (qA s.1 t) := by
      intro σ' v c D' F' hc
      have hle := hc.2.le
      have hv0 : 0 ≤ v + 1 ∧ v ≤ 7 := by
        rcases hc.2 with ⟨h1, -⟩ | ⟨h1, g, hg, ⟨w, -, hw, hv⟩, -, -⟩
        · omega
        · have := ps_spec hn.2 hm hw.1 hw.2
          omega
      refine r_Desk_change_183 hY ((Ex.toI (c_amount hY pr30 ok1 D'.2.1 (t := t) (a := qA s.1 t) ht (by omega)) ?_ (fun _ _ h => h)).deep (by omega))
      rintro z σ₂ ⟨-, p2, f2⟩
      rw [back] at p2
      have D2 : DI σ₂ (s.1, c, s.2.2) := D'.prof hD.1 p2 f2.lo
      exact ⟨fun g => ⟨_, Or.inl ⟨⟨hr, ht⟩, ha, rfl, now, v, c, hnow, hc, rfl, by rw [if_neg (by omega)]⟩, D2, F'.trans f2.fd⟩, fun g => ⟨by omega, _, Or.inl ⟨⟨hr, ht⟩, ha, rfl, now, v, c, hnow, hc, rfl, by rw [if_pos g]⟩, D2, F'.trans f2.fd⟩⟩
    -- the loop over the orders
    have loop : ∀ (N : Nat) (σ' : Mm) (v c : Int), 2097152 - vnum (σ' 29) (qN s.1).toNat ≤ N → DI σ' (qam s.1 t (qA s.1 t - a), c, s.2.2) → FD σ σ' → Pm (qN s.1) (σ' 29) → cI s.1 r t a now v c (nrm (qN s.1) (σ' 29)) → G_Desk_change_111 11 L σ' (fun z σ' => ∃ s', spChg s r t a 0 z s' ∧ DI σ' s' ∧ FD σ σ') (fun c σ' => ∃ s', spChg s r t a ((fun c => if c = 2 then 1 else 2) c) 0 s' ∧ DI σ' s' ∧ FD σ σ' ∧ 1 ≤ (fun c => if c = 2 then (1 : Int) else 2) c) r t a v now (qA s.1 t) := by
      intro N
      induction N with
      | zero =>
        intro σ' v c hN _ _ hp _
        have := Pm_num ⟨by omega, hn.2⟩ hp
        omega
      | succ N ih =>
        intro σ' v c hN D' F' hp hI
        have hz := nrm_pz hp
        have ok2 : okP (qch s.1 t a (nrm (qN s.1) (σ' 29))) := hq.qch hT2 (by omega) (by omega) hz.1
        -- when this order was tried
        have after : ∀ (σ₄ : Mm) (v c : Int), (∀ i, σ₄ 29 i = σ' 29 i) → DI σ₄ (qam s.1 t (qA s.1 t - a), c, s.2.2) → FD σ σ₄ → cJ s.1 r t a now v c (nrm (qN s.1) (σ' 29)) → G_Desk_change_171 11 L σ₄ (fun z σ' => ∃ s', spChg s r t a 0 z s' ∧ DI σ' s' ∧ FD σ σ') (fun c σ' => ∃ s', spChg s r t a ((fun c => if c = 2 then 1 else 2) c) 0 s' ∧ DI σ' s' ∧ FD σ σ' ∧ 1 ≤ (fun c => if c = 2 then (1 : Int) else 2) c) r t a v now (qA s.1 t) := by
          intro σ₄ v c h29 D4 F4 hJ
          have e29 : σ₄ 29 = σ' 29 := funext h29
          refine r_Desk_change_171 hY ⟨fun g => fin σ₄ v c D4 F4 (hJ.zero hq ht g), fun g => ?_⟩
          refine (Ex.toI (c_advance hY (n := qN s.1) D4.2.1.1 hn (by rw [e29]; exact hp)) ?_ (fun _ _ h => h)).deep (by omega)
          rintro z σ₅ ⟨hzz, hz0, h6⟩
          rw [e29] at hzz
          have D5 : DI σ₅ (qam s.1 t (qA s.1 t - a), c, s.2.2) := D4.off fun k j hk => h6 k j (by omega)
          have F5 : FD σ σ₅ := F4.trans fun k j hk => h6 k j (by omega)
          rcases hzz with ⟨rfl, hlast⟩ | ⟨rfl, hnx⟩
          · exact ⟨fun w => absurd rfl w, fun _ => fin σ₅ v c D5 F5 (hJ.last hq hp hlast)⟩
          · have p5 := hnx.pm hp
            refine ⟨fun _ => ih σ₅ v c ?_ D5 F5 p5 (hJ.next hq hp hnx), fun w => absurd w (by decide)⟩
            have h7 := lx_num hnx.lt (fun i a b => by have := hp.1 i a b; omega) (fun i a b => (p5.1 i a b).1)
            omega
        refine r_Desk_change_111 hY ((Ex.toV (c_add hY pr30 ok1 D'.2.1 (lk_29 hY) (by show qN s.1 ≤ _; omega) (Or.inl (by omega)) hp (a := a) (by omega) (by show qT s.1 ≤ 20; omega)) ?_ (fun _ _ h => h)).deep (by omega))
        rintro σ₂ ⟨p2, f2⟩
        have ev : Eqv (qadd (qam s.1 t (qA s.1 t - a)) (σ' 29) a) (qch s.1 t a (nrm (qN s.1) (σ' 29))) := by
          refine ⟨rfl, rfl, fun u k u0 u1 k0 k1 => ?_, fun _ _ _ => rfl, fun _ _ _ => rfl, fun _ _ _ => rfl, fun _ _ _ => rfl⟩
          show (if u = qT s.1 then σ' 29 else qL s.1 u) k = (if u = qT s.1 then nrm (qN s.1) (σ' 29) else qL s.1 u) k
          split
          · exact nrm_eq (qN s.1) (σ' 29) k k0 k1
          · rfl
        have p2 := p2.eqv (ok1.qadd hp (by omega) (by show qT s.1 ≤ 20; omega)) ev
        refine Ex.deep (d := 10) ?_ (by omega)
        refine Ex.toI (c_chosen hY pr30 ok2 p2 (D'.2.2.1.lo f2.lo) hr) ?_ (fun _ _ h => h)
        rintro w1 σ₃ ⟨⟨hw1, hw1i⟩, f3⟩
        have p3 := p2.fr ok2 pr30 f3
        have hw1i : 0 ≤ w1 ∧ w1 < qN s.1 := hw1i
        refine (c_placeOf hY pr30 ok2 p3 (t := t) ⟨ht.1, by show t < qT s.1 + 1; omega⟩ hw1i).to (by omega) ?_
        rw [qch_L ht.2]
        have hpl : plR s.1 r t a (nrm (qN s.1) (σ' 29)) (ps (qL s.1 t) w1) := ⟨w1, hw1, hw1i, rfl⟩
        have hst := hI.step hz hpl
        generalize ps (qL s.1 t) w1 = v0 at hpl hst
        have e31 : σ₃ 30 1 = qT s.1 + 1 := p3.2.1
        rw [e31, show qT s.1 + 1 - 1 = qT s.1 by omega]
        refine ⟨by omega, ?_⟩
        refine (Ex.toV (c_drop hY pr30 ok2 p3 (t := qT s.1) ⟨hT.1, by show qT s.1 < qT s.1 + 1; omega⟩) ?_ (fun _ _ h => h)).deep (by omega)
        rintro σ₄ ⟨p4, f4⟩
        have ev2 : Eqv (qdrop (qch s.1 t a (nrm (qN s.1) (σ' 29))) (qT s.1)) (qam s.1 t (qA s.1 t - a)) := by
          refine ⟨rfl, by show qT s.1 + 1 - 1 = qT s.1; omega, fun u k u0 u1 k0 k1 => ?_, fun u u0 u1 => ?_, fun _ _ _ => rfl, fun _ _ _ => rfl, fun _ _ _ => rfl⟩
          · have u1 : u < qT s.1 + 1 - 1 := u1
            show (if u < qT s.1 then (if u = qT s.1 then nrm (qN s.1) (σ' 29) else qL s.1 u) else _) k = qL s.1 u k
            rw [if_pos (by omega), if_neg (by omega)]
          · have u1 : u < qT s.1 + 1 - 1 := u1
            show (if u < qT s.1 then (if u = qT s.1 then a else if u = t then qA s.1 t - a else qA s.1 u) else _) = if u = t then qA s.1 t - a else qA s.1 u
            rw [if_pos (by omega), if_neg (by omega)]
        have p4 := p4.eqv (ok2.qdrop ⟨hT.1, by show qT s.1 < qT s.1 + 1; omega⟩) ev2
        have D4 : DI σ₄ (qam s.1 t (qA s.1 t - a), c, s.2.2) := D'.back p4 fun k j hk => by rw [f4.six k j hk, f3.six k j hk, f2.six k j hk]
        have F4 : FD σ σ₄ := ((F'.trans f2.fd).trans f3.fd).trans f4.fd
        have h29 : ∀ i, σ₄ 29 i = σ' 29 i := fun i => by rw [f4 29 i (by omega), f3 29 i (by unfold scr; omega), f2 29 i (by omega)]
        refine ⟨fun g => after σ₄ v c h29 D4 F4 (hst.2 g), fun g => ?_⟩
        refine (c_pack hY (lk_29 hY) (n := qN s.1) D4.2.1.1 hn (by omega) (f := nrm (qN s.1) (σ' 29)) (fun k k0 k1 => ⟨by rw [h29]; exact nrm_eq (qN s.1) (σ' 29) k k0 k1, by have := hz.1.1 k k0 k1; omega⟩)).to (by omega) (r_Desk_change_168 hY ?_)
        obtain ⟨D5, F5⟩ := D4.chg (pk (nrm (qN s.1) (σ' 29)) (qN s.1))
        exact after _ v0 _ (fun i => by rw [u_ne (by omega)]; exact h29 i) D5 (F4.trans F5) (hst.1 g)
    -- the first order
    refine upto (P := fun k => ∀ σ', (∀ i, 0 ≤ i → i < k → σ' 29 i = i) → DI σ' (s.1, -1, s.2.2) → FD σ σ' → G_Desk_change_69 11 L σ' (fun z σ' => ∃ s', spChg s r t a 0 z s' ∧ DI σ' s' ∧ FD σ σ') (fun c σ' => ∃ s', spChg s r t a ((fun c => if c = 2 then 1 else 2) c) 0 s' ∧ DI σ' s' ∧ FD σ σ' ∧ 1 ≤ (fun c => if c = 2 then (1 : Int) else 2) c) r t a now now k) (a := 0) (n := qN s.1) ?_ ?_ 0 (by omega) (by omega) σ₁ (fun i a b => absurd b (by omega)) D1 F1
    · intro σ' hid D' F'
      have en : σ' 30 0 = qN s.1 := D'.2.1.1
      have eA : σ' (30 + 23) t = qA s.1 t := D'.2.1.2.2.2.1 t ht.1 ht.2
      refine r_Desk_change_69 hY ⟨fun _ => ⟨by omega, ?_⟩, fun g => absurd g (by omega)⟩
      rw [eA]
      refine ⟨by omega, (Ex.toI (c_amount hY pr30 hq D'.2.1 (t := t) (a := qA s.1 t - a) ht (by omega)) ?_ (fun _ _ h => h)).deep (by omega)⟩
      rintro z σ₂ ⟨rfl, p2, f2⟩
      have h2 : ∀ i, 0 ≤ i → i < qN s.1 → σ₂ 29 i = i := fun i i0 i1 => by rw [f2 29 i (by omega)]; exact hid i i0 i1
      have pm2 : Pm (qN s.1) (σ₂ 29) := Pm.id.ext fun i i0 i1 => (h2 i i0 i1).symm
      exact loop 2097152 σ₂ now (-1) (by have := (Pm_num ⟨by omega, hn.2⟩ pm2).1; omega) (D'.prof okb1 p2 f2.lo) (F'.trans f2.fd) pm2 (cI.first h2)
    · intro k k0 k1 ihk σ' hid D' F'
      have en : σ' 30 0 = qN s.1 := D'.2.1.1
      refine r_Desk_change_69 hY ⟨fun g => absurd g (by omega), fun _ => ⟨by omega, by omega, ihk _ (fun i i0 i1 => ?_) (D'.off fun x j hx => by rw [u_ne (by omega)]) (F'.trans fun x j hx => by rw [u_ne (by omega)])⟩⟩
      rw [u_if]
      by_cases e : i = k
      · rw [if_pos e, e]
      · rw [if_neg e]; exact hid i i0 (by omega)
  refine e_Desk_change hY ((c_ruled hY).to (by omega) (fun hr => ?_) (fun hr => ⟨s, Or.inr (Or.inl ⟨fun g => hr g.1, rfl, rfl⟩), hD, FD.refl σ, by decide⟩))
  refine (c_typed hY hD.2.1.2.1).to (by omega) (fun ht => ?_) (fun ht => ⟨s, Or.inr (Or.inl ⟨fun g => ht g.2, rfl, rfl⟩), hD, FD.refl σ, by decide⟩)
  refine ⟨fun g => go hr ht 0 (by omega), fun g => ⟨by omega, ?_⟩⟩
  rw [hD.2.1.2.2.2.1 t ht.1 ht.2]
  exact ⟨fun g2 => go hr ht 0 (by omega), fun g2 => go hr ht 1 (by omega)⟩
theorem MB.chg (h : MB σ s) (v : Int) : MB (upd2 σ 102 22 v) (s.1, v, s.2.2) := by
  obtain ⟨h1, h2, h3, h4, h5, h6, h7, h8, h9⟩ := h
  exact ⟨by rw [u_ne2 (by omega)]; exact h1, by rw [u_ne2 (by omega)]; exact h2, fun t k a b c d => by rw [u_ne (by omega)]; exact h3 t k a b c d, fun t a b => by rw [u_ne (by omega)]; exact h4 t a b, fun k a b => by rw [u_ne (by omega)]; exact h5 k a b, fun k a b => by rw [u_ne (by omega)]; exact h6 k a b, fun k a b => by rw [u_ne (by omega)]; exact h7 k a b, u_eq, by rw [u_ne2 (by omega)]; exact h9⟩
theorem mo_change (hY : Lay L) (hq : okB s.1) (hB : MB σ s) {r t a : Int} : MOp y_Mod_change [vr 102, vi r, vi t, vi a] L σ (spChg s r t a) := by
  refine Ex.deep (d := 4) ?_ (by omega)
  have hn := hq.1.1
  have hT := hq.1.2.1
  have hT2 := hq.2.1
  have go : ∀ x y : Int, (x ≠ 0 ↔ ((0 ≤ r ∧ r < 12) ∧ 0 ≤ t ∧ t < qT s.1)) → ((0 ≤ t ∧ t < qT s.1) → (y ≠ 0 ↔ (1 ≤ a ∧ a ≤ qA s.1 t))) → G_Mod_change_49 3 L σ (fun z σ' => ∃ k s', spChg s r t a k z s' ∧ σ' 102 0 = k ∧ MB σ' s' ∧ FM σ σ') NT r t a y x := by
    intro x y hx hy
    refine r_Mod_change_49 hY (m_gate hY hB rfl (fun h1 h2 σ' hB' hf h0 _ => ⟨fun _ => ?_, fun w => absurd w (by decide)⟩) (fun h1 σ' hB' hf h0 => ⟨fun w => absurd rfl w, fun _ => ⟨1, s, Or.inr (Or.inl ⟨fun w => (hx.mpr w) h1, rfl, rfl⟩), h0, hB', hf.fm⟩⟩) (fun h1 h2 σ' hB' hf h0 => ⟨fun w => absurd rfl w, fun _ => ⟨2, s, Or.inr (Or.inr ⟨hx.mp h1, fun w => ((hy (hx.mp h1).2).mpr w) h2, rfl, rfl⟩), h0, hB', hf.fm⟩⟩))
    obtain ⟨hr, ht⟩ := hx.mp h1
    have ha := (hy ht).mp h2
    have hA := hq.2.2 t ht.1 ht.2
    have hm := hq.1.2.2.1 t ht.1 ht.2
    refine (Ex.toV (m_load hY hq hB') ?_ (fun _ _ h => h)).deep (by omega)
    rintro σ₁ ⟨hC, hl⟩
    refine m_wf hY hq.1 hC hr (by omega) fun w0 σ₂ hw0 hwi w2 => ?_
    refine (m_placeOf hY hq.1 (hC.fc w2) ht hwi).to (by omega) ?_
    have hnow : nowR s.1 r t (ps (qL s.1 t) w0) := ⟨w0, hw0, rfl⟩
    have hnr := ps_spec hn.2 hm hwi.1 hwi.2
    generalize ps (qL s.1 t) w0 = now at hnow hnr
    have B2 := hB'.fs (hl.fs.trans w2.fs)
    have F2 : FM σ σ₂ := (hf.trans (hl.fs.trans w2.fs)).fm
    have z2 : σ₂ 102 0 = 0 := by rw [w2 _ _ (by omega), hl _ _ (by omega) (by omega)]; exact h0
    -- the loop over the orders
    have loop : ∀ (N : Nat) (σ' : Mm) (v c : Int), 2097152 - vnum (σ' 118) (qN s.1).toNat ≤ N → MB σ' (s.1, c, s.2.2) → σ' 102 0 = 0 → FM σ σ' → Pm (qN s.1) (σ' 118) → cI s.1 r t a now v c (nrm (qN s.1) (σ' 118)) → G_Mod_change_93 3 L σ' (fun z σ' => ∃ k s', spChg s r t a k z s' ∧ σ' 102 0 = k ∧ MB σ' s' ∧ FM σ σ') NT r t a now v 1 := by
      intro N
      induction N with
      | zero =>
        intro σ' v c hN _ _ _ hp _
        have := Pm_num ⟨by omega, hn.2⟩ hp
        omega
      | succ N ih =>
        intro σ' v c hN B' z0 F' hp hI
        have hz := nrm_pz hp
        have ok2 : okP (qch s.1 t a (nrm (qN s.1) (σ' 118))) := hq.1.qch hT2 (by omega) (by omega) hz.1
        have fin : ∀ (σ₄ : Mm) (v c : Int), MB σ₄ (s.1, c, s.2.2) → σ₄ 102 0 = 0 → FM σ σ₄ → chR s.1 r t a now v c → G_Mod_change_93 3 L σ₄ (fun z σ' => ∃ k s', spChg s r t a k z s' ∧ σ' 102 0 = k ∧ MB σ' s' ∧ FM σ σ') NT r t a now v 0 := by
          intro σ₄ v c B4 z4 F4 hc
          have hle := hc.2.le
          have hv0 : 0 ≤ v + 1 ∧ v ≤ 7 := by
            rcases hc.2 with ⟨h1, -⟩ | ⟨h1, g, hg, ⟨w, -, hw, hv⟩, -, -⟩
            · omega
            · have := ps_spec hn.2 hm hw.1 hw.2
              omega
          exact r_Mod_change_93 hY ⟨fun _ => ⟨fun g => ⟨0, _, Or.inl ⟨⟨hr, ht⟩, ha, rfl, now, v, c, hnow, hc, rfl, by rw [if_neg (by omega)]⟩, z4, B4, F4⟩, fun g => ⟨by omega, 0, _, Or.inl ⟨⟨hr, ht⟩, ha, rfl, now, v, c, hnow, hc, rfl, by rw [if_pos g]⟩, z4, B4, F4⟩⟩, fun w => absurd rfl w⟩
        have after : ∀ (σ₄ : Mm) (v c : Int), (∀ i, σ₄ 118 i = σ' 118 i) → MB σ₄ (s.1, c, s.2.2) → σ₄ 102 0 = 0 → FM σ σ₄ → cJ s.1 r t a now v c (nrm (qN s.1) (σ' 118)) → G_Mod_change_214 3 L σ₄ (fun z σ' => ∃ k s', spChg s r t a k z s' ∧ σ' 102 0 = k ∧ MB σ' s' ∧ FM σ σ') NT r t a now v := by
          intro σ₄ v c h118 B4 z4 F4 hJ
          have e18 : σ₄ 118 = σ' 118 := funext h118
          refine r_Mod_change_214 hY ⟨fun g => fin σ₄ v c B4 z4 F4 (hJ.zero hq.1 ht g), fun g => ?_⟩
          refine (Ex.toI (m_nextOrder hY (n := qN s.1) B4.1 hn (by rw [e18]; exact hp)) ?_ (fun _ _ h => h)).deep (by omega)
          rintro z σ₅ ⟨hzz, hz0, h6⟩
          rw [e18] at hzz
          have B5 : MB σ₅ (s.1, c, s.2.2) := B4.fs fun k j h1 h2 => h6 k j (by omega)
          have z5 : σ₅ 102 0 = 0 := by rw [h6 _ _ (by omega)]; exact z4
          have F5 : FM σ σ₅ := F4.trans fun k j hk => h6 k j (by omega)
          rcases hzz with ⟨rfl, hlast⟩ | ⟨rfl, hnx⟩
          · exact ⟨fun _ => fin σ₅ v c B5 z5 F5 (hJ.last hq.1 hp hlast), fun w => absurd rfl w⟩
          · have p5 := hnx.pm hp
            refine ⟨fun w => absurd w (by decide), fun _ => ih σ₅ v c ?_ B5 z5 F5 p5 (hJ.next hq.1 hp hnx)⟩
            have h7 := lx_num hnx.lt (fun i a b => by have := hp.1 i a b; omega) (fun i a b => (p5.1 i a b).1)
            omega
        refine r_Mod_change_93 hY ⟨fun w => absurd w (by decide), fun _ => ?_⟩
        refine (Ex.toV (m_load hY (s := (s.1, c, s.2.2)) hq B') ?_ (fun _ _ h => h)).deep (by omega)
        rintro σ₃ ⟨hC3, hl3⟩
        obtain ⟨c1, c2, c3, c4, c5, c6, c7⟩ := hC3
        rw [u_ne (show (102 : Int) ≠ 109 by omega), c2, c4 t ht.1 ht.2]
        have hT1 : qT (s.1, c, s.2.2).1 = qT s.1 := rfl
        rw [hT1]
        have hA1 : qA (s.1, c, s.2.2).1 t = qA s.1 t := rfl
        rw [hA1]
        refine ⟨by omega, by omega, by omega, by omega, ?_⟩
        -- the order becomes a type's
        refine upto (P := fun k => ∀ σ₄, (∀ i, 0 ≤ i → i < k → σ₄ 108 (7 * qT s.1 + i) = σ' 118 i) → (∀ x j, ¬ (x = 108 ∧ 7 * qT s.1 ≤ j) → σ₄ x j = (upd2 (upd2 σ₃ 109 t (qA s.1 t - a)) 109 (qT s.1) a) x j) → G_Mod_change_129 3 L σ₄ (fun z σ' => ∃ k s', spChg s r t a k z s' ∧ σ' 102 0 = k ∧ MB σ' s' ∧ FM σ σ') NT r t a now v k) (a := 0) (n := 7) ?_ ?_ 0 (by omega) (by omega) _ (fun i i0 i1 => absurd i1 (by omega)) (fun _ _ _ => rfl)
        · intro σ₄ b1 b2
          have e9 : σ₄ 102 9 = qT s.1 := by rw [b2 _ _ (by omega), u_ne (by omega), u_ne (by omega)]; exact c2
          refine r_Mod_change_129 hY ⟨fun _ => ?_, fun g => absurd g (by omega)⟩
          rw [e9]
          refine ⟨by omega, ?_⟩
          have C4 : isC (upd2 σ₄ 102 9 (qT s.1 + 1)) (qch s.1 t a (nrm (qN s.1) (σ' 118))) := by
            refine ⟨?_, u_eq, fun u k u0 u1 k0 k1 => ?_, fun u u0 u1 => ?_, fun k k0 k1 => ?_, fun k k0 k1 => ?_, fun k k0 k1 => ?_⟩
            · rw [u_ne2 (by omega), b2 _ _ (by omega), u_ne (by omega), u_ne (by omega)]; exact c1
            · have u1 : u < qT s.1 + 1 := u1
              have k1 : k < qN s.1 := k1
              rw [u_ne (by omega)]
              show _ = (if u = qT s.1 then nrm (qN s.1) (σ' 118) else qL s.1 u) k
              by_cases e : u = qT s.1
              · rw [if_pos e, e, b1 k k0 (by omega)]
                exact nrm_eq (qN s.1) (σ' 118) k k0 k1
              · rw [if_neg e, b2 _ _ (by omega), u_ne (by omega), u_ne (by omega)]
                exact c3 u k u0 (by show u < qT s.1; omega) k0 k1
            · have u1 : u < qT s.1 + 1 := u1
              rw [u_ne (by omega), b2 _ _ (by omega), u_if, u_if]
              show _ = if u = qT s.1 then a else if u = t then qA s.1 t - a else qA s.1 u
              by_cases e : u = qT s.1
              · rw [if_pos e, if_pos e]
              · rw [if_neg e, if_neg e]
                by_cases e2 : u = t
                · rw [if_pos e2, if_pos e2]
                · rw [if_neg e2, if_neg e2]
                  exact c4 u u0 (by show u < qT s.1; omega)
            · rw [u_ne (by omega), b2 _ _ (by omega), u_ne (by omega), u_ne (by omega)]; exact c5 k k0 k1
            · rw [u_ne (by omega), b2 _ _ (by omega), u_ne (by omega), u_ne (by omega)]; exact c6 k k0 k1
            · rw [u_ne (by omega), b2 _ _ (by omega), u_ne (by omega), u_ne (by omega)]; exact c7 k k0 k1
          -- what did not change
          have keep : ∀ x j, ¬ (108 ≤ x ∧ x < 113) → ¬ (x = 102 ∧ (j = 8 ∨ j = 9)) → (upd2 σ₄ 102 9 (qT s.1 + 1)) x j = σ' x j := by
            intro x j h1 h2
            have h3 : (upd2 σ₄ 102 9 (qT s.1 + 1)) x j = σ₄ x j := by
              by_cases e : x = 102
              · rw [e, u_ne2 (by omega)]
              · rw [u_ne e]
            rw [h3, b2 _ _ (by omega), u_ne (by omega), u_ne (by omega)]
            exact hl3 x j (by omega) (by omega)
          refine m_wf hY ok2 C4 hr (by omega) fun w1 σ₅ hw1 hw1i w5 => ?_
          have hw1i : 0 ≤ w1 ∧ w1 < qN s.1 := hw1i
          refine (m_placeOf hY ok2 (C4.fc w5) (t := t) ⟨ht.1, by show t < qT s.1 + 1; omega⟩ hw1i).to (by omega) ?_
          rw [qch_L ht.2]
          have hpl : plR s.1 r t a (nrm (qN s.1) (σ' 118)) (ps (qL s.1 t) w1) := ⟨w1, hw1, hw1i, rfl⟩
          have hst := hI.step hz hpl
          generalize ps (qL s.1 t) w1 = v0 at hpl hst
          have S5 : FS σ' σ₅ := fun x j h1 h2 => by rw [w5 _ _ (by omega)]; exact keep x j (by omega) (by omega)
          have B5 := B'.fs S5
          have z5 : σ₅ 102 0 = 0 := by rw [w5 _ _ (by omega), keep _ _ (by omega) (by omega)]; exact z0
          have F5 : FM σ σ₅ := F'.trans S5.fm
          have h118 : ∀ i, σ₅ 118 i = σ' 118 i := fun i => by rw [w5 _ _ (by omega), keep _ _ (by omega) (by omega)]
          refine ⟨fun g => after σ₅ v c h118 B5 z5 F5 (hst.2 g), fun g => ?_⟩
          refine (m_packed hY (lk_118 hY) (n := qN s.1) B5.1 hn (Int.le_refl 0) (by omega) (by omega) (g := nrm (qN s.1) (σ' 118)) (fun k k0 k1 => ⟨by rw [Int.zero_add, h118]; exact nrm_eq (qN s.1) (σ' 118) k k0 k1, by have := hz.1.1 k k0 k1; omega⟩)).to (by omega) (r_Mod_change_211 hY ?_)
          exact after _ v0 _ (fun i => by rw [u_ne (by omega)]; exact h118 i) (B5.chg _) (by rw [u_ne2 (by omega)]; exact z5) (F5.trans fun k j hk => by rw [u_ne (by omega)]) (hst.1 g)
        · intro k k0 k1 ihk σ₄ b1 b2
          have e9 : σ₄ 102 9 = qT s.1 := by rw [b2 _ _ (by omega), u_ne (by omega), u_ne (by omega)]; exact c2
          have e8 : σ₄ 118 k = σ' 118 k := by rw [b2 _ _ (by omega), u_ne (by omega), u_ne (by omega)]; exact hl3 _ _ (by omega) (by omega)
          refine r_Mod_change_129 hY ⟨fun g => absurd g (by omega), fun _ => ?_⟩
          rw [e9, e8]
          refine ⟨by omega, by omega, by omega, by omega, by omega, ihk _ (fun i i0 i1 => ?_) (fun x j hx => ?_)⟩
          · rw [u_if]
            by_cases e : i = k
            · rw [if_pos (by omega), e]
            · rw [if_neg (by omega)]; exact b1 i i0 (by omega)
          · by_cases e : x = 108
            · rw [e, u_ne2 (by omega), ← e]; exact b2 x j hx
            · rw [u_ne e]; exact b2 x j hx
    refine (Ex.toV (m_firstOrder hY) ?_ (fun _ _ h => h)).deep (by omega)
    rintro σ₃ ⟨hid, h3⟩
    have B3 : MB σ₃ (s.1, -1, s.2.2) := (B2.chg (-1)).fs fun k j h1 _ => h3 k j (by omega)
    have pm3 : Pm (qN s.1) (σ₃ 118) := Pm.id.ext fun i i0 i1 => (hid i i0 (by omega)).symm
    exact loop 2097152 σ₃ now (-1) (by have := (Pm_num ⟨by omega, hn.2⟩ pm3).1; omega) B3 (by rw [h3 _ _ (by omega), u_ne2 (by omega)]; exact z2) (F2.trans fun k j hk => by rw [h3 _ _ (by omega), u_ne (by omega)]) pm3 (cI.first fun i i0 i1 => hid i i0 (by omega))
  have mid : ∀ x : Int, (x ≠ 0 ↔ ((0 ≤ r ∧ r < 12) ∧ 0 ≤ t ∧ t < qT s.1)) → G_Mod_change_21 3 L σ (fun z σ' => ∃ k s', spChg s r t a k z s' ∧ σ' 102 0 = k ∧ MB σ' s' ∧ FM σ σ') NT r t a x := by
    intro x hx
    refine r_Mod_change_21 hY ((m_isType hY hB.2.1).to (by omega) ⟨fun h => go x 0 hx (fun w => absurd w (bI_f h)), fun h => ?_⟩)
    have ht := bI_t h
    rw [hB.2.2.2.1 t ht.1 ht.2]
    exact ⟨fun g => go x 0 hx (fun _ => by omega), fun g => ⟨by omega, fun g2 => go x 0 hx (fun _ => by omega), fun g2 => go x 1 hx (fun _ => by omega)⟩⟩
  refine e_Mod_change hY ((m_isRule hY).to (by omega) ⟨fun h => mid 0 ⟨fun w => absurd rfl w, fun w => absurd w.1 (bI_f h)⟩, fun h => ?_⟩)
  exact (m_isType hY hB.2.1).to (by omega) ⟨fun h2 => mid 0 ⟨fun w => absurd rfl w, fun w => absurd w.2 (bI_f h2)⟩, fun h2 => mid 1 ⟨fun _ => ⟨bI_t h, bI_t h2⟩, fun _ => by decide⟩⟩
end
