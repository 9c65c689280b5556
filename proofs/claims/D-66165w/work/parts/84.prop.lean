/-! property -/
def wiR (q : Pf) (r p v : Int) : Prop := if p = 0 then leR (fun c => allB q 1 c ∧ ¬ isM (hI 1 c) (qN q) (Wr r q)) (qN q) v else if p = 1 then leR (fun c => allB q 0 c ∧ Wr r q c) (qN q) v else if p = 2 then ∃ w, wn r q w ∧ leR (bad2 q r w) (qT q) v else if p = 3 then ∃ w, wn r q w ∧ leR (bad3 q r w) (qT q) v else ∃ w, wn r q w ∧ leR (bad4 q r w) (qN q) v
def spProp (s : St) (r p : Int) : Sp := fun k z s' => (((0 ≤ r ∧ r < 12) ∧ 0 ≤ p ∧ p < 5) ∧ k = 0 ∧ (∃ v, wiR s.1 r p v ∧ s' = (s.1, s.2.1, v) ∧ z = bI (v = -1))) ∨ (¬ ((0 ≤ r ∧ r < 12) ∧ 0 ≤ p ∧ p < 5) ∧ k = 1 ∧ s' = s)
section
variable {L : List Sh} {σ : Mm} {s : St} {q : Pf}
theorem DI.wit (h : DI σ s) (v : Int) : DI (upd2 σ 0 9 v) (s.1, s.2.1, v) ∧ FD σ (upd2 σ 0 9 v) := by
  have hn := h.1.1.1
  have hT := h.1.1.2.1
  have hP := h.2.1
  refine ⟨⟨h.1, ⟨by rw [u_ne (by omega)]; exact hP.1, by rw [u_ne (by omega)]; exact hP.2.1, fun t k a b c d => by rw [u_ne (by omega)]; exact hP.2.2.1 t k a b c d, fun t a b => by rw [u_ne (by omega)]; exact hP.2.2.2.1 t a b, fun x y a b c d => by rw [u_ne (by omega)]; exact hP.2.2.2.2.1 x y a b c d, fun k a b => by rw [u_ne (by omega)]; exact hP.2.2.2.2.2.1 k a b, fun k a b => by rw [u_ne (by omega)]; exact hP.2.2.2.2.2.2.1 k a b, fun k a b => by rw [u_ne (by omega)]; exact hP.2.2.2.2.2.2.2 k a b⟩, ?_, by rw [u_ne2 (by omega)]; exact h.2.2.2.1, u_eq⟩, fun k j hk => by rw [u_ne (by omega)]⟩
  have h3 := h.2.2.1
  unfold Fl at h3 ⊢
  rw [u_ne (by omega), u_ne (by omega), u_ne (by omega), u_ne (by omega), u_ne (by omega)]
  exact h3
theorem d_property (hY : Lay L) (hD : DI σ s) {r p : Int} : DOp y_Desk_property [vr 0, vi r, vi p] L σ (spProp s r p) (fun _ => 1) := by
  refine Ex.deep (d := 12) ?_ (by omega)
  have hn := hD.1.1.1
  -- the end: what was found is kept
  have fin : ((0 ≤ r ∧ r < 12) ∧ 0 ≤ p ∧ p < 5) → ∀ σ' v, DI σ' (s.1, s.2.1, v) → FD σ σ' → wiR s.1 r p v → G_Desk_property_188 11 L σ' (fun z σ' => ∃ s', spProp s r p 0 z s' ∧ DI σ' s' ∧ FD σ σ') (fun c σ' => ∃ s', spProp s r p ((fun _ => 1) c) 0 s' ∧ DI σ' s' ∧ FD σ σ' ∧ 1 ≤ (fun _ => (1 : Int)) c) := by
    intro hg σ' v hD' hf hv
    have e9 : σ' 0 9 = v := hD'.2.2.2.2
    refine r_Desk_property_188 hY ?_
    rw [e9]
    exact ⟨fun g => ⟨_, Or.inl ⟨hg, rfl, v, hv, rfl, (bI_n g).symm⟩, hD', hf⟩, fun g => ⟨_, Or.inl ⟨hg, rfl, v, hv, rfl, (bI_p g).symm⟩, hD', hf⟩⟩
  have go : ∀ x : Int, (0 ≤ r ∧ r < 12) → (x ≠ 0 ↔ (0 ≤ p ∧ p < 5)) → G_Desk_property_19 11 L σ (fun z σ' => ∃ s', spProp s r p 0 z s' ∧ DI σ' s' ∧ FD σ σ') (fun c σ' => ∃ s', spProp s r p ((fun _ => 1) c) 0 s' ∧ DI σ' s' ∧ FD σ σ' ∧ 1 ≤ (fun _ => (1 : Int)) c) r p x := by
    intro x hr hx
    refine r_Desk_property_19 hY ((c_exists hY).to (by omega) (fun w => ⟨hr, ?_⟩) (fun w => ⟨s, Or.inr ⟨fun g => w (hx.mpr g.2), rfl, rfl⟩, hD, FD.refl σ, by decide⟩))
    have hp := hx.mp w
    refine (Ex.toI (c_rule hY pr30 hD.1.1 hD.2.1 hD.2.2.1 hr) ?_ (fun _ _ h => h.elim)).deep (by omega)
    rintro m σ₁ ⟨⟨hm, hex⟩, f1⟩
    have D1 := hD.fr f1
    have hmz := nz_of_isM hm hn.2 hex
    have hwi := fo_in hD.1.1 hmz
    have hwn : wn r s.1 (fo s.1 m) := ⟨m, hm, rfl⟩
    refine (c_first hY pr30 hD.1.1 D1.2.1 hmz).to (by omega) ⟨fun e => ?_, fun e => ?_, fun e => ?_, fun e => ?_, fun e => ?_⟩
    · subst e
      refine r_Desk_property_80 hY ((Ex.toI (c_extreme hY hD.1.1 D1.2.1) ?_ (fun _ _ h => h.elim)).deep (by omega))
      rintro v σ₂ ⟨hv, rfl⟩
      rw [u_eq]
      obtain ⟨a1, a2⟩ := D1.wit v
      refine ⟨fun g => fin ⟨hr, hp⟩ _ v a1 (f1.fd.trans a2) ?_, fun g => ⟨fun g2 => fin ⟨hr, hp⟩ _ v a1 (f1.fd.trans a2) ?_, fun g2 => fin ⟨hr, hp⟩ _ (-1) ?_ ?_ ?_⟩⟩
      · unfold wiR
        rw [if_pos rfl]
        rcases hv with ⟨h1, h2⟩ | ⟨h1, h2⟩
        · omega
        · exact Or.inr ⟨h1, fun y y0 y1 v => h2 y y0 y1 v.1⟩
      · unfold wiR
        rw [if_pos rfl]
        rcases hv with ⟨h1, h2⟩ | ⟨h1, h2⟩
        · exact Or.inl ⟨h1, ⟨h2, fun v => g2 (hm.uniq v)⟩, fun y y0 y1 v => by have := h2.uniq h1 ⟨y0, by omega⟩ v.1; omega⟩
        · omega
      · exact (a1.wit (-1)).1
      · exact (f1.fd.trans a2).trans (a1.wit (-1)).2
      · unfold wiR
        rw [if_pos rfl]
        rcases hv with ⟨h1, h2⟩ | ⟨h1, h2⟩
        · refine Or.inr ⟨rfl, fun y y0 y1 u => ?_⟩
          have := h2.uniq h1 ⟨y0, y1⟩ u.1
          rw [← this] at u
          exact u.2 (by rw [← g2]; exact hm)
        · omega
    · subst e
      refine r_Desk_property_114 hY ((Ex.toI (c_extreme hY hD.1.1 D1.2.1) ?_ (fun _ _ h => h.elim)).deep (by omega))
      rintro v σ₂ ⟨hv, rfl⟩
      rw [u_eq]
      obtain ⟨a1, a2⟩ := D1.wit v
      refine ⟨fun g => fin ⟨hr, hp⟩ _ v a1 (f1.fd.trans a2) ?_, fun g => ⟨fun g2 => fin ⟨hr, hp⟩ _ v a1 (f1.fd.trans a2) ?_, fun g2 => fin ⟨hr, hp⟩ _ (-1) ?_ ?_ ?_⟩⟩
      · unfold wiR
        rw [if_neg (by omega), if_pos rfl]
        rcases hv with ⟨h1, h2⟩ | ⟨h1, h2⟩
        · omega
        · exact Or.inr ⟨h1, fun y y0 y1 v => h2 y y0 y1 v.1⟩
      · unfold wiR
        rw [if_neg (by omega), if_pos rfl]
        rcases hv with ⟨h1, h2⟩ | ⟨h1, h2⟩
        · have hb := hm.bit h1.1 h1.2 hn.2
          exact Or.inl ⟨h1, ⟨h2, Classical.byContradiction fun u => g2 (hb.2.mpr u)⟩, fun y y0 y1 v => by have := h2.uniq h1 ⟨y0, by omega⟩ v.1; omega⟩
        · omega
      · exact (a1.wit (-1)).1
      · exact (f1.fd.trans a2).trans (a1.wit (-1)).2
      · unfold wiR
        rw [if_neg (by omega), if_pos rfl]
        rcases hv with ⟨h1, h2⟩ | ⟨h1, h2⟩
        · have hb := hm.bit h1.1 h1.2 hn.2
          refine Or.inr ⟨rfl, fun y y0 y1 u => ?_⟩
          have := h2.uniq h1 ⟨y0, y1⟩ u.1
          rw [← this] at u
          exact hb.2.mp g2 u.2
        · omega
    · subst e
      refine r_Desk_property_149 hY (Ex.toI (c_raised hY D1 hr hwi) ?_ (fun _ _ h => h.elim))
      rintro v σ₂ ⟨hv, D2, F2⟩
      obtain ⟨a1, a2⟩ := D2.wit v
      refine fin ⟨hr, hp⟩ _ v a1 ((f1.fd.trans F2).trans a2) ?_
      unfold wiR
      rw [if_neg (by omega), if_neg (by omega), if_pos rfl]
      exact ⟨_, hwn, hv⟩
    · subst e
      refine r_Desk_property_163 hY (Ex.toI (c_joined hY D1 hr hwi) ?_ (fun _ _ h => h.elim))
      rintro v σ₂ ⟨hv, D2, F2⟩
      obtain ⟨a1, a2⟩ := D2.wit v
      refine fin ⟨hr, hp⟩ _ v a1 ((f1.fd.trans F2).trans a2) ?_
      unfold wiR
      rw [if_neg (by omega), if_neg (by omega), if_neg (by omega), if_pos rfl]
      exact ⟨_, hwn, hv⟩
    · refine r_Desk_property_177 hY (Ex.toI (c_dropped hY D1 hr hwi) ?_ (fun _ _ h => h.elim))
      rintro v σ₂ ⟨hv, D2, F2⟩
      obtain ⟨a1, a2⟩ := D2.wit v
      refine fin ⟨hr, hp⟩ _ v a1 ((f1.fd.trans F2).trans a2) ?_
      unfold wiR
      rw [if_neg (by omega), if_neg (by omega), if_neg (by omega), if_neg (by omega)]
      exact ⟨_, hwn, hv⟩
  refine e_Desk_property hY ((c_ruled hY).to (by omega) (fun hr => ?_) (fun hr => ⟨s, Or.inr ⟨fun g => hr g.1, rfl, rfl⟩, hD, FD.refl σ, by decide⟩))
  exact ⟨fun h => go 0 hr (by omega), fun h => ⟨fun h2 => go 0 hr (by omega), fun h2 => go 1 hr (by omega)⟩⟩
end
