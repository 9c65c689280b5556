/-! properties 2 to 4 -/
def leR (P : Int → Prop) (N z : Int) : Prop := ((0 ≤ z ∧ z < N) ∧ P z ∧ ∀ y, 0 ≤ y → y < z → ¬ P y) ∨ (z = -1 ∧ ∀ y, 0 ≤ y → y < N → ¬ P y)
theorem leR.uniq {P : Int → Prop} {N a b : Int} (h : leR P N a) (g : leR P N b) : a = b := by
  rcases h with ⟨h1, h2, h3⟩ | ⟨h1, h2⟩ <;> rcases g with ⟨g1, g2, g3⟩ | ⟨g1, g2⟩
  · rcases Int.lt_trichotomy a b with e | e | e
    · exact absurd h2 (g3 a h1.1 e)
    · exact e
    · exact absurd g2 (h3 b g1.1 e)
  · exact absurd h2 (g2 a h1.1 h1.2)
  · exact absurd g2 (h2 b g1.1 g1.2)
  · rw [h1, g1]
def bad2 (q : Pf) (r w t : Int) : Prop := ps (qL q t) w ≠ 0 ∧ ∃ c, wn r (qsw q t (ps (qL q t) w)) c ∧ c ≠ w
def bad3 (q : Pf) (r w t : Int) : Prop := qL q t 0 = w ∧ ∃ c, wn r (qam q t (qA q t + 1)) c ∧ c ≠ w
def bad4 (q : Pf) (r w c : Int) : Prop := 2 < qN q ∧ ¬ Wr r q c ∧ ∃ x, wn r (qwo q c) x ∧ x ≠ (if c < w then w - 1 else w)
section
variable {L : List Sh} {σ : Mm} {s : St} {q : Pf}
theorem Fl.lo {σ' : Mm} (h : Fl σ) (f : ∀ k j, k < 28 → σ' k j = σ k j) : Fl σ' := by
  unfold Fl at h ⊢
  rw [f 15 0 (by omega), f 16 0 (by omega), f 17 0 (by omega), f 20 0 (by omega), f 21 0 (by omega)]
  exact h
/-- rules' cells and the profile's alone: the state comes back -/
theorem DI.back {σ' : Mm} (h : DI σ s) (hP : isP σ' 30 s.1) (f : ∀ k j, k = 0 ∨ k = 15 ∨ k = 16 ∨ k = 17 ∨ k = 20 ∨ k = 21 → σ' k j = σ k j) : DI σ' s := by
  obtain ⟨h1, h2, h3, h4, h5⟩ := h
  refine ⟨h1, hP, ?_, by rw [f 0 8 (by omega)]; exact h4, by rw [f 0 9 (by omega)]; exact h5⟩
  unfold Fl at h3 ⊢
  rw [f 15 0 (by omega), f 16 0 (by omega), f 17 0 (by omega), f 20 0 (by omega), f 21 0 (by omega)]
  exact h3
theorem Fr.six {σ' : Mm} (h : Fr σ σ') : ∀ k j, k = 0 ∨ k = 15 ∨ k = 16 ∨ k = 17 ∨ k = 20 ∨ k = 21 → σ' k j = σ k j := fun k j hk => h k j (by unfold scr; omega)
theorem FrP.six {σ' : Mm} (h : FrP 30 σ σ') : ∀ k j, k = 0 ∨ k = 15 ∨ k = 16 ∨ k = 17 ∨ k = 20 ∨ k = 21 → σ' k j = σ k j := fun k j hk => h k j (by omega)
theorem c_raised (hY : Lay L) (hD : DI σ s) {r w : Int} (hr : 0 ≤ r ∧ r < 12) (hw : 0 ≤ w ∧ w < qN s.1) : Ex 11 y_Desk_raised [vr 0, vi r, vi w] L σ (PI L (fun z σ' => leR (bad2 s.1 r w) (qT s.1) z ∧ DI σ' s ∧ FD σ σ') NT) := by
  have hn := hD.1.1.1
  have hT := hD.1.1.2.1
  refine e_Desk_raised hY ?_
  refine upto (P := fun t => ∀ σ', (∀ y, 0 ≤ y → y < t → ¬ bad2 s.1 r w y) → DI σ' s → FD σ σ' → G_Desk_raised_8 10 L σ' (fun z σ' => leR (bad2 s.1 r w) (qT s.1) z ∧ DI σ' s ∧ FD σ σ') NT r w t) (a := 0) (n := qT s.1) ?_ ?_ 0 (by omega) (by omega) σ (fun y y0 y1 => absurd y1 (by omega)) hD (FD.refl σ)
  · intro σ' h hD' hf
    exact r_Desk_raised_8 hY ⟨fun _ => ⟨Or.inr ⟨rfl, h⟩, hD', hf⟩, fun g => absurd g (by rw [hD'.2.1.2.1]; omega)⟩
  · intro t t0 t1 ih σ' h hD' hf
    have hm := hD.1.1.2.2.1 t t0 t1
    have hs := ps_spec hn.2 hm hw.1 hw.2
    have nx : ¬ bad2 s.1 r w t → ∀ y, 0 ≤ y → y < t + 1 → ¬ bad2 s.1 r w y := fun hno y y0 y1 => by
      by_cases e : y = t
      · rw [e]; exact hno
      · exact h y y0 (by omega)
    refine r_Desk_raised_8 hY ⟨fun g => absurd g (by rw [hD'.2.1.2.1]; omega), fun _ => ?_⟩
    refine (c_placeOf hY pr30 hD'.1.1 hD'.2.1 ⟨t0, t1⟩ hw).to (by omega) ⟨fun e => ?_, fun e => ⟨by omega, ih σ' (nx fun v => v.1 e) hD' hf⟩⟩
    have hk : 1 ≤ ps (qL s.1 t) w ∧ ps (qL s.1 t) w < qN s.1 := by omega
    have ok2 := hD.1.1.qsw ⟨t0, t1⟩ hk
    refine (Ex.toV (c_swap hY hD'.1.1 hD'.2.1 ⟨t0, t1⟩ hk) ?_ (fun _ _ h => h)).deep (by omega)
    rintro σ₁ ⟨p1, f1⟩
    refine Ex.toI (c_chosen hY pr30 ok2 p1 (hD'.2.2.1.lo f1.lo) hr) ?_ (fun _ _ h => h)
    rintro c σ₂ ⟨⟨hc, -⟩, f2⟩
    refine (Ex.toV (c_swap hY ok2 (p1.fr ok2 pr30 f2) (t := t) (k := ps (qL s.1 t) w) ⟨t0, t1⟩ hk) ?_ (fun _ _ h => h)).deep (by omega)
    rintro σ₃ ⟨p3, f3⟩
    rw [qsw_qsw] at p3
    have D3 : DI σ₃ s := hD'.back p3 fun k j hk => by rw [f3.six k j hk, f2.six k j hk, f1.six k j hk]
    have F3 : FD σ σ₃ := ((hf.trans f1.fd).trans f2.fd).trans f3.fd
    refine ⟨fun g => ⟨by omega, ih σ₃ (nx fun v => ?_) D3 F3⟩, fun g => ⟨Or.inl ⟨⟨t0, t1⟩, ⟨e, c, hc, g⟩, h⟩, D3, F3⟩⟩
    obtain ⟨-, c', hc', hne⟩ := v
    exact hne (by rw [hc'.uniq hc]; exact g)
theorem c_joined (hY : Lay L) (hD : DI σ s) {r w : Int} (hr : 0 ≤ r ∧ r < 12) (hw : 0 ≤ w ∧ w < qN s.1) : Ex 11 y_Desk_joined [vr 0, vi r, vi w] L σ (PI L (fun z σ' => leR (bad3 s.1 r w) (qT s.1) z ∧ DI σ' s ∧ FD σ σ') NT) := by
  have hn := hD.1.1.1
  have hT := hD.1.1.2.1
  refine e_Desk_joined hY ?_
  refine upto (P := fun t => ∀ σ', (∀ y, 0 ≤ y → y < t → ¬ bad3 s.1 r w y) → DI σ' s → FD σ σ' → G_Desk_joined_8 10 L σ' (fun z σ' => leR (bad3 s.1 r w) (qT s.1) z ∧ DI σ' s ∧ FD σ σ') NT r w t) (a := 0) (n := qT s.1) ?_ ?_ 0 (by omega) (by omega) σ (fun y y0 y1 => absurd y1 (by omega)) hD (FD.refl σ)
  · intro σ' h hD' hf
    exact r_Desk_joined_8 hY ⟨fun _ => ⟨Or.inr ⟨rfl, h⟩, hD', hf⟩, fun g => absurd g (by rw [hD'.2.1.2.1]; omega)⟩
  · intro t t0 t1 ih σ' h hD' hf
    have ha := hD.1.1.2.2.2.1 t t0 t1
    have ha2 := hD.1.2.2 t t0 t1
    have nx : ¬ bad3 s.1 r w t → ∀ y, 0 ≤ y → y < t + 1 → ¬ bad3 s.1 r w y := fun hno y y0 y1 => by
      by_cases e : y = t
      · rw [e]; exact hno
      · exact h y y0 (by omega)
    refine r_Desk_joined_8 hY ⟨fun g => absurd g (by rw [hD'.2.1.2.1]; omega), fun _ => ⟨by omega, ?_⟩⟩
    rw [hD'.2.1.2.2.1 t 0 t0 t1 (by omega) (by omega), hD'.2.1.2.2.2.1 t t0 t1]
    refine ⟨fun e => ⟨by omega, by omega, ?_⟩, fun e => ⟨by omega, ih σ' (nx fun v => e v.1) hD' hf⟩⟩
    have ok2 : okP (qam s.1 t (qA s.1 t + 1)) := hD.1.1.qam (by omega)
    refine (Ex.toI (c_amount hY pr30 hD'.1.1 hD'.2.1 ⟨t0, t1⟩ (a := qA s.1 t + 1) (by omega)) ?_ (fun _ _ h => h)).deep (by omega)
    rintro z σ₁ ⟨rfl, p1, f1⟩
    refine Ex.toI (c_chosen hY pr30 ok2 p1 (hD'.2.2.1.lo f1.lo) hr) ?_ (fun _ _ h => h)
    rintro c σ₂ ⟨⟨hc, -⟩, f2⟩
    refine (Ex.toI (c_amount hY pr30 ok2 (p1.fr ok2 pr30 f2) (t := t) (a := qA s.1 t) ⟨t0, t1⟩ (by omega)) ?_ (fun _ _ h => h)).deep (by omega)
    rintro z σ₃ ⟨-, p3, f3⟩
    rw [qam_qam] at p3
    have D3 : DI σ₃ s := hD'.back p3 fun k j hk => by rw [f3.six k j hk, f2.six k j hk, f1.six k j hk]
    have F3 : FD σ σ₃ := ((hf.trans f1.fd).trans f2.fd).trans f3.fd
    refine ⟨fun g => ⟨by omega, ih σ₃ (nx fun v => ?_) D3 F3⟩, fun g => ⟨Or.inl ⟨⟨t0, t1⟩, ⟨e, c, hc, g⟩, h⟩, D3, F3⟩⟩
    obtain ⟨-, c', hc', hne⟩ := v
    exact hne (by rw [hc'.uniq hc]; exact g)
end
