section
variable {L : List Sh} {σ : Mm} {s : St} {q : Pf}
theorem c_dropped (hY : Lay L) (hD : DI σ s) {r w : Int} (hr : 0 ≤ r ∧ r < 12) (hw : 0 ≤ w ∧ w < qN s.1) : Ex 11 y_Desk_dropped [vr 0, vi r, vi w] L σ (PI L (fun z σ' => leR (bad4 s.1 r w) (qN s.1) z ∧ DI σ' s ∧ FD σ σ') NT) := by
  have hn := hD.1.1.1
  have hT := hD.1.1.2.1
  refine e_Desk_dropped hY ⟨hr, ?_⟩
  refine (Ex.toI (c_rule hY pr30 hD.1.1 hD.2.1 hD.2.2.1 hr) ?_ (fun _ _ h => h)).deep (by omega)
  rintro m σ₀ ⟨⟨hm, -⟩, f0⟩
  refine upto (P := fun c => ∀ σ', (∀ y, 0 ≤ y → y < c → ¬ bad4 s.1 r w y) → DI σ' s → FD σ σ' → G_Desk_dropped_22 10 L σ' (fun z σ' => leR (bad4 s.1 r w) (qN s.1) z ∧ DI σ' s ∧ FD σ σ') NT r w m c) (a := 0) (n := qN s.1) ?_ ?_ 0 (by omega) (by omega) σ₀ (fun y y0 y1 => absurd y1 (by omega)) (hD.fr f0) f0.fd
  · intro σ' h hD' hf
    exact r_Desk_dropped_22 hY ⟨fun _ => ⟨Or.inr ⟨rfl, h⟩, hD', hf⟩, fun g => absurd g (by rw [hD'.2.1.1]; omega)⟩
  · intro c c0 c1 ih σ' h hD' hf
    have hb := hm.bit c0 c1 hn.2
    have nx : ¬ bad4 s.1 r w c → ∀ y, 0 ≤ y → y < c + 1 → ¬ bad4 s.1 r w y := fun hno y y0 y1 => by
      by_cases e : y = c
      · rw [e]; exact hno
      · exact h y y0 (by omega)
    refine r_Desk_dropped_22 hY ⟨fun g => absurd g (by rw [hD'.2.1.1]; omega), fun _ => ?_⟩
    rw [hD'.2.1.1]
    refine ⟨fun g => ⟨Or.inr ⟨rfl, fun y _ _ v => by have := v.1; omega⟩, hD', hf⟩, fun g => ⟨fun e => ?_, fun e => ⟨by omega, ih σ' (nx fun v => v.2.1 (hb.1.mp e)) hD' hf⟩⟩⟩
    have hno : ¬ Wr r s.1 c := fun v => e (hb.1.mpr v)
    have ok2 := hD.1.1.qwo ⟨c0, c1⟩ (by omega)
    refine (Ex.toV (c_without hY pr30 pr66 (by omega) hD'.1.1 hD'.2.1 ⟨c0, c1⟩ (by omega)) ?_ (fun _ _ h => h)).deep (by omega)
    rintro σ₁ ⟨p1, f1⟩
    have D1 : DI σ₁ s := hD'.off fun k j hk => f1 k j (by omega) (by omega)
    have F1 : FD σ σ₁ := hf.trans fun k j hk => f1 k j (by omega) (by omega)
    refine Ex.toI (c_chosen hY pr66 ok2 p1 D1.2.2.1 hr) ?_ (fun _ _ h => h)
    rintro x σ₂ ⟨⟨hx, -⟩, f2⟩
    have D2 := D1.fr f2
    have F2 : FD σ σ₂ := F1.trans f2.fd
    refine ⟨fun g2 => ⟨fun g3 => ⟨by omega, ih σ₂ (nx fun v => ?_) D2 F2⟩, fun g3 => ⟨Or.inl ⟨⟨c0, c1⟩, ⟨g, hno, x, hx, ?_⟩, h⟩, D2, F2⟩⟩, fun g2 => ⟨by omega, fun g3 => ⟨by omega, ih σ₂ (nx fun v => ?_) D2 F2⟩, fun g3 => ⟨Or.inl ⟨⟨c0, c1⟩, ⟨g, hno, x, hx, ?_⟩, h⟩, D2, F2⟩⟩⟩
    · obtain ⟨-, -, y, hy, hne⟩ := v
      rw [if_neg (by omega)] at hne
      exact hne (by rw [hy.uniq hx]; exact g3)
    · rw [if_neg (by omega)]; exact g3
    · obtain ⟨-, -, y, hy, hne⟩ := v
      rw [if_pos g2] at hne
      exact hne (by rw [hy.uniq hx]; exact g3)
    · rw [if_pos g2]; exact g3
end
