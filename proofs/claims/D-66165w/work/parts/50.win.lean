/-! ALL RULES -/
def Wr (r : Int) (q : Pf) (c : Int) : Prop := if r = 0 then Wtop (sc0 q) (qN q) c else if r = 1 then Wlow (sc1 q) (qN q) c else if r = 2 then Wtop (sc2 q) (qN q) c else if r = 3 then W3 q c else if r = 4 then W4 q c else if r = 5 then Wlow (sc5 q) (qN q) c else if r = 6 then Wtop (sc6 q) (qN q) c else if r = 7 then W7 q c else if r = 8 then W8 q c else if r = 9 then W9 q c else if r = 10 then W10 q c else W11 q c
theorem Wtop_ex (s : Int → Int) {n : Int} (h : 1 ≤ n) : ∃ c, 0 ≤ c ∧ c < n ∧ Wtop s n c := by
  obtain ⟨a, a0, a1, w⟩ := maxel (R := fun a b => s b < s a) (fun a => by omega) (fun a b c => by omega) n h
  exact ⟨a, a0, a1, fun b b0 b1 => by have := w b b0 b1; omega⟩
theorem Wlow_ex (s : Int → Int) {n : Int} (h : 1 ≤ n) : ∃ c, 0 ≤ c ∧ c < n ∧ Wlow s n c := by
  obtain ⟨a, a0, a1, w⟩ := maxel (R := fun a b => s a < s b) (fun a => by omega) (fun a b c => by omega) n h
  exact ⟨a, a0, a1, fun b b0 b1 => by have := w b b0 b1; omega⟩
theorem W3_ex {q : Pf} (hq : okP q) : ∃ c, 0 ≤ c ∧ c < qN q ∧ W3 q c := by
  have hn := hq.1
  obtain ⟨a, a0, a1, ha⟩ := Wtop_ex (sc0 q) (n := qN q) (by omega)
  obtain ⟨b, b0, b1, hb⟩ := Wtop_ex (fun c => if c = a then -1 else sc0 q c) (n := qN q) (by omega)
  have hs : ∀ c, 0 ≤ sc0 q c := fun c => (fs_bd' hq (alq q) c).1
  have hab : a ≠ b := by
    intro e
    by_cases g : a = 0
    · have := hb 1 (by omega) (by omega)
      dsimp only at this
      rw [if_neg (by omega), if_pos e.symm] at this
      have := hs 1
      omega
    · have := hb 0 (by omega) (by omega)
      dsimp only at this
      rw [if_neg (by omega), if_pos e.symm] at this
      have := hs 0
      omega
  have hb2 : ∀ c, 0 ≤ c → c < qN q → c ≠ a → sc0 q c ≤ sc0 q b := by
    intro c c0 c1 hc
    have := hb c c0 c1
    dsimp only at this
    rw [if_neg hc, if_neg (Ne.symm hab)] at this
    exact this
  have t1 : two q a b := fun c c0 c1 => by
    by_cases g : c = a
    · exact Or.inl g
    · exact Or.inr (Or.inr ⟨ha c c0 c1, hb2 c c0 c1 g⟩)
  have t2 : two q b a := fun c c0 c1 => by
    rcases t1 c c0 c1 with g | g | g
    · exact Or.inr (Or.inl g)
    · exact Or.inl g
    · exact Or.inr (Or.inr ⟨g.2, g.1⟩)
  have key : ∀ x y, 0 ≤ x → x < y → y < qN q → two q x y → ∃ c, 0 ≤ c ∧ c < qN q ∧ W3 q c := by
    intro x y x0 xy y1 ht
    by_cases g : bts q y x
    · exact ⟨y, by omega, y1, x, y, x0, xy, y1, ht, Or.inr ⟨rfl, by unfold bts at g ⊢; omega⟩⟩
    · exact ⟨x, x0, by omega, x, y, x0, xy, y1, ht, Or.inl ⟨rfl, g⟩⟩
  by_cases g : a < b
  · exact key a b a0 g b1 t1
  · exact key b a b0 (by omega) a1 t2
section
variable {L : List Sh} {σ : Mm} {p : Int} {q : Pf}
theorem c_rule (hY : Lay L) (hp : isPr p) (hq : okP q) (hP : isP σ p q) (hF : Fl σ) {r : Int} (hr : 0 ≤ r ∧ r < 12) : Ex 9 (yW r) [vr (rl r), vr p] L σ (PI L (fun z σ' => (isM z (qN q) (Wr r q) ∧ ∃ c, 0 ≤ c ∧ c < qN q ∧ Wr r q c) ∧ Fr σ σ') NT) := by
  have hn := hq.1
  have n1 : 1 ≤ qN q := by omega
  rcases (show r = 0 ∨ r = 1 ∨ r = 2 ∨ r = 3 ∨ r = 4 ∨ r = 5 ∨ r = 6 ∨ r = 7 ∨ r = 8 ∨ r = 9 ∨ r = 10 ∨ r = 11 by omega) with rfl | rfl | rfl | rfl | rfl | rfl | rfl | rfl | rfl | rfl | rfl | rfl
  · exact (Ex.toI (c_win15 hY hp hq hP hF) (fun z σ' h => ⟨⟨h.1, Wtop_ex (sc0 q) n1⟩, h.2 ▸ Fr.refl σ⟩) (fun _ _ h => h)).deep (by omega)
  · exact (Ex.toI (c_win16 hY hp hq hP hF) (fun z σ' h => ⟨⟨h.1, Wlow_ex (sc1 q) n1⟩, h.2 ▸ Fr.refl σ⟩) (fun _ _ h => h)).deep (by omega)
  · exact (Ex.toI (c_win17 hY hp hq hP hF) (fun z σ' h => ⟨⟨h.1, Wtop_ex (sc2 q) n1⟩, h.2 ▸ Fr.refl σ⟩) (fun _ _ h => h)).deep (by omega)
  · exact (Ex.toI (c_win18 hY hp hq hP) (fun z σ' h => ⟨⟨h.1, W3_ex hq⟩, h.2⟩) (fun _ _ h => h)).deep (by omega)
  · exact Ex.toI (c_win1 hY hp hq hP) (fun z σ' h => ⟨⟨h.1, W4_ex hq⟩, h.2.1⟩) (fun _ _ h => h)
  · exact (Ex.toI (c_win20 hY hp hq hP hF) (fun z σ' h => ⟨⟨h.1, Wlow_ex (sc5 q) n1⟩, h.2 ▸ Fr.refl σ⟩) (fun _ _ h => h)).deep (by omega)
  · exact (Ex.toI (c_win21 hY hp hq hP hF) (fun z σ' h => ⟨⟨h.1, Wtop_ex (sc6 q) n1⟩, h.2 ▸ Fr.refl σ⟩) (fun _ _ h => h)).deep (by omega)
  · exact (Ex.toI (c_win3 hY hp hq hP) (fun z σ' h => ⟨⟨h.1, W7_ex hq⟩, h.2⟩) (fun _ _ h => h)).deep (by omega)
  · exact (Ex.toI (c_win22 hY hp hq hP) (fun z σ' h => ⟨⟨h.1.1, h.1.2⟩, h.2⟩) (fun _ _ h => h)).deep (by omega)
  · exact (Ex.toI (c_win12 hY hp hq hP) (fun z σ' h => ⟨⟨h.1.1, h.1.2⟩, h.2⟩) (fun _ _ h => h)).deep (by omega)
  · exact (Ex.toI (c_win26 hY hp hq hP) (fun z σ' h => ⟨⟨h.1, W10_ex hq⟩, h.2 ▸ Fr.refl σ⟩) (fun _ _ h => h)).deep (by omega)
  · exact (Ex.toI (c_win27 hY hp hq hP) (fun z σ' h => ⟨⟨h.1, svr q (qN q - 1).toNat, (svr_in hq _ (by omega)).1, (svr_in hq _ (by omega)).2, rfl⟩, h.2 ▸ Fr.refl σ⟩) (fun _ _ h => h)).deep (by omega)
end
