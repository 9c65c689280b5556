/-! THE PATHS' METHODS -/
def frS (σ σ' : Mm) : Prop := ∀ k j, ¬ (5 ≤ k ∧ k < 12) → σ' k j = σ k j
theorem frS.fr {σ σ' : Mm} (h : frS σ σ') : Fr σ σ' := fun k j hk => h k j (fun e => hk (by unfold scr; omega))
section
variable {L : List Sh} {σ : Mm} {p : Int} {q : Pf}
theorem c_widen (hY : Lay L) {a k b : Int} (ha : 0 ≤ a ∧ a < 7) (hk : 0 ≤ k ∧ k < 7) (hb : 0 ≤ b ∧ b < 7) : Ex 0 y_Paths_widen [vr 3, vi a, vi k, vi b] L σ (PV L (fun σ' => (∀ i j, ¬ (i = 5 + a ∧ j = b) → σ' i j = σ i j) ∧ (a = b → σ' (5 + a) b = σ (5 + a) b) ∧ (a ≠ b → ∀ v, (v ≤ σ' (5 + a) b ↔ v ≤ σ (5 + a) b ∨ (v ≤ σ (5 + a) k ∧ v ≤ σ (5 + k) b))) ∧ σ (5 + a) b ≤ σ' (5 + a) b) NT) := by
  have key : ∀ m, m = (if σ (5 + k) b ≤ σ (5 + a) k then σ (5 + k) b else σ (5 + a) k) → G_Paths_widen_38 0 L σ (fun σ' => (∀ i j, ¬ (i = 5 + a ∧ j = b) → σ' i j = σ i j) ∧ (a = b → σ' (5 + a) b = σ (5 + a) b) ∧ (a ≠ b → ∀ v, (v ≤ σ' (5 + a) b ↔ v ≤ σ (5 + a) b ∨ (v ≤ σ (5 + a) k ∧ v ≤ σ (5 + k) b))) ∧ σ (5 + a) b ≤ σ' (5 + a) b) NT a b m := by
    intro m hm
    refine r_Paths_widen_38 hY ⟨fun e => ⟨fun _ _ _ => rfl, fun _ => rfl, fun w => absurd e w, Int.le_refl _⟩, fun e => ⟨by omega, by omega, fun e2 => ⟨fun _ _ _ => rfl, fun _ => rfl, fun _ v => ?_, Int.le_refl _⟩, fun e2 => ⟨by omega, by omega, fun i j hij => ?_, fun w => absurd w e, fun _ v => ?_, ?_⟩⟩⟩
    · split at hm <;> omega
    · unfold upd2; rw [if_neg hij]
    · rw [u_eq]; split at hm <;> omega
    · rw [u_eq]; omega
  refine e_Paths_widen hY ⟨by omega, by omega, by omega, by omega, fun e => ⟨by omega, by omega, key _ (by rw [if_pos e])⟩, fun e => ⟨by omega, by omega, key _ (by rw [if_neg (by omega)])⟩⟩
theorem c_find7 (hY : Lay L) (hp : isPr p) (hq : okP q) (hP : isP σ p q) : Ex 1 y_Paths_find [vr 3, vr p] L σ (PV L (fun σ' => isS q (fun x y => σ' (5 + x) y) ∧ frS σ σ') NT) := by
  have hn := hq.1
  refine e_Paths_find hY hp ?_
  -- the second part
  have part2 : ∀ σ', mat q (fun x y => σ' (5 + x) y) 0 0 0 → frS σ σ' → G_Paths_find_63 0 L σ' (fun σ' => isS q (fun x y => σ' (5 + x) y) ∧ frS σ σ') NT p 0 := by
    intro σ₀ hm0 hf0
    refine upto (P := fun k => ∀ σ', mat q (fun x y => σ' (5 + x) y) k 0 0 → frS σ σ' → G_Paths_find_63 0 L σ' (fun σ' => isS q (fun x y => σ' (5 + x) y) ∧ frS σ σ') NT p k) (a := 0) (n := qN q) ?_ ?_ 0 (by omega) (by omega) σ₀ hm0 hf0
    · intro σ' hm hf
      have hP' := hP.fr hq hp hf.fr
      exact r_Paths_find_63 hY hp ⟨fun _ => ⟨hm.fin, hf⟩, fun g => absurd g (by rw [hP'.1]; omega)⟩
    · intro k k0 k1 ihk σ' hm hf
      have hP' := hP.fr hq hp hf.fr
      refine r_Paths_find_63 hY hp ⟨fun g => absurd g (by rw [hP'.1]; omega), fun _ => ?_⟩
      refine upto (P := fun a => ∀ σ', mat q (fun x y => σ' (5 + x) y) k a 0 → frS σ σ' → G_Paths_find_73 0 L σ' (fun σ' => isS q (fun x y => σ' (5 + x) y) ∧ frS σ σ') NT p k a) (a := 0) (n := qN q) ?_ ?_ 0 (by omega) (by omega) σ' hm hf
      · intro σ' hm hf
        have hP' := hP.fr hq hp hf.fr
        exact r_Paths_find_73 hY hp ⟨fun _ => ⟨by omega, ihk σ' hm.up hf⟩, fun g => absurd g (by rw [hP'.1]; omega)⟩
      · intro a a0 a1 iha σ' hm hf
        have hP' := hP.fr hq hp hf.fr
        refine r_Paths_find_73 hY hp ⟨fun g => absurd g (by rw [hP'.1]; omega), fun _ => ?_⟩
        refine upto (P := fun b => ∀ σ', mat q (fun x y => σ' (5 + x) y) k a b → frS σ σ' → G_Paths_find_84 0 L σ' (fun σ' => isS q (fun x y => σ' (5 + x) y) ∧ frS σ σ') NT p k a b) (a := 0) (n := qN q) ?_ ?_ 0 (by omega) (by omega) σ' hm hf
        · intro σ' hm hf
          have hP' := hP.fr hq hp hf.fr
          exact r_Paths_find_84 hY hp ⟨fun _ => ⟨by omega, iha σ' hm.next hf⟩, fun g => absurd g (by rw [hP'.1]; omega)⟩
        · intro b b0 b1 ihb σ' hm hf
          have hP' := hP.fr hq hp hf.fr
          refine r_Paths_find_84 hY hp ⟨fun g => absurd g (by rw [hP'.1]; omega), fun _ => ?_⟩
          refine Ex.toV (c_widen hY ⟨a0, by omega⟩ ⟨k0, by omega⟩ ⟨b0, by omega⟩) ?_ (fun _ _ h => h)
          rintro σ'' ⟨w1, w2, w3, w4⟩
          refine ⟨by omega, ihb σ'' (hm.wide k0 k1 a0 a1 b0 b1 (fun x y hxy => w1 _ _ (by omega)) w2 (fun e v _ => w3 e v) ?_) fun i j hij => ?_⟩
          · have := hm.2.1 a b a0 a1 b0 b1
            dsimp only at this
            omega
          · rw [w1 i j (by omega)]; exact hf i j hij
  -- the first part
  refine upto (P := fun a => ∀ σ', (∀ x y, 0 ≤ x → x < a → 0 ≤ y → y < qN q → (bts q x y → σ' (5 + x) y = pr q x y) ∧ (¬ bts q x y → σ' (5 + x) y = 0)) → frS σ σ' → G_Paths_find_2 0 L σ' (fun σ' => isS q (fun x y => σ' (5 + x) y) ∧ frS σ σ') NT p a) (a := 0) (n := qN q) ?_ ?_ 0 (by omega) (by omega) σ (fun x y x0 x1 => absurd x1 (by omega)) (fun _ _ _ => rfl)
  · intro σ' h hf
    have hP' := hP.fr hq hp hf.fr
    exact r_Paths_find_2 hY hp ⟨fun _ => part2 σ' (mat.init hq h) hf, fun g => absurd g (by rw [hP'.1]; omega)⟩
  · intro a a0 a1 iha σ' h hf
    have hP' := hP.fr hq hp hf.fr
    refine r_Paths_find_2 hY hp ⟨fun g => absurd g (by rw [hP'.1]; omega), fun _ => ?_⟩
    refine upto (P := fun b => ∀ σ', (∀ x y, 0 ≤ x → x ≤ a → 0 ≤ y → y < qN q → (x < a ∨ y < b) → (bts q x y → σ' (5 + x) y = pr q x y) ∧ (¬ bts q x y → σ' (5 + x) y = 0)) → frS σ σ' → G_Paths_find_12 0 L σ' (fun σ' => isS q (fun x y => σ' (5 + x) y) ∧ frS σ σ') NT p a b) (a := 0) (n := qN q) ?_ ?_ 0 (by omega) (by omega) σ' (fun x y x0 x1 y0 y1 hxy => h x y x0 (by omega) y0 y1) hf
    · intro σ' h hf
      have hP' := hP.fr hq hp hf.fr
      exact r_Paths_find_12 hY hp ⟨fun _ => ⟨by omega, iha σ' (fun x y x0 x1 y0 y1 => h x y x0 (by omega) y0 y1 (by omega)) hf⟩, fun g => absurd g (by rw [hP'.1]; omega)⟩
    · intro b b0 b1 ihb σ' h hf
      have hP' := hP.fr hq hp hf.fr
      refine r_Paths_find_12 hY hp ⟨fun g => absurd g (by rw [hP'.1]; omega), fun _ => ⟨by omega, ?_⟩⟩
      have put : ∀ v, ((bts q a b → v = pr q a b) ∧ (¬ bts q a b → v = 0)) → G_Paths_find_12 0 L (upd2 σ' (5 + a) b v) (fun σ' => isS q (fun x y => σ' (5 + x) y) ∧ frS σ σ') NT p a (b + 1) := by
        intro v hv
        refine ihb _ (fun x y x0 x1 y0 y1 hxy => ?_) (fun i j hij => by rw [u_ne (by omega)]; exact hf i j hij)
        by_cases e : x = a ∧ y = b
        · rw [e.1, e.2, u_eq]; exact hv
        · rw [show upd2 σ' (5 + a) b v (5 + x) y = σ' (5 + x) y by unfold upd2; rw [if_neg (by omega)]]
          exact h x y x0 x1 y0 y1 (by omega)
      refine (c_beats hY hp hq hP' ⟨a0, a1⟩ ⟨b0, b1⟩).to (by omega) ⟨fun e => ⟨by omega, by omega, put 0 ⟨fun w => absurd w (bI_f e), fun _ => rfl⟩⟩, fun e => ⟨by omega, by omega, by omega, by omega, put _ ⟨fun _ => hP'.2.2.2.2.1 a b a0 a1 b0 b1, fun w => absurd (bI_t e) w⟩⟩⟩
theorem c_win3 (hY : Lay L) (hp : isPr p) (hq : okP q) (hP : isP σ p q) : Ex 2 y_Paths_winners [vr 3, vr p] L σ (PI L (fun z σ' => isM z (qN q) (W7 q) ∧ Fr σ σ') NT) := by
  have hn := hq.1
  refine e_Paths_winners hY hp ?_
  refine Ex.toV (c_find7 hY hp hq hP) ?_ (fun _ _ h => h)
  rintro σ' ⟨hS, hf⟩
  have hP' := hP.fr hq hp hf.fr
  refine upto (P := fun a => ∀ z, isM z a (W7 q) → G_Paths_winners_9 1 L σ' (fun z σ' => isM z (qN q) (W7 q) ∧ Fr σ σ') NT p z a) (a := 0) (n := qN q) ?_ ?_ 0 (by omega) (by omega) 0 (isM.zero _)
  · intro z hz
    exact r_Paths_winners_9 hY hp ⟨fun _ => ⟨hz, hf.fr⟩, fun g => absurd g (by rw [hP'.1]; omega)⟩
  · intro a a0 a1 ih z hz
    refine r_Paths_winners_9 hY hp ⟨fun g => absurd g (by rw [hP'.1]; omega), fun _ => ?_⟩
    refine upto (P := fun b => ∀ w, w = bI (∀ j, 0 ≤ j → j < b → σ' (5 + j) a ≤ σ' (5 + a) j) → G_Paths_winners_23 1 L σ' (fun z σ' => isM z (qN q) (W7 q) ∧ Fr σ σ') NT p z a w b) (a := 0) (n := qN q) ?_ ?_ 0 (by omega) (by omega) 1 (bI_p fun j j0 j1 => absurd j1 (by omega)).symm
    · intro w hw
      have hiff := hS.win a0 a1
      refine r_Paths_winners_23 hY hp ⟨fun _ => ⟨fun e => ⟨by omega, ih z (hz.skip fun g => ?_)⟩, fun e => ⟨by omega, ih _ (hz.or a0 (by omega) ?_)⟩⟩, fun g => absurd g (by rw [hP'.1]; omega)⟩
      · rw [hw] at e
        exact bI_f e (hiff.mp g)
      · rw [hw] at e
        exact hiff.mpr (bI_t e)
    · intro b b0 b1 ihb w hw
      refine r_Paths_winners_23 hY hp ⟨fun g => absurd g (by rw [hP'.1]; omega), fun _ => ⟨by omega, by omega, by omega, by omega, fun e => ⟨by omega, ihb w ?_⟩, fun e => ⟨by omega, ihb 0 ?_⟩⟩⟩
      · rw [hw]
        refine bI_iff ⟨fun h j j0 j1 => ?_, fun h j j0 j1 => h j j0 (by omega)⟩
        by_cases g : j = b
        · rw [g]; exact e
        · exact h j j0 (by omega)
      · exact (bI_n fun h => by have := h b b0 (by omega); omega).symm
end
