/-! THE NEXT ORDER, on both sides -/
section
variable {L : List Sh} {σ : Mm} {s : St} {q : Pf}
theorem c_advance (hY : Lay L) {n : Int} (h30 : σ 30 0 = n) (hn : 2 ≤ n ∧ n ≤ 7) (hpm : Pm n (σ 29)) : Ex 0 y_Desk_advance [vr 0] L σ (PI L (fun z σ' => ((z = 0 ∧ isLast n (σ 29)) ∨ (z = 1 ∧ isNx n (σ 29) (σ' 29))) ∧ (z = 0 → σ' = σ) ∧ ∀ k j, k ≠ 29 → σ' k j = σ k j) NT) := by
  have hne : ∀ a b, 0 ≤ a → a < n → 0 ≤ b → b < n → a ≠ b → σ 29 a ≠ σ 29 b := fun a b a0 a1 b0 b1 e w => e (hpm.2.1 a b a0 a1 b0 b1 w)
  have st3 : ∀ k j, (0 ≤ k ∧ k < n - 1) → σ 29 k < σ 29 (k + 1) → (∀ i, k < i → i < n - 1 → σ 29 (i + 1) < σ 29 i) → (k < j ∧ j < n) → σ 29 k < σ 29 j → (∀ i, j < i → i < n → σ 29 i < σ 29 k) → G_Desk_advance_108 0 L (upd2 (upd2 σ 29 k (σ 29 j)) 29 j (σ 29 k)) (fun z σ' => ((z = 0 ∧ isLast n (σ 29)) ∨ (z = 1 ∧ isNx n (σ 29) (σ' 29))) ∧ (z = 0 → σ' = σ) ∧ ∀ k j, k ≠ 29 → σ' k j = σ k j) NT (k + 1) (n - 1) := by
    intro k j hk a1 a2 hj a3 a4
    have main := upto (P := fun lo => ∀ σ', (∀ i, 0 ≤ i → i ≤ k → σ' 29 i = sw2 (σ 29) k j i) → (∀ i, k < i → i < n → σ' 29 i = if i < lo ∨ n + k - lo < i then sw2 (σ 29) k j (n + k - i) else sw2 (σ 29) k j i) → (∀ x y, x ≠ 29 → σ' x y = σ x y) → G_Desk_advance_108 0 L σ' (fun z σ' => ((z = 0 ∧ isLast n (σ 29)) ∨ (z = 1 ∧ isNx n (σ 29) (σ' 29))) ∧ (z = 0 → σ' = σ) ∧ ∀ k j, k ≠ 29 → σ' k j = σ k j) NT lo (n + k - lo)) (a := k + 1) (n := n) ?_ ?_ (k + 1) (by omega) (by omega) (upd2 (upd2 σ 29 k (σ 29 j)) 29 j (σ 29 k)) (fun i i0 i1 => ?_) (fun i i0 i1 => ?_) (fun x y hx => by rw [u_ne hx, u_ne hx])
    · rw [show n + k - (k + 1) = n - 1 by omega] at main
      exact main
    · intro σ' b1 b2 b3
      refine r_Desk_advance_108 hY ⟨fun _ => ⟨Or.inr ⟨rfl, k, j, hk, a1, a2, hj, a3, a4, b1, fun i i0 i1 => ?_⟩, fun w => absurd w (by decide), b3⟩, fun g => absurd g (by omega)⟩
      rw [b2 i i0 i1, if_pos (Or.inl i1)]
    · intro lo l0 l1 ih σ' b1 b2 b3
      refine r_Desk_advance_108 hY ⟨fun g => ⟨Or.inr ⟨rfl, k, j, hk, a1, a2, hj, a3, a4, b1, fun i i0 i1 => ?_⟩, fun w => absurd w (by decide), b3⟩, fun g => ⟨by omega, by omega, by omega, by omega, by omega, by omega, ?_⟩⟩
      · rw [b2 i i0 i1]
        by_cases e : i < lo ∨ n + k - lo < i
        · rw [if_pos e]
        · rw [if_neg e, show n + k - i = i by omega]
      · have e1 := b2 lo (by omega) (by omega)
        have e2 := b2 (n + k - lo) (by omega) (by omega)
        rw [if_neg (by omega)] at e1 e2
        have ih2 := ih (upd2 (upd2 σ' 29 lo (σ' 29 (n + k - lo))) 29 (n + k - lo) (σ' 29 lo)) (fun i i0 i1 => by rw [u_ne2 (by omega), u_ne2 (by omega)]; exact b1 i i0 i1) (fun i i0 i1 => ?_) (fun x y hx => by rw [u_ne hx, u_ne hx]; exact b3 x y hx)
        · rw [show n + k - (lo + 1) = n + k - lo + (-1) by omega] at ih2
          exact ih2
        · rw [u_if, u_if, e1, e2, b2 i i0 i1]
          by_cases c1 : i = n + k - lo
          · rw [if_pos c1, if_pos (by omega), c1, show n + k - (n + k - lo) = lo by omega]
          · rw [if_neg c1]
            by_cases c2 : i = lo
            · rw [if_pos c2, if_pos (by omega), c2]
            · rw [if_neg c2]
              by_cases c3 : i < lo ∨ n + k - lo < i
              · rw [if_pos c3, if_pos (by omega)]
              · rw [if_neg c3, if_neg (by omega)]
    · rw [u_if, u_if]
      unfold sw2
      by_cases c1 : i = k
      · rw [if_neg (by omega), if_pos c1, if_pos c1]
      · rw [if_neg (by omega), if_neg c1, if_neg c1, if_neg (by omega)]
    · rw [u_if, u_if, if_neg (show ¬ (i < k + 1 ∨ n + k - (k + 1) < i) by omega)]
      unfold sw2
      by_cases c1 : i = j
      · rw [if_pos c1, if_neg (by omega), if_pos c1]
      · rw [if_neg c1, if_neg (by omega), if_neg (by omega), if_neg c1]
  have st2 : ∀ k, (0 ≤ k ∧ k < n - 1) → σ 29 k < σ 29 (k + 1) → (∀ i, k < i → i < n - 1 → σ 29 (i + 1) < σ 29 i) → G_Desk_advance_49 0 L σ (fun z σ' => ((z = 0 ∧ isLast n (σ 29)) ∨ (z = 1 ∧ isNx n (σ 29) (σ' 29))) ∧ (z = 0 → σ' = σ) ∧ ∀ k j, k ≠ 29 → σ' k j = σ k j) NT n k (n - 1) := by
    intro k hk a1 a2
    refine upFrom (P := fun j => j < n → (∀ i, j < i → i < n → σ 29 i < σ 29 k) → G_Desk_advance_49 0 L σ (fun z σ' => ((z = 0 ∧ isLast n (σ 29)) ∨ (z = 1 ∧ isNx n (σ 29) (σ' 29))) ∧ (z = 0 → σ' = σ) ∧ ∀ k j, k ≠ 29 → σ' k j = σ k j) NT n k j) (a := k + 1) ?_ ?_ (n - 1) (by omega) (by omega) (fun i i0 i1 => absurd i1 (by omega))
    · intro _ hb
      exact r_Desk_advance_49 hY ⟨by omega, by omega, fun g => ⟨by omega, by omega, by omega, by omega, by omega, by omega, st3 k (k + 1) hk a1 a2 (by omega) a1 hb⟩, fun g => absurd g (by omega)⟩
    · intro j j0 ih j1 hb
      refine r_Desk_advance_49 hY ⟨by omega, by omega, fun g => ⟨by omega, by omega, by omega, by omega, by omega, by omega, st3 k (j + 1) hk a1 a2 (by omega) (by have := hne k (j + 1) hk.1 (by omega) (by omega) j1 (by omega); omega) hb⟩, fun g => ⟨by omega, ?_⟩⟩
      rw [show j + 1 + -1 = j by omega]
      refine ih (by omega) fun i i0 i1 => ?_
      by_cases e : i = j + 1
      · rw [e]; exact g
      · exact hb i (by omega) i1
  refine e_Desk_advance hY ⟨by omega, ?_⟩
  rw [h30]
  refine upFrom (P := fun k => k < n - 1 → (∀ i, k < i → i < n - 1 → σ 29 (i + 1) < σ 29 i) → G_Desk_advance_12 0 L σ (fun z σ' => ((z = 0 ∧ isLast n (σ 29)) ∨ (z = 1 ∧ isNx n (σ 29) (σ' 29))) ∧ (z = 0 → σ' = σ) ∧ ∀ k j, k ≠ 29 → σ' k j = σ k j) NT n k) (a := -1) ?_ ?_ (n - 2) (by omega) (by omega) (fun i i0 i1 => absurd i1 (by omega))
  · intro _ hb
    exact r_Desk_advance_12 hY ⟨fun _ => ⟨fun g => absurd g (by omega), fun _ => ⟨Or.inl ⟨rfl, fun i i0 i1 => hb i (by omega) i1⟩, fun _ => rfl, fun _ _ _ => rfl⟩⟩, fun g => absurd g (by omega)⟩
  · intro k k0 ih k1 hb
    refine r_Desk_advance_12 hY ⟨fun g => absurd g (by omega), fun _ => ⟨by omega, by omega, by omega, fun g => ⟨fun _ => ⟨by omega, st2 _ ⟨by omega, by omega⟩ (by have := hne (k + 1) (k + 1 + 1) (by omega) (by omega) (by omega) (by omega) (by omega); omega) hb⟩, fun g => absurd g (by omega)⟩, fun g => ⟨by omega, ?_⟩⟩⟩
    rw [show k + 1 + -1 = k by omega]
    refine ih (by omega) fun i i0 i1 => ?_
    by_cases e : i = k + 1
    · rw [e]; exact g
    · exact hb i (by omega) i1
theorem m_nextOrder (hY : Lay L) {n : Int} (h30 : σ 102 1 = n) (hn : 2 ≤ n ∧ n ≤ 7) (hpm : Pm n (σ 118)) : Ex 0 y_Mod_nextOrder [vr 102] L σ (PI L (fun z σ' => ((z = 0 ∧ isLast n (σ 118)) ∨ (z = 1 ∧ isNx n (σ 118) (σ' 118))) ∧ (z = 0 → σ' = σ) ∧ ∀ k j, k ≠ 118 → σ' k j = σ k j) NT) := by
  have hne : ∀ a b, 0 ≤ a → a < n → 0 ≤ b → b < n → a ≠ b → σ 118 a ≠ σ 118 b := fun a b a0 a1 b0 b1 e w => e (hpm.2.1 a b a0 a1 b0 b1 w)
  have st3 : ∀ k j, (0 ≤ k ∧ k < n - 1) → σ 118 k < σ 118 (k + 1) → (∀ i, k < i → i < n - 1 → σ 118 (i + 1) < σ 118 i) → (k < j ∧ j < n) → σ 118 k < σ 118 j → (∀ i, j < i → i < n → σ 118 i < σ 118 k) → G_Mod_nextOrder_107 0 L (upd2 (upd2 σ 118 k (σ 118 j)) 118 j (σ 118 k)) (fun z σ' => ((z = 0 ∧ isLast n (σ 118)) ∨ (z = 1 ∧ isNx n (σ 118) (σ' 118))) ∧ (z = 0 → σ' = σ) ∧ ∀ k j, k ≠ 118 → σ' k j = σ k j) NT (k + 1) (n - 1) := by
    intro k j hk a1 a2 hj a3 a4
    have main := upto (P := fun lo => ∀ σ', (∀ i, 0 ≤ i → i ≤ k → σ' 118 i = sw2 (σ 118) k j i) → (∀ i, k < i → i < n → σ' 118 i = if i < lo ∨ n + k - lo < i then sw2 (σ 118) k j (n + k - i) else sw2 (σ 118) k j i) → (∀ x y, x ≠ 118 → σ' x y = σ x y) → G_Mod_nextOrder_107 0 L σ' (fun z σ' => ((z = 0 ∧ isLast n (σ 118)) ∨ (z = 1 ∧ isNx n (σ 118) (σ' 118))) ∧ (z = 0 → σ' = σ) ∧ ∀ k j, k ≠ 118 → σ' k j = σ k j) NT lo (n + k - lo)) (a := k + 1) (n := n) ?_ ?_ (k + 1) (by omega) (by omega) (upd2 (upd2 σ 118 k (σ 118 j)) 118 j (σ 118 k)) (fun i i0 i1 => ?_) (fun i i0 i1 => ?_) (fun x y hx => by rw [u_ne hx, u_ne hx])
    · rw [show n + k - (k + 1) = n - 1 by omega] at main
      exact main
    · intro σ' b1 b2 b3
      refine r_Mod_nextOrder_107 hY ⟨fun _ => ⟨Or.inr ⟨rfl, k, j, hk, a1, a2, hj, a3, a4, b1, fun i i0 i1 => ?_⟩, fun w => absurd w (by decide), b3⟩, fun g => absurd g (by omega)⟩
      rw [b2 i i0 i1, if_pos (Or.inl i1)]
    · intro lo l0 l1 ih σ' b1 b2 b3
      refine r_Mod_nextOrder_107 hY ⟨fun g => ⟨Or.inr ⟨rfl, k, j, hk, a1, a2, hj, a3, a4, b1, fun i i0 i1 => ?_⟩, fun w => absurd w (by decide), b3⟩, fun g => ⟨by omega, by omega, by omega, by omega, by omega, by omega, ?_⟩⟩
      · rw [b2 i i0 i1]
        by_cases e : i < lo ∨ n + k - lo < i
        · rw [if_pos e]
        · rw [if_neg e, show n + k - i = i by omega]
      · have e1 := b2 lo (by omega) (by omega)
        have e2 := b2 (n + k - lo) (by omega) (by omega)
        rw [if_neg (by omega)] at e1 e2
        have ih2 := ih (upd2 (upd2 σ' 118 lo (σ' 118 (n + k - lo))) 118 (n + k - lo) (σ' 118 lo)) (fun i i0 i1 => by rw [u_ne2 (by omega), u_ne2 (by omega)]; exact b1 i i0 i1) (fun i i0 i1 => ?_) (fun x y hx => by rw [u_ne hx, u_ne hx]; exact b3 x y hx)
        · rw [show n + k - (lo + 1) = n + k - lo + (-1) by omega] at ih2
          exact ih2
        · rw [u_if, u_if, e1, e2, b2 i i0 i1]
          by_cases c1 : i = n + k - lo
          · rw [if_pos c1, if_pos (by omega), c1, show n + k - (n + k - lo) = lo by omega]
          · rw [if_neg c1]
            by_cases c2 : i = lo
            · rw [if_pos c2, if_pos (by omega), c2]
            · rw [if_neg c2]
              by_cases c3 : i < lo ∨ n + k - lo < i
              · rw [if_pos c3, if_pos (by omega)]
              · rw [if_neg c3, if_neg (by omega)]
    · rw [u_if, u_if]
      unfold sw2
      by_cases c1 : i = k
      · rw [if_neg (by omega), if_pos c1, if_pos c1]
      · rw [if_neg (by omega), if_neg c1, if_neg c1, if_neg (by omega)]
    · rw [u_if, u_if, if_neg (show ¬ (i < k + 1 ∨ n + k - (k + 1) < i) by omega)]
      unfold sw2
      by_cases c1 : i = j
      · rw [if_pos c1, if_neg (by omega), if_pos c1]
      · rw [if_neg c1, if_neg (by omega), if_neg (by omega), if_neg c1]
  have st2 : ∀ k, (0 ≤ k ∧ k < n - 1) → σ 118 k < σ 118 (k + 1) → (∀ i, k < i → i < n - 1 → σ 118 (i + 1) < σ 118 i) → G_Mod_nextOrder_47 0 L σ (fun z σ' => ((z = 0 ∧ isLast n (σ 118)) ∨ (z = 1 ∧ isNx n (σ 118) (σ' 118))) ∧ (z = 0 → σ' = σ) ∧ ∀ k j, k ≠ 118 → σ' k j = σ k j) NT k (n - 1) := by
    intro k hk a1 a2
    refine upFrom (P := fun j => j < n → (∀ i, j < i → i < n → σ 118 i < σ 118 k) → G_Mod_nextOrder_47 0 L σ (fun z σ' => ((z = 0 ∧ isLast n (σ 118)) ∨ (z = 1 ∧ isNx n (σ 118) (σ' 118))) ∧ (z = 0 → σ' = σ) ∧ ∀ k j, k ≠ 118 → σ' k j = σ k j) NT k j) (a := k + 1) ?_ ?_ (n - 1) (by omega) (by omega) (fun i i0 i1 => absurd i1 (by omega))
    · intro _ hb
      exact r_Mod_nextOrder_47 hY ⟨by omega, by omega, fun g => ⟨by omega, by omega, by omega, by omega, by omega, by rw [u_ne (by omega), u_ne (by omega)]; omega, by rw [u_ne (show (102 : Int) ≠ 118 by omega), u_ne (show (102 : Int) ≠ 118 by omega), h30]; exact st3 k (k + 1) hk a1 a2 (by omega) a1 hb⟩, fun g => absurd g (by omega)⟩
    · intro j j0 ih j1 hb
      refine r_Mod_nextOrder_47 hY ⟨by omega, by omega, fun g => ⟨by omega, by omega, by omega, by omega, by omega, by rw [u_ne (by omega), u_ne (by omega)]; omega, by rw [u_ne (show (102 : Int) ≠ 118 by omega), u_ne (show (102 : Int) ≠ 118 by omega), h30]; exact st3 k (j + 1) hk a1 a2 (by omega) (by have := hne k (j + 1) hk.1 (by omega) (by omega) j1 (by omega); omega) hb⟩, fun g => ⟨by omega, ?_⟩⟩
      rw [show j + 1 + -1 = j by omega]
      refine ih (by omega) fun i i0 i1 => ?_
      by_cases e : i = j + 1
      · rw [e]; exact g
      · exact hb i (by omega) i1
  refine e_Mod_nextOrder hY ⟨by omega, ?_⟩
  rw [h30]
  refine upFrom (P := fun k => k < n - 1 → (∀ i, k < i → i < n - 1 → σ 118 (i + 1) < σ 118 i) → G_Mod_nextOrder_7 0 L σ (fun z σ' => ((z = 0 ∧ isLast n (σ 118)) ∨ (z = 1 ∧ isNx n (σ 118) (σ' 118))) ∧ (z = 0 → σ' = σ) ∧ ∀ k j, k ≠ 118 → σ' k j = σ k j) NT k) (a := -1) ?_ ?_ (n - 2) (by omega) (by omega) (fun i i0 i1 => absurd i1 (by omega))
  · intro _ hb
    exact r_Mod_nextOrder_7 hY ⟨fun _ => ⟨fun g => absurd g (by omega), fun _ => ⟨Or.inl ⟨rfl, fun i i0 i1 => hb i (by omega) i1⟩, fun _ => rfl, fun _ _ _ => rfl⟩⟩, fun g => absurd g (by omega)⟩
  · intro k k0 ih k1 hb
    refine r_Mod_nextOrder_7 hY ⟨fun g => absurd g (by omega), fun _ => ⟨by omega, by omega, by omega, fun g => ⟨fun _ => ⟨by omega, by rw [h30]; exact st2 _ ⟨by omega, by omega⟩ (by have := hne (k + 1) (k + 1 + 1) (by omega) (by omega) (by omega) (by omega) (by omega); omega) hb⟩, fun g => absurd g (by omega)⟩, fun g => ⟨by omega, ?_⟩⟩⟩
    rw [show k + 1 + -1 = k by omega]
    refine ih (by omega) fun i i0 i1 => ?_
    by_cases e : i = k + 1
    · rw [e]; exact g
    · exact hb i (by omega) i1
theorem m_firstOrder (hY : Lay L) : Ex 0 y_Mod_firstOrder [vr 102] L σ (PV L (fun σ' => (∀ i, 0 ≤ i → i < 7 → σ' 118 i = i) ∧ ∀ k j, k ≠ 118 → σ' k j = σ k j) NT) := by
  refine e_Mod_firstOrder hY ?_
  refine upto (P := fun k => ∀ σ', (∀ i, 0 ≤ i → i < k → σ' 118 i = i) → (∀ k j, k ≠ 118 → σ' k j = σ k j) → G_Mod_firstOrder_2 0 L σ' (fun σ' => (∀ i, 0 ≤ i → i < 7 → σ' 118 i = i) ∧ ∀ k j, k ≠ 118 → σ' k j = σ k j) NT k) (a := 0) (n := 7) ?_ ?_ 0 (by omega) (by omega) σ (fun i a b => absurd b (by omega)) (fun _ _ _ => rfl)
  · intro σ' h1 h2
    exact r_Mod_firstOrder_2 hY ⟨fun _ => ⟨h1, h2⟩, fun g => absurd g (by omega)⟩
  · intro k k0 k1 ih σ' h1 h2
    refine r_Mod_firstOrder_2 hY ⟨fun g => absurd g (by omega), fun _ => ⟨by omega, by omega, ih _ (fun i a b => ?_) (fun x j hx => by rw [u_ne hx]; exact h2 x j hx)⟩⟩
    rw [u_if]
    by_cases e : i = k
    · rw [if_pos e, e]
    · rw [if_neg e]; exact h1 i a (by omega)
end
