/-! THE MODEL's PROPERTIES -/
section
variable {L : List Sh} {σ : Mm} {s : St} {q : Pf}
/-- an order loses a candidate, in place -/
theorem m_without (hY : Lay L) {x f c n : Int} {n2 : Nat} (hx : LkA L x 1 n2) (hx2 : x ≠ 102) (hn : σ 102 8 = n) (h7 : 2 ≤ n ∧ n ≤ 7) (f0 : 0 ≤ f) (f1 : f + n ≤ n2) (f2 : f ≤ 1000) {g : Int → Int} (hg : ∀ k, 0 ≤ k → k < n → σ x (f + k) = g k) (hpm : Pm n g) (hc : 0 ≤ c ∧ c < n) : Ex 0 y_Mod_without [vr 102, vi c, vr x, vi f] L σ (PV L (fun σ' => (∀ j, 0 ≤ j → j < n - 1 → σ' x (f + j) = wo g c j) ∧ (∀ j, ¬ (f ≤ j ∧ j < f + n) → σ' x j = σ x j) ∧ ∀ k j, k ≠ x → σ' k j = σ k j) NT) := by
  have hs := ps_spec h7.2 hpm hc.1 hc.2
  refine e_Mod_without hY hx ?_
  have main := upto (P := fun i => ∀ σ', (∀ j, 0 ≤ j → j < (if i ≤ ps g c then i else i - 1) → σ' x (f + j) = wo g c j) → (∀ j, i ≤ j → j < n → σ' x (f + j) = g j) → (∀ j, ¬ (f ≤ j ∧ j < f + n) → σ' x j = σ x j) → (∀ k j, k ≠ x → σ' k j = σ k j) → G_Mod_without_6 0 L σ' (fun σ' => (∀ j, 0 ≤ j → j < n - 1 → σ' x (f + j) = wo g c j) ∧ (∀ j, ¬ (f ≤ j ∧ j < f + n) → σ' x j = σ x j) ∧ ∀ k j, k ≠ x → σ' k j = σ k j) NT x c f (f + (if i ≤ ps g c then i else i - 1)) (f + i)) (a := 0) (n := n) ?_ ?_ 0 (by omega) (by omega) σ
  · rw [if_pos (by omega), Int.add_zero] at main
    exact main (fun j j0 j1 => absurd j1 (by omega)) (fun j j0 j1 => hg j j0 j1) (fun _ _ => rfl) (fun _ _ _ => rfl)
  · intro σ' h1 h2 h3 h4
    have e8 : σ' 102 8 = n := by rw [h4 _ _ (Ne.symm hx2)]; exact hn
    rw [if_neg (by omega)] at h1
    rw [if_neg (by omega)]
    exact r_Mod_without_6 hY hx ⟨by omega, fun _ => ⟨h1, h3, h4⟩, fun g => absurd g (by omega)⟩
  · intro i i0 i1 ih σ' h1 h2 h3 h4
    have e8 : σ' 102 8 = n := by rw [h4 _ _ (Ne.symm hx2)]; exact hn
    have ei := h2 i (Int.le_refl i) i1
    have gi := hpm.1 i i0 i1
    have hat := ps_at h7.2 hpm i0 i1
    have hw : i ≠ ps g c → wo g c (if i ≤ ps g c then i else i - 1) = if c < g i then g i - 1 else g i := by
      intro hne
      unfold wo
      have e : (if (if i ≤ ps g c then i else i - 1) < ps g c then (if i ≤ ps g c then i else i - 1) else (if i ≤ ps g c then i else i - 1) + 1) = i := by
        by_cases u : i ≤ ps g c
        · rw [if_pos u, if_pos (by omega)]
        · rw [if_neg u, if_neg (by omega)]; omega
      rw [e]
    have hidx : (if i + 1 ≤ ps g c then i + 1 else i + 1 - 1) = if i = ps g c then (if i ≤ ps g c then i else i - 1) else (if i ≤ ps g c then i else i - 1) + 1 := by
      by_cases u : i = ps g c
      · rw [if_neg (show ¬ i + 1 ≤ ps g c by omega), if_pos u, if_pos (show i ≤ ps g c by omega)]; omega
      · rw [if_neg u]
        by_cases u2 : i ≤ ps g c
        · rw [if_pos u2, if_pos (by omega)]
        · rw [if_neg u2, if_neg (by omega)]; omega
    have hr : 0 ≤ (if i ≤ ps g c then i else i - 1) ∧ (if i ≤ ps g c then i else i - 1) ≤ i := by
      split <;> omega
    have wr : i ≠ ps g c → ∀ v, v = (if c < g i then g i - 1 else g i) → G_Mod_without_6 0 L (upd2 σ' x (f + (if i ≤ ps g c then i else i - 1)) v) (fun σ' => (∀ j, 0 ≤ j → j < n - 1 → σ' x (f + j) = wo g c j) ∧ (∀ j, ¬ (f ≤ j ∧ j < f + n) → σ' x j = σ x j) ∧ ∀ k j, k ≠ x → σ' k j = σ k j) NT x c f (f + (if i ≤ ps g c then i else i - 1) + 1) (f + i + 1) := by
      intro hne v hv
      have hi := ih (upd2 σ' x (f + (if i ≤ ps g c then i else i - 1)) v)
      rw [hidx, if_neg hne] at hi
      rw [Int.add_assoc, Int.add_assoc f i 1]
      refine hi (fun j j0 j1 => ?_) (fun j j0 j1 => ?_) (fun j hj => ?_) (fun k j hk => by rw [u_ne hk]; exact h4 k j hk)
      · rw [u_if]
        by_cases u : j = (if i ≤ ps g c then i else i - 1)
        · rw [if_pos (by omega), u, hw hne]; exact hv
        · rw [if_neg (by omega)]; exact h1 j j0 (by omega)
      · rw [u_ne2 (by omega)]; exact h2 j (by omega) j1
      · rw [u_ne2 (by omega)]; exact h3 j hj
    refine r_Mod_without_6 hY hx ⟨by omega, fun w => absurd w (by omega), fun _ => ⟨by omega, fun e => ⟨by omega, ?_⟩, fun e => ⟨fun e2 => ⟨by omega, by omega, by omega, ?_⟩, fun e2 => ⟨?_, by omega, by omega, by omega, ?_⟩⟩⟩⟩
    · rw [ei] at e
      rw [e] at hat
      have hi := ih σ'
      rw [hidx, if_pos hat.symm] at hi
      rw [Int.add_assoc f i 1]
      exact hi h1 (fun j j0 j1 => h2 j (by omega) j1) h3 h4
    · rw [ei] at e e2
      have hne : i ≠ ps g c := fun u => e (by rw [u]; exact hs.2.2)
      rw [ei]
      exact wr hne _ (by rw [if_neg (by omega)])
    · rw [ei]; omega
    · rw [ei] at e e2
      have hne : i ≠ ps g c := fun u => e (by rw [u]; exact hs.2.2)
      rw [ei]
      exact wr hne _ (by rw [if_pos e2])
end
