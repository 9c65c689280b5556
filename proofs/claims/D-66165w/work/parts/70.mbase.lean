/-! THE MODEL's STATE between calls -/
def MB (σ : Mm) (s : St) : Prop := σ 102 1 = qN s.1 ∧ σ 102 2 = qT s.1 ∧ (∀ t k, 0 ≤ t → t < qT s.1 → 0 ≤ k → k < qN s.1 → σ 103 (7 * t + k) = qL s.1 t k) ∧ (∀ t, 0 ≤ t → t < qT s.1 → σ 104 t = qA s.1 t) ∧ (∀ k, 0 ≤ k → k < qN s.1 → σ 105 k = qI' s.1 k) ∧ (∀ k, 0 ≤ k → k < qN s.1 → σ 106 k = qG s.1 k) ∧ (∀ k, 0 ≤ k → k < qN s.1 → σ 107 k = qW s.1 k) ∧ σ 102 22 = s.2.1 ∧ σ 102 23 = s.2.2
/-- what may change while the model works -/
def FS (σ σ' : Mm) : Prop := ∀ k j, ¬ (108 ≤ k ∧ k < 120) → ¬ (k = 102 ∧ (j = 0 ∨ j = 8 ∨ j = 9)) → σ' k j = σ k j
theorem FS.refl (σ : Mm) : FS σ σ := fun _ _ _ _ => rfl
theorem FS.trans {a b c : Mm} (h : FS a b) (g : FS b c) : FS a c := fun k j h1 h2 => (g k j h1 h2).trans (h k j h1 h2)
theorem FC.fs {σ σ' : Mm} (h : FC σ σ') : FS σ σ' := fun k j h1 _ => h k j (by omega)
theorem MB.fs {σ σ' : Mm} {s : St} (h : MB σ s) (f : FS σ σ') : MB σ' s := by
  obtain ⟨h1, h2, h3, h4, h5, h6, h7, h8, h9⟩ := h
  exact ⟨by rw [f _ _ (by omega) (by omega)]; exact h1, by rw [f _ _ (by omega) (by omega)]; exact h2, fun t k a b c d => by rw [f _ _ (by omega) (by omega)]; exact h3 t k a b c d, fun t a b => by rw [f _ _ (by omega) (by omega)]; exact h4 t a b, fun k a b => by rw [f _ _ (by omega) (by omega)]; exact h5 k a b, fun k a b => by rw [f _ _ (by omega) (by omega)]; exact h6 k a b, fun k a b => by rw [f _ _ (by omega) (by omega)]; exact h7 k a b, by rw [f _ _ (by omega) (by omega)]; exact h8, by rw [f _ _ (by omega) (by omega)]; exact h9⟩
def FM (σ σ' : Mm) : Prop := ∀ k j, ¬ (102 ≤ k ∧ k < 120) → σ' k j = σ k j
theorem FS.fm {σ σ' : Mm} (h : FS σ σ') : FM σ σ' := fun k j hk => h k j (by omega) (by omega)
theorem FM.trans {a b c : Mm} (h : FM a b) (g : FM b c) : FM a c := fun k j hk => (g k j hk).trans (h k j hk)
/-- only the copy changes -/
def FL (σ σ' : Mm) : Prop := ∀ k j, ¬ (108 ≤ k ∧ k < 113) → ¬ (k = 102 ∧ (j = 8 ∨ j = 9)) → σ' k j = σ k j
theorem FL.fs {σ σ' : Mm} (h : FL σ σ') : FS σ σ' := fun k j h1 h2 => h k j (by omega) (by omega)
section
variable {L : List Sh} {σ : Mm} {s : St}
theorem m_load (hY : Lay L) (hq : okB s.1) (hB : MB σ s) : Ex 0 y_Mod_load [vr 102] L σ (PV L (fun σ' => isC σ' s.1 ∧ FL σ σ') NT) := by
  have hn := hq.1.1
  have hT := hq.1.2.1
  have hT2 := hq.2.1
  obtain ⟨h1, h2, h3, h4, h5, h6, h7, -, -⟩ := hB
  refine e_Mod_load hY ?_
  rw [u_ne2 (show (2 : Int) ≠ 8 by omega), h1, h2]
  -- the third loop
  have l3 : ∀ σ', FL σ σ' → σ' 102 8 = qN s.1 → σ' 102 9 = qT s.1 → (∀ t k, 0 ≤ t → t < qT s.1 → 0 ≤ k → k < qN s.1 → σ' 108 (7 * t + k) = qL s.1 t k) → (∀ t, 0 ≤ t → t < qT s.1 → σ' 109 t = qA s.1 t) → G_Mod_load_77 0 L σ' (fun σ' => isC σ' s.1 ∧ FL σ σ') NT 0 := by
    intro σ₀ f0 a0 b0 c0 d0
    refine upto (P := fun k => ∀ σ', FL σ σ' → σ' 102 8 = qN s.1 → σ' 102 9 = qT s.1 → (∀ t k, 0 ≤ t → t < qT s.1 → 0 ≤ k → k < qN s.1 → σ' 108 (7 * t + k) = qL s.1 t k) → (∀ t, 0 ≤ t → t < qT s.1 → σ' 109 t = qA s.1 t) → (∀ j, 0 ≤ j → j < k → σ' 110 j = σ 105 j ∧ σ' 111 j = σ 106 j ∧ σ' 112 j = σ 107 j) → G_Mod_load_77 0 L σ' (fun σ' => isC σ' s.1 ∧ FL σ σ') NT k) (a := 0) (n := 7) ?_ ?_ 0 (by omega) (by omega) σ₀ f0 a0 b0 c0 d0 (fun j j0 j1 => absurd j1 (by omega))
    · intro σ' f a b c d e
      exact r_Mod_load_77 hY ⟨fun _ => ⟨⟨a, b, c, d, fun k k0 k1 => by rw [(e k k0 (by omega)).1]; exact h5 k k0 k1, fun k k0 k1 => by rw [(e k k0 (by omega)).2.1]; exact h6 k k0 k1, fun k k0 k1 => by rw [(e k k0 (by omega)).2.2]; exact h7 k k0 k1⟩, f⟩, fun g => absurd g (by omega)⟩
    · intro k k0 k1 ih σ' f a b c d e
      refine r_Mod_load_77 hY ⟨fun g => absurd g (by omega), fun _ => ⟨by omega, by omega, by omega, by omega, by omega, by omega, by omega, ?_⟩⟩
      rw [u_ne (show (107 : Int) ≠ 111 by omega), u_ne (show (106 : Int) ≠ 110 by omega), u_ne (show (107 : Int) ≠ 110 by omega)]
      refine ih _ (fun i j hi hj => by rw [u_ne (by omega), u_ne (by omega), u_ne (by omega)]; exact f i j hi hj) (by rw [u_ne (by omega), u_ne (by omega), u_ne (by omega)]; exact a) (by rw [u_ne (by omega), u_ne (by omega), u_ne (by omega)]; exact b) (fun t j t0 t1 j0 j1 => by rw [u_ne (by omega), u_ne (by omega), u_ne (by omega)]; exact c t j t0 t1 j0 j1) (fun t t0 t1 => by rw [u_ne (by omega), u_ne (by omega), u_ne (by omega)]; exact d t t0 t1) (fun j j0 j1 => ?_)
      rw [u_ne (show (110 : Int) ≠ 112 by omega), u_ne (show (110 : Int) ≠ 111 by omega), u_if, u_ne (show (111 : Int) ≠ 112 by omega), u_if, u_ne (show (111 : Int) ≠ 110 by omega), u_if, u_ne (show (112 : Int) ≠ 111 by omega), u_ne (show (112 : Int) ≠ 110 by omega), f 105 k (by omega) (by omega), f 106 k (by omega) (by omega), f 107 k (by omega) (by omega)]
      by_cases w : j = k
      · rw [if_pos w, if_pos w, if_pos w, w]; exact ⟨rfl, rfl, rfl⟩
      · rw [if_neg w, if_neg w, if_neg w]; exact e j j0 (by omega)
  have l2 : ∀ σ', FL σ σ' → σ' 102 8 = qN s.1 → σ' 102 9 = qT s.1 → (∀ t k, 0 ≤ t → t < qT s.1 → 0 ≤ k → k < qN s.1 → σ' 108 (7 * t + k) = qL s.1 t k) → G_Mod_load_49 0 L σ' (fun σ' => isC σ' s.1 ∧ FL σ σ') NT 0 := by
    intro σ₀ f0 a0 b0 c0
    refine upto (P := fun t => ∀ σ', FL σ σ' → σ' 102 8 = qN s.1 → σ' 102 9 = qT s.1 → (∀ t k, 0 ≤ t → t < qT s.1 → 0 ≤ k → k < qN s.1 → σ' 108 (7 * t + k) = qL s.1 t k) → (∀ u, 0 ≤ u → u < t → σ' 109 u = σ 104 u) → G_Mod_load_49 0 L σ' (fun σ' => isC σ' s.1 ∧ FL σ σ') NT t) (a := 0) (n := qT s.1) ?_ ?_ 0 (by omega) (by omega) σ₀ f0 a0 b0 c0 (fun j j0 j1 => absurd j1 (by omega))
    · intro σ' f a b c d
      have e2 : σ' 102 2 = qT s.1 := by rw [f _ _ (by omega) (by omega)]; exact h2
      exact r_Mod_load_49 hY ⟨fun _ => l3 σ' f a b c fun t t0 t1 => by rw [d t t0 t1]; exact h4 t t0 t1, fun g => absurd g (by omega)⟩
    · intro t t0 t1 ih σ' f a b c d
      have e2 : σ' 102 2 = qT s.1 := by rw [f _ _ (by omega) (by omega)]; exact h2
      refine r_Mod_load_49 hY ⟨fun g => absurd g (by omega), fun _ => ⟨by omega, by omega, by omega, ih _ (fun i j hi hj => by rw [u_ne (by omega)]; exact f i j hi hj) (by rw [u_ne (by omega)]; exact a) (by rw [u_ne (by omega)]; exact b) (fun t j t0 t1 j0 j1 => by rw [u_ne (by omega)]; exact c t j t0 t1 j0 j1) fun u u0 u1 => ?_⟩⟩
      rw [u_if, f 104 t (by omega) (by omega)]
      by_cases w : u = t
      · rw [if_pos w, w]
      · rw [if_neg w]; exact d u u0 (by omega)
  refine upto (P := fun k => ∀ σ', FL σ σ' → σ' 102 8 = qN s.1 → σ' 102 9 = qT s.1 → (∀ j, 0 ≤ j → j < k → σ' 108 j = σ 103 j) → G_Mod_load_18 0 L σ' (fun σ' => isC σ' s.1 ∧ FL σ σ') NT k) (a := 0) (n := 7 * qT s.1) ?_ ?_ 0 (by omega) (by omega) _ (fun i j hi hj => ?_) ?_ ?_ (fun j j0 j1 => absurd j1 (by omega))
  · intro σ' f a b c
    have e2 : σ' 102 2 = qT s.1 := by rw [f _ _ (by omega) (by omega)]; exact h2
    refine r_Mod_load_18 hY ⟨by omega, fun _ => l2 σ' f a b fun t k t0 t1 k0 k1 => by rw [c _ (by omega) (by omega)]; exact h3 t k t0 t1 k0 k1, fun g => absurd g (by omega)⟩
  · intro k k0 k1 ih σ' f a b c
    have e2 : σ' 102 2 = qT s.1 := by rw [f _ _ (by omega) (by omega)]; exact h2
    refine r_Mod_load_18 hY ⟨by omega, fun g => absurd g (by omega), fun _ => ⟨by omega, by omega, by omega, ih _ (fun i j hi hj => by rw [u_ne (by omega)]; exact f i j hi hj) (by rw [u_ne (by omega)]; exact a) (by rw [u_ne (by omega)]; exact b) fun j j0 j1 => ?_⟩⟩
    rw [u_if, f 103 k (by omega) (by omega)]
    by_cases w : j = k
    · rw [if_pos w, w]
    · rw [if_neg w]; exact c j j0 (by omega)
  · by_cases e : i = 102
    · rw [e, u_ne2 (by omega), u_ne2 (by omega)]
    · rw [u_ne e, u_ne e]
  · rw [u_ne2 (by omega), u_eq]
  · rw [u_eq]
/-- the latest call's exception -/
theorem m_goes (hY : Lay L) {a b : Int} : Ex 0 y_Mod_goes [vr 102, vi a, vi b] L σ (PI L (fun z σ' => (a ≠ 0 ∧ b ≠ 0 ∧ z = 1 ∧ σ' = upd2 σ 102 0 0) ∨ (a = 0 ∧ z = 0 ∧ σ' = upd2 σ 102 0 1) ∨ (a ≠ 0 ∧ b = 0 ∧ z = 0 ∧ σ' = upd2 σ 102 0 2)) NT) := by
  refine e_Mod_goes hY ?_
  rw [u_eq, u_eq, u_eq]
  exact ⟨fun h => ⟨fun h2 => ⟨fun w => absurd rfl w, fun _ => Or.inl ⟨h, h2, rfl, rfl⟩⟩, fun h2 => ⟨fun _ => Or.inr (Or.inr ⟨h, h2, rfl, rfl⟩), fun w => absurd w (by decide)⟩⟩, fun h => ⟨fun _ => Or.inr (Or.inl ⟨h, rfl, rfl⟩), fun w => absurd w (by decide)⟩⟩
theorem m_within (hY : Lay L) {v a b : Int} : IsI 0 y_Mod_within [vi v, vi a, vi b] L σ (bI (a ≤ v ∧ v ≤ b)) := e_Mod_within hY ⟨fun h => ⟨(bI_n (by omega)).symm, rfl⟩, fun h => ⟨fun h2 => ⟨(bI_n (by omega)).symm, rfl⟩, fun h2 => ⟨(bI_p ⟨h, h2⟩).symm, rfl⟩⟩⟩
theorem m_isType (hY : Lay L) {t T : Int} (hT : σ 102 2 = T) : IsI 0 y_Mod_isType [vr 102, vi t] L σ (bI (0 ≤ t ∧ t < T)) := e_Mod_isType hY (by subst hT; exact ⟨fun h => ⟨(bI_n (by omega)).symm, rfl⟩, fun h => ⟨fun h2 => ⟨(bI_n (by omega)).symm, rfl⟩, fun h2 => ⟨(bI_p ⟨h, h2⟩).symm, rfl⟩⟩⟩)
theorem m_isRule (hY : Lay L) {r : Int} : IsI 1 y_Mod_isRule [vi r] L σ (bI (0 ≤ r ∧ r < 12)) := by
  have e : (0 ≤ r ∧ r ≤ 11) ↔ (0 ≤ r ∧ r < 12) := by omega
  exact e_Mod_isRule hY ((m_within hY).to (by omega) ⟨bI01 _, bI_iff e, rfl⟩)
theorem m_isCandidate (hY : Lay L) {c n : Int} (hn : σ 102 1 = n) (h7 : 2 ≤ n ∧ n ≤ 7) : IsI 1 y_Mod_isCandidate [vr 102, vi c] L σ (bI (0 ≤ c ∧ c < n)) := by
  have e : (0 ≤ c ∧ c ≤ n - 1) ↔ (0 ≤ c ∧ c < n) := by omega
  refine e_Mod_isCandidate hY ⟨by omega, ?_⟩
  rw [hn]
  exact (m_within hY).to (by omega) ⟨bI01 _, bI_iff e, rfl⟩
end
