section
variable {L : List Sh} {σ : Mm} {s : St} {p : Int} {q : Pf}
theorem mo_ballot (hY : Lay L) (hq : okB s.1) (hB : MB σ s) {o a : Int} (h32 : in32 o) : MOp y_Mod_ballot [vr 102, vi o, vi a] L σ (spBal s o a) := by
  refine Ex.deep (d := 1) ?_ (by omega)
  have hn := hq.1.1
  have hT := hq.1.2.1
  have hT2 := hq.2.1
  have go : ∀ x y : Int, (x ≠ 0 ↔ qT s.1 < 20) → (y ≠ 0 ↔ (isOrd (qN s.1) o ∧ 0 ≤ a ∧ a ≤ 100000)) → G_Mod_ballot_38 0 L σ (fun z σ' => ∃ k s', spBal s o a k z s' ∧ σ' 102 0 = k ∧ MB σ' s' ∧ FM σ σ') NT o a x y := by
    intro x y hx hy
    refine r_Mod_ballot_38 hY (m_gate hY hB rfl (fun h1 h2 σ' hB' hf h0 _ => ⟨fun _ => ?_, fun w => absurd w (by decide)⟩) (fun h1 σ' hB' hf h0 => ⟨fun w => absurd rfl w, fun _ => ⟨1, s, Or.inr (Or.inl ⟨fun w => (hy.mpr w) h1, rfl, rfl⟩), h0, hB', hf.fm⟩⟩) (fun h1 h2 σ' hB' hf h0 => ⟨fun w => absurd rfl w, fun _ => ⟨2, s, Or.inr (Or.inr ⟨hy.mp h1, fun w => (hx.mpr w) h2, rfl, rfl⟩), h0, hB', hf.fm⟩⟩))
    have hoa := hy.mp h1
    have hlt := hx.mp h2
    rw [hB'.2.1]
    refine ⟨by omega, ?_⟩
    refine Ex.toV (m_unpack hY (lk_103 hY) (by omega) hoa.1.1.1 h32.2 hB'.1 hn (by omega) (by omega) (by omega)) ?_ (fun _ _ h => h)
    rintro σ'' ⟨u1, u2, u3⟩
    have e2 : σ'' 102 2 = qT s.1 := by rw [u3 _ _ (by omega)]; exact hB'.2.1
    rw [e2, u_ne (show (102 : Int) ≠ 104 by omega), e2, u_eq]
    refine ⟨by omega, by omega, by omega, 0, (qadd s.1 (dg o) a, s.2), Or.inl ⟨hoa, hlt, rfl, by omega, rfl⟩, by rw [u_ne2 (by omega), u_ne (by omega), u3 _ _ (by omega)]; exact h0, ⟨by rw [u_ne2 (by omega), u_ne (by omega), u3 _ _ (by omega)]; exact hB'.1, u_eq, fun t k t0 t1 k0 k1 => ?_, fun t t0 t1 => ?_, fun k a b => by rw [u_ne (by omega), u_ne (by omega), u3 _ _ (by omega)]; exact hB'.2.2.2.2.1 k a b, fun k a b => by rw [u_ne (by omega), u_ne (by omega), u3 _ _ (by omega)]; exact hB'.2.2.2.2.2.1 k a b, fun k a b => by rw [u_ne (by omega), u_ne (by omega), u3 _ _ (by omega)]; exact hB'.2.2.2.2.2.2.1 k a b, by rw [u_ne2 (by omega), u_ne (by omega), u3 _ _ (by omega)]; exact hB'.2.2.2.2.2.2.2.1, by rw [u_ne2 (by omega), u_ne (by omega), u3 _ _ (by omega)]; exact hB'.2.2.2.2.2.2.2.2⟩, fun k j hk => by rw [u_ne (by omega), u_ne (by omega), u3 _ _ (by omega)]; exact hf.fm k j hk⟩
    · have t1 : t < qT s.1 + 1 := t1
      have k1 : k < qN s.1 := k1
      rw [u_ne (by omega), u_ne (by omega)]
      show _ = (if t = qT s.1 then dg o else qL s.1 t) k
      by_cases e : t = qT s.1
      · rw [if_pos e, e]; exact u1 k k0 k1
      · rw [if_neg e, u2 _ (by omega)]; exact hB'.2.2.1 t k t0 (by omega) k0 k1
    · have t1 : t < qT s.1 + 1 := t1
      rw [u_ne (by omega), u_if, u3 _ _ (by omega)]
      show _ = if t = qT s.1 then a else qA s.1 t
      by_cases e : t = qT s.1
      · rw [if_pos e, if_pos e]
      · rw [if_neg e, if_neg e]; exact hB'.2.2.2.1 t t0 (by omega)
  refine e_Mod_ballot hY ((m_isOrder hY h32 hB.1 hn).to (by omega) ?_)
  rw [hB.2.1]
  refine ⟨fun h => ⟨fun g => go 0 0 (by omega) ⟨fun w => absurd rfl w, fun w => absurd w.1 (bI_f h)⟩, fun g => go 1 0 (by omega) ⟨fun w => absurd rfl w, fun w => absurd w.1 (bI_f h)⟩⟩, fun h => ?_⟩
  refine (m_within hY).to (by omega) ?_
  rw [hB.2.1]
  refine ⟨fun h2 => ⟨fun g => go 0 0 (by omega) ⟨fun w => absurd rfl w, fun w => absurd w.2 (bI_f h2)⟩, fun g => go 1 0 (by omega) ⟨fun w => absurd rfl w, fun w => absurd w.2 (bI_f h2)⟩⟩, fun h2 => ⟨fun g => go 0 1 (by omega) ⟨fun _ => ⟨bI_t h, bI_t h2⟩, fun _ => by decide⟩, fun g => go 1 1 (by omega) ⟨fun _ => ⟨bI_t h, bI_t h2⟩, fun _ => by decide⟩⟩⟩
theorem mo_drop (hY : Lay L) (hq : okB s.1) (hB : MB σ s) {t : Int} : MOp y_Mod_drop [vr 102, vi t] L σ (spDrop s t) := by
  refine Ex.deep (d := 1) ?_ (by omega)
  have hn := hq.1.1
  have hT := hq.1.2.1
  have hT2 := hq.2.1
  refine e_Mod_drop hY ((m_isType hY hB.2.1).to (by omega) ?_)
  refine m_gate hY hB rfl (fun h1 h2 σ₀ hB0 hf0 h0 _ => ⟨fun _ => ?_, fun w => absurd w (by decide)⟩) (fun h1 σ' hB' hf h0 => ⟨fun w => absurd rfl w, fun _ => ⟨1, s, Or.inr ⟨bI_f h1, rfl, rfl⟩, h0, hB', hf.fm⟩⟩) (fun _ w => absurd w (by decide))
  have ht := bI_t h1
  -- the types move up
  refine upto (P := fun u => ∀ σ', (∀ k j, k ≠ 103 → k ≠ 104 → σ' k j = σ₀ k j) → (∀ v k, 0 ≤ v → v < qT s.1 → 0 ≤ k → k < qN s.1 → (v < u → σ' 103 (7 * v + k) = if v < t then qL s.1 v k else qL s.1 (v + 1) k) ∧ (u ≤ v → σ' 103 (7 * v + k) = qL s.1 v k)) → (∀ v, 0 ≤ v → v < qT s.1 → (v < u → σ' 104 v = if v < t then qA s.1 v else qA s.1 (v + 1)) ∧ (u ≤ v → σ' 104 v = qA s.1 v)) → G_Mod_drop_17 0 L σ' (fun z σ' => ∃ k s', spDrop s t k z s' ∧ σ' 102 0 = k ∧ MB σ' s' ∧ FM σ σ') NT u) (a := t) (n := qT s.1 - 1) ?_ ?_ t (by omega) (by omega) σ₀ (fun _ _ _ _ => rfl) (fun v k v0 v1 k0 k1 => ⟨fun w => by rw [if_pos w]; exact hB0.2.2.1 v k v0 v1 k0 k1, fun _ => hB0.2.2.1 v k v0 v1 k0 k1⟩) (fun v v0 v1 => ⟨fun w => by rw [if_pos w]; exact hB0.2.2.2.1 v v0 v1, fun _ => hB0.2.2.2.1 v v0 v1⟩)
  · intro σ' f a b
    have e2 : σ' 102 2 = qT s.1 := by rw [f _ _ (by omega) (by omega)]; exact hB0.2.1
    refine r_Mod_drop_17 hY ⟨by omega, fun _ => ⟨by omega, ?_⟩, fun g => absurd g (by omega)⟩
    rw [u_eq, e2]
    refine ⟨0, (qdrop s.1 t, s.2), Or.inl ⟨ht, rfl, rfl, rfl⟩, by rw [u_ne2 (by omega), f _ _ (by omega) (by omega)]; exact h0, ⟨by rw [u_ne2 (by omega), f _ _ (by omega) (by omega)]; exact hB0.1, u_eq, fun v k v0 v1 k0 k1 => ?_, fun v v0 v1 => ?_, fun k a b => by rw [u_ne (by omega), f _ _ (by omega) (by omega)]; exact hB0.2.2.2.2.1 k a b, fun k a b => by rw [u_ne (by omega), f _ _ (by omega) (by omega)]; exact hB0.2.2.2.2.2.1 k a b, fun k a b => by rw [u_ne (by omega), f _ _ (by omega) (by omega)]; exact hB0.2.2.2.2.2.2.1 k a b, by rw [u_ne2 (by omega), f _ _ (by omega) (by omega)]; exact hB0.2.2.2.2.2.2.2.1, by rw [u_ne2 (by omega), f _ _ (by omega) (by omega)]; exact hB0.2.2.2.2.2.2.2.2⟩, fun k j hk => by rw [u_ne (by omega), f _ _ (by omega) (by omega)]; exact hf0.fm k j hk⟩
    · have v1 : v < qT s.1 - 1 := v1
      have k1 : k < qN s.1 := k1
      rw [u_ne (by omega), (a v k v0 (by omega) k0 k1).1 (by omega)]
      show _ = (if v < t then qL s.1 v else qL s.1 (v + 1)) k
      split <;> rfl
    · have v1 : v < qT s.1 - 1 := v1
      rw [u_ne (by omega), (b v v0 (by omega)).1 (by omega)]
      rfl
  · intro u u0 u1 ih σ' f a b
    have e2 : σ' 102 2 = qT s.1 := by rw [f _ _ (by omega) (by omega)]; exact hB0.2.1
    refine r_Mod_drop_17 hY ⟨by omega, fun g => absurd g (by omega), fun _ => ⟨by omega, by omega, by omega, ?_⟩⟩
    refine upto (P := fun m => ∀ σ'', (∀ k j, k ≠ 103 → k ≠ 104 → σ'' k j = σ₀ k j) → (∀ j, ¬ (7 * u ≤ j ∧ j < 7 * u + m) → σ'' 103 j = σ' 103 j) → (∀ k, 0 ≤ k → k < m → σ'' 103 (7 * u + k) = σ' 103 (7 * u + 7 + k)) → (∀ v, σ'' 104 v = if v = u then σ' 104 (u + 1) else σ' 104 v) → G_Mod_drop_43 0 L σ'' (fun z σ' => ∃ k s', spDrop s t k z s' ∧ σ' 102 0 = k ∧ MB σ' s' ∧ FM σ σ') NT u m) (a := 0) (n := 7) ?_ ?_ 0 (by omega) (by omega) _ (fun k j hk1 hk2 => by rw [u_ne hk2]; exact f k j hk1 hk2) (fun j _ => by rw [u_ne (by omega)]) (fun k k0 k1 => absurd k1 (by omega)) (fun v => u_if)
    · intro σ'' f2 a1 a2 a3
      refine r_Mod_drop_43 hY ⟨fun _ => ⟨by omega, ih σ'' f2 (fun v k v0 v1 k0 k1 => ⟨fun w => ?_, fun w => ?_⟩) (fun v v0 v1 => ⟨fun w => ?_, fun w => ?_⟩)⟩, fun g => absurd g (by omega)⟩
      · by_cases e : v = u
        · rw [e, a2 k k0 (by omega), if_neg (by omega), show 7 * u + 7 + k = 7 * (u + 1) + k by omega]
          exact (a (u + 1) k (by omega) (by omega) k0 k1).2 (by omega)
        · rw [a1 _ (by omega)]; exact (a v k v0 v1 k0 k1).1 (by omega)
      · rw [a1 _ (by omega)]; exact (a v k v0 v1 k0 k1).2 (by omega)
      · rw [a3]
        by_cases e : v = u
        · rw [if_pos e, if_neg (by omega), e]; exact (b (u + 1) (by omega) (by omega)).2 (by omega)
        · rw [if_neg e]; exact (b v v0 v1).1 (by omega)
      · rw [a3, if_neg (by omega)]; exact (b v v0 v1).2 (by omega)
    · intro m m0 m1 ihm σ'' f2 a1 a2 a3
      refine r_Mod_drop_43 hY ⟨fun g => absurd g (by omega), fun _ => ⟨by omega, by omega, by omega, by omega, by omega, by omega, by omega, by omega, ihm _ (fun k j h1 h2 => by rw [u_ne h1]; exact f2 k j h1 h2) (fun j hj => by rw [u_ne2 (by omega)]; exact a1 j (by omega)) (fun k k0 k1 => ?_) (fun v => by rw [u_ne (by omega)]; exact a3 v)⟩⟩
      rw [u_if, a1 (7 * u + 7 + m) (by omega)]
      by_cases e : k = m
      · rw [if_pos (by omega), e]
      · rw [if_neg (by omega)]; exact a2 k k0 (by omega)
end
