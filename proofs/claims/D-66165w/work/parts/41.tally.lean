/-! THE PROFILE's METHODS THAT CHANGE IT -/
def FrP (p : Int) (σ σ' : Mm) : Prop := ∀ k j, ¬ (p ≤ k ∧ k < p + 35) → σ' k j = σ k j
/-- a type's pairs counted, so far as places i, j -/
noncomputable def tl (σ : Mm) (p n : Int) (f : Int → Int) (b i j : Int) : Mm := fun k c => @ite _ ((p + 25 ≤ k ∧ k < p + 25 + n ∧ 0 ≤ c ∧ c < n) ∧ ps f (k - (p + 25)) < ps f c ∧ (ps f (k - (p + 25)) < i ∨ ps f (k - (p + 25)) = i ∧ ps f c < j)) (Classical.propDecidable _) (σ k c + b) (σ k c)
section
variable {L : List Sh} {σ : Mm} {p n b : Int} {f : Int → Int}
theorem tl_off {i j k c : Int} (h : ¬ (p + 25 ≤ k ∧ k < p + 25 + n)) : tl σ p n f b i j k c = σ k c := by
  unfold tl
  rw [if_neg (by intro q; exact h ⟨q.1.1, q.1.2.1⟩)]
theorem tl_step (hn : n ≤ 7) (hf : Pm n f) {i j : Int} (i0 : 0 ≤ i) (ij : i < j) (jn : j < n) : upd2 (tl σ p n f b i j) (p + 25 + f i) (f j) (tl σ p n f b i j (p + 25 + f i) (f j) + b) = tl σ p n f b i (j + 1) := by
  have e1 := ps_at hn hf i0 (show i < n by omega)
  have e2 := ps_at hn hf (show 0 ≤ j by omega) jn
  have r1 := hf.1 i i0 (by omega)
  have r2 := hf.1 j (by omega) jn
  funext k c
  unfold upd2
  by_cases h : k = p + 25 + f i ∧ c = f j
  · rw [if_pos h]
    obtain ⟨rfl, rfl⟩ := h
    unfold tl
    rw [show p + 25 + f i - (p + 25) = f i by omega, e1, e2, if_neg (by omega), if_pos (by omega)]
  · rw [if_neg h]
    unfold tl
    by_cases g : p + 25 ≤ k ∧ k < p + 25 + n ∧ 0 ≤ c ∧ c < n
    · have s1 := ps_spec hn hf (c := k - (p + 25)) (by omega) (by omega)
      have s2 := ps_spec hn hf (c := c) (by omega) (by omega)
      have hne : ¬ (ps f (k - (p + 25)) = i ∧ ps f c = j) := by
        rintro ⟨a1, a2⟩
        rw [a1] at s1
        rw [a2] at s2
        exact h ⟨by omega, s2.2.2.symm⟩
      by_cases w : (ps f (k - (p + 25)) < ps f c ∧ (ps f (k - (p + 25)) < i ∨ ps f (k - (p + 25)) = i ∧ ps f c < j))
      · rw [if_pos ⟨g, w⟩, if_pos ⟨g, w.1, by omega⟩]
      · rw [if_neg (fun q => w q.2), if_neg (fun q => w ⟨q.2.1, by omega⟩)]
    · rw [if_neg (fun q => g q.1), if_neg (fun q => g q.1)]
theorem tl_next (hn : n ≤ 7) (hf : Pm n f) {i j : Int} (hj : n ≤ j) : tl σ p n f b i j = tl σ p n f b (i + 1) (i + 2) := by
  funext k c
  unfold tl
  by_cases g : p + 25 ≤ k ∧ k < p + 25 + n ∧ 0 ≤ c ∧ c < n
  · have s2 := ps_spec hn hf (c := c) (by omega) (by omega)
    by_cases w : (ps f (k - (p + 25)) < ps f c ∧ (ps f (k - (p + 25)) < i ∨ ps f (k - (p + 25)) = i ∧ ps f c < j))
    · rw [if_pos ⟨g, w⟩, if_pos ⟨g, w.1, by omega⟩]
    · rw [if_neg (fun q => w q.2), if_neg (fun q => w ⟨q.2.1, by omega⟩)]
  · rw [if_neg (fun q => g q.1), if_neg (fun q => g q.1)]
theorem tl_zero (hn : n ≤ 7) (hf : Pm n f) : tl σ p n f b 0 1 = σ := by
  funext k c
  unfold tl
  by_cases g : p + 25 ≤ k ∧ k < p + 25 + n ∧ 0 ≤ c ∧ c < n
  · have s1 := ps_spec hn hf (c := k - (p + 25)) (by omega) (by omega)
    rw [if_neg (fun q => by have := q.2; omega)]
  · rw [if_neg (fun q => g q.1)]
theorem tl_in {i j k c : Int} : tl σ p n f b i j k c = σ k c ∨ tl σ p n f b i j k c = σ k c + b := by
  unfold tl
  rcases Classical.em ((p + 25 ≤ k ∧ k < p + 25 + n ∧ 0 ≤ c ∧ c < n) ∧ ps f (k - (p + 25)) < ps f c ∧ (ps f (k - (p + 25)) < i ∨ ps f (k - (p + 25)) = i ∧ ps f c < j)) with h | h
  · rw [if_pos h]; exact Or.inr rfl
  · rw [if_neg h]; exact Or.inl rfl
/-- a type's pairs are counted with b more -/
theorem c_tally (hY : Lay L) (hp : isPr p) (h2 : 2 ≤ n) (hn : n ≤ 7) (hf : Pm n f) {t : Int} (ht : 0 ≤ t ∧ t < 21) (e0 : σ p 0 = n) (el : ∀ k, 0 ≤ k → k < n → σ (p + 2 + t) k = f k) (hb : -100000000 ≤ b ∧ b ≤ 100000000) (hr : ∀ a c, 0 ≤ a → a < n → 0 ≤ c → c < n → -1000000000 ≤ σ (p + 25 + a) c ∧ σ (p + 25 + a) c ≤ 1000000000) :
    Ex 0 y_Prof_tally [vr p, vi t, vi b] L σ (PV L (fun σ' => σ' = tl σ p n f b n (n + 1)) NT) := by
  refine e_Prof_tally hY hp ?_
  have o0 : ∀ i j, tl σ p n f b i j p 0 = n := fun i j => by rw [tl_off (by omega)]; exact e0
  have ol : ∀ i j k, 0 ≤ k → k < n → tl σ p n f b i j (p + 2 + t) k = f k := fun i j k k0 k1 => by rw [tl_off (by omega)]; exact el k k0 k1
  have main := upto (P := fun i => G_Prof_tally_2 0 L (tl σ p n f b i (i + 1)) (fun σ' => σ' = tl σ p n f b n (n + 1)) NT p t b i) (a := 0) (n := n) ?_ ?_ 0 (by omega) (by omega)
  · rw [show (0 : Int) + 1 = 1 from rfl, tl_zero hn hf] at main
    exact main
  · exact r_Prof_tally_2 hY hp ⟨fun h => rfl, fun h => absurd h (by rw [o0]; omega)⟩
  · intro i i0 i1 ih
    refine r_Prof_tally_2 hY hp ⟨fun h => absurd h (by rw [o0]; omega), fun h => ⟨by omega, ?_⟩⟩
    refine upto (P := fun j => G_Prof_tally_15 0 L (tl σ p n f b i j) (fun σ' => σ' = tl σ p n f b n (n + 1)) NT p t b i j) (a := i + 1) (n := n) ?_ ?_ (i + 1) (by omega) (by omega)
    · refine r_Prof_tally_15 hY hp ⟨fun h => ⟨by omega, ?_⟩, fun h => absurd h (by rw [o0]; omega)⟩
      rw [tl_next hn hf (Int.le_refl n), show i + 2 = i + 1 + 1 by omega]
      exact ih
    · intro j j0 j1 ihj
      have f1 := hf.1 i i0 i1
      have f2 := hf.1 j (by omega) j1
      have g1 := hr (f i) (f j) f1.1 f1.2 f2.1 f2.2
      have g2 := tl_in (σ := σ) (p := p) (n := n) (f := f) (b := b) (i := i) (j := j) (k := p + 25 + f i) (c := f j)
      refine r_Prof_tally_15 hY hp ⟨fun h => absurd h (by rw [o0]; omega), fun h => ?_⟩
      rw [ol i j i i0 i1, ol i j j (by omega) j1, tl_step hn hf i0 (by omega) j1]
      exact ⟨by omega, by omega, by omega, by omega, by omega, by omega, by omega, by omega, by omega, ihj⟩
end
