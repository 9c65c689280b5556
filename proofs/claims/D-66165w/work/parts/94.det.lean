/-! THE SPECS determine code, answer and state -/
def Det (sp : Sp) : Prop := ∀ k z s k' z' s', sp k z s → sp k' z' s' → k = k' ∧ s = s' ∧ (k = 0 → z = z')
theorem det1 {Z : Int → Prop} {f : St} (hZ : ∀ a b, Z a → Z b → a = b) : Det (fun k z s' => k = 0 ∧ Z z ∧ s' = f) := by
  rintro k z s k' z' s' ⟨rfl, h1, rfl⟩ ⟨rfl, h2, rfl⟩
  exact ⟨rfl, rfl, fun _ => hZ _ _ h1 h2⟩
theorem det2 {g : Prop} {Z : Int → Prop} {f s : St} (hZ : ∀ a b, g → Z a → Z b → a = b) : Det (fun k z s' => (g ∧ k = 0 ∧ Z z ∧ s' = f) ∨ (¬ g ∧ k = 1 ∧ s' = s)) := by
  rintro k z s k' z' s' (⟨g1, rfl, h1, rfl⟩ | ⟨g1, rfl, rfl⟩) (⟨g2, rfl, h2, rfl⟩ | ⟨g2, rfl, rfl⟩)
  · exact ⟨rfl, rfl, fun _ => hZ _ _ g1 h1 h2⟩
  · exact absurd g1 g2
  · exact absurd g2 g1
  · exact ⟨rfl, rfl, fun w => absurd w (by decide)⟩
theorem det3 {g₁ g₂ : Prop} {Z : Int → Prop} {f s : St} (hZ : ∀ a b, g₁ → g₂ → Z a → Z b → a = b) : Det (fun k z s' => (g₁ ∧ g₂ ∧ k = 0 ∧ Z z ∧ s' = f) ∨ (¬ g₁ ∧ k = 1 ∧ s' = s) ∨ (g₁ ∧ ¬ g₂ ∧ k = 2 ∧ s' = s)) := by
  rintro k z s k' z' s' (⟨a1, a2, rfl, h1, rfl⟩ | ⟨a1, rfl, rfl⟩ | ⟨a1, a2, rfl, rfl⟩) (⟨b1, b2, rfl, h2, rfl⟩ | ⟨b1, rfl, rfl⟩ | ⟨b1, b2, rfl, rfl⟩)
  · exact ⟨rfl, rfl, fun _ => hZ _ _ a1 a2 h1 h2⟩
  · exact absurd a1 b1
  · exact absurd a2 b2
  · exact absurd b1 a1
  · exact ⟨rfl, rfl, fun w => absurd w (by decide)⟩
  · exact absurd b1 a1
  · exact absurd b2 a2
  · exact absurd a1 b1
  · exact ⟨rfl, rfl, fun w => absurd w (by decide)⟩
theorem t_cand {s : St} {n : Int} : Det (spCand s n) := det2 (Z := fun z => z = _) fun a b _ h k => h.trans k.symm
theorem t_bal {s : St} {o a : Int} : Det (spBal s o a) := det3 (Z := fun z => z = _) fun a b _ _ h k => h.trans k.symm
theorem t_am {s : St} {t a : Int} : Det (spAm s t a) := det3 (Z := fun z => z = _) fun a b _ _ h k => h.trans k.symm
theorem t_drop {s : St} {t : Int} : Det (spDrop s t) := det2 (Z := fun z => z = _) fun a b _ h k => h.trans k.symm
theorem t_tie {s : St} {o : Int} : Det (spTie s o) := det2 (Z := fun z => z = _) fun a b _ h k => h.trans k.symm
theorem t_ag {s : St} {o : Int} : Det (spAg s o) := det2 (Z := fun z => z = _) fun a b _ h k => h.trans k.symm
theorem t_we {s : St} {i w : Int} : Det (spWe s i w) := det3 (Z := fun z => z = _) fun a b _ _ h k => h.trans k.symm
theorem t_win {s : St} {r : Int} : Det (spWin s r) := det2 fun a b _ h k => isM.uniq h k
theorem t_wnr {s : St} {r : Int} : Det (spWnr s r) := det2 fun a b _ h k => wn.uniq h k
theorem t_pair {s : St} {a b : Int} : Det (spPair s a b) := det2 (Z := fun z => z = _) fun a b _ h k => h.trans k.symm
theorem t_path {s : St} {a b : Int} : Det (spPath s a b) := det2 (Z := fun z => ∃ st, isS s.1 st ∧ z = st a b) fun x y g h k => by
  obtain ⟨st, h1, rfl⟩ := h
  obtain ⟨st', k1, rfl⟩ := k
  exact h1.uniq k1 g.1.1 g.1.2 g.2.1 g.2.2
theorem t_br {s : St} : Det (spBr s) := det1 (Z := fun z => z = _) fun a b h k => h.trans k.symm
theorem t_ch {s : St} : Det (spCh s) := det1 (Z := fun z => z = _) fun a b h k => h.trans k.symm
theorem t_wi {s : St} : Det (spWi s) := det1 (Z := fun z => z = _) fun a b h k => h.trans k.symm
theorem t_cnt {s : St} {w : Int} : Det (spCnt s w) := det2 (Z := fun z => z = _) fun a b _ h k => h.trans k.symm
theorem t_cir {s : St} {j : Int} : Det (spCir s j) := det2 fun a b _ h k => cyR.uniq h k
theorem t_step {s : St} (hq : okP s.1) {k₀ : Int} : Det (spStep s k₀) := det2 (Z := fun z => ∃ y, stS s.1 k₀.toNat y ∧ isLa s.1 (lw s.1 y) z) fun a b _ h k => by
  obtain ⟨y, h1, h2⟩ := h
  obtain ⟨y', k1, k2⟩ := k
  rw [stS.uniq hq _ h1 k1] at h2
  exact h2.uniq hq k2
theorem t_clo {s : St} {z₀ : Int} : Det (spClo s z₀) := det2 (Z := fun z => z = _) fun a b _ h k => h.trans k.symm
theorem t_dis {s : St} : Det (spDis s) := det1 (Z := fun z => z = _) fun a b h k => h.trans k.symm
theorem t_agr {s : St} : Det (spAgr s) := det1 (Z := fun z => z = _) fun a b h k => h.trans k.symm
theorem t_sc {s : St} {r c : Int} : Det (spSc s r c) := det3 (Z := fun z => z = _) fun a b _ _ h k => h.trans k.symm
theorem wiR.uniq {q : Pf} {r p v v' : Int} (h : wiR q r p v) (k : wiR q r p v') : v = v' := by
  unfold wiR at h k
  by_cases e0 : p = 0
  · rw [if_pos e0] at h k
    exact h.uniq k
  · rw [if_neg e0] at h k
    by_cases e1 : p = 1
    · rw [if_pos e1] at h k
      exact h.uniq k
    · rw [if_neg e1] at h k
      by_cases e2 : p = 2
      · rw [if_pos e2] at h k
        obtain ⟨w, h1, h2⟩ := h
        obtain ⟨w', k1, k2⟩ := k
        rw [h1.uniq k1] at h2
        exact h2.uniq k2
      · rw [if_neg e2] at h k
        by_cases e3 : p = 3
        · rw [if_pos e3] at h k
          obtain ⟨w, h1, h2⟩ := h
          obtain ⟨w', k1, k2⟩ := k
          rw [h1.uniq k1] at h2
          exact h2.uniq k2
        · rw [if_neg e3] at h k
          obtain ⟨w, h1, h2⟩ := h
          obtain ⟨w', k1, k2⟩ := k
          rw [h1.uniq k1] at h2
          exact h2.uniq k2
theorem t_prop {s : St} {r p : Int} : Det (spProp s r p) := by
  rintro k z s k' z' s' (⟨g1, rfl, v, h1, rfl, rfl⟩ | ⟨g1, rfl, rfl⟩) (⟨g2, rfl, v', h2, rfl, rfl⟩ | ⟨g2, rfl, rfl⟩)
  · have e := h1.uniq h2
    subst e
    exact ⟨rfl, rfl, fun _ => rfl⟩
  · exact absurd g1 g2
  · exact absurd g2 g1
  · exact ⟨rfl, rfl, fun w => absurd w (by decide)⟩
theorem t_chg {s : St} (hq : okP s.1) {r t a : Int} : Det (spChg s r t a) := by
  rintro k z x k' z' x' (⟨a1, a2, rfl, now, v, c, n1, h1, rfl, rfl⟩ | ⟨a1, rfl, rfl⟩ | ⟨a1, a2, rfl, rfl⟩) (⟨b1, b2, rfl, now', v', c', n2, h2, rfl, rfl⟩ | ⟨b1, rfl, rfl⟩ | ⟨b1, b2, rfl, rfl⟩)
  · obtain ⟨w, w1, rfl⟩ := n1
    obtain ⟨w', w2, rfl⟩ := n2
    have e := w1.uniq w2
    subst e
    obtain ⟨rfl, rfl⟩ := h1.uniq hq h2
    exact ⟨rfl, rfl, fun _ => rfl⟩
  · exact absurd a1 b1
  · exact absurd a2 b2
  · exact absurd b1 a1
  · exact ⟨rfl, rfl, fun w => absurd w (by decide)⟩
  · exact absurd b1 a1
  · exact absurd b2 a2
  · exact absurd a1 b1
  · exact ⟨rfl, rfl, fun w => absurd w (by decide)⟩
