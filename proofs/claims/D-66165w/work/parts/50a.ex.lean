/-! every rule has winners, plainly -/
theorem mem_min {q : Pf} (hq : okP q) {z : Int} (h : nz z (qN q)) (g : Int → Int) : ∃ c, 0 ≤ c ∧ c < qN q ∧ bz z c = 1 ∧ ∀ b, 0 ≤ b → b < qN q → bz z b = 1 → g c ≤ g b := by
  obtain ⟨-, -, c, c0, c1, hc⟩ := h
  obtain ⟨a, a0, a1, w⟩ := maxel (R := fun a b => (bz z a = 1 ∧ bz z b ≠ 1) ∨ (bz z a = 1 ∧ bz z b = 1 ∧ g a < g b)) (fun a => by rintro (⟨h1, h2⟩ | ⟨-, -, h⟩); exact h2 h1; omega) (by
    rintro a b c (⟨h1, h2⟩ | ⟨h1, h2, h3⟩) (⟨g1, g2⟩ | ⟨g1, g2, g3⟩)
    · exact absurd g1 h2
    · exact absurd g1 h2
    · exact Or.inl ⟨h1, g2⟩
    · exact Or.inr ⟨h1, g2, by omega⟩) (qN q) (by have := hq.1; omega)
  have ha : bz z a = 1 := Classical.byContradiction fun v => w c c0 c1 (Or.inl ⟨hc, v⟩)
  exact ⟨a, a0, a1, ha, fun b b0 b1 hb => Classical.byContradiction fun v => w b b0 b1 (Or.inr ⟨hb, ha, by omega⟩)⟩
theorem isL_ex {q : Pf} (hq : okP q) : ∃ f, isL q f 128 := by
  have hn := hq.1
  have key : ∀ m : Nat, ∃ f, isL q f ((m : Int) + 1) := by
    intro m
    induction m with
    | zero => exact ⟨fun _ => 0, rfl, fun z z0 z1 => absurd z1 (by omega)⟩
    | succ m ih =>
      obtain ⟨f, hf⟩ := ih
      by_cases hz : sub ((m : Int) + 1) (qN q)
      · have hnz := nz_of hz (by omega)
        obtain ⟨c, c0, c1, hc, hmin⟩ := mem_min hq hnz (fun c => cst q c (cl ((m : Int) + 1) c) + f (cl ((m : Int) + 1) c))
        refine ⟨fun z => if z = (m : Int) + 1 then cst q c (cl ((m : Int) + 1) c) + f (cl ((m : Int) + 1) c) else f z, ?_, fun z z0 z1 hsz => ?_⟩
        · show (if (0 : Int) = (m : Int) + 1 then _ else f 0) = 0
          rw [if_neg (by omega)]; exact hf.1
        · dsimp only
          have low : ∀ d, 0 ≤ d → d < qN q → bz z d = 1 → (if cl z d = (m : Int) + 1 then cst q c (cl ((m : Int) + 1) c) + f (cl ((m : Int) + 1) c) else f (cl z d)) = f (cl z d) := fun d d0 d1 hd => by
            rw [if_neg (by have := cl_lt' hsz.1 hsz.2.1 d0 (show d < 7 by omega) hd; omega)]
          by_cases e : z = (m : Int) + 1
          · subst e
            rw [if_pos rfl]
            have hlt := cl_lt' hz.1 hz.2.1 c0 (show c < 7 by omega) hc
            have b1 := co_bd' hq c (cl ((m : Int) + 1) c)
            have b2 := hf.bd hlt.1 (by omega) (clr_sub hz c0 (by omega))
            have b3 : pc (cl ((m : Int) + 1) c) = pc ((m : Int) + 1) - 1 := pc_clr hz.1 hz.2.1 c0 (show c < 7 by omega) hc
            rw [b3] at b2
            exact ⟨fun d d0 d1 hd => by rw [low d d0 d1 hd]; exact hmin d d0 d1 hd, ⟨c, c0, c1, hc, by rw [low c c0 c1 hc]⟩, by omega, by omega⟩
          · rw [if_neg e]
            obtain ⟨a1, ⟨d, d0, d1, hd, ec⟩, a3⟩ := hf.2 z z0 (by omega) hsz
            exact ⟨fun d d0 d1 hd => by rw [low d d0 d1 hd]; exact a1 d d0 d1 hd, ⟨d, d0, d1, hd, by rw [low d d0 d1 hd]; exact ec⟩, a3⟩
      · refine ⟨f, hf.1, fun z z0 z1 hsz => hf.2 z z0 ?_ hsz⟩
        by_cases e : z = (m : Int) + 1
        · rw [e] at hsz; exact absurd hsz hz
        · omega
  obtain ⟨f, hf⟩ := key 127
  exact ⟨f, hf⟩
theorem isLk_ex {q : Pf} (hq : okP q) : ∃ X, isLk q X ∧ ∀ x, ¬ rE X x x := by
  have key : ∀ m : Nat, ∃ E, lkS q E (fun x y => ((0 ≤ x ∧ x < qN q) ∧ (0 ≤ y ∧ y < qN q) ∧ bts q x y) ∧ key q x y + 102901030 < m) := by
    intro m
    induction m with
    | zero => exact ⟨fun _ _ => False, fun x y w => w.elim, fun x y w => by have := key_bd hq w.1.1 w.1.2.1; have := w.2; omega, fun x w => w.last.elim fun _ e => e⟩
    | succ m ih =>
      obtain ⟨E, hE⟩ := ih
      by_cases h : ∃ a b, ((0 ≤ a ∧ a < qN q) ∧ (0 ≤ b ∧ b < qN q) ∧ bts q a b) ∧ key q a b + 102901030 = m
      · obtain ⟨a, b, hab, hk⟩ := h
        have hne : a ≠ b := fun w => by have := hab.2.2; rw [w] at this; unfold bts at this; omega
        have add := hE.add hne (fun x y w => by have := w.2; omega)
        have eD : (fun x y => (((0 ≤ x ∧ x < qN q) ∧ (0 ≤ y ∧ y < qN q) ∧ bts q x y) ∧ key q x y + 102901030 < m) ∨ x = a ∧ y = b) = fun x y => ((0 ≤ x ∧ x < qN q) ∧ (0 ≤ y ∧ y < qN q) ∧ bts q x y) ∧ key q x y + 102901030 < ((m + 1 : Nat) : Int) := by
          funext x y
          apply propext
          constructor
          · rintro (w | ⟨rfl, rfl⟩)
            · exact ⟨w.1, by have := w.2; omega⟩
            · exact ⟨hab, by omega⟩
          · rintro ⟨w1, w2⟩
            by_cases e : key q x y + 102901030 = m
            · have := key_inj hq w1.1 w1.2.1 hab.1 hab.2.1 (by omega)
              exact Or.inr this
            · exact Or.inl ⟨w1, by omega⟩
        rw [eD] at add
        by_cases hr : rE E b a
        · exact ⟨E, add.1 hr⟩
        · exact ⟨_, add.2 hr⟩
      · refine ⟨E, ?_⟩
        have eD : (fun x y => ((0 ≤ x ∧ x < qN q) ∧ (0 ≤ y ∧ y < qN q) ∧ bts q x y) ∧ key q x y + 102901030 < m) = fun x y => ((0 ≤ x ∧ x < qN q) ∧ (0 ≤ y ∧ y < qN q) ∧ bts q x y) ∧ key q x y + 102901030 < ((m + 1 : Nat) : Int) := by
          funext x y
          apply propext
          constructor
          · exact fun w => ⟨w.1, by have := w.2; omega⟩
          · rintro ⟨w1, w2⟩
            refine ⟨w1, ?_⟩
            have : key q x y + 102901030 ≠ m := fun e => h ⟨x, y, w1, e⟩
            omega
        rw [← eD]
        exact hE
  obtain ⟨E, hE⟩ := key 102901100
  refine ⟨E, hE.fin fun x y => ⟨fun w => w.1, fun w => ⟨w, ?_⟩⟩, hE.2.2⟩
  have := key_bd hq w.1 w.2.1
  omega
theorem Wr_ex {q : Pf} (hq : okP q) {r : Int} (r0 : 0 ≤ r) (r1 : r < 12) : ∃ c, 0 ≤ c ∧ c < qN q ∧ Wr r q c := by
  have hn := hq.1
  have n1 : 1 ≤ qN q := by omega
  rcases (show r = 0 ∨ r = 1 ∨ r = 2 ∨ r = 3 ∨ r = 4 ∨ r = 5 ∨ r = 6 ∨ r = 7 ∨ r = 8 ∨ r = 9 ∨ r = 10 ∨ r = 11 by omega) with rfl | rfl | rfl | rfl | rfl | rfl | rfl | rfl | rfl | rfl | rfl | rfl
  · exact Wtop_ex (sc0 q) n1
  · exact Wlow_ex (sc1 q) n1
  · exact Wtop_ex (sc2 q) n1
  · exact W3_ex hq
  · exact W4_ex hq
  · exact Wlow_ex (sc5 q) n1
  · exact Wtop_ex (sc6 q) n1
  · exact W7_ex hq
  · obtain ⟨X, h, ac⟩ := isLk_ex hq
    exact W8_ex hq h ac
  · obtain ⟨f, h⟩ := isL_ex hq
    exact W9_ex hq h
  · exact W10_ex hq
  · exact ⟨svr q (qN q - 1).toNat, (svr_in hq _ (by omega)).1, (svr_in hq _ (by omega)).2, rfl⟩
