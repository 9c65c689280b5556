/-! THE MODEL's PATHS -/
/-- a table of paths: sound, and at least the pairs -/
def pmt (q : Pf) (p : Int → Int → Int) : Prop := (∀ x, 0 ≤ x → x < qN q → p x x = 0) ∧ (∀ x y, 0 ≤ x → x < qN q → 0 ≤ y → y < qN q → 0 ≤ p x y) ∧ (∀ x y, 0 ≤ x → x < qN q → 0 ≤ y → y < qN q → x ≠ y → ∀ v, 1 ≤ v → v ≤ p x y → rc q v x y) ∧ ∀ v x y, 1 ≤ v → ed q v x y → v ≤ p x y
theorem rc.bd {q : Pf} (hq : okP q) {v a b : Int} (h : rc q v a b) : v ≤ 2100021 := by
  refine h (fun _ => v ≤ 2100021) (fun y e => ?_) (fun x y _ _ e => ?_)
  · have := e.2.2.2; have := pr_bd hq a y; omega
  · have := e.2.2.2; have := pr_bd hq x y; omega
theorem pmt.bd {q : Pf} (hq : okP q) {p : Int → Int → Int} (h : pmt q p) {x y : Int} (x0 : 0 ≤ x) (x1 : x < qN q) (y0 : 0 ≤ y) (y1 : y < qN q) : 0 ≤ p x y ∧ p x y ≤ 2100021 := by
  refine ⟨h.2.1 x y x0 x1 y0 y1, ?_⟩
  by_cases e : x = y
  · rw [e, h.1 y y0 y1]; omega
  · by_cases g : p x y ≤ 0
    · omega
    · exact rc.bd hq (h.2.2.1 x y x0 x1 y0 y1 e (p x y) (by omega) (Int.le_refl _))
theorem pmt.fin {q : Pf} {p : Int → Int → Int} (h : pmt q p) (hc : ∀ a b c, 0 ≤ a → a < qN q → 0 ≤ b → b < qN q → 0 ≤ c → c < qN q → a ≠ b → p a c ≤ p a b ∨ p c b ≤ p a b) : isS q p := by
  refine ⟨h.1, h.2.1, fun x y x0 x1 y0 y1 hne v v1 => ⟨h.2.2.1 x y x0 x1 y0 y1 hne v v1, fun w => ?_⟩⟩
  have : y = x ∨ v ≤ p x y := by
    refine w (fun y => (0 ≤ y ∧ y < qN q) → y = x ∨ v ≤ p x y) (fun y e _ => Or.inr (h.2.2.2 v x y v1 e)) ?_ ⟨y0, y1⟩
    intro u y hu _ e hy
    rcases hu e.1 with rfl | hu
    · exact Or.inr (h.2.2.2 v u y v1 e)
    · by_cases g : y = x
      · exact Or.inl g
      · have e1 := h.2.2.2 v u y v1 e
        rcases hc x y u x0 x1 hy.1 hy.2 e.1.1 e.1.2 (Ne.symm g) with k | k
        · exact Or.inr (by omega)
        · exact Or.inr (by omega)
  rcases this with e | e
  · exact absurd e.symm hne
  · exact e
/-- one entry is raised -/
theorem pmt.up {q : Pf} {p p' : Int → Int → Int} (h : pmt q p) {a b c : Int} (a0 : 0 ≤ a) (a1 : a < qN q) (b0 : 0 ≤ b) (b1 : b < qN q) (c0 : 0 ≤ c) (c1 : c < qN q) (hab : a ≠ b) (hs : ∀ x y, 0 ≤ x → x < qN q → 0 ≤ y → y < qN q → ¬ (x = a ∧ y = b) → p' x y = p x y) (h1 : p a b ≤ p' a b) (h2 : p' a b ≤ p a c ∧ p' a b ≤ p c b) : pmt q p' := by
  refine ⟨fun x x0 x1 => by rw [hs x x x0 x1 x0 x1 (by omega)]; exact h.1 x x0 x1, fun x y x0 x1 y0 y1 => ?_, fun x y x0 x1 y0 y1 hne v v1 hv => ?_, fun v x y v1 e => ?_⟩
  · by_cases e : x = a ∧ y = b
    · rw [e.1, e.2]; have := h.2.1 a b a0 a1 b0 b1; omega
    · rw [hs x y x0 x1 y0 y1 e]; exact h.2.1 x y x0 x1 y0 y1
  · by_cases e : x = a ∧ y = b
    · rw [e.1, e.2] at hv ⊢
      have hca : a ≠ c := fun w => by rw [← w, h.1 a a0 a1] at h2; omega
      have hcb : c ≠ b := fun w => by rw [w, h.1 b b0 b1] at h2; omega
      have e1 := h.2.2.1 a c a0 a1 c0 c1 hca v v1 (by omega)
      have e2 := h.2.2.1 c b c0 c1 b0 b1 hcb v v1 (by omega)
      exact rk.trans e1 e1.in2.2 e2
    · rw [hs x y x0 x1 y0 y1 e] at hv; exact h.2.2.1 x y x0 x1 y0 y1 hne v v1 hv
  · have hv := h.2.2.2 v x y v1 e
    by_cases g : x = a ∧ y = b
    · rw [g.1, g.2] at hv ⊢; omega
    · rw [hs x y e.1.1 e.1.2 e.2.1.1 e.2.1.2 g]; exact hv
def tot (σ : Mm) (n : Int) : Int := S (fun a => S (fun b => σ 114 (7 * a + b)) n) n
theorem tot_up {σ : Mm} {n a b v : Int} (hn : n ≤ 7) (a0 : 0 ≤ a) (a1 : a < n) (b0 : 0 ≤ b) (b1 : b < n) : tot (upd2 σ 114 (7 * a + b) v) n = tot σ n + (v - σ 114 (7 * a + b)) := by
  unfold tot
  have inn := S_chg (f := fun y => σ 114 (7 * a + y)) (g := fun y => upd2 σ 114 (7 * a + b) v 114 (7 * a + y)) (n := n) (t := b) b0 (fun i _ _ hi => by rw [u_ne2 (by omega)]) n (by omega) (Int.le_refl n)
  rw [if_pos b1, u_eq] at inn
  have out := S_chg (f := fun x => S (fun y => σ 114 (7 * x + y)) n) (g := fun x => S (fun y => upd2 σ 114 (7 * a + b) v 114 (7 * x + y)) n) (n := n) (t := a) a0 (fun i i0 i1 hi => S_ext (by omega) fun y y0 y1 => by rw [u_ne2 (by omega)]) n (by omega) (Int.le_refl n)
  rw [out, if_pos a1, inn]
  omega
theorem tot_bd {q : Pf} (hq : okP q) {σ : Mm} (h : pmt q (fun x y => σ 114 (7 * x + y))) : 0 ≤ tot σ (qN q) ∧ tot σ (qN q) ≤ 102901029 := by
  have hn := hq.1
  have := S_bd (f := fun a => S (fun b => σ 114 (7 * a + b)) (qN q)) (n := qN q) (B := 14700147) (fun a a0 a1 => by
    have := S_bd (f := fun b => σ 114 (7 * a + b)) (n := qN q) (B := 2100021) (fun b b0 b1 => h.bd hq a0 a1 b0 b1) (qN q) (by omega) (Int.le_refl _)
    omega) (qN q) (by omega) (Int.le_refl _)
  unfold tot
  omega
section
variable {L : List Sh} {σ : Mm} {q : Pf}
theorem m_findPaths (hY : Lay L) (hq : okP q) (hC : isC σ q) (hT : isT σ q) : Ex 1 y_Mod_findPaths [vr 102] L σ (PV L (fun σ' => isS q (fun x y => σ' 114 (7 * x + y)) ∧ ∀ k j, k ≠ 114 → σ' k j = σ k j) NT) := by
  have hn := hq.1
  have isc : ∀ σ' : Mm, (∀ k j, k ≠ 114 → σ' k j = σ k j) → isC σ' q := fun σ' h => hC.fc fun k j hk => h k j (by omega)
  refine e_Mod_findPaths hY ?_
  -- the passes
  have pass : ∀ (m : Nat) (σ' : Mm), (102901029 - tot σ' (qN q)).toNat ≤ m → (∀ k j, k ≠ 114 → σ' k j = σ k j) → pmt q (fun x y => σ' 114 (7 * x + y)) → G_Mod_findPaths_74 0 L σ' (fun σ' => isS q (fun x y => σ' 114 (7 * x + y)) ∧ ∀ k j, k ≠ 114 → σ' k j = σ k j) NT 1 := by
    intro m
    induction m with
    | zero =>
      intro σ₀ hm hf0 hp0
      -- nothing can grow any more, but the pass is gone through all the same
      refine r_Mod_findPaths_74 hY ⟨fun w => absurd w (by omega), fun _ => ?_⟩
      refine upto (P := fun a => ∀ σ', σ' = σ₀ → (∀ x y c, 0 ≤ x → x < a → 0 ≤ y → y < qN q → 0 ≤ c → c < qN q → x ≠ y → σ' 114 (7 * x + c) ≤ σ' 114 (7 * x + y) ∨ σ' 114 (7 * c + y) ≤ σ' 114 (7 * x + y)) → G_Mod_findPaths_82 0 L σ' (fun σ' => isS q (fun x y => σ' 114 (7 * x + y)) ∧ ∀ k j, k ≠ 114 → σ' k j = σ k j) NT 0 a) (a := 0) (n := qN q) ?_ ?_ 0 (by omega) (by omega) σ₀ rfl (fun x y c x0 x1 => absurd x1 (by omega))
      · rintro σ' rfl h
        have hC' := isc σ' hf0
        refine r_Mod_findPaths_82 hY ⟨fun _ => r_Mod_findPaths_74 hY ⟨fun _ => ⟨hp0.fin fun a b c a0 a1 b0 b1 c0 c1 => h a b c a0 a1 b0 b1 c0 c1, hf0⟩, fun w => absurd rfl w⟩, fun g => absurd g (by rw [hC'.1]; omega)⟩
      · rintro a a0 a1 iha σ' rfl h
        have hC' := isc σ' hf0
        refine r_Mod_findPaths_82 hY ⟨fun g => absurd g (by rw [hC'.1]; omega), fun _ => ?_⟩
        refine upto (P := fun b => (∀ y c, 0 ≤ y → y < b → 0 ≤ c → c < qN q → a ≠ y → σ' 114 (7 * a + c) ≤ σ' 114 (7 * a + y) ∨ σ' 114 (7 * c + y) ≤ σ' 114 (7 * a + y)) → G_Mod_findPaths_92 0 L σ' (fun σ' => isS q (fun x y => σ' 114 (7 * x + y)) ∧ ∀ k j, k ≠ 114 → σ' k j = σ k j) NT 0 a b) (a := 0) (n := qN q) ?_ ?_ 0 (by omega) (by omega) (fun y c y0 y1 => absurd y1 (by omega))
        · intro h2
          refine r_Mod_findPaths_92 hY ⟨fun _ => ⟨by omega, iha σ' rfl fun x y c x0 x1 y0 y1 c0 c1 hne => ?_⟩, fun g => absurd g (by rw [hC'.1]; omega)⟩
          by_cases e : x = a
          · rw [e] at hne ⊢; exact h2 y c y0 y1 c0 c1 hne
          · exact h x y c x0 (by omega) y0 y1 c0 c1 hne
        · intro b b0 b1 ihb h2
          refine r_Mod_findPaths_92 hY ⟨fun g => absurd g (by rw [hC'.1]; omega), fun _ => ?_⟩
          refine upto (P := fun c => (∀ c', 0 ≤ c' → c' < c → a ≠ b → σ' 114 (7 * a + c') ≤ σ' 114 (7 * a + b) ∨ σ' 114 (7 * c' + b) ≤ σ' 114 (7 * a + b)) → G_Mod_findPaths_103 0 L σ' (fun σ' => isS q (fun x y => σ' 114 (7 * x + y)) ∧ ∀ k j, k ≠ 114 → σ' k j = σ k j) NT 0 a b c) (a := 0) (n := qN q) ?_ ?_ 0 (by omega) (by omega) (fun c' c0 c1 => absurd c1 (by omega))
          · intro h3
            refine r_Mod_findPaths_103 hY ⟨fun _ => ⟨by omega, ihb fun y c y0 y1 c0 c1 hne => ?_⟩, fun g => absurd g (by rw [hC'.1]; omega)⟩
            by_cases e : y = b
            · rw [e] at hne ⊢; exact h3 c c0 c1 hne
            · exact h2 y c y0 (by omega) c0 c1 hne
          · intro c c0 c1 ihc h3
            have nob : ∀ v, σ' 114 (7 * a + b) < v → v ≤ σ' 114 (7 * a + c) → v ≤ σ' 114 (7 * c + b) → a ≠ b → False := by
              intro v h4 h5 h6 hab
              have hp' := hp0.up (p' := fun x y => if x = a ∧ y = b then σ' 114 (7 * a + b) + 1 else σ' 114 (7 * x + y)) a0 a1 b0 b1 c0 c1 hab (fun x y _ _ _ _ w => by rw [if_neg w]) (by rw [if_pos ⟨rfl, rfl⟩]; omega) (by rw [if_pos ⟨rfl, rfl⟩]; omega)
              have t1 := tot_up (σ := σ') (n := qN q) (a := a) (b := b) (v := σ' 114 (7 * a + b) + 1) hn.2 a0 a1 b0 b1
              have hp2 : pmt q (fun x y => upd2 σ' 114 (7 * a + b) (σ' 114 (7 * a + b) + 1) 114 (7 * x + y)) := by
                refine hp0.up a0 a1 b0 b1 c0 c1 hab (fun x y x0 x1 y0 y1 w => by rw [u_ne2 (by omega)]) (by rw [u_eq]; omega) (by rw [u_eq]; omega)
              have t2 := tot_bd hq hp2
              have t3 := tot_bd hq hp0
              omega
            have yes : (a ≠ b → σ' 114 (7 * a + c) ≤ σ' 114 (7 * a + b) ∨ σ' 114 (7 * c + b) ≤ σ' 114 (7 * a + b)) → G_Mod_findPaths_103 0 L σ' (fun σ' => isS q (fun x y => σ' 114 (7 * x + y)) ∧ ∀ k j, k ≠ 114 → σ' k j = σ k j) NT 0 a b (c + 1) := fun g => ihc fun c' c0' c1' hab => by
              by_cases e : c' = c
              · rw [e]; exact g hab
              · exact h3 c' c0' (by omega) hab
            refine r_Mod_findPaths_103 hY ⟨fun g => absurd g (by rw [hC'.1]; omega), fun _ => ⟨fun e => ⟨by omega, ihb fun y c y0 y1 c0 c1 hne => ?_⟩, fun e => ⟨by omega, by omega, by omega, by omega, by omega, by omega, fun g => ⟨by omega, by omega, by omega, by omega, by omega, by omega, fun g2 => ⟨by omega, yes fun _ => Or.inr g2⟩, fun g2 => (nob _ g2 g (Int.le_refl _) e).elim⟩, fun g => ⟨by omega, by omega, by omega, by omega, by omega, by omega, fun g2 => ⟨by omega, yes fun _ => Or.inl g2⟩, fun g2 => (nob _ g2 (Int.le_refl _) (by omega) e).elim⟩⟩⟩⟩
            by_cases v : y = b
            · exact absurd (by rw [v]; exact e) hne
            · exact h2 y c y0 (by omega) c0 c1 hne
    | succ m ihm =>
      intro σ₀ hm hf0 hp0
      refine r_Mod_findPaths_74 hY ⟨fun w => absurd w (by omega), fun _ => ?_⟩
      -- w = 0: nothing has grown in this pass; w = 1: something has
      refine upto (P := fun a => ∀ w σ', (w = 0 ∨ w = 1) → (w = 1 → tot σ₀ (qN q) < tot σ' (qN q)) → (∀ k j, k ≠ 114 → σ' k j = σ k j) → pmt q (fun x y => σ' 114 (7 * x + y)) → (w = 0 → ∀ x y c, 0 ≤ x → x < a → 0 ≤ y → y < qN q → 0 ≤ c → c < qN q → x ≠ y → σ' 114 (7 * x + c) ≤ σ' 114 (7 * x + y) ∨ σ' 114 (7 * c + y) ≤ σ' 114 (7 * x + y)) → tot σ₀ (qN q) ≤ tot σ' (qN q) → G_Mod_findPaths_82 0 L σ' (fun σ' => isS q (fun x y => σ' 114 (7 * x + y)) ∧ ∀ k j, k ≠ 114 → σ' k j = σ k j) NT w a) (a := 0) (n := qN q) ?_ ?_ 0 (by omega) (by omega) 0 σ₀ (Or.inl rfl) (fun w => absurd w (by omega)) hf0 hp0 (fun _ x y c x0 x1 => absurd x1 (by omega)) (Int.le_refl _)
      · intro w σ' hw01 hw hf hp h _
        have hC' := isc σ' hf
        refine r_Mod_findPaths_82 hY ⟨fun _ => ?_, fun g => absurd g (by rw [hC'.1]; omega)⟩
        rcases hw01 with rfl | rfl
        · exact r_Mod_findPaths_74 hY ⟨fun _ => ⟨hp.fin fun a b c a0 a1 b0 b1 c0 c1 => h rfl a b c a0 a1 b0 b1 c0 c1, hf⟩, fun w => absurd rfl w⟩
        · have := hw rfl
          have t := tot_bd hq hp
          exact ihm σ' (by omega) hf hp
      · intro a a0 a1 iha w σ' hw01 hw hf hp h htot
        have hC' := isc σ' hf
        refine r_Mod_findPaths_82 hY ⟨fun g => absurd g (by rw [hC'.1]; omega), fun _ => ?_⟩
        refine upto (P := fun b => ∀ w σ', (w = 0 ∨ w = 1) → (w = 1 → tot σ₀ (qN q) < tot σ' (qN q)) → (∀ k j, k ≠ 114 → σ' k j = σ k j) → pmt q (fun x y => σ' 114 (7 * x + y)) → (w = 0 → ∀ x y c, 0 ≤ x → x ≤ a → 0 ≤ y → y < qN q → (x < a ∨ y < b) → 0 ≤ c → c < qN q → x ≠ y → σ' 114 (7 * x + c) ≤ σ' 114 (7 * x + y) ∨ σ' 114 (7 * c + y) ≤ σ' 114 (7 * x + y)) → tot σ₀ (qN q) ≤ tot σ' (qN q) → G_Mod_findPaths_92 0 L σ' (fun σ' => isS q (fun x y => σ' 114 (7 * x + y)) ∧ ∀ k j, k ≠ 114 → σ' k j = σ k j) NT w a b) (a := 0) (n := qN q) ?_ ?_ 0 (by omega) (by omega) w σ' hw01 hw hf hp (fun hw x y c x0 x1 y0 y1 hxy => h hw x y c x0 (by omega) y0 y1) htot
        · intro w σ' hw01 hw hf hp h htot
          have hC' := isc σ' hf
          exact r_Mod_findPaths_92 hY ⟨fun _ => ⟨by omega, iha w σ' hw01 hw hf hp (fun hw x y c x0 x1 y0 y1 => h hw x y c x0 (by omega) y0 y1 (by omega)) htot⟩, fun g => absurd g (by rw [hC'.1]; omega)⟩
        · intro b b0 b1 ihb w σ' hw01 hw hf hp h htot
          have hC' := isc σ' hf
          refine r_Mod_findPaths_92 hY ⟨fun g => absurd g (by rw [hC'.1]; omega), fun _ => ?_⟩
          refine upto (P := fun c => ∀ w σ', (w = 0 ∨ w = 1) → (w = 1 → tot σ₀ (qN q) < tot σ' (qN q)) → (∀ k j, k ≠ 114 → σ' k j = σ k j) → pmt q (fun x y => σ' 114 (7 * x + y)) → (w = 0 → ∀ x y c', 0 ≤ x → x ≤ a → 0 ≤ y → y < qN q → (x < a ∨ y < b ∨ y = b ∧ c' < c) → 0 ≤ c' → c' < qN q → x ≠ y → σ' 114 (7 * x + c') ≤ σ' 114 (7 * x + y) ∨ σ' 114 (7 * c' + y) ≤ σ' 114 (7 * x + y)) → tot σ₀ (qN q) ≤ tot σ' (qN q) → G_Mod_findPaths_103 0 L σ' (fun σ' => isS q (fun x y => σ' 114 (7 * x + y)) ∧ ∀ k j, k ≠ 114 → σ' k j = σ k j) NT w a b c) (a := 0) (n := qN q) ?_ ?_ 0 (by omega) (by omega) w σ' hw01 hw hf hp (fun hw x y c x0 x1 y0 y1 hxy c0 => h hw x y c x0 x1 y0 y1 (by omega) c0) htot
          · intro w σ' hw01 hw hf hp h htot
            have hC' := isc σ' hf
            exact r_Mod_findPaths_103 hY ⟨fun _ => ⟨by omega, ihb w σ' hw01 hw hf hp (fun hw x y c x0 x1 y0 y1 hxy c0 c1 => h hw x y c x0 x1 y0 y1 (by omega) c0 c1) htot⟩, fun g => absurd g (by rw [hC'.1]; omega)⟩
          · intro c c0 c1 ihc w σ' hw01 hw hf hp h htot
            have hC' := isc σ' hf
            have yes : (a ≠ b → σ' 114 (7 * a + c) ≤ σ' 114 (7 * a + b) ∨ σ' 114 (7 * c + b) ≤ σ' 114 (7 * a + b)) → G_Mod_findPaths_103 0 L σ' (fun σ' => isS q (fun x y => σ' 114 (7 * x + y)) ∧ ∀ k j, k ≠ 114 → σ' k j = σ k j) NT w a b (c + 1) := fun g => ihc w σ' hw01 hw hf hp (fun hw x y c' x0 x1 y0 y1 hxy c0' c1' hne => by
              by_cases e : x = a ∧ y = b ∧ c' = c
              · rw [e.1, e.2.1] at hne; rw [e.1, e.2.1, e.2.2]; exact g hne
              · exact h hw x y c' x0 x1 y0 y1 (by omega) c0' c1' hne) htot
            have grow : ∀ v, σ' 114 (7 * a + b) < v → v ≤ σ' 114 (7 * a + c) → v ≤ σ' 114 (7 * c + b) → a ≠ b → G_Mod_findPaths_103 0 L (upd2 σ' 114 (7 * a + b) v) (fun σ' => isS q (fun x y => σ' 114 (7 * x + y)) ∧ ∀ k j, k ≠ 114 → σ' k j = σ k j) NT 1 a b (c + 1) := by
              intro v h4 h5 h6 hab
              have t1 := tot_up (σ := σ') (n := qN q) (a := a) (b := b) (v := v) hn.2 a0 a1 b0 b1
              exact ihc 1 _ (Or.inr rfl) (fun _ => by omega) (fun k j hk => by rw [u_ne hk]; exact hf k j hk) (hp.up a0 a1 b0 b1 c0 c1 hab (fun x y x0 x1 y0 y1 w => by rw [u_ne2 (by omega)]) (by rw [u_eq]; omega) (by rw [u_eq]; omega)) (fun w => absurd w (by omega)) (by omega)
            refine r_Mod_findPaths_103 hY ⟨fun g => absurd g (by rw [hC'.1]; omega), fun _ => ⟨fun e => ⟨by omega, ihb w σ' hw01 hw hf hp (fun hw x y c' x0 x1 y0 y1 hxy c0' c1' hne => h hw x y c' x0 x1 y0 y1 (by omega) c0' c1' hne) htot⟩, fun e => ⟨by omega, by omega, by omega, by omega, by omega, by omega, fun g => ⟨by omega, by omega, by omega, by omega, by omega, by omega, fun g2 => ⟨by omega, yes fun _ => Or.inr g2⟩, fun g2 => ⟨by omega, by omega, by omega, by omega, grow _ g2 g (Int.le_refl _) e⟩⟩, fun g => ⟨by omega, by omega, by omega, by omega, by omega, by omega, fun g2 => ⟨by omega, yes fun _ => Or.inl g2⟩, fun g2 => ⟨by omega, by omega, by omega, by omega, grow _ g2 (Int.le_refl _) (by omega) e⟩⟩⟩⟩⟩
  -- the first table
  refine upto (P := fun a => ∀ σ', (∀ x y, 0 ≤ x → x < a → 0 ≤ y → y < qN q → (bts q x y → σ' 114 (7 * x + y) = pr q x y) ∧ (¬ bts q x y → σ' 114 (7 * x + y) = 0)) → (∀ k j, k ≠ 114 → σ' k j = σ k j) → G_Mod_findPaths_2 0 L σ' (fun σ' => isS q (fun x y => σ' 114 (7 * x + y)) ∧ ∀ k j, k ≠ 114 → σ' k j = σ k j) NT a) (a := 0) (n := qN q) ?_ ?_ 0 (by omega) (by omega) σ (fun x y x0 x1 => absurd x1 (by omega)) (fun _ _ _ => rfl)
  · intro σ' h hf
    have hC' := isc σ' hf
    refine r_Mod_findPaths_2 hY ⟨fun _ => pass _ σ' (Nat.le_refl _) hf ⟨fun x x0 x1 => (h x x x0 x1 x0 x1).2 (by unfold bts; omega), fun x y x0 x1 y0 y1 => ?_, fun x y x0 x1 y0 y1 hne v v1 hv => ?_, fun v x y v1 e => ?_⟩, fun g => absurd g (by rw [hC'.1]; omega)⟩
    · show 0 ≤ σ' 114 (7 * x + y)
      by_cases e : bts q x y
      · rw [(h x y x0 x1 y0 y1).1 e]; exact (pr_bd hq x y).1
      · rw [(h x y x0 x1 y0 y1).2 e]; exact Int.le_refl 0
    · have hv : v ≤ σ' 114 (7 * x + y) := hv
      by_cases e : bts q x y
      · rw [(h x y x0 x1 y0 y1).1 e] at hv; exact rk.ed ⟨⟨x0, x1⟩, ⟨y0, y1⟩, e, hv⟩
      · rw [(h x y x0 x1 y0 y1).2 e] at hv; omega
    · show v ≤ σ' 114 (7 * x + y)
      rw [(h x y e.1.1 e.1.2 e.2.1.1 e.2.1.2).1 e.2.2.1]; exact e.2.2.2
  · intro a a0 a1 iha σ' h hf
    have hC' := isc σ' hf
    refine r_Mod_findPaths_2 hY ⟨fun g => absurd g (by rw [hC'.1]; omega), fun _ => ?_⟩
    refine upto (P := fun b => ∀ σ', (∀ x y, 0 ≤ x → x ≤ a → 0 ≤ y → y < qN q → (x < a ∨ y < b) → (bts q x y → σ' 114 (7 * x + y) = pr q x y) ∧ (¬ bts q x y → σ' 114 (7 * x + y) = 0)) → (∀ k j, k ≠ 114 → σ' k j = σ k j) → G_Mod_findPaths_12 0 L σ' (fun σ' => isS q (fun x y => σ' 114 (7 * x + y)) ∧ ∀ k j, k ≠ 114 → σ' k j = σ k j) NT a b) (a := 0) (n := qN q) ?_ ?_ 0 (by omega) (by omega) σ' (fun x y x0 x1 y0 y1 hxy => h x y x0 (by omega) y0 y1) hf
    · intro σ' h hf
      have hC' := isc σ' hf
      exact r_Mod_findPaths_12 hY ⟨fun _ => ⟨by omega, iha σ' (fun x y x0 x1 y0 y1 => h x y x0 (by omega) y0 y1 (by omega)) hf⟩, fun g => absurd g (by rw [hC'.1]; omega)⟩
    · intro b b0 b1 ihb σ' h hf
      have hC' := isc σ' hf
      have hT' : isT σ' q := fun x y x0 x1 y0 y1 => by rw [hf _ _ (by omega)]; exact hT x y x0 x1 y0 y1
      have put : ∀ v, ((bts q a b → v = pr q a b) ∧ (¬ bts q a b → v = 0)) → G_Mod_findPaths_12 0 L (upd2 σ' 114 (7 * a + b) v) (fun σ' => isS q (fun x y => σ' 114 (7 * x + y)) ∧ ∀ k j, k ≠ 114 → σ' k j = σ k j) NT a (b + 1) := by
        intro v hv
        refine ihb _ (fun x y x0 x1 y0 y1 hxy => ?_) (fun i j hij => by rw [u_ne hij]; exact hf i j hij)
        by_cases e : x = a ∧ y = b
        · rw [e.1, e.2, u_eq]; exact hv
        · rw [u_ne2 (by omega)]
          exact h x y x0 x1 y0 y1 (by omega)
      refine r_Mod_findPaths_12 hY ⟨fun g => absurd g (by rw [hC'.1]; omega), fun _ => ⟨by omega, by omega, fun e => ⟨by omega, by omega, put 0 ⟨fun w => ?_, fun _ => rfl⟩⟩, fun e => ?_⟩⟩
      · rw [e] at w; unfold bts at w; omega
      · exact (m_beats hY hq hT' ⟨a0, a1⟩ ⟨b0, b1⟩).to (by omega) ⟨fun g => ⟨by omega, by omega, put 0 ⟨fun w => absurd w (bI_f g), fun _ => rfl⟩⟩, fun g => ⟨by omega, by omega, by omega, by omega, by omega, put _ ⟨fun _ => hT' a b a0 a1 b0 b1, fun w => absurd (bI_t g) w⟩⟩⟩
theorem m_pathWinners (hY : Lay L) (hq : okP q) (hC : isC σ q) (hT : isT σ q) : Ex 2 y_Mod_pathWinners [vr 102] L σ (PI L (fun z σ' => isM z (qN q) (W7 q) ∧ ∀ k j, k ≠ 114 → σ' k j = σ k j) NT) := by
  have hn := hq.1
  refine e_Mod_pathWinners hY ?_
  refine Ex.toV (m_findPaths hY hq hC hT) ?_ (fun _ _ h => h)
  rintro σ' ⟨hS, hf⟩
  have hC' := hC.fc (σ' := σ') fun k j hk => hf k j (by omega)
  refine upto (P := fun a => ∀ z, isM z a (W7 q) → G_Mod_pathWinners_8 1 L σ' (fun z σ' => isM z (qN q) (W7 q) ∧ ∀ k j, k ≠ 114 → σ' k j = σ k j) NT z a) (a := 0) (n := qN q) ?_ ?_ 0 (by omega) (by omega) 0 (isM.zero _)
  · intro z hz
    exact r_Mod_pathWinners_8 hY ⟨fun _ => ⟨hz, hf⟩, fun g => absurd g (by rw [hC'.1]; omega)⟩
  · intro a a0 a1 ih z hz
    refine r_Mod_pathWinners_8 hY ⟨fun g => absurd g (by rw [hC'.1]; omega), fun _ => ?_⟩
    refine upto (P := fun b => ∀ w, w = bI (∀ j, 0 ≤ j → j < b → σ' 114 (7 * j + a) ≤ σ' 114 (7 * a + j)) → G_Mod_pathWinners_21 1 L σ' (fun z σ' => isM z (qN q) (W7 q) ∧ ∀ k j, k ≠ 114 → σ' k j = σ k j) NT z a w b) (a := 0) (n := qN q) ?_ ?_ 0 (by omega) (by omega) 1 (bI_p fun j j0 j1 => absurd j1 (by omega)).symm
    · intro w hw
      have hiff := hS.win a0 a1
      refine r_Mod_pathWinners_21 hY ⟨fun _ => ⟨fun e => ⟨by omega, ih z (hz.skip fun g => ?_)⟩, fun e => ⟨by omega, ih _ (hz.or a0 (by omega) ?_)⟩⟩, fun g => absurd g (by rw [hC'.1]; omega)⟩
      · rw [hw] at e
        exact bI_f e (hiff.mp g)
      · rw [hw] at e
        exact hiff.mpr (bI_t e)
    · intro b b0 b1 ihb w hw
      refine r_Mod_pathWinners_21 hY ⟨fun g => absurd g (by rw [hC'.1]; omega), fun _ => ⟨fun e => ⟨by omega, ihb 0 ?_⟩, fun e => ?_⟩⟩
      · rw [hw] at e
        exact (bI_n fun v => bI_f e fun j j0 j1 => v j j0 (by omega)).symm
      · rw [hw] at e
        have e := bI_t e
        have yes : σ' 114 (7 * b + a) ≤ σ' 114 (7 * a + b) → G_Mod_pathWinners_21 1 L σ' (fun z σ' => isM z (qN q) (W7 q) ∧ ∀ k j, k ≠ 114 → σ' k j = σ k j) NT z a 1 (b + 1) := fun g => ihb 1 (bI_p fun j j0 j1 => by
          by_cases v : j = b
          · rw [v]; exact g
          · exact e j j0 (by omega)).symm
        refine ⟨fun g => ⟨by omega, yes (by rw [g]; exact Int.le_refl _)⟩, fun g => ⟨by omega, by omega, by omega, by omega, by omega, by omega, fun g2 => ⟨by omega, ihb 0 (bI_n fun v => by have := v b b0 (by omega); omega).symm⟩, fun g2 => ⟨by omega, yes g2⟩⟩⟩
end
