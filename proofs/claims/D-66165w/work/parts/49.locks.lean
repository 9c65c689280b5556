/-! THE LOCKS' METHODS -/
def frK (σ σ' : Mm) : Prop := ∀ k j, ¬ (23 ≤ k ∧ k < 26) → σ' k j = σ k j
theorem frK.fr {σ σ' : Mm} (h : frK σ σ') : Fr σ σ' := fun k j hk => h k j (fun e => hk (by unfold scr; omega))
section
variable {L : List Sh} {σ : Mm} {p : Int} {q : Pf}
theorem c_ahead (hY : Lay L) (hp : isPr p) (hq : okP q) (hP : isP σ p q) {a b c d : Int} (ha : 0 ≤ a ∧ a < qN q) (hb : 0 ≤ b ∧ b < qN q) (hc : 0 ≤ c ∧ c < qN q) (hd : 0 ≤ d ∧ d < qN q) : IsI 1 y_Locks_ahead [vr p, vi a, vi b, vi c, vi d] L σ (bI (key q a b < key q c d)) := by
  have hn := hq.1
  have ht := hq.2.2.2.2.1
  have s1 := ps_spec hn.2 ht ha.1 ha.2
  have s2 := ps_spec hn.2 ht hb.1 hb.2
  have s3 := ps_spec hn.2 ht hc.1 hc.2
  have s4 := ps_spec hn.2 ht hd.1 hd.2
  have ne : a ≠ c → ps (qI' q) a ≠ ps (qI' q) c := fun w e => w (by rw [← s1.2.2, e, s3.2.2])
  refine e_Locks_ahead hY hp ?_
  rw [hP.2.2.2.2.1 a b ha.1 ha.2 hb.1 hb.2, hP.2.2.2.2.1 c d hc.1 hc.2 hd.1 hd.2]
  refine ⟨by omega, by omega, by omega, by omega, fun e => ⟨fun e2 => ?_, fun e2 => ?_⟩, fun e => ⟨by omega, by omega, by omega, by omega, fun e2 => ⟨?_, rfl⟩, fun e2 => ⟨?_, rfl⟩⟩⟩
  · refine (c_tie hY hp hq hP hb).to (by omega) ((c_tie hY hp hq hP hd).to (by omega) ⟨fun e3 => ⟨?_, rfl⟩, fun e3 => ⟨?_, rfl⟩⟩)
    · subst e2; exact (bI_n (by unfold key; omega)).symm
    · subst e2; exact (bI_p (by unfold key; omega)).symm
  · refine (c_tie hY hp hq hP ha).to (by omega) ((c_tie hY hp hq hP hc).to (by omega) ⟨fun e3 => ⟨?_, rfl⟩, fun e3 => ⟨?_, rfl⟩⟩)
    · have := ne e2; exact (bI_n (by unfold key; omega)).symm
    · exact (bI_p (by unfold key; omega)).symm
  · exact (bI_n (by unfold key; omega)).symm
  · exact (bI_p (by unfold key; omega)).symm
/-- the sorted pairs so far: those that come before place (a, b) of the table -/
def srt (q : Pf) (w l : Int → Int) (m a b : Int) : Prop := (0 ≤ m ∧ m ≤ 7 * a + b) ∧ (∀ i j, 0 ≤ i → i < j → j < m → key q (w i) (l i) < key q (w j) (l j)) ∧ (∀ i, 0 ≤ i → i < m → (0 ≤ w i ∧ w i < qN q) ∧ (0 ≤ l i ∧ l i < qN q) ∧ bts q (w i) (l i) ∧ (w i < a ∨ w i = a ∧ l i < b)) ∧ ∀ x y, 0 ≤ x → x < qN q → 0 ≤ y → y < qN q → bts q x y → (x < a ∨ x = a ∧ y < b) → ∃ i, 0 ≤ i ∧ i < m ∧ w i = x ∧ l i = y
theorem srt.skip {w l : Int → Int} {m a b : Int} (h : srt q w l m a b) (hb : ¬ bts q a b) : srt q w l m a (b + 1) := by
  obtain ⟨h1, h2, h3, h4⟩ := h
  refine ⟨by omega, h2, fun i i0 i1 => ?_, fun x y x0 x1 y0 y1 hx hxy => ?_⟩
  · obtain ⟨r1, r2, r3, r4⟩ := h3 i i0 i1
    exact ⟨r1, r2, r3, by omega⟩
  · by_cases e : x = a ∧ y = b
    · rw [e.1, e.2] at hx; exact absurd hx hb
    · exact h4 x y x0 x1 y0 y1 hx (by omega)
/-- a pair is put in its place -/
theorem srt.ins {w l w' l' : Int → Int} {m a b k : Int} (h : srt q w l m a b) (ha : 0 ≤ a ∧ a < qN q) (hb : 0 ≤ b ∧ b < qN q) (hbt : bts q a b) (hk : 0 ≤ k ∧ k ≤ m) (w1 : ∀ i, 0 ≤ i → i < k → w' i = w i ∧ l' i = l i) (w2 : w' k = a ∧ l' k = b) (w3 : ∀ i, k < i → i ≤ m → w' i = w (i - 1) ∧ l' i = l (i - 1)) (k1 : ∀ i, 0 ≤ i → i < k → key q (w i) (l i) < key q a b) (k2 : ∀ i, k ≤ i → i < m → key q a b < key q (w i) (l i)) : srt q w' l' (m + 1) a (b + 1) := by
  obtain ⟨h1, h2, h3, h4⟩ := h
  have at_ : ∀ i, 0 ≤ i → i ≤ m → (i < k ∧ w' i = w i ∧ l' i = l i) ∨ (i = k ∧ w' i = a ∧ l' i = b) ∨ (k < i ∧ w' i = w (i - 1) ∧ l' i = l (i - 1)) := by
    intro i i0 i1
    rcases Int.lt_trichotomy i k with e | e | e
    · exact Or.inl ⟨e, w1 i i0 e⟩
    · exact Or.inr (Or.inl ⟨e, by rw [e]; exact w2⟩)
    · exact Or.inr (Or.inr ⟨e, w3 i e i1⟩)
  refine ⟨by omega, fun i j i0 ij jm => ?_, fun i i0 i1 => ?_, fun x y x0 x1 y0 y1 hx hxy => ?_⟩
  · rcases at_ i i0 (by omega) with ⟨e, ea, eb⟩ | ⟨e, ea, eb⟩ | ⟨e, ea, eb⟩ <;> rcases at_ j (by omega) (by omega) with ⟨f, fa, fb⟩ | ⟨f, fa, fb⟩ | ⟨f, fa, fb⟩ <;> rw [ea, eb, fa, fb]
    · exact h2 i j i0 ij (by omega)
    · exact k1 i i0 e
    · exact h2 i (j - 1) i0 (by omega) (by omega)
    · omega
    · omega
    · exact k2 (j - 1) (by omega) (by omega)
    · omega
    · omega
    · exact h2 (i - 1) (j - 1) (by omega) (by omega) (by omega)
  · rcases at_ i i0 (by omega) with ⟨e, ea, eb⟩ | ⟨e, ea, eb⟩ | ⟨e, ea, eb⟩ <;> rw [ea, eb]
    · obtain ⟨r1, r2, r3, r4⟩ := h3 i i0 (by omega)
      exact ⟨r1, r2, r3, by omega⟩
    · exact ⟨ha, hb, hbt, by omega⟩
    · obtain ⟨r1, r2, r3, r4⟩ := h3 (i - 1) (by omega) (by omega)
      exact ⟨r1, r2, r3, by omega⟩
  · by_cases e : x = a ∧ y = b
    · exact ⟨k, hk.1, by omega, by rw [w2.1, e.1], by rw [w2.2, e.2]⟩
    · obtain ⟨i, i0, i1, e1, e2⟩ := h4 x y x0 x1 y0 y1 hx (by omega)
      by_cases g : i < k
      · exact ⟨i, i0, by omega, by rw [(w1 i i0 g).1, e1], by rw [(w1 i i0 g).2, e2]⟩
      · refine ⟨i + 1, by omega, by omega, ?_, ?_⟩
        · rw [(w3 (i + 1) (by omega) (by omega)).1, show i + 1 - 1 = i by omega, e1]
        · rw [(w3 (i + 1) (by omega) (by omega)).2, show i + 1 - 1 = i by omega, e2]
theorem c_collect (hY : Lay L) (hp : isPr p) (hq : okP q) (hP : isP σ p q) : Ex 2 y_Locks_collect [vr 22, vr p] L σ (PI L (fun m σ' => srt q (σ' 23) (σ' 24) m (qN q) 0 ∧ frK σ σ') NT) := by
  have hn := hq.1
  refine e_Locks_collect hY hp ?_
  refine upto (P := fun a => ∀ m σ', srt q (σ' 23) (σ' 24) m a 0 → frK σ σ' → G_Locks_collect_4 1 L σ' (fun m σ' => srt q (σ' 23) (σ' 24) m (qN q) 0 ∧ frK σ σ') NT p m a) (a := 0) (n := qN q) ?_ ?_ 0 (by omega) (by omega) 0 σ ⟨by omega, fun i j i0 ij j1 => absurd j1 (by omega), fun i i0 i1 => absurd i1 (by omega), fun x y x0 x1 y0 y1 _ hxy => by omega⟩ (fun _ _ _ => rfl)
  · intro m σ' hs hf
    have hP' := hP.fr hq hp hf.fr
    exact r_Locks_collect_4 hY hp ⟨fun _ => ⟨hs, hf⟩, fun g => absurd g (by rw [hP'.1]; omega)⟩
  · intro a a0 a1 iha m σ' hs hf
    have hP' := hP.fr hq hp hf.fr
    refine r_Locks_collect_4 hY hp ⟨fun g => absurd g (by rw [hP'.1]; omega), fun _ => ?_⟩
    refine upto (P := fun b => ∀ m σ', srt q (σ' 23) (σ' 24) m a b → frK σ σ' → G_Locks_collect_15 1 L σ' (fun m σ' => srt q (σ' 23) (σ' 24) m (qN q) 0 ∧ frK σ σ') NT p m a b) (a := 0) (n := qN q) ?_ ?_ 0 (by omega) (by omega) m σ' hs hf
    · intro m σ' hs hf
      have hP' := hP.fr hq hp hf.fr
      refine r_Locks_collect_15 hY hp ⟨fun _ => ⟨by omega, iha m σ' ?_ hf⟩, fun g => absurd g (by rw [hP'.1]; omega)⟩
      obtain ⟨h1, h2, h3, h4⟩ := hs
      refine ⟨by omega, h2, fun i i0 i1 => ?_, fun x y x0 x1 y0 y1 hx hxy => h4 x y x0 x1 y0 y1 hx (by omega)⟩
      obtain ⟨r1, r2, r3, r4⟩ := h3 i i0 i1
      exact ⟨r1, r2, r3, by omega⟩
    · intro b b0 b1 ihb m σ' hs hf
      have hP' := hP.fr hq hp hf.fr
      refine r_Locks_collect_15 hY hp ⟨fun g => absurd g (by rw [hP'.1]; omega), fun _ => ?_⟩
      have hm := hs.1
      refine (c_beats hY hp hq hP' ⟨a0, a1⟩ ⟨b0, b1⟩).to (by omega) ⟨fun e => ⟨by omega, ?_⟩, fun e => ⟨by omega, ihb m σ' (hs.skip (bI_f e)) hf⟩⟩
      have hbt := bI_t e
      -- the pair moves up
      have mv : ∀ (j : Nat) (k : Int) (σ'' : Mm), k = j → k ≤ m → (∀ i, 0 ≤ i → i < k → σ'' 23 i = σ' 23 i ∧ σ'' 24 i = σ' 24 i) → (∀ i, k < i → i ≤ m → σ'' 23 i = σ' 23 (i - 1) ∧ σ'' 24 i = σ' 24 (i - 1)) → (∀ i, k ≤ i → i < m → key q a b < key q (σ' 23 i) (σ' 24 i)) → frK σ σ'' → G_Locks_collect_43 1 L σ'' (fun m σ' => srt q (σ' 23) (σ' 24) m (qN q) 0 ∧ frK σ σ') NT p (m + 1) a b k := by
        intro j
        induction j with
        | zero =>
          intro k σ'' hk km p1 p2 p3 hf''
          refine r_Locks_collect_43 hY hp ⟨fun _ => ⟨by omega, by omega, by omega, ihb _ _ (hs.ins ⟨a0, a1⟩ ⟨b0, b1⟩ hbt ⟨by omega, km⟩ (fun i i0 i1 => ?_) ⟨?_, ?_⟩ (fun i i0 i1 => ?_) (fun i i0 i1 => absurd i1 (by omega)) p3) (fun x y hx => ?_)⟩, fun g => absurd g (by omega)⟩
          · omega
          · rw [u_ne (by omega), u_eq]
          · rw [u_eq]
          · rw [u_ne (show (23 : Int) ≠ 24 by omega), u_ne2 (by omega), u_ne2 (by omega), u_ne (show (24 : Int) ≠ 23 by omega)]; exact p2 i i0 i1
          · rw [u_ne (by omega), u_ne (by omega)]; exact hf'' x y hx
        | succ j ihj =>
          intro k σ'' hk km p1 p2 p3 hf''
          have hP'' := hP.fr hq hp hf''.fr
          have q1 := p1 (k - 1) (by omega) (by omega)
          obtain ⟨r1, r2, r3, r4⟩ := hs.2.2.1 (k - 1) (by omega) (by omega)
          refine r_Locks_collect_43 hY hp ⟨fun g => absurd g (by omega), fun _ => ⟨by omega, by omega, by omega, by omega, ?_⟩⟩
          rw [q1.1, q1.2]
          refine (c_ahead hY hp hq hP'' ⟨a0, a1⟩ ⟨b0, b1⟩ r1 r2).to (by omega) ⟨fun g => ⟨by omega, by omega, by omega, ihb _ _ (hs.ins ⟨a0, a1⟩ ⟨b0, b1⟩ hbt ⟨by omega, km⟩ (fun i i0 i1 => ?_) ⟨?_, ?_⟩ (fun i i0 i1 => ?_) (fun i i0 i1 => ?_) p3) (fun x y hx => ?_)⟩, fun g => ⟨by omega, by omega, by omega, by omega, by omega, by omega, by omega, ?_⟩⟩
          · rw [u_ne (show (23 : Int) ≠ 24 by omega), u_ne2 (by omega), u_ne2 (by omega), u_ne (show (24 : Int) ≠ 23 by omega)]; exact p1 i i0 i1
          · rw [u_ne (by omega), u_eq]
          · rw [u_eq]
          · rw [u_ne (show (23 : Int) ≠ 24 by omega), u_ne2 (by omega), u_ne2 (by omega), u_ne (show (24 : Int) ≠ 23 by omega)]; exact p2 i i0 i1
          · have g := bI_f g
            have hne : key q (σ' 23 (k - 1)) (σ' 24 (k - 1)) ≠ key q a b := fun w => by
              have := key_inj hq r1 r2 ⟨a0, a1⟩ ⟨b0, b1⟩ w
              omega
            by_cases w : i = k - 1
            · rw [w]; omega
            · have := hs.2.1 i (k - 1) i0 (by omega) (by omega)
              omega
          · rw [u_ne (by omega), u_ne (by omega)]; exact hf'' x y hx
          · refine ihj (k + (-1)) _ (by omega) (by omega) (fun i i0 i1 => ?_) (fun i i0 i1 => ?_) (fun i i0 i1 => ?_) (fun x y hx => ?_)
            · rw [u_ne (show (23 : Int) ≠ 24 by omega), u_ne2 (by omega), u_ne2 (by omega), u_ne (show (24 : Int) ≠ 23 by omega)]; exact p1 i i0 (by omega)
            · by_cases w : i = k
              · rw [w, u_ne (show (23 : Int) ≠ 24 by omega), u_eq, u_eq, u_ne (show (24 : Int) ≠ 23 by omega)]; exact ⟨q1.1, q1.2⟩
              · rw [u_ne (show (23 : Int) ≠ 24 by omega), u_ne2 (by omega), u_ne2 (by omega), u_ne (show (24 : Int) ≠ 23 by omega)]; exact p2 i (by omega) i1
            · by_cases w : i = k - 1
              · rw [w]; exact bI_t g
              · exact p3 i (by omega) i1
            · rw [u_ne (by omega), u_ne (by omega)]; exact hf'' x y hx
      exact mv m.toNat m σ' (by omega) (by omega) (fun i _ _ => ⟨rfl, rfl⟩) (fun i i0 i1 => absurd i1 (by omega)) (fun i i0 i1 => absurd i1 (by omega)) hf
/-- who is under whom -/
def und (q : Pf) (σ : Mm) (E : Int → Int → Prop) : Prop := ∀ c, 0 ≤ c → c < qN q → isM (σ 25 c) (qN q) (rE E c)
theorem c_lock (hY : Lay L) (hq : okP q) {E : Int → Int → Prop} (hu : und q σ E) {a b : Int} (ha : 0 ≤ a ∧ a < qN q) (hb : 0 ≤ b ∧ b < qN q) : Ex 0 y_Locks_lock [vr 22, vi (qN q), vi a, vi b] L σ (PV L (fun σ' => (rE E b a → und q σ' E) ∧ (¬ rE E b a → und q σ' (fun x y => E x y ∨ x = a ∧ y = b)) ∧ ∀ k j, k ≠ 25 → σ' k j = σ k j) NT) := by
  have hn := hq.1
  have hbb := (hu b hb.1 hb.2).bit ha.1 ha.2 hn.2
  refine e_Locks_lock hY ⟨by omega, fun e => ⟨by omega, ?_⟩, fun e => ⟨fun _ => hu, fun w => absurd (hbb.1.mp e) w, fun _ _ _ => rfl⟩⟩
  have hr : ¬ rE E b a := fun w => e (hbb.1.mpr w)
  have hmore : isM (oI (σ 25 b) (hI 1 b)) (qN q) (fun x => rE E b x ∨ x = b) := (hu b hb.1 hb.2).ins hb.1 hb.2 (by omega) (fun i _ _ => Iff.rfl)
  refine upto (P := fun c => ∀ σ', (∀ j, 0 ≤ j → j < qN q → (j < c → isM (σ' 25 j) (qN q) (rE (fun x y => E x y ∨ x = a ∧ y = b) j)) ∧ (c ≤ j → σ' 25 j = σ 25 j)) → (∀ k j, k ≠ 25 → σ' k j = σ k j) → G_Locks_lock_30 0 L σ' (fun σ' => (rE E b a → und q σ' E) ∧ (¬ rE E b a → und q σ' (fun x y => E x y ∨ x = a ∧ y = b)) ∧ ∀ k j, k ≠ 25 → σ' k j = σ k j) NT (qN q) a (oI (σ 25 b) (hI 1 b)) c) (a := 0) (n := qN q) ?_ ?_ 0 (by omega) (by omega) σ (fun j j0 j1 => ⟨fun w => absurd w (by omega), fun _ => rfl⟩) (fun _ _ _ => rfl)
  · intro σ' h1 h2
    exact r_Locks_lock_30 hY ⟨fun _ => ⟨fun w => absurd w hr, fun _ c c0 c1 => (h1 c c0 c1).1 c1, h2⟩, fun g => absurd g (by omega)⟩
  · intro c c0 c1 ih σ' h1 h2
    have ec := (h1 c c0 c1).2 (Int.le_refl c)
    have hcb := (hu c c0 c1).bit ha.1 ha.2 hn.2
    have yes : (c = a ∨ rE E c a) → G_Locks_lock_30 0 L (upd2 σ' 25 c (oI (σ' 25 c) (oI (σ 25 b) (hI 1 b)))) (fun σ' => (rE E b a → und q σ' E) ∧ (¬ rE E b a → und q σ' (fun x y => E x y ∨ x = a ∧ y = b)) ∧ ∀ k j, k ≠ 25 → σ' k j = σ k j) NT (qN q) a (oI (σ 25 b) (hI 1 b)) (c + 1) := by
      intro hca
      refine ih _ (fun j j0 j1 => ⟨fun w => ?_, fun w => ?_⟩) (fun k j hk => by rw [u_ne hk]; exact h2 k j hk)
      · by_cases g : j = c
        · rw [g, u_eq, ec]
          refine ((hu c c0 c1).union hmore).ext fun i _ _ _ => ?_
          rw [rE_add]
          constructor
          · rintro (w | w | w)
            · exact Or.inl w
            · exact Or.inr ⟨hca, Or.inr w⟩
            · exact Or.inr ⟨hca, Or.inl w⟩
          · rintro (w | ⟨-, w | w⟩)
            · exact Or.inl w
            · exact Or.inr (Or.inr w)
            · exact Or.inr (Or.inl w)
        · rw [u_ne2 g]; exact (h1 j j0 j1).1 (by omega)
      · rw [u_ne2 (by omega)]; exact (h1 j j0 j1).2 (by omega)
    refine r_Locks_lock_30 hY ⟨fun g => absurd g (by omega), fun _ => ⟨fun g => ⟨by omega, by omega, by omega, yes (Or.inl g)⟩, fun g => ⟨by omega, fun g2 => ⟨by omega, ih σ' (fun j j0 j1 => ⟨fun w => ?_, fun w => (h1 j j0 j1).2 (by omega)⟩) h2⟩, fun g2 => ⟨by omega, by omega, by omega, yes (Or.inr ?_)⟩⟩⟩⟩
    · rw [ec] at g2
      have no : ¬ rE E c a := fun w => g2 (hcb.1.mpr w)
      by_cases g3 : j = c
      · rw [g3, ec]
        refine (hu c c0 c1).ext fun i _ _ _ => ?_
        rw [rE_add]
        constructor
        · exact Or.inl
        · rintro (w | ⟨w | w, -⟩)
          · exact w
          · exact absurd w g
          · exact absurd w no
      · exact (h1 j j0 j1).1 (by omega)
    · rw [ec] at g2
      exact hcb.1.mp g2
theorem c_win22 (hY : Lay L) (hp : isPr p) (hq : okP q) (hP : isP σ p q) : Ex 3 y_Locks_winners [vr 22, vr p] L σ (PI L (fun z σ' => (isM z (qN q) (W8 q) ∧ ∃ c, 0 ≤ c ∧ c < qN q ∧ W8 q c) ∧ Fr σ σ') NT) := by
  have hn := hq.1
  refine e_Locks_winners hY hp ?_
  refine Ex.toI (c_collect hY hp hq hP) ?_ (fun _ _ h => h)
  rintro m σ₁ ⟨hs, hf1⟩
  have hP1 := hP.fr hq hp hf1.fr
  have hsm := hs.1
  -- under is cleared
  refine upto (P := fun c => ∀ σ', (∀ k j, k ≠ 25 → σ' k j = σ₁ k j) → (∀ j, 0 ≤ j → j < c → σ' 25 j = 0) → G_Locks_winners_11 2 L σ' (fun z σ' => (isM z (qN q) (W8 q) ∧ ∃ c, 0 ≤ c ∧ c < qN q ∧ W8 q c) ∧ Fr σ σ') NT p m 0 c) (a := 0) (n := qN q) ?_ ?_ 0 (by omega) (by omega) σ₁ (fun _ _ _ => rfl) (fun j j0 j1 => absurd j1 (by omega))
  · intro σ₂ h1 h2
    have fr : ∀ σ', (∀ k j, k ≠ 25 → σ' k j = σ₁ k j) → Fr σ σ' := fun σ' h => Fr.trans hf1.fr fun k j hk => h k j (by rintro rfl; exact hk (by unfold scr; omega))
    have hP2 := hP.fr hq hp (fr σ₂ h1)
    refine r_Locks_winners_11 hY hp ⟨fun _ => ?_, fun g => absurd g (by rw [hP2.1]; omega)⟩
    -- the pairs are locked
    refine upto (P := fun k => ∀ σ' E, (∀ k j, k ≠ 25 → σ' k j = σ₁ k j) → und q σ' E → lkS q E (fun x y => ∃ i, 0 ≤ i ∧ i < k ∧ σ₁ 23 i = x ∧ σ₁ 24 i = y) → G_Locks_winners_37 2 L σ' (fun z σ' => (isM z (qN q) (W8 q) ∧ ∃ c, 0 ≤ c ∧ c < qN q ∧ W8 q c) ∧ Fr σ σ') NT p m 0 k) (a := 0) (n := m) ?_ ?_ 0 (by omega) (by omega) σ₂ (fun _ _ => False) h1 (fun c c0 c1 => ?_) ⟨fun x y w => w.elim, fun x y => by rintro ⟨i, i0, i1, -⟩; omega, fun x w => w.last.elim fun _ e => e⟩
    · intro σ₃ E h3 hu hl
      have hP3 := hP.fr hq hp (fr σ₃ h3)
      refine r_Locks_winners_37 hY hp ⟨fun _ => ?_, fun g => absurd g (by omega)⟩
      have hLk : isLk q E := hl.fin fun x y => by
        constructor
        · rintro ⟨i, i0, i1, rfl, rfl⟩
          obtain ⟨r1, r2, r3, -⟩ := hs.2.2.1 i i0 i1
          exact ⟨r1, r2, r3⟩
        · rintro ⟨r1, r2, r3⟩
          exact hs.2.2.2 x y r1.1 r1.2 r2.1 r2.2 r3 (by omega)
      refine upto (P := fun c => ∀ z, isM z (qN q) (fun x => ∃ j, 0 ≤ j ∧ j < c ∧ rE E j x) → G_Locks_winners_74 2 L σ₃ (fun z σ' => (isM z (qN q) (W8 q) ∧ ∃ c, 0 ≤ c ∧ c < qN q ∧ W8 q c) ∧ Fr σ σ') NT p z c) (a := 0) (n := qN q) ?_ ?_ 0 (by omega) (by omega) 0 (isM.empty fun i _ _ => by rintro ⟨j, j0, j1, -⟩; omega)
      · intro z hz
        refine r_Locks_winners_74 hY hp ⟨fun _ => (c_all hY hp hq hP3).to (by omega) ⟨⟨((al_is hq).andNot hz).ext fun i i0 i1 _ => ?_, W8_ex hq hLk hl.2.2⟩, fr σ₃ h3⟩, fun g => absurd g (by rw [hP3.1]; omega)⟩
        rw [W8_iff hq hLk]
        constructor
        · rintro ⟨-, w⟩ a ha
          have r := hLk.1 a i ha
          exact w ⟨a, r.1.1, r.1.2, rE.one ha⟩
        · intro w
          refine ⟨trivial, ?_⟩
          rintro ⟨j, j0, j1, hj⟩
          obtain ⟨u, hu'⟩ := hj.last
          exact w u hu'
      · intro c c0 c1 ihc z hz
        refine r_Locks_winners_74 hY hp ⟨fun g => absurd g (by rw [hP3.1]; omega), fun _ => ⟨by omega, by omega, ihc _ ((hz.union (hu c c0 c1)).ext fun i _ _ _ => ?_)⟩⟩
        constructor
        · rintro (⟨j, j0, j1, hj⟩ | w)
          · exact ⟨j, j0, by omega, hj⟩
          · exact ⟨c, c0, by omega, w⟩
        · rintro ⟨j, j0, j1, hj⟩
          by_cases e : j = c
          · rw [e] at hj; exact Or.inr hj
          · exact Or.inl ⟨j, j0, by omega, hj⟩
    · intro k k0 k1 ihk σ₃ E h3 hu hl
      have hP3 := hP.fr hq hp (fr σ₃ h3)
      obtain ⟨r1, r2, r3, -⟩ := hs.2.2.1 k k0 k1
      refine r_Locks_winners_37 hY hp ⟨fun g => absurd g (by omega), fun _ => ⟨by omega, by omega, ?_⟩⟩
      rw [hP3.1, h3 23 k (by omega), h3 24 k (by omega)]
      refine (Ex.toV (c_lock hY hq hu r1 r2) ?_ (fun _ _ h => h)).deep (by omega)
      rintro σ₄ ⟨l1, l2, l3⟩
      have f4 : ∀ k j, k ≠ 25 → σ₄ k j = σ₁ k j := fun k j hk => (l3 k j hk).trans (h3 k j hk)
      have hab : σ₁ 23 k ≠ σ₁ 24 k := fun w => by rw [w] at r3; unfold bts at r3; omega
      have add := hl.add hab (by rintro x y ⟨i, i0, i1, rfl, rfl⟩; exact hs.2.1 i k i0 i1 k1)
      have eD : (fun x y => (∃ i, 0 ≤ i ∧ i < k ∧ σ₁ 23 i = x ∧ σ₁ 24 i = y) ∨ x = σ₁ 23 k ∧ y = σ₁ 24 k) = fun x y => ∃ i, 0 ≤ i ∧ i < k + 1 ∧ σ₁ 23 i = x ∧ σ₁ 24 i = y := by
        funext x y
        apply propext
        constructor
        · rintro (⟨i, i0, i1, e⟩ | ⟨e1, e2⟩)
          · exact ⟨i, i0, by omega, e⟩
          · exact ⟨k, k0, by omega, e1.symm, e2.symm⟩
        · rintro ⟨i, i0, i1, e⟩
          by_cases g : i = k
          · rw [g] at e; exact Or.inr ⟨e.1.symm, e.2.symm⟩
          · exact Or.inl ⟨i, i0, by omega, e⟩
      rw [eD] at add
      refine ⟨by omega, ?_⟩
      by_cases hr : rE E (σ₁ 24 k) (σ₁ 23 k)
      · exact ihk σ₄ E f4 (l1 hr) (add.1 hr)
      · exact ihk σ₄ _ f4 (l2 hr) (add.2 hr)
    · rw [h2 c c0 c1]
      exact isM.empty fun i _ _ w => w.last.elim fun _ e => e
  · intro c c0 c1 ih σ' h1 h2
    have hP2 := hP.fr hq hp (Fr.trans hf1.fr fun k j hk => h1 k j (by rintro rfl; exact hk (by unfold scr; omega)))
    refine r_Locks_winners_11 hY hp ⟨fun g => absurd g (by rw [hP2.1]; omega), fun _ => ⟨by omega, by omega, ih _ (fun k j hk => by rw [u_ne hk]; exact h1 k j hk) fun j j0 j1 => ?_⟩⟩
    rw [u_if]
    split
    · rfl
    · exact h2 j j0 (by omega)
end
