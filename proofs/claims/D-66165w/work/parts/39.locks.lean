/-! LOCKS, plainly -/
/-- the order of pairs -/
noncomputable def key (q : Pf) (a b : Int) : Int := ps (qI' q) a * 7 + ps (qI' q) b - 49 * pr q a b
theorem key_inj {q : Pf} (hq : okP q) {a b c d : Int} (ha : 0 ≤ a ∧ a < qN q) (hb : 0 ≤ b ∧ b < qN q) (hc : 0 ≤ c ∧ c < qN q) (hd : 0 ≤ d ∧ d < qN q) (h : key q a b = key q c d) : a = c ∧ b = d := by
  have hn := hq.1
  have ht := hq.2.2.2.2.1
  have s1 := ps_spec hn.2 ht ha.1 ha.2
  have s2 := ps_spec hn.2 ht hb.1 hb.2
  have s3 := ps_spec hn.2 ht hc.1 hc.2
  have s4 := ps_spec hn.2 ht hd.1 hd.2
  unfold key at h
  have e1 : ps (qI' q) a = ps (qI' q) c := by omega
  have e2 : ps (qI' q) b = ps (qI' q) d := by omega
  exact ⟨by rw [← s1.2.2, e1, s3.2.2], by rw [← s2.2.2, e2, s4.2.2]⟩
theorem key_bd {q : Pf} (hq : okP q) {a b : Int} (ha : 0 ≤ a ∧ a < qN q) (hb : 0 ≤ b ∧ b < qN q) : -102901029 ≤ key q a b ∧ key q a b < 49 := by
  have hn := hq.1
  have ht := hq.2.2.2.2.1
  have s1 := ps_spec hn.2 ht ha.1 ha.2
  have s2 := ps_spec hn.2 ht hb.1 hb.2
  have s3 := pr_bd hq a b
  unfold key
  omega
/-- who is reached, by at least one step -/
def rE (E : Int → Int → Prop) (c x : Int) : Prop := ∀ Q : Int → Prop, (∀ y, E c y → Q y) → (∀ u y, Q u → E u y → Q y) → Q x
section
variable {E F : Int → Int → Prop} {a b c x y : Int}
theorem rE.one (h : E a b) : rE E a b := fun _ h1 _ => h1 b h
theorem rE.step (h : rE E a b) (e : E b c) : rE E a c := fun Q h1 h2 => h2 b c (h Q h1 h2) e
theorem rE.trans (h : rE E a b) (g : rE E b c) : rE E a c := g (rE E a) (fun _ e => h.step e) (fun _ _ w e => w.step e)
theorem rE.mono (h : rE E a b) (k : ∀ x y, E x y → F x y) : rE F a b := h (rE F a) (fun y e => rE.one (k a y e)) (fun u y w e => w.step (k u y e))
theorem rE.last (h : rE E a b) : ∃ u, E u b := h (fun b => ∃ u, E u b) (fun y e => ⟨a, e⟩) (fun u y _ e => ⟨u, e⟩)
theorem rE_iff (k : ∀ x y, E x y ↔ F x y) : rE E a b ↔ rE F a b := ⟨fun h => h.mono fun x y => (k x y).mp, fun h => h.mono fun x y => (k x y).mpr⟩
/-- with one step more -/
theorem rE_add : rE (fun x y => E x y ∨ x = a ∧ y = b) c x ↔ rE E c x ∨ ((c = a ∨ rE E c a) ∧ (x = b ∨ rE E b x)) := by
  constructor
  · intro h
    refine h (fun x => rE E c x ∨ ((c = a ∨ rE E c a) ∧ (x = b ∨ rE E b x))) ?_ ?_
    · rintro y (e | ⟨rfl, rfl⟩)
      · exact Or.inl (rE.one e)
      · exact Or.inr ⟨Or.inl rfl, Or.inl rfl⟩
    · rintro u y w (e | ⟨rfl, rfl⟩)
      · rcases w with w | ⟨w1, rfl | w2⟩
        · exact Or.inl (w.step e)
        · exact Or.inr ⟨w1, Or.inr (rE.one e)⟩
        · exact Or.inr ⟨w1, Or.inr (w2.step e)⟩
      · rcases w with w | ⟨w1, -⟩
        · exact Or.inr ⟨Or.inr w, Or.inl rfl⟩
        · exact Or.inr ⟨w1, Or.inl rfl⟩
  · have ab : (fun x y => E x y ∨ x = a ∧ y = b) a b := Or.inr ⟨rfl, rfl⟩
    have up : ∀ {s t : Int}, rE E s t → rE (fun x y => E x y ∨ x = a ∧ y = b) s t := fun h => h.mono fun _ _ e => Or.inl e
    rintro (h | ⟨h1, h2⟩)
    · exact up h
    · have g : rE (fun x y => E x y ∨ x = a ∧ y = b) c b := by
        rcases h1 with rfl | h1
        · exact rE.one ab
        · exact (up h1).step ab
      rcases h2 with rfl | h2
      · exact g
      · exact g.trans (up h2)
end
/-- the pairs that are locked -/
def isLk (q : Pf) (X : Int → Int → Prop) : Prop := (∀ a b, X a b → (0 ≤ a ∧ a < qN q) ∧ (0 ≤ b ∧ b < qN q) ∧ bts q a b) ∧ ∀ a b, 0 ≤ a → a < qN q → 0 ≤ b → b < qN q → bts q a b → (X a b ↔ ¬ rE (fun x y => X x y ∧ key q x y < key q a b) b a)
theorem isLk.uniq {q : Pf} (hq : okP q) {X Y : Int → Int → Prop} (h : isLk q X) (k : isLk q Y) : ∀ a b, X a b ↔ Y a b := by
  have main : ∀ (m : Nat) (a b : Int), 0 ≤ a → a < qN q → 0 ≤ b → b < qN q → key q a b + 102901030 ≤ m → (X a b ↔ Y a b) := by
    intro m
    induction m with
    | zero =>
      intro a b a0 a1 b0 b1 hm
      have := key_bd hq ⟨a0, a1⟩ ⟨b0, b1⟩
      omega
    | succ m ih =>
      intro a b a0 a1 b0 b1 hm
      by_cases hb : bts q a b
      · rw [h.2 a b a0 a1 b0 b1 hb, k.2 a b a0 a1 b0 b1 hb]
        have : ∀ x y, (X x y ∧ key q x y < key q a b) ↔ (Y x y ∧ key q x y < key q a b) := by
          intro x y
          constructor
          · rintro ⟨w1, w2⟩
            have r := h.1 x y w1
            exact ⟨(ih x y r.1.1 r.1.2 r.2.1.1 r.2.1.2 (by omega)).mp w1, w2⟩
          · rintro ⟨w1, w2⟩
            have r := k.1 x y w1
            exact ⟨(ih x y r.1.1 r.1.2 r.2.1.1 r.2.1.2 (by omega)).mpr w1, w2⟩
        rw [rE_iff this]
      · exact ⟨fun w => absurd (h.1 a b w).2.2 hb, fun w => absurd (k.1 a b w).2.2 hb⟩
  intro a b
  constructor
  · intro w
    have r := h.1 a b w
    have kb := key_bd hq r.1 r.2.1
    exact (main (key q a b + 102901030).toNat a b r.1.1 r.1.2 r.2.1.1 r.2.1.2 (by omega)).mp w
  · intro w
    have r := k.1 a b w
    have kb := key_bd hq r.1 r.2.1
    exact (main (key q a b + 102901030).toNat a b r.1.1 r.1.2 r.2.1.1 r.2.1.2 (by omega)).mpr w
def W8 (q : Pf) (c : Int) : Prop := ∃ X, isLk q X ∧ ∀ a, ¬ X a c
theorem W8_iff {q : Pf} (hq : okP q) {X : Int → Int → Prop} (h : isLk q X) {c : Int} : W8 q c ↔ ∀ a, ¬ X a c := by
  constructor
  · rintro ⟨Y, hY, e⟩ a w
    exact e a ((h.uniq hq hY a c).mp w)
  · exact fun e => ⟨X, h, e⟩
theorem W8_ex {q : Pf} (hq : okP q) {X : Int → Int → Prop} (h : isLk q X) (ac : ∀ x, ¬ rE X x x) : ∃ c, 0 ≤ c ∧ c < qN q ∧ W8 q c := by
  obtain ⟨a, a0, a1, w⟩ := maxel (R := rE X) ac (fun a b c h g => h.trans g) (qN q) (by have := hq.1; omega)
  refine ⟨a, a0, a1, (W8_iff hq h).mpr fun b hb => ?_⟩
  have r := h.1 b a hb
  exact w b r.1.1 r.1.2 (rE.one hb)
/-- pairs locked so far: those of keys below t are decided -/
def lkS (q : Pf) (E : Int → Int → Prop) (D : Int → Int → Prop) : Prop := (∀ x y, E x y → D x y) ∧ (∀ x y, D x y → (E x y ↔ ¬ rE (fun u v => E u v ∧ key q u v < key q x y) y x)) ∧ ∀ x, ¬ rE E x x
/-- one pair more, behind all others -/
theorem lkS.add {q : Pf} {E D : Int → Int → Prop} (h : lkS q E D) {a b : Int} (hab : a ≠ b) (hl : ∀ x y, D x y → key q x y < key q a b) : (rE E b a → lkS q E (fun x y => D x y ∨ x = a ∧ y = b)) ∧ (¬ rE E b a → lkS q (fun x y => E x y ∨ x = a ∧ y = b) (fun x y => D x y ∨ x = a ∧ y = b)) := by
  obtain ⟨h1, h2, h3⟩ := h
  have no : ¬ D a b := fun w => by have := hl a b w; omega
  have all : ∀ s t, rE (fun u v => E u v ∧ key q u v < key q a b) s t ↔ rE E s t := fun s t => rE_iff fun u v => ⟨fun w => w.1, fun w => ⟨w, hl u v (h1 u v w)⟩⟩
  constructor
  · intro hr
    refine ⟨fun x y w => Or.inl (h1 x y w), ?_, h3⟩
    rintro x y (w | ⟨rfl, rfl⟩)
    · exact h2 x y w
    · rw [all]
      exact ⟨fun w => absurd (h1 x y w) no, fun w => absurd hr w⟩
  · intro hr
    refine ⟨fun x y w => w.elim (fun w => Or.inl (h1 x y w)) Or.inr, ?_, ?_⟩
    · rintro x y (w | ⟨rfl, rfl⟩)
      · have k := hl x y w
        have e : ∀ u v, ((E u v ∨ u = a ∧ v = b) ∧ key q u v < key q x y) ↔ (E u v ∧ key q u v < key q x y) := by
          intro u v
          constructor
          · rintro ⟨g | ⟨rfl, rfl⟩, g2⟩
            · exact ⟨g, g2⟩
            · omega
          · exact fun g => ⟨Or.inl g.1, g.2⟩
        rw [rE_iff e, ← h2 x y w]
        constructor
        · rintro (g | ⟨rfl, rfl⟩)
          · exact g
          · exact absurd w no
        · exact Or.inl
      · have e : ∀ u v, ((E u v ∨ u = x ∧ v = y) ∧ key q u v < key q x y) ↔ E u v := by
          intro u v
          constructor
          · rintro ⟨g | ⟨rfl, rfl⟩, g2⟩
            · exact g
            · omega
          · exact fun g => ⟨Or.inl g, hl u v (h1 u v g)⟩
        rw [rE_iff e]
        exact ⟨fun _ => hr, fun _ => Or.inr ⟨rfl, rfl⟩⟩
    · intro x w
      rcases rE_add.mp w with g | ⟨g1, g2⟩
      · exact h3 x g
      · rcases g1 with rfl | g1
        · rcases g2 with g2 | g2
          · exact hab g2
          · exact hr g2
        · rcases g2 with rfl | g2
          · exact hr g1
          · exact hr (g2.trans g1)
theorem lkS.fin {q : Pf} {E D : Int → Int → Prop} (h : lkS q E D) (hD : ∀ x y, D x y ↔ (0 ≤ x ∧ x < qN q) ∧ (0 ≤ y ∧ y < qN q) ∧ bts q x y) : isLk q E :=
  ⟨fun a b w => (hD a b).mp (h.1 a b w), fun a b a0 a1 b0 b1 hb => h.2.1 a b ((hD a b).mpr ⟨⟨a0, a1⟩, ⟨b0, b1⟩, hb⟩)⟩
