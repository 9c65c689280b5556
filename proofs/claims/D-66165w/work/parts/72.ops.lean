/-! WHAT THE CALLS DO: code (0: answered), answer, new state -/
abbrev Sp : Type := Int → Int → St → Prop
def DOp (y : MethodName) (as : List Vl) (L : List Sh) (σ : Mm) (sp : Sp) (code : Nat → Int) : Prop := Ex 14 y as L σ (PI L (fun z σ' => ∃ s', sp 0 z s' ∧ DI σ' s' ∧ FD σ σ') (fun c σ' => ∃ s', sp (code c) 0 s' ∧ DI σ' s' ∧ FD σ σ' ∧ 1 ≤ code c))
def MOp (y : MethodName) (as : List Vl) (L : List Sh) (σ : Mm) (sp : Sp) : Prop := Ex 14 y as L σ (PI L (fun z σ' => ∃ k s', sp k z s' ∧ σ' 102 0 = k ∧ MB σ' s' ∧ FM σ σ') NT)
def spCand (s : St) (n : Int) : Sp := fun k z s' => ((2 ≤ n ∧ n ≤ 7) ∧ k = 0 ∧ z = qN s.1 ∧ s' = (q0 n, s.2)) ∨ (¬ (2 ≤ n ∧ n ≤ 7) ∧ k = 1 ∧ s' = s)
def spBal (s : St) (o a : Int) : Sp := fun k z s' => ((isOrd (qN s.1) o ∧ 0 ≤ a ∧ a ≤ 100000) ∧ qT s.1 < 20 ∧ k = 0 ∧ z = qT s.1 ∧ s' = (qadd s.1 (dg o) a, s.2)) ∨ (¬ (isOrd (qN s.1) o ∧ 0 ≤ a ∧ a ≤ 100000) ∧ k = 1 ∧ s' = s) ∨ ((isOrd (qN s.1) o ∧ 0 ≤ a ∧ a ≤ 100000) ∧ ¬ qT s.1 < 20 ∧ k = 2 ∧ s' = s)
def spAm (s : St) (t a : Int) : Sp := fun k z s' => ((0 ≤ t ∧ t < qT s.1) ∧ (0 ≤ a ∧ a ≤ 100000) ∧ k = 0 ∧ z = qA s.1 t ∧ s' = (qam s.1 t a, s.2)) ∨ (¬ (0 ≤ t ∧ t < qT s.1) ∧ k = 1 ∧ s' = s) ∨ ((0 ≤ t ∧ t < qT s.1) ∧ ¬ (0 ≤ a ∧ a ≤ 100000) ∧ k = 2 ∧ s' = s)
def spDrop (s : St) (t : Int) : Sp := fun k z s' => ((0 ≤ t ∧ t < qT s.1) ∧ k = 0 ∧ z = qT s.1 - 1 ∧ s' = (qdrop s.1 t, s.2)) ∨ (¬ (0 ≤ t ∧ t < qT s.1) ∧ k = 1 ∧ s' = s)
def spTie (s : St) (o : Int) : Sp := fun k z s' => (isOrd (qN s.1) o ∧ k = 0 ∧ z = pk (qI' s.1) (qN s.1) ∧ s' = (qties s.1 (dg o), s.2)) ∨ (¬ isOrd (qN s.1) o ∧ k = 1 ∧ s' = s)
def spAg (s : St) (o : Int) : Sp := fun k z s' => (isOrd (qN s.1) o ∧ k = 0 ∧ z = pk (qG s.1) (qN s.1) ∧ s' = (qags s.1 (dg o), s.2)) ∨ (¬ isOrd (qN s.1) o ∧ k = 1 ∧ s' = s)
def spWe (s : St) (i w : Int) : Sp := fun k z s' => ((0 ≤ i ∧ i < qN s.1) ∧ (0 ≤ w ∧ w ≤ 1000) ∧ k = 0 ∧ z = qW s.1 i ∧ s' = (qwe s.1 i w, s.2)) ∨ (¬ (0 ≤ i ∧ i < qN s.1) ∧ k = 1 ∧ s' = s) ∨ ((0 ≤ i ∧ i < qN s.1) ∧ ¬ (0 ≤ w ∧ w ≤ 1000) ∧ k = 2 ∧ s' = s)
theorem okB.q0 {n : Int} (h : 2 ≤ n ∧ n ≤ 7) : okB (q0 n) := ⟨okP.q0 h, by show (0 : Int) ≤ 20; omega, fun t a b => absurd (show t < 0 from b) (by omega)⟩
theorem okB.add {q : Pf} (h : okB q) {f : Int → Int} {a : Int} (hf : Pm (qN q) f) (ha : 0 ≤ a ∧ a ≤ 100000) (hT : qT q < 20) : okB (qadd q f a) := ⟨h.1.qadd hf (by omega) (by omega), by show qT q + 1 ≤ 20; omega, fun t t0 t1 => by
  have t1 : t < qT q + 1 := t1
  show (if t = qT q then a else qA q t) ≤ 100000
  split
  · omega
  · exact h.2.2 t t0 (by omega)⟩
theorem okB.am {q : Pf} (h : okB q) {t a : Int} (ha : 0 ≤ a ∧ a ≤ 100000) : okB (qam q t a) := ⟨h.1.qam (by omega), h.2.1, fun u u0 u1 => by
  show (if u = t then a else qA q u) ≤ 100000
  split
  · omega
  · exact h.2.2 u u0 u1⟩
theorem okB.drop {q : Pf} (h : okB q) {t : Int} (ht : 0 ≤ t ∧ t < qT q) : okB (qdrop q t) := ⟨h.1.qdrop ht, by have := h.2.1; show qT q - 1 ≤ 20; omega, fun u u0 u1 => by
  have u1 : u < qT q - 1 := u1
  show (if u < t then qA q u else qA q (u + 1)) ≤ 100000
  split
  · exact h.2.2 u u0 (by omega)
  · exact h.2.2 (u + 1) (by omega) (by omega)⟩
theorem okB.ties {q : Pf} (h : okB q) {f : Int → Int} (hf : Pm (qN q) f) : okB (qties q f) := ⟨⟨h.1.1, h.1.2.1, h.1.2.2.1, h.1.2.2.2.1, hf, h.1.2.2.2.2.2⟩, h.2.1, h.2.2⟩
theorem okB.ags {q : Pf} (h : okB q) {f : Int → Int} (hf : Pm (qN q) f) : okB (qags q f) := ⟨⟨h.1.1, h.1.2.1, h.1.2.2.1, h.1.2.2.2.1, h.1.2.2.2.2.1, hf, h.1.2.2.2.2.2.2⟩, h.2.1, h.2.2⟩
theorem okB.we {q : Pf} (h : okB q) {i w : Int} (hw : 0 ≤ w ∧ w ≤ 1000) : okB (qwe q i w) := ⟨⟨h.1.1, h.1.2.1, h.1.2.2.1, h.1.2.2.2.1, h.1.2.2.2.2.1, h.1.2.2.2.2.2.1, fun k a b => by
  show 0 ≤ (if k = i then w else qW q k) ∧ (if k = i then w else qW q k) ≤ 1000
  split
  · exact hw
  · exact h.1.2.2.2.2.2.2 k a b⟩, h.2.1, h.2.2⟩
section
variable {L : List Sh} {σ : Mm} {s : St}
theorem FrP.fd {σ' : Mm} (h : FrP 30 σ σ') : FD σ σ' := fun k j hk => h k j (by omega)
theorem FrP.lo {σ' : Mm} (h : FrP 30 σ σ') : ∀ k j, k < 28 → σ' k j = σ k j := fun k j hk => h k j (by omega)
theorem DI.off {σ' : Mm} (h : DI σ s) (f : ∀ k j, k < 28 ∨ (30 ≤ k ∧ k < 65) → σ' k j = σ k j) : DI σ' s := by
  have hP := h.2.1
  have hn := h.1.1.1
  have hT := h.1.1.2.1
  exact h.prof h.1 ⟨by rw [f _ _ (by omega)]; exact hP.1, by rw [f _ _ (by omega)]; exact hP.2.1, fun t k a b c d => by rw [f _ _ (by omega)]; exact hP.2.2.1 t k a b c d, fun t a b => by rw [f _ _ (by omega)]; exact hP.2.2.2.1 t a b, fun x y a b c d => by rw [f _ _ (by omega)]; exact hP.2.2.2.2.1 x y a b c d, fun k a b => by rw [f _ _ (by omega)]; exact hP.2.2.2.2.2.1 k a b, fun k a b => by rw [f _ _ (by omega)]; exact hP.2.2.2.2.2.2.1 k a b, fun k a b => by rw [f _ _ (by omega)]; exact hP.2.2.2.2.2.2.2 k a b⟩ (fun k j hk => f k j (Or.inl hk))
theorem d_cand (hY : Lay L) (hD : DI σ s) {n : Int} : DOp y_Desk_candidates [vr 0, vi n] L σ (spCand s n) (fun _ => 1) := by
  refine Ex.deep (d := 7) ?_ (by omega)
  have go : ∀ x : Int, (x ≠ 0 ↔ (2 ≤ n ∧ n ≤ 7)) → G_Desk_candidates_16 6 L σ (fun z σ' => ∃ s', spCand s n 0 z s' ∧ DI σ' s' ∧ FD σ σ') (fun c σ' => ∃ s', spCand s n ((fun _ => 1) c) 0 s' ∧ DI σ' s' ∧ FD σ σ' ∧ 1 ≤ (fun _ => (1 : Int)) c) n x := by
    intro x hx
    refine r_Desk_candidates_16 hY ((c_allow hY).to (by omega) (fun w => ?_) (fun w => ⟨s, Or.inr ⟨fun g => w (hx.mpr g), rfl, rfl⟩, hD, FD.refl σ, by decide⟩))
    have h7 := hx.mp w
    refine (Ex.toV (c_begin hY pr30 h7) ?_ (fun _ _ h => h.elim)).deep (by omega)
    rintro σ' ⟨h1, h2⟩
    exact ⟨_, Or.inl ⟨h7, rfl, hD.2.1.1, rfl⟩, hD.prof (okB.q0 h7) h1 h2.lo, h2.fd⟩
  exact e_Desk_candidates hY ⟨fun h => go 0 (by omega), fun h => ⟨fun h2 => go 0 (by omega), fun h2 => go 1 (by omega)⟩⟩
theorem d_ballot (hY : Lay L) (hD : DI σ s) {o a : Int} (h32 : in32 o) : DOp y_Desk_ballot [vr 0, vi o, vi a] L σ (spBal s o a) (fun c => if c = 0 then 1 else 2) := by
  refine Ex.deep (d := 8) ?_ (by omega)
  have hn := hD.1.1.1
  have hP := hD.2.1
  refine e_Desk_ballot hY ?_
  refine Ex.toV (c_unpack hY h32 hP.1 hn) ?_ ?_
  · rintro σ₁ ⟨ho, h28, hf⟩
    have pm := isOrd.pm (show 0 ≤ qN s.1 by omega) ho
    have D1 : DI σ₁ s := hD.off fun k j hk => hf k j (by omega)
    have hT0 := hD.1.1.2.1
    have f1 : FD σ σ₁ := fun k j hk => hf k j (by omega)
    refine (c_counted hY).to (by omega) (fun g => ⟨fun g2 => ?_, fun g2 => ⟨by omega, s, Or.inr (Or.inr ⟨⟨ho, g⟩, ?_, rfl, rfl⟩), D1, f1, by decide⟩⟩) (fun g => ⟨s, Or.inr (Or.inl ⟨fun w => g w.2, rfl, rfl⟩), D1, f1, by decide⟩)
    · rw [D1.2.1.2.1] at g2
      have hT := hD.1.2.1
      have pm28 : Pm (qN s.1) (σ₁ 28) := pm.ext fun k k0 k1 => (h28 k k0 k1).symm
      refine (Ex.toV (c_add hY pr30 D1.1.1 D1.2.1 (lk_28 hY) (by omega) (Or.inl (by omega)) pm28 (by omega) (by omega)) ?_ (fun _ _ h => h.elim)).deep (by omega)
      rintro σ₂ ⟨a1, a2⟩
      have ok2 := hD.1.add pm28 g (by omega)
      have ev : Eqv (qadd s.1 (σ₁ 28) a) (qadd s.1 (dg o) a) := by
        refine ⟨rfl, rfl, fun t k t0 t1 k0 k1 => ?_, fun _ _ _ => rfl, fun _ _ _ => rfl, fun _ _ _ => rfl, fun _ _ _ => rfl⟩
        show (if t = qT s.1 then σ₁ 28 else qL s.1 t) k = (if t = qT s.1 then dg o else qL s.1 t) k
        split
        · exact h28 k k0 k1
        · rfl
      have a3 := a1.eqv ok2.1 ev
      have e1 : σ₂ 30 1 = qT s.1 + 1 := a1.2.1
      rw [e1]
      refine ⟨by omega, _, Or.inl ⟨⟨ho, g⟩, by omega, rfl, by omega, rfl⟩, D1.prof (hD.1.add pm g (by omega)) a3 a2.lo, f1.trans a2.fd⟩
    · rw [D1.2.1.2.1] at g2; omega
  · rintro c σ₁ ⟨ho, rfl, hf⟩
    exact ⟨s, Or.inr (Or.inl ⟨fun w => ho w.1, rfl, rfl⟩), hD.off fun k j hk => hf k j (by omega), fun k j hk => hf k j (by omega), by decide⟩
theorem d_amount (hY : Lay L) (hD : DI σ s) {t a : Int} : DOp y_Desk_amount [vr 0, vi t, vi a] L σ (spAm s t a) (fun c => if c = 2 then 1 else 2) := by
  refine Ex.deep (d := 8) ?_ (by omega)
  refine e_Desk_amount hY ((c_typed hY hD.2.1.2.1).to (by omega) (fun ht => ?_) (fun ht => ⟨s, Or.inr (Or.inl ⟨ht, rfl, rfl⟩), hD, FD.refl σ, by decide⟩))
  refine (c_counted hY).to (by omega) (fun ha => ?_) (fun ha => ⟨s, Or.inr (Or.inr ⟨ht, ha, rfl, rfl⟩), hD, FD.refl σ, by decide⟩)
  refine (Ex.toI (c_amount hY pr30 hD.1.1 hD.2.1 ht (by omega)) ?_ (fun _ _ h => h.elim)).deep (by omega)
  rintro z σ' ⟨rfl, h1, h2⟩
  exact ⟨_, Or.inl ⟨ht, ha, rfl, rfl, rfl⟩, hD.prof (hD.1.am ha) h1 h2.lo, h2.fd⟩
theorem d_drop (hY : Lay L) (hD : DI σ s) {t : Int} : DOp y_Desk_drop [vr 0, vi t] L σ (spDrop s t) (fun _ => 1) := by
  refine Ex.deep (d := 8) ?_ (by omega)
  refine e_Desk_drop hY ((c_typed hY hD.2.1.2.1).to (by omega) (fun ht => ?_) (fun ht => ⟨s, Or.inr ⟨ht, rfl, rfl⟩, hD, FD.refl σ, by decide⟩))
  refine (Ex.toV (c_drop hY pr30 hD.1.1 hD.2.1 ht) ?_ (fun _ _ h => h.elim)).deep (by omega)
  rintro σ' ⟨h1, h2⟩
  exact ⟨_, Or.inl ⟨ht, rfl, h1.2.1, rfl⟩, hD.prof (hD.1.drop ht) h1 h2.lo, h2.fd⟩
theorem d_weight (hY : Lay L) (hD : DI σ s) {i w : Int} : DOp y_Desk_weight [vr 0, vi i, vi w] L σ (spWe s i w) (fun c => if c = 2 then 1 else 2) := by
  refine Ex.deep (d := 8) ?_ (by omega)
  have hn := hD.1.1.1
  have hT := hD.1.1.2.1
  have hP := hD.2.1
  refine e_Desk_weight hY ((c_stands hY hP.1).to (by omega) (fun hi => ?_) (fun hi => ⟨s, Or.inr (Or.inl ⟨hi, rfl, rfl⟩), hD, FD.refl σ, by decide⟩))
  have go : ∀ x : Int, (x ≠ 0 ↔ (0 ≤ w ∧ w ≤ 1000)) → G_Desk_weight_21 7 L σ (fun z σ' => ∃ s', spWe s i w 0 z s' ∧ DI σ' s' ∧ FD σ σ') (fun c σ' => ∃ s', spWe s i w ((fun c => if c = 2 then 1 else 2) c) 0 s' ∧ DI σ' s' ∧ FD σ σ' ∧ 1 ≤ (fun c => if c = 2 then (1 : Int) else 2) c) i w x := by
    intro x hx
    refine r_Desk_weight_21 hY ((c_allow hY).to (by omega) (fun g => ⟨by omega, by omega, ?_⟩) (fun g => ⟨s, Or.inr (Or.inr ⟨hi, fun v => g (hx.mpr v), rfl, rfl⟩), hD, FD.refl σ, by decide⟩))
    have hw := hx.mp g
    refine ⟨_, Or.inl ⟨hi, hw, rfl, hP.2.2.2.2.2.2.2 i hi.1 hi.2, rfl⟩, hD.prof (hD.1.we hw) ⟨by rw [u_ne (by omega)]; exact hP.1, by rw [u_ne (by omega)]; exact hP.2.1, fun t k a b c d => by
      have b : t < qT s.1 := b
      rw [u_ne (by omega)]; exact hP.2.2.1 t k a b c d, fun t a b => by rw [u_ne (by omega)]; exact hP.2.2.2.1 t a b, fun x y a b c d => by
      have b : x < qN s.1 := b
      rw [u_ne (by omega)]; exact hP.2.2.2.2.1 x y a b c d, fun k a b => by rw [u_ne (by omega)]; exact hP.2.2.2.2.2.1 k a b, fun k a b => by rw [u_ne (by omega)]; exact hP.2.2.2.2.2.2.1 k a b, fun k a b => ?_⟩ (fun k j hk => by rw [u_ne (by omega)]), fun k j hk => by rw [u_ne (by omega)]⟩
    rw [u_if]
    show _ = if k = i then w else qW s.1 k
    split
    · rfl
    · exact hP.2.2.2.2.2.2.2 k a b
  exact ⟨fun h => go 0 (by omega), fun h => ⟨fun h2 => go 0 (by omega), fun h2 => go 1 (by omega)⟩⟩
end
