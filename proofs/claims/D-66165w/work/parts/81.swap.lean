theorem sw_sw (f : Int → Int) (k : Int) : sw (sw f k) k = f := by
  funext j
  unfold sw
  by_cases e : j = k
  · rw [if_pos e, if_neg (by omega), if_pos rfl, e]
  · rw [if_neg e]
    by_cases e2 : j = k - 1
    · rw [if_pos e2, if_pos rfl, e2]
    · rw [if_neg e2, if_neg e, if_neg e2]
theorem qsw_qsw (q : Pf) (t k : Int) : qsw (qsw q t k) t k = q := by
  obtain ⟨n, T, l, am, ti, ag, we⟩ := q
  have : (fun s => if s = t then sw ((fun s => if s = t then sw (l t) k else l s) t) k else (fun s => if s = t then sw (l t) k else l s) s) = l := by
    funext s
    by_cases e : s = t
    · rw [if_pos e]
      dsimp only
      rw [if_pos rfl, sw_sw, e]
    · rw [if_neg e]
      dsimp only
      rw [if_neg e]
  show (n, T, (fun s => if s = t then sw ((fun s => if s = t then sw (l t) k else l s) t) k else (fun s => if s = t then sw (l t) k else l s) s), am, ti, ag, we) = _
  rw [this]
theorem Pm_sw {n k : Int} {f : Int → Int} (h : Pm n f) (k0 : 1 ≤ k) (k1 : k < n) : Pm n (sw f k) := by
  have key : ∀ j, 0 ≤ j → j < n → ∃ i, 0 ≤ i ∧ i < n ∧ sw f k j = f i ∧ i = (if j = k then k - 1 else if j = k - 1 then k else j) := by
    intro j j0 j1
    unfold sw
    by_cases e : j = k
    · exact ⟨k - 1, by omega, by omega, by rw [if_pos e], by rw [if_pos e]⟩
    · by_cases e2 : j = k - 1
      · exact ⟨k, by omega, by omega, by rw [if_neg e, if_pos e2], by rw [if_neg e, if_pos e2]⟩
      · exact ⟨j, by omega, by omega, by rw [if_neg e, if_neg e2], by rw [if_neg e, if_neg e2]⟩
  refine Pm.mk (by omega) (fun j j0 j1 => ?_) (fun i j i0 i1 j0 j1 e => ?_)
  · obtain ⟨i, i0, i1, e, -⟩ := key j j0 j1
    rw [e]; exact h.1 i i0 i1
  · obtain ⟨a, a0, a1, ea, fa⟩ := key i i0 i1
    obtain ⟨b, b0, b1, eb, fb⟩ := key j j0 j1
    rw [ea, eb] at e
    have := h.2.1 a b a0 a1 b0 b1 e
    split at fa <;> split at fb <;> (try split at fa) <;> (try split at fb) <;> omega
theorem okP.qsw {q : Pf} (h : okP q) {t k : Int} (ht : 0 ≤ t ∧ t < qT q) (hk : 1 ≤ k ∧ k < qN q) : okP (qsw q t k) := by
  refine ⟨h.1, h.2.1, fun s s0 s1 => ?_, h.2.2.2⟩
  show Pm (qN q) (if s = t then sw (qL q t) k else qL q s)
  split
  · exact Pm_sw (h.2.2.1 t ht.1 ht.2) hk.1 hk.2
  · exact h.2.2.1 s s0 s1
theorem pr_sw0 {q : Pf} (hq : okP q) {t k x y : Int} : pr (qam (qsw q t k) t 0) x y = pr (qam q t 0) x y := by
  unfold pr
  refine S_ext hq.2.1.1 fun s s0 s1 => ?_
  show (if ps (if s = t then sw (qL q t) k else qL q s) x < ps (if s = t then sw (qL q t) k else qL q s) y then (if s = t then 0 else qA q s) else 0) = (if ps (qL q s) x < ps (qL q s) y then (if s = t then 0 else qA q s) else 0)
  by_cases e : s = t
  · simp only [if_pos e]
    split <;> split <;> rfl
  · simp only [if_neg e]
section
variable {L : List Sh} {σ : Mm} {s : St} {q : Pf}
theorem c_swap (hY : Lay L) (hq : okP q) (hP : isP σ 30 q) {t k : Int} (ht : 0 ≤ t ∧ t < qT q) (hk : 1 ≤ k ∧ k < qN q) : Ex 2 y_Desk_swap [vr 0, vi t, vi k] L σ (PV L (fun σ' => isP σ' 30 (qsw q t k) ∧ FrP 30 σ σ') NT) := by
  have hn := hq.1
  have hT := hq.2.1
  have ha := hq.2.2.2.1 t ht.1 ht.2
  refine e_Desk_swap hY ⟨by omega, ?_⟩
  refine Ex.toI (c_amount hY pr30 hq hP ht (a := 0) (by omega)) ?_ (fun _ _ h => h)
  rintro z σ₁ ⟨rfl, p1, f1⟩
  refine ⟨by omega, by omega, by omega, by omega, by omega, by omega, ?_⟩
  have r1 : σ₁ (30 + 2 + t) (k - 1) = qL q t (k - 1) := p1.2.2.1 t (k - 1) ht.1 ht.2 (by omega) (by show k - 1 < qN q; omega)
  have r2 : σ₁ (30 + 2 + t) k = qL q t k := p1.2.2.1 t k ht.1 ht.2 (by omega) hk.2
  rw [r1, r2]
  have ok2 : okP (qam (qsw q t k) t 0) := (hq.qsw ht hk).qam (by omega)
  have p2 : isP (upd2 (upd2 σ₁ (30 + 2 + t) k (qL q t (k - 1))) (30 + 2 + t) (k - 1) (qL q t k)) 30 (qam (qsw q t k) t 0) := by
    have off : ∀ i j, i ≠ 30 + 2 + t → upd2 (upd2 σ₁ (30 + 2 + t) k (qL q t (k - 1))) (30 + 2 + t) (k - 1) (qL q t k) i j = σ₁ i j := fun i j hi => by rw [u_ne hi, u_ne hi]
    refine ⟨by rw [off _ _ (by omega)]; exact p1.1, by rw [off _ _ (by omega)]; exact p1.2.1, fun u j u0 u1 j0 j1 => ?_, fun u u0 u1 => by rw [off _ _ (by have : u < qT q := u1; omega)]; exact p1.2.2.2.1 u u0 u1, fun x y x0 x1 y0 y1 => by
      have x1 : x < qN q := x1
      rw [off _ _ (by omega), pr_sw0 hq]; exact p1.2.2.2.2.1 x y x0 x1 y0 y1, fun j j0 j1 => by rw [off _ _ (by omega)]; exact p1.2.2.2.2.2.1 j j0 j1, fun j j0 j1 => by rw [off _ _ (by omega)]; exact p1.2.2.2.2.2.2.1 j j0 j1, fun j j0 j1 => by rw [off _ _ (by omega)]; exact p1.2.2.2.2.2.2.2 j j0 j1⟩
    have u1 : u < qT q := u1
    show _ = (if u = t then sw (qL q t) k else qL q u) j
    by_cases e : u = t
    · rw [if_pos e, e, u_if, u_if]
      unfold sw
      by_cases e1 : j = k
      · rw [if_neg (by omega), if_pos e1, if_pos e1]
      · rw [if_neg e1]
        by_cases e2 : j = k - 1
        · rw [if_pos e2, if_neg e1, if_pos e2]
        · rw [if_neg e2, if_neg e1, if_neg e2]
          exact p1.2.2.1 t j ht.1 ht.2 j0 j1
    · rw [if_neg e, off _ _ (by omega)]
      exact p1.2.2.1 u j u0 u1 j0 j1
  refine Ex.toI (c_amount hY pr30 ok2 p2 (t := t) (a := qA q t) ht (by omega)) ?_ (fun _ _ h => h)
  rintro z σ₂ ⟨-, p3, f3⟩
  have e : qam (qam (qsw q t k) t 0) t (qA q t) = qsw q t k := qam_qam (qsw q t k) t 0
  rw [e] at p3
  refine ⟨p3, fun i j hi => ?_⟩
  rw [f3 i j hi, u_ne (by omega), u_ne (by omega)]
  exact f1 i j hi
end
