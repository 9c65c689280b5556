theorem lv0 : leV [] [] := trivial
theorem lv1 {a b : Vl} {A B : List Vl} (h : b = vj ∨ a = b) (t : leV A B) : leV (a :: A) (b :: B) := ⟨h, t⟩
/-- the rules' methods -/
def yW (r : Int) : MethodName := if r = 0 then y_Scor_winners else if r = 1 then y_Scor_winners else if r = 2 then y_Scor_winners else if r = 3 then y_Runo_winners else if r = 4 then y_Elim_winners else if r = 5 then y_Scor_winners else if r = 6 then y_Scor_winners else if r = 7 then y_Paths_winners else if r = 8 then y_Locks_winners else if r = 9 then y_Agre_winners else if r = 10 then y_Unco_winners else y_Agen_winners
def ruleL : List (Nat × MethodName) := [(2, y_Elim_winners), (3, y_Paths_winners), (4, y_Agre_winners), (5, y_Runo_winners), (6, y_Locks_winners), (7, y_Unco_winners), (8, y_Agen_winners), (9, y_Scor_winners), (10, y_Scor_winners), (11, y_Scor_winners), (12, y_Scor_winners), (13, y_Scor_winners)]
theorem n_rule {μ : MI} {d pc : Nat} {A : List Vl} {L : List Sh} {σ : Mm} {P : Out → List Sh → Mm → Prop} {idx : Nat} {r p : Int} (rest : List Vl) {Q : Out → List Sh → Mm → Prop} (hd : decode μ.1 pc = .ok (.invokeinterface idx 2, 5)) (hf : fk μ.2.1 idx 1 ruleL) (hL : Lay L) (hr : 0 ≤ r ∧ r < 12) (hrest : rest.length ≤ 20) (E : Ex d (yW r) [vr (rl r), vr p] L σ Q) (hQ : ∀ o L' σ', Q o L' σ' → Aft μ (d + 1) pc 5 A rest P o L' σ') : GS μ (d + 1) pc A (vr p :: vr (rl r) :: rest) L σ P := by
  have key : ∀ (k : Int) (ci : Nat) (fs : List (Option Vl)) (y : MethodName), LkO L k ci fs → disp ruleL ci = some y → rl r = k → yW r = y → GS μ (d + 1) pc A (vr p :: vr (rl r) :: rest) L σ P := by
    intro k ci fs y hk hq h1 h2
    obtain ⟨gg, hk⟩ := hk
    obtain ⟨x, hx⟩ := hf ci y hq
    rw [h1, h2] at E
    rw [h1]
    exact g_callF (as := [vr p]) hd hk hx hrest (E.mono hQ)
  rcases (show r = 0 ∨ r = 1 ∨ r = 2 ∨ r = 3 ∨ r = 4 ∨ r = 5 ∨ r = 6 ∨ r = 7 ∨ r = 8 ∨ r = 9 ∨ r = 10 ∨ r = 11 by omega) with rfl | rfl | rfl | rfl | rfl | rfl | rfl | rfl | rfl | rfl | rfl | rfl
  · exact key 15 9 _ y_Scor_winners (lk_15 hL) rfl rfl rfl
  · exact key 16 10 _ y_Scor_winners (lk_16 hL) rfl rfl rfl
  · exact key 17 11 _ y_Scor_winners (lk_17 hL) rfl rfl rfl
  · exact key 18 5 _ y_Runo_winners (lk_18 hL) rfl rfl rfl
  · exact key 1 2 _ y_Elim_winners (lk_1 hL) rfl rfl rfl
  · exact key 20 12 _ y_Scor_winners (lk_20 hL) rfl rfl rfl
  · exact key 21 13 _ y_Scor_winners (lk_21 hL) rfl rfl rfl
  · exact key 3 3 _ y_Paths_winners (lk_3 hL) rfl rfl rfl
  · exact key 22 6 _ y_Locks_winners (lk_22 hL) rfl rfl rfl
  · exact key 12 4 _ y_Agre_winners (lk_12 hL) rfl rfl rfl
  · exact key 26 7 _ y_Unco_winners (lk_26 hL) rfl rfl rfl
  · exact key 27 8 _ y_Agen_winners (lk_27 hL) rfl rfl rfl
theorem ic_lt {x y : Int} (h : icm .lt x y) : x < y := h
theorem ic_ge {x y : Int} (h : icm .ge x y) : y ≤ x := h
theorem ic_gt {x y : Int} (h : icm .gt x y) : y < x := h
theorem ic_le {x y : Int} (h : icm .le x y) : x ≤ y := h
theorem ic_ne {x y : Int} (h : icm .ne x y) : x ≠ y := h
theorem ic_eq {x y : Int} (h : icm .eq x y) : x = y := h
