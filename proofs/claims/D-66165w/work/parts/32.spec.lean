/-! PROFILES: n, types, places, amounts, tie order, agenda, weights -/
abbrev Pf : Type := Int × Int × (Int → Int → Int) × (Int → Int) × (Int → Int) × (Int → Int) × (Int → Int)
abbrev qN (q : Pf) : Int := q.1
abbrev qT (q : Pf) : Int := q.2.1
abbrev qL (q : Pf) : Int → Int → Int := q.2.2.1
abbrev qA (q : Pf) : Int → Int := q.2.2.2.1
abbrev qI' (q : Pf) : Int → Int := q.2.2.2.2.1
abbrev qG (q : Pf) : Int → Int := q.2.2.2.2.2.1
abbrev qW (q : Pf) : Int → Int := q.2.2.2.2.2.2
/-- an order of those below n -/
def Pm (n : Int) (f : Int → Int) : Prop := (∀ k, 0 ≤ k → k < n → 0 ≤ f k ∧ f k < n) ∧ (∀ j k, 0 ≤ j → j < n → 0 ≤ k → k < n → f j = f k → j = k) ∧ ∀ c, 0 ≤ c → c < n → ∃ k, 0 ≤ k ∧ k < n ∧ f k = c
/-- where a candidate is -/
noncomputable def ps (f : Int → Int) (c : Int) : Int := fst (fun k => f k = c) 7 0
theorem ps_spec {n : Int} {f : Int → Int} (hn : n ≤ 7) (h : Pm n f) {c : Int} (c0 : 0 ≤ c) (c1 : c < n) : 0 ≤ ps f c ∧ ps f c < n ∧ f (ps f c) = c := by
  obtain ⟨k, h0, h1, h2⟩ := h.2.2 c c0 c1
  have := fst_spec (P := fun k => f k = c) (m := 7) (k := 0) h0 (by omega) h2
  exact ⟨this.1, by unfold ps; omega, this.2.2.1⟩
theorem ps_at {n : Int} {f : Int → Int} (hn : n ≤ 7) (h : Pm n f) {k : Int} (k0 : 0 ≤ k) (k1 : k < n) : ps f (f k) = k := by
  have a := h.1 k k0 k1
  have b := ps_spec hn h a.1 a.2
  exact h.2.1 _ _ b.1 b.2.1 k0 k1 b.2.2
theorem ps_is {f : Int → Int} {c k : Int} (k0 : 0 ≤ k) (k1 : k < 7) (h : f k = c) (hb : ∀ j, 0 ≤ j → j < k → f j ≠ c) : ps f c = k := fst_eq 7 0 k k0 (by omega) h hb
/-- the first place of an order that is in a set -/
noncomputable def fz (f : Int → Int) (z : Int) : Int := fst (fun k => bz z (f k) = 1) 7 0
theorem fz_is {f : Int → Int} {z k : Int} (k0 : 0 ≤ k) (k1 : k < 7) (h : bz z (f k) = 1) (hb : ∀ j, 0 ≤ j → j < k → bz z (f j) ≠ 1) : fz f z = k := fst_eq 7 0 k k0 (by omega) h hb
theorem fz_spec {f : Int → Int} {z j n : Int} (hn : n ≤ 7) (j0 : 0 ≤ j) (j1 : j < n) (h : bz z (f j) = 1) : 0 ≤ fz f z ∧ fz f z < n ∧ bz z (f (fz f z)) = 1 ∧ ∀ i, 0 ≤ i → i < fz f z → bz z (f i) ≠ 1 := by
  have := fst_spec (P := fun k => bz z (f k) = 1) (m := 7) (k := 0) j0 (by omega) h
  exact ⟨this.1, by unfold fz; omega, this.2.2.1, this.2.2.2⟩
/-- a set of candidates, not empty -/
def nz (z n : Int) : Prop := 0 ≤ z ∧ z < 128 ∧ ∃ c, 0 ≤ c ∧ c < n ∧ bz z c = 1
def okP (q : Pf) : Prop := (2 ≤ qN q ∧ qN q ≤ 7) ∧ (0 ≤ qT q ∧ qT q ≤ 21) ∧ (∀ t, 0 ≤ t → t < qT q → Pm (qN q) (qL q t)) ∧ (∀ t, 0 ≤ t → t < qT q → 0 ≤ qA q t ∧ qA q t ≤ 100001) ∧ Pm (qN q) (qI' q) ∧ Pm (qN q) (qG q) ∧ ∀ k, 0 ≤ k → k < qN q → 0 ≤ qW q k ∧ qW q k ≤ 1000
/-- how many have a ahead of b -/
noncomputable def pr (q : Pf) (a b : Int) : Int := S (fun t => if ps (qL q t) a < ps (qL q t) b then qA q t else 0) (qT q)
def bts (q : Pf) (a b : Int) : Prop := pr q b a < pr q a b
/-- firsts of a set -/
noncomputable def fs (q : Pf) (z c : Int) : Int := S (fun t => if qL q t (fz (qL q t) z) = c then qA q t else 0) (qT q)
theorem fz_ok {n : Int} {f : Int → Int} (hn : n ≤ 7) (h : Pm n f) {z : Int} (hz : nz z n) : 0 ≤ fz f z ∧ fz f z < n ∧ bz z (f (fz f z)) = 1 ∧ ∀ i, 0 ≤ i → i < fz f z → bz z (f i) ≠ 1 := by
  obtain ⟨-, -, c, c0, c1, hc⟩ := hz
  obtain ⟨k, k0, k1, rfl⟩ := h.2.2 c c0 c1
  exact fz_spec hn k0 k1 hc
theorem fs_bd {q : Pf} (h : okP q) (z c : Int) : ∀ k, 0 ≤ k → k ≤ qT q → 0 ≤ S (fun t => if qL q t (fz (qL q t) z) = c then qA q t else 0) k ∧ S (fun t => if qL q t (fz (qL q t) z) = c then qA q t else 0) k ≤ 100001 * k := by
  refine S_bd fun i h0 h1 => ?_
  have := h.2.2.2.1 i h0 h1

  split <;> omega
theorem pr_bd {q : Pf} (h : okP q) (a b : Int) : 0 ≤ pr q a b ∧ pr q a b ≤ 2100021 := by
  have h2 := h.2.1
  have := S_bd (f := fun t => if ps (qL q t) a < ps (qL q t) b then qA q t else 0) (n := qT q) (B := 100001) (fun i h0 h1 => by
    have := h.2.2.2.1 i h0 h1

    split <;> omega) (qT q) h2.1 (Int.le_refl _)
  unfold pr
  omega
theorem fs_bd' {q : Pf} (h : okP q) (z c : Int) : 0 ≤ fs q z c ∧ fs q z c ≤ 2100021 := by
  have h2 := h.2.1
  have := fs_bd h z c (qT q) h2.1 (Int.le_refl _)
  unfold fs
  omega
theorem pr_self (q : Pf) (a : Int) : pr q a a = 0 := by
  unfold pr
  have : (fun t => if ps (qL q t) a < ps (qL q t) a then qA q t else 0) = fun _ => (0 : Int) := by
    funext t
    rw [if_neg (by omega)]
  rw [this]
  unfold S
  generalize (qT q).toNat = m
  induction m with
  | zero => rfl
  | succ m ih => show sm _ m + 0 = 0; omega
/-- a profile's cells in the component: p is 30 or 66 -/
def isP (σ : Mm) (p : Int) (q : Pf) : Prop := σ p 0 = qN q ∧ σ p 1 = qT q ∧ (∀ t k, 0 ≤ t → t < qT q → 0 ≤ k → k < qN q → σ (p + 2 + t) k = qL q t k) ∧ (∀ t, 0 ≤ t → t < qT q → σ (p + 23) t = qA q t) ∧ (∀ a b, 0 ≤ a → a < qN q → 0 ≤ b → b < qN q → σ (p + 25 + a) b = pr q a b) ∧ (∀ k, 0 ≤ k → k < qN q → σ (p + 32) k = qI' q k) ∧ (∀ k, 0 ≤ k → k < qN q → σ (p + 33) k = qG q k) ∧ (∀ k, 0 ≤ k → k < qN q → σ (p + 34) k = qW q k)
/-- the rules' own cells -/
def scr (k : Int) : Prop := (1 ≤ k ∧ k ≤ 13) ∨ (18 ≤ k ∧ k ≤ 19) ∨ (22 ≤ k ∧ k ≤ 27)
def Fr (σ σ' : Mm) : Prop := ∀ k j, ¬ scr k → σ' k j = σ k j
theorem Fr.refl (σ : Mm) : Fr σ σ := fun _ _ _ => rfl
theorem Fr.trans {a b c : Mm} (h : Fr a b) (g : Fr b c) : Fr a c := fun k j hk => (g k j hk).trans (h k j hk)
theorem isP.fr {σ σ' : Mm} {p : Int} {q : Pf} (hq : okP q) (hp : isPr p) (h : isP σ p q) (f : Fr σ σ') : isP σ' p q := by
  have hs : ∀ k, 0 ≤ k → k < 36 → ¬ scr (p + k) := by
    intro k k0 k1
    unfold scr
    rcases hp with rfl | rfl <;> omega
  have hs0 : ¬ scr p := by have := hs 0 (by omega) (by omega); rwa [Int.add_zero] at this
  obtain ⟨⟨n1, n2⟩, ⟨t1, t2⟩, -⟩ := hq
  obtain ⟨h1, h2, h3, h4, h5, h6, h7, h8⟩ := h
  refine ⟨by rw [f _ _ hs0]; exact h1, by rw [f _ _ hs0]; exact h2, fun t k a b c e => ?_, fun t a b => ?_, fun a b e g i j => ?_, fun k a b => ?_, fun k a b => ?_, fun k a b => ?_⟩
  · rw [f _ _ (by have := hs (2 + t) (by omega) (by omega); rwa [← Int.add_assoc] at this)]; exact h3 t k a b c e
  · rw [f _ _ (hs 23 (by omega) (by omega))]; exact h4 t a b
  · rw [f _ _ (by have := hs (25 + a) (by omega) (by omega); rwa [← Int.add_assoc] at this)]; exact h5 a b e g i j
  · rw [f _ _ (hs 32 (by omega) (by omega))]; exact h6 k a b
  · rw [f _ _ (hs 33 (by omega) (by omega))]; exact h7 k a b
  · rw [f _ _ (hs 34 (by omega) (by omega))]; exact h8 k a b
theorem Pm.mk {n : Int} {f : Int → Int} (n0 : 0 ≤ n) (h1 : ∀ k, 0 ≤ k → k < n → 0 ≤ f k ∧ f k < n) (h2 : ∀ j k, 0 ≤ j → j < n → 0 ≤ k → k < n → f j = f k → j = k) : Pm n f := by
  obtain ⟨m, rfl⟩ := nat_of n0
  exact ⟨h1, h2, inj_surj m f h1 h2⟩
theorem isOrd.pm {n o : Int} (n0 : 0 ≤ n) (h : isOrd n o) : Pm n (dg o) := Pm.mk n0 (fun k k0 k1 => ⟨(dg_in o k).1, h.2.1 k k0 k1⟩) h.2.2
