/-! AGREED: the least disagreement, and the first order that has it -/
theorem S_zero (n : Int) (h : 0 ≤ n) : S (fun _ => 0) n = 0 := by
  refine upFrom (P := fun n => S (fun _ => 0) n = 0) (a := 0) (S_0 _) ?_ n h
  intro k hk ih
  rw [S_s _ hk, ih]
  rfl
theorem S_swap {F : Int → Int → Int} {m : Int} (hm : 0 ≤ m) : ∀ n, 0 ≤ n → S (fun i => S (fun j => F i j) m) n = S (fun j => S (fun i => F i j) n) m := by
  refine upFrom (P := fun n => S (fun i => S (fun j => F i j) m) n = S (fun j => S (fun i => F i j) n) m) (a := 0) ?_ ?_
  · rw [S_0]
    exact (S_zero m hm).symm
  · intro k hk ih
    rw [S_s _ hk, ih, ← S_add _ _ hm]
    exact S_ext hm fun j _ _ => (S_s _ hk).symm
theorem S_pick {v : Int → Int} {a n : Int} (ha : 0 ≤ a ∧ a < n) : S (fun i => if i = a then v i else 0) n = v a := by
  have h := S_chg (f := fun _ => 0) (g := fun i => if i = a then v i else 0) (n := n) (t := a) ha.1 (fun i _ _ e => by rw [if_neg e]) n (by omega) (Int.le_refl n)
  rw [S_zero n (by omega), if_pos ha.2, if_pos rfl] at h
  rw [h]
  omega
theorem S_perm {F f : Int → Int} {n : Int} (hn : 0 ≤ n ∧ n ≤ 7) (hf : Pm n f) : S (fun j => F (f j)) n = S F n := by
  have e1 : S F n = S (fun c => S (fun j => if j = ps f c then F c else 0) n) n := S_ext hn.1 fun c c0 c1 => by
    have := ps_spec hn.2 hf c0 c1
    exact (S_pick (v := fun _ => F c) ⟨this.1, this.2.1⟩).symm
  have e2 : S (fun j => F (f j)) n = S (fun j => S (fun c => if j = ps f c then F c else 0) n) n := S_ext hn.1 fun j j0 j1 => by
    have a := hf.1 j j0 j1
    have e3 : S (fun c => if j = ps f c then F c else 0) n = S (fun c => if c = f j then F c else 0) n := S_ext hn.1 fun c c0 c1 => by
      by_cases e : c = f j
      · rw [if_pos e, if_pos (by rw [e]; exact (ps_at hn.2 hf j0 j1).symm)]
      · rw [if_neg e, if_neg fun u => e (by rw [u]; exact (ps_spec hn.2 hf c0 c1).2.2.symm)]
    rw [e3]
    exact (S_pick (v := F) a).symm
  rw [e1, e2]
  exact (S_swap hn.1 n hn.1)
/-- the least disagreement of each set -/
noncomputable def lf (q : Pf) : Int → Int := @Classical.epsilon _ ⟨fun _ => 0⟩ fun f => isL q f 128
theorem lf_is {q : Pf} (hq : okP q) : isL q (lf q) 128 := Classical.epsilon_spec (isL_ex hq)
theorem isL.lf {q : Pf} (hq : okP q) {f : Int → Int} (h : isL q f 128) {z : Int} (hz : sub z (qN q)) : f z = Jvm.Pilot.CBallotDeskLaw_law_r5075_f3b600.lf q z := h.uniq hq (lf_is hq) z hz.1 hz.2.1 hz
/-- who may be first of a set; the first of them -/
def HD (q : Pf) (z c : Int) : Prop := bz z c = 1 ∧ cst q c (cl z c) + lf q (cl z c) = lf q z
noncomputable def hd (q : Pf) (z : Int) : Int := qI' q (fst (fun k => HD q z (qI' q k)) 7 0)
theorem HD_ex {q : Pf} (hq : okP q) {z : Int} (hz : sub z (qN q)) (h : z ≠ 0) : ∃ c, 0 ≤ c ∧ c < qN q ∧ HD q z c := by
  have h0 := hz.1
  obtain ⟨c, c0, c1, hc, e⟩ := ((lf_is hq).2 z (by omega) hz.2.1 hz).2.1
  exact ⟨c, c0, c1, hc, e.symm⟩
theorem hd_spec {q : Pf} (hq : okP q) {z : Int} (hz : sub z (qN q)) (h : z ≠ 0) : (0 ≤ hd q z ∧ hd q z < qN q) ∧ HD q z (hd q z) ∧ ∀ c, 0 ≤ c → c < qN q → HD q z c → ps (qI' q) (hd q z) ≤ ps (qI' q) c := by
  have hn := hq.1
  have hm := hq.2.2.2.2.1
  obtain ⟨c, c0, c1, hc⟩ := HD_ex hq hz h
  obtain ⟨a, b, d⟩ := ps_spec hn.2 hm c0 c1
  have sp := fst_spec (P := fun k => HD q z (qI' q k)) (m := 7) (k := 0) a (by omega) (by rw [d]; exact hc)
  have r := hm.1 _ sp.1 (by omega)
  refine ⟨r, sp.2.2.1, fun x x0 x1 hx => ?_⟩
  obtain ⟨a', b', d'⟩ := ps_spec hn.2 hm x0 x1
  have sp' := fst_spec (P := fun k => HD q z (qI' q k)) (m := 7) (k := 0) a' (by omega) (by rw [d']; exact hx)
  unfold hd
  rw [ps_at hn.2 hm sp.1 (by omega)]
  exact sp'.2.1
/-- who is left behind the first k of an order -/
def Zs (q : Pf) (f : Int → Int) : Nat → Int
  | 0 => alq q
  | k + 1 => cl (Zs q f k) (f k)
theorem Zs_ext {q : Pf} {f g : Int → Int} : ∀ k : Nat, (∀ i : Int, 0 ≤ i → i < (k : Int) → f i = g i) → Zs q f k = Zs q g k
  | 0, _ => rfl
  | k + 1, h => by
    unfold Zs
    rw [Zs_ext k fun i a b => h i a (by omega), h k (by omega) (by omega)]
theorem Zs_sub {q : Pf} (hq : okP q) {f : Int → Int} : ∀ k : Nat, (∀ i : Int, 0 ≤ i → i < (k : Int) → 0 ≤ f i ∧ f i < qN q) → sub (Zs q f k) (qN q)
  | 0, _ => al_sub hq
  | k + 1, h => by
    have hn := hq.1
    have a := h k (by omega) (by omega)
    exact clr_sub (Zs_sub hq k fun i a b => h i a (by omega)) a.1 (by omega)
theorem Zs_bit {q : Pf} (hq : okP q) {f : Int → Int} {c : Int} (c0 : 0 ≤ c) (c1 : c < qN q) : ∀ k : Nat, (∀ i : Int, 0 ≤ i → i < (k : Int) → 0 ≤ f i ∧ f i < qN q) → (bz (Zs q f k) c = 1 ↔ ∀ i : Int, 0 ≤ i → i < (k : Int) → f i ≠ c)
  | 0, _ => by
    have hn := hq.1
    exact ⟨fun _ i a b => absurd b (by omega), fun _ => ((al_is hq).2.2 c c0 (by omega)).mpr ⟨c1, trivial⟩⟩
  | k + 1, h => by
    have hn := hq.1
    have a := h k (by omega) (by omega)
    have hs := Zs_sub hq k fun i a b => h i a (by omega)
    have ih := Zs_bit hq c0 c1 k fun i a b => h i a (by omega)
    have e := (clr_in hs.1 hs.2.1 a.1 (show f k < 7 by omega)).2.2 c c0
    show bz (aI (Zs q f k) (xI (hI 1 (f k)) (-1))) c = 1 ↔ _
    rw [e, ih]
    constructor
    · intro w i i0 i1
      by_cases u : i = k
      · rw [u]; exact Ne.symm w.2
      · exact w.1 i i0 (by omega)
    · exact fun w => ⟨fun i i0 i1 => w i i0 (by omega), Ne.symm (w k (by omega) (by omega))⟩
/-- the first of those that may be first, again and again -/
noncomputable def gz (q : Pf) : Nat → Int
  | 0 => alq q
  | k + 1 => cl (gz q k) (hd q (gz q k))
noncomputable def gr (q : Pf) (k : Int) : Int := hd q (gz q k.toNat)
theorem gz_ok {q : Pf} (hq : okP q) : ∀ k : Nat, (k : Int) ≤ qN q → sub (gz q k) (qN q) ∧ pc (gz q k) = qN q - k
  | 0, _ => ⟨al_sub hq, by show pc (alq q) = _; rw [pc_al hq]; omega⟩
  | k + 1, h => by
    have hn := hq.1
    obtain ⟨a, b⟩ := gz_ok hq k (by omega)
    have hne : gz q k ≠ 0 := fun e => by rw [e, pc_0] at b; omega
    have s := hd_spec hq a hne
    have e := pc_clr a.1 a.2.1 s.1.1 (show hd q (gz q k) < 7 by omega) s.2.1.1
    exact ⟨clr_sub a s.1.1 (by omega), by show pc (aI (gz q k) (xI (hI 1 (hd q (gz q k))) (-1))) = _; rw [e, b]; omega⟩
theorem gz_ne {q : Pf} (hq : okP q) {k : Nat} (h : (k : Int) < qN q) : gz q k ≠ 0 := fun e => by
  have := (gz_ok hq k (by omega)).2
  rw [e, pc_0] at this
  omega
theorem gz_Zs (q : Pf) : ∀ k : Nat, gz q k = Zs q (gr q) k
  | 0 => rfl
  | k + 1 => by
    show cl (gz q k) (hd q (gz q k)) = cl (Zs q (gr q) k) (gr q k)
    rw [← gz_Zs q k]
    unfold gr
    rw [Int.toNat_natCast]
theorem gr_in {q : Pf} (hq : okP q) {k : Int} (k0 : 0 ≤ k) (k1 : k < qN q) : (0 ≤ gr q k ∧ gr q k < qN q) ∧ HD q (Zs q (gr q) k.toNat) (gr q k) ∧ ∀ c, 0 ≤ c → c < qN q → HD q (Zs q (gr q) k.toNat) c → ps (qI' q) (gr q k) ≤ ps (qI' q) c := by
  rw [← gz_Zs]
  exact hd_spec hq (gz_ok hq k.toNat (by omega)).1 (gz_ne hq (by omega))
theorem pm_of {n : Int} {g : Int → Int} (rng : ∀ i, 0 ≤ i → i < n → 0 ≤ g i ∧ g i < n) (inj : ∀ i l, 0 ≤ i → i < n → 0 ≤ l → l < n → g i = g l → i = l) : Pm n g := by
  refine ⟨rng, inj, fun c c0 c1 => ?_⟩
  have hn : ((n.toNat : Nat) : Int) = n := by omega
  obtain ⟨i, i0, i1, hi⟩ := inj_surj n.toNat g (fun i a b => by rw [hn] at b ⊢; exact rng i a b) (fun a b a0 a1 b0 b1 => by rw [hn] at a1 b1; exact inj a b a0 a1 b0 b1) c c0 (by omega)
  exact ⟨i, i0, by omega, hi⟩
theorem gr_pm {q : Pf} (hq : okP q) : Pm (qN q) (gr q) := by
  have rng : ∀ i, 0 ≤ i → i < qN q → 0 ≤ gr q i ∧ gr q i < qN q := fun i a b => (gr_in hq a b).1
  have lt : ∀ i l, 0 ≤ i → i < l → l < qN q → gr q i ≠ gr q l := by
    intro i l i0 il l1
    have r := rng l (by omega) l1
    have h := (gr_in hq (show 0 ≤ l by omega) l1).2.1.1
    exact (Zs_bit hq r.1 r.2 l.toNat fun i a b => rng i a (by omega)).mp h i i0 (by omega)
  refine pm_of rng fun i l i0 i1 l0 l1 e => ?_
  rcases Int.lt_trichotomy i l with u | u | u
  · exact absurd e (lt i l i0 u l1)
  · exact u
  · exact absurd e.symm (lt l i l0 u i1)
/-- what an order disagrees -/
noncomputable def dR (q : Pf) (f : Int → Int) (i : Int) : Int := S (fun j => if i < j then pr q (f j) (f i) else 0) (qN q)
noncomputable def dD (q : Pf) (f : Int → Int) : Int := S (dR q f) (qN q)
theorem dR_cst {q : Pf} (hq : okP q) {f : Int → Int} (hf : Pm (qN q) f) {i : Int} (i0 : 0 ≤ i) (i1 : i < qN q) : dR q f i = cst q (f i) (cl (Zs q f i.toNat) (f i)) := by
  have hn := hq.1
  have e : cl (Zs q f i.toNat) (f i) = Zs q f (i.toNat + 1) := by
    show _ = cl (Zs q f i.toNat) (f (i.toNat : Int))
    rw [show ((i.toNat : Nat) : Int) = i by omega]
  rw [e]
  unfold cst dR
  rw [← S_perm (F := fun c => if bz (Zs q f (i.toNat + 1)) c = 1 then pr q c (f i) else 0) ⟨by omega, hn.2⟩ hf]
  refine S_ext (by omega) fun j j0 j1 => ?_
  have r := hf.1 j j0 j1
  have hb := Zs_bit hq (f := f) r.1 r.2 (i.toNat + 1) fun l a b => hf.1 l a (by omega)
  by_cases u : i < j
  · rw [if_pos u, if_pos (hb.mpr fun l a b e => by have := hf.2.1 l j a (by omega) j0 j1 e; omega)]
  · rw [if_neg u, if_neg fun w => hb.mp w j j0 (by omega) rfl]
/-- the sum so far and what is least then: it never falls -/
noncomputable def dM (q : Pf) (f : Int → Int) (k : Int) : Int := S (dR q f) k + lf q (Zs q f k.toNat)
theorem dM_s {q : Pf} (hq : okP q) {f : Int → Int} (hf : Pm (qN q) f) {k : Int} (k0 : 0 ≤ k) (k1 : k < qN q) : dM q f k ≤ dM q f (k + 1) ∧ (dM q f k = dM q f (k + 1) ↔ HD q (Zs q f k.toNat) (f k)) := by
  have hn := hq.1
  have r := hf.1 k k0 k1
  have hs := Zs_sub hq (f := f) k.toNat fun l a b => hf.1 l a (by omega)
  have hb : bz (Zs q f k.toNat) (f k) = 1 := (Zs_bit hq (f := f) r.1 r.2 k.toNat fun l a b => hf.1 l a (by omega)).mpr fun l a b e => by have := hf.2.1 l k a (by omega) k0 k1 e; omega
  have hne : 0 < Zs q f k.toNat := pos_of (n := qN q) ⟨hs.1, hs.2.1, f k, r.1, r.2, hb⟩
  have h := ((lf_is hq).2 _ hne hs.2.1 hs).1 (f k) r.1 r.2 hb
  have e : Zs q f (k + 1).toNat = cl (Zs q f k.toNat) (f k) := by
    rw [show (k + 1).toNat = k.toNat + 1 by omega]
    show cl (Zs q f k.toNat) (f (k.toNat : Int)) = _
    rw [show ((k.toNat : Nat) : Int) = k by omega]
  unfold dM HD
  rw [S_s _ k0, dR_cst hq hf k0 k1, e]
  exact ⟨by omega, fun w => ⟨hb, by omega⟩, fun w => by omega⟩
theorem dM_end {q : Pf} (hq : okP q) {f : Int → Int} (hf : Pm (qN q) f) : dM q f (qN q) = dD q f := by
  have hn := hq.1
  have hs := Zs_sub hq (f := f) (qN q).toNat fun l a b => hf.1 l a (by omega)
  have e : Zs q f (qN q).toNat = 0 := by
    refine Classical.byContradiction fun w => ?_
    obtain ⟨-, -, c, c0, c1, hc⟩ := nz_of hs w
    obtain ⟨k, k0, k1, hk⟩ := hf.2.2 c c0 c1
    exact (Zs_bit hq (f := f) c0 c1 (qN q).toNat fun l a b => hf.1 l a (by omega)).mp hc k k0 (by omega) hk
  unfold dM dD
  rw [e, (lf_is hq).1]
  omega
theorem dM_lo {q : Pf} (hq : okP q) {f : Int → Int} (hf : Pm (qN q) f) : ∀ k, 0 ≤ k → k ≤ qN q → lf q (alq q) ≤ dM q f k := by
  intro k k0
  refine upFrom (P := fun k => k ≤ qN q → lf q (alq q) ≤ dM q f k) (a := 0) (fun _ => ?_) ?_ k k0
  · unfold dM
    rw [S_0]
    show _ ≤ 0 + lf q (alq q)
    omega
  · intro k k0 ih k1
    have := (dM_s hq hf k0 (by omega)).1
    have := ih (by omega)
    omega
theorem dM_up {q : Pf} (hq : okP q) {f : Int → Int} (hf : Pm (qN q) f) : ∀ k, 0 ≤ k → k ≤ qN q → dM q f k ≤ dD q f := by
  refine upto (P := fun k => dM q f k ≤ dD q f) (a := 0) (n := qN q) (by rw [dM_end hq hf]; exact Int.le_refl _) ?_
  intro k k0 k1 ih
  have := (dM_s hq hf k0 k1).1
  omega
/-- no order has less -/
theorem dD_lo {q : Pf} (hq : okP q) {f : Int → Int} (hf : Pm (qN q) f) : lf q (alq q) ≤ dD q f := by
  rw [← dM_end hq hf]
  exact dM_lo hq hf _ (by have := hq.1; omega) (Int.le_refl _)
/-- this one has it -/
theorem dD_gr {q : Pf} (hq : okP q) : dD q (gr q) = lf q (alq q) := by
  have hn := hq.1
  have hf := gr_pm hq
  rw [← dM_end hq hf]
  refine upFrom (P := fun k => k ≤ qN q → dM q (gr q) k = lf q (alq q)) (a := 0) (fun _ => ?_) ?_ (qN q) (by omega) (Int.le_refl _)
  · unfold dM
    rw [S_0]
    show 0 + lf q (alq q) = _
    omega
  · intro k k0 ih k1
    rw [← (dM_s hq hf k0 (by omega)).2.mpr (gr_in hq k0 (by omega)).2.1]
    exact ih (by omega)
/-- and it is the first of those that have it -/
theorem gr_first {q : Pf} (hq : okP q) {f : Int → Int} (hf : Pm (qN q) f) (hD : dD q f = lf q (alq q)) {p : Int} (hp : 0 ≤ p ∧ p < qN q) (he : ∀ i, 0 ≤ i → i < p → f i = gr q i) (hne : f p ≠ gr q p) : ps (qI' q) (gr q p) < ps (qI' q) (f p) := by
  have hn := hq.1
  have hm := hq.2.2.2.2.1
  have h1 := dM_s hq hf hp.1 hp.2
  have h2 := dM_lo hq hf p hp.1 (by omega)
  have h3 := dM_up hq hf (p + 1) (by omega) (by omega)
  have hd := h1.2.mp (by omega)
  rw [Zs_ext p.toNat fun i a b => he i a (by omega)] at hd
  have r := hf.1 p hp.1 hp.2
  have g := gr_in hq hp.1 hp.2
  have hle := g.2.2 (f p) r.1 r.2 hd
  have a := ps_spec hn.2 hm r.1 r.2
  have b := ps_spec hn.2 hm g.1.1 g.1.2
  have : ps (qI' q) (gr q p) ≠ ps (qI' q) (f p) := fun e => hne (by rw [← a.2.2, ← b.2.2, e])
  omega
/-- one order comes ahead of another one by the tie order -/
def snr (q : Pf) (f g : Int → Int) : Prop := ∃ p, (0 ≤ p ∧ p < qN q) ∧ (∀ i, 0 ≤ i → i < p → f i = g i) ∧ f p ≠ g p ∧ ps (qI' q) (f p) < ps (qI' q) (g p)
