/-! CONSTRUCTORS: cells behind a prefix X; what is new is zero -/
theorem lk_app {X l : List Sh} {k q : Int} {i : Nat} {s : Sh} (hX : (X.length : Int) = k) (hq : q = k + i) (h : l[i]? = some s) : look (X ++ l) q = some s := by
  unfold look
  rw [if_pos (by omega), show q.toNat = X.length + i by omega, List.getElem?_append_right (by omega), show X.length + i - X.length = i by omega]
  exact h
theorem set_app {X l : List Sh} {k q : Int} {i : Nat} {s : Sh} (hX : (X.length : Int) = k) (hq : q = k + i) : (X ++ l).set q.toNat s = X ++ l.set i s := by
  rw [show q.toNat = X.length + i by omega, List.set_append, if_neg (by omega), show X.length + i - X.length = i by omega]
theorem updc_z {σ : Mm} {n : Int} (h : ∀ j, σ n j = 0) : updc σ n (fun _ => 0) = σ := by
  funext k j
  unfold updc
  by_cases e : k = n
  · rw [if_pos e, e, h]
  · rw [if_neg e]
theorem updr_z {σ : Mm} {lo hi : Int} (h : ∀ x j, lo ≤ x → σ x j = 0) : updr σ lo hi = σ := by
  funext k j
  unfold updr
  by_cases e : lo ≤ k ∧ k < hi
  · rw [if_pos e, h k j e.1]
  · rw [if_neg e]
def Sm (X : List Sh) : Prop := X.length ≤ 1000 ∧ slt X ≤ 100000
def gridI (n k : Nat) (b : Int) : List Sh := (4, n, [], fun i => vr (b + 1 + i)) :: List.replicate n (1, k, [], fun _ => vn)
theorem grid_I (n k h : Nat) : grid n k h = gridI n k (h : Int) := rfl
theorem gridI_len (n k : Nat) (b : Int) : (gridI n k b).length = n + 1 := by unfold gridI; rw [List.length_cons, List.length_replicate]
theorem slt_cons (s : Sh) (l : List Sh) : slt (s :: l) = slt1 s + slt l := by simp [slt]
theorem slt_nil : slt [] = 0 := rfl
theorem slt_gridI (n k : Nat) (b : Int) : slt (gridI n k b) = n + n * k := slt_grid n k b.toNat
section
variable {μ : MI} {d pc : Nat} {A st : List Vl} {X l : List Sh} {σ : Mm} {P : Out → List Sh → Mm → Prop} {k : Int}
theorem o_put {idx ci j i : Nat} {k' q : Int} {fs fs' : List (Option Vl)} {gg : Int → Vl} {w : Vl} {fin : Bool} {l' : List Sh} (hX : (X.length : Int) = k) (hd : decode μ.1 pc = .ok (.putfield idx, 3)) (hq : q = k + i) (hl : l[i]? = some (0, ci, fs, gg)) (hf : pLk μ.2.1 idx ci j fin 2) (hini : μ.2.2.2.2.2 = "<init>") (hj : fs[j]? = some (some w)) (hfs : fs.set j (some (vr k')) = fs') (hl' : l.set i (0, ci, fs', gg) = l') (kk : GS μ d (pc + 3) A st (X ++ l') σ P) : GS μ d pc A (vr k' :: vr q :: st) (X ++ l) σ P := by
  obtain ⟨ty, h1, -, -, h2⟩ := hf
  refine g_putR hd (lk_app hX hq hl) h1 (h2 rfl) (fun _ => hini) hj ?_
  rw [set_app hX hq, hfs, hl']
  exact kk
theorem o_putI {idx ci j i : Nat} {z q : Int} {fs : List (Option Vl)} {gg : Int → Vl} {fin : Bool} (hX : (X.length : Int) = k) (hd : decode μ.1 pc = .ok (.putfield idx, 3)) (hq : q = k + i) (hl : l[i]? = some (0, ci, fs, gg)) (hf : pLk μ.2.1 idx ci j fin 0) (hini : μ.2.2.2.2.2 = "<init>") (hj : fs[j]? = some none) (kk : GS μ d (pc + 3) A st (X ++ l) (upd2 σ q j z) P) : GS μ d pc A (vi z :: vr q :: st) (X ++ l) σ P := by
  obtain ⟨ty, h1, h2, -, -⟩ := hf
  exact g_putI hd (lk_app hX hq hl) h1 (Or.inl (h2 rfl)) (fun _ => hini) hj kk
theorem o_putB {idx ci j i : Nat} {z q : Int} {fs : List (Option Vl)} {gg : Int → Vl} {fin : Bool} (hX : (X.length : Int) = k) (hd : decode μ.1 pc = .ok (.putfield idx, 3)) (hq : q = k + i) (hl : l[i]? = some (0, ci, fs, gg)) (hf : pLk μ.2.1 idx ci j fin 1) (hini : μ.2.2.2.2.2 = "<init>") (hj : fs[j]? = some none) (hz : z = 0 ∨ z = 1) (kk : GS μ d (pc + 3) A st (X ++ l) (upd2 σ q j z) P) : GS μ d pc A (vi z :: vr q :: st) (X ++ l) σ P := by
  obtain ⟨ty, h1, -, h2, -⟩ := hf
  exact g_putI hd (lk_app hX hq hl) h1 (Or.inr ⟨h2 rfl, hz⟩) (fun _ => hini) hj kk
theorem o_getR {idx ci j i : Nat} {q k' : Int} {fs : List (Option Vl)} {gg : Int → Vl} (hX : (X.length : Int) = k) (hd : decode μ.1 pc = .ok (.getfield idx, 3)) (hq : q = k + i) (hl : l[i]? = some (0, ci, fs, gg)) (hf : fLink μ.2.1 idx ci j) (hj : fs[j]? = some (some (vr k'))) (kk : GS μ d (pc + 3) A (vr k' :: st) (X ++ l) σ P) : GS μ d pc A (vr q :: st) (X ++ l) σ P := g_getR hd (lk_app hX hq hl) hf hj kk
theorem o_newa {at_ : ArrayType} {n q : Int} {m : Nat} (hX : (X.length : Int) = k) (hR : Sm X) (hd : decode μ.1 pc = .ok (.newarray at_, 2)) (ha : at_ = .int ∨ at_ = .boolean ∨ at_ = .long) (hn : 0 ≤ n ∧ n ≤ 1000) (hm : l.length = m) (hs : slt l ≤ 100000) (hm2 : m ≤ 1000) (hq : q = k + m) (hz : ∀ j, σ q j = 0) (kk : GS μ d (pc + 2) A (vr q :: st) (X ++ (l ++ [(akd at_, n.toNat, [], fun _ => vn)])) σ P) : GS μ d pc A (vi n :: st) (X ++ l) σ P := by
  have e : (((X ++ l).length : Nat) : Int) = q := by rw [List.length_append]; omega
  have h1 := hR.1
  have h2 := hR.2
  refine g_newa hd ha hn.1 (by omega) (by rw [List.length_append]; unfold capC; omega) (by rw [slt_app]; unfold capS; omega) ?_
  rw [e, updc_z hz, List.append_assoc]
  exact kk
theorem o_anew {idx : Nat} {n q : Int} {m : Nat} (hX : (X.length : Int) = k) (hR : Sm X) (hd : decode μ.1 pc = .ok (.anewarray idx, 3)) (hc : Cond.classLink μ.2.1 idx "BallotDesk$Rule" ∈ lw_t) (hn : 0 ≤ n ∧ n ≤ 1000) (hm : l.length = m) (hs : slt l ≤ 100000) (hm2 : m ≤ 1000) (hq : q = k + m) (hz : ∀ j, σ q j = 0) (kk : GS μ d (pc + 3) A (vr q :: st) (X ++ (l ++ [(5, n.toNat, [], fun _ => vn)])) σ P) : GS μ d pc A (vi n :: st) (X ++ l) σ P := by
  have e : (((X ++ l).length : Nat) : Int) = q := by rw [List.length_append]; omega
  have h1 := hR.1
  have h2 := hR.2
  refine g_anew hd hc hn.1 (by omega) (by rw [List.length_append]; unfold capC; omega) (by rw [slt_app]; unfold capS; omega) ?_
  rw [e, updc_z hz, List.append_assoc]
  exact kk
theorem o_new {idx ci : Nat} {q : Int} {m : Nat} (hX : (X.length : Int) = k) (hR : Sm X) (hd : decode μ.1 pc = .ok (.new idx, 3)) (hc : cNm μ.2.1 idx ci) (h1 : slt1 (newSh ci) ≤ 100) (hm : l.length = m) (hs : slt l ≤ 100000) (hm2 : m ≤ 1000) (hq : q = k + m) (hz : ∀ j, σ q j = 0) (kk : GS μ d (pc + 3) A (vr q :: st) (X ++ (l ++ [newSh ci])) σ P) : GS μ d pc A st (X ++ l) σ P := by
  have e : (((X ++ l).length : Nat) : Int) = q := by rw [List.length_append]; omega
  have h2 := hR.1
  have h3 := hR.2
  refine g_new hd hc (by rw [List.length_append]; unfold capC; omega) (by rw [slt_app]; unfold capS; omega) ?_
  rw [e, updc_z hz, List.append_assoc]
  exact kk
theorem o_multi {idx : Nat} {n k₂ q : Int} {m : Nat} (hX : (X.length : Int) = k) (hR : Sm X) (hd : decode μ.1 pc = .ok (.multianewarray idx 2, 4)) (hc : Cond.classLink μ.2.1 idx "[[I" ∈ lw_t) (hn : 0 ≤ n ∧ n ≤ 21) (hk : k₂ = 7) (hm : l.length = m) (hs : slt l ≤ 100000) (hm2 : m ≤ 1000) (hq : q = k + m) (hz : ∀ x j, q ≤ x → σ x j = 0) (kk : GS μ d (pc + 4) A (vr q :: st) (X ++ (l ++ gridI n.toNat 7 q)) σ P) : GS μ d pc A (vi k₂ :: vi n :: st) (X ++ l) σ P := by
  have e : (((X ++ l).length : Nat) : Int) = q := by rw [List.length_append]; omega
  have h2 := hR.1
  have h3 := hR.2
  subst hk
  refine g_multi hd hc hn.1 (by omega) (by omega) (by omega) (by rw [List.length_append]; unfold capC; omega) (by rw [slt_app, show (7 : Int).toNat = 7 from rfl]; unfold capS; omega) ?_
  rw [grid_I, e, updr_z hz, List.append_assoc]
  exact kk
theorem o_aast {q q' i : Int} {iA iB n ci : Nat} {fs fs' : List (Option Vl)} {gg gg' gg₂ : Int → Vl} {l' : List Sh} (hX : (X.length : Int) = k) (hd : decode μ.1 pc = .ok (.aastore, 1)) (hq : q = k + iA) (hq' : q' = k + iB) (hl : l[iA]? = some (5, n, fs, gg)) (hl2 : l[iB]? = some (0, ci, fs', gg')) (hc : ∃ q : vw_C, classes[ci]? = some q ∧ Cond.castable q.1 "BallotDesk$Rule" ∈ lw_t) (hi : 0 ≤ i ∧ i < n) (hg : (fun j => if j = i then vr q' else gg j) = gg₂) (hl' : l.set iA (5, n, fs, gg₂) = l') (kk : GS μ d (pc + 1) A st (X ++ l') σ P) : GS μ d pc A (vr q' :: vi i :: vr q :: st) (X ++ l) σ P := by
  refine g_aast hd (lk_app hX hq hl) (lk_app hX hq' hl2) hc hi.1 hi.2 ?_
  rw [set_app hX hq, hg, hl']
  exact kk
theorem o_call {idx : Nat} {y : MethodName} {q : Int} {as rest : List Vl} {L L₁ : List Sh} {Q : Mm → Prop} (hd : decode μ.1 pc = .ok (.invokespecial idx, 3)) (h0 : 0 ≤ q) (hc : cIm μ.2.1 idx y as.length) (hrest : rest.length ≤ 20) (E : Ex d y (vr q :: as) L σ (fun o L' σ' => o = (0, vn) ∧ L' = L₁ ∧ Q σ')) (kk : ∀ σ', Q σ' → GS μ (d + 1) (pc + 3) A rest L₁ σ' P) : GS μ (d + 1) pc A (as.reverse ++ vr q :: rest) L σ P :=
  g_callI hd h0 hc hrest (E.mono fun o L' σ' h => by
    obtain ⟨rfl, rfl, h3⟩ := h
    exact kk σ' h3)
end

/-! begin and reset, over a part of the layout -/
def LayP (L : List Sh) (p : Int) : Prop := LkO L p 1 (prF p) ∧ LkG L (p + 24) 4 7 (fun i => p + 25 + i) ∧ (∀ t, 0 ≤ t ∧ t < 7 → LkA L (p + 25 + t) 1 7) ∧ LkA L (p + 32) 1 7 ∧ LkA L (p + 33) 1 7 ∧ LkA L (p + 34) 1 7
def LayM (L : List Sh) : Prop := LkO L 102 14 [none, none, none, some (vr 103), some (vr 104), some (vr 105), some (vr 106), some (vr 107), none, none, some (vr 108), some (vr 109), some (vr 110), some (vr 111), some (vr 112), some (vr 113), some (vr 114), some (vr 115), some (vr 116), some (vr 117), some (vr 118), some (vr 119), none, none] ∧ LkA L 105 1 7 ∧ LkA L 106 1 7 ∧ LkA L 107 1 7
theorem pe_Prof_begin {d : Nat} {L : List Sh} {σ : Mm} {K : Mm → Prop} {T : Nat → Mm → Prop} {x0 : Int} (hY : LayP L x0) {x1 : Int} (hx0 : isPr x0) (H : G_Prof_begin_12 d L (upd2 (upd2 σ x0 0 x1) x0 1 0) K T x0 x1 0) : Ex d y_Prof_begin [vr x0, vi x1] L σ (PV L K T) :=
  Ex.of hc_Prof_begin (Nat.le_of_ble_eq_true rfl) (show GS m_Prof_begin d 0 [vr x0, vi x1, vj, vj] [] L σ (PV L K T) from (g_aload_n (z := x0) (dx_Prof_begin 0 rfl) rfl (g_iload_n (z := x1) (dx_Prof_begin 1 rfl) rfl (n_putI (j := 0) (dx_Prof_begin 2 rfl) hY.1 (pl_Prof_35 1 (by decide) (by decide)) rfl (g_aload_n (z := x0) (dx_Prof_begin 3 rfl) rfl (g_iconst (n := 0) (dx_Prof_begin 4 rfl) ⟨by decide, by decide⟩ (n_putI (j := 1) (dx_Prof_begin 5 rfl) hY.1 (pl_Prof_39 1 (by decide) (by decide)) rfl (g_iconst (n := 0) (dx_Prof_begin 6 rfl) ⟨by decide, by decide⟩ (g_istore_n (dx_Prof_begin 7 rfl) (by decide) (GS.weak (A := [vr x0, vi x1, vi 0, vj]) (lv1 (Or.inr rfl) (lv1 (Or.inr rfl) (lv1 (Or.inr rfl) (lv1 (Or.inl rfl) lv0)))) H))))))))))
theorem pr_Prof_begin_12 {d : Nat} {L : List Sh} {σ : Mm} {K : Mm → Prop} {T : Nat → Mm → Prop} {x0 : Int} (hY : LayP L x0) {x1 : Int} {x2 : Int} (hx0 : isPr x0) (H : ((7 ≤ x2 → G_Prof_begin_49 d L σ K T x0 x1 0) ∧ (x2 < 7 → G_Prof_begin_20 d L σ K T x0 x1 x2 0))) : G_Prof_begin_12 d L σ K T x0 x1 x2 :=
  (g_iload_n (z := x2) (dx_Prof_begin 8 rfl) rfl (g_bipush (n := 7) (dx_Prof_begin 9 rfl) ⟨by decide, by decide⟩ (by decide +kernel) (g_icmp (cn := .ge) (tgt := 47) (dx_Prof_begin 10 rfl) (by decide) (fun c15 => (g_iconst (n := 0) (dx_Prof_begin 27 rfl) ⟨by decide, by decide⟩ (g_istore_n (dx_Prof_begin 28 rfl) (by decide) (GS.weak (A := [vr x0, vi x1, vi 0, vj]) (lv1 (Or.inr rfl) (lv1 (Or.inr rfl) (lv1 (Or.inr rfl) (lv1 (Or.inl rfl) lv0)))) (H.1 c15))))) (fun c15 => (g_iconst (n := 0) (dx_Prof_begin 11 rfl) ⟨by decide, by decide⟩ (g_istore_n (dx_Prof_begin 12 rfl) (by decide) (GS.weak (A := [vr x0, vi x1, vi x2, vi 0]) (lv1 (Or.inr rfl) (lv1 (Or.inr rfl) (lv1 (Or.inr rfl) (lv1 (Or.inr rfl) lv0)))) (H.2 (ic_nge c15)))))))))
theorem pr_Prof_begin_49 {d : Nat} {L : List Sh} {σ : Mm} {K : Mm → Prop} {T : Nat → Mm → Prop} {x0 : Int} (hY : LayP L x0) {x1 : Int} {x2 : Int} (hx0 : isPr x0) (H : ((x1 ≤ x2 → K σ) ∧ (x2 < x1 → (0 ≤ x2 ∧ x2 < 7) ∧ (0 ≤ x2 ∧ x2 < 7) ∧ (-2147483648 ≤ (x1 - 1) ∧ (x1 - 1) < 2147483648) ∧ (-2147483648 ≤ ((x1 - 1) - x2) ∧ ((x1 - 1) - x2) < 2147483648) ∧ (0 ≤ x2 ∧ x2 < 7) ∧ (-2147483648 ≤ (x2 + 1) ∧ (x2 + 1) < 2147483648) ∧ G_Prof_begin_49 d L (upd2 (upd2 (upd2 σ (x0 + 32) x2 x2) (x0 + 33) x2 x2) (x0 + 34) x2 ((x1 - 1) - x2)) K T x0 x1 (x2 + 1)))) : G_Prof_begin_49 d L σ K T x0 x1 x2 :=
  (g_iload_n (z := x2) (dx_Prof_begin 29 rfl) rfl (g_iload_n (z := x1) (dx_Prof_begin 30 rfl) rfl (g_icmp (cn := .ge) (tgt := 85) (dx_Prof_begin 31 rfl) (by decide) (fun c51 => (g_vret (dx_Prof_begin 53 rfl) rfl (Or.inl ⟨rfl, rfl, (H.1 c51)⟩))) (fun c51 => (g_aload_n (z := x0) (dx_Prof_begin 32 rfl) rfl (n_getR (j := 5) (k' := (x0 + 32)) (dx_Prof_begin 33 rfl) hY.1 (fl_Prof_23 1 (by decide) (by decide)) rfl (g_iload_n (z := x2) (dx_Prof_begin 34 rfl) rfl (g_iload_n (z := x2) (dx_Prof_begin 35 rfl) rfl (n_iastore (dx_Prof_begin 36 rfl) hY.2.2.2.1 ((H.2 (ic_nge c51)).1) (g_aload_n (z := x0) (dx_Prof_begin 37 rfl) rfl (n_getR (j := 6) (k' := (x0 + 33)) (dx_Prof_begin 38 rfl) hY.1 (fl_Prof_26 1 (by decide) (by decide)) rfl (g_iload_n (z := x2) (dx_Prof_begin 39 rfl) rfl (g_iload_n (z := x2) (dx_Prof_begin 40 rfl) rfl (n_iastore (dx_Prof_begin 41 rfl) hY.2.2.2.2.1 ((H.2 (ic_nge c51)).2.1) (g_aload_n (z := x0) (dx_Prof_begin 42 rfl) rfl (n_getR (j := 7) (k' := (x0 + 34)) (dx_Prof_begin 43 rfl) hY.1 (fl_Prof_29 1 (by decide) (by decide)) rfl (g_iload_n (z := x2) (dx_Prof_begin 44 rfl) rfl (g_iload_n (z := x1) (dx_Prof_begin 45 rfl) rfl (g_iconst (n := 1) (dx_Prof_begin 46 rfl) ⟨by decide, by decide⟩ (n_isub (dx_Prof_begin 47 rfl) ((H.2 (ic_nge c51)).2.2.1) (g_iload_n (z := x2) (dx_Prof_begin 48 rfl) rfl (n_isub (dx_Prof_begin 49 rfl) ((H.2 (ic_nge c51)).2.2.2.1) (n_iastore (dx_Prof_begin 50 rfl) hY.2.2.2.2.2 ((H.2 (ic_nge c51)).2.2.2.2.1) (n_iinc (z := x2) (n := 1) (dx_Prof_begin 51 rfl) rfl (by decide) ((H.2 (ic_nge c51)).2.2.2.2.2.1) (g_goto (tgt := 49) (dx_Prof_begin 52 rfl) (by decide) (GS.weak (A := [vr x0, vi x1, vi (x2 + 1), vj]) (lv1 (Or.inr rfl) (lv1 (Or.inr rfl) (lv1 (Or.inr rfl) (lv1 (Or.inl rfl) lv0)))) (H.2 (ic_nge c51)).2.2.2.2.2.2))))))))))))))))))))))))))
theorem pr_Prof_begin_20 {d : Nat} {L : List Sh} {σ : Mm} {K : Mm → Prop} {T : Nat → Mm → Prop} {x0 : Int} (hY : LayP L x0) {x1 : Int} {x2 : Int} {x3 : Int} (hx0 : isPr x0) (H : ((7 ≤ x3 → (-2147483648 ≤ (x2 + 1) ∧ (x2 + 1) < 2147483648) ∧ G_Prof_begin_12 d L σ K T x0 x1 (x2 + 1)) ∧ (x3 < 7 → (0 ≤ x2 ∧ x2 < 7) ∧ (0 ≤ x3 ∧ x3 < 7) ∧ (-2147483648 ≤ (x3 + 1) ∧ (x3 + 1) < 2147483648) ∧ G_Prof_begin_20 d L (upd2 σ (x0 + 25 + x2) x3 0) K T x0 x1 x2 (x3 + 1)))) : G_Prof_begin_20 d L σ K T x0 x1 x2 x3 :=
  (g_iload_n (z := x3) (dx_Prof_begin 13 rfl) rfl (g_bipush (n := 7) (dx_Prof_begin 14 rfl) ⟨by decide, by decide⟩ (by decide +kernel) (g_icmp (cn := .ge) (tgt := 41) (dx_Prof_begin 15 rfl) (by decide) (fun c23 => (n_iinc (z := x2) (n := 1) (dx_Prof_begin 25 rfl) rfl (by decide) ((H.1 c23).1) (g_goto (tgt := 12) (dx_Prof_begin 26 rfl) (by decide) (GS.weak (A := [vr x0, vi x1, vi (x2 + 1), vi x3]) (lv1 (Or.inr rfl) (lv1 (Or.inr rfl) (lv1 (Or.inr rfl) (lv1 (Or.inl rfl) lv0)))) (H.1 c23).2)))) (fun c23 => (g_aload_n (z := x0) (dx_Prof_begin 16 rfl) rfl (n_getR (j := 4) (k' := (x0 + 24)) (dx_Prof_begin 17 rfl) hY.1 (fl_Prof_20 1 (by decide) (by decide)) rfl (g_iload_n (z := x2) (dx_Prof_begin 18 rfl) rfl (n_aaload (kd := 4) (dx_Prof_begin 19 rfl) (by decide) hY.2.1 ((H.2 (ic_nge c23)).1) (g_iload_n (z := x3) (dx_Prof_begin 20 rfl) rfl (g_iconst (n := 0) (dx_Prof_begin 21 rfl) ⟨by decide, by decide⟩ (n_iastore (dx_Prof_begin 22 rfl) (hY.2.2.1 _ ((H.2 (ic_nge c23)).1)) ((H.2 (ic_nge c23)).2.1) (n_iinc (z := x3) (n := 1) (dx_Prof_begin 23 rfl) rfl (by decide) ((H.2 (ic_nge c23)).2.2.1) (g_goto (tgt := 20) (dx_Prof_begin 24 rfl) (by decide) (GS.weak (A := [vr x0, vi x1, vi x2, vi (x3 + 1)]) (lv1 (Or.inr rfl) (lv1 (Or.inr rfl) (lv1 (Or.inr rfl) (lv1 (Or.inr rfl) lv0)))) (H.2 (ic_nge c23)).2.2.2))))))))))))))
theorem pe_Mod_reset {d : Nat} {L : List Sh} {σ : Mm} {K : Mm → Prop} {T : Nat → Mm → Prop} (hY : LayM L) (H : G_Mod_reset_7 d L (upd2 σ 102 2 0) K T 0) : Ex d y_Mod_reset [vr 102] L σ (PV L K T) :=
  Ex.of hc_Mod_reset (Nat.le_of_ble_eq_true rfl) (show GS m_Mod_reset d 0 [vr 102, vj] [] L σ (PV L K T) from (g_aload_n (z := 102) (dx_Mod_reset 0 rfl) rfl (g_iconst (n := 0) (dx_Mod_reset 1 rfl) ⟨by decide, by decide⟩ (n_putI (j := 2) (dx_Mod_reset 2 rfl) hY.1 (pl_Mod_76 14 (by decide) (by decide)) rfl (g_iconst (n := 0) (dx_Mod_reset 3 rfl) ⟨by decide, by decide⟩ (g_istore_n (dx_Mod_reset 4 rfl) (by decide) (GS.weak (A := [vr 102, vi 0]) (lv1 (Or.inr rfl) (lv1 (Or.inr rfl) lv0)) H)))))))
theorem pr_Mod_reset_7 {d : Nat} {L : List Sh} {σ : Mm} {K : Mm → Prop} {T : Nat → Mm → Prop} (hY : LayM L) {x1 : Int} (H : ((7 ≤ x1 → K σ) ∧ (x1 < 7 → (0 ≤ x1 ∧ x1 < 7) ∧ (0 ≤ x1 ∧ x1 < 7) ∧ ((((upd2 (upd2 σ 105 x1 x1) 106 x1 x1) 102 1) ≤ x1 → (0 ≤ x1 ∧ x1 < 7) ∧ (-2147483648 ≤ (x1 + 1) ∧ (x1 + 1) < 2147483648) ∧ G_Mod_reset_7 d L (upd2 (upd2 (upd2 σ 105 x1 x1) 106 x1 x1) 107 x1 0) K T (x1 + 1)) ∧ (x1 < ((upd2 (upd2 σ 105 x1 x1) 106 x1 x1) 102 1) → (-2147483648 ≤ (((upd2 (upd2 σ 105 x1 x1) 106 x1 x1) 102 1) - 1) ∧ (((upd2 (upd2 σ 105 x1 x1) 106 x1 x1) 102 1) - 1) < 2147483648) ∧ (-2147483648 ≤ ((((upd2 (upd2 σ 105 x1 x1) 106 x1 x1) 102 1) - 1) - x1) ∧ ((((upd2 (upd2 σ 105 x1 x1) 106 x1 x1) 102 1) - 1) - x1) < 2147483648) ∧ (0 ≤ x1 ∧ x1 < 7) ∧ (-2147483648 ≤ (x1 + 1) ∧ (x1 + 1) < 2147483648) ∧ G_Mod_reset_7 d L (upd2 (upd2 (upd2 σ 105 x1 x1) 106 x1 x1) 107 x1 ((((upd2 (upd2 σ 105 x1 x1) 106 x1 x1) 102 1) - 1) - x1)) K T (x1 + 1)))))) : G_Mod_reset_7 d L σ K T x1 :=
  (g_iload_n (z := x1) (dx_Mod_reset 5 rfl) rfl (g_bipush (n := 7) (dx_Mod_reset 6 rfl) ⟨by decide, by decide⟩ (by decide +kernel) (g_icmp (cn := .ge) (tgt := 59) (dx_Mod_reset 7 rfl) (by decide) (fun c10 => (g_vret (dx_Mod_reset 36 rfl) rfl (Or.inl ⟨rfl, rfl, (H.1 c10)⟩))) (fun c10 => (g_aload_n (z := 102) (dx_Mod_reset 8 rfl) rfl (n_getR (j := 5) (k' := 105) (dx_Mod_reset 9 rfl) hY.1 (fl_Mod_20 14 (by decide) (by decide)) rfl (g_iload_n (z := x1) (dx_Mod_reset 10 rfl) rfl (g_iload_n (z := x1) (dx_Mod_reset 11 rfl) rfl (n_iastore (dx_Mod_reset 12 rfl) hY.2.1 ((H.2 (ic_nge c10)).1) (g_aload_n (z := 102) (dx_Mod_reset 13 rfl) rfl (n_getR (j := 6) (k' := 106) (dx_Mod_reset 14 rfl) hY.1 (fl_Mod_23 14 (by decide) (by decide)) rfl (g_iload_n (z := x1) (dx_Mod_reset 15 rfl) rfl (g_iload_n (z := x1) (dx_Mod_reset 16 rfl) rfl (n_iastore (dx_Mod_reset 17 rfl) hY.2.2.1 ((H.2 (ic_nge c10)).2.1) (g_aload_n (z := 102) (dx_Mod_reset 18 rfl) rfl (n_getR (j := 7) (k' := 107) (dx_Mod_reset 19 rfl) hY.1 (fl_Mod_26 14 (by decide) (by decide)) rfl (g_iload_n (z := x1) (dx_Mod_reset 20 rfl) rfl (g_iload_n (z := x1) (dx_Mod_reset 21 rfl) rfl (g_aload_n (z := 102) (dx_Mod_reset 22 rfl) rfl (n_getI (j := 1) (dx_Mod_reset 23 rfl) hY.1 (fl_Mod_7 14 (by decide) (by decide)) rfl (g_icmp (cn := .ge) (tgt := 51) (dx_Mod_reset 24 rfl) (by decide) (fun c37 => (g_iconst (n := 0) (dx_Mod_reset 32 rfl) ⟨by decide, by decide⟩ (n_iastore (dx_Mod_reset 33 rfl) hY.2.2.2 (((H.2 (ic_nge c10)).2.2.1 c37).1) (n_iinc (z := x1) (n := 1) (dx_Mod_reset 34 rfl) rfl (by decide) (((H.2 (ic_nge c10)).2.2.1 c37).2.1) (g_goto (tgt := 7) (dx_Mod_reset 35 rfl) (by decide) (GS.weak (A := [vr 102, vi (x1 + 1)]) (lv1 (Or.inr rfl) (lv1 (Or.inr rfl) lv0)) ((H.2 (ic_nge c10)).2.2.1 c37).2.2)))))) (fun c37 => (g_aload_n (z := 102) (dx_Mod_reset 25 rfl) rfl (n_getI (j := 1) (dx_Mod_reset 26 rfl) hY.1 (fl_Mod_7 14 (by decide) (by decide)) rfl (g_iconst (n := 1) (dx_Mod_reset 27 rfl) ⟨by decide, by decide⟩ (n_isub (dx_Mod_reset 28 rfl) (((H.2 (ic_nge c10)).2.2.2 (ic_nge c37)).1) (g_iload_n (z := x1) (dx_Mod_reset 29 rfl) rfl (n_isub (dx_Mod_reset 30 rfl) (((H.2 (ic_nge c10)).2.2.2 (ic_nge c37)).2.1) (g_goto (tgt := 52) (dx_Mod_reset 31 rfl) (by decide) (n_iastore (dx_Mod_reset 33 rfl) hY.2.2.2 (((H.2 (ic_nge c10)).2.2.2 (ic_nge c37)).2.2.1) (n_iinc (z := x1) (n := 1) (dx_Mod_reset 34 rfl) rfl (by decide) (((H.2 (ic_nge c10)).2.2.2 (ic_nge c37)).2.2.2.1) (g_goto (tgt := 7) (dx_Mod_reset 35 rfl) (by decide) (GS.weak (A := [vr 102, vi (x1 + 1)]) (lv1 (Or.inr rfl) (lv1 (Or.inr rfl) lv0)) ((H.2 (ic_nge c10)).2.2.2 (ic_nge c37)).2.2.2.2)))))))))))))))))))))))))))))))))
theorem pc_begin {L : List Sh} {σ : Mm} {p : Int} (hY : LayP L p) (hp : isPr p) {n : Int} (hn : 2 ≤ n ∧ n ≤ 7) : Ex 0 y_Prof_begin [vr p, vi n] L σ (PV L (fun σ' => isP σ' p (q0 n) ∧ FrP p σ σ') NT) := by
  refine pe_Prof_begin hY hp ?_
  have fin := upto (P := fun k => ∀ σ', (σ' p 0 = n ∧ σ' p 1 = 0 ∧ (∀ a b, 0 ≤ a → a < 7 → 0 ≤ b → b < 7 → σ' (p + 25 + a) b = 0) ∧ (∀ j, 0 ≤ j → j < k → σ' (p + 32) j = j ∧ σ' (p + 33) j = j ∧ σ' (p + 34) j = n - 1 - j) ∧ FrP p σ σ') → G_Prof_begin_49 0 L σ' (fun σ' => isP σ' p (q0 n) ∧ FrP p σ σ') NT p n k) (a := 0) (n := n) ?_ ?_ 0 (by omega) (by omega)
  · have outer := upto (P := fun x => ∀ σ', (σ' p 0 = n ∧ σ' p 1 = 0 ∧ (∀ a b, 0 ≤ a → a < x → 0 ≤ b → b < 7 → σ' (p + 25 + a) b = 0) ∧ FrP p σ σ') → G_Prof_begin_12 0 L σ' (fun σ' => isP σ' p (q0 n) ∧ FrP p σ σ') NT p n x) (a := 0) (n := 7) ?_ ?_ 0 (by omega) (by omega)
    · refine outer _ ⟨?_, u_eq, fun a b a0 a1 => absurd a1 (by omega), fun k j hk => ?_⟩
      · rw [u_ne2 (by omega), u_eq]
      · rw [u_ne (by omega), u_ne (by omega)]
    · rintro σ' ⟨h1, h2, h3, h4⟩
      exact pr_Prof_begin_12 hY hp ⟨fun h => fin σ' ⟨h1, h2, h3, fun j j0 j1 => absurd j1 (by omega), h4⟩, fun h => absurd h (by omega)⟩
    · rintro x x0 x1 ih σ' ⟨h1, h2, h3, h4⟩
      refine pr_Prof_begin_12 hY hp ⟨fun h => absurd h (by omega), fun h => ?_⟩
      refine upto (P := fun y => ∀ σ', (σ' p 0 = n ∧ σ' p 1 = 0 ∧ (∀ a b, 0 ≤ a → a < x → 0 ≤ b → b < 7 → σ' (p + 25 + a) b = 0) ∧ (∀ b, 0 ≤ b → b < y → σ' (p + 25 + x) b = 0) ∧ FrP p σ σ') → G_Prof_begin_20 0 L σ' (fun σ' => isP σ' p (q0 n) ∧ FrP p σ σ') NT p n x y) (a := 0) (n := 7) ?_ ?_ 0 (by omega) (by omega) σ' ⟨h1, h2, h3, fun b b0 b1 => absurd b1 (by omega), h4⟩
      · rintro σ' ⟨h1, h2, h3, h5, h4⟩
        refine pr_Prof_begin_20 hY hp ⟨fun h => ⟨by omega, ih σ' ⟨h1, h2, fun a b a0 a1 b0 b1 => ?_, h4⟩⟩, fun h => absurd h (by omega)⟩
        by_cases e : a = x
        · rw [e]; exact h5 b b0 b1
        · exact h3 a b a0 (by omega) b0 b1
      · rintro y y0 y1 ihy σ' ⟨h1, h2, h3, h5, h4⟩
        refine pr_Prof_begin_20 hY hp ⟨fun h => absurd h (by omega), fun h => ⟨by omega, by omega, by omega, ihy _ ⟨?_, ?_, fun a b a0 a1 b0 b1 => ?_, fun b b0 b1 => ?_, fun k j hk => ?_⟩⟩⟩
        · rw [u_ne (by omega)]; exact h1
        · rw [u_ne (by omega)]; exact h2
        · rw [u_ne (by omega)]; exact h3 a b a0 a1 b0 b1
        · rw [u_if]
          by_cases e : b = y
          · rw [if_pos e]
          · rw [if_neg e]; exact h5 b b0 (by omega)
        · rw [u_ne (by omega)]; exact h4 k j hk
  · rintro σ' ⟨h1, h2, h3, h5, h4⟩
    refine pr_Prof_begin_49 hY hp ⟨fun h => ⟨⟨h1, h2, fun t k t0 t1 => absurd (show t < 0 from t1) (by omega), fun t t0 t1 => absurd (show t < 0 from t1) (by omega), fun a b a0 a1 b0 b1 => ?_, fun k k0 k1 => (h5 k k0 k1).1, fun k k0 k1 => (h5 k k0 k1).2.1, fun k k0 k1 => (h5 k k0 k1).2.2⟩, h4⟩, fun h => absurd h (by omega)⟩
    have a1 : a < n := a1
    have b1 : b < n := b1
    rw [h3 a b a0 (by omega) b0 (by omega)]
    rfl
  · rintro k k0 k1 ih σ' ⟨h1, h2, h3, h5, h4⟩
    refine pr_Prof_begin_49 hY hp ⟨fun h => absurd h (by omega), fun h => ⟨by omega, by omega, by omega, by omega, by omega, by omega, ih _ ⟨?_, ?_, fun a b a0 a1 b0 b1 => ?_, fun j j0 j1 => ?_, fun k' j hk => ?_⟩⟩⟩
    · rw [u_ne (by omega), u_ne (by omega), u_ne (by omega)]; exact h1
    · rw [u_ne (by omega), u_ne (by omega), u_ne (by omega)]; exact h2
    · rw [u_ne (by omega), u_ne (by omega), u_ne (by omega)]; exact h3 a b a0 a1 b0 b1
    · rw [u_ne (show p + 32 ≠ p + 34 by omega), u_ne (show p + 32 ≠ p + 33 by omega), u_if, u_ne (show p + 33 ≠ p + 34 by omega), u_if, u_ne (show p + 33 ≠ p + 32 by omega), u_if, u_ne (show p + 34 ≠ p + 33 by omega), u_ne (show p + 34 ≠ p + 32 by omega)]
      by_cases e : j = k
      · rw [if_pos e, if_pos e, if_pos e]; omega
      · rw [if_neg e, if_neg e, if_neg e]; exact h5 j j0 (by omega)
    · rw [u_ne (by omega), u_ne (by omega), u_ne (by omega)]; exact h4 k' j hk
theorem pm_reset {L : List Sh} {σ : Mm} (hY : LayM L) {n : Int} (hn : σ 102 1 = n) (h7 : 2 ≤ n ∧ n ≤ 7) : Ex 0 y_Mod_reset [vr 102] L σ (PV L (fun σ' => σ' 102 2 = 0 ∧ (∀ k, 0 ≤ k → k < n → σ' 105 k = k ∧ σ' 106 k = k ∧ σ' 107 k = n - 1 - k) ∧ (∀ k j, ¬ (105 ≤ k ∧ k < 108) → ¬ (k = 102 ∧ j = 2) → σ' k j = σ k j)) NT) := by
  refine pe_Mod_reset hY ?_
  refine upto (P := fun k => ∀ σ', σ' 102 2 = 0 → (∀ j, 0 ≤ j → j < k → σ' 105 j = j ∧ σ' 106 j = j ∧ (j < n → σ' 107 j = n - 1 - j)) → (∀ k j, ¬ (105 ≤ k ∧ k < 108) → ¬ (k = 102 ∧ j = 2) → σ' k j = σ k j) → G_Mod_reset_7 0 L σ' (fun σ' => σ' 102 2 = 0 ∧ (∀ k, 0 ≤ k → k < n → σ' 105 k = k ∧ σ' 106 k = k ∧ σ' 107 k = n - 1 - k) ∧ (∀ k j, ¬ (105 ≤ k ∧ k < 108) → ¬ (k = 102 ∧ j = 2) → σ' k j = σ k j)) NT k) (a := 0) (n := 7) ?_ ?_ 0 (by omega) (by omega) _ u_eq (fun j j0 j1 => absurd j1 (by omega)) (fun k j h1 h2 => ?_)
  · intro σ' a b c
    exact pr_Mod_reset_7 hY ⟨fun _ => ⟨a, fun k k0 k1 => ⟨(b k k0 (by omega)).1, (b k k0 (by omega)).2.1, (b k k0 (by omega)).2.2 k1⟩, c⟩, fun g => absurd g (by omega)⟩
  · intro k k0 k1 ih σ' a b c
    have e1 : σ' 102 1 = n := by rw [c _ _ (by omega) (by omega)]; exact hn
    have put : ∀ v, (k < n → v = n - 1 - k) → G_Mod_reset_7 0 L (upd2 (upd2 (upd2 σ' 105 k k) 106 k k) 107 k v) (fun σ' => σ' 102 2 = 0 ∧ (∀ k, 0 ≤ k → k < n → σ' 105 k = k ∧ σ' 106 k = k ∧ σ' 107 k = n - 1 - k) ∧ (∀ k j, ¬ (105 ≤ k ∧ k < 108) → ¬ (k = 102 ∧ j = 2) → σ' k j = σ k j)) NT (k + 1) := by
      intro v hv
      refine ih _ (by rw [u_ne (by omega), u_ne (by omega), u_ne (by omega)]; exact a) (fun j j0 j1 => ?_) (fun i j h1 h2 => by rw [u_ne (by omega), u_ne (by omega), u_ne (by omega)]; exact c i j h1 h2)
      rw [u_ne (show (105 : Int) ≠ 107 by omega), u_ne (show (105 : Int) ≠ 106 by omega), u_if, u_ne (show (106 : Int) ≠ 107 by omega), u_if, u_ne (show (106 : Int) ≠ 105 by omega), u_if, u_ne (show (107 : Int) ≠ 106 by omega), u_ne (show (107 : Int) ≠ 105 by omega)]
      by_cases w : j = k
      · rw [if_pos w, if_pos w, if_pos w, w]; exact ⟨rfl, rfl, hv⟩
      · rw [if_neg w, if_neg w, if_neg w]; exact b j j0 (by omega)
    refine pr_Mod_reset_7 hY ⟨fun g => absurd g (by omega), fun _ => ⟨by omega, by omega, ?_⟩⟩
    rw [u_ne (show (102 : Int) ≠ 106 by omega), u_ne (show (102 : Int) ≠ 105 by omega), e1]
    exact ⟨fun g => ⟨by omega, by omega, put 0 fun w => by omega⟩, fun g => ⟨by omega, by omega, by omega, by omega, put _ fun _ => rfl⟩⟩
  · by_cases e : k = 102
    · rw [e, u_ne2 (by omega)]
    · rw [u_ne e]
/-! small constructors -/
def cd_Elim_init : List (Nat × Instr × Nat) := [(0, .aload_n 0, 1), (1, .invokespecial 3, 3), (4, .aload_n 0, 1), (5, .sipush 128, 3), (8, .newarray .boolean, 2), (10, .putfield 9, 3), (13, .return_, 1)]
theorem dm_Elim_init : cd_Elim_init.all (dOK prog_5_method_1_code) = true := by decide +kernel
def m_Elim_init : MI := (prog_5_method_1_code, "BallotDesk$Elimination", 1, none, [], "<init>")
theorem dx_Elim_init (i : Nat) {pc n : Nat} {ins : Instr} (hi : cd_Elim_init[i]? = some (pc, ins, n)) : decode m_Elim_init.1 pc = .ok (ins, n) := dOK_get dm_Elim_init i hi
def cElim (k : Int) : List Sh := ((0, 2, [some (vr (k + 1)), none], fun _ => vn) :: ([(2, 128, [], fun _ => vn)]))
theorem kc_Elim {X : List Sh} {σ : Mm} {k : Int} {d : Nat} (hd : 1 ≤ d) (hX : (X.length : Int) = k) (hR : Sm X) (hz : ∀ x j, k < x → σ x j = 0) : Ex d y_Elim_init [vr k] (X ++ [newSh 2]) σ (fun o L' σ' => o = (0, vn) ∧ L' = X ++ cElim k ∧ σ' = σ) := by
  refine Ex.of hc_Elim_init (Nat.le_of_ble_eq_true rfl) ?_
  show GS m_Elim_init d 0 [vr k] [] (X ++ [newSh 2]) σ _
  refine g_aload_n (z := k) (dx_Elim_init 0 rfl) rfl ?_
  refine g_callO (dx_Elim_init 1 rfl) co_Elim_3 (by omega) (Nat.le_of_ble_eq_true rfl) ?_
  rw [show [newSh 2] = ((0, 2, [some vn, none], fun _ => vn) :: []) from rfl]
  refine g_aload_n (z := k) (dx_Elim_init 2 rfl) rfl ?_
  refine g_sipush (n := 128) (dx_Elim_init 3 rfl) ⟨by decide, by decide⟩ (by decide +kernel) ?_
  refine o_newa (q := k + 1) (m := 1) hX hR (dx_Elim_init 4 rfl) (by decide) (by decide) (by simp only [List.length_cons, List.length_append, gridI_len, List.length_nil]) (by simp only [slt_cons, slt_app, slt_gridI, slt_nil]; exact Nat.le_of_ble_eq_true rfl) (by decide) (by omega) (fun j => hz _ j (by omega)) ?_
  rw [show X ++ (_ ++ _) = X ++ ((0, 2, [some vn, none], fun _ => vn) :: ([(2, 128, [], fun _ => vn)])) from rfl]
  refine o_put (j := 0) (i := 0) (l' := ((0, 2, [some (vr (k + 1)), none], fun _ => vn) :: ([(2, 128, [], fun _ => vn)]))) hX (dx_Elim_init 5 rfl) (by omega) rfl (pl_Elim_9 2 (by decide) (by decide)) rfl rfl rfl rfl ?_
  exact g_vret (dx_Elim_init 6 rfl) rfl ⟨rfl, rfl, rfl⟩
def cd_Paths_init : List (Nat × Instr × Nat) := [(0, .aload_n 0, 1), (1, .invokespecial 3, 3), (4, .aload_n 0, 1), (5, .bipush 7, 2), (7, .bipush 7, 2), (9, .multianewarray 9 2, 4), (13, .putfield 11, 3), (16, .return_, 1)]
theorem dm_Paths_init : cd_Paths_init.all (dOK prog_9_method_1_code) = true := by decide +kernel
def m_Paths_init : MI := (prog_9_method_1_code, "BallotDesk$Paths", 1, none, [], "<init>")
theorem dx_Paths_init (i : Nat) {pc n : Nat} {ins : Instr} (hi : cd_Paths_init[i]? = some (pc, ins, n)) : decode m_Paths_init.1 pc = .ok (ins, n) := dOK_get dm_Paths_init i hi
def cPaths (k : Int) : List Sh := ((0, 3, [some (vr (k + 1))], fun _ => vn) :: (gridI 7 7 (k + 1)))
theorem kc_Paths {X : List Sh} {σ : Mm} {k : Int} {d : Nat} (hd : 1 ≤ d) (hX : (X.length : Int) = k) (hR : Sm X) (hz : ∀ x j, k < x → σ x j = 0) : Ex d y_Paths_init [vr k] (X ++ [newSh 3]) σ (fun o L' σ' => o = (0, vn) ∧ L' = X ++ cPaths k ∧ σ' = σ) := by
  refine Ex.of hc_Paths_init (Nat.le_of_ble_eq_true rfl) ?_
  show GS m_Paths_init d 0 [vr k] [] (X ++ [newSh 3]) σ _
  refine g_aload_n (z := k) (dx_Paths_init 0 rfl) rfl ?_
  refine g_callO (dx_Paths_init 1 rfl) co_Paths_3 (by omega) (Nat.le_of_ble_eq_true rfl) ?_
  rw [show [newSh 3] = ((0, 3, [some vn], fun _ => vn) :: []) from rfl]
  refine g_aload_n (z := k) (dx_Paths_init 2 rfl) rfl ?_
  refine g_bipush (n := 7) (dx_Paths_init 3 rfl) ⟨by decide, by decide⟩ (by decide +kernel) ?_
  refine g_bipush (n := 7) (dx_Paths_init 4 rfl) ⟨by decide, by decide⟩ (by decide +kernel) ?_
  refine o_multi (q := k + 1) (m := 1) hX hR (dx_Paths_init 5 rfl) wd_54 (by decide) rfl (by simp only [List.length_cons, List.length_append, gridI_len, List.length_nil]) (by simp only [slt_cons, slt_app, slt_gridI, slt_nil]; exact Nat.le_of_ble_eq_true rfl) (by decide) (by omega) (fun x j h => hz x j (by omega)) ?_
  rw [show X ++ (_ ++ _) = X ++ ((0, 3, [some vn], fun _ => vn) :: (gridI 7 7 (k + 1))) from rfl]
  refine o_put (j := 0) (i := 0) (l' := ((0, 3, [some (vr (k + 1))], fun _ => vn) :: (gridI 7 7 (k + 1)))) hX (dx_Paths_init 6 rfl) (by omega) rfl (pl_Paths_11 3 (by decide) (by decide)) rfl rfl rfl rfl ?_
  exact g_vret (dx_Paths_init 7 rfl) rfl ⟨rfl, rfl, rfl⟩
def cd_Agre_init : List (Nat × Instr × Nat) := [(0, .aload_n 0, 1), (1, .invokespecial 3, 3), (4, .aload_n 0, 1), (5, .sipush 128, 3), (8, .newarray .long, 2), (10, .putfield 9, 3), (13, .return_, 1)]
theorem dm_Agre_init : cd_Agre_init.all (dOK prog_3_method_1_code) = true := by decide +kernel
def m_Agre_init : MI := (prog_3_method_1_code, "BallotDesk$Agreement", 1, none, [], "<init>")
theorem dx_Agre_init (i : Nat) {pc n : Nat} {ins : Instr} (hi : cd_Agre_init[i]? = some (pc, ins, n)) : decode m_Agre_init.1 pc = .ok (ins, n) := dOK_get dm_Agre_init i hi
def cAgre (k : Int) : List Sh := ((0, 4, [some (vr (k + 1))], fun _ => vn) :: ([(3, 128, [], fun _ => vn)]))
theorem kc_Agre {X : List Sh} {σ : Mm} {k : Int} {d : Nat} (hd : 1 ≤ d) (hX : (X.length : Int) = k) (hR : Sm X) (hz : ∀ x j, k < x → σ x j = 0) : Ex d y_Agre_init [vr k] (X ++ [newSh 4]) σ (fun o L' σ' => o = (0, vn) ∧ L' = X ++ cAgre k ∧ σ' = σ) := by
  refine Ex.of hc_Agre_init (Nat.le_of_ble_eq_true rfl) ?_
  show GS m_Agre_init d 0 [vr k] [] (X ++ [newSh 4]) σ _
  refine g_aload_n (z := k) (dx_Agre_init 0 rfl) rfl ?_
  refine g_callO (dx_Agre_init 1 rfl) co_Agre_3 (by omega) (Nat.le_of_ble_eq_true rfl) ?_
  rw [show [newSh 4] = ((0, 4, [some vn], fun _ => vn) :: []) from rfl]
  refine g_aload_n (z := k) (dx_Agre_init 2 rfl) rfl ?_
  refine g_sipush (n := 128) (dx_Agre_init 3 rfl) ⟨by decide, by decide⟩ (by decide +kernel) ?_
  refine o_newa (q := k + 1) (m := 1) hX hR (dx_Agre_init 4 rfl) (by decide) (by decide) (by simp only [List.length_cons, List.length_append, gridI_len, List.length_nil]) (by simp only [slt_cons, slt_app, slt_gridI, slt_nil]; exact Nat.le_of_ble_eq_true rfl) (by decide) (by omega) (fun j => hz _ j (by omega)) ?_
  rw [show X ++ (_ ++ _) = X ++ ((0, 4, [some vn], fun _ => vn) :: ([(3, 128, [], fun _ => vn)])) from rfl]
  refine o_put (j := 0) (i := 0) (l' := ((0, 4, [some (vr (k + 1))], fun _ => vn) :: ([(3, 128, [], fun _ => vn)]))) hX (dx_Agre_init 5 rfl) (by omega) rfl (pl_Agre_9 4 (by decide) (by decide)) rfl rfl rfl rfl ?_
  exact g_vret (dx_Agre_init 6 rfl) rfl ⟨rfl, rfl, rfl⟩
def cd_Runo_init : List (Nat × Instr × Nat) := [(0, .aload_n 0, 1), (1, .invokespecial 3, 3), (4, .aload_n 0, 1), (5, .bipush 7, 2), (7, .newarray .int, 2), (9, .putfield 9, 3), (12, .return_, 1)]
theorem dm_Runo_init : cd_Runo_init.all (dOK prog_13_method_1_code) = true := by decide +kernel
def m_Runo_init : MI := (prog_13_method_1_code, "BallotDesk$Runoff", 1, none, [], "<init>")
theorem dx_Runo_init (i : Nat) {pc n : Nat} {ins : Instr} (hi : cd_Runo_init[i]? = some (pc, ins, n)) : decode m_Runo_init.1 pc = .ok (ins, n) := dOK_get dm_Runo_init i hi
def cRuno (k : Int) : List Sh := ((0, 5, [some (vr (k + 1))], fun _ => vn) :: ([(1, 7, [], fun _ => vn)]))
theorem kc_Runo {X : List Sh} {σ : Mm} {k : Int} {d : Nat} (hd : 1 ≤ d) (hX : (X.length : Int) = k) (hR : Sm X) (hz : ∀ x j, k < x → σ x j = 0) : Ex d y_Runo_init [vr k] (X ++ [newSh 5]) σ (fun o L' σ' => o = (0, vn) ∧ L' = X ++ cRuno k ∧ σ' = σ) := by
  refine Ex.of hc_Runo_init (Nat.le_of_ble_eq_true rfl) ?_
  show GS m_Runo_init d 0 [vr k] [] (X ++ [newSh 5]) σ _
  refine g_aload_n (z := k) (dx_Runo_init 0 rfl) rfl ?_
  refine g_callO (dx_Runo_init 1 rfl) co_Runo_3 (by omega) (Nat.le_of_ble_eq_true rfl) ?_
  rw [show [newSh 5] = ((0, 5, [some vn], fun _ => vn) :: []) from rfl]
  refine g_aload_n (z := k) (dx_Runo_init 2 rfl) rfl ?_
  refine g_bipush (n := 7) (dx_Runo_init 3 rfl) ⟨by decide, by decide⟩ (by decide +kernel) ?_
  refine o_newa (q := k + 1) (m := 1) hX hR (dx_Runo_init 4 rfl) (by decide) (by decide) (by simp only [List.length_cons, List.length_append, gridI_len, List.length_nil]) (by simp only [slt_cons, slt_app, slt_gridI, slt_nil]; exact Nat.le_of_ble_eq_true rfl) (by decide) (by omega) (fun j => hz _ j (by omega)) ?_
  rw [show X ++ (_ ++ _) = X ++ ((0, 5, [some vn], fun _ => vn) :: ([(1, 7, [], fun _ => vn)])) from rfl]
  refine o_put (j := 0) (i := 0) (l' := ((0, 5, [some (vr (k + 1))], fun _ => vn) :: ([(1, 7, [], fun _ => vn)]))) hX (dx_Runo_init 5 rfl) (by omega) rfl (pl_Runo_9 5 (by decide) (by decide)) rfl rfl rfl rfl ?_
  exact g_vret (dx_Runo_init 6 rfl) rfl ⟨rfl, rfl, rfl⟩
def cd_Locks_init : List (Nat × Instr × Nat) := [(0, .aload_n 0, 1), (1, .invokespecial 3, 3), (4, .aload_n 0, 1), (5, .bipush 49, 2), (7, .newarray .int, 2), (9, .putfield 9, 3), (12, .aload_n 0, 1), (13, .bipush 49, 2), (15, .newarray .int, 2), (17, .putfield 15, 3), (20, .aload_n 0, 1), (21, .bipush 7, 2), (23, .newarray .int, 2), (25, .putfield 18, 3), (28, .return_, 1)]
theorem dm_Locks_init : cd_Locks_init.all (dOK prog_8_method_1_code) = true := by decide +kernel
def m_Locks_init : MI := (prog_8_method_1_code, "BallotDesk$Locks", 1, none, [], "<init>")
theorem dx_Locks_init (i : Nat) {pc n : Nat} {ins : Instr} (hi : cd_Locks_init[i]? = some (pc, ins, n)) : decode m_Locks_init.1 pc = .ok (ins, n) := dOK_get dm_Locks_init i hi
def cLocks (k : Int) : List Sh := ((0, 6, [some (vr (k + 1)), some (vr (k + 2)), some (vr (k + 3))], fun _ => vn) :: ([(1, 49, [], fun _ => vn)] ++ [(1, 49, [], fun _ => vn)] ++ [(1, 7, [], fun _ => vn)]))
theorem kc_Locks {X : List Sh} {σ : Mm} {k : Int} {d : Nat} (hd : 1 ≤ d) (hX : (X.length : Int) = k) (hR : Sm X) (hz : ∀ x j, k < x → σ x j = 0) : Ex d y_Locks_init [vr k] (X ++ [newSh 6]) σ (fun o L' σ' => o = (0, vn) ∧ L' = X ++ cLocks k ∧ σ' = σ) := by
  refine Ex.of hc_Locks_init (Nat.le_of_ble_eq_true rfl) ?_
  show GS m_Locks_init d 0 [vr k] [] (X ++ [newSh 6]) σ _
  refine g_aload_n (z := k) (dx_Locks_init 0 rfl) rfl ?_
  refine g_callO (dx_Locks_init 1 rfl) co_Locks_3 (by omega) (Nat.le_of_ble_eq_true rfl) ?_
  rw [show [newSh 6] = ((0, 6, [some vn, some vn, some vn], fun _ => vn) :: []) from rfl]
  refine g_aload_n (z := k) (dx_Locks_init 2 rfl) rfl ?_
  refine g_bipush (n := 49) (dx_Locks_init 3 rfl) ⟨by decide, by decide⟩ (by decide +kernel) ?_
  refine o_newa (q := k + 1) (m := 1) hX hR (dx_Locks_init 4 rfl) (by decide) (by decide) (by simp only [List.length_cons, List.length_append, gridI_len, List.length_nil]) (by simp only [slt_cons, slt_app, slt_gridI, slt_nil]; exact Nat.le_of_ble_eq_true rfl) (by decide) (by omega) (fun j => hz _ j (by omega)) ?_
  rw [show X ++ (_ ++ _) = X ++ ((0, 6, [some vn, some vn, some vn], fun _ => vn) :: ([(1, 49, [], fun _ => vn)])) from rfl]
  refine o_put (j := 0) (i := 0) (l' := ((0, 6, [some (vr (k + 1)), some vn, some vn], fun _ => vn) :: ([(1, 49, [], fun _ => vn)]))) hX (dx_Locks_init 5 rfl) (by omega) rfl (pl_Locks_9 6 (by decide) (by decide)) rfl rfl rfl rfl ?_
  refine g_aload_n (z := k) (dx_Locks_init 6 rfl) rfl ?_
  refine g_bipush (n := 49) (dx_Locks_init 7 rfl) ⟨by decide, by decide⟩ (by decide +kernel) ?_
  refine o_newa (q := k + 2) (m := 2) hX hR (dx_Locks_init 8 rfl) (by decide) (by decide) (by simp only [List.length_cons, List.length_append, gridI_len, List.length_nil]) (by simp only [slt_cons, slt_app, slt_gridI, slt_nil]; exact Nat.le_of_ble_eq_true rfl) (by decide) (by omega) (fun j => hz _ j (by omega)) ?_
  rw [show X ++ (_ ++ _) = X ++ ((0, 6, [some (vr (k + 1)), some vn, some vn], fun _ => vn) :: ([(1, 49, [], fun _ => vn)] ++ [(1, 49, [], fun _ => vn)])) from rfl]
  refine o_put (j := 1) (i := 0) (l' := ((0, 6, [some (vr (k + 1)), some (vr (k + 2)), some vn], fun _ => vn) :: ([(1, 49, [], fun _ => vn)] ++ [(1, 49, [], fun _ => vn)]))) hX (dx_Locks_init 9 rfl) (by omega) rfl (pl_Locks_15 6 (by decide) (by decide)) rfl rfl rfl rfl ?_
  refine g_aload_n (z := k) (dx_Locks_init 10 rfl) rfl ?_
  refine g_bipush (n := 7) (dx_Locks_init 11 rfl) ⟨by decide, by decide⟩ (by decide +kernel) ?_
  refine o_newa (q := k + 3) (m := 3) hX hR (dx_Locks_init 12 rfl) (by decide) (by decide) (by simp only [List.length_cons, List.length_append, gridI_len, List.length_nil]) (by simp only [slt_cons, slt_app, slt_gridI, slt_nil]; exact Nat.le_of_ble_eq_true rfl) (by decide) (by omega) (fun j => hz _ j (by omega)) ?_
  rw [show X ++ (_ ++ _) = X ++ ((0, 6, [some (vr (k + 1)), some (vr (k + 2)), some vn], fun _ => vn) :: ([(1, 49, [], fun _ => vn)] ++ [(1, 49, [], fun _ => vn)] ++ [(1, 7, [], fun _ => vn)])) from rfl]
  refine o_put (j := 2) (i := 0) (l' := ((0, 6, [some (vr (k + 1)), some (vr (k + 2)), some (vr (k + 3))], fun _ => vn) :: ([(1, 49, [], fun _ => vn)] ++ [(1, 49, [], fun _ => vn)] ++ [(1, 7, [], fun _ => vn)]))) hX (dx_Locks_init 13 rfl) (by omega) rfl (pl_Locks_18 6 (by decide) (by decide)) rfl rfl rfl rfl ?_
  exact g_vret (dx_Locks_init 14 rfl) rfl ⟨rfl, rfl, rfl⟩
def cd_Unco_init : List (Nat × Instr × Nat) := [(0, .aload_n 0, 1), (1, .invokespecial 1, 3), (4, .return_, 1)]
theorem dm_Unco_init : cd_Unco_init.all (dOK prog_15_method_1_code) = true := by decide +kernel
def m_Unco_init : MI := (prog_15_method_1_code, "BallotDesk$Uncovered", 1, none, [], "<init>")
theorem dx_Unco_init (i : Nat) {pc n : Nat} {ins : Instr} (hi : cd_Unco_init[i]? = some (pc, ins, n)) : decode m_Unco_init.1 pc = .ok (ins, n) := dOK_get dm_Unco_init i hi
def cUnco (k : Int) : List Sh := ((0, 7, [], fun _ => vn) :: [])
theorem kc_Unco {X : List Sh} {σ : Mm} {k : Int} {d : Nat} (hd : 1 ≤ d) (hX : (X.length : Int) = k) (hR : Sm X) (hz : ∀ x j, k < x → σ x j = 0) : Ex d y_Unco_init [vr k] (X ++ [newSh 7]) σ (fun o L' σ' => o = (0, vn) ∧ L' = X ++ cUnco k ∧ σ' = σ) := by
  refine Ex.of hc_Unco_init (Nat.le_of_ble_eq_true rfl) ?_
  show GS m_Unco_init d 0 [vr k] [] (X ++ [newSh 7]) σ _
  refine g_aload_n (z := k) (dx_Unco_init 0 rfl) rfl ?_
  refine g_callO (dx_Unco_init 1 rfl) co_Unco_1 (by omega) (Nat.le_of_ble_eq_true rfl) ?_
  rw [show [newSh 7] = ((0, 7, [], fun _ => vn) :: []) from rfl]
  exact g_vret (dx_Unco_init 2 rfl) rfl ⟨rfl, rfl, rfl⟩
def cd_Agen_init : List (Nat × Instr × Nat) := [(0, .aload_n 0, 1), (1, .invokespecial 1, 3), (4, .return_, 1)]
theorem dm_Agen_init : cd_Agen_init.all (dOK prog_2_method_1_code) = true := by decide +kernel
def m_Agen_init : MI := (prog_2_method_1_code, "BallotDesk$Agenda", 1, none, [], "<init>")
theorem dx_Agen_init (i : Nat) {pc n : Nat} {ins : Instr} (hi : cd_Agen_init[i]? = some (pc, ins, n)) : decode m_Agen_init.1 pc = .ok (ins, n) := dOK_get dm_Agen_init i hi
def cAgen (k : Int) : List Sh := ((0, 8, [], fun _ => vn) :: [])
theorem kc_Agen {X : List Sh} {σ : Mm} {k : Int} {d : Nat} (hd : 1 ≤ d) (hX : (X.length : Int) = k) (hR : Sm X) (hz : ∀ x j, k < x → σ x j = 0) : Ex d y_Agen_init [vr k] (X ++ [newSh 8]) σ (fun o L' σ' => o = (0, vn) ∧ L' = X ++ cAgen k ∧ σ' = σ) := by
  refine Ex.of hc_Agen_init (Nat.le_of_ble_eq_true rfl) ?_
  show GS m_Agen_init d 0 [vr k] [] (X ++ [newSh 8]) σ _
  refine g_aload_n (z := k) (dx_Agen_init 0 rfl) rfl ?_
  refine g_callO (dx_Agen_init 1 rfl) co_Agen_1 (by omega) (Nat.le_of_ble_eq_true rfl) ?_
  rw [show [newSh 8] = ((0, 8, [], fun _ => vn) :: []) from rfl]
  exact g_vret (dx_Agen_init 2 rfl) rfl ⟨rfl, rfl, rfl⟩
def cd_Prof_init : List (Nat × Instr × Nat) := [(0, .aload_n 0, 1), (1, .invokespecial 3, 3), (4, .aload_n 0, 1), (5, .bipush 21, 2), (7, .bipush 7, 2), (9, .multianewarray 9 2, 4), (13, .putfield 11, 3), (16, .aload_n 0, 1), (17, .bipush 21, 2), (19, .newarray .int, 2), (21, .putfield 16, 3), (24, .aload_n 0, 1), (25, .bipush 7, 2), (27, .bipush 7, 2), (29, .multianewarray 9 2, 4), (33, .putfield 20, 3), (36, .aload_n 0, 1), (37, .bipush 7, 2), (39, .newarray .int, 2), (41, .putfield 23, 3), (44, .aload_n 0, 1), (45, .bipush 7, 2), (47, .newarray .int, 2), (49, .putfield 26, 3), (52, .aload_n 0, 1), (53, .bipush 7, 2), (55, .newarray .int, 2), (57, .putfield 29, 3), (60, .aload_n 0, 1), (61, .bipush 7, 2), (63, .newarray .int, 2), (65, .putfield 32, 3), (68, .return_, 1)]
theorem dm_Prof_init : cd_Prof_init.all (dOK prog_11_method_1_code) = true := by decide +kernel
def m_Prof_init : MI := (prog_11_method_1_code, "BallotDesk$Profile", 1, none, [], "<init>")
theorem dx_Prof_init (i : Nat) {pc n : Nat} {ins : Instr} (hi : cd_Prof_init[i]? = some (pc, ins, n)) : decode m_Prof_init.1 pc = .ok (ins, n) := dOK_get dm_Prof_init i hi
def cProf (k : Int) : List Sh := ((0, 1, [none, none, some (vr (k + 1)), some (vr (k + 23)), some (vr (k + 24)), some (vr (k + 32)), some (vr (k + 33)), some (vr (k + 34)), some (vr (k + 35))], fun _ => vn) :: (gridI 21 7 (k + 1) ++ [(1, 21, [], fun _ => vn)] ++ gridI 7 7 (k + 24) ++ [(1, 7, [], fun _ => vn)] ++ [(1, 7, [], fun _ => vn)] ++ [(1, 7, [], fun _ => vn)] ++ [(1, 7, [], fun _ => vn)]))
theorem kc_Prof {X : List Sh} {σ : Mm} {k : Int} {d : Nat} (hd : 1 ≤ d) (hX : (X.length : Int) = k) (hR : Sm X) (hz : ∀ x j, k < x → σ x j = 0) : Ex d y_Prof_init [vr k] (X ++ [newSh 1]) σ (fun o L' σ' => o = (0, vn) ∧ L' = X ++ cProf k ∧ σ' = σ) := by
  refine Ex.of hc_Prof_init (Nat.le_of_ble_eq_true rfl) ?_
  show GS m_Prof_init d 0 [vr k] [] (X ++ [newSh 1]) σ _
  refine g_aload_n (z := k) (dx_Prof_init 0 rfl) rfl ?_
  refine g_callO (dx_Prof_init 1 rfl) co_Prof_3 (by omega) (Nat.le_of_ble_eq_true rfl) ?_
  rw [show [newSh 1] = ((0, 1, [none, none, some vn, some vn, some vn, some vn, some vn, some vn, some vn], fun _ => vn) :: []) from rfl]
  refine g_aload_n (z := k) (dx_Prof_init 2 rfl) rfl ?_
  refine g_bipush (n := 21) (dx_Prof_init 3 rfl) ⟨by decide, by decide⟩ (by decide +kernel) ?_
  refine g_bipush (n := 7) (dx_Prof_init 4 rfl) ⟨by decide, by decide⟩ (by decide +kernel) ?_
  refine o_multi (q := k + 1) (m := 1) hX hR (dx_Prof_init 5 rfl) wd_167 (by decide) rfl (by simp only [List.length_cons, List.length_append, gridI_len, List.length_nil]) (by simp only [slt_cons, slt_app, slt_gridI, slt_nil]; exact Nat.le_of_ble_eq_true rfl) (by decide) (by omega) (fun x j h => hz x j (by omega)) ?_
  rw [show X ++ (_ ++ _) = X ++ ((0, 1, [none, none, some vn, some vn, some vn, some vn, some vn, some vn, some vn], fun _ => vn) :: (gridI 21 7 (k + 1))) from rfl]
  refine o_put (j := 2) (i := 0) (l' := ((0, 1, [none, none, some (vr (k + 1)), some vn, some vn, some vn, some vn, some vn, some vn], fun _ => vn) :: (gridI 21 7 (k + 1)))) hX (dx_Prof_init 6 rfl) (by omega) rfl (pl_Prof_11 1 (by decide) (by decide)) rfl rfl rfl rfl ?_
  refine g_aload_n (z := k) (dx_Prof_init 7 rfl) rfl ?_
  refine g_bipush (n := 21) (dx_Prof_init 8 rfl) ⟨by decide, by decide⟩ (by decide +kernel) ?_
  refine o_newa (q := k + 23) (m := 23) hX hR (dx_Prof_init 9 rfl) (by decide) (by decide) (by simp only [List.length_cons, List.length_append, gridI_len, List.length_nil]) (by simp only [slt_cons, slt_app, slt_gridI, slt_nil]; exact Nat.le_of_ble_eq_true rfl) (by decide) (by omega) (fun j => hz _ j (by omega)) ?_
  rw [show X ++ (_ ++ _) = X ++ ((0, 1, [none, none, some (vr (k + 1)), some vn, some vn, some vn, some vn, some vn, some vn], fun _ => vn) :: (gridI 21 7 (k + 1) ++ [(1, 21, [], fun _ => vn)])) from rfl]
  refine o_put (j := 3) (i := 0) (l' := ((0, 1, [none, none, some (vr (k + 1)), some (vr (k + 23)), some vn, some vn, some vn, some vn, some vn], fun _ => vn) :: (gridI 21 7 (k + 1) ++ [(1, 21, [], fun _ => vn)]))) hX (dx_Prof_init 10 rfl) (by omega) rfl (pl_Prof_16 1 (by decide) (by decide)) rfl rfl rfl rfl ?_
  refine g_aload_n (z := k) (dx_Prof_init 11 rfl) rfl ?_
  refine g_bipush (n := 7) (dx_Prof_init 12 rfl) ⟨by decide, by decide⟩ (by decide +kernel) ?_
  refine g_bipush (n := 7) (dx_Prof_init 13 rfl) ⟨by decide, by decide⟩ (by decide +kernel) ?_
  refine o_multi (q := k + 24) (m := 24) hX hR (dx_Prof_init 14 rfl) wd_167 (by decide) rfl (by simp only [List.length_cons, List.length_append, gridI_len, List.length_nil]) (by simp only [slt_cons, slt_app, slt_gridI, slt_nil]; exact Nat.le_of_ble_eq_true rfl) (by decide) (by omega) (fun x j h => hz x j (by omega)) ?_
  rw [show X ++ (_ ++ _) = X ++ ((0, 1, [none, none, some (vr (k + 1)), some (vr (k + 23)), some vn, some vn, some vn, some vn, some vn], fun _ => vn) :: (gridI 21 7 (k + 1) ++ [(1, 21, [], fun _ => vn)] ++ gridI 7 7 (k + 24))) from rfl]
  refine o_put (j := 4) (i := 0) (l' := ((0, 1, [none, none, some (vr (k + 1)), some (vr (k + 23)), some (vr (k + 24)), some vn, some vn, some vn, some vn], fun _ => vn) :: (gridI 21 7 (k + 1) ++ [(1, 21, [], fun _ => vn)] ++ gridI 7 7 (k + 24)))) hX (dx_Prof_init 15 rfl) (by omega) rfl (pl_Prof_20 1 (by decide) (by decide)) rfl rfl rfl rfl ?_
  refine g_aload_n (z := k) (dx_Prof_init 16 rfl) rfl ?_
  refine g_bipush (n := 7) (dx_Prof_init 17 rfl) ⟨by decide, by decide⟩ (by decide +kernel) ?_
  refine o_newa (q := k + 32) (m := 32) hX hR (dx_Prof_init 18 rfl) (by decide) (by decide) (by simp only [List.length_cons, List.length_append, gridI_len, List.length_nil]) (by simp only [slt_cons, slt_app, slt_gridI, slt_nil]; exact Nat.le_of_ble_eq_true rfl) (by decide) (by omega) (fun j => hz _ j (by omega)) ?_
  rw [show X ++ (_ ++ _) = X ++ ((0, 1, [none, none, some (vr (k + 1)), some (vr (k + 23)), some (vr (k + 24)), some vn, some vn, some vn, some vn], fun _ => vn) :: (gridI 21 7 (k + 1) ++ [(1, 21, [], fun _ => vn)] ++ gridI 7 7 (k + 24) ++ [(1, 7, [], fun _ => vn)])) from rfl]
  refine o_put (j := 5) (i := 0) (l' := ((0, 1, [none, none, some (vr (k + 1)), some (vr (k + 23)), some (vr (k + 24)), some (vr (k + 32)), some vn, some vn, some vn], fun _ => vn) :: (gridI 21 7 (k + 1) ++ [(1, 21, [], fun _ => vn)] ++ gridI 7 7 (k + 24) ++ [(1, 7, [], fun _ => vn)]))) hX (dx_Prof_init 19 rfl) (by omega) rfl (pl_Prof_23 1 (by decide) (by decide)) rfl rfl rfl rfl ?_
  refine g_aload_n (z := k) (dx_Prof_init 20 rfl) rfl ?_
  refine g_bipush (n := 7) (dx_Prof_init 21 rfl) ⟨by decide, by decide⟩ (by decide +kernel) ?_
  refine o_newa (q := k + 33) (m := 33) hX hR (dx_Prof_init 22 rfl) (by decide) (by decide) (by simp only [List.length_cons, List.length_append, gridI_len, List.length_nil]) (by simp only [slt_cons, slt_app, slt_gridI, slt_nil]; exact Nat.le_of_ble_eq_true rfl) (by decide) (by omega) (fun j => hz _ j (by omega)) ?_
  rw [show X ++ (_ ++ _) = X ++ ((0, 1, [none, none, some (vr (k + 1)), some (vr (k + 23)), some (vr (k + 24)), some (vr (k + 32)), some vn, some vn, some vn], fun _ => vn) :: (gridI 21 7 (k + 1) ++ [(1, 21, [], fun _ => vn)] ++ gridI 7 7 (k + 24) ++ [(1, 7, [], fun _ => vn)] ++ [(1, 7, [], fun _ => vn)])) from rfl]
  refine o_put (j := 6) (i := 0) (l' := ((0, 1, [none, none, some (vr (k + 1)), some (vr (k + 23)), some (vr (k + 24)), some (vr (k + 32)), some (vr (k + 33)), some vn, some vn], fun _ => vn) :: (gridI 21 7 (k + 1) ++ [(1, 21, [], fun _ => vn)] ++ gridI 7 7 (k + 24) ++ [(1, 7, [], fun _ => vn)] ++ [(1, 7, [], fun _ => vn)]))) hX (dx_Prof_init 23 rfl) (by omega) rfl (pl_Prof_26 1 (by decide) (by decide)) rfl rfl rfl rfl ?_
  refine g_aload_n (z := k) (dx_Prof_init 24 rfl) rfl ?_
  refine g_bipush (n := 7) (dx_Prof_init 25 rfl) ⟨by decide, by decide⟩ (by decide +kernel) ?_
  refine o_newa (q := k + 34) (m := 34) hX hR (dx_Prof_init 26 rfl) (by decide) (by decide) (by simp only [List.length_cons, List.length_append, gridI_len, List.length_nil]) (by simp only [slt_cons, slt_app, slt_gridI, slt_nil]; exact Nat.le_of_ble_eq_true rfl) (by decide) (by omega) (fun j => hz _ j (by omega)) ?_
  rw [show X ++ (_ ++ _) = X ++ ((0, 1, [none, none, some (vr (k + 1)), some (vr (k + 23)), some (vr (k + 24)), some (vr (k + 32)), some (vr (k + 33)), some vn, some vn], fun _ => vn) :: (gridI 21 7 (k + 1) ++ [(1, 21, [], fun _ => vn)] ++ gridI 7 7 (k + 24) ++ [(1, 7, [], fun _ => vn)] ++ [(1, 7, [], fun _ => vn)] ++ [(1, 7, [], fun _ => vn)])) from rfl]
  refine o_put (j := 7) (i := 0) (l' := ((0, 1, [none, none, some (vr (k + 1)), some (vr (k + 23)), some (vr (k + 24)), some (vr (k + 32)), some (vr (k + 33)), some (vr (k + 34)), some vn], fun _ => vn) :: (gridI 21 7 (k + 1) ++ [(1, 21, [], fun _ => vn)] ++ gridI 7 7 (k + 24) ++ [(1, 7, [], fun _ => vn)] ++ [(1, 7, [], fun _ => vn)] ++ [(1, 7, [], fun _ => vn)]))) hX (dx_Prof_init 27 rfl) (by omega) rfl (pl_Prof_29 1 (by decide) (by decide)) rfl rfl rfl rfl ?_
  refine g_aload_n (z := k) (dx_Prof_init 28 rfl) rfl ?_
  refine g_bipush (n := 7) (dx_Prof_init 29 rfl) ⟨by decide, by decide⟩ (by decide +kernel) ?_
  refine o_newa (q := k + 35) (m := 35) hX hR (dx_Prof_init 30 rfl) (by decide) (by decide) (by simp only [List.length_cons, List.length_append, gridI_len, List.length_nil]) (by simp only [slt_cons, slt_app, slt_gridI, slt_nil]; exact Nat.le_of_ble_eq_true rfl) (by decide) (by omega) (fun j => hz _ j (by omega)) ?_
  rw [show X ++ (_ ++ _) = X ++ ((0, 1, [none, none, some (vr (k + 1)), some (vr (k + 23)), some (vr (k + 24)), some (vr (k + 32)), some (vr (k + 33)), some (vr (k + 34)), some vn], fun _ => vn) :: (gridI 21 7 (k + 1) ++ [(1, 21, [], fun _ => vn)] ++ gridI 7 7 (k + 24) ++ [(1, 7, [], fun _ => vn)] ++ [(1, 7, [], fun _ => vn)] ++ [(1, 7, [], fun _ => vn)] ++ [(1, 7, [], fun _ => vn)])) from rfl]
  refine o_put (j := 8) (i := 0) (l' := ((0, 1, [none, none, some (vr (k + 1)), some (vr (k + 23)), some (vr (k + 24)), some (vr (k + 32)), some (vr (k + 33)), some (vr (k + 34)), some (vr (k + 35))], fun _ => vn) :: (gridI 21 7 (k + 1) ++ [(1, 21, [], fun _ => vn)] ++ gridI 7 7 (k + 24) ++ [(1, 7, [], fun _ => vn)] ++ [(1, 7, [], fun _ => vn)] ++ [(1, 7, [], fun _ => vn)] ++ [(1, 7, [], fun _ => vn)]))) hX (dx_Prof_init 31 rfl) (by omega) rfl (pl_Prof_32 1 (by decide) (by decide)) rfl rfl rfl rfl ?_
  exact g_vret (dx_Prof_init 32 rfl) rfl ⟨rfl, rfl, rfl⟩
def cd_Scor_init : List (Nat × Instr × Nat) := [(0, .aload_n 0, 1), (1, .invokespecial 1, 3), (4, .aload_n 0, 1), (5, .iload_n 1, 1), (6, .putfield 7, 3), (9, .return_, 1)]
theorem dm_Scor_init : cd_Scor_init.all (dOK prog_14_method_1_code) = true := by decide +kernel
def m_Scor_init : MI := (prog_14_method_1_code, "BallotDesk$Scored", 2, none, [], "<init>")
theorem dx_Scor_init (i : Nat) {pc n : Nat} {ins : Instr} (hi : cd_Scor_init[i]? = some (pc, ins, n)) : decode m_Scor_init.1 pc = .ok (ins, n) := dOK_get dm_Scor_init i hi
theorem kc_Scor {X : List Sh} {σ : Mm} {k z : Int} {d ci : Nat} (hd : 1 ≤ d) (hX : (X.length : Int) = k) (hc : 9 ≤ ci ∧ ci ≤ 13) (hz : z = 0 ∨ z = 1) : Ex d y_Scor_init [vr k, vi z] (X ++ [(0, ci, [none], fun _ => vn)]) σ (fun o L' σ' => o = (0, vn) ∧ L' = X ++ [(0, ci, [none], fun _ => vn)] ∧ σ' = upd2 σ k 0 z) := by
  refine Ex.of hc_Scor_init (Nat.le_of_ble_eq_true rfl) ?_
  show GS m_Scor_init d 0 [vr k, vi z] [] _ σ _
  refine g_aload_n (z := k) (dx_Scor_init 0 rfl) rfl ?_
  refine g_callO (dx_Scor_init 1 rfl) co_Scor_1 hd (Nat.le_of_ble_eq_true rfl) ?_
  refine g_aload_n (z := k) (dx_Scor_init 2 rfl) rfl ?_
  refine g_iload_n (z := z) (dx_Scor_init 3 rfl) rfl ?_
  refine o_putB (j := 0) (i := 0) hX (dx_Scor_init 4 rfl) (by omega) rfl (pl_Scor_7 ci hc.1 hc.2) rfl rfl hz ?_
  exact g_vret (dx_Scor_init 5 rfl) rfl ⟨rfl, rfl, rfl⟩
def cd_Firs_init : List (Nat × Instr × Nat) := [(0, .aload_n 0, 1), (1, .iconst 1, 1), (2, .invokespecial 1, 3), (5, .return_, 1)]
theorem dm_Firs_init : cd_Firs_init.all (dOK prog_6_method_1_code) = true := by decide +kernel
def m_Firs_init : MI := (prog_6_method_1_code, "BallotDesk$Firsts", 1, none, [], "<init>")
theorem dx_Firs_init (i : Nat) {pc n : Nat} {ins : Instr} (hi : cd_Firs_init[i]? = some (pc, ins, n)) : decode m_Firs_init.1 pc = .ok (ins, n) := dOK_get dm_Firs_init i hi
theorem kc_Firs {X : List Sh} {σ : Mm} {k : Int} {d : Nat} (hd : 1 ≤ d) (hX : (X.length : Int) = k) : Ex (d + 1) y_Firs_init [vr k] (X ++ [newSh 9]) σ (fun o L' σ' => o = (0, vn) ∧ L' = X ++ [(0, 9, [none], fun _ => vn)] ∧ σ' = upd2 σ k 0 1) := by
  refine Ex.of hc_Firs_init (Nat.le_of_ble_eq_true rfl) ?_
  show GS m_Firs_init (d + 1) 0 [vr k] [] _ σ _
  refine g_aload_n (z := k) (dx_Firs_init 0 rfl) rfl ?_
  refine g_iconst (n := 1) (dx_Firs_init 1 rfl) ⟨by decide, by decide⟩ ?_
  refine o_call (as := [vi 1]) (rest := []) (dx_Firs_init 2 rfl) (by omega) ci_Firs_1 (Nat.le_of_ble_eq_true rfl) (kc_Scor (X := X) (ci := 9) hd hX (by decide) (by decide)) ?_
  rintro _ rfl
  exact g_vret (dx_Firs_init 3 rfl) rfl ⟨rfl, rfl, rfl⟩
def cd_Last_init : List (Nat × Instr × Nat) := [(0, .aload_n 0, 1), (1, .iconst 0, 1), (2, .invokespecial 1, 3), (5, .return_, 1)]
theorem dm_Last_init : cd_Last_init.all (dOK prog_7_method_1_code) = true := by decide +kernel
def m_Last_init : MI := (prog_7_method_1_code, "BallotDesk$Lasts", 1, none, [], "<init>")
theorem dx_Last_init (i : Nat) {pc n : Nat} {ins : Instr} (hi : cd_Last_init[i]? = some (pc, ins, n)) : decode m_Last_init.1 pc = .ok (ins, n) := dOK_get dm_Last_init i hi
theorem kc_Last {X : List Sh} {σ : Mm} {k : Int} {d : Nat} (hd : 1 ≤ d) (hX : (X.length : Int) = k) : Ex (d + 1) y_Last_init [vr k] (X ++ [newSh 10]) σ (fun o L' σ' => o = (0, vn) ∧ L' = X ++ [(0, 10, [none], fun _ => vn)] ∧ σ' = upd2 σ k 0 0) := by
  refine Ex.of hc_Last_init (Nat.le_of_ble_eq_true rfl) ?_
  show GS m_Last_init (d + 1) 0 [vr k] [] _ σ _
  refine g_aload_n (z := k) (dx_Last_init 0 rfl) rfl ?_
  refine g_iconst (n := 0) (dx_Last_init 1 rfl) ⟨by decide, by decide⟩ ?_
  refine o_call (as := [vi 0]) (rest := []) (dx_Last_init 2 rfl) (by omega) ci_Last_1 (Nat.le_of_ble_eq_true rfl) (kc_Scor (X := X) (ci := 10) hd hX (by decide) (by decide)) ?_
  rintro _ rfl
  exact g_vret (dx_Last_init 3 rfl) rfl ⟨rfl, rfl, rfl⟩
def cd_Poin_init : List (Nat × Instr × Nat) := [(0, .aload_n 0, 1), (1, .iconst 1, 1), (2, .invokespecial 1, 3), (5, .return_, 1)]
theorem dm_Poin_init : cd_Poin_init.all (dOK prog_10_method_1_code) = true := by decide +kernel
def m_Poin_init : MI := (prog_10_method_1_code, "BallotDesk$Points", 1, none, [], "<init>")
theorem dx_Poin_init (i : Nat) {pc n : Nat} {ins : Instr} (hi : cd_Poin_init[i]? = some (pc, ins, n)) : decode m_Poin_init.1 pc = .ok (ins, n) := dOK_get dm_Poin_init i hi
theorem kc_Poin {X : List Sh} {σ : Mm} {k : Int} {d : Nat} (hd : 1 ≤ d) (hX : (X.length : Int) = k) : Ex (d + 1) y_Poin_init [vr k] (X ++ [newSh 11]) σ (fun o L' σ' => o = (0, vn) ∧ L' = X ++ [(0, 11, [none], fun _ => vn)] ∧ σ' = upd2 σ k 0 1) := by
  refine Ex.of hc_Poin_init (Nat.le_of_ble_eq_true rfl) ?_
  show GS m_Poin_init (d + 1) 0 [vr k] [] _ σ _
  refine g_aload_n (z := k) (dx_Poin_init 0 rfl) rfl ?_
  refine g_iconst (n := 1) (dx_Poin_init 1 rfl) ⟨by decide, by decide⟩ ?_
  refine o_call (as := [vi 1]) (rest := []) (dx_Poin_init 2 rfl) (by omega) ci_Poin_1 (Nat.le_of_ble_eq_true rfl) (kc_Scor (X := X) (ci := 11) hd hX (by decide) (by decide)) ?_
  rintro _ rfl
  exact g_vret (dx_Poin_init 3 rfl) rfl ⟨rfl, rfl, rfl⟩
def cd_Defe_init : List (Nat × Instr × Nat) := [(0, .aload_n 0, 1), (1, .iconst 0, 1), (2, .invokespecial 1, 3), (5, .return_, 1)]
theorem dm_Defe_init : cd_Defe_init.all (dOK prog_4_method_1_code) = true := by decide +kernel
def m_Defe_init : MI := (prog_4_method_1_code, "BallotDesk$Defeat", 1, none, [], "<init>")
theorem dx_Defe_init (i : Nat) {pc n : Nat} {ins : Instr} (hi : cd_Defe_init[i]? = some (pc, ins, n)) : decode m_Defe_init.1 pc = .ok (ins, n) := dOK_get dm_Defe_init i hi
theorem kc_Defe {X : List Sh} {σ : Mm} {k : Int} {d : Nat} (hd : 1 ≤ d) (hX : (X.length : Int) = k) : Ex (d + 1) y_Defe_init [vr k] (X ++ [newSh 12]) σ (fun o L' σ' => o = (0, vn) ∧ L' = X ++ [(0, 12, [none], fun _ => vn)] ∧ σ' = upd2 σ k 0 0) := by
  refine Ex.of hc_Defe_init (Nat.le_of_ble_eq_true rfl) ?_
  show GS m_Defe_init (d + 1) 0 [vr k] [] _ σ _
  refine g_aload_n (z := k) (dx_Defe_init 0 rfl) rfl ?_
  refine g_iconst (n := 0) (dx_Defe_init 1 rfl) ⟨by decide, by decide⟩ ?_
  refine o_call (as := [vi 0]) (rest := []) (dx_Defe_init 2 rfl) (by omega) ci_Defe_1 (Nat.le_of_ble_eq_true rfl) (kc_Scor (X := X) (ci := 12) hd hX (by decide) (by decide)) ?_
  rintro _ rfl
  exact g_vret (dx_Defe_init 3 rfl) rfl ⟨rfl, rfl, rfl⟩
def cd_Wins_init : List (Nat × Instr × Nat) := [(0, .aload_n 0, 1), (1, .iconst 1, 1), (2, .invokespecial 1, 3), (5, .return_, 1)]
theorem dm_Wins_init : cd_Wins_init.all (dOK prog_16_method_1_code) = true := by decide +kernel
def m_Wins_init : MI := (prog_16_method_1_code, "BallotDesk$Wins", 1, none, [], "<init>")
theorem dx_Wins_init (i : Nat) {pc n : Nat} {ins : Instr} (hi : cd_Wins_init[i]? = some (pc, ins, n)) : decode m_Wins_init.1 pc = .ok (ins, n) := dOK_get dm_Wins_init i hi
theorem kc_Wins {X : List Sh} {σ : Mm} {k : Int} {d : Nat} (hd : 1 ≤ d) (hX : (X.length : Int) = k) : Ex (d + 1) y_Wins_init [vr k] (X ++ [newSh 13]) σ (fun o L' σ' => o = (0, vn) ∧ L' = X ++ [(0, 13, [none], fun _ => vn)] ∧ σ' = upd2 σ k 0 1) := by
  refine Ex.of hc_Wins_init (Nat.le_of_ble_eq_true rfl) ?_
  show GS m_Wins_init (d + 1) 0 [vr k] [] _ σ _
  refine g_aload_n (z := k) (dx_Wins_init 0 rfl) rfl ?_
  refine g_iconst (n := 1) (dx_Wins_init 1 rfl) ⟨by decide, by decide⟩ ?_
  refine o_call (as := [vi 1]) (rest := []) (dx_Wins_init 2 rfl) (by omega) ci_Wins_1 (Nat.le_of_ble_eq_true rfl) (kc_Scor (X := X) (ci := 13) hd hX (by decide) (by decide)) ?_
  rintro _ rfl
  exact g_vret (dx_Wins_init 3 rfl) rfl ⟨rfl, rfl, rfl⟩
