section
variable {μ : MI} {d pc pc' : Nat} {A st st' : List Vl} {L : List Sh} {σ : Mm} {P : Out → List Sh → Mm → Prop}
theorem in_arr {cA : ClassId} {n : Nat} {f : Nat → Value} {i : Int} (h0 : 0 ≤ i) (hn : i < n) (hi : in32 i) : ¬ (Int32.ofInt i < 0 ∨ (arrV cA n f).slots.size ≤ (Int32.ofInt i).toNatClampNeg) := by
  rw [arrV_size, cl32 h0 hi]
  intro h
  rcases h with h | h
  · exact neg32 h0 hi h
  · omega
theorem rd_arr {cA : ClassId} {n : Nat} {f : Nat → Value} {i : Int} (h0 : 0 ≤ i) (hn : i < n) (hi : in32 i) : (arrV cA n f).slots[(Int32.ofInt i).toNatClampNeg]? = some (f i.toNat) := by
  rw [cl32 h0 hi]
  exact arrV_read cA f (by omega)
theorem tn {i : Int} (h0 : 0 ≤ i) : ((i.toNat : Nat) : Int) = i := Int.toNat_of_nonneg h0
theorem g_iaload {k i : Int} {n : Nat} {fs : List (Option Vl)} {gg : Int → Vl} (hd : decode μ.1 pc = .ok (.iaload, 1)) (hk : look L k = some (1, n, fs, gg)) (h0 : 0 ≤ i) (hn : i < n) (kk : GS μ d (pc + 1) A (vi (σ k i) :: st) L σ P) : GS μ d pc A (vi i :: vr k :: st) L σ P := by
  intro p l e R s m args below meth c b0 b D H0 Ls H locs cells slots ls S
  obtain ⟨q, rfl, hq⟩ := look_nat hk
  obtain ⟨h1, h2⟩ := S.2.1.cel hq
  have hi : in32 i := okh S.2.2.2.2.2.2.2
  have hv : in32 (σ q i) := by have := h2 i.toNat (by omega); rw [tn h0] at this; exact this
  have K := kk p l e R s m args below meth c b0 b D H0 Ls H locs cells slots ls ⟨S.1, S.2.1, S.2.2.1, S.2.2.2.1, S.2.2.2.2.1, S.2.2.2.2.2.1, S.2.2.2.2.2.2.1, ok1 (okt (okt S.2.2.2.2.2.2.2)) hv⟩
  exact W.iald (v := .int (Int32.ofInt (σ q i))) S.1.1 S.1.2.1 h1 (S.1.2.2.2.2.2.2.2.2.2.1.2.1.1 _ _) (fun h => by cases h) (in_arr h0 hn hi) (by rw [rd_arr h0 hn hi, tn h0]) rfl rfl hd K
theorem g_baload {k i : Int} {n : Nat} {fs : List (Option Vl)} {gg : Int → Vl} (hd : decode μ.1 pc = .ok (.baload, 1)) (hk : look L k = some (2, n, fs, gg)) (h0 : 0 ≤ i) (hn : i < n) (kk : GS μ d (pc + 1) A (vi (σ k i) :: st) L σ P) : GS μ d pc A (vi i :: vr k :: st) L σ P := by
  intro p l e R s m args below meth c b0 b D H0 Ls H locs cells slots ls S
  obtain ⟨q, rfl, hq⟩ := look_nat hk
  obtain ⟨h1, h2⟩ := S.2.1.cel hq
  have hi : in32 i := okh S.2.2.2.2.2.2.2
  have hv : in32 (σ q i) := by
    have := h2 i.toNat (by omega)
    rw [tn h0] at this
    unfold in32
    omega
  have K := kk p l e R s m args below meth c b0 b D H0 Ls H locs cells slots ls ⟨S.1, S.2.1, S.2.2.1, S.2.2.2.1, S.2.2.2.2.1, S.2.2.2.2.2.1, S.2.2.2.2.2.2.1, ok1 (okt (okt S.2.2.2.2.2.2.2)) hv⟩
  exact W.zald (v := .int (Int32.ofInt (σ q i))) S.1.1 S.1.2.1 h1 (S.1.2.2.2.2.2.2.2.2.2.1.2.2.1.1 _ _) (fun h => by cases h) (in_arr h0 hn hi) (by rw [rd_arr h0 hn hi, tn h0]) rfl rfl hd K
theorem g_laload {k i : Int} {n : Nat} {fs : List (Option Vl)} {gg : Int → Vl} (hd : decode μ.1 pc = .ok (.laload, 1)) (hk : look L k = some (3, n, fs, gg)) (h0 : 0 ≤ i) (hn : i < n) (kk : GS μ d (pc + 1) A (vl (σ k i) :: st) L σ P) : GS μ d pc A (vi i :: vr k :: st) L σ P := by
  intro p l e R s m args below meth c b0 b D H0 Ls H locs cells slots ls S
  obtain ⟨q, rfl, hq⟩ := look_nat hk
  obtain ⟨h1, h2⟩ := S.2.1.cel hq
  have hi : in32 i := okh S.2.2.2.2.2.2.2
  have hv : in64 (σ q i) := by have := h2 i.toNat (by omega); rw [tn h0] at this; exact this
  have K := kk p l e R s m args below meth c b0 b D H0 Ls H locs cells slots ls ⟨S.1, S.2.1, S.2.2.1, S.2.2.2.1, S.2.2.2.2.1, S.2.2.2.2.2.1, S.2.2.2.2.2.2.1, ok1 (v := vl (σ q i)) (okt (okt S.2.2.2.2.2.2.2)) hv⟩
  exact W.lald (v := .long (Int64.ofInt (σ q i))) S.1.1 S.1.2.1 h1 (S.1.2.2.2.2.2.2.2.2.2.1.2.2.2.1.1 _ _) (fun h => by cases h) (in_arr h0 hn hi) (by rw [rd_arr h0 hn hi, tn h0]) rfl rfl hd K
theorem g_aaload {k i k' : Int} {kd n : Nat} {fs : List (Option Vl)} {gg : Int → Vl} (hd : decode μ.1 pc = .ok (.aaload, 1)) (hkd : kd = 4 ∨ kd = 5) (hk : look L k = some (kd, n, fs, gg)) (h0 : 0 ≤ i) (hn : i < n) (hg : gg i = vr k') (kk : GS μ d (pc + 1) A (vr k' :: st) L σ P) : GS μ d pc A (vi i :: vr k :: st) L σ P := by
  intro p l e R s m args below meth c b0 b D H0 Ls H locs cells slots ls S
  obtain ⟨q, rfl, hq⟩ := look_nat hk
  have hi : in32 i := okh S.2.2.2.2.2.2.2
  have K := kk p l e R s m args below meth c b0 b D H0 Ls H locs cells slots ls ⟨S.1, S.2.1, S.2.2.1, S.2.2.2.1, S.2.2.2.2.1, S.2.2.2.2.2.1, S.2.2.2.2.2.2.1, ok1 (v := vr k') (okt (okt S.2.2.2.2.2.2.2)) trivial⟩
  have hc := S.2.1.cel hq
  rcases hkd with rfl | rfl
  · obtain ⟨h1, h2⟩ := hc
    exact W.aald (v := cv b0 b (vr k')) (ty := .array .int) S.1.1 S.1.2.1 h1 (S.1.2.2.2.2.2.2.2.2.2.1.2.2.2.2.1.1 _ _) rfl (fun h => by cases h) (in_arr h0 hn hi) (by rw [rd_arr h0 hn hi, tn h0, hg]) rfl rfl hd K
  · obtain ⟨h1, h2⟩ := hc
    exact W.aald (v := cv b0 b (vr k')) (ty := .object "BallotDesk$Rule") S.1.1 S.1.2.1 h1 (S.1.2.2.2.2.2.2.2.2.2.1.2.2.2.2.2.1.1 _ _) rfl (fun h => by cases h) (in_arr h0 hn hi) (by rw [rd_arr h0 hn hi, tn h0, hg]) rfl rfl hd K
/-- the script -/
theorem g_sload {i : Int} (hd : decode μ.1 pc = .ok (.iaload, 1)) (h0 : 0 ≤ i) (hn : i < σ (-2) 0) (kk : GS μ d (pc + 1) A (vi (σ (-1) i) :: st) L σ P) : GS μ d pc A (vi i :: vs :: st) L σ P := by
  intro p l e R s m args below meth c b0 b D H0 Ls H locs cells slots ls S
  obtain ⟨r1, -, r3, ⟨scr, q1, q2, q3, q4⟩, hb0, -, -⟩ := S.2.1
  obtain ⟨scr', z1, z2, z3⟩ := S.1.2.2.2.2.2.2.2.2.2.1.2.2.2.2.2.2.2
  cases q1.symm.trans z1
  have hi : in32 i := okh S.2.2.2.2.2.2.2
  have hlt : i.toNat < scr.slots.size := by omega
  have h5 := q4 i.toNat hlt
  rw [tn h0] at h5
  have K := kk p l e R s m args below meth c b0 b D H0 Ls H locs cells slots ls ⟨S.1, S.2.1, S.2.2.1, S.2.2.2.1, S.2.2.2.2.1, S.2.2.2.2.2.1, S.2.2.2.2.2.2.1, ok1 (okt (okt S.2.2.2.2.2.2.2)) h5.2⟩
  refine W.iald (v := .int (Int32.ofInt (σ (-1) i))) S.1.1 S.1.2.1 (by rw [r3 b hb0]; exact q1) z2 z3 ?_ (by rw [cl32 h0 hi]; exact h5.1) rfl rfl hd K
  rw [cl32 h0 hi]
  intro h
  rcases h with h | h
  · exact neg32 h0 hi h
  · omega
theorem g_slen (hd : decode μ.1 pc = .ok (.arraylength, 1)) (kk : 0 ≤ σ (-2) 0 → σ (-2) 0 ≤ 2048 → GS μ d (pc + 1) A (vi (σ (-2) 0) :: st) L σ P) : GS μ d pc A (vs :: st) L σ P := by
  intro p l e R s m args below meth c b0 b D H0 Ls H locs cells slots ls S
  obtain ⟨r1, -, r3, ⟨scr, q1, q2, q3, q4⟩, hb0, -, -⟩ := S.2.1
  obtain ⟨scr', z1, z2, z3⟩ := S.1.2.2.2.2.2.2.2.2.2.1.2.2.2.2.2.2.2
  cases q1.symm.trans z1
  have hr : in32 (σ (-2) 0) := by unfold in32; omega
  have K := kk (by omega) (by omega) p l e R s m args below meth c b0 b D H0 Ls H locs cells slots ls ⟨S.1, S.2.1, S.2.2.1, S.2.2.2.1, S.2.2.2.2.1, S.2.2.2.2.2.1, S.2.2.2.2.2.2.1, ok1 (okt S.2.2.2.2.2.2.2) hr⟩
  refine W.alen (n := Int32.ofInt (σ (-2) 0)) S.1.1 S.1.2.1 (by rw [r3 b hb0]; exact q1) z2 ?_ rfl rfl hd K
  rw [← q2]
  rfl
theorem g_alen {k : Int} {kd n : Nat} {fs : List (Option Vl)} {gg : Int → Vl} (hd : decode μ.1 pc = .ok (.arraylength, 1)) (hkd : kd = 1 ∨ kd = 2 ∨ kd = 5) (hk : look L k = some (kd, n, fs, gg)) (hn : n < 2147483648) (kk : GS μ d (pc + 1) A (vi n :: st) L σ P) : GS μ d pc A (vr k :: st) L σ P := by
  intro p l e R s m args below meth c b0 b D H0 Ls H locs cells slots ls S
  obtain ⟨q, rfl, hq⟩ := look_nat hk
  have hr : in32 (n : Int) := by unfold in32; omega
  have K := kk p l e R s m args below meth c b0 b D H0 Ls H locs cells slots ls ⟨S.1, S.2.1, S.2.2.1, S.2.2.2.1, S.2.2.2.2.1, S.2.2.2.2.2.1, S.2.2.2.2.2.2.1, ok1 (okt S.2.2.2.2.2.2.2) hr⟩
  have hc := S.2.1.cel hq
  rcases hkd with rfl | rfl | rfl
  · exact W.alen (n := Int32.ofInt n) S.1.1 S.1.2.1 hc.1 (S.1.2.2.2.2.2.2.2.2.2.1.2.1.1 _ _) (by rw [arrV_size]; rfl) rfl rfl hd K
  · exact W.alen (n := Int32.ofInt n) S.1.1 S.1.2.1 hc.1 (S.1.2.2.2.2.2.2.2.2.2.1.2.2.1.1 _ _) (by rw [arrV_size]; rfl) rfl rfl hd K
  · exact W.alen (n := Int32.ofInt n) S.1.1 S.1.2.1 hc.1 (S.1.2.2.2.2.2.2.2.2.2.1.2.2.2.2.2.1.1 _ _) (by rw [arrV_size]; rfl) rfl rfl hd K
/-- stores -/
theorem g_asto {k i z : Int} {kd n : Nat} {fs : List (Option Vl)} {gg : Int → Vl} {v : Vl} (hk : look L k = some (kd, n, fs, gg)) (h0 : 0 ≤ i) (hkd : kd ≠ 0)
    (hcel : ∀ (b0 b : Nat) (D : va_G) (H H' : Heap) (q : Nat), k = q → (∀ u ∈ v :: vi i :: vr k :: st, okV u) → celOK b0 b D (kd, n, fs, gg) (σ k) H (b0 + q) → (∀ cell : Cell, H[b0 + q]? = some cell → H'[b0 + q]? = some (cell.setSlot i.toNat (cv b0 b v))) → celOK b0 b D (kd, n, fs, gg) (upd2 σ k i z k) H' (b0 + q))
    (h : ∀ {p : Program} {l : Launch} {e : Env} {R : Room} {s : State} {m : MethodId} {args : Array Value} {below : List Frame} {meth : Method} {c : Code} {H : Heap} {locs : List Loc} {cells slots : Nat} {Q : State → Prop} {ls : Array Slot} (b0 b : Nat) (D : va_G) (H0 : Heap) (q : Nat), k = q → p.tables.exec = Jvm.exec → c.code = μ.1 → KN b D H0 s → (∀ u ∈ v :: vi i :: vr k :: st, okV u) → celOK b0 b D (kd, n, fs, gg) (σ k) H (b0 + q) →
      (∀ (H' : Heap) (i' : Nat), (∀ cell : Cell, H[b0 + q]? = some cell → H'[b0 + q]? = some (cell.setSlot i.toNat (cv b0 b v))) → H'.size = H.size → (∀ x, x ≠ b0 + q → H'[x]? = H[x]?) → W p l e R s m args below meth c H' (locs ++ [⟨b0 + q, i'⟩]) cells slots Q (F0 m pc' ls (st.map (cv b0 b)))) → W p l e R s m args below meth c H locs cells slots Q (F0 m pc ls ((v :: vi i :: vr k :: st).map (cv b0 b))))
    (kk : GS μ d pc' A st L (upd2 σ k i z) P) : GS μ d pc A (v :: vi i :: vr k :: st) L σ P := by
  intro p l e R s m args below meth c b0 b D H0 Ls H locs cells slots ls S
  obtain ⟨q, rfl, hq⟩ := look_nat hk
  refine h b0 b D H0 q rfl S.1.1 S.1.2.1 S.1.2.2.2.2.2.2.2.2.2.1 S.2.2.2.2.2.2.2 (S.2.1.cel hq) (fun H' i' e1 e2 e3 => ?_)
  refine kk p l e R s m args below meth c b0 b D H0 Ls H' _ cells slots ls ⟨S.1, ?_, locs_ok S.2.2.1 (by omega), S.2.2.2.1, S.2.2.2.2.1, S.2.2.2.2.2.1, S.2.2.2.2.2.2.1, okt (okt (okt S.2.2.2.2.2.2.2))⟩
  have := S.2.1.put (σ' := upd2 σ q i z) (sh' := (kd, n, fs, gg)) hq e2 e3 (hcel b0 b D H H' q rfl S.2.2.2.2.2.2.2 (S.2.1.cel hq) e1) (fun k' h => upd2_ne h) rfl
  rw [set_same hq] at this
  exact this
theorem upd2_at {σ : Mm} {k i z : Int} {j : Nat} (h0 : 0 ≤ i) : upd2 σ k i z k j = if j = i.toNat then z else σ k j := by
  unfold upd2
  by_cases e : j = i.toNat
  · have : (j : Int) = i := by omega
    rw [if_pos ⟨rfl, this⟩, if_pos e]
  · have : ¬ (j : Int) = i := by omega
    rw [if_neg (fun h => this h.2), if_neg e]
theorem g_iastore {k i z : Int} {n : Nat} {fs : List (Option Vl)} {gg : Int → Vl} (hd : decode μ.1 pc = .ok (.iastore, 1)) (hk : look L k = some (1, n, fs, gg)) (h0 : 0 ≤ i) (hn : i < n) (kk : GS μ d (pc + 1) A st L (upd2 σ k i z) P) : GS μ d pc A (vi z :: vi i :: vr k :: st) L σ P := by
  refine g_asto (z := z) hk h0 (by decide) ?_ ?_ kk
  · intro b0 b D H H' q hq hok hc he
    refine ⟨?_, fun j hj => ?_⟩
    · rw [he _ hc.1]
      refine congrArg some (arr_sto fun j => ?_)
      rw [upd2_at h0]
      split <;> rfl
    · rw [upd2_at h0]
      split
      · exact okh hok
      · exact hc.2 j hj
  · intro p l e R s m args below meth c H locs cells slots Q ls b0 b D H0 q hq hx hb hK hok hc go
    subst hq
    have hi : in32 i := okh (okt hok)
    refine W.iast hx hb hc.1 (hK.2.1.1 _ _) (fun h => by cases h) (in_arr h0 hn hi) rfl rfl hd fun H' e1 e2 e3 => go H' _ (fun cell h => ?_) e2 e3
    cases hc.1.symm.trans h
    rw [cl32 h0 hi] at e1
    exact e1
theorem g_bastore {k i z : Int} {n : Nat} {fs : List (Option Vl)} {gg : Int → Vl} (hd : decode μ.1 pc = .ok (.bastore, 1)) (hk : look L k = some (2, n, fs, gg)) (h0 : 0 ≤ i) (hn : i < n) (hz : z = 0 ∨ z = 1) (kk : GS μ d (pc + 1) A st L (upd2 σ k i z) P) : GS μ d pc A (vi z :: vi i :: vr k :: st) L σ P := by
  refine g_asto (z := z) hk h0 (by decide) ?_ ?_ kk
  · intro b0 b D H H' q hq hok hc he
    refine ⟨?_, fun j hj => ?_⟩
    · rw [he _ hc.1]
      refine congrArg some (arr_sto fun j => ?_)
      rw [upd2_at h0]
      split <;> rfl
    · rw [upd2_at h0]
      split
      · exact hz
      · exact hc.2 j hj
  · intro p l e R s m args below meth c H locs cells slots Q ls b0 b D H0 q hq hx hb hK hok hc go
    subst hq
    have hi : in32 i := okh (okt hok)
    have en : narrow .boolean (.int (Int32.ofInt z)) = .int (Int32.ofInt z) := by
      rcases hz with rfl | rfl
      · exact (by decide +kernel : narrow .boolean (.int (Int32.ofInt 0)) = .int (Int32.ofInt 0))
      · exact (by decide +kernel : narrow .boolean (.int (Int32.ofInt 1)) = .int (Int32.ofInt 1))
    refine W.zast hx hb hc.1 (hK.2.2.1.1 _ _) (fun h => by cases h) (in_arr h0 hn hi) rfl rfl hd fun H' e1 e2 e3 => go H' _ (fun cell h => ?_) e2 e3
    cases hc.1.symm.trans h
    rw [cl32 h0 hi, en] at e1
    exact e1
theorem g_lastore {k i z : Int} {n : Nat} {fs : List (Option Vl)} {gg : Int → Vl} (hd : decode μ.1 pc = .ok (.lastore, 1)) (hk : look L k = some (3, n, fs, gg)) (h0 : 0 ≤ i) (hn : i < n) (kk : GS μ d (pc + 1) A st L (upd2 σ k i z) P) : GS μ d pc A (vl z :: vi i :: vr k :: st) L σ P := by
  refine g_asto (z := z) hk h0 (by decide) ?_ ?_ kk
  · intro b0 b D H H' q hq hok hc he
    refine ⟨?_, fun j hj => ?_⟩
    · rw [he _ hc.1]
      refine congrArg some (arr_sto fun j => ?_)
      rw [upd2_at h0]
      split <;> rfl
    · rw [upd2_at h0]
      split
      · exact okh hok
      · exact hc.2 j hj
  · intro p l e R s m args below meth c H locs cells slots Q ls b0 b D H0 q hq hx hb hK hok hc go
    subst hq
    have hi : in32 i := okh (okt hok)
    refine W.last hx hb hc.1 (hK.2.2.2.1.1 _ _) (fun h => by cases h) (in_arr h0 hn hi) rfl rfl hd fun H' e1 e2 e3 => go H' _ (fun cell h => ?_) e2 e3
    cases hc.1.symm.trans h
    rw [cl32 h0 hi] at e1
    exact e1
end
