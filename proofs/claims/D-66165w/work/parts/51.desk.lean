/-! THE DESK: its state, its checks, its settings -/
abbrev St : Type := Pf × Int × Int
/-- a profile as it stands between calls -/
def okB (q : Pf) : Prop := okP q ∧ qT q ≤ 20 ∧ ∀ t, 0 ≤ t → t < qT q → qA q t ≤ 100000
def DI (σ : Mm) (s : St) : Prop := okB s.1 ∧ isP σ 30 s.1 ∧ Fl σ ∧ σ 0 8 = s.2.1 ∧ σ 0 9 = s.2.2
def FD (σ σ' : Mm) : Prop := ∀ k j, ¬ (0 ≤ k ∧ k < 102) → σ' k j = σ k j
theorem FD.refl (σ : Mm) : FD σ σ := fun _ _ _ => rfl
theorem FD.trans {a b c : Mm} (h : FD a b) (g : FD b c) : FD a c := fun k j hk => (g k j hk).trans (h k j hk)
theorem Fr.fd {σ σ' : Mm} (h : Fr σ σ') : FD σ σ' := fun k j hk => h k j (fun e => hk (by unfold scr at e; omega))
theorem DI.fr {σ σ' : Mm} {s : St} (h : DI σ s) (f : Fr σ σ') : DI σ' s := ⟨h.1, h.2.1.fr h.1.1 pr30 f, h.2.2.1.fr f, by rw [f 0 8 (by unfold scr; omega)]; exact h.2.2.2.1, by rw [f 0 9 (by unfold scr; omega)]; exact h.2.2.2.2⟩
/-- changes of the profile's cells, of 28, 29 and 66 on alone -/
theorem DI.prof {σ σ' : Mm} {s : St} {q' : Pf} (h : DI σ s) (hq' : okB q') (hP : isP σ' 30 q') (f : ∀ k j, k < 28 → σ' k j = σ k j) : DI σ' (q', s.2) := by
  obtain ⟨h1, h2, h3, h4, h5⟩ := h
  refine ⟨hq', hP, ?_, by rw [f 0 8 (by omega)]; exact h4, by rw [f 0 9 (by omega)]; exact h5⟩
  unfold Fl at h3 ⊢
  rw [f 15 0 (by omega), f 16 0 (by omega), f 17 0 (by omega), f 20 0 (by omega), f 21 0 (by omega)]
  exact h3
/-- a check: it answers, or throws -/
def Chk (d : Nat) (y : MethodName) (as : List Vl) (L : List Sh) (σ : Mm) (g : Prop) (c : Nat) : Prop := Ex d y as L σ (PV L (fun σ' => g ∧ σ' = σ) (fun c' σ' => ¬ g ∧ c' = c ∧ σ' = σ))
theorem Chk.to {d d' : Nat} {y : MethodName} {as : List Vl} {L : List Sh} {σ : Mm} {g : Prop} {c : Nat} {K : Mm → Prop} {T : Nat → Mm → Prop} (h : Chk d y as L σ g c) (hd : d ≤ d') (k : g → K σ) (t : ¬ g → T c σ) : Ex d' y as L σ (PV L K T) :=
  (Ex.toV h (fun s e => by rw [e.2]; exact k e.1) (fun c' s e => by rw [e.2.1, e.2.2]; exact t e.1)).deep hd
section
variable {L : List Sh} {σ : Mm} {s : St}
theorem c_exists (hY : Lay L) {x : Int} : Chk 6 y_Desk_exists [vi x] L σ (x ≠ 0) 2 := e_Desk_exists hY ⟨fun h => ⟨h, rfl⟩, fun h => ⟨by omega, fun w => w h, rfl, rfl⟩⟩
theorem c_allow (hY : Lay L) {x : Int} : Chk 6 y_Desk_allow [vi x] L σ (x ≠ 0) 0 := e_Desk_allow hY ⟨fun h => ⟨h, rfl⟩, fun h => ⟨by omega, fun w => w h, rfl, rfl⟩⟩
theorem c_ruled (hY : Lay L) {r : Int} : Chk 7 y_Desk_ruled [vr 0, vi r] L σ (0 ≤ r ∧ r < 12) 2 := by
  refine e_Desk_ruled hY ⟨fun h => ?_, fun h => ⟨fun h2 => ?_, fun h2 => ?_⟩⟩ <;> refine r_Desk_ruled_18 hY ((c_exists hY).to (by omega) (fun w => ?_) (fun w => ?_))
  · exact absurd rfl w
  · exact ⟨by omega, rfl, rfl⟩
  · exact absurd rfl w
  · exact ⟨by omega, rfl, rfl⟩
  · exact ⟨⟨h, h2⟩, rfl⟩
  · exact absurd (by decide) w
theorem c_stands (hY : Lay L) {c n : Int} (hn : σ 30 0 = n) : Chk 7 y_Desk_stands [vr 0, vi c] L σ (0 ≤ c ∧ c < n) 2 := by
  subst hn
  refine e_Desk_stands hY ⟨fun h => ?_, fun h => ⟨fun h2 => ?_, fun h2 => ?_⟩⟩ <;> refine r_Desk_stands_20 hY ((c_exists hY).to (by omega) (fun w => ?_) (fun w => ?_))
  · exact absurd rfl w
  · exact ⟨by omega, rfl, rfl⟩
  · exact absurd rfl w
  · exact ⟨by omega, rfl, rfl⟩
  · exact ⟨⟨h, h2⟩, rfl⟩
  · exact absurd (by decide) w
theorem c_typed (hY : Lay L) {c n : Int} (hn : σ 30 1 = n) : Chk 7 y_Desk_typed [vr 0, vi c] L σ (0 ≤ c ∧ c < n) 2 := by
  subst hn
  refine e_Desk_typed hY ⟨fun h => ?_, fun h => ⟨fun h2 => ?_, fun h2 => ?_⟩⟩ <;> refine r_Desk_typed_20 hY ((c_exists hY).to (by omega) (fun w => ?_) (fun w => ?_))
  · exact absurd rfl w
  · exact ⟨by omega, rfl, rfl⟩
  · exact absurd rfl w
  · exact ⟨by omega, rfl, rfl⟩
  · exact ⟨⟨h, h2⟩, rfl⟩
  · exact absurd (by decide) w
theorem c_counted (hY : Lay L) {c : Int} : Chk 7 y_Desk_counted [vi c] L σ (0 ≤ c ∧ c ≤ 100000) 0 := by
  refine e_Desk_counted hY ⟨fun h => ?_, fun h => ⟨fun h2 => ?_, fun h2 => ?_⟩⟩ <;> refine r_Desk_counted_15 hY ((c_allow hY).to (by omega) (fun w => ?_) (fun w => ?_))
  · exact absurd rfl w
  · exact ⟨by omega, rfl, rfl⟩
  · exact absurd rfl w
  · exact ⟨by omega, rfl, rfl⟩
  · exact ⟨⟨h, h2⟩, rfl⟩
  · exact absurd (by decide) w
/-- an order is unpacked into cell 28 -/
theorem c_unpack (hY : Lay L) {o n : Int} (h32 : in32 o) (hn : σ 30 0 = n) (h7 : 2 ≤ n ∧ n ≤ 7) : Ex 7 y_Desk_unpack [vr 0, vi o] L σ (PV L (fun σ' => isOrd n o ∧ (∀ k, 0 ≤ k → k < n → σ' 28 k = dg o k) ∧ ∀ k j, k ≠ 28 → σ' k j = σ k j) (fun c σ' => ¬ isOrd n o ∧ c = 0 ∧ ∀ k j, k ≠ 28 → σ' k j = σ k j)) := by
  have h32 : -2147483648 ≤ o ∧ o < 2147483648 := h32
  refine e_Desk_unpack hY ?_
  rw [hn]
  refine ⟨fun h => ?_, fun h => ⟨by omega, fun h2 => ?_, fun h2 => ?_⟩⟩ <;> refine r_Desk_unpack_27 hY ((c_allow hY).to (by omega) (fun w => ?_) (fun w => ?_))
  · exact absurd rfl w
  · exact ⟨fun e => by have := e.1.1; omega, rfl, fun _ _ _ => rfl⟩
  · exact absurd rfl w
  · exact ⟨fun e => h2 ((sh3 h h32.2 (by omega) h7.2).mpr e.1.2), rfl, fun _ _ _ => rfl⟩
  · have hlt := (sh3 h h32.2 (by omega) h7.2).mp h2
    refine upto (P := fun k => ∀ z σ', isM z 7 (fun i => ∃ j, 0 ≤ j ∧ j < k ∧ dg o j = i) → (∀ j, 0 ≤ j → j < k → σ' 28 j = dg o j ∧ dg o j < n) → (∀ i j, 0 ≤ i → i < k → 0 ≤ j → j < k → dg o i = dg o j → i = j) → (∀ k j, k ≠ 28 → σ' k j = σ k j) → G_Desk_unpack_33 6 L σ' (fun σ' => isOrd n o ∧ (∀ k, 0 ≤ k → k < n → σ' 28 k = dg o k) ∧ ∀ k j, k ≠ 28 → σ' k j = σ k j) (fun c σ' => ¬ isOrd n o ∧ c = 0 ∧ ∀ k j, k ≠ 28 → σ' k j = σ k j) o n z k) (a := 0) (n := n) ?_ ?_ 0 (by omega) (by omega) 0 σ (isM.empty fun i _ _ => by rintro ⟨j, j0, j1, -⟩; omega) (fun j j0 j1 => absurd j1 (by omega)) (fun i j i0 i1 => absurd i1 (by omega)) (fun _ _ _ => rfl)
    · intro z σ' _ p2 p3 p4
      exact r_Desk_unpack_33 hY ⟨fun _ => ⟨⟨⟨h, hlt⟩, fun k k0 k1 => (p2 k k0 k1).2, p3⟩, fun k k0 k1 => (p2 k k0 k1).1, p4⟩, fun g => absurd g (by omega)⟩
    · intro k k0 k1 ih z σ' p1 p2 p3 p4
      have hd := dg_in o k
      refine r_Desk_unpack_33 hY ⟨fun g => absurd g (by omega), fun _ => ⟨by omega, by omega, by omega, ?_⟩⟩
      rw [u_eq, dg_eq h h32.2 k0 (by omega)]
      have fr : ∀ i j, i ≠ 28 → upd2 σ' 28 k (dg o k) i j = σ i j := fun i j hi => by rw [u_ne hi]; exact p4 i j hi
      refine ⟨fun g => ?_, fun g => ⟨by omega, fun g2 => ?_, fun g2 => ?_⟩⟩ <;> refine r_Desk_unpack_85 hY ((c_allow hY).to (by omega) (fun w => ?_) (fun w => ?_))
      · exact absurd rfl w
      · exact ⟨fun e => by have := e.2.1 k k0 k1; omega, rfl, fr⟩
      · exact absurd rfl w
      · refine ⟨fun e => ?_, rfl, fr⟩
        have hb := p1.bit hd.1 (show dg o k < 7 by omega) (Int.le_refl 7)
        have : ∃ j, 0 ≤ j ∧ j < k ∧ dg o j = dg o k := Classical.byContradiction fun w => g2 (hb.2.mpr w)
        obtain ⟨j, j0, j1, hj⟩ := this
        have := e.2.2 j k j0 (by omega) k0 k1 hj
        omega
      · have hb := p1.bit hd.1 (show dg o k < 7 by omega) (Int.le_refl 7)
        have hno := hb.2.mp g2
        rw [u_eq]
        refine ⟨by omega, by omega, ih _ _ (p1.ins hd.1 (by omega) (by omega) fun i _ _ => ?_) (fun j j0 j1 => ?_) (fun i j i0 i1 j0 j1 e => ?_) fr⟩
        · constructor
          · rintro ⟨j, j0, j1, hj⟩
            by_cases e : j = k
            · rw [e] at hj; exact Or.inr hj.symm
            · exact Or.inl ⟨j, j0, by omega, hj⟩
          · rintro (⟨j, j0, j1, hj⟩ | e)
            · exact ⟨j, j0, by omega, hj⟩
            · exact ⟨k, k0, by omega, e.symm⟩
        · rw [u_if]
          by_cases e : j = k
          · rw [if_pos e, e]; exact ⟨rfl, g⟩
          · rw [if_neg e]; exact p2 j j0 (by omega)
        · by_cases e1 : i = k <;> by_cases e2 : j = k
          · omega
          · rw [e1] at e; exact absurd ⟨j, j0, by omega, e.symm⟩ hno
          · rw [e2] at e; exact absurd ⟨i, i0, by omega, e⟩ hno
          · exact p3 i j i0 (by omega) j0 (by omega) e
      · exact absurd (by decide) w
  · exact absurd (by decide) w
/-- an order as one number -/
def pk (f : Int → Int) (n : Int) : Int := S (fun k => f k * ((8 ^ k.toNat : Nat) : Int)) n
theorem pk_bd {f : Int → Int} {n : Int} (h : ∀ k, 0 ≤ k → k < n → 0 ≤ f k ∧ f k < 8) : ∀ k, 0 ≤ k → k ≤ n → 0 ≤ pk f k ∧ pk f k < ((8 ^ k.toNat : Nat) : Int) := by
  intro k hk
  refine upFrom (P := fun k => k ≤ n → 0 ≤ pk f k ∧ pk f k < ((8 ^ k.toNat : Nat) : Int)) (a := 0) (fun _ => by unfold pk; rw [S_0]; decide) ?_ k hk
  intro k hk ih hk2
  have h1 := ih (by omega)
  have h2 := h k hk (by omega)
  unfold pk at h1 ⊢
  rw [S_s _ hk, show (k + 1).toNat = k.toNat + 1 by omega, Nat.pow_succ, Int.natCast_mul]
  generalize ((8 ^ k.toNat : Nat) : Int) = e at h1 ⊢
  have h3 : 0 ≤ f k * e := Int.mul_nonneg h2.1 (by omega)
  have h4 : f k * e ≤ 7 * e := Int.mul_le_mul_of_nonneg_right (by omega) (by omega)
  refine ⟨by omega, ?_⟩
  show _ < e * 8
  omega
/-- the digits from k on, as one number -/
theorem c_pack (hY : Lay L) {x : Int} {n1 : Nat} (hx : LkA L x 1 n1) {n : Int} (hn : σ 30 0 = n) (h7 : 2 ≤ n ∧ n ≤ 7) (hn1 : n ≤ n1) {f : Int → Int} (hf : ∀ k, 0 ≤ k → k < n → σ x k = f k ∧ 0 ≤ f k ∧ f k < 8) : IsI 0 y_Desk_pack [vr 0, vr x] L σ (pk f n) := by
  refine e_Desk_pack hY hx ⟨by omega, ?_⟩
  rw [hn]
  -- after the places n-1 .. k+1: told is their number
  have key : ∀ (m : Nat) (k t : Int), k = (m : Int) - 1 → k < n → 0 ≤ t → t < ((8 ^ (n - 1 - k).toNat : Nat) : Int) → t * ((8 ^ (k + 1).toNat : Nat) : Int) + pk f (k + 1) = pk f n → G_Desk_pack_12 0 L σ (fun z σ' => z = pk f n ∧ σ' = σ) NT x t k := by
    intro m
    induction m with
    | zero =>
      intro k t hk hkn t0 t1 e
      refine r_Desk_pack_12 hY hx ⟨fun _ => ⟨?_, rfl⟩, fun g => absurd g (by omega)⟩
      rw [show k + 1 = 0 by omega] at e
      have e1 : ((8 ^ (0 : Int).toNat : Nat) : Int) = 1 := rfl
      have e2 : pk f 0 = 0 := rfl
      rw [e1, e2] at e
      omega
    | succ m ih =>
      intro k t hk hkn t0 t1 e
      have hk0 : 0 ≤ k := by omega
      have h1 := hf k hk0 (by omega)
      have hp : (8 ^ (n - 1 - k).toNat : Nat) ≤ 262144 := Nat.pow_le_pow_right (by decide) (show (n - 1 - k).toNat ≤ 6 by omega)
      refine r_Desk_pack_12 hY hx ⟨fun g => absurd g (by omega), fun _ => ⟨by omega, by omega, ?_⟩⟩
      rw [h1.1, or_dig t0 (by omega) h1.2.1 h1.2.2]
      refine ih (k + (-1)) _ (by omega) (by omega) (by omega) ?_ ?_
      · rw [show n - 1 - (k + -1) = (n - 1 - k) + 1 by omega, show (n - 1 - k + 1).toNat = (n - 1 - k).toNat + 1 by omega, Nat.pow_succ, Int.natCast_mul]
        generalize ((8 ^ (n - 1 - k).toNat : Nat) : Int) = w at t1 ⊢
        show _ < w * 8
        omega
      · rw [← e, show k + -1 + 1 = k by omega, show (k + 1).toNat = k.toNat + 1 by omega, Nat.pow_succ, Int.natCast_mul]
        unfold pk
        rw [S_s _ hk0]
        generalize ((8 ^ k.toNat : Nat) : Int) = w
        generalize S (fun k => f k * ((8 ^ k.toNat : Nat) : Int)) k = v
        rw [Int.add_mul]
        have : t * (w * ((8 : Nat) : Int)) = 8 * t * w := by
          rw [Int.mul_comm w, ← Int.mul_assoc, Int.mul_comm t]
          rfl
        rw [this]
        omega
  have := key n.toNat (n - 1) 0 (by omega) (by omega) (by omega) (by
    have : 0 < 8 ^ (n - 1 - (n - 1)).toNat := Nat.pow_pos (by decide)
    omega) (by rw [Int.zero_mul, show n - 1 + 1 = n by omega]; omega)
  exact this
end
