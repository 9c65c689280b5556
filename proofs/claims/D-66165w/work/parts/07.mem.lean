/-! cells -/
theorem look_nat {L : List Sh} {k : Int} {sh : Sh} (h : look L k = some sh) : ∃ n : Nat, k = n ∧ L[n]? = some sh := by
  unfold look at h
  split at h
  · rename_i h0
    exact ⟨k.toNat, by omega, h⟩
  · cases h
theorem celOK.kept {b0 b : Nat} {D : va_G} {sh : Sh} {f : Int → Int} {H H' : Heap} {a : Nat} (h : celOK b0 b D sh f H a) (he : H'[a]? = H[a]?) : celOK b0 b D sh f H' a := by
  obtain ⟨kd, n, fs, g⟩ := sh
  match kd, h with
  | 0, h =>
    obtain ⟨r, h1, h2, h3, h4⟩ := h
    exact ⟨r, h1, h2, h3.kept he, h4⟩
  | 1, h => exact ⟨by rw [he]; exact h.1, h.2⟩
  | 2, h => exact ⟨by rw [he]; exact h.1, h.2⟩
  | 3, h => exact ⟨by rw [he]; exact h.1, h.2⟩
  | 4, h => exact ⟨by rw [he]; exact h.1, h.2⟩
  | 5, h => exact ⟨by rw [he]; exact h.1, h.2⟩
  | 7, h =>
    obtain ⟨cell, h1, h2, h3⟩ := h
    exact ⟨cell, by rw [he]; exact h1, h2, h3⟩
theorem Rel.cel {b0 b : Nat} {D : va_G} {H0 : Heap} {L : List Sh} {σ : Mm} {H : Heap} (h : Rel b0 b D H0 L σ H) {k : Nat} {sh : Sh} (hk : L[k]? = some sh) : celOK b0 b D sh (σ k) H (b0 + k) := h.2.1 k sh hk
theorem slt_set {L : List Sh} {k : Nat} {sh sh' : Sh} (hk : L[k]? = some sh) (h : slt1 sh' = slt1 sh) : slt (L.set k sh') = slt L := by
  unfold slt
  rw [List.map_set]
  congr 1
  apply List.ext_getElem?
  intro i
  by_cases e : k = i
  · subst e
    have hl : k < L.length := (List.getElem?_eq_some_iff.mp hk).1
    rw [List.getElem?_set_self (by simpa using hl), List.getElem?_map, hk]
    simp [h]
  · rw [List.getElem?_set_ne e]
theorem slt_push (L : List Sh) (sh : Sh) : slt (L ++ [sh]) = slt L + slt1 sh := by simp [slt]
/-- one cell is written -/
theorem Rel.put {b0 b : Nat} {D : va_G} {H0 : Heap} {L : List Sh} {σ σ' : Mm} {H H' : Heap} (h : Rel b0 b D H0 L σ H) {k : Nat} {sh sh' : Sh} (hk : L[k]? = some sh) (hz : H'.size = H.size) (ho : ∀ q, q ≠ b0 + k → H'[q]? = H[q]?) (hc : celOK b0 b D sh' (σ' k) H' (b0 + k)) (hσ : ∀ k' : Int, k' ≠ k → σ' k' = σ k') (hs : slt1 sh' = slt1 sh) : Rel b0 b D H0 (L.set k sh') σ' H' := by
  obtain ⟨h1, h2, h3, ⟨scr, s1, s2, s3, s4⟩, h5, h6, h7⟩ := h
  refine ⟨by rw [hz, h1, List.length_set], fun j s hj => ?_, fun q hq => by rw [ho q (by omega)]; exact h3 q hq, ⟨scr, s1, by rw [hσ (-2) (by omega)]; exact s2, s3, fun j hj => by rw [hσ (-1) (by omega)]; exact s4 j hj⟩, h5, by rw [List.length_set]; exact h6, by rw [slt_set hk hs]; exact h7⟩
  by_cases e : j = k
  · subst e
    have hl : j < L.length := (List.getElem?_eq_some_iff.mp hk).1
    rw [List.getElem?_set_self hl] at hj
    cases hj
    exact hc
  · rw [List.getElem?_set_ne (Ne.symm e)] at hj
    rw [hσ j (by omega)]
    exact (h2 j s hj).kept (ho _ (by omega))
/-- a cell is new -/
theorem Rel.push {b0 b : Nat} {D : va_G} {H0 : Heap} {L : List Sh} {σ : Mm} {H H' : Heap} (h : Rel b0 b D H0 L σ H) {sh : Sh} {f : Int → Int} (hz : H'.size = b0 + L.length + 1) (ho : ∀ q, q < b0 + L.length → H'[q]? = H[q]?) (hc : celOK b0 b D sh f H' (b0 + L.length)) (hlc : L.length + 1 ≤ capC) (hls : slt L + slt1 sh ≤ capS) : Rel b0 b D H0 (L ++ [sh]) (updc σ L.length f) H' := by
  obtain ⟨h1, h2, h3, ⟨scr, s1, s2, s3, s4⟩, h5, h6, h7⟩ := h
  refine ⟨by rw [hz, List.length_append]; rfl, fun j s hj => ?_, fun q hq => by rw [ho q (by omega)]; exact h3 q hq, ⟨scr, s1, by rw [show updc σ L.length f (-2) = σ (-2) from if_neg (by omega)]; exact s2, s3, fun j hj => by rw [show updc σ L.length f (-1) = σ (-1) from if_neg (by omega)]; exact s4 j hj⟩, h5, by rw [List.length_append]; exact hlc, by rw [slt_push]; exact hls⟩
  by_cases e : j < L.length
  · rw [List.getElem?_append_left e] at hj
    rw [show updc σ L.length f j = σ j from if_neg (by omega)]
    exact (h2 j s hj).kept (ho _ (by omega))
  · have hlt := (List.getElem?_eq_some_iff.mp hj).1
    simp at hlt
    have e2 : j = L.length := by omega
    subst e2
    rw [List.getElem?_append_right (Nat.le_refl _), Nat.sub_self] at hj
    cases hj
    rw [show updc σ L.length f L.length = f from if_pos rfl]
    exact hc
theorem set_same {L : List Sh} {k : Nat} {sh : Sh} (hk : L[k]? = some sh) : L.set k sh = L := by
  apply List.ext_getElem?
  intro i
  by_cases e : k = i
  · subst e
    rw [List.getElem?_set_self (List.getElem?_eq_some_iff.mp hk).1, hk]
  · rw [List.getElem?_set_ne e]
theorem upd2_ne {σ : Mm} {k i v k' : Int} (h : k' ≠ k) : upd2 σ k i v k' = σ k' := by
  funext j
  simp [upd2, h]
theorem arr_sto {cA : ClassId} {n : Nat} {f : Nat → Value} {i : Nat} {v : Value} {g : Nat → Value} (h : ∀ j, g j = if j = i then v else f j) : (arrV cA n f).setSlot i v = arrV cA n g := by
  rw [arrV_store]
  congr 1
  funext j
  rw [h j]
  rfl
/-- a field's link: its class's table has it, the own class links it, itself or as a nest mate -/
def fLink (own : String) (idx ci j : Nat) : Prop := ∃ q : vw_C, classes[ci]? = some q ∧ j < q.2.2 ∧ (Cond.fieldLink own idx (q.2.1 j).1 (q.2.1 j).2.1 (q.2.1 j).2.2.1 ∈ lw_t ∨ ∃ host, Cond.fieldLinkNest own idx (q.2.1 j).1 (q.2.1 j).2.1 (q.2.1 j).2.2.1 host ∈ lw_t)
section
variable {μ : MI} {d pc pc' : Nat} {A st st' : List Vl} {L : List Sh} {σ : Mm} {P : Out → List Sh → Mm → Prop}
theorem g_getv {idx ci j : Nat} {k : Int} {fs : List (Option Vl)} {gg : Int → Vl} {v : Vl} (hd : decode μ.1 pc = .ok (.getfield idx, 3)) (hk : look L k = some (0, ci, fs, gg)) (hf : fLink μ.2.1 idx ci j)
    (hv : ∀ b0 b, fv b0 b fs (σ k) j = cv b0 b v) (hok : (∀ j : Nat, fs[j]? = some none → in32 (σ k j)) → okV v) (kk : GS μ d (pc + 3) A (v :: st) L σ P) : GS μ d pc A (vr k :: st) L σ P := by
  intro p l e R s m args below meth c b0 b D H0 Ls H locs cells slots ls S
  obtain ⟨n, rfl, hn⟩ := look_nat hk
  obtain ⟨r, h1, h2, ⟨cell, q1, q2, q3, q4⟩, h4⟩ := S.2.1.cel hn
  obtain ⟨q, hq, hj, hlk⟩ := hf
  cases h1.symm.trans hq
  obtain ⟨ty, -, hin, hty, hnm, -, -⟩ := cl_ok ci r h1
  obtain ⟨hS, hfc, kC, hkC, hkind⟩ := S.1.2.2.2.2.2.2.2.2.2.1.1 ci r h1
  have hts : ∀ w ∈ lw_t, w.before args s = true := fun w hw => S.1.2.2.2.2.2.2.2.2.1 w hw args
  obtain ⟨cf, kf, fi, f, hi, hsl⟩ := hS j hj
  have K := kk p l e R s m args below meth c b0 b D H0 Ls H locs cells slots ls ⟨S.1, S.2.1, S.2.2.1, S.2.2.2.1, S.2.2.2.2.1, S.2.2.2.2.2.1, S.2.2.2.2.2.2.1, ok1 (okt S.2.2.2.2.2.2.2) (hok h4)⟩
  have hst := (u_facts hfc hkC (u_lays hts hin hj) hi).1
  have hslot : cell.slots[f.slot]? = some (cv b0 b v) := by rw [hsl, q4 j hj, hv b0 b]
  rcases hlk with hlk | ⟨host, hlk⟩
  · exact W.getf S.1.1 S.1.2.1 S.1.2.2.1 (hts _ hlk) hi hst q1 (by rw [q3]; exact fun h => by cases h) hslot rfl rfl hd K
  · exact va_Wgetf S.1.1 S.1.2.1 S.1.2.2.1 (hts _ hlk) hi hst q1 (by rw [q3]; exact fun h => by cases h) hslot rfl rfl hd K
theorem g_getI {idx ci j : Nat} {k : Int} {fs : List (Option Vl)} {gg : Int → Vl} (hd : decode μ.1 pc = .ok (.getfield idx, 3)) (hk : look L k = some (0, ci, fs, gg)) (hf : fLink μ.2.1 idx ci j) (hj : fs[j]? = some none) (kk : GS μ d (pc + 3) A (vi (σ k j) :: st) L σ P) : GS μ d pc A (vr k :: st) L σ P :=
  g_getv (v := vi (σ k j)) hd hk hf (fun b0 b => by simp [fv, hj, cv]) (fun h => h j hj) kk
theorem g_getR {idx ci j : Nat} {k k' : Int} {fs : List (Option Vl)} {gg : Int → Vl} (hd : decode μ.1 pc = .ok (.getfield idx, 3)) (hk : look L k = some (0, ci, fs, gg)) (hf : fLink μ.2.1 idx ci j) (hj : fs[j]? = some (some (vr k'))) (kk : GS μ d (pc + 3) A (vr k' :: st) L σ P) : GS μ d pc A (vr k :: st) L σ P :=
  g_getv (v := vr k') hd hk hf (fun b0 b => by simp [fv, hj]) (fun h => trivial) kk
/-- a field's link for a store -/
def pLink (own : String) (idx ci j : Nat) (fin : Bool) (ty : FieldType) : Prop := ∃ (q : vw_C) (tys : Nat → FieldType), classes[ci]? = some q ∧ ctys[ci]? = some tys ∧ j < q.2.2 ∧ tys j = ty ∧ Cond.fieldLink own idx (q.2.1 j).1 (q.2.1 j).2.1 (q.2.1 j).2.2.1 ∈ lw_t ∧ (q.2.1 j).2.2.2 = fin ∧ (fin = true → (q.2.1 j).1 = own)
theorem locs_ok {b0 a i : Nat} {locs : List Loc} (h : ∀ q ∈ locs, b0 ≤ q.base) (ha : b0 ≤ a) : ∀ q ∈ locs ++ [(⟨a, i⟩ : Loc)], b0 ≤ q.base := by
  intro q hq
  rcases List.mem_append.mp hq with h1 | h1
  · exact h q h1
  · rw [List.mem_singleton.mp h1]; exact ha
theorem g_putv {idx ci j : Nat} {k : Int} {fs fs' : List (Option Vl)} {gg : Int → Vl} {v : Vl} {fin : Bool} {ty : FieldType} {σ' : Mm} (hd : decode μ.1 pc = .ok (.putfield idx, 3)) (hk : look L k = some (0, ci, fs, gg)) (hf : pLink μ.2.1 idx ci j fin ty)
    (hty : ∀ b0 b, narrow ty (cv b0 b v) = cv b0 b v ∧ fits ty (cv b0 b v) = true) (hini : fin = true → μ.2.2.2.2.2 = "<init>")
    (hv : ∀ b0 b (j' : Nat), fv b0 b fs' (σ' k) j' = if j' = j then cv b0 b v else fv b0 b fs (σ k) j') (hl : fs'.length = fs.length) (hr : okV v → (∀ j : Nat, fs[j]? = some none → in32 (σ k j)) → ∀ j : Nat, fs'[j]? = some none → in32 (σ' k j)) (hσ : ∀ k' : Int, k' ≠ k → σ' k' = σ k')
    (kk : GS μ d (pc + 3) A st (L.set k.toNat (0, ci, fs', gg)) σ' P) : GS μ d pc A (v :: vr k :: st) L σ P := by
  intro p l e R s m args below meth c b0 b D H0 Ls H locs cells slots ls S
  obtain ⟨n, rfl, hn⟩ := look_nat hk
  obtain ⟨r, h1, h2, ⟨cell, q1, q2, q3, q4⟩, h4⟩ := S.2.1.cel hn
  obtain ⟨q, tys, hq, htys, hj, rfl, hlk, hfin, hdecl⟩ := hf
  cases h1.symm.trans hq
  obtain ⟨ty', ht2, hin, hty', hnm, -, -⟩ := cl_ok ci r h1
  cases htys.symm.trans ht2
  obtain ⟨hS, hfc, kC, hkC, hkind⟩ := S.1.2.2.2.2.2.2.2.2.2.1.1 ci r h1
  have hts : ∀ w ∈ lw_t, w.before args s = true := fun w hw => S.1.2.2.2.2.2.2.2.2.1 w hw args
  obtain ⟨cf, kf, fi, f, hi, hsl⟩ := hS j hj
  have hap : ∀ x y, x < r.2.2 → y < r.2.2 → x ≠ y → (D.2 ci) x ≠ (D.2 ci) y := by
    intro x y hx hy hne
    obtain ⟨_, _, _, fa, hia, ea⟩ := hS x hx
    obtain ⟨_, _, _, fb, hib, eb⟩ := hS y hy
    rw [← ea, ← eb]
    refine u_apart (u_lays hts hin hx) (u_lays hts hin hy) hia hib ?_
    rw [(State.fieldFound?_type hia (hty' x hx)).1, (State.fieldFound?_type hib (hty' y hy)).1]
    exact hnm x hx y hy hne
  have hlay := hts _ (hin _ (u_in_lay hj))
  unfold u_lay at hlay
  have hst := (u_facts hfc hkC (u_lays hts hin hj) hi).1
  have ha : b0 + n < H.size := (Array.getElem?_eq_some_iff.mp q1).1
  have hok := S.2.2.2.2.2.2.2
  have go : ∀ H' : Heap, H'[b0 + n]? = some (cell.setSlot f.slot (cv b0 b v)) → H'.size = H.size → (∀ q, q ≠ b0 + n → H'[q]? = H[q]?) → W p l e R s m args below meth c H' (locs ++ [⟨b0 + n, f.slot⟩]) cells slots (RQ b0 b D H0 below s Ls P) (F0 m (pc + 3) ls (st.map (cv b0 b))) := by
    intro H' e1 e2 e3
    have hset := t_set q4 hap hj (cv b0 b v)
    refine kk p l e R s m args below meth c b0 b D H0 Ls H' _ cells slots ls ⟨S.1, ?_, locs_ok S.2.2.1 (by omega), ?_, ?_, S.2.2.2.2.2.1, S.2.2.2.2.2.2.1, okt (okt hok)⟩
    · refine S.2.1.put hn e2 e3 ⟨r, h1, by rw [hl]; exact h2, ⟨cell.setSlot (D.2 ci j) (cv b0 b v), by rw [hsl] at e1; exact e1, q2, q3, fun k' hk' => ?_⟩, hr (okh hok) h4⟩ hσ hl
      rw [hset k' hk']
      exact congrArg some (hv b0 b k').symm
    · rw [List.length_set]; exact S.2.2.2.1
    · rw [S.2.2.2.2.1]
      exact (slt_set hn (show slt1 (0, ci, fs', gg) = slt1 (0, ci, fs, gg) from hl)).symm
  have hb' : s.vm.findClass μ.2.1 = some m.cls := S.1.2.2.1
  cases fin with
  | false =>
    rw [if_neg (by rw [hfin]; decide)] at hlay
    have h6 := u_store hfc hkC hkind hlay hi (hty' j hj) (hty b0 b).1 (hty b0 b).2
    exact W.putK S.1.1 S.1.2.1 (f := f) ⟨hb', hts _ hlk, ⟨_, _, _, hi⟩, hst⟩ (by rw [q2]; exact h6) q1 q3 (by rw [hsl]; exact k2_hasslot (q4 j hj)) rfl rfl hd go
  | true =>
    rw [if_pos hfin] at hlay
    have hcf : m.cls = cf := by
      obtain ⟨_, _, c', _, _, _, -, -, hf', -, -, -, hown2, -⟩ := Cond.laysFinal_spec hlay
      have e1 : c' = cf := by have := hi.symm.trans hf'; simp at this; exact this.1.symm
      rw [hdecl rfl] at hown2
      rw [← e1]; exact Option.some.inj (hb'.symm.trans hown2)
    have h6 := u_fits hfc hkC hkind (Or.inr hlay) hi (hty' j hj) (hty b0 b).1 (hty b0 b).2
    exact W.putFinK S.1.1 S.1.2.1 hb' (hts _ hlk) hi hst hcf (by rw [S.1.2.2.2.2.2.2.2.1]; exact hini rfl) (by rw [q2]; exact h6) q1 q3 (by rw [hsl]; exact k2_hasslot (q4 j hj)) rfl rfl hd go
/-- a number into a field -/
theorem g_putI {idx ci j : Nat} {k z : Int} {fs : List (Option Vl)} {gg : Int → Vl} {fin : Bool} {ty : FieldType} (hd : decode μ.1 pc = .ok (.putfield idx, 3)) (hk : look L k = some (0, ci, fs, gg)) (hf : pLink μ.2.1 idx ci j fin ty) (hty : ty = .int ∨ ty = .boolean ∧ (z = 0 ∨ z = 1)) (hini : fin = true → μ.2.2.2.2.2 = "<init>")
    (hj : fs[j]? = some none) (kk : GS μ d (pc + 3) A st L (upd2 σ k j z) P) : GS μ d pc A (vi z :: vr k :: st) L σ P := by
  obtain ⟨n, rfl, hn⟩ := look_nat hk
  refine g_putv (fs' := fs) (σ' := upd2 σ n j z) hd hk hf (fun b0 b => ?_) hini (fun b0 b j' => ?_) rfl (fun hv h j' hj' => ?_) (fun k' h => upd2_ne h) ?_
  · rcases hty with rfl | ⟨rfl, rfl | rfl⟩
    · exact ⟨rfl, rfl⟩
    · exact ⟨(by decide +kernel : narrow .boolean (.int (Int32.ofInt 0)) = .int (Int32.ofInt 0)), (by decide +kernel : fits .boolean (.int (Int32.ofInt 0)) = true)⟩
    · exact ⟨(by decide +kernel : narrow .boolean (.int (Int32.ofInt 1)) = .int (Int32.ofInt 1)), (by decide +kernel : fits .boolean (.int (Int32.ofInt 1)) = true)⟩
  · by_cases e : j' = j
    · subst e
      simp [fv, hj, upd2, cv]
    · rw [if_neg e]
      unfold fv
      cases fs[j']? with
      | none => rfl
      | some x =>
        cases x with
        | none =>
          have : ((j' : Nat) : Int) ≠ j := by omega
          simp [upd2, this]
        | some w => rfl
  · by_cases e : j' = j
    · subst e
      simp only [upd2]
      exact hv
    · have : ((j' : Nat) : Int) ≠ j := by omega
      simp only [upd2, this, and_false, if_false]
      exact h j' hj'
  · rw [show ((n : Nat) : Int).toNat = n from rfl, set_same hn]
    exact kk
/-- a reference into a final field -/
theorem g_putR {idx ci j : Nat} {k k' : Int} {fs : List (Option Vl)} {gg : Int → Vl} {w : Vl} {fin : Bool} {ty : FieldType} (hd : decode μ.1 pc = .ok (.putfield idx, 3)) (hk : look L k = some (0, ci, fs, gg)) (hf : pLink μ.2.1 idx ci j fin ty) (hty : ty.isReference = true) (hini : fin = true → μ.2.2.2.2.2 = "<init>")
    (hj : fs[j]? = some (some w)) (kk : GS μ d (pc + 3) A st (L.set k.toNat (0, ci, fs.set j (some (vr k')), gg)) σ P) : GS μ d pc A (vr k' :: vr k :: st) L σ P := by
  have hlt : j < fs.length := (List.getElem?_eq_some_iff.mp hj).1
  refine g_putv (fs' := fs.set j (some (vr k'))) (σ' := σ) hd hk hf (fun b0 b => ?_) hini (fun b0 b j' => ?_) (by rw [List.length_set]) (fun _ h j' hj' => ?_) (fun k' h => rfl) kk
  · cases ty <;> first | (simp [FieldType.isReference] at hty; done) | exact ⟨rfl, rfl⟩
  · unfold fv
    by_cases e : j' = j
    · subst e
      rw [List.getElem?_set_self hlt, if_pos rfl]
    · rw [List.getElem?_set_ne (Ne.symm e), if_neg e]
  · by_cases e : j' = j
    · subst e
      rw [List.getElem?_set_self hlt] at hj'
      cases hj'
    · rw [List.getElem?_set_ne (Ne.symm e)] at hj'
      exact h j' hj'
end
