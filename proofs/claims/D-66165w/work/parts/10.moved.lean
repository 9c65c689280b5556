/-! what is known of the tables stays known as they warm -/
theorem ao_moved {t : FieldType} {A A' : Array Value} {u U : State} (hvm : u.vm.Alike U.vm) (h : (Cond.arrayOver (.array t)).before A u = true) : (Cond.arrayOver (.array t)).before A' U = true := by
  obtain ⟨comp, c, k, h1, h2, h3, h4, h5⟩ := arrayOverA_spec h
  obtain ⟨k', hk', he⟩ := hvm.2.2 _ _ h3
  have hi : (U.vm.classes.findIdx? fun (x : Class) => match x.kind with | .array component _ => component == comp | _ => false) = some c := by
    rw [hvm.findIdx?_eq _ (fun _ => rfl)]
    exact h2
  have hkind : k'.kind = .array comp (.array t) := by rw [he]; exact h4
  have f1 : U.vm.findClass (FieldType.array t).toString = some comp := by rw [hvm.findClass]; exact h1
  have f2 : U.vm.findClass ("[" ++ (FieldType.array t).toString) = some c := by rw [hvm.findClass]; exact h5
  unfold Cond.before Cond.holds
  simp only [Cond.value]
  rw [f1, Option.bind_some]
  refine (congrArg (fun o : Option Nat => (o.bind (fun c => (U.vm.classes[c]?).map fun (k : Class) => match k.kind with | .array _ ty => decide (ty = FieldType.array t) && decide (U.vm.findClass ("[" ++ (FieldType.array t).toString) = some c) | _ => false) == some true)) hi).trans ?_
  simp [hk', hkind, f2]
theorem ie_moved {cls : String} {i : Nat} {A A' : Array Value} {u U : State} (hvm : u.vm.Alike U.vm) (h : (Cond.interfaceEntry cls i).before A u = true) : (Cond.interfaceEntry cls i).before A' U = true := by
  have e : U.memberEntry? cls i = u.memberEntry? cls i := by
    have e0 : U.poolOf? cls = u.poolOf? cls := by
      unfold State.poolOf?
      rw [hvm.findClass]
      cases hc : u.vm.findClass cls with
      | none => rfl
      | some c =>
        cases hk : u.vm.classes[c]? with
        | none => simp [hk, hvm.none hk]
        | some k =>
          obtain ⟨k', hk', he⟩ := hvm.2.2 _ _ hk
          have : k'.cf = k.cf := by rw [he]
          simp [hk, hk', this]
    unfold State.memberEntry?
    rw [e0]
  unfold Cond.before Cond.holds at h ⊢
  simp only [Cond.value] at h ⊢
  rw [e]
  exact h
theorem std_moved {w : Cond} (h : stdK w = true) {A A' : Array Value} {s U : State} (hW : s.WarmedH U.vm) (hb : w.before A s = true) : w.before A' U = true := by
  have gen : ∀ w : Cond, (w.onTables && (w.keeps || w.faceAtom)) = true → w.before A s = true → w.before A' U = true := by
    intro w h hb
    simp only [Bool.and_eq_true, Bool.or_eq_true] at h
    rcases h.2 with hk | hf
    · exact word_at hW (Or.inl (by simp [h.1, hk])) hb
    · exact va_tabs h.1 (rfl : (s.setVm U.vm).vm = U.vm) (Cond.faceAtom_setVm hW.alike w hf hb)
  unfold stdK at h
  split at h
  · exact va_Nw.use rfl (va_Nw.warmF hW (va_Nw.of rfl hb))
  · exact va_Nw.use rfl (va_Nw.warmM hW (va_Nw.of rfl hb))
  · exact word_at hW (Or.inr ⟨_, rfl⟩) hb
  · exact va_AO.use (va_AO.moved hW.alike (va_AO.of hb))
  · exact ao_moved hW.alike hb
  · exact ie_moved hW.alike hb
  · exact gen _ h hb
theorem Wds.moved {s U : State} (hW : s.WarmedH U.vm) (h : Wds s) : Wds U := fun w hw A => std_moved (List.mem_filter.mp hw).2 hW (h w hw #[])
theorem KN.moved {b : Nat} {D : va_G} {H0 : Heap} {u U : State} (hvm : u.vm.Alike U.vm) (h : KN b D H0 u) : KN b D H0 U := by
  obtain ⟨h1, ⟨a1, a2⟩, ⟨a3, a4⟩, ⟨a5, a6⟩, ⟨a7, a8⟩, ⟨a9, a10⟩, ⟨e1, e2, e3⟩, scr, s1, s2, s3⟩ := h
  refine ⟨fun c q hq => u_Kn_moved hvm (h1 c q hq), ⟨arrOfT_moved hvm a1, ?_⟩, ⟨arrOfT_moved hvm a3, ?_⟩, ⟨arrOfT_moved hvm a5, ?_⟩, ⟨arrOfT_moved hvm a7, ?_⟩, ⟨arrOfT_moved hvm a9, ?_⟩, ⟨?_, ?_, ?_⟩, scr, s1, State.isArrayOf_alike hvm s2, s3⟩ <;> (rw [hvm.findClass]; assumption)
