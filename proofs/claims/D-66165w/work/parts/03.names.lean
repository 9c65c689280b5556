def R_Desk : String := "BallotDesk"
def F_Desk : u_T := fun k => match k with
  | 0 => ("BallotDesk", "elimination", "LBallotDesk$Elimination;", true)
  | 1 => ("BallotDesk", "paths", "LBallotDesk$Paths;", true)
  | 2 => ("BallotDesk", "agreement", "LBallotDesk$Agreement;", true)
  | 3 => ("BallotDesk", "rules", "[LBallotDesk$Rule;", true)
  | 4 => ("BallotDesk", "order", "[I", true)
  | 5 => ("BallotDesk", "trial", "[I", true)
  | 6 => ("BallotDesk", "profile", "LBallotDesk$Profile;", true)
  | 7 => ("BallotDesk", "other", "LBallotDesk$Profile;", true)
  | 8 => ("BallotDesk", "changed", "I", false)
  | _ => ("BallotDesk", "witness", "I", false)
def t_Desk : Nat → FieldType := fun k => match k with
  | 0 => .object "BallotDesk$Elimination"
  | 1 => .object "BallotDesk$Paths"
  | 2 => .object "BallotDesk$Agreement"
  | 3 => .array (.object "BallotDesk$Rule")
  | 4 => .array .int
  | 5 => .array .int
  | 6 => .object "BallotDesk$Profile"
  | 7 => .object "BallotDesk$Profile"
  | 8 => .int
  | _ => .int
def R_Prof : String := "BallotDesk$Profile"
def F_Prof : u_T := fun k => match k with
  | 0 => ("BallotDesk$Profile", "n", "I", false)
  | 1 => ("BallotDesk$Profile", "types", "I", false)
  | 2 => ("BallotDesk$Profile", "places", "[[I", true)
  | 3 => ("BallotDesk$Profile", "amounts", "[I", true)
  | 4 => ("BallotDesk$Profile", "pairs", "[[I", true)
  | 5 => ("BallotDesk$Profile", "ties", "[I", true)
  | 6 => ("BallotDesk$Profile", "agenda", "[I", true)
  | 7 => ("BallotDesk$Profile", "weights", "[I", true)
  | _ => ("BallotDesk$Profile", "row", "[I", true)
def t_Prof : Nat → FieldType := fun k => match k with
  | 0 => .int
  | 1 => .int
  | 2 => .array (.array .int)
  | 3 => .array .int
  | 4 => .array (.array .int)
  | 5 => .array .int
  | 6 => .array .int
  | 7 => .array .int
  | _ => .array .int
def R_Elim : String := "BallotDesk$Elimination"
def F_Elim : u_T := fun k => match k with
  | 0 => ("BallotDesk$Elimination", "seen", "[Z", true)
  | _ => ("BallotDesk$Elimination", "branches", "I", false)
def t_Elim : Nat → FieldType := fun k => match k with
  | 0 => .array .boolean
  | _ => .int
def R_Paths : String := "BallotDesk$Paths"
def F_Paths : u_T := fun k => match k with
  | _ => ("BallotDesk$Paths", "strong", "[[I", true)
def t_Paths : Nat → FieldType := fun k => match k with
  | _ => .array (.array .int)
def R_Agre : String := "BallotDesk$Agreement"
def F_Agre : u_T := fun k => match k with
  | _ => ("BallotDesk$Agreement", "least", "[J", true)
def t_Agre : Nat → FieldType := fun k => match k with
  | _ => .array .long
def R_Runo : String := "BallotDesk$Runoff"
def F_Runo : u_T := fun k => match k with
  | _ => ("BallotDesk$Runoff", "firsts", "[I", true)
def t_Runo : Nat → FieldType := fun k => match k with
  | _ => .array .int
def R_Locks : String := "BallotDesk$Locks"
def F_Locks : u_T := fun k => match k with
  | 0 => ("BallotDesk$Locks", "winner", "[I", true)
  | 1 => ("BallotDesk$Locks", "loser", "[I", true)
  | _ => ("BallotDesk$Locks", "under", "[I", true)
def t_Locks : Nat → FieldType := fun k => match k with
  | 0 => .array .int
  | 1 => .array .int
  | _ => .array .int
def R_Unco : String := "BallotDesk$Uncovered"
def F_Unco : u_T := fun _ => ("", "", "", false)
def t_Unco : Nat → FieldType := fun _ => .int
def R_Agen : String := "BallotDesk$Agenda"
def F_Agen : u_T := fun _ => ("", "", "", false)
def t_Agen : Nat → FieldType := fun _ => .int
def R_Firs : String := "BallotDesk$Firsts"
def F_Firs : u_T := fun k => match k with
  | _ => ("BallotDesk$Scored", "most", "Z", true)
def t_Firs : Nat → FieldType := fun k => match k with
  | _ => .boolean
def R_Last : String := "BallotDesk$Lasts"
def F_Last : u_T := fun k => match k with
  | _ => ("BallotDesk$Scored", "most", "Z", true)
def t_Last : Nat → FieldType := fun k => match k with
  | _ => .boolean
def R_Poin : String := "BallotDesk$Points"
def F_Poin : u_T := fun k => match k with
  | _ => ("BallotDesk$Scored", "most", "Z", true)
def t_Poin : Nat → FieldType := fun k => match k with
  | _ => .boolean
def R_Defe : String := "BallotDesk$Defeat"
def F_Defe : u_T := fun k => match k with
  | _ => ("BallotDesk$Scored", "most", "Z", true)
def t_Defe : Nat → FieldType := fun k => match k with
  | _ => .boolean
def R_Wins : String := "BallotDesk$Wins"
def F_Wins : u_T := fun k => match k with
  | _ => ("BallotDesk$Scored", "most", "Z", true)
def t_Wins : Nat → FieldType := fun k => match k with
  | _ => .boolean
def R_Mod : String := "BallotDeskModel"
def F_Mod : u_T := fun k => match k with
  | 0 => ("BallotDeskModel", "thrown", "I", false)
  | 1 => ("BallotDeskModel", "n", "I", false)
  | 2 => ("BallotDeskModel", "types", "I", false)
  | 3 => ("BallotDeskModel", "orders", "[I", true)
  | 4 => ("BallotDeskModel", "amounts", "[I", true)
  | 5 => ("BallotDeskModel", "ties", "[I", true)
  | 6 => ("BallotDeskModel", "agendas", "[I", true)
  | 7 => ("BallotDeskModel", "weights", "[I", true)
  | 8 => ("BallotDeskModel", "m", "I", false)
  | 9 => ("BallotDeskModel", "many", "I", false)
  | 10 => ("BallotDeskModel", "places", "[I", true)
  | 11 => ("BallotDeskModel", "voters", "[I", true)
  | 12 => ("BallotDeskModel", "tie", "[I", true)
  | 13 => ("BallotDeskModel", "turn", "[I", true)
  | 14 => ("BallotDeskModel", "weight", "[I", true)
  | 15 => ("BallotDeskModel", "pairs", "[I", true)
  | 16 => ("BallotDeskModel", "paths", "[I", true)
  | 17 => ("BallotDeskModel", "locked", "[Z", true)
  | 18 => ("BallotDeskModel", "left", "[Z", true)
  | 19 => ("BallotDeskModel", "least", "[J", true)
  | 20 => ("BallotDeskModel", "trial", "[I", true)
  | 21 => ("BallotDeskModel", "best", "[I", true)
  | 22 => ("BallotDeskModel", "changedTo", "I", false)
  | _ => ("BallotDeskModel", "broken", "I", false)
def t_Mod : Nat → FieldType := fun k => match k with
  | 0 => .int
  | 1 => .int
  | 2 => .int
  | 3 => .array .int
  | 4 => .array .int
  | 5 => .array .int
  | 6 => .array .int
  | 7 => .array .int
  | 8 => .int
  | 9 => .int
  | 10 => .array .int
  | 11 => .array .int
  | 12 => .array .int
  | 13 => .array .int
  | 14 => .array .int
  | 15 => .array .int
  | 16 => .array .int
  | 17 => .array .boolean
  | 18 => .array .boolean
  | 19 => .array .long
  | 20 => .array .int
  | 21 => .array .int
  | 22 => .int
  | _ => .int
def classes : List vw_C := [(R_Desk, F_Desk, 10), (R_Prof, F_Prof, 9), (R_Elim, F_Elim, 2), (R_Paths, F_Paths, 1), (R_Agre, F_Agre, 1), (R_Runo, F_Runo, 1), (R_Locks, F_Locks, 3), (R_Unco, F_Unco, 0), (R_Agen, F_Agen, 0), (R_Firs, F_Firs, 1), (R_Last, F_Last, 1), (R_Poin, F_Poin, 1), (R_Defe, F_Defe, 1), (R_Wins, F_Wins, 1), (R_Mod, F_Mod, 24)]
def ctys : List (Nat → FieldType) := [t_Desk, t_Prof, t_Elim, t_Paths, t_Agre, t_Runo, t_Locks, t_Unco, t_Agen, t_Firs, t_Last, t_Poin, t_Defe, t_Wins, t_Mod]
theorem i_Desk : ∀ w ∈ u_ws R_Desk F_Desk 10, w ∈ lw_t := by decide +kernel
theorem i_Prof : ∀ w ∈ u_ws R_Prof F_Prof 9, w ∈ lw_t := by decide +kernel
theorem i_Elim : ∀ w ∈ u_ws R_Elim F_Elim 2, w ∈ lw_t := by decide +kernel
theorem i_Paths : ∀ w ∈ u_ws R_Paths F_Paths 1, w ∈ lw_t := by decide +kernel
theorem i_Agre : ∀ w ∈ u_ws R_Agre F_Agre 1, w ∈ lw_t := by decide +kernel
theorem i_Runo : ∀ w ∈ u_ws R_Runo F_Runo 1, w ∈ lw_t := by decide +kernel
theorem i_Locks : ∀ w ∈ u_ws R_Locks F_Locks 3, w ∈ lw_t := by decide +kernel
theorem i_Unco : ∀ w ∈ u_ws R_Unco F_Unco 0, w ∈ lw_t := by decide +kernel
theorem i_Agen : ∀ w ∈ u_ws R_Agen F_Agen 0, w ∈ lw_t := by decide +kernel
theorem i_Firs : ∀ w ∈ u_ws R_Firs F_Firs 1, w ∈ lw_t := by decide +kernel
theorem i_Last : ∀ w ∈ u_ws R_Last F_Last 1, w ∈ lw_t := by decide +kernel
theorem i_Poin : ∀ w ∈ u_ws R_Poin F_Poin 1, w ∈ lw_t := by decide +kernel
theorem i_Defe : ∀ w ∈ u_ws R_Defe F_Defe 1, w ∈ lw_t := by decide +kernel
theorem i_Wins : ∀ w ∈ u_ws R_Wins F_Wins 1, w ∈ lw_t := by decide +kernel
theorem i_Mod : ∀ w ∈ u_ws R_Mod F_Mod 24, w ∈ lw_t := by decide +kernel
/-- what is known of each class's table -/
def clOK (q : vw_C) (ty : Nat → FieldType) : Prop := (∀ w ∈ u_ws q.1 q.2.1 q.2.2, w ∈ lw_t) ∧ (∀ k, k < q.2.2 → parseFieldDescriptor (q.2.1 k).2.2.1 = some (ty k)) ∧ (∀ a, a < q.2.2 → ∀ b, b < q.2.2 → a ≠ b → (q.2.1 a).2.1 ≠ (q.2.1 b).2.1) ∧ Cond.instantiable q.1 q.2.2 ∈ lw_t ∧ Cond.initialized q.1 ∈ lw_t
theorem k_Desk : clOK (R_Desk, F_Desk, 10) t_Desk := ⟨i_Desk, by decide +kernel, by decide +kernel, by decide +kernel, by decide +kernel⟩
theorem k_Prof : clOK (R_Prof, F_Prof, 9) t_Prof := ⟨i_Prof, by decide +kernel, by decide +kernel, by decide +kernel, by decide +kernel⟩
theorem k_Elim : clOK (R_Elim, F_Elim, 2) t_Elim := ⟨i_Elim, by decide +kernel, by decide +kernel, by decide +kernel, by decide +kernel⟩
theorem k_Paths : clOK (R_Paths, F_Paths, 1) t_Paths := ⟨i_Paths, by decide +kernel, by decide +kernel, by decide +kernel, by decide +kernel⟩
theorem k_Agre : clOK (R_Agre, F_Agre, 1) t_Agre := ⟨i_Agre, by decide +kernel, by decide +kernel, by decide +kernel, by decide +kernel⟩
theorem k_Runo : clOK (R_Runo, F_Runo, 1) t_Runo := ⟨i_Runo, by decide +kernel, by decide +kernel, by decide +kernel, by decide +kernel⟩
theorem k_Locks : clOK (R_Locks, F_Locks, 3) t_Locks := ⟨i_Locks, by decide +kernel, by decide +kernel, by decide +kernel, by decide +kernel⟩
theorem k_Unco : clOK (R_Unco, F_Unco, 0) t_Unco := ⟨i_Unco, by decide +kernel, by decide +kernel, by decide +kernel, by decide +kernel⟩
theorem k_Agen : clOK (R_Agen, F_Agen, 0) t_Agen := ⟨i_Agen, by decide +kernel, by decide +kernel, by decide +kernel, by decide +kernel⟩
theorem k_Firs : clOK (R_Firs, F_Firs, 1) t_Firs := ⟨i_Firs, by decide +kernel, by decide +kernel, by decide +kernel, by decide +kernel⟩
theorem k_Last : clOK (R_Last, F_Last, 1) t_Last := ⟨i_Last, by decide +kernel, by decide +kernel, by decide +kernel, by decide +kernel⟩
theorem k_Poin : clOK (R_Poin, F_Poin, 1) t_Poin := ⟨i_Poin, by decide +kernel, by decide +kernel, by decide +kernel, by decide +kernel⟩
theorem k_Defe : clOK (R_Defe, F_Defe, 1) t_Defe := ⟨i_Defe, by decide +kernel, by decide +kernel, by decide +kernel, by decide +kernel⟩
theorem k_Wins : clOK (R_Wins, F_Wins, 1) t_Wins := ⟨i_Wins, by decide +kernel, by decide +kernel, by decide +kernel, by decide +kernel⟩
theorem k_Mod : clOK (R_Mod, F_Mod, 24) t_Mod := ⟨i_Mod, by decide +kernel, by decide +kernel, by decide +kernel, by decide +kernel⟩
theorem cl_ok : ∀ (c : Nat) (q : vw_C), classes[c]? = some q → ∃ ty, ctys[c]? = some ty ∧ clOK q ty := by
  intro c q h
  match c, h with
  | 0, h => cases h; exact ⟨_, rfl, k_Desk⟩
  | 1, h => cases h; exact ⟨_, rfl, k_Prof⟩
  | 2, h => cases h; exact ⟨_, rfl, k_Elim⟩
  | 3, h => cases h; exact ⟨_, rfl, k_Paths⟩
  | 4, h => cases h; exact ⟨_, rfl, k_Agre⟩
  | 5, h => cases h; exact ⟨_, rfl, k_Runo⟩
  | 6, h => cases h; exact ⟨_, rfl, k_Locks⟩
  | 7, h => cases h; exact ⟨_, rfl, k_Unco⟩
  | 8, h => cases h; exact ⟨_, rfl, k_Agen⟩
  | 9, h => cases h; exact ⟨_, rfl, k_Firs⟩
  | 10, h => cases h; exact ⟨_, rfl, k_Last⟩
  | 11, h => cases h; exact ⟨_, rfl, k_Poin⟩
  | 12, h => cases h; exact ⟨_, rfl, k_Defe⟩
  | 13, h => cases h; exact ⟨_, rfl, k_Wins⟩
  | 14, h => cases h; exact ⟨_, rfl, k_Mod⟩
  | c + 15, h => simp [classes] at h
