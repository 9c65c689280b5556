def y_Desk_init : MethodName := ⟨"BallotDesk", "<init>", "()V"⟩
def y_Desk_exists : MethodName := ⟨"BallotDesk", "exists", "(Z)V"⟩
def y_Desk_allow : MethodName := ⟨"BallotDesk", "allow", "(Z)V"⟩
def y_Desk_ruled : MethodName := ⟨"BallotDesk", "ruled", "(I)V"⟩
def y_Desk_stands : MethodName := ⟨"BallotDesk", "stands", "(I)V"⟩
def y_Desk_typed : MethodName := ⟨"BallotDesk", "typed", "(I)V"⟩
def y_Desk_unpack : MethodName := ⟨"BallotDesk", "unpack", "(I)V"⟩
def y_Desk_pack : MethodName := ⟨"BallotDesk", "pack", "([I)I"⟩
def y_Desk_candidates : MethodName := ⟨"BallotDesk", "candidates", "(I)I"⟩
def y_Desk_counted : MethodName := ⟨"BallotDesk", "counted", "(I)V"⟩
def y_Desk_ballot : MethodName := ⟨"BallotDesk", "ballot", "(II)I"⟩
def y_Desk_amount : MethodName := ⟨"BallotDesk", "amount", "(II)I"⟩
def y_Desk_drop : MethodName := ⟨"BallotDesk", "drop", "(I)I"⟩
def y_Desk_become : MethodName := ⟨"BallotDesk", "become", "([II)I"⟩
def y_Desk_tieOrder : MethodName := ⟨"BallotDesk", "tieOrder", "(I)I"⟩
def y_Desk_agenda : MethodName := ⟨"BallotDesk", "agenda", "(I)I"⟩
def y_Desk_weight : MethodName := ⟨"BallotDesk", "weight", "(II)I"⟩
def y_Desk_first : MethodName := ⟨"BallotDesk", "first", "(LBallotDesk$Profile;I)I"⟩
def y_Desk_chosen : MethodName := ⟨"BallotDesk", "chosen", "(ILBallotDesk$Profile;)I"⟩
def y_Desk_winners : MethodName := ⟨"BallotDesk", "winners", "(I)I"⟩
def y_Desk_winner : MethodName := ⟨"BallotDesk", "winner", "(I)I"⟩
def y_Desk_score : MethodName := ⟨"BallotDesk", "score", "(II)J"⟩
def y_Desk_pair : MethodName := ⟨"BallotDesk", "pair", "(II)I"⟩
def y_Desk_path : MethodName := ⟨"BallotDesk", "path", "(II)I"⟩
def y_Desk_branches : MethodName := ⟨"BallotDesk", "branches", "()I"⟩
def y_Desk_last : MethodName := ⟨"BallotDesk", "last", "(I)I"⟩
def y_Desk_step : MethodName := ⟨"BallotDesk", "step", "(I)I"⟩
def y_Desk_disagreement : MethodName := ⟨"BallotDesk", "disagreement", "()J"⟩
def y_Desk_agreed : MethodName := ⟨"BallotDesk", "agreed", "()I"⟩
def y_Desk_advance : MethodName := ⟨"BallotDesk", "advance", "()Z"⟩
def y_Desk_change : MethodName := ⟨"BallotDesk", "change", "(III)I"⟩
def y_Desk_changed : MethodName := ⟨"BallotDesk", "changed", "()I"⟩
def y_Desk_extreme : MethodName := ⟨"BallotDesk", "extreme", "(Z)I"⟩
def y_Desk_raised : MethodName := ⟨"BallotDesk", "raised", "(II)I"⟩
def y_Desk_swap : MethodName := ⟨"BallotDesk", "swap", "(II)V"⟩
def y_Desk_joined : MethodName := ⟨"BallotDesk", "joined", "(II)I"⟩
def y_Desk_dropped : MethodName := ⟨"BallotDesk", "dropped", "(II)I"⟩
def y_Desk_property : MethodName := ⟨"BallotDesk", "property", "(II)Z"⟩
def y_Desk_witness : MethodName := ⟨"BallotDesk", "witness", "()I"⟩
def y_Desk_circle : MethodName := ⟨"BallotDesk", "circle", "(I)I"⟩
def y_Desk_clones : MethodName := ⟨"BallotDesk", "clones", "(I)Z"⟩
def y_Desk_count : MethodName := ⟨"BallotDesk", "count", "(I)I"⟩
def y_Mod_init : MethodName := ⟨"BallotDeskModel", "<init>", "()V"⟩
def y_Mod_reset : MethodName := ⟨"BallotDeskModel", "reset", "()V"⟩
def y_Mod_thrown : MethodName := ⟨"BallotDeskModel", "thrown", "()I"⟩
def y_Mod_goes : MethodName := ⟨"BallotDeskModel", "goes", "(ZZ)Z"⟩
def y_Mod_within : MethodName := ⟨"BallotDeskModel", "within", "(III)Z"⟩
def y_Mod_isOrder : MethodName := ⟨"BallotDeskModel", "isOrder", "(I)Z"⟩
def y_Mod_unpack : MethodName := ⟨"BallotDeskModel", "unpack", "(I[II)V"⟩
def y_Mod_packed : MethodName := ⟨"BallotDeskModel", "packed", "([II)I"⟩
def y_Mod_candidates : MethodName := ⟨"BallotDeskModel", "candidates", "(I)I"⟩
def y_Mod_ballot : MethodName := ⟨"BallotDeskModel", "ballot", "(II)I"⟩
def y_Mod_isType : MethodName := ⟨"BallotDeskModel", "isType", "(I)Z"⟩
def y_Mod_amount : MethodName := ⟨"BallotDeskModel", "amount", "(II)I"⟩
def y_Mod_drop : MethodName := ⟨"BallotDeskModel", "drop", "(I)I"⟩
def y_Mod_tieOrder : MethodName := ⟨"BallotDeskModel", "tieOrder", "(I)I"⟩
def y_Mod_agenda : MethodName := ⟨"BallotDeskModel", "agenda", "(I)I"⟩
def y_Mod_weight : MethodName := ⟨"BallotDeskModel", "weight", "(II)I"⟩
def y_Mod_load : MethodName := ⟨"BallotDeskModel", "load", "()V"⟩
def y_Mod_without : MethodName := ⟨"BallotDeskModel", "without", "(I[II)V"⟩
def y_Mod_leaveOut : MethodName := ⟨"BallotDeskModel", "leaveOut", "(I)V"⟩
def y_Mod_placeOf : MethodName := ⟨"BallotDeskModel", "placeOf", "(II)I"⟩
def y_Mod_tiePlace : MethodName := ⟨"BallotDeskModel", "tiePlace", "(I)I"⟩
def y_Mod_tally : MethodName := ⟨"BallotDeskModel", "tally", "()V"⟩
def y_Mod_beats : MethodName := ⟨"BallotDeskModel", "beats", "(II)Z"⟩
def y_Mod_ahead : MethodName := ⟨"BallotDeskModel", "ahead", "(II)I"⟩
def y_Mod_all : MethodName := ⟨"BallotDeskModel", "all", "()I"⟩
def y_Mod_scored : MethodName := ⟨"BallotDeskModel", "scored", "(II)J"⟩
def y_Mod_extreme : MethodName := ⟨"BallotDeskModel", "extreme", "(IZ)I"⟩
def y_Mod_runoff : MethodName := ⟨"BallotDeskModel", "runoff", "()I"⟩
def y_Mod_weakest : MethodName := ⟨"BallotDeskModel", "weakest", "(I)I"⟩
def y_Mod_single : MethodName := ⟨"BallotDeskModel", "single", "(I)Z"⟩
def y_Mod_eliminate : MethodName := ⟨"BallotDeskModel", "eliminate", "()I"⟩
def y_Mod_findPaths : MethodName := ⟨"BallotDeskModel", "findPaths", "()V"⟩
def y_Mod_pathWinners : MethodName := ⟨"BallotDeskModel", "pathWinners", "()I"⟩
def y_Mod_leads : MethodName := ⟨"BallotDeskModel", "leads", "(II)Z"⟩
def y_Mod_sooner_IIII : MethodName := ⟨"BallotDeskModel", "sooner", "(IIII)Z"⟩
def y_Mod_lockWinners : MethodName := ⟨"BallotDeskModel", "lockWinners", "()I"⟩
def y_Mod_over_II : MethodName := ⟨"BallotDeskModel", "over", "(II)J"⟩
def y_Mod_findLeast : MethodName := ⟨"BallotDeskModel", "findLeast", "()V"⟩
def y_Mod_agreeing : MethodName := ⟨"BallotDeskModel", "agreeing", "()I"⟩
def y_Mod_uncovered : MethodName := ⟨"BallotDeskModel", "uncovered", "()I"⟩
def y_Mod_byAgenda : MethodName := ⟨"BallotDeskModel", "byAgenda", "()I"⟩
def y_Mod_work : MethodName := ⟨"BallotDeskModel", "work", "(I)I"⟩
def y_Mod_firstOf : MethodName := ⟨"BallotDeskModel", "firstOf", "(I)I"⟩
def y_Mod_isRule : MethodName := ⟨"BallotDeskModel", "isRule", "(I)Z"⟩
def y_Mod_isCandidate : MethodName := ⟨"BallotDeskModel", "isCandidate", "(I)Z"⟩
def y_Mod_winners : MethodName := ⟨"BallotDeskModel", "winners", "(I)I"⟩
def y_Mod_winner : MethodName := ⟨"BallotDeskModel", "winner", "(I)I"⟩
def y_Mod_score : MethodName := ⟨"BallotDeskModel", "score", "(II)J"⟩
def y_Mod_pair : MethodName := ⟨"BallotDeskModel", "pair", "(II)I"⟩
def y_Mod_path : MethodName := ⟨"BallotDeskModel", "path", "(II)I"⟩
def y_Mod_branches : MethodName := ⟨"BallotDeskModel", "branches", "()I"⟩
def y_Mod_step : MethodName := ⟨"BallotDeskModel", "step", "(I)I"⟩
def y_Mod_firstOrder : MethodName := ⟨"BallotDeskModel", "firstOrder", "()V"⟩
def y_Mod_nextOrder : MethodName := ⟨"BallotDeskModel", "nextOrder", "()Z"⟩
def y_Mod_disagreementOf : MethodName := ⟨"BallotDeskModel", "disagreementOf", "()J"⟩
def y_Mod_sooner_0 : MethodName := ⟨"BallotDeskModel", "sooner", "()Z"⟩
def y_Mod_findAgreed : MethodName := ⟨"BallotDeskModel", "findAgreed", "()J"⟩
def y_Mod_disagreement : MethodName := ⟨"BallotDeskModel", "disagreement", "()J"⟩
def y_Mod_agreed : MethodName := ⟨"BallotDeskModel", "agreed", "()I"⟩
def y_Mod_change : MethodName := ⟨"BallotDeskModel", "change", "(III)I"⟩
def y_Mod_changed : MethodName := ⟨"BallotDeskModel", "changed", "()I"⟩
def y_Mod_over_IZ : MethodName := ⟨"BallotDeskModel", "over", "(IZ)Z"⟩
def y_Mod_brokenByPairs : MethodName := ⟨"BallotDeskModel", "brokenByPairs", "(II)I"⟩
def y_Mod_brokenByType : MethodName := ⟨"BallotDeskModel", "brokenByType", "(II)I"⟩
def y_Mod_brokenByLeaving : MethodName := ⟨"BallotDeskModel", "brokenByLeaving", "(I)I"⟩
def y_Mod_property : MethodName := ⟨"BallotDeskModel", "property", "(II)Z"⟩
def y_Mod_witness : MethodName := ⟨"BallotDeskModel", "witness", "()I"⟩
def y_Mod_circle : MethodName := ⟨"BallotDeskModel", "circle", "(I)I"⟩
def y_Mod_clones : MethodName := ⟨"BallotDeskModel", "clones", "(I)Z"⟩
def y_Mod_count : MethodName := ⟨"BallotDeskModel", "count", "(I)I"⟩
def y_Agen_init : MethodName := ⟨"BallotDesk$Agenda", "<init>", "()V"⟩
def y_Agen_winners : MethodName := ⟨"BallotDesk$Agenda", "winners", "(LBallotDesk$Profile;)I"⟩
def y_Agre_init : MethodName := ⟨"BallotDesk$Agreement", "<init>", "()V"⟩
def y_Agre_cost : MethodName := ⟨"BallotDesk$Agreement", "cost", "(LBallotDesk$Profile;II)J"⟩
def y_Agre_find : MethodName := ⟨"BallotDesk$Agreement", "find", "(LBallotDesk$Profile;)V"⟩
def y_Agre_with : MethodName := ⟨"BallotDesk$Agreement", "with", "(LBallotDesk$Profile;II)J"⟩
def y_Agre_heads : MethodName := ⟨"BallotDesk$Agreement", "heads", "(LBallotDesk$Profile;I)I"⟩
def y_Agre_winners : MethodName := ⟨"BallotDesk$Agreement", "winners", "(LBallotDesk$Profile;)I"⟩
def y_Defe_init : MethodName := ⟨"BallotDesk$Defeat", "<init>", "()V"⟩
def y_Defe_score : MethodName := ⟨"BallotDesk$Defeat", "score", "(LBallotDesk$Profile;I)J"⟩
def y_Elim_init : MethodName := ⟨"BallotDesk$Elimination", "<init>", "()V"⟩
def y_Elim_lowest : MethodName := ⟨"BallotDesk$Elimination", "lowest", "(LBallotDesk$Profile;I)I"⟩
def y_Elim_left : MethodName := ⟨"BallotDesk$Elimination", "left", "(LBallotDesk$Profile;I)I"⟩
def y_Elim_winners : MethodName := ⟨"BallotDesk$Elimination", "winners", "(LBallotDesk$Profile;)I"⟩
def y_Firs_init : MethodName := ⟨"BallotDesk$Firsts", "<init>", "()V"⟩
def y_Firs_score : MethodName := ⟨"BallotDesk$Firsts", "score", "(LBallotDesk$Profile;I)J"⟩
def y_Last_init : MethodName := ⟨"BallotDesk$Lasts", "<init>", "()V"⟩
def y_Last_score : MethodName := ⟨"BallotDesk$Lasts", "score", "(LBallotDesk$Profile;I)J"⟩
def y_Locks_init : MethodName := ⟨"BallotDesk$Locks", "<init>", "()V"⟩
def y_Locks_ahead : MethodName := ⟨"BallotDesk$Locks", "ahead", "(LBallotDesk$Profile;IIII)Z"⟩
def y_Locks_collect : MethodName := ⟨"BallotDesk$Locks", "collect", "(LBallotDesk$Profile;)I"⟩
def y_Locks_lock : MethodName := ⟨"BallotDesk$Locks", "lock", "(III)V"⟩
def y_Locks_winners : MethodName := ⟨"BallotDesk$Locks", "winners", "(LBallotDesk$Profile;)I"⟩
def y_Paths_init : MethodName := ⟨"BallotDesk$Paths", "<init>", "()V"⟩
def y_Paths_find : MethodName := ⟨"BallotDesk$Paths", "find", "(LBallotDesk$Profile;)V"⟩
def y_Paths_widen : MethodName := ⟨"BallotDesk$Paths", "widen", "(III)V"⟩
def y_Paths_winners : MethodName := ⟨"BallotDesk$Paths", "winners", "(LBallotDesk$Profile;)I"⟩
def y_Poin_init : MethodName := ⟨"BallotDesk$Points", "<init>", "()V"⟩
def y_Poin_score : MethodName := ⟨"BallotDesk$Points", "score", "(LBallotDesk$Profile;I)J"⟩
def y_Prof_init : MethodName := ⟨"BallotDesk$Profile", "<init>", "()V"⟩
def y_Prof_begin : MethodName := ⟨"BallotDesk$Profile", "begin", "(I)V"⟩
def y_Prof_tally : MethodName := ⟨"BallotDesk$Profile", "tally", "(II)V"⟩
def y_Prof_add : MethodName := ⟨"BallotDesk$Profile", "add", "([II)V"⟩
def y_Prof_amount : MethodName := ⟨"BallotDesk$Profile", "amount", "(II)I"⟩
def y_Prof_drop : MethodName := ⟨"BallotDesk$Profile", "drop", "(I)V"⟩
def y_Prof_beats : MethodName := ⟨"BallotDesk$Profile", "beats", "(II)Z"⟩
def y_Prof_tie : MethodName := ⟨"BallotDesk$Profile", "tie", "(I)I"⟩
def y_Prof_placeOf : MethodName := ⟨"BallotDesk$Profile", "placeOf", "(II)I"⟩
def y_Prof_firsts : MethodName := ⟨"BallotDesk$Profile", "firsts", "(II)I"⟩
def y_Prof_all : MethodName := ⟨"BallotDesk$Profile", "all", "()I"⟩
def y_Prof_leave : MethodName := ⟨"BallotDesk$Profile", "leave", "([I[III)V"⟩
def y_Prof_without : MethodName := ⟨"BallotDesk$Profile", "without", "(ILBallotDesk$Profile;)V"⟩
def y_Runo_init : MethodName := ⟨"BallotDesk$Runoff", "<init>", "()V"⟩
def y_Runo_goOn : MethodName := ⟨"BallotDesk$Runoff", "goOn", "(LBallotDesk$Profile;II)Z"⟩
def y_Runo_winners : MethodName := ⟨"BallotDesk$Runoff", "winners", "(LBallotDesk$Profile;)I"⟩
def y_Scor_init : MethodName := ⟨"BallotDesk$Scored", "<init>", "(Z)V"⟩
def y_Scor_winners : MethodName := ⟨"BallotDesk$Scored", "winners", "(LBallotDesk$Profile;)I"⟩
def y_Unco_init : MethodName := ⟨"BallotDesk$Uncovered", "<init>", "()V"⟩
def y_Unco_beaten : MethodName := ⟨"BallotDesk$Uncovered", "beaten", "(LBallotDesk$Profile;I)I"⟩
def y_Unco_winners : MethodName := ⟨"BallotDesk$Uncovered", "winners", "(LBallotDesk$Profile;)I"⟩
def y_Wins_init : MethodName := ⟨"BallotDesk$Wins", "<init>", "()V"⟩
def y_Wins_score : MethodName := ⟨"BallotDesk$Wins", "score", "(LBallotDesk$Profile;I)J"⟩
def y_Law_candidates : MethodName := ⟨"BallotDeskLaw", "candidates", "(LBallotDesk;I[J)I"⟩
def y_Law_ballot : MethodName := ⟨"BallotDeskLaw", "ballot", "(LBallotDesk;II[J)I"⟩
def y_Law_amount : MethodName := ⟨"BallotDeskLaw", "amount", "(LBallotDesk;II[J)I"⟩
def y_Law_drop : MethodName := ⟨"BallotDeskLaw", "drop", "(LBallotDesk;I[J)I"⟩
def y_Law_tieOrder : MethodName := ⟨"BallotDeskLaw", "tieOrder", "(LBallotDesk;I[J)I"⟩
def y_Law_agenda : MethodName := ⟨"BallotDeskLaw", "agenda", "(LBallotDesk;I[J)I"⟩
def y_Law_weight : MethodName := ⟨"BallotDeskLaw", "weight", "(LBallotDesk;II[J)I"⟩
def y_Law_winners : MethodName := ⟨"BallotDeskLaw", "winners", "(LBallotDesk;I[J)I"⟩
def y_Law_winner : MethodName := ⟨"BallotDeskLaw", "winner", "(LBallotDesk;I[J)I"⟩
def y_Law_score : MethodName := ⟨"BallotDeskLaw", "score", "(LBallotDesk;II[J)I"⟩
def y_Law_pair : MethodName := ⟨"BallotDeskLaw", "pair", "(LBallotDesk;II[J)I"⟩
def y_Law_path : MethodName := ⟨"BallotDeskLaw", "path", "(LBallotDesk;II[J)I"⟩
def y_Law_step : MethodName := ⟨"BallotDeskLaw", "step", "(LBallotDesk;I[J)I"⟩
def y_Law_change : MethodName := ⟨"BallotDeskLaw", "change", "(LBallotDesk;III[J)I"⟩
def y_Law_property : MethodName := ⟨"BallotDeskLaw", "property", "(LBallotDesk;II[J)I"⟩
def y_Law_circle : MethodName := ⟨"BallotDeskLaw", "circle", "(LBallotDesk;I[J)I"⟩
def y_Law_clones : MethodName := ⟨"BallotDeskLaw", "clones", "(LBallotDesk;I[J)I"⟩
def y_Law_count : MethodName := ⟨"BallotDeskLaw", "count", "(LBallotDesk;I[J)I"⟩
def y_Law_law : MethodName := ⟨"BallotDeskLaw", "law", "([I)Z"⟩
def y_Obj_init : MethodName := ⟨"java/lang/Object", "<init>", "()V"⟩
def y_Math_min : MethodName := ⟨"java/lang/Math", "min", "(JJ)J"⟩
def x_Rule_winners : MethodName := ⟨"BallotDesk$Rule", "winners", "(LBallotDesk$Profile;)I"⟩
def x_Scor_score : MethodName := ⟨"BallotDesk$Scored", "score", "(LBallotDesk$Profile;I)J"⟩
/-- own class, index, class, slot, final, kind of the field: 0 int, 1 boolean, 2 a reference -/
def pLk (own : String) (idx ci j : Nat) (fin : Bool) (kd : Nat) : Prop := ∃ ty, pLink own idx ci j fin ty ∧ (kd = 0 → ty = .int) ∧ (kd = 1 → ty = .boolean) ∧ (kd = 2 → ty.isReference = true)
/-- invokevirtual: each class of the list selects its method -/
def vk (own : String) (idx n : Nat) (l : List (Nat × MethodName)) : Prop := ∀ ci y, disp l ci = some y → cVm own idx ci y n ∨ ∃ x, cUm own idx ci x y n
theorem vk_nil {own : String} {idx n : Nat} : vk own idx n [] := fun ci y h => by cases h
theorem vk_cons {own : String} {idx n c : Nat} {y : MethodName} {l : List (Nat × MethodName)} (h : cVm own idx c y n ∨ ∃ x, cUm own idx c x y n) (hl : vk own idx n l) : vk own idx n ((c, y) :: l) := by
  intro ci y' hd
  unfold disp at hd
  split at hd
  · rename_i e
    subst e
    cases hd
    exact h
  · exact hl ci y' hd
def fk (own : String) (idx n : Nat) (l : List (Nat × MethodName)) : Prop := ∀ ci y, disp l ci = some y → ∃ x, cFm own idx ci x y n
theorem fk_nil {own : String} {idx n : Nat} : fk own idx n [] := fun ci y h => by cases h
theorem fk_cons {own : String} {idx n c : Nat} {y : MethodName} {l : List (Nat × MethodName)} (h : ∃ x, cFm own idx c x y n) (hl : fk own idx n l) : fk own idx n ((c, y) :: l) := by
  intro ci y' hd
  unfold disp at hd
  split at hd
  · rename_i e
    subst e
    cases hd
    exact h
  · exact hl ci y' hd
def xl : List Cond := [(Jvm.Cond.initialized "java/lang/Throwable"), (Jvm.Cond.initialized "java/lang/Exception"), (Jvm.Cond.initialized "java/lang/RuntimeException"), (Jvm.Cond.initialized "java/lang/IllegalArgumentException"), (Jvm.Cond.initialized "java/lang/IllegalStateException"), (Jvm.Cond.initialized "java/lang/System"), (Jvm.Cond.initialized "java/util/NoSuchElementException"), (Jvm.Cond.initialized "java/lang/Math"), (Jvm.Cond.methodLink "BallotDesk" (1 : Nat) ({ cls := "java/lang/Object", name := "<init>", desc := "()V" } : Jvm.MethodName)), (Jvm.Cond.instanceMethod ({ cls := "java/lang/Object", name := "<init>", desc := "()V" } : Jvm.MethodName)), (Jvm.Cond.code ({ cls := "java/lang/Object", name := "<init>", desc := "()V" } : Jvm.MethodName) object_method_1_code (1 : Nat) (Option.none : Option Jvm.ClassFile.FieldType)), (Jvm.Cond.methodLink "BallotDesk$Elimination" (3 : Nat) ({ cls := "java/lang/Object", name := "<init>", desc := "()V" } : Jvm.MethodName)), (Jvm.Cond.superclass "BallotDesk$Elimination" "java/lang/Object"), (Jvm.Cond.methodLink "BallotDesk$Paths" (3 : Nat) ({ cls := "java/lang/Object", name := "<init>", desc := "()V" } : Jvm.MethodName)), (Jvm.Cond.superclass "BallotDesk$Paths" "java/lang/Object"), (Jvm.Cond.methodLink "BallotDesk$Agreement" (3 : Nat) ({ cls := "java/lang/Object", name := "<init>", desc := "()V" } : Jvm.MethodName)), (Jvm.Cond.superclass "BallotDesk$Agreement" "java/lang/Object"), (Jvm.Cond.methodLink "BallotDesk$Scored" (1 : Nat) ({ cls := "java/lang/Object", name := "<init>", desc := "()V" } : Jvm.MethodName)), (Jvm.Cond.methodLink "BallotDesk$Runoff" (3 : Nat) ({ cls := "java/lang/Object", name := "<init>", desc := "()V" } : Jvm.MethodName)), (Jvm.Cond.superclass "BallotDesk$Runoff" "java/lang/Object"), (Jvm.Cond.methodLink "BallotDesk$Locks" (3 : Nat) ({ cls := "java/lang/Object", name := "<init>", desc := "()V" } : Jvm.MethodName)), (Jvm.Cond.superclass "BallotDesk$Locks" "java/lang/Object"), (Jvm.Cond.methodLink "BallotDesk$Uncovered" (1 : Nat) ({ cls := "java/lang/Object", name := "<init>", desc := "()V" } : Jvm.MethodName)), (Jvm.Cond.superclass "BallotDesk$Uncovered" "java/lang/Object"), (Jvm.Cond.methodLink "BallotDesk$Agenda" (1 : Nat) ({ cls := "java/lang/Object", name := "<init>", desc := "()V" } : Jvm.MethodName)), (Jvm.Cond.superclass "BallotDesk$Agenda" "java/lang/Object"), (Jvm.Cond.methodLink "BallotDesk$Profile" (3 : Nat) ({ cls := "java/lang/Object", name := "<init>", desc := "()V" } : Jvm.MethodName)), (Jvm.Cond.superclass "BallotDesk$Profile" "java/lang/Object"), (Jvm.Cond.superclass "BallotDesk" "java/lang/Object"), (Jvm.Cond.methodLink "BallotDesk$Agreement" (37 : Nat) ({ cls := "java/lang/Math", name := "min", desc := "(JJ)J" } : Jvm.MethodName)), (Jvm.Cond.static ({ cls := "java/lang/Math", name := "min", desc := "(JJ)J" } : Jvm.MethodName)), (Jvm.Cond.code ({ cls := "java/lang/Math", name := "min", desc := "(JJ)J" } : Jvm.MethodName) prog_22_method_70_code (4 : Nat) (Option.some Jvm.ClassFile.FieldType.long)), (Jvm.Cond.classLink "BallotDeskLaw" (13 : Nat) "java/lang/IllegalArgumentException"), (Jvm.Cond.classLink "BallotDesk" (94 : Nat) "java/lang/IllegalArgumentException"), (Jvm.Cond.instantiable "java/lang/IllegalArgumentException" (6 : Nat)), (Jvm.Cond.castable "java/lang/IllegalArgumentException" "java/lang/IllegalArgumentException"), (Jvm.Cond.declares ({ cls := "java/lang/RuntimeException", name := "<init>", desc := "()V" } : Jvm.MethodName)), (Jvm.Cond.declares ({ cls := "java/lang/RuntimeException", name := "<init>", desc := "(Ljava/lang/String;)V" } : Jvm.MethodName)), (Jvm.Cond.declares ({ cls := "java/lang/Exception", name := "<init>", desc := "()V" } : Jvm.MethodName)), (Jvm.Cond.declares ({ cls := "java/lang/Exception", name := "<init>", desc := "(Ljava/lang/String;)V" } : Jvm.MethodName)), (Jvm.Cond.declares ({ cls := "java/lang/Throwable", name := "<init>", desc := "()V" } : Jvm.MethodName)), (Jvm.Cond.declares ({ cls := "java/lang/Throwable", name := "<init>", desc := "(Ljava/lang/String;)V" } : Jvm.MethodName)), (Jvm.Cond.selects "java/lang/IllegalArgumentException" ({ cls := "java/lang/Throwable", name := "fillInStackTrace", desc := "(I)Ljava/lang/Throwable;" } : Jvm.MethodName) ({ cls := "java/lang/Throwable", name := "fillInStackTrace", desc := "(I)Ljava/lang/Throwable;" } : Jvm.MethodName)), (Jvm.Cond.selects "java/lang/IllegalArgumentException" ({ cls := "java/lang/Throwable", name := "fillInStackTrace", desc := "()Ljava/lang/Throwable;" } : Jvm.MethodName) ({ cls := "java/lang/Throwable", name := "fillInStackTrace", desc := "()Ljava/lang/Throwable;" } : Jvm.MethodName)), (Jvm.Cond.lays "java/lang/IllegalArgumentException" "java/lang/Throwable" "cause" "Ljava/lang/Throwable;"), (Jvm.Cond.lays "java/lang/Throwable" "java/lang/Throwable" "cause" "Ljava/lang/Throwable;"), (Jvm.Cond.lays "java/lang/IllegalArgumentException" "java/lang/Throwable" "stackTrace" "[Ljava/lang/StackTraceElement;"), (Jvm.Cond.lays "java/lang/Throwable" "java/lang/Throwable" "stackTrace" "[Ljava/lang/StackTraceElement;"), (Jvm.Cond.lays "java/lang/IllegalArgumentException" "java/lang/Throwable" "suppressedExceptions" "Ljava/util/List;"), (Jvm.Cond.lays "java/lang/Throwable" "java/lang/Throwable" "suppressedExceptions" "Ljava/util/List;"), (Jvm.Cond.lays "java/lang/IllegalArgumentException" "java/lang/Throwable" "detailMessage" "Ljava/lang/String;"), (Jvm.Cond.lays "java/lang/Throwable" "java/lang/Throwable" "detailMessage" "Ljava/lang/String;"), (Jvm.Cond.lays "java/lang/IllegalArgumentException" "java/lang/Throwable" "backtrace" "Ljava/lang/Object;"), (Jvm.Cond.lays "java/lang/Throwable" "java/lang/Throwable" "backtrace" "Ljava/lang/Object;"), (Jvm.Cond.fieldLink "java/lang/Throwable" (198 : Nat) "java/lang/Throwable" "backtrace" "Ljava/lang/Object;"), (Jvm.Cond.superclass "java/lang/Throwable" "java/lang/Object"), (Jvm.Cond.instanceMethod ({ cls := "java/lang/Throwable", name := "<init>", desc := "()V" } : Jvm.MethodName)), (Jvm.Cond.code ({ cls := "java/lang/Throwable", name := "<init>", desc := "()V" } : Jvm.MethodName) prog_25_method_1_code (1 : Nat) (Option.none : Option Jvm.ClassFile.FieldType)), (Jvm.Cond.methodLink "java/lang/Throwable" (1 : Nat) ({ cls := "java/lang/Object", name := "<init>", desc := "()V" } : Jvm.MethodName)), (Jvm.Cond.fieldLink "java/lang/Throwable" (13 : Nat) "java/lang/Throwable" "UNASSIGNED_STACK" "[Ljava/lang/StackTraceElement;"), (Jvm.Cond.fieldLink "java/lang/Throwable" (20 : Nat) "java/lang/Throwable" "SUPPRESSED_SENTINEL" "Ljava/util/List;"), (Jvm.Cond.methodLink "java/lang/Throwable" (27 : Nat) ({ cls := "java/lang/Throwable", name := "fillInStackTrace", desc := "()Ljava/lang/Throwable;" } : Jvm.MethodName)), (Jvm.Cond.instanceMethod ({ cls := "java/lang/Throwable", name := "fillInStackTrace", desc := "()Ljava/lang/Throwable;" } : Jvm.MethodName)), (Jvm.Cond.sameMethod "java/lang/Throwable" "java/lang/Throwable" "fillInStackTrace" "()Ljava/lang/Throwable;"), (Jvm.Cond.selects "java/lang/IllegalStateException" ({ cls := "java/lang/Throwable", name := "fillInStackTrace", desc := "()Ljava/lang/Throwable;" } : Jvm.MethodName) ({ cls := "java/lang/Throwable", name := "fillInStackTrace", desc := "()Ljava/lang/Throwable;" } : Jvm.MethodName)), (Jvm.Cond.selects "java/util/NoSuchElementException" ({ cls := "java/lang/Throwable", name := "fillInStackTrace", desc := "()Ljava/lang/Throwable;" } : Jvm.MethodName) ({ cls := "java/lang/Throwable", name := "fillInStackTrace", desc := "()Ljava/lang/Throwable;" } : Jvm.MethodName)), (Jvm.Cond.codeSync ({ cls := "java/lang/Throwable", name := "fillInStackTrace", desc := "()Ljava/lang/Throwable;" } : Jvm.MethodName) prog_25_method_18_code (1 : Nat) (Option.some (Jvm.ClassFile.FieldType.object "java/lang/Throwable"))), (Jvm.Cond.methodLink "java/lang/Throwable" (202 : Nat) ({ cls := "java/lang/Throwable", name := "fillInStackTrace", desc := "(I)Ljava/lang/Throwable;" } : Jvm.MethodName)), (Jvm.Cond.privateMethod ({ cls := "java/lang/Throwable", name := "fillInStackTrace", desc := "(I)Ljava/lang/Throwable;" } : Jvm.MethodName)), (Jvm.Cond.instanceMethod ({ cls := "java/lang/Throwable", name := "fillInStackTrace", desc := "(I)Ljava/lang/Throwable;" } : Jvm.MethodName)), (Jvm.Cond.instantiable "java/lang/Throwable" (6 : Nat)), (Jvm.Cond.native ({ cls := "java/lang/Throwable", name := "fillInStackTrace", desc := "(I)Ljava/lang/Throwable;" } : Jvm.MethodName)), (Jvm.Cond.methodLink "BallotDesk" (96 : Nat) ({ cls := "java/lang/IllegalArgumentException", name := "<init>", desc := "()V" } : Jvm.MethodName)), (Jvm.Cond.instanceMethod ({ cls := "java/lang/IllegalArgumentException", name := "<init>", desc := "()V" } : Jvm.MethodName)), (Jvm.Cond.code ({ cls := "java/lang/IllegalArgumentException", name := "<init>", desc := "()V" } : Jvm.MethodName) prog_20_method_1_code (1 : Nat) (Option.none : Option Jvm.ClassFile.FieldType)), (Jvm.Cond.methodLink "java/lang/IllegalArgumentException" (1 : Nat) ({ cls := "java/lang/RuntimeException", name := "<init>", desc := "()V" } : Jvm.MethodName)), (Jvm.Cond.instanceMethod ({ cls := "java/lang/RuntimeException", name := "<init>", desc := "()V" } : Jvm.MethodName)), (Jvm.Cond.code ({ cls := "java/lang/RuntimeException", name := "<init>", desc := "()V" } : Jvm.MethodName) prog_23_method_1_code (1 : Nat) (Option.none : Option Jvm.ClassFile.FieldType)), (Jvm.Cond.methodLink "java/lang/RuntimeException" (1 : Nat) ({ cls := "java/lang/Exception", name := "<init>", desc := "()V" } : Jvm.MethodName)), (Jvm.Cond.instanceMethod ({ cls := "java/lang/Exception", name := "<init>", desc := "()V" } : Jvm.MethodName)), (Jvm.Cond.code ({ cls := "java/lang/Exception", name := "<init>", desc := "()V" } : Jvm.MethodName) prog_19_method_1_code (1 : Nat) (Option.none : Option Jvm.ClassFile.FieldType)), (Jvm.Cond.methodLink "java/lang/Exception" (1 : Nat) ({ cls := "java/lang/Throwable", name := "<init>", desc := "()V" } : Jvm.MethodName)), (Jvm.Cond.fieldLink "java/lang/Throwable" (198 : Nat) "java/lang/Throwable" "backtrace" "Ljava/lang/Object;"), (Jvm.Cond.fieldLink "java/lang/Throwable" (7 : Nat) "java/lang/Throwable" "cause" "Ljava/lang/Throwable;"), (Jvm.Cond.fieldLink "java/lang/Throwable" (17 : Nat) "java/lang/Throwable" "stackTrace" "[Ljava/lang/StackTraceElement;"), (Jvm.Cond.fieldLink "java/lang/Throwable" (24 : Nat) "java/lang/Throwable" "suppressedExceptions" "Ljava/util/List;"), (Jvm.Cond.soleField "java/lang/Throwable" "backtrace"), (Jvm.Cond.soleField "java/lang/Throwable" "detailMessage"), (Jvm.Cond.soleField "java/lang/Throwable" "cause"), (Jvm.Cond.soleField "java/lang/Throwable" "stackTrace"), (Jvm.Cond.lays "java/lang/IllegalArgumentException" "java/lang/Throwable" "depth" "I"), (Jvm.Cond.soleField "java/lang/Throwable" "depth"), (Jvm.Cond.soleField "java/lang/Throwable" "suppressedExceptions"), (Jvm.Cond.superclass "java/lang/IllegalArgumentException" "java/lang/RuntimeException"), (Jvm.Cond.classLink "BallotDeskLaw" (19 : Nat) "java/lang/IllegalStateException"), (Jvm.Cond.classLink "BallotDesk" (117 : Nat) "java/lang/IllegalStateException"), (Jvm.Cond.instantiable "java/lang/IllegalStateException" (6 : Nat)), (Jvm.Cond.castable "java/lang/IllegalStateException" "java/lang/IllegalStateException"), (Jvm.Cond.selects "java/lang/IllegalStateException" ({ cls := "java/lang/Throwable", name := "fillInStackTrace", desc := "(I)Ljava/lang/Throwable;" } : Jvm.MethodName) ({ cls := "java/lang/Throwable", name := "fillInStackTrace", desc := "(I)Ljava/lang/Throwable;" } : Jvm.MethodName)), (Jvm.Cond.lays "java/lang/IllegalStateException" "java/lang/Throwable" "cause" "Ljava/lang/Throwable;"), (Jvm.Cond.lays "java/lang/IllegalStateException" "java/lang/Throwable" "stackTrace" "[Ljava/lang/StackTraceElement;"), (Jvm.Cond.lays "java/lang/IllegalStateException" "java/lang/Throwable" "suppressedExceptions" "Ljava/util/List;"), (Jvm.Cond.lays "java/lang/IllegalStateException" "java/lang/Throwable" "detailMessage" "Ljava/lang/String;"), (Jvm.Cond.lays "java/lang/IllegalStateException" "java/lang/Throwable" "backtrace" "Ljava/lang/Object;"), (Jvm.Cond.methodLink "BallotDesk" (119 : Nat) ({ cls := "java/lang/IllegalStateException", name := "<init>", desc := "()V" } : Jvm.MethodName)), (Jvm.Cond.instanceMethod ({ cls := "java/lang/IllegalStateException", name := "<init>", desc := "()V" } : Jvm.MethodName)), (Jvm.Cond.code ({ cls := "java/lang/IllegalStateException", name := "<init>", desc := "()V" } : Jvm.MethodName) prog_21_method_1_code (1 : Nat) (Option.none : Option Jvm.ClassFile.FieldType)), (Jvm.Cond.methodLink "java/lang/IllegalStateException" (1 : Nat) ({ cls := "java/lang/RuntimeException", name := "<init>", desc := "()V" } : Jvm.MethodName)), (Jvm.Cond.lays "java/lang/IllegalStateException" "java/lang/Throwable" "depth" "I"), (Jvm.Cond.superclass "java/lang/IllegalStateException" "java/lang/RuntimeException"), (Jvm.Cond.methodLink "BallotDesk$Profile" (42 : Nat) ({ cls := "java/lang/System", name := "arraycopy", desc := "(Ljava/lang/Object;ILjava/lang/Object;II)V" } : Jvm.MethodName)), (Jvm.Cond.static ({ cls := "java/lang/System", name := "arraycopy", desc := "(Ljava/lang/Object;ILjava/lang/Object;II)V" } : Jvm.MethodName)), (Jvm.Cond.native ({ cls := "java/lang/System", name := "arraycopy", desc := "(Ljava/lang/Object;ILjava/lang/Object;II)V" } : Jvm.MethodName)), (Jvm.Cond.classLink "BallotDeskLaw" (24 : Nat) "java/util/NoSuchElementException"), (Jvm.Cond.classLink "BallotDesk" (91 : Nat) "java/util/NoSuchElementException"), (Jvm.Cond.instantiable "java/util/NoSuchElementException" (6 : Nat)), (Jvm.Cond.castable "java/util/NoSuchElementException" "java/util/NoSuchElementException"), (Jvm.Cond.selects "java/util/NoSuchElementException" ({ cls := "java/lang/Throwable", name := "fillInStackTrace", desc := "(I)Ljava/lang/Throwable;" } : Jvm.MethodName) ({ cls := "java/lang/Throwable", name := "fillInStackTrace", desc := "(I)Ljava/lang/Throwable;" } : Jvm.MethodName)), (Jvm.Cond.lays "java/util/NoSuchElementException" "java/lang/Throwable" "cause" "Ljava/lang/Throwable;"), (Jvm.Cond.lays "java/util/NoSuchElementException" "java/lang/Throwable" "stackTrace" "[Ljava/lang/StackTraceElement;"), (Jvm.Cond.lays "java/util/NoSuchElementException" "java/lang/Throwable" "suppressedExceptions" "Ljava/util/List;"), (Jvm.Cond.lays "java/util/NoSuchElementException" "java/lang/Throwable" "detailMessage" "Ljava/lang/String;"), (Jvm.Cond.lays "java/util/NoSuchElementException" "java/lang/Throwable" "backtrace" "Ljava/lang/Object;"), (Jvm.Cond.methodLink "BallotDesk" (93 : Nat) ({ cls := "java/util/NoSuchElementException", name := "<init>", desc := "()V" } : Jvm.MethodName)), (Jvm.Cond.instanceMethod ({ cls := "java/util/NoSuchElementException", name := "<init>", desc := "()V" } : Jvm.MethodName)), (Jvm.Cond.code ({ cls := "java/util/NoSuchElementException", name := "<init>", desc := "()V" } : Jvm.MethodName) prog_26_method_1_code (1 : Nat) (Option.none : Option Jvm.ClassFile.FieldType)), (Jvm.Cond.methodLink "java/util/NoSuchElementException" (1 : Nat) ({ cls := "java/lang/RuntimeException", name := "<init>", desc := "()V" } : Jvm.MethodName)), (Jvm.Cond.lays "java/util/NoSuchElementException" "java/lang/Throwable" "depth" "I"), (Jvm.Cond.superclass "java/util/NoSuchElementException" "java/lang/RuntimeException"), (Jvm.Cond.methodLink "BallotDesk" (138 : Nat) ({ cls := "java/lang/System", name := "arraycopy", desc := "(Ljava/lang/Object;ILjava/lang/Object;II)V" } : Jvm.MethodName)), (Jvm.Cond.methodLink "BallotDeskModel" (1 : Nat) ({ cls := "java/lang/Object", name := "<init>", desc := "()V" } : Jvm.MethodName)), (Jvm.Cond.superclass "BallotDeskModel" "java/lang/Object"), (Jvm.Cond.sameMethod "java/lang/Throwable" "java/lang/Throwable" "fillInStackTrace" "(I)Ljava/lang/Throwable;")]
set_option maxRecDepth 20000 in
theorem xl_in : ∀ w ∈ xl, w ∈ lw_t := (List.forall_mem_cons.mpr ⟨wd_17, (List.forall_mem_cons.mpr ⟨wd_18, (List.forall_mem_cons.mpr ⟨wd_19, (List.forall_mem_cons.mpr ⟨wd_20, (List.forall_mem_cons.mpr ⟨wd_21, (List.forall_mem_cons.mpr ⟨wd_22, (List.forall_mem_cons.mpr ⟨wd_23, (List.forall_mem_cons.mpr ⟨wd_24, (List.forall_mem_cons.mpr ⟨wd_30, (List.forall_mem_cons.mpr ⟨wd_31, (List.forall_mem_cons.mpr ⟨wd_32, (List.forall_mem_cons.mpr ⟨wd_38, (List.forall_mem_cons.mpr ⟨wd_46, (List.forall_mem_cons.mpr ⟨wd_53, (List.forall_mem_cons.mpr ⟨wd_60, (List.forall_mem_cons.mpr ⟨wd_67, (List.forall_mem_cons.mpr ⟨wd_72, (List.forall_mem_cons.mpr ⟨wd_84, (List.forall_mem_cons.mpr ⟨wd_110, (List.forall_mem_cons.mpr ⟨wd_114, (List.forall_mem_cons.mpr ⟨wd_136, (List.forall_mem_cons.mpr ⟨wd_146, (List.forall_mem_cons.mpr ⟨wd_152, (List.forall_mem_cons.mpr ⟨wd_153, (List.forall_mem_cons.mpr ⟨wd_159, (List.forall_mem_cons.mpr ⟨wd_160, (List.forall_mem_cons.mpr ⟨wd_166, (List.forall_mem_cons.mpr ⟨wd_225, (List.forall_mem_cons.mpr ⟨wd_260, (List.forall_mem_cons.mpr ⟨wd_302, (List.forall_mem_cons.mpr ⟨wd_303, (List.forall_mem_cons.mpr ⟨wd_304, (List.forall_mem_cons.mpr ⟨wd_332, (List.forall_mem_cons.mpr ⟨wd_340, (List.forall_mem_cons.mpr ⟨wd_341, (List.forall_mem_cons.mpr ⟨wd_342, (List.forall_mem_cons.mpr ⟨wd_343, (List.forall_mem_cons.mpr ⟨wd_344, (List.forall_mem_cons.mpr ⟨wd_345, (List.forall_mem_cons.mpr ⟨wd_346, (List.forall_mem_cons.mpr ⟨wd_347, (List.forall_mem_cons.mpr ⟨wd_348, (List.forall_mem_cons.mpr ⟨wd_349, (List.forall_mem_cons.mpr ⟨wd_350, (List.forall_mem_cons.mpr ⟨wd_351, (List.forall_mem_cons.mpr ⟨wd_352, (List.forall_mem_cons.mpr ⟨wd_353, (List.forall_mem_cons.mpr ⟨wd_354, (List.forall_mem_cons.mpr ⟨wd_355, (List.forall_mem_cons.mpr ⟨wd_356, (List.forall_mem_cons.mpr ⟨wd_357, (List.forall_mem_cons.mpr ⟨wd_358, (List.forall_mem_cons.mpr ⟨wd_359, (List.forall_mem_cons.mpr ⟨wd_360, (List.forall_mem_cons.mpr ⟨wd_361, (List.forall_mem_cons.mpr ⟨wd_362, (List.forall_mem_cons.mpr ⟨wd_363, (List.forall_mem_cons.mpr ⟨wd_364, (List.forall_mem_cons.mpr ⟨wd_365, (List.forall_mem_cons.mpr ⟨wd_366, (List.forall_mem_cons.mpr ⟨wd_368, (List.forall_mem_cons.mpr ⟨wd_370, (List.forall_mem_cons.mpr ⟨wd_371, (List.forall_mem_cons.mpr ⟨wd_372, (List.forall_mem_cons.mpr ⟨wd_373, (List.forall_mem_cons.mpr ⟨wd_374, (List.forall_mem_cons.mpr ⟨wd_375, (List.forall_mem_cons.mpr ⟨wd_376, (List.forall_mem_cons.mpr ⟨wd_377, (List.forall_mem_cons.mpr ⟨wd_378, (List.forall_mem_cons.mpr ⟨wd_379, (List.forall_mem_cons.mpr ⟨wd_380, (List.forall_mem_cons.mpr ⟨wd_381, (List.forall_mem_cons.mpr ⟨wd_382, (List.forall_mem_cons.mpr ⟨wd_383, (List.forall_mem_cons.mpr ⟨wd_384, (List.forall_mem_cons.mpr ⟨wd_385, (List.forall_mem_cons.mpr ⟨wd_386, (List.forall_mem_cons.mpr ⟨wd_387, (List.forall_mem_cons.mpr ⟨wd_388, (List.forall_mem_cons.mpr ⟨wd_389, (List.forall_mem_cons.mpr ⟨wd_390, (List.forall_mem_cons.mpr ⟨wd_391, (List.forall_mem_cons.mpr ⟨wd_392, (List.forall_mem_cons.mpr ⟨wd_393, (List.forall_mem_cons.mpr ⟨wd_394, (List.forall_mem_cons.mpr ⟨wd_395, (List.forall_mem_cons.mpr ⟨wd_396, (List.forall_mem_cons.mpr ⟨wd_397, (List.forall_mem_cons.mpr ⟨wd_398, (List.forall_mem_cons.mpr ⟨wd_399, (List.forall_mem_cons.mpr ⟨wd_400, (List.forall_mem_cons.mpr ⟨wd_401, (List.forall_mem_cons.mpr ⟨wd_402, (List.forall_mem_cons.mpr ⟨wd_406, (List.forall_mem_cons.mpr ⟨wd_419, (List.forall_mem_cons.mpr ⟨wd_420, (List.forall_mem_cons.mpr ⟨wd_421, (List.forall_mem_cons.mpr ⟨wd_422, (List.forall_mem_cons.mpr ⟨wd_423, (List.forall_mem_cons.mpr ⟨wd_424, (List.forall_mem_cons.mpr ⟨wd_425, (List.forall_mem_cons.mpr ⟨wd_426, (List.forall_mem_cons.mpr ⟨wd_427, (List.forall_mem_cons.mpr ⟨wd_428, (List.forall_mem_cons.mpr ⟨wd_429, (List.forall_mem_cons.mpr ⟨wd_430, (List.forall_mem_cons.mpr ⟨wd_431, (List.forall_mem_cons.mpr ⟨wd_432, (List.forall_mem_cons.mpr ⟨wd_433, (List.forall_mem_cons.mpr ⟨wd_438, (List.forall_mem_cons.mpr ⟨wd_439, (List.forall_mem_cons.mpr ⟨wd_440, (List.forall_mem_cons.mpr ⟨wd_448, (List.forall_mem_cons.mpr ⟨wd_460, (List.forall_mem_cons.mpr ⟨wd_461, (List.forall_mem_cons.mpr ⟨wd_462, (List.forall_mem_cons.mpr ⟨wd_463, (List.forall_mem_cons.mpr ⟨wd_464, (List.forall_mem_cons.mpr ⟨wd_465, (List.forall_mem_cons.mpr ⟨wd_466, (List.forall_mem_cons.mpr ⟨wd_467, (List.forall_mem_cons.mpr ⟨wd_468, (List.forall_mem_cons.mpr ⟨wd_469, (List.forall_mem_cons.mpr ⟨wd_470, (List.forall_mem_cons.mpr ⟨wd_471, (List.forall_mem_cons.mpr ⟨wd_472, (List.forall_mem_cons.mpr ⟨wd_473, (List.forall_mem_cons.mpr ⟨wd_474, (List.forall_mem_cons.mpr ⟨wd_501, (List.forall_mem_cons.mpr ⟨wd_786, (List.forall_mem_cons.mpr ⟨wd_863, (List.forall_mem_cons.mpr ⟨wd_1136, (fun q hq => by cases hq)⟩)⟩)⟩)⟩)⟩)⟩)⟩)⟩)⟩)⟩)⟩)⟩)⟩)⟩)⟩)⟩)⟩)⟩)⟩)⟩)⟩)⟩)⟩)⟩)⟩)⟩)⟩)⟩)⟩)⟩)⟩)⟩)⟩)⟩)⟩)⟩)⟩)⟩)⟩)⟩)⟩)⟩)⟩)⟩)⟩)⟩)⟩)⟩)⟩)⟩)⟩)⟩)⟩)⟩)⟩)⟩)⟩)⟩)⟩)⟩)⟩)⟩)⟩)⟩)⟩)⟩)⟩)⟩)⟩)⟩)⟩)⟩)⟩)⟩)⟩)⟩)⟩)⟩)⟩)⟩)⟩)⟩)⟩)⟩)⟩)⟩)⟩)⟩)⟩)⟩)⟩)⟩)⟩)⟩)⟩)⟩)⟩)⟩)⟩)⟩)⟩)⟩)⟩)⟩)⟩)⟩)⟩)⟩)⟩)⟩)⟩)⟩)⟩)⟩)⟩)⟩)⟩)⟩)⟩)⟩)⟩)⟩)⟩)⟩)⟩)⟩)⟩)⟩)⟩)⟩)⟩)⟩)⟩)
theorem xb_Desk_91 : ∀ w ∈ Bundle.ownAtoms0 "BallotDesk" 93 (xname 2) xnames, w ∈ xl ∨ w ∈ stw ∨ w = Cond.methodLink "BallotDesk" 93 ⟨"java/util/NoSuchElementException", "<init>", "()V"⟩ := by decide +kernel
theorem xa_Desk_91 : ∀ w ∈ Bundle.ownAtoms0 "BallotDesk" 93 (xname 2) xnames, w ∈ lw_t ∨ w ∈ stw := fun w hw => (xb_Desk_91 w hw).elim (fun h => Or.inl (xl_in w h)) (fun h => h.elim Or.inr (fun h => Or.inl (h ▸ wd_469)))
theorem xb_Desk_94 : ∀ w ∈ Bundle.ownAtoms0 "BallotDesk" 96 (xname 0) xnames, w ∈ xl ∨ w ∈ stw ∨ w = Cond.methodLink "BallotDesk" 96 ⟨"java/lang/IllegalArgumentException", "<init>", "()V"⟩ := by decide +kernel
theorem xa_Desk_94 : ∀ w ∈ Bundle.ownAtoms0 "BallotDesk" 96 (xname 0) xnames, w ∈ lw_t ∨ w ∈ stw := fun w hw => (xb_Desk_94 w hw).elim (fun h => Or.inl (xl_in w h)) (fun h => h.elim Or.inr (fun h => Or.inl (h ▸ wd_381)))
theorem xb_Desk_117 : ∀ w ∈ Bundle.ownAtoms0 "BallotDesk" 119 (xname 1) xnames, w ∈ xl ∨ w ∈ stw ∨ w = Cond.methodLink "BallotDesk" 119 ⟨"java/lang/IllegalStateException", "<init>", "()V"⟩ := by decide +kernel
theorem xa_Desk_117 : ∀ w ∈ Bundle.ownAtoms0 "BallotDesk" 119 (xname 1) xnames, w ∈ lw_t ∨ w ∈ stw := fun w hw => (xb_Desk_117 w hw).elim (fun h => Or.inl (xl_in w h)) (fun h => h.elim Or.inr (fun h => Or.inl (h ▸ wd_428)))
theorem co_Desk_1 : cOm "BallotDesk" 1 := ⟨wd_30, wd_31, wd_32⟩
theorem cn_Desk_7 : cNm "BallotDesk" 7 2 := ⟨_, _, rfl, rfl, wd_33, by decide +kernel⟩
theorem ci_Desk_9 : cIm "BallotDesk" 9 y_Elim_init 0 := ⟨⟨by decide +kernel, ⟨by decide +kernel, by decide +kernel⟩, by decide +kernel, _, _, (by decide : (1 : Nat) ≤ 40), wd_37⟩, rfl, Or.inr ⟨_, wd_35⟩, wd_36⟩
theorem pl_Desk_10 : ∀ ci, 0 ≤ ci → ci ≤ 0 → pLk "BallotDesk" 10 ci 0 true 2 := fun ci h1 h2 => by obtain rfl : ci = 0 := (by omega); exact ⟨_, ⟨_, _, rfl, rfl, by decide, rfl, wd_230, rfl, by decide⟩, by decide, by decide, by decide⟩
theorem cn_Desk_16 : cNm "BallotDesk" 16 3 := ⟨_, _, rfl, rfl, wd_48, by decide +kernel⟩
theorem ci_Desk_18 : cIm "BallotDesk" 18 y_Paths_init 0 := ⟨⟨by decide +kernel, ⟨by decide +kernel, by decide +kernel⟩, by decide +kernel, _, _, (by decide : (1 : Nat) ≤ 40), wd_52⟩, rfl, Or.inr ⟨_, wd_50⟩, wd_51⟩
theorem pl_Desk_19 : ∀ ci, 0 ≤ ci → ci ≤ 0 → pLk "BallotDesk" 19 ci 1 true 2 := fun ci h1 h2 => by obtain rfl : ci = 0 := (by omega); exact ⟨_, ⟨_, _, rfl, rfl, by decide, rfl, wd_231, rfl, by decide⟩, by decide, by decide, by decide⟩
theorem cn_Desk_23 : cNm "BallotDesk" 23 4 := ⟨_, _, rfl, rfl, wd_62, by decide +kernel⟩
theorem ci_Desk_25 : cIm "BallotDesk" 25 y_Agre_init 0 := ⟨⟨by decide +kernel, ⟨by decide +kernel, by decide +kernel⟩, by decide +kernel, _, _, (by decide : (1 : Nat) ≤ 40), wd_66⟩, rfl, Or.inr ⟨_, wd_64⟩, wd_65⟩
theorem pl_Desk_26 : ∀ ci, 0 ≤ ci → ci ≤ 0 → pLk "BallotDesk" 26 ci 2 true 2 := fun ci h1 h2 => by obtain rfl : ci = 0 := (by omega); exact ⟨_, ⟨_, _, rfl, rfl, by decide, rfl, wd_232, rfl, by decide⟩, by decide, by decide, by decide⟩
theorem cl_Desk_30 : Cond.classLink "BallotDesk" 30 "BallotDesk$Rule" ∈ lw_t := wd_74
theorem cn_Desk_32 : cNm "BallotDesk" 32 9 := ⟨_, _, rfl, rfl, wd_76, by decide +kernel⟩
theorem ci_Desk_34 : cIm "BallotDesk" 34 y_Firs_init 0 := ⟨⟨by decide +kernel, ⟨by decide +kernel, by decide +kernel⟩, by decide +kernel, _, _, (by decide : (1 : Nat) ≤ 40), wd_80⟩, rfl, Or.inl wd_78, wd_79⟩
theorem cn_Desk_35 : cNm "BallotDesk" 35 10 := ⟨_, _, rfl, rfl, wd_89, by decide +kernel⟩
theorem ci_Desk_37 : cIm "BallotDesk" 37 y_Last_init 0 := ⟨⟨by decide +kernel, ⟨by decide +kernel, by decide +kernel⟩, by decide +kernel, _, _, (by decide : (1 : Nat) ≤ 40), wd_93⟩, rfl, Or.inl wd_91, wd_92⟩
theorem cn_Desk_38 : cNm "BallotDesk" 38 11 := ⟨_, _, rfl, rfl, wd_97, by decide +kernel⟩
theorem ci_Desk_40 : cIm "BallotDesk" 40 y_Poin_init 0 := ⟨⟨by decide +kernel, ⟨by decide +kernel, by decide +kernel⟩, by decide +kernel, _, _, (by decide : (1 : Nat) ≤ 40), wd_101⟩, rfl, Or.inl wd_99, wd_100⟩
theorem cn_Desk_41 : cNm "BallotDesk" 41 5 := ⟨_, _, rfl, rfl, wd_105, by decide +kernel⟩
theorem ci_Desk_43 : cIm "BallotDesk" 43 y_Runo_init 0 := ⟨⟨by decide +kernel, ⟨by decide +kernel, by decide +kernel⟩, by decide +kernel, _, _, (by decide : (1 : Nat) ≤ 40), wd_109⟩, rfl, Or.inr ⟨_, wd_107⟩, wd_108⟩
theorem fl_Desk_10 : ∀ ci, 0 ≤ ci → ci ≤ 0 → fLink "BallotDesk" 10 ci 0 := fun ci h1 h2 => by obtain rfl : ci = 0 := (by omega); exact ⟨_, rfl, by decide, Or.inl wd_230⟩
theorem cn_Desk_44 : cNm "BallotDesk" 44 12 := ⟨_, _, rfl, rfl, wd_115, by decide +kernel⟩
theorem ci_Desk_46 : cIm "BallotDesk" 46 y_Defe_init 0 := ⟨⟨by decide +kernel, ⟨by decide +kernel, by decide +kernel⟩, by decide +kernel, _, _, (by decide : (1 : Nat) ≤ 40), wd_119⟩, rfl, Or.inl wd_117, wd_118⟩
theorem cn_Desk_47 : cNm "BallotDesk" 47 13 := ⟨_, _, rfl, rfl, wd_123, by decide +kernel⟩
theorem ci_Desk_49 : cIm "BallotDesk" 49 y_Wins_init 0 := ⟨⟨by decide +kernel, ⟨by decide +kernel, by decide +kernel⟩, by decide +kernel, _, _, (by decide : (1 : Nat) ≤ 40), wd_127⟩, rfl, Or.inl wd_125, wd_126⟩
theorem fl_Desk_19 : ∀ ci, 0 ≤ ci → ci ≤ 0 → fLink "BallotDesk" 19 ci 1 := fun ci h1 h2 => by obtain rfl : ci = 0 := (by omega); exact ⟨_, rfl, by decide, Or.inl wd_231⟩
theorem cn_Desk_50 : cNm "BallotDesk" 50 6 := ⟨_, _, rfl, rfl, wd_131, by decide +kernel⟩
theorem ci_Desk_52 : cIm "BallotDesk" 52 y_Locks_init 0 := ⟨⟨by decide +kernel, ⟨by decide +kernel, by decide +kernel⟩, by decide +kernel, _, _, (by decide : (1 : Nat) ≤ 40), wd_135⟩, rfl, Or.inr ⟨_, wd_133⟩, wd_134⟩
theorem fl_Desk_26 : ∀ ci, 0 ≤ ci → ci ≤ 0 → fLink "BallotDesk" 26 ci 2 := fun ci h1 h2 => by obtain rfl : ci = 0 := (by omega); exact ⟨_, rfl, by decide, Or.inl wd_232⟩
theorem cn_Desk_53 : cNm "BallotDesk" 53 7 := ⟨_, _, rfl, rfl, wd_147, by decide +kernel⟩
theorem ci_Desk_55 : cIm "BallotDesk" 55 y_Unco_init 0 := ⟨⟨by decide +kernel, ⟨by decide +kernel, by decide +kernel⟩, by decide +kernel, _, _, (by decide : (1 : Nat) ≤ 40), wd_151⟩, rfl, Or.inr ⟨_, wd_149⟩, wd_150⟩
theorem cn_Desk_56 : cNm "BallotDesk" 56 8 := ⟨_, _, rfl, rfl, wd_154, by decide +kernel⟩
theorem ci_Desk_58 : cIm "BallotDesk" 58 y_Agen_init 0 := ⟨⟨by decide +kernel, ⟨by decide +kernel, by decide +kernel⟩, by decide +kernel, _, _, (by decide : (1 : Nat) ≤ 40), wd_158⟩, rfl, Or.inr ⟨_, wd_156⟩, wd_157⟩
theorem pl_Desk_59 : ∀ ci, 0 ≤ ci → ci ≤ 0 → pLk "BallotDesk" 59 ci 3 true 2 := fun ci h1 h2 => by obtain rfl : ci = 0 := (by omega); exact ⟨_, ⟨_, _, rfl, rfl, by decide, rfl, wd_233, rfl, by decide⟩, by decide, by decide, by decide⟩
theorem pl_Desk_63 : ∀ ci, 0 ≤ ci → ci ≤ 0 → pLk "BallotDesk" 63 ci 4 true 2 := fun ci h1 h2 => by obtain rfl : ci = 0 := (by omega); exact ⟨_, ⟨_, _, rfl, rfl, by decide, rfl, wd_234, rfl, by decide⟩, by decide, by decide, by decide⟩
theorem pl_Desk_67 : ∀ ci, 0 ≤ ci → ci ≤ 0 → pLk "BallotDesk" 67 ci 5 true 2 := fun ci h1 h2 => by obtain rfl : ci = 0 := (by omega); exact ⟨_, ⟨_, _, rfl, rfl, by decide, rfl, wd_235, rfl, by decide⟩, by decide, by decide, by decide⟩
theorem cn_Desk_70 : cNm "BallotDesk" 70 1 := ⟨_, _, rfl, rfl, wd_161, by decide +kernel⟩
theorem ci_Desk_72 : cIm "BallotDesk" 72 y_Prof_init 0 := ⟨⟨by decide +kernel, ⟨by decide +kernel, by decide +kernel⟩, by decide +kernel, _, _, (by decide : (1 : Nat) ≤ 40), wd_165⟩, rfl, Or.inr ⟨_, wd_163⟩, wd_164⟩
theorem pl_Desk_73 : ∀ ci, 0 ≤ ci → ci ≤ 0 → pLk "BallotDesk" 73 ci 6 true 2 := fun ci h1 h2 => by obtain rfl : ci = 0 := (by omega); exact ⟨_, ⟨_, _, rfl, rfl, by decide, rfl, wd_236, rfl, by decide⟩, by decide, by decide, by decide⟩
theorem pl_Desk_77 : ∀ ci, 0 ≤ ci → ci ≤ 0 → pLk "BallotDesk" 77 ci 7 true 2 := fun ci h1 h2 => by obtain rfl : ci = 0 := (by omega); exact ⟨_, ⟨_, _, rfl, rfl, by decide, rfl, wd_237, rfl, by decide⟩, by decide, by decide, by decide⟩
theorem pl_Desk_80 : ∀ ci, 0 ≤ ci → ci ≤ 0 → pLk "BallotDesk" 80 ci 8 false 0 := fun ci h1 h2 => by obtain rfl : ci = 0 := (by omega); exact ⟨_, ⟨_, _, rfl, rfl, by decide, rfl, wd_238, rfl, by decide⟩, by decide, by decide, by decide⟩
theorem pl_Desk_84 : ∀ ci, 0 ≤ ci → ci ≤ 0 → pLk "BallotDesk" 84 ci 9 false 0 := fun ci h1 h2 => by obtain rfl : ci = 0 := (by omega); exact ⟨_, ⟨_, _, rfl, rfl, by decide, rfl, wd_239, rfl, by decide⟩, by decide, by decide, by decide⟩
theorem fl_Desk_73 : ∀ ci, 0 ≤ ci → ci ≤ 0 → fLink "BallotDesk" 73 ci 6 := fun ci h1 h2 => by obtain rfl : ci = 0 := (by omega); exact ⟨_, rfl, by decide, Or.inl wd_236⟩
theorem cal_Prof_begin : cal y_Prof_begin 1 := ⟨by decide +kernel, ⟨by decide +kernel, by decide +kernel⟩, by decide +kernel, _, _, _, _, (by decide : (4 : Nat) ≤ 40), Or.inl ⟨wd_229, rfl⟩⟩
theorem cv_Desk_87 : vk "BallotDesk" 87 1 [(1, y_Prof_begin)] := vk_cons (Or.inl ⟨cal_Prof_begin, wd_226, wd_227, _, rfl, wd_228⟩) (vk_nil)
theorem cx_Desk_91 : cXm "BallotDesk" 91 93 2 := ⟨by decide, wd_460, wd_461, wd_23, by decide +kernel, xa_Desk_91⟩
theorem cx_Desk_94 : cXm "BallotDesk" 94 96 0 := ⟨by decide, wd_340, wd_341, wd_20, by decide +kernel, xa_Desk_94⟩
theorem fl_Desk_59 : ∀ ci, 0 ≤ ci → ci ≤ 0 → fLink "BallotDesk" 59 ci 3 := fun ci h1 h2 => by obtain rfl : ci = 0 := (by omega); exact ⟨_, rfl, by decide, Or.inl wd_233⟩
theorem cal_Desk_exists : cal y_Desk_exists 1 := ⟨by decide +kernel, ⟨by decide +kernel, by decide +kernel⟩, by decide +kernel, _, _, _, _, (by decide : (1 : Nat) ≤ 40), Or.inl ⟨wd_459, rfl⟩⟩
theorem cs_Desk_97 : cSm "BallotDesk" 97 y_Desk_exists 1 := ⟨cal_Desk_exists, wd_457, wd_458, wd_1⟩
theorem fl_Desk_101 : ∀ ci, 1 ≤ ci → ci ≤ 1 → fLink "BallotDesk" 101 ci 0 := fun ci h1 h2 => by obtain rfl : ci = 1 := (by omega); exact ⟨_, rfl, by decide, Or.inr ⟨_, wd_180⟩⟩
theorem fl_Desk_104 : ∀ ci, 1 ≤ ci → ci ≤ 1 → fLink "BallotDesk" 104 ci 1 := fun ci h1 h2 => by obtain rfl : ci = 1 := (by omega); exact ⟨_, rfl, by decide, Or.inr ⟨_, wd_184⟩⟩
theorem cal_Desk_allow : cal y_Desk_allow 1 := ⟨by decide +kernel, ⟨by decide +kernel, by decide +kernel⟩, by decide +kernel, _, _, _, _, (by decide : (1 : Nat) ≤ 40), Or.inl ⟨wd_339, rfl⟩⟩
theorem cs_Desk_107 : cSm "BallotDesk" 107 y_Desk_allow 1 := ⟨cal_Desk_allow, wd_337, wd_338, wd_1⟩
theorem fl_Desk_63 : ∀ ci, 0 ≤ ci → ci ≤ 0 → fLink "BallotDesk" 63 ci 4 := fun ci h1 h2 => by obtain rfl : ci = 0 := (by omega); exact ⟨_, rfl, by decide, Or.inl wd_234⟩
theorem kc_Desk_110 : Cond.constant "BallotDesk" 110 (Int32.ofInt (100000 : Nat)) ∈ lw_t := wd_418
theorem cal_Desk_unpack : cal y_Desk_unpack 1 := ⟨by decide +kernel, ⟨by decide +kernel, by decide +kernel⟩, by decide +kernel, _, _, _, _, (by decide : (5 : Nat) ≤ 40), Or.inl ⟨wd_414, rfl⟩⟩
theorem cv_Desk_111 : vk "BallotDesk" 111 1 [(0, y_Desk_unpack)] := vk_cons (Or.inl ⟨cal_Desk_unpack, wd_411, wd_413, _, rfl, wp_4⟩) (vk_nil)
theorem cal_Desk_counted : cal y_Desk_counted 1 := ⟨by decide +kernel, ⟨by decide +kernel, by decide +kernel⟩, by decide +kernel, _, _, _, _, (by decide : (1 : Nat) ≤ 40), Or.inl ⟨wd_417, rfl⟩⟩
theorem cs_Desk_114 : cSm "BallotDesk" 114 y_Desk_counted 1 := ⟨cal_Desk_counted, wd_415, wd_416, wd_1⟩
theorem cx_Desk_117 : cXm "BallotDesk" 117 119 1 := ⟨by decide, wd_419, wd_420, wd_21, by decide +kernel, xa_Desk_117⟩
theorem cal_Prof_add : cal y_Prof_add 2 := ⟨by decide +kernel, ⟨by decide +kernel, by decide +kernel⟩, by decide +kernel, _, _, _, _, (by decide : (3 : Nat) ≤ 40), Or.inl ⟨wd_437, rfl⟩⟩
theorem cv_Desk_120 : vk "BallotDesk" 120 2 [(1, y_Prof_add)] := vk_cons (Or.inl ⟨cal_Prof_add, wd_434, wd_435, _, rfl, wd_436⟩) (vk_nil)
theorem cal_Desk_typed : cal y_Desk_typed 1 := ⟨by decide +kernel, ⟨by decide +kernel, by decide +kernel⟩, by decide +kernel, _, _, _, _, (by decide : (2 : Nat) ≤ 40), Or.inl ⟨wd_456, rfl⟩⟩
theorem cv_Desk_124 : vk "BallotDesk" 124 1 [(0, y_Desk_typed)] := vk_cons (Or.inl ⟨cal_Desk_typed, wd_453, wd_455, _, rfl, wp_6⟩) (vk_nil)
theorem cal_Prof_amount : cal y_Prof_amount 2 := ⟨by decide +kernel, ⟨by decide +kernel, by decide +kernel⟩, by decide +kernel, _, _, _, _, (by decide : (4 : Nat) ≤ 40), Or.inl ⟨wd_478, rfl⟩⟩
theorem cv_Desk_127 : vk "BallotDesk" 127 2 [(1, y_Prof_amount)] := vk_cons (Or.inl ⟨cal_Prof_amount, wd_475, wd_476, _, rfl, wd_477⟩) (vk_nil)
theorem cal_Prof_drop : cal y_Prof_drop 1 := ⟨by decide +kernel, ⟨by decide +kernel, by decide +kernel⟩, by decide +kernel, _, _, _, _, (by decide : (3 : Nat) ≤ 40), Or.inl ⟨wd_489, rfl⟩⟩
theorem cv_Desk_131 : vk "BallotDesk" 131 1 [(1, y_Prof_drop)] := vk_cons (Or.inl ⟨cal_Prof_drop, wd_486, wd_487, _, rfl, wd_488⟩) (vk_nil)
theorem cal_Desk_pack : cal y_Desk_pack 1 := ⟨by decide +kernel, ⟨by decide +kernel, by decide +kernel⟩, by decide +kernel, _, _, _, _, (by decide : (4 : Nat) ≤ 40), Or.inl ⟨wd_320, rfl⟩⟩
theorem cv_Desk_134 : vk "BallotDesk" 134 1 [(0, y_Desk_pack)] := vk_cons (Or.inl ⟨cal_Desk_pack, wd_317, wd_319, _, rfl, wp_2⟩) (vk_nil)
theorem cy_Desk_138 : Cond.methodLink "BallotDesk" 138 arraycopyName ∈ lw_t := wd_501
theorem fl_Desk_144 : ∀ ci, 1 ≤ ci → ci ≤ 1 → fLink "BallotDesk" 144 ci 5 := fun ci h1 h2 => by obtain rfl : ci = 1 := (by omega); exact ⟨_, rfl, by decide, Or.inr ⟨_, wd_199⟩⟩
theorem cal_Desk_become : cal y_Desk_become 2 := ⟨by decide +kernel, ⟨by decide +kernel, by decide +kernel⟩, by decide +kernel, _, _, _, _, (by decide : (4 : Nat) ≤ 40), Or.inl ⟨wd_500, rfl⟩⟩
theorem cv_Desk_147 : vk "BallotDesk" 147 2 [(0, y_Desk_become)] := vk_cons (Or.inl ⟨cal_Desk_become, wd_497, wd_499, _, rfl, wp_7⟩) (vk_nil)
theorem fl_Desk_151 : ∀ ci, 1 ≤ ci → ci ≤ 1 → fLink "BallotDesk" 151 ci 6 := fun ci h1 h2 => by obtain rfl : ci = 1 := (by omega); exact ⟨_, rfl, by decide, Or.inr ⟨_, wd_202⟩⟩
theorem cal_Desk_stands : cal y_Desk_stands 1 := ⟨by decide +kernel, ⟨by decide +kernel, by decide +kernel⟩, by decide +kernel, _, _, _, _, (by decide : (2 : Nat) ≤ 40), Or.inl ⟨wd_519, rfl⟩⟩
theorem cv_Desk_154 : vk "BallotDesk" 154 1 [(0, y_Desk_stands)] := vk_cons (Or.inl ⟨cal_Desk_stands, wd_516, wd_518, _, rfl, wp_8⟩) (vk_nil)
theorem fl_Desk_157 : ∀ ci, 1 ≤ ci → ci ≤ 1 → fLink "BallotDesk" 157 ci 7 := fun ci h1 h2 => by obtain rfl : ci = 1 := (by omega); exact ⟨_, rfl, by decide, Or.inr ⟨_, wd_205⟩⟩
theorem cal_Scor_winners : cal y_Scor_winners 1 := ⟨by decide +kernel, ⟨by decide +kernel, by decide +kernel⟩, by decide +kernel, _, _, _, _, (by decide : (8 : Nat) ≤ 40), Or.inl ⟨wd_562, rfl⟩⟩
theorem cal_Agen_winners : cal y_Agen_winners 1 := ⟨by decide +kernel, ⟨by decide +kernel, by decide +kernel⟩, by decide +kernel, _, _, _, _, (by decide : (5 : Nat) ≤ 40), Or.inl ⟨wd_540, rfl⟩⟩
theorem cal_Unco_winners : cal y_Unco_winners 1 := ⟨by decide +kernel, ⟨by decide +kernel, by decide +kernel⟩, by decide +kernel, _, _, _, _, (by decide : (6 : Nat) ≤ 40), Or.inl ⟨wd_655, rfl⟩⟩
theorem cal_Locks_winners : cal y_Locks_winners 1 := ⟨by decide +kernel, ⟨by decide +kernel, by decide +kernel⟩, by decide +kernel, _, _, _, _, (by decide : (5 : Nat) ≤ 40), Or.inl ⟨wd_604, rfl⟩⟩
theorem cal_Runo_winners : cal y_Runo_winners 1 := ⟨by decide +kernel, ⟨by decide +kernel, by decide +kernel⟩, by decide +kernel, _, _, _, _, (by decide : (5 : Nat) ≤ 40), Or.inl ⟨wd_642, rfl⟩⟩
theorem cal_Agre_winners : cal y_Agre_winners 1 := ⟨by decide +kernel, ⟨by decide +kernel, by decide +kernel⟩, by decide +kernel, _, _, _, _, (by decide : (2 : Nat) ≤ 40), Or.inl ⟨wd_554, rfl⟩⟩
theorem cal_Paths_winners : cal y_Paths_winners 1 := ⟨by decide +kernel, ⟨by decide +kernel, by decide +kernel⟩, by decide +kernel, _, _, _, _, (by decide : (6 : Nat) ≤ 40), Or.inl ⟨wd_624, rfl⟩⟩
theorem cal_Elim_winners : cal y_Elim_winners 1 := ⟨by decide +kernel, ⟨by decide +kernel, by decide +kernel⟩, by decide +kernel, _, _, _, _, (by decide : (3 : Nat) ≤ 40), Or.inl ⟨wd_268, rfl⟩⟩
theorem cf_Desk_160 : fk "BallotDesk" 160 1 [(2, y_Elim_winners), (3, y_Paths_winners), (4, y_Agre_winners), (5, y_Runo_winners), (6, y_Locks_winners), (7, y_Unco_winners), (8, y_Agen_winners), (9, y_Scor_winners), (10, y_Scor_winners), (11, y_Scor_winners), (12, y_Scor_winners), (13, y_Scor_winners)] := fk_cons ⟨x_Rule_winners, ⟨cal_Elim_winners, wd_532, wd_534, wd_533, wd_266, wd_592, ⟨by decide +kernel, by decide +kernel⟩, by decide +kernel, _, rfl, wd_590, wd_591, wd_589⟩⟩ (fk_cons ⟨x_Rule_winners, ⟨cal_Paths_winners, wd_532, wd_534, wd_533, wd_622, wd_623, ⟨by decide +kernel, by decide +kernel⟩, by decide +kernel, _, rfl, wd_620, wd_621, wd_619⟩⟩ (fk_cons ⟨x_Rule_winners, ⟨cal_Agre_winners, wd_532, wd_534, wd_533, wd_552, wd_553, ⟨by decide +kernel, by decide +kernel⟩, by decide +kernel, _, rfl, wd_550, wd_551, wd_549⟩⟩ (fk_cons ⟨x_Rule_winners, ⟨cal_Runo_winners, wd_532, wd_534, wd_533, wd_640, wd_641, ⟨by decide +kernel, by decide +kernel⟩, by decide +kernel, _, rfl, wd_638, wd_639, wd_637⟩⟩ (fk_cons ⟨x_Rule_winners, ⟨cal_Locks_winners, wd_532, wd_534, wd_533, wd_602, wd_603, ⟨by decide +kernel, by decide +kernel⟩, by decide +kernel, _, rfl, wd_600, wd_601, wd_599⟩⟩ (fk_cons ⟨x_Rule_winners, ⟨cal_Unco_winners, wd_532, wd_534, wd_533, wd_653, wd_654, ⟨by decide +kernel, by decide +kernel⟩, by decide +kernel, _, rfl, wd_651, wd_652, wd_650⟩⟩ (fk_cons ⟨x_Rule_winners, ⟨cal_Agen_winners, wd_532, wd_534, wd_533, wd_538, wd_539, ⟨by decide +kernel, by decide +kernel⟩, by decide +kernel, _, rfl, wd_536, wd_537, wd_535⟩⟩ (fk_cons ⟨x_Rule_winners, ⟨cal_Scor_winners, wd_532, wd_534, wd_533, wd_560, wd_561, ⟨by decide +kernel, by decide +kernel⟩, by decide +kernel, _, rfl, wd_594, wd_595, wd_593⟩⟩ (fk_cons ⟨x_Rule_winners, ⟨cal_Scor_winners, wd_532, wd_534, wd_533, wd_560, wd_561, ⟨by decide +kernel, by decide +kernel⟩, by decide +kernel, _, rfl, wd_597, wd_598, wd_596⟩⟩ (fk_cons ⟨x_Rule_winners, ⟨cal_Scor_winners, wd_532, wd_534, wd_533, wd_560, wd_561, ⟨by decide +kernel, by decide +kernel⟩, by decide +kernel, _, rfl, wd_635, wd_636, wd_634⟩⟩ (fk_cons ⟨x_Rule_winners, ⟨cal_Scor_winners, wd_532, wd_534, wd_533, wd_560, wd_561, ⟨by decide +kernel, by decide +kernel⟩, by decide +kernel, _, rfl, wd_558, wd_559, wd_557⟩⟩ (fk_cons ⟨x_Rule_winners, ⟨cal_Scor_winners, wd_532, wd_534, wd_533, wd_560, wd_561, ⟨by decide +kernel, by decide +kernel⟩, by decide +kernel, _, rfl, wd_662, wd_663, wd_661⟩⟩ (fk_nil))))))))))))
theorem cal_Desk_first : cal y_Desk_first 2 := ⟨by decide +kernel, ⟨by decide +kernel, by decide +kernel⟩, by decide +kernel, _, _, _, _, (by decide : (3 : Nat) ≤ 40), Or.inl ⟨wd_316, rfl⟩⟩
theorem cs_Desk_164 : cSm "BallotDesk" 164 y_Desk_first 2 := ⟨cal_Desk_first, wd_314, wd_315, wd_1⟩
theorem cal_Desk_ruled : cal y_Desk_ruled 1 := ⟨by decide +kernel, ⟨by decide +kernel, by decide +kernel⟩, by decide +kernel, _, _, _, _, (by decide : (2 : Nat) ≤ 40), Or.inl ⟨wd_530, rfl⟩⟩
theorem cv_Desk_168 : vk "BallotDesk" 168 1 [(0, y_Desk_ruled)] := vk_cons (Or.inl ⟨cal_Desk_ruled, wd_527, wd_529, _, rfl, wp_9⟩) (vk_nil)
theorem cal_Desk_chosen : cal y_Desk_chosen 2 := ⟨by decide +kernel, ⟨by decide +kernel, by decide +kernel⟩, by decide +kernel, _, _, _, _, (by decide : (3 : Nat) ≤ 40), Or.inl ⟨wd_674, rfl⟩⟩
theorem cv_Desk_171 : vk "BallotDesk" 171 2 [(0, y_Desk_chosen)] := vk_cons (Or.inl ⟨cal_Desk_chosen, wd_671, wd_673, _, rfl, wp_14⟩) (vk_nil)
theorem cl_Desk_175 : Cond.classLink "BallotDesk" 175 "BallotDesk$Scored" ∈ lw_t := wd_682
theorem cal_Wins_score : cal y_Wins_score 2 := ⟨by decide +kernel, ⟨by decide +kernel, by decide +kernel⟩, by decide +kernel, _, _, _, _, (by decide : (5 : Nat) ≤ 40), Or.inl ⟨wd_587, rfl⟩⟩
theorem cal_Defe_score : cal y_Defe_score 2 := ⟨by decide +kernel, ⟨by decide +kernel, by decide +kernel⟩, by decide +kernel, _, _, _, _, (by decide : (5 : Nat) ≤ 40), Or.inl ⟨wd_568, rfl⟩⟩
theorem cal_Poin_score : cal y_Poin_score 2 := ⟨by decide +kernel, ⟨by decide +kernel, by decide +kernel⟩, by decide +kernel, _, _, _, _, (by decide : (6 : Nat) ≤ 40), Or.inl ⟨wd_580, rfl⟩⟩
theorem cal_Last_score : cal y_Last_score 2 := ⟨by decide +kernel, ⟨by decide +kernel, by decide +kernel⟩, by decide +kernel, _, _, _, _, (by decide : (6 : Nat) ≤ 40), Or.inl ⟨wd_577, rfl⟩⟩
theorem cal_Firs_score : cal y_Firs_score 2 := ⟨by decide +kernel, ⟨by decide +kernel, by decide +kernel⟩, by decide +kernel, _, _, _, _, (by decide : (3 : Nat) ≤ 40), Or.inl ⟨wd_572, rfl⟩⟩
theorem cv_Desk_177 : vk "BallotDesk" 177 2 [(9, y_Firs_score), (10, y_Last_score), (11, y_Poin_score), (12, y_Defe_score), (13, y_Wins_score)] := vk_cons (Or.inr ⟨x_Scor_score, ⟨cal_Firs_score, wd_683, wd_565, wd_564, wd_571, ⟨by decide +kernel, by decide +kernel⟩, by decide +kernel, _, rfl, wd_570⟩⟩) (vk_cons (Or.inr ⟨x_Scor_score, ⟨cal_Last_score, wd_683, wd_565, wd_564, wd_576, ⟨by decide +kernel, by decide +kernel⟩, by decide +kernel, _, rfl, wd_575⟩⟩) (vk_cons (Or.inr ⟨x_Scor_score, ⟨cal_Poin_score, wd_683, wd_565, wd_564, wd_579, ⟨by decide +kernel, by decide +kernel⟩, by decide +kernel, _, rfl, wd_578⟩⟩) (vk_cons (Or.inr ⟨x_Scor_score, ⟨cal_Defe_score, wd_683, wd_565, wd_564, wd_567, ⟨by decide +kernel, by decide +kernel⟩, by decide +kernel, _, rfl, wd_566⟩⟩) (vk_cons (Or.inr ⟨x_Scor_score, ⟨cal_Wins_score, wd_683, wd_565, wd_564, wd_586, ⟨by decide +kernel, by decide +kernel⟩, by decide +kernel, _, rfl, wd_585⟩⟩) (vk_nil)))))
theorem fl_Desk_181 : ∀ ci, 1 ≤ ci → ci ≤ 1 → fLink "BallotDesk" 181 ci 4 := fun ci h1 h2 => by obtain rfl : ci = 1 := (by omega); exact ⟨_, rfl, by decide, Or.inr ⟨_, wd_197⟩⟩
theorem cal_Paths_find : cal y_Paths_find 1 := ⟨by decide +kernel, ⟨by decide +kernel, by decide +kernel⟩, by decide +kernel, _, _, _, _, (by decide : (5 : Nat) ≤ 40), Or.inl ⟨wd_628, rfl⟩⟩
theorem cv_Desk_185 : vk "BallotDesk" 185 1 [(3, y_Paths_find)] := vk_cons (Or.inl ⟨cal_Paths_find, wd_698, wd_626, _, rfl, wd_627⟩) (vk_nil)
theorem fl_Desk_189 : ∀ ci, 3 ≤ ci → ci ≤ 3 → fLink "BallotDesk" 189 ci 0 := fun ci h1 h2 => by obtain rfl : ci = 3 := (by omega); exact ⟨_, rfl, by decide, Or.inr ⟨_, wd_57⟩⟩
theorem cv_Desk_192 : vk "BallotDesk" 192 1 [(2, y_Elim_winners)] := vk_cons (Or.inl ⟨cal_Elim_winners, wd_265, wd_266, _, rfl, wd_267⟩) (vk_nil)
theorem fl_Desk_193 : ∀ ci, 2 ≤ ci → ci ≤ 2 → fLink "BallotDesk" 193 ci 1 := fun ci h1 h2 => by obtain rfl : ci = 2 := (by omega); exact ⟨_, rfl, by decide, Or.inr ⟨_, wd_41⟩⟩
theorem cal_Prof_all : cal y_Prof_all 0 := ⟨by decide +kernel, ⟨by decide +kernel, by decide +kernel⟩, by decide +kernel, _, _, _, _, (by decide : (1 : Nat) ≤ 40), Or.inl ⟨wd_272, rfl⟩⟩
theorem cv_Desk_196 : vk "BallotDesk" 196 0 [(1, y_Prof_all)] := vk_cons (Or.inl ⟨cal_Prof_all, wd_305, wd_270, _, rfl, wd_271⟩) (vk_nil)
theorem cal_Elim_lowest : cal y_Elim_lowest 2 := ⟨by decide +kernel, ⟨by decide +kernel, by decide +kernel⟩, by decide +kernel, _, _, _, _, (by decide : (6 : Nat) ≤ 40), Or.inl ⟨wd_279, rfl⟩⟩
theorem cs_Desk_200 : cSm "BallotDesk" 200 y_Elim_lowest 2 := ⟨cal_Elim_lowest, wd_706, wd_278, wd_2⟩
theorem cal_Desk_last : cal y_Desk_last 1 := ⟨by decide +kernel, ⟨by decide +kernel, by decide +kernel⟩, by decide +kernel, _, _, _, _, (by decide : (3 : Nat) ≤ 40), Or.inl ⟨wd_710, rfl⟩⟩
theorem cv_Desk_203 : vk "BallotDesk" 203 1 [(0, y_Desk_last)] := vk_cons (Or.inl ⟨cal_Desk_last, wd_707, wd_709, _, rfl, wp_15⟩) (vk_nil)
theorem cal_Agre_find : cal y_Agre_find 1 := ⟨by decide +kernel, ⟨by decide +kernel, by decide +kernel⟩, by decide +kernel, _, _, _, _, (by decide : (6 : Nat) ≤ 40), Or.inl ⟨wd_292, rfl⟩⟩
theorem cv_Desk_207 : vk "BallotDesk" 207 1 [(4, y_Agre_find)] := vk_cons (Or.inl ⟨cal_Agre_find, wd_289, wd_290, _, rfl, wd_291⟩) (vk_nil)
theorem fl_Desk_208 : ∀ ci, 4 ≤ ci → ci ≤ 4 → fLink "BallotDesk" 208 ci 0 := fun ci h1 h2 => by obtain rfl : ci = 4 := (by omega); exact ⟨_, rfl, by decide, Or.inr ⟨_, wd_69⟩⟩
theorem fl_Desk_67 : ∀ ci, 0 ≤ ci → ci ≤ 0 → fLink "BallotDesk" 67 ci 5 := fun ci h1 h2 => by obtain rfl : ci = 0 := (by omega); exact ⟨_, rfl, by decide, Or.inl wd_235⟩
theorem cal_Agre_heads : cal y_Agre_heads 2 := ⟨by decide +kernel, ⟨by decide +kernel, by decide +kernel⟩, by decide +kernel, _, _, _, _, (by decide : (5 : Nat) ≤ 40), Or.inl ⟨wd_313, rfl⟩⟩
theorem cv_Desk_212 : vk "BallotDesk" 212 2 [(4, y_Agre_heads)] := vk_cons (Or.inl ⟨cal_Agre_heads, wd_310, wd_311, _, rfl, wd_312⟩) (vk_nil)
theorem fl_Desk_215 : ∀ ci, 1 ≤ ci → ci ≤ 1 → fLink "BallotDesk" 215 ci 3 := fun ci h1 h2 => by obtain rfl : ci = 1 := (by omega); exact ⟨_, rfl, by decide, Or.inr ⟨_, wd_191⟩⟩
theorem cal_Prof_placeOf : cal y_Prof_placeOf 2 := ⟨by decide +kernel, ⟨by decide +kernel, by decide +kernel⟩, by decide +kernel, _, _, _, _, (by decide : (4 : Nat) ≤ 40), Or.inl ⟨wd_584, rfl⟩⟩
theorem cv_Desk_218 : vk "BallotDesk" 218 2 [(1, y_Prof_placeOf)] := vk_cons (Or.inl ⟨cal_Prof_placeOf, wd_718, wd_582, _, rfl, wd_583⟩) (vk_nil)
theorem cal_Desk_advance : cal y_Desk_advance 0 := ⟨by decide +kernel, ⟨by decide +kernel, by decide +kernel⟩, by decide +kernel, _, _, _, _, (by decide : (7 : Nat) ≤ 40), Or.inl ⟨wd_722, rfl⟩⟩
theorem cv_Desk_221 : vk "BallotDesk" 221 0 [(0, y_Desk_advance)] := vk_cons (Or.inl ⟨cal_Desk_advance, wd_719, wd_721, _, rfl, wp_16⟩) (vk_nil)
theorem fl_Desk_80 : ∀ ci, 0 ≤ ci → ci ≤ 0 → fLink "BallotDesk" 80 ci 8 := fun ci h1 h2 => by obtain rfl : ci = 0 := (by omega); exact ⟨_, rfl, by decide, Or.inl wd_238⟩
theorem cal_Prof_beats : cal y_Prof_beats 2 := ⟨by decide +kernel, ⟨by decide +kernel, by decide +kernel⟩, by decide +kernel, _, _, _, _, (by decide : (3 : Nat) ≤ 40), Or.inl ⟨wd_544, rfl⟩⟩
theorem cv_Desk_225 : vk "BallotDesk" 225 2 [(1, y_Prof_beats)] := vk_cons (Or.inl ⟨cal_Prof_beats, wd_734, wd_542, _, rfl, wd_543⟩) (vk_nil)
theorem cal_Desk_swap : cal y_Desk_swap 2 := ⟨by decide +kernel, ⟨by decide +kernel, by decide +kernel⟩, by decide +kernel, _, _, _, _, (by decide : (7 : Nat) ≤ 40), Or.inl ⟨wd_742, rfl⟩⟩
theorem cv_Desk_229 : vk "BallotDesk" 229 2 [(0, y_Desk_swap)] := vk_cons (Or.inl ⟨cal_Desk_swap, wd_739, wd_741, _, rfl, wp_19⟩) (vk_nil)
theorem fl_Desk_233 : ∀ ci, 1 ≤ ci → ci ≤ 1 → fLink "BallotDesk" 233 ci 2 := fun ci h1 h2 => by obtain rfl : ci = 1 := (by omega); exact ⟨_, rfl, by decide, Or.inr ⟨_, wd_187⟩⟩
theorem fl_Desk_77 : ∀ ci, 0 ≤ ci → ci ≤ 0 → fLink "BallotDesk" 77 ci 7 := fun ci h1 h2 => by obtain rfl : ci = 0 := (by omega); exact ⟨_, rfl, by decide, Or.inl wd_237⟩
theorem cal_Prof_without : cal y_Prof_without 2 := ⟨by decide +kernel, ⟨by decide +kernel, by decide +kernel⟩, by decide +kernel, _, _, _, _, (by decide : (4 : Nat) ≤ 40), Or.inl ⟨wd_754, rfl⟩⟩
theorem cv_Desk_236 : vk "BallotDesk" 236 2 [(1, y_Prof_without)] := vk_cons (Or.inl ⟨cal_Prof_without, wd_751, wd_752, _, rfl, wd_753⟩) (vk_nil)
theorem cal_Desk_extreme : cal y_Desk_extreme 1 := ⟨by decide +kernel, ⟨by decide +kernel, by decide +kernel⟩, by decide +kernel, _, _, _, _, (by decide : (6 : Nat) ≤ 40), Or.inl ⟨wd_733, rfl⟩⟩
theorem cv_Desk_240 : vk "BallotDesk" 240 1 [(0, y_Desk_extreme)] := vk_cons (Or.inl ⟨cal_Desk_extreme, wd_730, wd_732, _, rfl, wp_17⟩) (vk_nil)
theorem fl_Desk_84 : ∀ ci, 0 ≤ ci → ci ≤ 0 → fLink "BallotDesk" 84 ci 9 := fun ci h1 h2 => by obtain rfl : ci = 0 := (by omega); exact ⟨_, rfl, by decide, Or.inl wd_239⟩
theorem cal_Desk_raised : cal y_Desk_raised 2 := ⟨by decide +kernel, ⟨by decide +kernel, by decide +kernel⟩, by decide +kernel, _, _, _, _, (by decide : (7 : Nat) ≤ 40), Or.inl ⟨wd_738, rfl⟩⟩
theorem cv_Desk_244 : vk "BallotDesk" 244 2 [(0, y_Desk_raised)] := vk_cons (Or.inl ⟨cal_Desk_raised, wd_735, wd_737, _, rfl, wp_18⟩) (vk_nil)
theorem cal_Desk_joined : cal y_Desk_joined 2 := ⟨by decide +kernel, ⟨by decide +kernel, by decide +kernel⟩, by decide +kernel, _, _, _, _, (by decide : (7 : Nat) ≤ 40), Or.inl ⟨wd_746, rfl⟩⟩
theorem cv_Desk_247 : vk "BallotDesk" 247 2 [(0, y_Desk_joined)] := vk_cons (Or.inl ⟨cal_Desk_joined, wd_743, wd_745, _, rfl, wp_20⟩) (vk_nil)
theorem cal_Desk_dropped : cal y_Desk_dropped 2 := ⟨by decide +kernel, ⟨by decide +kernel, by decide +kernel⟩, by decide +kernel, _, _, _, _, (by decide : (6 : Nat) ≤ 40), Or.inl ⟨wd_750, rfl⟩⟩
theorem cv_Desk_250 : vk "BallotDesk" 250 2 [(0, y_Desk_dropped)] := vk_cons (Or.inl ⟨cal_Desk_dropped, wd_747, wd_749, _, rfl, wp_21⟩) (vk_nil)
theorem co_Mod_1 : cOm "BallotDeskModel" 1 := ⟨wd_786, wd_31, wd_32⟩
theorem pl_Mod_7 : ∀ ci, 14 ≤ ci → ci ≤ 14 → pLk "BallotDeskModel" 7 ci 1 false 0 := fun ci h1 h2 => by obtain rfl : ci = 14 := (by omega); exact ⟨_, ⟨_, _, rfl, rfl, by decide, rfl, wd_792, rfl, by decide⟩, by decide, by decide, by decide⟩
theorem pl_Mod_13 : ∀ ci, 14 ≤ ci → ci ≤ 14 → pLk "BallotDeskModel" 13 ci 3 true 2 := fun ci h1 h2 => by obtain rfl : ci = 14 := (by omega); exact ⟨_, ⟨_, _, rfl, rfl, by decide, rfl, wd_794, rfl, by decide⟩, by decide, by decide, by decide⟩
theorem pl_Mod_17 : ∀ ci, 14 ≤ ci → ci ≤ 14 → pLk "BallotDeskModel" 17 ci 4 true 2 := fun ci h1 h2 => by obtain rfl : ci = 14 := (by omega); exact ⟨_, ⟨_, _, rfl, rfl, by decide, rfl, wd_795, rfl, by decide⟩, by decide, by decide, by decide⟩
theorem pl_Mod_20 : ∀ ci, 14 ≤ ci → ci ≤ 14 → pLk "BallotDeskModel" 20 ci 5 true 2 := fun ci h1 h2 => by obtain rfl : ci = 14 := (by omega); exact ⟨_, ⟨_, _, rfl, rfl, by decide, rfl, wd_796, rfl, by decide⟩, by decide, by decide, by decide⟩
theorem pl_Mod_23 : ∀ ci, 14 ≤ ci → ci ≤ 14 → pLk "BallotDeskModel" 23 ci 6 true 2 := fun ci h1 h2 => by obtain rfl : ci = 14 := (by omega); exact ⟨_, ⟨_, _, rfl, rfl, by decide, rfl, wd_797, rfl, by decide⟩, by decide, by decide, by decide⟩
theorem pl_Mod_26 : ∀ ci, 14 ≤ ci → ci ≤ 14 → pLk "BallotDeskModel" 26 ci 7 true 2 := fun ci h1 h2 => by obtain rfl : ci = 14 := (by omega); exact ⟨_, ⟨_, _, rfl, rfl, by decide, rfl, wd_798, rfl, by decide⟩, by decide, by decide, by decide⟩
theorem pl_Mod_29 : ∀ ci, 14 ≤ ci → ci ≤ 14 → pLk "BallotDeskModel" 29 ci 10 true 2 := fun ci h1 h2 => by obtain rfl : ci = 14 := (by omega); exact ⟨_, ⟨_, _, rfl, rfl, by decide, rfl, wd_801, rfl, by decide⟩, by decide, by decide, by decide⟩
theorem pl_Mod_32 : ∀ ci, 14 ≤ ci → ci ≤ 14 → pLk "BallotDeskModel" 32 ci 11 true 2 := fun ci h1 h2 => by obtain rfl : ci = 14 := (by omega); exact ⟨_, ⟨_, _, rfl, rfl, by decide, rfl, wd_802, rfl, by decide⟩, by decide, by decide, by decide⟩
theorem pl_Mod_35 : ∀ ci, 14 ≤ ci → ci ≤ 14 → pLk "BallotDeskModel" 35 ci 12 true 2 := fun ci h1 h2 => by obtain rfl : ci = 14 := (by omega); exact ⟨_, ⟨_, _, rfl, rfl, by decide, rfl, wd_803, rfl, by decide⟩, by decide, by decide, by decide⟩
theorem pl_Mod_38 : ∀ ci, 14 ≤ ci → ci ≤ 14 → pLk "BallotDeskModel" 38 ci 13 true 2 := fun ci h1 h2 => by obtain rfl : ci = 14 := (by omega); exact ⟨_, ⟨_, _, rfl, rfl, by decide, rfl, wd_804, rfl, by decide⟩, by decide, by decide, by decide⟩
theorem pl_Mod_41 : ∀ ci, 14 ≤ ci → ci ≤ 14 → pLk "BallotDeskModel" 41 ci 14 true 2 := fun ci h1 h2 => by obtain rfl : ci = 14 := (by omega); exact ⟨_, ⟨_, _, rfl, rfl, by decide, rfl, wd_805, rfl, by decide⟩, by decide, by decide, by decide⟩
theorem pl_Mod_44 : ∀ ci, 14 ≤ ci → ci ≤ 14 → pLk "BallotDeskModel" 44 ci 15 true 2 := fun ci h1 h2 => by obtain rfl : ci = 14 := (by omega); exact ⟨_, ⟨_, _, rfl, rfl, by decide, rfl, wd_806, rfl, by decide⟩, by decide, by decide, by decide⟩
theorem pl_Mod_47 : ∀ ci, 14 ≤ ci → ci ≤ 14 → pLk "BallotDeskModel" 47 ci 16 true 2 := fun ci h1 h2 => by obtain rfl : ci = 14 := (by omega); exact ⟨_, ⟨_, _, rfl, rfl, by decide, rfl, wd_807, rfl, by decide⟩, by decide, by decide, by decide⟩
theorem pl_Mod_50 : ∀ ci, 14 ≤ ci → ci ≤ 14 → pLk "BallotDeskModel" 50 ci 17 true 2 := fun ci h1 h2 => by obtain rfl : ci = 14 := (by omega); exact ⟨_, ⟨_, _, rfl, rfl, by decide, rfl, wd_808, rfl, by decide⟩, by decide, by decide, by decide⟩
theorem pl_Mod_54 : ∀ ci, 14 ≤ ci → ci ≤ 14 → pLk "BallotDeskModel" 54 ci 18 true 2 := fun ci h1 h2 => by obtain rfl : ci = 14 := (by omega); exact ⟨_, ⟨_, _, rfl, rfl, by decide, rfl, wd_809, rfl, by decide⟩, by decide, by decide, by decide⟩
theorem pl_Mod_57 : ∀ ci, 14 ≤ ci → ci ≤ 14 → pLk "BallotDeskModel" 57 ci 19 true 2 := fun ci h1 h2 => by obtain rfl : ci = 14 := (by omega); exact ⟨_, ⟨_, _, rfl, rfl, by decide, rfl, wd_810, rfl, by decide⟩, by decide, by decide, by decide⟩
theorem pl_Mod_61 : ∀ ci, 14 ≤ ci → ci ≤ 14 → pLk "BallotDeskModel" 61 ci 20 true 2 := fun ci h1 h2 => by obtain rfl : ci = 14 := (by omega); exact ⟨_, ⟨_, _, rfl, rfl, by decide, rfl, wd_811, rfl, by decide⟩, by decide, by decide, by decide⟩
theorem pl_Mod_64 : ∀ ci, 14 ≤ ci → ci ≤ 14 → pLk "BallotDeskModel" 64 ci 21 true 2 := fun ci h1 h2 => by obtain rfl : ci = 14 := (by omega); exact ⟨_, ⟨_, _, rfl, rfl, by decide, rfl, wd_812, rfl, by decide⟩, by decide, by decide, by decide⟩
theorem pl_Mod_67 : ∀ ci, 14 ≤ ci → ci ≤ 14 → pLk "BallotDeskModel" 67 ci 22 false 0 := fun ci h1 h2 => by obtain rfl : ci = 14 := (by omega); exact ⟨_, ⟨_, _, rfl, rfl, by decide, rfl, wd_813, rfl, by decide⟩, by decide, by decide, by decide⟩
theorem pl_Mod_70 : ∀ ci, 14 ≤ ci → ci ≤ 14 → pLk "BallotDeskModel" 70 ci 23 false 0 := fun ci h1 h2 => by obtain rfl : ci = 14 := (by omega); exact ⟨_, ⟨_, _, rfl, rfl, by decide, rfl, wd_814, rfl, by decide⟩, by decide, by decide, by decide⟩
theorem cal_Mod_reset : cal y_Mod_reset 0 := ⟨by decide +kernel, ⟨by decide +kernel, by decide +kernel⟩, by decide +kernel, _, _, _, _, (by decide : (2 : Nat) ≤ 40), Or.inl ⟨wd_790, rfl⟩⟩
theorem cv_Mod_73 : vk "BallotDeskModel" 73 0 [(14, y_Mod_reset)] := vk_cons (Or.inl ⟨cal_Mod_reset, wd_787, wd_789, _, rfl, wp_22⟩) (vk_nil)
theorem pl_Mod_76 : ∀ ci, 14 ≤ ci → ci ≤ 14 → pLk "BallotDeskModel" 76 ci 2 false 0 := fun ci h1 h2 => by obtain rfl : ci = 14 := (by omega); exact ⟨_, ⟨_, _, rfl, rfl, by decide, rfl, wd_793, rfl, by decide⟩, by decide, by decide, by decide⟩
theorem fl_Mod_20 : ∀ ci, 14 ≤ ci → ci ≤ 14 → fLink "BallotDeskModel" 20 ci 5 := fun ci h1 h2 => by obtain rfl : ci = 14 := (by omega); exact ⟨_, rfl, by decide, Or.inl wd_796⟩
theorem fl_Mod_23 : ∀ ci, 14 ≤ ci → ci ≤ 14 → fLink "BallotDeskModel" 23 ci 6 := fun ci h1 h2 => by obtain rfl : ci = 14 := (by omega); exact ⟨_, rfl, by decide, Or.inl wd_797⟩
theorem fl_Mod_26 : ∀ ci, 14 ≤ ci → ci ≤ 14 → fLink "BallotDeskModel" 26 ci 7 := fun ci h1 h2 => by obtain rfl : ci = 14 := (by omega); exact ⟨_, rfl, by decide, Or.inl wd_798⟩
theorem fl_Mod_7 : ∀ ci, 14 ≤ ci → ci ≤ 14 → fLink "BallotDeskModel" 7 ci 1 := fun ci h1 h2 => by obtain rfl : ci = 14 := (by omega); exact ⟨_, rfl, by decide, Or.inl wd_792⟩
theorem fl_Mod_79 : ∀ ci, 14 ≤ ci → ci ≤ 14 → fLink "BallotDeskModel" 79 ci 0 := fun ci h1 h2 => by obtain rfl : ci = 14 := (by omega); exact ⟨_, rfl, by decide, Or.inl wd_791⟩
theorem pl_Mod_79 : ∀ ci, 14 ≤ ci → ci ≤ 14 → pLk "BallotDeskModel" 79 ci 0 false 0 := fun ci h1 h2 => by obtain rfl : ci = 14 := (by omega); exact ⟨_, ⟨_, _, rfl, rfl, by decide, rfl, wd_791, rfl, by decide⟩, by decide, by decide, by decide⟩
theorem cal_Mod_within : cal y_Mod_within 3 := ⟨by decide +kernel, ⟨by decide +kernel, by decide +kernel⟩, by decide +kernel, _, _, _, _, (by decide : (3 : Nat) ≤ 40), Or.inl ⟨wd_874, rfl⟩⟩
theorem cs_Mod_82 : cSm "BallotDeskModel" 82 y_Mod_within 3 := ⟨cal_Mod_within, wd_872, wd_873, wd_16⟩
theorem cal_Mod_goes : cal y_Mod_goes 2 := ⟨by decide +kernel, ⟨by decide +kernel, by decide +kernel⟩, by decide +kernel, _, _, _, _, (by decide : (3 : Nat) ≤ 40), Or.inl ⟨wd_878, rfl⟩⟩
theorem cv_Mod_86 : vk "BallotDeskModel" 86 2 [(14, y_Mod_goes)] := vk_cons (Or.inl ⟨cal_Mod_goes, wd_875, wd_877, _, rfl, wp_23⟩) (vk_nil)
theorem cal_Mod_isOrder : cal y_Mod_isOrder 1 := ⟨by decide +kernel, ⟨by decide +kernel, by decide +kernel⟩, by decide +kernel, _, _, _, _, (by decide : (4 : Nat) ≤ 40), Or.inl ⟨wd_886, rfl⟩⟩
theorem cv_Mod_90 : vk "BallotDeskModel" 90 1 [(14, y_Mod_isOrder)] := vk_cons (Or.inl ⟨cal_Mod_isOrder, wd_883, wd_885, _, rfl, wp_24⟩) (vk_nil)
theorem kc_Mod_94 : Cond.constant "BallotDeskModel" 94 (Int32.ofInt (100000 : Nat)) ∈ lw_t := wd_887
theorem fl_Mod_76 : ∀ ci, 14 ≤ ci → ci ≤ 14 → fLink "BallotDeskModel" 76 ci 2 := fun ci h1 h2 => by obtain rfl : ci = 14 := (by omega); exact ⟨_, rfl, by decide, Or.inl wd_793⟩
theorem fl_Mod_13 : ∀ ci, 14 ≤ ci → ci ≤ 14 → fLink "BallotDeskModel" 13 ci 3 := fun ci h1 h2 => by obtain rfl : ci = 14 := (by omega); exact ⟨_, rfl, by decide, Or.inl wd_794⟩
theorem cal_Mod_unpack : cal y_Mod_unpack 3 := ⟨by decide +kernel, ⟨by decide +kernel, by decide +kernel⟩, by decide +kernel, _, _, _, _, (by decide : (5 : Nat) ≤ 40), Or.inl ⟨wd_891, rfl⟩⟩
theorem cv_Mod_95 : vk "BallotDeskModel" 95 3 [(14, y_Mod_unpack)] := vk_cons (Or.inl ⟨cal_Mod_unpack, wd_888, wd_890, _, rfl, wp_25⟩) (vk_nil)
theorem fl_Mod_17 : ∀ ci, 14 ≤ ci → ci ≤ 14 → fLink "BallotDeskModel" 17 ci 4 := fun ci h1 h2 => by obtain rfl : ci = 14 := (by omega); exact ⟨_, rfl, by decide, Or.inl wd_795⟩
theorem cal_Mod_isType : cal y_Mod_isType 1 := ⟨by decide +kernel, ⟨by decide +kernel, by decide +kernel⟩, by decide +kernel, _, _, _, _, (by decide : (2 : Nat) ≤ 40), Or.inl ⟨wd_899, rfl⟩⟩
theorem cv_Mod_99 : vk "BallotDeskModel" 99 1 [(14, y_Mod_isType)] := vk_cons (Or.inl ⟨cal_Mod_isType, wd_896, wd_898, _, rfl, wp_26⟩) (vk_nil)
theorem cal_Mod_packed : cal y_Mod_packed 2 := ⟨by decide +kernel, ⟨by decide +kernel, by decide +kernel⟩, by decide +kernel, _, _, _, _, (by decide : (5 : Nat) ≤ 40), Or.inl ⟨wd_911, rfl⟩⟩
theorem cv_Mod_102 : vk "BallotDeskModel" 102 2 [(14, y_Mod_packed)] := vk_cons (Or.inl ⟨cal_Mod_packed, wd_908, wd_910, _, rfl, wp_27⟩) (vk_nil)
theorem pl_Mod_106 : ∀ ci, 14 ≤ ci → ci ≤ 14 → pLk "BallotDeskModel" 106 ci 8 false 0 := fun ci h1 h2 => by obtain rfl : ci = 14 := (by omega); exact ⟨_, ⟨_, _, rfl, rfl, by decide, rfl, wd_799, rfl, by decide⟩, by decide, by decide, by decide⟩
theorem pl_Mod_109 : ∀ ci, 14 ≤ ci → ci ≤ 14 → pLk "BallotDeskModel" 109 ci 9 false 0 := fun ci h1 h2 => by obtain rfl : ci = 14 := (by omega); exact ⟨_, ⟨_, _, rfl, rfl, by decide, rfl, wd_800, rfl, by decide⟩, by decide, by decide, by decide⟩
theorem fl_Mod_29 : ∀ ci, 14 ≤ ci → ci ≤ 14 → fLink "BallotDeskModel" 29 ci 10 := fun ci h1 h2 => by obtain rfl : ci = 14 := (by omega); exact ⟨_, rfl, by decide, Or.inl wd_801⟩
theorem fl_Mod_32 : ∀ ci, 14 ≤ ci → ci ≤ 14 → fLink "BallotDeskModel" 32 ci 11 := fun ci h1 h2 => by obtain rfl : ci = 14 := (by omega); exact ⟨_, rfl, by decide, Or.inl wd_802⟩
theorem fl_Mod_35 : ∀ ci, 14 ≤ ci → ci ≤ 14 → fLink "BallotDeskModel" 35 ci 12 := fun ci h1 h2 => by obtain rfl : ci = 14 := (by omega); exact ⟨_, rfl, by decide, Or.inl wd_803⟩
theorem fl_Mod_38 : ∀ ci, 14 ≤ ci → ci ≤ 14 → fLink "BallotDeskModel" 38 ci 13 := fun ci h1 h2 => by obtain rfl : ci = 14 := (by omega); exact ⟨_, rfl, by decide, Or.inl wd_804⟩
theorem fl_Mod_41 : ∀ ci, 14 ≤ ci → ci ≤ 14 → fLink "BallotDeskModel" 41 ci 14 := fun ci h1 h2 => by obtain rfl : ci = 14 := (by omega); exact ⟨_, rfl, by decide, Or.inl wd_805⟩
theorem fl_Mod_106 : ∀ ci, 14 ≤ ci → ci ≤ 14 → fLink "BallotDeskModel" 106 ci 8 := fun ci h1 h2 => by obtain rfl : ci = 14 := (by omega); exact ⟨_, rfl, by decide, Or.inl wd_799⟩
theorem fl_Mod_109 : ∀ ci, 14 ≤ ci → ci ≤ 14 → fLink "BallotDeskModel" 109 ci 9 := fun ci h1 h2 => by obtain rfl : ci = 14 := (by omega); exact ⟨_, rfl, by decide, Or.inl wd_800⟩
theorem cal_Mod_without : cal y_Mod_without 3 := ⟨by decide +kernel, ⟨by decide +kernel, by decide +kernel⟩, by decide +kernel, _, _, _, _, (by decide : (7 : Nat) ≤ 40), Or.inl ⟨wd_1119, rfl⟩⟩
theorem cv_Mod_112 : vk "BallotDeskModel" 112 3 [(14, y_Mod_without)] := vk_cons (Or.inl ⟨cal_Mod_without, wd_1116, wd_1118, _, rfl, wp_63⟩) (vk_nil)
theorem fl_Mod_44 : ∀ ci, 14 ≤ ci → ci ≤ 14 → fLink "BallotDeskModel" 44 ci 15 := fun ci h1 h2 => by obtain rfl : ci = 14 := (by omega); exact ⟨_, rfl, by decide, Or.inl wd_806⟩
theorem cal_Mod_all : cal y_Mod_all 0 := ⟨by decide +kernel, ⟨by decide +kernel, by decide +kernel⟩, by decide +kernel, _, _, _, _, (by decide : (1 : Nat) ≤ 40), Or.inl ⟨wd_950, rfl⟩⟩
theorem cv_Mod_115 : vk "BallotDeskModel" 115 0 [(14, y_Mod_all)] := vk_cons (Or.inl ⟨cal_Mod_all, wd_947, wd_949, _, rfl, wp_33⟩) (vk_nil)
theorem cal_Mod_ahead : cal y_Mod_ahead 2 := ⟨by decide +kernel, ⟨by decide +kernel, by decide +kernel⟩, by decide +kernel, _, _, _, _, (by decide : (6 : Nat) ≤ 40), Or.inl ⟨wd_954, rfl⟩⟩
theorem cv_Mod_119 : vk "BallotDeskModel" 119 2 [(14, y_Mod_ahead)] := vk_cons (Or.inl ⟨cal_Mod_ahead, wd_951, wd_953, _, rfl, wp_34⟩) (vk_nil)
theorem cal_Mod_placeOf : cal y_Mod_placeOf 2 := ⟨by decide +kernel, ⟨by decide +kernel, by decide +kernel⟩, by decide +kernel, _, _, _, _, (by decide : (4 : Nat) ≤ 40), Or.inl ⟨wd_958, rfl⟩⟩
theorem cv_Mod_123 : vk "BallotDeskModel" 123 2 [(14, y_Mod_placeOf)] := vk_cons (Or.inl ⟨cal_Mod_placeOf, wd_955, wd_957, _, rfl, wp_35⟩) (vk_nil)
theorem cal_Mod_beats : cal y_Mod_beats 2 := ⟨by decide +kernel, ⟨by decide +kernel, by decide +kernel⟩, by decide +kernel, _, _, _, _, (by decide : (3 : Nat) ≤ 40), Or.inl ⟨wd_962, rfl⟩⟩
theorem cv_Mod_126 : vk "BallotDeskModel" 126 2 [(14, y_Mod_beats)] := vk_cons (Or.inl ⟨cal_Mod_beats, wd_959, wd_961, _, rfl, wp_36⟩) (vk_nil)
theorem kc_Mod_130 : Cond.constantLong "BallotDeskModel" 130 (Int64.ofInt (2)) ∈ lw_t := wd_963
theorem cal_Mod_scored : cal y_Mod_scored 2 := ⟨by decide +kernel, ⟨by decide +kernel, by decide +kernel⟩, by decide +kernel, _, _, _, _, (by decide : (7 : Nat) ≤ 40), Or.inl ⟨wd_946, rfl⟩⟩
theorem cv_Mod_132 : vk "BallotDeskModel" 132 2 [(14, y_Mod_scored)] := vk_cons (Or.inl ⟨cal_Mod_scored, wd_943, wd_945, _, rfl, wp_32⟩) (vk_nil)
theorem fl_Mod_54 : ∀ ci, 14 ≤ ci → ci ≤ 14 → fLink "BallotDeskModel" 54 ci 18 := fun ci h1 h2 => by obtain rfl : ci = 14 := (by omega); exact ⟨_, rfl, by decide, Or.inl wd_809⟩
theorem cal_Mod_single : cal y_Mod_single 1 := ⟨by decide +kernel, ⟨by decide +kernel, by decide +kernel⟩, by decide +kernel, _, _, _, _, (by decide : (1 : Nat) ≤ 40), Or.inl ⟨wd_974, rfl⟩⟩
theorem cs_Mod_136 : cSm "BallotDeskModel" 136 y_Mod_single 1 := ⟨cal_Mod_single, wd_972, wd_973, wd_16⟩
theorem cal_Mod_weakest : cal y_Mod_weakest 1 := ⟨by decide +kernel, ⟨by decide +kernel, by decide +kernel⟩, by decide +kernel, _, _, _, _, (by decide : (6 : Nat) ≤ 40), Or.inl ⟨wd_978, rfl⟩⟩
theorem cv_Mod_139 : vk "BallotDeskModel" 139 1 [(14, y_Mod_weakest)] := vk_cons (Or.inl ⟨cal_Mod_weakest, wd_975, wd_977, _, rfl, wp_39⟩) (vk_nil)
theorem fl_Mod_47 : ∀ ci, 14 ≤ ci → ci ≤ 14 → fLink "BallotDeskModel" 47 ci 16 := fun ci h1 h2 => by obtain rfl : ci = 14 := (by omega); exact ⟨_, rfl, by decide, Or.inl wd_807⟩
theorem cal_Mod_findPaths : cal y_Mod_findPaths 0 := ⟨by decide +kernel, ⟨by decide +kernel, by decide +kernel⟩, by decide +kernel, _, _, _, _, (by decide : (6 : Nat) ≤ 40), Or.inl ⟨wd_986, rfl⟩⟩
theorem cv_Mod_143 : vk "BallotDeskModel" 143 0 [(14, y_Mod_findPaths)] := vk_cons (Or.inl ⟨cal_Mod_findPaths, wd_983, wd_985, _, rfl, wp_41⟩) (vk_nil)
theorem fl_Mod_50 : ∀ ci, 14 ≤ ci → ci ≤ 14 → fLink "BallotDeskModel" 50 ci 17 := fun ci h1 h2 => by obtain rfl : ci = 14 := (by omega); exact ⟨_, rfl, by decide, Or.inl wd_808⟩
theorem cal_Mod_tiePlace : cal y_Mod_tiePlace 1 := ⟨by decide +kernel, ⟨by decide +kernel, by decide +kernel⟩, by decide +kernel, _, _, _, _, (by decide : (3 : Nat) ≤ 40), Or.inl ⟨wd_998, rfl⟩⟩
theorem cv_Mod_146 : vk "BallotDeskModel" 146 1 [(14, y_Mod_tiePlace)] := vk_cons (Or.inl ⟨cal_Mod_tiePlace, wd_995, wd_997, _, rfl, wp_44⟩) (vk_nil)
theorem cal_Mod_sooner_IIII : cal y_Mod_sooner_IIII 4 := ⟨by decide +kernel, ⟨by decide +kernel, by decide +kernel⟩, by decide +kernel, _, _, _, _, (by decide : (7 : Nat) ≤ 40), Or.inl ⟨wd_994, rfl⟩⟩
theorem cv_Mod_149 : vk "BallotDeskModel" 149 4 [(14, y_Mod_sooner_IIII)] := vk_cons (Or.inl ⟨cal_Mod_sooner_IIII, wd_991, wd_993, _, rfl, wp_43⟩) (vk_nil)
theorem cal_Mod_leads : cal y_Mod_leads 2 := ⟨by decide +kernel, ⟨by decide +kernel, by decide +kernel⟩, by decide +kernel, _, _, _, _, (by decide : (7 : Nat) ≤ 40), Or.inl ⟨wd_1002, rfl⟩⟩
theorem cv_Mod_153 : vk "BallotDeskModel" 153 2 [(14, y_Mod_leads)] := vk_cons (Or.inl ⟨cal_Mod_leads, wd_999, wd_1001, _, rfl, wp_45⟩) (vk_nil)
theorem fl_Mod_57 : ∀ ci, 14 ≤ ci → ci ≤ 14 → fLink "BallotDeskModel" 57 ci 19 := fun ci h1 h2 => by obtain rfl : ci = 14 := (by omega); exact ⟨_, rfl, by decide, Or.inl wd_810⟩
theorem cal_Mod_over_II : cal y_Mod_over_II 2 := ⟨by decide +kernel, ⟨by decide +kernel, by decide +kernel⟩, by decide +kernel, _, _, _, _, (by decide : (6 : Nat) ≤ 40), Or.inl ⟨wd_1014, rfl⟩⟩
theorem cv_Mod_156 : vk "BallotDeskModel" 156 2 [(14, y_Mod_over_II)] := vk_cons (Or.inl ⟨cal_Mod_over_II, wd_1011, wd_1013, _, rfl, wp_48⟩) (vk_nil)
theorem cal_Mod_findLeast : cal y_Mod_findLeast 0 := ⟨by decide +kernel, ⟨by decide +kernel, by decide +kernel⟩, by decide +kernel, _, _, _, _, (by decide : (7 : Nat) ≤ 40), Or.inl ⟨wd_1010, rfl⟩⟩
theorem cv_Mod_159 : vk "BallotDeskModel" 159 0 [(14, y_Mod_findLeast)] := vk_cons (Or.inl ⟨cal_Mod_findLeast, wd_1007, wd_1009, _, rfl, wp_47⟩) (vk_nil)
theorem cal_Mod_tally : cal y_Mod_tally 0 := ⟨by decide +kernel, ⟨by decide +kernel, by decide +kernel⟩, by decide +kernel, _, _, _, _, (by decide : (5 : Nat) ≤ 40), Or.inl ⟨wd_938, rfl⟩⟩
theorem cv_Mod_162 : vk "BallotDeskModel" 162 0 [(14, y_Mod_tally)] := vk_cons (Or.inl ⟨cal_Mod_tally, wd_935, wd_937, _, rfl, wp_30⟩) (vk_nil)
theorem cal_Mod_extreme : cal y_Mod_extreme 2 := ⟨by decide +kernel, ⟨by decide +kernel, by decide +kernel⟩, by decide +kernel, _, _, _, _, (by decide : (7 : Nat) ≤ 40), Or.inl ⟨wd_942, rfl⟩⟩
theorem cv_Mod_165 : vk "BallotDeskModel" 165 2 [(14, y_Mod_extreme)] := vk_cons (Or.inl ⟨cal_Mod_extreme, wd_939, wd_941, _, rfl, wp_31⟩) (vk_nil)
theorem cal_Mod_runoff : cal y_Mod_runoff 0 := ⟨by decide +kernel, ⟨by decide +kernel, by decide +kernel⟩, by decide +kernel, _, _, _, _, (by decide : (8 : Nat) ≤ 40), Or.inl ⟨wd_967, rfl⟩⟩
theorem cv_Mod_169 : vk "BallotDeskModel" 169 0 [(14, y_Mod_runoff)] := vk_cons (Or.inl ⟨cal_Mod_runoff, wd_964, wd_966, _, rfl, wp_37⟩) (vk_nil)
theorem cal_Mod_eliminate : cal y_Mod_eliminate 0 := ⟨by decide +kernel, ⟨by decide +kernel, by decide +kernel⟩, by decide +kernel, _, _, _, _, (by decide : (5 : Nat) ≤ 40), Or.inl ⟨wd_971, rfl⟩⟩
theorem cv_Mod_172 : vk "BallotDeskModel" 172 0 [(14, y_Mod_eliminate)] := vk_cons (Or.inl ⟨cal_Mod_eliminate, wd_968, wd_970, _, rfl, wp_38⟩) (vk_nil)
theorem cal_Mod_pathWinners : cal y_Mod_pathWinners 0 := ⟨by decide +kernel, ⟨by decide +kernel, by decide +kernel⟩, by decide +kernel, _, _, _, _, (by decide : (5 : Nat) ≤ 40), Or.inl ⟨wd_982, rfl⟩⟩
theorem cv_Mod_175 : vk "BallotDeskModel" 175 0 [(14, y_Mod_pathWinners)] := vk_cons (Or.inl ⟨cal_Mod_pathWinners, wd_979, wd_981, _, rfl, wp_40⟩) (vk_nil)
theorem cal_Mod_lockWinners : cal y_Mod_lockWinners 0 := ⟨by decide +kernel, ⟨by decide +kernel, by decide +kernel⟩, by decide +kernel, _, _, _, _, (by decide : (7 : Nat) ≤ 40), Or.inl ⟨wd_990, rfl⟩⟩
theorem cv_Mod_178 : vk "BallotDeskModel" 178 0 [(14, y_Mod_lockWinners)] := vk_cons (Or.inl ⟨cal_Mod_lockWinners, wd_987, wd_989, _, rfl, wp_42⟩) (vk_nil)
theorem cal_Mod_agreeing : cal y_Mod_agreeing 0 := ⟨by decide +kernel, ⟨by decide +kernel, by decide +kernel⟩, by decide +kernel, _, _, _, _, (by decide : (4 : Nat) ≤ 40), Or.inl ⟨wd_1006, rfl⟩⟩
theorem cv_Mod_181 : vk "BallotDeskModel" 181 0 [(14, y_Mod_agreeing)] := vk_cons (Or.inl ⟨cal_Mod_agreeing, wd_1003, wd_1005, _, rfl, wp_46⟩) (vk_nil)
theorem cal_Mod_uncovered : cal y_Mod_uncovered 0 := ⟨by decide +kernel, ⟨by decide +kernel, by decide +kernel⟩, by decide +kernel, _, _, _, _, (by decide : (6 : Nat) ≤ 40), Or.inl ⟨wd_1018, rfl⟩⟩
theorem cv_Mod_184 : vk "BallotDeskModel" 184 0 [(14, y_Mod_uncovered)] := vk_cons (Or.inl ⟨cal_Mod_uncovered, wd_1015, wd_1017, _, rfl, wp_49⟩) (vk_nil)
theorem cal_Mod_byAgenda : cal y_Mod_byAgenda 0 := ⟨by decide +kernel, ⟨by decide +kernel, by decide +kernel⟩, by decide +kernel, _, _, _, _, (by decide : (5 : Nat) ≤ 40), Or.inl ⟨wd_1022, rfl⟩⟩
theorem cv_Mod_187 : vk "BallotDeskModel" 187 0 [(14, y_Mod_byAgenda)] := vk_cons (Or.inl ⟨cal_Mod_byAgenda, wd_1019, wd_1021, _, rfl, wp_50⟩) (vk_nil)
theorem cal_Mod_isRule : cal y_Mod_isRule 1 := ⟨by decide +kernel, ⟨by decide +kernel, by decide +kernel⟩, by decide +kernel, _, _, _, _, (by decide : (1 : Nat) ≤ 40), Or.inl ⟨wd_926, rfl⟩⟩
theorem cs_Mod_190 : cSm "BallotDeskModel" 190 y_Mod_isRule 1 := ⟨cal_Mod_isRule, wd_924, wd_925, wd_16⟩
theorem cal_Mod_load : cal y_Mod_load 0 := ⟨by decide +kernel, ⟨by decide +kernel, by decide +kernel⟩, by decide +kernel, _, _, _, _, (by decide : (2 : Nat) ≤ 40), Or.inl ⟨wd_930, rfl⟩⟩
theorem cv_Mod_193 : vk "BallotDeskModel" 193 0 [(14, y_Mod_load)] := vk_cons (Or.inl ⟨cal_Mod_load, wd_927, wd_929, _, rfl, wp_28⟩) (vk_nil)
theorem cal_Mod_work : cal y_Mod_work 1 := ⟨by decide +kernel, ⟨by decide +kernel, by decide +kernel⟩, by decide +kernel, _, _, _, _, (by decide : (2 : Nat) ≤ 40), Or.inl ⟨wd_934, rfl⟩⟩
theorem cv_Mod_196 : vk "BallotDeskModel" 196 1 [(14, y_Mod_work)] := vk_cons (Or.inl ⟨cal_Mod_work, wd_931, wd_933, _, rfl, wp_29⟩) (vk_nil)
theorem cal_Mod_firstOf : cal y_Mod_firstOf 1 := ⟨by decide +kernel, ⟨by decide +kernel, by decide +kernel⟩, by decide +kernel, _, _, _, _, (by decide : (3 : Nat) ≤ 40), Or.inl ⟨wd_1030, rfl⟩⟩
theorem cv_Mod_199 : vk "BallotDeskModel" 199 1 [(14, y_Mod_firstOf)] := vk_cons (Or.inl ⟨cal_Mod_firstOf, wd_1027, wd_1029, _, rfl, wp_51⟩) (vk_nil)
theorem cal_Mod_isCandidate : cal y_Mod_isCandidate 1 := ⟨by decide +kernel, ⟨by decide +kernel, by decide +kernel⟩, by decide +kernel, _, _, _, _, (by decide : (2 : Nat) ≤ 40), Or.inl ⟨wd_1038, rfl⟩⟩
theorem cv_Mod_202 : vk "BallotDeskModel" 202 1 [(14, y_Mod_isCandidate)] := vk_cons (Or.inl ⟨cal_Mod_isCandidate, wd_1035, wd_1037, _, rfl, wp_52⟩) (vk_nil)
theorem fl_Mod_61 : ∀ ci, 14 ≤ ci → ci ≤ 14 → fLink "BallotDeskModel" 61 ci 20 := fun ci h1 h2 => by obtain rfl : ci = 14 := (by omega); exact ⟨_, rfl, by decide, Or.inl wd_811⟩
theorem fl_Mod_64 : ∀ ci, 14 ≤ ci → ci ≤ 14 → fLink "BallotDeskModel" 64 ci 21 := fun ci h1 h2 => by obtain rfl : ci = 14 := (by omega); exact ⟨_, rfl, by decide, Or.inl wd_812⟩
theorem cal_Mod_firstOrder : cal y_Mod_firstOrder 0 := ⟨by decide +kernel, ⟨by decide +kernel, by decide +kernel⟩, by decide +kernel, _, _, _, _, (by decide : (2 : Nat) ≤ 40), Or.inl ⟨wd_1066, rfl⟩⟩
theorem cv_Mod_205 : vk "BallotDeskModel" 205 0 [(14, y_Mod_firstOrder)] := vk_cons (Or.inl ⟨cal_Mod_firstOrder, wd_1063, wd_1065, _, rfl, wp_54⟩) (vk_nil)
theorem kc_Mod_208 : Cond.constantLong "BallotDeskModel" 208 (Int64.ofInt (-1)) ∈ lw_t := wd_1067
theorem cal_Mod_disagreementOf : cal y_Mod_disagreementOf 0 := ⟨by decide +kernel, ⟨by decide +kernel, by decide +kernel⟩, by decide +kernel, _, _, _, _, (by decide : (5 : Nat) ≤ 40), Or.inl ⟨wd_1071, rfl⟩⟩
theorem cv_Mod_210 : vk "BallotDeskModel" 210 0 [(14, y_Mod_disagreementOf)] := vk_cons (Or.inl ⟨cal_Mod_disagreementOf, wd_1068, wd_1070, _, rfl, wp_55⟩) (vk_nil)
theorem cal_Mod_sooner_0 : cal y_Mod_sooner_0 0 := ⟨by decide +kernel, ⟨by decide +kernel, by decide +kernel⟩, by decide +kernel, _, _, _, _, (by decide : (2 : Nat) ≤ 40), Or.inl ⟨wd_1075, rfl⟩⟩
theorem cv_Mod_214 : vk "BallotDeskModel" 214 0 [(14, y_Mod_sooner_0)] := vk_cons (Or.inl ⟨cal_Mod_sooner_0, wd_1072, wd_1074, _, rfl, wp_56⟩) (vk_nil)
theorem cal_Mod_nextOrder : cal y_Mod_nextOrder 0 := ⟨by decide +kernel, ⟨by decide +kernel, by decide +kernel⟩, by decide +kernel, _, _, _, _, (by decide : (6 : Nat) ≤ 40), Or.inl ⟨wd_1079, rfl⟩⟩
theorem cv_Mod_217 : vk "BallotDeskModel" 217 0 [(14, y_Mod_nextOrder)] := vk_cons (Or.inl ⟨cal_Mod_nextOrder, wd_1076, wd_1078, _, rfl, wp_57⟩) (vk_nil)
theorem cal_Mod_findAgreed : cal y_Mod_findAgreed 0 := ⟨by decide +kernel, ⟨by decide +kernel, by decide +kernel⟩, by decide +kernel, _, _, _, _, (by decide : (7 : Nat) ≤ 40), Or.inl ⟨wd_1062, rfl⟩⟩
theorem cv_Mod_220 : vk "BallotDeskModel" 220 0 [(14, y_Mod_findAgreed)] := vk_cons (Or.inl ⟨cal_Mod_findAgreed, wd_1059, wd_1061, _, rfl, wp_53⟩) (vk_nil)
theorem fl_Mod_67 : ∀ ci, 14 ≤ ci → ci ≤ 14 → fLink "BallotDeskModel" 67 ci 22 := fun ci h1 h2 => by obtain rfl : ci = 14 := (by omega); exact ⟨_, rfl, by decide, Or.inl wd_813⟩
theorem cal_Mod_over_IZ : cal y_Mod_over_IZ 2 := ⟨by decide +kernel, ⟨by decide +kernel, by decide +kernel⟩, by decide +kernel, _, _, _, _, (by decide : (5 : Nat) ≤ 40), Or.inl ⟨wd_1103, rfl⟩⟩
theorem cv_Mod_223 : vk "BallotDeskModel" 223 2 [(14, y_Mod_over_IZ)] := vk_cons (Or.inl ⟨cal_Mod_over_IZ, wd_1100, wd_1102, _, rfl, wp_59⟩) (vk_nil)
theorem cal_Mod_leaveOut : cal y_Mod_leaveOut 1 := ⟨by decide +kernel, ⟨by decide +kernel, by decide +kernel⟩, by decide +kernel, _, _, _, _, (by decide : (3 : Nat) ≤ 40), Or.inl ⟨wd_1115, rfl⟩⟩
theorem cv_Mod_226 : vk "BallotDeskModel" 226 1 [(14, y_Mod_leaveOut)] := vk_cons (Or.inl ⟨cal_Mod_leaveOut, wd_1112, wd_1114, _, rfl, wp_62⟩) (vk_nil)
theorem cal_Mod_brokenByPairs : cal y_Mod_brokenByPairs 2 := ⟨by decide +kernel, ⟨by decide +kernel, by decide +kernel⟩, by decide +kernel, _, _, _, _, (by decide : (6 : Nat) ≤ 40), Or.inl ⟨wd_1099, rfl⟩⟩
theorem cv_Mod_230 : vk "BallotDeskModel" 230 2 [(14, y_Mod_brokenByPairs)] := vk_cons (Or.inl ⟨cal_Mod_brokenByPairs, wd_1096, wd_1098, _, rfl, wp_58⟩) (vk_nil)
theorem cal_Mod_brokenByType : cal y_Mod_brokenByType 2 := ⟨by decide +kernel, ⟨by decide +kernel, by decide +kernel⟩, by decide +kernel, _, _, _, _, (by decide : (6 : Nat) ≤ 40), Or.inl ⟨wd_1107, rfl⟩⟩
theorem cv_Mod_233 : vk "BallotDeskModel" 233 2 [(14, y_Mod_brokenByType)] := vk_cons (Or.inl ⟨cal_Mod_brokenByType, wd_1104, wd_1106, _, rfl, wp_60⟩) (vk_nil)
theorem cal_Mod_brokenByLeaving : cal y_Mod_brokenByLeaving 1 := ⟨by decide +kernel, ⟨by decide +kernel, by decide +kernel⟩, by decide +kernel, _, _, _, _, (by decide : (5 : Nat) ≤ 40), Or.inl ⟨wd_1111, rfl⟩⟩
theorem cv_Mod_236 : vk "BallotDeskModel" 236 1 [(14, y_Mod_brokenByLeaving)] := vk_cons (Or.inl ⟨cal_Mod_brokenByLeaving, wd_1108, wd_1110, _, rfl, wp_61⟩) (vk_nil)
theorem fl_Mod_70 : ∀ ci, 14 ≤ ci → ci ≤ 14 → fLink "BallotDeskModel" 70 ci 23 := fun ci h1 h2 => by obtain rfl : ci = 14 := (by omega); exact ⟨_, rfl, by decide, Or.inl wd_814⟩
theorem co_Agen_1 : cOm "BallotDesk$Agenda" 1 := ⟨wd_159, wd_31, wd_32⟩
theorem fl_Agen_7 : ∀ ci, 1 ≤ ci → ci ≤ 1 → fLink "BallotDesk$Agenda" 7 ci 6 := fun ci h1 h2 => by obtain rfl : ci = 1 := (by omega); exact ⟨_, rfl, by decide, Or.inr ⟨_, wd_201⟩⟩
theorem fl_Agen_13 : ∀ ci, 1 ≤ ci → ci ≤ 1 → fLink "BallotDesk$Agenda" 13 ci 0 := fun ci h1 h2 => by obtain rfl : ci = 1 := (by omega); exact ⟨_, rfl, by decide, Or.inr ⟨_, wd_175⟩⟩
theorem cv_Agen_17 : vk "BallotDesk$Agenda" 17 2 [(1, y_Prof_beats)] := vk_cons (Or.inl ⟨cal_Prof_beats, wd_541, wd_542, _, rfl, wd_543⟩) (vk_nil)
theorem cal_Prof_tie : cal y_Prof_tie 1 := ⟨by decide +kernel, ⟨by decide +kernel, by decide +kernel⟩, by decide +kernel, _, _, _, _, (by decide : (3 : Nat) ≤ 40), Or.inl ⟨wd_548, rfl⟩⟩
theorem cv_Agen_21 : vk "BallotDesk$Agenda" 21 1 [(1, y_Prof_tie)] := vk_cons (Or.inl ⟨cal_Prof_tie, wd_545, wd_546, _, rfl, wd_547⟩) (vk_nil)
theorem co_Agre_3 : cOm "BallotDesk$Agreement" 3 := ⟨wd_67, wd_31, wd_32⟩
theorem pl_Agre_9 : ∀ ci, 4 ≤ ci → ci ≤ 4 → pLk "BallotDesk$Agreement" 9 ci 0 true 2 := fun ci h1 h2 => by obtain rfl : ci = 4 := (by omega); exact ⟨_, ⟨_, _, rfl, rfl, by decide, rfl, wd_68, rfl, by decide⟩, by decide, by decide, by decide⟩
theorem fl_Agre_15 : ∀ ci, 1 ≤ ci → ci ≤ 1 → fLink "BallotDesk$Agreement" 15 ci 0 := fun ci h1 h2 => by obtain rfl : ci = 1 := (by omega); exact ⟨_, rfl, by decide, Or.inr ⟨_, wd_172⟩⟩
theorem fl_Agre_21 : ∀ ci, 1 ≤ ci → ci ≤ 1 → fLink "BallotDesk$Agreement" 21 ci 4 := fun ci h1 h2 => by obtain rfl : ci = 1 := (by omega); exact ⟨_, rfl, by decide, Or.inr ⟨_, wd_195⟩⟩
theorem fl_Agre_9 : ∀ ci, 4 ≤ ci → ci ≤ 4 → fLink "BallotDesk$Agreement" 9 ci 0 := fun ci h1 h2 => by obtain rfl : ci = 4 := (by omega); exact ⟨_, rfl, by decide, Or.inl wd_68⟩
theorem cv_Agre_25 : vk "BallotDesk$Agreement" 25 0 [(1, y_Prof_all)] := vk_cons (Or.inl ⟨cal_Prof_all, wd_293, wd_270, _, rfl, wd_271⟩) (vk_nil)
theorem kc_Agre_31 : Cond.constantLong "BallotDesk$Agreement" 31 (Int64.ofInt (9223372036854775807)) ∈ lw_t := wd_294
theorem cal_Agre_with : cal y_Agre_with 3 := ⟨by decide +kernel, ⟨by decide +kernel, by decide +kernel⟩, by decide +kernel, _, _, _, _, (by decide : (4 : Nat) ≤ 40), Or.inl ⟨wd_298, rfl⟩⟩
theorem cv_Agre_33 : vk "BallotDesk$Agreement" 33 3 [(4, y_Agre_with)] := vk_cons (Or.inl ⟨cal_Agre_with, wd_295, wd_297, _, rfl, wp_1⟩) (vk_nil)
theorem cal_Math_min : cal y_Math_min 2 := ⟨by decide +kernel, ⟨by decide +kernel, by decide +kernel⟩, by decide +kernel, _, _, _, _, (by decide : (4 : Nat) ≤ 40), Or.inl ⟨wd_304, rfl⟩⟩
theorem cs_Agre_37 : cSm "BallotDesk$Agreement" 37 y_Math_min 2 := ⟨cal_Math_min, wd_302, wd_303, wd_24⟩
theorem cal_Agre_cost : cal y_Agre_cost 3 := ⟨by decide +kernel, ⟨by decide +kernel, by decide +kernel⟩, by decide +kernel, _, _, _, _, (by decide : (6 : Nat) ≤ 40), Or.inl ⟨wd_301, rfl⟩⟩
theorem cs_Agre_43 : cSm "BallotDesk$Agreement" 43 y_Agre_cost 3 := ⟨cal_Agre_cost, wd_299, wd_300, wd_4⟩
theorem cv_Agre_46 : vk "BallotDesk$Agreement" 46 1 [(4, y_Agre_find)] := vk_cons (Or.inl ⟨cal_Agre_find, wd_555, wd_290, _, rfl, wd_291⟩) (vk_nil)
theorem cv_Agre_50 : vk "BallotDesk$Agreement" 50 2 [(4, y_Agre_heads)] := vk_cons (Or.inl ⟨cal_Agre_heads, wd_556, wd_311, _, rfl, wd_312⟩) (vk_nil)
theorem ci_Defe_1 : cIm "BallotDesk$Defeat" 1 y_Scor_init 1 := ⟨⟨by decide +kernel, ⟨by decide +kernel, by decide +kernel⟩, by decide +kernel, _, _, (by decide : (2 : Nat) ≤ 40), wd_83⟩, rfl, Or.inl wd_120, wd_82⟩
theorem fl_Defe_7 : ∀ ci, 1 ≤ ci → ci ≤ 1 → fLink "BallotDesk$Defeat" 7 ci 0 := fun ci h1 h2 => by obtain rfl : ci = 1 := (by omega); exact ⟨_, rfl, by decide, Or.inr ⟨_, wd_173⟩⟩
theorem cv_Defe_13 : vk "BallotDesk$Defeat" 13 2 [(1, y_Prof_beats)] := vk_cons (Or.inl ⟨cal_Prof_beats, wd_569, wd_542, _, rfl, wd_543⟩) (vk_nil)
theorem fl_Defe_17 : ∀ ci, 1 ≤ ci → ci ≤ 1 → fLink "BallotDesk$Defeat" 17 ci 4 := fun ci h1 h2 => by obtain rfl : ci = 1 := (by omega); exact ⟨_, rfl, by decide, Or.inr ⟨_, wd_194⟩⟩
theorem co_Elim_3 : cOm "BallotDesk$Elimination" 3 := ⟨wd_38, wd_31, wd_32⟩
theorem pl_Elim_9 : ∀ ci, 2 ≤ ci → ci ≤ 2 → pLk "BallotDesk$Elimination" 9 ci 0 true 2 := fun ci h1 h2 => by obtain rfl : ci = 2 := (by omega); exact ⟨_, ⟨_, _, rfl, rfl, by decide, rfl, wd_39, rfl, by decide⟩, by decide, by decide, by decide⟩
theorem kc_Elim_17 : Cond.constant "BallotDesk$Elimination" 17 (Int32.ofInt (2147483647 : Nat)) ∈ lw_t := wd_280
theorem fl_Elim_18 : ∀ ci, 1 ≤ ci → ci ≤ 1 → fLink "BallotDesk$Elimination" 18 ci 0 := fun ci h1 h2 => by obtain rfl : ci = 1 := (by omega); exact ⟨_, rfl, by decide, Or.inr ⟨_, wd_176⟩⟩
theorem cal_Prof_firsts : cal y_Prof_firsts 2 := ⟨by decide +kernel, ⟨by decide +kernel, by decide +kernel⟩, by decide +kernel, _, _, _, _, (by decide : (6 : Nat) ≤ 40), Or.inl ⟨wd_284, rfl⟩⟩
theorem cv_Elim_24 : vk "BallotDesk$Elimination" 24 2 [(1, y_Prof_firsts)] := vk_cons (Or.inl ⟨cal_Prof_firsts, wd_281, wd_282, _, rfl, wd_283⟩) (vk_nil)
theorem fl_Elim_9 : ∀ ci, 2 ≤ ci → ci ≤ 2 → fLink "BallotDesk$Elimination" 9 ci 0 := fun ci h1 h2 => by obtain rfl : ci = 2 := (by omega); exact ⟨_, rfl, by decide, Or.inl wd_39⟩
theorem fl_Elim_28 : ∀ ci, 2 ≤ ci → ci ≤ 2 → fLink "BallotDesk$Elimination" 28 ci 1 := fun ci h1 h2 => by obtain rfl : ci = 2 := (by omega); exact ⟨_, rfl, by decide, Or.inl wd_40⟩
theorem pl_Elim_28 : ∀ ci, 2 ≤ ci → ci ≤ 2 → pLk "BallotDesk$Elimination" 28 ci 1 false 0 := fun ci h1 h2 => by obtain rfl : ci = 2 := (by omega); exact ⟨_, ⟨_, _, rfl, rfl, by decide, rfl, wd_40, rfl, by decide⟩, by decide, by decide, by decide⟩
theorem cs_Elim_31 : cSm "BallotDesk$Elimination" 31 y_Elim_lowest 2 := ⟨cal_Elim_lowest, wd_277, wd_278, wd_2⟩
theorem cal_Elim_left : cal y_Elim_left 2 := ⟨by decide +kernel, ⟨by decide +kernel, by decide +kernel⟩, by decide +kernel, _, _, _, _, (by decide : (6 : Nat) ≤ 40), Or.inl ⟨wd_276, rfl⟩⟩
theorem cv_Elim_35 : vk "BallotDesk$Elimination" 35 2 [(2, y_Elim_left)] := vk_cons (Or.inl ⟨cal_Elim_left, wd_273, wd_275, _, rfl, wp_0⟩) (vk_nil)
theorem cv_Elim_38 : vk "BallotDesk$Elimination" 38 0 [(1, y_Prof_all)] := vk_cons (Or.inl ⟨cal_Prof_all, wd_269, wd_270, _, rfl, wd_271⟩) (vk_nil)
theorem ci_Firs_1 : cIm "BallotDesk$Firsts" 1 y_Scor_init 1 := ⟨⟨by decide +kernel, ⟨by decide +kernel, by decide +kernel⟩, by decide +kernel, _, _, (by decide : (2 : Nat) ≤ 40), wd_83⟩, rfl, Or.inl wd_81, wd_82⟩
theorem cv_Firs_7 : vk "BallotDesk$Firsts" 7 0 [(1, y_Prof_all)] := vk_cons (Or.inl ⟨cal_Prof_all, wd_573, wd_270, _, rfl, wd_271⟩) (vk_nil)
theorem cv_Firs_13 : vk "BallotDesk$Firsts" 13 2 [(1, y_Prof_firsts)] := vk_cons (Or.inl ⟨cal_Prof_firsts, wd_574, wd_282, _, rfl, wd_283⟩) (vk_nil)
theorem ci_Last_1 : cIm "BallotDesk$Lasts" 1 y_Scor_init 1 := ⟨⟨by decide +kernel, ⟨by decide +kernel, by decide +kernel⟩, by decide +kernel, _, _, (by decide : (2 : Nat) ≤ 40), wd_83⟩, rfl, Or.inl wd_94, wd_82⟩
theorem fl_Last_7 : ∀ ci, 1 ≤ ci → ci ≤ 1 → fLink "BallotDesk$Lasts" 7 ci 1 := fun ci h1 h2 => by obtain rfl : ci = 1 := (by omega); exact ⟨_, rfl, by decide, Or.inr ⟨_, wd_182⟩⟩
theorem fl_Last_13 : ∀ ci, 1 ≤ ci → ci ≤ 1 → fLink "BallotDesk$Lasts" 13 ci 2 := fun ci h1 h2 => by obtain rfl : ci = 1 := (by omega); exact ⟨_, rfl, by decide, Or.inr ⟨_, wd_186⟩⟩
theorem fl_Last_17 : ∀ ci, 1 ≤ ci → ci ≤ 1 → fLink "BallotDesk$Lasts" 17 ci 0 := fun ci h1 h2 => by obtain rfl : ci = 1 := (by omega); exact ⟨_, rfl, by decide, Or.inr ⟨_, wd_177⟩⟩
theorem fl_Last_20 : ∀ ci, 1 ≤ ci → ci ≤ 1 → fLink "BallotDesk$Lasts" 20 ci 3 := fun ci h1 h2 => by obtain rfl : ci = 1 := (by omega); exact ⟨_, rfl, by decide, Or.inr ⟨_, wd_190⟩⟩
theorem co_Locks_3 : cOm "BallotDesk$Locks" 3 := ⟨wd_136, wd_31, wd_32⟩
theorem pl_Locks_9 : ∀ ci, 6 ≤ ci → ci ≤ 6 → pLk "BallotDesk$Locks" 9 ci 0 true 2 := fun ci h1 h2 => by obtain rfl : ci = 6 := (by omega); exact ⟨_, ⟨_, _, rfl, rfl, by decide, rfl, wd_137, rfl, by decide⟩, by decide, by decide, by decide⟩
theorem pl_Locks_15 : ∀ ci, 6 ≤ ci → ci ≤ 6 → pLk "BallotDesk$Locks" 15 ci 1 true 2 := fun ci h1 h2 => by obtain rfl : ci = 6 := (by omega); exact ⟨_, ⟨_, _, rfl, rfl, by decide, rfl, wd_138, rfl, by decide⟩, by decide, by decide, by decide⟩
theorem pl_Locks_18 : ∀ ci, 6 ≤ ci → ci ≤ 6 → pLk "BallotDesk$Locks" 18 ci 2 true 2 := fun ci h1 h2 => by obtain rfl : ci = 6 := (by omega); exact ⟨_, ⟨_, _, rfl, rfl, by decide, rfl, wd_139, rfl, by decide⟩, by decide, by decide, by decide⟩
theorem fl_Locks_21 : ∀ ci, 1 ≤ ci → ci ≤ 1 → fLink "BallotDesk$Locks" 21 ci 4 := fun ci h1 h2 => by obtain rfl : ci = 1 := (by omega); exact ⟨_, rfl, by decide, Or.inr ⟨_, wd_193⟩⟩
theorem cv_Locks_27 : vk "BallotDesk$Locks" 27 1 [(1, y_Prof_tie)] := vk_cons (Or.inl ⟨cal_Prof_tie, wd_613, wd_546, _, rfl, wd_547⟩) (vk_nil)
theorem fl_Locks_31 : ∀ ci, 1 ≤ ci → ci ≤ 1 → fLink "BallotDesk$Locks" 31 ci 0 := fun ci h1 h2 => by obtain rfl : ci = 1 := (by omega); exact ⟨_, rfl, by decide, Or.inr ⟨_, wd_178⟩⟩
theorem cv_Locks_35 : vk "BallotDesk$Locks" 35 2 [(1, y_Prof_beats)] := vk_cons (Or.inl ⟨cal_Prof_beats, wd_609, wd_542, _, rfl, wd_543⟩) (vk_nil)
theorem fl_Locks_9 : ∀ ci, 6 ≤ ci → ci ≤ 6 → fLink "BallotDesk$Locks" 9 ci 0 := fun ci h1 h2 => by obtain rfl : ci = 6 := (by omega); exact ⟨_, rfl, by decide, Or.inl wd_137⟩
theorem fl_Locks_15 : ∀ ci, 6 ≤ ci → ci ≤ 6 → fLink "BallotDesk$Locks" 15 ci 1 := fun ci h1 h2 => by obtain rfl : ci = 6 := (by omega); exact ⟨_, rfl, by decide, Or.inl wd_138⟩
theorem cal_Locks_ahead : cal y_Locks_ahead 5 := ⟨by decide +kernel, ⟨by decide +kernel, by decide +kernel⟩, by decide +kernel, _, _, _, _, (by decide : (5 : Nat) ≤ 40), Or.inl ⟨wd_612, rfl⟩⟩
theorem cs_Locks_39 : cSm "BallotDesk$Locks" 39 y_Locks_ahead 5 := ⟨cal_Locks_ahead, wd_610, wd_611, wd_12⟩
theorem fl_Locks_18 : ∀ ci, 6 ≤ ci → ci ≤ 6 → fLink "BallotDesk$Locks" 18 ci 2 := fun ci h1 h2 => by obtain rfl : ci = 6 := (by omega); exact ⟨_, rfl, by decide, Or.inl wd_139⟩
theorem cal_Locks_collect : cal y_Locks_collect 1 := ⟨by decide +kernel, ⟨by decide +kernel, by decide +kernel⟩, by decide +kernel, _, _, _, _, (by decide : (6 : Nat) ≤ 40), Or.inl ⟨wd_608, rfl⟩⟩
theorem cv_Locks_43 : vk "BallotDesk$Locks" 43 1 [(6, y_Locks_collect)] := vk_cons (Or.inl ⟨cal_Locks_collect, wd_605, wd_607, _, rfl, wp_10⟩) (vk_nil)
theorem cal_Locks_lock : cal y_Locks_lock 3 := ⟨by decide +kernel, ⟨by decide +kernel, by decide +kernel⟩, by decide +kernel, _, _, _, _, (by decide : (6 : Nat) ≤ 40), Or.inl ⟨wd_617, rfl⟩⟩
theorem cv_Locks_47 : vk "BallotDesk$Locks" 47 3 [(6, y_Locks_lock)] := vk_cons (Or.inl ⟨cal_Locks_lock, wd_614, wd_616, _, rfl, wp_11⟩) (vk_nil)
theorem cv_Locks_51 : vk "BallotDesk$Locks" 51 0 [(1, y_Prof_all)] := vk_cons (Or.inl ⟨cal_Prof_all, wd_618, wd_270, _, rfl, wd_271⟩) (vk_nil)
theorem co_Paths_3 : cOm "BallotDesk$Paths" 3 := ⟨wd_53, wd_31, wd_32⟩
theorem cl_Paths_9 : Cond.classLink "BallotDesk$Paths" 9 "[[I" ∈ lw_t := wd_54
theorem pl_Paths_11 : ∀ ci, 3 ≤ ci → ci ≤ 3 → pLk "BallotDesk$Paths" 11 ci 0 true 2 := fun ci h1 h2 => by obtain rfl : ci = 3 := (by omega); exact ⟨_, ⟨_, _, rfl, rfl, by decide, rfl, wd_56, rfl, by decide⟩, by decide, by decide, by decide⟩
theorem fl_Paths_16 : ∀ ci, 1 ≤ ci → ci ≤ 1 → fLink "BallotDesk$Paths" 16 ci 0 := fun ci h1 h2 => by obtain rfl : ci = 1 := (by omega); exact ⟨_, rfl, by decide, Or.inr ⟨_, wd_169⟩⟩
theorem fl_Paths_11 : ∀ ci, 3 ≤ ci → ci ≤ 3 → fLink "BallotDesk$Paths" 11 ci 0 := fun ci h1 h2 => by obtain rfl : ci = 3 := (by omega); exact ⟨_, rfl, by decide, Or.inl wd_56⟩
theorem cv_Paths_22 : vk "BallotDesk$Paths" 22 2 [(1, y_Prof_beats)] := vk_cons (Or.inl ⟨cal_Prof_beats, wd_629, wd_542, _, rfl, wd_543⟩) (vk_nil)
theorem fl_Paths_26 : ∀ ci, 1 ≤ ci → ci ≤ 1 → fLink "BallotDesk$Paths" 26 ci 4 := fun ci h1 h2 => by obtain rfl : ci = 1 := (by omega); exact ⟨_, rfl, by decide, Or.inr ⟨_, wd_196⟩⟩
theorem cal_Paths_widen : cal y_Paths_widen 3 := ⟨by decide +kernel, ⟨by decide +kernel, by decide +kernel⟩, by decide +kernel, _, _, _, _, (by decide : (5 : Nat) ≤ 40), Or.inl ⟨wd_633, rfl⟩⟩
theorem cv_Paths_29 : vk "BallotDesk$Paths" 29 3 [(3, y_Paths_widen)] := vk_cons (Or.inl ⟨cal_Paths_widen, wd_630, wd_632, _, rfl, wp_12⟩) (vk_nil)
theorem cv_Paths_33 : vk "BallotDesk$Paths" 33 1 [(3, y_Paths_find)] := vk_cons (Or.inl ⟨cal_Paths_find, wd_625, wd_626, _, rfl, wd_627⟩) (vk_nil)
theorem ci_Poin_1 : cIm "BallotDesk$Points" 1 y_Scor_init 1 := ⟨⟨by decide +kernel, ⟨by decide +kernel, by decide +kernel⟩, by decide +kernel, _, _, (by decide : (2 : Nat) ≤ 40), wd_83⟩, rfl, Or.inl wd_102, wd_82⟩
theorem fl_Poin_7 : ∀ ci, 1 ≤ ci → ci ≤ 1 → fLink "BallotDesk$Points" 7 ci 1 := fun ci h1 h2 => by obtain rfl : ci = 1 := (by omega); exact ⟨_, rfl, by decide, Or.inr ⟨_, wd_183⟩⟩
theorem fl_Poin_13 : ∀ ci, 1 ≤ ci → ci ≤ 1 → fLink "BallotDesk$Points" 13 ci 3 := fun ci h1 h2 => by obtain rfl : ci = 1 := (by omega); exact ⟨_, rfl, by decide, Or.inr ⟨_, wd_189⟩⟩
theorem fl_Poin_17 : ∀ ci, 1 ≤ ci → ci ≤ 1 → fLink "BallotDesk$Points" 17 ci 7 := fun ci h1 h2 => by obtain rfl : ci = 1 := (by omega); exact ⟨_, rfl, by decide, Or.inr ⟨_, wd_204⟩⟩
theorem cv_Poin_20 : vk "BallotDesk$Points" 20 2 [(1, y_Prof_placeOf)] := vk_cons (Or.inl ⟨cal_Prof_placeOf, wd_581, wd_582, _, rfl, wd_583⟩) (vk_nil)
theorem co_Prof_3 : cOm "BallotDesk$Profile" 3 := ⟨wd_166, wd_31, wd_32⟩
theorem cl_Prof_9 : Cond.classLink "BallotDesk$Profile" 9 "[[I" ∈ lw_t := wd_167
theorem pl_Prof_11 : ∀ ci, 1 ≤ ci → ci ≤ 1 → pLk "BallotDesk$Profile" 11 ci 2 true 2 := fun ci h1 h2 => by obtain rfl : ci = 1 := (by omega); exact ⟨_, ⟨_, _, rfl, rfl, by decide, rfl, wd_185, rfl, by decide⟩, by decide, by decide, by decide⟩
theorem pl_Prof_16 : ∀ ci, 1 ≤ ci → ci ≤ 1 → pLk "BallotDesk$Profile" 16 ci 3 true 2 := fun ci h1 h2 => by obtain rfl : ci = 1 := (by omega); exact ⟨_, ⟨_, _, rfl, rfl, by decide, rfl, wd_188, rfl, by decide⟩, by decide, by decide, by decide⟩
theorem pl_Prof_20 : ∀ ci, 1 ≤ ci → ci ≤ 1 → pLk "BallotDesk$Profile" 20 ci 4 true 2 := fun ci h1 h2 => by obtain rfl : ci = 1 := (by omega); exact ⟨_, ⟨_, _, rfl, rfl, by decide, rfl, wd_192, rfl, by decide⟩, by decide, by decide, by decide⟩
theorem pl_Prof_23 : ∀ ci, 1 ≤ ci → ci ≤ 1 → pLk "BallotDesk$Profile" 23 ci 5 true 2 := fun ci h1 h2 => by obtain rfl : ci = 1 := (by omega); exact ⟨_, ⟨_, _, rfl, rfl, by decide, rfl, wd_198, rfl, by decide⟩, by decide, by decide, by decide⟩
theorem pl_Prof_26 : ∀ ci, 1 ≤ ci → ci ≤ 1 → pLk "BallotDesk$Profile" 26 ci 6 true 2 := fun ci h1 h2 => by obtain rfl : ci = 1 := (by omega); exact ⟨_, ⟨_, _, rfl, rfl, by decide, rfl, wd_200, rfl, by decide⟩, by decide, by decide, by decide⟩
theorem pl_Prof_29 : ∀ ci, 1 ≤ ci → ci ≤ 1 → pLk "BallotDesk$Profile" 29 ci 7 true 2 := fun ci h1 h2 => by obtain rfl : ci = 1 := (by omega); exact ⟨_, ⟨_, _, rfl, rfl, by decide, rfl, wd_203, rfl, by decide⟩, by decide, by decide, by decide⟩
theorem pl_Prof_32 : ∀ ci, 1 ≤ ci → ci ≤ 1 → pLk "BallotDesk$Profile" 32 ci 8 true 2 := fun ci h1 h2 => by obtain rfl : ci = 1 := (by omega); exact ⟨_, ⟨_, _, rfl, rfl, by decide, rfl, wd_206, rfl, by decide⟩, by decide, by decide, by decide⟩
theorem pl_Prof_35 : ∀ ci, 1 ≤ ci → ci ≤ 1 → pLk "BallotDesk$Profile" 35 ci 0 false 0 := fun ci h1 h2 => by obtain rfl : ci = 1 := (by omega); exact ⟨_, ⟨_, _, rfl, rfl, by decide, rfl, wd_168, rfl, by decide⟩, by decide, by decide, by decide⟩
theorem pl_Prof_39 : ∀ ci, 1 ≤ ci → ci ≤ 1 → pLk "BallotDesk$Profile" 39 ci 1 false 0 := fun ci h1 h2 => by obtain rfl : ci = 1 := (by omega); exact ⟨_, ⟨_, _, rfl, rfl, by decide, rfl, wd_181, rfl, by decide⟩, by decide, by decide, by decide⟩
theorem fl_Prof_20 : ∀ ci, 1 ≤ ci → ci ≤ 1 → fLink "BallotDesk$Profile" 20 ci 4 := fun ci h1 h2 => by obtain rfl : ci = 1 := (by omega); exact ⟨_, rfl, by decide, Or.inl wd_192⟩
theorem fl_Prof_23 : ∀ ci, 1 ≤ ci → ci ≤ 1 → fLink "BallotDesk$Profile" 23 ci 5 := fun ci h1 h2 => by obtain rfl : ci = 1 := (by omega); exact ⟨_, rfl, by decide, Or.inl wd_198⟩
theorem fl_Prof_26 : ∀ ci, 1 ≤ ci → ci ≤ 1 → fLink "BallotDesk$Profile" 26 ci 6 := fun ci h1 h2 => by obtain rfl : ci = 1 := (by omega); exact ⟨_, rfl, by decide, Or.inl wd_200⟩
theorem fl_Prof_29 : ∀ ci, 1 ≤ ci → ci ≤ 1 → fLink "BallotDesk$Profile" 29 ci 7 := fun ci h1 h2 => by obtain rfl : ci = 1 := (by omega); exact ⟨_, rfl, by decide, Or.inl wd_203⟩
theorem fl_Prof_35 : ∀ ci, 1 ≤ ci → ci ≤ 1 → fLink "BallotDesk$Profile" 35 ci 0 := fun ci h1 h2 => by obtain rfl : ci = 1 := (by omega); exact ⟨_, rfl, by decide, Or.inl wd_168⟩
theorem fl_Prof_11 : ∀ ci, 1 ≤ ci → ci ≤ 1 → fLink "BallotDesk$Profile" 11 ci 2 := fun ci h1 h2 => by obtain rfl : ci = 1 := (by omega); exact ⟨_, rfl, by decide, Or.inl wd_185⟩
theorem fl_Prof_39 : ∀ ci, 1 ≤ ci → ci ≤ 1 → fLink "BallotDesk$Profile" 39 ci 1 := fun ci h1 h2 => by obtain rfl : ci = 1 := (by omega); exact ⟨_, rfl, by decide, Or.inl wd_181⟩
theorem cy_Prof_42 : Cond.methodLink "BallotDesk$Profile" 42 arraycopyName ∈ lw_t := wd_438
theorem fl_Prof_16 : ∀ ci, 1 ≤ ci → ci ≤ 1 → fLink "BallotDesk$Profile" 16 ci 3 := fun ci h1 h2 => by obtain rfl : ci = 1 := (by omega); exact ⟨_, rfl, by decide, Or.inl wd_188⟩
theorem cal_Prof_tally : cal y_Prof_tally 2 := ⟨by decide +kernel, ⟨by decide +kernel, by decide +kernel⟩, by decide +kernel, _, _, _, _, (by decide : (5 : Nat) ≤ 40), Or.inl ⟨wd_444, rfl⟩⟩
theorem cv_Prof_48 : vk "BallotDesk$Profile" 48 2 [(1, y_Prof_tally)] := vk_cons (Or.inl ⟨cal_Prof_tally, wd_441, wd_443, _, rfl, wp_5⟩) (vk_nil)
theorem cv_Prof_52 : vk "BallotDesk$Profile" 52 1 [(1, y_Prof_begin)] := vk_cons (Or.inl ⟨cal_Prof_begin, wd_755, wd_227, _, rfl, wd_228⟩) (vk_nil)
theorem fl_Prof_32 : ∀ ci, 1 ≤ ci → ci ≤ 1 → fLink "BallotDesk$Profile" 32 ci 8 := fun ci h1 h2 => by obtain rfl : ci = 1 := (by omega); exact ⟨_, rfl, by decide, Or.inl wd_206⟩
theorem cal_Prof_leave : cal y_Prof_leave 4 := ⟨by decide +kernel, ⟨by decide +kernel, by decide +kernel⟩, by decide +kernel, _, _, _, _, (by decide : (6 : Nat) ≤ 40), Or.inl ⟨wd_758, rfl⟩⟩
theorem cs_Prof_56 : cSm "BallotDesk$Profile" 56 y_Prof_leave 4 := ⟨cal_Prof_leave, wd_756, wd_757, wd_15⟩
theorem cv_Prof_60 : vk "BallotDesk$Profile" 60 2 [(1, y_Prof_add)] := vk_cons (Or.inl ⟨cal_Prof_add, wd_759, wd_435, _, rfl, wd_436⟩) (vk_nil)
theorem co_Runo_3 : cOm "BallotDesk$Runoff" 3 := ⟨wd_110, wd_31, wd_32⟩
theorem pl_Runo_9 : ∀ ci, 5 ≤ ci → ci ≤ 5 → pLk "BallotDesk$Runoff" 9 ci 0 true 2 := fun ci h1 h2 => by obtain rfl : ci = 5 := (by omega); exact ⟨_, ⟨_, _, rfl, rfl, by decide, rfl, wd_111, rfl, by decide⟩, by decide, by decide, by decide⟩
theorem fl_Runo_15 : ∀ ci, 1 ≤ ci → ci ≤ 1 → fLink "BallotDesk$Runoff" 15 ci 0 := fun ci h1 h2 => by obtain rfl : ci = 1 := (by omega); exact ⟨_, rfl, by decide, Or.inr ⟨_, wd_170⟩⟩
theorem fl_Runo_9 : ∀ ci, 5 ≤ ci → ci ≤ 5 → fLink "BallotDesk$Runoff" 9 ci 0 := fun ci h1 h2 => by obtain rfl : ci = 5 := (by omega); exact ⟨_, rfl, by decide, Or.inl wd_111⟩
theorem cv_Runo_21 : vk "BallotDesk$Runoff" 21 0 [(1, y_Prof_all)] := vk_cons (Or.inl ⟨cal_Prof_all, wd_643, wd_270, _, rfl, wd_271⟩) (vk_nil)
theorem cv_Runo_25 : vk "BallotDesk$Runoff" 25 2 [(1, y_Prof_firsts)] := vk_cons (Or.inl ⟨cal_Prof_firsts, wd_644, wd_282, _, rfl, wd_283⟩) (vk_nil)
theorem cal_Runo_goOn : cal y_Runo_goOn 3 := ⟨by decide +kernel, ⟨by decide +kernel, by decide +kernel⟩, by decide +kernel, _, _, _, _, (by decide : (5 : Nat) ≤ 40), Or.inl ⟨wd_648, rfl⟩⟩
theorem cv_Runo_28 : vk "BallotDesk$Runoff" 28 3 [(5, y_Runo_goOn)] := vk_cons (Or.inl ⟨cal_Runo_goOn, wd_645, wd_647, _, rfl, wp_13⟩) (vk_nil)
theorem cv_Runo_32 : vk "BallotDesk$Runoff" 32 2 [(1, y_Prof_beats)] := vk_cons (Or.inl ⟨cal_Prof_beats, wd_649, wd_542, _, rfl, wd_543⟩) (vk_nil)
theorem co_Scor_1 : cOm "BallotDesk$Scored" 1 := ⟨wd_84, wd_31, wd_32⟩
theorem pl_Scor_7 : ∀ ci, 9 ≤ ci → ci ≤ 13 → pLk "BallotDesk$Scored" 7 ci 0 true 1 := fun ci h1 h2 => by rcases (show ci = 9 ∨ ci = 10 ∨ ci = 11 ∨ ci = 12 ∨ ci = 13 by omega) with rfl | rfl | rfl | rfl | rfl <;> exact ⟨_, ⟨_, _, rfl, rfl, by decide, rfl, wd_85, rfl, by decide⟩, by decide, by decide, by decide⟩
theorem cv_Scor_13 : vk "BallotDesk$Scored" 13 2 [(9, y_Firs_score), (10, y_Last_score), (11, y_Poin_score), (12, y_Defe_score), (13, y_Wins_score)] := vk_cons (Or.inr ⟨x_Scor_score, ⟨cal_Firs_score, wd_563, wd_565, wd_564, wd_571, ⟨by decide +kernel, by decide +kernel⟩, by decide +kernel, _, rfl, wd_570⟩⟩) (vk_cons (Or.inr ⟨x_Scor_score, ⟨cal_Last_score, wd_563, wd_565, wd_564, wd_576, ⟨by decide +kernel, by decide +kernel⟩, by decide +kernel, _, rfl, wd_575⟩⟩) (vk_cons (Or.inr ⟨x_Scor_score, ⟨cal_Poin_score, wd_563, wd_565, wd_564, wd_579, ⟨by decide +kernel, by decide +kernel⟩, by decide +kernel, _, rfl, wd_578⟩⟩) (vk_cons (Or.inr ⟨x_Scor_score, ⟨cal_Defe_score, wd_563, wd_565, wd_564, wd_567, ⟨by decide +kernel, by decide +kernel⟩, by decide +kernel, _, rfl, wd_566⟩⟩) (vk_cons (Or.inr ⟨x_Scor_score, ⟨cal_Wins_score, wd_563, wd_565, wd_564, wd_586, ⟨by decide +kernel, by decide +kernel⟩, by decide +kernel, _, rfl, wd_585⟩⟩) (vk_nil)))))
theorem fl_Scor_17 : ∀ ci, 1 ≤ ci → ci ≤ 1 → fLink "BallotDesk$Scored" 17 ci 0 := fun ci h1 h2 => by obtain rfl : ci = 1 := (by omega); exact ⟨_, rfl, by decide, Or.inr ⟨_, wd_179⟩⟩
theorem fl_Scor_7 : ∀ ci, 9 ≤ ci → ci ≤ 13 → fLink "BallotDesk$Scored" 7 ci 0 := fun ci h1 h2 => by rcases (show ci = 9 ∨ ci = 10 ∨ ci = 11 ∨ ci = 12 ∨ ci = 13 by omega) with rfl | rfl | rfl | rfl | rfl <;> exact ⟨_, rfl, by decide, Or.inl wd_85⟩
theorem co_Unco_1 : cOm "BallotDesk$Uncovered" 1 := ⟨wd_152, wd_31, wd_32⟩
theorem fl_Unco_7 : ∀ ci, 1 ≤ ci → ci ≤ 1 → fLink "BallotDesk$Uncovered" 7 ci 0 := fun ci h1 h2 => by obtain rfl : ci = 1 := (by omega); exact ⟨_, rfl, by decide, Or.inr ⟨_, wd_171⟩⟩
theorem cv_Unco_13 : vk "BallotDesk$Uncovered" 13 2 [(1, y_Prof_beats)] := vk_cons (Or.inl ⟨cal_Prof_beats, wd_659, wd_542, _, rfl, wd_543⟩) (vk_nil)
theorem cal_Unco_beaten : cal y_Unco_beaten 2 := ⟨by decide +kernel, ⟨by decide +kernel, by decide +kernel⟩, by decide +kernel, _, _, _, _, (by decide : (4 : Nat) ≤ 40), Or.inl ⟨wd_658, rfl⟩⟩
theorem cs_Unco_17 : cSm "BallotDesk$Uncovered" 17 y_Unco_beaten 2 := ⟨cal_Unco_beaten, wd_656, wd_657, wd_13⟩
theorem cv_Unco_23 : vk "BallotDesk$Uncovered" 23 0 [(1, y_Prof_all)] := vk_cons (Or.inl ⟨cal_Prof_all, wd_660, wd_270, _, rfl, wd_271⟩) (vk_nil)
theorem ci_Wins_1 : cIm "BallotDesk$Wins" 1 y_Scor_init 1 := ⟨⟨by decide +kernel, ⟨by decide +kernel, by decide +kernel⟩, by decide +kernel, _, _, (by decide : (2 : Nat) ≤ 40), wd_83⟩, rfl, Or.inl wd_128, wd_82⟩
theorem fl_Wins_7 : ∀ ci, 1 ≤ ci → ci ≤ 1 → fLink "BallotDesk$Wins" 7 ci 0 := fun ci h1 h2 => by obtain rfl : ci = 1 := (by omega); exact ⟨_, rfl, by decide, Or.inr ⟨_, wd_174⟩⟩
theorem cv_Wins_13 : vk "BallotDesk$Wins" 13 2 [(1, y_Prof_beats)] := vk_cons (Or.inl ⟨cal_Prof_beats, wd_588, wd_542, _, rfl, wd_543⟩) (vk_nil)
theorem cal_Desk_candidates : cal y_Desk_candidates 1 := ⟨by decide +kernel, ⟨by decide +kernel, by decide +kernel⟩, by decide +kernel, _, _, _, _, (by decide : (3 : Nat) ≤ 40), Or.inl ⟨wd_336, rfl⟩⟩
theorem cv_Law_7 : vk "BallotDeskLaw" 7 1 [(0, y_Desk_candidates)] := vk_cons (Or.inl ⟨cal_Desk_candidates, wd_333, wd_334, _, rfl, wd_335⟩) (vk_nil)
theorem cal_Desk_ballot : cal y_Desk_ballot 2 := ⟨by decide +kernel, ⟨by decide +kernel, by decide +kernel⟩, by decide +kernel, _, _, _, _, (by decide : (3 : Nat) ≤ 40), Or.inl ⟨wd_410, rfl⟩⟩
theorem cv_Law_15 : vk "BallotDeskLaw" 15 2 [(0, y_Desk_ballot)] := vk_cons (Or.inl ⟨cal_Desk_ballot, wd_407, wd_408, _, rfl, wd_409⟩) (vk_nil)
theorem cal_Desk_amount : cal y_Desk_amount 2 := ⟨by decide +kernel, ⟨by decide +kernel, by decide +kernel⟩, by decide +kernel, _, _, _, _, (by decide : (3 : Nat) ≤ 40), Or.inl ⟨wd_452, rfl⟩⟩
theorem cv_Law_21 : vk "BallotDeskLaw" 21 2 [(0, y_Desk_amount)] := vk_cons (Or.inl ⟨cal_Desk_amount, wd_449, wd_450, _, rfl, wd_451⟩) (vk_nil)
theorem cal_Desk_drop : cal y_Desk_drop 1 := ⟨by decide +kernel, ⟨by decide +kernel, by decide +kernel⟩, by decide +kernel, _, _, _, _, (by decide : (2 : Nat) ≤ 40), Or.inl ⟨wd_485, rfl⟩⟩
theorem cv_Law_26 : vk "BallotDeskLaw" 26 1 [(0, y_Desk_drop)] := vk_cons (Or.inl ⟨cal_Desk_drop, wd_482, wd_483, _, rfl, wd_484⟩) (vk_nil)
theorem cal_Desk_tieOrder : cal y_Desk_tieOrder 1 := ⟨by decide +kernel, ⟨by decide +kernel, by decide +kernel⟩, by decide +kernel, _, _, _, _, (by decide : (2 : Nat) ≤ 40), Or.inl ⟨wd_496, rfl⟩⟩
theorem cv_Law_29 : vk "BallotDeskLaw" 29 1 [(0, y_Desk_tieOrder)] := vk_cons (Or.inl ⟨cal_Desk_tieOrder, wd_493, wd_494, _, rfl, wd_495⟩) (vk_nil)
theorem cal_Desk_agenda : cal y_Desk_agenda 1 := ⟨by decide +kernel, ⟨by decide +kernel, by decide +kernel⟩, by decide +kernel, _, _, _, _, (by decide : (2 : Nat) ≤ 40), Or.inl ⟨wd_508, rfl⟩⟩
theorem cv_Law_32 : vk "BallotDeskLaw" 32 1 [(0, y_Desk_agenda)] := vk_cons (Or.inl ⟨cal_Desk_agenda, wd_505, wd_506, _, rfl, wd_507⟩) (vk_nil)
theorem cal_Desk_weight : cal y_Desk_weight 2 := ⟨by decide +kernel, ⟨by decide +kernel, by decide +kernel⟩, by decide +kernel, _, _, _, _, (by decide : (4 : Nat) ≤ 40), Or.inl ⟨wd_515, rfl⟩⟩
theorem cv_Law_35 : vk "BallotDeskLaw" 35 2 [(0, y_Desk_weight)] := vk_cons (Or.inl ⟨cal_Desk_weight, wd_512, wd_513, _, rfl, wd_514⟩) (vk_nil)
theorem cal_Desk_winners : cal y_Desk_winners 1 := ⟨by decide +kernel, ⟨by decide +kernel, by decide +kernel⟩, by decide +kernel, _, _, _, _, (by decide : (2 : Nat) ≤ 40), Or.inl ⟨wd_526, rfl⟩⟩
theorem cv_Law_38 : vk "BallotDeskLaw" 38 1 [(0, y_Desk_winners)] := vk_cons (Or.inl ⟨cal_Desk_winners, wd_523, wd_524, _, rfl, wd_525⟩) (vk_nil)
theorem cal_Desk_winner : cal y_Desk_winner 1 := ⟨by decide +kernel, ⟨by decide +kernel, by decide +kernel⟩, by decide +kernel, _, _, _, _, (by decide : (2 : Nat) ≤ 40), Or.inl ⟨wd_670, rfl⟩⟩
theorem cv_Law_41 : vk "BallotDeskLaw" 41 1 [(0, y_Desk_winner)] := vk_cons (Or.inl ⟨cal_Desk_winner, wd_667, wd_668, _, rfl, wd_669⟩) (vk_nil)
theorem cal_Desk_score : cal y_Desk_score 2 := ⟨by decide +kernel, ⟨by decide +kernel, by decide +kernel⟩, by decide +kernel, _, _, _, _, (by decide : (5 : Nat) ≤ 40), Or.inl ⟨wd_681, rfl⟩⟩
theorem cv_Law_44 : vk "BallotDeskLaw" 44 2 [(0, y_Desk_score)] := vk_cons (Or.inl ⟨cal_Desk_score, wd_678, wd_679, _, rfl, wd_680⟩) (vk_nil)
theorem cal_Desk_pair : cal y_Desk_pair 2 := ⟨by decide +kernel, ⟨by decide +kernel, by decide +kernel⟩, by decide +kernel, _, _, _, _, (by decide : (3 : Nat) ≤ 40), Or.inl ⟨wd_690, rfl⟩⟩
theorem cv_Law_48 : vk "BallotDeskLaw" 48 2 [(0, y_Desk_pair)] := vk_cons (Or.inl ⟨cal_Desk_pair, wd_687, wd_688, _, rfl, wd_689⟩) (vk_nil)
theorem cal_Desk_path : cal y_Desk_path 2 := ⟨by decide +kernel, ⟨by decide +kernel, by decide +kernel⟩, by decide +kernel, _, _, _, _, (by decide : (3 : Nat) ≤ 40), Or.inl ⟨wd_697, rfl⟩⟩
theorem cv_Law_51 : vk "BallotDeskLaw" 51 2 [(0, y_Desk_path)] := vk_cons (Or.inl ⟨cal_Desk_path, wd_694, wd_695, _, rfl, wd_696⟩) (vk_nil)
theorem cal_Desk_step : cal y_Desk_step 1 := ⟨by decide +kernel, ⟨by decide +kernel, by decide +kernel⟩, by decide +kernel, _, _, _, _, (by decide : (5 : Nat) ≤ 40), Or.inl ⟨wd_705, rfl⟩⟩
theorem cv_Law_54 : vk "BallotDeskLaw" 54 1 [(0, y_Desk_step)] := vk_cons (Or.inl ⟨cal_Desk_step, wd_702, wd_703, _, rfl, wd_704⟩) (vk_nil)
theorem cal_Desk_change : cal y_Desk_change 3 := ⟨by decide +kernel, ⟨by decide +kernel, by decide +kernel⟩, by decide +kernel, _, _, _, _, (by decide : (9 : Nat) ≤ 40), Or.inl ⟨wd_717, rfl⟩⟩
theorem cv_Law_57 : vk "BallotDeskLaw" 57 3 [(0, y_Desk_change)] := vk_cons (Or.inl ⟨cal_Desk_change, wd_714, wd_715, _, rfl, wd_716⟩) (vk_nil)
theorem cal_Desk_property : cal y_Desk_property 2 := ⟨by decide +kernel, ⟨by decide +kernel, by decide +kernel⟩, by decide +kernel, _, _, _, _, (by decide : (5 : Nat) ≤ 40), Or.inl ⟨wd_729, rfl⟩⟩
theorem cv_Law_61 : vk "BallotDeskLaw" 61 2 [(0, y_Desk_property)] := vk_cons (Or.inl ⟨cal_Desk_property, wd_726, wd_727, _, rfl, wd_728⟩) (vk_nil)
theorem cal_Desk_circle : cal y_Desk_circle 1 := ⟨by decide +kernel, ⟨by decide +kernel, by decide +kernel⟩, by decide +kernel, _, _, _, _, (by decide : (6 : Nat) ≤ 40), Or.inl ⟨wd_766, rfl⟩⟩
theorem cv_Law_65 : vk "BallotDeskLaw" 65 1 [(0, y_Desk_circle)] := vk_cons (Or.inl ⟨cal_Desk_circle, wd_763, wd_764, _, rfl, wd_765⟩) (vk_nil)
theorem cal_Desk_clones : cal y_Desk_clones 1 := ⟨by decide +kernel, ⟨by decide +kernel, by decide +kernel⟩, by decide +kernel, _, _, _, _, (by decide : (8 : Nat) ≤ 40), Or.inl ⟨wd_773, rfl⟩⟩
theorem cv_Law_68 : vk "BallotDeskLaw" 68 1 [(0, y_Desk_clones)] := vk_cons (Or.inl ⟨cal_Desk_clones, wd_770, wd_771, _, rfl, wd_772⟩) (vk_nil)
theorem cal_Desk_count : cal y_Desk_count 1 := ⟨by decide +kernel, ⟨by decide +kernel, by decide +kernel⟩, by decide +kernel, _, _, _, _, (by decide : (4 : Nat) ≤ 40), Or.inl ⟨wd_780, rfl⟩⟩
theorem cv_Law_72 : vk "BallotDeskLaw" 72 1 [(0, y_Desk_count)] := vk_cons (Or.inl ⟨cal_Desk_count, wd_777, wd_778, _, rfl, wd_779⟩) (vk_nil)
theorem cn_Law_8 : cNm "BallotDeskLaw" 8 0 := ⟨_, _, rfl, rfl, wd_25, by decide +kernel⟩
theorem ci_Law_75 : cIm "BallotDeskLaw" 75 y_Desk_init 0 := ⟨⟨by decide +kernel, ⟨by decide +kernel, by decide +kernel⟩, by decide +kernel, _, _, (by decide : (1 : Nat) ≤ 40), wd_29⟩, rfl, Or.inl wd_27, wd_28⟩
theorem cn_Law_76 : cNm "BallotDeskLaw" 76 14 := ⟨_, _, rfl, rfl, wd_781, by decide +kernel⟩
theorem ci_Law_78 : cIm "BallotDeskLaw" 78 y_Mod_init 0 := ⟨⟨by decide +kernel, ⟨by decide +kernel, by decide +kernel⟩, by decide +kernel, _, _, (by decide : (1 : Nat) ≤ 40), wd_785⟩, rfl, Or.inl wd_783, wd_784⟩
theorem cal_Law_candidates : cal y_Law_candidates 3 := ⟨by decide +kernel, ⟨by decide +kernel, by decide +kernel⟩, by decide +kernel, _, _, _, _, (by decide : (4 : Nat) ≤ 40), Or.inr wd_331⟩
theorem cs_Law_79 : cSm "BallotDeskLaw" 79 y_Law_candidates 3 := ⟨cal_Law_candidates, wd_329, wd_330, wd_0⟩
theorem cal_Mod_candidates : cal y_Mod_candidates 1 := ⟨by decide +kernel, ⟨by decide +kernel, by decide +kernel⟩, by decide +kernel, _, _, _, _, (by decide : (3 : Nat) ≤ 40), Or.inl ⟨wd_871, rfl⟩⟩
theorem cv_Law_84 : vk "BallotDeskLaw" 84 1 [(14, y_Mod_candidates)] := vk_cons (Or.inl ⟨cal_Mod_candidates, wd_868, wd_869, _, rfl, wd_870⟩) (vk_nil)
theorem cal_Mod_thrown : cal y_Mod_thrown 0 := ⟨by decide +kernel, ⟨by decide +kernel, by decide +kernel⟩, by decide +kernel, _, _, _, _, (by decide : (1 : Nat) ≤ 40), Or.inl ⟨wd_867, rfl⟩⟩
theorem cv_Law_85 : vk "BallotDeskLaw" 85 0 [(14, y_Mod_thrown)] := vk_cons (Or.inl ⟨cal_Mod_thrown, wd_864, wd_865, _, rfl, wd_866⟩) (vk_nil)
theorem cal_Law_ballot : cal y_Law_ballot 4 := ⟨by decide +kernel, ⟨by decide +kernel, by decide +kernel⟩, by decide +kernel, _, _, _, _, (by decide : (5 : Nat) ≤ 40), Or.inr wd_405⟩
theorem cs_Law_89 : cSm "BallotDeskLaw" 89 y_Law_ballot 4 := ⟨cal_Law_ballot, wd_403, wd_404, wd_0⟩
theorem cal_Mod_ballot : cal y_Mod_ballot 2 := ⟨by decide +kernel, ⟨by decide +kernel, by decide +kernel⟩, by decide +kernel, _, _, _, _, (by decide : (3 : Nat) ≤ 40), Or.inl ⟨wd_882, rfl⟩⟩
theorem cv_Law_92 : vk "BallotDeskLaw" 92 2 [(14, y_Mod_ballot)] := vk_cons (Or.inl ⟨cal_Mod_ballot, wd_879, wd_880, _, rfl, wd_881⟩) (vk_nil)
theorem cal_Law_amount : cal y_Law_amount 4 := ⟨by decide +kernel, ⟨by decide +kernel, by decide +kernel⟩, by decide +kernel, _, _, _, _, (by decide : (5 : Nat) ≤ 40), Or.inr wd_447⟩
theorem cs_Law_93 : cSm "BallotDeskLaw" 93 y_Law_amount 4 := ⟨cal_Law_amount, wd_445, wd_446, wd_0⟩
theorem cal_Mod_amount : cal y_Mod_amount 2 := ⟨by decide +kernel, ⟨by decide +kernel, by decide +kernel⟩, by decide +kernel, _, _, _, _, (by decide : (4 : Nat) ≤ 40), Or.inl ⟨wd_895, rfl⟩⟩
theorem cv_Law_95 : vk "BallotDeskLaw" 95 2 [(14, y_Mod_amount)] := vk_cons (Or.inl ⟨cal_Mod_amount, wd_892, wd_893, _, rfl, wd_894⟩) (vk_nil)
theorem cal_Law_drop : cal y_Law_drop 3 := ⟨by decide +kernel, ⟨by decide +kernel, by decide +kernel⟩, by decide +kernel, _, _, _, _, (by decide : (4 : Nat) ≤ 40), Or.inr wd_481⟩
theorem cs_Law_96 : cSm "BallotDeskLaw" 96 y_Law_drop 3 := ⟨cal_Law_drop, wd_479, wd_480, wd_0⟩
theorem cal_Mod_drop : cal y_Mod_drop 1 := ⟨by decide +kernel, ⟨by decide +kernel, by decide +kernel⟩, by decide +kernel, _, _, _, _, (by decide : (4 : Nat) ≤ 40), Or.inl ⟨wd_903, rfl⟩⟩
theorem cv_Law_98 : vk "BallotDeskLaw" 98 1 [(14, y_Mod_drop)] := vk_cons (Or.inl ⟨cal_Mod_drop, wd_900, wd_901, _, rfl, wd_902⟩) (vk_nil)
theorem cal_Law_tieOrder : cal y_Law_tieOrder 3 := ⟨by decide +kernel, ⟨by decide +kernel, by decide +kernel⟩, by decide +kernel, _, _, _, _, (by decide : (4 : Nat) ≤ 40), Or.inr wd_492⟩
theorem cs_Law_99 : cSm "BallotDeskLaw" 99 y_Law_tieOrder 3 := ⟨cal_Law_tieOrder, wd_490, wd_491, wd_0⟩
theorem cal_Mod_tieOrder : cal y_Mod_tieOrder 1 := ⟨by decide +kernel, ⟨by decide +kernel, by decide +kernel⟩, by decide +kernel, _, _, _, _, (by decide : (3 : Nat) ≤ 40), Or.inl ⟨wd_907, rfl⟩⟩
theorem cv_Law_101 : vk "BallotDeskLaw" 101 1 [(14, y_Mod_tieOrder)] := vk_cons (Or.inl ⟨cal_Mod_tieOrder, wd_904, wd_905, _, rfl, wd_906⟩) (vk_nil)
theorem cal_Law_agenda : cal y_Law_agenda 3 := ⟨by decide +kernel, ⟨by decide +kernel, by decide +kernel⟩, by decide +kernel, _, _, _, _, (by decide : (4 : Nat) ≤ 40), Or.inr wd_504⟩
theorem cs_Law_102 : cSm "BallotDeskLaw" 102 y_Law_agenda 3 := ⟨cal_Law_agenda, wd_502, wd_503, wd_0⟩
theorem cal_Mod_agenda : cal y_Mod_agenda 1 := ⟨by decide +kernel, ⟨by decide +kernel, by decide +kernel⟩, by decide +kernel, _, _, _, _, (by decide : (3 : Nat) ≤ 40), Or.inl ⟨wd_915, rfl⟩⟩
theorem cv_Law_104 : vk "BallotDeskLaw" 104 1 [(14, y_Mod_agenda)] := vk_cons (Or.inl ⟨cal_Mod_agenda, wd_912, wd_913, _, rfl, wd_914⟩) (vk_nil)
theorem cal_Law_weight : cal y_Law_weight 4 := ⟨by decide +kernel, ⟨by decide +kernel, by decide +kernel⟩, by decide +kernel, _, _, _, _, (by decide : (5 : Nat) ≤ 40), Or.inr wd_511⟩
theorem cs_Law_105 : cSm "BallotDeskLaw" 105 y_Law_weight 4 := ⟨cal_Law_weight, wd_509, wd_510, wd_0⟩
theorem cal_Mod_weight : cal y_Mod_weight 2 := ⟨by decide +kernel, ⟨by decide +kernel, by decide +kernel⟩, by decide +kernel, _, _, _, _, (by decide : (4 : Nat) ≤ 40), Or.inl ⟨wd_919, rfl⟩⟩
theorem cv_Law_107 : vk "BallotDeskLaw" 107 2 [(14, y_Mod_weight)] := vk_cons (Or.inl ⟨cal_Mod_weight, wd_916, wd_917, _, rfl, wd_918⟩) (vk_nil)
theorem cal_Law_winners : cal y_Law_winners 3 := ⟨by decide +kernel, ⟨by decide +kernel, by decide +kernel⟩, by decide +kernel, _, _, _, _, (by decide : (4 : Nat) ≤ 40), Or.inr wd_522⟩
theorem cs_Law_108 : cSm "BallotDeskLaw" 108 y_Law_winners 3 := ⟨cal_Law_winners, wd_520, wd_521, wd_0⟩
theorem cal_Mod_winners : cal y_Mod_winners 1 := ⟨by decide +kernel, ⟨by decide +kernel, by decide +kernel⟩, by decide +kernel, _, _, _, _, (by decide : (2 : Nat) ≤ 40), Or.inl ⟨wd_923, rfl⟩⟩
theorem cv_Law_110 : vk "BallotDeskLaw" 110 1 [(14, y_Mod_winners)] := vk_cons (Or.inl ⟨cal_Mod_winners, wd_920, wd_921, _, rfl, wd_922⟩) (vk_nil)
theorem cal_Law_winner : cal y_Law_winner 3 := ⟨by decide +kernel, ⟨by decide +kernel, by decide +kernel⟩, by decide +kernel, _, _, _, _, (by decide : (4 : Nat) ≤ 40), Or.inr wd_666⟩
theorem cs_Law_111 : cSm "BallotDeskLaw" 111 y_Law_winner 3 := ⟨cal_Law_winner, wd_664, wd_665, wd_0⟩
theorem cal_Mod_winner : cal y_Mod_winner 1 := ⟨by decide +kernel, ⟨by decide +kernel, by decide +kernel⟩, by decide +kernel, _, _, _, _, (by decide : (2 : Nat) ≤ 40), Or.inl ⟨wd_1026, rfl⟩⟩
theorem cv_Law_113 : vk "BallotDeskLaw" 113 1 [(14, y_Mod_winner)] := vk_cons (Or.inl ⟨cal_Mod_winner, wd_1023, wd_1024, _, rfl, wd_1025⟩) (vk_nil)
theorem cal_Law_score : cal y_Law_score 4 := ⟨by decide +kernel, ⟨by decide +kernel, by decide +kernel⟩, by decide +kernel, _, _, _, _, (by decide : (5 : Nat) ≤ 40), Or.inr wd_677⟩
theorem cs_Law_114 : cSm "BallotDeskLaw" 114 y_Law_score 4 := ⟨cal_Law_score, wd_675, wd_676, wd_0⟩
theorem cal_Mod_score : cal y_Mod_score 2 := ⟨by decide +kernel, ⟨by decide +kernel, by decide +kernel⟩, by decide +kernel, _, _, _, _, (by decide : (3 : Nat) ≤ 40), Or.inl ⟨wd_1034, rfl⟩⟩
theorem cv_Law_116 : vk "BallotDeskLaw" 116 2 [(14, y_Mod_score)] := vk_cons (Or.inl ⟨cal_Mod_score, wd_1031, wd_1032, _, rfl, wd_1033⟩) (vk_nil)
theorem cal_Law_pair : cal y_Law_pair 4 := ⟨by decide +kernel, ⟨by decide +kernel, by decide +kernel⟩, by decide +kernel, _, _, _, _, (by decide : (5 : Nat) ≤ 40), Or.inr wd_686⟩
theorem cs_Law_117 : cSm "BallotDeskLaw" 117 y_Law_pair 4 := ⟨cal_Law_pair, wd_684, wd_685, wd_0⟩
theorem cal_Mod_pair : cal y_Mod_pair 2 := ⟨by decide +kernel, ⟨by decide +kernel, by decide +kernel⟩, by decide +kernel, _, _, _, _, (by decide : (3 : Nat) ≤ 40), Or.inl ⟨wd_1042, rfl⟩⟩
theorem cv_Law_119 : vk "BallotDeskLaw" 119 2 [(14, y_Mod_pair)] := vk_cons (Or.inl ⟨cal_Mod_pair, wd_1039, wd_1040, _, rfl, wd_1041⟩) (vk_nil)
theorem cal_Law_path : cal y_Law_path 4 := ⟨by decide +kernel, ⟨by decide +kernel, by decide +kernel⟩, by decide +kernel, _, _, _, _, (by decide : (5 : Nat) ≤ 40), Or.inr wd_693⟩
theorem cs_Law_120 : cSm "BallotDeskLaw" 120 y_Law_path 4 := ⟨cal_Law_path, wd_691, wd_692, wd_0⟩
theorem cal_Mod_path : cal y_Mod_path 2 := ⟨by decide +kernel, ⟨by decide +kernel, by decide +kernel⟩, by decide +kernel, _, _, _, _, (by decide : (3 : Nat) ≤ 40), Or.inl ⟨wd_1046, rfl⟩⟩
theorem cv_Law_122 : vk "BallotDeskLaw" 122 2 [(14, y_Mod_path)] := vk_cons (Or.inl ⟨cal_Mod_path, wd_1043, wd_1044, _, rfl, wd_1045⟩) (vk_nil)
theorem cal_Desk_branches : cal y_Desk_branches 0 := ⟨by decide +kernel, ⟨by decide +kernel, by decide +kernel⟩, by decide +kernel, _, _, _, _, (by decide : (1 : Nat) ≤ 40), Or.inl ⟨wd_264, rfl⟩⟩
theorem cv_Law_123 : vk "BallotDeskLaw" 123 0 [(0, y_Desk_branches)] := vk_cons (Or.inl ⟨cal_Desk_branches, wd_261, wd_262, _, rfl, wd_263⟩) (vk_nil)
theorem cal_Mod_branches : cal y_Mod_branches 0 := ⟨by decide +kernel, ⟨by decide +kernel, by decide +kernel⟩, by decide +kernel, _, _, _, _, (by decide : (4 : Nat) ≤ 40), Or.inl ⟨wd_1050, rfl⟩⟩
theorem cv_Law_126 : vk "BallotDeskLaw" 126 0 [(14, y_Mod_branches)] := vk_cons (Or.inl ⟨cal_Mod_branches, wd_1047, wd_1048, _, rfl, wd_1049⟩) (vk_nil)
theorem cal_Law_step : cal y_Law_step 3 := ⟨by decide +kernel, ⟨by decide +kernel, by decide +kernel⟩, by decide +kernel, _, _, _, _, (by decide : (4 : Nat) ≤ 40), Or.inr wd_701⟩
theorem cs_Law_127 : cSm "BallotDeskLaw" 127 y_Law_step 3 := ⟨cal_Law_step, wd_699, wd_700, wd_0⟩
theorem cal_Mod_step : cal y_Mod_step 1 := ⟨by decide +kernel, ⟨by decide +kernel, by decide +kernel⟩, by decide +kernel, _, _, _, _, (by decide : (7 : Nat) ≤ 40), Or.inl ⟨wd_1054, rfl⟩⟩
theorem cv_Law_129 : vk "BallotDeskLaw" 129 1 [(14, y_Mod_step)] := vk_cons (Or.inl ⟨cal_Mod_step, wd_1051, wd_1052, _, rfl, wd_1053⟩) (vk_nil)
theorem cal_Desk_disagreement : cal y_Desk_disagreement 0 := ⟨by decide +kernel, ⟨by decide +kernel, by decide +kernel⟩, by decide +kernel, _, _, _, _, (by decide : (1 : Nat) ≤ 40), Or.inl ⟨wd_288, rfl⟩⟩
theorem cv_Law_130 : vk "BallotDeskLaw" 130 0 [(0, y_Desk_disagreement)] := vk_cons (Or.inl ⟨cal_Desk_disagreement, wd_285, wd_286, _, rfl, wd_287⟩) (vk_nil)
theorem cal_Mod_disagreement : cal y_Mod_disagreement 0 := ⟨by decide +kernel, ⟨by decide +kernel, by decide +kernel⟩, by decide +kernel, _, _, _, _, (by decide : (1 : Nat) ≤ 40), Or.inl ⟨wd_1058, rfl⟩⟩
theorem cv_Law_134 : vk "BallotDeskLaw" 134 0 [(14, y_Mod_disagreement)] := vk_cons (Or.inl ⟨cal_Mod_disagreement, wd_1055, wd_1056, _, rfl, wd_1057⟩) (vk_nil)
theorem cal_Desk_agreed : cal y_Desk_agreed 0 := ⟨by decide +kernel, ⟨by decide +kernel, by decide +kernel⟩, by decide +kernel, _, _, _, _, (by decide : (3 : Nat) ≤ 40), Or.inl ⟨wd_309, rfl⟩⟩
theorem cv_Law_135 : vk "BallotDeskLaw" 135 0 [(0, y_Desk_agreed)] := vk_cons (Or.inl ⟨cal_Desk_agreed, wd_306, wd_307, _, rfl, wd_308⟩) (vk_nil)
theorem cal_Mod_agreed : cal y_Mod_agreed 0 := ⟨by decide +kernel, ⟨by decide +kernel, by decide +kernel⟩, by decide +kernel, _, _, _, _, (by decide : (3 : Nat) ≤ 40), Or.inl ⟨wd_1083, rfl⟩⟩
theorem cv_Law_138 : vk "BallotDeskLaw" 138 0 [(14, y_Mod_agreed)] := vk_cons (Or.inl ⟨cal_Mod_agreed, wd_1080, wd_1081, _, rfl, wd_1082⟩) (vk_nil)
theorem cal_Law_change : cal y_Law_change 5 := ⟨by decide +kernel, ⟨by decide +kernel, by decide +kernel⟩, by decide +kernel, _, _, _, _, (by decide : (6 : Nat) ≤ 40), Or.inr wd_713⟩
theorem cs_Law_139 : cSm "BallotDeskLaw" 139 y_Law_change 5 := ⟨cal_Law_change, wd_711, wd_712, wd_0⟩
theorem cal_Mod_change : cal y_Mod_change 3 := ⟨by decide +kernel, ⟨by decide +kernel, by decide +kernel⟩, by decide +kernel, _, _, _, _, (by decide : (8 : Nat) ≤ 40), Or.inl ⟨wd_1087, rfl⟩⟩
theorem cv_Law_142 : vk "BallotDeskLaw" 142 3 [(14, y_Mod_change)] := vk_cons (Or.inl ⟨cal_Mod_change, wd_1084, wd_1085, _, rfl, wd_1086⟩) (vk_nil)
theorem cal_Desk_changed : cal y_Desk_changed 0 := ⟨by decide +kernel, ⟨by decide +kernel, by decide +kernel⟩, by decide +kernel, _, _, _, _, (by decide : (1 : Nat) ≤ 40), Or.inl ⟨wd_324, rfl⟩⟩
theorem cv_Law_143 : vk "BallotDeskLaw" 143 0 [(0, y_Desk_changed)] := vk_cons (Or.inl ⟨cal_Desk_changed, wd_321, wd_322, _, rfl, wd_323⟩) (vk_nil)
theorem cal_Mod_changed : cal y_Mod_changed 0 := ⟨by decide +kernel, ⟨by decide +kernel, by decide +kernel⟩, by decide +kernel, _, _, _, _, (by decide : (1 : Nat) ≤ 40), Or.inl ⟨wd_1091, rfl⟩⟩
theorem cv_Law_146 : vk "BallotDeskLaw" 146 0 [(14, y_Mod_changed)] := vk_cons (Or.inl ⟨cal_Mod_changed, wd_1088, wd_1089, _, rfl, wd_1090⟩) (vk_nil)
theorem cal_Law_property : cal y_Law_property 4 := ⟨by decide +kernel, ⟨by decide +kernel, by decide +kernel⟩, by decide +kernel, _, _, _, _, (by decide : (5 : Nat) ≤ 40), Or.inr wd_725⟩
theorem cs_Law_147 : cSm "BallotDeskLaw" 147 y_Law_property 4 := ⟨cal_Law_property, wd_723, wd_724, wd_0⟩
theorem cal_Mod_property : cal y_Mod_property 2 := ⟨by decide +kernel, ⟨by decide +kernel, by decide +kernel⟩, by decide +kernel, _, _, _, _, (by decide : (3 : Nat) ≤ 40), Or.inl ⟨wd_1095, rfl⟩⟩
theorem cv_Law_149 : vk "BallotDeskLaw" 149 2 [(14, y_Mod_property)] := vk_cons (Or.inl ⟨cal_Mod_property, wd_1092, wd_1093, _, rfl, wd_1094⟩) (vk_nil)
theorem cal_Desk_witness : cal y_Desk_witness 0 := ⟨by decide +kernel, ⟨by decide +kernel, by decide +kernel⟩, by decide +kernel, _, _, _, _, (by decide : (1 : Nat) ≤ 40), Or.inl ⟨wd_328, rfl⟩⟩
theorem cv_Law_150 : vk "BallotDeskLaw" 150 0 [(0, y_Desk_witness)] := vk_cons (Or.inl ⟨cal_Desk_witness, wd_325, wd_326, _, rfl, wd_327⟩) (vk_nil)
theorem cal_Mod_witness : cal y_Mod_witness 0 := ⟨by decide +kernel, ⟨by decide +kernel, by decide +kernel⟩, by decide +kernel, _, _, _, _, (by decide : (1 : Nat) ≤ 40), Or.inl ⟨wd_1123, rfl⟩⟩
theorem cv_Law_153 : vk "BallotDeskLaw" 153 0 [(14, y_Mod_witness)] := vk_cons (Or.inl ⟨cal_Mod_witness, wd_1120, wd_1121, _, rfl, wd_1122⟩) (vk_nil)
theorem cal_Law_circle : cal y_Law_circle 3 := ⟨by decide +kernel, ⟨by decide +kernel, by decide +kernel⟩, by decide +kernel, _, _, _, _, (by decide : (4 : Nat) ≤ 40), Or.inr wd_762⟩
theorem cs_Law_154 : cSm "BallotDeskLaw" 154 y_Law_circle 3 := ⟨cal_Law_circle, wd_760, wd_761, wd_0⟩
theorem cal_Mod_circle : cal y_Mod_circle 1 := ⟨by decide +kernel, ⟨by decide +kernel, by decide +kernel⟩, by decide +kernel, _, _, _, _, (by decide : (6 : Nat) ≤ 40), Or.inl ⟨wd_1127, rfl⟩⟩
theorem cv_Law_156 : vk "BallotDeskLaw" 156 1 [(14, y_Mod_circle)] := vk_cons (Or.inl ⟨cal_Mod_circle, wd_1124, wd_1125, _, rfl, wd_1126⟩) (vk_nil)
theorem cal_Law_clones : cal y_Law_clones 3 := ⟨by decide +kernel, ⟨by decide +kernel, by decide +kernel⟩, by decide +kernel, _, _, _, _, (by decide : (4 : Nat) ≤ 40), Or.inr wd_769⟩
theorem cs_Law_157 : cSm "BallotDeskLaw" 157 y_Law_clones 3 := ⟨cal_Law_clones, wd_767, wd_768, wd_0⟩
theorem cal_Mod_clones : cal y_Mod_clones 1 := ⟨by decide +kernel, ⟨by decide +kernel, by decide +kernel⟩, by decide +kernel, _, _, _, _, (by decide : (8 : Nat) ≤ 40), Or.inl ⟨wd_1131, rfl⟩⟩
theorem cv_Law_159 : vk "BallotDeskLaw" 159 1 [(14, y_Mod_clones)] := vk_cons (Or.inl ⟨cal_Mod_clones, wd_1128, wd_1129, _, rfl, wd_1130⟩) (vk_nil)
theorem cal_Law_count : cal y_Law_count 3 := ⟨by decide +kernel, ⟨by decide +kernel, by decide +kernel⟩, by decide +kernel, _, _, _, _, (by decide : (4 : Nat) ≤ 40), Or.inr wd_776⟩
theorem cs_Law_160 : cSm "BallotDeskLaw" 160 y_Law_count 3 := ⟨cal_Law_count, wd_774, wd_775, wd_0⟩
theorem cal_Mod_count : cal y_Mod_count 1 := ⟨by decide +kernel, ⟨by decide +kernel, by decide +kernel⟩, by decide +kernel, _, _, _, _, (by decide : (4 : Nat) ≤ 40), Or.inl ⟨wd_1135, rfl⟩⟩
theorem cv_Law_162 : vk "BallotDeskLaw" 162 1 [(14, y_Mod_count)] := vk_cons (Or.inl ⟨cal_Mod_count, wd_1132, wd_1133, _, rfl, wd_1134⟩) (vk_nil)
theorem hc_Desk_init : hasCode y_Desk_init prog_1_method_1_code 1 (none) [] := Or.inl ⟨wd_29, rfl⟩
theorem hc_Desk_exists : hasCode y_Desk_exists prog_1_method_2_code 1 (none) [] := Or.inl ⟨wd_459, rfl⟩
theorem hc_Desk_allow : hasCode y_Desk_allow prog_1_method_3_code 1 (none) [] := Or.inl ⟨wd_339, rfl⟩
theorem hc_Desk_ruled : hasCode y_Desk_ruled prog_1_method_4_code 2 (none) [] := Or.inl ⟨wd_530, rfl⟩
theorem hc_Desk_stands : hasCode y_Desk_stands prog_1_method_5_code 2 (none) [] := Or.inl ⟨wd_519, rfl⟩
theorem hc_Desk_typed : hasCode y_Desk_typed prog_1_method_6_code 2 (none) [] := Or.inl ⟨wd_456, rfl⟩
theorem hc_Desk_unpack : hasCode y_Desk_unpack prog_1_method_7_code 5 (none) [] := Or.inl ⟨wd_414, rfl⟩
theorem hc_Desk_pack : hasCode y_Desk_pack prog_1_method_8_code 4 (some .int) [] := Or.inl ⟨wd_320, rfl⟩
theorem hc_Desk_candidates : hasCode y_Desk_candidates prog_1_method_9_code 3 (some .int) [] := Or.inl ⟨wd_336, rfl⟩
theorem hc_Desk_counted : hasCode y_Desk_counted prog_1_method_10_code 1 (none) [] := Or.inl ⟨wd_417, rfl⟩
theorem hc_Desk_ballot : hasCode y_Desk_ballot prog_1_method_11_code 3 (some .int) [] := Or.inl ⟨wd_410, rfl⟩
theorem hc_Desk_amount : hasCode y_Desk_amount prog_1_method_12_code 3 (some .int) [] := Or.inl ⟨wd_452, rfl⟩
theorem hc_Desk_drop : hasCode y_Desk_drop prog_1_method_13_code 2 (some .int) [] := Or.inl ⟨wd_485, rfl⟩
theorem hc_Desk_become : hasCode y_Desk_become prog_1_method_14_code 4 (some .int) [] := Or.inl ⟨wd_500, rfl⟩
theorem hc_Desk_tieOrder : hasCode y_Desk_tieOrder prog_1_method_15_code 2 (some .int) [] := Or.inl ⟨wd_496, rfl⟩
theorem hc_Desk_agenda : hasCode y_Desk_agenda prog_1_method_16_code 2 (some .int) [] := Or.inl ⟨wd_508, rfl⟩
theorem hc_Desk_weight : hasCode y_Desk_weight prog_1_method_17_code 4 (some .int) [] := Or.inl ⟨wd_515, rfl⟩
theorem hc_Desk_first : hasCode y_Desk_first prog_1_method_18_code 3 (some .int) [] := Or.inl ⟨wd_316, rfl⟩
theorem hc_Desk_chosen : hasCode y_Desk_chosen prog_1_method_19_code 3 (some .int) [] := Or.inl ⟨wd_674, rfl⟩
theorem hc_Desk_winners : hasCode y_Desk_winners prog_1_method_20_code 2 (some .int) [] := Or.inl ⟨wd_526, rfl⟩
theorem hc_Desk_winner : hasCode y_Desk_winner prog_1_method_21_code 2 (some .int) [] := Or.inl ⟨wd_670, rfl⟩
theorem hc_Desk_score : hasCode y_Desk_score prog_1_method_22_code 5 (some .long) [] := Or.inl ⟨wd_681, rfl⟩
theorem hc_Desk_pair : hasCode y_Desk_pair prog_1_method_23_code 3 (some .int) [] := Or.inl ⟨wd_690, rfl⟩
theorem hc_Desk_path : hasCode y_Desk_path prog_1_method_24_code 3 (some .int) [] := Or.inl ⟨wd_697, rfl⟩
theorem hc_Desk_branches : hasCode y_Desk_branches prog_1_method_25_code 1 (some .int) [] := Or.inl ⟨wd_264, rfl⟩
theorem hc_Desk_last : hasCode y_Desk_last prog_1_method_26_code 3 (some .int) [] := Or.inl ⟨wd_710, rfl⟩
theorem hc_Desk_step : hasCode y_Desk_step prog_1_method_27_code 5 (some .int) [] := Or.inl ⟨wd_705, rfl⟩
theorem hc_Desk_disagreement : hasCode y_Desk_disagreement prog_1_method_28_code 1 (some .long) [] := Or.inl ⟨wd_288, rfl⟩
theorem hc_Desk_agreed : hasCode y_Desk_agreed prog_1_method_29_code 3 (some .int) [] := Or.inl ⟨wd_309, rfl⟩
theorem hc_Desk_advance : hasCode y_Desk_advance prog_1_method_30_code 7 (some .boolean) [] := Or.inl ⟨wd_722, rfl⟩
theorem hc_Desk_change : hasCode y_Desk_change prog_1_method_31_code 9 (some .int) [] := Or.inl ⟨wd_717, rfl⟩
theorem hc_Desk_changed : hasCode y_Desk_changed prog_1_method_32_code 1 (some .int) [] := Or.inl ⟨wd_324, rfl⟩
theorem hc_Desk_extreme : hasCode y_Desk_extreme prog_1_method_33_code 6 (some .int) [] := Or.inl ⟨wd_733, rfl⟩
theorem hc_Desk_raised : hasCode y_Desk_raised prog_1_method_34_code 7 (some .int) [] := Or.inl ⟨wd_738, rfl⟩
theorem hc_Desk_swap : hasCode y_Desk_swap prog_1_method_35_code 7 (none) [] := Or.inl ⟨wd_742, rfl⟩
theorem hc_Desk_joined : hasCode y_Desk_joined prog_1_method_36_code 7 (some .int) [] := Or.inl ⟨wd_746, rfl⟩
theorem hc_Desk_dropped : hasCode y_Desk_dropped prog_1_method_37_code 6 (some .int) [] := Or.inl ⟨wd_750, rfl⟩
theorem hc_Desk_property : hasCode y_Desk_property prog_1_method_38_code 5 (some .boolean) [] := Or.inl ⟨wd_729, rfl⟩
theorem hc_Desk_witness : hasCode y_Desk_witness prog_1_method_39_code 1 (some .int) [] := Or.inl ⟨wd_328, rfl⟩
theorem hc_Desk_circle : hasCode y_Desk_circle prog_1_method_40_code 6 (some .int) [] := Or.inl ⟨wd_766, rfl⟩
theorem hc_Desk_clones : hasCode y_Desk_clones prog_1_method_41_code 8 (some .boolean) [] := Or.inl ⟨wd_773, rfl⟩
theorem hc_Desk_count : hasCode y_Desk_count prog_1_method_42_code 4 (some .int) [] := Or.inl ⟨wd_780, rfl⟩
theorem hc_Mod_init : hasCode y_Mod_init prog_18_method_1_code 1 (none) [] := Or.inl ⟨wd_785, rfl⟩
theorem hc_Mod_reset : hasCode y_Mod_reset prog_18_method_2_code 2 (none) [] := Or.inl ⟨wd_790, rfl⟩
theorem hc_Mod_thrown : hasCode y_Mod_thrown prog_18_method_3_code 1 (some .int) [] := Or.inl ⟨wd_867, rfl⟩
theorem hc_Mod_goes : hasCode y_Mod_goes prog_18_method_4_code 3 (some .boolean) [] := Or.inl ⟨wd_878, rfl⟩
theorem hc_Mod_within : hasCode y_Mod_within prog_18_method_5_code 3 (some .boolean) [] := Or.inl ⟨wd_874, rfl⟩
theorem hc_Mod_isOrder : hasCode y_Mod_isOrder prog_18_method_6_code 4 (some .boolean) [] := Or.inl ⟨wd_886, rfl⟩
theorem hc_Mod_unpack : hasCode y_Mod_unpack prog_18_method_7_code 5 (none) [] := Or.inl ⟨wd_891, rfl⟩
theorem hc_Mod_packed : hasCode y_Mod_packed prog_18_method_8_code 5 (some .int) [] := Or.inl ⟨wd_911, rfl⟩
theorem hc_Mod_candidates : hasCode y_Mod_candidates prog_18_method_9_code 3 (some .int) [] := Or.inl ⟨wd_871, rfl⟩
theorem hc_Mod_ballot : hasCode y_Mod_ballot prog_18_method_10_code 3 (some .int) [] := Or.inl ⟨wd_882, rfl⟩
theorem hc_Mod_isType : hasCode y_Mod_isType prog_18_method_11_code 2 (some .boolean) [] := Or.inl ⟨wd_899, rfl⟩
theorem hc_Mod_amount : hasCode y_Mod_amount prog_18_method_12_code 4 (some .int) [] := Or.inl ⟨wd_895, rfl⟩
theorem hc_Mod_drop : hasCode y_Mod_drop prog_18_method_13_code 4 (some .int) [] := Or.inl ⟨wd_903, rfl⟩
theorem hc_Mod_tieOrder : hasCode y_Mod_tieOrder prog_18_method_14_code 3 (some .int) [] := Or.inl ⟨wd_907, rfl⟩
theorem hc_Mod_agenda : hasCode y_Mod_agenda prog_18_method_15_code 3 (some .int) [] := Or.inl ⟨wd_915, rfl⟩
theorem hc_Mod_weight : hasCode y_Mod_weight prog_18_method_16_code 4 (some .int) [] := Or.inl ⟨wd_919, rfl⟩
theorem hc_Mod_load : hasCode y_Mod_load prog_18_method_17_code 2 (none) [] := Or.inl ⟨wd_930, rfl⟩
theorem hc_Mod_without : hasCode y_Mod_without prog_18_method_18_code 7 (none) [] := Or.inl ⟨wd_1119, rfl⟩
theorem hc_Mod_leaveOut : hasCode y_Mod_leaveOut prog_18_method_19_code 3 (none) [] := Or.inl ⟨wd_1115, rfl⟩
theorem hc_Mod_placeOf : hasCode y_Mod_placeOf prog_18_method_20_code 4 (some .int) [] := Or.inl ⟨wd_958, rfl⟩
theorem hc_Mod_tiePlace : hasCode y_Mod_tiePlace prog_18_method_21_code 3 (some .int) [] := Or.inl ⟨wd_998, rfl⟩
theorem hc_Mod_tally : hasCode y_Mod_tally prog_18_method_22_code 5 (none) [] := Or.inl ⟨wd_938, rfl⟩
theorem hc_Mod_beats : hasCode y_Mod_beats prog_18_method_23_code 3 (some .boolean) [] := Or.inl ⟨wd_962, rfl⟩
theorem hc_Mod_ahead : hasCode y_Mod_ahead prog_18_method_24_code 6 (some .int) [] := Or.inl ⟨wd_954, rfl⟩
theorem hc_Mod_all : hasCode y_Mod_all prog_18_method_25_code 1 (some .int) [] := Or.inl ⟨wd_950, rfl⟩
theorem hc_Mod_scored : hasCode y_Mod_scored prog_18_method_26_code 7 (some .long) [] := Or.inl ⟨wd_946, rfl⟩
theorem hc_Mod_extreme : hasCode y_Mod_extreme prog_18_method_27_code 7 (some .int) [] := Or.inl ⟨wd_942, rfl⟩
theorem hc_Mod_runoff : hasCode y_Mod_runoff prog_18_method_28_code 8 (some .int) [] := Or.inl ⟨wd_967, rfl⟩
theorem hc_Mod_weakest : hasCode y_Mod_weakest prog_18_method_29_code 6 (some .int) [] := Or.inl ⟨wd_978, rfl⟩
theorem hc_Mod_single : hasCode y_Mod_single prog_18_method_30_code 1 (some .boolean) [] := Or.inl ⟨wd_974, rfl⟩
theorem hc_Mod_eliminate : hasCode y_Mod_eliminate prog_18_method_31_code 5 (some .int) [] := Or.inl ⟨wd_971, rfl⟩
theorem hc_Mod_findPaths : hasCode y_Mod_findPaths prog_18_method_32_code 6 (none) [] := Or.inl ⟨wd_986, rfl⟩
theorem hc_Mod_pathWinners : hasCode y_Mod_pathWinners prog_18_method_33_code 5 (some .int) [] := Or.inl ⟨wd_982, rfl⟩
theorem hc_Mod_leads : hasCode y_Mod_leads prog_18_method_34_code 7 (some .boolean) [] := Or.inl ⟨wd_1002, rfl⟩
theorem hc_Mod_sooner_IIII : hasCode y_Mod_sooner_IIII prog_18_method_35_code 7 (some .boolean) [] := Or.inl ⟨wd_994, rfl⟩
theorem hc_Mod_lockWinners : hasCode y_Mod_lockWinners prog_18_method_36_code 7 (some .int) [] := Or.inl ⟨wd_990, rfl⟩
theorem hc_Mod_over_II : hasCode y_Mod_over_II prog_18_method_37_code 6 (some .long) [] := Or.inl ⟨wd_1014, rfl⟩
theorem hc_Mod_findLeast : hasCode y_Mod_findLeast prog_18_method_38_code 7 (none) [] := Or.inl ⟨wd_1010, rfl⟩
theorem hc_Mod_agreeing : hasCode y_Mod_agreeing prog_18_method_39_code 4 (some .int) [] := Or.inl ⟨wd_1006, rfl⟩
theorem hc_Mod_uncovered : hasCode y_Mod_uncovered prog_18_method_40_code 6 (some .int) [] := Or.inl ⟨wd_1018, rfl⟩
theorem hc_Mod_byAgenda : hasCode y_Mod_byAgenda prog_18_method_41_code 5 (some .int) [] := Or.inl ⟨wd_1022, rfl⟩
theorem hc_Mod_work : hasCode y_Mod_work prog_18_method_42_code 2 (some .int) [] := Or.inl ⟨wd_934, rfl⟩
theorem hc_Mod_firstOf : hasCode y_Mod_firstOf prog_18_method_43_code 3 (some .int) [] := Or.inl ⟨wd_1030, rfl⟩
theorem hc_Mod_isRule : hasCode y_Mod_isRule prog_18_method_44_code 1 (some .boolean) [] := Or.inl ⟨wd_926, rfl⟩
theorem hc_Mod_isCandidate : hasCode y_Mod_isCandidate prog_18_method_45_code 2 (some .boolean) [] := Or.inl ⟨wd_1038, rfl⟩
theorem hc_Mod_winners : hasCode y_Mod_winners prog_18_method_46_code 2 (some .int) [] := Or.inl ⟨wd_923, rfl⟩
theorem hc_Mod_winner : hasCode y_Mod_winner prog_18_method_47_code 2 (some .int) [] := Or.inl ⟨wd_1026, rfl⟩
theorem hc_Mod_score : hasCode y_Mod_score prog_18_method_48_code 3 (some .long) [] := Or.inl ⟨wd_1034, rfl⟩
theorem hc_Mod_pair : hasCode y_Mod_pair prog_18_method_49_code 3 (some .int) [] := Or.inl ⟨wd_1042, rfl⟩
theorem hc_Mod_path : hasCode y_Mod_path prog_18_method_50_code 3 (some .int) [] := Or.inl ⟨wd_1046, rfl⟩
theorem hc_Mod_branches : hasCode y_Mod_branches prog_18_method_51_code 4 (some .int) [] := Or.inl ⟨wd_1050, rfl⟩
theorem hc_Mod_step : hasCode y_Mod_step prog_18_method_52_code 7 (some .int) [] := Or.inl ⟨wd_1054, rfl⟩
theorem hc_Mod_firstOrder : hasCode y_Mod_firstOrder prog_18_method_53_code 2 (none) [] := Or.inl ⟨wd_1066, rfl⟩
theorem hc_Mod_nextOrder : hasCode y_Mod_nextOrder prog_18_method_54_code 6 (some .boolean) [] := Or.inl ⟨wd_1079, rfl⟩
theorem hc_Mod_disagreementOf : hasCode y_Mod_disagreementOf prog_18_method_55_code 5 (some .long) [] := Or.inl ⟨wd_1071, rfl⟩
theorem hc_Mod_sooner_0 : hasCode y_Mod_sooner_0 prog_18_method_56_code 2 (some .boolean) [] := Or.inl ⟨wd_1075, rfl⟩
theorem hc_Mod_findAgreed : hasCode y_Mod_findAgreed prog_18_method_57_code 7 (some .long) [] := Or.inl ⟨wd_1062, rfl⟩
theorem hc_Mod_disagreement : hasCode y_Mod_disagreement prog_18_method_58_code 1 (some .long) [] := Or.inl ⟨wd_1058, rfl⟩
theorem hc_Mod_agreed : hasCode y_Mod_agreed prog_18_method_59_code 3 (some .int) [] := Or.inl ⟨wd_1083, rfl⟩
theorem hc_Mod_change : hasCode y_Mod_change prog_18_method_60_code 8 (some .int) [] := Or.inl ⟨wd_1087, rfl⟩
theorem hc_Mod_changed : hasCode y_Mod_changed prog_18_method_61_code 1 (some .int) [] := Or.inl ⟨wd_1091, rfl⟩
theorem hc_Mod_over_IZ : hasCode y_Mod_over_IZ prog_18_method_62_code 5 (some .boolean) [] := Or.inl ⟨wd_1103, rfl⟩
theorem hc_Mod_brokenByPairs : hasCode y_Mod_brokenByPairs prog_18_method_63_code 6 (some .int) [] := Or.inl ⟨wd_1099, rfl⟩
theorem hc_Mod_brokenByType : hasCode y_Mod_brokenByType prog_18_method_64_code 6 (some .int) [] := Or.inl ⟨wd_1107, rfl⟩
theorem hc_Mod_brokenByLeaving : hasCode y_Mod_brokenByLeaving prog_18_method_65_code 5 (some .int) [] := Or.inl ⟨wd_1111, rfl⟩
theorem hc_Mod_property : hasCode y_Mod_property prog_18_method_66_code 3 (some .boolean) [] := Or.inl ⟨wd_1095, rfl⟩
theorem hc_Mod_witness : hasCode y_Mod_witness prog_18_method_67_code 1 (some .int) [] := Or.inl ⟨wd_1123, rfl⟩
theorem hc_Mod_circle : hasCode y_Mod_circle prog_18_method_68_code 6 (some .int) [] := Or.inl ⟨wd_1127, rfl⟩
theorem hc_Mod_clones : hasCode y_Mod_clones prog_18_method_69_code 8 (some .boolean) [] := Or.inl ⟨wd_1131, rfl⟩
theorem hc_Mod_count : hasCode y_Mod_count prog_18_method_70_code 4 (some .int) [] := Or.inl ⟨wd_1135, rfl⟩
theorem hc_Agen_init : hasCode y_Agen_init prog_2_method_1_code 1 (none) [] := Or.inl ⟨wd_158, rfl⟩
theorem hc_Agen_winners : hasCode y_Agen_winners prog_2_method_2_code 5 (some .int) [] := Or.inl ⟨wd_540, rfl⟩
theorem hc_Agre_init : hasCode y_Agre_init prog_3_method_1_code 1 (none) [] := Or.inl ⟨wd_66, rfl⟩
theorem hc_Agre_cost : hasCode y_Agre_cost prog_3_method_2_code 6 (some .long) [] := Or.inl ⟨wd_301, rfl⟩
theorem hc_Agre_find : hasCode y_Agre_find prog_3_method_3_code 6 (none) [] := Or.inl ⟨wd_292, rfl⟩
theorem hc_Agre_with : hasCode y_Agre_with prog_3_method_4_code 4 (some .long) [] := Or.inl ⟨wd_298, rfl⟩
theorem hc_Agre_heads : hasCode y_Agre_heads prog_3_method_5_code 5 (some .int) [] := Or.inl ⟨wd_313, rfl⟩
theorem hc_Agre_winners : hasCode y_Agre_winners prog_3_method_6_code 2 (some .int) [] := Or.inl ⟨wd_554, rfl⟩
theorem hc_Defe_init : hasCode y_Defe_init prog_4_method_1_code 1 (none) [] := Or.inl ⟨wd_119, rfl⟩
theorem hc_Defe_score : hasCode y_Defe_score prog_4_method_2_code 5 (some .long) [] := Or.inl ⟨wd_568, rfl⟩
theorem hc_Elim_init : hasCode y_Elim_init prog_5_method_1_code 1 (none) [] := Or.inl ⟨wd_37, rfl⟩
theorem hc_Elim_lowest : hasCode y_Elim_lowest prog_5_method_2_code 6 (some .int) [] := Or.inl ⟨wd_279, rfl⟩
theorem hc_Elim_left : hasCode y_Elim_left prog_5_method_3_code 6 (some .int) [] := Or.inl ⟨wd_276, rfl⟩
theorem hc_Elim_winners : hasCode y_Elim_winners prog_5_method_4_code 3 (some .int) [] := Or.inl ⟨wd_268, rfl⟩
theorem hc_Firs_init : hasCode y_Firs_init prog_6_method_1_code 1 (none) [] := Or.inl ⟨wd_80, rfl⟩
theorem hc_Firs_score : hasCode y_Firs_score prog_6_method_2_code 3 (some .long) [] := Or.inl ⟨wd_572, rfl⟩
theorem hc_Last_init : hasCode y_Last_init prog_7_method_1_code 1 (none) [] := Or.inl ⟨wd_93, rfl⟩
theorem hc_Last_score : hasCode y_Last_score prog_7_method_2_code 6 (some .long) [] := Or.inl ⟨wd_577, rfl⟩
theorem hc_Locks_init : hasCode y_Locks_init prog_8_method_1_code 1 (none) [] := Or.inl ⟨wd_135, rfl⟩
theorem hc_Locks_ahead : hasCode y_Locks_ahead prog_8_method_2_code 5 (some .boolean) [] := Or.inl ⟨wd_612, rfl⟩
theorem hc_Locks_collect : hasCode y_Locks_collect prog_8_method_3_code 6 (some .int) [] := Or.inl ⟨wd_608, rfl⟩
theorem hc_Locks_lock : hasCode y_Locks_lock prog_8_method_4_code 6 (none) [] := Or.inl ⟨wd_617, rfl⟩
theorem hc_Locks_winners : hasCode y_Locks_winners prog_8_method_5_code 5 (some .int) [] := Or.inl ⟨wd_604, rfl⟩
theorem hc_Paths_init : hasCode y_Paths_init prog_9_method_1_code 1 (none) [] := Or.inl ⟨wd_52, rfl⟩
theorem hc_Paths_find : hasCode y_Paths_find prog_9_method_2_code 5 (none) [] := Or.inl ⟨wd_628, rfl⟩
theorem hc_Paths_widen : hasCode y_Paths_widen prog_9_method_3_code 5 (none) [] := Or.inl ⟨wd_633, rfl⟩
theorem hc_Paths_winners : hasCode y_Paths_winners prog_9_method_4_code 6 (some .int) [] := Or.inl ⟨wd_624, rfl⟩
theorem hc_Poin_init : hasCode y_Poin_init prog_10_method_1_code 1 (none) [] := Or.inl ⟨wd_101, rfl⟩
theorem hc_Poin_score : hasCode y_Poin_score prog_10_method_2_code 6 (some .long) [] := Or.inl ⟨wd_580, rfl⟩
theorem hc_Prof_init : hasCode y_Prof_init prog_11_method_1_code 1 (none) [] := Or.inl ⟨wd_165, rfl⟩
theorem hc_Prof_begin : hasCode y_Prof_begin prog_11_method_2_code 4 (none) [] := Or.inl ⟨wd_229, rfl⟩
theorem hc_Prof_tally : hasCode y_Prof_tally prog_11_method_3_code 5 (none) [] := Or.inl ⟨wd_444, rfl⟩
theorem hc_Prof_add : hasCode y_Prof_add prog_11_method_4_code 3 (none) [] := Or.inl ⟨wd_437, rfl⟩
theorem hc_Prof_amount : hasCode y_Prof_amount prog_11_method_5_code 4 (some .int) [] := Or.inl ⟨wd_478, rfl⟩
theorem hc_Prof_drop : hasCode y_Prof_drop prog_11_method_6_code 3 (none) [] := Or.inl ⟨wd_489, rfl⟩
theorem hc_Prof_beats : hasCode y_Prof_beats prog_11_method_7_code 3 (some .boolean) [] := Or.inl ⟨wd_544, rfl⟩
theorem hc_Prof_tie : hasCode y_Prof_tie prog_11_method_8_code 3 (some .int) [] := Or.inl ⟨wd_548, rfl⟩
theorem hc_Prof_placeOf : hasCode y_Prof_placeOf prog_11_method_9_code 4 (some .int) [] := Or.inl ⟨wd_584, rfl⟩
theorem hc_Prof_firsts : hasCode y_Prof_firsts prog_11_method_10_code 6 (some .int) [] := Or.inl ⟨wd_284, rfl⟩
theorem hc_Prof_all : hasCode y_Prof_all prog_11_method_11_code 1 (some .int) [] := Or.inl ⟨wd_272, rfl⟩
theorem hc_Prof_leave : hasCode y_Prof_leave prog_11_method_12_code 6 (none) [] := Or.inl ⟨wd_758, rfl⟩
theorem hc_Prof_without : hasCode y_Prof_without prog_11_method_13_code 4 (none) [] := Or.inl ⟨wd_754, rfl⟩
theorem hc_Runo_init : hasCode y_Runo_init prog_13_method_1_code 1 (none) [] := Or.inl ⟨wd_109, rfl⟩
theorem hc_Runo_goOn : hasCode y_Runo_goOn prog_13_method_2_code 5 (some .boolean) [] := Or.inl ⟨wd_648, rfl⟩
theorem hc_Runo_winners : hasCode y_Runo_winners prog_13_method_3_code 5 (some .int) [] := Or.inl ⟨wd_642, rfl⟩
theorem hc_Scor_init : hasCode y_Scor_init prog_14_method_1_code 2 (none) [] := Or.inl ⟨wd_83, rfl⟩
theorem hc_Scor_winners : hasCode y_Scor_winners prog_14_method_3_code 8 (some .int) [] := Or.inl ⟨wd_562, rfl⟩
theorem hc_Unco_init : hasCode y_Unco_init prog_15_method_1_code 1 (none) [] := Or.inl ⟨wd_151, rfl⟩
theorem hc_Unco_beaten : hasCode y_Unco_beaten prog_15_method_2_code 4 (some .int) [] := Or.inl ⟨wd_658, rfl⟩
theorem hc_Unco_winners : hasCode y_Unco_winners prog_15_method_3_code 6 (some .int) [] := Or.inl ⟨wd_655, rfl⟩
theorem hc_Wins_init : hasCode y_Wins_init prog_16_method_1_code 1 (none) [] := Or.inl ⟨wd_127, rfl⟩
theorem hc_Wins_score : hasCode y_Wins_score prog_16_method_2_code 5 (some .long) [] := Or.inl ⟨wd_587, rfl⟩
theorem hc_Law_candidates : hasCode y_Law_candidates method_3_code 4 (some .int) [(0, 9, 12, 13)] := Or.inr wd_331
theorem hc_Law_ballot : hasCode y_Law_ballot method_4_code 5 (some .int) [(0, 10, 13, 13), (0, 10, 17, 19)] := Or.inr wd_405
theorem hc_Law_amount : hasCode y_Law_amount method_5_code 5 (some .int) [(0, 10, 13, 24), (0, 10, 17, 13)] := Or.inr wd_447
theorem hc_Law_drop : hasCode y_Law_drop method_6_code 4 (some .int) [(0, 9, 12, 24)] := Or.inr wd_481
theorem hc_Law_tieOrder : hasCode y_Law_tieOrder method_7_code 4 (some .int) [(0, 9, 12, 13)] := Or.inr wd_492
theorem hc_Law_agenda : hasCode y_Law_agenda method_8_code 4 (some .int) [(0, 9, 12, 13)] := Or.inr wd_504
theorem hc_Law_weight : hasCode y_Law_weight method_9_code 5 (some .int) [(0, 10, 13, 24), (0, 10, 17, 13)] := Or.inr wd_511
theorem hc_Law_winners : hasCode y_Law_winners method_10_code 4 (some .int) [(0, 9, 12, 24)] := Or.inr wd_522
theorem hc_Law_winner : hasCode y_Law_winner method_11_code 4 (some .int) [(0, 9, 12, 24)] := Or.inr wd_666
theorem hc_Law_score : hasCode y_Law_score method_12_code 5 (some .int) [(0, 9, 12, 24), (0, 9, 16, 13)] := Or.inr wd_677
theorem hc_Law_pair : hasCode y_Law_pair method_13_code 5 (some .int) [(0, 10, 13, 24)] := Or.inr wd_686
theorem hc_Law_path : hasCode y_Law_path method_14_code 5 (some .int) [(0, 10, 13, 24)] := Or.inr wd_693
theorem hc_Law_step : hasCode y_Law_step method_15_code 4 (some .int) [(0, 9, 12, 24)] := Or.inr wd_701
theorem hc_Law_change : hasCode y_Law_change method_16_code 6 (some .int) [(0, 12, 15, 24), (0, 12, 19, 13)] := Or.inr wd_713
theorem hc_Law_property : hasCode y_Law_property method_17_code 5 (some .int) [(0, 17, 20, 24)] := Or.inr wd_725
theorem hc_Law_circle : hasCode y_Law_circle method_18_code 4 (some .int) [(0, 9, 12, 24)] := Or.inr wd_762
theorem hc_Law_clones : hasCode y_Law_clones method_19_code 4 (some .int) [(0, 16, 19, 13)] := Or.inr wd_769
theorem hc_Law_count : hasCode y_Law_count method_20_code 4 (some .int) [(0, 9, 12, 13)] := Or.inr wd_776
theorem hc_Obj_init : hasCode y_Obj_init object_method_1_code 1 (none) [] := Or.inl ⟨wd_32, rfl⟩
theorem hc_Math_min : hasCode y_Math_min prog_22_method_70_code 4 (some .long) [] := Or.inl ⟨wd_304, rfl⟩
