/-! the desk's score: by hand (instanceof, checkcast) -/
theorem wd_1137 : (Jvm.Cond.castable "BallotDesk$Defeat" "BallotDesk$Scored") ∈ lw_t := mem_15 177 (by decide +kernel) rfl
theorem wd_1138 : (Jvm.Cond.castable "BallotDesk$Firsts" "BallotDesk$Scored") ∈ lw_t := mem_15 178 (by decide +kernel) rfl
theorem wd_1139 : (Jvm.Cond.castable "BallotDesk$Lasts" "BallotDesk$Scored") ∈ lw_t := mem_15 179 (by decide +kernel) rfl
theorem wd_1140 : (Jvm.Cond.castable "BallotDesk$Points" "BallotDesk$Scored") ∈ lw_t := mem_15 180 (by decide +kernel) rfl
theorem wd_1141 : (Jvm.Cond.castable "BallotDesk$Wins" "BallotDesk$Scored") ∈ lw_t := mem_15 181 (by decide +kernel) rfl
def cd_Desk_score : List (Nat × Instr × Nat) := [(0, .aload_n 0, 1), (1, .iload_n 1, 1), (2, .invokevirtual 168, 3), (5, .aload_n 0, 1), (6, .iload_n 2, 1), (7, .invokevirtual 154, 3), (10, .aload_n 0, 1), (11, .getfield 59, 3), (14, .iload_n 1, 1), (15, .aaload, 1), (16, .astore 4, 2), (18, .aload 4, 2), (20, .instanceof 175, 3), (23, .ifCond .eq 19, 3), (26, .aload 4, 2), (28, .checkcast 175, 3), (31, .astore_n 3, 1), (32, .aload_n 3, 1), (33, .aload_n 0, 1), (34, .getfield 73, 3), (37, .iload_n 2, 1), (38, .invokevirtual 177, 3), (41, .lreturn, 1), (42, .new 94, 3), (45, .dup, 1), (46, .invokespecial 96, 3), (49, .athrow, 1)]
theorem dm_Desk_score : cd_Desk_score.all (dOK prog_1_method_22_code) = true := by decide +kernel
def m_Desk_score : MI := (prog_1_method_22_code, "BallotDesk", 5, some .long, [], "score")
theorem dx_Desk_score (i : Nat) {pc n : Nat} {ins : Instr} (hi : cd_Desk_score[i]? = some (pc, ins, n)) : decode m_Desk_score.1 pc = .ok (ins, n) := dOK_get dm_Desk_score i hi
theorem tl_Desk_score {d : Nat} {L : List Sh} {σ : Mm} {K : Int → Mm → Prop} {T : Nat → Mm → Prop} (hY : Lay L) {x1 x2 : Int} (H : (0 ≤ x1 ∧ x1 < 12) ∧ (x1 = 0 → Ex d y_Firs_score [vr 15, vr 30, vi x2] L σ (PL L K NT)) ∧ (x1 = 1 → Ex d y_Last_score [vr 16, vr 30, vi x2] L σ (PL L K NT)) ∧ (x1 = 2 → Ex d y_Poin_score [vr 17, vr 30, vi x2] L σ (PL L K NT)) ∧ (x1 = 5 → Ex d y_Defe_score [vr 20, vr 30, vi x2] L σ (PL L K NT)) ∧ (x1 = 6 → Ex d y_Wins_score [vr 21, vr 30, vi x2] L σ (PL L K NT)) ∧ (¬ (x1 = 0 ∨ x1 = 1 ∨ x1 = 2 ∨ x1 = 5 ∨ x1 = 6) → 6 ≤ d + 1 ∧ T 0 σ)) : GS m_Desk_score (d + 1) 18 [vr 0, vi x1, vi x2, vj, vr (rl x1)] [] L σ (PL L K T) := by
  obtain ⟨h12, H0, H1, H2, H5, H6, HN⟩ := H
  have yes : ∀ (k : Int) (ci : Nat) (fs : List (Option Vl)) (y : MethodName) (q : vw_C), LkO L k ci fs → rl x1 = k → disp [(9, y_Firs_score), (10, y_Last_score), (11, y_Poin_score), (12, y_Defe_score), (13, y_Wins_score)] ci = some y → classes[ci]? = some q → Cond.castable q.1 "BallotDesk$Scored" ∈ lw_t → Ex d y [vr k, vr 30, vi x2] L σ (PL L K NT) → GS m_Desk_score (d + 1) 18 [vr 0, vi x1, vi x2, vj, vr (rl x1)] [] L σ (PL L K T) := by
    intro k ci fs y q hk h1 hdi hcl hcs E
    rw [h1]
    have hkk := hk
    obtain ⟨gg, hg⟩ := hkk
    exact g_aload (z := k) (dx_Desk_score 11 rfl) rfl (g_inst (dx_Desk_score 12 rfl) hg wd_682 (r := 1) ⟨q, hcl, Or.inl ⟨hcs, rfl⟩⟩ (g_ifc (cn := .eq) (tgt := 42) (dx_Desk_score 13 rfl) (by decide) (fun c1 => absurd (ic_eq c1) (by decide)) (fun _ => g_aload (z := k) (dx_Desk_score 14 rfl) rfl (g_cast (dx_Desk_score 15 rfl) hg wd_682 ⟨q, hcl, hcs⟩ (g_astore_n (dx_Desk_score 16 rfl) (by decide) (g_aload_n (z := k) (dx_Desk_score 17 rfl) rfl (g_aload_n (z := 0) (dx_Desk_score 18 rfl) rfl (n_getR (j := 6) (k' := 30) (dx_Desk_score 19 rfl) (lk_0 hY) (fl_Desk_73 0 (by decide) (by decide)) rfl (g_iload_n (z := x2) (dx_Desk_score 20 rfl) rfl (n_callV (k := k) [vr 30, vi x2] [] (dx_Desk_score 21 rfl) hk cv_Desk_177 rfl hdi (Nat.le_of_ble_eq_true rfl) E (fun o L2 s2 q => aftL rfl noT (fun z m k2 => g_lret (z := z) (dx_Desk_score 22 rfl) rfl (Or.inl ⟨_, rfl, rfl, k2⟩)) q)))))))))))
  have no : ∀ (k : Int) (ci : Nat) (fs : List (Option Vl)) (q : vw_C), LkO L k ci fs → rl x1 = k → classes[ci]? = some q → (q.1, "BallotDesk$Scored") ∈ ncl → ¬ (x1 = 0 ∨ x1 = 1 ∨ x1 = 2 ∨ x1 = 5 ∨ x1 = 6) → GS m_Desk_score (d + 1) 18 [vr 0, vi x1, vi x2, vj, vr (rl x1)] [] L σ (PL L K T) := by
    intro k ci fs q hk h1 hcl hcs hn
    obtain ⟨h6, hT⟩ := HN hn
    rw [h1]
    obtain ⟨gg, hg⟩ := hk
    exact g_aload (z := k) (dx_Desk_score 11 rfl) rfl (g_inst (dx_Desk_score 12 rfl) hg wd_682 (r := 0) ⟨q, hcl, Or.inr ⟨hcs, rfl⟩⟩ (g_ifc (cn := .eq) (tgt := 42) (dx_Desk_score 13 rfl) (by decide) (fun _ => n_throw (T := T) (dx_Desk_score 23 rfl) (dx_Desk_score 24 rfl) (dx_Desk_score 25 rfl) (dx_Desk_score 26 rfl) cx_Desk_94 rfl h6 (Nat.le_of_ble_eq_true rfl) hY (thL 0 _ hT (by decide))) (fun c1 => absurd (show icm .eq 0 0 from rfl) c1)))
  rcases (show x1 = 0 ∨ x1 = 1 ∨ x1 = 2 ∨ x1 = 3 ∨ x1 = 4 ∨ x1 = 5 ∨ x1 = 6 ∨ x1 = 7 ∨ x1 = 8 ∨ x1 = 9 ∨ x1 = 10 ∨ x1 = 11 by omega) with rfl | rfl | rfl | rfl | rfl | rfl | rfl | rfl | rfl | rfl | rfl | rfl
  · exact yes 15 9 _ y_Firs_score _ (lk_15 hY) rfl rfl rfl wd_1138 (H0 rfl)
  · exact yes 16 10 _ y_Last_score _ (lk_16 hY) rfl rfl rfl wd_1139 (H1 rfl)
  · exact yes 17 11 _ y_Poin_score _ (lk_17 hY) rfl rfl rfl wd_1140 (H2 rfl)
  · exact no 18 5 _ _ (lk_18 hY) rfl rfl (by decide +kernel) (by omega)
  · exact no 1 2 _ _ (lk_1 hY) rfl rfl (by decide +kernel) (by omega)
  · exact yes 20 12 _ y_Defe_score _ (lk_20 hY) rfl rfl rfl wd_1137 (H5 rfl)
  · exact yes 21 13 _ y_Wins_score _ (lk_21 hY) rfl rfl rfl wd_1141 (H6 rfl)
  · exact no 3 3 _ _ (lk_3 hY) rfl rfl (by decide +kernel) (by omega)
  · exact no 22 6 _ _ (lk_22 hY) rfl rfl (by decide +kernel) (by omega)
  · exact no 12 4 _ _ (lk_12 hY) rfl rfl (by decide +kernel) (by omega)
  · exact no 26 7 _ _ (lk_26 hY) rfl rfl (by decide +kernel) (by omega)
  · exact no 27 8 _ _ (lk_27 hY) rfl rfl (by decide +kernel) (by omega)
theorem e_Desk_score {d : Nat} {L : List Sh} {σ : Mm} {K : Int → Mm → Prop} {T : Nat → Mm → Prop} (hY : Lay L) {x1 x2 : Int} (H : Ex d y_Desk_ruled [vr 0, vi x1] L σ (PV L (fun m2 => Ex d y_Desk_stands [vr 0, vi x2] L m2 (PV L (fun m7 => (0 ≤ x1 ∧ x1 < 12) ∧ (x1 = 0 → Ex d y_Firs_score [vr 15, vr 30, vi x2] L m7 (PL L K NT)) ∧ (x1 = 1 → Ex d y_Last_score [vr 16, vr 30, vi x2] L m7 (PL L K NT)) ∧ (x1 = 2 → Ex d y_Poin_score [vr 17, vr 30, vi x2] L m7 (PL L K NT)) ∧ (x1 = 5 → Ex d y_Defe_score [vr 20, vr 30, vi x2] L m7 (PL L K NT)) ∧ (x1 = 6 → Ex d y_Wins_score [vr 21, vr 30, vi x2] L m7 (PL L K NT)) ∧ (¬ (x1 = 0 ∨ x1 = 1 ∨ x1 = 2 ∨ x1 = 5 ∨ x1 = 6) → 6 ≤ d + 1 ∧ T 0 m7)) T)) T)) : Ex (d + 1) y_Desk_score [vr 0, vi x1, vi x2] L σ (PL L K T) :=
  Ex.of hc_Desk_score (Nat.le_of_ble_eq_true rfl) (show GS m_Desk_score (d + 1) 0 [vr 0, vi x1, vi x2, vj, vj] [] L σ (PL L K T) from (g_aload_n (z := 0) (dx_Desk_score 0 rfl) rfl (g_iload_n (z := x1) (dx_Desk_score 1 rfl) rfl (n_callV (k := 0) [vi x1] [] (dx_Desk_score 2 rfl) (lk_0 hY) cv_Desk_168 rfl rfl (Nat.le_of_ble_eq_true rfl) H (fun o L2 s2 q => aftV rfl thL (fun m2 k2 => (g_aload_n (z := 0) (dx_Desk_score 3 rfl) rfl (g_iload_n (z := x2) (dx_Desk_score 4 rfl) rfl (n_callV (k := 0) [vi x2] [] (dx_Desk_score 5 rfl) (lk_0 hY) cv_Desk_154 rfl rfl (Nat.le_of_ble_eq_true rfl) k2 (fun o L2 s2 q => aftV rfl thL (fun m7 k7 => (g_aload_n (z := 0) (dx_Desk_score 6 rfl) rfl (n_getR (j := 3) (k' := 14) (dx_Desk_score 7 rfl) (lk_0 hY) (fl_Desk_59 0 (by decide) (by decide)) rfl (g_iload_n (z := x1) (dx_Desk_score 8 rfl) rfl (n_aaload (kd := 5) (dx_Desk_score 9 rfl) (by decide) (lk_14 hY) k7.1 (g_astore (dx_Desk_score 10 rfl) (by decide) (tl_Desk_score hY k7))))))) q))))) q)))))
