/-! THE PURE MACHINE's OWN RULE: what has to be shown of a block of code -/
abbrev En : Type := Instr × Nat × (Nat × Nat × Nat × List (Nat × MethodName))
def disp : List (Nat × MethodName) → Nat → Option MethodName
  | [], _ => none
  | (c, y) :: r, k => if c = k then some y else disp r k
/-- a call, one frame deeper -/
def callP (d : Nat) (y : MethodName) (as : List Vl) (L : List Sh) (σ : Mm) (Q : Nat → Out → List Sh → Mm → Prop) : Prop := match d with
  | 0 => False
  | d + 1 => Ex d y as L σ (Q (d + 1))
def gfK (o : Option Sh) (j lo hi : Nat) (f : Int → Int) (k : Vl → Prop) : Prop := match o with
  | some (0, ci, fs, _) => (lo ≤ ci ∧ ci ≤ hi) ∧ match fs[j]? with
    | some none => k (vi (f j))
    | some (some (.inr (.inr (.inl k')))) => k (vr k')
    | _ => False
  | _ => False
def pfI (o : Option Sh) (j lo hi : Nat) (k : Prop) : Prop := match o with
  | some (0, ci, fs, _) => (lo ≤ ci ∧ ci ≤ hi) ∧ match fs[j]? with
    | some none => k
    | _ => False
  | _ => False
def pfR (o : Option Sh) (j lo hi : Nat) (k' : Int) (k : Sh → Prop) : Prop := match o with
  | some (0, ci, fs, g) => (lo ≤ ci ∧ ci ≤ hi) ∧ match fs[j]? with
    | some (some _) => k (0, ci, fs.set j (some (vr k')), g)
    | _ => False
  | _ => False
def arK (o : Option Sh) (kd : Nat) (i : Int) (k : (Int → Vl) → Prop) : Prop := match o with
  | some (kd', n, _, g) => kd' = kd ∧ 0 ≤ i ∧ i < n ∧ k g
  | _ => False
def lnK (o : Option Sh) (k : Int → Prop) : Prop := match o with
  | some (kd, n, _, _) => (kd = 1 ∨ kd = 2 ∨ kd = 5) ∧ n < 2147483648 ∧ k n
  | _ => False
def cyK (o o' : Option Sh) (n : Int) (k : Prop) : Prop := match o, o' with
  | some (kd, n0, _, _), some (kd', n1, _, _) => kd = 1 ∧ kd' = 1 ∧ 0 ≤ n ∧ n ≤ n0 ∧ n ≤ n1 ∧ k
  | _, _ => False
def rcK (o : Option Sh) (l : List (Nat × MethodName)) (k : MethodName → Prop) : Prop := match o with
  | some (0, ci, _, _) => match disp l ci with
    | some y => k y
    | none => False
  | _ => False
def isK (o : Option Sh) (k : Int → Prop) : Prop := match o with
  | some (0, ci, _, _) => (9 ≤ ci ∧ ci ≤ 13 → k 1) ∧ (¬ (9 ≤ ci ∧ ci ≤ 13) → (2 ≤ ci ∧ ci ≤ 8) ∧ k 0)
  | _ => False
def ctK (o : Option Sh) (k : Prop) : Prop := match o with
  | some (0, ci, _, _) => (9 ≤ ci ∧ ci ≤ 13) ∧ k
  | _ => False
def asK (o o' : Option Sh) (i k' : Int) (k : Sh → Prop) : Prop := match o, o' with
  | some (kd, n, fs, g), some (0, ci, _, _) => kd = 5 ∧ (2 ≤ ci ∧ ci ≤ 13) ∧ 0 ≤ i ∧ i < n ∧ k (5, n, fs, fun j => if j = i then vr k' else g j)
  | _, _ => False
def wp1 (μ : MI) (d : Nat) (P : Out → List Sh → Mm → Prop) (i : Instr) (len : Nat) (x : Nat × Nat × Nat × List (Nat × MethodName)) (pc : Nat) (k : List Vl → List Vl → List Sh → Mm → Prop) (A st : List Vl) (L : List Sh) (σ : Mm) : Prop := match i with
  | .iconst n => k A (vi n :: st) L σ
  | .bipush n => k A (vi n :: st) L σ
  | .sipush n => k A (vi n :: st) L σ
  | .lconst n => k A (vl ((n : Nat) : Int) :: st) L σ
  | .ldc _ => k A (vi x.1 :: st) L σ
  | .ldc2_w _ => k A (vl ((x.1 : Int) - (x.2.1 : Int)) :: st) L σ
  | .iload j => match A[j]? with | some (.inl z) => k A (vi z :: st) L σ | _ => False
  | .iload_n j => match A[(j : Nat)]? with | some (.inl z) => k A (vi z :: st) L σ | _ => False
  | .lload j => match A[j]? with | some (.inr (.inl z)) => k A (vl z :: st) L σ | _ => False
  | .lload_n j => match A[(j : Nat)]? with | some (.inr (.inl z)) => k A (vl z :: st) L σ | _ => False
  | .aload j => match A[j]? with | some (.inr (.inr (.inl z))) => k A (vr z :: st) L σ | _ => False
  | .aload_n j => match A[(j : Nat)]? with | some (.inr (.inr (.inl z))) => k A (vr z :: st) L σ | some (.inr (.inr (.inr 1))) => k A (vs :: st) L σ | _ => False
  | .istore j => match st with | .inl z :: st => k (st1 A j (vi z)) st L σ | _ => False
  | .istore_n j => match st with | .inl z :: st => k (st1 A j (vi z)) st L σ | _ => False
  | .lstore j => match st with | .inr (.inl z) :: st => k (st2 A j (vl z)) st L σ | _ => False
  | .lstore_n j => match st with | .inr (.inl z) :: st => k (st2 A j (vl z)) st L σ | _ => False
  | .astore j => match st with | .inr (.inr (.inl z)) :: st => k (st1 A j (vr z)) st L σ | _ => False
  | .astore_n j => match st with | .inr (.inr (.inl z)) :: st => k (st1 A j (vr z)) st L σ | _ => False
  | .iinc j n => match A[j]? with | some (.inl z) => k (st1 A j (vi (wI (z + n)))) st L σ | _ => False
  | .iadd => match st with | .inl y :: .inl x :: st => k A (vi (wI (x + y)) :: st) L σ | _ => False
  | .isub => match st with | .inl y :: .inl x :: st => k A (vi (wI (x - y)) :: st) L σ | _ => False
  | .imul => match st with | .inl y :: .inl x :: st => k A (vi (wI (x * y)) :: st) L σ | _ => False
  | .ineg => match st with | .inl x :: st => k A (vi (wI (-x)) :: st) L σ | _ => False
  | .iand => match st with | .inl y :: .inl x :: st => k A (vi (aI x y) :: st) L σ | _ => False
  | .ior => match st with | .inl y :: .inl x :: st => k A (vi (oI x y) :: st) L σ | _ => False
  | .ixor => match st with | .inl y :: .inl x :: st => k A (vi (xI x y) :: st) L σ | _ => False
  | .ishl => match st with | .inl y :: .inl x :: st => k A (vi (hI x y) :: st) L σ | _ => False
  | .ishr => match st with | .inl y :: .inl x :: st => k A (vi (rI x y) :: st) L σ | _ => False
  | .idiv => match st with | .inl y :: .inl x :: st => y ≠ 0 ∧ k A (vi (qI x y) :: st) L σ | _ => False
  | .irem => match st with | .inl y :: .inl x :: st => y ≠ 0 ∧ k A (vi (mI x y) :: st) L σ | _ => False
  | .ladd => match st with | .inr (.inl y) :: .inr (.inl x) :: st => k A (vl (wL (x + y)) :: st) L σ | _ => False
  | .lmul => match st with | .inr (.inl y) :: .inr (.inl x) :: st => k A (vl (wL (x * y)) :: st) L σ | _ => False
  | .land => match st with | .inr (.inl y) :: .inr (.inl x) :: st => k A (vl (aL x y) :: st) L σ | _ => False
  | .lor => match st with | .inr (.inl y) :: .inr (.inl x) :: st => k A (vl (oL x y) :: st) L σ | _ => False
  | .lshl => match st with | .inl y :: .inr (.inl x) :: st => k A (vl (hL x y) :: st) L σ | _ => False
  | .lshr => match st with | .inl y :: .inr (.inl x) :: st => k A (vl (rL x y) :: st) L σ | _ => False
  | .i2l => match st with | .inl x :: st => k A (vl x :: st) L σ | _ => False
  | .lcmp => match st with | .inr (.inl y) :: .inr (.inl x) :: st => k A (vi (cL x y) :: st) L σ | _ => False
  | .dup => match st with | .inl z :: st => k A (vi z :: vi z :: st) L σ | .inr (.inr v) :: st => k A (.inr (.inr v) :: .inr (.inr v) :: st) L σ | _ => False
  | .pop => match st with | .inl _ :: st => k A st L σ | .inr (.inr _) :: st => k A st L σ | _ => False
  | .dup2 => match st with | .inl z :: .inr (.inr v) :: st => k A (vi z :: .inr (.inr v) :: vi z :: .inr (.inr v) :: st) L σ | _ => False
  | .goto _ => GS μ d x.1 A st L σ P
  | .if_icmp c _ => match st with | .inl y :: .inl z :: st => (icm c z y → GS μ d x.1 A st L σ P) ∧ (¬ icm c z y → k A st L σ) | _ => False
  | .ifCond c _ => match st with | .inl z :: st => (icm c z 0 → GS μ d x.1 A st L σ P) ∧ (¬ icm c z 0 → k A st L σ) | _ => False
  | .return_ => match st with | [] => P (0, vn) L σ | _ => False
  | .ireturn => match st with | [.inl z] => (μ.2.2.2.1 = some .int ∨ μ.2.2.2.1 = some .boolean ∧ (z = 0 ∨ z = 1)) ∧ P (1, vi z) L σ | _ => False
  | .lreturn => match st with | [.inr (.inl z)] => P (1, vl z) L σ | _ => False
  | .getfield _ => match st with | .inr (.inr (.inl q)) :: st => gfK (look L q) x.1 x.2.1 x.2.2.1 (σ q) (fun v => k A (v :: st) L σ) | _ => False
  | .putfield _ => match st with
    | .inl z :: .inr (.inr (.inl q)) :: st => (x.2.2.2 = [] ∨ z = 0 ∨ z = 1) ∧ pfI (look L q) x.1 x.2.1 x.2.2.1 (k A st L (upd2 σ q x.1 z))
    | .inr (.inr (.inl k')) :: .inr (.inr (.inl q)) :: st => pfR (look L q) x.1 x.2.1 x.2.2.1 k' (fun sh => k A st (L.set q.toNat sh) σ)
    | _ => False
  | .iaload => match st with
    | .inl i :: .inr (.inr (.inl q)) :: st => arK (look L q) 1 i (fun _ => k A (vi (σ q i) :: st) L σ)
    | .inl i :: .inr (.inr (.inr 1)) :: st => 0 ≤ i ∧ i < σ (-2) 0 ∧ k A (vi (σ (-1) i) :: st) L σ
    | _ => False
  | .baload => match st with | .inl i :: .inr (.inr (.inl q)) :: st => arK (look L q) 2 i (fun _ => k A (vi (σ q i) :: st) L σ) | _ => False
  | .laload => match st with | .inl i :: .inr (.inr (.inl q)) :: st => arK (look L q) 3 i (fun _ => k A (vl (σ q i) :: st) L σ) | _ => False
  | .aaload => match st with | .inl i :: .inr (.inr (.inl q)) :: st => arK (look L q) x.1 i (fun g => match g i with | .inr (.inr (.inl k')) => k A (vr k' :: st) L σ | _ => False) | _ => False
  | .iastore => match st with | .inl z :: .inl i :: .inr (.inr (.inl q)) :: st => arK (look L q) 1 i (fun _ => k A st L (upd2 σ q i z)) | _ => False
  | .bastore => match st with | .inl z :: .inl i :: .inr (.inr (.inl q)) :: st => (z = 0 ∨ z = 1) ∧ arK (look L q) 2 i (fun _ => k A st L (upd2 σ q i z)) | _ => False
  | .lastore => match st with | .inr (.inl z) :: .inl i :: .inr (.inr (.inl q)) :: st => arK (look L q) 3 i (fun _ => k A st L (upd2 σ q i z)) | _ => False
  | .aastore => match st with | .inr (.inr (.inl k')) :: .inl i :: .inr (.inr (.inl q)) :: st => asK (look L q) (look L k') i k' (fun sh => k A st (L.set q.toNat sh) σ) | _ => False
  | .arraylength => match st with
    | .inr (.inr (.inl q)) :: st => lnK (look L q) (fun n => k A (vi n :: st) L σ)
    | .inr (.inr (.inr 1)) :: st => 0 ≤ σ (-2) 0 → σ (-2) 0 ≤ 2048 → k A (vi (σ (-2) 0) :: st) L σ
    | _ => False
  | .new _ => match x.2.1 with
    | 0 => L.length + 1 ≤ capC ∧ slt L + slt1 (newSh x.1) ≤ capS ∧ k A (vr L.length :: st) (L ++ [newSh x.1]) (updc σ L.length (fun _ => 0))
    | _ => 6 ≤ d ∧ st.length ≤ 20 ∧ L.length + 1 ≤ capC ∧ slt L + 6 ≤ capS ∧ k A (vr L.length :: st) (L ++ [(7, x.1, [], fun _ : Int => vn)]) (updc σ L.length (fun _ => 0))
  | .newarray a => match st with | .inl n :: st => 0 ≤ n ∧ n ≤ 1000000 ∧ L.length + 1 ≤ capC ∧ slt L + n.toNat ≤ capS ∧ k A (vr L.length :: st) (L ++ [(akd a, n.toNat, [], fun _ : Int => vn)]) (updc σ L.length (fun _ => 0)) | _ => False
  | .anewarray _ => match st with | .inl n :: st => 0 ≤ n ∧ n ≤ 1000000 ∧ L.length + 1 ≤ capC ∧ slt L + n.toNat ≤ capS ∧ k A (vr L.length :: st) (L ++ [(5, n.toNat, [], fun _ : Int => vn)]) (updc σ L.length (fun _ => 0)) | _ => False
  | .multianewarray _ _ => match st with | .inl m :: .inl n :: st => 0 ≤ n ∧ n ≤ 1000 ∧ 0 ≤ m ∧ m ≤ 1000 ∧ L.length + 1 + n.toNat ≤ capC ∧ slt L + (n.toNat + n.toNat * m.toNat) ≤ capS ∧ k A (vr L.length :: st) (L ++ grid n.toNat m.toNat L.length) (updr σ L.length (L.length + 1 + n)) | _ => False
  | .athrow => match st with | .inr (.inr (.inl q)) :: _ => (match look L q with | some (7, _, _, _) => P (2, vr q) L σ | _ => False) | _ => False
  | .instanceof _ => match st with | .inr (.inr (.inl q)) :: st => isK (look L q) (fun r => k A (vi r :: st) L σ) | _ => False
  | .checkcast _ => match st with | .inr (.inr (.inl q)) :: st => ctK (look L q) (k A (vr q :: st) L σ) | _ => False
  | .invokevirtual _ => match st.drop x.1 with
    | .inr (.inr (.inl q)) :: rest => rest.length ≤ 20 ∧ rcK (look L q) x.2.2.2 (fun y => callP d y (vr q :: (st.take x.1).reverse) L σ (fun d => Aft μ d pc 3 A rest P))
    | _ => False
  | .invokeinterface _ _ => match st.drop x.1 with
    | .inr (.inr (.inl q)) :: rest => rest.length ≤ 20 ∧ rcK (look L q) x.2.2.2 (fun y => callP d y (vr q :: (st.take x.1).reverse) L σ (fun d => Aft μ d pc 5 A rest P))
    | _ => False
  | .invokespecial _ => match st.drop x.1 with
    | .inr (.inr (.inl q)) :: rest => rest.length ≤ 20 ∧ 0 ≤ q ∧ match x.2.2.2 with
      | (_, y) :: _ => callP d y (vr q :: (st.take x.1).reverse) L σ (fun d => Aft μ d pc 3 A rest P)
      | [] => False
    | _ => False
  | .invokestatic _ => match x.2.2.2 with
    | (_, y) :: _ => (st.drop x.1).length ≤ 20 ∧ callP d y (st.take x.1).reverse L σ (fun d => Aft μ d pc 3 A (st.drop x.1) P)
    | [] => match st with
      | .inl n :: .inl z :: .inr (.inr (.inl k')) :: .inl z' :: .inr (.inr (.inl q)) :: st => z = 0 ∧ z' = 0 ∧ 1 ≤ d ∧ st.length ≤ 20 ∧ cyK (look L q) (look L k') n (k A st L (updc σ k' (fun j => if 0 ≤ j ∧ j < n then σ q j else σ k' j)))
      | _ => False
  | _ => False
def wpL (μ : MI) (d : Nat) (P : Out → List Sh → Mm → Prop) : List En → Nat → List Vl → List Vl → List Sh → Mm → Prop
  | [], pc, A, st, L, σ => GS μ d pc A st L σ P
  | e :: r, pc, A, st, L, σ => wp1 μ d P e.1 e.2.1 e.2.2 pc (fun A st L σ => wpL μ d P r (pc + e.2.1) A st L σ) A st L σ
