/-! THE PURE MACHINE: values, shapes of cells, data. Values: int z, long z, a reference (cell k of those that the law makes), null, the script, junk. -/
abbrev Vl : Type := Int ⊕ (Int ⊕ (Int ⊕ Nat))
abbrev vi (z : Int) : Vl := .inl z
abbrev vl (z : Int) : Vl := .inr (.inl z)
abbrev vr (k : Int) : Vl := .inr (.inr (.inl k))
abbrev vn : Vl := .inr (.inr (.inr 0))
abbrev vs : Vl := .inr (.inr (.inr 1))
abbrev vj : Vl := .inr (.inr (.inr 2))
/-- (0, class number, fields (none: a number; some: a reference), -) an object; (1 int | 2 boolean | 3 long, length, -, -) an array; (4 int[][] | 5 Rule[], length, -, its references) ; (7, kind, -, -) an exception -/
abbrev Sh : Type := Nat × Nat × List (Option Vl) × (Int → Vl)
abbrev Mm : Type := Int → Int → Int
def in32 (z : Int) : Prop := -2147483648 ≤ z ∧ z < 2147483648
def in64 (z : Int) : Prop := -9223372036854775808 ≤ z ∧ z < 9223372036854775808
def cv (b0 b : Nat) : Vl → Value
  | .inl z => .int (Int32.ofInt z)
  | .inr (.inl z) => .long (Int64.ofInt z)
  | .inr (.inr (.inl k)) => .ref (b0 + k.toNat)
  | .inr (.inr (.inr 1)) => .ref b
  | .inr (.inr (.inr _)) => .null
def okV : Vl → Prop
  | .inl z => in32 z
  | .inr (.inl z) => in64 z
  | _ => True
def vok : Vl → Bool
  | .inr (.inr (.inr n)) => decide (n < 2)
  | _ => true
def look (L : List Sh) (k : Int) : Option Sh := if 0 ≤ k then L[k.toNat]? else none
def upd2 (σ : Mm) (k i v : Int) : Mm := fun k' i' => if k' = k ∧ i' = i then v else σ k' i'
def updc (σ : Mm) (k : Int) (f : Int → Int) : Mm := fun k' => if k' = k then f else σ k'
def slt1 (s : Sh) : Nat := match s with
  | (0, _, fs, _) => fs.length
  | (7, _, _, _) => 6
  | (_, n, _, _) => n
def slt (L : List Sh) : Nat := (L.map slt1).sum
/-- outcomes: (0, -) returned; (1, v) returned v; (2, ref) thrown -/
abbrev Out : Type := Nat × Vl
def co (b0 b : Nat) (o : Out) : Outcome := match o with
  | (0, _) => .returned none
  | (1, v) => .returned (some (cv b0 b v))
  | (_, v) => .threw (match cv b0 b v with | .ref a => a | _ => 0)
def okO (L : List Sh) (o : Out) : Prop := match o with
  | (0, _) => True
  | (1, v) => okV v ∧ vok v = true
  | (_, v) => ∃ (k : Int) (c : Nat) (fs : List (Option Vl)) (g : Int → Vl), v = vr k ∧ look L k = some (7, c, fs, g)
/-- the words that hold in every state of the run -/
def stdK (w : Cond) : Bool := match w with
  | .fieldLinkNest .. => true
  | .methodLinkNest .. => true
  | .arrayClass _ => true
  | .arrayOver (.object _) => true
  | .arrayOver (.array _) => true
  | .interfaceEntry .. => true
  | w => w.onTables && (w.keeps || w.faceAtom)
def lw_t : List Cond := lw_tbl.filter stdK
