/-! THE HIGH EVALUATOR: containers are single cells (.inr (kind, 0, version and elements, pairs)), the JDK's calls are primitives -/
def tmPut (k : Int32) (v : Value) : List (Int32 × Value) → List (Int32 × Value)
  | [] => [(k, v)]
  | e :: l => if k < e.1 then (k, v) :: e :: l else if k = e.1 then (k, v) :: l else e :: tmPut k v l
def tmGet (k : Int32) (l : List (Int32 × Value)) : Option Value := (l.find? fun e => decide (e.1 = k)).map fun e => e.2
def tmFloor (k : Int32) (l : List (Int32 × Value)) : Option (Int32 × Value) := (l.filter fun e => decide (e.1 ≤ k)).getLast?
def tmLower (k : Int32) (l : List (Int32 × Value)) : Option (Int32 × Value) := (l.filter fun e => decide (e.1 < k)).getLast?
/-- the places of lo ≤ key < hi -/
def tmLo (k : Int32) (l : List (Int32 × Value)) : Nat := (l.filter fun e => decide (e.1 < k)).length
def tmCut (lo hi : Int32) (l : List (Int32 × Value)) : List (Int32 × Value) := l.filter fun e => !(decide (lo ≤ e.1) && decide (e.1 < hi))
def vOr (o : Option Value) : Value := o.getD .null
abbrev cL (mc : Nat) (xs : List Value) : Ob := .inr (19, 0, .retAddr mc :: xs, [])
abbrev cM (mc : Nat) (l : List (Int32 × Value)) : Ob := .inr (20, 0, [.retAddr mc], l)
/-- a queue: its comparator, then its array, each with its key (price, number) -/
abbrev Qz : Type := List (Value × Int32 × Value)
def cQ (mc : Nat) (c : Nat) (zs : Qz) : Ob := .inr (21, 0, .retAddr mc :: .ref c :: zs.map fun z => z.1, zs.map fun z => z.2)
/-- a list's or queue's iterator (22, 30) at a place; a map's over values (31) at a place, up to an end (27) -/
abbrev cI (k : Nat) (mc : Nat) (a i e : Nat) : Ob := .inr (k, 0, [.ref a, .retAddr i, .retAddr e, .retAddr mc], [])
abbrev cB (x : Int32) : Ob := .inr (23, 0, [.int x], [])
abbrev cBL (x : Int64) : Ob := .inr (24, 0, [.long x], [])
/-- a view: of a map (26), of a part's values (33: of a part 32); an entry (34) -/
abbrev cV (a : Nat) : Ob := .inr (26, 0, [.ref a], [])
abbrev cS (a : Nat) (lo hi : Int32) : Ob := .inr (32, 0, [.ref a, .int lo, .int hi], [])
abbrev cSV (s : Nat) : Ob := .inr (33, 0, [.ref s], [])
abbrev cE (v : Value) : Ob := .inr (34, 0, [v], [])
/-- a new cell, its address chosen -/
def Fre (o : Ob) (c : Nat) (H : Hp) (r : Nat) (K : Post) : Prop := c ≤ r ∧ ∃ q : Nat, H q = none ∧ K (.inl (some (.ref q))) (upd_ H q o) (r - c)
def b2 (c : Prop) [Decidable c] : Int32 := if c then 1 else 0
def bigN : Nat := 100000
/-- what may lie in a list -/
def okO (o : Option Ob) : Prop := match o with
  | some (.inl (k, _)) => obK k = true
  | _ => False
def okE (H : Hp) (v : Value) : Prop := match v with
  | .null => True
  | .ref b => okO (H b)
  | _ => False
/-- in a map's cell a box is its number -/
def unO (q : Nat) (o : Option Ob) : Value := match o with
  | some (.inr (23, _, [.int x], _)) => .int x
  | some (.inr (24, _, [.long x], _)) => .long x
  | _ => .ref q
def unB (H : Hp) (v : Value) : Value := match v with
  | .ref q => unO q (H q)
  | v => v
def rB (K : Post) (v : Value) (H : Hp) (r : Nat) : Prop := match v with
  | .int x => Fre (cB x) 0 H r K
  | .long x => Fre (cBL x) 0 H r K
  | v => K (.inl (some v)) H r
def oL (o : Option Ob) (P : Nat → List Value → Prop) : Prop := match o with
  | some (.inr (19, _, .retAddr mc :: xs, [])) => P mc xs
  | _ => False
def oM (o : Option Ob) (P : Nat → List (Int32 × Value) → Prop) : Prop := match o with
  | some (.inr (20, _, [.retAddr mc], l)) => P mc l
  | _ => False
def oQ (o : Option Ob) (P : Nat → Nat → Qz → Prop) : Prop := match o with
  | some (.inr (21, _, .retAddr mc :: .ref c :: xs, ks)) => xs.length = ks.length ∧ P mc c (xs.zip ks)
  | _ => False
def oI (k : Nat) (o : Option Ob) (P : Nat → Nat → Nat → Nat → Prop) : Prop := match o with
  | some (.inr (k', _, [.ref a, .retAddr i, .retAddr e, .retAddr mc], [])) => k' = k ∧ P mc a i e
  | _ => False
def oB (o : Option Ob) (P : Int32 → Prop) : Prop := match o with
  | some (.inr (23, _, [.int x], [])) => P x
  | _ => False
def oBL (o : Option Ob) (P : Int64 → Prop) : Prop := match o with
  | some (.inr (24, _, [.long x], [])) => P x
  | _ => False
def oV (o : Option Ob) (P : Nat → Prop) : Prop := match o with
  | some (.inr (26, _, [.ref a], [])) => P a
  | _ => False
def oS (o : Option Ob) (P : Nat → Int32 → Int32 → Prop) : Prop := match o with
  | some (.inr (32, _, [.ref a, .int lo, .int hi], [])) => P a lo hi
  | _ => False
def oSV (o : Option Ob) (P : Nat → Prop) : Prop := match o with
  | some (.inr (33, _, [.ref s], [])) => P s
  | _ => False
def oE (o : Option Ob) (P : Value → Prop) : Prop := match o with
  | some (.inr (34, _, [v], [])) => P v
  | _ => False
def eOr (o : Option (Int32 × Value)) (H : Hp) (r : Nat) (K : Post) : Prop := match o with
  | none => K (.inl (some .null)) H (r - 1)
  | some e => Fre (cE e.2) 1 H r K
/-- an element of a list that must be there -/
def gE {α : Type} (o : Option α) (P : α → Prop) : Prop := match o with
  | some v => P v
  | none => False
/-- the queue's order: by the comparator ByPrice (fields 3: price, 0: number) -/
def bidK (o : Option Ob) (k : Int32 × Value) : Prop := match o with
  | some (.inl (10, [.int n, .ref _, .int _, .int p])) => k = (p, .int n)
  | _ => False
def ltK (x y : Int32 × Value) : Prop := y.1 < x.1 ∨ (x.1 = y.1 ∧ ∃ n m, x.2 = .int n ∧ y.2 = .int m ∧ n < m)
def okB (H : Hp) (z : Value × Int32 × Value) : Prop := ∃ a, z.1 = .ref a ∧ bidK (H a) z.2
/-- the rows (kind 9) -/
def isRw (o : Option Ob) : Prop := match o with
  | some (.inl (9, _)) => True
  | _ => False
def allRw (H : Hp) (xs : List Value) : Prop := ∀ x ∈ xs, ∃ a, x = .ref a ∧ isRw (H a)
def ph1 (as : List Value) (H : Hp) (r : Nat) (K : Post) : Prop := match as with
  | [.ref a] => K (.inl none) H r
  | _ => False
def ph10 (as : List Value) (H : Hp) (r : Nat) (K : Post) : Prop := match as with
  | [.ref a] => H a = some (.inl (19, [.int 0, .null, .int 0])) ∧ 3 ≤ r ∧ K (.inl none) (upd_ H a (cL 0 [])) (r - 3)
  | _ => False
def ph11 (as : List Value) (H : Hp) (r : Nat) (K : Post) : Prop := match as with
  | [.ref a, v] => oL (H a) fun mc xs => okE H v ∧ xs.length < bigN ∧ 2 ≤ r ∧ K (.inl (some (.int 1))) (upd_ H a (cL (mc + 1) (xs ++ [v]))) (r - 2)
  | _ => False
def ph12 (as : List Value) (H : Hp) (r : Nat) (K : Post) : Prop := match as with
  | [.ref a, .int i, v] => oL (H a) fun mc xs => okE H v ∧ xs.length < bigN ∧ ¬ i < 0 ∧ i.toNatClampNeg ≤ xs.length ∧ 2 ≤ r ∧ K (.inl none) (upd_ H a (cL (mc + 1) (xs.take i.toNatClampNeg ++ v :: xs.drop i.toNatClampNeg))) (r - 2)
  | _ => False
def ph13 (as : List Value) (H : Hp) (r : Nat) (K : Post) : Prop := match as with
  | [.ref a, .int i] => oL (H a) fun _ xs => ¬ i < 0 ∧ gE (xs[i.toNatClampNeg]?) fun v => K (.inl (some v)) H r
  | _ => False
def ph14 (as : List Value) (H : Hp) (r : Nat) (K : Post) : Prop := match as with
  | [.ref a] => oL (H a) fun _ xs => K (.inl (some (.int (nI xs.length)))) H r
  | _ => False
def ph15 (as : List Value) (H : Hp) (r : Nat) (K : Post) : Prop := match as with
  | [.ref a] => oL (H a) fun _ xs => K (.inl (some (.int (b2 (xs.length = 0))))) H r
  | _ => False
def ph16 (as : List Value) (H : Hp) (r : Nat) (K : Post) : Prop := match as with
  | [.ref a] => oL (H a) fun mc _ => K (.inl none) (upd_ H a (cL (mc + 1) [])) r
  | _ => False
def ph17 (as : List Value) (H : Hp) (r : Nat) (K : Post) : Prop := match as with
  | [.ref a, .ref o] => oL (H a) fun _ xs => allRw H xs ∧ .ref o ∈ xs ∧ K (.inl (some (.int (nI (xs.idxOf (.ref o)))))) H r
  | _ => False
def ph18 (as : List Value) (H : Hp) (r : Nat) (K : Post) : Prop := match as with
  | [.ref a] => oL (H a) fun mc _ => Fre (cI 22 mc a 0 0) 2 H r K
  | _ => False
def ph19 (as : List Value) (H : Hp) (r : Nat) (K : Post) : Prop := match as with
  | [.ref q] => oI 22 (H q) fun _ a i _ => oL (H a) fun _ xs => i ≤ xs.length ∧ K (.inl (some (.int (b2 (i < xs.length))))) H r
  | _ => False
def ph20 (as : List Value) (H : Hp) (r : Nat) (K : Post) : Prop := match as with
  | [.ref q] => oI 22 (H q) fun mc a i _ => oL (H a) fun mc2 xs => mc2 = mc ∧ gE (xs[i]?) fun v => K (.inl (some v)) (upd_ H q (cI 22 mc a (i + 1) 0)) r
  | _ => False
def ph21 (as : List Value) (H : Hp) (r : Nat) (K : Post) : Prop := match as with
  | [.ref a] => H a = some (.inl (20, [.null, .null, .null, .null, .int 0, .int 0, .null, .null, .null])) ∧ K (.inl none) (upd_ H a (cM 0 [])) r
  | _ => False
def ph22 (as : List Value) (H : Hp) (r : Nat) (K : Post) : Prop := match as with
  | [.ref a, .ref kr, v] => oM (H a) fun mc l => oB (H kr) fun k => isR v = true ∧ l.length < bigN ∧ 2 ≤ r ∧ rB K (vOr (tmGet k l)) (upd_ H a (cM (mc + 1) (tmPut k (unB H v) l))) (r - 2)
  | _ => False
def ph23 (as : List Value) (H : Hp) (r : Nat) (K : Post) : Prop := match as with
  | [.ref a, .ref kr] => oM (H a) fun _ l => oB (H kr) fun k => rB K (vOr (tmGet k l)) H r
  | _ => False
def ph24 (as : List Value) (H : Hp) (r : Nat) (K : Post) : Prop := match as with
  | [.ref a, .ref kr] => oM (H a) fun _ l => oB (H kr) fun k => K (.inl (some (.int (b2 ((tmGet k l).isSome = true))))) H r
  | _ => False
def ph25 (as : List Value) (H : Hp) (r : Nat) (K : Post) : Prop := match as with
  | [.ref a, .ref kr, w] => oM (H a) fun _ l => oB (H kr) fun k => isR w = true ∧ (∀ e ∈ l, e.2 ≠ .null) ∧ rB K ((tmGet k l).getD w) H r
  | _ => False
def ph26 (as : List Value) (H : Hp) (r : Nat) (K : Post) : Prop := match as with
  | [.ref a] => oM (H a) fun _ l => K (.inl (some (.int (b2 (l.length = 0))))) H r
  | _ => False
def ph27 (as : List Value) (H : Hp) (r : Nat) (K : Post) : Prop := match as with
  | [.ref a] => oM (H a) fun _ l => 1 ≤ r ∧ eOr l.getLast? H r K
  | _ => False
def ph28 (as : List Value) (H : Hp) (r : Nat) (K : Post) : Prop := match as with
  | [.ref a, .ref kr] => oM (H a) fun _ l => oB (H kr) fun k => 1 ≤ r ∧ eOr (tmFloor k l) H r K
  | _ => False
def ph29 (as : List Value) (H : Hp) (r : Nat) (K : Post) : Prop := match as with
  | [.ref a, .ref kr] => oM (H a) fun _ l => oB (H kr) fun k => 1 ≤ r ∧ eOr (tmLower k l) H r K
  | _ => False
def ph30 (as : List Value) (H : Hp) (r : Nat) (K : Post) : Prop := match as with
  | [.ref a] => oM (H a) fun _ _ => Fre (cV a) 1 H r K
  | _ => False
def ph31 (as : List Value) (H : Hp) (r : Nat) (K : Post) : Prop := match as with
  | [.ref a, .ref k1, .ref k2] => oM (H a) fun _ _ => oB (H k1) fun lo => oB (H k2) fun hi => lo ≤ hi ∧ Fre (cS a lo hi) 4 H r K
  | _ => False
def ph32 (as : List Value) (H : Hp) (r : Nat) (K : Post) : Prop := match as with
  | [.ref q] => oE (H q) fun v => rB K v H r
  | _ => False
def ph33 (as : List Value) (H : Hp) (r : Nat) (K : Post) : Prop := match as with
  | [.ref q] => oV (H q) fun a => oM (H a) fun mc l => Fre (cI 31 mc a 0 l.length) 2 H r K
  | _ => False
def ph34 (as : List Value) (H : Hp) (r : Nat) (K : Post) : Prop := match as with
  | [.ref q] => oI 31 (H q) fun mc a i e => oM (H a) fun mc2 _ => mc2 = mc ∧ i ≤ e ∧ K (.inl (some (.int (b2 (i < e))))) H r
  | _ => False
def ph35 (as : List Value) (H : Hp) (r : Nat) (K : Post) : Prop := match as with
  | [.ref q] => oI 31 (H q) fun mc a i e => oM (H a) fun mc2 l => mc2 = mc ∧ i < e ∧ gE (l[i]?) fun x => isR x.2 = true ∧ K (.inl (some x.2)) (upd_ H q (cI 31 mc a (i + 1) e)) r
  | _ => False
def ph36 (as : List Value) (H : Hp) (r : Nat) (K : Post) : Prop := match as with
  | [.ref s] => oS (H s) fun _ _ _ => Fre (cSV s) 1 H r K
  | _ => False
def ph37 (as : List Value) (H : Hp) (r : Nat) (K : Post) : Prop := match as with
  | [.ref q] => oSV (H q) fun s => oS (H s) fun a lo hi => oM (H a) fun mc l => Fre (cI 27 mc a (tmLo lo l) (tmLo hi l)) 8 H r K
  | _ => False
def ph38 (as : List Value) (H : Hp) (r : Nat) (K : Post) : Prop := match as with
  | [.ref q] => oI 27 (H q) fun mc a i e => oM (H a) fun mc2 _ => mc2 = mc ∧ i ≤ e ∧ K (.inl (some (.int (b2 (i < e))))) H r
  | _ => False
def ph39 (as : List Value) (H : Hp) (r : Nat) (K : Post) : Prop := match as with
  | [.ref q] => oI 27 (H q) fun mc a i e => oM (H a) fun mc2 l => mc2 = mc ∧ i < e ∧ gE (l[i]?) fun x => isR x.2 = true ∧ K (.inl (some x.2)) (upd_ H q (cI 27 mc a (i + 1) e)) r
  | _ => False
def ph40 (as : List Value) (H : Hp) (r : Nat) (K : Post) : Prop := match as with
  | [.ref s] => oS (H s) fun a lo hi => oM (H a) fun mc l => 8 ≤ r ∧ K (.inl none) (upd_ H a (cM (mc + 1) (tmCut lo hi l))) (r - 8)
  | _ => False
def ph41 (as : List Value) (H : Hp) (r : Nat) (K : Post) : Prop := match as with
  | [.ref a, .ref c] => H a = some (.inl (21, [.null, .int 0, .null, .int 0])) ∧ H c = some (.inl (1, [])) ∧ 12 ≤ r ∧ K (.inl none) (upd_ H a (cQ 0 c [])) (r - 12)
  | _ => False
def ph42 (as : List Value) (H : Hp) (r : Nat) (K : Post) : Prop := match as with
  | [.ref a, .ref b] => oQ (H a) fun mc c zs => H c = some (.inl (1, [])) ∧ (∀ z ∈ zs, okB H z) ∧ zs.length < 12 ∧ 8 ≤ r ∧ ∃ k, bidK (H b) k ∧ ∀ ys : Qz, ys.Perm ((.ref b, k) :: zs) → K (.inl (some (.int 1))) (upd_ H a (cQ (mc + 1) c ys)) (r - 8)
  | _ => False
def ph43 (as : List Value) (H : Hp) (r : Nat) (K : Post) : Prop := match as with
  | [.ref a] => oQ (H a) fun mc c zs => H c = some (.inl (1, [])) ∧ (∀ z ∈ zs, okB H z) ∧ (zs = [] → K (.inl (some .null)) H r) ∧ ∀ (v : Value × Int32 × Value) (ys : Qz), zs.Perm (v :: ys) → (∀ y ∈ ys, ¬ ltK y.2 v.2) → K (.inl (some v.1)) (upd_ H a (cQ (mc + 1) c ys)) r
  | _ => False
def ph44 (as : List Value) (H : Hp) (r : Nat) (K : Post) : Prop := match as with
  | [.ref a] => oQ (H a) fun _ _ xs => K (.inl (some (.int (b2 (xs.length = 0))))) H r
  | _ => False
def ph45 (as : List Value) (H : Hp) (r : Nat) (K : Post) : Prop := match as with
  | [.ref a] => oQ (H a) fun _ _ xs => K (.inl (some (.int (nI xs.length)))) H r
  | _ => False
def ph46 (as : List Value) (H : Hp) (r : Nat) (K : Post) : Prop := match as with
  | [.ref a] => oQ (H a) fun mc c _ => K (.inl none) (upd_ H a (cQ (mc + 1) c [])) r
  | _ => False
def ph47 (as : List Value) (H : Hp) (r : Nat) (K : Post) : Prop := match as with
  | [.ref a] => oQ (H a) fun mc _ _ => Fre (cI 30 mc a 0 0) 2 H r K
  | _ => False
def ph48 (as : List Value) (H : Hp) (r : Nat) (K : Post) : Prop := match as with
  | [.ref q] => oI 30 (H q) fun _ a i _ => oQ (H a) fun _ _ xs => i ≤ xs.length ∧ K (.inl (some (.int (b2 (i < xs.length))))) H r
  | _ => False
def ph49 (as : List Value) (H : Hp) (r : Nat) (K : Post) : Prop := match as with
  | [.ref q] => oI 30 (H q) fun mc a i _ => oQ (H a) fun mc2 _ xs => mc2 = mc ∧ gE (xs[i]?) fun v => K (.inl (some v.1)) (upd_ H q (cI 30 mc a (i + 1) 0)) r
  | _ => False
def ph50 (as : List Value) (H : Hp) (r : Nat) (K : Post) : Prop := match as with
  | [.int x] => Fre (cB x) 1 H r K
  | _ => False
def ph51 (as : List Value) (H : Hp) (r : Nat) (K : Post) : Prop := match as with
  | [.ref q] => oB (H q) fun x => K (.inl (some (.int x))) H r
  | _ => False
def ph52 (as : List Value) (H : Hp) (r : Nat) (K : Post) : Prop := match as with
  | [.long x] => Fre (cBL x) 1 H r K
  | _ => False
def ph53 (as : List Value) (H : Hp) (r : Nat) (K : Post) : Prop := match as with
  | [.ref q] => oBL (H q) fun x => K (.inl (some (.long x))) H r
  | _ => False
def ph54 (as : List Value) (H : Hp) (r : Nat) (K : Post) : Prop := match as with
  | [.int x, .int z] => K (.inl (some (.int (if x < z then -1 else if x = z then 0 else 1)))) H r
  | _ => False
def primH (p : Nat) (as : List Value) (H : Hp) (r : Nat) (K : Post) : Prop := match p with
  | 1 => ph1 as H r K
  | 10 => ph10 as H r K
  | 11 => ph11 as H r K
  | 12 => ph12 as H r K
  | 13 => ph13 as H r K
  | 14 => ph14 as H r K
  | 15 => ph15 as H r K
  | 16 => ph16 as H r K
  | 17 => ph17 as H r K
  | 18 => ph18 as H r K
  | 19 => ph19 as H r K
  | 20 => ph20 as H r K
  | 21 => ph21 as H r K
  | 22 => ph22 as H r K
  | 23 => ph23 as H r K
  | 24 => ph24 as H r K
  | 25 => ph25 as H r K
  | 26 => ph26 as H r K
  | 27 => ph27 as H r K
  | 28 => ph28 as H r K
  | 29 => ph29 as H r K
  | 30 => ph30 as H r K
  | 31 => ph31 as H r K
  | 32 => ph32 as H r K
  | 33 => ph33 as H r K
  | 34 => ph34 as H r K
  | 35 => ph35 as H r K
  | 36 => ph36 as H r K
  | 37 => ph37 as H r K
  | 38 => ph38 as H r K
  | 39 => ph39 as H r K
  | 40 => ph40 as H r K
  | 41 => ph41 as H r K
  | 42 => ph42 as H r K
  | 43 => ph43 as H r K
  | 44 => ph44 as H r K
  | 45 => ph45 as H r K
  | 46 => ph46 as H r K
  | 47 => ph47 as H r K
  | 48 => ph48 as H r K
  | 49 => ph49 as H r K
  | 50 => ph50 as H r K
  | 51 => ph51 as H r K
  | 52 => ph52 as H r K
  | 53 => ph53 as H r K
  | 54 => ph54 as H r K
  | _ => False
section EHM
variable {K K' : Post}
theorem Fre_m (hK : ∀ o h r, K o h r → K' o h r) {o : Ob} {c : Nat} {H : Hp} {r : Nat} : Fre o c H r K → Fre o c H r K' := And.imp_right fun ⟨q, z, w⟩ => ⟨q, z, hK _ _ _ w⟩
theorem eOr_m (hK : ∀ o h r, K o h r → K' o h r) {o : Option (Int32 × Value)} {H : Hp} {r : Nat} : eOr o H r K → eOr o H r K' := by
  cases o with
  | none => exact hK _ _ _
  | some e => exact Fre_m hK
theorem rB_m (hK : ∀ o h r, K o h r → K' o h r) {v : Value} {H : Hp} {r : Nat} : rB K v H r → rB K' v H r := by
  unfold rB
  split
  · exact Fre_m hK
  · exact Fre_m hK
  · exact hK _ _ _
theorem gE_m {α : Type} {o : Option α} {P P' : α → Prop} (h : ∀ v, P v → P' v) : gE o P → gE o P' := by
  cases o with
  | none => exact id
  | some v => exact h v
theorem oL_m {o : Option Ob} {P P' : Nat → List Value → Prop} (h : ∀ x0 x1, P x0 x1 → P' x0 x1) : oL o P → oL o P' := by
  unfold oL
  split
  · exact h _ _
  · exact id
theorem oM_m {o : Option Ob} {P P' : Nat → List (Int32 × Value) → Prop} (h : ∀ x0 x1, P x0 x1 → P' x0 x1) : oM o P → oM o P' := by
  unfold oM
  split
  · exact h _ _
  · exact id
theorem oQ_m {o : Option Ob} {P P' : Nat → Nat → Qz → Prop} (h : ∀ x y z, P x y z → P' x y z) : oQ o P → oQ o P' := by
  unfold oQ
  split
  · exact And.imp_right (h _ _ _)
  · exact id
theorem oB_m {o : Option Ob} {P P' : Int32 → Prop} (h : ∀ x0, P x0 → P' x0) : oB o P → oB o P' := by
  unfold oB
  split
  · exact h _
  · exact id
theorem oBL_m {o : Option Ob} {P P' : Int64 → Prop} (h : ∀ x0, P x0 → P' x0) : oBL o P → oBL o P' := by
  unfold oBL
  split
  · exact h _
  · exact id
theorem oV_m {o : Option Ob} {P P' : Nat → Prop} (h : ∀ x0, P x0 → P' x0) : oV o P → oV o P' := by
  unfold oV
  split
  · exact h _
  · exact id
theorem oS_m {o : Option Ob} {P P' : Nat → Int32 → Int32 → Prop} (h : ∀ x0 x1 x2, P x0 x1 x2 → P' x0 x1 x2) : oS o P → oS o P' := by
  unfold oS
  split
  · exact h _ _ _
  · exact id
theorem oSV_m {o : Option Ob} {P P' : Nat → Prop} (h : ∀ x0, P x0 → P' x0) : oSV o P → oSV o P' := by
  unfold oSV
  split
  · exact h _
  · exact id
theorem oE_m {o : Option Ob} {P P' : Value → Prop} (h : ∀ x0, P x0 → P' x0) : oE o P → oE o P' := by
  unfold oE
  split
  · exact h _
  · exact id
theorem oI_m {k : Nat} {o : Option Ob} {P P' : Nat → Nat → Nat → Nat → Prop} (h : ∀ x y z w, P x y z w → P' x y z w) : oI k o P → oI k o P' := by
  unfold oI
  split
  · exact And.imp_right (h _ _ _ _)
  · exact id
theorem ph1_m (hK : ∀ o h r, K o h r → K' o h r) {as : List Value} {H : Hp} {r : Nat} : ph1 as H r K → ph1 as H r K' := by
  unfold ph1
  split
  · repeat (first | exact hK _ _ _ | exact eOr_m hK | exact rB_m hK | exact Fre_m hK | exact fun ⟨k, h1, z⟩ => ⟨k, h1, fun ys hy => hK _ _ _ (z ys hy)⟩ | refine And.imp_right ?_ | refine oL_m fun _ _ => ?_ | refine oM_m fun _ _ => ?_ | refine oQ_m fun _ _ _ => ?_ | refine oI_m fun _ _ _ _ => ?_ | refine oB_m fun _ => ?_ | refine oBL_m fun _ => ?_ | refine oV_m fun _ => ?_ | refine oS_m fun _ _ _ => ?_ | refine oSV_m fun _ => ?_ | refine oE_m fun _ => ?_ | refine gE_m fun _ => ?_)
  · exact id
theorem ph10_m (hK : ∀ o h r, K o h r → K' o h r) {as : List Value} {H : Hp} {r : Nat} : ph10 as H r K → ph10 as H r K' := by
  unfold ph10
  split
  · repeat (first | exact hK _ _ _ | exact eOr_m hK | exact rB_m hK | exact Fre_m hK | exact fun ⟨k, h1, z⟩ => ⟨k, h1, fun ys hy => hK _ _ _ (z ys hy)⟩ | refine And.imp_right ?_ | refine oL_m fun _ _ => ?_ | refine oM_m fun _ _ => ?_ | refine oQ_m fun _ _ _ => ?_ | refine oI_m fun _ _ _ _ => ?_ | refine oB_m fun _ => ?_ | refine oBL_m fun _ => ?_ | refine oV_m fun _ => ?_ | refine oS_m fun _ _ _ => ?_ | refine oSV_m fun _ => ?_ | refine oE_m fun _ => ?_ | refine gE_m fun _ => ?_)
  · exact id
theorem ph11_m (hK : ∀ o h r, K o h r → K' o h r) {as : List Value} {H : Hp} {r : Nat} : ph11 as H r K → ph11 as H r K' := by
  unfold ph11
  split
  · repeat (first | exact hK _ _ _ | exact eOr_m hK | exact rB_m hK | exact Fre_m hK | exact fun ⟨k, h1, z⟩ => ⟨k, h1, fun ys hy => hK _ _ _ (z ys hy)⟩ | refine And.imp_right ?_ | refine oL_m fun _ _ => ?_ | refine oM_m fun _ _ => ?_ | refine oQ_m fun _ _ _ => ?_ | refine oI_m fun _ _ _ _ => ?_ | refine oB_m fun _ => ?_ | refine oBL_m fun _ => ?_ | refine oV_m fun _ => ?_ | refine oS_m fun _ _ _ => ?_ | refine oSV_m fun _ => ?_ | refine oE_m fun _ => ?_ | refine gE_m fun _ => ?_)
  · exact id
theorem ph12_m (hK : ∀ o h r, K o h r → K' o h r) {as : List Value} {H : Hp} {r : Nat} : ph12 as H r K → ph12 as H r K' := by
  unfold ph12
  split
  · repeat (first | exact hK _ _ _ | exact eOr_m hK | exact rB_m hK | exact Fre_m hK | exact fun ⟨k, h1, z⟩ => ⟨k, h1, fun ys hy => hK _ _ _ (z ys hy)⟩ | refine And.imp_right ?_ | refine oL_m fun _ _ => ?_ | refine oM_m fun _ _ => ?_ | refine oQ_m fun _ _ _ => ?_ | refine oI_m fun _ _ _ _ => ?_ | refine oB_m fun _ => ?_ | refine oBL_m fun _ => ?_ | refine oV_m fun _ => ?_ | refine oS_m fun _ _ _ => ?_ | refine oSV_m fun _ => ?_ | refine oE_m fun _ => ?_ | refine gE_m fun _ => ?_)
  · exact id
theorem ph13_m (hK : ∀ o h r, K o h r → K' o h r) {as : List Value} {H : Hp} {r : Nat} : ph13 as H r K → ph13 as H r K' := by
  unfold ph13
  split
  · repeat (first | exact hK _ _ _ | exact eOr_m hK | exact rB_m hK | exact Fre_m hK | exact fun ⟨k, h1, z⟩ => ⟨k, h1, fun ys hy => hK _ _ _ (z ys hy)⟩ | refine And.imp_right ?_ | refine oL_m fun _ _ => ?_ | refine oM_m fun _ _ => ?_ | refine oQ_m fun _ _ _ => ?_ | refine oI_m fun _ _ _ _ => ?_ | refine oB_m fun _ => ?_ | refine oBL_m fun _ => ?_ | refine oV_m fun _ => ?_ | refine oS_m fun _ _ _ => ?_ | refine oSV_m fun _ => ?_ | refine oE_m fun _ => ?_ | refine gE_m fun _ => ?_)
  · exact id
theorem ph14_m (hK : ∀ o h r, K o h r → K' o h r) {as : List Value} {H : Hp} {r : Nat} : ph14 as H r K → ph14 as H r K' := by
  unfold ph14
  split
  · repeat (first | exact hK _ _ _ | exact eOr_m hK | exact rB_m hK | exact Fre_m hK | exact fun ⟨k, h1, z⟩ => ⟨k, h1, fun ys hy => hK _ _ _ (z ys hy)⟩ | refine And.imp_right ?_ | refine oL_m fun _ _ => ?_ | refine oM_m fun _ _ => ?_ | refine oQ_m fun _ _ _ => ?_ | refine oI_m fun _ _ _ _ => ?_ | refine oB_m fun _ => ?_ | refine oBL_m fun _ => ?_ | refine oV_m fun _ => ?_ | refine oS_m fun _ _ _ => ?_ | refine oSV_m fun _ => ?_ | refine oE_m fun _ => ?_ | refine gE_m fun _ => ?_)
  · exact id
theorem ph15_m (hK : ∀ o h r, K o h r → K' o h r) {as : List Value} {H : Hp} {r : Nat} : ph15 as H r K → ph15 as H r K' := by
  unfold ph15
  split
  · repeat (first | exact hK _ _ _ | exact eOr_m hK | exact rB_m hK | exact Fre_m hK | exact fun ⟨k, h1, z⟩ => ⟨k, h1, fun ys hy => hK _ _ _ (z ys hy)⟩ | refine And.imp_right ?_ | refine oL_m fun _ _ => ?_ | refine oM_m fun _ _ => ?_ | refine oQ_m fun _ _ _ => ?_ | refine oI_m fun _ _ _ _ => ?_ | refine oB_m fun _ => ?_ | refine oBL_m fun _ => ?_ | refine oV_m fun _ => ?_ | refine oS_m fun _ _ _ => ?_ | refine oSV_m fun _ => ?_ | refine oE_m fun _ => ?_ | refine gE_m fun _ => ?_)
  · exact id
theorem ph16_m (hK : ∀ o h r, K o h r → K' o h r) {as : List Value} {H : Hp} {r : Nat} : ph16 as H r K → ph16 as H r K' := by
  unfold ph16
  split
  · repeat (first | exact hK _ _ _ | exact eOr_m hK | exact rB_m hK | exact Fre_m hK | exact fun ⟨k, h1, z⟩ => ⟨k, h1, fun ys hy => hK _ _ _ (z ys hy)⟩ | refine And.imp_right ?_ | refine oL_m fun _ _ => ?_ | refine oM_m fun _ _ => ?_ | refine oQ_m fun _ _ _ => ?_ | refine oI_m fun _ _ _ _ => ?_ | refine oB_m fun _ => ?_ | refine oBL_m fun _ => ?_ | refine oV_m fun _ => ?_ | refine oS_m fun _ _ _ => ?_ | refine oSV_m fun _ => ?_ | refine oE_m fun _ => ?_ | refine gE_m fun _ => ?_)
  · exact id
theorem ph17_m (hK : ∀ o h r, K o h r → K' o h r) {as : List Value} {H : Hp} {r : Nat} : ph17 as H r K → ph17 as H r K' := by
  unfold ph17
  split
  · repeat (first | exact hK _ _ _ | exact eOr_m hK | exact rB_m hK | exact Fre_m hK | exact fun ⟨k, h1, z⟩ => ⟨k, h1, fun ys hy => hK _ _ _ (z ys hy)⟩ | refine And.imp_right ?_ | refine oL_m fun _ _ => ?_ | refine oM_m fun _ _ => ?_ | refine oQ_m fun _ _ _ => ?_ | refine oI_m fun _ _ _ _ => ?_ | refine oB_m fun _ => ?_ | refine oBL_m fun _ => ?_ | refine oV_m fun _ => ?_ | refine oS_m fun _ _ _ => ?_ | refine oSV_m fun _ => ?_ | refine oE_m fun _ => ?_ | refine gE_m fun _ => ?_)
  · exact id
theorem ph18_m (hK : ∀ o h r, K o h r → K' o h r) {as : List Value} {H : Hp} {r : Nat} : ph18 as H r K → ph18 as H r K' := by
  unfold ph18
  split
  · repeat (first | exact hK _ _ _ | exact eOr_m hK | exact rB_m hK | exact Fre_m hK | exact fun ⟨k, h1, z⟩ => ⟨k, h1, fun ys hy => hK _ _ _ (z ys hy)⟩ | refine And.imp_right ?_ | refine oL_m fun _ _ => ?_ | refine oM_m fun _ _ => ?_ | refine oQ_m fun _ _ _ => ?_ | refine oI_m fun _ _ _ _ => ?_ | refine oB_m fun _ => ?_ | refine oBL_m fun _ => ?_ | refine oV_m fun _ => ?_ | refine oS_m fun _ _ _ => ?_ | refine oSV_m fun _ => ?_ | refine oE_m fun _ => ?_ | refine gE_m fun _ => ?_)
  · exact id
theorem ph19_m (hK : ∀ o h r, K o h r → K' o h r) {as : List Value} {H : Hp} {r : Nat} : ph19 as H r K → ph19 as H r K' := by
  unfold ph19
  split
  · repeat (first | exact hK _ _ _ | exact eOr_m hK | exact rB_m hK | exact Fre_m hK | exact fun ⟨k, h1, z⟩ => ⟨k, h1, fun ys hy => hK _ _ _ (z ys hy)⟩ | refine And.imp_right ?_ | refine oL_m fun _ _ => ?_ | refine oM_m fun _ _ => ?_ | refine oQ_m fun _ _ _ => ?_ | refine oI_m fun _ _ _ _ => ?_ | refine oB_m fun _ => ?_ | refine oBL_m fun _ => ?_ | refine oV_m fun _ => ?_ | refine oS_m fun _ _ _ => ?_ | refine oSV_m fun _ => ?_ | refine oE_m fun _ => ?_ | refine gE_m fun _ => ?_)
  · exact id
theorem ph20_m (hK : ∀ o h r, K o h r → K' o h r) {as : List Value} {H : Hp} {r : Nat} : ph20 as H r K → ph20 as H r K' := by
  unfold ph20
  split
  · repeat (first | exact hK _ _ _ | exact eOr_m hK | exact rB_m hK | exact Fre_m hK | exact fun ⟨k, h1, z⟩ => ⟨k, h1, fun ys hy => hK _ _ _ (z ys hy)⟩ | refine And.imp_right ?_ | refine oL_m fun _ _ => ?_ | refine oM_m fun _ _ => ?_ | refine oQ_m fun _ _ _ => ?_ | refine oI_m fun _ _ _ _ => ?_ | refine oB_m fun _ => ?_ | refine oBL_m fun _ => ?_ | refine oV_m fun _ => ?_ | refine oS_m fun _ _ _ => ?_ | refine oSV_m fun _ => ?_ | refine oE_m fun _ => ?_ | refine gE_m fun _ => ?_)
  · exact id
theorem ph21_m (hK : ∀ o h r, K o h r → K' o h r) {as : List Value} {H : Hp} {r : Nat} : ph21 as H r K → ph21 as H r K' := by
  unfold ph21
  split
  · repeat (first | exact hK _ _ _ | exact eOr_m hK | exact rB_m hK | exact Fre_m hK | exact fun ⟨k, h1, z⟩ => ⟨k, h1, fun ys hy => hK _ _ _ (z ys hy)⟩ | refine And.imp_right ?_ | refine oL_m fun _ _ => ?_ | refine oM_m fun _ _ => ?_ | refine oQ_m fun _ _ _ => ?_ | refine oI_m fun _ _ _ _ => ?_ | refine oB_m fun _ => ?_ | refine oBL_m fun _ => ?_ | refine oV_m fun _ => ?_ | refine oS_m fun _ _ _ => ?_ | refine oSV_m fun _ => ?_ | refine oE_m fun _ => ?_ | refine gE_m fun _ => ?_)
  · exact id
theorem ph22_m (hK : ∀ o h r, K o h r → K' o h r) {as : List Value} {H : Hp} {r : Nat} : ph22 as H r K → ph22 as H r K' := by
  unfold ph22
  split
  · repeat (first | exact hK _ _ _ | exact eOr_m hK | exact rB_m hK | exact Fre_m hK | exact fun ⟨k, h1, z⟩ => ⟨k, h1, fun ys hy => hK _ _ _ (z ys hy)⟩ | refine And.imp_right ?_ | refine oL_m fun _ _ => ?_ | refine oM_m fun _ _ => ?_ | refine oQ_m fun _ _ _ => ?_ | refine oI_m fun _ _ _ _ => ?_ | refine oB_m fun _ => ?_ | refine oBL_m fun _ => ?_ | refine oV_m fun _ => ?_ | refine oS_m fun _ _ _ => ?_ | refine oSV_m fun _ => ?_ | refine oE_m fun _ => ?_ | refine gE_m fun _ => ?_)
  · exact id
theorem ph23_m (hK : ∀ o h r, K o h r → K' o h r) {as : List Value} {H : Hp} {r : Nat} : ph23 as H r K → ph23 as H r K' := by
  unfold ph23
  split
  · repeat (first | exact hK _ _ _ | exact eOr_m hK | exact rB_m hK | exact Fre_m hK | exact fun ⟨k, h1, z⟩ => ⟨k, h1, fun ys hy => hK _ _ _ (z ys hy)⟩ | refine And.imp_right ?_ | refine oL_m fun _ _ => ?_ | refine oM_m fun _ _ => ?_ | refine oQ_m fun _ _ _ => ?_ | refine oI_m fun _ _ _ _ => ?_ | refine oB_m fun _ => ?_ | refine oBL_m fun _ => ?_ | refine oV_m fun _ => ?_ | refine oS_m fun _ _ _ => ?_ | refine oSV_m fun _ => ?_ | refine oE_m fun _ => ?_ | refine gE_m fun _ => ?_)
  · exact id
theorem ph24_m (hK : ∀ o h r, K o h r → K' o h r) {as : List Value} {H : Hp} {r : Nat} : ph24 as H r K → ph24 as H r K' := by
  unfold ph24
  split
  · repeat (first | exact hK _ _ _ | exact eOr_m hK | exact rB_m hK | exact Fre_m hK | exact fun ⟨k, h1, z⟩ => ⟨k, h1, fun ys hy => hK _ _ _ (z ys hy)⟩ | refine And.imp_right ?_ | refine oL_m fun _ _ => ?_ | refine oM_m fun _ _ => ?_ | refine oQ_m fun _ _ _ => ?_ | refine oI_m fun _ _ _ _ => ?_ | refine oB_m fun _ => ?_ | refine oBL_m fun _ => ?_ | refine oV_m fun _ => ?_ | refine oS_m fun _ _ _ => ?_ | refine oSV_m fun _ => ?_ | refine oE_m fun _ => ?_ | refine gE_m fun _ => ?_)
  · exact id
theorem ph25_m (hK : ∀ o h r, K o h r → K' o h r) {as : List Value} {H : Hp} {r : Nat} : ph25 as H r K → ph25 as H r K' := by
  unfold ph25
  split
  · repeat (first | exact hK _ _ _ | exact eOr_m hK | exact rB_m hK | exact Fre_m hK | exact fun ⟨k, h1, z⟩ => ⟨k, h1, fun ys hy => hK _ _ _ (z ys hy)⟩ | refine And.imp_right ?_ | refine oL_m fun _ _ => ?_ | refine oM_m fun _ _ => ?_ | refine oQ_m fun _ _ _ => ?_ | refine oI_m fun _ _ _ _ => ?_ | refine oB_m fun _ => ?_ | refine oBL_m fun _ => ?_ | refine oV_m fun _ => ?_ | refine oS_m fun _ _ _ => ?_ | refine oSV_m fun _ => ?_ | refine oE_m fun _ => ?_ | refine gE_m fun _ => ?_)
  · exact id
theorem ph26_m (hK : ∀ o h r, K o h r → K' o h r) {as : List Value} {H : Hp} {r : Nat} : ph26 as H r K → ph26 as H r K' := by
  unfold ph26
  split
  · repeat (first | exact hK _ _ _ | exact eOr_m hK | exact rB_m hK | exact Fre_m hK | exact fun ⟨k, h1, z⟩ => ⟨k, h1, fun ys hy => hK _ _ _ (z ys hy)⟩ | refine And.imp_right ?_ | refine oL_m fun _ _ => ?_ | refine oM_m fun _ _ => ?_ | refine oQ_m fun _ _ _ => ?_ | refine oI_m fun _ _ _ _ => ?_ | refine oB_m fun _ => ?_ | refine oBL_m fun _ => ?_ | refine oV_m fun _ => ?_ | refine oS_m fun _ _ _ => ?_ | refine oSV_m fun _ => ?_ | refine oE_m fun _ => ?_ | refine gE_m fun _ => ?_)
  · exact id
theorem ph27_m (hK : ∀ o h r, K o h r → K' o h r) {as : List Value} {H : Hp} {r : Nat} : ph27 as H r K → ph27 as H r K' := by
  unfold ph27
  split
  · repeat (first | exact hK _ _ _ | exact eOr_m hK | exact rB_m hK | exact Fre_m hK | exact fun ⟨k, h1, z⟩ => ⟨k, h1, fun ys hy => hK _ _ _ (z ys hy)⟩ | refine And.imp_right ?_ | refine oL_m fun _ _ => ?_ | refine oM_m fun _ _ => ?_ | refine oQ_m fun _ _ _ => ?_ | refine oI_m fun _ _ _ _ => ?_ | refine oB_m fun _ => ?_ | refine oBL_m fun _ => ?_ | refine oV_m fun _ => ?_ | refine oS_m fun _ _ _ => ?_ | refine oSV_m fun _ => ?_ | refine oE_m fun _ => ?_ | refine gE_m fun _ => ?_)
  · exact id
theorem ph28_m (hK : ∀ o h r, K o h r → K' o h r) {as : List Value} {H : Hp} {r : Nat} : ph28 as H r K → ph28 as H r K' := by
  unfold ph28
  split
  · repeat (first | exact hK _ _ _ | exact eOr_m hK | exact rB_m hK | exact Fre_m hK | exact fun ⟨k, h1, z⟩ => ⟨k, h1, fun ys hy => hK _ _ _ (z ys hy)⟩ | refine And.imp_right ?_ | refine oL_m fun _ _ => ?_ | refine oM_m fun _ _ => ?_ | refine oQ_m fun _ _ _ => ?_ | refine oI_m fun _ _ _ _ => ?_ | refine oB_m fun _ => ?_ | refine oBL_m fun _ => ?_ | refine oV_m fun _ => ?_ | refine oS_m fun _ _ _ => ?_ | refine oSV_m fun _ => ?_ | refine oE_m fun _ => ?_ | refine gE_m fun _ => ?_)
  · exact id
theorem ph29_m (hK : ∀ o h r, K o h r → K' o h r) {as : List Value} {H : Hp} {r : Nat} : ph29 as H r K → ph29 as H r K' := by
  unfold ph29
  split
  · repeat (first | exact hK _ _ _ | exact eOr_m hK | exact rB_m hK | exact Fre_m hK | exact fun ⟨k, h1, z⟩ => ⟨k, h1, fun ys hy => hK _ _ _ (z ys hy)⟩ | refine And.imp_right ?_ | refine oL_m fun _ _ => ?_ | refine oM_m fun _ _ => ?_ | refine oQ_m fun _ _ _ => ?_ | refine oI_m fun _ _ _ _ => ?_ | refine oB_m fun _ => ?_ | refine oBL_m fun _ => ?_ | refine oV_m fun _ => ?_ | refine oS_m fun _ _ _ => ?_ | refine oSV_m fun _ => ?_ | refine oE_m fun _ => ?_ | refine gE_m fun _ => ?_)
  · exact id
theorem ph30_m (hK : ∀ o h r, K o h r → K' o h r) {as : List Value} {H : Hp} {r : Nat} : ph30 as H r K → ph30 as H r K' := by
  unfold ph30
  split
  · repeat (first | exact hK _ _ _ | exact eOr_m hK | exact rB_m hK | exact Fre_m hK | exact fun ⟨k, h1, z⟩ => ⟨k, h1, fun ys hy => hK _ _ _ (z ys hy)⟩ | refine And.imp_right ?_ | refine oL_m fun _ _ => ?_ | refine oM_m fun _ _ => ?_ | refine oQ_m fun _ _ _ => ?_ | refine oI_m fun _ _ _ _ => ?_ | refine oB_m fun _ => ?_ | refine oBL_m fun _ => ?_ | refine oV_m fun _ => ?_ | refine oS_m fun _ _ _ => ?_ | refine oSV_m fun _ => ?_ | refine oE_m fun _ => ?_ | refine gE_m fun _ => ?_)
  · exact id
theorem ph31_m (hK : ∀ o h r, K o h r → K' o h r) {as : List Value} {H : Hp} {r : Nat} : ph31 as H r K → ph31 as H r K' := by
  unfold ph31
  split
  · repeat (first | exact hK _ _ _ | exact eOr_m hK | exact rB_m hK | exact Fre_m hK | exact fun ⟨k, h1, z⟩ => ⟨k, h1, fun ys hy => hK _ _ _ (z ys hy)⟩ | refine And.imp_right ?_ | refine oL_m fun _ _ => ?_ | refine oM_m fun _ _ => ?_ | refine oQ_m fun _ _ _ => ?_ | refine oI_m fun _ _ _ _ => ?_ | refine oB_m fun _ => ?_ | refine oBL_m fun _ => ?_ | refine oV_m fun _ => ?_ | refine oS_m fun _ _ _ => ?_ | refine oSV_m fun _ => ?_ | refine oE_m fun _ => ?_ | refine gE_m fun _ => ?_)
  · exact id
theorem ph32_m (hK : ∀ o h r, K o h r → K' o h r) {as : List Value} {H : Hp} {r : Nat} : ph32 as H r K → ph32 as H r K' := by
  unfold ph32
  split
  · repeat (first | exact hK _ _ _ | exact eOr_m hK | exact rB_m hK | exact Fre_m hK | exact fun ⟨k, h1, z⟩ => ⟨k, h1, fun ys hy => hK _ _ _ (z ys hy)⟩ | refine And.imp_right ?_ | refine oL_m fun _ _ => ?_ | refine oM_m fun _ _ => ?_ | refine oQ_m fun _ _ _ => ?_ | refine oI_m fun _ _ _ _ => ?_ | refine oB_m fun _ => ?_ | refine oBL_m fun _ => ?_ | refine oV_m fun _ => ?_ | refine oS_m fun _ _ _ => ?_ | refine oSV_m fun _ => ?_ | refine oE_m fun _ => ?_ | refine gE_m fun _ => ?_)
  · exact id
theorem ph33_m (hK : ∀ o h r, K o h r → K' o h r) {as : List Value} {H : Hp} {r : Nat} : ph33 as H r K → ph33 as H r K' := by
  unfold ph33
  split
  · repeat (first | exact hK _ _ _ | exact eOr_m hK | exact rB_m hK | exact Fre_m hK | exact fun ⟨k, h1, z⟩ => ⟨k, h1, fun ys hy => hK _ _ _ (z ys hy)⟩ | refine And.imp_right ?_ | refine oL_m fun _ _ => ?_ | refine oM_m fun _ _ => ?_ | refine oQ_m fun _ _ _ => ?_ | refine oI_m fun _ _ _ _ => ?_ | refine oB_m fun _ => ?_ | refine oBL_m fun _ => ?_ | refine oV_m fun _ => ?_ | refine oS_m fun _ _ _ => ?_ | refine oSV_m fun _ => ?_ | refine oE_m fun _ => ?_ | refine gE_m fun _ => ?_)
  · exact id
theorem ph34_m (hK : ∀ o h r, K o h r → K' o h r) {as : List Value} {H : Hp} {r : Nat} : ph34 as H r K → ph34 as H r K' := by
  unfold ph34
  split
  · repeat (first | exact hK _ _ _ | exact eOr_m hK | exact rB_m hK | exact Fre_m hK | exact fun ⟨k, h1, z⟩ => ⟨k, h1, fun ys hy => hK _ _ _ (z ys hy)⟩ | refine And.imp_right ?_ | refine oL_m fun _ _ => ?_ | refine oM_m fun _ _ => ?_ | refine oQ_m fun _ _ _ => ?_ | refine oI_m fun _ _ _ _ => ?_ | refine oB_m fun _ => ?_ | refine oBL_m fun _ => ?_ | refine oV_m fun _ => ?_ | refine oS_m fun _ _ _ => ?_ | refine oSV_m fun _ => ?_ | refine oE_m fun _ => ?_ | refine gE_m fun _ => ?_)
  · exact id
theorem ph35_m (hK : ∀ o h r, K o h r → K' o h r) {as : List Value} {H : Hp} {r : Nat} : ph35 as H r K → ph35 as H r K' := by
  unfold ph35
  split
  · repeat (first | exact hK _ _ _ | exact eOr_m hK | exact rB_m hK | exact Fre_m hK | exact fun ⟨k, h1, z⟩ => ⟨k, h1, fun ys hy => hK _ _ _ (z ys hy)⟩ | refine And.imp_right ?_ | refine oL_m fun _ _ => ?_ | refine oM_m fun _ _ => ?_ | refine oQ_m fun _ _ _ => ?_ | refine oI_m fun _ _ _ _ => ?_ | refine oB_m fun _ => ?_ | refine oBL_m fun _ => ?_ | refine oV_m fun _ => ?_ | refine oS_m fun _ _ _ => ?_ | refine oSV_m fun _ => ?_ | refine oE_m fun _ => ?_ | refine gE_m fun _ => ?_)
  · exact id
theorem ph36_m (hK : ∀ o h r, K o h r → K' o h r) {as : List Value} {H : Hp} {r : Nat} : ph36 as H r K → ph36 as H r K' := by
  unfold ph36
  split
  · repeat (first | exact hK _ _ _ | exact eOr_m hK | exact rB_m hK | exact Fre_m hK | exact fun ⟨k, h1, z⟩ => ⟨k, h1, fun ys hy => hK _ _ _ (z ys hy)⟩ | refine And.imp_right ?_ | refine oL_m fun _ _ => ?_ | refine oM_m fun _ _ => ?_ | refine oQ_m fun _ _ _ => ?_ | refine oI_m fun _ _ _ _ => ?_ | refine oB_m fun _ => ?_ | refine oBL_m fun _ => ?_ | refine oV_m fun _ => ?_ | refine oS_m fun _ _ _ => ?_ | refine oSV_m fun _ => ?_ | refine oE_m fun _ => ?_ | refine gE_m fun _ => ?_)
  · exact id
theorem ph37_m (hK : ∀ o h r, K o h r → K' o h r) {as : List Value} {H : Hp} {r : Nat} : ph37 as H r K → ph37 as H r K' := by
  unfold ph37
  split
  · repeat (first | exact hK _ _ _ | exact eOr_m hK | exact rB_m hK | exact Fre_m hK | exact fun ⟨k, h1, z⟩ => ⟨k, h1, fun ys hy => hK _ _ _ (z ys hy)⟩ | refine And.imp_right ?_ | refine oL_m fun _ _ => ?_ | refine oM_m fun _ _ => ?_ | refine oQ_m fun _ _ _ => ?_ | refine oI_m fun _ _ _ _ => ?_ | refine oB_m fun _ => ?_ | refine oBL_m fun _ => ?_ | refine oV_m fun _ => ?_ | refine oS_m fun _ _ _ => ?_ | refine oSV_m fun _ => ?_ | refine oE_m fun _ => ?_ | refine gE_m fun _ => ?_)
  · exact id
theorem ph38_m (hK : ∀ o h r, K o h r → K' o h r) {as : List Value} {H : Hp} {r : Nat} : ph38 as H r K → ph38 as H r K' := by
  unfold ph38
  split
  · repeat (first | exact hK _ _ _ | exact eOr_m hK | exact rB_m hK | exact Fre_m hK | exact fun ⟨k, h1, z⟩ => ⟨k, h1, fun ys hy => hK _ _ _ (z ys hy)⟩ | refine And.imp_right ?_ | refine oL_m fun _ _ => ?_ | refine oM_m fun _ _ => ?_ | refine oQ_m fun _ _ _ => ?_ | refine oI_m fun _ _ _ _ => ?_ | refine oB_m fun _ => ?_ | refine oBL_m fun _ => ?_ | refine oV_m fun _ => ?_ | refine oS_m fun _ _ _ => ?_ | refine oSV_m fun _ => ?_ | refine oE_m fun _ => ?_ | refine gE_m fun _ => ?_)
  · exact id
theorem ph39_m (hK : ∀ o h r, K o h r → K' o h r) {as : List Value} {H : Hp} {r : Nat} : ph39 as H r K → ph39 as H r K' := by
  unfold ph39
  split
  · repeat (first | exact hK _ _ _ | exact eOr_m hK | exact rB_m hK | exact Fre_m hK | exact fun ⟨k, h1, z⟩ => ⟨k, h1, fun ys hy => hK _ _ _ (z ys hy)⟩ | refine And.imp_right ?_ | refine oL_m fun _ _ => ?_ | refine oM_m fun _ _ => ?_ | refine oQ_m fun _ _ _ => ?_ | refine oI_m fun _ _ _ _ => ?_ | refine oB_m fun _ => ?_ | refine oBL_m fun _ => ?_ | refine oV_m fun _ => ?_ | refine oS_m fun _ _ _ => ?_ | refine oSV_m fun _ => ?_ | refine oE_m fun _ => ?_ | refine gE_m fun _ => ?_)
  · exact id
theorem ph40_m (hK : ∀ o h r, K o h r → K' o h r) {as : List Value} {H : Hp} {r : Nat} : ph40 as H r K → ph40 as H r K' := by
  unfold ph40
  split
  · repeat (first | exact hK _ _ _ | exact eOr_m hK | exact rB_m hK | exact Fre_m hK | exact fun ⟨k, h1, z⟩ => ⟨k, h1, fun ys hy => hK _ _ _ (z ys hy)⟩ | refine And.imp_right ?_ | refine oL_m fun _ _ => ?_ | refine oM_m fun _ _ => ?_ | refine oQ_m fun _ _ _ => ?_ | refine oI_m fun _ _ _ _ => ?_ | refine oB_m fun _ => ?_ | refine oBL_m fun _ => ?_ | refine oV_m fun _ => ?_ | refine oS_m fun _ _ _ => ?_ | refine oSV_m fun _ => ?_ | refine oE_m fun _ => ?_ | refine gE_m fun _ => ?_)
  · exact id
theorem ph41_m (hK : ∀ o h r, K o h r → K' o h r) {as : List Value} {H : Hp} {r : Nat} : ph41 as H r K → ph41 as H r K' := by
  unfold ph41
  split
  · repeat (first | exact hK _ _ _ | exact eOr_m hK | exact rB_m hK | exact Fre_m hK | exact fun ⟨k, h1, z⟩ => ⟨k, h1, fun ys hy => hK _ _ _ (z ys hy)⟩ | refine And.imp_right ?_ | refine oL_m fun _ _ => ?_ | refine oM_m fun _ _ => ?_ | refine oQ_m fun _ _ _ => ?_ | refine oI_m fun _ _ _ _ => ?_ | refine oB_m fun _ => ?_ | refine oBL_m fun _ => ?_ | refine oV_m fun _ => ?_ | refine oS_m fun _ _ _ => ?_ | refine oSV_m fun _ => ?_ | refine oE_m fun _ => ?_ | refine gE_m fun _ => ?_)
  · exact id
theorem ph42_m (hK : ∀ o h r, K o h r → K' o h r) {as : List Value} {H : Hp} {r : Nat} : ph42 as H r K → ph42 as H r K' := by
  unfold ph42
  split
  · repeat (first | exact hK _ _ _ | exact eOr_m hK | exact rB_m hK | exact Fre_m hK | exact fun ⟨k, h1, z⟩ => ⟨k, h1, fun ys hy => hK _ _ _ (z ys hy)⟩ | refine And.imp_right ?_ | refine oL_m fun _ _ => ?_ | refine oM_m fun _ _ => ?_ | refine oQ_m fun _ _ _ => ?_ | refine oI_m fun _ _ _ _ => ?_ | refine oB_m fun _ => ?_ | refine oBL_m fun _ => ?_ | refine oV_m fun _ => ?_ | refine oS_m fun _ _ _ => ?_ | refine oSV_m fun _ => ?_ | refine oE_m fun _ => ?_ | refine gE_m fun _ => ?_)
  · exact id
theorem ph43_m (hK : ∀ o h r, K o h r → K' o h r) {as : List Value} {H : Hp} {r : Nat} : ph43 as H r K → ph43 as H r K' := by
  unfold ph43
  split
  · exact oQ_m fun _ _ _ ⟨h1, h2, h3, h4⟩ => ⟨h1, h2, fun z => hK _ _ _ (h3 z), fun v ys z1 z2 => hK _ _ _ (h4 v ys z1 z2)⟩
  · exact id
theorem ph44_m (hK : ∀ o h r, K o h r → K' o h r) {as : List Value} {H : Hp} {r : Nat} : ph44 as H r K → ph44 as H r K' := by
  unfold ph44
  split
  · repeat (first | exact hK _ _ _ | exact eOr_m hK | exact rB_m hK | exact Fre_m hK | exact fun ⟨k, h1, z⟩ => ⟨k, h1, fun ys hy => hK _ _ _ (z ys hy)⟩ | refine And.imp_right ?_ | refine oL_m fun _ _ => ?_ | refine oM_m fun _ _ => ?_ | refine oQ_m fun _ _ _ => ?_ | refine oI_m fun _ _ _ _ => ?_ | refine oB_m fun _ => ?_ | refine oBL_m fun _ => ?_ | refine oV_m fun _ => ?_ | refine oS_m fun _ _ _ => ?_ | refine oSV_m fun _ => ?_ | refine oE_m fun _ => ?_ | refine gE_m fun _ => ?_)
  · exact id
theorem ph45_m (hK : ∀ o h r, K o h r → K' o h r) {as : List Value} {H : Hp} {r : Nat} : ph45 as H r K → ph45 as H r K' := by
  unfold ph45
  split
  · repeat (first | exact hK _ _ _ | exact eOr_m hK | exact rB_m hK | exact Fre_m hK | exact fun ⟨k, h1, z⟩ => ⟨k, h1, fun ys hy => hK _ _ _ (z ys hy)⟩ | refine And.imp_right ?_ | refine oL_m fun _ _ => ?_ | refine oM_m fun _ _ => ?_ | refine oQ_m fun _ _ _ => ?_ | refine oI_m fun _ _ _ _ => ?_ | refine oB_m fun _ => ?_ | refine oBL_m fun _ => ?_ | refine oV_m fun _ => ?_ | refine oS_m fun _ _ _ => ?_ | refine oSV_m fun _ => ?_ | refine oE_m fun _ => ?_ | refine gE_m fun _ => ?_)
  · exact id
theorem ph46_m (hK : ∀ o h r, K o h r → K' o h r) {as : List Value} {H : Hp} {r : Nat} : ph46 as H r K → ph46 as H r K' := by
  unfold ph46
  split
  · repeat (first | exact hK _ _ _ | exact eOr_m hK | exact rB_m hK | exact Fre_m hK | exact fun ⟨k, h1, z⟩ => ⟨k, h1, fun ys hy => hK _ _ _ (z ys hy)⟩ | refine And.imp_right ?_ | refine oL_m fun _ _ => ?_ | refine oM_m fun _ _ => ?_ | refine oQ_m fun _ _ _ => ?_ | refine oI_m fun _ _ _ _ => ?_ | refine oB_m fun _ => ?_ | refine oBL_m fun _ => ?_ | refine oV_m fun _ => ?_ | refine oS_m fun _ _ _ => ?_ | refine oSV_m fun _ => ?_ | refine oE_m fun _ => ?_ | refine gE_m fun _ => ?_)
  · exact id
theorem ph47_m (hK : ∀ o h r, K o h r → K' o h r) {as : List Value} {H : Hp} {r : Nat} : ph47 as H r K → ph47 as H r K' := by
  unfold ph47
  split
  · repeat (first | exact hK _ _ _ | exact eOr_m hK | exact rB_m hK | exact Fre_m hK | exact fun ⟨k, h1, z⟩ => ⟨k, h1, fun ys hy => hK _ _ _ (z ys hy)⟩ | refine And.imp_right ?_ | refine oL_m fun _ _ => ?_ | refine oM_m fun _ _ => ?_ | refine oQ_m fun _ _ _ => ?_ | refine oI_m fun _ _ _ _ => ?_ | refine oB_m fun _ => ?_ | refine oBL_m fun _ => ?_ | refine oV_m fun _ => ?_ | refine oS_m fun _ _ _ => ?_ | refine oSV_m fun _ => ?_ | refine oE_m fun _ => ?_ | refine gE_m fun _ => ?_)
  · exact id
theorem ph48_m (hK : ∀ o h r, K o h r → K' o h r) {as : List Value} {H : Hp} {r : Nat} : ph48 as H r K → ph48 as H r K' := by
  unfold ph48
  split
  · repeat (first | exact hK _ _ _ | exact eOr_m hK | exact rB_m hK | exact Fre_m hK | exact fun ⟨k, h1, z⟩ => ⟨k, h1, fun ys hy => hK _ _ _ (z ys hy)⟩ | refine And.imp_right ?_ | refine oL_m fun _ _ => ?_ | refine oM_m fun _ _ => ?_ | refine oQ_m fun _ _ _ => ?_ | refine oI_m fun _ _ _ _ => ?_ | refine oB_m fun _ => ?_ | refine oBL_m fun _ => ?_ | refine oV_m fun _ => ?_ | refine oS_m fun _ _ _ => ?_ | refine oSV_m fun _ => ?_ | refine oE_m fun _ => ?_ | refine gE_m fun _ => ?_)
  · exact id
theorem ph49_m (hK : ∀ o h r, K o h r → K' o h r) {as : List Value} {H : Hp} {r : Nat} : ph49 as H r K → ph49 as H r K' := by
  unfold ph49
  split
  · repeat (first | exact hK _ _ _ | exact eOr_m hK | exact rB_m hK | exact Fre_m hK | exact fun ⟨k, h1, z⟩ => ⟨k, h1, fun ys hy => hK _ _ _ (z ys hy)⟩ | refine And.imp_right ?_ | refine oL_m fun _ _ => ?_ | refine oM_m fun _ _ => ?_ | refine oQ_m fun _ _ _ => ?_ | refine oI_m fun _ _ _ _ => ?_ | refine oB_m fun _ => ?_ | refine oBL_m fun _ => ?_ | refine oV_m fun _ => ?_ | refine oS_m fun _ _ _ => ?_ | refine oSV_m fun _ => ?_ | refine oE_m fun _ => ?_ | refine gE_m fun _ => ?_)
  · exact id
theorem ph50_m (hK : ∀ o h r, K o h r → K' o h r) {as : List Value} {H : Hp} {r : Nat} : ph50 as H r K → ph50 as H r K' := by
  unfold ph50
  split
  · repeat (first | exact hK _ _ _ | exact eOr_m hK | exact rB_m hK | exact Fre_m hK | exact fun ⟨k, h1, z⟩ => ⟨k, h1, fun ys hy => hK _ _ _ (z ys hy)⟩ | refine And.imp_right ?_ | refine oL_m fun _ _ => ?_ | refine oM_m fun _ _ => ?_ | refine oQ_m fun _ _ _ => ?_ | refine oI_m fun _ _ _ _ => ?_ | refine oB_m fun _ => ?_ | refine oBL_m fun _ => ?_ | refine oV_m fun _ => ?_ | refine oS_m fun _ _ _ => ?_ | refine oSV_m fun _ => ?_ | refine oE_m fun _ => ?_ | refine gE_m fun _ => ?_)
  · exact id
theorem ph51_m (hK : ∀ o h r, K o h r → K' o h r) {as : List Value} {H : Hp} {r : Nat} : ph51 as H r K → ph51 as H r K' := by
  unfold ph51
  split
  · repeat (first | exact hK _ _ _ | exact eOr_m hK | exact rB_m hK | exact Fre_m hK | exact fun ⟨k, h1, z⟩ => ⟨k, h1, fun ys hy => hK _ _ _ (z ys hy)⟩ | refine And.imp_right ?_ | refine oL_m fun _ _ => ?_ | refine oM_m fun _ _ => ?_ | refine oQ_m fun _ _ _ => ?_ | refine oI_m fun _ _ _ _ => ?_ | refine oB_m fun _ => ?_ | refine oBL_m fun _ => ?_ | refine oV_m fun _ => ?_ | refine oS_m fun _ _ _ => ?_ | refine oSV_m fun _ => ?_ | refine oE_m fun _ => ?_ | refine gE_m fun _ => ?_)
  · exact id
theorem ph52_m (hK : ∀ o h r, K o h r → K' o h r) {as : List Value} {H : Hp} {r : Nat} : ph52 as H r K → ph52 as H r K' := by
  unfold ph52
  split
  · repeat (first | exact hK _ _ _ | exact eOr_m hK | exact rB_m hK | exact Fre_m hK | exact fun ⟨k, h1, z⟩ => ⟨k, h1, fun ys hy => hK _ _ _ (z ys hy)⟩ | refine And.imp_right ?_ | refine oL_m fun _ _ => ?_ | refine oM_m fun _ _ => ?_ | refine oQ_m fun _ _ _ => ?_ | refine oI_m fun _ _ _ _ => ?_ | refine oB_m fun _ => ?_ | refine oBL_m fun _ => ?_ | refine oV_m fun _ => ?_ | refine oS_m fun _ _ _ => ?_ | refine oSV_m fun _ => ?_ | refine oE_m fun _ => ?_ | refine gE_m fun _ => ?_)
  · exact id
theorem ph53_m (hK : ∀ o h r, K o h r → K' o h r) {as : List Value} {H : Hp} {r : Nat} : ph53 as H r K → ph53 as H r K' := by
  unfold ph53
  split
  · repeat (first | exact hK _ _ _ | exact eOr_m hK | exact rB_m hK | exact Fre_m hK | exact fun ⟨k, h1, z⟩ => ⟨k, h1, fun ys hy => hK _ _ _ (z ys hy)⟩ | refine And.imp_right ?_ | refine oL_m fun _ _ => ?_ | refine oM_m fun _ _ => ?_ | refine oQ_m fun _ _ _ => ?_ | refine oI_m fun _ _ _ _ => ?_ | refine oB_m fun _ => ?_ | refine oBL_m fun _ => ?_ | refine oV_m fun _ => ?_ | refine oS_m fun _ _ _ => ?_ | refine oSV_m fun _ => ?_ | refine oE_m fun _ => ?_ | refine gE_m fun _ => ?_)
  · exact id
theorem ph54_m (hK : ∀ o h r, K o h r → K' o h r) {as : List Value} {H : Hp} {r : Nat} : ph54 as H r K → ph54 as H r K' := by
  unfold ph54
  split
  · repeat (first | exact hK _ _ _ | exact eOr_m hK | exact rB_m hK | exact Fre_m hK | exact fun ⟨k, h1, z⟩ => ⟨k, h1, fun ys hy => hK _ _ _ (z ys hy)⟩ | refine And.imp_right ?_ | refine oL_m fun _ _ => ?_ | refine oM_m fun _ _ => ?_ | refine oQ_m fun _ _ _ => ?_ | refine oI_m fun _ _ _ _ => ?_ | refine oB_m fun _ => ?_ | refine oBL_m fun _ => ?_ | refine oV_m fun _ => ?_ | refine oS_m fun _ _ _ => ?_ | refine oSV_m fun _ => ?_ | refine oE_m fun _ => ?_ | refine gE_m fun _ => ?_)
  · exact id
theorem primH_m (hK : ∀ o h r, K o h r → K' o h r) {p : Nat} {as : List Value} {H : Hp} {r : Nat} : primH p as H r K → primH p as H r K' := by
  unfold primH
  split
  · exact ph1_m hK
  · exact ph10_m hK
  · exact ph11_m hK
  · exact ph12_m hK
  · exact ph13_m hK
  · exact ph14_m hK
  · exact ph15_m hK
  · exact ph16_m hK
  · exact ph17_m hK
  · exact ph18_m hK
  · exact ph19_m hK
  · exact ph20_m hK
  · exact ph21_m hK
  · exact ph22_m hK
  · exact ph23_m hK
  · exact ph24_m hK
  · exact ph25_m hK
  · exact ph26_m hK
  · exact ph27_m hK
  · exact ph28_m hK
  · exact ph29_m hK
  · exact ph30_m hK
  · exact ph31_m hK
  · exact ph32_m hK
  · exact ph33_m hK
  · exact ph34_m hK
  · exact ph35_m hK
  · exact ph36_m hK
  · exact ph37_m hK
  · exact ph38_m hK
  · exact ph39_m hK
  · exact ph40_m hK
  · exact ph41_m hK
  · exact ph42_m hK
  · exact ph43_m hK
  · exact ph44_m hK
  · exact ph45_m hK
  · exact ph46_m hK
  · exact ph47_m hK
  · exact ph48_m hK
  · exact ph49_m hK
  · exact ph50_m hK
  · exact ph51_m hK
  · exact ph52_m hK
  · exact ph53_m hK
  · exact ph54_m hK
  · exact id
end EHM
theorem primH_mono (sv : Nat → Value) (f : Nat → Nat → Nat → Nat → Option Tg) : PMon (f, primH, sv) := fun _ _ _ _ _ _ hK z => primH_m hK z
section EHS
variable {mc : Nat} {xs : List Value} {l : List (Int32 × Value)} {c a i e k s b q : Nat} {x lo hi : Int32} {X : Int64} {v : Value} {H : Hp} {r : Nat} {K : Post} {fs : List Value} {o : Ob} {α : Type} {u : α}
theorem oL_s {P : Nat → List Value → Prop} : oL (some (.inr (19, 0, .retAddr mc :: xs, []))) P = P mc xs := rfl
theorem oM_s {P : Nat → List (Int32 × Value) → Prop} : oM (some (.inr (20, 0, [.retAddr mc], l))) P = P mc l := rfl
theorem zip_fs : ∀ zs : Qz, (zs.map fun z => z.1).zip (zs.map fun z => z.2) = zs
  | [] => rfl
  | z :: zs => by rw [List.map_cons, List.map_cons, List.zip_cons_cons, zip_fs zs]
theorem oQ_s {zs : Qz} {P : Nat → Nat → Qz → Prop} : oQ (some (cQ mc c zs)) P = P mc c zs := by
  show (_ ∧ P mc c _) = _
  rw [zip_fs]
  exact propext ⟨fun z => z.2, fun z => ⟨by rw [List.length_map, List.length_map], z⟩⟩
theorem kdo_Q {zs : Qz} : kdo (some (cQ mc c zs)) = 21 := rfl
theorem oI_s {P : Nat → Nat → Nat → Nat → Prop} : oI k (some (.inr (k, 0, [.ref a, .retAddr i, .retAddr e, .retAddr mc], []))) P = P mc a i e := propext ⟨fun h => h.2, fun h => ⟨rfl, h⟩⟩
theorem oB_s {P : Int32 → Prop} : oB (some (.inr (23, 0, [.int x], []))) P = P x := rfl
theorem oBL_s {P : Int64 → Prop} : oBL (some (.inr (24, 0, [.long X], []))) P = P X := rfl
theorem oV_s {P : Nat → Prop} : oV (some (.inr (26, 0, [.ref a], []))) P = P a := rfl
theorem oS_s {P : Nat → Int32 → Int32 → Prop} : oS (some (.inr (32, 0, [.ref a, .int lo, .int hi], []))) P = P a lo hi := rfl
theorem oSV_s {P : Nat → Prop} : oSV (some (.inr (33, 0, [.ref s], []))) P = P s := rfl
theorem oE_s {P : Value → Prop} : oE (some (.inr (34, 0, [v], []))) P = P v := rfl
theorem gE_s {P : α → Prop} : gE (some u) P = P u := rfl
theorem okE_n : okE H .null = True := rfl
theorem okE_r : okE H (.ref b) = okO (H b) := rfl
theorem okO_l : okO (some (.inl (k, fs))) = (obK k = true) := rfl
theorem unB_n : unB H .null = .null := rfl
theorem unB_r : unB H (.ref q) = unO q (H q) := rfl
theorem unO_l : unO q (some (.inl (k, fs))) = .ref q := rfl
theorem unO_B : unO q (some (.inr (23, 0, [.int x], []))) = .int x := rfl
theorem unO_BL : unO q (some (.inr (24, 0, [.long X], []))) = .long X := rfl
theorem rB_i : rB K (.int x) H r = Fre (cB x) 0 H r K := rfl
theorem rB_l : rB K (.long X) H r = Fre (cBL X) 0 H r K := rfl
theorem rB_r : rB K (.ref q) H r = K (.inl (some (.ref q))) H r := rfl
theorem rB_n : rB K .null H r = K (.inl (some .null)) H r := rfl
theorem eOr_n : eOr none H r K = K (.inl (some .null)) H (r - 1) := rfl
theorem eOr_s {z : Int32 × Value} : eOr (some z) H r K = Fre (cE z.2) 1 H r K := rfl
theorem b2_T {p : Prop} [Decidable p] (hp : p) : b2 p = 1 := if_pos hp
theorem b2_F {p : Prop} [Decidable p] (hp : ¬ p) : b2 p = 0 := if_neg hp
theorem b2_0 {p : Prop} [Decidable p] : (b2 p = 0) = ¬ p := by
  unfold b2
  split
  · next h => exact propext ⟨fun z => absurd z (by decide), fun z => absurd h z⟩
  · next h => exact propext ⟨fun _ => h, fun _ => rfl⟩
theorem b2_1 {p : Prop} [Decidable p] : (b2 p = 1) = p := by
  unfold b2
  split
  · next h => exact propext ⟨fun _ => h, fun _ => rfl⟩
  · next h => exact propext ⟨fun z => absurd z (by decide), fun z => absurd z h⟩
theorem b2_01 {p : Prop} [Decidable p] : (b2 p = 0 ∨ b2 p = 1) = True := by
  rw [b2_0, b2_1]
  exact eq_true ((Classical.em p).symm)
theorem Fre_i {c' : Nat} (q : Nat) (h1 : c' ≤ r) (h2 : H q = none) (h3 : K (.inl (some (.ref q))) (upd_ H q o) (r - c')) : Fre o c' H r K := ⟨h1, q, h2, h3⟩
theorem obK_0 : (obK 0 = true) = True := eq_true rfl
theorem obK_1 : (obK 1 = true) = True := eq_true rfl
theorem obK_2 : (obK 2 = true) = True := eq_true rfl
theorem obK_3 : (obK 3 = true) = True := eq_true rfl
theorem obK_4 : (obK 4 = true) = True := eq_true rfl
theorem obK_5 : (obK 5 = true) = True := eq_true rfl
theorem obK_6 : (obK 6 = true) = True := eq_true rfl
theorem obK_7 : (obK 7 = true) = True := eq_true rfl
theorem obK_8 : (obK 8 = true) = True := eq_true rfl
theorem obK_9 : (obK 9 = true) = True := eq_true rfl
theorem obK_10 : (obK 10 = true) = True := eq_true rfl
theorem obK_11 : (obK 11 = true) = True := eq_true rfl
theorem obK_12 : (obK 12 = true) = True := eq_true rfl
theorem obK_13 : (obK 13 = true) = True := eq_true rfl
theorem obK_14 : (obK 14 = true) = True := eq_true rfl
theorem obK_15 : (obK 15 = true) = True := eq_true rfl
theorem obK_16 : (obK 16 = true) = True := eq_true rfl
theorem obK_17 : (obK 17 = true) = True := eq_true rfl
theorem obK_18 : (obK 18 = true) = True := eq_true rfl
theorem obK_19 : (obK 19 = true) = True := eq_true rfl
theorem obK_20 : (obK 20 = true) = True := eq_true rfl
theorem obK_21 : (obK 21 = true) = True := eq_true rfl
theorem obK_22 : (obK 22 = true) = True := eq_true rfl
theorem obK_23 : (obK 23 = true) = True := eq_true rfl
theorem obK_24 : (obK 24 = true) = True := eq_true rfl
theorem obK_25 : (obK 25 = true) = True := eq_true rfl
theorem obK_26 : (obK 26 = true) = True := eq_true rfl
theorem obK_27 : (obK 27 = true) = True := eq_true rfl
theorem obK_28 : (obK 28 = true) = True := eq_true rfl
theorem obK_29 : (obK 29 = true) = True := eq_true rfl
theorem obK_30 : (obK 30 = true) = True := eq_true rfl
theorem obK_31 : (obK 31 = true) = True := eq_true rfl
theorem obK_32 : (obK 32 = true) = True := eq_true rfl
theorem obK_33 : (obK 33 = true) = True := eq_true rfl
theorem obK_34 : (obK 34 = true) = True := eq_true rfl
theorem obK_900 : (obK 900 = true) = True := eq_true rfl
theorem obK_901 : (obK 901 = true) = True := eq_true rfl
theorem obK_902 : (obK 902 = true) = True := eq_true rfl
theorem obK_903 : (obK 903 = true) = True := eq_true rfl
theorem obK_904 : (obK 904 = true) = True := eq_true rfl
end EHS
