/-! CONTAINERS AT THE LOW LEVEL, and the relation of the levels -/
def bxI (h : Hp) (q : Nat) (x : Int32) : Prop := h q = some (.inl (23, [.int x])) ∨ h q = some (.inl (35, [.int x]))
def bxL (h : Hp) (q : Nat) (x : Int64) : Prop := h q = some (.inl (24, [.long x])) ∨ h q = some (.inl (36, [.long x]))
/-- kinds that are never changed -/
def imK (k : Nat) : Bool := decide (k = 23 ∨ k = 24 ∨ k = 26 ∨ k = 28 ∨ k = 33 ∨ k = 34 ∨ k = 35 ∨ k = 36 ∨ 911 ≤ k)
/-- an ArrayList at q: its elements, its cells, modCount, capacity -/
def LiL (sv : Nat → Value) (h : Hp) (q : Nat) (xs : List Value) (F : Nat → Prop) (m : Int32) (cap : Nat) : Prop := ∃ b : Nat, h q = some (.inl (19, [.int m, .ref b, .int (nI xs.length)])) ∧ cap ≤ 300000 ∧ F q ∧ (cap = 0 ∨ 10 ≤ cap) ∧
  ((xs = [] ∧ cap = 0 ∧ sv 0 = .ref b ∧ h b = some (.inl (914, [])) ∧ ∀ z, F z → z = q) ∨ (xs.length ≤ cap ∧ h b = some (.inl (904, xs ++ List.replicate (cap - xs.length) .null)) ∧ q ≠ b ∧ F b ∧ ∀ z, F z → z = q ∨ z = b))
/-- entries of a map, in order: address, key, value -/
abbrev Es : Type := List (Nat × Int32 × Value)
def TrL (h : Hp) : Nat → Value → Value → Es → Prop
  | 0, p, _, es => p = .null ∧ es = []
  | n + 1, p, par, es => (p = .null ∧ es = []) ∨ ∃ (a : Nat) (k : Int32) (v l r : Value) (c : Int32) (kb : Nat) (es1 es2 : Es), p = .ref a ∧ es = es1 ++ (a, k, v) :: es2 ∧ h a = some (.inl (25, [.ref kb, v, l, r, par, .int c])) ∧ bxI h kb k ∧ isR v = true ∧ TrL h n l (.ref a) es1 ∧ TrL h n r (.ref a) es2
def srt (es : Es) : Prop := es.Pairwise fun x y => x.2.1 < y.2.1
/-- a TreeMap at q: its entries, its cells, modCount, root -/
def MaL (h : Hp) (q : Nat) (es : Es) (F : Nat → Prop) (m : Int32) (root : Value) : Prop := ∃ vals, h q = some (.inl (20, [.null, vals, .null, root, .int (nI es.length), .int m, .null, .null, .null])) ∧ (vals = .null ∨ ∃ v, vals = .ref v ∧ h v = some (.inl (26, [.ref q]))) ∧ (∃ n, TrL h n root .null es) ∧ (es.map fun e => e.1).Nodup ∧ srt es ∧ es.length ≤ bigN ∧ ∀ z, F z ↔ z = q ∨ z ∈ es.map fun e => e.1
/-- a heap order on the queue's array: a place's parent isn't behind it -/
def hpO (ks : List (Int32 × Value)) : Prop := ∀ (i : Nat) (x y : Int32 × Value), 0 < i → ks[i]? = some x → ks[(i - 1) / 2]? = some y → ¬ ltK x y
def QuL (h : Hp) (q c : Nat) (xs : List Value) (F : Nat → Prop) (m : Int32) (cap : Nat) : Prop := ∃ b : Nat, h q = some (.inl (21, [.ref b, .int (nI xs.length), .ref c, .int m])) ∧ 11 ≤ cap ∧ cap ≤ 24 ∧ xs.length ≤ 12 ∧ xs.length ≤ cap ∧ h b = some (.inl (904, xs ++ List.replicate (cap - xs.length) .null)) ∧ q ≠ b ∧ ∀ z, F z ↔ z = q ∨ z = b
/-- a value in a map's cell and at the low level -/
def VR (ρ : Nat → Nat) (h : Hp) (u w : Value) : Prop := match u with
  | .int x => ∃ b, w = .ref b ∧ bxI h b x
  | .long x => ∃ b, w = .ref b ∧ bxL h b x
  | u => w = ren ρ u
def VRs (ρ : Nat → Nat) (h : Hp) (l : List (Int32 × Value)) (es : Es) : Prop := es.length = l.length ∧ ∀ (i : Nat) (x : Int32 × Value) (e : Nat × Int32 × Value), l[i]? = some x → es[i]? = some e → e.2.1 = x.1 ∧ VR ρ h x.2 e.2.2
def adr (es : Es) (i : Nat) : Value := match es[i]? with
  | some e => .ref e.1
  | none => .null
/-- version of a container's cell -/
def ver (o : Option Ob) : Option Nat := match o with
  | some (.inr (_, _, .retAddr v :: _, _)) => some v
  | _ => none
/-- an iterator's claim: as long as the container's version is the iterator's -/
def itV (H : Hp) (a v : Nat) (P : Prop) : Prop := ∃ w, ver (H a) = some w ∧ v ≤ w ∧ (v = w → P)
/-- the low cells of a high cell -/
def Con (sv : Nat → Value) (ρ : Nat → Nat) (H h : Hp) (F : Nat → Nat → Prop) (φ : Nat → Nat) (a : Nat) (o : Ob) : Prop := match o with
  | .inl (k, fs) => h (ρ a) = some (.inl (k, rens ρ fs)) ∧ k ≠ 32 ∧ ∀ z, F a z ↔ z = ρ a
  | .inr (19, _, .retAddr _ :: xs, []) => ∃ m cap, LiL sv h (ρ a) (rens ρ xs) (F a) m cap ∧ 6 * xs.length ≤ 3 * φ a + 4 * cap ∧ 3 ≤ φ a + cap
  | .inr (20, _, [.retAddr _], l) => ∃ es m root, MaL h (ρ a) es (F a) m root ∧ VRs ρ h l es
  | .inr (21, _, .retAddr _ :: .ref c :: xs, ks) => (∃ m cap, QuL h (ρ a) (ρ c) (rens ρ xs) (F a) m cap) ∧ xs.length = ks.length ∧ hpO ks
  | .inr (22, _, [.ref b, .retAddr i, .retAddr _, .retAddr v], []) => (∀ z, F a z ↔ z = ρ a) ∧ ∃ l m, h (ρ a) = some (.inl (22, [.int (nI i), l, .int m, .ref (ρ b)])) ∧ itV H b v (F b (ρ b) ∧ ∃ fs, h (ρ b) = some (.inl (19, .int m :: fs)))
  | .inr (30, _, [.ref b, .retAddr i, .retAddr _, .retAddr v], []) => (∀ z, F a z ↔ z = ρ a) ∧ ∃ l u m, h (ρ a) = some (.inl (30, [.int (nI i), l, .null, u, .int m, .ref (ρ b)])) ∧ itV H b v (F b (ρ b) ∧ ∃ x y z, h (ρ b) = some (.inl (21, [x, y, z, .int m])))
  | .inr (31, _, [.ref b, .retAddr i, .retAddr e, .retAddr v], []) => (∀ z, F a z ↔ z = ρ a) ∧ ∃ p l m, h (ρ a) = some (.inl (31, [p, l, .int m, .ref (ρ b)])) ∧ itV H b v (∃ es root, MaL h (ρ b) es (F b) m root ∧ e = es.length ∧ i ≤ e ∧ p = adr es i)
  | .inr (27, _, [.ref b, .retAddr i, .retAddr e, .retAddr v], []) => ∃ (j s2 : Nat) (x : Value), h (ρ a) = some (.inl (27, [.ref j, x])) ∧ j ≠ ρ a ∧ (∀ z, F a z ↔ z = ρ a ∨ z = j) ∧ ∃ p l fk m, h j = some (.inl (29, [l, p, fk, .int m, .ref s2])) ∧ (∃ fs, h s2 = some (.inl (32, .ref (ρ b) :: fs))) ∧ itV H b v (∃ es root, MaL h (ρ b) es (F b) m root ∧ e ≤ es.length ∧ i ≤ e ∧ p = adr es i ∧ (match es[e]? with
    | some x => ∃ fs kb, h x.1 = some (.inl (25, .ref kb :: fs)) ∧ fk = .ref kb
    | none => ∃ u, fk = .ref u ∧ sv 4 = .ref u))
  | .inr (23, _, [.int x], []) => bxI h (ρ a) x ∧ ∀ z, ¬ F a z
  | .inr (24, _, [.long x], []) => bxL h (ρ a) x ∧ ∀ z, ¬ F a z
  | .inr (26, _, [.ref b], []) => h (ρ a) = some (.inl (26, [.ref (ρ b)])) ∧ ∀ z, ¬ F a z
  | .inr (32, _, [.ref b, .int lo, .int hi], []) => (∀ z, F a z ↔ z = ρ a) ∧ ∃ (k1 k2 : Nat) (esv vals : Value), bxI h k1 lo ∧ bxI h k2 hi ∧ h (ρ a) = some (.inl (32, [.ref (ρ b), .ref k1, .ref k2, .int 0, .int 0, .int 1, .int 0, .null, esv, .null, .null, vals])) ∧ (esv = .null ∨ ∃ w x y, esv = .ref w ∧ h w = some (.inl (28, [x, y, .ref (ρ a), .ref (ρ a)]))) ∧ (vals = .null ∨ ∃ w, vals = .ref w ∧ h w = some (.inl (33, [.ref (ρ a)])))
  | .inr (33, _, [.ref b], []) => h (ρ a) = some (.inl (33, [.ref (ρ b)])) ∧ ∀ z, ¬ F a z
  | .inr (34, _, [v], []) => (∃ kb w, h (ρ a) = some (.inl (34, [kb, w])) ∧ VR ρ h v w) ∧ ∀ z, ¬ F a z
  | .inr (9997, _) => ∀ z, ¬ F a z
  | _ => False
