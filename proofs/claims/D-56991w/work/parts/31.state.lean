/-! THE PURE STATE, shared by both sides -/
/-- first, last, kind, vintage, project, holder, lock, frozen, moves -/
abbrev Row : Type := Int32 × Int32 × Int32 × Int32 × Int32 × Int32 × Int32 × Int32 × Int32
def rowV (r : Row) : List Value := [.int r.1, .int r.2.1, .int r.2.2.1, .int r.2.2.2.1, .int r.2.2.2.2.1, .int r.2.2.2.2.2.1, .int r.2.2.2.2.2.2.1, .int r.2.2.2.2.2.2.2.1, .int r.2.2.2.2.2.2.2.2]
/-- benchmark, uncertainty, emissions, activities, used, sum, greatest, reports, last report -/
abbrev Pl : Type := Int32 × Int32 × List (Int32 × Int64) × List (Int32 × Int32) × Int32 × Int64 × Int64 × Int32 × Int32
/-- cash, plant, imported, reversed, carried, years (owed, left, offsets), free, trusted -/
abbrev Acc : Type := Int64 × Option Pl × Int64 × Int64 × Int64 × List (Int32 × Int64 × Int64 × Int64) × Int32 × Int32
/-- number, account, units, price -/
abbrev Bd : Type := Int32 × Nat × Int32 × Int32
/-- from, to, kind, units, state, rows -/
abbrev Tr : Type := Nat × Nat × Int32 × Int32 × Int32 × List (Int32 × Int32 × Int32)
/-- account, baseline, leakage, buffer, additional, verified, times -/
abbrev Pj : Type := Nat × Int32 × Int32 × Int32 × Int32 × Int32 × Int32
/-- own, input, amount -/
abbrev Gd : Type := Int32 × Option Nat × Int32
/-- first, last, holder -/
abbrev En : Type := Int32 × Int32 × Int32
/-- scalars: 0 day, 1 made, 2 offsets, 3 cancelled, 4 capFirst, 5 capLess, 6 lower, 7 upper, 8 out, 9 volume, 10 reserve, 11 price, 12 bidNumber, 13 allowances surrendered, 14 offsets surrendered -/
abbrev Sc : Type := Nat → Int32
def setS (s : Sc) (n : Nat) (x : Int32) : Sc := fun k => if k = n then x else s k
/-- a class' cells -/
def cl (h : Hp) (c : Nat) : Nat → Nat → Option Ob := fun i j => h (ad c i j)
theorem cl_u {h : Hp} {c c' i j : Nat} {o : Ob} (hn : c' ≠ c) : cl (upd_ h (ad c i j) o) c' = cl h c' := funext fun _ => funext fun _ => upd_cl hn
theorem cl_e {P : List Nat} {h h' : Hp} {n n' c : Nat} (e : Ext P h n h' n') (hp : c ∉ P) (h6 : c ≠ 60) : cl h' c = cl h c := funext fun i => funext fun j => e.2.2 c i j hp (fun z => absurd z h6)
abbrev CS : Type := Nat → Nat → Option Ob
def refs (c n : Nat) : List Value := (List.range n).map fun i => .ref (ad c i 0)
def plR (i : Nat) (p : Option Pl) : Value := match p with
  | none => .null
  | some _ => .ref (ad 8 i 0)
def gdR (o : Option Nat) : Value := match o with
  | none => .null
  | some i => .ref (ad 17 i 0)
/-- thrown is apart; the model's first and less are 0 while there's no cap -/
def mFirst (s : Sc) : Int32 := if s 4 = -1 then 0 else s 4
/-- a year's numbers, 24 of them -/
def yrA (f : Nat → Value) : List Value := (List.range 24).map f
def plD (p : Option Pl) : Pl := p.getD (0, 0, [], [], -1, 0, 0, 0, -1)
def lkL (l : List (Int32 × Int64)) (k : Nat) (z : Int64) : Int64 := ((l.find? fun e => decide (e.1 = nI k)).map fun e => e.2).getD z
def lkI (l : List (Int32 × Int32)) (k : Nat) : Int32 := ((l.find? fun e => decide (e.1 = nI k)).map fun e => e.2).getD 0
def lkY (l : List (Int32 × Int64 × Int64 × Int64)) (k : Nat) : Int64 × Int64 × Int64 := ((l.find? fun e => decide (e.1 = nI k)).map fun e => e.2).getD (0, 0, 0)
/-- a bit of 'trusted' -/
def bitI (x : Int32) (k : Nat) : Int32 := (x >>> (nI k &&& 31)) &&& 1
def ixI (o : Option Nat) : Int32 := match o with
  | none => -1
  | some i => nI i
def gX_ (c0 c18 : CS) (s : Sc) : Prop := c0 0 0 = some (.inl (0, [.ref (ad 20 0 0), .ref (ad 21 0 0), .ref (ad 22 0 0), .ref (ad 23 0 0), .ref (ad 24 0 0), .ref (ad 25 0 0), .ref (ad 26 0 0), .int (s 0), .int (s 1), .int (s 2), .int (s 3), .ref (ad 18 0 0), .int (s 4), .int (s 5), .int (s 6), .int (s 7), .int (s 8), .int (s 9), .int (s 10), .int (s 11), .int (s 12)])) ∧ c18 0 0 = some (.inl (900, [.int (s 13), .int (s 14)]))
def gX (h : Hp) (s : Sc) : Prop := gX_ (cl h 0) (cl h 18) s
theorem gX_v {h : Hp} {s : Sc} : gX h s = (h (ad 0 0 0) = some (.inl (0, [.ref (ad 20 0 0), .ref (ad 21 0 0), .ref (ad 22 0 0), .ref (ad 23 0 0), .ref (ad 24 0 0), .ref (ad 25 0 0), .ref (ad 26 0 0), .int (s 0), .int (s 1), .int (s 2), .int (s 3), .ref (ad 18 0 0), .int (s 4), .int (s 5), .int (s 6), .int (s 7), .int (s 8), .int (s 9), .int (s 10), .int (s 11), .int (s 12)])) ∧ h (ad 18 0 0) = some (.inl (900, [.int (s 13), .int (s 14)]))) := rfl
theorem gX_u {h : Hp} {c i' j' : Nat} {o : Ob} {s : Sc} (p0 : c ≠ 0) (p18 : c ≠ 18) : gX (upd_ h (ad c i' j') o) s = gX h s := by
  unfold gX
  rw [cl_u p0.symm, cl_u p18.symm]
theorem gX_e {P : List Nat} {h h' : Hp} {n n' : Nat} {s : Sc} (e : Ext P h n h' n') (pp : ∀ c ∈ [0, 18], c ∉ P) (H : gX h s) : gX h' s := by
  unfold gX at H ⊢
  rw [cl_e e (pp 0 (by decide)) (by decide), cl_e e (pp 18 (by decide)) (by decide)]
  exact H
def gPl_ (c8 c9 : CS) (i : Nat) (p : Option Pl) : Prop := match p with
  | none => c8 i 0 = none ∧ c9 i 0 = none ∧ c9 i 1 = none
  | some (bm, un, em, ac, us, sm, gr, rp, lr) => c8 i 0 = some (.inl (6, [.int bm, .int un, .ref (ad 9 i 0), .ref (ad 9 i 1), .int us, .long sm, .long gr, .int rp, .int lr])) ∧
    (∃ mc, c9 i 0 = some (cM mc (em.map fun e => (e.1, .long e.2)))) ∧ ∃ mc, c9 i 1 = some (cM mc (ac.map fun e => (e.1, .int e.2)))
def gPl (h : Hp) (i : Nat) (p : Option Pl) : Prop := gPl_ (cl h 8) (cl h 9) i p
theorem gPl_v {h : Hp} {i : Nat} {p : Option Pl} : gPl h i p = (match p with
  | none => h (ad 8 i 0) = none ∧ h (ad 9 i 0) = none ∧ h (ad 9 i 1) = none
  | some (bm, un, em, ac, us, sm, gr, rp, lr) => h (ad 8 i 0) = some (.inl (6, [.int bm, .int un, .ref (ad 9 i 0), .ref (ad 9 i 1), .int us, .long sm, .long gr, .int rp, .int lr])) ∧
    (∃ mc, h (ad 9 i 0) = some (cM mc (em.map fun e => (e.1, .long e.2)))) ∧ ∃ mc, h (ad 9 i 1) = some (cM mc (ac.map fun e => (e.1, .int e.2)))) := rfl
theorem gPl_u {h : Hp} {c i' j' : Nat} {o : Ob} {i : Nat} {p : Option Pl} (p8 : c ≠ 8) (p9 : c ≠ 9) : gPl (upd_ h (ad c i' j') o) i p = gPl h i p := by
  unfold gPl
  rw [cl_u p8.symm, cl_u p9.symm]
theorem gPl_e {P : List Nat} {h h' : Hp} {n n' : Nat} {i : Nat} {p : Option Pl} (e : Ext P h n h' n') (pp : ∀ c ∈ [8, 9], c ∉ P) (H : gPl h i p) : gPl h' i p := by
  unfold gPl at H ⊢
  rw [cl_e e (pp 8 (by decide)) (by decide), cl_e e (pp 9 (by decide)) (by decide)]
  exact H
def gYs_ (c6 c7 : CS) (i : Nat) (ys : List (Int32 × Int64 × Int64 × Int64)) : Prop := (∃ mc, c6 i 0 = some (cM mc (ys.map fun y => (y.1, .ref (ad 7 i (ix y.1)))))) ∧ (∀ y ∈ ys, c7 i (ix y.1) = some (.inl (901, [.long y.2.1, .long y.2.2.1, .long y.2.2.2]))) ∧ ∀ x, (∀ y ∈ ys, y.1 ≠ x) → c7 i (ix x) = none
def gYs (h : Hp) (i : Nat) (ys : List (Int32 × Int64 × Int64 × Int64)) : Prop := gYs_ (cl h 6) (cl h 7) i ys
theorem gYs_v {h : Hp} {i : Nat} {ys : List (Int32 × Int64 × Int64 × Int64)} : gYs h i ys = ((∃ mc, h (ad 6 i 0) = some (cM mc (ys.map fun y => (y.1, .ref (ad 7 i (ix y.1)))))) ∧ (∀ y ∈ ys, h (ad 7 i (ix y.1)) = some (.inl (901, [.long y.2.1, .long y.2.2.1, .long y.2.2.2]))) ∧ ∀ x, (∀ y ∈ ys, y.1 ≠ x) → h (ad 7 i (ix x)) = none) := rfl
theorem gYs_u {h : Hp} {c i' j' : Nat} {o : Ob} {i : Nat} {ys : List (Int32 × Int64 × Int64 × Int64)} (p6 : c ≠ 6) (p7 : c ≠ 7) : gYs (upd_ h (ad c i' j') o) i ys = gYs h i ys := by
  unfold gYs
  rw [cl_u p6.symm, cl_u p7.symm]
theorem gYs_e {P : List Nat} {h h' : Hp} {n n' : Nat} {i : Nat} {ys : List (Int32 × Int64 × Int64 × Int64)} (e : Ext P h n h' n') (pp : ∀ c ∈ [6, 7], c ∉ P) (H : gYs h i ys) : gYs h' i ys := by
  unfold gYs at H ⊢
  rw [cl_e e (pp 6 (by decide)) (by decide), cl_e e (pp 7 (by decide)) (by decide)]
  exact H
def gAcc_ (c2 c3 c6 c7 c8 c9 : CS) (i : Nat) (a : Acc) : Prop := c2 i 0 = some (.inl (2, [.int (nI i), .long a.1, plR i a.2.1, .ref (ad 3 i 0), .ref (ad 3 i 1), .ref (ad 3 i 2), .ref (ad 6 i 0), .int a.2.2.2.2.2.2.1, .int a.2.2.2.2.2.2.2])) ∧ c3 i 0 = some (.inl (3, [.long a.2.2.1])) ∧ c3 i 1 = some (.inl (3, [.long a.2.2.2.1])) ∧ c3 i 2 = some (.inl (3, [.long a.2.2.2.2.1])) ∧ gYs_ c6 c7 i a.2.2.2.2.2.1 ∧ gPl_ c8 c9 i a.2.1
def gAcc (h : Hp) (i : Nat) (a : Acc) : Prop := gAcc_ (cl h 2) (cl h 3) (cl h 6) (cl h 7) (cl h 8) (cl h 9) i a
theorem gAcc_v {h : Hp} {i : Nat} {a : Acc} : gAcc h i a = (h (ad 2 i 0) = some (.inl (2, [.int (nI i), .long a.1, plR i a.2.1, .ref (ad 3 i 0), .ref (ad 3 i 1), .ref (ad 3 i 2), .ref (ad 6 i 0), .int a.2.2.2.2.2.2.1, .int a.2.2.2.2.2.2.2])) ∧ h (ad 3 i 0) = some (.inl (3, [.long a.2.2.1])) ∧ h (ad 3 i 1) = some (.inl (3, [.long a.2.2.2.1])) ∧ h (ad 3 i 2) = some (.inl (3, [.long a.2.2.2.2.1])) ∧ gYs h i a.2.2.2.2.2.1 ∧ gPl h i a.2.1) := rfl
theorem gAcc_u {h : Hp} {c i' j' : Nat} {o : Ob} {i : Nat} {a : Acc} (p2 : c ≠ 2) (p3 : c ≠ 3) (p6 : c ≠ 6) (p7 : c ≠ 7) (p8 : c ≠ 8) (p9 : c ≠ 9) : gAcc (upd_ h (ad c i' j') o) i a = gAcc h i a := by
  unfold gAcc
  rw [cl_u p2.symm, cl_u p3.symm, cl_u p6.symm, cl_u p7.symm, cl_u p8.symm, cl_u p9.symm]
theorem gAcc_e {P : List Nat} {h h' : Hp} {n n' : Nat} {i : Nat} {a : Acc} (e : Ext P h n h' n') (pp : ∀ c ∈ [2, 3, 6, 7, 8, 9], c ∉ P) (H : gAcc h i a) : gAcc h' i a := by
  unfold gAcc at H ⊢
  rw [cl_e e (pp 2 (by decide)) (by decide), cl_e e (pp 3 (by decide)) (by decide), cl_e e (pp 6 (by decide)) (by decide), cl_e e (pp 7 (by decide)) (by decide), cl_e e (pp 8 (by decide)) (by decide), cl_e e (pp 9 (by decide)) (by decide)]
  exact H
def gA_ (c20 c2 c3 c6 c7 c8 c9 : CS) (l : List Acc) : Prop := (∃ mc, c20 0 0 = some (cL mc (refs 2 l.length))) ∧ (∀ i a, l[i]? = some a → gAcc_ c2 c3 c6 c7 c8 c9 i a) ∧ ∀ i, l.length ≤ i → c2 i 0 = none ∧ c3 i 0 = none ∧ c3 i 1 = none ∧ c3 i 2 = none ∧ c6 i 0 = none ∧ (∀ j, c7 i j = none) ∧ c8 i 0 = none ∧ c9 i 0 = none ∧ c9 i 1 = none
def gA (h : Hp) (l : List Acc) : Prop := gA_ (cl h 20) (cl h 2) (cl h 3) (cl h 6) (cl h 7) (cl h 8) (cl h 9) l
theorem gA_v {h : Hp} {l : List Acc} : gA h l = ((∃ mc, h (ad 20 0 0) = some (cL mc (refs 2 l.length))) ∧ (∀ i a, l[i]? = some a → gAcc h i a) ∧ ∀ i, l.length ≤ i → h (ad 2 i 0) = none ∧ h (ad 3 i 0) = none ∧ h (ad 3 i 1) = none ∧ h (ad 3 i 2) = none ∧ h (ad 6 i 0) = none ∧ (∀ j, h (ad 7 i j) = none) ∧ h (ad 8 i 0) = none ∧ h (ad 9 i 0) = none ∧ h (ad 9 i 1) = none) := rfl
theorem gA_u {h : Hp} {c i' j' : Nat} {o : Ob} {l : List Acc} (p20 : c ≠ 20) (p2 : c ≠ 2) (p3 : c ≠ 3) (p6 : c ≠ 6) (p7 : c ≠ 7) (p8 : c ≠ 8) (p9 : c ≠ 9) : gA (upd_ h (ad c i' j') o) l = gA h l := by
  unfold gA
  rw [cl_u p20.symm, cl_u p2.symm, cl_u p3.symm, cl_u p6.symm, cl_u p7.symm, cl_u p8.symm, cl_u p9.symm]
theorem gA_e {P : List Nat} {h h' : Hp} {n n' : Nat} {l : List Acc} (e : Ext P h n h' n') (pp : ∀ c ∈ [20, 2, 3, 6, 7, 8, 9], c ∉ P) (H : gA h l) : gA h' l := by
  unfold gA at H ⊢
  rw [cl_e e (pp 20 (by decide)) (by decide), cl_e e (pp 2 (by decide)) (by decide), cl_e e (pp 3 (by decide)) (by decide), cl_e e (pp 6 (by decide)) (by decide), cl_e e (pp 7 (by decide)) (by decide), cl_e e (pp 8 (by decide)) (by decide), cl_e e (pp 9 (by decide)) (by decide)]
  exact H
def gR_ (c21 c10 : CS) (l : List Row) : Prop := (∃ mc, c21 0 0 = some (cM mc (l.map fun r => (r.1, .ref (ad 10 (ix r.1) 0))))) ∧ (∀ r ∈ l, c10 (ix r.1) 0 = some (.inl (7, rowV r))) ∧ ∀ x, (∀ r ∈ l, r.1 ≠ x) → c10 (ix x) 0 = none
def gR (h : Hp) (l : List Row) : Prop := gR_ (cl h 21) (cl h 10) l
theorem gR_v {h : Hp} {l : List Row} : gR h l = ((∃ mc, h (ad 21 0 0) = some (cM mc (l.map fun r => (r.1, .ref (ad 10 (ix r.1) 0))))) ∧ (∀ r ∈ l, h (ad 10 (ix r.1) 0) = some (.inl (7, rowV r))) ∧ ∀ x, (∀ r ∈ l, r.1 ≠ x) → h (ad 10 (ix x) 0) = none) := rfl
theorem gR_u {h : Hp} {c i' j' : Nat} {o : Ob} {l : List Row} (p21 : c ≠ 21) (p10 : c ≠ 10) : gR (upd_ h (ad c i' j') o) l = gR h l := by
  unfold gR
  rw [cl_u p21.symm, cl_u p10.symm]
theorem gR_e {P : List Nat} {h h' : Hp} {n n' : Nat} {l : List Row} (e : Ext P h n h' n') (pp : ∀ c ∈ [21, 10], c ∉ P) (H : gR h l) : gR h' l := by
  unfold gR at H ⊢
  rw [cl_e e (pp 21 (by decide)) (by decide), cl_e e (pp 10 (by decide)) (by decide)]
  exact H
def gJ_ (c22 c11 : CS) (l : List En) : Prop := (∃ mc, c22 0 0 = some (cL mc (refs 11 l.length))) ∧ (∀ i e, l[i]? = some e → c11 i 0 = some (.inl (8, [.int e.1, .int e.2.1, .int e.2.2]))) ∧ ∀ i, l.length ≤ i → c11 i 0 = none
def gJ (h : Hp) (l : List En) : Prop := gJ_ (cl h 22) (cl h 11) l
theorem gJ_v {h : Hp} {l : List En} : gJ h l = ((∃ mc, h (ad 22 0 0) = some (cL mc (refs 11 l.length))) ∧ (∀ i e, l[i]? = some e → h (ad 11 i 0) = some (.inl (8, [.int e.1, .int e.2.1, .int e.2.2]))) ∧ ∀ i, l.length ≤ i → h (ad 11 i 0) = none) := rfl
theorem gJ_u {h : Hp} {c i' j' : Nat} {o : Ob} {l : List En} (p22 : c ≠ 22) (p11 : c ≠ 11) : gJ (upd_ h (ad c i' j') o) l = gJ h l := by
  unfold gJ
  rw [cl_u p22.symm, cl_u p11.symm]
theorem gJ_e {P : List Nat} {h h' : Hp} {n n' : Nat} {l : List En} (e : Ext P h n h' n') (pp : ∀ c ∈ [22, 11], c ∉ P) (H : gJ h l) : gJ h' l := by
  unfold gJ at H ⊢
  rw [cl_e e (pp 22 (by decide)) (by decide), cl_e e (pp 11 (by decide)) (by decide)]
  exact H
def gB_ (c19 c23 c12 : CS) (l : List Bd) (nb : Int32) : Prop := c19 0 0 = some (.inl (1, [])) ∧ (∃ mc zs, c23 0 0 = some (cQ mc (ad 19 0 0) zs) ∧ zs.Perm (l.map fun b => (.ref (ad 12 (ix b.1) 0), b.2.2.2, .int b.1))) ∧ (∀ b ∈ l, c12 (ix b.1) 0 = some (.inl (10, [.int b.1, .ref (ad 2 b.2.1 0), .int b.2.2.1, .int b.2.2.2]))) ∧ ∀ x, nb ≤ x → c12 (ix x) 0 = none
def gB (h : Hp) (l : List Bd) (nb : Int32) : Prop := gB_ (cl h 19) (cl h 23) (cl h 12) l nb
theorem gB_v {h : Hp} {l : List Bd} {nb : Int32} : gB h l nb = (h (ad 19 0 0) = some (.inl (1, [])) ∧ (∃ mc zs, h (ad 23 0 0) = some (cQ mc (ad 19 0 0) zs) ∧ zs.Perm (l.map fun b => (.ref (ad 12 (ix b.1) 0), b.2.2.2, .int b.1))) ∧ (∀ b ∈ l, h (ad 12 (ix b.1) 0) = some (.inl (10, [.int b.1, .ref (ad 2 b.2.1 0), .int b.2.2.1, .int b.2.2.2]))) ∧ ∀ x, nb ≤ x → h (ad 12 (ix x) 0) = none) := rfl
theorem gB_u {h : Hp} {c i' j' : Nat} {o : Ob} {l : List Bd} {nb : Int32} (p19 : c ≠ 19) (p23 : c ≠ 23) (p12 : c ≠ 12) : gB (upd_ h (ad c i' j') o) l nb = gB h l nb := by
  unfold gB
  rw [cl_u p19.symm, cl_u p23.symm, cl_u p12.symm]
theorem gB_e {P : List Nat} {h h' : Hp} {n n' : Nat} {l : List Bd} {nb : Int32} (e : Ext P h n h' n') (pp : ∀ c ∈ [19, 23, 12], c ∉ P) (H : gB h l nb) : gB h' l nb := by
  unfold gB at H ⊢
  rw [cl_e e (pp 19 (by decide)) (by decide), cl_e e (pp 23 (by decide)) (by decide), cl_e e (pp 12 (by decide)) (by decide)]
  exact H
def gT_ (c24 c13 c14 c15 : CS) (l : List Tr) : Prop := (∃ mc, c24 0 0 = some (cL mc (refs 13 l.length))) ∧ (∀ i t, l[i]? = some t → c13 i 0 = some (.inl (12, [.ref (ad 2 t.1 0), .ref (ad 2 t.2.1 0), .int t.2.2.1, .int t.2.2.2.1, .int t.2.2.2.2.1, .ref (ad 14 i 0)])) ∧ (∃ mc, c14 i 0 = some (cL mc ((List.range t.2.2.2.2.2.length).map fun j => .ref (ad 15 i j)))) ∧ (∀ j x, t.2.2.2.2.2[j]? = some x → c15 i j = some (.inl (900, [.int x.1, .int x.2.1, .int x.2.2]))) ∧ ∀ j, t.2.2.2.2.2.length ≤ j → c15 i j = none) ∧ ∀ i, l.length ≤ i → c13 i 0 = none ∧ c14 i 0 = none ∧ ∀ j, c15 i j = none
def gT (h : Hp) (l : List Tr) : Prop := gT_ (cl h 24) (cl h 13) (cl h 14) (cl h 15) l
theorem gT_v {h : Hp} {l : List Tr} : gT h l = ((∃ mc, h (ad 24 0 0) = some (cL mc (refs 13 l.length))) ∧ (∀ i t, l[i]? = some t → h (ad 13 i 0) = some (.inl (12, [.ref (ad 2 t.1 0), .ref (ad 2 t.2.1 0), .int t.2.2.1, .int t.2.2.2.1, .int t.2.2.2.2.1, .ref (ad 14 i 0)])) ∧ (∃ mc, h (ad 14 i 0) = some (cL mc ((List.range t.2.2.2.2.2.length).map fun j => .ref (ad 15 i j)))) ∧ (∀ j x, t.2.2.2.2.2[j]? = some x → h (ad 15 i j) = some (.inl (900, [.int x.1, .int x.2.1, .int x.2.2]))) ∧ ∀ j, t.2.2.2.2.2.length ≤ j → h (ad 15 i j) = none) ∧ ∀ i, l.length ≤ i → h (ad 13 i 0) = none ∧ h (ad 14 i 0) = none ∧ ∀ j, h (ad 15 i j) = none) := rfl
theorem gT_u {h : Hp} {c i' j' : Nat} {o : Ob} {l : List Tr} (p24 : c ≠ 24) (p13 : c ≠ 13) (p14 : c ≠ 14) (p15 : c ≠ 15) : gT (upd_ h (ad c i' j') o) l = gT h l := by
  unfold gT
  rw [cl_u p24.symm, cl_u p13.symm, cl_u p14.symm, cl_u p15.symm]
theorem gT_e {P : List Nat} {h h' : Hp} {n n' : Nat} {l : List Tr} (e : Ext P h n h' n') (pp : ∀ c ∈ [24, 13, 14, 15], c ∉ P) (H : gT h l) : gT h' l := by
  unfold gT at H ⊢
  rw [cl_e e (pp 24 (by decide)) (by decide), cl_e e (pp 13 (by decide)) (by decide), cl_e e (pp 14 (by decide)) (by decide), cl_e e (pp 15 (by decide)) (by decide)]
  exact H
def gP_ (c25 c16 : CS) (l : List Pj) : Prop := (∃ mc, c25 0 0 = some (cL mc (refs 16 l.length))) ∧ (∀ i p, l[i]? = some p → c16 i 0 = some (.inl (15, [.ref (ad 2 p.1 0), .int p.2.1, .int p.2.2.1, .int p.2.2.2.1, .int p.2.2.2.2.1, .int p.2.2.2.2.2.1, .int p.2.2.2.2.2.2]))) ∧ ∀ i, l.length ≤ i → c16 i 0 = none
def gP (h : Hp) (l : List Pj) : Prop := gP_ (cl h 25) (cl h 16) l
theorem gP_v {h : Hp} {l : List Pj} : gP h l = ((∃ mc, h (ad 25 0 0) = some (cL mc (refs 16 l.length))) ∧ (∀ i p, l[i]? = some p → h (ad 16 i 0) = some (.inl (15, [.ref (ad 2 p.1 0), .int p.2.1, .int p.2.2.1, .int p.2.2.2.1, .int p.2.2.2.2.1, .int p.2.2.2.2.2.1, .int p.2.2.2.2.2.2]))) ∧ ∀ i, l.length ≤ i → h (ad 16 i 0) = none) := rfl
theorem gP_u {h : Hp} {c i' j' : Nat} {o : Ob} {l : List Pj} (p25 : c ≠ 25) (p16 : c ≠ 16) : gP (upd_ h (ad c i' j') o) l = gP h l := by
  unfold gP
  rw [cl_u p25.symm, cl_u p16.symm]
theorem gP_e {P : List Nat} {h h' : Hp} {n n' : Nat} {l : List Pj} (e : Ext P h n h' n') (pp : ∀ c ∈ [25, 16], c ∉ P) (H : gP h l) : gP h' l := by
  unfold gP at H ⊢
  rw [cl_e e (pp 25 (by decide)) (by decide), cl_e e (pp 16 (by decide)) (by decide)]
  exact H
def gG_ (c26 c17 : CS) (l : List Gd) : Prop := (∃ mc, c26 0 0 = some (cL mc (refs 17 l.length))) ∧ (∀ i g, l[i]? = some g → c17 i 0 = some (.inl (17, [.int g.1, gdR g.2.1, .int g.2.2]))) ∧ ∀ i, l.length ≤ i → c17 i 0 = none
def gG (h : Hp) (l : List Gd) : Prop := gG_ (cl h 26) (cl h 17) l
theorem gG_v {h : Hp} {l : List Gd} : gG h l = ((∃ mc, h (ad 26 0 0) = some (cL mc (refs 17 l.length))) ∧ (∀ i g, l[i]? = some g → h (ad 17 i 0) = some (.inl (17, [.int g.1, gdR g.2.1, .int g.2.2]))) ∧ ∀ i, l.length ≤ i → h (ad 17 i 0) = none) := rfl
theorem gG_u {h : Hp} {c i' j' : Nat} {o : Ob} {l : List Gd} (p26 : c ≠ 26) (p17 : c ≠ 17) : gG (upd_ h (ad c i' j') o) l = gG h l := by
  unfold gG
  rw [cl_u p26.symm, cl_u p17.symm]
theorem gG_e {P : List Nat} {h h' : Hp} {n n' : Nat} {l : List Gd} (e : Ext P h n h' n') (pp : ∀ c ∈ [26, 17], c ∉ P) (H : gG h l) : gG h' l := by
  unfold gG at H ⊢
  rw [cl_e e (pp 26 (by decide)) (by decide), cl_e e (pp 17 (by decide)) (by decide)]
  exact H
def nM_ (c30 : CS) (s : Sc) (th en : Int32) : Prop := c30 0 0 = some (.inl (4, [.ref (ad 50 0 0), .ref (ad 51 0 0), .ref (ad 52 0 0), .ref (ad 53 0 0), .ref (ad 54 0 0), .ref (ad 55 0 0), .int th, .int (s 0), .int (mFirst s), .int (s 5), .int (s 6), .int (s 7), .int (s 8), .int (s 9), .int (s 10), .int (s 11), .int (s 1), .int (s 3), .int en, .int (s 13), .int (s 14), .int (s 2), .int (b2 (s 4 ≠ -1))]))
def nM (h : Hp) (s : Sc) (th en : Int32) : Prop := nM_ (cl h 30) s th en
theorem nM_v {h : Hp} {s : Sc} {th en : Int32} : nM h s th en = (h (ad 30 0 0) = some (.inl (4, [.ref (ad 50 0 0), .ref (ad 51 0 0), .ref (ad 52 0 0), .ref (ad 53 0 0), .ref (ad 54 0 0), .ref (ad 55 0 0), .int th, .int (s 0), .int (mFirst s), .int (s 5), .int (s 6), .int (s 7), .int (s 8), .int (s 9), .int (s 10), .int (s 11), .int (s 1), .int (s 3), .int en, .int (s 13), .int (s 14), .int (s 2), .int (b2 (s 4 ≠ -1))]))) := rfl
theorem nM_u {h : Hp} {c i' j' : Nat} {o : Ob} {s : Sc} {th en : Int32} (p30 : c ≠ 30) : nM (upd_ h (ad c i' j') o) s th en = nM h s th en := by
  unfold nM
  rw [cl_u p30.symm]
theorem nM_e {P : List Nat} {h h' : Hp} {n n' : Nat} {s : Sc} {th en : Int32} (e : Ext P h n h' n') (pp : ∀ c ∈ [30], c ∉ P) (H : nM h s th en) : nM h' s th en := by
  unfold nM at H ⊢
  rw [cl_e e (pp 30 (by decide)) (by decide)]
  exact H
def nAcc_ (c32 c33 : CS) (i : Nat) (a : Acc) : Prop := c32 i 0 = some (.inl (5, [.long a.1, .int (b2 (a.2.1.isSome = true)), .int (plD a.2.1).1, .int (plD a.2.1).2.1, .long (plD a.2.1).2.2.2.2.2.1, .long (plD a.2.1).2.2.2.2.2.2.1, .int (plD a.2.1).2.2.2.2.2.2.2.1, .int (plD a.2.1).2.2.2.2.2.2.2.2, .int (plD a.2.1).2.2.2.2.1, .int a.2.2.2.2.2.2.1, .long a.2.2.1, .long a.2.2.2.1, .long a.2.2.2.2.1, .ref (ad 33 i 0), .ref (ad 33 i 1), .ref (ad 33 i 2), .ref (ad 33 i 3), .ref (ad 33 i 4), .ref (ad 33 i 5)])) ∧ c33 i 0 = some (.inl (900, yrA fun k => .int (lkI (plD a.2.1).2.2.2.1 k))) ∧ c33 i 1 = some (.inl (901, yrA fun k => .long (lkL (plD a.2.1).2.2.1 k (-1)))) ∧ c33 i 2 = some (.inl (901, yrA fun k => .long (lkY a.2.2.2.2.2.1 k).1)) ∧ c33 i 3 = some (.inl (901, yrA fun k => .long (lkY a.2.2.2.2.2.1 k).2.1)) ∧ c33 i 4 = some (.inl (901, yrA fun k => .long (lkY a.2.2.2.2.2.1 k).2.2)) ∧ c33 i 5 = some (.inl (902, (List.range 10).map fun k => .int (bitI a.2.2.2.2.2.2.2 k)))
def nAcc (h : Hp) (i : Nat) (a : Acc) : Prop := nAcc_ (cl h 32) (cl h 33) i a
theorem nAcc_v {h : Hp} {i : Nat} {a : Acc} : nAcc h i a = (h (ad 32 i 0) = some (.inl (5, [.long a.1, .int (b2 (a.2.1.isSome = true)), .int (plD a.2.1).1, .int (plD a.2.1).2.1, .long (plD a.2.1).2.2.2.2.2.1, .long (plD a.2.1).2.2.2.2.2.2.1, .int (plD a.2.1).2.2.2.2.2.2.2.1, .int (plD a.2.1).2.2.2.2.2.2.2.2, .int (plD a.2.1).2.2.2.2.1, .int a.2.2.2.2.2.2.1, .long a.2.2.1, .long a.2.2.2.1, .long a.2.2.2.2.1, .ref (ad 33 i 0), .ref (ad 33 i 1), .ref (ad 33 i 2), .ref (ad 33 i 3), .ref (ad 33 i 4), .ref (ad 33 i 5)])) ∧ h (ad 33 i 0) = some (.inl (900, yrA fun k => .int (lkI (plD a.2.1).2.2.2.1 k))) ∧ h (ad 33 i 1) = some (.inl (901, yrA fun k => .long (lkL (plD a.2.1).2.2.1 k (-1)))) ∧ h (ad 33 i 2) = some (.inl (901, yrA fun k => .long (lkY a.2.2.2.2.2.1 k).1)) ∧ h (ad 33 i 3) = some (.inl (901, yrA fun k => .long (lkY a.2.2.2.2.2.1 k).2.1)) ∧ h (ad 33 i 4) = some (.inl (901, yrA fun k => .long (lkY a.2.2.2.2.2.1 k).2.2)) ∧ h (ad 33 i 5) = some (.inl (902, (List.range 10).map fun k => .int (bitI a.2.2.2.2.2.2.2 k)))) := rfl
theorem nAcc_u {h : Hp} {c i' j' : Nat} {o : Ob} {i : Nat} {a : Acc} (p32 : c ≠ 32) (p33 : c ≠ 33) : nAcc (upd_ h (ad c i' j') o) i a = nAcc h i a := by
  unfold nAcc
  rw [cl_u p32.symm, cl_u p33.symm]
theorem nAcc_e {P : List Nat} {h h' : Hp} {n n' : Nat} {i : Nat} {a : Acc} (e : Ext P h n h' n') (pp : ∀ c ∈ [32, 33], c ∉ P) (H : nAcc h i a) : nAcc h' i a := by
  unfold nAcc at H ⊢
  rw [cl_e e (pp 32 (by decide)) (by decide), cl_e e (pp 33 (by decide)) (by decide)]
  exact H
def nA_ (c50 c32 c33 : CS) (l : List Acc) : Prop := (∃ mc, c50 0 0 = some (cL mc (refs 32 l.length))) ∧ (∀ i a, l[i]? = some a → nAcc_ c32 c33 i a) ∧ ∀ i, l.length ≤ i → c32 i 0 = none ∧ ∀ j, c33 i j = none
def nA (h : Hp) (l : List Acc) : Prop := nA_ (cl h 50) (cl h 32) (cl h 33) l
theorem nA_v {h : Hp} {l : List Acc} : nA h l = ((∃ mc, h (ad 50 0 0) = some (cL mc (refs 32 l.length))) ∧ (∀ i a, l[i]? = some a → nAcc h i a) ∧ ∀ i, l.length ≤ i → h (ad 32 i 0) = none ∧ ∀ j, h (ad 33 i j) = none) := rfl
theorem nA_u {h : Hp} {c i' j' : Nat} {o : Ob} {l : List Acc} (p50 : c ≠ 50) (p32 : c ≠ 32) (p33 : c ≠ 33) : nA (upd_ h (ad c i' j') o) l = nA h l := by
  unfold nA
  rw [cl_u p50.symm, cl_u p32.symm, cl_u p33.symm]
theorem nA_e {P : List Nat} {h h' : Hp} {n n' : Nat} {l : List Acc} (e : Ext P h n h' n') (pp : ∀ c ∈ [50, 32, 33], c ∉ P) (H : nA h l) : nA h' l := by
  unfold nA at H ⊢
  rw [cl_e e (pp 50 (by decide)) (by decide), cl_e e (pp 32 (by decide)) (by decide), cl_e e (pp 33 (by decide)) (by decide)]
  exact H
def nR_ (c51 c40 : CS) (l : List Row) : Prop := (∃ mc, c51 0 0 = some (cL mc (l.map fun r => .ref (ad 40 (ix r.1) 0)))) ∧ (∀ r ∈ l, c40 (ix r.1) 0 = some (.inl (9, rowV r))) ∧ ∀ x, (∀ r ∈ l, r.1 ≠ x) → c40 (ix x) 0 = none
def nR (h : Hp) (l : List Row) : Prop := nR_ (cl h 51) (cl h 40) l
theorem nR_v {h : Hp} {l : List Row} : nR h l = ((∃ mc, h (ad 51 0 0) = some (cL mc (l.map fun r => .ref (ad 40 (ix r.1) 0)))) ∧ (∀ r ∈ l, h (ad 40 (ix r.1) 0) = some (.inl (9, rowV r))) ∧ ∀ x, (∀ r ∈ l, r.1 ≠ x) → h (ad 40 (ix x) 0) = none) := rfl
theorem nR_u {h : Hp} {c i' j' : Nat} {o : Ob} {l : List Row} (p51 : c ≠ 51) (p40 : c ≠ 40) : nR (upd_ h (ad c i' j') o) l = nR h l := by
  unfold nR
  rw [cl_u p51.symm, cl_u p40.symm]
theorem nR_e {P : List Nat} {h h' : Hp} {n n' : Nat} {l : List Row} (e : Ext P h n h' n') (pp : ∀ c ∈ [51, 40], c ∉ P) (H : nR h l) : nR h' l := by
  unfold nR at H ⊢
  rw [cl_e e (pp 51 (by decide)) (by decide), cl_e e (pp 40 (by decide)) (by decide)]
  exact H
def nB_ (c52 c42 : CS) (l : List Bd) (nb : Int32) : Prop := (∃ mc, c52 0 0 = some (cL mc (l.map fun b => .ref (ad 42 (ix b.1) 0)))) ∧ (∀ b ∈ l, c42 (ix b.1) 0 = some (.inl (11, [.int (nI b.2.1), .int b.2.2.1, .int b.2.2.2]))) ∧ ∀ x, nb ≤ x → c42 (ix x) 0 = none
def nB (h : Hp) (l : List Bd) (nb : Int32) : Prop := nB_ (cl h 52) (cl h 42) l nb
theorem nB_v {h : Hp} {l : List Bd} {nb : Int32} : nB h l nb = ((∃ mc, h (ad 52 0 0) = some (cL mc (l.map fun b => .ref (ad 42 (ix b.1) 0)))) ∧ (∀ b ∈ l, h (ad 42 (ix b.1) 0) = some (.inl (11, [.int (nI b.2.1), .int b.2.2.1, .int b.2.2.2]))) ∧ ∀ x, nb ≤ x → h (ad 42 (ix x) 0) = none) := rfl
theorem nB_u {h : Hp} {c i' j' : Nat} {o : Ob} {l : List Bd} {nb : Int32} (p52 : c ≠ 52) (p42 : c ≠ 42) : nB (upd_ h (ad c i' j') o) l nb = nB h l nb := by
  unfold nB
  rw [cl_u p52.symm, cl_u p42.symm]
theorem nB_e {P : List Nat} {h h' : Hp} {n n' : Nat} {l : List Bd} {nb : Int32} (e : Ext P h n h' n') (pp : ∀ c ∈ [52, 42], c ∉ P) (H : nB h l nb) : nB h' l nb := by
  unfold nB at H ⊢
  rw [cl_e e (pp 52 (by decide)) (by decide), cl_e e (pp 42 (by decide)) (by decide)]
  exact H
def nT_ (c53 c43 c44 c45 : CS) (l : List Tr) : Prop := (∃ mc, c53 0 0 = some (cL mc (refs 43 l.length))) ∧ (∀ i t, l[i]? = some t → c43 i 0 = some (.inl (14, [.int (nI t.1), .int (nI t.2.1), .int t.2.2.1, .int t.2.2.2.1, .int t.2.2.2.2.1, .ref (ad 44 i 0)])) ∧ (∃ mc, c44 i 0 = some (cL mc ((List.range t.2.2.2.2.2.length).map fun j => .ref (ad 45 i j)))) ∧ (∀ j x, t.2.2.2.2.2[j]? = some x → c45 i j = some (.inl (900, [.int x.1, .int x.2.1, .int x.2.2]))) ∧ ∀ j, t.2.2.2.2.2.length ≤ j → c45 i j = none) ∧ ∀ i, l.length ≤ i → c43 i 0 = none ∧ c44 i 0 = none ∧ ∀ j, c45 i j = none
def nT (h : Hp) (l : List Tr) : Prop := nT_ (cl h 53) (cl h 43) (cl h 44) (cl h 45) l
theorem nT_v {h : Hp} {l : List Tr} : nT h l = ((∃ mc, h (ad 53 0 0) = some (cL mc (refs 43 l.length))) ∧ (∀ i t, l[i]? = some t → h (ad 43 i 0) = some (.inl (14, [.int (nI t.1), .int (nI t.2.1), .int t.2.2.1, .int t.2.2.2.1, .int t.2.2.2.2.1, .ref (ad 44 i 0)])) ∧ (∃ mc, h (ad 44 i 0) = some (cL mc ((List.range t.2.2.2.2.2.length).map fun j => .ref (ad 45 i j)))) ∧ (∀ j x, t.2.2.2.2.2[j]? = some x → h (ad 45 i j) = some (.inl (900, [.int x.1, .int x.2.1, .int x.2.2]))) ∧ ∀ j, t.2.2.2.2.2.length ≤ j → h (ad 45 i j) = none) ∧ ∀ i, l.length ≤ i → h (ad 43 i 0) = none ∧ h (ad 44 i 0) = none ∧ ∀ j, h (ad 45 i j) = none) := rfl
theorem nT_u {h : Hp} {c i' j' : Nat} {o : Ob} {l : List Tr} (p53 : c ≠ 53) (p43 : c ≠ 43) (p44 : c ≠ 44) (p45 : c ≠ 45) : nT (upd_ h (ad c i' j') o) l = nT h l := by
  unfold nT
  rw [cl_u p53.symm, cl_u p43.symm, cl_u p44.symm, cl_u p45.symm]
theorem nT_e {P : List Nat} {h h' : Hp} {n n' : Nat} {l : List Tr} (e : Ext P h n h' n') (pp : ∀ c ∈ [53, 43, 44, 45], c ∉ P) (H : nT h l) : nT h' l := by
  unfold nT at H ⊢
  rw [cl_e e (pp 53 (by decide)) (by decide), cl_e e (pp 43 (by decide)) (by decide), cl_e e (pp 44 (by decide)) (by decide), cl_e e (pp 45 (by decide)) (by decide)]
  exact H
def nP_ (c54 c46 : CS) (l : List Pj) : Prop := (∃ mc, c54 0 0 = some (cL mc (refs 46 l.length))) ∧ (∀ i p, l[i]? = some p → c46 i 0 = some (.inl (16, [.int (nI p.1), .int p.2.1, .int p.2.2.1, .int p.2.2.2.1, .int p.2.2.2.2.1, .int p.2.2.2.2.2.2, .int p.2.2.2.2.2.1]))) ∧ ∀ i, l.length ≤ i → c46 i 0 = none
def nP (h : Hp) (l : List Pj) : Prop := nP_ (cl h 54) (cl h 46) l
theorem nP_v {h : Hp} {l : List Pj} : nP h l = ((∃ mc, h (ad 54 0 0) = some (cL mc (refs 46 l.length))) ∧ (∀ i p, l[i]? = some p → h (ad 46 i 0) = some (.inl (16, [.int (nI p.1), .int p.2.1, .int p.2.2.1, .int p.2.2.2.1, .int p.2.2.2.2.1, .int p.2.2.2.2.2.2, .int p.2.2.2.2.2.1]))) ∧ ∀ i, l.length ≤ i → h (ad 46 i 0) = none) := rfl
theorem nP_u {h : Hp} {c i' j' : Nat} {o : Ob} {l : List Pj} (p54 : c ≠ 54) (p46 : c ≠ 46) : nP (upd_ h (ad c i' j') o) l = nP h l := by
  unfold nP
  rw [cl_u p54.symm, cl_u p46.symm]
theorem nP_e {P : List Nat} {h h' : Hp} {n n' : Nat} {l : List Pj} (e : Ext P h n h' n') (pp : ∀ c ∈ [54, 46], c ∉ P) (H : nP h l) : nP h' l := by
  unfold nP at H ⊢
  rw [cl_e e (pp 54 (by decide)) (by decide), cl_e e (pp 46 (by decide)) (by decide)]
  exact H
def nG_ (c55 c47 : CS) (l : List Gd) : Prop := (∃ mc, c55 0 0 = some (cL mc (refs 47 l.length))) ∧ (∀ i g, l[i]? = some g → c47 i 0 = some (.inl (18, [.int g.1, .int (ixI g.2.1), .int g.2.2]))) ∧ ∀ i, l.length ≤ i → c47 i 0 = none
def nG (h : Hp) (l : List Gd) : Prop := nG_ (cl h 55) (cl h 47) l
theorem nG_v {h : Hp} {l : List Gd} : nG h l = ((∃ mc, h (ad 55 0 0) = some (cL mc (refs 47 l.length))) ∧ (∀ i g, l[i]? = some g → h (ad 47 i 0) = some (.inl (18, [.int g.1, .int (ixI g.2.1), .int g.2.2]))) ∧ ∀ i, l.length ≤ i → h (ad 47 i 0) = none) := rfl
theorem nG_u {h : Hp} {c i' j' : Nat} {o : Ob} {l : List Gd} (p55 : c ≠ 55) (p47 : c ≠ 47) : nG (upd_ h (ad c i' j') o) l = nG h l := by
  unfold nG
  rw [cl_u p55.symm, cl_u p47.symm]
theorem nG_e {P : List Nat} {h h' : Hp} {n n' : Nat} {l : List Gd} (e : Ext P h n h' n') (pp : ∀ c ∈ [55, 47], c ∉ P) (H : nG h l) : nG h' l := by
  unfold nG at H ⊢
  rw [cl_e e (pp 55 (by decide)) (by decide), cl_e e (pp 47 (by decide)) (by decide)]
  exact H
