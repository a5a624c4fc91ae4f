/-! WALKING: equations of a step, for rewriting. 'frz' keeps a pc from being walked on. -/
def frz (n : Nat) : Nat := n
/-- a branch -/
def Br (c : Prop) (A B : Prop) : Prop := (c → A) ∧ (¬c → B)
theorem Br_i {c A B : Prop} (h1 : c → A) (h2 : ¬c → B) : Br c A B := ⟨h1, h2⟩
theorem Br_ite {c : Prop} [Decidable c] {E : Evn} {M : MD} {pc t f : Nat} {L S : List Value} {h : Hp} {r d : Nat} {Q : Post} : Do1 E (Wp E) M pc h r d Q (if c then sGo t L S else sGo f L S) = Br c (Wp E M t L S h r d Q) (Wp E M f L S h r d Q) := by
  refine propext ⟨fun H => ?_, fun H => ?_⟩
  · by_cases hc : c
    · rw [if_pos hc] at H; exact ⟨fun _ => H, fun h => absurd hc h⟩
    · rw [if_neg hc] at H; exact ⟨fun h => absurd h hc, fun _ => H⟩
  · by_cases hc : c
    · rw [if_pos hc]; exact H.1 hc
    · rw [if_neg hc]; exact H.2 hc
theorem Br_T {E : Evn} {M : MD} {t : Nat} {L S : List Value} {h : Hp} {r d : Nat} {Q : Post} {B : Prop} : Br True (Wp E M (frz t) L S h r d Q) B = Wp E M t L S h r d Q := propext ⟨fun H => H.1 trivial, fun H => ⟨fun _ => H, fun h => absurd trivial h⟩⟩
theorem Br_F {E : Evn} {M : MD} {t : Nat} {L S : List Value} {h : Hp} {r d : Nat} {Q : Post} {A : Prop} : Br False A (Wp E M (frz t) L S h r d Q) = Wp E M t L S h r d Q := propext ⟨fun H => H.2 id, fun H => ⟨fun h => h.elim, fun _ => H⟩⟩
theorem Br_not {c A B : Prop} : Br (¬c) A B = Br c B A := propext ⟨fun H => ⟨fun h => H.2 (fun g => g h), fun h => H.1 h⟩, fun H => ⟨fun h => H.2 h, fun h => H.1 (Classical.byContradiction h)⟩⟩
theorem Br_congr {c c' A B : Prop} (h : c = c') : Br c A B = Br c' A B := by rw [h]
def c2 (v : Value) : Value := if cat2 v = true then uV else v
theorem c2_int {x : Int32} : c2 (.int x) = .int x := rfl
theorem c2_ref {a : Nat} : c2 (.ref a) = .ref a := rfl
theorem c2_null : c2 .null = .null := rfl
theorem c2_u {a : Nat} : c2 (.retAddr a) = .retAddr a := rfl
theorem c2_long {x : Int64} : c2 (.long x) = uV := rfl
theorem c2_dbl {x : UInt64} : c2 (.double x) = uV := rfl
theorem c2_flt {x : UInt32} : c2 (.float x) = .float x := rfl
theorem isR_ref {a : Nat} : (isR (.ref a) = true) = True := eq_true rfl
theorem isR_null : (isR .null = true) = True := eq_true rfl
theorem isI_int {x : Int32} : (isI (.int x) = true) = True := eq_true rfl
theorem isL_long {x : Int64} : (isL (.long x) = true) = True := eq_true rfl
theorem isD_dbl {x : UInt64} : (isD (.double x) = true) = True := eq_true rfl
theorem isF_flt {x : UInt32} : (isF (.float x) = true) = True := eq_true rfl
theorem c2_R {v : Value} (h : isR v = true) : c2 v = v := by
  cases v <;> first | rfl | cases h
/-- a field read -/
def GF (E : Evn) (M : MD) (o : Option Ob) (k n nx : Nat) (L S : List Value) (h : Hp) (r d : Nat) (Q : Post) : Prop := match o with
  | some (.inl x) => x.1 = k ∧ (match x.2[n]? with
    | some v => Wp E M nx L (v :: S) h r d Q
    | none => False)
  | _ => False
def GV (E : Evn) (M : MD) (o : Option Value) (nx : Nat) (L S : List Value) (h : Hp) (r d : Nat) (Q : Post) : Prop := match o with
  | some v => Wp E M nx L (v :: S) h r d Q
  | none => False
theorem GF_some {E : Evn} {M : MD} {fs : List Value} {k n nx : Nat} {L S : List Value} {h : Hp} {r d : Nat} {Q : Post} : GF E M (some (.inl (k, fs))) k n nx L S h r d Q = GV E M (fs[n]?) nx L S h r d Q := propext ⟨fun H => H.2, fun H => ⟨rfl, H⟩⟩
theorem GV_some {E : Evn} {M : MD} {v : Value} {nx : Nat} {L S : List Value} {h : Hp} {r d : Nat} {Q : Post} : GV E M (some v) nx L S h r d Q = Wp E M nx L (v :: S) h r d Q := rfl
/-- a field read, any kind that has it -/
def GG (E : Evn) (M : MD) (o : Option Ob) (f nx : Nat) (L S : List Value) (h : Hp) (r d : Nat) (Q : Post) : Prop := match o with
  | some (.inl x) => (match (fix x.1).idxOf? f with
    | some n => (match x.2[n]? with
      | some v => Wp E M nx L (v :: S) h r d Q
      | none => False)
    | none => False)
  | _ => False
/-- a field write -/
def PF (E : Evn) (M : MD) (o : Option Ob) (k n : Nat) (t : FieldType) (a : Nat) (v : Value) (nx : Nat) (L S : List Value) (h : Hp) (r d : Nat) (Q : Post) : Prop := match o with
  | some (.inl x) => x.1 = k ∧ n < x.2.length ∧ fits t v = true ∧ Wp E M nx L S (upd_ h a (.inl (k, x.2.set n v))) r d Q
  | _ => False
theorem PF_some {E : Evn} {M : MD} {fs : List Value} {k n : Nat} {t : FieldType} {a : Nat} {v : Value} {nx : Nat} {L S : List Value} {h : Hp} {r d : Nat} {Q : Post} : PF E M (some (.inl (k, fs))) k n t a v nx L S h r d Q = (n < fs.length ∧ fits t v = true ∧ Wp E M nx L S (upd_ h a (.inl (k, fs.set n v))) r d Q) := propext ⟨fun H => H.2, fun H => ⟨rfl, H⟩⟩
theorem ft_int {x : Int32} : (fits .int (.int x) = true) = True := eq_true rfl
theorem ft_long {x : Int64} : (fits .long (.long x) = true) = True := eq_true rfl
theorem ft_ref {n : String} {a : Nat} : (fits (.object n) (.ref a) = true) = True := eq_true rfl
theorem ft_null {n : String} : (fits (.object n) .null = true) = True := eq_true rfl
theorem ft_aref {t : FieldType} {a : Nat} : (fits (.array t) (.ref a) = true) = True := eq_true rfl
theorem ft_anull {t : FieldType} : (fits (.array t) .null = true) = True := eq_true rfl
theorem ft_R {n : String} {v : Value} (h : isR v = true) : (fits (.object n) v = true) = True := by
  cases v <;> first | rfl | exact eq_true rfl | cases h
/-- an array's read, write, length -/
def AG (E : Evn) (M : MD) (o : Option Ob) (b : Nat) (c : Value → Bool) (i : Int32) (nx : Nat) (L S : List Value) (h : Hp) (r d : Nat) (Q : Post) : Prop := match o with
  | some (.inl x) => arrIs x.1 b = true ∧ ¬ i < 0 ∧ (match x.2[i.toNatClampNeg]? with
    | some v => c v = true ∧ Wp E M nx L (v :: S) h r d Q
    | none => False)
  | _ => False
theorem AG_i {E : Evn} {M : MD} {k : Nat} {fs : List Value} {b : Nat} {c : Value → Bool} {i : Int32} {nx : Nat} {L S : List Value} {h : Hp} {r d : Nat} {Q : Post} {v : Value} (h1 : arrIs k b = true) (h2 : ¬ i < 0) (h3 : fs[i.toNatClampNeg]? = some v) (h4 : c v = true) (H : Wp E M nx L (v :: S) h r d Q) : AG E M (some (.inl (k, fs))) b c i nx L S h r d Q := by
  refine ⟨h1, h2, ?_⟩
  dsimp only
  rw [h3]
  exact ⟨h4, H⟩
def AP (E : Evn) (M : MD) (o : Option Ob) (b : Nat) (c : Value → Bool) (a : Nat) (i : Int32) (v : Value) (nx : Nat) (L S : List Value) (h : Hp) (r d : Nat) (Q : Post) : Prop := match o with
  | some (.inl x) => x.1 = b ∧ ¬ i < 0 ∧ i.toNatClampNeg < x.2.length ∧ c v = true ∧ Wp E M nx L S (upd_ h a (.inl (b, x.2.set i.toNatClampNeg v))) r d Q
  | _ => False
theorem AP_some {E : Evn} {M : MD} {fs : List Value} {b : Nat} {c : Value → Bool} {a : Nat} {i : Int32} {v : Value} {nx : Nat} {L S : List Value} {h : Hp} {r d : Nat} {Q : Post} : AP E M (some (.inl (b, fs))) b c a i v nx L S h r d Q = (¬ i < 0 ∧ i.toNatClampNeg < fs.length ∧ c v = true ∧ Wp E M nx L S (upd_ h a (.inl (b, fs.set i.toNatClampNeg v))) r d Q) := propext ⟨fun H => H.2, fun H => ⟨rfl, H⟩⟩
def AL (E : Evn) (M : MD) (o : Option Ob) (nx : Nat) (L S : List Value) (h : Hp) (r d : Nat) (Q : Post) : Prop := match o with
  | some (.inl x) => 900 ≤ x.1 ∧ Wp E M nx L (.int (nI x.2.length) :: S) h r d Q
  | _ => False
theorem AL_some {E : Evn} {M : MD} {fs : List Value} {k nx : Nat} {L S : List Value} {h : Hp} {r d : Nat} {Q : Post} : AL E M (some (.inl (k, fs))) nx L S h r d Q = (900 ≤ k ∧ Wp E M nx L (.int (nI fs.length) :: S) h r d Q) := rfl
/-- a new cell -/
def Nw (E : Evn) (M : MD) (k : Nat) (fs : List Value) (nx : Nat) (L S : List Value) (h : Hp) (r d : Nat) (Q : Post) : Prop := cst fs.length ≤ r ∧ ∀ q : Nat, h q = none → E.2.2 4 ≠ .ref q → Wp E M nx L (.ref q :: S) (upd_ h q (.inl (k, fs))) (r - cst fs.length) d Q
theorem Nw_i {E : Evn} {M : MD} {k : Nat} {fs : List Value} {nx : Nat} {L S : List Value} {h : Hp} {r d : Nat} {Q : Post} (n : Nat) (hn : cst fs.length = n) (h1 : n ≤ r) (H : ∀ q : Nat, h q = none → E.2.2 4 ≠ .ref q → Wp E M nx L (.ref q :: S) (upd_ h q (.inl (k, fs))) (r - n) d Q) : Nw E M k fs nx L S h r d Q := by
  subst hn; exact ⟨h1, H⟩
/-- a cast -/
def CC (E : Evn) (M : MD) (o : Option Ob) (ow j a nx : Nat) (L S : List Value) (h : Hp) (r d : Nat) (Q : Post) : Prop := match o with
  | some o => cok ow j (kd o) = true ∧ Wp E M nx L (.ref a :: S) h r d Q
  | none => False
theorem CC_some {E : Evn} {M : MD} {o : Ob} {ow j a nx : Nat} {L S : List Value} {h : Hp} {r d : Nat} {Q : Post} : CC E M (some o) ow j a nx L S h r d Q = (cok ow j (kd o) = true ∧ Wp E M nx L (.ref a :: S) h r d Q) := rfl
theorem kd_l {x : Nat × List Value} : kd (.inl x) = x.1 := rfl
theorem kd_r {x : Nat × Int32 × List Value × List (Int32 × Value)} : kd (.inr x) = x.1 := rfl
/-- calls -/
def Cl (E : Evn) (M : MD) (t : Option Tg) (as : List Value) (pc nx : Nat) (L S : List Value) (h : Hp) (r d : Nat) (Q : Post) : Prop := catS S ≤ 8 ∧ (match t with
  | some t => Run E (Wp E) t as h r d (Aft (Wp E) M pc nx L S d Q)
  | none => False)
theorem Cl_some {E : Evn} {M : MD} {t : Tg} {as : List Value} {pc nx : Nat} {L S : List Value} {h : Hp} {r d : Nat} {Q : Post} : Cl E M (some t) as pc nx L S h r d Q = (catS S ≤ 8 ∧ Run E (Wp E) t as h r d (Aft (Wp E) M pc nx L S d Q)) := rfl
def kdo (o : Option Ob) : Nat := match o with
  | some o => kd o
  | none => 9999
theorem kdo_l {x : Nat × List Value} : kdo (some (.inl x)) = x.1 := rfl
theorem kdo_r {x : Nat × Int32 × List Value × List (Int32 × Value)} : kdo (some (.inr x)) = x.1 := rfl
theorem Aft_v {E : Evn} {M : MD} {pc nx : Nat} {L S : List Value} {d : Nat} {Q : Post} {v : Value} {h : Hp} {r : Nat} : Aft (Wp E) M pc nx L S d Q (.inl (some v)) h r = Wp E M nx L (v :: S) h r d Q := rfl
theorem Aft_n {E : Evn} {M : MD} {pc nx : Nat} {L S : List Value} {d : Nat} {Q : Post} {h : Hp} {r : Nat} : Aft (Wp E) M pc nx L S d Q (.inl none) h r = Wp E M nx L S h r d Q := rfl
theorem Aft_x {E : Evn} {M : MD} {pc nx : Nat} {L S : List Value} {d : Nat} {Q : Post} {e : Nat} {h : Hp} {r : Nat} (hM : M.2.2.2.2.2 = []) : Aft (Wp E) M pc nx L S d Q (.inr e) h r = Q (.inr e) h r := by
  show Thr (Wp E) M pc L d Q e h r = _
  unfold Thr hnd
  rw [hM]
  exact propext ⟨fun H => H.2, fun H => ⟨rfl, H⟩⟩
theorem catS_n : catS [] = 0 := rfl
theorem catS_i {x : Int32} {S : List Value} : catS (.int x :: S) = catS S + 1 := by simp [catS, Value.category]; omega
theorem catS_r {x : Nat} {S : List Value} : catS (.ref x :: S) = catS S + 1 := by simp [catS, Value.category]; omega
theorem catS_0 {S : List Value} : catS (.null :: S) = catS S + 1 := by simp [catS, Value.category]; omega
theorem catS_l {x : Int64} {S : List Value} : catS (.long x :: S) = catS S + 2 := by simp [catS, Value.category]; omega
theorem catS_R {v : Value} {S : List Value} (h : isR v = true) : catS (v :: S) = catS S + 1 := by
  cases v <;> first | exact catS_0 | exact catS_r | cases h
theorem Run_i {E : Evn} {N : MD} {as : List Value} {h : Hp} {r d : Nat} {K : Post} (hH : N.2.2.2.2.2 = []) (h1 : (entL as).length ≤ N.2.2.2.1) (H : Wp E N 0 (ent N.2.2.2.1 as) [] h r d K) : Run E (Wp E) (.inl N) as h r (d + 1) K := ⟨h1, K, H, Or.inl hH, fun _ _ _ z => z⟩
theorem Run_eq {E : Evn} (hE : PMon E) {N : MD} {as : List Value} {h : Hp} {r d : Nat} {K : Post} (hH : N.2.2.2.2.2 = []) : Run E (Wp E) (.inl N) as h r (d + 1) K = ((entL as).length ≤ N.2.2.2.1 ∧ Wp E N 0 (ent N.2.2.2.1 as) [] h r d K) := propext ⟨fun ⟨h1, R, h2, _, h3⟩ => ⟨h1, Wp_mono hE h3 h2⟩, fun ⟨h1, h2⟩ => Run_i hH h1 h2⟩
/-! generic steps -/
section WK
variable {E : Evn} {M : MD} {pc nx tg len : Nat} {i : Instr} {L S : List Value} {h : Hp} {r d : Nat} {Q : Post}
theorem g_go (hE : PMon E) (hd : decode M.2.2.1 pc = .ok (i, len)) (hl : len = ilen i ∨ ilen i = 0) (h0 : 0 ≤ (pc : Int) + ioff i) (hn : pc + len = nx) (ht : tgt_ pc (ioff i) = tg) {p : Nat} {L' S' : List Value} (hs : stI E.2.2 (rdO h) M pc nx tg L S i = sGo p L' S') : Wp E M pc L S h r d Q = Wp E M p L' S' h r d Q := by
  rw [Wp_at hE hd hl h0 hn ht, hs]; rfl
theorem g_if (hE : PMon E) (hd : decode M.2.2.1 pc = .ok (i, len)) (hl : len = ilen i ∨ ilen i = 0) (h0 : 0 ≤ (pc : Int) + ioff i) (hn : pc + len = nx) (ht : tgt_ pc (ioff i) = tg) {p : Nat} {L' S' : List Value} {c : Prop} [Decidable c] (hs : stI E.2.2 (rdO h) M pc nx tg L S i = if c then sGo p L' S' else none) : Wp E M pc L S h r d Q = (c ∧ Wp E M p L' S' h r d Q) := by
  rw [Wp_at hE hd hl h0 hn ht, hs]
  by_cases hc : c
  · rw [if_pos hc]; exact propext ⟨fun H => ⟨hc, H⟩, fun H => H.2⟩
  · rw [if_neg hc]; exact propext ⟨fun H => H.elim, fun H => absurd H.1 hc⟩
theorem g_br (hE : PMon E) (hd : decode M.2.2.1 pc = .ok (i, len)) (hl : len = ilen i ∨ ilen i = 0) (h0 : 0 ≤ (pc : Int) + ioff i) (hn : pc + len = nx) (ht : tgt_ pc (ioff i) = tg) {t f : Nat} {L' S' : List Value} {c c' : Prop} [Decidable c] (hs : stI E.2.2 (rdO h) M pc nx tg L S i = if c then sGo t L' S' else sGo f L' S') (hc : c = c') : Wp E M pc L S h r d Q = Br c' (Wp E M t L' S' h r d Q) (Wp E M f L' S' h r d Q) := by
  rw [Wp_at hE hd hl h0 hn ht, hs, Br_ite, hc]
theorem g_brn (hE : PMon E) (hd : decode M.2.2.1 pc = .ok (i, len)) (hl : len = ilen i ∨ ilen i = 0) (h0 : 0 ≤ (pc : Int) + ioff i) (hn : pc + len = nx) (ht : tgt_ pc (ioff i) = tg) {t f : Nat} {L' S' : List Value} {c c' : Prop} [Decidable c] (hs : stI E.2.2 (rdO h) M pc nx tg L S i = if c then sGo t L' S' else sGo f L' S') (hc : c = ¬c') : Wp E M pc L S h r d Q = Br c' (Wp E M f L' S' h r d Q) (Wp E M t L' S' h r d Q) := by
  rw [Wp_at hE hd hl h0 hn ht, hs, Br_ite, hc, Br_not]
theorem ci_eq {x y : Int32} : (brI .eq x y = true) = (x = y) := propext decide_eq_true_iff
theorem ci_ne {x y : Int32} : (brI .ne x y = true) = ¬(x = y) := by simp [brI]
theorem ci_lt {x y : Int32} : (brI .lt x y = true) = (x < y) := propext decide_eq_true_iff
theorem ci_ge {x y : Int32} : (brI .ge x y = true) = ¬(x < y) := by simp [brI, Int32.not_lt]
theorem ci_gt {x y : Int32} : (brI .gt x y = true) = (y < x) := propext decide_eq_true_iff
theorem ci_le {x y : Int32} : (brI .le x y = true) = ¬(y < x) := by simp [brI, Int32.not_lt]
end WK
theorem cat2_i {x : Int32} : cat2 (.int x) = false := rfl
theorem cat2_r {x : Nat} : cat2 (.ref x) = false := rfl
theorem cat2_n : cat2 .null = false := rfl
theorem cat2_l {x : Int64} : cat2 (.long x) = true := rfl
theorem cat2_R {v : Value} (h : isR v = true) : cat2 v = false := by
  cases v <;> first | rfl | cases h
def obO (o : Option Ob) : Bool := match o with
  | some (.inl x) => obK x.1
  | _ => false
section WK2
variable {E : Evn} {M : MD} {pc nx tg len : Nat} {i : Instr} {L S : List Value} {h : Hp} {r d : Nat} {Q : Post}
theorem g_ifn (hE : PMon E) (hd : decode M.2.2.1 pc = .ok (i, len)) (hl : len = ilen i ∨ ilen i = 0) (h0 : 0 ≤ (pc : Int) + ioff i) (hn : pc + len = nx) (ht : tgt_ pc (ioff i) = tg) {p : Nat} {L' S' : List Value} {c : Prop} [Decidable c] (hs : stI E.2.2 (rdO h) M pc nx tg L S i = if c then none else sGo p L' S') : Wp E M pc L S h r d Q = (¬c ∧ Wp E M p L' S' h r d Q) := by
  rw [Wp_at hE hd hl h0 hn ht, hs]
  by_cases hc : c
  · rw [if_pos hc]; exact propext ⟨fun H => H.elim, fun H => absurd hc H.1⟩
  · rw [if_neg hc]; exact propext ⟨fun H => ⟨hc, H⟩, fun H => H.2⟩
theorem g_ifo (hE : PMon E) (hd : decode M.2.2.1 pc = .ok (i, len)) (hl : len = ilen i ∨ ilen i = 0) (h0 : 0 ≤ (pc : Int) + ioff i) (hn : pc + len = nx) (ht : tgt_ pc (ioff i) = tg) {p : Nat} {L' S' : List Value} {c : Prop} [Decidable c] (hs : stI E.2.2 (rdO h) M pc nx tg L S i = if c then none else sGo p L' S') : Wp E M pc L S h r d Q = (¬c ∧ Wp E M p L' S' h r d Q) := g_ifn hE hd hl h0 hn ht hs
theorem g_ifc (hE : PMon E) (hd : decode M.2.2.1 pc = .ok (i, len)) (hl : len = ilen i ∨ ilen i = 0) (h0 : 0 ≤ (pc : Int) + ioff i) (hn : pc + len = nx) (ht : tgt_ pc (ioff i) = tg) {p : Nat} {L' S' : List Value} {b : Bool} (hs : stI E.2.2 (rdO h) M pc nx tg L S i = if b = true then none else sGo p L' S') : Wp E M pc L S h r d Q = (b = false ∧ Wp E M p L' S' h r d Q) := by
  rw [g_ifn hE hd hl h0 hn ht hs]
  cases b <;> simp
theorem g_acne (hE : PMon E) (hd : decode M.2.2.1 pc = .ok (i, len)) (hl : len = ilen i ∨ ilen i = 0) (h0 : 0 ≤ (pc : Int) + ioff i) (hn : pc + len = nx) (ht : tgt_ pc (ioff i) = tg) {x y : Value} {t f : Nat} {L' S' : List Value} (hs : stI E.2.2 (rdO h) M pc nx tg L S i = if isR x = true ∧ isR y = true then (if (x = y) ↔ (ACond.ne = ACond.eq) then sGo t L' S' else sGo f L' S') else none) : Wp E M pc L S h r d Q = (isR x = true ∧ isR y = true ∧ Br (x = y) (Wp E M f L' S' h r d Q) (Wp E M t L' S' h r d Q)) := by
  rw [Wp_at hE hd hl h0 hn ht, hs]
  by_cases hc : isR x = true ∧ isR y = true
  · rw [if_pos hc, Br_ite, Br_congr (show ((x = y) ↔ (ACond.ne = ACond.eq)) = ¬(x = y) from by simp), Br_not]
    exact propext ⟨fun H => ⟨hc.1, hc.2, H⟩, fun H => H.2.2⟩
  · rw [if_neg hc]; exact propext ⟨fun H => H.elim, fun H => absurd ⟨H.1, H.2.1⟩ hc⟩
theorem g_aceq (hE : PMon E) (hd : decode M.2.2.1 pc = .ok (i, len)) (hl : len = ilen i ∨ ilen i = 0) (h0 : 0 ≤ (pc : Int) + ioff i) (hn : pc + len = nx) (ht : tgt_ pc (ioff i) = tg) {x y : Value} {t f : Nat} {L' S' : List Value} (hs : stI E.2.2 (rdO h) M pc nx tg L S i = if isR x = true ∧ isR y = true then (if (x = y) ↔ (ACond.eq = ACond.eq) then sGo t L' S' else sGo f L' S') else none) : Wp E M pc L S h r d Q = (isR x = true ∧ isR y = true ∧ Br (x = y) (Wp E M t L' S' h r d Q) (Wp E M f L' S' h r d Q)) := by
  rw [Wp_at hE hd hl h0 hn ht, hs]
  by_cases hc : isR x = true ∧ isR y = true
  · rw [if_pos hc, Br_ite, Br_congr (show ((x = y) ↔ (ACond.eq = ACond.eq)) = (x = y) from by simp)]
    exact propext ⟨fun H => ⟨hc.1, hc.2, H⟩, fun H => H.2.2⟩
  · rw [if_neg hc]; exact propext ⟨fun H => H.elim, fun H => absurd ⟨H.1, H.2.1⟩ hc⟩
theorem g_gf {j o f K n a : Nat} (hE : PMon E) (hd : decode M.2.2.1 pc = .ok (.getfield j, len)) (hl : len = ilen (.getfield j) ∨ ilen (.getfield j) = 0) (h0 : 0 ≤ (pc : Int) + ioff (.getfield j)) (hn : pc + len = nx) (ht : tgt_ pc (ioff (.getfield j)) = tg) (hM : M.1 = o) (hF : (pF o).lookup j = some f) (hx : ∀ k, (fix k).idxOf? f = if k = K then some n else none) : Wp E M pc L (.ref a :: S) h r d Q = GF E M (h a) K n nx L S h r d Q := by
  subst hM
  rw [Wp_at hE hd hl h0 hn ht]
  simp only [stI, hF, rdO]
  unfold GF
  cases h a with
  | none => rfl
  | some o =>
    cases o with
    | inr c => rfl
    | inl x =>
      obtain ⟨k, fs⟩ := x
      dsimp only
      rw [hx]
      by_cases hk : k = K
      · rw [if_pos hk]
        dsimp only
        cases fs[n]? with
        | none => exact propext ⟨fun H => H.elim, fun H => H.2.elim⟩
        | some v => exact propext ⟨fun H => ⟨hk, H⟩, fun H => H.2⟩
      · rw [if_neg hk]
        exact propext ⟨fun H => H.elim, fun H => absurd H.1 hk⟩
theorem g_gg {j o f a : Nat} (hE : PMon E) (hd : decode M.2.2.1 pc = .ok (.getfield j, len)) (hl : len = ilen (.getfield j) ∨ ilen (.getfield j) = 0) (h0 : 0 ≤ (pc : Int) + ioff (.getfield j)) (hn : pc + len = nx) (ht : tgt_ pc (ioff (.getfield j)) = tg) (hM : M.1 = o) (hF : (pF o).lookup j = some f) : Wp E M pc L (.ref a :: S) h r d Q = GG E M (h a) f nx L S h r d Q := by
  subst hM
  rw [Wp_at hE hd hl h0 hn ht]
  simp only [stI, hF, rdO]
  unfold GG
  cases h a with
  | none => rfl
  | some o =>
    cases o with
    | inr c => rfl
    | inl x =>
      obtain ⟨k, fs⟩ := x
      dsimp only
      cases (fix k).idxOf? f with
      | none => rfl
      | some n =>
        dsimp only
        cases fs[n]? <;> rfl
theorem g_pf0 {j o f K n a : Nat} {v : Value} {t : FieldType} (hE : PMon E) (hd : decode M.2.2.1 pc = .ok (.putfield j, len)) (hl : len = ilen (.putfield j) ∨ ilen (.putfield j) = 0) (h0 : 0 ≤ (pc : Int) + ioff (.putfield j)) (hn : pc + len = nx) (ht : tgt_ pc (ioff (.putfield j)) = tg) (hM : M.1 = o) (hF : (pF o).lookup j = some f) (hx1 : (fix K).idxOf? f = some n) (hx2 : ∀ k, k ≠ K → (fix k).idxOf? f ≠ none → wrK k = false) (hw : wrK K = true) (hf : fty f = t) (hi : fin f = true → M.2.1.name = "<init>" ∧ fow f = M.1) : Wp E M pc L (v :: .ref a :: S) h r d Q = PF E M (h a) K n t a v nx L S h r d Q := by
  subst hM
  subst hf
  rw [Wp_at hE hd hl h0 hn ht]
  simp only [stI, hF, rdO]
  unfold PF
  cases h a with
  | none => rfl
  | some o =>
    cases o with
    | inr c => rfl
    | inl x =>
      obtain ⟨k, fs⟩ := x
      dsimp only
      by_cases hk : k = K
      · subst hk
        rw [hx1]
        dsimp only
        by_cases hc : n < fs.length ∧ fits (fty f) v = true
        · rw [if_pos ⟨hw, hc.1, hc.2, hi⟩]
          exact propext ⟨fun H => ⟨rfl, hc.1, hc.2, H⟩, fun H => H.2.2.2⟩
        · rw [if_neg (fun z => hc ⟨z.2.1, z.2.2.1⟩)]
          exact propext ⟨fun H => H.elim, fun H => absurd ⟨H.2.1, H.2.2.1⟩ hc⟩
      · have h2 := hx2 k hk
        cases hz : (fix k).idxOf? f with
        | none => exact propext ⟨fun H => H.elim, fun H => absurd H.1 hk⟩
        | some m =>
          have h3 := h2 (by rw [hz]; exact fun z => by cases z)
          dsimp only
          rw [if_neg (fun z => by rw [h3] at z; cases z.1)]
          exact propext ⟨fun H => H.elim, fun H => absurd H.1 hk⟩
theorem g_pf {j o f K n a : Nat} {v : Value} {t : FieldType} (hE : PMon E) (hd : decode M.2.2.1 pc = .ok (.putfield j, len)) (hl : len = ilen (.putfield j) ∨ ilen (.putfield j) = 0) (h0 : 0 ≤ (pc : Int) + ioff (.putfield j)) (hn : pc + len = nx) (ht : tgt_ pc (ioff (.putfield j)) = tg) (hM : M.1 = o) (hF : (pF o).lookup j = some f) (hx : ∀ k, (fix k).idxOf? f = if k = K then some n else none) (hw : wrK K = true) (hf : fty f = t) (hi : fin f = true → M.2.1.name = "<init>" ∧ fow f = M.1) : Wp E M pc L (v :: .ref a :: S) h r d Q = PF E M (h a) K n t a v nx L S h r d Q :=
  g_pf0 hE hd hl h0 hn ht hM hF (by rw [hx, if_pos rfl]) (fun k hk hz => absurd (by rw [hx, if_neg hk]) hz) hw hf hi
theorem g_pf2 {j o f K n a : Nat} {v : Value} {t : FieldType} (hE : PMon E) (hd : decode M.2.2.1 pc = .ok (.putfield j, len)) (hl : len = ilen (.putfield j) ∨ ilen (.putfield j) = 0) (h0 : 0 ≤ (pc : Int) + ioff (.putfield j)) (hn : pc + len = nx) (ht : tgt_ pc (ioff (.putfield j)) = tg) (hM : M.1 = o) (hF : (pF o).lookup j = some f) (hx : (fix K).idxOf? f = some n ∧ ∀ k, k ≠ K → (fix k).idxOf? f ≠ none → wrK k = false) (hw : wrK K = true) (hf : fty f = t) (hi : fin f = true → M.2.1.name = "<init>" ∧ fow f = M.1) : Wp E M pc L (v :: .ref a :: S) h r d Q = PF E M (h a) K n t a v nx L S h r d Q :=
  g_pf0 hE hd hl h0 hn ht hM hF hx.1 hx.2 hw hf hi
theorem g_ag {b a : Nat} {c : Value → Bool} {x : Int32} (hE : PMon E) (hd : decode M.2.2.1 pc = .ok (i, len)) (hl : len = ilen i ∨ ilen i = 0) (h0 : 0 ≤ (pc : Int) + ioff i) (hn : pc + len = nx) (ht : tgt_ pc (ioff i) = tg) (hs : stI E.2.2 (rdO h) M pc nx tg L (.int x :: .ref a :: S) i = arG (rdO h) b c nx L (.int x :: .ref a :: S)) : Wp E M pc L (.int x :: .ref a :: S) h r d Q = AG E M (h a) b c x nx L S h r d Q := by
  rw [Wp_at hE hd hl h0 hn ht, hs]
  unfold arG rdO AG
  dsimp only
  cases h a with
  | none => rfl
  | some o =>
    cases o with
    | inr c => rfl
    | inl z =>
      obtain ⟨k, fs⟩ := z
      dsimp only
      by_cases hc : arrIs k b = true ∧ ¬ x < 0
      · rw [if_pos hc]
        cases fs[x.toNatClampNeg]? with
        | none => exact propext ⟨fun H => H.elim, fun H => H.2.2.elim⟩
        | some v =>
          dsimp only
          by_cases hv : c v = true
          · rw [if_pos hv]; exact propext ⟨fun H => ⟨hc.1, hc.2, hv, H⟩, fun H => H.2.2.2⟩
          · rw [if_neg hv]; exact propext ⟨fun H => H.elim, fun H => absurd H.2.2.1 hv⟩
      · rw [if_neg hc]; exact propext ⟨fun H => H.elim, fun H => absurd ⟨H.1, H.2.1⟩ hc⟩
theorem arP_eq {b a : Nat} {c : Value → Bool} {x : Int32} {v : Value} : Do1 E (Wp E) M pc h r d Q (arP (rdO h) b c nx L (v :: .int x :: .ref a :: S)) = AP E M (h a) b c a x v nx L S h r d Q := by
  unfold arP rdO AP
  dsimp only
  cases h a with
  | none => rfl
  | some o =>
    cases o with
    | inr c => rfl
    | inl z =>
      obtain ⟨k, fs⟩ := z
      dsimp only
      by_cases hc : k = b ∧ ¬ x < 0 ∧ x.toNatClampNeg < fs.length ∧ c v = true
      · rw [if_pos hc]
        obtain ⟨rfl, c1, c2, c3⟩ := hc
        exact propext ⟨fun H => ⟨rfl, c1, c2, c3, H⟩, fun H => H.2.2.2.2⟩
      · rw [if_neg hc]; exact propext ⟨fun H => H.elim, fun H => absurd ⟨H.1, H.2.1, H.2.2.1, H.2.2.2.1⟩ hc⟩
theorem g_ap {b a : Nat} {c : Value → Bool} {x : Int32} {v : Value} (hE : PMon E) (hd : decode M.2.2.1 pc = .ok (i, len)) (hl : len = ilen i ∨ ilen i = 0) (h0 : 0 ≤ (pc : Int) + ioff i) (hn : pc + len = nx) (ht : tgt_ pc (ioff i) = tg) (hs : stI E.2.2 (rdO h) M pc nx tg L (v :: .int x :: .ref a :: S) i = arP (rdO h) b c nx L (v :: .int x :: .ref a :: S)) : Wp E M pc L (v :: .int x :: .ref a :: S) h r d Q = AP E M (h a) b c a x v nx L S h r d Q := by
  rw [Wp_at hE hd hl h0 hn ht, hs, arP_eq]
theorem g_aa {b a q : Nat} {c : Value → Bool} {x : Int32} (hE : PMon E) (hd : decode M.2.2.1 pc = .ok (i, len)) (hl : len = ilen i ∨ ilen i = 0) (h0 : 0 ≤ (pc : Int) + ioff i) (hn : pc + len = nx) (ht : tgt_ pc (ioff i) = tg) (hs : stI E.2.2 (rdO h) M pc nx tg L (.ref q :: .int x :: .ref a :: S) i = (match rdO h q with
      | some z => if obK z.1 = true then arP (rdO h) b c nx L (.ref q :: .int x :: .ref a :: S) else none
      | none => none)) : Wp E M pc L (.ref q :: .int x :: .ref a :: S) h r d Q = (obO (h q) = true ∧ AP E M (h a) b c a x (.ref q) nx L S h r d Q) := by
  rw [Wp_at hE hd hl h0 hn ht, hs]
  rw [show rdO h q = (match h q with
    | some (.inl x) => some x
    | _ => none) from rfl]
  unfold obO
  cases h q with
  | none => exact propext ⟨fun H => H.elim, fun H => absurd H.1 (by decide)⟩
  | some o =>
    cases o with
    | inr c => exact propext ⟨fun H => H.elim, fun H => absurd H.1 (fun z => by cases z)⟩
    | inl z =>
      dsimp only
      by_cases hc : obK z.1 = true
      · rw [if_pos hc, arP_eq]; exact propext ⟨fun H => ⟨hc, H⟩, fun H => H.2⟩
      · rw [if_neg hc]; exact propext ⟨fun H => H.elim, fun H => absurd H.1 hc⟩
theorem g_al {a : Nat} (hE : PMon E) (hd : decode M.2.2.1 pc = .ok (i, len)) (hl : len = ilen i ∨ ilen i = 0) (h0 : 0 ≤ (pc : Int) + ioff i) (hn : pc + len = nx) (ht : tgt_ pc (ioff i) = tg) (hs : stI E.2.2 (rdO h) M pc nx tg L (.ref a :: S) i = (match rdO h a with
      | some z => if 900 ≤ z.1 then sGo nx L (.int (nI z.2.length) :: S) else none
      | none => none)) : Wp E M pc L (.ref a :: S) h r d Q = AL E M (h a) nx L S h r d Q := by
  rw [Wp_at hE hd hl h0 hn ht, hs]
  rw [show rdO h a = (match h a with
    | some (.inl x) => some x
    | _ => none) from rfl]
  unfold AL
  cases h a with
  | none => rfl
  | some o =>
    cases o with
    | inr c => rfl
    | inl z =>
      dsimp only
      by_cases hc : 900 ≤ z.1
      · rw [if_pos hc]; exact propext ⟨fun H => ⟨hc, H⟩, fun H => H.2⟩
      · rw [if_neg hc]; exact propext ⟨fun H => H.elim, fun H => absurd H.1 hc⟩
theorem g_nw {k : Nat} {fs : List Value} (hE : PMon E) (hd : decode M.2.2.1 pc = .ok (i, len)) (hl : len = ilen i ∨ ilen i = 0) (h0 : 0 ≤ (pc : Int) + ioff i) (hn : pc + len = nx) (ht : tgt_ pc (ioff i) = tg) (hs : stI E.2.2 (rdO h) M pc nx tg L S i = sNw k fs nx L S) : Wp E M pc L S h r d Q = Nw E M k fs nx L S h r d Q := by
  rw [Wp_at hE hd hl h0 hn ht, hs]; rfl
theorem g_na {k : Nat} {fs S' : List Value} {c : Prop} [Decidable c] (hE : PMon E) (hd : decode M.2.2.1 pc = .ok (i, len)) (hl : len = ilen i ∨ ilen i = 0) (h0 : 0 ≤ (pc : Int) + ioff i) (hn : pc + len = nx) (ht : tgt_ pc (ioff i) = tg) (hs : stI E.2.2 (rdO h) M pc nx tg L S i = if c then none else sNw k fs nx L S') : Wp E M pc L S h r d Q = (¬c ∧ Nw E M k fs nx L S' h r d Q) := by
  rw [Wp_at hE hd hl h0 hn ht, hs]
  by_cases hc : c
  · rw [if_pos hc]; exact propext ⟨fun H => H.elim, fun H => absurd hc H.1⟩
  · rw [if_neg hc]; exact propext ⟨fun H => ⟨hc, H⟩, fun H => H.2⟩
theorem excAt_i {ic e : Nat} (h3 : decode M.2.2.1 (pc + 3) = .ok (.dup, 1)) (h4 : decode M.2.2.1 (pc + 4) = .ok (.invokespecial ic, 3)) (h7 : decode M.2.2.1 (pc + 7) = .ok (.athrow, 1)) (hh : M.2.2.2.2.2 = []) (he : (pE M.1).lookup ic = some e) : excAt M pc = some e := by
  unfold excAt
  rw [h3, h4, h7]
  exact (if_pos hh).trans he
theorem g_thr {e : Nat} (hE : PMon E) (hd : decode M.2.2.1 pc = .ok (i, len)) (hl : len = ilen i ∨ ilen i = 0) (h0 : 0 ≤ (pc : Int) + ioff i) (hn : pc + len = nx) (ht : tgt_ pc (ioff i) = tg) (hs : stI E.2.2 (rdO h) M pc nx tg L S i = if excAt M pc = some e ∧ catS S ≤ 8 then sTh e else none) (hx : excAt M pc = some e) : Wp E M pc L S h r d Q = (catS S ≤ 8 ∧ 2 ≤ r ∧ Q (.inr e) h (r - 2)) := by
  rw [Wp_at hE hd hl h0 hn ht, hs]
  by_cases hc : catS S ≤ 8
  · rw [if_pos ⟨hx, hc⟩]; exact propext ⟨fun H => ⟨hc, H.1, H.2⟩, fun H => H.2⟩
  · rw [if_neg (fun z => hc z.2)]; exact propext ⟨fun H => H.elim, fun H => absurd H.1 hc⟩
theorem g_cc {a j : Nat} (hE : PMon E) (hd : decode M.2.2.1 pc = .ok (i, len)) (hl : len = ilen i ∨ ilen i = 0) (h0 : 0 ≤ (pc : Int) + ioff i) (hn : pc + len = nx) (ht : tgt_ pc (ioff i) = tg) (hs : stI E.2.2 (rdO h) M pc nx tg L (.ref a :: S) i = sCs a j nx L (.ref a :: S)) : Wp E M pc L (.ref a :: S) h r d Q = CC E M (h a) M.1 j a nx L S h r d Q := by
  rw [Wp_at hE hd hl h0 hn ht, hs]; rfl
theorem g_cl {n mode j k : Nat} {S0 S1 as : List Value} (hE : PMon E) (hd : decode M.2.2.1 pc = .ok (i, len)) (hl : len = ilen i ∨ ilen i = 0) (h0 : 0 ≤ (pc : Int) + ioff i) (hn : pc + len = nx) (ht : tgt_ pc (ioff i) = tg) (hs : stI E.2.2 (rdO h) M pc nx tg L S0 i = if n ≤ S0.length then sCl mode j nx (S0.take n).reverse L (S0.drop n) else none) (h1 : n ≤ S0.length) (h2 : (S0.take n).reverse = as) (h3 : S0.drop n = S1) (hk : rcv mode as h = k) : Wp E M pc L S0 h r d Q = Cl E M (E.1 M.1 mode j k) as pc nx L S1 h r d Q := by
  subst h2; subst h3; subst hk
  rw [Wp_at hE hd hl h0 hn ht, hs, if_pos h1]
  rfl
theorem g_rt {v : Option Value} (hE : PMon E) (hd : decode M.2.2.1 pc = .ok (i, len)) (hl : len = ilen i ∨ ilen i = 0) (h0 : 0 ≤ (pc : Int) + ioff i) (hn : pc + len = nx) (ht : tgt_ pc (ioff i) = tg) (hs : stI E.2.2 (rdO h) M pc nx tg L S i = sRt v) : Wp E M pc L S h r d Q = Q (.inl v) h r := by
  rw [Wp_at hE hd hl h0 hn ht, hs]; rfl
theorem g_rb {v : Option Value} {c : Prop} [Decidable c] (hE : PMon E) (hd : decode M.2.2.1 pc = .ok (i, len)) (hl : len = ilen i ∨ ilen i = 0) (h0 : 0 ≤ (pc : Int) + ioff i) (hn : pc + len = nx) (ht : tgt_ pc (ioff i) = tg) (hs : stI E.2.2 (rdO h) M pc nx tg L S i = if decide c = true then sRt v else none) : Wp E M pc L S h r d Q = (c ∧ Q (.inl v) h r) := by
  rw [Wp_at hE hd hl h0 hn ht, hs]
  by_cases hc : c
  · rw [if_pos (decide_eq_true hc)]; exact propext ⟨fun H => ⟨hc, H⟩, fun H => H.2⟩
  · rw [if_neg (fun z => hc (of_decide_eq_true z))]; exact propext ⟨fun H => H.elim, fun H => absurd H.1 hc⟩
theorem g_rr {v : Value} (hE : PMon E) (hd : decode M.2.2.1 pc = .ok (i, len)) (hl : len = ilen i ∨ ilen i = 0) (h0 : 0 ≤ (pc : Int) + ioff i) (hn : pc + len = nx) (ht : tgt_ pc (ioff i) = tg) (hs : stI E.2.2 (rdO h) M pc nx tg L [v] i = if isR v = true ∧ retR M.2.2.2.2.1 = true then sRt (some v) else none) (hr : retR M.2.2.2.2.1 = true) : Wp E M pc L [v] h r d Q = (isR v = true ∧ Q (.inl (some v)) h r) := by
  rw [Wp_at hE hd hl h0 hn ht, hs]
  by_cases hc : isR v = true
  · rw [if_pos ⟨hc, hr⟩]; exact propext ⟨fun H => ⟨hc, H⟩, fun H => H.2⟩
  · rw [if_neg (fun z => hc z.1)]; exact propext ⟨fun H => H.elim, fun H => absurd H.1 hc⟩
end WK2
section WK3
variable {E : Evn} {M : MD} {pc nx tg len : Nat} {i : Instr} {L S : List Value} {h : Hp} {r d : Nat} {Q : Post}
theorem g_st (hE : PMon E) (hd : decode M.2.2.1 pc = .ok (i, len)) (hl : len = ilen i ∨ ilen i = 0) (h0 : 0 ≤ (pc : Int) + ioff i) (hn : pc + len = nx) (ht : tgt_ pc (ioff i) = tg) {p : Nat} {L' S' : List Value} {c c' : Prop} [Decidable c] [Decidable c'] (hc : c') (hs : stI E.2.2 (rdO h) M pc nx tg L S i = if c ∧ c' then sGo p L' S' else none) : Wp E M pc L S h r d Q = (c ∧ Wp E M p L' S' h r d Q) := by
  rw [g_if hE hd hl h0 hn ht hs]
  exact propext ⟨fun H => ⟨H.1.1, H.2⟩, fun H => ⟨⟨H.1, hc⟩, H.2⟩⟩
theorem h_cc {a j o : Nat} (hE : PMon E) (hd : decode M.2.2.1 pc = .ok (i, len)) (hl : len = ilen i ∨ ilen i = 0) (h0 : 0 ≤ (pc : Int) + ioff i) (hn : pc + len = nx) (ht : tgt_ pc (ioff i) = tg) (hs : stI E.2.2 (rdO h) M pc nx tg L (.ref a :: S) i = sCs a j nx L (.ref a :: S)) (hM : M.1 = o) : Wp E M pc L (.ref a :: S) h r d Q = CC E M (h a) o j a nx L S h r d Q := by
  subst hM; exact g_cc hE hd hl h0 hn ht hs
end WK3
