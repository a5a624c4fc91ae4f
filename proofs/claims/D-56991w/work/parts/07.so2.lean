/-! SOUNDNESS 2: what holds in a run, the relation of the heaps, the judgement -/
/-- the class ids of the arrays: 0 int, 1 long, 2 boolean, 3 double, 4 Object, 5 Integer, 6 Long -/
def dAi (k : Nat) : Nat := if k = 900 ∨ k = 910 then 0 else if k = 901 then 1 else if k = 902 then 2 else if k = 903 then 3 else if k = 911 then 5 else if k = 912 then 6 else 4
def fI (fs : List Value) (j : Nat) : Int32 := match fs[j]? with
  | some (.int x) => x
  | _ => 0
def fL (fs : List Value) (j : Nat) : Int64 := match fs[j]? with
  | some (.long x) => x
  | _ => 0
def fD (fs : List Value) (j : Nat) : UInt64 := match fs[j]? with
  | some (.double x) => x
  | _ => 0
def fR (fs : List Value) (j : Nat) : Option Nat := match fs[j]? with
  | some (.ref x) => some x
  | _ => none
def datO (k : Nat) (fs : List Value) : vp_A := (fs.length, if dAi k = 0 ∨ dAi k = 2 then .inl (fI fs) else if dAi k = 1 then .inr (.inl (fL fs)) else if dAi k = 3 then .inr (.inr (.inr (.inl (fD fs)))) else .inr (.inr (.inr (.inr (fR fs)))))
def trO (dA : Nat → ClassId) (k : Nat) (fs : List Value) : va_E := if k < 900 then .inr (k, fs) else .inl (dA (dAi k), datO k fs)
def roK (k : Nat) : Bool := decide (k = 35 ∨ k = 36 ∨ 910 ≤ k)
abbrev Af (base : Nat) : Nat → Prop := fun q => base ≤ q
def tyl (dA : Nat → ClassId) : List (ClassId × FieldType) := [(dA 0, .int), (dA 1, .long), (dA 2, .boolean), (dA 3, .double), (dA 4, .object "java/lang/Object"), (dA 5, .object "java/lang/Integer"), (dA 6, .object "java/lang/Long")]
/-- the heap's relation -/
def InM (dA : Nat → ClassId) (ws ro : va_W) (scr : Nat × List Value) (a k : Nat) (fs : List Value) : Prop := (a, trO dA k fs) ∈ ws ∨ ((a, trO dA k fs) ∈ ro ∧ roK k = true) ∨ (k = 910 ∧ (a, fs) = scr)
def RelM (cl : List vw_C) (base : Nat) (D : va_G) (dA : Nat → ClassId) (ro : va_W) (scr : Nat × List Value) (h : Hp) (H : Heap) : Prop :=
  (∀ a x, h a ≠ some (.inr x)) ∧ ∃ ws : va_W, va_P D cl ws H ∧ va_D (Af base) ws ∧ ∀ a k fs, h a = some (.inl (k, fs)) → InM dA ws ro scr a k fs
/-- what the tables and the statics say, all through a run -/
def FX (cl : List vw_C) (nwl : List Cond) (ncl : List (String × String)) (fwl : List (String × MethodName × MethodName)) (stl : List (String × String × String)) (spc : State → Prop) (base : Nat) (D : va_G) (dA : Nat → ClassId) (sv : Nat → Value) (ro : va_W) (scr : Nat × List Value) (U : State) (H : Heap) : Prop :=
  va_K D cl (tyl dA) U ∧ (∀ w ∈ nwl, va_Nw w U) ∧ (∀ q ∈ fwl, va_Fw q.1 q.2.1 q.2.2 U) ∧ (∀ i q, stl[i]? = some q → va_Z q.1 q.2.1 q.2.2 (sv i) (Af base) U H) ∧
  vx_Zq Bundle.tN "UNASSIGNED_STACK" Bundle.steD (Af base) U H ∧ vx_Zq Bundle.tN "SUPPRESSED_SENTINEL" Bundle.listD (Af base) U H ∧
  va_P D cl ro H ∧ (∀ x ∈ ro, ¬ base ≤ x.1) ∧ (∃ mi, sv 900 = .ref mi ∧ va_Mi "[Ljava/lang/Object;" mi U) ∧ va_AO "java/lang/Object" U ∧ va_Dc U ∧ (∀ q ∈ ncl, va_Nc q.1 q.2 U) ∧ va_X scr.1 scr.2.length (fI scr.2) U H ∧ ¬ base ≤ scr.1 ∧ spc U
theorem RelM.none {base : Nat} {dA : Nat → ClassId} {ro : va_W} {scr : Nat × List Value} {h : Hp} {ws : va_W} (hro : ∀ x ∈ ro, ¬ base ≤ x.1) (hsc : ¬ base ≤ scr.1) (hn : ∀ a x, h a ≠ some (.inr x)) (hc : ∀ a k fs, h a = some (.inl (k, fs)) → InM dA ws ro scr a k fs) {q : Nat} {e : va_E} (hD : va_D (Af base) (ws ++ [(q, e)])) : h q = none := by
  cases ho : h q with
  | none => rfl
  | some o =>
    exfalso
    rcases o with ⟨k, fs⟩ | x
    · have hlast : (ws ++ [(q, e)])[ws.length]? = some (q, e) := by simp
      rcases hc q k fs ho with h1 | ⟨h1, -⟩ | ⟨-, h1⟩
      · obtain ⟨i, hi⟩ := List.getElem?_of_mem h1
        have hlt := (List.getElem?_eq_some_iff.mp hi).1
        have hi2 : (ws ++ [(q, e)])[i]? = some (q, trO dA k fs) := by rw [List.getElem?_append_left hlt]; exact hi
        have := hD.1 i ws.length _ _ hi2 hlast rfl
        omega
      · exact hro _ h1 (show base ≤ q from hD.2 _ (q, e) hlast)
      · exact hsc (by rw [← h1]; exact (show base ≤ q from hD.2 _ (q, e) hlast))
    · exact hn q x ho
theorem RelM.put {cl : List vw_C} {base : Nat} {D : va_G} {dA : Nat → ClassId} {ro : va_W} {scr : Nat × List Value} {h : Hp} {H1 : Heap} {ws : va_W} (hn : ∀ a x, h a ≠ some (.inr x)) (hDw : va_D (Af base) ws) (hc : ∀ a k fs, h a = some (.inl (k, fs)) → InM dA ws ro scr a k fs)
    {q0 a k : Nat} {fs fs' : List Value} (hq : ws[q0]? = some (a, trO dA k fs)) (hP1 : va_P D cl (ws.set q0 (a, trO dA k fs')) H1) (hD1 : va_D (Af base) (ws.set q0 (a, trO dA k fs'))) : RelM cl base D dA ro scr (upd_ h a (.inl (k, fs'))) H1 := by
  refine ⟨fun b x hb => ?_, _, hP1, hD1, fun b k2 fs2 hb => ?_⟩
  · unfold upd_ at hb
    split at hb
    · cases hb
    · exact hn b x hb
  · unfold upd_ at hb
    split at hb
    · rename_i e
      subst e
      cases hb
      left
      refine List.mem_of_getElem? (i := q0) ?_
      rw [List.getElem?_set_self (List.getElem?_eq_some_iff.mp hq).1]
    · rename_i hne
      rcases hc b k2 fs2 hb with h1 | h1
      · left
        obtain ⟨i, hi⟩ := List.getElem?_of_mem h1
        refine List.mem_of_getElem? (i := i) ?_
        rw [List.getElem?_set_ne]
        · exact hi
        · intro e
          subst e
          rw [hq] at hi
          exact hne (congrArg Prod.fst (Option.some.inj hi)).symm
      · exact Or.inr h1
theorem RelM.new {cl : List vw_C} {base : Nat} {D : va_G} {dA : Nat → ClassId} {ro : va_W} {scr : Nat × List Value} {h : Hp} {H1 : Heap} {ws : va_W} (hn : ∀ a x, h a ≠ some (.inr x)) (hc : ∀ a k fs, h a = some (.inl (k, fs)) → InM dA ws ro scr a k fs)
    {q k : Nat} {fs : List Value} (hP1 : va_P D cl (ws ++ [(q, trO dA k fs)]) H1) (hD1 : va_D (Af base) (ws ++ [(q, trO dA k fs)])) : RelM cl base D dA ro scr (upd_ h q (.inl (k, fs))) H1 := by
  refine ⟨fun b x hb => ?_, _, hP1, hD1, fun b k2 fs2 hb => ?_⟩
  · unfold upd_ at hb
    split at hb
    · cases hb
    · exact hn b x hb
  · unfold upd_ at hb
    split at hb
    · rename_i e
      subst e
      cases hb
      left
      simp
    · rcases hc b k2 fs2 hb with h1 | h1
      · left
        exact List.mem_append_left _ h1
      · exact Or.inr h1
theorem fits_narrow {t : FieldType} {v : Value} (ht : t = .int ∨ t = .boolean ∨ t = .char ∨ t = .long ∨ (∃ n, t = .object n) ∨ ∃ n, t = .array n) (h : fits t v = true) : narrow t v = v := by
  rcases ht with rfl | rfl | rfl | rfl | ⟨n, rfl⟩ | ⟨n, rfl⟩
  · cases v <;> rfl
  · cases v with
    | int x =>
      have h2 : (x == 0 || x == 1) = true := h
      simp only [Bool.or_eq_true, beq_iff_eq] at h2
      rcases h2 with rfl | rfl <;> rfl
    | _ => rfl
  · cases v with
    | int x =>
      have h2 : (decide ((0 : Int32) ≤ x) && decide (x ≤ 65535)) = true := h
      simp only [Bool.and_eq_true, decide_eq_true_eq] at h2
      have h0 : ¬ x < 0 := Int32.not_lt.mpr h2.1
      obtain ⟨q, hq, rfl⟩ := nI_of h0
      have : q ≤ 65535 := (nI_leI (b := 65535) hq (by decide)).mp h2.2
      exact (pk_charN (q := q) (by omega)).1
    | _ => rfl
  · cases v <;> rfl
  · cases v <;> rfl
  · cases v <;> rfl
/-- how a method ends -/
def EndE (cl : List vw_C) (base : Nat) (D : va_G) (dA : Nat → ClassId) (ro : va_W) (scr : Nat × List Value) (r0 : Nat) (s t : State) (h' : Hp) (r' : Nat) : Prop :=
  RelM cl base D dA ro scr h' t.heap ∧ va_F (Af base) s t ∧ r' ≤ r0 ∧ Gr s.heap t.heap (r0 - r') (4 * (r0 - r'))
def QcE (cl : List vw_C) (base : Nat) (D : va_G) (dA : Nat → ClassId) (ro : va_W) (scr : Nat × List Value) (r0 : Nat) (Q : Post) : Array Value → State → Outcome → State → Prop := fun _ s o t => ∃ v h' r', o = .returned v ∧ Q (.inl v) h' r' ∧ EndE cl base D dA ro scr r0 s t h' r'
def XcE (exn : Nat → String) (cl : List vw_C) (base : Nat) (D : va_G) (dA : Nat → ClassId) (ro : va_W) (scr : Nat × List Value) (r0 : Nat) (Q : Post) : String → State → State → Prop := fun E s t => ∃ e h' r', exn e = E ∧ Q (.inr e) h' r' ∧ EndE cl base D dA ro scr r0 s t h' r'
/-- the place of a walk -/
def Cx (oname : Nat → String) (fx : State → Heap → Prop) (base : Nat) (p : Program) (l : Launch) (R : Room) (s : State) (m : MethodId) (args : Array Value) (meth : Method) (c : Code) (M : MD) (d r0 : Nat) : Prop :=
  p.tables.exec = Jvm.exec ∧ c.code = M.2.2.1 ∧ c.maxLocals = M.2.2.2.1 ∧ meth.sig.returnType = M.2.2.2.2.1 ∧ meth.locks = false ∧ s.vm.findClass (oname M.1) = some m.cls ∧ (M.2.1.name = "<init>" → meth.name = "<init>") ∧ (∀ w ∈ lw_all, w.before args s = true) ∧ fx s s.heap ∧ base ≤ s.heap.size ∧ c.exceptionTable.toList = tableOf M.2.2.2.2.2 ∧ d + 16 ≤ R.frames ∧ 64 * d + 400 ≤ R.locals ∧ R.cells = r0 ∧ R.slots = 4 * r0 ∧ l.stackTraces = false
def XW (oname exn : Nat → String) (cl : List vw_C) (fx : State → Heap → Prop) (base : Nat) (D : va_G) (dA : Nat → ClassId) (ro : va_W) (scr : Nat × List Value) : XT := fun M pc L S h r d Q =>
  ∀ (p : Program) (l : Launch) (e : Env) (R : Room) (s : State) (m : MethodId) (args : Array Value) (below : List Frame) (meth : Method) (c : Code) (r0 : Nat) (H : Heap) (locs : List Loc) (cells slots : Nat) (ls : Array Slot),
    Cx oname fx base p l R s m args meth c M d r0 → va_S (Af base) s.heap H locs → RelM cl base D dA ro scr h H → RL ls M.2.2.2.1 L → cells + r ≤ r0 → slots + 4 * r ≤ 4 * r0 →
    W p l e R s m args below meth c H locs cells slots (vx_MQ below (QcE cl base D dA ro scr r0 Q) (XcE exn cl base D dA ro scr r0 Q) args s r0 (4 * r0) (Af base)) (F0 m pc ls S)
