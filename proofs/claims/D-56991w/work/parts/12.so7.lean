/-! SOUNDNESS 7: calls -/
theorem lg_len (vs : List Value) : (lg_sl vs).length = (entL vs).length := by
  induction vs with
  | nil => rfl
  | cons v vs ih =>
    have e : lg_sl (v :: vs) = (if v.category = 2 then [.val v, .second] else [.val v]) ++ lg_sl vs := by simp [lg_sl]
    rw [e, entL, List.length_append, ih]
    by_cases h : cat2 v = true
    · rw [if_pos h, if_pos ((cat2_iff v).mp h)]; simp; omega
    · rw [if_neg h, if_neg (fun q => h ((cat2_iff v).mpr q))]; simp; omega
theorem entL_args (vs : List Value) : ∀ (i0 j : Nat) (v : Value), (entL vs)[j]? = some v → v ≠ uV → (i0 + j, v) ∈ lv_args i0 vs := by
  induction vs with
  | nil => intro i0 j v h; cases h
  | cons w vs ih =>
    intro i0 j v h hu
    unfold entL at h
    unfold lv_args
    by_cases hc : cat2 w = true
    · rw [if_pos hc] at h
      rw [if_pos ((cat2_iff w).mp hc)]
      match j, h with
      | 0, h => cases h; exact List.mem_cons_self
      | 1, h => cases h; exact absurd rfl hu
      | j + 2, h =>
        have h2 : (entL vs)[j]? = some v := by simpa using h
        have := ih (i0 + 2) j v h2 hu
        rw [show i0 + (j + 2) = i0 + 2 + j by omega]
        exact List.mem_cons_of_mem _ this
    · rw [if_neg hc] at h
      rw [if_neg (fun q => hc ((cat2_iff w).mpr q))]
      match j, h with
      | 0, h => cases h; exact List.mem_cons_self
      | j + 1, h =>
        have h2 : (entL vs)[j]? = some v := by simpa using h
        have := ih (i0 + 1) j v h2 hu
        rw [show i0 + (j + 1) = i0 + 1 + j by omega]
        exact List.mem_cons_of_mem _ this
theorem RL_entry {n : Nat} {as : List Value} (h : (entL as).length ≤ n) : RL ((lg_sl as ++ List.replicate (n - (lg_sl as).length) Slot.unset).toArray) n (ent n as) := by
  have hl := lv_entry as (n := n) (by rw [lg_len]; exact h)
  refine ⟨by unfold ent; simp; omega, hl.1, hl.2.1, ?_⟩
  rintro ⟨j, v⟩ hq
  obtain ⟨h1, hu⟩ := mem_kn.mp hq
  unfold ent at h1
  rw [List.getElem?_append] at h1
  split at h1
  · have := entL_args as 0 j v h1 hu
    rw [Nat.zero_add] at this
    exact hl.2.2 (j, v) this
  · rw [List.getElem?_replicate] at h1
    split at h1
    · cases h1; exact absurd rfl hu
    · cases h1
/-- the words of a method -/
def wsN (N : MD) : List Cond := if N.2.2.2.2.2 = [] then ws_ N.2.1 N.2.2.1 N.2.2.2.1 N.2.2.2.2.1 else wsW_ N.2.1 N.2.2.1 N.2.2.2.1 N.2.2.2.2.1 N.2.2.2.2.2
def rmE (d r : Nat) : Room := { frames := d + 16, cells := r, slots := 4 * r, locals := 64 * d + 400 }
section VX
variable {p : Program} {l : Launch} {e : Env} {R : Room} {s : State} {m : MethodId} {args : Array Value} {below : List Frame} {meth : Method} {c : Code} {H : Heap} {locs : List Loc} {cells slots : Nat}
/-- a call run: it comes back, or throws -/
def RunN (p : Program) (l : Launch) (e : Env) (R : Room) (s : State) (m : MethodId) (args : Array Value) (below : List Frame) (meth : Method) (c : Code) (H : Heap) (locs : List Loc) (cells slots mc ms pc nx : Nat) (ls : Array Slot) (st rest : List Value) (Qa : State → Outcome → State → Prop) (XC : String → State → State → Prop) (free : Addr → Prop) : Prop :=
  ∀ T : State, T.heap = H → Stand p l e R s m args below meth c T locs cells slots →
    (∃ (v : Option Value) (st₀ t T' : State) (L : List Loc), st₀.heap = H ∧ Stand p l e R s m args below meth c T' (locs ++ L) (cells + mc) (slots + ms) ∧ (∀ q ∈ L, free q.base) ∧ T'.heap = t.heap ∧ T'.vm = t.vm ∧ Qa st₀ (.returned v) t ∧
      Goes p e below T (F0 m pc ls st) T' (F0 m nx ls (v.toList ++ rest))) ∨
    (∃ (q : Addr) (st₀ t T' : State) (L : List Loc) (E : String) (ce : Cell), st₀.heap = H ∧ Stand p l e R s m args below meth c T' (locs ++ L) (cells + mc) (slots + ms) ∧ (∀ z ∈ L, free z.base) ∧ T'.heap = t.heap ∧ T'.vm = t.vm ∧ XC E st₀ t ∧ t.heap[q]? = some ce ∧ ce.vm = .none ∧ s.vm.findClass E = some ce.cls ∧
      Steps p.tables e below (T.setTop (F0 m pc ls st)) ((T'.setTop (F0 m pc ls rest)).pushFrame (.throwing q)))
theorem RunN.of3 {mc ms pc : Nat} {ls : Array Slot} {st rest : List Value} {Qa : State → Outcome → State → Prop} {XC : String → State → State → Prop} {free : Addr → Prop} (h : vx_Run p l e R s m args below meth c H locs cells slots mc ms (F0 m pc ls st) rest Qa XC free) : RunN p l e R s m args below meth c H locs cells slots mc ms pc (pc + 3) ls st rest Qa XC free := h
theorem RunN.of5 {mc ms pc : Nat} {ls : Array Slot} {st rest : List Value} {Qa : State → Outcome → State → Prop} {XC : String → State → State → Prop} {free : Addr → Prop} (h : vx_Run5 p l e R s m args below meth c H locs cells slots mc ms (F0 m pc ls st) rest Qa XC free) : RunN p l e R s m args below meth c H locs cells slots mc ms pc (pc + 5) ls st rest Qa XC free := h
theorem RunN.ofM {mc ms pc : Nat} {ls : Array Slot} {st rest : List Value} {Qa : State → Outcome → State → Prop} {XC : String → State → State → Prop} {free : Addr → Prop} (h : va_Run p l e R s m args below meth c H locs cells slots mc ms (F0 m pc ls st) rest Qa free) : RunN p l e R s m args below meth c H locs cells slots mc ms pc (pc + 3) ls st rest Qa XC free := fun T hT X => Or.inl (h T hT X)
end VX
/-- which instruction a mode is -/
def modeI (mode j : Nat) (i : Instr) (len : Nat) : Prop := (mode = 0 ∧ i = .invokestatic j ∧ len = 3) ∨ (mode = 1 ∧ i = .invokevirtual j ∧ len = 3) ∨ (mode = 2 ∧ i = .invokespecial j ∧ len = 3) ∨ (mode = 3 ∧ (∃ n, i = .invokeinterface j n) ∧ len = 5)
/-- THE TABLES' WORD ON A CALL: at entry j of the class o, on a receiver of kind k, the method N is run -/
def CallOK (oname : Nat → String) (cl : List vw_C) (fx : State → Heap → Prop) (o mode j k : Nat) (N : MD) : Prop :=
  ∀ (p : Program) (l : Launch) (e : Env) (R : Room) (s : State) (m : MethodId) (args : Array Value) (below : List Frame) (meth : Method) (c : Code) (H : Heap) (locs : List Loc) (cells slots pc len : Nat) (i : Instr) (ls : Array Slot) (as rest : List Value) (Pc : Array Value → State → Prop) (Qc : Array Value → State → Outcome → State → Prop) (XC : String → State → State → Prop) (mc ms : Nat) (free : Addr → Prop) (rm : Room),
    p.tables.exec = Jvm.exec → c.maxLocals = ls.size → s.vm.findClass (oname o) = some m.cls → (∀ w ∈ lw_all, w.before args s = true) → fx s s.heap →
    (N.2.2.2.2.2 = [] → vx_Met l N.2.1 (wsN N) rm Pc Qc XC mc ms free) → (N.2.2.2.2.2 ≠ [] → Met l N.2.1 (wsN N) rm Pc Qc mc ms free) → FrameBlind Pc → (∀ U : State, U.heap = H → s.WarmedH U.vm → Pc as.toArray U) → rm.cells = mc → rm.slots = ms → rm.frames + 1 ≤ R.frames → 8 + (N.2.2.2.1 + 11) + rm.locals ≤ R.locals →
    (pA o).lookup j = some as.length → catS rest ≤ 8 → decode c.code pc = .ok (i, len) → modeI mode j i len →
    (mode ≠ 0 → ∃ (b : Nat) (As : List Value), as = .ref b :: As ∧ (mode ≠ 2 → ∃ cell : Cell, H[b]? = some cell ∧ cell.vm.isStatics = false ∧ s.vm.findClass (kname cl k) = some cell.cls)) →
    cells + mc ≤ R.cells ∧ slots + ms ≤ R.slots → RunN p l e R s m args below meth c H locs cells slots mc ms pc (pc + len) ls (as.reverse ++ rest) rest (Qc as.toArray) XC free
/-- what a method's own row says -/
def MDOK (oname : Nat → String) (N : MD) : Prop := plainFor N.2.1 = true ∧ oname N.1 = N.2.1.cls ∧ N.2.2.2.1 ≤ 20
section S7
variable {oname exn : Nat → String} {cl : List vw_C} {nwl : List Cond} {ncl : List (String × String)} {fwl : List (String × MethodName × MethodName)} {stl : List (String × String × String)} {spc : State → Prop} {base : Nat} {D : va_G} {dA : Nat → ClassId} {sv : Nat → Value} {ro : va_W} {scr : Nat × List Value}
/-- what is said of the tables goes along -/
def FXmov (nwl : List Cond) (fwl : List (String × MethodName × MethodName)) (spc : State → Prop) : Prop :=
  (∀ w ∈ nwl, w.onTables = true) ∧ (∀ w ∈ nwl, ∀ s U : State, s.WarmedH U.vm → va_Nw w s → va_Nw w U) ∧ (∀ q ∈ fwl, ∀ u U : State, u.vm.Alike U.vm → va_Fw q.1 q.2.1 q.2.2 u → va_Fw q.1 q.2.1 q.2.2 U) ∧ (∀ s U : State, s.WarmedH U.vm → spc s → spc U)
theorem FX_moved {s U : State} {H : Heap} {locs : List Loc} (hm : FXmov nwl fwl spc) (h : FX cl nwl ncl fwl stl spc base D dA sv ro scr s s.heap) (hS : va_S (Af base) s.heap H locs) (hW : s.WarmedH U.vm) : FX cl nwl ncl fwl stl spc base D dA sv ro scr U H := by
  obtain ⟨h1, h2, h3, h4, h5, h6, h7, h8, ⟨mi, h9, h9'⟩, h10, h11, h12, h13, h14, h15⟩ := h
  obtain ⟨m0, m1, m2, m4⟩ := hm
  have hk : ∀ a : Nat, a < s.heap.size → ¬ Af base a → H[a]? = s.heap[a]? := hS.2.1
  refine ⟨va_K.moved hW.alike h1, fun w hw => m1 w hw s U hW (h2 w hw), fun q hq => m2 q hq s U hW.alike (h3 q hq), fun i q hq => ((h4 i q hq).kept hk).moved hW.alike, vx_Zq.moved hW.alike (h5.kept hk), vx_Zq.moved hW.alike (h6.kept hk), ro_keep h7 h8 hS, h8, ⟨mi, h9, h9'.moved hW.alike⟩, h10.moved hW.alike, h11.moved hW.alike, fun q hq => (h12 q hq).moved hW.alike, ?_, h14, m4 s U hW h15⟩
  exact (h13.kept (hk _ (by obtain ⟨sc, z1, -⟩ := h13; exact (Array.getElem?_eq_some_iff.mp z1).1) h14)).moved hW.alike
/-- a method's start -/
def PcE (cl : List vw_C) (base : Nat) (D : va_G) (dA : Nat → ClassId) (ro : va_W) (scr : Nat × List Value) (fx : State → Heap → Prop) (as : List Value) (h : Hp) : Array Value → State → Prop := fun v U => v = as.toArray ∧ RelM cl base D dA ro scr h U.heap ∧ fx U U.heap ∧ base ≤ U.heap.size
theorem PcE_blind (hm : FXmov nwl fwl spc) {as : List Value} {h : Hp} : FrameBlind (PcE cl base D dA ro scr (FX cl nwl ncl fwl stl spc base D dA sv ro scr) as h) := by
  intro v U g mk ⟨h1, h2, h3, h4⟩
  exact ⟨h1, h2, FX_moved (U := U.calling g mk v) (locs := []) hm h3 va_S.rf (State.WarmedH.refl U), h4⟩
theorem cx_of {l : Launch} {p : Program} {N : MD} {d r : Nat} {e : Env} {s : State} {m : MethodId} {args : Array Value} {below : List Frame} {meth : Method} {c : Code} {s₁ : State} {ws : List Cond} {as : List Value} {h : Hp} (hl0 : l.stackTraces = false) (hN : MDOK oname N)
    (B : BodyLoose p l N.2.1 (headSpec ws (rmE d r)) N.2.2.1 N.2.2.2.1 N.2.2.2.2.1 e s m args below meth c s₁) (hml : c.maxLocals = N.2.2.2.1) (hw : ∀ w ∈ lw_all, w ∈ ws) (het : c.exceptionTable.toList = tableOf N.2.2.2.2.2) (hP : PcE cl base D dA ro scr (FX cl nwl ncl fwl stl spc base D dA sv ro scr) as h args s) :
    Cx oname (FX cl nwl ncl fwl stl spc base D dA sv ro scr) base p l (headSpec ws (rmE d r)).room s m args meth c N d r :=
  ⟨B.exec, B.bytes, hml, B.returns, B.notSynchronized, by rw [hN.2.1]; exact findClass_of_methodNamed B.named, fun hi => ((name_of_methodNamed B.named B.method).1).trans hi, fun w hh => atoms_spec (ws := ws) B.pre w (hw w hh), hP.2.2.1, hP.2.2.2, het, Nat.le_refl _, Nat.le_refl _, rfl, rfl, hl0⟩
/-- a body's walk, from its entry -/
theorem body_of {l : Launch} {p : Program} {N : MD} {d r : Nat} {e : Env} {s : State} {m : MethodId} {args : Array Value} {below : List Frame} {meth : Method} {c : Code} {s₁ : State} {ws : List Cond} {as : List Value} {h : Hp} {Q : Post} (hl0 : l.stackTraces = false) (hN : MDOK oname N) (hlen : (entL as).length ≤ N.2.2.2.1)
    (HX : XW oname exn cl (FX cl nwl ncl fwl stl spc base D dA sv ro scr) base D dA ro scr N 0 (ent N.2.2.2.1 as) [] h r d Q)
    (B : BodyLoose p l N.2.1 (headSpec ws (rmE d r)) N.2.2.1 N.2.2.2.1 N.2.2.2.2.1 e s m args below meth c s₁) (hml : c.maxLocals = N.2.2.2.1) (hw : ∀ w ∈ lw_all, w ∈ ws) (het : c.exceptionTable.toList = tableOf N.2.2.2.2.2) (hP : PcE cl base D dA ro scr (FX cl nwl ncl fwl stl spc base D dA sv ro scr) as h args s) :
    W p l e (headSpec ws (rmE d r)).room s m args below meth c s.heap [] 0 0 (vx_MQ below (QcE cl base D dA ro scr r Q) (XcE exn cl base D dA ro scr r Q) args s r (4 * r) (Af base)) (entryFrame m args N.2.2.2.1) := by
  have hcx := cx_of hl0 hN B hml hw het hP
  obtain ⟨rfl, hR, -, -⟩ := hP
  rw [lg_entry_eq]
  exact HX p l e _ s m _ below meth c r s.heap [] 0 0 _ hcx va_S.rf hR (RL_entry hlen) (by omega) (by omega)
theorem met_X {l : Launch} {N : MD} {d r : Nat} {as : List Value} {h : Hp} {Q : Post} (hl0 : l.stackTraces = false) (hN : MDOK oname N) (hh : N.2.2.2.2.2 = []) (hlen : (entL as).length ≤ N.2.2.2.1)
    (HX : XW oname exn cl (FX cl nwl ncl fwl stl spc base D dA sv ro scr) base D dA ro scr N 0 (ent N.2.2.2.1 as) [] h r d Q) :
    vx_Met l N.2.1 (wsN N) (rmE d r) (PcE cl base D dA ro scr (FX cl nwl ncl fwl stl spc base D dA sv ro scr) as h) (QcE cl base D dA ro scr r Q) (XcE exn cl base D dA ro scr r Q) r (4 * r) (Af base) := by
  have hws : wsN N = Cond.code N.2.1 N.2.2.1 N.2.2.2.1 N.2.2.2.2.1 :: lw_all := if_pos hh
  rw [hws]
  refine MetFree.of_bodySF (code := N.2.2.1) (maxLocals := N.2.2.2.1) (ret := N.2.2.2.2.1) hN.1 ?_ ?_
  · intro args s m h hn
    obtain ⟨meth, c, h1, h2, h3, h4, h5, h6, -, -⟩ := Cond.code_spec hn (atoms_spec (ws := Cond.code N.2.1 N.2.2.1 N.2.2.2.1 N.2.2.2.2.1 :: lw_all) h _ List.mem_cons_self)
    exact ⟨meth, c, h1, h2, h3, h4, h5, h6⟩
  · intro p e s m args below meth c s₁ B hml hP _
    have hh0 : s₁.heap = s.heap := by rw [B.state]; rfl
    have ht : c.exceptionTable.toList = tableOf N.2.2.2.2.2 := by
      obtain ⟨meth9, c9, h1, h2, -, -, -, -, h7, -⟩ := Cond.code_spec B.named (atoms_spec (ws := Cond.code N.2.1 N.2.2.1 N.2.2.2.1 N.2.2.2.2.1 :: lw_all) B.pre _ List.mem_cons_self)
      cases Option.some.inj (h1.symm.trans B.method)
      cases Option.some.inj (h2.symm.trans (Stand.of_body B).code)
      rw [hh, Array.isEmpty_iff.mp h7]
      rfl
    obtain ⟨t, a1, o, b1, b2, b3⟩ := body_of hl0 hN hlen HX B hml (fun w hw => List.mem_cons_of_mem _ hw) ht hP s₁ hh0 (Stand.of_body B)
    exact ⟨t, o, a1, b1, b2, b3⟩
theorem met_W {l : Launch} {N : MD} {d r : Nat} {as : List Value} {h : Hp} {Q : Post} (hl0 : l.stackTraces = false) (hN : MDOK oname N) (hp : plainName N.2.1.cls = true) (hh : N.2.2.2.2.2 ≠ []) (hlen : (entL as).length ≤ N.2.2.2.1) (hQ : ∀ e h r, ¬ Q (.inr e) h r)
    (HX : XW oname exn cl (FX cl nwl ncl fwl stl spc base D dA sv ro scr) base D dA ro scr N 0 (ent N.2.2.2.1 as) [] h r d Q) :
    Met l N.2.1 (wsN N) (rmE d r) (PcE cl base D dA ro scr (FX cl nwl ncl fwl stl spc base D dA sv ro scr) as h) (QcE cl base D dA ro scr r Q) r (4 * r) (Af base) := by
  have hws : wsN N = Cond.codeWith N.2.1 N.2.2.1 N.2.2.2.1 N.2.2.2.2.1 N.2.2.2.2.2 :: lw_all := if_neg hh
  rw [hws]
  refine va_MetW (hh := N.2.2.2.2.2) hp rfl (fun p e s m args below meth c s₁ B hml hP => ?_)
  have ht : c.exceptionTable.toList = tableOf N.2.2.2.2.2 := vx_table (x := N.2.1) B (atoms_spec (ws := Cond.codeWith N.2.1 N.2.2.1 N.2.2.2.1 N.2.2.2.2.1 N.2.2.2.2.2 :: lw_all) B.pre _ List.mem_cons_self)
  intro T hT X
  obtain ⟨t, a1, o, b1, b2, b3⟩ := body_of hl0 hN hlen HX B hml (fun w hw => List.mem_cons_of_mem _ hw) ht hP T hT X
  refine ⟨t, a1, o, b1, b2, ?_⟩
  rcases b3 with b3 | ⟨q, -, E, ce, L, hx, -⟩
  · exact b3
  · obtain ⟨e, h', r', -, hq, -⟩ := hx
    exact absurd hq (hQ e h' r')
end S7
