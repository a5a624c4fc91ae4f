/-! SOUNDNESS 6: throws and calls; zx_throw0 is vx_throw0 of EXCEPTIONS.to-paste with the heap's growth told -/
theorem zx_throw0 {p : Program} {l : Launch} {e : Env} {R : Room} {s : State} {m : MethodId} {args : Array Value} {below : List Frame} {meth : Method} {c : Code} {H : Heap} {locs : List Loc} {cells slots : Nat} {free : Addr → Prop} {ls : Array Slot} {rest : List Value} {Qc : Array Value → State → Outcome → State → Prop} {XC : String → State → State → Prop} {cc : ByteArray} {pc : Nat} (hexec : p.tables.exec = Jvm.exec) (hb : c.code = cc) (hl : l.stackTraces = false) {own cls : String} {names : List String} {ik ic mc ms : Nat} {A : Nat → Prop}
    (hown : s.vm.findClass own = some m.cls) (hcls : Bundle.fit cls = true) (hnames : ∀ n ∈ names, Bundle.fit n = true)
    (hk : (Cond.classLink own ik cls).before args s = true) (hini : (Cond.initialized cls).before args s = true) (hat : ∀ w ∈ vx_at0 own ic cls names, w.before args s = true)
    (hgood : ∀ w ∈ Cond.classLink own ik cls :: Cond.initialized cls :: vx_at0 own ic cls names, vx_ot w = true)
    (hU : vx_Zq Bundle.tN "UNASSIGNED_STACK" Bundle.steD A s s.heap) (hN : vx_Zq Bundle.tN "SUPPRESSED_SENTINEL" Bundle.listD A s s.heap) (hS : va_S A s.heap H locs) (hsize : ls.size = c.maxLocals)
    (d0 : decode cc pc = .ok (.new ik, 3)) (d3 : decode cc (pc + 3) = .ok (.dup, 1)) (d4 : decode cc (pc + 4) = .ok (.invokespecial ic, 3)) (d7 : decode cc (pc + 7) = .ok (.athrow, 1))
    (hout : ∀ x ∈ c.exceptionTable.toList, covers x (pc + 7) = false)
    (hRframes : names.length + 3 < R.frames) (hRlocals : (rest.map fun v => v.category).sum + (13 * (names.length + 1) + 42) ≤ R.locals) (hRcells : cells + 1 ≤ R.cells) (hRslots : slots + 6 ≤ R.slots) (hlocks : meth.locks = false)
    (hx : ∀ t : State, s.vm.Alike t.vm → (∀ q : Nat, q < H.size → t.heap[q]? = H[q]?) → Gr H t.heap 1 6 → XC cls s t)
    (hf : ∀ z ∈ locs, free z.base) (hc : cells + 1 ≤ mc) (hs : slots + 6 ≤ ms) :
    W p l e R s m args below meth c H locs cells slots (vx_MQ below Qc XC args s mc ms free) (F0 m pc ls rest) := by
  intro T hT X
  have htr : e.platform.stackTraces = false := (show e.platform.stackTraces = l.stackTraces by rw [X.admits.platform]).trans hl
  have Y := vx_rebase X (R' := { frames := R.frames, locals := R.locals, cells := 1, slots := 6 }) (Nat.le_refl _) (Nat.le_refl _) hRcells hRslots
  obtain ⟨s', hA⟩ : ∃ z, z = (T.setVm s.vm).setFrames (.invoking m args :: below) := ⟨_, rfl⟩
  rw [← hA] at Y
  have hvm : s'.vm = s.vm := by rw [hA]; rfl
  have hhp : s'.heap = H := by rw [hA]; exact hT
  have hW0 : s.WarmedH s'.vm := by rw [hvm]; exact State.WarmedH.refl s
  have hat' : ∀ w ∈ vx_at0 own ic cls names, w.before args s' = true := fun w hw => vx_ot_at hW0 hvm.symm (hgood w (List.mem_cons_of_mem _ (List.mem_cons_of_mem _ hw))) (hat w hw)
  have hk' : (Cond.classLink own ik cls).before args s' = true := vx_ot_at hW0 hvm.symm (hgood _ List.mem_cons_self) hk
  have hini' : (Cond.initialized cls).before args s' = true := vx_ot_at hW0 hvm.symm (hgood _ (List.mem_cons_of_mem _ List.mem_cons_self)) hini
  have hU' : vx_Zq Bundle.tN "UNASSIGNED_STACK" Bundle.steD A s' s'.heap := by rw [hhp]; exact vx_Zq.moved hW0.alike (hU.kept hS.2.1)
  have hN' : vx_Zq Bundle.tN "SUPPRESSED_SENTINEL" Bundle.listD A s' s'.heap := by rw [hhp]; exact vx_Zq.moved hW0.alike (hN.kept hS.2.1)
  have h : ∀ w ∈ Bundle.ownAtoms0 own ic cls names, w.before args s' = true := vx_own hat' (vx_isRefq hU'.1) (vx_isRefq hN'.1) hU'.2.word hN'.2.word
  have hown' : s'.vm.findClass own = some m.cls := by rw [hvm]; exact hown
  have hins : (Cond.instantiable cls 6).before args s' = true := h _ (by simp [Bundle.ownAtoms0])
  obtain ⟨vm₁, cX, kX, hfX, hkX, -, -, X₁, st1⟩ := Y.newCold hexec (own := own) (C := cls) (index := ik) (n := 6) hown' hk' hins hini'
    (g := F0 m pc ls rest) rfl (by rw [hb]; exact d0) (Nat.le_refl _) (Nat.le_refl _)
  generalize hT1 : (T.setVm vm₁).pushCell { cls := cX, slots := kX.instanceTypes.map defaultValue, vm := .none } = T1 at X₁ st1
  have hcat : (Value.ref T.heap.size).category = 1 := rfl
  have hcellA : T1.heap[T.heap.size]? = some (freshCell cX kX) := by rw [← hT1]; exact State.heap_pushCell_size _ _
  have d3' : decode c.code (pc + 3) = .ok (.dup, 1) := by rw [hb]; exact d3
  obtain ⟨U, hsteps, hrun, hend, hW, hsame, ce, hce, hO⟩ := X₁.ctorThrow0 hexec htr (own := own) (cls := cls) (names := names) (ic := ic) hown' hcls hnames h (fun x hx => nomatch hx) hfX hkX hcellA (by rw [hhp, hT]; exact Nat.le_refl _)
    (g := { method := m, pc := pc + 4, locals := ls, stack := .ref T.heap.size :: .ref T.heap.size :: rest, locked := none }) rfl hsize rfl rfl (rest := rest) rfl
    (by rw [hb]; exact d4) (by rw [hb]; exact d7) hout hRframes (by simp only [List.map_cons, List.sum_cons, hcat]; omega) hlocks
  obtain ⟨f1, f2⟩ := vx_frame hsame
  rw [hhp] at f1 f2
  have hgr : Gr H U.heap 1 6 := by
    obtain ⟨-, g2, g3, -, g5, g6⟩ := hsame
    rw [hhp] at g2 g3 g5 g6
    exact ⟨g2, g3, g5, fun q c9 hc9 => by obtain ⟨c8, z1, -, z3, -⟩ := g6 q c9 hc9; exact ⟨c8, z1, z3⟩⟩
  have hWs : s.WarmedH U.vm := State.WarmedH.trans hW0 hW
  have hcl : s.vm.findClass cls = some ce.cls := by
    have h9 := hO.cls
    rw [hvm] at h9
    exact h9
  have hall : s.sameButNew ({ U with vm := s.vm } : State) locs mc ms := by
    subst hA
    obtain ⟨e1, e2⟩ := hsame
    rw [State.setFrames_setFrames] at e1
    have h2 : (T.setVm s.vm).sameButNew ({ U with vm := s.vm } : State) [] (0 + 1) (0 + 6) := ⟨e1, e2⟩
    have h3 := X.same.trans h2
    rw [List.append_nil] at h3
    exact h3.mono hc hs
  refine ⟨U, ?_, .threw T.heap.size, hrun, hend, Or.inr ⟨T.heap.size, rfl, cls, ce, locs, hx U hWs.alike (fun q hq => f2 q hq (fun z hz => nomatch hz)) hgr, hce, hO.vm, hcl, hWs, hall, hf⟩⟩
  refine st1 _ ?_
  show Steps p.tables e below (T1.setTop { method := m, pc := pc + 3, locals := ls, stack := .ref T.heap.size :: rest, locked := none }) _
  jvm_step X₁.here [X₁.here.top, hexec, d3', Value.category]
  exact hsteps

theorem va_P_same {D : va_G} {cl : List vw_C} {ws : va_W} {H H1 : Heap} (hP : va_P D cl ws H) (h : ∀ q : Nat, q < H.size → H1[q]? = H[q]?) : va_P D cl ws H1 := fun k q hk => (hP k q hk).kept (h q.1 (hP k q hk).lt)
theorem RelM.same {cl : List vw_C} {base : Nat} {D : va_G} {dA : Nat → ClassId} {ro : va_W} {scr : Nat × List Value} {h : Hp} {H H1 : Heap} (hR : RelM cl base D dA ro scr h H) (he : ∀ q : Nat, q < H.size → H1[q]? = H[q]?) : RelM cl base D dA ro scr h H1 := by
  obtain ⟨hn, ws, hP, hD, hc⟩ := hR
  exact ⟨hn, ws, va_P_same hP he, hD, hc⟩
def ThrowOK (oname exn : Nat → String) (nwl : List Cond) (o j ic e : Nat) : Prop := ∃ names : List String, Bundle.fit (exn e) = true ∧ (∀ n ∈ names, Bundle.fit n = true) ∧ names.length ≤ 6 ∧ Cond.classLink (oname o) j (exn e) ∈ lw_all ∧ Cond.initialized (exn e) ∈ lw_all ∧ (∀ w ∈ vx_at0 (oname o) ic (exn e) names, w ∈ lw_all ∨ w ∈ nwl) ∧ (∀ w ∈ Cond.classLink (oname o) j (exn e) :: Cond.initialized (exn e) :: vx_at0 (oname o) ic (exn e) names, vx_ot w = true)
section S6
variable {oname exn : Nat → String} {cl : List vw_C} {nwl : List Cond} {ncl : List (String × String)} {fwl : List (String × MethodName × MethodName)} {stl : List (String × String × String)} {spc : State → Prop} {base : Nat} {D : va_G} {dA : Nat → ClassId} {sv : Nat → Value} {ro : va_W} {scr : Nat × List Value} {E : Evn} {M : MD} {pc : Nat} {L S : List Value} {h : Hp} {r d : Nat} {Q : Post} {len tg : Nat}
theorem so_throw {j e : Nat} (hTO : ∀ o j ic e, (pN o).lookup j = some (.inr e) → (pE o).lookup ic = some e → ThrowOK oname exn nwl o j ic e) (hj : (pN M.1).lookup j = some (.inr e)) (hnt : ∀ w ∈ nwl, w.onTables = true) (hd : decode M.2.2.1 pc = .ok (.new j, len)) (hl : len = 3) (H : Do1 E (XW oname exn cl (FX cl nwl ncl fwl stl spc base D dA sv ro scr) base D dA ro scr) M pc h r d Q (stI E.2.2 (rdO h) M pc (pc + len) tg L S (.new j))) : XW oname exn cl (FX cl nwl ncl fwl stl spc base D dA sv ro scr) base D dA ro scr M pc L S h r d Q := by
  subst hl
  intro p l e0 R s m args below meth c r0 G locs cells slots ls K hS hR hL hc hs
  have K' := K
  obtain ⟨hx, hb, hml, hret, hlk, hown, hini, hts, hfx, hba, het, hfr, hlo, hRc, hRs, hl0⟩ := K'
  obtain ⟨hK, hnw, hfw, hst, hU, hN, hP0, hA0, hmir, hAO, hDc, hnc, hX, hXb, hsp⟩ := hfx
  simp only [stI] at H
  rw [hj] at H
  dsimp only at H
  split at H
  · rename_i hex
    obtain ⟨hex, hcat⟩ := hex
    obtain ⟨h2r, HQ⟩ := H
    unfold excAt at hex
    split at hex
    · rename_i ic hd3 hd4 hd7
      split at hex
      · rename_i hhh
        obtain ⟨names, hcls, hnames, hlen, hw1, hw2, hat, hgood⟩ := hTO _ _ _ _ hj hex
        refine W_Gr fun hG => ?_
        refine zx_throw0 (mc := r0) (ms := 4 * r0) hx hb hl0 hown hcls hnames (hts _ hw1) (hts _ hw2) (fun w hw => ?_) hgood hU hN hS (by rw [hL.2.1, hml]) hd hd3 hd4 hd7 (by rw [het, hhh]; intro x hx; cases hx) (by omega) ?_ (by omega) (by omega) hlk (fun t hal hsame hgr => ?_) hS.2.2 (by omega) (by omega)
        · rcases hat w hw with h1 | h1
          · exact hts _ h1
          · exact va_Nw.use (hnt _ h1) (hnw _ h1)
        · unfold catS at hcat; omega
        · refine ⟨e, h, r - 2, rfl, HQ, hR.same hsame, ?_, by omega, (hG.trans hgr).mono (by omega) (by omega)⟩
          refine ⟨Nat.le_trans hS.1 hgr.1, fun q h1 h2 => ?_⟩
          rw [hsame q (Nat.lt_of_lt_of_le h1 hS.1)]
          exact hS.2.1 q h1 h2
      · cases hex
    · cases hex
  · exact H.elim
end S6
