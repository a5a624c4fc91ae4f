/-! SOUNDNESS 9: the low evaluator's primitives; the theorem -/
def cpyL (f0 f1 : List Value) (sp dp n : Nat) : List Value := (List.range f1.length).map fun j => if dp ≤ j ∧ j < dp + n then f0.getD (sp + (j - dp)) .null else f1.getD j .null
def primL (sv : Nat → Value) : PrimT := fun p as h r K => match p with
  | 1 => (∃ a, as = [.ref a]) ∧ K (.inl none) h r
  | 2 => ∃ (a0 a1 : Nat) (sp dp n : Int32) (f0 f1 : List Value), as = [.ref a0, .int sp, .ref a1, .int dp, .int n] ∧ rdO h a0 = some (904, f0) ∧ rdO h a1 = some (904, f1) ∧ ¬ sp < 0 ∧ ¬ dp < 0 ∧ ¬ n < 0 ∧ sp.toNatClampNeg + n.toNatClampNeg ≤ f0.length ∧ dp.toNatClampNeg + n.toNatClampNeg ≤ f1.length ∧
      (∀ i, i < n.toNatClampNeg → ∀ y : Nat, f0[sp.toNatClampNeg + i]? = some (.ref y) → ∃ k fs, rdO h y = some (k, fs) ∧ obK k = true) ∧ (∀ v ∈ f0, isR v = true) ∧ (∀ v ∈ f1, isR v = true) ∧ K (.inl none) (upd_ h a1 (.inl (904, cpyL f0 f1 sp.toNatClampNeg dp.toNatClampNeg n.toNatClampNeg))) r
  | 3 => (∃ a fs, as = [.ref a] ∧ rdO h a = some (904, fs)) ∧ K (.inl (some (sv 900))) h r
  | _ => False
theorem primL_mono (sv : Nat → Value) (f : Nat → Nat → Nat → Nat → Option Tg) : PMon (f, primL sv, sv) := by
  intro p as h r K K' hK H
  show primL sv p as h r K'
  have H : primL sv p as h r K := H
  unfold primL at H ⊢
  split at H
  · exact ⟨H.1, hK _ _ _ H.2⟩
  · obtain ⟨a0, a1, sp, dp, n, f0, f1, h1, h2, h3, h4, h5, h6, h7, h8, h9, h10, h11, h12⟩ := H
    exact ⟨a0, a1, sp, dp, n, f0, f1, h1, h2, h3, h4, h5, h6, h7, h8, h9, h10, h11, hK _ _ _ h12⟩
  · exact ⟨H.1, hK _ _ _ H.2⟩
  · exact H
theorem cpyL_len (f0 f1 : List Value) (sp dp n : Nat) : (cpyL f0 f1 sp dp n).length = f1.length := by simp [cpyL]
theorem cpyL_at {f0 f1 : List Value} {sp dp n j : Nat} (hj : j < f1.length) : (cpyL f0 f1 sp dp n)[j]? = some (if dp ≤ j ∧ j < dp + n then f0.getD (sp + (j - dp)) .null else f1.getD j .null) := by
  unfold cpyL
  rw [List.getElem?_map, List.getElem?_range hj]
  rfl
theorem fR_cpy {f0 f1 : List Value} {sp dp n : Nat} (h0 : sp + n ≤ f0.length) (h1 : dp + n ≤ f1.length) (r0 : ∀ v ∈ f0, isR v = true) (r1 : ∀ v ∈ f1, isR v = true) : fR (cpyL f0 f1 sp dp n) = va_cpy (fR f0) (fR f1) sp dp n := by
  have key : ∀ (l : List Value) (i : Nat), (match some (l.getD i .null) with | some (.ref x) => some x | _ => none) = fR l i := by
    intro l i
    unfold fR
    rw [List.getD_eq_getElem?_getD]
    cases l[i]? <;> rfl
  funext j
  rcases Nat.lt_or_ge j f1.length with hj | hj
  · show (match (cpyL f0 f1 sp dp n)[j]? with | some (.ref x) => some x | _ => none) = _
    rw [cpyL_at hj]
    by_cases hc : dp ≤ j ∧ j < dp + n
    · rw [if_pos hc, key, pk_cpy_in hc.1 hc.2]
    · rw [if_neg hc, key, pk_cpy_out (by omega)]
  · rw [pk_cpy_out (by omega)]
    unfold fR
    rw [List.getElem?_eq_none (by rw [cpyL_len]; exact hj), List.getElem?_eq_none hj]
def arrayName : MethodName := arraycopyName
/-- the primitives' links -/
def PrimOK (oname : Nat → String) (o mode j k P : Nat) : Prop :=
  (P = 1 ∧ mode = 2 ∧ Cond.methodLink (oname o) j Lib.objectInit ∈ lw_all ∧ Cond.instanceMethod Lib.objectInit ∈ lw_all ∧ Cond.code Lib.objectInit ⟨#[0xb1]⟩ 1 none ∈ lw_all) ∨
  (P = 2 ∧ mode = 0 ∧ Cond.methodLink (oname o) j arraycopyName ∈ lw_all ∧ Cond.native arraycopyName ∈ lw_all ∧ Cond.static arraycopyName ∈ lw_all ∧ Cond.initialized "java/lang/System" ∈ lw_all) ∨
  (P = 3 ∧ mode = 1 ∧ Cond.methodLink (oname o) j ⟨"java/lang/Object", "getClass", "()Ljava/lang/Class;"⟩ ∈ lw_all ∧ Cond.selects "[Ljava/lang/Object;" ⟨"java/lang/Object", "getClass", "()Ljava/lang/Class;"⟩ ⟨"java/lang/Object", "getClass", "()Ljava/lang/Class;"⟩ ∈ lw_all ∧ Cond.instanceMethod ⟨"java/lang/Object", "getClass", "()Ljava/lang/Class;"⟩ ∈ lw_all ∧ Cond.native ⟨"java/lang/Object", "getClass", "()Ljava/lang/Class;"⟩ ∈ lw_all)
section S9
variable {oname exn : Nat → String} {cl : List vw_C} {nwl : List Cond} {ncl : List (String × String)} {fwl : List (String × MethodName × MethodName)} {stl : List (String × String × String)} {spc : State → Prop} {base : Nat} {D : va_G} {dA : Nat → ClassId} {sv : Nat → Value} {ro : va_W} {scr : Nat × List Value}
set_option maxRecDepth 100000 in
theorem so_prim (hOb : ∀ k, obK k = true → Cond.castable (kname cl k) "java/lang/Object" ∈ nwl) (o mode j k P : Nat) (hP : PrimOK oname o mode j k P) (M : MD) (pc : Nat) (L S : List Value) (h : Hp) (r d : Nat) (Q : Post) (as : List Value) (i : Instr) (len : Nat) (hMo : M.1 = o) (hd : decode M.2.2.1 pc = .ok (i, len)) (hmi : modeI mode j i len) (hcat : catS S ≤ 8)
    (H : primL sv P as h r (Aft (XW oname exn cl (FX cl nwl ncl fwl stl spc base D dA sv ro scr) base D dA ro scr) M pc (pc + len) L S d Q)) : XW oname exn cl (FX cl nwl ncl fwl stl spc base D dA sv ro scr) base D dA ro scr M pc L (as.reverse ++ S) h r d Q := by
  subst hMo
  intro p l e0 R s m args below meth c r0 G locs cells slots ls K hS hR hL hc hs
  have K' := K
  obtain ⟨hx, hb, hml, hret, hlk, hown, hini, hts, hfx, hba, het, hfr, hlo, hRc, hRs, hl0⟩ := K'
  obtain ⟨hK, hnw, hfw, hst, hU, hN, hP0, hA0, ⟨mi, hmi1, hmi2⟩, hAO, hDc, hnc, hX, hXb, hsp⟩ := hfx
  rcases hP with ⟨rfl, rfl, w1, w2, w3⟩ | ⟨rfl, rfl, w1, w2, w3, w4⟩ | ⟨rfl, rfl, w1, w2, w3, w4⟩
  · obtain ⟨⟨a, rfl⟩, HX⟩ := H
    rcases hmi with ⟨h0, -⟩ | ⟨h0, -⟩ | ⟨-, rfl, rfl⟩ | ⟨h0, -⟩
    · cases h0
    · cases h0
    · refine W.objInit hx hb hown (hts _ w1) (hts _ w2) (hts _ w3) rfl (by rw [hml]; exact hL.2.1) rfl hd (by omega) (by show 2 * 0 + catS S + 12 ≤ R.locals; omega) ?_
      exact HX p l e0 R s m args below meth c r0 G locs cells slots ls K hS hR hL hc hs
    · cases h0
  · obtain ⟨a0, a1, sp, dp, n, f0, f1, rfl, g0, g1, p1, p2, p3, p4, p5, hel, q0, q1, HX⟩ := H
    rcases hmi with ⟨-, rfl, rfl⟩ | ⟨h0, -⟩ | ⟨h0, -⟩ | ⟨h0, -⟩
    · obtain ⟨hn, ws, hP, hD, hcc⟩ := hR
      have hR : RelM cl base D dA ro scr h G := ⟨hn, ws, hP, hD, hcc⟩
      have at' : ∀ {a : Nat} {f : List Value}, rdO h a = some (904, f) → ∃ i : Nat, ws[i]? = some (a, trO dA 904 f) := by
        intro a f ha
        rcases hcc a 904 f (rdO_eq ha) with h1 | ⟨-, h1⟩ | ⟨h1, -⟩
        · exact List.getElem?_of_mem h1
        · cases h1
        · cases h1
      obtain ⟨i0, hi0⟩ := at' g0
      obtain ⟨i1, hi1⟩ := at' g1
      have hnf : nativeFrameWords "java/lang/System" "arraycopy" 5 ≤ 200 := by decide +kernel
      refine va_copyM hx hb (by rw [hml]; exact hL.2.1.symm) hown (hts _ w1) (hts _ w2) (hts _ w3) (hts _ w4) hK hP hD hS i0 i1 4 4 (E0 := "java/lang/Object") (E1 := "java/lang/Object") hi0 hi1 rfl rfl p1 p2 p3 p4 p5 (fun i hi y hy => ?_) (by omega) (by show catS S + _ ≤ R.locals; omega) hd (fun H1 locs1 P1 D1 S1 => ?_)
      · have hy2 : f0[sp.toNatClampNeg + i]? = some (.ref y) := by
          unfold fR at hy
          split at hy
          · rename_i z hz; cases hy; exact hz
          · cases hy
        obtain ⟨k, fs, hrd, hk⟩ := hel i hi y hy2
        exact any_obj (args := args) hK hnw hOb hP0 hA0 hS hR hrd hk
      · have e : ((a1, .inl (dA 4, f1.length, .inr (.inr (.inr (.inr (va_cpy (fR f0) (fR f1) sp.toNatClampNeg dp.toNatClampNeg n.toNatClampNeg)))))) : Nat × va_E) = (a1, trO dA 904 (cpyL f0 f1 sp.toNatClampNeg dp.toNatClampNeg n.toNatClampNeg)) := by
          show _ = (a1, (Sum.inl (dA 4, ((cpyL f0 f1 sp.toNatClampNeg dp.toNatClampNeg n.toNatClampNeg).length, Sum.inr (Sum.inr (Sum.inr (Sum.inr (fR (cpyL f0 f1 sp.toNatClampNeg dp.toNatClampNeg n.toNatClampNeg))))))) : va_E))
          rw [cpyL_len, fR_cpy p4 p5 q0 q1]
        exact HX p l e0 R s m args below meth c r0 H1 locs1 cells slots ls K S1 (RelM.put hn hD hcc hi1 (by rw [← e]; exact P1) (by rw [← e]; exact D1)) hL hc hs
    · cases h0
    · cases h0
    · cases h0
  · obtain ⟨⟨a, fs, rfl, hrd⟩, HX⟩ := H
    rcases hmi with ⟨h0, -⟩ | ⟨-, rfl, rfl⟩ | ⟨h0, -⟩ | ⟨h0, -⟩
    · cases h0
    · have HX2 : XW oname exn cl (FX cl nwl ncl fwl stl spc base D dA sv ro scr) base D dA ro scr M (pc + 3) L (sv 900 :: S) h r d Q := HX
      rw [hmi1] at HX2
      have hr := rel_recv hK hP0 hA0 hS hR hrd (by omega)
      exact va_getC hx hb (by rw [hml]; exact hL.2.1.symm) hown (hts _ w1) (va_Dc.use hDc) (hts _ w2) (hts _ w3) (hts _ w4) hmi2 hr (by omega) (by show catS S + 14 ≤ R.locals; omega) hd (HX2 p l e0 R s m args below meth c r0 G locs cells slots ls K hS hR hL hc hs)
    · cases h0
    · cases h0
/-- what the tables must say, all together -/
def TabOK (oname exn : Nat → String) (cl : List vw_C) (nwl : List Cond) (ncl : List (String × String)) (fwl : List (String × MethodName × MethodName)) (stl : List (String × String × String)) (spc : State → Prop) (tg : Nat → Nat → Nat → Nat → Option Tg) : Prop :=
  (∀ k, k < 37 → KindOK cl k) ∧ (∀ o j f, (pF o).lookup j = some f → FldOK oname nwl o j f) ∧ (∀ o j i, (pS o).lookup j = some i → StatOK oname nwl stl o j i) ∧ (∀ o j v, (pK o).lookup j = some v → ConstOK oname o j v) ∧ (∀ k, obK k = true → Cond.castable (kname cl k) "java/lang/Object" ∈ nwl) ∧ (∀ o j k, cok o j k = true → CastOK oname cl nwl o j k) ∧
  (∀ o j k, (pN o).lookup j = some (.inl k) → NewOK oname cl o j k) ∧ (∀ t, t ∈ [FieldType.int, .long, .boolean, .double] → Cond.arrayClass t ∈ lw_all) ∧ (∀ o j, (pN o).lookup j = some (.inr 904) → Cond.classLink (oname o) j "java/lang/Object" ∈ lw_all) ∧ (∀ o j ic e, (pN o).lookup j = some (.inr e) → (pE o).lookup ic = some e → ThrowOK oname exn nwl o j ic e) ∧
  FXmov nwl fwl spc ∧ (∀ M : MD, hOK M = true → HandOK oname exn nwl ncl M) ∧ (∀ o mode j N, tg o mode j 9999 = some (.inl N) → False) ∧ (∀ o mode j k P, tg o mode j k = some (.inr P) → PrimOK oname o mode j k P) ∧
  (∀ o mode j k N, tg o mode j k = some (.inl N) → MDOK oname N ∧ (N.2.2.2.2.2 ≠ [] → plainName N.2.1.cls = true) ∧ (mode ≠ 0 → mode ≠ 2 → k < 37) ∧ ∀ (base : Nat) (D : va_G) (dA : Nat → ClassId) (sv : Nat → Value) (ro : va_W) (scr : Nat × List Value), CallOK oname cl (FX cl nwl ncl fwl stl spc base D dA sv ro scr) o mode j k N)
set_option maxRecDepth 100000 in
/-- SOUNDNESS: what the low evaluator says, the machine does -/
theorem sound {tg : Nat → Nat → Nat → Nat → Option Tg} (T : TabOK oname exn cl nwl ncl fwl stl spc tg) (hB : ∀ q : Nat, base ≤ q → sv 4 ≠ .ref q) {M : MD} {pc : Nat} {L S : List Value} {h : Hp} {r d : Nat} {Q : Post} (H : Wp (tg, primL sv, sv) M pc L S h r d Q) : XW oname exn cl (FX cl nwl ncl fwl stl spc base D dA sv ro scr) base D dA ro scr M pc L S h r d Q := by
  obtain ⟨tKind, tFld, tStat, tConst, tOb, tCast, tNew, tAC, tAN, tThrow, tMov, tHand, tE9, tPrim, tCall⟩ := T
  refine H _ (fun M pc L S h r d Q H => ?_)
  have tCO : ∀ o mode j k N, tg o mode j k = some (.inl N) → CallOK oname cl (FX cl nwl ncl fwl stl spc base D dA sv ro scr) o mode j k N ∧ MDOK oname N ∧ (N.2.2.2.2.2 ≠ [] → plainName N.2.1.cls = true) ∧ (mode ≠ 0 → mode ≠ 2 → k < 37) := fun o mode j k N hN => by
    obtain ⟨a1, a2, a3, a4⟩ := tCall o mode j k N hN
    exact ⟨a4 base D dA sv ro scr, a1, a2, a3⟩
  have tPO : ∀ (o mode j k P : Nat), tg o mode j k = some (.inr P) → ∀ (M : MD) (pc : Nat) (L S : List Value) (h : Hp) (r d : Nat) (Q : Post) (as : List Value) (i : Instr) (len : Nat), M.1 = o → decode M.2.2.1 pc = .ok (i, len) → modeI mode j i len → (pA o).lookup j = some as.length → catS S ≤ 8 → k = rcv mode as h → primL sv P as h r (Aft (XW oname exn cl (FX cl nwl ncl fwl stl spc base D dA sv ro scr) base D dA ro scr) M pc (pc + len) L S d Q) → XW oname exn cl (FX cl nwl ncl fwl stl spc base D dA sv ro scr) base D dA ro scr M pc L (as.reverse ++ S) h r d Q :=
    fun o mode j k P hP M pc L S h r d Q as i len hMo hd hmi _ hcat _ H => so_prim tOb o mode j k P (tPrim o mode j k P hP) M pc L S h r d Q as i len hMo hd hmi hcat H
  unfold StpE at H
  split at H
  · rename_i i len hd
    obtain ⟨hl, h0, H⟩ := H
    cases i with
    | aconst_null => exact so_aconst_null hd (hl.resolve_right (Nat.succ_ne_zero _)) rfl H
    | iadd => exact so_iadd hd (hl.resolve_right (Nat.succ_ne_zero _)) rfl H
    | isub => exact so_isub hd (hl.resolve_right (Nat.succ_ne_zero _)) rfl H
    | imul => exact so_imul hd (hl.resolve_right (Nat.succ_ne_zero _)) rfl H
    | iand => exact so_iand hd (hl.resolve_right (Nat.succ_ne_zero _)) rfl H
    | ior => exact so_ior hd (hl.resolve_right (Nat.succ_ne_zero _)) rfl H
    | ishl => exact so_ishl hd (hl.resolve_right (Nat.succ_ne_zero _)) rfl H
    | ishr => exact so_ishr hd (hl.resolve_right (Nat.succ_ne_zero _)) rfl H
    | iushr => exact so_iushr hd (hl.resolve_right (Nat.succ_ne_zero _)) rfl H
    | ladd => exact so_ladd hd (hl.resolve_right (Nat.succ_ne_zero _)) rfl H
    | lsub => exact so_lsub hd (hl.resolve_right (Nat.succ_ne_zero _)) rfl H
    | lmul => exact so_lmul hd (hl.resolve_right (Nat.succ_ne_zero _)) rfl H
    | idiv => exact so_idiv hd (hl.resolve_right (Nat.succ_ne_zero _)) rfl H
    | irem => exact so_irem hd (hl.resolve_right (Nat.succ_ne_zero _)) rfl H
    | ldiv => exact so_ldiv hd (hl.resolve_right (Nat.succ_ne_zero _)) rfl H
    | ineg => exact so_ineg hd (hl.resolve_right (Nat.succ_ne_zero _)) rfl H
    | lneg => exact so_lneg hd (hl.resolve_right (Nat.succ_ne_zero _)) rfl H
    | i2l => exact so_i2l hd (hl.resolve_right (Nat.succ_ne_zero _)) rfl H
    | l2i => exact so_l2i hd (hl.resolve_right (Nat.succ_ne_zero _)) rfl H
    | i2c => exact so_i2c hd (hl.resolve_right (Nat.succ_ne_zero _)) rfl H
    | i2f => exact so_i2f hd (hl.resolve_right (Nat.succ_ne_zero _)) rfl H
    | i2d => exact so_i2d hd (hl.resolve_right (Nat.succ_ne_zero _)) rfl H
    | l2d => exact so_l2d hd (hl.resolve_right (Nat.succ_ne_zero _)) rfl H
    | f2d => exact so_f2d hd (hl.resolve_right (Nat.succ_ne_zero _)) rfl H
    | fdiv => exact so_fdiv hd (hl.resolve_right (Nat.succ_ne_zero _)) rfl H
    | ddiv => exact so_ddiv hd (hl.resolve_right (Nat.succ_ne_zero _)) rfl H
    | lcmp => exact so_lcmp hd (hl.resolve_right (Nat.succ_ne_zero _)) rfl H
    | dup => exact so_dup hd (hl.resolve_right (Nat.succ_ne_zero _)) rfl H
    | pop => exact so_pop hd (hl.resolve_right (Nat.succ_ne_zero _)) rfl H
    | dup_x1 => exact so_dup_x1 hd (hl.resolve_right (Nat.succ_ne_zero _)) rfl H
    | dup2 => exact so_dup2 hd (hl.resolve_right (Nat.succ_ne_zero _)) rfl H
    | iconst a => exact so_iconst hd (hl.resolve_right (Nat.succ_ne_zero _)) rfl H
    | bipush a => exact so_bipush hd (hl.resolve_right (Nat.succ_ne_zero _)) rfl H
    | sipush a => exact so_sipush hd (hl.resolve_right (Nat.succ_ne_zero _)) rfl H
    | lconst a => exact so_lconst hd (hl.resolve_right (Nat.succ_ne_zero _)) rfl H
    | fconst a => exact so_fconst hd (hl.resolve_right (Nat.succ_ne_zero _)) rfl H
    | dconst a => exact so_dconst hd (hl.resolve_right (Nat.succ_ne_zero _)) rfl H
    | iload a => exact so_iload hd (hl.resolve_right (Nat.succ_ne_zero _)) rfl H
    | iload_n a => exact so_iload_n hd (hl.resolve_right (Nat.succ_ne_zero _)) rfl H
    | lload a => exact so_lload hd (hl.resolve_right (Nat.succ_ne_zero _)) rfl H
    | lload_n a => exact so_lload_n hd (hl.resolve_right (Nat.succ_ne_zero _)) rfl H
    | fload a => exact so_fload hd (hl.resolve_right (Nat.succ_ne_zero _)) rfl H
    | fload_n a => exact so_fload_n hd (hl.resolve_right (Nat.succ_ne_zero _)) rfl H
    | dload a => exact so_dload hd (hl.resolve_right (Nat.succ_ne_zero _)) rfl H
    | dload_n a => exact so_dload_n hd (hl.resolve_right (Nat.succ_ne_zero _)) rfl H
    | aload a => exact so_aload hd (hl.resolve_right (Nat.succ_ne_zero _)) rfl H
    | aload_n a => exact so_aload_n hd (hl.resolve_right (Nat.succ_ne_zero _)) rfl H
    | istore a => exact so_istore hd (hl.resolve_right (Nat.succ_ne_zero _)) rfl H
    | istore_n a => exact so_istore_n hd (hl.resolve_right (Nat.succ_ne_zero _)) rfl H
    | lstore a => exact so_lstore hd (hl.resolve_right (Nat.succ_ne_zero _)) rfl H
    | lstore_n a => exact so_lstore_n hd (hl.resolve_right (Nat.succ_ne_zero _)) rfl H
    | fstore a => exact so_fstore hd (hl.resolve_right (Nat.succ_ne_zero _)) rfl H
    | fstore_n a => exact so_fstore_n hd (hl.resolve_right (Nat.succ_ne_zero _)) rfl H
    | dstore a => exact so_dstore hd (hl.resolve_right (Nat.succ_ne_zero _)) rfl H
    | dstore_n a => exact so_dstore_n hd (hl.resolve_right (Nat.succ_ne_zero _)) rfl H
    | astore a => exact so_astore hd (hl.resolve_right (Nat.succ_ne_zero _)) rfl H
    | astore_n a => exact so_astore_n hd (hl.resolve_right (Nat.succ_ne_zero _)) rfl H
    | fcmp a => exact so_fcmp hd (hl.resolve_right (Nat.succ_ne_zero _)) rfl H
    | dcmp a => exact so_dcmp hd (hl.resolve_right (Nat.succ_ne_zero _)) rfl H
    | iinc a b => exact so_iinc hd (hl.resolve_right (Nat.succ_ne_zero _)) rfl H
    | ifnull a => exact so_ifnull (tg := 0) hd (hl.resolve_right (Nat.succ_ne_zero _)) h0 H
    | ifnonnull a => exact so_ifnonnull (tg := 0) hd (hl.resolve_right (Nat.succ_ne_zero _)) h0 H
    | goto a => exact so_goto (tg := 0) hd (hl.resolve_right (Nat.succ_ne_zero _)) h0 H
    | ifCond a b => exact so_ifCond (tg := 0) hd (hl.resolve_right (Nat.succ_ne_zero _)) h0 H
    | if_icmp a b => exact so_if_icmp (tg := 0) hd (hl.resolve_right (Nat.succ_ne_zero _)) h0 H
    | if_acmp a b => exact so_if_acmp (tg := 0) hd (hl.resolve_right (Nat.succ_ne_zero _)) h0 H
    | tableswitch a b c e => exact so_tableswitch hd H
    | getfield a => exact so_getfield tKind tFld hd (hl.resolve_right (Nat.succ_ne_zero _)) H
    | putfield a => exact so_putfield tKind tFld hd (hl.resolve_right (Nat.succ_ne_zero _)) H
    | getstatic a => exact so_getstatic rfl tStat hd (hl.resolve_right (Nat.succ_ne_zero _)) H
    | ldc a => exact so_ldc rfl tConst hd (hl.resolve_right (Nat.succ_ne_zero _)) H
    | ldc2_w a => exact so_ldc2_w tConst hd (hl.resolve_right (Nat.succ_ne_zero _)) H
    | arraylength => exact so_arraylength hd (hl.resolve_right (Nat.succ_ne_zero _)) H
    | iaload => exact so_iaload hd (hl.resolve_right (Nat.succ_ne_zero _)) H
    | laload => exact so_laload hd (hl.resolve_right (Nat.succ_ne_zero _)) H
    | baload => exact so_baload hd (hl.resolve_right (Nat.succ_ne_zero _)) H
    | daload => exact so_daload hd (hl.resolve_right (Nat.succ_ne_zero _)) H
    | aaload => exact so_aaload hd (hl.resolve_right (Nat.succ_ne_zero _)) H
    | iastore => exact so_iastore hd (hl.resolve_right (Nat.succ_ne_zero _)) H
    | lastore => exact so_lastore hd (hl.resolve_right (Nat.succ_ne_zero _)) H
    | bastore => exact so_bastore hd (hl.resolve_right (Nat.succ_ne_zero _)) H
    | dastore => exact so_dastore hd (hl.resolve_right (Nat.succ_ne_zero _)) H
    | ireturn => exact so_ireturn hd (hl.resolve_right (Nat.succ_ne_zero _)) H
    | lreturn => exact so_lreturn hd (hl.resolve_right (Nat.succ_ne_zero _)) H
    | freturn => exact so_freturn hd (hl.resolve_right (Nat.succ_ne_zero _)) H
    | dreturn => exact so_dreturn hd (hl.resolve_right (Nat.succ_ne_zero _)) H
    | areturn => exact so_areturn hd (hl.resolve_right (Nat.succ_ne_zero _)) H
    | aastore => exact so_aastore tOb hd (hl.resolve_right (Nat.succ_ne_zero _)) H
    | return_ => exact so_return hd (hl.resolve_right (Nat.succ_ne_zero _)) H
    | newarray a => exact so_newarray hB tAC hd (hl.resolve_right (Nat.succ_ne_zero _)) H
    | anewarray a => exact so_anewarray hB tAN hd (hl.resolve_right (Nat.succ_ne_zero _)) H
    | checkcast a => exact so_checkcast tCast hd (hl.resolve_right (Nat.succ_ne_zero _)) H
    | new a =>
      cases hj : (pN M.1).lookup a with
      | none => simp only [stI, hj] at H; exact H.elim
      | some v =>
        cases v with
        | inl k => exact so_new hB tKind tNew hj hd (hl.resolve_right (Nat.succ_ne_zero _)) H
        | inr e => exact so_throw tThrow hj tMov.1 hd (hl.resolve_right (Nat.succ_ne_zero _)) H
    | invokestatic a =>
      simp only [stI] at H
      split at H
      · rename_i n hn
        split at H
        · rename_i hle
          exact so_call (mode := 0) (j := a) tMov (tHand M) tCO tPO tE9 hd (Or.inl ⟨rfl, rfl, hl.resolve_right (Nat.succ_ne_zero _)⟩) (by decide) hn hle H
        · exact H.elim
      · exact H.elim
    | invokevirtual a =>
      simp only [stI] at H
      split at H
      · rename_i n hn
        split at H
        · rename_i hle
          exact so_call (mode := 1) (j := a) tMov (tHand M) tCO tPO tE9 hd (Or.inr (Or.inl ⟨rfl, rfl, hl.resolve_right (Nat.succ_ne_zero _)⟩)) (by decide) hn hle H
        · exact H.elim
      · exact H.elim
    | invokespecial a =>
      simp only [stI] at H
      split at H
      · rename_i n hn
        split at H
        · rename_i hle
          exact so_call (mode := 2) (j := a) tMov (tHand M) tCO tPO tE9 hd (Or.inr (Or.inr (Or.inl ⟨rfl, rfl, hl.resolve_right (Nat.succ_ne_zero _)⟩))) (by decide) hn hle H
        · exact H.elim
      · exact H.elim
    | invokeinterface a b =>
      simp only [stI] at H
      split at H
      · rename_i n hn
        split at H
        · rename_i hle
          exact so_call (mode := 3) (j := a) tMov (tHand M) tCO tPO tE9 hd (Or.inr (Or.inr (Or.inr ⟨rfl, ⟨b, rfl⟩, hl.resolve_right (Nat.succ_ne_zero _)⟩))) (by decide) hn hle H
        · exact H.elim
      · exact H.elim
    | _ => exact H.elim
  · exact H.elim
end S9
