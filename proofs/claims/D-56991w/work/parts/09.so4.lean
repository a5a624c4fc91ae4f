/-! SOUNDNESS 4: what the tables must say, and the instructions on the heap -/
/-! puts into a cell, two fields of one name allowed if their types differ (va_put, va_putF, va_putN of the kit turned) -/
theorem z_decl {args : Array Value} {s : State} {C O f d : String} {cC : ClassId} (hfc : s.vm.findClass C = some cC) (hl : (Cond.lays C O f d).before args s = true ∨ (Cond.laysFinal C O f d).before args s = true) {c1 k1 i1 x1} (hx : s.fieldFound? O f d = some (c1, k1, i1, x1)) : ∃ dd, Jmm.declares? s.vm x1.slot (cC + 1) cC = some dd ∧ dd.2.name = x1.name ∧ dd.2.type = x1.type := by
  rcases hl with hl | hl
  · obtain ⟨c, k, c', k', i, x, r1, -, r3, -, -, -, -, dd, q1, -, q3, q4⟩ := Cond.lays_spec hl
    cases hfc.symm.trans r1
    cases hx.symm.trans r3
    exact ⟨dd, q1, q3, q4⟩
  · obtain ⟨c, k, c', k', i, x, r1, -, r3, -, -, -, -, -, dd, q1, -, q3, q4⟩ := Cond.laysFinal_spec hl
    cases hfc.symm.trans r1
    cases hx.symm.trans r3
    exact ⟨dd, q1, q3, q4⟩
section S4Z
variable {p : Program} {l : Launch} {e : Env} {R : Room} {s : State} {m : MethodId} {args : Array Value} {below : List Frame} {meth : Method} {c : Code} {H : Heap} {locs : List Loc} {cells slots : Nat} {Q : State → Prop}
variable {cc : ByteArray} {pc : Nat} {ls : Array Slot} {rest : List Value} {D : va_G} {cl : List vw_C} {A : Nat → Prop} {a : Nat} {tys : List (ClassId × FieldType)} {ws : va_W} {H0 : Heap}
theorem z_apart {own C : String} {T : u_T} {N ci : Nat} {Ts : List Cond} (hts : ∀ w ∈ Ts, w.before args s = true) (hin : ∀ w ∈ u_ws C T N, w ∈ Ts) (ty : Nat → FieldType) (hty : ∀ k, k < N → parseFieldDescriptor (T k).2.2.1 = some (ty k)) (hnm : ∀ a, a < N → ∀ b, b < N → a ≠ b → (T a).2.1 ≠ (T b).2.1 ∨ ty a ≠ ty b) (hK : va_K D cl tys s) (hc : cl[ci]? = some (C, T, N)) : ∀ x y, x < N → y < N → x ≠ y → (D.2 ci) x ≠ (D.2 ci) y := by
  intro x y hx hy hne
  obtain ⟨hS, hfc, -⟩ := hK.1 ci _ hc
  obtain ⟨_, _, _, fa, hia, ea⟩ := hS x hx
  obtain ⟨_, _, _, fb, hib, eb⟩ := hS y hy
  rw [← ea, ← eb]
  obtain ⟨na, ta⟩ := State.fieldFound?_type hia (hty x hx)
  obtain ⟨nb, tb⟩ := State.fieldFound?_type hib (hty y hy)
  obtain ⟨d1, a1, b1, c1⟩ := z_decl hfc (u_lays hts hin hx) hia
  obtain ⟨d2, a2, b2, c2⟩ := z_decl hfc (u_lays hts hin hy) hib
  intro e
  rw [e] at a1
  cases a1.symm.trans a2
  rcases hnm x hx y hy hne with h | h
  · exact h (by rw [← na, ← nb, ← b1, ← b2])
  · exact h (by rw [← ta, ← tb, ← c1, ← c2])
theorem z_put (hexec : p.tables.exec = Jvm.exec) (hb : c.code = cc) {own ref C : String} {T : u_T} {N ci index : Nat} {Ts : List Cond} (hts : ∀ w ∈ Ts, w.before args s = true) (hin : ∀ w ∈ u_ws C T N, w ∈ Ts) (ty0 : Nat → FieldType) (hty : ∀ k, k < N → parseFieldDescriptor (T k).2.2.1 = some (ty0 k)) (hnm : ∀ a, a < N → ∀ b, b < N → a ≠ b → (T a).2.1 ≠ (T b).2.1 ∨ ty0 a ≠ ty0 b) (hown : s.vm.findClass own = some m.cls) (hK : va_K D cl tys s) (hP : va_P D cl ws H) (hD : va_D A ws) (hS0 : va_S A H0 H locs) (q0 : Nat) {fs : List Value} (he : ws[q0]? = some (a, .inr (ci, fs))) (hc : cl[ci]? = some (C, T, N)) (k : Nat) (hk : k < N) (hlink : (Cond.fieldLink own index ref (T k).2.1 (T k).2.2.1).before args s = true) (hsame : ∀ x, s.fieldFound? (T k).1 (T k).2.1 (T k).2.2.1 = some x → s.fieldFound? ref (T k).2.1 (T k).2.2.1 = some x) (hfin : (T k).2.2.2 = false) {ty : FieldType} {v : Value} (hd : parseFieldDescriptor (T k).2.2.1 = some ty) (hn : narrow ty v = v) (hfit : fits ty v = true) (hl : k < fs.length)
    (hdg : decode cc pc = .ok (.putfield index, 3)) (kk : ∀ (H1 : Heap) (locs1 : List Loc), va_P D cl (ws.set q0 (a, .inr (ci, fs.set k v))) H1 → va_D A (ws.set q0 (a, .inr (ci, fs.set k v))) → va_S A H0 H1 locs1 → W p l e R s m args below meth c H1 locs1 cells slots Q (F0 m (pc + 3) ls rest)) : W p l e R s m args below meth c H locs cells slots Q (F0 m pc ls (v :: .ref a :: rest)) := by
  have hap := z_apart (own := own) hts hin ty0 hty hnm hK hc
  obtain ⟨r, h1, cell, q1, q2, q3, q4⟩ := hP q0 _ he
  have hr : r = (C, T, N) := Option.some.inj (h1.symm.trans hc)
  subst hr
  obtain ⟨hS, hfc, kC, hkC, hkind⟩ := hK.1 ci _ hc
  obtain ⟨cf, kf, fi, f, hi, hsl⟩ := hS k hk
  have hlay := hts _ (hin _ (u_in_lay hk))
  unfold u_lay at hlay
  rw [if_neg (by rw [hfin]; decide)] at hlay
  have hst := (u_facts hfc hkC (u_lays hts hin hk) hi).1
  have h6 := u_store hfc hkC hkind hlay hi hd hn hfit
  refine W.putK hexec hb (f := f) ⟨hown, hlink, ⟨_, _, _, hsame _ hi⟩, hst⟩ (by rw [q2]; exact h6) q1 q3 (by rw [hsl]; exact k2_hasslot (q4 k hk)) rfl rfl hdg fun H' e1 e2 e3 => ?_
  rw [hsl] at e1 ⊢
  exact kk H' _ (hP.set hD he ⟨_, hc, t_OB.to (V := updV (vp_V fs) k v) ⟨_, e1, q2, q3, t_set q4 hap hk v⟩ (fun j _ => vp_updV_set hl v j)⟩ e3) (hD.set he) (hS0.put e2 e3 (hD.2 q0 _ he))
theorem z_putF (hexec : p.tables.exec = Jvm.exec) (hb : c.code = cc) {own ref C : String} {T : u_T} {N ci index : Nat} {Ts : List Cond} (hts : ∀ w ∈ Ts, w.before args s = true) (hin : ∀ w ∈ u_ws C T N, w ∈ Ts) (ty0 : Nat → FieldType) (hty : ∀ k, k < N → parseFieldDescriptor (T k).2.2.1 = some (ty0 k)) (hnm : ∀ a, a < N → ∀ b, b < N → a ≠ b → (T a).2.1 ≠ (T b).2.1 ∨ ty0 a ≠ ty0 b) (hown : s.vm.findClass own = some m.cls) (hK : va_K D cl tys s) (hP : va_P D cl ws H) (hD : va_D A ws) (hS0 : va_S A H0 H locs) (q0 : Nat) {fs : List Value} (he : ws[q0]? = some (a, .inr (ci, fs))) (hc : cl[ci]? = some (C, T, N)) (k : Nat) (hk : k < N) (hlink : (Cond.fieldLink own index ref (T k).2.1 (T k).2.2.1).before args s = true) (hsame : ∀ x, s.fieldFound? (T k).1 (T k).2.1 (T k).2.2.1 = some x → s.fieldFound? ref (T k).2.1 (T k).2.2.1 = some x) (hfin : (T k).2.2.2 = true) (hin2 : meth.name = "<init>") (hdecl : (T k).1 = own) {ty : FieldType} {v : Value} (hd : parseFieldDescriptor (T k).2.2.1 = some ty) (hn : narrow ty v = v) (hfit : fits ty v = true) (hl : k < fs.length)
    (hdg : decode cc pc = .ok (.putfield index, 3)) (kk : ∀ (H1 : Heap) (locs1 : List Loc), va_P D cl (ws.set q0 (a, .inr (ci, fs.set k v))) H1 → va_D A (ws.set q0 (a, .inr (ci, fs.set k v))) → va_S A H0 H1 locs1 → W p l e R s m args below meth c H1 locs1 cells slots Q (F0 m (pc + 3) ls rest)) : W p l e R s m args below meth c H locs cells slots Q (F0 m pc ls (v :: .ref a :: rest)) := by
  have hap := z_apart (own := own) hts hin ty0 hty hnm hK hc
  obtain ⟨r, h1, cell, q1, q2, q3, q4⟩ := hP q0 _ he
  have hr : r = (C, T, N) := Option.some.inj (h1.symm.trans hc)
  subst hr
  obtain ⟨hS, hfc, kC, hkC, hkind⟩ := hK.1 ci _ hc
  obtain ⟨cf, kf, fi, f, hi, hsl⟩ := hS k hk
  have hlay := hts _ (hin _ (u_in_lay hk))
  unfold u_lay at hlay
  rw [if_pos hfin] at hlay
  have hst := (u_facts hfc hkC (u_lays hts hin hk) hi).1
  have hcf : m.cls = cf := by
    obtain ⟨_, _, c', _, _, _, -, -, hf', -, -, -, hown2, -⟩ := Cond.laysFinal_spec hlay
    have e1 : c' = cf := by have := hi.symm.trans hf'; simp at this; exact this.1.symm
    rw [hdecl] at hown2
    rw [← e1]; exact Option.some.inj (hown.symm.trans hown2)
  have h6 := u_fits hfc hkC hkind (Or.inr hlay) hi hd hn hfit
  refine W.putFinK hexec hb hown hlink (hsame _ hi) hst hcf hin2 (by rw [q2]; exact h6) q1 q3 (by rw [hsl]; exact k2_hasslot (q4 k hk)) rfl rfl hdg fun H' e1 e2 e3 => ?_
  rw [hsl] at e1 ⊢
  exact kk H' _ (hP.set hD he ⟨_, hc, t_OB.to (V := updV (vp_V fs) k v) ⟨_, e1, q2, q3, t_set q4 hap hk v⟩ (fun j _ => vp_updV_set hl v j)⟩ e3) (hD.set he) (hS0.put e2 e3 (hD.2 q0 _ he))
theorem z_putN (hexec : p.tables.exec = Jvm.exec) (hb : c.code = cc) {own ref C host : String} {T : u_T} {N ci index : Nat} {Ts : List Cond} (hts : ∀ w ∈ Ts, w.before args s = true) (hin : ∀ w ∈ u_ws C T N, w ∈ Ts) (ty0 : Nat → FieldType) (hty : ∀ k, k < N → parseFieldDescriptor (T k).2.2.1 = some (ty0 k)) (hnm : ∀ a, a < N → ∀ b, b < N → a ≠ b → (T a).2.1 ≠ (T b).2.1 ∨ ty0 a ≠ ty0 b) (hown : s.vm.findClass own = some m.cls) (hK : va_K D cl tys s) (hP : va_P D cl ws H) (hD : va_D A ws) (hS0 : va_S A H0 H locs) (q0 : Nat) {fs : List Value} (he : ws[q0]? = some (a, .inr (ci, fs))) (hc : cl[ci]? = some (C, T, N)) (k : Nat) (hk : k < N) (hlink : (Cond.fieldLinkNest own index ref (T k).2.1 (T k).2.2.1 host).before args s = true) (hsame : ∀ x, s.fieldFound? (T k).1 (T k).2.1 (T k).2.2.1 = some x → s.fieldFound? ref (T k).2.1 (T k).2.2.1 = some x) (hfin : (T k).2.2.2 = false) {ty : FieldType} {v : Value} (hd : parseFieldDescriptor (T k).2.2.1 = some ty) (hn : narrow ty v = v) (hfit : fits ty v = true) (hl : k < fs.length)
    (hdg : decode cc pc = .ok (.putfield index, 3)) (kk : ∀ (H1 : Heap) (locs1 : List Loc), va_P D cl (ws.set q0 (a, .inr (ci, fs.set k v))) H1 → va_D A (ws.set q0 (a, .inr (ci, fs.set k v))) → va_S A H0 H1 locs1 → W p l e R s m args below meth c H1 locs1 cells slots Q (F0 m (pc + 3) ls rest)) : W p l e R s m args below meth c H locs cells slots Q (F0 m pc ls (v :: .ref a :: rest)) := by
  have hap := z_apart (own := own) hts hin ty0 hty hnm hK hc
  obtain ⟨r, h1, cell, q1, q2, q3, q4⟩ := hP q0 _ he
  have hr : r = (C, T, N) := Option.some.inj (h1.symm.trans hc)
  subst hr
  obtain ⟨hS, hfc, kC, hkC, hkind⟩ := hK.1 ci _ hc
  obtain ⟨cf, kf, fi, f, hi, hsl⟩ := hS k hk
  have hlay := hts _ (hin _ (u_in_lay hk))
  unfold u_lay at hlay
  rw [if_neg (by rw [hfin]; decide)] at hlay
  have hst := (u_facts hfc hkC (u_lays hts hin hk) hi).1
  have h6 := u_store hfc hkC hkind hlay hi hd hn hfit
  refine va_WputK hexec hb (f := f) hown hlink (hsame _ hi) hst (by rw [q2]; exact h6) q1 q3 (by rw [hsl]; exact k2_hasslot (q4 k hk)) rfl rfl hdg fun H' e1 e2 e3 => ?_
  rw [hsl] at e1 ⊢
  exact kk H' _ (hP.set hD he ⟨_, hc, t_OB.to (V := updV (vp_V fs) k v) ⟨_, e1, q2, q3, t_set q4 hap hk v⟩ (fun j _ => vp_updV_set hl v j)⟩ e3) (hD.set he) (hS0.put e2 e3 (hD.2 q0 _ he))
end S4Z
def okTy (t : FieldType) : Bool := match t with
  | .int => true
  | .boolean => true
  | .char => true
  | .long => true
  | .object _ => true
  | .array _ => true
  | _ => false
theorem okTy_spec {t : FieldType} (h : okTy t = true) : t = .int ∨ t = .boolean ∨ t = .char ∨ t = .long ∨ (∃ n, t = .object n) ∨ ∃ n, t = .array n := by
  cases t <;> simp_all [okTy]
/-- a kind of object: its class in the tables -/
def KindOK (cl : List vw_C) (k : Nat) : Prop := ∃ (C : String) (T : u_T) (N : Nat) (ty : Nat → FieldType), cl[k]? = some (C, T, N) ∧ (∀ w ∈ u_ws C T N, w ∈ lw_all) ∧ (∀ j, j < N → parseFieldDescriptor (T j).2.2.1 = some (ty j)) ∧ (∀ a, a < N → ∀ b, b < N → a ≠ b → (T a).2.1 ≠ (T b).2.1 ∨ ty a ≠ ty b) ∧ (fix k).length = N ∧ (∀ j f, (fix k)[j]? = some f → T j = fkey f ∧ ty j = fty f) ∧ (∀ j, j < N → (tys k)[j]? = some (ty j)) ∧ (tys k).length = N
def FldOK (oname : Nat → String) (nwl : List Cond) (o j f : Nat) : Prop := ∃ ref : String, ((Cond.fieldLink (oname o) j ref (fkey f).2.1 (fkey f).2.2.1 ∈ lw_all) ∨ (fow f ≠ o ∧ ∃ host, Cond.fieldLinkNest (oname o) j ref (fkey f).2.1 (fkey f).2.2.1 host ∈ nwl)) ∧ (ref = (fkey f).1 ∨ Cond.sameField ref (fkey f).1 (fkey f).2.1 (fkey f).2.2.1 ∈ lw_all) ∧ fin f = (fkey f).2.2.2 ∧ okTy (fty f) = true ∧ oname (fow f) = (fkey f).1
def StatOK (oname : Nat → String) (nwl : List Cond) (stl : List (String × String × String)) (o j i : Nat) : Prop := ∃ q : String × String × String, stl[i]? = some q ∧ (Cond.fieldLink (oname o) j q.1 q.2.1 q.2.2 ∈ lw_all ∨ ∃ host, Cond.fieldLinkNest (oname o) j q.1 q.2.1 q.2.2 host ∈ nwl)
/-- the word that a kind's class may stand for another -/
def kname (cl : List vw_C) (k : Nat) : String := if k < 900 then (match cl[k]? with | some q => q.1 | none => "") else if k = 900 then "[I" else if k = 901 then "[J" else if k = 902 then "[Z" else if k = 903 then "[D" else "[Ljava/lang/Object;"
def CastOK (oname : Nat → String) (cl : List vw_C) (nwl : List Cond) (o j k : Nat) : Prop := (k < 37 ∨ (900 ≤ k ∧ k < 905)) ∧ ∃ nm : String, Cond.classLink (oname o) j nm ∈ lw_all ∧ (kname cl k = nm ∨ Cond.castable (kname cl k) nm ∈ nwl)
def NewOK (oname : Nat → String) (cl : List vw_C) (o j k : Nat) : Prop := k < 35 ∧ Cond.classLink (oname o) j (kname cl k) ∈ lw_all ∧ Cond.instantiable (kname cl k) (fix k).length ∈ lw_all ∧ Cond.initialized (kname cl k) ∈ lw_all
def ConstOK (oname : Nat → String) (o j : Nat) (v : Value ⊕ Nat) : Prop := (∀ x, v = .inl (.int x) → Cond.constant (oname o) j x ∈ lw_all) ∧ (∀ x, v = .inl (.long x) → Cond.constantLong (oname o) j x ∈ lw_all) ∧ (∀ i, v = .inr i → i = 900 ∧ Cond.classLink (oname o) j "[Ljava/lang/Object;" ∈ lw_all)
section S4
variable {oname exn : Nat → String} {cl : List vw_C} {nwl : List Cond} {ncl : List (String × String)} {fwl : List (String × MethodName × MethodName)} {stl : List (String × String × String)} {spc : State → Prop} {base : Nat} {D : va_G} {dA : Nat → ClassId} {sv : Nat → Value} {ro : va_W} {scr : Nat × List Value} {E : Evn} {M : MD} {pc : Nat} {L S : List Value} {h : Hp} {r d : Nat} {Q : Post} {len tg : Nat}
theorem ro_keep {H0 H : Heap} {locs : List Loc} (hP : va_P D cl ro H0) (hA : ∀ x ∈ ro, ¬ base ≤ x.1) (hS : va_S (Af base) H0 H locs) : va_P D cl ro H := by
  intro k q hk
  have h1 := hP k q hk
  exact h1.kept (hS.2.1 q.1 h1.lt (hA q (List.mem_of_getElem? hk)))
/-- a plain object that isn't the script: in a world -/
theorem rel_at {H0 H : Heap} {locs : List Loc} (hP0 : va_P D cl ro H0) (hA : ∀ x ∈ ro, ¬ base ≤ x.1) (hS : va_S (Af base) H0 H locs) (hR : RelM cl base D dA ro scr h H) {a k : Nat} {fs : List Value} (ha : rdO h a = some (k, fs)) (hk : k ≠ 910) : ∃ (ws : va_W) (q0 : Nat), va_P D cl ws H ∧ ws[q0]? = some (a, trO dA k fs) := by
  have ha' : h a = some (.inl (k, fs)) := by
    unfold rdO at ha
    split at ha
    · rename_i x hx
      cases ha
      exact hx
    · cases ha
  obtain ⟨hn, ws, hP, hD, hc⟩ := hR
  rcases hc a k fs ha' with h1 | ⟨h1, -⟩ | ⟨h1, -⟩
  · obtain ⟨i, hi⟩ := List.getElem?_of_mem h1
    exact ⟨ws, i, hP, hi⟩
  · obtain ⟨i, hi⟩ := List.getElem?_of_mem h1
    exact ⟨ro, i, ro_keep hP0 hA hS, hi⟩
  · exact absurd h1 hk
theorem rdO_eq {a k : Nat} {fs : List Value} (ha : rdO h a = some (k, fs)) : h a = some (.inl (k, fs)) := by
  unfold rdO at ha
  split at ha
  · rename_i x hx
    cases ha
    exact hx
  · cases ha
theorem fix_spec {k f n : Nat} (hk : (fix k).idxOf? f = some n) : k < 37 ∧ (fix k)[n]? = some f := by
  have h1 : (fix k)[n]? = some f := by
    rw [List.idxOf?, List.findIdx?_eq_some_iff_getElem] at hk
    obtain ⟨hlt, h2, -⟩ := hk
    rw [List.getElem?_eq_getElem hlt]
    simpa using h2
  refine ⟨?_, h1⟩
  rcases Nat.lt_or_ge k 37 with q | q
  · exact q
  · exfalso
    obtain ⟨z, rfl⟩ : ∃ z, k = z + 37 := ⟨k - 37, by omega⟩
    have e : fix (z + 37) = [] := rfl
    rw [e] at h1
    cases h1
theorem trO_obj {k : Nat} {fs : List Value} (h : k < 900) : trO dA k fs = .inr (k, fs) := if_pos h
theorem so_getfield {j : Nat} (hKO : ∀ k, k < 37 → KindOK cl k) (hFO : ∀ o j f, (pF o).lookup j = some f → FldOK oname nwl o j f) (hd : decode M.2.2.1 pc = .ok (.getfield j, len)) (hl : len = 3) (H : Do1 E (XW oname exn cl (FX cl nwl ncl fwl stl spc base D dA sv ro scr) base D dA ro scr) M pc h r d Q (stI E.2.2 (rdO h) M pc (pc + len) tg L S (.getfield j))) : XW oname exn cl (FX cl nwl ncl fwl stl spc base D dA sv ro scr) base D dA ro scr M pc L S h r d Q := by
  subst hl
  intro p l e R s m args below meth c r0 G locs cells slots ls K hS hR hL hc hs
  have K' := K
  obtain ⟨hx, hb, hml, hret, hlk, hown, hini, hts, hfx, -⟩ := K'
  obtain ⟨hK, hnw, hfw, hst, hU, hN, hP0, hA0, -⟩ := hfx
  simp only [stI] at H
  split at H
  · rename_i a S2
    split at H
    · rename_i f k fs hf hrd
      split at H
      · rename_i n hn
        split at H
        · rename_i v hv
          obtain ⟨hk, hfn⟩ := fix_spec hn
          obtain ⟨ws, q0, hP, hq⟩ := rel_at hP0 hA0 hS hR hrd (by omega)
          rw [trO_obj (by omega)] at hq
          obtain ⟨C, T, N, ty, hcl, hin, hty, hnm, hlen, hT, hts2, -⟩ := hKO k hk
          have hnN : n < N := by rw [← hlen]; exact (List.getElem?_eq_some_iff.mp hfn).1
          obtain ⟨hTn, htyn⟩ := hT n f hfn
          obtain ⟨ref, hlink, hsame, hfin, -⟩ := hFO _ _ _ hf
          have hsame' : ∀ x, s.fieldFound? (T n).1 (T n).2.1 (T n).2.2.1 = some x → s.fieldFound? ref (T n).2.1 (T n).2.2.1 = some x := by
            rw [hTn]
            rcases hsame with rfl | hw
            · exact fun x h => h
            · exact fun x h => u_same (hts _ hw) x h
          rcases hlink with hw | ⟨how2, host, hw⟩
          · exact va_get hx hb hts hin hown hK hP q0 hq hcl n hnN (by rw [hTn]; exact hts _ hw) hsame' hv hd (H p l e R s m args below meth c r0 G locs cells slots ls K hS hR hL hc hs)
          · exact va_getN hx hb hts hin hown hK hP q0 hq hcl n hnN (by rw [hTn]; exact va_Nw.use rfl (hnw _ hw)) hsame' hv hd (H p l e R s m args below meth c r0 G locs cells slots ls K hS hR hL hc hs)
        · exact H.elim
      · exact H.elim
    · exact H.elim
  · exact H.elim
/-- one that may be written: in the world, with all else that the relation says -/
theorem rel_wr {G : Heap} (hR : RelM cl base D dA ro scr h G) {a k : Nat} {fs : List Value} (hrd : rdO h a = some (k, fs)) (hk : roK k = false) : ∃ (ws : va_W) (q0 : Nat), va_P D cl ws G ∧ va_D (Af base) ws ∧ ws[q0]? = some (a, trO dA k fs) ∧ (∀ a x, h a ≠ some (.inr x)) ∧ (∀ a k fs, h a = some (.inl (k, fs)) → InM dA ws ro scr a k fs) := by
  obtain ⟨hn, ws, hP, hD, hc⟩ := hR
  have ha := rdO_eq hrd
  rcases hc a k fs ha with h1 | ⟨-, h1⟩ | ⟨h1, -⟩
  · obtain ⟨i, hi⟩ := List.getElem?_of_mem h1
    exact ⟨ws, i, hP, hD, hi, hn, hc⟩
  · rw [hk] at h1; cases h1
  · subst h1; cases hk
theorem so_putfield {j : Nat} (hKO : ∀ k, k < 37 → KindOK cl k) (hFO : ∀ o j f, (pF o).lookup j = some f → FldOK oname nwl o j f) (hd : decode M.2.2.1 pc = .ok (.putfield j, len)) (hl : len = 3) (H : Do1 E (XW oname exn cl (FX cl nwl ncl fwl stl spc base D dA sv ro scr) base D dA ro scr) M pc h r d Q (stI E.2.2 (rdO h) M pc (pc + len) tg L S (.putfield j))) : XW oname exn cl (FX cl nwl ncl fwl stl spc base D dA sv ro scr) base D dA ro scr M pc L S h r d Q := by
  subst hl
  intro p l e R s m args below meth c r0 G locs cells slots ls K hS hR hL hc hs
  have K' := K
  obtain ⟨hx, hb, hml, hret, hlk, hown, hini, hts, hfx, -⟩ := K'
  obtain ⟨hK, hnw, hfw, hst, hU, hN, hP0, hA0, -⟩ := hfx
  simp only [stI] at H
  split at H
  · rename_i v a S2
    split at H
    · rename_i f k fs hf hrd
      split at H
      · rename_i n hn
        split at H
        · rename_i hcd
          obtain ⟨hwr, hlt, hfit, hfi⟩ := hcd
          obtain ⟨hk, hfn⟩ := fix_spec hn
          have hk35 : k < 35 := by
            have := of_decide_eq_true hwr
            omega
          obtain ⟨ws, q0, hP, hD, hq, hnn, hcc⟩ := rel_wr hR hrd (by unfold roK; exact decide_eq_false (by omega))
          have hq' := hq
          rw [trO_obj (by omega)] at hq
          obtain ⟨C, T, N, ty, hcl, hin, hty, hnm, hlen, hT, hts2, -⟩ := hKO k hk
          have hnN : n < N := by rw [← hlen]; exact (List.getElem?_eq_some_iff.mp hfn).1
          obtain ⟨hTn, htyn⟩ := hT n f hfn
          obtain ⟨ref, hlink, hsame, hfin, hok, how⟩ := hFO _ _ _ hf
          have hsame' : ∀ x, s.fieldFound? (T n).1 (T n).2.1 (T n).2.2.1 = some x → s.fieldFound? ref (T n).2.1 (T n).2.2.1 = some x := by
            rw [hTn]
            rcases hsame with rfl | hw
            · exact fun x h => h
            · exact fun x h => u_same (hts _ hw) x h
          have hdd : parseFieldDescriptor (T n).2.2.1 = some (fty f) := by rw [hty n hnN, htyn]
          have hnar := fits_narrow (okTy_spec hok) hfit
          have kk : ∀ (H1 : Heap) (locs1 : List Loc), va_P D cl (ws.set q0 (a, .inr (k, fs.set n v))) H1 → va_D (Af base) (ws.set q0 (a, .inr (k, fs.set n v))) → va_S (Af base) s.heap H1 locs1 → W p l e R s m args below meth c H1 locs1 cells slots (vx_MQ below (QcE cl base D dA ro scr r0 Q) (XcE exn cl base D dA ro scr r0 Q) args s r0 (4 * r0) (Af base)) (F0 m (pc + 3) ls S2) := fun H1 locs1 p1 d1 s1 =>
            H p l e R s m args below meth c r0 H1 locs1 cells slots ls K s1 (RelM.put hnn hD hcc hq' (by rw [trO_obj (by omega)]; exact p1) (by rw [trO_obj (by omega)]; exact d1)) hL hc hs
          cases hff : fin f with
          | false =>
            rcases hlink with hw | ⟨how2, host, hw⟩
            · exact z_put hx hb hts hin ty hty hnm hown hK hP hD hS q0 hq hcl n hnN (by rw [hTn]; exact hts _ hw) hsame' (by rw [hTn, ← hfin, hff]) hdd hnar hfit hlt hd kk
            · exact z_putN hx hb hts hin ty hty hnm hown hK hP hD hS q0 hq hcl n hnN (by rw [hTn]; exact va_Nw.use rfl (hnw _ hw)) hsame' (by rw [hTn, ← hfin, hff]) hdd hnar hfit hlt hd kk
          | true =>
            obtain ⟨hi1, hi2⟩ := hfi hff
            rcases hlink with hw | ⟨how2, host, hw⟩
            · exact z_putF hx hb hts hin ty hty hnm hown hK hP hD hS q0 hq hcl n hnN (by rw [hTn]; exact hts _ hw) hsame' (by rw [hTn, ← hfin, hff]) (hini hi1) (by rw [hTn, ← how, hi2]) hdd hnar hfit hlt hd kk
            · exact absurd hi2 how2
        · exact H.elim
      · exact H.elim
    · exact H.elim
  · exact H.elim
theorem so_getstatic {j : Nat} (hSv : E.2.2 = sv) (hSO : ∀ o j i, (pS o).lookup j = some i → StatOK oname nwl stl o j i) (hd : decode M.2.2.1 pc = .ok (.getstatic j, len)) (hl : len = 3) (H : Do1 E (XW oname exn cl (FX cl nwl ncl fwl stl spc base D dA sv ro scr) base D dA ro scr) M pc h r d Q (stI E.2.2 (rdO h) M pc (pc + len) tg L S (.getstatic j))) : XW oname exn cl (FX cl nwl ncl fwl stl spc base D dA sv ro scr) base D dA ro scr M pc L S h r d Q := by
  subst hl
  intro p l e R s m args below meth c r0 G locs cells slots ls K hS hR hL hc hs
  have K' := K
  obtain ⟨hx, hb, hml, hret, hlk, hown, hini, hts, hfx, -⟩ := K'
  obtain ⟨hK, hnw, hfw, hst, -⟩ := hfx
  simp only [stI] at H
  split at H
  · rename_i i hi
    obtain ⟨q, hq, hw⟩ := hSO _ _ _ hi
    rw [hSv] at H
    rcases hw with hw | ⟨host, hw⟩
    · exact va_gets hx hb (hst i q hq) hS hown (hts _ hw) (fun x h => h) hd (H p l e R s m args below meth c r0 G locs cells slots ls K hS hR hL hc hs)
    · exact va_getsN hx hb (hst i q hq) hS hown (va_Nw.use rfl (hnw _ hw)) (fun x h => h) hd (H p l e R s m args below meth c r0 G locs cells slots ls K hS hR hL hc hs)
  · exact H.elim
theorem so_ldc {j : Nat} (hSv : E.2.2 = sv) (hCO : ∀ o j v, (pK o).lookup j = some v → ConstOK oname o j v) (hd : decode M.2.2.1 pc = .ok (.ldc j, len)) (hl : len = 2) (H : Do1 E (XW oname exn cl (FX cl nwl ncl fwl stl spc base D dA sv ro scr) base D dA ro scr) M pc h r d Q (stI E.2.2 (rdO h) M pc (pc + len) tg L S (.ldc j))) : XW oname exn cl (FX cl nwl ncl fwl stl spc base D dA sv ro scr) base D dA ro scr M pc L S h r d Q := by
  subst hl
  intro p l e R s m args below meth c r0 G locs cells slots ls K hS hR hL hc hs
  have K' := K
  obtain ⟨hx, hb, hml, hret, hlk, hown, hini, hts, hfx, -⟩ := K'
  obtain ⟨hK, hnw, hfw, hst, hU, hN, hP0, hA0, ⟨mi, hmi, hM⟩, -⟩ := hfx
  simp only [stI] at H
  split at H
  · rename_i v hv
    split at H
    · rename_i hi
      obtain ⟨h1, -, -⟩ := hCO _ _ _ hv
      cases v with
      | int x => exact lv_ldc hx hb hown (hts _ (h1 x rfl)) hd (H p l e R s m args below meth c r0 G locs cells slots ls K hS hR hL hc hs)
      | _ => cases hi
    · exact H.elim
  · rename_i i hv
    obtain ⟨-, -, h1⟩ := hCO _ _ _ hv
    obtain ⟨rfl, hw⟩ := h1 i rfl
    rw [hSv, hmi] at H
    exact va_ldcM hx hb hown (hts _ hw) hM hd (H p l e R s m args below meth c r0 G locs cells slots ls K hS hR hL hc hs)
  · exact H.elim
theorem so_ldc2_w {j : Nat} (hCO : ∀ o j v, (pK o).lookup j = some v → ConstOK oname o j v) (hd : decode M.2.2.1 pc = .ok (.ldc2_w j, len)) (hl : len = 3) (H : Do1 E (XW oname exn cl (FX cl nwl ncl fwl stl spc base D dA sv ro scr) base D dA ro scr) M pc h r d Q (stI E.2.2 (rdO h) M pc (pc + len) tg L S (.ldc2_w j))) : XW oname exn cl (FX cl nwl ncl fwl stl spc base D dA sv ro scr) base D dA ro scr M pc L S h r d Q := by
  subst hl
  intro p l e R s m args below meth c r0 G locs cells slots ls K hS hR hL hc hs
  have K' := K
  obtain ⟨hx, hb, hml, hret, hlk, hown, hini, hts, hfx, -⟩ := K'
  simp only [stI] at H
  split at H
  · rename_i v hv
    split at H
    · rename_i hi
      obtain ⟨-, h1, -⟩ := hCO _ _ _ hv
      cases v with
      | long x => exact lv_ldc2 hx hb hown (hts _ (h1 x rfl)) hd (H p l e R s m args below meth c r0 G locs cells slots ls K hS hR hL hc hs)
      | _ => cases hi
    · exact H.elim
  · exact H.elim
theorem fI_at {fs : List Value} {j : Nat} {x : Int32} (h : fs[j]? = some (.int x)) : fI fs j = x := by unfold fI; rw [h]
theorem fL_at {fs : List Value} {j : Nat} {x : Int64} (h : fs[j]? = some (.long x)) : fL fs j = x := by unfold fL; rw [h]
theorem fD_at {fs : List Value} {j : Nat} {x : UInt64} (h : fs[j]? = some (.double x)) : fD fs j = x := by unfold fD; rw [h]
theorem fR_at {fs : List Value} {j : Nat} {v : Value} (h : fs[j]? = some v) (hv : isR v = true) : va_rf (fR fs j) = v := by
  unfold fR
  rw [h]
  cases v with
  | null => rfl
  | ref a => rfl
  | _ => cases hv
theorem fI_set {fs : List Value} {j : Nat} {x : Int32} (h : j < fs.length) : fI (fs.set j (.int x)) = upd (fI fs) j x := by
  funext i
  unfold fI upd
  rw [List.getElem?_set]
  by_cases hi : j = i
  · subst hi; simp [h]
  · have : ¬ i = j := fun q => hi q.symm
    simp [hi, this]
theorem fL_set {fs : List Value} {j : Nat} {x : Int64} (h : j < fs.length) : fL (fs.set j (.long x)) = vp_updL (fL fs) j x := by
  funext i
  unfold fL vp_updL
  rw [List.getElem?_set]
  by_cases hi : j = i
  · subst hi; simp [h]
  · have : ¬ i = j := fun q => hi q.symm
    simp [hi, this]
theorem fD_set {fs : List Value} {j : Nat} {x : UInt64} (h : j < fs.length) : fD (fs.set j (.double x)) = vf_upd (fD fs) j x := by
  funext i
  unfold fD vf_upd
  rw [List.getElem?_set]
  by_cases hi : j = i
  · subst hi; simp [h]
  · have : ¬ i = j := fun q => hi q.symm
    simp [hi, this]
theorem fR_set {fs : List Value} {j : Nat} {z : Option Nat} (h : j < fs.length) : fR (fs.set j (va_rf z)) = va_up (fR fs) j z := by
  funext i
  unfold fR va_up
  rw [List.getElem?_set]
  by_cases hi : j = i
  · subst hi; cases z <;> simp [h, va_rf]
  · have : ¬ i = j := fun q => hi q.symm
    simp [hi, this]
theorem so_iaload (hd : decode M.2.2.1 pc = .ok (.iaload, len)) (hl : len = 1) (H : Do1 E (XW oname exn cl (FX cl nwl ncl fwl stl spc base D dA sv ro scr) base D dA ro scr) M pc h r d Q (stI E.2.2 (rdO h) M pc (pc + len) tg L S .iaload)) : XW oname exn cl (FX cl nwl ncl fwl stl spc base D dA sv ro scr) base D dA ro scr M pc L S h r d Q := by
  subst hl
  intro p l e R s m args below meth c r0 G locs cells slots ls K hS hR hL hc hs
  have K' := K
  obtain ⟨hx, hb, hml, hret, hlk, hown, hini, hts, hfx, hba, -⟩ := K'
  obtain ⟨hK, hnw, hfw, hst, hU, hN, hP0, hA0, -, -, -, -, hX, hXb, -⟩ := hfx
  simp only [stI, arG] at H
  split at H
  · rename_i i a S2
    split at H
    · rename_i k fs hrd
      split at H
      · rename_i hcd
        obtain ⟨hk, h0⟩ := hcd
        have hk := of_decide_eq_true hk
        split at H
        · rename_i v hv
          split at H
          · rename_i hcv
            have hin : vp_in i fs.length := by
              intro q
              rcases q with q | q
              · exact h0 q
              · have := (List.getElem?_eq_some_iff.mp hv).1
                omega
            have kk := H p l e R s m args below meth c r0 G locs cells slots ls K hS hR hL hc hs
            cases v with
            | int x =>
              rw [← fI_at hv] at kk
              rcases hk with rfl | ⟨-, rfl⟩ | ⟨hk, -⟩
              · obtain ⟨ws, q0, hP, hq⟩ := rel_at hP0 hA0 hS hR hrd (by omega)
                exact va_iald hx hb hK hP q0 0 hq rfl hin hd kk
              · obtain ⟨hn, ws, hP, hD, hcc⟩ := hR
                rcases hcc a 910 fs (rdO_eq hrd) with h1 | ⟨h1, -⟩ | ⟨-, h1⟩
                · obtain ⟨q0, hq⟩ := List.getElem?_of_mem h1
                  exact va_iald hx hb hK hP q0 0 hq rfl hin hd kk
                · obtain ⟨q0, hq⟩ := List.getElem?_of_mem h1
                  exact va_iald hx hb hK (ro_keep hP0 hA0 hS) q0 0 hq rfl hin hd kk
                · subst h1
                  exact va_sld hx hb hX (by obtain ⟨sc, z1, -⟩ := hX; exact (Array.getElem?_eq_some_iff.mp z1).1) hXb hS hin hd kk
              · omega
            | _ => cases hcv
          · exact H.elim
        · exact H.elim
      · exact H.elim
    · exact H.elim
  · exact H.elim
theorem so_laload (hd : decode M.2.2.1 pc = .ok (.laload, len)) (hl : len = 1) (H : Do1 E (XW oname exn cl (FX cl nwl ncl fwl stl spc base D dA sv ro scr) base D dA ro scr) M pc h r d Q (stI E.2.2 (rdO h) M pc (pc + len) tg L S .laload)) : XW oname exn cl (FX cl nwl ncl fwl stl spc base D dA sv ro scr) base D dA ro scr M pc L S h r d Q := by
  subst hl
  intro p l e R s m args below meth c r0 G locs cells slots ls K hS hR hL hc hs
  have K' := K
  obtain ⟨hx, hb, hml, hret, hlk, hown, hini, hts, hfx, hba, -⟩ := K'
  obtain ⟨hK, hnw, hfw, hst, hU, hN, hP0, hA0, -, -, -, -, hX, hXb, -⟩ := hfx
  simp only [stI, arG] at H
  split at H
  · rename_i i a S2
    split at H
    · rename_i k fs hrd
      split at H
      · rename_i hcd
        obtain ⟨hk, h0⟩ := hcd
        have hk := of_decide_eq_true hk
        split at H
        · rename_i v hv
          split at H
          · rename_i hcv
            have hin : vp_in i fs.length := by
              intro q
              rcases q with q | q
              · exact h0 q
              · have := (List.getElem?_eq_some_iff.mp hv).1
                omega
            have kk := H p l e R s m args below meth c r0 G locs cells slots ls K hS hR hL hc hs
            have hk2 : k = 901 := by omega
            subst hk2
            obtain ⟨ws, q0, hP, hq⟩ := rel_at hP0 hA0 hS hR hrd (by omega)
            cases v with
            | long x =>
              rw [← fL_at hv] at kk
              exact va_lald hx hb hK hP q0 1 hq rfl hin hd kk
            | _ => cases hcv
          · exact H.elim
        · exact H.elim
      · exact H.elim
    · exact H.elim
  · exact H.elim
theorem so_baload (hd : decode M.2.2.1 pc = .ok (.baload, len)) (hl : len = 1) (H : Do1 E (XW oname exn cl (FX cl nwl ncl fwl stl spc base D dA sv ro scr) base D dA ro scr) M pc h r d Q (stI E.2.2 (rdO h) M pc (pc + len) tg L S .baload)) : XW oname exn cl (FX cl nwl ncl fwl stl spc base D dA sv ro scr) base D dA ro scr M pc L S h r d Q := by
  subst hl
  intro p l e R s m args below meth c r0 G locs cells slots ls K hS hR hL hc hs
  have K' := K
  obtain ⟨hx, hb, hml, hret, hlk, hown, hini, hts, hfx, hba, -⟩ := K'
  obtain ⟨hK, hnw, hfw, hst, hU, hN, hP0, hA0, -, -, -, -, hX, hXb, -⟩ := hfx
  simp only [stI, arG] at H
  split at H
  · rename_i i a S2
    split at H
    · rename_i k fs hrd
      split at H
      · rename_i hcd
        obtain ⟨hk, h0⟩ := hcd
        have hk := of_decide_eq_true hk
        split at H
        · rename_i v hv
          split at H
          · rename_i hcv
            have hin : vp_in i fs.length := by
              intro q
              rcases q with q | q
              · exact h0 q
              · have := (List.getElem?_eq_some_iff.mp hv).1
                omega
            have kk := H p l e R s m args below meth c r0 G locs cells slots ls K hS hR hL hc hs
            have hk2 : k = 902 := by omega
            subst hk2
            obtain ⟨ws, q0, hP, hq⟩ := rel_at hP0 hA0 hS hR hrd (by omega)
            cases v with
            | int x =>
              rw [← fI_at hv] at kk
              exact va_zald hx hb hK hP q0 2 hq rfl hin hd kk
            | _ => cases hcv
          · exact H.elim
        · exact H.elim
      · exact H.elim
    · exact H.elim
  · exact H.elim
theorem so_daload (hd : decode M.2.2.1 pc = .ok (.daload, len)) (hl : len = 1) (H : Do1 E (XW oname exn cl (FX cl nwl ncl fwl stl spc base D dA sv ro scr) base D dA ro scr) M pc h r d Q (stI E.2.2 (rdO h) M pc (pc + len) tg L S .daload)) : XW oname exn cl (FX cl nwl ncl fwl stl spc base D dA sv ro scr) base D dA ro scr M pc L S h r d Q := by
  subst hl
  intro p l e R s m args below meth c r0 G locs cells slots ls K hS hR hL hc hs
  have K' := K
  obtain ⟨hx, hb, hml, hret, hlk, hown, hini, hts, hfx, hba, -⟩ := K'
  obtain ⟨hK, hnw, hfw, hst, hU, hN, hP0, hA0, -, -, -, -, hX, hXb, -⟩ := hfx
  simp only [stI, arG] at H
  split at H
  · rename_i i a S2
    split at H
    · rename_i k fs hrd
      split at H
      · rename_i hcd
        obtain ⟨hk, h0⟩ := hcd
        have hk := of_decide_eq_true hk
        split at H
        · rename_i v hv
          split at H
          · rename_i hcv
            have hin : vp_in i fs.length := by
              intro q
              rcases q with q | q
              · exact h0 q
              · have := (List.getElem?_eq_some_iff.mp hv).1
                omega
            have kk := H p l e R s m args below meth c r0 G locs cells slots ls K hS hR hL hc hs
            have hk2 : k = 903 := by omega
            subst hk2
            obtain ⟨ws, q0, hP, hq⟩ := rel_at hP0 hA0 hS hR hrd (by omega)
            cases v with
            | double x =>
              rw [← fD_at hv] at kk
              exact va_dald hx hb hK hP q0 3 hq rfl hin hd kk
            | _ => cases hcv
          · exact H.elim
        · exact H.elim
      · exact H.elim
    · exact H.elim
  · exact H.elim
theorem so_aaload (hd : decode M.2.2.1 pc = .ok (.aaload, len)) (hl : len = 1) (H : Do1 E (XW oname exn cl (FX cl nwl ncl fwl stl spc base D dA sv ro scr) base D dA ro scr) M pc h r d Q (stI E.2.2 (rdO h) M pc (pc + len) tg L S .aaload)) : XW oname exn cl (FX cl nwl ncl fwl stl spc base D dA sv ro scr) base D dA ro scr M pc L S h r d Q := by
  subst hl
  intro p l e R s m args below meth c r0 G locs cells slots ls K hS hR hL hc hs
  have K' := K
  obtain ⟨hx, hb, hml, hret, hlk, hown, hini, hts, hfx, hba, -⟩ := K'
  obtain ⟨hK, hnw, hfw, hst, hU, hN, hP0, hA0, -, -, -, -, hX, hXb, -⟩ := hfx
  simp only [stI, arG] at H
  split at H
  · rename_i i a S2
    split at H
    · rename_i k fs hrd
      split at H
      · rename_i hcd
        obtain ⟨hk, h0⟩ := hcd
        have hk := of_decide_eq_true hk
        split at H
        · rename_i v hv
          split at H
          · rename_i hcv
            have hin : vp_in i fs.length := by
              intro q
              rcases q with q | q
              · exact h0 q
              · have := (List.getElem?_eq_some_iff.mp hv).1
                omega
            have kk := H p l e R s m args below meth c r0 G locs cells slots ls K hS hR hL hc hs
            rw [← fR_at hv hcv] at kk
            rcases hk with rfl | ⟨hk, -⟩ | ⟨-, rfl | rfl | rfl⟩
            · obtain ⟨ws, q0, hP, hq⟩ := rel_at hP0 hA0 hS hR hrd (by omega)
              exact va_aldq hx hb hK hP q0 4 hq rfl hin hd kk
            · omega
            · obtain ⟨ws, q0, hP, hq⟩ := rel_at hP0 hA0 hS hR hrd (by omega)
              exact va_aldq hx hb hK hP q0 5 hq rfl hin hd kk
            · obtain ⟨ws, q0, hP, hq⟩ := rel_at hP0 hA0 hS hR hrd (by omega)
              exact va_aldq hx hb hK hP q0 6 hq rfl hin hd kk
            · obtain ⟨ws, q0, hP, hq⟩ := rel_at hP0 hA0 hS hR hrd (by omega)
              exact va_aldq hx hb hK hP q0 4 hq rfl hin hd kk
          · exact H.elim
        · exact H.elim
      · exact H.elim
    · exact H.elim
  · exact H.elim
end S4
