/-! SOUNDNESS 5: element writes, new cells, casts, ends -/
section S5
variable {oname exn : Nat → String} {cl : List vw_C} {nwl : List Cond} {ncl : List (String × String)} {fwl : List (String × MethodName × MethodName)} {stl : List (String × String × String)} {spc : State → Prop} {base : Nat} {D : va_G} {dA : Nat → ClassId} {sv : Nat → Value} {ro : va_W} {scr : Nat × List Value} {E : Evn} {M : MD} {pc : Nat} {L S : List Value} {h : Hp} {r d : Nat} {Q : Post} {len tg : Nat}
theorem so_arraylength (hd : decode M.2.2.1 pc = .ok (.arraylength, len)) (hl : len = 1) (H : Do1 E (XW oname exn cl (FX cl nwl ncl fwl stl spc base D dA sv ro scr) base D dA ro scr) M pc h r d Q (stI E.2.2 (rdO h) M pc (pc + len) tg L S (.arraylength))) : XW oname exn cl (FX cl nwl ncl fwl stl spc base D dA sv ro scr) base D dA ro scr M pc L S h r d Q := by
  subst hl
  intro p l e R s m args below meth c r0 G locs cells slots ls K hS hR hL hc hs
  have K' := K
  obtain ⟨hx, hb, hml, hret, hlk, hown, hini, hts, hfx, hba, het, hfr, hlo, hRc, hRs, hl0⟩ := K'
  obtain ⟨hK, hnw, hfw, hst, hU, hN, hP0, hA0, hmir, hAO, hDc, hnc, hX, hXb, hsp⟩ := hfx
  have hAq : ∀ q, s.heap.size ≤ q → Af base q := fun q z => Nat.le_trans hba z
  simp only [stI, arG, arP] at H
  split at H
  · rename_i a S2
    split at H
    · rename_i k fs hrd
      split at H
      · rename_i hk
        have kk := H p l e R s m args below meth c r0 G locs cells slots ls K hS hR hL hc hs
        by_cases h910 : k = 910
        · subst h910
          obtain ⟨hn, ws, hP, hD, hcc⟩ := hR
          rcases hcc a 910 fs (rdO_eq hrd) with h1 | ⟨h1, -⟩ | ⟨-, h1⟩
          · obtain ⟨q0, hq⟩ := List.getElem?_of_mem h1
            exact va_alen hx hb hK hP q0 0 hq rfl rfl hd kk
          · obtain ⟨q0, hq⟩ := List.getElem?_of_mem h1
            exact va_alen hx hb hK (ro_keep hP0 hA0 hS) q0 0 hq rfl rfl hd kk
          · subst h1
            exact va_slen hx hb hX (by obtain ⟨sc, z1, -⟩ := hX; exact (Array.getElem?_eq_some_iff.mp z1).1) hXb hS hd kk
        · obtain ⟨ws, q0, hP, hq⟩ := rel_at hP0 hA0 hS hR hrd h910
          have e : trO dA k fs = .inl (dA (dAi k), datO k fs) := if_neg (by omega)
          rw [e] at hq
          obtain ⟨t0, ty, ht0⟩ : ∃ t0 ty, (tyl dA)[t0]? = some (dA (dAi k), ty) := by
            unfold dAi
            split
            · exact ⟨0, _, rfl⟩
            · split
              · exact ⟨1, _, rfl⟩
              · split
                · exact ⟨2, _, rfl⟩
                · split
                  · exact ⟨3, _, rfl⟩
                  · split
                    · exact ⟨5, _, rfl⟩
                    · split
                      · exact ⟨6, _, rfl⟩
                      · exact ⟨4, _, rfl⟩
          exact va_alen hx hb hK hP q0 t0 hq ht0 rfl hd kk
      · exact H.elim
    · exact H.elim
  · exact H.elim
theorem so_iastore (hd : decode M.2.2.1 pc = .ok (.iastore, len)) (hl : len = 1) (H : Do1 E (XW oname exn cl (FX cl nwl ncl fwl stl spc base D dA sv ro scr) base D dA ro scr) M pc h r d Q (stI E.2.2 (rdO h) M pc (pc + len) tg L S (.iastore))) : XW oname exn cl (FX cl nwl ncl fwl stl spc base D dA sv ro scr) base D dA ro scr M pc L S h r d Q := by
  subst hl
  intro p l e R s m args below meth c r0 G locs cells slots ls K hS hR hL hc hs
  have K' := K
  obtain ⟨hx, hb, hml, hret, hlk, hown, hini, hts, hfx, hba, het, hfr, hlo, hRc, hRs, hl0⟩ := K'
  obtain ⟨hK, hnw, hfw, hst, hU, hN, hP0, hA0, hmir, hAO, hDc, hnc, hX, hXb, hsp⟩ := hfx
  have hAq : ∀ q, s.heap.size ≤ q → Af base q := fun q z => Nat.le_trans hba z
  simp only [stI, arG, arP] at H
  split at H
  · rename_i v i a S2
    split at H
    · rename_i k fs hrd
      split at H
      · rename_i hcd
        obtain ⟨rfl, h0, hlt, hcv⟩ := hcd
        have hin : vp_in i fs.length := by
          intro q
          rcases q with q | q
          · exact h0 q
          · omega
        obtain ⟨ws, q0, hP, hD, hq, hnn, hcc⟩ := rel_wr hR hrd rfl
        cases v with
        | int x =>
          have kk : ∀ (H1 : Heap) (locs1 : List Loc), va_P D cl (ws.set q0 (a, trO dA 900 (fs.set i.toNatClampNeg (.int x)))) H1 → va_D (Af base) (ws.set q0 (a, trO dA 900 (fs.set i.toNatClampNeg (.int x)))) → va_S (Af base) s.heap H1 locs1 → W p l e R s m args below meth c H1 locs1 cells slots (vx_MQ below (QcE cl base D dA ro scr r0 Q) (XcE exn cl base D dA ro scr r0 Q) args s r0 (4 * r0) (Af base)) (F0 m (pc + 1) ls S2) := fun H1 locs1 p1 d1 s1 =>
            H p l e R s m args below meth c r0 H1 locs1 cells slots ls K s1 (RelM.put hnn hD hcc hq p1 d1) hL hc hs
          have e : trO dA 900 (fs.set i.toNatClampNeg (.int x)) = .inl (dA 0, fs.length, .inl (upd (fI fs) i.toNatClampNeg x)) := by
            show (Sum.inl (dA 0, (fs.set i.toNatClampNeg (Value.int x)).length, _) : va_E) = _
            rw [List.length_set]
            rw [← fI_set hlt]; rfl
          rw [e] at kk
          exact va_iast hx hb hK hP hD hS q0 0 hq rfl hin hd kk
        | _ => cases hcv
      · exact H.elim
    · exact H.elim
  · exact H.elim
theorem so_lastore (hd : decode M.2.2.1 pc = .ok (.lastore, len)) (hl : len = 1) (H : Do1 E (XW oname exn cl (FX cl nwl ncl fwl stl spc base D dA sv ro scr) base D dA ro scr) M pc h r d Q (stI E.2.2 (rdO h) M pc (pc + len) tg L S (.lastore))) : XW oname exn cl (FX cl nwl ncl fwl stl spc base D dA sv ro scr) base D dA ro scr M pc L S h r d Q := by
  subst hl
  intro p l e R s m args below meth c r0 G locs cells slots ls K hS hR hL hc hs
  have K' := K
  obtain ⟨hx, hb, hml, hret, hlk, hown, hini, hts, hfx, hba, het, hfr, hlo, hRc, hRs, hl0⟩ := K'
  obtain ⟨hK, hnw, hfw, hst, hU, hN, hP0, hA0, hmir, hAO, hDc, hnc, hX, hXb, hsp⟩ := hfx
  have hAq : ∀ q, s.heap.size ≤ q → Af base q := fun q z => Nat.le_trans hba z
  simp only [stI, arG, arP] at H
  split at H
  · rename_i v i a S2
    split at H
    · rename_i k fs hrd
      split at H
      · rename_i hcd
        obtain ⟨rfl, h0, hlt, hcv⟩ := hcd
        have hin : vp_in i fs.length := by
          intro q
          rcases q with q | q
          · exact h0 q
          · omega
        obtain ⟨ws, q0, hP, hD, hq, hnn, hcc⟩ := rel_wr hR hrd rfl
        cases v with
        | long x =>
          have kk : ∀ (H1 : Heap) (locs1 : List Loc), va_P D cl (ws.set q0 (a, trO dA 901 (fs.set i.toNatClampNeg (.long x)))) H1 → va_D (Af base) (ws.set q0 (a, trO dA 901 (fs.set i.toNatClampNeg (.long x)))) → va_S (Af base) s.heap H1 locs1 → W p l e R s m args below meth c H1 locs1 cells slots (vx_MQ below (QcE cl base D dA ro scr r0 Q) (XcE exn cl base D dA ro scr r0 Q) args s r0 (4 * r0) (Af base)) (F0 m (pc + 1) ls S2) := fun H1 locs1 p1 d1 s1 =>
            H p l e R s m args below meth c r0 H1 locs1 cells slots ls K s1 (RelM.put hnn hD hcc hq p1 d1) hL hc hs
          have e : trO dA 901 (fs.set i.toNatClampNeg (.long x)) = .inl (dA 1, fs.length, .inr (.inl (vp_updL (fL fs) i.toNatClampNeg x))) := by
            show (Sum.inl (dA 1, (fs.set i.toNatClampNeg (Value.long x)).length, _) : va_E) = _
            rw [List.length_set]
            rw [← fL_set hlt]; rfl
          rw [e] at kk
          exact va_last hx hb hK hP hD hS q0 1 hq rfl hin hd kk
        | _ => cases hcv
      · exact H.elim
    · exact H.elim
  · exact H.elim
theorem so_bastore (hd : decode M.2.2.1 pc = .ok (.bastore, len)) (hl : len = 1) (H : Do1 E (XW oname exn cl (FX cl nwl ncl fwl stl spc base D dA sv ro scr) base D dA ro scr) M pc h r d Q (stI E.2.2 (rdO h) M pc (pc + len) tg L S (.bastore))) : XW oname exn cl (FX cl nwl ncl fwl stl spc base D dA sv ro scr) base D dA ro scr M pc L S h r d Q := by
  subst hl
  intro p l e R s m args below meth c r0 G locs cells slots ls K hS hR hL hc hs
  have K' := K
  obtain ⟨hx, hb, hml, hret, hlk, hown, hini, hts, hfx, hba, het, hfr, hlo, hRc, hRs, hl0⟩ := K'
  obtain ⟨hK, hnw, hfw, hst, hU, hN, hP0, hA0, hmir, hAO, hDc, hnc, hX, hXb, hsp⟩ := hfx
  have hAq : ∀ q, s.heap.size ≤ q → Af base q := fun q z => Nat.le_trans hba z
  simp only [stI, arG, arP] at H
  split at H
  · rename_i v i a S2
    split at H
    · rename_i k fs hrd
      split at H
      · rename_i hcd
        obtain ⟨rfl, h0, hlt, hcv⟩ := hcd
        have hin : vp_in i fs.length := by
          intro q
          rcases q with q | q
          · exact h0 q
          · omega
        obtain ⟨ws, q0, hP, hD, hq, hnn, hcc⟩ := rel_wr hR hrd rfl
        cases v with
        | int x =>
          have kk : ∀ (H1 : Heap) (locs1 : List Loc), va_P D cl (ws.set q0 (a, trO dA 902 (fs.set i.toNatClampNeg (.int x)))) H1 → va_D (Af base) (ws.set q0 (a, trO dA 902 (fs.set i.toNatClampNeg (.int x)))) → va_S (Af base) s.heap H1 locs1 → W p l e R s m args below meth c H1 locs1 cells slots (vx_MQ below (QcE cl base D dA ro scr r0 Q) (XcE exn cl base D dA ro scr r0 Q) args s r0 (4 * r0) (Af base)) (F0 m (pc + 1) ls S2) := fun H1 locs1 p1 d1 s1 =>
            H p l e R s m args below meth c r0 H1 locs1 cells slots ls K s1 (RelM.put hnn hD hcc hq p1 d1) hL hc hs
          have e : trO dA 902 (fs.set i.toNatClampNeg (.int x)) = .inl (dA 2, fs.length, .inl (upd (fI fs) i.toNatClampNeg (vp_nar .boolean x))) := by
            show (Sum.inl (dA 2, (fs.set i.toNatClampNeg (Value.int x)).length, _) : va_E) = _
            rw [List.length_set]
            rw [show vp_nar .boolean x = x from by rcases of_decide_eq_true hcv with rfl | rfl <;> rfl, ← fI_set hlt]; rfl
          rw [e] at kk
          exact va_zast hx hb hK hP hD hS q0 2 hq rfl hin hd kk
        | _ => cases hcv
      · exact H.elim
    · exact H.elim
  · exact H.elim
theorem so_dastore (hd : decode M.2.2.1 pc = .ok (.dastore, len)) (hl : len = 1) (H : Do1 E (XW oname exn cl (FX cl nwl ncl fwl stl spc base D dA sv ro scr) base D dA ro scr) M pc h r d Q (stI E.2.2 (rdO h) M pc (pc + len) tg L S (.dastore))) : XW oname exn cl (FX cl nwl ncl fwl stl spc base D dA sv ro scr) base D dA ro scr M pc L S h r d Q := by
  subst hl
  intro p l e R s m args below meth c r0 G locs cells slots ls K hS hR hL hc hs
  have K' := K
  obtain ⟨hx, hb, hml, hret, hlk, hown, hini, hts, hfx, hba, het, hfr, hlo, hRc, hRs, hl0⟩ := K'
  obtain ⟨hK, hnw, hfw, hst, hU, hN, hP0, hA0, hmir, hAO, hDc, hnc, hX, hXb, hsp⟩ := hfx
  have hAq : ∀ q, s.heap.size ≤ q → Af base q := fun q z => Nat.le_trans hba z
  simp only [stI, arG, arP] at H
  split at H
  · rename_i v i a S2
    split at H
    · rename_i k fs hrd
      split at H
      · rename_i hcd
        obtain ⟨rfl, h0, hlt, hcv⟩ := hcd
        have hin : vp_in i fs.length := by
          intro q
          rcases q with q | q
          · exact h0 q
          · omega
        obtain ⟨ws, q0, hP, hD, hq, hnn, hcc⟩ := rel_wr hR hrd rfl
        cases v with
        | double x =>
          have kk : ∀ (H1 : Heap) (locs1 : List Loc), va_P D cl (ws.set q0 (a, trO dA 903 (fs.set i.toNatClampNeg (.double x)))) H1 → va_D (Af base) (ws.set q0 (a, trO dA 903 (fs.set i.toNatClampNeg (.double x)))) → va_S (Af base) s.heap H1 locs1 → W p l e R s m args below meth c H1 locs1 cells slots (vx_MQ below (QcE cl base D dA ro scr r0 Q) (XcE exn cl base D dA ro scr r0 Q) args s r0 (4 * r0) (Af base)) (F0 m (pc + 1) ls S2) := fun H1 locs1 p1 d1 s1 =>
            H p l e R s m args below meth c r0 H1 locs1 cells slots ls K s1 (RelM.put hnn hD hcc hq p1 d1) hL hc hs
          have e : trO dA 903 (fs.set i.toNatClampNeg (.double x)) = .inl (dA 3, fs.length, .inr (.inr (.inr (.inl (vf_upd (fD fs) i.toNatClampNeg x))))) := by
            show (Sum.inl (dA 3, (fs.set i.toNatClampNeg (Value.double x)).length, _) : va_E) = _
            rw [List.length_set]
            rw [← fD_set hlt]; rfl
          rw [e] at kk
          exact va_dast hx hb hK hP hD hS q0 3 hq rfl hin hd kk
        | _ => cases hcv
      · exact H.elim
    · exact H.elim
  · exact H.elim
/-- the class of a plain object or array -/
theorem rel_recv {s : State} {G : Heap} {locs : List Loc} (hK : va_K D cl (tyl dA) s) (hP0 : va_P D cl ro s.heap) (hA0 : ∀ x ∈ ro, ¬ base ≤ x.1) (hS : va_S (Af base) s.heap G locs) (hR : RelM cl base D dA ro scr h G) {b k : Nat} {fs : List Value} (hrd : rdO h b = some (k, fs)) (hk2 : k < 900 ∨ (900 ≤ k ∧ k < 905)) : ∃ cell : Cell, G[b]? = some cell ∧ cell.vm.isStatics = false ∧ s.vm.findClass (kname cl k) = some cell.cls := by
  obtain ⟨ws, q0, hP, hq⟩ := rel_at hP0 hA0 hS hR hrd (by omega)
  by_cases hlt : k < 900
  · rw [trO_obj hlt] at hq
    obtain ⟨r', hr', -⟩ := hP q0 _ hq
    obtain ⟨cell, g1, g2, g3⟩ := va_recv hK hP hr' hq
    have e : kname cl k = r'.1 := by unfold kname; rw [if_pos hlt, show cl[k]? = some r' from hr']
    exact ⟨cell, g1, g2, by rw [e]; exact g3⟩
  · have e : trO dA k fs = .inl (dA (dAi k), datO k fs) := if_neg hlt
    rw [e] at hq
    have g1 : G[b]? = some (vp_cell (dA (dAi k)) (datO k fs)) := hP q0 _ hq
    have hcls : (vp_cell (dA (dAi k)) (datO k fs)).cls = dA (dAi k) ∧ (vp_cell (dA (dAi k)) (datO k fs)).vm.isStatics = false := by
      unfold vp_cell
      split <;> exact ⟨rfl, rfl⟩
    have hfind : s.vm.findClass (kname cl k) = some (dA (dAi k)) := by
      have hk3 : k = 900 ∨ k = 901 ∨ k = 902 ∨ k = 903 ∨ k = 904 := by omega
      rcases hk3 with rfl | rfl | rfl | rfl | rfl
      · exact (hK.2 0 _ rfl).2
      · exact (hK.2 1 _ rfl).2
      · exact (hK.2 2 _ rfl).2
      · exact (hK.2 3 _ rfl).2
      · obtain ⟨kA, comp, -, -, -, q⟩ := (hK.2 4 _ rfl).2
        exact q
    exact ⟨_, g1, hcls.2, by rw [hcls.1]; exact hfind⟩
theorem any_obj {s : State} {args : Array Value} {G : Heap} {locs : List Loc} (hK : va_K D cl (tyl dA) s) (hnw : ∀ w ∈ nwl, va_Nw w s) (hOb : ∀ k, obK k = true → Cond.castable (kname cl k) "java/lang/Object" ∈ nwl) (hP0 : va_P D cl ro s.heap) (hA0 : ∀ x ∈ ro, ¬ base ≤ x.1) (hS : va_S (Af base) s.heap G locs) (hR : RelM cl base D dA ro scr h G) {b k : Nat} {fs : List Value} (hrd : rdO h b = some (k, fs)) (hk : obK k = true) : va_Any "java/lang/Object" s G b := by
  have hk2 := of_decide_eq_true hk
  obtain ⟨c0, t1, f1, f2, f3⟩ := Cond.castable_spec (va_Nw.use (A := args) rfl (hnw _ (hOb k hk)))
  obtain ⟨ws, q0, hP, hq⟩ := rel_at hP0 hA0 hS hR hrd (by omega)
  by_cases hlt : k < 900
  · rw [trO_obj hlt] at hq
    obtain ⟨r', hr', -⟩ := hP q0 _ hq
    obtain ⟨cell, g1, g2, g3⟩ := va_recv hK hP hr' hq
    obtain ⟨kC, hkC, -⟩ := Vm.findClass_spec g3
    refine ⟨cell, g1, g2, ⟨kC, hkC⟩, fun comp hcomp => ?_⟩
    have e : kname cl k = r'.1 := by unfold kname; rw [if_pos hlt, show cl[k]? = some r' from hr']
    rw [e, g3] at f1
    cases f1
    rw [f2] at hcomp
    cases hcomp
    exact f3
  · have e : trO dA k fs = .inl (dA (dAi k), datO k fs) := if_neg hlt
    rw [e] at hq
    have hc := hP q0 _ hq
    have g1 : G[b]? = some (vp_cell (dA (dAi k)) (datO k fs)) := hc
    have hcls : (vp_cell (dA (dAi k)) (datO k fs)).cls = dA (dAi k) ∧ (vp_cell (dA (dAi k)) (datO k fs)).vm.isStatics = false := by
      unfold vp_cell
      split <;> exact ⟨rfl, rfl⟩
    have hfind : s.vm.findClass (kname cl k) = some (dA (dAi k)) := by
      have hk3 : k = 900 ∨ k = 901 ∨ k = 902 ∨ k = 903 ∨ k = 904 := by omega
      rcases hk3 with rfl | rfl | rfl | rfl | rfl
      · exact (hK.2 0 _ rfl).2
      · exact (hK.2 1 _ rfl).2
      · exact (hK.2 2 _ rfl).2
      · exact (hK.2 3 _ rfl).2
      · obtain ⟨kA, comp, -, -, -, q⟩ := (hK.2 4 _ rfl).2
        exact q
    obtain ⟨kC, hkC, -⟩ := Vm.findClass_spec hfind
    refine ⟨_, g1, hcls.2, ⟨kC, by rw [hcls.1]; exact hkC⟩, fun comp hcomp => ?_⟩
    rw [hfind] at f1
    cases f1
    rw [f2] at hcomp
    cases hcomp
    rw [hcls.1]
    exact f3
theorem so_aastore (hOb : ∀ k, obK k = true → Cond.castable (kname cl k) "java/lang/Object" ∈ nwl) (hd : decode M.2.2.1 pc = .ok (.aastore, len)) (hl : len = 1) (H : Do1 E (XW oname exn cl (FX cl nwl ncl fwl stl spc base D dA sv ro scr) base D dA ro scr) M pc h r d Q (stI E.2.2 (rdO h) M pc (pc + len) tg L S (.aastore))) : XW oname exn cl (FX cl nwl ncl fwl stl spc base D dA sv ro scr) base D dA ro scr M pc L S h r d Q := by
  subst hl
  intro p l e R s m args below meth c r0 G locs cells slots ls K hS hR hL hc hs
  have K' := K
  obtain ⟨hx, hb, hml, hret, hlk, hown, hini, hts, hfx, hba, het, hfr, hlo, hRc, hRs, hl0⟩ := K'
  obtain ⟨hK, hnw, hfw, hst, hU, hN, hP0, hA0, hmir, hAO, hDc, hnc, hX, hXb, hsp⟩ := hfx
  have hAq : ∀ q, s.heap.size ≤ q → Af base q := fun q z => Nat.le_trans hba z
  simp only [stI, arG, arP] at H
  have main : ∀ (v : Value) (i : Int32) (a : Nat) (S2 : List Value) (k : Nat) (fs : List Value), S = v :: .int i :: .ref a :: S2 → rdO h a = some (k, fs) → (k = 904 ∧ ¬ i < 0 ∧ i.toNatClampNeg < fs.length ∧ isR v = true) → (XW oname exn cl (FX cl nwl ncl fwl stl spc base D dA sv ro scr) base D dA ro scr M (pc + 1) L S2 (upd_ h a (.inl (k, fs.set i.toNatClampNeg v))) r d Q) → (v = .null ∨ ∃ b, v = .ref b ∧ va_Any "java/lang/Object" s G b) → W p l e R s m args below meth c G locs cells slots (vx_MQ below (QcE cl base D dA ro scr r0 Q) (XcE exn cl base D dA ro scr r0 Q) args s r0 (4 * r0) (Af base)) (F0 m pc ls S) := by
    intro v i a S2 k fs hSe hrd hcd HX hv
    subst hSe
    obtain ⟨rfl, h0, hlt, hcv⟩ := hcd
    have hin : vp_in i fs.length := by
      intro q
      rcases q with q | q
      · exact h0 q
      · omega
    obtain ⟨ws, q0, hP, hD, hq, hnn, hcc⟩ := rel_wr hR hrd rfl
    obtain ⟨z, rfl⟩ := isR_rf hcv
    have kk : ∀ (H1 : Heap) (locs1 : List Loc), va_P D cl (ws.set q0 (a, trO dA 904 (fs.set i.toNatClampNeg (va_rf z)))) H1 → va_D (Af base) (ws.set q0 (a, trO dA 904 (fs.set i.toNatClampNeg (va_rf z)))) → va_S (Af base) s.heap H1 locs1 → W p l e R s m args below meth c H1 locs1 cells slots (vx_MQ below (QcE cl base D dA ro scr r0 Q) (XcE exn cl base D dA ro scr r0 Q) args s r0 (4 * r0) (Af base)) (F0 m (pc + 1) ls S2) := fun H1 locs1 p1 d1 s1 =>
      HX p l e R s m args below meth c r0 H1 locs1 cells slots ls K s1 (RelM.put hnn hD hcc hq p1 d1) hL hc hs
    have e : trO dA 904 (fs.set i.toNatClampNeg (va_rf z)) = .inl (dA 4, fs.length, .inr (.inr (.inr (.inr (va_up (fR fs) i.toNatClampNeg z))))) := by
      show (Sum.inl (dA 4, (fs.set i.toNatClampNeg (va_rf z)).length, _) : va_E) = _
      rw [List.length_set, ← fR_set hlt]; rfl
    rw [e] at kk
    rcases hv with hv | ⟨b, hv, hany⟩
    · have hz : z = none := by cases z with | none => rfl | some w => cases hv
      subst hz
      exact va_astqN hx hb hK hP hD hS q0 4 hq rfl hin hd kk
    · have hz : z = some b := by cases z with | none => cases hv | some w => cases hv; rfl
      subst hz
      exact va_astqM hx hb hK hP hD hS q0 4 hq rfl hany hin hd kk
  split at H
  · rename_i b S3
    split at H
    · rename_i kb fb hrb
      split at H
      · rename_i hkb
        split at H
        · rename_i v i a S2 hSe
          split at H
          · rename_i k fs hrd
            split at H
            · rename_i hcd
              cases hSe
              exact main _ _ _ _ _ _ rfl hrd hcd H (Or.inr ⟨b, rfl, any_obj (args := args) hK hnw hOb hP0 hA0 hS hR hrb hkb⟩)
            · exact H.elim
          · exact H.elim
        · exact H.elim
      · exact H.elim
    · exact H.elim
  · rename_i hnr
    split at H
    · rename_i v i a S2
      split at H
      · rename_i k fs hrd
        split at H
        · rename_i hcd
          refine main _ _ _ _ _ _ rfl hrd hcd H ?_
          obtain ⟨z, hz⟩ := isR_rf hcd.2.2.2
          cases z with
          | none => exact Or.inl hz
          | some w => exact (hnr w _ (by rw [hz]; rfl)).elim
        · exact H.elim
      · exact H.elim
    · exact H.elim
theorem so_ireturn (hd : decode M.2.2.1 pc = .ok (.ireturn, len)) (hl : len = 1) (H : Do1 E (XW oname exn cl (FX cl nwl ncl fwl stl spc base D dA sv ro scr) base D dA ro scr) M pc h r d Q (stI E.2.2 (rdO h) M pc (pc + len) tg L S (.ireturn))) : XW oname exn cl (FX cl nwl ncl fwl stl spc base D dA sv ro scr) base D dA ro scr M pc L S h r d Q := by
  subst hl
  intro p l e R s m args below meth c r0 G locs cells slots ls K hS hR hL hc hs
  have K' := K
  obtain ⟨hx, hb, hml, hret, hlk, hown, hini, hts, hfx, hba, het, hfr, hlo, hRc, hRs, hl0⟩ := K'
  obtain ⟨hK, hnw, hfw, hst, hU, hN, hP0, hA0, hmir, hAO, hDc, hnc, hX, hXb, hsp⟩ := hfx
  have hAq : ∀ q, s.heap.size ≤ q → Af base q := fun q z => Nat.le_trans hba z
  simp only [stI, arG, arP] at H
  split at H
  · rename_i v
    split at H
    · rename_i hcv
      cases v with
      | int x =>
        refine W_Gr fun hG => ?_
        refine W.widen (k := r0) (n := 4 * r0) (by omega) (by omega) ?_
        refine vx_ret ?_
        have hq : ∀ t : State, t.heap = G → s.WarmedH t.vm → QcE cl base D dA ro scr r0 Q args s (.returned (some (.int x))) t := fun t ht hW => ⟨_, h, r, rfl, H, by rw [ht]; exact hR, hS.F ht, by omega, by rw [ht]; exact hG.mono (by omega) (by omega)⟩
        have hrt : meth.sig.returnType = some .int ∨ (meth.sig.returnType = some .boolean ∧ (x = 0 ∨ x = 1)) ∨ (meth.sig.returnType = some .char ∧ 0 ≤ x ∧ x ≤ 65535) := by
          rw [hret]
          unfold retV at hcv
          split at hcv
          · rename_i hh hv; exact Or.inl hh
          · rename_i hh hv; cases hv; exact Or.inr (Or.inl ⟨hh, of_decide_eq_true hcv⟩)
          · rename_i hh hv; cases hv; exact Or.inr (Or.inr ⟨hh, of_decide_eq_true hcv⟩)
          · cases hcv
        rcases hrt with h1 | ⟨h1, h2⟩ | ⟨h1, h2⟩
        · exact W.iret hx hb h1 hq hS.2.2 hd
        · exact W.zret hx hb h1 (by rcases h2 with rfl | rfl <;> rfl) hq hS.2.2 hd
        · exact W.zret hx hb h1 (fits_narrow (Or.inr (Or.inr (Or.inl rfl))) (by show (decide ((0 : Int32) ≤ x) && decide (x ≤ 65535)) = true; rw [decide_eq_true h2.1, decide_eq_true h2.2]; rfl)) hq hS.2.2 hd
      | _ => unfold retV at hcv; split at hcv <;> simp_all
    · exact H.elim
  · exact H.elim
theorem so_lreturn (hd : decode M.2.2.1 pc = .ok (.lreturn, len)) (hl : len = 1) (H : Do1 E (XW oname exn cl (FX cl nwl ncl fwl stl spc base D dA sv ro scr) base D dA ro scr) M pc h r d Q (stI E.2.2 (rdO h) M pc (pc + len) tg L S (.lreturn))) : XW oname exn cl (FX cl nwl ncl fwl stl spc base D dA sv ro scr) base D dA ro scr M pc L S h r d Q := by
  subst hl
  intro p l e R s m args below meth c r0 G locs cells slots ls K hS hR hL hc hs
  have K' := K
  obtain ⟨hx, hb, hml, hret, hlk, hown, hini, hts, hfx, hba, het, hfr, hlo, hRc, hRs, hl0⟩ := K'
  obtain ⟨hK, hnw, hfw, hst, hU, hN, hP0, hA0, hmir, hAO, hDc, hnc, hX, hXb, hsp⟩ := hfx
  have hAq : ∀ q, s.heap.size ≤ q → Af base q := fun q z => Nat.le_trans hba z
  simp only [stI, arG, arP] at H
  split at H
  · rename_i v
    split at H
    · rename_i hcv
      cases v with
      | long x =>
        refine W_Gr fun hG => ?_
        refine W.widen (k := r0) (n := 4 * r0) (by omega) (by omega) ?_
        refine vx_ret ?_
        have hq : ∀ t : State, t.heap = G → s.WarmedH t.vm → QcE cl base D dA ro scr r0 Q args s (.returned (some (.long x))) t := fun t ht hW => ⟨_, h, r, rfl, H, by rw [ht]; exact hR, hS.F ht, by omega, by rw [ht]; exact hG.mono (by omega) (by omega)⟩
        exact W.lret hx hb (hret.trans hcv.2) hq hS.2.2 hd
      | _ => cases hcv.1
    · exact H.elim
  · exact H.elim
theorem so_freturn (hd : decode M.2.2.1 pc = .ok (.freturn, len)) (hl : len = 1) (H : Do1 E (XW oname exn cl (FX cl nwl ncl fwl stl spc base D dA sv ro scr) base D dA ro scr) M pc h r d Q (stI E.2.2 (rdO h) M pc (pc + len) tg L S (.freturn))) : XW oname exn cl (FX cl nwl ncl fwl stl spc base D dA sv ro scr) base D dA ro scr M pc L S h r d Q := by
  subst hl
  intro p l e R s m args below meth c r0 G locs cells slots ls K hS hR hL hc hs
  have K' := K
  obtain ⟨hx, hb, hml, hret, hlk, hown, hini, hts, hfx, hba, het, hfr, hlo, hRc, hRs, hl0⟩ := K'
  obtain ⟨hK, hnw, hfw, hst, hU, hN, hP0, hA0, hmir, hAO, hDc, hnc, hX, hXb, hsp⟩ := hfx
  have hAq : ∀ q, s.heap.size ≤ q → Af base q := fun q z => Nat.le_trans hba z
  simp only [stI, arG, arP] at H
  split at H
  · rename_i v
    split at H
    · rename_i hcv
      cases v with
      | float x =>
        refine W_Gr fun hG => ?_
        refine W.widen (k := r0) (n := 4 * r0) (by omega) (by omega) ?_
        refine vx_ret ?_
        have hq : ∀ t : State, t.heap = G → s.WarmedH t.vm → QcE cl base D dA ro scr r0 Q args s (.returned (some (.float x))) t := fun t ht hW => ⟨_, h, r, rfl, H, by rw [ht]; exact hR, hS.F ht, by omega, by rw [ht]; exact hG.mono (by omega) (by omega)⟩
        exact W.fret hx hb (hret.trans hcv.2) hq hS.2.2 hd
      | _ => cases hcv.1
    · exact H.elim
  · exact H.elim
theorem so_dreturn (hd : decode M.2.2.1 pc = .ok (.dreturn, len)) (hl : len = 1) (H : Do1 E (XW oname exn cl (FX cl nwl ncl fwl stl spc base D dA sv ro scr) base D dA ro scr) M pc h r d Q (stI E.2.2 (rdO h) M pc (pc + len) tg L S (.dreturn))) : XW oname exn cl (FX cl nwl ncl fwl stl spc base D dA sv ro scr) base D dA ro scr M pc L S h r d Q := by
  subst hl
  intro p l e R s m args below meth c r0 G locs cells slots ls K hS hR hL hc hs
  have K' := K
  obtain ⟨hx, hb, hml, hret, hlk, hown, hini, hts, hfx, hba, het, hfr, hlo, hRc, hRs, hl0⟩ := K'
  obtain ⟨hK, hnw, hfw, hst, hU, hN, hP0, hA0, hmir, hAO, hDc, hnc, hX, hXb, hsp⟩ := hfx
  have hAq : ∀ q, s.heap.size ≤ q → Af base q := fun q z => Nat.le_trans hba z
  simp only [stI, arG, arP] at H
  split at H
  · rename_i v
    split at H
    · rename_i hcv
      cases v with
      | double x =>
        refine W_Gr fun hG => ?_
        refine W.widen (k := r0) (n := 4 * r0) (by omega) (by omega) ?_
        refine vx_ret ?_
        have hq : ∀ t : State, t.heap = G → s.WarmedH t.vm → QcE cl base D dA ro scr r0 Q args s (.returned (some (.double x))) t := fun t ht hW => ⟨_, h, r, rfl, H, by rw [ht]; exact hR, hS.F ht, by omega, by rw [ht]; exact hG.mono (by omega) (by omega)⟩
        exact W.dret hx hb (hret.trans hcv.2) hq hS.2.2 hd
      | _ => cases hcv.1
    · exact H.elim
  · exact H.elim
theorem so_areturn (hd : decode M.2.2.1 pc = .ok (.areturn, len)) (hl : len = 1) (H : Do1 E (XW oname exn cl (FX cl nwl ncl fwl stl spc base D dA sv ro scr) base D dA ro scr) M pc h r d Q (stI E.2.2 (rdO h) M pc (pc + len) tg L S (.areturn))) : XW oname exn cl (FX cl nwl ncl fwl stl spc base D dA sv ro scr) base D dA ro scr M pc L S h r d Q := by
  subst hl
  intro p l e R s m args below meth c r0 G locs cells slots ls K hS hR hL hc hs
  have K' := K
  obtain ⟨hx, hb, hml, hret, hlk, hown, hini, hts, hfx, hba, het, hfr, hlo, hRc, hRs, hl0⟩ := K'
  obtain ⟨hK, hnw, hfw, hst, hU, hN, hP0, hA0, hmir, hAO, hDc, hnc, hX, hXb, hsp⟩ := hfx
  have hAq : ∀ q, s.heap.size ≤ q → Af base q := fun q z => Nat.le_trans hba z
  simp only [stI, arG, arP] at H
  split at H
  · rename_i v
    split at H
    · rename_i hcv
      obtain ⟨h1, h2⟩ := hcv
      refine W_Gr fun hG => ?_
      refine W.widen (k := r0) (n := 4 * r0) (by omega) (by omega) ?_
      refine vx_ret ?_
      have hq : ∀ t : State, t.heap = G → s.WarmedH t.vm → QcE cl base D dA ro scr r0 Q args s (.returned (some v)) t := fun t ht hW => ⟨_, h, r, rfl, H, by rw [ht]; exact hR, hS.F ht, by omega, by rw [ht]; exact hG.mono (by omega) (by omega)⟩
      have hv : v = .null ∨ ∃ a, v = .ref a := by
        cases v with
        | null => exact Or.inl rfl
        | ref a => exact Or.inr ⟨a, rfl⟩
        | _ => cases h1
      unfold retR at h2
      split at h2
      · rename_i n hn
        exact W.aret hx hb (hret.trans hn) (Or.inl ⟨n, rfl⟩) hv hq hS.2.2 hd
      · rename_i n hn
        exact W.aret hx hb (hret.trans hn) (Or.inr ⟨n, rfl⟩) hv hq hS.2.2 hd
      · cases h2
    · exact H.elim
  · exact H.elim
theorem so_return (hd : decode M.2.2.1 pc = .ok (.return_, len)) (hl : len = 1) (H : Do1 E (XW oname exn cl (FX cl nwl ncl fwl stl spc base D dA sv ro scr) base D dA ro scr) M pc h r d Q (stI E.2.2 (rdO h) M pc (pc + len) tg L S (.return_))) : XW oname exn cl (FX cl nwl ncl fwl stl spc base D dA sv ro scr) base D dA ro scr M pc L S h r d Q := by
  subst hl
  intro p l e R s m args below meth c r0 G locs cells slots ls K hS hR hL hc hs
  have K' := K
  obtain ⟨hx, hb, hml, hret, hlk, hown, hini, hts, hfx, hba, het, hfr, hlo, hRc, hRs, hl0⟩ := K'
  obtain ⟨hK, hnw, hfw, hst, hU, hN, hP0, hA0, hmir, hAO, hDc, hnc, hX, hXb, hsp⟩ := hfx
  have hAq : ∀ q, s.heap.size ≤ q → Af base q := fun q z => Nat.le_trans hba z
  simp only [stI, arG, arP] at H
  split at H
  · split at H
    · rename_i hcv
      refine W_Gr fun hG => ?_
      refine W.widen (k := r0) (n := 4 * r0) (by omega) (by omega) ?_
      refine vx_ret ?_
      exact W.vret hx hb (hret.trans hcv) (fun t ht hW => ⟨_, h, r, rfl, H, by rw [ht]; exact hR, hS.F ht, by omega, by rw [ht]; exact hG.mono (by omega) (by omega)⟩) hS.2.2 hd
    · exact H.elim
  · exact H.elim
theorem so_checkcast {j : Nat} (hCa : ∀ o j k, cok o j k = true → CastOK oname cl nwl o j k) (hd : decode M.2.2.1 pc = .ok (.checkcast j, len)) (hl : len = 3) (H : Do1 E (XW oname exn cl (FX cl nwl ncl fwl stl spc base D dA sv ro scr) base D dA ro scr) M pc h r d Q (stI E.2.2 (rdO h) M pc (pc + len) tg L S (.checkcast j))) : XW oname exn cl (FX cl nwl ncl fwl stl spc base D dA sv ro scr) base D dA ro scr M pc L S h r d Q := by
  subst hl
  intro p l e R s m args below meth c r0 G locs cells slots ls K hS hR hL hc hs
  have K' := K
  obtain ⟨hx, hb, hml, hret, hlk, hown, hini, hts, hfx, hba, het, hfr, hlo, hRc, hRs, hl0⟩ := K'
  obtain ⟨hK, hnw, hfw, hst, hU, hN, hP0, hA0, hmir, hAO, hDc, hnc, hX, hXb, hsp⟩ := hfx
  have hAq : ∀ q, s.heap.size ≤ q → Af base q := fun q z => Nat.le_trans hba z
  simp only [stI, arG, arP] at H
  split at H
  · exact lv_castN hx hb hd (H p l e R s m args below meth c r0 G locs cells slots ls K hS hR hL hc hs)
  · rename_i a S2
    have H2 : (match h a with | some o => cok M.1 j (kd o) = true ∧ _ | none => False) := H
    split at H2
    · rename_i o ho
      obtain ⟨hck, HX⟩ := H2
      rcases o with ⟨k, fs⟩ | x
      · obtain ⟨hkk, nm, hw, hcs⟩ := hCa _ _ _ hck
        have hkk' : k < 37 ∨ (900 ≤ k ∧ k < 905) := hkk
        have hcs' : kname cl k = nm ∨ Cond.castable (kname cl k) nm ∈ nwl := hcs
        have hrd : rdO h a = some (k, fs) := by unfold rdO; rw [ho]
        have kk := HX p l e R s m args below meth c r0 G locs cells slots ls K hS hR hL hc hs
        have hr : ∃ cell : Cell, G[a]? = some cell ∧ cell.vm.isStatics = false ∧ s.vm.findClass (kname cl k) = some cell.cls := rel_recv hK hP0 hA0 hS hR hrd (by omega)
        rcases hcs' with hcs | hcs
        · obtain ⟨cell, g1, g2, g3⟩ := hr
          rw [hcs] at g3
          by_cases hlt : k < 900
          · obtain ⟨ws, q0, hP, hq⟩ := rel_at hP0 hA0 hS hR hrd (by omega)
            rw [trO_obj hlt] at hq
            obtain ⟨r', hr', -⟩ := hP q0 _ hq
            have e : kname cl k = r'.1 := by unfold kname; rw [if_pos hlt, show cl[k]? = some r' from hr']
            exact va_castS hx hb hown (hts _ hw) (cC := D.1 k) (by rw [← hcs, e]; exact (hK.1 k r' hr').2) ⟨cell, g1, g2, g3⟩ hd kk
          · obtain ⟨ws, q0, hP, hq⟩ := rel_at hP0 hA0 hS hR hrd (by omega)
            have e : trO dA k fs = .inl (dA (dAi k), datO k fs) := if_neg hlt
            rw [e] at hq
            have g1' : G[a]? = some (vp_cell (dA (dAi k)) (datO k fs)) := hP q0 _ hq
            rw [g1] at g1'
            cases g1'
            exact va_castA hx hb hown (hts _ hw) hP q0 hq (by rw [g3]; congr 1; unfold vp_cell; split <;> rfl) hd kk
        · exact va_castY hx hb hown (hts _ hw) (hnw _ hcs) hr hd kk
      · exact absurd ho (hR.1 a x)
    · exact H2.elim
  · exact H.elim
theorem va_D_last {base : Nat} {ws : va_W} {q : Nat} {e : va_E} (hD : va_D (Af base) (ws ++ [(q, e)])) : base ≤ q := hD.2 ws.length (q, e) (by simp)
theorem so_new {j k : Nat} (hB : ∀ q : Nat, base ≤ q → E.2.2 4 ≠ .ref q) (hKO : ∀ k, k < 37 → KindOK cl k) (hNO : ∀ o j k, (pN o).lookup j = some (.inl k) → NewOK oname cl o j k) (hj : (pN M.1).lookup j = some (.inl k)) (hd : decode M.2.2.1 pc = .ok (.new j, len)) (hl : len = 3) (H : Do1 E (XW oname exn cl (FX cl nwl ncl fwl stl spc base D dA sv ro scr) base D dA ro scr) M pc h r d Q (stI E.2.2 (rdO h) M pc (pc + len) tg L S (.new j))) : XW oname exn cl (FX cl nwl ncl fwl stl spc base D dA sv ro scr) base D dA ro scr M pc L S h r d Q := by
  subst hl
  intro p l e0 R s m args below meth c r0 G locs cells slots ls K hS hR hL hc hs
  have K' := K
  obtain ⟨hx, hb, hml, hret, hlk, hown, hini, hts, hfx, hba, het, hfr, hlo, hRc, hRs, hl0⟩ := K'
  obtain ⟨hK, hnw, hfw, hst, hU, hN, hP0, hA0, hmir, hAO, hDc, hnc, hX, hXb, hsp⟩ := hfx
  have hAq : ∀ q, s.heap.size ≤ q → Af base q := fun q z => Nat.le_trans hba z
  simp only [stI, arG, arP] at H
  rw [hj] at H
  dsimp only at H
  obtain ⟨hcst, HX⟩ := H
  obtain ⟨hk35, hw1, hw2, hw3⟩ := hNO _ _ _ hj
  obtain ⟨C, T, N, ty, hcl, hin, hty, hnm, hlen, hT, hts2, hts3⟩ := hKO k (by omega)
  have hCn : kname cl k = C := by unfold kname; rw [if_pos (by omega), hcl]
  rw [hCn] at hw1 hw2 hw3
  rw [hlen] at hw2
  obtain ⟨hn, ws, hP, hD, hcc⟩ := hR
  have hdl : (dfl k).length = N := by unfold dfl; rw [List.length_map]; exact hts3
  rw [hdl] at hcst HX
  have hcN : N ≤ 4 * cst N := by unfold cst; omega
  have hc1 : 1 ≤ cst N := by unfold cst; omega
  refine va_new hx hb hts hin ty hty hown (hts _ hw1) (hts _ hw2) (hts _ hw3) hK hP hD hS hAq hcl (fs := dfl k) (fun i hi => ?_) (by omega) (by omega) hd (fun q H1 p1 d1 s1 => ?_)
  · have e2 : (dfl k)[i]? = some (defaultValue (ty i)) := by unfold dfl; rw [List.getElem?_map, hts2 i hi]; rfl
    unfold vp_V
    rw [List.getD_eq_getElem?_getD, e2]
    rfl
  · have e : trO dA k (dfl k) = .inr (k, dfl k) := trO_obj (by omega)
    rw [← e] at p1 d1
    exact HX q (RelM.none hA0 hXb hn hcc d1) (hB q (va_D_last d1)) p l e0 R s m args below meth c r0 H1 locs (cells + 1) (slots + N) ls K s1 (RelM.new hn hcc p1 d1) hL (by omega) (by omega)
theorem rep_I (n : Nat) : fI (List.replicate n (.int 0)) = fun _ => 0 := by
  funext j
  unfold fI
  rw [List.getElem?_replicate]
  split <;> rename_i h
  · split at h <;> simp_all
  · rfl
theorem rep_L (n : Nat) : fL (List.replicate n (.long 0)) = fun _ => 0 := by
  funext j
  unfold fL
  rw [List.getElem?_replicate]
  split <;> rename_i h
  · split at h <;> simp_all
  · rfl
theorem rep_D (n : Nat) : fD (List.replicate n (.double 0)) = fun _ => 0 := by
  funext j
  unfold fD
  rw [List.getElem?_replicate]
  split <;> rename_i h
  · split at h <;> simp_all
  · rfl
theorem rep_R (n : Nat) : fR (List.replicate n .null) = fun _ => none := by
  funext j
  unfold fR
  rw [List.getElem?_replicate]
  split <;> rename_i h
  · split at h <;> simp_all
  · rfl
theorem so_newarray {ty : ArrayType} (hB : ∀ q : Nat, base ≤ q → E.2.2 4 ≠ .ref q) (hAC : ∀ t, t ∈ [FieldType.int, .long, .boolean, .double] → Cond.arrayClass t ∈ lw_all) (hd : decode M.2.2.1 pc = .ok (.newarray ty, len)) (hl : len = 2) (H : Do1 E (XW oname exn cl (FX cl nwl ncl fwl stl spc base D dA sv ro scr) base D dA ro scr) M pc h r d Q (stI E.2.2 (rdO h) M pc (pc + len) tg L S (.newarray ty))) : XW oname exn cl (FX cl nwl ncl fwl stl spc base D dA sv ro scr) base D dA ro scr M pc L S h r d Q := by
  subst hl
  intro p l e0 R s m args below meth c r0 G locs cells slots ls K hS hR hL hc hs
  have K' := K
  obtain ⟨hx, hb, hml, hret, hlk, hown, hini, hts, hfx, hba, het, hfr, hlo, hRc, hRs, hl0⟩ := K'
  obtain ⟨hK, hnw, hfw, hst, hU, hN, hP0, hA0, hmir, hAO, hDc, hnc, hX, hXb, hsp⟩ := hfx
  have hAq : ∀ q, s.heap.size ≤ q → Af base q := fun q z => Nat.le_trans hba z
  simp only [stI, arG, arP] at H
  obtain ⟨hn, ws, hP, hD, hcc⟩ := hR
  split at H
  · rename_i n S2
    split at H
    · exact H.elim
    · rename_i hnn
      split at H
      · have hcst : cst n.toNatClampNeg ≤ r := by have := H.1; rwa [List.length_replicate] at this
        have HX := H.2
        rw [List.length_replicate] at HX
        have hcN : n.toNatClampNeg ≤ 4 * cst n.toNatClampNeg := by unfold cst; omega
        have hc1 : 1 ≤ cst n.toNatClampNeg := by unfold cst; omega
        refine va_newa hx hb (atype := .int) (ty := .int) (hts _ (hAC .int (by simp))) rfl hK hP hD hS hAq (a0 := (n.toNatClampNeg, .inl (fI (List.replicate n.toNatClampNeg (.int 0))))) (fun cA => by rw [rep_I]; rfl) (fun q => hnn (Or.inl q)) rfl (by show n.toNatClampNeg * _ ≤ _; have := Nat.not_lt.mp (fun q => hnn (Or.inr q)); simp only [componentBytes]; omega) (by omega) (by omega) hd (fun q cA H1 k1 p1 d1 s1 => ?_)
        have hcA : cA = dA 0 := by
          have e1 := (k1.2 7 _ rfl).2
          have e2 := (hK.2 0 _ rfl).2
          exact Option.some.inj (e1.symm.trans e2)
        subst hcA
        have e : ((q, .inl (dA 0, (n.toNatClampNeg, .inl (fI (List.replicate n.toNatClampNeg (.int 0)))))) : Nat × va_E) = (q, trO dA 900 (List.replicate n.toNatClampNeg (.int 0))) := by
          show _ = (q, (Sum.inl (dA 0, ((List.replicate n.toNatClampNeg (Value.int 0)).length, _)) : va_E))
          rw [List.length_replicate]; rfl
        rw [e] at p1 d1
        exact HX q (RelM.none hA0 hXb hn hcc d1) (hB q (va_D_last d1)) p l e0 R s m args below meth c r0 H1 locs (cells + 1) (slots + n.toNatClampNeg) ls K s1 (RelM.new hn hcc p1 d1) hL (by omega) (by omega)
      · have hcst : cst n.toNatClampNeg ≤ r := by have := H.1; rwa [List.length_replicate] at this
        have HX := H.2
        rw [List.length_replicate] at HX
        have hcN : n.toNatClampNeg ≤ 4 * cst n.toNatClampNeg := by unfold cst; omega
        have hc1 : 1 ≤ cst n.toNatClampNeg := by unfold cst; omega
        refine va_newa hx hb (atype := .long) (ty := .long) (hts _ (hAC .long (by simp))) rfl hK hP hD hS hAq (a0 := (n.toNatClampNeg, .inr (.inl (fL (List.replicate n.toNatClampNeg (.long 0)))))) (fun cA => by rw [rep_L]; rfl) (fun q => hnn (Or.inl q)) rfl (by show n.toNatClampNeg * _ ≤ _; have := Nat.not_lt.mp (fun q => hnn (Or.inr q)); simp only [componentBytes]; omega) (by omega) (by omega) hd (fun q cA H1 k1 p1 d1 s1 => ?_)
        have hcA : cA = dA 1 := by
          have e1 := (k1.2 7 _ rfl).2
          have e2 := (hK.2 1 _ rfl).2
          exact Option.some.inj (e1.symm.trans e2)
        subst hcA
        have e : ((q, .inl (dA 1, (n.toNatClampNeg, .inr (.inl (fL (List.replicate n.toNatClampNeg (.long 0))))))) : Nat × va_E) = (q, trO dA 901 (List.replicate n.toNatClampNeg (.long 0))) := by
          show _ = (q, (Sum.inl (dA 1, ((List.replicate n.toNatClampNeg (Value.long 0)).length, _)) : va_E))
          rw [List.length_replicate]; rfl
        rw [e] at p1 d1
        exact HX q (RelM.none hA0 hXb hn hcc d1) (hB q (va_D_last d1)) p l e0 R s m args below meth c r0 H1 locs (cells + 1) (slots + n.toNatClampNeg) ls K s1 (RelM.new hn hcc p1 d1) hL (by omega) (by omega)
      · have hcst : cst n.toNatClampNeg ≤ r := by have := H.1; rwa [List.length_replicate] at this
        have HX := H.2
        rw [List.length_replicate] at HX
        have hcN : n.toNatClampNeg ≤ 4 * cst n.toNatClampNeg := by unfold cst; omega
        have hc1 : 1 ≤ cst n.toNatClampNeg := by unfold cst; omega
        refine va_newa hx hb (atype := .boolean) (ty := .boolean) (hts _ (hAC .boolean (by simp))) rfl hK hP hD hS hAq (a0 := (n.toNatClampNeg, .inl (fI (List.replicate n.toNatClampNeg (.int 0))))) (fun cA => by rw [rep_I]; rfl) (fun q => hnn (Or.inl q)) rfl (by show n.toNatClampNeg * _ ≤ _; have := Nat.not_lt.mp (fun q => hnn (Or.inr q)); simp only [componentBytes]; omega) (by omega) (by omega) hd (fun q cA H1 k1 p1 d1 s1 => ?_)
        have hcA : cA = dA 2 := by
          have e1 := (k1.2 7 _ rfl).2
          have e2 := (hK.2 2 _ rfl).2
          exact Option.some.inj (e1.symm.trans e2)
        subst hcA
        have e : ((q, .inl (dA 2, (n.toNatClampNeg, .inl (fI (List.replicate n.toNatClampNeg (.int 0)))))) : Nat × va_E) = (q, trO dA 902 (List.replicate n.toNatClampNeg (.int 0))) := by
          show _ = (q, (Sum.inl (dA 2, ((List.replicate n.toNatClampNeg (Value.int 0)).length, _)) : va_E))
          rw [List.length_replicate]; rfl
        rw [e] at p1 d1
        exact HX q (RelM.none hA0 hXb hn hcc d1) (hB q (va_D_last d1)) p l e0 R s m args below meth c r0 H1 locs (cells + 1) (slots + n.toNatClampNeg) ls K s1 (RelM.new hn hcc p1 d1) hL (by omega) (by omega)
      · have hcst : cst n.toNatClampNeg ≤ r := by have := H.1; rwa [List.length_replicate] at this
        have HX := H.2
        rw [List.length_replicate] at HX
        have hcN : n.toNatClampNeg ≤ 4 * cst n.toNatClampNeg := by unfold cst; omega
        have hc1 : 1 ≤ cst n.toNatClampNeg := by unfold cst; omega
        refine va_newa hx hb (atype := .double) (ty := .double) (hts _ (hAC .double (by simp))) rfl hK hP hD hS hAq (a0 := (n.toNatClampNeg, .inr (.inr (.inr (.inl (fD (List.replicate n.toNatClampNeg (.double 0)))))))) (fun cA => by rw [rep_D]; rfl) (fun q => hnn (Or.inl q)) rfl (by show n.toNatClampNeg * _ ≤ _; have := Nat.not_lt.mp (fun q => hnn (Or.inr q)); simp only [componentBytes]; omega) (by omega) (by omega) hd (fun q cA H1 k1 p1 d1 s1 => ?_)
        have hcA : cA = dA 3 := by
          have e1 := (k1.2 7 _ rfl).2
          have e2 := (hK.2 3 _ rfl).2
          exact Option.some.inj (e1.symm.trans e2)
        subst hcA
        have e : ((q, .inl (dA 3, (n.toNatClampNeg, .inr (.inr (.inr (.inl (fD (List.replicate n.toNatClampNeg (.double 0))))))))) : Nat × va_E) = (q, trO dA 903 (List.replicate n.toNatClampNeg (.double 0))) := by
          show _ = (q, (Sum.inl (dA 3, ((List.replicate n.toNatClampNeg (Value.double 0)).length, _)) : va_E))
          rw [List.length_replicate]; rfl
        rw [e] at p1 d1
        exact HX q (RelM.none hA0 hXb hn hcc d1) (hB q (va_D_last d1)) p l e0 R s m args below meth c r0 H1 locs (cells + 1) (slots + n.toNatClampNeg) ls K s1 (RelM.new hn hcc p1 d1) hL (by omega) (by omega)
      · exact H.elim
  · exact H.elim
theorem so_anewarray {j : Nat} (hB : ∀ q : Nat, base ≤ q → E.2.2 4 ≠ .ref q) (hAN : ∀ o j, (pN o).lookup j = some (.inr 904) → Cond.classLink (oname o) j "java/lang/Object" ∈ lw_all) (hd : decode M.2.2.1 pc = .ok (.anewarray j, len)) (hl : len = 3) (H : Do1 E (XW oname exn cl (FX cl nwl ncl fwl stl spc base D dA sv ro scr) base D dA ro scr) M pc h r d Q (stI E.2.2 (rdO h) M pc (pc + len) tg L S (.anewarray j))) : XW oname exn cl (FX cl nwl ncl fwl stl spc base D dA sv ro scr) base D dA ro scr M pc L S h r d Q := by
  subst hl
  intro p l e0 R s m args below meth c r0 G locs cells slots ls K hS hR hL hc hs
  have K' := K
  obtain ⟨hx, hb, hml, hret, hlk, hown, hini, hts, hfx, hba, het, hfr, hlo, hRc, hRs, hl0⟩ := K'
  obtain ⟨hK, hnw, hfw, hst, hU, hN, hP0, hA0, hmir, hAO, hDc, hnc, hX, hXb, hsp⟩ := hfx
  have hAq : ∀ q, s.heap.size ≤ q → Af base q := fun q z => Nat.le_trans hba z
  simp only [stI, arG, arP] at H
  obtain ⟨hn, ws, hP, hD, hcc⟩ := hR
  split at H
  · rename_i n S2
    split at H
    · exact H.elim
    · rename_i hnn
      have hj : (pN M.1).lookup j = some (.inr 904) := Classical.byContradiction fun q => hnn (Or.inr (Or.inr q))
      have hcst : cst n.toNatClampNeg ≤ r := by have := H.1; rwa [List.length_replicate] at this
      have HX := H.2
      rw [List.length_replicate] at HX
      have hcN : n.toNatClampNeg ≤ 4 * cst n.toNatClampNeg := by unfold cst; omega
      have hc1 : 1 ≤ cst n.toNatClampNeg := by unfold cst; omega
      refine va_newq hx hb hown (hts _ (hAN _ _ hj)) hAO hK hP hD hS hAq (fun q => hnn (Or.inl q)) rfl (by have := Nat.not_lt.mp (fun q => hnn (Or.inr (Or.inl q))); omega) (by omega) (by omega) hd (fun q cA H1 k1 p1 d1 s1 => ?_)
      have hcA : cA = dA 4 := by
        obtain ⟨_, _, -, -, -, e1⟩ := (k1.2 7 _ rfl).2
        obtain ⟨_, _, -, -, -, e2⟩ := (hK.2 4 _ rfl).2
        exact Option.some.inj (e1.symm.trans e2)
      subst hcA
      have e : ((q, .inl (dA 4, (n.toNatClampNeg, .inr (.inr (.inr (.inr (fun _ => none))))))) : Nat × va_E) = (q, trO dA 904 (List.replicate n.toNatClampNeg .null)) := by
        show _ = (q, (Sum.inl (dA 4, ((List.replicate n.toNatClampNeg Value.null).length, Sum.inr (Sum.inr (Sum.inr (Sum.inr (fR (List.replicate n.toNatClampNeg Value.null))))))) : va_E))
        rw [List.length_replicate, rep_R]
      rw [e] at p1 d1
      exact HX q (RelM.none hA0 hXb hn hcc d1) (hB q (va_D_last d1)) p l e0 R s m args below meth c r0 H1 locs (cells + 1) (slots + n.toNatClampNeg) ls K s1 (RelM.new hn hcc p1 d1) hL (by omega) (by omega)
  · exact H.elim
end S5
