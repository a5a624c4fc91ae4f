/-! SOUNDNESS 8: the call step, handlers -/
/-- the handlers' classes -/
def HandOK (oname exn : Nat → String) (nwl : List Cond) (ncl : List (String × String)) (M : MD) : Prop := ∀ z ∈ M.2.2.2.2.2, z.2.2.2 ≠ 0 ∧ ∃ nm : String, Cond.classLink (oname M.1) z.2.2.2 nm ∈ lw_all ∧ ∀ e, excK e = true → (cth M.1 z.2.2.2 e = true → Cond.castable (exn e) nm ∈ nwl) ∧ (cth M.1 z.2.2.2 e = false → (exn e, nm) ∈ ncl)
section S8
variable {oname exn : Nat → String} {cl : List vw_C} {nwl : List Cond} {ncl : List (String × String)} {fwl : List (String × MethodName × MethodName)} {stl : List (String × String × String)} {spc : State → Prop} {base : Nat} {D : va_G} {dA : Nat → ClassId} {sv : Nat → Value} {ro : va_W} {scr : Nat × List Value} {E : Evn} {M : MD} {pc : Nat} {L S : List Value} {h : Hp} {r d : Nat} {Q : Post} {len tg : Nat}
theorem find_split {α : Type} {p : α → Bool} {l : List α} {x : α} (h : l.find? p = some x) : ∃ pre suf, l = pre ++ x :: suf ∧ p x = true ∧ ∀ z ∈ pre, p z = false := by
  induction l with
  | nil => cases h
  | cons a l ih =>
    rw [List.find?_cons] at h
    split at h
    · rename_i ha
      cases h
      exact ⟨[], l, rfl, ha, fun z hz => by cases hz⟩
    · rename_i ha
      obtain ⟨pre, suf, h1, h2, h3⟩ := ih h
      refine ⟨a :: pre, suf, by rw [h1]; rfl, h2, fun z hz => ?_⟩
      rcases List.mem_cons.mp hz with rfl | hz
      · simpa using ha
      · exact h3 z hz
theorem so_thr {p : Program} {l : Launch} {e0 : Env} {R : Room} {s : State} {m : MethodId} {args : Array Value} {below : List Frame} {meth : Method} {c : Code} {r0 : Nat} {G : Heap} {locs : List Loc} {cells slots : Nat} {ls : Array Slot} {rest : List Value} {e : Nat} {ce : Cell} {q : Addr} (hHN : hOK M = true → HandOK oname exn nwl ncl M) (hnt : ∀ w ∈ nwl, w.onTables = true)
    (K : Cx oname (FX cl nwl ncl fwl stl spc base D dA sv ro scr) base p l R s m args meth c M d r0) (hS : va_S (Af base) s.heap G locs) (hR : RelM cl base D dA ro scr h G) (hL : RL ls M.2.2.2.1 L) (hc : cells + r ≤ r0) (hs : slots + 4 * r ≤ 4 * r0) (hcell : G[q]? = some ce) (hv : ce.vm = .none) (hcl : s.vm.findClass (exn e) = some ce.cls)
    (H : Thr (XW oname exn cl (FX cl nwl ncl fwl stl spc base D dA sv ro scr) base D dA ro scr) M pc L d Q e h r) :
    vx_W p l e0 R s m args below meth c G locs cells slots (vx_MQ below (QcE cl base D dA ro scr r0 Q) (XcE exn cl base D dA ro scr r0 Q) args s r0 (4 * r0) (Af base)) (F0 m pc ls rest) q := by
  have K' := K
  obtain ⟨hx, hb, hml, hret, hlk, hown, hini, hts, hfx, hba, het, hfr, hlo, hRc, hRs, hl0⟩ := K'
  obtain ⟨hK, hnw, hfw, hst, hU, hN, hP0, hA0, hmir, hAO, hDc, hnc, hX, hXb, hsp⟩ := hfx
  unfold Thr at H
  split at H
  · rename_i hp hh
    obtain ⟨hek, hok, HX⟩ := H
    have hHN := hHN hok
    unfold hnd at hh
    rw [Option.map_eq_some_iff] at hh
    obtain ⟨x, hx1, rfl⟩ := hh
    obtain ⟨pre, suf, e1, e2, e3⟩ := find_split hx1
    simp only [Bool.and_eq_true, decide_eq_true_eq] at e2
    have hmem : x ∈ M.2.2.2.2.2 := by rw [e1]; simp
    obtain ⟨h0, nm, hw, hcls⟩ := hHN x hmem
    have hcv : ∀ z : Nat × Nat × Nat × Nat, covers ⟨z.1, z.2.1, z.2.2.1, z.2.2.2⟩ pc = decide (z.1 ≤ pc ∧ pc < z.2.1) := fun z => by simp [covers]
    refine vx_catch hown (pre.map fun z => ⟨z.1, z.2.1, z.2.2.1, z.2.2.2⟩) ⟨x.1, x.2.1, x.2.2.1, x.2.2.2⟩ (suf.map fun z => ⟨z.1, z.2.1, z.2.2.1, z.2.2.2⟩) (by rw [het, e1]; simp [tableOf]) ?_ (by rw [hcv]; exact decide_eq_true e2.1) h0 (hts _ hw) (va_Nw.use (hnt _ ((hcls e hek).1 e2.2)) (hnw _ ((hcls e hek).1 e2.2))) hcell hv hcl
      (HX q p l e0 R s m args below meth c r0 G locs cells slots ls K hS hR hL hc hs)
    intro z hz
    obtain ⟨y, hy, rfl⟩ := List.mem_map.mp hz
    have hy2 := e3 y hy
    rw [Bool.and_eq_false_iff] at hy2
    rcases hy2 with hy2 | hy2
    · left; rw [hcv]; exact hy2
    · right
      have hym : y ∈ M.2.2.2.2.2 := by rw [e1]; simp [hy]
      obtain ⟨h0', nm', hw', hcls'⟩ := hHN y hym
      exact ⟨h0', nm', hts _ hw', hnc _ ((hcls' e hek).2 hy2)⟩
  · obtain ⟨hnil, HQ⟩ := H
    refine fun T hT X => ?_
    have hG : Gr s.heap G cells slots := by rw [← hT]; exact stand_Gr X
    refine vx_out (by rw [het, hnil]; intro z hz; cases hz) hlk hcell hv hcl (fun t ht hal => ?_) hS.2.2 (by omega) (by omega) T hT X
    exact ⟨e, h, r, rfl, HQ, by rw [ht]; exact hR, hS.F ht, by omega, by rw [ht]; exact hG.mono (by omega) (by omega)⟩
set_option maxRecDepth 100000 in
theorem so_call {mode j n : Nat} {i : Instr} (hm : FXmov nwl fwl spc) (hHN : hOK M = true → HandOK oname exn nwl ncl M) (hCO : ∀ o mode j k N, E.1 o mode j k = some (.inl N) → CallOK oname cl (FX cl nwl ncl fwl stl spc base D dA sv ro scr) o mode j k N ∧ MDOK oname N ∧ (N.2.2.2.2.2 ≠ [] → plainName N.2.1.cls = true) ∧ (mode ≠ 0 → mode ≠ 2 → k < 37))
    (hPO : ∀ (o mode j k P : Nat), E.1 o mode j k = some (.inr P) → ∀ (M : MD) (pc : Nat) (L S : List Value) (h : Hp) (r d : Nat) (Q : Post) (as : List Value) (i : Instr) (len : Nat), M.1 = o → decode M.2.2.1 pc = .ok (i, len) → modeI mode j i len → (pA o).lookup j = some as.length → catS S ≤ 8 → k = rcv mode as h → E.2.1 P as h r (Aft (XW oname exn cl (FX cl nwl ncl fwl stl spc base D dA sv ro scr) base D dA ro scr) M pc (pc + len) L S d Q) → XW oname exn cl (FX cl nwl ncl fwl stl spc base D dA sv ro scr) base D dA ro scr M pc L (as.reverse ++ S) h r d Q)
    (hE9 : ∀ o mode j N, E.1 o mode j 9999 = some (.inl N) → False) (hd : decode M.2.2.1 pc = .ok (i, len)) (hmi : modeI mode j i len) (hmd : mode < 4) (hA : (pA M.1).lookup j = some n) (hn : n ≤ S.length) (H : Do1 E (XW oname exn cl (FX cl nwl ncl fwl stl spc base D dA sv ro scr) base D dA ro scr) M pc h r d Q (sCl mode j (pc + len) (S.take n).reverse L (S.drop n))) : XW oname exn cl (FX cl nwl ncl fwl stl spc base D dA sv ro scr) base D dA ro scr M pc L S h r d Q := by
  obtain ⟨as, has⟩ : ∃ as, as = (S.take n).reverse := ⟨_, rfl⟩
  obtain ⟨S2, hS2⟩ : ∃ S2, S2 = S.drop n := ⟨_, rfl⟩
  have hlen : as.length = n := by rw [has, List.length_reverse, List.length_take]; omega
  have hSe : S = as.reverse ++ S2 := by rw [has, hS2, List.reverse_reverse, List.take_append_drop]
  rw [← has, ← hS2] at H
  rw [← hlen] at hA
  obtain ⟨hcat, H⟩ := H
  split at H
  · rename_i t ht
    cases t with
    | inr P =>
      obtain ⟨-, H⟩ := H
      rw [hSe]
      exact hPO _ _ _ _ _ ht M pc L S2 h r d Q as i len rfl hd hmi hA hcat rfl H
    | inl N =>
      obtain ⟨hCall, hMD, hpl, hk37⟩ := hCO _ _ _ _ _ ht
      cases d with
      | zero => exact H.elim
      | succ d =>
        obtain ⟨hel, R2, HX, hh, hK⟩ := H
        subst hSe
        intro p l e0 R s m args below meth c r0 G locs cells slots ls K hS hR hL hc hs
        have K' := K
        obtain ⟨hx, hb, hml, hret, hlk, hown, hini, hts, hfx, hba, het, hfr, hlo, hRc, hRs, hl0⟩ := K'
        have hfx' := hfx
        obtain ⟨hKK, hnw, hfw, hst, hU, hN, hP0, hA0, hmir, hAO, hDc, hnc, hX, hXb, hsp⟩ := hfx
        refine W_Gr fun hG => ?_
        have hrcv : mode ≠ 0 → ∃ (b : Nat) (As : List Value), as = .ref b :: As ∧ (mode ≠ 2 → ∃ cell : Cell, G[b]? = some cell ∧ cell.vm.isStatics = false ∧ s.vm.findClass (kname cl (rcv mode as h)) = some cell.cls) := by
          intro h0
          have hcase : (∃ b As, as = Value.ref b :: As) ∨ rcv mode as h = 9999 := by
            cases as with
            | nil => exact Or.inr (by unfold rcv; rw [if_neg h0])
            | cons v As =>
              cases v with
              | ref b => exact Or.inl ⟨b, As, rfl⟩
              | _ => exact Or.inr (by unfold rcv; rw [if_neg h0])
          rcases hcase with ⟨b, As, rfl⟩ | h9
          · refine ⟨b, As, rfl, fun h2 => ?_⟩
            have hk := hk37 h0 h2
            have hrk : rcv mode (Value.ref b :: As) h = (match h b with | some o => kd o | none => 9999) := by
              unfold rcv
              rw [if_neg h0]
              exact if_neg h2
            rw [hrk] at hk ⊢
            cases hb2 : h b with
            | none => rw [hb2] at hk; exact absurd hk (by show ¬ 9999 < 37; omega)
            | some o =>
              rw [hb2] at hk
              rcases o with ⟨k, fs⟩ | x
              · exact rel_recv (k := k) hKK hP0 hA0 hS hR (fs := fs) (by unfold rdO; rw [hb2]) (Or.inl (by have : k < 37 := hk; omega))
              · exact absurd hb2 (hR.1 b x)
          · exfalso
            by_cases h2 : mode = 2
            · subst h2
              rw [h9] at ht
              exact hE9 _ _ _ _ ht
            · have := hk37 h0 h2
              rw [h9] at this
              omega
        have hrun := hCall p l e0 R s m args below meth c G locs cells slots pc len i ls as S2 (PcE cl base D dA ro scr (FX cl nwl ncl fwl stl spc base D dA sv ro scr) as h) (QcE cl base D dA ro scr r R2) (XcE exn cl base D dA ro scr r R2) r (4 * r) (Af base) (rmE d r)
          hx (by rw [hml]; exact hL.2.1.symm) hown hts hfx' (fun hnil => met_X hl0 hMD hnil hel HX) (fun hnn => met_W hl0 hMD (hpl hnn) hnn hel (hh.resolve_left hnn) HX) (PcE_blind hm)
          (fun U hU hW => ⟨rfl, by rw [hU]; exact hR, by rw [hU]; exact FX_moved hm hfx' hS hW, by rw [hU]; exact Nat.le_trans hba hS.1⟩) rfl rfl (by show d + 16 + 1 ≤ R.frames; omega) (by show 8 + (N.2.2.2.1 + 11) + (64 * d + 400) ≤ R.locals; have := hMD.2.2; omega) hA hcat (by rw [hb]; exact hd) hmi hrcv ⟨by omega, by omega⟩
        intro T hT X
        rcases hrun T hT X with ⟨v, st₀, t, T', L2, h0, X', hL2, e1, e2, hq, st⟩ | ⟨q, st₀, t, T', L2, E2, ce, h0, X', hL2, e1, e2, hxc, hce, hcv, hcl, st⟩
        · obtain ⟨v', h', r', hv, hRv, hRel, hF, hr', hGr⟩ := hq
          cases hv
          obtain ⟨k1, k2, k3⟩ := vx_keep h0 e1 hS (fun _ _ z => z) (fun _ z => z) hL2 hF
          have hX2 := hK _ _ _ hRv
          rw [h0] at hGr
          have hG2 : Gr s.heap T'.heap (cells + (r - r')) (slots + 4 * (r - r')) := by rw [e1]; exact hG.trans hGr
          have X2 := stand_tight X' hG2
          have hX3 : XW oname exn cl (FX cl nwl ncl fwl stl spc base D dA sv ro scr) base D dA ro scr M (pc + len) L (v.toList ++ S2) h' r' (d + 1) Q := by
            cases v with
            | none => exact hX2
            | some v => exact hX2
          obtain ⟨t2, a1, b1⟩ := hX3 p l e0 R s m args below meth c r0 T'.heap (locs ++ L2) (cells + (r - r')) (slots + 4 * (r - r')) ls K k3 (by rw [e1]; exact hRel) hL (by omega) (by omega) T' rfl X2
          exact ⟨t2, st t2 a1, b1⟩
        · obtain ⟨e, h', r', hE, hRv, hRel, hF, hr', hGr⟩ := hxc
          obtain ⟨k1, k2, k3⟩ := vx_keep h0 e1 hS (fun _ _ z => z) (fun _ z => z) hL2 hF
          have hX2 := hK _ _ _ hRv
          rw [h0] at hGr
          have hG2 : Gr s.heap T'.heap (cells + (r - r')) (slots + 4 * (r - r')) := by rw [e1]; exact hG.trans hGr
          have X2 := stand_tight X' hG2
          obtain ⟨t2, a1, b1⟩ := so_thr (e0 := e0) (below := below) (rest := S2) (ls := ls) hHN hm.1 K k3 (by rw [e1]; exact hRel) hL (show cells + (r - r') + r' ≤ r0 by omega) (show slots + 4 * (r - r') + 4 * r' ≤ 4 * r0 by omega) (by rw [e1]; exact hce) hcv (by rw [hE]; exact hcl) hX2 T' rfl X2
          exact ⟨t2, st.trans a1, b1⟩
  · exact H.elim
end S8
