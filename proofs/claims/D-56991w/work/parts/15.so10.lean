/-! SOUNDNESS 10: the kinds of call, each by the tables' words -/
section S10
variable {oname : Nat → String} {cl : List vw_C} {nwl : List Cond} {ncl : List (String × String)} {fwl : List (String × MethodName × MethodName)} {stl : List (String × String × String)} {spc : State → Prop} {base : Nat} {D : va_G} {dA : Nat → ClassId} {sv : Nat → Value} {ro : va_W} {scr : Nat × List Value}
/-- no method handle, and n parameters -/
def okD (y : MethodName) (n : Nat) : Prop := y.cls ≠ "java/lang/invoke/MethodHandle" ∧ y.cls ≠ "java/lang/invoke/VarHandle" ∧ (parseMethodDescriptor y.desc).map (fun d => d.parameters.length) = some n
theorem rev_cons (b : Nat) (As rest : List Value) : (Value.ref b :: As).reverse ++ rest = As.reverse ++ .ref b :: rest := by simp
theorem callok_S {o j n : Nat} {N : MD} (hh : N.2.2.2.2.2 = []) (hn : (pA o).lookup j = some n) (hd : okD N.2.1 n) (h1 : Cond.methodLink (oname o) j N.2.1 ∈ lw_all) (h2 : Cond.static N.2.1 ∈ lw_all) (h3 : Cond.initialized N.2.1.cls ∈ lw_all) (h4 : Cond.code N.2.1 N.2.2.1 N.2.2.2.1 N.2.2.2.2.1 ∈ lw_all) : CallOK oname cl (FX cl nwl ncl fwl stl spc base D dA sv ro scr) o 0 j 0 N := by
  intro p l e R s m args below meth c H locs cells slots pc len i ls as rest Pc Qc XC mc ms free rm hx hml hown hts hfx hM hMW hbl hPc hrc hrs hfr hlo hA hcat hd0 hmi hrcv hf
  have e1 : wsN N = ws_ N.2.1 N.2.2.1 N.2.2.2.1 N.2.2.2.2.1 := if_pos hh
  have hM := hM hh
  rw [e1] at hM
  rw [hn] at hA
  have hA := Option.some.inj hA
  rcases hmi with ⟨-, rfl, rfl⟩ | ⟨h9, -⟩ | ⟨h9, -⟩ | ⟨h9, -⟩
  · exact RunN.of3 (vx_runS ⟨hx, rfl, rfl, hown, hts⟩ hM (va_cwS n hts (lw_S h1 h2 h3 h4) rfl hrc hrs hd ⟨hfr, hlo⟩) ⟨hbl, hPc⟩ rfl hA.symm hml.symm rfl (lv_room hcat) hd0 hf)
  · cases h9
  · cases h9
  · cases h9
theorem callok_SN {o j n : Nat} {N : MD} (hh : N.2.2.2.2.2 = []) {host : String} (hn : (pA o).lookup j = some n) (hd : okD N.2.1 n) (h1 : Cond.methodLinkNest (oname o) j N.2.1 host ∈ nwl) (h2 : Cond.static N.2.1 ∈ lw_all) (h3 : Cond.initialized N.2.1.cls ∈ lw_all) (h4 : Cond.code N.2.1 N.2.2.1 N.2.2.2.1 N.2.2.2.2.1 ∈ lw_all) : CallOK oname cl (FX cl nwl ncl fwl stl spc base D dA sv ro scr) o 0 j 0 N := by
  intro p l e R s m args below meth c H locs cells slots pc len i ls as rest Pc Qc XC mc ms free rm hx hml hown hts hfx hM hMW hbl hPc hrc hrs hfr hlo hA hcat hd0 hmi hrcv hf
  have e1 : wsN N = ws_ N.2.1 N.2.2.1 N.2.2.2.1 N.2.2.2.2.1 := if_pos hh
  have hM := hM hh
  rw [e1] at hM
  rw [hn] at hA
  have hA := Option.some.inj hA
  rcases hmi with ⟨-, rfl, rfl⟩ | ⟨h9, -⟩ | ⟨h9, -⟩ | ⟨h9, -⟩
  · exact RunN.of3 (vx_runSN ⟨hx, rfl, rfl, hown, hts⟩ hM ⟨va_cnB n hts (lw_meth h4) rfl hrc hrs (hfx.2.1 _ h1) (hts _ h3) hd ⟨hfr, hlo⟩, hts _ h2, trivial⟩ ⟨hbl, hPc⟩ rfl hA.symm hml.symm rfl (lv_room hcat) hd0 hf)
  · cases h9
  · cases h9
  · cases h9
theorem callok_I {o j n : Nat} {N : MD} (hh : N.2.2.2.2.2 = []) (hret : N.2.2.2.2.1 = none) (hi : N.2.1.name = "<init>") (hn : (pA o).lookup j = some (n + 1)) (hd : okD N.2.1 n) (h1 : Cond.methodLink (oname o) j N.2.1 ∈ lw_all) (h2 : Cond.instanceMethod N.2.1 ∈ lw_all) (h3 : Cond.initialized N.2.1.cls ∈ lw_all) (h4 : Cond.code N.2.1 N.2.2.1 N.2.2.2.1 N.2.2.2.2.1 ∈ lw_all) : CallOK oname cl (FX cl nwl ncl fwl stl spc base D dA sv ro scr) o 2 j 0 N := by
  intro p l e R s m args below meth c H locs cells slots pc len i ls as rest Pc Qc XC mc ms free rm hx hml hown hts hfx hM hMW hbl hPc hrc hrs hfr hlo hA hcat hd0 hmi hrcv hf
  have e1 : wsN N = ws_ N.2.1 N.2.2.1 N.2.2.2.1 N.2.2.2.2.1 := if_pos hh
  have hM := hM hh
  rw [e1] at hM
  rw [hn] at hA
  have hA := Option.some.inj hA
  rcases hmi with ⟨h9, -⟩ | ⟨h9, -⟩ | ⟨-, rfl, rfl⟩ | ⟨h9, -⟩
  · cases h9
  · cases h9
  · obtain ⟨b, As, rfl, -⟩ := hrcv (by decide)
    rw [rev_cons]
    rw [hret] at hM h4
    exact RunN.of3 (vx_runI ⟨hx, rfl, rfl, hown, hts⟩ hM (cwI n hts (lw_meth h4) rfl hrc hrs (hts _ h3) (hts _ h1) (hts _ h2) hi hd ⟨hfr, hlo⟩) ⟨hbl, hPc⟩ rfl (by simpa using hA.symm) hml.symm rfl (lv_room hcat) hd0 hf)
  · cases h9
theorem callok_IN {o j n : Nat} {N : MD} (hh : N.2.2.2.2.2 = []) {host : String} (hret : N.2.2.2.2.1 = none) (hi : N.2.1.name = "<init>") (hn : (pA o).lookup j = some (n + 1)) (hd : okD N.2.1 n) (h1 : Cond.methodLinkNest (oname o) j N.2.1 host ∈ nwl) (h2 : Cond.instanceMethod N.2.1 ∈ lw_all) (h3 : Cond.initialized N.2.1.cls ∈ lw_all) (h4 : Cond.code N.2.1 N.2.2.1 N.2.2.2.1 N.2.2.2.2.1 ∈ lw_all) : CallOK oname cl (FX cl nwl ncl fwl stl spc base D dA sv ro scr) o 2 j 0 N := by
  intro p l e R s m args below meth c H locs cells slots pc len i ls as rest Pc Qc XC mc ms free rm hx hml hown hts hfx hM hMW hbl hPc hrc hrs hfr hlo hA hcat hd0 hmi hrcv hf
  have e1 : wsN N = ws_ N.2.1 N.2.2.1 N.2.2.2.1 N.2.2.2.2.1 := if_pos hh
  have hM := hM hh
  rw [e1] at hM
  rw [hn] at hA
  have hA := Option.some.inj hA
  rcases hmi with ⟨h9, -⟩ | ⟨h9, -⟩ | ⟨-, rfl, rfl⟩ | ⟨h9, -⟩
  · cases h9
  · cases h9
  · obtain ⟨b, As, rfl, -⟩ := hrcv (by decide)
    rw [rev_cons]
    rw [hret] at hM h4
    exact RunN.of3 (vx_runIN ⟨hx, rfl, rfl, hown, hts⟩ hM ⟨va_cnB n hts (lw_meth h4) rfl hrc hrs (hfx.2.1 _ h1) (hts _ h3) hd ⟨hfr, hlo⟩, hi, hts _ h2⟩ ⟨hbl, hPc⟩ rfl (by simpa using hA.symm) hml.symm rfl (lv_room hcat) hd0 hf)
  · cases h9
theorem callok_V {o j k n : Nat} {N : MD} (hh : N.2.2.2.2.2 = []) {C : String} (hk : kname cl k = C) (hC : N.2.1.cls = C) (hn : (pA o).lookup j = some (n + 1)) (hd : okD N.2.1 n) (h1 : Cond.methodLink (oname o) j N.2.1 ∈ lw_all) (h2 : Cond.instanceMethod N.2.1 ∈ lw_all) (h5 : Cond.selects C N.2.1 N.2.1 ∈ lw_all) (h3 : Cond.initialized C ∈ lw_all) (h4 : Cond.code N.2.1 N.2.2.1 N.2.2.2.1 N.2.2.2.2.1 ∈ lw_all) : CallOK oname cl (FX cl nwl ncl fwl stl spc base D dA sv ro scr) o 1 j k N := by
  intro p l e R s m args below meth c H locs cells slots pc len i ls as rest Pc Qc XC mc ms free rm hx hml hown hts hfx hM hMW hbl hPc hrc hrs hfr hlo hA hcat hd0 hmi hrcv hf
  have e1 : wsN N = ws_ N.2.1 N.2.2.1 N.2.2.2.1 N.2.2.2.2.1 := if_pos hh
  have hM := hM hh
  rw [e1] at hM
  rw [hn] at hA
  have hA := Option.some.inj hA
  rcases hmi with ⟨h9, -⟩ | ⟨-, rfl, rfl⟩ | ⟨h9, -⟩ | ⟨h9, -⟩
  · cases h9
  · obtain ⟨b, As, rfl, hcl⟩ := hrcv (by decide)
    have hcl := hcl (by decide)
    rw [hk] at hcl
    rw [rev_cons]
    exact RunN.of3 (vx_runV ⟨hx, rfl, rfl, hown, hts⟩ hM (cwV n hts (lw_V h1 h2 h5 h3 h4) rfl hrc hrs ⟨hC, hd⟩ ⟨hfr, hlo⟩) ⟨hbl, hcl, hPc⟩ rfl (by simpa using hA.symm) hml.symm rfl (lv_room hcat) hd0 hf)
  · cases h9
  · cases h9
theorem callok_VN {o j k n : Nat} {N : MD} (hh : N.2.2.2.2.2 = []) {C host : String} (hk : kname cl k = C) (hn : (pA o).lookup j = some (n + 1)) (hd : okD N.2.1 n) (h1 : Cond.methodLinkNest (oname o) j N.2.1 host ∈ nwl) (h2 : Cond.instanceMethod N.2.1 ∈ lw_all) (h5 : Cond.selects C N.2.1 N.2.1 ∈ lw_all) (h3 : Cond.initialized N.2.1.cls ∈ lw_all) (h4 : Cond.code N.2.1 N.2.2.1 N.2.2.2.1 N.2.2.2.2.1 ∈ lw_all) : CallOK oname cl (FX cl nwl ncl fwl stl spc base D dA sv ro scr) o 1 j k N := by
  intro p l e R s m args below meth c H locs cells slots pc len i ls as rest Pc Qc XC mc ms free rm hx hml hown hts hfx hM hMW hbl hPc hrc hrs hfr hlo hA hcat hd0 hmi hrcv hf
  have e1 : wsN N = ws_ N.2.1 N.2.2.1 N.2.2.2.1 N.2.2.2.2.1 := if_pos hh
  have hM := hM hh
  rw [e1] at hM
  rw [hn] at hA
  have hA := Option.some.inj hA
  rcases hmi with ⟨h9, -⟩ | ⟨-, rfl, rfl⟩ | ⟨h9, -⟩ | ⟨h9, -⟩
  · cases h9
  · obtain ⟨b, As, rfl, hcl⟩ := hrcv (by decide)
    have hcl := hcl (by decide)
    rw [hk] at hcl
    rw [rev_cons]
    exact RunN.of3 (vx_runVN ⟨hx, rfl, rfl, hown, hts⟩ hM ⟨va_cnB n hts (lw_meth h4) rfl hrc hrs (hfx.2.1 _ h1) (hts _ h3) hd ⟨hfr, hlo⟩, hts _ h2, hts _ h5⟩ ⟨hbl, hcl, hPc⟩ rfl (by simpa using hA.symm) hml.symm rfl (lv_room hcat) hd0 hf)
  · cases h9
  · cases h9
theorem callok_U {o j k n : Nat} {N : MD} (hh : N.2.2.2.2.2 = []) {C owner : String} {x : MethodName} (hk : kname cl k = C) (hyx : N.2.1 = ⟨owner, x.name, x.desc⟩) (hn : (pA o).lookup j = some (n + 1)) (how : owner ≠ "java/lang/invoke/MethodHandle" ∧ owner ≠ "java/lang/invoke/VarHandle" ∧ (parseMethodDescriptor x.desc).map (fun d => d.parameters.length) = some n) (h1 : Cond.methodLink (oname o) j x ∈ lw_all) (h6 : Cond.sameMethod x.cls owner x.name x.desc ∈ lw_all) (h5 : Cond.selects C x N.2.1 ∈ lw_all) (h2 : Cond.instanceMethod N.2.1 ∈ lw_all) (h3 : Cond.initialized N.2.1.cls ∈ lw_all) (h4 : Cond.code N.2.1 N.2.2.1 N.2.2.2.1 N.2.2.2.2.1 ∈ lw_all) : CallOK oname cl (FX cl nwl ncl fwl stl spc base D dA sv ro scr) o 1 j k N := by
  intro p l e R s m args below meth c H locs cells slots pc len i ls as rest Pc Qc XC mc ms free rm hx hml hown hts hfx hM hMW hbl hPc hrc hrs hfr hlo hA hcat hd0 hmi hrcv hf
  have e1 : wsN N = ws_ N.2.1 N.2.2.1 N.2.2.2.1 N.2.2.2.2.1 := if_pos hh
  have hM := hM hh
  rw [e1] at hM
  rw [hn] at hA
  have hA := Option.some.inj hA
  rcases hmi with ⟨h9, -⟩ | ⟨-, rfl, rfl⟩ | ⟨h9, -⟩ | ⟨h9, -⟩
  · cases h9
  · obtain ⟨b, As, rfl, hcl⟩ := hrcv (by decide)
    have hcl := hcl (by decide)
    rw [hk] at hcl
    rw [rev_cons]
    exact RunN.of3 (vx_runU ⟨hx, rfl, rfl, hown, hts⟩ hM (va_cwU n hts (lw_app (fun w hw => by simp only [List.mem_cons, List.not_mem_nil, or_false] at hw; rcases hw with rfl | rfl | rfl | rfl | rfl <;> assumption) (lw_meth h4)) rfl hrc hrs hyx how ⟨hfr, hlo⟩) ⟨hbl, hcl, hPc⟩ rfl (by simpa using hA.symm) hml.symm rfl (lv_room hcat) hd0 hf)
  · cases h9
  · cases h9
theorem callok_A {o j k n : Nat} {N : MD} (hh : N.2.2.2.2.2 = []) {C owner : String} {x : MethodName} (hk : kname cl k = C) (hn : (pA o).lookup j = some (n + 1)) (how : owner ≠ "java/lang/invoke/MethodHandle" ∧ owner ≠ "java/lang/invoke/VarHandle" ∧ (parseMethodDescriptor x.desc).map (fun d => d.parameters.length) = some n) (h1 : Cond.methodLink (oname o) j x ∈ lw_all) (h6 : Cond.sameMethod x.cls owner x.name x.desc ∈ lw_all) (hz : Cond.declares ⟨owner, x.name, x.desc⟩ ∈ nwl) (h5 : Cond.selects C x N.2.1 ∈ lw_all) (h2 : Cond.instanceMethod N.2.1 ∈ lw_all) (h3 : Cond.initialized N.2.1.cls ∈ lw_all) (h4 : Cond.code N.2.1 N.2.2.1 N.2.2.2.1 N.2.2.2.2.1 ∈ lw_all) : CallOK oname cl (FX cl nwl ncl fwl stl spc base D dA sv ro scr) o 1 j k N := by
  intro p l e R s m args below meth c H locs cells slots pc len i ls as rest Pc Qc XC mc ms free rm hx hml hown hts hfx hM hMW hbl hPc hrc hrs hfr hlo hA hcat hd0 hmi hrcv hf
  have e1 : wsN N = ws_ N.2.1 N.2.2.1 N.2.2.2.1 N.2.2.2.2.1 := if_pos hh
  have hM := hM hh
  rw [e1] at hM
  rw [hn] at hA
  have hA := Option.some.inj hA
  rcases hmi with ⟨h9, -⟩ | ⟨-, rfl, rfl⟩ | ⟨h9, -⟩ | ⟨h9, -⟩
  · cases h9
  · obtain ⟨b, As, rfl, hcl⟩ := hrcv (by decide)
    have hcl := hcl (by decide)
    rw [hk] at hcl
    rw [rev_cons]
    exact RunN.of3 (vx_runU ⟨hx, rfl, rfl, hown, hts⟩ hM (va_cwA n hts (lw_app (fun w hw => by simp only [List.mem_cons, List.not_mem_nil, or_false] at hw; rcases hw with rfl | rfl | rfl | rfl | rfl <;> assumption) (lw_meth h4)) rfl hrc hrs (hfx.2.1 _ hz) how ⟨hfr, hlo⟩) ⟨hbl, hcl, hPc⟩ rfl (by simpa using hA.symm) hml.symm rfl (lv_room hcat) hd0 hf)
  · cases h9
  · cases h9
theorem callok_O {o j k n : Nat} {N : MD} (hh : N.2.2.2.2.2 = []) {C owner : String} {x : MethodName} {b0 : ByteArray} {m0 : Nat} {r0 : Option FieldType} (hk : kname cl k = C) (hn : (pA o).lookup j = some (n + 1)) (how : owner ≠ "java/lang/invoke/MethodHandle" ∧ owner ≠ "java/lang/invoke/VarHandle" ∧ (parseMethodDescriptor x.desc).map (fun d => d.parameters.length) = some n) (h1 : Cond.methodLink (oname o) j x ∈ lw_all) (h6 : Cond.sameMethod x.cls owner x.name x.desc ∈ lw_all) (hz : Cond.code ⟨owner, x.name, x.desc⟩ b0 m0 r0 ∈ lw_all) (hz2 : Cond.instanceMethod ⟨owner, x.name, x.desc⟩ ∈ lw_all) (h5 : Cond.selects C x N.2.1 ∈ lw_all) (h2 : Cond.instanceMethod N.2.1 ∈ lw_all) (h3 : Cond.initialized N.2.1.cls ∈ lw_all) (h4 : Cond.code N.2.1 N.2.2.1 N.2.2.2.1 N.2.2.2.2.1 ∈ lw_all) : CallOK oname cl (FX cl nwl ncl fwl stl spc base D dA sv ro scr) o 1 j k N := by
  intro p l e R s m args below meth c H locs cells slots pc len i ls as rest Pc Qc XC mc ms free rm hx hml hown hts hfx hM hMW hbl hPc hrc hrs hfr hlo hA hcat hd0 hmi hrcv hf
  have e1 : wsN N = ws_ N.2.1 N.2.2.1 N.2.2.2.1 N.2.2.2.2.1 := if_pos hh
  have hM := hM hh
  rw [e1] at hM
  rw [hn] at hA
  have hA := Option.some.inj hA
  rcases hmi with ⟨h9, -⟩ | ⟨-, rfl, rfl⟩ | ⟨h9, -⟩ | ⟨h9, -⟩
  · cases h9
  · obtain ⟨b, As, rfl, hcl⟩ := hrcv (by decide)
    have hcl := hcl (by decide)
    rw [hk] at hcl
    rw [rev_cons]
    exact RunN.of3 (vx_runU ⟨hx, rfl, rfl, hown, hts⟩ hM (va_cwO n hts (lw_app (fun w hw => by simp only [List.mem_cons, List.not_mem_nil, or_false] at hw; rcases hw with rfl | rfl | rfl | rfl | rfl | rfl <;> assumption) (lw_meth h4)) rfl hrc hrs hz how ⟨hfr, hlo⟩) ⟨hbl, hcl, hPc⟩ rfl (by simpa using hA.symm) hml.symm rfl (lv_room hcat) hd0 hf)
  · cases h9
  · cases h9
theorem callok_F {o j k n : Nat} {N : MD} (hh : N.2.2.2.2.2 = []) {C : String} {T : u_T} {N0 : Nat} {x : MethodName} (hk : cl[k]? = some (C, T, N0)) (hk9 : k < 900) (hn : (pA o).lookup j = some (n + 1)) (hd : okD x n) (hF : (C, x, N.2.1) ∈ fwl) (h1 : Cond.methodLink (oname o) j x ∈ lw_all) (h5 : Cond.selects C x N.2.1 ∈ lw_all) (h2 : Cond.instanceMethod N.2.1 ∈ lw_all) (h3 : Cond.initialized N.2.1.cls ∈ lw_all) (h4 : Cond.code N.2.1 N.2.2.1 N.2.2.2.1 N.2.2.2.2.1 ∈ lw_all) : CallOK oname cl (FX cl nwl ncl fwl stl spc base D dA sv ro scr) o 3 j k N := by
  intro p l e R s m args below meth c H locs cells slots pc len i ls as rest Pc Qc XC mc ms free rm hx hml hown hts hfx hM hMW hbl hPc hrc hrs hfr hlo hA hcat hd0 hmi hrcv hf
  have e1 : wsN N = ws_ N.2.1 N.2.2.1 N.2.2.2.1 N.2.2.2.2.1 := if_pos hh
  have hM := hM hh
  rw [e1] at hM
  rw [hn] at hA
  have hA := Option.some.inj hA
  rcases hmi with ⟨h9, -⟩ | ⟨h9, -⟩ | ⟨h9, -⟩ | ⟨-, ⟨cnt, rfl⟩, rfl⟩
  · cases h9
  · cases h9
  · cases h9
  · obtain ⟨b, As, rfl, hcl⟩ := hrcv (by decide)
    have hcl := hcl (by decide)
    have hk2 : kname cl k = C := by unfold kname; rw [if_pos hk9, hk]
    rw [hk2] at hcl
    rw [rev_cons]
    exact RunN.of5 (vx_runF (hfx.1.1 k _ hk).2 ⟨hx, rfl, rfl, hown, hts⟩ hM (va_cwF n hts (lw_app (fun w hw => by simp only [List.mem_cons, List.not_mem_nil, or_false] at hw; rcases hw with rfl | rfl | rfl | rfl <;> assumption) (lw_meth h4)) rfl hrc hrs (hfx.2.2.1 _ hF) hd ⟨hfr, hlo⟩) ⟨hbl, hcl, hPc⟩ rfl (by simpa using hA.symm) hml.symm rfl (lv_room hcat) hd0 hf)
theorem callok_SW {o j n : Nat} {N : MD} (hh : N.2.2.2.2.2 ≠ []) (hn : (pA o).lookup j = some n) (hd : okD N.2.1 n) (h1 : Cond.methodLink (oname o) j N.2.1 ∈ lw_all) (h2 : Cond.static N.2.1 ∈ lw_all) (h3 : Cond.initialized N.2.1.cls ∈ lw_all) (h4 : Cond.codeWith N.2.1 N.2.2.1 N.2.2.2.1 N.2.2.2.2.1 N.2.2.2.2.2 ∈ lw_all) : CallOK oname cl (FX cl nwl ncl fwl stl spc base D dA sv ro scr) o 0 j 0 N := by
  intro p l e R s m args below meth c H locs cells slots pc len i ls as rest Pc Qc XC mc ms free rm hx hml hown hts hfx hM hMW hbl hPc hrc hrs hfr hlo hA hcat hd0 hmi hrcv hf
  have e1 : wsN N = wsW_ N.2.1 N.2.2.1 N.2.2.2.1 N.2.2.2.2.1 N.2.2.2.2.2 := if_neg hh
  have hM := hMW hh
  rw [e1] at hM
  rw [hn] at hA
  have hA := Option.some.inj hA
  rcases hmi with ⟨-, rfl, rfl⟩ | ⟨h9, -⟩ | ⟨h9, -⟩ | ⟨h9, -⟩
  · exact RunN.ofM (vx_runSW ⟨hx, rfl, rfl, hown, hts⟩ hM (vx_cwSW n hts (lw_SW h1 h2 h3 h4) rfl hrc hrs hd ⟨hfr, hlo⟩) ⟨hbl, hPc⟩ rfl hA.symm hml.symm rfl (lv_room hcat) hd0 hf)
  · cases h9
  · cases h9
  · cases h9
end S10
