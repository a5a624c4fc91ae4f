/-! SOUNDNESS 3: instructions that neither call nor touch the heap (by wip/src/gso3.py) -/
theorem so_iconst {oname exn : Nat → String} {cl : List vw_C} {fx : State → Heap → Prop} {base : Nat} {D : va_G} {dA : Nat → ClassId} {ro : va_W} {scr : Nat × List Value} {E : Evn} {M : MD} {pc : Nat} {L S : List Value} {h : Hp} {r d : Nat} {Q : Post} {len tg : Nat} {n : Int} (hd : decode M.2.2.1 pc = .ok (.iconst n, len)) (hl : len = 1) (ht : tgt_ pc (ioff (.iconst n)) = tg) (H : Do1 E (XW oname exn cl fx base D dA ro scr) M pc h r d Q (stI E.2.2 (rdO h) M pc (pc + len) tg L S (.iconst n))) : (XW oname exn cl fx base D dA ro scr) M pc L S h r d Q := by
  subst hl
  intro p l e R s m args below meth c r0 G locs cells slots ls K hS hR hL hc hs
  have K' := K
  obtain ⟨hx, hb, hml, -⟩ := K'
  have go : ∀ (p2 : Nat) (L2 S2 : List Value) (ls2 : Array Slot), RL ls2 M.2.2.2.1 L2 → (XW oname exn cl fx base D dA ro scr) M p2 L2 S2 h r d Q → W p l e R s m args below meth c G locs cells slots (vx_MQ below (QcE cl base D dA ro scr r0 Q) (XcE exn cl base D dA ro scr r0 Q) args s r0 (4 * r0) (Af base)) (F0 m p2 ls2 S2) := fun p2 L2 S2 ls2 hL2 hX => hX p l e R s m args below meth c r0 G locs cells slots ls2 K hS hR hL2 hc hs
  simp only [stI] at H
  exact lv_iconst hx hb hd rfl (go _ _ _ _ hL H)
theorem so_bipush {oname exn : Nat → String} {cl : List vw_C} {fx : State → Heap → Prop} {base : Nat} {D : va_G} {dA : Nat → ClassId} {ro : va_W} {scr : Nat × List Value} {E : Evn} {M : MD} {pc : Nat} {L S : List Value} {h : Hp} {r d : Nat} {Q : Post} {len tg : Nat} {n : Int} (hd : decode M.2.2.1 pc = .ok (.bipush n, len)) (hl : len = 2) (ht : tgt_ pc (ioff (.bipush n)) = tg) (H : Do1 E (XW oname exn cl fx base D dA ro scr) M pc h r d Q (stI E.2.2 (rdO h) M pc (pc + len) tg L S (.bipush n))) : (XW oname exn cl fx base D dA ro scr) M pc L S h r d Q := by
  subst hl
  intro p l e R s m args below meth c r0 G locs cells slots ls K hS hR hL hc hs
  have K' := K
  obtain ⟨hx, hb, hml, -⟩ := K'
  have go : ∀ (p2 : Nat) (L2 S2 : List Value) (ls2 : Array Slot), RL ls2 M.2.2.2.1 L2 → (XW oname exn cl fx base D dA ro scr) M p2 L2 S2 h r d Q → W p l e R s m args below meth c G locs cells slots (vx_MQ below (QcE cl base D dA ro scr r0 Q) (XcE exn cl base D dA ro scr r0 Q) args s r0 (4 * r0) (Af base)) (F0 m p2 ls2 S2) := fun p2 L2 S2 ls2 hL2 hX => hX p l e R s m args below meth c r0 G locs cells slots ls2 K hS hR hL2 hc hs
  simp only [stI] at H
  exact lv_bipush hx hb hd rfl (go _ _ _ _ hL H)
theorem so_sipush {oname exn : Nat → String} {cl : List vw_C} {fx : State → Heap → Prop} {base : Nat} {D : va_G} {dA : Nat → ClassId} {ro : va_W} {scr : Nat × List Value} {E : Evn} {M : MD} {pc : Nat} {L S : List Value} {h : Hp} {r d : Nat} {Q : Post} {len tg : Nat} {n : Int} (hd : decode M.2.2.1 pc = .ok (.sipush n, len)) (hl : len = 3) (ht : tgt_ pc (ioff (.sipush n)) = tg) (H : Do1 E (XW oname exn cl fx base D dA ro scr) M pc h r d Q (stI E.2.2 (rdO h) M pc (pc + len) tg L S (.sipush n))) : (XW oname exn cl fx base D dA ro scr) M pc L S h r d Q := by
  subst hl
  intro p l e R s m args below meth c r0 G locs cells slots ls K hS hR hL hc hs
  have K' := K
  obtain ⟨hx, hb, hml, -⟩ := K'
  have go : ∀ (p2 : Nat) (L2 S2 : List Value) (ls2 : Array Slot), RL ls2 M.2.2.2.1 L2 → (XW oname exn cl fx base D dA ro scr) M p2 L2 S2 h r d Q → W p l e R s m args below meth c G locs cells slots (vx_MQ below (QcE cl base D dA ro scr r0 Q) (XcE exn cl base D dA ro scr r0 Q) args s r0 (4 * r0) (Af base)) (F0 m p2 ls2 S2) := fun p2 L2 S2 ls2 hL2 hX => hX p l e R s m args below meth c r0 G locs cells slots ls2 K hS hR hL2 hc hs
  simp only [stI] at H
  exact lv_sipush hx hb hd rfl (go _ _ _ _ hL H)
theorem so_lconst {oname exn : Nat → String} {cl : List vw_C} {fx : State → Heap → Prop} {base : Nat} {D : va_G} {dA : Nat → ClassId} {ro : va_W} {scr : Nat × List Value} {E : Evn} {M : MD} {pc : Nat} {L S : List Value} {h : Hp} {r d : Nat} {Q : Post} {len tg : Nat} {n : Fin 2} (hd : decode M.2.2.1 pc = .ok (.lconst n, len)) (hl : len = 1) (ht : tgt_ pc (ioff (.lconst n)) = tg) (H : Do1 E (XW oname exn cl fx base D dA ro scr) M pc h r d Q (stI E.2.2 (rdO h) M pc (pc + len) tg L S (.lconst n))) : (XW oname exn cl fx base D dA ro scr) M pc L S h r d Q := by
  subst hl
  intro p l e R s m args below meth c r0 G locs cells slots ls K hS hR hL hc hs
  have K' := K
  obtain ⟨hx, hb, hml, -⟩ := K'
  have go : ∀ (p2 : Nat) (L2 S2 : List Value) (ls2 : Array Slot), RL ls2 M.2.2.2.1 L2 → (XW oname exn cl fx base D dA ro scr) M p2 L2 S2 h r d Q → W p l e R s m args below meth c G locs cells slots (vx_MQ below (QcE cl base D dA ro scr r0 Q) (XcE exn cl base D dA ro scr r0 Q) args s r0 (4 * r0) (Af base)) (F0 m p2 ls2 S2) := fun p2 L2 S2 ls2 hL2 hX => hX p l e R s m args below meth c r0 G locs cells slots ls2 K hS hR hL2 hc hs
  simp only [stI] at H
  exact lv_lconst hx hb hd rfl (go _ _ _ _ hL H)
theorem so_fconst {oname exn : Nat → String} {cl : List vw_C} {fx : State → Heap → Prop} {base : Nat} {D : va_G} {dA : Nat → ClassId} {ro : va_W} {scr : Nat × List Value} {E : Evn} {M : MD} {pc : Nat} {L S : List Value} {h : Hp} {r d : Nat} {Q : Post} {len tg : Nat} {n : Fin 3} (hd : decode M.2.2.1 pc = .ok (.fconst n, len)) (hl : len = 1) (ht : tgt_ pc (ioff (.fconst n)) = tg) (H : Do1 E (XW oname exn cl fx base D dA ro scr) M pc h r d Q (stI E.2.2 (rdO h) M pc (pc + len) tg L S (.fconst n))) : (XW oname exn cl fx base D dA ro scr) M pc L S h r d Q := by
  subst hl
  intro p l e R s m args below meth c r0 G locs cells slots ls K hS hR hL hc hs
  have K' := K
  obtain ⟨hx, hb, hml, -⟩ := K'
  have go : ∀ (p2 : Nat) (L2 S2 : List Value) (ls2 : Array Slot), RL ls2 M.2.2.2.1 L2 → (XW oname exn cl fx base D dA ro scr) M p2 L2 S2 h r d Q → W p l e R s m args below meth c G locs cells slots (vx_MQ below (QcE cl base D dA ro scr r0 Q) (XcE exn cl base D dA ro scr r0 Q) args s r0 (4 * r0) (Af base)) (F0 m p2 ls2 S2) := fun p2 L2 S2 ls2 hL2 hX => hX p l e R s m args below meth c r0 G locs cells slots ls2 K hS hR hL2 hc hs
  simp only [stI] at H
  split at H
  · rename_i e0
    subst e0
    exact lv_fconst0 hx hb hd (go _ _ _ _ hL H)
  · exact H.elim
theorem so_dconst {oname exn : Nat → String} {cl : List vw_C} {fx : State → Heap → Prop} {base : Nat} {D : va_G} {dA : Nat → ClassId} {ro : va_W} {scr : Nat × List Value} {E : Evn} {M : MD} {pc : Nat} {L S : List Value} {h : Hp} {r d : Nat} {Q : Post} {len tg : Nat} {n : Fin 2} (hd : decode M.2.2.1 pc = .ok (.dconst n, len)) (hl : len = 1) (ht : tgt_ pc (ioff (.dconst n)) = tg) (H : Do1 E (XW oname exn cl fx base D dA ro scr) M pc h r d Q (stI E.2.2 (rdO h) M pc (pc + len) tg L S (.dconst n))) : (XW oname exn cl fx base D dA ro scr) M pc L S h r d Q := by
  subst hl
  intro p l e R s m args below meth c r0 G locs cells slots ls K hS hR hL hc hs
  have K' := K
  obtain ⟨hx, hb, hml, -⟩ := K'
  have go : ∀ (p2 : Nat) (L2 S2 : List Value) (ls2 : Array Slot), RL ls2 M.2.2.2.1 L2 → (XW oname exn cl fx base D dA ro scr) M p2 L2 S2 h r d Q → W p l e R s m args below meth c G locs cells slots (vx_MQ below (QcE cl base D dA ro scr r0 Q) (XcE exn cl base D dA ro scr r0 Q) args s r0 (4 * r0) (Af base)) (F0 m p2 ls2 S2) := fun p2 L2 S2 ls2 hL2 hX => hX p l e R s m args below meth c r0 G locs cells slots ls2 K hS hR hL2 hc hs
  simp only [stI] at H
  split at H
  · rename_i e0
    subst e0
    exact lv_dconst0 hx hb hd (go _ _ _ _ hL H)
  · exact H.elim
theorem so_aconst_null {oname exn : Nat → String} {cl : List vw_C} {fx : State → Heap → Prop} {base : Nat} {D : va_G} {dA : Nat → ClassId} {ro : va_W} {scr : Nat × List Value} {E : Evn} {M : MD} {pc : Nat} {L S : List Value} {h : Hp} {r d : Nat} {Q : Post} {len tg : Nat}  (hd : decode M.2.2.1 pc = .ok (.aconst_null, len)) (hl : len = 1) (ht : tgt_ pc (ioff (.aconst_null)) = tg) (H : Do1 E (XW oname exn cl fx base D dA ro scr) M pc h r d Q (stI E.2.2 (rdO h) M pc (pc + len) tg L S (.aconst_null))) : (XW oname exn cl fx base D dA ro scr) M pc L S h r d Q := by
  subst hl
  intro p l e R s m args below meth c r0 G locs cells slots ls K hS hR hL hc hs
  have K' := K
  obtain ⟨hx, hb, hml, -⟩ := K'
  have go : ∀ (p2 : Nat) (L2 S2 : List Value) (ls2 : Array Slot), RL ls2 M.2.2.2.1 L2 → (XW oname exn cl fx base D dA ro scr) M p2 L2 S2 h r d Q → W p l e R s m args below meth c G locs cells slots (vx_MQ below (QcE cl base D dA ro scr r0 Q) (XcE exn cl base D dA ro scr r0 Q) args s r0 (4 * r0) (Af base)) (F0 m p2 ls2 S2) := fun p2 L2 S2 ls2 hL2 hX => hX p l e R s m args below meth c r0 G locs cells slots ls2 K hS hR hL2 hc hs
  simp only [stI] at H
  exact lv_null hx hb hd (go _ _ _ _ hL H)
theorem so_iload {oname exn : Nat → String} {cl : List vw_C} {fx : State → Heap → Prop} {base : Nat} {D : va_G} {dA : Nat → ClassId} {ro : va_W} {scr : Nat × List Value} {E : Evn} {M : MD} {pc : Nat} {L S : List Value} {h : Hp} {r d : Nat} {Q : Post} {len tg : Nat} {k : Nat} (hd : decode M.2.2.1 pc = .ok (.iload k, len)) (hl : len = 2) (ht : tgt_ pc (ioff (.iload k)) = tg) (H : Do1 E (XW oname exn cl fx base D dA ro scr) M pc h r d Q (stI E.2.2 (rdO h) M pc (pc + len) tg L S (.iload k))) : (XW oname exn cl fx base D dA ro scr) M pc L S h r d Q := by
  subst hl
  intro p l e R s m args below meth c r0 G locs cells slots ls K hS hR hL hc hs
  have K' := K
  obtain ⟨hx, hb, hml, -⟩ := K'
  have go : ∀ (p2 : Nat) (L2 S2 : List Value) (ls2 : Array Slot), RL ls2 M.2.2.2.1 L2 → (XW oname exn cl fx base D dA ro scr) M p2 L2 S2 h r d Q → W p l e R s m args below meth c G locs cells slots (vx_MQ below (QcE cl base D dA ro scr r0 Q) (XcE exn cl base D dA ro scr r0 Q) args s r0 (4 * r0) (Af base)) (F0 m p2 ls2 S2) := fun p2 L2 S2 ls2 hL2 hX => hX p l e R s m args below meth c r0 G locs cells slots ls2 K hS hR hL2 hc hs
  simp only [stI] at H
  unfold ldI at H
  split at H
  · rename_i v hv
    split at H
    · rename_i hcv
      cases v with
      | int x => exact lv_iload hx hb hd (hL.get hv (by intro q; cases q)) (go _ _ _ _ hL H)
      | _ => cases hcv
    · exact H.elim
  · exact H.elim
theorem so_iload_n {oname exn : Nat → String} {cl : List vw_C} {fx : State → Heap → Prop} {base : Nat} {D : va_G} {dA : Nat → ClassId} {ro : va_W} {scr : Nat × List Value} {E : Evn} {M : MD} {pc : Nat} {L S : List Value} {h : Hp} {r d : Nat} {Q : Post} {len tg : Nat} {k : Fin 4} (hd : decode M.2.2.1 pc = .ok (.iload_n k, len)) (hl : len = 1) (ht : tgt_ pc (ioff (.iload_n k)) = tg) (H : Do1 E (XW oname exn cl fx base D dA ro scr) M pc h r d Q (stI E.2.2 (rdO h) M pc (pc + len) tg L S (.iload_n k))) : (XW oname exn cl fx base D dA ro scr) M pc L S h r d Q := by
  subst hl
  intro p l e R s m args below meth c r0 G locs cells slots ls K hS hR hL hc hs
  have K' := K
  obtain ⟨hx, hb, hml, -⟩ := K'
  have go : ∀ (p2 : Nat) (L2 S2 : List Value) (ls2 : Array Slot), RL ls2 M.2.2.2.1 L2 → (XW oname exn cl fx base D dA ro scr) M p2 L2 S2 h r d Q → W p l e R s m args below meth c G locs cells slots (vx_MQ below (QcE cl base D dA ro scr r0 Q) (XcE exn cl base D dA ro scr r0 Q) args s r0 (4 * r0) (Af base)) (F0 m p2 ls2 S2) := fun p2 L2 S2 ls2 hL2 hX => hX p l e R s m args below meth c r0 G locs cells slots ls2 K hS hR hL2 hc hs
  simp only [stI] at H
  unfold ldI at H
  split at H
  · rename_i v hv
    split at H
    · rename_i hcv
      cases v with
      | int x => exact lv_iload_n hx hb hd rfl (hL.get hv (by intro q; cases q)) (go _ _ _ _ hL H)
      | _ => cases hcv
    · exact H.elim
  · exact H.elim
theorem so_lload {oname exn : Nat → String} {cl : List vw_C} {fx : State → Heap → Prop} {base : Nat} {D : va_G} {dA : Nat → ClassId} {ro : va_W} {scr : Nat × List Value} {E : Evn} {M : MD} {pc : Nat} {L S : List Value} {h : Hp} {r d : Nat} {Q : Post} {len tg : Nat} {k : Nat} (hd : decode M.2.2.1 pc = .ok (.lload k, len)) (hl : len = 2) (ht : tgt_ pc (ioff (.lload k)) = tg) (H : Do1 E (XW oname exn cl fx base D dA ro scr) M pc h r d Q (stI E.2.2 (rdO h) M pc (pc + len) tg L S (.lload k))) : (XW oname exn cl fx base D dA ro scr) M pc L S h r d Q := by
  subst hl
  intro p l e R s m args below meth c r0 G locs cells slots ls K hS hR hL hc hs
  have K' := K
  obtain ⟨hx, hb, hml, -⟩ := K'
  have go : ∀ (p2 : Nat) (L2 S2 : List Value) (ls2 : Array Slot), RL ls2 M.2.2.2.1 L2 → (XW oname exn cl fx base D dA ro scr) M p2 L2 S2 h r d Q → W p l e R s m args below meth c G locs cells slots (vx_MQ below (QcE cl base D dA ro scr r0 Q) (XcE exn cl base D dA ro scr r0 Q) args s r0 (4 * r0) (Af base)) (F0 m p2 ls2 S2) := fun p2 L2 S2 ls2 hL2 hX => hX p l e R s m args below meth c r0 G locs cells slots ls2 K hS hR hL2 hc hs
  simp only [stI] at H
  unfold ldI at H
  split at H
  · rename_i v hv
    split at H
    · rename_i hcv
      cases v with
      | long x => exact lv_lload hx hb hd (hL.get hv (by intro q; cases q)) (go _ _ _ _ hL H)
      | _ => cases hcv
    · exact H.elim
  · exact H.elim
theorem so_lload_n {oname exn : Nat → String} {cl : List vw_C} {fx : State → Heap → Prop} {base : Nat} {D : va_G} {dA : Nat → ClassId} {ro : va_W} {scr : Nat × List Value} {E : Evn} {M : MD} {pc : Nat} {L S : List Value} {h : Hp} {r d : Nat} {Q : Post} {len tg : Nat} {k : Fin 4} (hd : decode M.2.2.1 pc = .ok (.lload_n k, len)) (hl : len = 1) (ht : tgt_ pc (ioff (.lload_n k)) = tg) (H : Do1 E (XW oname exn cl fx base D dA ro scr) M pc h r d Q (stI E.2.2 (rdO h) M pc (pc + len) tg L S (.lload_n k))) : (XW oname exn cl fx base D dA ro scr) M pc L S h r d Q := by
  subst hl
  intro p l e R s m args below meth c r0 G locs cells slots ls K hS hR hL hc hs
  have K' := K
  obtain ⟨hx, hb, hml, -⟩ := K'
  have go : ∀ (p2 : Nat) (L2 S2 : List Value) (ls2 : Array Slot), RL ls2 M.2.2.2.1 L2 → (XW oname exn cl fx base D dA ro scr) M p2 L2 S2 h r d Q → W p l e R s m args below meth c G locs cells slots (vx_MQ below (QcE cl base D dA ro scr r0 Q) (XcE exn cl base D dA ro scr r0 Q) args s r0 (4 * r0) (Af base)) (F0 m p2 ls2 S2) := fun p2 L2 S2 ls2 hL2 hX => hX p l e R s m args below meth c r0 G locs cells slots ls2 K hS hR hL2 hc hs
  simp only [stI] at H
  unfold ldI at H
  split at H
  · rename_i v hv
    split at H
    · rename_i hcv
      cases v with
      | long x => exact lv_lload_n hx hb hd rfl (hL.get hv (by intro q; cases q)) (go _ _ _ _ hL H)
      | _ => cases hcv
    · exact H.elim
  · exact H.elim
theorem so_fload {oname exn : Nat → String} {cl : List vw_C} {fx : State → Heap → Prop} {base : Nat} {D : va_G} {dA : Nat → ClassId} {ro : va_W} {scr : Nat × List Value} {E : Evn} {M : MD} {pc : Nat} {L S : List Value} {h : Hp} {r d : Nat} {Q : Post} {len tg : Nat} {k : Nat} (hd : decode M.2.2.1 pc = .ok (.fload k, len)) (hl : len = 2) (ht : tgt_ pc (ioff (.fload k)) = tg) (H : Do1 E (XW oname exn cl fx base D dA ro scr) M pc h r d Q (stI E.2.2 (rdO h) M pc (pc + len) tg L S (.fload k))) : (XW oname exn cl fx base D dA ro scr) M pc L S h r d Q := by
  subst hl
  intro p l e R s m args below meth c r0 G locs cells slots ls K hS hR hL hc hs
  have K' := K
  obtain ⟨hx, hb, hml, -⟩ := K'
  have go : ∀ (p2 : Nat) (L2 S2 : List Value) (ls2 : Array Slot), RL ls2 M.2.2.2.1 L2 → (XW oname exn cl fx base D dA ro scr) M p2 L2 S2 h r d Q → W p l e R s m args below meth c G locs cells slots (vx_MQ below (QcE cl base D dA ro scr r0 Q) (XcE exn cl base D dA ro scr r0 Q) args s r0 (4 * r0) (Af base)) (F0 m p2 ls2 S2) := fun p2 L2 S2 ls2 hL2 hX => hX p l e R s m args below meth c r0 G locs cells slots ls2 K hS hR hL2 hc hs
  simp only [stI] at H
  unfold ldI at H
  split at H
  · rename_i v hv
    split at H
    · rename_i hcv
      cases v with
      | float x => exact lv_fload hx hb hd (hL.get hv (by intro q; cases q)) (go _ _ _ _ hL H)
      | _ => cases hcv
    · exact H.elim
  · exact H.elim
theorem so_fload_n {oname exn : Nat → String} {cl : List vw_C} {fx : State → Heap → Prop} {base : Nat} {D : va_G} {dA : Nat → ClassId} {ro : va_W} {scr : Nat × List Value} {E : Evn} {M : MD} {pc : Nat} {L S : List Value} {h : Hp} {r d : Nat} {Q : Post} {len tg : Nat} {k : Fin 4} (hd : decode M.2.2.1 pc = .ok (.fload_n k, len)) (hl : len = 1) (ht : tgt_ pc (ioff (.fload_n k)) = tg) (H : Do1 E (XW oname exn cl fx base D dA ro scr) M pc h r d Q (stI E.2.2 (rdO h) M pc (pc + len) tg L S (.fload_n k))) : (XW oname exn cl fx base D dA ro scr) M pc L S h r d Q := by
  subst hl
  intro p l e R s m args below meth c r0 G locs cells slots ls K hS hR hL hc hs
  have K' := K
  obtain ⟨hx, hb, hml, -⟩ := K'
  have go : ∀ (p2 : Nat) (L2 S2 : List Value) (ls2 : Array Slot), RL ls2 M.2.2.2.1 L2 → (XW oname exn cl fx base D dA ro scr) M p2 L2 S2 h r d Q → W p l e R s m args below meth c G locs cells slots (vx_MQ below (QcE cl base D dA ro scr r0 Q) (XcE exn cl base D dA ro scr r0 Q) args s r0 (4 * r0) (Af base)) (F0 m p2 ls2 S2) := fun p2 L2 S2 ls2 hL2 hX => hX p l e R s m args below meth c r0 G locs cells slots ls2 K hS hR hL2 hc hs
  simp only [stI] at H
  unfold ldI at H
  split at H
  · rename_i v hv
    split at H
    · rename_i hcv
      cases v with
      | float x => exact lv_fload_n hx hb hd rfl (hL.get hv (by intro q; cases q)) (go _ _ _ _ hL H)
      | _ => cases hcv
    · exact H.elim
  · exact H.elim
theorem so_dload {oname exn : Nat → String} {cl : List vw_C} {fx : State → Heap → Prop} {base : Nat} {D : va_G} {dA : Nat → ClassId} {ro : va_W} {scr : Nat × List Value} {E : Evn} {M : MD} {pc : Nat} {L S : List Value} {h : Hp} {r d : Nat} {Q : Post} {len tg : Nat} {k : Nat} (hd : decode M.2.2.1 pc = .ok (.dload k, len)) (hl : len = 2) (ht : tgt_ pc (ioff (.dload k)) = tg) (H : Do1 E (XW oname exn cl fx base D dA ro scr) M pc h r d Q (stI E.2.2 (rdO h) M pc (pc + len) tg L S (.dload k))) : (XW oname exn cl fx base D dA ro scr) M pc L S h r d Q := by
  subst hl
  intro p l e R s m args below meth c r0 G locs cells slots ls K hS hR hL hc hs
  have K' := K
  obtain ⟨hx, hb, hml, -⟩ := K'
  have go : ∀ (p2 : Nat) (L2 S2 : List Value) (ls2 : Array Slot), RL ls2 M.2.2.2.1 L2 → (XW oname exn cl fx base D dA ro scr) M p2 L2 S2 h r d Q → W p l e R s m args below meth c G locs cells slots (vx_MQ below (QcE cl base D dA ro scr r0 Q) (XcE exn cl base D dA ro scr r0 Q) args s r0 (4 * r0) (Af base)) (F0 m p2 ls2 S2) := fun p2 L2 S2 ls2 hL2 hX => hX p l e R s m args below meth c r0 G locs cells slots ls2 K hS hR hL2 hc hs
  simp only [stI] at H
  unfold ldI at H
  split at H
  · rename_i v hv
    split at H
    · rename_i hcv
      cases v with
      | double x => exact lv_dload hx hb hd (hL.get hv (by intro q; cases q)) (go _ _ _ _ hL H)
      | _ => cases hcv
    · exact H.elim
  · exact H.elim
theorem so_dload_n {oname exn : Nat → String} {cl : List vw_C} {fx : State → Heap → Prop} {base : Nat} {D : va_G} {dA : Nat → ClassId} {ro : va_W} {scr : Nat × List Value} {E : Evn} {M : MD} {pc : Nat} {L S : List Value} {h : Hp} {r d : Nat} {Q : Post} {len tg : Nat} {k : Fin 4} (hd : decode M.2.2.1 pc = .ok (.dload_n k, len)) (hl : len = 1) (ht : tgt_ pc (ioff (.dload_n k)) = tg) (H : Do1 E (XW oname exn cl fx base D dA ro scr) M pc h r d Q (stI E.2.2 (rdO h) M pc (pc + len) tg L S (.dload_n k))) : (XW oname exn cl fx base D dA ro scr) M pc L S h r d Q := by
  subst hl
  intro p l e R s m args below meth c r0 G locs cells slots ls K hS hR hL hc hs
  have K' := K
  obtain ⟨hx, hb, hml, -⟩ := K'
  have go : ∀ (p2 : Nat) (L2 S2 : List Value) (ls2 : Array Slot), RL ls2 M.2.2.2.1 L2 → (XW oname exn cl fx base D dA ro scr) M p2 L2 S2 h r d Q → W p l e R s m args below meth c G locs cells slots (vx_MQ below (QcE cl base D dA ro scr r0 Q) (XcE exn cl base D dA ro scr r0 Q) args s r0 (4 * r0) (Af base)) (F0 m p2 ls2 S2) := fun p2 L2 S2 ls2 hL2 hX => hX p l e R s m args below meth c r0 G locs cells slots ls2 K hS hR hL2 hc hs
  simp only [stI] at H
  unfold ldI at H
  split at H
  · rename_i v hv
    split at H
    · rename_i hcv
      cases v with
      | double x => exact lv_dload_n hx hb hd rfl (hL.get hv (by intro q; cases q)) (go _ _ _ _ hL H)
      | _ => cases hcv
    · exact H.elim
  · exact H.elim
theorem so_aload {oname exn : Nat → String} {cl : List vw_C} {fx : State → Heap → Prop} {base : Nat} {D : va_G} {dA : Nat → ClassId} {ro : va_W} {scr : Nat × List Value} {E : Evn} {M : MD} {pc : Nat} {L S : List Value} {h : Hp} {r d : Nat} {Q : Post} {len tg : Nat} {k : Nat} (hd : decode M.2.2.1 pc = .ok (.aload k, len)) (hl : len = 2) (ht : tgt_ pc (ioff (.aload k)) = tg) (H : Do1 E (XW oname exn cl fx base D dA ro scr) M pc h r d Q (stI E.2.2 (rdO h) M pc (pc + len) tg L S (.aload k))) : (XW oname exn cl fx base D dA ro scr) M pc L S h r d Q := by
  subst hl
  intro p l e R s m args below meth c r0 G locs cells slots ls K hS hR hL hc hs
  have K' := K
  obtain ⟨hx, hb, hml, -⟩ := K'
  have go : ∀ (p2 : Nat) (L2 S2 : List Value) (ls2 : Array Slot), RL ls2 M.2.2.2.1 L2 → (XW oname exn cl fx base D dA ro scr) M p2 L2 S2 h r d Q → W p l e R s m args below meth c G locs cells slots (vx_MQ below (QcE cl base D dA ro scr r0 Q) (XcE exn cl base D dA ro scr r0 Q) args s r0 (4 * r0) (Af base)) (F0 m p2 ls2 S2) := fun p2 L2 S2 ls2 hL2 hX => hX p l e R s m args below meth c r0 G locs cells slots ls2 K hS hR hL2 hc hs
  simp only [stI] at H
  unfold ldI at H
  split at H
  · rename_i v hv
    split at H
    · rename_i hcv
      cases v with
      | ref x => exact lv_aload hx hb hd (hL.get hv (by intro q; cases q)) (go _ _ _ _ hL H)
      | null => exact lv_aloadN hx hb hd (hL.get hv (by intro q; cases q)) (go _ _ _ _ hL H)
      | _ => cases hcv
    · exact H.elim
  · exact H.elim
theorem so_aload_n {oname exn : Nat → String} {cl : List vw_C} {fx : State → Heap → Prop} {base : Nat} {D : va_G} {dA : Nat → ClassId} {ro : va_W} {scr : Nat × List Value} {E : Evn} {M : MD} {pc : Nat} {L S : List Value} {h : Hp} {r d : Nat} {Q : Post} {len tg : Nat} {k : Fin 4} (hd : decode M.2.2.1 pc = .ok (.aload_n k, len)) (hl : len = 1) (ht : tgt_ pc (ioff (.aload_n k)) = tg) (H : Do1 E (XW oname exn cl fx base D dA ro scr) M pc h r d Q (stI E.2.2 (rdO h) M pc (pc + len) tg L S (.aload_n k))) : (XW oname exn cl fx base D dA ro scr) M pc L S h r d Q := by
  subst hl
  intro p l e R s m args below meth c r0 G locs cells slots ls K hS hR hL hc hs
  have K' := K
  obtain ⟨hx, hb, hml, -⟩ := K'
  have go : ∀ (p2 : Nat) (L2 S2 : List Value) (ls2 : Array Slot), RL ls2 M.2.2.2.1 L2 → (XW oname exn cl fx base D dA ro scr) M p2 L2 S2 h r d Q → W p l e R s m args below meth c G locs cells slots (vx_MQ below (QcE cl base D dA ro scr r0 Q) (XcE exn cl base D dA ro scr r0 Q) args s r0 (4 * r0) (Af base)) (F0 m p2 ls2 S2) := fun p2 L2 S2 ls2 hL2 hX => hX p l e R s m args below meth c r0 G locs cells slots ls2 K hS hR hL2 hc hs
  simp only [stI] at H
  unfold ldI at H
  split at H
  · rename_i v hv
    split at H
    · rename_i hcv
      cases v with
      | ref x => exact lv_aload_n hx hb hd rfl (hL.get hv (by intro q; cases q)) (go _ _ _ _ hL H)
      | null => exact lv_aload_nN hx hb hd rfl (hL.get hv (by intro q; cases q)) (go _ _ _ _ hL H)
      | _ => cases hcv
    · exact H.elim
  · exact H.elim
theorem so_istore {oname exn : Nat → String} {cl : List vw_C} {fx : State → Heap → Prop} {base : Nat} {D : va_G} {dA : Nat → ClassId} {ro : va_W} {scr : Nat × List Value} {E : Evn} {M : MD} {pc : Nat} {L S : List Value} {h : Hp} {r d : Nat} {Q : Post} {len tg : Nat} {k : Nat} (hd : decode M.2.2.1 pc = .ok (.istore k, len)) (hl : len = 2) (ht : tgt_ pc (ioff (.istore k)) = tg) (H : Do1 E (XW oname exn cl fx base D dA ro scr) M pc h r d Q (stI E.2.2 (rdO h) M pc (pc + len) tg L S (.istore k))) : (XW oname exn cl fx base D dA ro scr) M pc L S h r d Q := by
  subst hl
  intro p l e R s m args below meth c r0 G locs cells slots ls K hS hR hL hc hs
  have K' := K
  obtain ⟨hx, hb, hml, -⟩ := K'
  have go : ∀ (p2 : Nat) (L2 S2 : List Value) (ls2 : Array Slot), RL ls2 M.2.2.2.1 L2 → (XW oname exn cl fx base D dA ro scr) M p2 L2 S2 h r d Q → W p l e R s m args below meth c G locs cells slots (vx_MQ below (QcE cl base D dA ro scr r0 Q) (XcE exn cl base D dA ro scr r0 Q) args s r0 (4 * r0) (Af base)) (F0 m p2 ls2 S2) := fun p2 L2 S2 ls2 hL2 hX => hX p l e R s m args below meth c r0 G locs cells slots ls2 K hS hR hL2 hc hs
  simp only [stI] at H
  unfold stI1 at H
  split at H
  · split at H
    · rename_i v S2 hcv
      obtain ⟨hc1, hlt⟩ := hcv
      cases v with
      | int x => exact lv_istore hx hb hd hL.has (by rw [← hL.1]; exact hlt) rfl (fun ls2 h2 => go _ _ _ _ (RL.st1 hL.1 h2) H)
      | _ => cases hc1
    · exact H.elim
  · exact H.elim
theorem so_istore_n {oname exn : Nat → String} {cl : List vw_C} {fx : State → Heap → Prop} {base : Nat} {D : va_G} {dA : Nat → ClassId} {ro : va_W} {scr : Nat × List Value} {E : Evn} {M : MD} {pc : Nat} {L S : List Value} {h : Hp} {r d : Nat} {Q : Post} {len tg : Nat} {k : Fin 4} (hd : decode M.2.2.1 pc = .ok (.istore_n k, len)) (hl : len = 1) (ht : tgt_ pc (ioff (.istore_n k)) = tg) (H : Do1 E (XW oname exn cl fx base D dA ro scr) M pc h r d Q (stI E.2.2 (rdO h) M pc (pc + len) tg L S (.istore_n k))) : (XW oname exn cl fx base D dA ro scr) M pc L S h r d Q := by
  subst hl
  intro p l e R s m args below meth c r0 G locs cells slots ls K hS hR hL hc hs
  have K' := K
  obtain ⟨hx, hb, hml, -⟩ := K'
  have go : ∀ (p2 : Nat) (L2 S2 : List Value) (ls2 : Array Slot), RL ls2 M.2.2.2.1 L2 → (XW oname exn cl fx base D dA ro scr) M p2 L2 S2 h r d Q → W p l e R s m args below meth c G locs cells slots (vx_MQ below (QcE cl base D dA ro scr r0 Q) (XcE exn cl base D dA ro scr r0 Q) args s r0 (4 * r0) (Af base)) (F0 m p2 ls2 S2) := fun p2 L2 S2 ls2 hL2 hX => hX p l e R s m args below meth c r0 G locs cells slots ls2 K hS hR hL2 hc hs
  simp only [stI] at H
  unfold stI1 at H
  split at H
  · split at H
    · rename_i v S2 hcv
      obtain ⟨hc1, hlt⟩ := hcv
      cases v with
      | int x => exact lv_istore_n hx hb hd rfl hL.has (by rw [← hL.1]; exact hlt) rfl (fun ls2 h2 => go _ _ _ _ (RL.st1 hL.1 h2) H)
      | _ => cases hc1
    · exact H.elim
  · exact H.elim
theorem so_fstore {oname exn : Nat → String} {cl : List vw_C} {fx : State → Heap → Prop} {base : Nat} {D : va_G} {dA : Nat → ClassId} {ro : va_W} {scr : Nat × List Value} {E : Evn} {M : MD} {pc : Nat} {L S : List Value} {h : Hp} {r d : Nat} {Q : Post} {len tg : Nat} {k : Nat} (hd : decode M.2.2.1 pc = .ok (.fstore k, len)) (hl : len = 2) (ht : tgt_ pc (ioff (.fstore k)) = tg) (H : Do1 E (XW oname exn cl fx base D dA ro scr) M pc h r d Q (stI E.2.2 (rdO h) M pc (pc + len) tg L S (.fstore k))) : (XW oname exn cl fx base D dA ro scr) M pc L S h r d Q := by
  subst hl
  intro p l e R s m args below meth c r0 G locs cells slots ls K hS hR hL hc hs
  have K' := K
  obtain ⟨hx, hb, hml, -⟩ := K'
  have go : ∀ (p2 : Nat) (L2 S2 : List Value) (ls2 : Array Slot), RL ls2 M.2.2.2.1 L2 → (XW oname exn cl fx base D dA ro scr) M p2 L2 S2 h r d Q → W p l e R s m args below meth c G locs cells slots (vx_MQ below (QcE cl base D dA ro scr r0 Q) (XcE exn cl base D dA ro scr r0 Q) args s r0 (4 * r0) (Af base)) (F0 m p2 ls2 S2) := fun p2 L2 S2 ls2 hL2 hX => hX p l e R s m args below meth c r0 G locs cells slots ls2 K hS hR hL2 hc hs
  simp only [stI] at H
  unfold stI1 at H
  split at H
  · split at H
    · rename_i v S2 hcv
      obtain ⟨hc1, hlt⟩ := hcv
      cases v with
      | float x => exact lv_fstore hx hb hd hL.has (by rw [← hL.1]; exact hlt) rfl (fun ls2 h2 => go _ _ _ _ (RL.st1 hL.1 h2) H)
      | _ => cases hc1
    · exact H.elim
  · exact H.elim
theorem so_fstore_n {oname exn : Nat → String} {cl : List vw_C} {fx : State → Heap → Prop} {base : Nat} {D : va_G} {dA : Nat → ClassId} {ro : va_W} {scr : Nat × List Value} {E : Evn} {M : MD} {pc : Nat} {L S : List Value} {h : Hp} {r d : Nat} {Q : Post} {len tg : Nat} {k : Fin 4} (hd : decode M.2.2.1 pc = .ok (.fstore_n k, len)) (hl : len = 1) (ht : tgt_ pc (ioff (.fstore_n k)) = tg) (H : Do1 E (XW oname exn cl fx base D dA ro scr) M pc h r d Q (stI E.2.2 (rdO h) M pc (pc + len) tg L S (.fstore_n k))) : (XW oname exn cl fx base D dA ro scr) M pc L S h r d Q := by
  subst hl
  intro p l e R s m args below meth c r0 G locs cells slots ls K hS hR hL hc hs
  have K' := K
  obtain ⟨hx, hb, hml, -⟩ := K'
  have go : ∀ (p2 : Nat) (L2 S2 : List Value) (ls2 : Array Slot), RL ls2 M.2.2.2.1 L2 → (XW oname exn cl fx base D dA ro scr) M p2 L2 S2 h r d Q → W p l e R s m args below meth c G locs cells slots (vx_MQ below (QcE cl base D dA ro scr r0 Q) (XcE exn cl base D dA ro scr r0 Q) args s r0 (4 * r0) (Af base)) (F0 m p2 ls2 S2) := fun p2 L2 S2 ls2 hL2 hX => hX p l e R s m args below meth c r0 G locs cells slots ls2 K hS hR hL2 hc hs
  simp only [stI] at H
  unfold stI1 at H
  split at H
  · split at H
    · rename_i v S2 hcv
      obtain ⟨hc1, hlt⟩ := hcv
      cases v with
      | float x => exact lv_fstore_n hx hb hd rfl hL.has (by rw [← hL.1]; exact hlt) rfl (fun ls2 h2 => go _ _ _ _ (RL.st1 hL.1 h2) H)
      | _ => cases hc1
    · exact H.elim
  · exact H.elim
theorem so_lstore {oname exn : Nat → String} {cl : List vw_C} {fx : State → Heap → Prop} {base : Nat} {D : va_G} {dA : Nat → ClassId} {ro : va_W} {scr : Nat × List Value} {E : Evn} {M : MD} {pc : Nat} {L S : List Value} {h : Hp} {r d : Nat} {Q : Post} {len tg : Nat} {k : Nat} (hd : decode M.2.2.1 pc = .ok (.lstore k, len)) (hl : len = 2) (ht : tgt_ pc (ioff (.lstore k)) = tg) (H : Do1 E (XW oname exn cl fx base D dA ro scr) M pc h r d Q (stI E.2.2 (rdO h) M pc (pc + len) tg L S (.lstore k))) : (XW oname exn cl fx base D dA ro scr) M pc L S h r d Q := by
  subst hl
  intro p l e R s m args below meth c r0 G locs cells slots ls K hS hR hL hc hs
  have K' := K
  obtain ⟨hx, hb, hml, -⟩ := K'
  have go : ∀ (p2 : Nat) (L2 S2 : List Value) (ls2 : Array Slot), RL ls2 M.2.2.2.1 L2 → (XW oname exn cl fx base D dA ro scr) M p2 L2 S2 h r d Q → W p l e R s m args below meth c G locs cells slots (vx_MQ below (QcE cl base D dA ro scr r0 Q) (XcE exn cl base D dA ro scr r0 Q) args s r0 (4 * r0) (Af base)) (F0 m p2 ls2 S2) := fun p2 L2 S2 ls2 hL2 hX => hX p l e R s m args below meth c r0 G locs cells slots ls2 K hS hR hL2 hc hs
  simp only [stI] at H
  unfold stI2 at H
  split at H
  · split at H
    · rename_i v S2 hcv
      obtain ⟨hc1, hlt⟩ := hcv
      cases v with
      | long x => exact lv_lstore hx hb hd hL.has (by rw [← hL.1]; exact hlt) rfl (fun ls2 h2 => go _ _ _ _ (RL.st2 hL.1 h2) H)
      | _ => cases hc1
    · exact H.elim
  · exact H.elim
theorem so_lstore_n {oname exn : Nat → String} {cl : List vw_C} {fx : State → Heap → Prop} {base : Nat} {D : va_G} {dA : Nat → ClassId} {ro : va_W} {scr : Nat × List Value} {E : Evn} {M : MD} {pc : Nat} {L S : List Value} {h : Hp} {r d : Nat} {Q : Post} {len tg : Nat} {k : Fin 4} (hd : decode M.2.2.1 pc = .ok (.lstore_n k, len)) (hl : len = 1) (ht : tgt_ pc (ioff (.lstore_n k)) = tg) (H : Do1 E (XW oname exn cl fx base D dA ro scr) M pc h r d Q (stI E.2.2 (rdO h) M pc (pc + len) tg L S (.lstore_n k))) : (XW oname exn cl fx base D dA ro scr) M pc L S h r d Q := by
  subst hl
  intro p l e R s m args below meth c r0 G locs cells slots ls K hS hR hL hc hs
  have K' := K
  obtain ⟨hx, hb, hml, -⟩ := K'
  have go : ∀ (p2 : Nat) (L2 S2 : List Value) (ls2 : Array Slot), RL ls2 M.2.2.2.1 L2 → (XW oname exn cl fx base D dA ro scr) M p2 L2 S2 h r d Q → W p l e R s m args below meth c G locs cells slots (vx_MQ below (QcE cl base D dA ro scr r0 Q) (XcE exn cl base D dA ro scr r0 Q) args s r0 (4 * r0) (Af base)) (F0 m p2 ls2 S2) := fun p2 L2 S2 ls2 hL2 hX => hX p l e R s m args below meth c r0 G locs cells slots ls2 K hS hR hL2 hc hs
  simp only [stI] at H
  unfold stI2 at H
  split at H
  · split at H
    · rename_i v S2 hcv
      obtain ⟨hc1, hlt⟩ := hcv
      cases v with
      | long x => exact lv_lstore_n hx hb hd rfl hL.has (by rw [← hL.1]; exact hlt) rfl (fun ls2 h2 => go _ _ _ _ (RL.st2 hL.1 h2) H)
      | _ => cases hc1
    · exact H.elim
  · exact H.elim
theorem so_dstore {oname exn : Nat → String} {cl : List vw_C} {fx : State → Heap → Prop} {base : Nat} {D : va_G} {dA : Nat → ClassId} {ro : va_W} {scr : Nat × List Value} {E : Evn} {M : MD} {pc : Nat} {L S : List Value} {h : Hp} {r d : Nat} {Q : Post} {len tg : Nat} {k : Nat} (hd : decode M.2.2.1 pc = .ok (.dstore k, len)) (hl : len = 2) (ht : tgt_ pc (ioff (.dstore k)) = tg) (H : Do1 E (XW oname exn cl fx base D dA ro scr) M pc h r d Q (stI E.2.2 (rdO h) M pc (pc + len) tg L S (.dstore k))) : (XW oname exn cl fx base D dA ro scr) M pc L S h r d Q := by
  subst hl
  intro p l e R s m args below meth c r0 G locs cells slots ls K hS hR hL hc hs
  have K' := K
  obtain ⟨hx, hb, hml, -⟩ := K'
  have go : ∀ (p2 : Nat) (L2 S2 : List Value) (ls2 : Array Slot), RL ls2 M.2.2.2.1 L2 → (XW oname exn cl fx base D dA ro scr) M p2 L2 S2 h r d Q → W p l e R s m args below meth c G locs cells slots (vx_MQ below (QcE cl base D dA ro scr r0 Q) (XcE exn cl base D dA ro scr r0 Q) args s r0 (4 * r0) (Af base)) (F0 m p2 ls2 S2) := fun p2 L2 S2 ls2 hL2 hX => hX p l e R s m args below meth c r0 G locs cells slots ls2 K hS hR hL2 hc hs
  simp only [stI] at H
  unfold stI2 at H
  split at H
  · split at H
    · rename_i v S2 hcv
      obtain ⟨hc1, hlt⟩ := hcv
      cases v with
      | double x => exact lv_dstore hx hb hd hL.has (by rw [← hL.1]; exact hlt) rfl (fun ls2 h2 => go _ _ _ _ (RL.st2 hL.1 h2) H)
      | _ => cases hc1
    · exact H.elim
  · exact H.elim
theorem so_dstore_n {oname exn : Nat → String} {cl : List vw_C} {fx : State → Heap → Prop} {base : Nat} {D : va_G} {dA : Nat → ClassId} {ro : va_W} {scr : Nat × List Value} {E : Evn} {M : MD} {pc : Nat} {L S : List Value} {h : Hp} {r d : Nat} {Q : Post} {len tg : Nat} {k : Fin 4} (hd : decode M.2.2.1 pc = .ok (.dstore_n k, len)) (hl : len = 1) (ht : tgt_ pc (ioff (.dstore_n k)) = tg) (H : Do1 E (XW oname exn cl fx base D dA ro scr) M pc h r d Q (stI E.2.2 (rdO h) M pc (pc + len) tg L S (.dstore_n k))) : (XW oname exn cl fx base D dA ro scr) M pc L S h r d Q := by
  subst hl
  intro p l e R s m args below meth c r0 G locs cells slots ls K hS hR hL hc hs
  have K' := K
  obtain ⟨hx, hb, hml, -⟩ := K'
  have go : ∀ (p2 : Nat) (L2 S2 : List Value) (ls2 : Array Slot), RL ls2 M.2.2.2.1 L2 → (XW oname exn cl fx base D dA ro scr) M p2 L2 S2 h r d Q → W p l e R s m args below meth c G locs cells slots (vx_MQ below (QcE cl base D dA ro scr r0 Q) (XcE exn cl base D dA ro scr r0 Q) args s r0 (4 * r0) (Af base)) (F0 m p2 ls2 S2) := fun p2 L2 S2 ls2 hL2 hX => hX p l e R s m args below meth c r0 G locs cells slots ls2 K hS hR hL2 hc hs
  simp only [stI] at H
  unfold stI2 at H
  split at H
  · split at H
    · rename_i v S2 hcv
      obtain ⟨hc1, hlt⟩ := hcv
      cases v with
      | double x => exact lv_dstore_n hx hb hd rfl hL.has (by rw [← hL.1]; exact hlt) rfl (fun ls2 h2 => go _ _ _ _ (RL.st2 hL.1 h2) H)
      | _ => cases hc1
    · exact H.elim
  · exact H.elim
theorem so_astore {oname exn : Nat → String} {cl : List vw_C} {fx : State → Heap → Prop} {base : Nat} {D : va_G} {dA : Nat → ClassId} {ro : va_W} {scr : Nat × List Value} {E : Evn} {M : MD} {pc : Nat} {L S : List Value} {h : Hp} {r d : Nat} {Q : Post} {len tg : Nat} {k : Nat} (hd : decode M.2.2.1 pc = .ok (.astore k, len)) (hl : len = 2) (ht : tgt_ pc (ioff (.astore k)) = tg) (H : Do1 E (XW oname exn cl fx base D dA ro scr) M pc h r d Q (stI E.2.2 (rdO h) M pc (pc + len) tg L S (.astore k))) : (XW oname exn cl fx base D dA ro scr) M pc L S h r d Q := by
  subst hl
  intro p l e R s m args below meth c r0 G locs cells slots ls K hS hR hL hc hs
  have K' := K
  obtain ⟨hx, hb, hml, -⟩ := K'
  have go : ∀ (p2 : Nat) (L2 S2 : List Value) (ls2 : Array Slot), RL ls2 M.2.2.2.1 L2 → (XW oname exn cl fx base D dA ro scr) M p2 L2 S2 h r d Q → W p l e R s m args below meth c G locs cells slots (vx_MQ below (QcE cl base D dA ro scr r0 Q) (XcE exn cl base D dA ro scr r0 Q) args s r0 (4 * r0) (Af base)) (F0 m p2 ls2 S2) := fun p2 L2 S2 ls2 hL2 hX => hX p l e R s m args below meth c r0 G locs cells slots ls2 K hS hR hL2 hc hs
  simp only [stI] at H
  unfold stI1 at H
  split at H
  · split at H
    · rename_i v S2 hcv
      obtain ⟨hc1, hlt⟩ := hcv
      cases v with
      | ref x => exact lv_astore hx hb hd hL.has (by rw [← hL.1]; exact hlt) rfl (fun ls2 h2 => go _ _ _ _ (RL.st1 hL.1 h2) H)
      | null => exact lv_astoreN hx hb hd hL.has (by rw [← hL.1]; exact hlt) rfl (fun ls2 h2 => go _ _ _ _ (RL.st1 hL.1 h2) H)
      | _ => cases hc1
    · exact H.elim
  · exact H.elim
theorem so_astore_n {oname exn : Nat → String} {cl : List vw_C} {fx : State → Heap → Prop} {base : Nat} {D : va_G} {dA : Nat → ClassId} {ro : va_W} {scr : Nat × List Value} {E : Evn} {M : MD} {pc : Nat} {L S : List Value} {h : Hp} {r d : Nat} {Q : Post} {len tg : Nat} {k : Fin 4} (hd : decode M.2.2.1 pc = .ok (.astore_n k, len)) (hl : len = 1) (ht : tgt_ pc (ioff (.astore_n k)) = tg) (H : Do1 E (XW oname exn cl fx base D dA ro scr) M pc h r d Q (stI E.2.2 (rdO h) M pc (pc + len) tg L S (.astore_n k))) : (XW oname exn cl fx base D dA ro scr) M pc L S h r d Q := by
  subst hl
  intro p l e R s m args below meth c r0 G locs cells slots ls K hS hR hL hc hs
  have K' := K
  obtain ⟨hx, hb, hml, -⟩ := K'
  have go : ∀ (p2 : Nat) (L2 S2 : List Value) (ls2 : Array Slot), RL ls2 M.2.2.2.1 L2 → (XW oname exn cl fx base D dA ro scr) M p2 L2 S2 h r d Q → W p l e R s m args below meth c G locs cells slots (vx_MQ below (QcE cl base D dA ro scr r0 Q) (XcE exn cl base D dA ro scr r0 Q) args s r0 (4 * r0) (Af base)) (F0 m p2 ls2 S2) := fun p2 L2 S2 ls2 hL2 hX => hX p l e R s m args below meth c r0 G locs cells slots ls2 K hS hR hL2 hc hs
  simp only [stI] at H
  unfold stI1 at H
  split at H
  · split at H
    · rename_i v S2 hcv
      obtain ⟨hc1, hlt⟩ := hcv
      cases v with
      | ref x => exact lv_astore_n hx hb hd rfl hL.has (by rw [← hL.1]; exact hlt) rfl (fun ls2 h2 => go _ _ _ _ (RL.st1 hL.1 h2) H)
      | null => exact lv_astore_nN hx hb hd rfl hL.has (by rw [← hL.1]; exact hlt) rfl (fun ls2 h2 => go _ _ _ _ (RL.st1 hL.1 h2) H)
      | _ => cases hc1
    · exact H.elim
  · exact H.elim
theorem so_iinc {oname exn : Nat → String} {cl : List vw_C} {fx : State → Heap → Prop} {base : Nat} {D : va_G} {dA : Nat → ClassId} {ro : va_W} {scr : Nat × List Value} {E : Evn} {M : MD} {pc : Nat} {L S : List Value} {h : Hp} {r d : Nat} {Q : Post} {len tg : Nat} {k : Nat} {n : Int} (hd : decode M.2.2.1 pc = .ok (.iinc k n, len)) (hl : len = 3) (ht : tgt_ pc (ioff (.iinc k n)) = tg) (H : Do1 E (XW oname exn cl fx base D dA ro scr) M pc h r d Q (stI E.2.2 (rdO h) M pc (pc + len) tg L S (.iinc k n))) : (XW oname exn cl fx base D dA ro scr) M pc L S h r d Q := by
  subst hl
  intro p l e R s m args below meth c r0 G locs cells slots ls K hS hR hL hc hs
  have K' := K
  obtain ⟨hx, hb, hml, -⟩ := K'
  have go : ∀ (p2 : Nat) (L2 S2 : List Value) (ls2 : Array Slot), RL ls2 M.2.2.2.1 L2 → (XW oname exn cl fx base D dA ro scr) M p2 L2 S2 h r d Q → W p l e R s m args below meth c G locs cells slots (vx_MQ below (QcE cl base D dA ro scr r0 Q) (XcE exn cl base D dA ro scr r0 Q) args s r0 (4 * r0) (Af base)) (F0 m p2 ls2 S2) := fun p2 L2 S2 ls2 hL2 hX => hX p l e R s m args below meth c r0 G locs cells slots ls2 K hS hR hL2 hc hs
  simp only [stI] at H
  split at H
  · rename_i x hv
    split at H
    · rename_i hlt
      obtain ⟨j, hj⟩ := List.getElem?_of_mem (mem_kn.mpr ⟨hv, by intro q; cases q⟩)
      exact lv_iinc hx hb hd hL.has hj rfl (by rw [← hL.1]; exact hlt) rfl (fun ls2 h2 => go _ _ _ _ (RL.st1 hL.1 h2) H)
    · exact H.elim
  · exact H.elim
theorem so_iadd {oname exn : Nat → String} {cl : List vw_C} {fx : State → Heap → Prop} {base : Nat} {D : va_G} {dA : Nat → ClassId} {ro : va_W} {scr : Nat × List Value} {E : Evn} {M : MD} {pc : Nat} {L S : List Value} {h : Hp} {r d : Nat} {Q : Post} {len tg : Nat}  (hd : decode M.2.2.1 pc = .ok (.iadd, len)) (hl : len = 1) (ht : tgt_ pc (ioff (.iadd)) = tg) (H : Do1 E (XW oname exn cl fx base D dA ro scr) M pc h r d Q (stI E.2.2 (rdO h) M pc (pc + len) tg L S (.iadd))) : (XW oname exn cl fx base D dA ro scr) M pc L S h r d Q := by
  subst hl
  intro p l e R s m args below meth c r0 G locs cells slots ls K hS hR hL hc hs
  have K' := K
  obtain ⟨hx, hb, hml, -⟩ := K'
  have go : ∀ (p2 : Nat) (L2 S2 : List Value) (ls2 : Array Slot), RL ls2 M.2.2.2.1 L2 → (XW oname exn cl fx base D dA ro scr) M p2 L2 S2 h r d Q → W p l e R s m args below meth c G locs cells slots (vx_MQ below (QcE cl base D dA ro scr r0 Q) (XcE exn cl base D dA ro scr r0 Q) args s r0 (4 * r0) (Af base)) (F0 m p2 ls2 S2) := fun p2 L2 S2 ls2 hL2 hX => hX p l e R s m args below meth c r0 G locs cells slots ls2 K hS hR hL2 hc hs
  simp only [stI] at H
  split at H
  · exact lv_iadd hx hb hd (go _ _ _ _ hL H)
  · exact H.elim
theorem so_isub {oname exn : Nat → String} {cl : List vw_C} {fx : State → Heap → Prop} {base : Nat} {D : va_G} {dA : Nat → ClassId} {ro : va_W} {scr : Nat × List Value} {E : Evn} {M : MD} {pc : Nat} {L S : List Value} {h : Hp} {r d : Nat} {Q : Post} {len tg : Nat}  (hd : decode M.2.2.1 pc = .ok (.isub, len)) (hl : len = 1) (ht : tgt_ pc (ioff (.isub)) = tg) (H : Do1 E (XW oname exn cl fx base D dA ro scr) M pc h r d Q (stI E.2.2 (rdO h) M pc (pc + len) tg L S (.isub))) : (XW oname exn cl fx base D dA ro scr) M pc L S h r d Q := by
  subst hl
  intro p l e R s m args below meth c r0 G locs cells slots ls K hS hR hL hc hs
  have K' := K
  obtain ⟨hx, hb, hml, -⟩ := K'
  have go : ∀ (p2 : Nat) (L2 S2 : List Value) (ls2 : Array Slot), RL ls2 M.2.2.2.1 L2 → (XW oname exn cl fx base D dA ro scr) M p2 L2 S2 h r d Q → W p l e R s m args below meth c G locs cells slots (vx_MQ below (QcE cl base D dA ro scr r0 Q) (XcE exn cl base D dA ro scr r0 Q) args s r0 (4 * r0) (Af base)) (F0 m p2 ls2 S2) := fun p2 L2 S2 ls2 hL2 hX => hX p l e R s m args below meth c r0 G locs cells slots ls2 K hS hR hL2 hc hs
  simp only [stI] at H
  split at H
  · exact lv_isub hx hb hd (go _ _ _ _ hL H)
  · exact H.elim
theorem so_imul {oname exn : Nat → String} {cl : List vw_C} {fx : State → Heap → Prop} {base : Nat} {D : va_G} {dA : Nat → ClassId} {ro : va_W} {scr : Nat × List Value} {E : Evn} {M : MD} {pc : Nat} {L S : List Value} {h : Hp} {r d : Nat} {Q : Post} {len tg : Nat}  (hd : decode M.2.2.1 pc = .ok (.imul, len)) (hl : len = 1) (ht : tgt_ pc (ioff (.imul)) = tg) (H : Do1 E (XW oname exn cl fx base D dA ro scr) M pc h r d Q (stI E.2.2 (rdO h) M pc (pc + len) tg L S (.imul))) : (XW oname exn cl fx base D dA ro scr) M pc L S h r d Q := by
  subst hl
  intro p l e R s m args below meth c r0 G locs cells slots ls K hS hR hL hc hs
  have K' := K
  obtain ⟨hx, hb, hml, -⟩ := K'
  have go : ∀ (p2 : Nat) (L2 S2 : List Value) (ls2 : Array Slot), RL ls2 M.2.2.2.1 L2 → (XW oname exn cl fx base D dA ro scr) M p2 L2 S2 h r d Q → W p l e R s m args below meth c G locs cells slots (vx_MQ below (QcE cl base D dA ro scr r0 Q) (XcE exn cl base D dA ro scr r0 Q) args s r0 (4 * r0) (Af base)) (F0 m p2 ls2 S2) := fun p2 L2 S2 ls2 hL2 hX => hX p l e R s m args below meth c r0 G locs cells slots ls2 K hS hR hL2 hc hs
  simp only [stI] at H
  split at H
  · exact lv_imul hx hb hd (go _ _ _ _ hL H)
  · exact H.elim
theorem so_iand {oname exn : Nat → String} {cl : List vw_C} {fx : State → Heap → Prop} {base : Nat} {D : va_G} {dA : Nat → ClassId} {ro : va_W} {scr : Nat × List Value} {E : Evn} {M : MD} {pc : Nat} {L S : List Value} {h : Hp} {r d : Nat} {Q : Post} {len tg : Nat}  (hd : decode M.2.2.1 pc = .ok (.iand, len)) (hl : len = 1) (ht : tgt_ pc (ioff (.iand)) = tg) (H : Do1 E (XW oname exn cl fx base D dA ro scr) M pc h r d Q (stI E.2.2 (rdO h) M pc (pc + len) tg L S (.iand))) : (XW oname exn cl fx base D dA ro scr) M pc L S h r d Q := by
  subst hl
  intro p l e R s m args below meth c r0 G locs cells slots ls K hS hR hL hc hs
  have K' := K
  obtain ⟨hx, hb, hml, -⟩ := K'
  have go : ∀ (p2 : Nat) (L2 S2 : List Value) (ls2 : Array Slot), RL ls2 M.2.2.2.1 L2 → (XW oname exn cl fx base D dA ro scr) M p2 L2 S2 h r d Q → W p l e R s m args below meth c G locs cells slots (vx_MQ below (QcE cl base D dA ro scr r0 Q) (XcE exn cl base D dA ro scr r0 Q) args s r0 (4 * r0) (Af base)) (F0 m p2 ls2 S2) := fun p2 L2 S2 ls2 hL2 hX => hX p l e R s m args below meth c r0 G locs cells slots ls2 K hS hR hL2 hc hs
  simp only [stI] at H
  split at H
  · exact lv_iand hx hb hd (go _ _ _ _ hL H)
  · exact H.elim
theorem so_ior {oname exn : Nat → String} {cl : List vw_C} {fx : State → Heap → Prop} {base : Nat} {D : va_G} {dA : Nat → ClassId} {ro : va_W} {scr : Nat × List Value} {E : Evn} {M : MD} {pc : Nat} {L S : List Value} {h : Hp} {r d : Nat} {Q : Post} {len tg : Nat}  (hd : decode M.2.2.1 pc = .ok (.ior, len)) (hl : len = 1) (ht : tgt_ pc (ioff (.ior)) = tg) (H : Do1 E (XW oname exn cl fx base D dA ro scr) M pc h r d Q (stI E.2.2 (rdO h) M pc (pc + len) tg L S (.ior))) : (XW oname exn cl fx base D dA ro scr) M pc L S h r d Q := by
  subst hl
  intro p l e R s m args below meth c r0 G locs cells slots ls K hS hR hL hc hs
  have K' := K
  obtain ⟨hx, hb, hml, -⟩ := K'
  have go : ∀ (p2 : Nat) (L2 S2 : List Value) (ls2 : Array Slot), RL ls2 M.2.2.2.1 L2 → (XW oname exn cl fx base D dA ro scr) M p2 L2 S2 h r d Q → W p l e R s m args below meth c G locs cells slots (vx_MQ below (QcE cl base D dA ro scr r0 Q) (XcE exn cl base D dA ro scr r0 Q) args s r0 (4 * r0) (Af base)) (F0 m p2 ls2 S2) := fun p2 L2 S2 ls2 hL2 hX => hX p l e R s m args below meth c r0 G locs cells slots ls2 K hS hR hL2 hc hs
  simp only [stI] at H
  split at H
  · exact lv_ior hx hb hd (go _ _ _ _ hL H)
  · exact H.elim
theorem so_ishl {oname exn : Nat → String} {cl : List vw_C} {fx : State → Heap → Prop} {base : Nat} {D : va_G} {dA : Nat → ClassId} {ro : va_W} {scr : Nat × List Value} {E : Evn} {M : MD} {pc : Nat} {L S : List Value} {h : Hp} {r d : Nat} {Q : Post} {len tg : Nat}  (hd : decode M.2.2.1 pc = .ok (.ishl, len)) (hl : len = 1) (ht : tgt_ pc (ioff (.ishl)) = tg) (H : Do1 E (XW oname exn cl fx base D dA ro scr) M pc h r d Q (stI E.2.2 (rdO h) M pc (pc + len) tg L S (.ishl))) : (XW oname exn cl fx base D dA ro scr) M pc L S h r d Q := by
  subst hl
  intro p l e R s m args below meth c r0 G locs cells slots ls K hS hR hL hc hs
  have K' := K
  obtain ⟨hx, hb, hml, -⟩ := K'
  have go : ∀ (p2 : Nat) (L2 S2 : List Value) (ls2 : Array Slot), RL ls2 M.2.2.2.1 L2 → (XW oname exn cl fx base D dA ro scr) M p2 L2 S2 h r d Q → W p l e R s m args below meth c G locs cells slots (vx_MQ below (QcE cl base D dA ro scr r0 Q) (XcE exn cl base D dA ro scr r0 Q) args s r0 (4 * r0) (Af base)) (F0 m p2 ls2 S2) := fun p2 L2 S2 ls2 hL2 hX => hX p l e R s m args below meth c r0 G locs cells slots ls2 K hS hR hL2 hc hs
  simp only [stI] at H
  split at H
  · exact lv_ishl hx hb hd (go _ _ _ _ hL H)
  · exact H.elim
theorem so_ishr {oname exn : Nat → String} {cl : List vw_C} {fx : State → Heap → Prop} {base : Nat} {D : va_G} {dA : Nat → ClassId} {ro : va_W} {scr : Nat × List Value} {E : Evn} {M : MD} {pc : Nat} {L S : List Value} {h : Hp} {r d : Nat} {Q : Post} {len tg : Nat}  (hd : decode M.2.2.1 pc = .ok (.ishr, len)) (hl : len = 1) (ht : tgt_ pc (ioff (.ishr)) = tg) (H : Do1 E (XW oname exn cl fx base D dA ro scr) M pc h r d Q (stI E.2.2 (rdO h) M pc (pc + len) tg L S (.ishr))) : (XW oname exn cl fx base D dA ro scr) M pc L S h r d Q := by
  subst hl
  intro p l e R s m args below meth c r0 G locs cells slots ls K hS hR hL hc hs
  have K' := K
  obtain ⟨hx, hb, hml, -⟩ := K'
  have go : ∀ (p2 : Nat) (L2 S2 : List Value) (ls2 : Array Slot), RL ls2 M.2.2.2.1 L2 → (XW oname exn cl fx base D dA ro scr) M p2 L2 S2 h r d Q → W p l e R s m args below meth c G locs cells slots (vx_MQ below (QcE cl base D dA ro scr r0 Q) (XcE exn cl base D dA ro scr r0 Q) args s r0 (4 * r0) (Af base)) (F0 m p2 ls2 S2) := fun p2 L2 S2 ls2 hL2 hX => hX p l e R s m args below meth c r0 G locs cells slots ls2 K hS hR hL2 hc hs
  simp only [stI] at H
  split at H
  · exact lv_ishr hx hb hd (go _ _ _ _ hL H)
  · exact H.elim
theorem so_ladd {oname exn : Nat → String} {cl : List vw_C} {fx : State → Heap → Prop} {base : Nat} {D : va_G} {dA : Nat → ClassId} {ro : va_W} {scr : Nat × List Value} {E : Evn} {M : MD} {pc : Nat} {L S : List Value} {h : Hp} {r d : Nat} {Q : Post} {len tg : Nat}  (hd : decode M.2.2.1 pc = .ok (.ladd, len)) (hl : len = 1) (ht : tgt_ pc (ioff (.ladd)) = tg) (H : Do1 E (XW oname exn cl fx base D dA ro scr) M pc h r d Q (stI E.2.2 (rdO h) M pc (pc + len) tg L S (.ladd))) : (XW oname exn cl fx base D dA ro scr) M pc L S h r d Q := by
  subst hl
  intro p l e R s m args below meth c r0 G locs cells slots ls K hS hR hL hc hs
  have K' := K
  obtain ⟨hx, hb, hml, -⟩ := K'
  have go : ∀ (p2 : Nat) (L2 S2 : List Value) (ls2 : Array Slot), RL ls2 M.2.2.2.1 L2 → (XW oname exn cl fx base D dA ro scr) M p2 L2 S2 h r d Q → W p l e R s m args below meth c G locs cells slots (vx_MQ below (QcE cl base D dA ro scr r0 Q) (XcE exn cl base D dA ro scr r0 Q) args s r0 (4 * r0) (Af base)) (F0 m p2 ls2 S2) := fun p2 L2 S2 ls2 hL2 hX => hX p l e R s m args below meth c r0 G locs cells slots ls2 K hS hR hL2 hc hs
  simp only [stI] at H
  split at H
  · exact lv_ladd hx hb hd (go _ _ _ _ hL H)
  · exact H.elim
theorem so_lsub {oname exn : Nat → String} {cl : List vw_C} {fx : State → Heap → Prop} {base : Nat} {D : va_G} {dA : Nat → ClassId} {ro : va_W} {scr : Nat × List Value} {E : Evn} {M : MD} {pc : Nat} {L S : List Value} {h : Hp} {r d : Nat} {Q : Post} {len tg : Nat}  (hd : decode M.2.2.1 pc = .ok (.lsub, len)) (hl : len = 1) (ht : tgt_ pc (ioff (.lsub)) = tg) (H : Do1 E (XW oname exn cl fx base D dA ro scr) M pc h r d Q (stI E.2.2 (rdO h) M pc (pc + len) tg L S (.lsub))) : (XW oname exn cl fx base D dA ro scr) M pc L S h r d Q := by
  subst hl
  intro p l e R s m args below meth c r0 G locs cells slots ls K hS hR hL hc hs
  have K' := K
  obtain ⟨hx, hb, hml, -⟩ := K'
  have go : ∀ (p2 : Nat) (L2 S2 : List Value) (ls2 : Array Slot), RL ls2 M.2.2.2.1 L2 → (XW oname exn cl fx base D dA ro scr) M p2 L2 S2 h r d Q → W p l e R s m args below meth c G locs cells slots (vx_MQ below (QcE cl base D dA ro scr r0 Q) (XcE exn cl base D dA ro scr r0 Q) args s r0 (4 * r0) (Af base)) (F0 m p2 ls2 S2) := fun p2 L2 S2 ls2 hL2 hX => hX p l e R s m args below meth c r0 G locs cells slots ls2 K hS hR hL2 hc hs
  simp only [stI] at H
  split at H
  · exact lv_lsub hx hb hd (go _ _ _ _ hL H)
  · exact H.elim
theorem so_lmul {oname exn : Nat → String} {cl : List vw_C} {fx : State → Heap → Prop} {base : Nat} {D : va_G} {dA : Nat → ClassId} {ro : va_W} {scr : Nat × List Value} {E : Evn} {M : MD} {pc : Nat} {L S : List Value} {h : Hp} {r d : Nat} {Q : Post} {len tg : Nat}  (hd : decode M.2.2.1 pc = .ok (.lmul, len)) (hl : len = 1) (ht : tgt_ pc (ioff (.lmul)) = tg) (H : Do1 E (XW oname exn cl fx base D dA ro scr) M pc h r d Q (stI E.2.2 (rdO h) M pc (pc + len) tg L S (.lmul))) : (XW oname exn cl fx base D dA ro scr) M pc L S h r d Q := by
  subst hl
  intro p l e R s m args below meth c r0 G locs cells slots ls K hS hR hL hc hs
  have K' := K
  obtain ⟨hx, hb, hml, -⟩ := K'
  have go : ∀ (p2 : Nat) (L2 S2 : List Value) (ls2 : Array Slot), RL ls2 M.2.2.2.1 L2 → (XW oname exn cl fx base D dA ro scr) M p2 L2 S2 h r d Q → W p l e R s m args below meth c G locs cells slots (vx_MQ below (QcE cl base D dA ro scr r0 Q) (XcE exn cl base D dA ro scr r0 Q) args s r0 (4 * r0) (Af base)) (F0 m p2 ls2 S2) := fun p2 L2 S2 ls2 hL2 hX => hX p l e R s m args below meth c r0 G locs cells slots ls2 K hS hR hL2 hc hs
  simp only [stI] at H
  split at H
  · exact lv_lmul hx hb hd (go _ _ _ _ hL H)
  · exact H.elim
theorem so_iushr {oname exn : Nat → String} {cl : List vw_C} {fx : State → Heap → Prop} {base : Nat} {D : va_G} {dA : Nat → ClassId} {ro : va_W} {scr : Nat × List Value} {E : Evn} {M : MD} {pc : Nat} {L S : List Value} {h : Hp} {r d : Nat} {Q : Post} {len tg : Nat}  (hd : decode M.2.2.1 pc = .ok (.iushr, len)) (hl : len = 1) (ht : tgt_ pc (ioff (.iushr)) = tg) (H : Do1 E (XW oname exn cl fx base D dA ro scr) M pc h r d Q (stI E.2.2 (rdO h) M pc (pc + len) tg L S (.iushr))) : (XW oname exn cl fx base D dA ro scr) M pc L S h r d Q := by
  subst hl
  intro p l e R s m args below meth c r0 G locs cells slots ls K hS hR hL hc hs
  have K' := K
  obtain ⟨hx, hb, hml, -⟩ := K'
  have go : ∀ (p2 : Nat) (L2 S2 : List Value) (ls2 : Array Slot), RL ls2 M.2.2.2.1 L2 → (XW oname exn cl fx base D dA ro scr) M p2 L2 S2 h r d Q → W p l e R s m args below meth c G locs cells slots (vx_MQ below (QcE cl base D dA ro scr r0 Q) (XcE exn cl base D dA ro scr r0 Q) args s r0 (4 * r0) (Af base)) (F0 m p2 ls2 S2) := fun p2 L2 S2 ls2 hL2 hX => hX p l e R s m args below meth c r0 G locs cells slots ls2 K hS hR hL2 hc hs
  simp only [stI] at H
  split at H
  · exact lv_iushr hx hb hd rfl (go _ _ _ _ hL H)
  · exact H.elim
theorem so_idiv {oname exn : Nat → String} {cl : List vw_C} {fx : State → Heap → Prop} {base : Nat} {D : va_G} {dA : Nat → ClassId} {ro : va_W} {scr : Nat × List Value} {E : Evn} {M : MD} {pc : Nat} {L S : List Value} {h : Hp} {r d : Nat} {Q : Post} {len tg : Nat}  (hd : decode M.2.2.1 pc = .ok (.idiv, len)) (hl : len = 1) (ht : tgt_ pc (ioff (.idiv)) = tg) (H : Do1 E (XW oname exn cl fx base D dA ro scr) M pc h r d Q (stI E.2.2 (rdO h) M pc (pc + len) tg L S (.idiv))) : (XW oname exn cl fx base D dA ro scr) M pc L S h r d Q := by
  subst hl
  intro p l e R s m args below meth c r0 G locs cells slots ls K hS hR hL hc hs
  have K' := K
  obtain ⟨hx, hb, hml, -⟩ := K'
  have go : ∀ (p2 : Nat) (L2 S2 : List Value) (ls2 : Array Slot), RL ls2 M.2.2.2.1 L2 → (XW oname exn cl fx base D dA ro scr) M p2 L2 S2 h r d Q → W p l e R s m args below meth c G locs cells slots (vx_MQ below (QcE cl base D dA ro scr r0 Q) (XcE exn cl base D dA ro scr r0 Q) args s r0 (4 * r0) (Af base)) (F0 m p2 ls2 S2) := fun p2 L2 S2 ls2 hL2 hX => hX p l e R s m args below meth c r0 G locs cells slots ls2 K hS hR hL2 hc hs
  simp only [stI] at H
  split at H
  · split at H
    · exact H.elim
    · rename_i hne
      exact lv_idiv hx hb hd hne (go _ _ _ _ hL H)
  · exact H.elim
theorem so_irem {oname exn : Nat → String} {cl : List vw_C} {fx : State → Heap → Prop} {base : Nat} {D : va_G} {dA : Nat → ClassId} {ro : va_W} {scr : Nat × List Value} {E : Evn} {M : MD} {pc : Nat} {L S : List Value} {h : Hp} {r d : Nat} {Q : Post} {len tg : Nat}  (hd : decode M.2.2.1 pc = .ok (.irem, len)) (hl : len = 1) (ht : tgt_ pc (ioff (.irem)) = tg) (H : Do1 E (XW oname exn cl fx base D dA ro scr) M pc h r d Q (stI E.2.2 (rdO h) M pc (pc + len) tg L S (.irem))) : (XW oname exn cl fx base D dA ro scr) M pc L S h r d Q := by
  subst hl
  intro p l e R s m args below meth c r0 G locs cells slots ls K hS hR hL hc hs
  have K' := K
  obtain ⟨hx, hb, hml, -⟩ := K'
  have go : ∀ (p2 : Nat) (L2 S2 : List Value) (ls2 : Array Slot), RL ls2 M.2.2.2.1 L2 → (XW oname exn cl fx base D dA ro scr) M p2 L2 S2 h r d Q → W p l e R s m args below meth c G locs cells slots (vx_MQ below (QcE cl base D dA ro scr r0 Q) (XcE exn cl base D dA ro scr r0 Q) args s r0 (4 * r0) (Af base)) (F0 m p2 ls2 S2) := fun p2 L2 S2 ls2 hL2 hX => hX p l e R s m args below meth c r0 G locs cells slots ls2 K hS hR hL2 hc hs
  simp only [stI] at H
  split at H
  · split at H
    · exact H.elim
    · rename_i hne
      exact lv_irem hx hb hd hne (go _ _ _ _ hL H)
  · exact H.elim
theorem so_ldiv {oname exn : Nat → String} {cl : List vw_C} {fx : State → Heap → Prop} {base : Nat} {D : va_G} {dA : Nat → ClassId} {ro : va_W} {scr : Nat × List Value} {E : Evn} {M : MD} {pc : Nat} {L S : List Value} {h : Hp} {r d : Nat} {Q : Post} {len tg : Nat}  (hd : decode M.2.2.1 pc = .ok (.ldiv, len)) (hl : len = 1) (ht : tgt_ pc (ioff (.ldiv)) = tg) (H : Do1 E (XW oname exn cl fx base D dA ro scr) M pc h r d Q (stI E.2.2 (rdO h) M pc (pc + len) tg L S (.ldiv))) : (XW oname exn cl fx base D dA ro scr) M pc L S h r d Q := by
  subst hl
  intro p l e R s m args below meth c r0 G locs cells slots ls K hS hR hL hc hs
  have K' := K
  obtain ⟨hx, hb, hml, -⟩ := K'
  have go : ∀ (p2 : Nat) (L2 S2 : List Value) (ls2 : Array Slot), RL ls2 M.2.2.2.1 L2 → (XW oname exn cl fx base D dA ro scr) M p2 L2 S2 h r d Q → W p l e R s m args below meth c G locs cells slots (vx_MQ below (QcE cl base D dA ro scr r0 Q) (XcE exn cl base D dA ro scr r0 Q) args s r0 (4 * r0) (Af base)) (F0 m p2 ls2 S2) := fun p2 L2 S2 ls2 hL2 hX => hX p l e R s m args below meth c r0 G locs cells slots ls2 K hS hR hL2 hc hs
  simp only [stI] at H
  split at H
  · split at H
    · exact H.elim
    · rename_i hne
      exact lv_ldiv hx hb hd hne (go _ _ _ _ hL H)
  · exact H.elim
theorem so_ineg {oname exn : Nat → String} {cl : List vw_C} {fx : State → Heap → Prop} {base : Nat} {D : va_G} {dA : Nat → ClassId} {ro : va_W} {scr : Nat × List Value} {E : Evn} {M : MD} {pc : Nat} {L S : List Value} {h : Hp} {r d : Nat} {Q : Post} {len tg : Nat}  (hd : decode M.2.2.1 pc = .ok (.ineg, len)) (hl : len = 1) (ht : tgt_ pc (ioff (.ineg)) = tg) (H : Do1 E (XW oname exn cl fx base D dA ro scr) M pc h r d Q (stI E.2.2 (rdO h) M pc (pc + len) tg L S (.ineg))) : (XW oname exn cl fx base D dA ro scr) M pc L S h r d Q := by
  subst hl
  intro p l e R s m args below meth c r0 G locs cells slots ls K hS hR hL hc hs
  have K' := K
  obtain ⟨hx, hb, hml, -⟩ := K'
  have go : ∀ (p2 : Nat) (L2 S2 : List Value) (ls2 : Array Slot), RL ls2 M.2.2.2.1 L2 → (XW oname exn cl fx base D dA ro scr) M p2 L2 S2 h r d Q → W p l e R s m args below meth c G locs cells slots (vx_MQ below (QcE cl base D dA ro scr r0 Q) (XcE exn cl base D dA ro scr r0 Q) args s r0 (4 * r0) (Af base)) (F0 m p2 ls2 S2) := fun p2 L2 S2 ls2 hL2 hX => hX p l e R s m args below meth c r0 G locs cells slots ls2 K hS hR hL2 hc hs
  simp only [stI] at H
  split at H
  · exact lv_ineg hx hb hd (go _ _ _ _ hL H)
  · exact H.elim
theorem so_lneg {oname exn : Nat → String} {cl : List vw_C} {fx : State → Heap → Prop} {base : Nat} {D : va_G} {dA : Nat → ClassId} {ro : va_W} {scr : Nat × List Value} {E : Evn} {M : MD} {pc : Nat} {L S : List Value} {h : Hp} {r d : Nat} {Q : Post} {len tg : Nat}  (hd : decode M.2.2.1 pc = .ok (.lneg, len)) (hl : len = 1) (ht : tgt_ pc (ioff (.lneg)) = tg) (H : Do1 E (XW oname exn cl fx base D dA ro scr) M pc h r d Q (stI E.2.2 (rdO h) M pc (pc + len) tg L S (.lneg))) : (XW oname exn cl fx base D dA ro scr) M pc L S h r d Q := by
  subst hl
  intro p l e R s m args below meth c r0 G locs cells slots ls K hS hR hL hc hs
  have K' := K
  obtain ⟨hx, hb, hml, -⟩ := K'
  have go : ∀ (p2 : Nat) (L2 S2 : List Value) (ls2 : Array Slot), RL ls2 M.2.2.2.1 L2 → (XW oname exn cl fx base D dA ro scr) M p2 L2 S2 h r d Q → W p l e R s m args below meth c G locs cells slots (vx_MQ below (QcE cl base D dA ro scr r0 Q) (XcE exn cl base D dA ro scr r0 Q) args s r0 (4 * r0) (Af base)) (F0 m p2 ls2 S2) := fun p2 L2 S2 ls2 hL2 hX => hX p l e R s m args below meth c r0 G locs cells slots ls2 K hS hR hL2 hc hs
  simp only [stI] at H
  split at H
  · exact lv_lneg hx hb hd (go _ _ _ _ hL H)
  · exact H.elim
theorem so_i2l {oname exn : Nat → String} {cl : List vw_C} {fx : State → Heap → Prop} {base : Nat} {D : va_G} {dA : Nat → ClassId} {ro : va_W} {scr : Nat × List Value} {E : Evn} {M : MD} {pc : Nat} {L S : List Value} {h : Hp} {r d : Nat} {Q : Post} {len tg : Nat}  (hd : decode M.2.2.1 pc = .ok (.i2l, len)) (hl : len = 1) (ht : tgt_ pc (ioff (.i2l)) = tg) (H : Do1 E (XW oname exn cl fx base D dA ro scr) M pc h r d Q (stI E.2.2 (rdO h) M pc (pc + len) tg L S (.i2l))) : (XW oname exn cl fx base D dA ro scr) M pc L S h r d Q := by
  subst hl
  intro p l e R s m args below meth c r0 G locs cells slots ls K hS hR hL hc hs
  have K' := K
  obtain ⟨hx, hb, hml, -⟩ := K'
  have go : ∀ (p2 : Nat) (L2 S2 : List Value) (ls2 : Array Slot), RL ls2 M.2.2.2.1 L2 → (XW oname exn cl fx base D dA ro scr) M p2 L2 S2 h r d Q → W p l e R s m args below meth c G locs cells slots (vx_MQ below (QcE cl base D dA ro scr r0 Q) (XcE exn cl base D dA ro scr r0 Q) args s r0 (4 * r0) (Af base)) (F0 m p2 ls2 S2) := fun p2 L2 S2 ls2 hL2 hX => hX p l e R s m args below meth c r0 G locs cells slots ls2 K hS hR hL2 hc hs
  simp only [stI] at H
  split at H
  · exact lv_i2l hx hb hd rfl (go _ _ _ _ hL H)
  · exact H.elim
theorem so_l2i {oname exn : Nat → String} {cl : List vw_C} {fx : State → Heap → Prop} {base : Nat} {D : va_G} {dA : Nat → ClassId} {ro : va_W} {scr : Nat × List Value} {E : Evn} {M : MD} {pc : Nat} {L S : List Value} {h : Hp} {r d : Nat} {Q : Post} {len tg : Nat}  (hd : decode M.2.2.1 pc = .ok (.l2i, len)) (hl : len = 1) (ht : tgt_ pc (ioff (.l2i)) = tg) (H : Do1 E (XW oname exn cl fx base D dA ro scr) M pc h r d Q (stI E.2.2 (rdO h) M pc (pc + len) tg L S (.l2i))) : (XW oname exn cl fx base D dA ro scr) M pc L S h r d Q := by
  subst hl
  intro p l e R s m args below meth c r0 G locs cells slots ls K hS hR hL hc hs
  have K' := K
  obtain ⟨hx, hb, hml, -⟩ := K'
  have go : ∀ (p2 : Nat) (L2 S2 : List Value) (ls2 : Array Slot), RL ls2 M.2.2.2.1 L2 → (XW oname exn cl fx base D dA ro scr) M p2 L2 S2 h r d Q → W p l e R s m args below meth c G locs cells slots (vx_MQ below (QcE cl base D dA ro scr r0 Q) (XcE exn cl base D dA ro scr r0 Q) args s r0 (4 * r0) (Af base)) (F0 m p2 ls2 S2) := fun p2 L2 S2 ls2 hL2 hX => hX p l e R s m args below meth c r0 G locs cells slots ls2 K hS hR hL2 hc hs
  simp only [stI] at H
  split at H
  · exact lv_l2i hx hb hd rfl (go _ _ _ _ hL H)
  · exact H.elim
theorem so_i2c {oname exn : Nat → String} {cl : List vw_C} {fx : State → Heap → Prop} {base : Nat} {D : va_G} {dA : Nat → ClassId} {ro : va_W} {scr : Nat × List Value} {E : Evn} {M : MD} {pc : Nat} {L S : List Value} {h : Hp} {r d : Nat} {Q : Post} {len tg : Nat}  (hd : decode M.2.2.1 pc = .ok (.i2c, len)) (hl : len = 1) (ht : tgt_ pc (ioff (.i2c)) = tg) (H : Do1 E (XW oname exn cl fx base D dA ro scr) M pc h r d Q (stI E.2.2 (rdO h) M pc (pc + len) tg L S (.i2c))) : (XW oname exn cl fx base D dA ro scr) M pc L S h r d Q := by
  subst hl
  intro p l e R s m args below meth c r0 G locs cells slots ls K hS hR hL hc hs
  have K' := K
  obtain ⟨hx, hb, hml, -⟩ := K'
  have go : ∀ (p2 : Nat) (L2 S2 : List Value) (ls2 : Array Slot), RL ls2 M.2.2.2.1 L2 → (XW oname exn cl fx base D dA ro scr) M p2 L2 S2 h r d Q → W p l e R s m args below meth c G locs cells slots (vx_MQ below (QcE cl base D dA ro scr r0 Q) (XcE exn cl base D dA ro scr r0 Q) args s r0 (4 * r0) (Af base)) (F0 m p2 ls2 S2) := fun p2 L2 S2 ls2 hL2 hX => hX p l e R s m args below meth c r0 G locs cells slots ls2 K hS hR hL2 hc hs
  simp only [stI] at H
  split at H
  · exact lv_i2c hx hb hd rfl (go _ _ _ _ hL H)
  · exact H.elim
theorem so_i2f {oname exn : Nat → String} {cl : List vw_C} {fx : State → Heap → Prop} {base : Nat} {D : va_G} {dA : Nat → ClassId} {ro : va_W} {scr : Nat × List Value} {E : Evn} {M : MD} {pc : Nat} {L S : List Value} {h : Hp} {r d : Nat} {Q : Post} {len tg : Nat}  (hd : decode M.2.2.1 pc = .ok (.i2f, len)) (hl : len = 1) (ht : tgt_ pc (ioff (.i2f)) = tg) (H : Do1 E (XW oname exn cl fx base D dA ro scr) M pc h r d Q (stI E.2.2 (rdO h) M pc (pc + len) tg L S (.i2f))) : (XW oname exn cl fx base D dA ro scr) M pc L S h r d Q := by
  subst hl
  intro p l e R s m args below meth c r0 G locs cells slots ls K hS hR hL hc hs
  have K' := K
  obtain ⟨hx, hb, hml, -⟩ := K'
  have go : ∀ (p2 : Nat) (L2 S2 : List Value) (ls2 : Array Slot), RL ls2 M.2.2.2.1 L2 → (XW oname exn cl fx base D dA ro scr) M p2 L2 S2 h r d Q → W p l e R s m args below meth c G locs cells slots (vx_MQ below (QcE cl base D dA ro scr r0 Q) (XcE exn cl base D dA ro scr r0 Q) args s r0 (4 * r0) (Af base)) (F0 m p2 ls2 S2) := fun p2 L2 S2 ls2 hL2 hX => hX p l e R s m args below meth c r0 G locs cells slots ls2 K hS hR hL2 hc hs
  simp only [stI] at H
  split at H
  · exact lv_i2f hx hb hd (go _ _ _ _ hL H)
  · exact H.elim
theorem so_i2d {oname exn : Nat → String} {cl : List vw_C} {fx : State → Heap → Prop} {base : Nat} {D : va_G} {dA : Nat → ClassId} {ro : va_W} {scr : Nat × List Value} {E : Evn} {M : MD} {pc : Nat} {L S : List Value} {h : Hp} {r d : Nat} {Q : Post} {len tg : Nat}  (hd : decode M.2.2.1 pc = .ok (.i2d, len)) (hl : len = 1) (ht : tgt_ pc (ioff (.i2d)) = tg) (H : Do1 E (XW oname exn cl fx base D dA ro scr) M pc h r d Q (stI E.2.2 (rdO h) M pc (pc + len) tg L S (.i2d))) : (XW oname exn cl fx base D dA ro scr) M pc L S h r d Q := by
  subst hl
  intro p l e R s m args below meth c r0 G locs cells slots ls K hS hR hL hc hs
  have K' := K
  obtain ⟨hx, hb, hml, -⟩ := K'
  have go : ∀ (p2 : Nat) (L2 S2 : List Value) (ls2 : Array Slot), RL ls2 M.2.2.2.1 L2 → (XW oname exn cl fx base D dA ro scr) M p2 L2 S2 h r d Q → W p l e R s m args below meth c G locs cells slots (vx_MQ below (QcE cl base D dA ro scr r0 Q) (XcE exn cl base D dA ro scr r0 Q) args s r0 (4 * r0) (Af base)) (F0 m p2 ls2 S2) := fun p2 L2 S2 ls2 hL2 hX => hX p l e R s m args below meth c r0 G locs cells slots ls2 K hS hR hL2 hc hs
  simp only [stI] at H
  split at H
  · exact lv_i2d hx hb hd (go _ _ _ _ hL H)
  · exact H.elim
theorem so_l2d {oname exn : Nat → String} {cl : List vw_C} {fx : State → Heap → Prop} {base : Nat} {D : va_G} {dA : Nat → ClassId} {ro : va_W} {scr : Nat × List Value} {E : Evn} {M : MD} {pc : Nat} {L S : List Value} {h : Hp} {r d : Nat} {Q : Post} {len tg : Nat}  (hd : decode M.2.2.1 pc = .ok (.l2d, len)) (hl : len = 1) (ht : tgt_ pc (ioff (.l2d)) = tg) (H : Do1 E (XW oname exn cl fx base D dA ro scr) M pc h r d Q (stI E.2.2 (rdO h) M pc (pc + len) tg L S (.l2d))) : (XW oname exn cl fx base D dA ro scr) M pc L S h r d Q := by
  subst hl
  intro p l e R s m args below meth c r0 G locs cells slots ls K hS hR hL hc hs
  have K' := K
  obtain ⟨hx, hb, hml, -⟩ := K'
  have go : ∀ (p2 : Nat) (L2 S2 : List Value) (ls2 : Array Slot), RL ls2 M.2.2.2.1 L2 → (XW oname exn cl fx base D dA ro scr) M p2 L2 S2 h r d Q → W p l e R s m args below meth c G locs cells slots (vx_MQ below (QcE cl base D dA ro scr r0 Q) (XcE exn cl base D dA ro scr r0 Q) args s r0 (4 * r0) (Af base)) (F0 m p2 ls2 S2) := fun p2 L2 S2 ls2 hL2 hX => hX p l e R s m args below meth c r0 G locs cells slots ls2 K hS hR hL2 hc hs
  simp only [stI] at H
  split at H
  · exact lv_l2d hx hb hd (go _ _ _ _ hL H)
  · exact H.elim
theorem so_f2d {oname exn : Nat → String} {cl : List vw_C} {fx : State → Heap → Prop} {base : Nat} {D : va_G} {dA : Nat → ClassId} {ro : va_W} {scr : Nat × List Value} {E : Evn} {M : MD} {pc : Nat} {L S : List Value} {h : Hp} {r d : Nat} {Q : Post} {len tg : Nat}  (hd : decode M.2.2.1 pc = .ok (.f2d, len)) (hl : len = 1) (ht : tgt_ pc (ioff (.f2d)) = tg) (H : Do1 E (XW oname exn cl fx base D dA ro scr) M pc h r d Q (stI E.2.2 (rdO h) M pc (pc + len) tg L S (.f2d))) : (XW oname exn cl fx base D dA ro scr) M pc L S h r d Q := by
  subst hl
  intro p l e R s m args below meth c r0 G locs cells slots ls K hS hR hL hc hs
  have K' := K
  obtain ⟨hx, hb, hml, -⟩ := K'
  have go : ∀ (p2 : Nat) (L2 S2 : List Value) (ls2 : Array Slot), RL ls2 M.2.2.2.1 L2 → (XW oname exn cl fx base D dA ro scr) M p2 L2 S2 h r d Q → W p l e R s m args below meth c G locs cells slots (vx_MQ below (QcE cl base D dA ro scr r0 Q) (XcE exn cl base D dA ro scr r0 Q) args s r0 (4 * r0) (Af base)) (F0 m p2 ls2 S2) := fun p2 L2 S2 ls2 hL2 hX => hX p l e R s m args below meth c r0 G locs cells slots ls2 K hS hR hL2 hc hs
  simp only [stI] at H
  split at H
  · split at H
    · rename_i hne
      exact lv_f2d hx hb hd hne (go _ _ _ _ hL H)
    · exact H.elim
  · exact H.elim
theorem so_fdiv {oname exn : Nat → String} {cl : List vw_C} {fx : State → Heap → Prop} {base : Nat} {D : va_G} {dA : Nat → ClassId} {ro : va_W} {scr : Nat × List Value} {E : Evn} {M : MD} {pc : Nat} {L S : List Value} {h : Hp} {r d : Nat} {Q : Post} {len tg : Nat}  (hd : decode M.2.2.1 pc = .ok (.fdiv, len)) (hl : len = 1) (ht : tgt_ pc (ioff (.fdiv)) = tg) (H : Do1 E (XW oname exn cl fx base D dA ro scr) M pc h r d Q (stI E.2.2 (rdO h) M pc (pc + len) tg L S (.fdiv))) : (XW oname exn cl fx base D dA ro scr) M pc L S h r d Q := by
  subst hl
  intro p l e R s m args below meth c r0 G locs cells slots ls K hS hR hL hc hs
  have K' := K
  obtain ⟨hx, hb, hml, -⟩ := K'
  have go : ∀ (p2 : Nat) (L2 S2 : List Value) (ls2 : Array Slot), RL ls2 M.2.2.2.1 L2 → (XW oname exn cl fx base D dA ro scr) M p2 L2 S2 h r d Q → W p l e R s m args below meth c G locs cells slots (vx_MQ below (QcE cl base D dA ro scr r0 Q) (XcE exn cl base D dA ro scr r0 Q) args s r0 (4 * r0) (Af base)) (F0 m p2 ls2 S2) := fun p2 L2 S2 ls2 hL2 hX => hX p l e R s m args below meth c r0 G locs cells slots ls2 K hS hR hL2 hc hs
  simp only [stI] at H
  split at H
  · split at H
    · rename_i hne
      exact lv_fdiv hx hb hd hne (go _ _ _ _ hL H)
    · exact H.elim
  · exact H.elim
theorem so_ddiv {oname exn : Nat → String} {cl : List vw_C} {fx : State → Heap → Prop} {base : Nat} {D : va_G} {dA : Nat → ClassId} {ro : va_W} {scr : Nat × List Value} {E : Evn} {M : MD} {pc : Nat} {L S : List Value} {h : Hp} {r d : Nat} {Q : Post} {len tg : Nat}  (hd : decode M.2.2.1 pc = .ok (.ddiv, len)) (hl : len = 1) (ht : tgt_ pc (ioff (.ddiv)) = tg) (H : Do1 E (XW oname exn cl fx base D dA ro scr) M pc h r d Q (stI E.2.2 (rdO h) M pc (pc + len) tg L S (.ddiv))) : (XW oname exn cl fx base D dA ro scr) M pc L S h r d Q := by
  subst hl
  intro p l e R s m args below meth c r0 G locs cells slots ls K hS hR hL hc hs
  have K' := K
  obtain ⟨hx, hb, hml, -⟩ := K'
  have go : ∀ (p2 : Nat) (L2 S2 : List Value) (ls2 : Array Slot), RL ls2 M.2.2.2.1 L2 → (XW oname exn cl fx base D dA ro scr) M p2 L2 S2 h r d Q → W p l e R s m args below meth c G locs cells slots (vx_MQ below (QcE cl base D dA ro scr r0 Q) (XcE exn cl base D dA ro scr r0 Q) args s r0 (4 * r0) (Af base)) (F0 m p2 ls2 S2) := fun p2 L2 S2 ls2 hL2 hX => hX p l e R s m args below meth c r0 G locs cells slots ls2 K hS hR hL2 hc hs
  simp only [stI] at H
  split at H
  · split at H
    · rename_i hne
      exact lv_ddiv hx hb hd hne (go _ _ _ _ hL H)
    · exact H.elim
  · exact H.elim
theorem so_lcmp {oname exn : Nat → String} {cl : List vw_C} {fx : State → Heap → Prop} {base : Nat} {D : va_G} {dA : Nat → ClassId} {ro : va_W} {scr : Nat × List Value} {E : Evn} {M : MD} {pc : Nat} {L S : List Value} {h : Hp} {r d : Nat} {Q : Post} {len tg : Nat}  (hd : decode M.2.2.1 pc = .ok (.lcmp, len)) (hl : len = 1) (ht : tgt_ pc (ioff (.lcmp)) = tg) (H : Do1 E (XW oname exn cl fx base D dA ro scr) M pc h r d Q (stI E.2.2 (rdO h) M pc (pc + len) tg L S (.lcmp))) : (XW oname exn cl fx base D dA ro scr) M pc L S h r d Q := by
  subst hl
  intro p l e R s m args below meth c r0 G locs cells slots ls K hS hR hL hc hs
  have K' := K
  obtain ⟨hx, hb, hml, -⟩ := K'
  have go : ∀ (p2 : Nat) (L2 S2 : List Value) (ls2 : Array Slot), RL ls2 M.2.2.2.1 L2 → (XW oname exn cl fx base D dA ro scr) M p2 L2 S2 h r d Q → W p l e R s m args below meth c G locs cells slots (vx_MQ below (QcE cl base D dA ro scr r0 Q) (XcE exn cl base D dA ro scr r0 Q) args s r0 (4 * r0) (Af base)) (F0 m p2 ls2 S2) := fun p2 L2 S2 ls2 hL2 hX => hX p l e R s m args below meth c r0 G locs cells slots ls2 K hS hR hL2 hc hs
  simp only [stI] at H
  split at H
  · exact W.lcmp hx hb hd (go _ _ _ _ hL H)
  · exact H.elim
theorem so_fcmp {oname exn : Nat → String} {cl : List vw_C} {fx : State → Heap → Prop} {base : Nat} {D : va_G} {dA : Nat → ClassId} {ro : va_W} {scr : Nat × List Value} {E : Evn} {M : MD} {pc : Nat} {L S : List Value} {h : Hp} {r d : Nat} {Q : Post} {len tg : Nat} {op : CmpOp} (hd : decode M.2.2.1 pc = .ok (.fcmp op, len)) (hl : len = 1) (ht : tgt_ pc (ioff (.fcmp op)) = tg) (H : Do1 E (XW oname exn cl fx base D dA ro scr) M pc h r d Q (stI E.2.2 (rdO h) M pc (pc + len) tg L S (.fcmp op))) : (XW oname exn cl fx base D dA ro scr) M pc L S h r d Q := by
  subst hl
  intro p l e R s m args below meth c r0 G locs cells slots ls K hS hR hL hc hs
  have K' := K
  obtain ⟨hx, hb, hml, -⟩ := K'
  have go : ∀ (p2 : Nat) (L2 S2 : List Value) (ls2 : Array Slot), RL ls2 M.2.2.2.1 L2 → (XW oname exn cl fx base D dA ro scr) M p2 L2 S2 h r d Q → W p l e R s m args below meth c G locs cells slots (vx_MQ below (QcE cl base D dA ro scr r0 Q) (XcE exn cl base D dA ro scr r0 Q) args s r0 (4 * r0) (Af base)) (F0 m p2 ls2 S2) := fun p2 L2 S2 ls2 hL2 hX => hX p l e R s m args below meth c r0 G locs cells slots ls2 K hS hR hL2 hc hs
  simp only [stI] at H
  split at H
  · exact lv_fcmp hx hb hd (go _ _ _ _ hL H)
  · exact H.elim
theorem so_dcmp {oname exn : Nat → String} {cl : List vw_C} {fx : State → Heap → Prop} {base : Nat} {D : va_G} {dA : Nat → ClassId} {ro : va_W} {scr : Nat × List Value} {E : Evn} {M : MD} {pc : Nat} {L S : List Value} {h : Hp} {r d : Nat} {Q : Post} {len tg : Nat} {op : CmpOp} (hd : decode M.2.2.1 pc = .ok (.dcmp op, len)) (hl : len = 1) (ht : tgt_ pc (ioff (.dcmp op)) = tg) (H : Do1 E (XW oname exn cl fx base D dA ro scr) M pc h r d Q (stI E.2.2 (rdO h) M pc (pc + len) tg L S (.dcmp op))) : (XW oname exn cl fx base D dA ro scr) M pc L S h r d Q := by
  subst hl
  intro p l e R s m args below meth c r0 G locs cells slots ls K hS hR hL hc hs
  have K' := K
  obtain ⟨hx, hb, hml, -⟩ := K'
  have go : ∀ (p2 : Nat) (L2 S2 : List Value) (ls2 : Array Slot), RL ls2 M.2.2.2.1 L2 → (XW oname exn cl fx base D dA ro scr) M p2 L2 S2 h r d Q → W p l e R s m args below meth c G locs cells slots (vx_MQ below (QcE cl base D dA ro scr r0 Q) (XcE exn cl base D dA ro scr r0 Q) args s r0 (4 * r0) (Af base)) (F0 m p2 ls2 S2) := fun p2 L2 S2 ls2 hL2 hX => hX p l e R s m args below meth c r0 G locs cells slots ls2 K hS hR hL2 hc hs
  simp only [stI] at H
  split at H
  · exact lv_dcmp hx hb hd (go _ _ _ _ hL H)
  · exact H.elim
theorem cat_1 {v : Value} (h : ¬ cat2 v = true) : v.category = 1 := by cases v <;> first | rfl | exact absurd rfl h
theorem cat_2 {v : Value} (h : cat2 v = true) : v.category = 2 := (cat2_iff v).mp h
theorem so_dup {oname exn : Nat → String} {cl : List vw_C} {fx : State → Heap → Prop} {base : Nat} {D : va_G} {dA : Nat → ClassId} {ro : va_W} {scr : Nat × List Value} {E : Evn} {M : MD} {pc : Nat} {L S : List Value} {h : Hp} {r d : Nat} {Q : Post} {len tg : Nat}  (hd : decode M.2.2.1 pc = .ok (.dup, len)) (hl : len = 1) (ht : tgt_ pc (ioff (.dup)) = tg) (H : Do1 E (XW oname exn cl fx base D dA ro scr) M pc h r d Q (stI E.2.2 (rdO h) M pc (pc + len) tg L S (.dup))) : (XW oname exn cl fx base D dA ro scr) M pc L S h r d Q := by
  subst hl
  intro p l e R s m args below meth c r0 G locs cells slots ls K hS hR hL hc hs
  have K' := K
  obtain ⟨hx, hb, hml, -⟩ := K'
  have go : ∀ (p2 : Nat) (L2 S2 : List Value) (ls2 : Array Slot), RL ls2 M.2.2.2.1 L2 → (XW oname exn cl fx base D dA ro scr) M p2 L2 S2 h r d Q → W p l e R s m args below meth c G locs cells slots (vx_MQ below (QcE cl base D dA ro scr r0 Q) (XcE exn cl base D dA ro scr r0 Q) args s r0 (4 * r0) (Af base)) (F0 m p2 ls2 S2) := fun p2 L2 S2 ls2 hL2 hX => hX p l e R s m args below meth c r0 G locs cells slots ls2 K hS hR hL2 hc hs
  simp only [stI] at H
  split at H
  · split at H
    · exact H.elim
    · rename_i hne
      exact lv_dup hx hb hd (cat_1 hne) (go _ _ _ _ hL H)
  · exact H.elim
theorem so_pop {oname exn : Nat → String} {cl : List vw_C} {fx : State → Heap → Prop} {base : Nat} {D : va_G} {dA : Nat → ClassId} {ro : va_W} {scr : Nat × List Value} {E : Evn} {M : MD} {pc : Nat} {L S : List Value} {h : Hp} {r d : Nat} {Q : Post} {len tg : Nat}  (hd : decode M.2.2.1 pc = .ok (.pop, len)) (hl : len = 1) (ht : tgt_ pc (ioff (.pop)) = tg) (H : Do1 E (XW oname exn cl fx base D dA ro scr) M pc h r d Q (stI E.2.2 (rdO h) M pc (pc + len) tg L S (.pop))) : (XW oname exn cl fx base D dA ro scr) M pc L S h r d Q := by
  subst hl
  intro p l e R s m args below meth c r0 G locs cells slots ls K hS hR hL hc hs
  have K' := K
  obtain ⟨hx, hb, hml, -⟩ := K'
  have go : ∀ (p2 : Nat) (L2 S2 : List Value) (ls2 : Array Slot), RL ls2 M.2.2.2.1 L2 → (XW oname exn cl fx base D dA ro scr) M p2 L2 S2 h r d Q → W p l e R s m args below meth c G locs cells slots (vx_MQ below (QcE cl base D dA ro scr r0 Q) (XcE exn cl base D dA ro scr r0 Q) args s r0 (4 * r0) (Af base)) (F0 m p2 ls2 S2) := fun p2 L2 S2 ls2 hL2 hX => hX p l e R s m args below meth c r0 G locs cells slots ls2 K hS hR hL2 hc hs
  simp only [stI] at H
  split at H
  · split at H
    · exact H.elim
    · rename_i hne
      exact lv_pop hx hb hd (cat_1 hne) (go _ _ _ _ hL H)
  · exact H.elim
theorem so_dup_x1 {oname exn : Nat → String} {cl : List vw_C} {fx : State → Heap → Prop} {base : Nat} {D : va_G} {dA : Nat → ClassId} {ro : va_W} {scr : Nat × List Value} {E : Evn} {M : MD} {pc : Nat} {L S : List Value} {h : Hp} {r d : Nat} {Q : Post} {len tg : Nat}  (hd : decode M.2.2.1 pc = .ok (.dup_x1, len)) (hl : len = 1) (ht : tgt_ pc (ioff (.dup_x1)) = tg) (H : Do1 E (XW oname exn cl fx base D dA ro scr) M pc h r d Q (stI E.2.2 (rdO h) M pc (pc + len) tg L S (.dup_x1))) : (XW oname exn cl fx base D dA ro scr) M pc L S h r d Q := by
  subst hl
  intro p l e R s m args below meth c r0 G locs cells slots ls K hS hR hL hc hs
  have K' := K
  obtain ⟨hx, hb, hml, -⟩ := K'
  have go : ∀ (p2 : Nat) (L2 S2 : List Value) (ls2 : Array Slot), RL ls2 M.2.2.2.1 L2 → (XW oname exn cl fx base D dA ro scr) M p2 L2 S2 h r d Q → W p l e R s m args below meth c G locs cells slots (vx_MQ below (QcE cl base D dA ro scr r0 Q) (XcE exn cl base D dA ro scr r0 Q) args s r0 (4 * r0) (Af base)) (F0 m p2 ls2 S2) := fun p2 L2 S2 ls2 hL2 hX => hX p l e R s m args below meth c r0 G locs cells slots ls2 K hS hR hL2 hc hs
  simp only [stI] at H
  split at H
  · split at H
    · exact H.elim
    · rename_i hne
      exact lv_dup_x1 hx hb hd (cat_1 fun q => hne (Or.inl q)) (cat_1 fun q => hne (Or.inr q)) (go _ _ _ _ hL H)
  · exact H.elim
theorem so_dup2 {oname exn : Nat → String} {cl : List vw_C} {fx : State → Heap → Prop} {base : Nat} {D : va_G} {dA : Nat → ClassId} {ro : va_W} {scr : Nat × List Value} {E : Evn} {M : MD} {pc : Nat} {L S : List Value} {h : Hp} {r d : Nat} {Q : Post} {len tg : Nat}  (hd : decode M.2.2.1 pc = .ok (.dup2, len)) (hl : len = 1) (ht : tgt_ pc (ioff (.dup2)) = tg) (H : Do1 E (XW oname exn cl fx base D dA ro scr) M pc h r d Q (stI E.2.2 (rdO h) M pc (pc + len) tg L S (.dup2))) : (XW oname exn cl fx base D dA ro scr) M pc L S h r d Q := by
  subst hl
  intro p l e R s m args below meth c r0 G locs cells slots ls K hS hR hL hc hs
  have K' := K
  obtain ⟨hx, hb, hml, -⟩ := K'
  have go : ∀ (p2 : Nat) (L2 S2 : List Value) (ls2 : Array Slot), RL ls2 M.2.2.2.1 L2 → (XW oname exn cl fx base D dA ro scr) M p2 L2 S2 h r d Q → W p l e R s m args below meth c G locs cells slots (vx_MQ below (QcE cl base D dA ro scr r0 Q) (XcE exn cl base D dA ro scr r0 Q) args s r0 (4 * r0) (Af base)) (F0 m p2 ls2 S2) := fun p2 L2 S2 ls2 hL2 hX => hX p l e R s m args below meth c r0 G locs cells slots ls2 K hS hR hL2 hc hs
  simp only [stI] at H
  split at H
  · split at H
    · rename_i hq
      exact lv_dup2_2 hx hb hd (cat_2 hq) (go _ _ _ _ hL H)
    · rename_i hq
      split at H
      · split at H
        · exact H.elim
        · rename_i hw
          exact lv_dup2_11 hx hb hd (cat_1 hq) (cat_1 hw) (go _ _ _ _ hL H)
      · exact H.elim
  · exact H.elim
theorem tgt_ok {pc : Nat} {off : Int} {tg : Nat} (h : tgt_ pc off = tg) (h0 : 0 ≤ (pc : Int) + off) : (pc : Int) + off = (tg : Int) := by subst h; unfold tgt_; omega
theorem so_ifCond {oname exn : Nat → String} {cl : List vw_C} {fx : State → Heap → Prop} {base : Nat} {D : va_G} {dA : Nat → ClassId} {ro : va_W} {scr : Nat × List Value} {E : Evn} {M : MD} {pc : Nat} {L S : List Value} {h : Hp} {r d : Nat} {Q : Post} {len tg : Nat} {co : ClassFile.Cond} {off : Int} (hd : decode M.2.2.1 pc = .ok (.ifCond co off, len)) (hl : len = 3) (h0 : 0 ≤ (pc : Int) + ioff (.ifCond co off)) (H : Do1 E (XW oname exn cl fx base D dA ro scr) M pc h r d Q (stI E.2.2 (rdO h) M pc (pc + len) (tgt_ pc (ioff (.ifCond co off))) L S (.ifCond co off))) : (XW oname exn cl fx base D dA ro scr) M pc L S h r d Q := by
  subst hl
  intro p l e R s m args below meth c r0 G locs cells slots ls K hS hR hL hc hs
  have K' := K
  obtain ⟨hx, hb, hml, -⟩ := K'
  have go : ∀ (p2 : Nat) (L2 S2 : List Value) (ls2 : Array Slot), RL ls2 M.2.2.2.1 L2 → (XW oname exn cl fx base D dA ro scr) M p2 L2 S2 h r d Q → W p l e R s m args below meth c G locs cells slots (vx_MQ below (QcE cl base D dA ro scr r0 Q) (XcE exn cl base D dA ro scr r0 Q) args s r0 (4 * r0) (Af base)) (F0 m p2 ls2 S2) := fun p2 L2 S2 ls2 hL2 hX => hX p l e R s m args below meth c r0 G locs cells slots ls2 K hS hR hL2 hc hs
  have ht := tgt_ok rfl h0
  simp only [stI] at H
  split at H
  · cases co with
    | eq => exact lv_if_eq hx hb hd ht (fun q => by rw [if_pos (by simpa [brI] using q)] at H; exact go _ _ _ _ hL H) (fun q => by rw [if_neg (by simpa [brI] using q)] at H; exact go _ _ _ _ hL H)
    | ne => exact lv_if_ne hx hb hd ht (fun q => by rw [if_pos (by simpa [brI] using q)] at H; exact go _ _ _ _ hL H) (fun q => by rw [if_neg (by simpa [brI] using q)] at H; exact go _ _ _ _ hL H)
    | lt => exact lv_if_lt hx hb hd ht (fun q => by rw [if_pos (by simpa [brI] using q)] at H; exact go _ _ _ _ hL H) (fun q => by rw [if_neg (by simpa [brI] using q)] at H; exact go _ _ _ _ hL H)
    | ge => exact lv_if_ge hx hb hd ht (fun q => by rw [if_pos (by simpa [brI] using q)] at H; exact go _ _ _ _ hL H) (fun q => by rw [if_neg (by simpa [brI] using q)] at H; exact go _ _ _ _ hL H)
    | gt => exact lv_if_gt hx hb hd ht (fun q => by rw [if_pos (by simpa [brI] using q)] at H; exact go _ _ _ _ hL H) (fun q => by rw [if_neg (by simpa [brI] using q)] at H; exact go _ _ _ _ hL H)
    | le => exact lv_if_le hx hb hd ht (fun q => by rw [if_pos (by simpa [brI] using q)] at H; exact go _ _ _ _ hL H) (fun q => by rw [if_neg (by simpa [brI] using q)] at H; exact go _ _ _ _ hL H)
  · exact H.elim
theorem so_if_icmp {oname exn : Nat → String} {cl : List vw_C} {fx : State → Heap → Prop} {base : Nat} {D : va_G} {dA : Nat → ClassId} {ro : va_W} {scr : Nat × List Value} {E : Evn} {M : MD} {pc : Nat} {L S : List Value} {h : Hp} {r d : Nat} {Q : Post} {len tg : Nat} {co : ClassFile.Cond} {off : Int} (hd : decode M.2.2.1 pc = .ok (.if_icmp co off, len)) (hl : len = 3) (h0 : 0 ≤ (pc : Int) + ioff (.if_icmp co off)) (H : Do1 E (XW oname exn cl fx base D dA ro scr) M pc h r d Q (stI E.2.2 (rdO h) M pc (pc + len) (tgt_ pc (ioff (.if_icmp co off))) L S (.if_icmp co off))) : (XW oname exn cl fx base D dA ro scr) M pc L S h r d Q := by
  subst hl
  intro p l e R s m args below meth c r0 G locs cells slots ls K hS hR hL hc hs
  have K' := K
  obtain ⟨hx, hb, hml, -⟩ := K'
  have go : ∀ (p2 : Nat) (L2 S2 : List Value) (ls2 : Array Slot), RL ls2 M.2.2.2.1 L2 → (XW oname exn cl fx base D dA ro scr) M p2 L2 S2 h r d Q → W p l e R s m args below meth c G locs cells slots (vx_MQ below (QcE cl base D dA ro scr r0 Q) (XcE exn cl base D dA ro scr r0 Q) args s r0 (4 * r0) (Af base)) (F0 m p2 ls2 S2) := fun p2 L2 S2 ls2 hL2 hX => hX p l e R s m args below meth c r0 G locs cells slots ls2 K hS hR hL2 hc hs
  have ht := tgt_ok rfl h0
  simp only [stI] at H
  split at H
  · cases co with
    | eq => exact lv_icmp_eq hx hb hd ht (fun q => by rw [if_pos (by simpa [brI] using q)] at H; exact go _ _ _ _ hL H) (fun q => by rw [if_neg (by simpa [brI] using q)] at H; exact go _ _ _ _ hL H)
    | ne => exact lv_icmp_ne hx hb hd ht (fun q => by rw [if_pos (by simpa [brI] using q)] at H; exact go _ _ _ _ hL H) (fun q => by rw [if_neg (by simpa [brI] using q)] at H; exact go _ _ _ _ hL H)
    | lt => exact lv_icmp_lt hx hb hd ht (fun q => by rw [if_pos (by simpa [brI] using q)] at H; exact go _ _ _ _ hL H) (fun q => by rw [if_neg (by simpa [brI] using q)] at H; exact go _ _ _ _ hL H)
    | ge => exact lv_icmp_ge hx hb hd ht (fun q => by rw [if_pos (by simpa [brI] using q)] at H; exact go _ _ _ _ hL H) (fun q => by rw [if_neg (by simpa [brI] using q)] at H; exact go _ _ _ _ hL H)
    | gt => exact lv_icmp_gt hx hb hd ht (fun q => by rw [if_pos (by simpa [brI] using q)] at H; exact go _ _ _ _ hL H) (fun q => by rw [if_neg (by simpa [brI] using q)] at H; exact go _ _ _ _ hL H)
    | le => exact lv_icmp_le hx hb hd ht (fun q => by rw [if_pos (by simpa [brI] using q)] at H; exact go _ _ _ _ hL H) (fun q => by rw [if_neg (by simpa [brI] using q)] at H; exact go _ _ _ _ hL H)
  · exact H.elim
theorem isR_rf {v : Value} (h : isR v = true) : ∃ z : Option Nat, v = va_rf z := by cases v with | null => exact ⟨none, rfl⟩ | ref a => exact ⟨some a, rfl⟩ | _ => cases h
theorem rf_inj {a b : Option Nat} : va_rf a = va_rf b ↔ a = b := by cases a <;> cases b <;> simp [va_rf]
theorem so_if_acmp {oname exn : Nat → String} {cl : List vw_C} {fx : State → Heap → Prop} {base : Nat} {D : va_G} {dA : Nat → ClassId} {ro : va_W} {scr : Nat × List Value} {E : Evn} {M : MD} {pc : Nat} {L S : List Value} {h : Hp} {r d : Nat} {Q : Post} {len tg : Nat} {co : ClassFile.ACond} {off : Int} (hd : decode M.2.2.1 pc = .ok (.if_acmp co off, len)) (hl : len = 3) (h0 : 0 ≤ (pc : Int) + ioff (.if_acmp co off)) (H : Do1 E (XW oname exn cl fx base D dA ro scr) M pc h r d Q (stI E.2.2 (rdO h) M pc (pc + len) (tgt_ pc (ioff (.if_acmp co off))) L S (.if_acmp co off))) : (XW oname exn cl fx base D dA ro scr) M pc L S h r d Q := by
  subst hl
  intro p l e R s m args below meth c r0 G locs cells slots ls K hS hR hL hc hs
  have K' := K
  obtain ⟨hx, hb, hml, -⟩ := K'
  have go : ∀ (p2 : Nat) (L2 S2 : List Value) (ls2 : Array Slot), RL ls2 M.2.2.2.1 L2 → (XW oname exn cl fx base D dA ro scr) M p2 L2 S2 h r d Q → W p l e R s m args below meth c G locs cells slots (vx_MQ below (QcE cl base D dA ro scr r0 Q) (XcE exn cl base D dA ro scr r0 Q) args s r0 (4 * r0) (Af base)) (F0 m p2 ls2 S2) := fun p2 L2 S2 ls2 hL2 hX => hX p l e R s m args below meth c r0 G locs cells slots ls2 K hS hR hL2 hc hs
  have ht := tgt_ok rfl h0
  simp only [stI] at H
  split at H
  · split at H
    · rename_i hr
      obtain ⟨h1, h2⟩ := hr
      obtain ⟨z1, rfl⟩ := isR_rf h1
      obtain ⟨z2, rfl⟩ := isR_rf h2
      cases co with
      | eq => exact lv_acmp_eq hx hb hd ht (fun q => by rw [if_pos (by simpa [rf_inj] using q)] at H; exact go _ _ _ _ hL H) (fun q => by rw [if_neg (by simpa [rf_inj] using q)] at H; exact go _ _ _ _ hL H)
      | ne => exact lv_acmp_ne hx hb hd ht (fun q => by rw [if_pos (by simpa [rf_inj] using q)] at H; exact go _ _ _ _ hL H) (fun q => by rw [if_neg (by simpa [rf_inj] using q)] at H; exact go _ _ _ _ hL H)
    · exact H.elim
  · exact H.elim
theorem so_ifnull {oname exn : Nat → String} {cl : List vw_C} {fx : State → Heap → Prop} {base : Nat} {D : va_G} {dA : Nat → ClassId} {ro : va_W} {scr : Nat × List Value} {E : Evn} {M : MD} {pc : Nat} {L S : List Value} {h : Hp} {r d : Nat} {Q : Post} {len tg : Nat} {off : Int} (hd : decode M.2.2.1 pc = .ok (.ifnull off, len)) (hl : len = 3) (h0 : 0 ≤ (pc : Int) + ioff (.ifnull off)) (H : Do1 E (XW oname exn cl fx base D dA ro scr) M pc h r d Q (stI E.2.2 (rdO h) M pc (pc + len) (tgt_ pc (ioff (.ifnull off))) L S (.ifnull off))) : (XW oname exn cl fx base D dA ro scr) M pc L S h r d Q := by
  subst hl
  intro p l e R s m args below meth c r0 G locs cells slots ls K hS hR hL hc hs
  have K' := K
  obtain ⟨hx, hb, hml, -⟩ := K'
  have go : ∀ (p2 : Nat) (L2 S2 : List Value) (ls2 : Array Slot), RL ls2 M.2.2.2.1 L2 → (XW oname exn cl fx base D dA ro scr) M p2 L2 S2 h r d Q → W p l e R s m args below meth c G locs cells slots (vx_MQ below (QcE cl base D dA ro scr r0 Q) (XcE exn cl base D dA ro scr r0 Q) args s r0 (4 * r0) (Af base)) (F0 m p2 ls2 S2) := fun p2 L2 S2 ls2 hL2 hX => hX p l e R s m args below meth c r0 G locs cells slots ls2 K hS hR hL2 hc hs
  have ht := tgt_ok rfl h0
  simp only [stI] at H
  split at H
  · exact lv_ifnullN hx hb hd ht (go _ _ _ _ hL H)
  · exact lv_ifnull hx hb hd (go _ _ _ _ hL H)
  · exact H.elim
theorem so_ifnonnull {oname exn : Nat → String} {cl : List vw_C} {fx : State → Heap → Prop} {base : Nat} {D : va_G} {dA : Nat → ClassId} {ro : va_W} {scr : Nat × List Value} {E : Evn} {M : MD} {pc : Nat} {L S : List Value} {h : Hp} {r d : Nat} {Q : Post} {len tg : Nat} {off : Int} (hd : decode M.2.2.1 pc = .ok (.ifnonnull off, len)) (hl : len = 3) (h0 : 0 ≤ (pc : Int) + ioff (.ifnonnull off)) (H : Do1 E (XW oname exn cl fx base D dA ro scr) M pc h r d Q (stI E.2.2 (rdO h) M pc (pc + len) (tgt_ pc (ioff (.ifnonnull off))) L S (.ifnonnull off))) : (XW oname exn cl fx base D dA ro scr) M pc L S h r d Q := by
  subst hl
  intro p l e R s m args below meth c r0 G locs cells slots ls K hS hR hL hc hs
  have K' := K
  obtain ⟨hx, hb, hml, -⟩ := K'
  have go : ∀ (p2 : Nat) (L2 S2 : List Value) (ls2 : Array Slot), RL ls2 M.2.2.2.1 L2 → (XW oname exn cl fx base D dA ro scr) M p2 L2 S2 h r d Q → W p l e R s m args below meth c G locs cells slots (vx_MQ below (QcE cl base D dA ro scr r0 Q) (XcE exn cl base D dA ro scr r0 Q) args s r0 (4 * r0) (Af base)) (F0 m p2 ls2 S2) := fun p2 L2 S2 ls2 hL2 hX => hX p l e R s m args below meth c r0 G locs cells slots ls2 K hS hR hL2 hc hs
  have ht := tgt_ok rfl h0
  simp only [stI] at H
  split at H
  · exact lv_ifnonnullN hx hb hd (go _ _ _ _ hL H)
  · exact lv_ifnonnull hx hb hd ht (go _ _ _ _ hL H)
  · exact H.elim
theorem so_goto {oname exn : Nat → String} {cl : List vw_C} {fx : State → Heap → Prop} {base : Nat} {D : va_G} {dA : Nat → ClassId} {ro : va_W} {scr : Nat × List Value} {E : Evn} {M : MD} {pc : Nat} {L S : List Value} {h : Hp} {r d : Nat} {Q : Post} {len tg : Nat} {off : Int} (hd : decode M.2.2.1 pc = .ok (.goto off, len)) (hl : len = 3) (h0 : 0 ≤ (pc : Int) + ioff (.goto off)) (H : Do1 E (XW oname exn cl fx base D dA ro scr) M pc h r d Q (stI E.2.2 (rdO h) M pc (pc + len) (tgt_ pc (ioff (.goto off))) L S (.goto off))) : (XW oname exn cl fx base D dA ro scr) M pc L S h r d Q := by
  subst hl
  intro p l e R s m args below meth c r0 G locs cells slots ls K hS hR hL hc hs
  have K' := K
  obtain ⟨hx, hb, hml, -⟩ := K'
  have go : ∀ (p2 : Nat) (L2 S2 : List Value) (ls2 : Array Slot), RL ls2 M.2.2.2.1 L2 → (XW oname exn cl fx base D dA ro scr) M p2 L2 S2 h r d Q → W p l e R s m args below meth c G locs cells slots (vx_MQ below (QcE cl base D dA ro scr r0 Q) (XcE exn cl base D dA ro scr r0 Q) args s r0 (4 * r0) (Af base)) (F0 m p2 ls2 S2) := fun p2 L2 S2 ls2 hL2 hX => hX p l e R s m args below meth c r0 G locs cells slots ls2 K hS hR hL2 hc hs
  have ht := tgt_ok rfl h0
  simp only [stI] at H
  exact lv_goto hx hb hd ht (go _ _ _ _ hL H)
theorem so_tableswitch {oname exn : Nat → String} {cl : List vw_C} {fx : State → Heap → Prop} {base : Nat} {D : va_G} {dA : Nat → ClassId} {ro : va_W} {scr : Nat × List Value} {E : Evn} {M : MD} {pc : Nat} {L S : List Value} {h : Hp} {r d : Nat} {Q : Post} {len tg : Nat} {dflt lo hi : Int} {offs : Array Int} (hd : decode M.2.2.1 pc = .ok (.tableswitch dflt lo hi offs, len)) (H : Do1 E (XW oname exn cl fx base D dA ro scr) M pc h r d Q (stI E.2.2 (rdO h) M pc (pc + len) tg L S (.tableswitch dflt lo hi offs))) : (XW oname exn cl fx base D dA ro scr) M pc L S h r d Q := by
  intro p l e R s m args below meth c r0 G locs cells slots ls K hS hR hL hc hs
  have K' := K
  obtain ⟨hx, hb, hml, -⟩ := K'
  have go : ∀ (p2 : Nat) (L2 S2 : List Value) (ls2 : Array Slot), RL ls2 M.2.2.2.1 L2 → (XW oname exn cl fx base D dA ro scr) M p2 L2 S2 h r d Q → W p l e R s m args below meth c G locs cells slots (vx_MQ below (QcE cl base D dA ro scr r0 Q) (XcE exn cl base D dA ro scr r0 Q) args s r0 (4 * r0) (Af base)) (F0 m p2 ls2 S2) := fun p2 L2 S2 ls2 hL2 hX => hX p l e R s m args below meth c r0 G locs cells slots ls2 K hS hR hL2 hc hs
  simp only [stI] at H
  split at H
  · rename_i x S2
    split at H
    · rename_i hq
      obtain ⟨h1, h2⟩ := hq
      have ht := tgt_ok rfl h2
      by_cases hin : x.toInt < lo ∨ hi < x.toInt
      · have e1 : swO dflt lo hi offs x = dflt := if_pos hin
        rw [e1] at ht H
        exact lv_tableOut hx hb hd hin ht (go _ _ _ _ hL H)
      · have e1 : swO dflt lo hi offs x = offs.getD (x.toInt - lo).toNat 0 := if_neg hin
        rw [e1] at ht H
        have hlt : (x.toInt - lo).toNat < offs.size := by omega
        have e2 : offs[(x.toInt - lo).toNat]? = some (offs.getD (x.toInt - lo).toNat 0) := by rw [Array.getElem?_eq_getElem hlt, Array.getD, dif_pos hlt]; rfl
        exact lv_tableIn hx hb hd (fun q => hin (Or.inl q)) (fun q => hin (Or.inr q)) e2 ht (go _ _ _ _ hL H)
    · exact H.elim
  · exact H.elim
