/-! ONE STEP COMMUTES WITH A RENAMING OF REFERENCES -/
def ren (ρ : Nat → Nat) (v : Value) : Value := match v with
  | .ref a => .ref (ρ a)
  | v => v
abbrev rens (ρ : Nat → Nat) (l : List Value) : List Value := l.map (ren ρ)
def renS (ρ : Nat → Nat) (s : St1) : St1 := match s with
  | .inl (p, L, S) => .inl (p, rens ρ L, rens ρ S)
  | .inr (.inl (a, k, fs, p, L, S)) => .inr (.inl (ρ a, k, rens ρ fs, p, rens ρ L, rens ρ S))
  | .inr (.inr (.inl (k, fs, p, L, S))) => .inr (.inr (.inl (k, rens ρ fs, p, rens ρ L, rens ρ S)))
  | .inr (.inr (.inr (.inl v))) => .inr (.inr (.inr (.inl (v.map (ren ρ)))))
  | .inr (.inr (.inr (.inr (.inl e)))) => .inr (.inr (.inr (.inr (.inl e))))
  | .inr (.inr (.inr (.inr (.inr (.inl (m, j, p, as, L, S)))))) => .inr (.inr (.inr (.inr (.inr (.inl (m, j, p, rens ρ as, rens ρ L, rens ρ S))))))
  | .inr (.inr (.inr (.inr (.inr (.inr (a, j, p, L, S)))))) => .inr (.inr (.inr (.inr (.inr (.inr (ρ a, j, p, rens ρ L, rens ρ S))))))
theorem ren_R {ρ : Nat → Nat} {v : Value} : isR (ren ρ v) = isR v := by cases v <;> rfl
theorem ren_I {ρ : Nat → Nat} {v : Value} : isI (ren ρ v) = isI v := by cases v <;> rfl
theorem ren_L {ρ : Nat → Nat} {v : Value} : isL (ren ρ v) = isL v := by cases v <;> rfl
theorem ren_F {ρ : Nat → Nat} {v : Value} : isF (ren ρ v) = isF v := by cases v <;> rfl
theorem ren_D {ρ : Nat → Nat} {v : Value} : isD (ren ρ v) = isD v := by cases v <;> rfl
theorem ren_Z {ρ : Nat → Nat} {v : Value} : isZ (ren ρ v) = isZ v := by cases v <;> rfl
theorem ren_c2 {ρ : Nat → Nat} {v : Value} : cat2 (ren ρ v) = cat2 v := by cases v <;> rfl
theorem ren_cat {ρ : Nat → Nat} {v : Value} : (ren ρ v).category = v.category := by cases v <;> rfl
theorem ren_fits {ρ : Nat → Nat} {t : FieldType} {v : Value} : fits t (ren ρ v) = fits t v := by cases v <;> cases t <;> rfl
theorem ren_ret {ρ : Nat → Nat} {t : Option FieldType} {v : Value} : retV t (ren ρ v) = retV t v := by
  cases v <;> first | rfl | (cases t <;> first | rfl | (rename_i t; cases t <;> rfl))
theorem ren_i {ρ : Nat → Nat} {v : Value} {x : Int32} (h : ren ρ v = .int x) : v = .int x := by cases v <;> first | exact h | cases h
theorem catS_ren {ρ : Nat → Nat} {S : List Value} : catS (rens ρ S) = catS S := by
  unfold catS rens
  rw [List.map_map]
  congr 1
  exact List.map_congr_left fun v _ => ren_cat
theorem entL_ren {ρ : Nat → Nat} {l : List Value} : entL (rens ρ l) = rens ρ (entL l) := by
  induction l with
  | nil => rfl
  | cons v l ih =>
    show (if cat2 (ren ρ v) = true then ren ρ v :: uV :: entL (rens ρ l) else ren ρ v :: entL (rens ρ l)) = rens ρ (if cat2 v = true then v :: uV :: entL l else v :: entL l)
    rw [ren_c2, ih]
    split <;> rfl
theorem ent_ren {ρ : Nat → Nat} {n : Nat} {l : List Value} : ent n (rens ρ l) = rens ρ (ent n l) := by
  unfold ent
  rw [entL_ren]
  simp only [rens, List.map_append, List.map_replicate, List.length_map]
  rfl
theorem clr_ren {ρ : Nat → Nat} {L : List Value} {k : Nat} : clr (rens ρ L) k = rens ρ (clr L k) := by
  cases k with
  | zero => rfl
  | succ j =>
    show (match (rens ρ L)[j]? with | some v => if cat2 v = true then (rens ρ L).set j uV else rens ρ L | none => rens ρ L) = rens ρ (match L[j]? with | some v => if cat2 v = true then L.set j uV else L | none => L)
    rw [rens, List.getElem?_map]
    cases L[j]? with
    | none => rfl
    | some v =>
      show (if cat2 (ren ρ v) = true then (rens ρ L).set j uV else rens ρ L) = rens ρ (if cat2 v = true then L.set j uV else L)
      rw [ren_c2]
      split
      · rw [rens, rens, List.map_set]; rfl
      · rfl
theorem st1_ren {ρ : Nat → Nat} {L : List Value} {k : Nat} {v : Value} : st1 (rens ρ L) k (ren ρ v) = rens ρ (st1 L k v) := by
  unfold st1
  rw [clr_ren, rens, rens, List.map_set]
theorem st2_ren {ρ : Nat → Nat} {L : List Value} {k : Nat} {v : Value} : st2 (rens ρ L) k (ren ρ v) = rens ρ (st2 L k v) := by
  unfold st2
  rw [clr_ren, clr_ren, rens, rens, List.map_set, List.map_set]
  rfl
theorem dfl_ren {ρ : Nat → Nat} {k : Nat} : rens ρ (dfl k) = dfl k := by
  unfold dfl rens
  rw [List.map_map]
  exact List.map_congr_left fun t _ => by cases t <;> rfl
section NAT
variable {ρ : Nat → Nat} {rd rd' : Nat → Option (Nat × List Value)} {L S : List Value} {s : St1} {nx i : Nat} {c : Value → Bool}
theorem ldI_nat (hc : ∀ v, c (ren ρ v) = c v) (H : ldI c L S i nx = some s) : ldI c (rens ρ L) (rens ρ S) i nx = some (renS ρ s) := by
  unfold ldI at H ⊢
  rw [rens, List.getElem?_map]
  cases hl : L[i]? with
  | none => rw [hl] at H; cases H
  | some v =>
    rw [hl] at H
    dsimp only at H
    show (if c (ren ρ v) = true then _ else _) = _
    rw [hc]
    split at H
    · next h => rw [if_pos h]; cases H; rfl
    · cases H
theorem stI1_nat (hc : ∀ v, c (ren ρ v) = c v) (H : stI1 c L S i nx = some s) : stI1 c (rens ρ L) (rens ρ S) i nx = some (renS ρ s) := by
  unfold stI1 at H ⊢
  cases S with
  | nil => cases H
  | cons v S =>
    dsimp only at H
    show (if c (ren ρ v) = true ∧ i < (rens ρ L).length then sGo nx (st1 (rens ρ L) i (ren ρ v)) (rens ρ S) else none) = _
    rw [hc, st1_ren, rens, List.length_map]
    split at H
    · next h => rw [if_pos h]; cases H; rfl
    · cases H
theorem stI2_nat (hc : ∀ v, c (ren ρ v) = c v) (H : stI2 c L S i nx = some s) : stI2 c (rens ρ L) (rens ρ S) i nx = some (renS ρ s) := by
  unfold stI2 at H ⊢
  cases S with
  | nil => cases H
  | cons v S =>
    dsimp only at H
    show (if c (ren ρ v) = true ∧ i + 1 < (rens ρ L).length then sGo nx (st2 (rens ρ L) i (ren ρ v)) (rens ρ S) else none) = _
    rw [hc, st2_ren, rens, List.length_map]
    split at H
    · next h => rw [if_pos h]; cases H; rfl
    · cases H
theorem arG_nat {b : Nat} (hrd : ∀ a x, rd a = some x → rd' (ρ a) = some (x.1, rens ρ x.2)) (hc : ∀ v, c (ren ρ v) = c v) (H : arG rd b c nx L S = some s) : arG rd' b c nx (rens ρ L) (rens ρ S) = some (renS ρ s) := by
  unfold arG at H
  split at H
  · next x a S' =>
    split at H
    · next k fs hr =>
      split at H
      · next hk =>
        split at H
        · next v hv =>
          split at H
          · next hcv =>
            cases H
            show (match rd' (ρ a) with | some (k, fs) => if arrIs k b = true ∧ ¬ x < 0 then (match fs[x.toNatClampNeg]? with | some v => if c v = true then sGo nx (rens ρ L) (v :: rens ρ S') else none | none => none) else none | none => none) = _
            rw [hrd _ _ hr]
            dsimp only
            rw [if_pos hk, rens, List.getElem?_map, hv]
            show (if c (ren ρ v) = true then _ else _) = _
            rw [hc, if_pos hcv]
            rfl
          · cases H
        · cases H
      · cases H
    · cases H
  · cases H
theorem arP_nat {b : Nat} (hrd : ∀ a x, rd a = some x → rd' (ρ a) = some (x.1, rens ρ x.2)) (hc : ∀ v, c (ren ρ v) = c v) (H : arP rd b c nx L S = some s) : arP rd' b c nx (rens ρ L) (rens ρ S) = some (renS ρ s) := by
  unfold arP at H
  split at H
  · next v x a S' =>
    split at H
    · next k fs hr =>
      split at H
      · next hk =>
        cases H
        show (match rd' (ρ a) with | some (k, fs) => if k = b ∧ ¬ x < 0 ∧ x.toNatClampNeg < fs.length ∧ c (ren ρ v) = true then sWr (ρ a) k (fs.set x.toNatClampNeg (ren ρ v)) nx (rens ρ L) (rens ρ S') else none | none => none) = _
        rw [hrd _ _ hr]
        dsimp only
        rw [hc, rens, List.length_map, if_pos hk, ← List.map_set]
        rfl
      · cases H
    · cases H
  · cases H
end NAT
def ownM (o : Nat) : Prop := (∀ j, (pS o).lookup j = none) ∧ ∀ j m, (pK o).lookup j ≠ some (.inr m)
section NAT2
variable {ρ : Nat → Nat} {rd rd' : Nat → Option (Nat × List Value)} {L S : List Value} {s : St1} {pc nx tg : Nat} {M : MD} {sv sv' : Nat → Value}
theorem take_ren {n : Nat} : (rens ρ S).take n = rens ρ (S.take n) := List.map_take.symm
theorem stI_nat {i : Instr} (hrd : ∀ a x, rd a = some x → rd' (ρ a) = some (x.1, rens ρ x.2)) (hM : ownM M.1) (hac : acI i = true → ∀ y x S', S = y :: x :: S' → ren ρ x = ren ρ y → x = y) (H : stI sv rd M pc nx tg L S i = some s) : stI sv' rd' M pc nx tg (rens ρ L) (rens ρ S) i = some (renS ρ s) := by
  cases i with
  | iadd =>
    simp only [stI] at H
    split at H
    · cases H; rfl
    · cases H
  | isub =>
    simp only [stI] at H
    split at H
    · cases H; rfl
    · cases H
  | imul =>
    simp only [stI] at H
    split at H
    · cases H; rfl
    · cases H
  | iand =>
    simp only [stI] at H
    split at H
    · cases H; rfl
    · cases H
  | ior =>
    simp only [stI] at H
    split at H
    · cases H; rfl
    · cases H
  | ishl =>
    simp only [stI] at H
    split at H
    · cases H; rfl
    · cases H
  | ishr =>
    simp only [stI] at H
    split at H
    · cases H; rfl
    · cases H
  | iushr =>
    simp only [stI] at H
    split at H
    · cases H; rfl
    · cases H
  | ladd =>
    simp only [stI] at H
    split at H
    · cases H; rfl
    · cases H
  | lsub =>
    simp only [stI] at H
    split at H
    · cases H; rfl
    · cases H
  | lmul =>
    simp only [stI] at H
    split at H
    · cases H; rfl
    · cases H
  | ineg =>
    simp only [stI] at H
    split at H
    · cases H; rfl
    · cases H
  | lneg =>
    simp only [stI] at H
    split at H
    · cases H; rfl
    · cases H
  | i2l =>
    simp only [stI] at H
    split at H
    · cases H; rfl
    · cases H
  | l2i =>
    simp only [stI] at H
    split at H
    · cases H; rfl
    · cases H
  | i2c =>
    simp only [stI] at H
    split at H
    · cases H; rfl
    · cases H
  | i2f =>
    simp only [stI] at H
    split at H
    · cases H; rfl
    · cases H
  | i2d =>
    simp only [stI] at H
    split at H
    · cases H; rfl
    · cases H
  | l2d =>
    simp only [stI] at H
    split at H
    · cases H; rfl
    · cases H
  | lcmp =>
    simp only [stI] at H
    split at H
    · cases H; rfl
    · cases H
  | fcmp a =>
    simp only [stI] at H
    split at H
    · cases H; rfl
    · cases H
  | dcmp a =>
    simp only [stI] at H
    split at H
    · cases H; rfl
    · cases H
  | iconst a =>
    simp only [stI] at H
    cases H; rfl
  | bipush a =>
    simp only [stI] at H
    cases H; rfl
  | sipush a =>
    simp only [stI] at H
    cases H; rfl
  | lconst a =>
    simp only [stI] at H
    cases H; rfl
  | aconst_null =>
    simp only [stI] at H
    cases H; rfl
  | goto a =>
    simp only [stI] at H
    cases H; rfl
  | f2d =>
    simp only [stI] at H
    split at H
    · split at H
      · next h => cases H; exact if_pos h
      · next h => cases H
    · cases H
  | fdiv =>
    simp only [stI] at H
    split at H
    · split at H
      · next h => cases H; exact if_pos h
      · next h => cases H
    · cases H
  | ddiv =>
    simp only [stI] at H
    split at H
    · split at H
      · next h => cases H; exact if_pos h
      · next h => cases H
    · cases H
  | idiv =>
    simp only [stI] at H
    split at H
    · split at H
      · cases H
      · next h => cases H; exact if_neg h
    · cases H
  | irem =>
    simp only [stI] at H
    split at H
    · split at H
      · cases H
      · next h => cases H; exact if_neg h
    · cases H
  | ldiv =>
    simp only [stI] at H
    split at H
    · split at H
      · cases H
      · next h => cases H; exact if_neg h
    · cases H
  | ifCond a b =>
    simp only [stI] at H
    split at H
    · split at H
      · next h => cases H; exact if_pos h
      · next h => cases H; exact if_neg h
    · cases H
  | if_icmp a b =>
    simp only [stI] at H
    split at H
    · split at H
      · next h => cases H; exact if_pos h
      · next h => cases H; exact if_neg h
    · cases H
  | fconst a =>
    simp only [stI] at H
    split at H
    · next h => cases H; exact if_pos h
    · cases H
  | dconst a =>
    simp only [stI] at H
    split at H
    · next h => cases H; exact if_pos h
    · cases H
  | ifnull a =>
    simp only [stI] at H
    split at H
    · cases H; rfl
    · cases H; rfl
    · cases H
  | ifnonnull a =>
    simp only [stI] at H
    split at H
    · cases H; rfl
    · cases H; rfl
    · cases H
  | iload k => exact ldI_nat (fun v => ren_I) H
  | iload_n k => exact ldI_nat (fun v => ren_I) H
  | istore k => exact stI1_nat (fun v => ren_I) H
  | istore_n k => exact stI1_nat (fun v => ren_I) H
  | lload k => exact ldI_nat (fun v => ren_L) H
  | lload_n k => exact ldI_nat (fun v => ren_L) H
  | lstore k => exact stI2_nat (fun v => ren_L) H
  | lstore_n k => exact stI2_nat (fun v => ren_L) H
  | fload k => exact ldI_nat (fun v => ren_F) H
  | fload_n k => exact ldI_nat (fun v => ren_F) H
  | fstore k => exact stI1_nat (fun v => ren_F) H
  | fstore_n k => exact stI1_nat (fun v => ren_F) H
  | dload k => exact ldI_nat (fun v => ren_D) H
  | dload_n k => exact ldI_nat (fun v => ren_D) H
  | dstore k => exact stI2_nat (fun v => ren_D) H
  | dstore_n k => exact stI2_nat (fun v => ren_D) H
  | aload k => exact ldI_nat (fun v => ren_R) H
  | aload_n k => exact ldI_nat (fun v => ren_R) H
  | astore k => exact stI1_nat (fun v => ren_R) H
  | astore_n k => exact stI1_nat (fun v => ren_R) H
  | iaload => exact arG_nat hrd (fun v => ren_I) H
  | laload => exact arG_nat hrd (fun v => ren_L) H
  | baload => exact arG_nat hrd (fun v => ren_I) H
  | daload => exact arG_nat hrd (fun v => ren_D) H
  | aaload => exact arG_nat hrd (fun v => ren_R) H
  | iastore => exact arP_nat hrd (fun v => ren_I) H
  | lastore => exact arP_nat hrd (fun v => ren_L) H
  | bastore => exact arP_nat hrd (fun v => ren_Z) H
  | dastore => exact arP_nat hrd (fun v => ren_D) H
  | aastore =>
    simp only [stI] at H
    split at H
    · next b S' =>
      split at H
      · next kb fs hr =>
        split at H
        · next hk =>
          show (match rd' (ρ b) with | some (kb, _) => if obK kb = true then arP rd' 904 isR nx (rens ρ L) (rens ρ (.ref b :: S')) else none | none => none) = _
          rw [hrd _ _ hr]
          dsimp only
          rw [if_pos hk]
          exact arP_nat hrd (fun v => ren_R) H
        · cases H
      · cases H
    · next hne =>
      have h2 := arP_nat (ρ := ρ) hrd (fun v => ren_R) H
      cases S with
      | nil => exact h2
      | cons v S =>
        cases v with
        | ref b => exact absurd rfl (hne b S)
        | _ => exact h2
  | ldc j =>
    simp only [stI] at H ⊢
    split at H
    · next v hv =>
      split at H
      · next h =>
        cases H
        rw [if_pos h]
        cases v <;> first | rfl | cases h
      · cases H
    · next m hm => exact absurd hm (hM.2 _ _)
    · cases H
  | ldc2_w j =>
    simp only [stI] at H ⊢
    split at H
    · next v hv =>
      split at H
      · next h =>
        cases H
        rw [if_pos h]
        cases v <;> first | rfl | cases h
      · cases H
    · cases H
  | getstatic j =>
    simp only [stI] at H
    rw [hM.1 j] at H
    cases H
  | iinc k n =>
    simp only [stI] at H ⊢
    split at H
    · next x hx =>
      rw [rens, List.getElem?_map, hx]
      show (if k < (rens ρ L).length then sGo nx (st1 (rens ρ L) k (ren ρ (.int (x + Int32.ofInt n)))) (rens ρ S) else none) = _
      rw [st1_ren, rens, List.length_map]
      split at H
      · next h => rw [if_pos h]; cases H; rfl
      · cases H
    · cases H
  | dup =>
    simp only [stI] at H
    split at H
    · next v S' =>
      split at H
      · cases H
      · next h => cases H; exact if_neg (by rw [ren_c2]; exact h)
    · cases H
  | pop =>
    simp only [stI] at H
    split at H
    · next v S' =>
      split at H
      · cases H
      · next h => cases H; exact if_neg (by rw [ren_c2]; exact h)
    · cases H
  | dup_x1 =>
    simp only [stI] at H
    split at H
    · next v w S' =>
      split at H
      · cases H
      · next h => cases H; exact if_neg (by rw [ren_c2, ren_c2]; exact h)
    · cases H
  | dup2 =>
    simp only [stI] at H
    split at H
    · next v S' =>
      show (if cat2 (ren ρ v) = true then sGo nx (rens ρ L) (ren ρ v :: ren ρ v :: rens ρ S') else (match rens ρ S' with
        | w :: S => if cat2 w = true then none else sGo nx (rens ρ L) (ren ρ v :: w :: ren ρ v :: w :: S)
        | _ => none)) = _
      split at H
      · next h => cases H; exact if_pos (by rw [ren_c2]; exact h)
      · next h =>
        rw [if_neg (by rw [ren_c2]; exact h)]
        split at H
        · next w S'' =>
          split at H
          · cases H
          · next h => cases H; exact if_neg (by rw [ren_c2]; exact h)
        · cases H
    · cases H
  | if_acmp c b =>
    simp only [stI] at H
    split at H
    · next y x S' =>
      have hi := hac rfl y x S' rfl
      have he : (ren ρ x = ren ρ y) = (x = y) := propext ⟨hi, fun h => by rw [h]⟩
      show (if isR (ren ρ x) = true ∧ isR (ren ρ y) = true then (if (ren ρ x = ren ρ y) ↔ (c = .eq) then sGo tg (rens ρ L) (rens ρ S') else sGo nx (rens ρ L) (rens ρ S')) else none) = _
      simp only [ren_R, he]
      split at H
      · next h =>
        rw [if_pos h]
        split at H
        · next h2 => cases H; exact if_pos h2
        · next h2 => cases H; exact if_neg h2
      · cases H
    · cases H
  | tableswitch dflt lo hi offs =>
    simp only [stI] at H
    split at H
    · split at H
      · next h => cases H; exact if_pos h
      · cases H
    · cases H
  | getfield j =>
    simp only [stI] at H
    split at H
    · next a S' =>
      split at H
      · next f k fs hf hr =>
        split at H
        · next n hn =>
          split at H
          · next v hv =>
            cases H
            show (match (pF M.1).lookup j, rd' (ρ a) with | some f, some (k, fs) => (match (fix k).idxOf? f with | some n => (match fs[n]? with | some v => sGo nx (rens ρ L) (v :: rens ρ S') | none => none) | none => none) | _, _ => none) = _
            rw [hrd _ _ hr, hf]
            dsimp only
            rw [hn]
            dsimp only
            rw [rens, List.getElem?_map, hv]
            rfl
          · cases H
        · cases H
      · cases H
    · cases H
  | putfield j =>
    simp only [stI] at H
    split at H
    · next v a S' =>
      split at H
      · next f k fs hf hr =>
        split at H
        · next n hn =>
          split at H
          · next hc =>
            cases H
            show (match (pF M.1).lookup j, rd' (ρ a) with | some f, some (k, fs) => (match (fix k).idxOf? f with | some n => if wrK k = true ∧ n < fs.length ∧ fits (fty f) (ren ρ v) = true ∧ (fin f = true → M.2.1.name = "<init>" ∧ fow f = M.1) then sWr (ρ a) k (fs.set n (ren ρ v)) nx (rens ρ L) (rens ρ S') else none | none => none) | _, _ => none) = _
            rw [hrd _ _ hr, hf]
            dsimp only
            rw [hn]
            dsimp only
            rw [ren_fits, rens, List.length_map, if_pos hc, ← List.map_set]
            rfl
          · cases H
        · cases H
      · cases H
    · cases H
  | arraylength =>
    simp only [stI] at H
    split at H
    · next a S' =>
      split at H
      · next k fs hr =>
        split at H
        · next hk =>
          cases H
          show (match rd' (ρ a) with | some (k, fs) => if 900 ≤ k then sGo nx (rens ρ L) (.int (nI fs.length) :: rens ρ S') else none | none => none) = _
          rw [hrd _ _ hr]
          dsimp only
          rw [if_pos hk, rens, List.length_map]
          rfl
        · cases H
      · cases H
    · cases H
  | new j =>
    simp only [stI] at H ⊢
    split at H
    · next k hk =>
      cases H
      show sNw k (dfl k) nx (rens ρ L) (rens ρ S) = some (.inr (.inr (.inl (k, rens ρ (dfl k), nx, rens ρ L, rens ρ S))))
      rw [dfl_ren]
    · next e he =>
      rw [catS_ren]
      split at H
      · next h => rw [if_pos h]; cases H; rfl
      · cases H
    · cases H
  | newarray ty =>
    simp only [stI] at H
    split at H
    · next n S' =>
      split at H
      · cases H
      · next h =>
        show (if n < 0 ∨ 1000000 < n.toNatClampNeg then none else (match ty with | .int => sNw 900 (List.replicate n.toNatClampNeg (.int 0)) nx (rens ρ L) (rens ρ S') | .long => sNw 901 (List.replicate n.toNatClampNeg (.long 0)) nx (rens ρ L) (rens ρ S') | .boolean => sNw 902 (List.replicate n.toNatClampNeg (.int 0)) nx (rens ρ L) (rens ρ S') | .double => sNw 903 (List.replicate n.toNatClampNeg (.double 0)) nx (rens ρ L) (rens ρ S') | _ => none)) = _
        rw [if_neg h]
        cases ty <;> first | (cases H; simp [renS, rens, List.map_replicate, ren]; done) | cases H
    · cases H
  | anewarray j =>
    simp only [stI] at H
    split at H
    · next n S' =>
      split at H
      · cases H
      · next h =>
        show (if n < 0 ∨ 1000000 < n.toNatClampNeg ∨ ¬ (pN M.1).lookup j = some (.inr 904) then none else sNw 904 (List.replicate n.toNatClampNeg .null) nx (rens ρ L) (rens ρ S')) = _
        rw [if_neg h]
        cases H
        simp [renS, rens, List.map_replicate, ren]
    · cases H
  | checkcast j =>
    simp only [stI] at H
    split at H
    · cases H; rfl
    · cases H; rfl
    · cases H
  | invokestatic j =>
    simp only [stI] at H ⊢
    split at H
    · next n hn =>
      split at H
      · next h =>
        cases H
        rw [if_pos (by rw [rens, List.length_map]; exact h)]
        simp only [renS, rens, List.map_take, List.map_reverse, List.map_drop]
      · cases H
    · cases H
  | invokevirtual j =>
    simp only [stI] at H ⊢
    split at H
    · next n hn =>
      split at H
      · next h =>
        cases H
        rw [if_pos (by rw [rens, List.length_map]; exact h)]
        simp only [renS, rens, List.map_take, List.map_reverse, List.map_drop]
      · cases H
    · cases H
  | invokespecial j =>
    simp only [stI] at H ⊢
    split at H
    · next n hn =>
      split at H
      · next h =>
        cases H
        rw [if_pos (by rw [rens, List.length_map]; exact h)]
        simp only [renS, rens, List.map_take, List.map_reverse, List.map_drop]
      · cases H
    · cases H
  | invokeinterface j b =>
    simp only [stI] at H ⊢
    split at H
    · next n hn =>
      split at H
      · next h =>
        cases H
        rw [if_pos (by rw [rens, List.length_map]; exact h)]
        simp only [renS, rens, List.map_take, List.map_reverse, List.map_drop]
      · cases H
    · cases H
  | ireturn =>
    simp only [stI] at H
    split at H
    · next v =>
      split at H
      · next h => cases H; exact if_pos (by rw [ren_ret]; exact h)
      · cases H
    · cases H
  | lreturn =>
    simp only [stI] at H
    split at H
    · next v =>
      split at H
      · next h => cases H; exact if_pos (by rw [ren_L]; exact h)
      · cases H
    · cases H
  | freturn =>
    simp only [stI] at H
    split at H
    · next v =>
      split at H
      · next h => cases H; exact if_pos (by rw [ren_F]; exact h)
      · cases H
    · cases H
  | dreturn =>
    simp only [stI] at H
    split at H
    · next v =>
      split at H
      · next h => cases H; exact if_pos (by rw [ren_D]; exact h)
      · cases H
    · cases H
  | areturn =>
    simp only [stI] at H
    split at H
    · next v =>
      split at H
      · next h => cases H; exact if_pos (by rw [ren_R]; exact h)
      · cases H
    · cases H
  | return_ =>
    simp only [stI] at H
    split at H
    · split at H
      · next h => cases H; exact if_pos h
      · cases H
    · cases H
  | _ => cases H
end NAT2
