/-! THE TABLES ARE AS THE WORDS SAY, by program (wip/gen/tabok.py) -/
set_option maxRecDepth 100000
theorem fa_ {α : Type} {P : α → Prop} {a : α} {l : List α} (h : P a) (t : ∀ q ∈ l, P q) : ∀ q ∈ a :: l, P q := List.forall_mem_cons.mpr ⟨h, t⟩
theorem ap_ {α : Type} {P : α → Prop} {l : List α} (w : α) (hm : w ∈ l) (h : ∀ w ∈ l, P w) : P w := h w hm
theorem fn_ {α : Type} {P : α → Prop} : ∀ q ∈ ([] : List α), P q := fun q h => by cases h
theorem lk_mem {α : Type} {l : List (Nat × α)} {j : Nat} {v : α} (h : l.lookup j = some v) : (j, v) ∈ l := by
  induction l with
  | nil => cases h
  | cons a l ih =>
    obtain ⟨i, w⟩ := a
    rw [List.lookup_cons] at h
    split at h
    · rename_i e
      have e := eq_of_beq e
      subst e
      cases h
      exact List.mem_cons_self
    · exact List.mem_cons_of_mem _ (ih h)
theorem kOK_0 : KindOK kcl 0 := ⟨"Leafcredit", T_0, 21, ty_0, rfl, in_0, tyk_0, nm_0, rfl, (fun j f h => match j, h with
    | 0, h => by cases h; exact ⟨rfl, rfl⟩
    | 1, h => by cases h; exact ⟨rfl, rfl⟩
    | 2, h => by cases h; exact ⟨rfl, rfl⟩
    | 3, h => by cases h; exact ⟨rfl, rfl⟩
    | 4, h => by cases h; exact ⟨rfl, rfl⟩
    | 5, h => by cases h; exact ⟨rfl, rfl⟩
    | 6, h => by cases h; exact ⟨rfl, rfl⟩
    | 7, h => by cases h; exact ⟨rfl, rfl⟩
    | 8, h => by cases h; exact ⟨rfl, rfl⟩
    | 9, h => by cases h; exact ⟨rfl, rfl⟩
    | 10, h => by cases h; exact ⟨rfl, rfl⟩
    | 11, h => by cases h; exact ⟨rfl, rfl⟩
    | 12, h => by cases h; exact ⟨rfl, rfl⟩
    | 13, h => by cases h; exact ⟨rfl, rfl⟩
    | 14, h => by cases h; exact ⟨rfl, rfl⟩
    | 15, h => by cases h; exact ⟨rfl, rfl⟩
    | 16, h => by cases h; exact ⟨rfl, rfl⟩
    | 17, h => by cases h; exact ⟨rfl, rfl⟩
    | 18, h => by cases h; exact ⟨rfl, rfl⟩
    | 19, h => by cases h; exact ⟨rfl, rfl⟩
    | 20, h => by cases h; exact ⟨rfl, rfl⟩
    | j + 21, h => by cases h), (fun j h => match j, h with
    | 0, _ => rfl
    | 1, _ => rfl
    | 2, _ => rfl
    | 3, _ => rfl
    | 4, _ => rfl
    | 5, _ => rfl
    | 6, _ => rfl
    | 7, _ => rfl
    | 8, _ => rfl
    | 9, _ => rfl
    | 10, _ => rfl
    | 11, _ => rfl
    | 12, _ => rfl
    | 13, _ => rfl
    | 14, _ => rfl
    | 15, _ => rfl
    | 16, _ => rfl
    | 17, _ => rfl
    | 18, _ => rfl
    | 19, _ => rfl
    | 20, _ => rfl
    | j + 21, h => absurd h (by omega)), rfl⟩
theorem kOK_1 : KindOK kcl 1 := ⟨"Leafcredit$ByPrice", T_1, 0, ty_1, rfl, in_1, tyk_1, nm_1, rfl, (fun j f h => match j, h with

    | j + 0, h => by cases h), (fun j h => match j, h with

    | j + 0, h => absurd h (by omega)), rfl⟩
theorem kOK_2 : KindOK kcl 2 := ⟨"Leafcredit$Account", T_2, 9, ty_2, rfl, in_2, tyk_2, nm_2, rfl, (fun j f h => match j, h with
    | 0, h => by cases h; exact ⟨rfl, rfl⟩
    | 1, h => by cases h; exact ⟨rfl, rfl⟩
    | 2, h => by cases h; exact ⟨rfl, rfl⟩
    | 3, h => by cases h; exact ⟨rfl, rfl⟩
    | 4, h => by cases h; exact ⟨rfl, rfl⟩
    | 5, h => by cases h; exact ⟨rfl, rfl⟩
    | 6, h => by cases h; exact ⟨rfl, rfl⟩
    | 7, h => by cases h; exact ⟨rfl, rfl⟩
    | 8, h => by cases h; exact ⟨rfl, rfl⟩
    | j + 9, h => by cases h), (fun j h => match j, h with
    | 0, _ => rfl
    | 1, _ => rfl
    | 2, _ => rfl
    | 3, _ => rfl
    | 4, _ => rfl
    | 5, _ => rfl
    | 6, _ => rfl
    | 7, _ => rfl
    | 8, _ => rfl
    | j + 9, h => absurd h (by omega)), rfl⟩
theorem kOK_3 : KindOK kcl 3 := ⟨"Leafcredit$Sum", T_3, 1, ty_3, rfl, in_3, tyk_3, nm_3, rfl, (fun j f h => match j, h with
    | 0, h => by cases h; exact ⟨rfl, rfl⟩
    | j + 1, h => by cases h), (fun j h => match j, h with
    | 0, _ => rfl
    | j + 1, h => absurd h (by omega)), rfl⟩
theorem kOK_4 : KindOK kcl 4 := ⟨"LeafcreditModel", T_4, 23, ty_4, rfl, in_4, tyk_4, nm_4, rfl, (fun j f h => match j, h with
    | 0, h => by cases h; exact ⟨rfl, rfl⟩
    | 1, h => by cases h; exact ⟨rfl, rfl⟩
    | 2, h => by cases h; exact ⟨rfl, rfl⟩
    | 3, h => by cases h; exact ⟨rfl, rfl⟩
    | 4, h => by cases h; exact ⟨rfl, rfl⟩
    | 5, h => by cases h; exact ⟨rfl, rfl⟩
    | 6, h => by cases h; exact ⟨rfl, rfl⟩
    | 7, h => by cases h; exact ⟨rfl, rfl⟩
    | 8, h => by cases h; exact ⟨rfl, rfl⟩
    | 9, h => by cases h; exact ⟨rfl, rfl⟩
    | 10, h => by cases h; exact ⟨rfl, rfl⟩
    | 11, h => by cases h; exact ⟨rfl, rfl⟩
    | 12, h => by cases h; exact ⟨rfl, rfl⟩
    | 13, h => by cases h; exact ⟨rfl, rfl⟩
    | 14, h => by cases h; exact ⟨rfl, rfl⟩
    | 15, h => by cases h; exact ⟨rfl, rfl⟩
    | 16, h => by cases h; exact ⟨rfl, rfl⟩
    | 17, h => by cases h; exact ⟨rfl, rfl⟩
    | 18, h => by cases h; exact ⟨rfl, rfl⟩
    | 19, h => by cases h; exact ⟨rfl, rfl⟩
    | 20, h => by cases h; exact ⟨rfl, rfl⟩
    | 21, h => by cases h; exact ⟨rfl, rfl⟩
    | 22, h => by cases h; exact ⟨rfl, rfl⟩
    | j + 23, h => by cases h), (fun j h => match j, h with
    | 0, _ => rfl
    | 1, _ => rfl
    | 2, _ => rfl
    | 3, _ => rfl
    | 4, _ => rfl
    | 5, _ => rfl
    | 6, _ => rfl
    | 7, _ => rfl
    | 8, _ => rfl
    | 9, _ => rfl
    | 10, _ => rfl
    | 11, _ => rfl
    | 12, _ => rfl
    | 13, _ => rfl
    | 14, _ => rfl
    | 15, _ => rfl
    | 16, _ => rfl
    | 17, _ => rfl
    | 18, _ => rfl
    | 19, _ => rfl
    | 20, _ => rfl
    | 21, _ => rfl
    | 22, _ => rfl
    | j + 23, h => absurd h (by omega)), rfl⟩
theorem kOK_5 : KindOK kcl 5 := ⟨"LeafcreditModel$Account", T_5, 19, ty_5, rfl, in_5, tyk_5, nm_5, rfl, (fun j f h => match j, h with
    | 0, h => by cases h; exact ⟨rfl, rfl⟩
    | 1, h => by cases h; exact ⟨rfl, rfl⟩
    | 2, h => by cases h; exact ⟨rfl, rfl⟩
    | 3, h => by cases h; exact ⟨rfl, rfl⟩
    | 4, h => by cases h; exact ⟨rfl, rfl⟩
    | 5, h => by cases h; exact ⟨rfl, rfl⟩
    | 6, h => by cases h; exact ⟨rfl, rfl⟩
    | 7, h => by cases h; exact ⟨rfl, rfl⟩
    | 8, h => by cases h; exact ⟨rfl, rfl⟩
    | 9, h => by cases h; exact ⟨rfl, rfl⟩
    | 10, h => by cases h; exact ⟨rfl, rfl⟩
    | 11, h => by cases h; exact ⟨rfl, rfl⟩
    | 12, h => by cases h; exact ⟨rfl, rfl⟩
    | 13, h => by cases h; exact ⟨rfl, rfl⟩
    | 14, h => by cases h; exact ⟨rfl, rfl⟩
    | 15, h => by cases h; exact ⟨rfl, rfl⟩
    | 16, h => by cases h; exact ⟨rfl, rfl⟩
    | 17, h => by cases h; exact ⟨rfl, rfl⟩
    | 18, h => by cases h; exact ⟨rfl, rfl⟩
    | j + 19, h => by cases h), (fun j h => match j, h with
    | 0, _ => rfl
    | 1, _ => rfl
    | 2, _ => rfl
    | 3, _ => rfl
    | 4, _ => rfl
    | 5, _ => rfl
    | 6, _ => rfl
    | 7, _ => rfl
    | 8, _ => rfl
    | 9, _ => rfl
    | 10, _ => rfl
    | 11, _ => rfl
    | 12, _ => rfl
    | 13, _ => rfl
    | 14, _ => rfl
    | 15, _ => rfl
    | 16, _ => rfl
    | 17, _ => rfl
    | 18, _ => rfl
    | j + 19, h => absurd h (by omega)), rfl⟩
theorem kOK_6 : KindOK kcl 6 := ⟨"Leafcredit$Plant", T_6, 9, ty_6, rfl, in_6, tyk_6, nm_6, rfl, (fun j f h => match j, h with
    | 0, h => by cases h; exact ⟨rfl, rfl⟩
    | 1, h => by cases h; exact ⟨rfl, rfl⟩
    | 2, h => by cases h; exact ⟨rfl, rfl⟩
    | 3, h => by cases h; exact ⟨rfl, rfl⟩
    | 4, h => by cases h; exact ⟨rfl, rfl⟩
    | 5, h => by cases h; exact ⟨rfl, rfl⟩
    | 6, h => by cases h; exact ⟨rfl, rfl⟩
    | 7, h => by cases h; exact ⟨rfl, rfl⟩
    | 8, h => by cases h; exact ⟨rfl, rfl⟩
    | j + 9, h => by cases h), (fun j h => match j, h with
    | 0, _ => rfl
    | 1, _ => rfl
    | 2, _ => rfl
    | 3, _ => rfl
    | 4, _ => rfl
    | 5, _ => rfl
    | 6, _ => rfl
    | 7, _ => rfl
    | 8, _ => rfl
    | j + 9, h => absurd h (by omega)), rfl⟩
theorem kOK_7 : KindOK kcl 7 := ⟨"Leafcredit$Piece", T_7, 9, ty_7, rfl, in_7, tyk_7, nm_7, rfl, (fun j f h => match j, h with
    | 0, h => by cases h; exact ⟨rfl, rfl⟩
    | 1, h => by cases h; exact ⟨rfl, rfl⟩
    | 2, h => by cases h; exact ⟨rfl, rfl⟩
    | 3, h => by cases h; exact ⟨rfl, rfl⟩
    | 4, h => by cases h; exact ⟨rfl, rfl⟩
    | 5, h => by cases h; exact ⟨rfl, rfl⟩
    | 6, h => by cases h; exact ⟨rfl, rfl⟩
    | 7, h => by cases h; exact ⟨rfl, rfl⟩
    | 8, h => by cases h; exact ⟨rfl, rfl⟩
    | j + 9, h => by cases h), (fun j h => match j, h with
    | 0, _ => rfl
    | 1, _ => rfl
    | 2, _ => rfl
    | 3, _ => rfl
    | 4, _ => rfl
    | 5, _ => rfl
    | 6, _ => rfl
    | 7, _ => rfl
    | 8, _ => rfl
    | j + 9, h => absurd h (by omega)), rfl⟩
theorem kOK_8 : KindOK kcl 8 := ⟨"Leafcredit$Entry", T_8, 3, ty_8, rfl, in_8, tyk_8, nm_8, rfl, (fun j f h => match j, h with
    | 0, h => by cases h; exact ⟨rfl, rfl⟩
    | 1, h => by cases h; exact ⟨rfl, rfl⟩
    | 2, h => by cases h; exact ⟨rfl, rfl⟩
    | j + 3, h => by cases h), (fun j h => match j, h with
    | 0, _ => rfl
    | 1, _ => rfl
    | 2, _ => rfl
    | j + 3, h => absurd h (by omega)), rfl⟩
theorem kOK_9 : KindOK kcl 9 := ⟨"LeafcreditModel$Row", T_9, 9, ty_9, rfl, in_9, tyk_9, nm_9, rfl, (fun j f h => match j, h with
    | 0, h => by cases h; exact ⟨rfl, rfl⟩
    | 1, h => by cases h; exact ⟨rfl, rfl⟩
    | 2, h => by cases h; exact ⟨rfl, rfl⟩
    | 3, h => by cases h; exact ⟨rfl, rfl⟩
    | 4, h => by cases h; exact ⟨rfl, rfl⟩
    | 5, h => by cases h; exact ⟨rfl, rfl⟩
    | 6, h => by cases h; exact ⟨rfl, rfl⟩
    | 7, h => by cases h; exact ⟨rfl, rfl⟩
    | 8, h => by cases h; exact ⟨rfl, rfl⟩
    | j + 9, h => by cases h), (fun j h => match j, h with
    | 0, _ => rfl
    | 1, _ => rfl
    | 2, _ => rfl
    | 3, _ => rfl
    | 4, _ => rfl
    | 5, _ => rfl
    | 6, _ => rfl
    | 7, _ => rfl
    | 8, _ => rfl
    | j + 9, h => absurd h (by omega)), rfl⟩
theorem kOK_10 : KindOK kcl 10 := ⟨"Leafcredit$Bid", T_10, 4, ty_10, rfl, in_10, tyk_10, nm_10, rfl, (fun j f h => match j, h with
    | 0, h => by cases h; exact ⟨rfl, rfl⟩
    | 1, h => by cases h; exact ⟨rfl, rfl⟩
    | 2, h => by cases h; exact ⟨rfl, rfl⟩
    | 3, h => by cases h; exact ⟨rfl, rfl⟩
    | j + 4, h => by cases h), (fun j h => match j, h with
    | 0, _ => rfl
    | 1, _ => rfl
    | 2, _ => rfl
    | 3, _ => rfl
    | j + 4, h => absurd h (by omega)), rfl⟩
theorem kOK_11 : KindOK kcl 11 := ⟨"LeafcreditModel$Bid", T_11, 3, ty_11, rfl, in_11, tyk_11, nm_11, rfl, (fun j f h => match j, h with
    | 0, h => by cases h; exact ⟨rfl, rfl⟩
    | 1, h => by cases h; exact ⟨rfl, rfl⟩
    | 2, h => by cases h; exact ⟨rfl, rfl⟩
    | j + 3, h => by cases h), (fun j h => match j, h with
    | 0, _ => rfl
    | 1, _ => rfl
    | 2, _ => rfl
    | j + 3, h => absurd h (by omega)), rfl⟩
theorem kOK_12 : KindOK kcl 12 := ⟨"Leafcredit$Transfer", T_12, 6, ty_12, rfl, in_12, tyk_12, nm_12, rfl, (fun j f h => match j, h with
    | 0, h => by cases h; exact ⟨rfl, rfl⟩
    | 1, h => by cases h; exact ⟨rfl, rfl⟩
    | 2, h => by cases h; exact ⟨rfl, rfl⟩
    | 3, h => by cases h; exact ⟨rfl, rfl⟩
    | 4, h => by cases h; exact ⟨rfl, rfl⟩
    | 5, h => by cases h; exact ⟨rfl, rfl⟩
    | j + 6, h => by cases h), (fun j h => match j, h with
    | 0, _ => rfl
    | 1, _ => rfl
    | 2, _ => rfl
    | 3, _ => rfl
    | 4, _ => rfl
    | 5, _ => rfl
    | j + 6, h => absurd h (by omega)), rfl⟩
theorem kOK_13 : KindOK kcl 13 := ⟨"Leafcredit$ByUse", T_13, 1, ty_13, rfl, in_13, tyk_13, nm_13, rfl, (fun j f h => match j, h with
    | 0, h => by cases h; exact ⟨rfl, rfl⟩
    | j + 1, h => by cases h), (fun j h => match j, h with
    | 0, _ => rfl
    | j + 1, h => absurd h (by omega)), rfl⟩
theorem kOK_14 : KindOK kcl 14 := ⟨"LeafcreditModel$Transfer", T_14, 6, ty_14, rfl, in_14, tyk_14, nm_14, rfl, (fun j f h => match j, h with
    | 0, h => by cases h; exact ⟨rfl, rfl⟩
    | 1, h => by cases h; exact ⟨rfl, rfl⟩
    | 2, h => by cases h; exact ⟨rfl, rfl⟩
    | 3, h => by cases h; exact ⟨rfl, rfl⟩
    | 4, h => by cases h; exact ⟨rfl, rfl⟩
    | 5, h => by cases h; exact ⟨rfl, rfl⟩
    | j + 6, h => by cases h), (fun j h => match j, h with
    | 0, _ => rfl
    | 1, _ => rfl
    | 2, _ => rfl
    | 3, _ => rfl
    | 4, _ => rfl
    | 5, _ => rfl
    | j + 6, h => absurd h (by omega)), rfl⟩
theorem kOK_15 : KindOK kcl 15 := ⟨"Leafcredit$Project", T_15, 7, ty_15, rfl, in_15, tyk_15, nm_15, rfl, (fun j f h => match j, h with
    | 0, h => by cases h; exact ⟨rfl, rfl⟩
    | 1, h => by cases h; exact ⟨rfl, rfl⟩
    | 2, h => by cases h; exact ⟨rfl, rfl⟩
    | 3, h => by cases h; exact ⟨rfl, rfl⟩
    | 4, h => by cases h; exact ⟨rfl, rfl⟩
    | 5, h => by cases h; exact ⟨rfl, rfl⟩
    | 6, h => by cases h; exact ⟨rfl, rfl⟩
    | j + 7, h => by cases h), (fun j h => match j, h with
    | 0, _ => rfl
    | 1, _ => rfl
    | 2, _ => rfl
    | 3, _ => rfl
    | 4, _ => rfl
    | 5, _ => rfl
    | 6, _ => rfl
    | j + 7, h => absurd h (by omega)), rfl⟩
theorem kOK_16 : KindOK kcl 16 := ⟨"LeafcreditModel$Project", T_16, 7, ty_16, rfl, in_16, tyk_16, nm_16, rfl, (fun j f h => match j, h with
    | 0, h => by cases h; exact ⟨rfl, rfl⟩
    | 1, h => by cases h; exact ⟨rfl, rfl⟩
    | 2, h => by cases h; exact ⟨rfl, rfl⟩
    | 3, h => by cases h; exact ⟨rfl, rfl⟩
    | 4, h => by cases h; exact ⟨rfl, rfl⟩
    | 5, h => by cases h; exact ⟨rfl, rfl⟩
    | 6, h => by cases h; exact ⟨rfl, rfl⟩
    | j + 7, h => by cases h), (fun j h => match j, h with
    | 0, _ => rfl
    | 1, _ => rfl
    | 2, _ => rfl
    | 3, _ => rfl
    | 4, _ => rfl
    | 5, _ => rfl
    | 6, _ => rfl
    | j + 7, h => absurd h (by omega)), rfl⟩
theorem kOK_17 : KindOK kcl 17 := ⟨"Leafcredit$Good", T_17, 3, ty_17, rfl, in_17, tyk_17, nm_17, rfl, (fun j f h => match j, h with
    | 0, h => by cases h; exact ⟨rfl, rfl⟩
    | 1, h => by cases h; exact ⟨rfl, rfl⟩
    | 2, h => by cases h; exact ⟨rfl, rfl⟩
    | j + 3, h => by cases h), (fun j h => match j, h with
    | 0, _ => rfl
    | 1, _ => rfl
    | 2, _ => rfl
    | j + 3, h => absurd h (by omega)), rfl⟩
theorem kOK_18 : KindOK kcl 18 := ⟨"LeafcreditModel$Good", T_18, 3, ty_18, rfl, in_18, tyk_18, nm_18, rfl, (fun j f h => match j, h with
    | 0, h => by cases h; exact ⟨rfl, rfl⟩
    | 1, h => by cases h; exact ⟨rfl, rfl⟩
    | 2, h => by cases h; exact ⟨rfl, rfl⟩
    | j + 3, h => by cases h), (fun j h => match j, h with
    | 0, _ => rfl
    | 1, _ => rfl
    | 2, _ => rfl
    | j + 3, h => absurd h (by omega)), rfl⟩
theorem kOK_19 : KindOK kcl 19 := ⟨"java/util/ArrayList", T_19, 3, ty_19, rfl, in_19, tyk_19, nm_19, rfl, (fun j f h => match j, h with
    | 0, h => by cases h; exact ⟨rfl, rfl⟩
    | 1, h => by cases h; exact ⟨rfl, rfl⟩
    | 2, h => by cases h; exact ⟨rfl, rfl⟩
    | j + 3, h => by cases h), (fun j h => match j, h with
    | 0, _ => rfl
    | 1, _ => rfl
    | 2, _ => rfl
    | j + 3, h => absurd h (by omega)), rfl⟩
theorem kOK_20 : KindOK kcl 20 := ⟨"java/util/TreeMap", T_20, 9, ty_20, rfl, in_20, tyk_20, nm_20, rfl, (fun j f h => match j, h with
    | 0, h => by cases h; exact ⟨rfl, rfl⟩
    | 1, h => by cases h; exact ⟨rfl, rfl⟩
    | 2, h => by cases h; exact ⟨rfl, rfl⟩
    | 3, h => by cases h; exact ⟨rfl, rfl⟩
    | 4, h => by cases h; exact ⟨rfl, rfl⟩
    | 5, h => by cases h; exact ⟨rfl, rfl⟩
    | 6, h => by cases h; exact ⟨rfl, rfl⟩
    | 7, h => by cases h; exact ⟨rfl, rfl⟩
    | 8, h => by cases h; exact ⟨rfl, rfl⟩
    | j + 9, h => by cases h), (fun j h => match j, h with
    | 0, _ => rfl
    | 1, _ => rfl
    | 2, _ => rfl
    | 3, _ => rfl
    | 4, _ => rfl
    | 5, _ => rfl
    | 6, _ => rfl
    | 7, _ => rfl
    | 8, _ => rfl
    | j + 9, h => absurd h (by omega)), rfl⟩
theorem kOK_21 : KindOK kcl 21 := ⟨"java/util/PriorityQueue", T_21, 4, ty_21, rfl, in_21, tyk_21, nm_21, rfl, (fun j f h => match j, h with
    | 0, h => by cases h; exact ⟨rfl, rfl⟩
    | 1, h => by cases h; exact ⟨rfl, rfl⟩
    | 2, h => by cases h; exact ⟨rfl, rfl⟩
    | 3, h => by cases h; exact ⟨rfl, rfl⟩
    | j + 4, h => by cases h), (fun j h => match j, h with
    | 0, _ => rfl
    | 1, _ => rfl
    | 2, _ => rfl
    | 3, _ => rfl
    | j + 4, h => absurd h (by omega)), rfl⟩
theorem kOK_22 : KindOK kcl 22 := ⟨"java/util/ArrayList$Itr", T_22, 4, ty_22, rfl, in_22, tyk_22, nm_22, rfl, (fun j f h => match j, h with
    | 0, h => by cases h; exact ⟨rfl, rfl⟩
    | 1, h => by cases h; exact ⟨rfl, rfl⟩
    | 2, h => by cases h; exact ⟨rfl, rfl⟩
    | 3, h => by cases h; exact ⟨rfl, rfl⟩
    | j + 4, h => by cases h), (fun j h => match j, h with
    | 0, _ => rfl
    | 1, _ => rfl
    | 2, _ => rfl
    | 3, _ => rfl
    | j + 4, h => absurd h (by omega)), rfl⟩
theorem kOK_23 : KindOK kcl 23 := ⟨"java/lang/Integer", T_23, 1, ty_23, rfl, in_23, tyk_23, nm_23, rfl, (fun j f h => match j, h with
    | 0, h => by cases h; exact ⟨rfl, rfl⟩
    | j + 1, h => by cases h), (fun j h => match j, h with
    | 0, _ => rfl
    | j + 1, h => absurd h (by omega)), rfl⟩
theorem kOK_24 : KindOK kcl 24 := ⟨"java/lang/Long", T_24, 1, ty_24, rfl, in_24, tyk_24, nm_24, rfl, (fun j f h => match j, h with
    | 0, h => by cases h; exact ⟨rfl, rfl⟩
    | j + 1, h => by cases h), (fun j h => match j, h with
    | 0, _ => rfl
    | j + 1, h => absurd h (by omega)), rfl⟩
theorem kOK_25 : KindOK kcl 25 := ⟨"java/util/TreeMap$Entry", T_25, 6, ty_25, rfl, in_25, tyk_25, nm_25, rfl, (fun j f h => match j, h with
    | 0, h => by cases h; exact ⟨rfl, rfl⟩
    | 1, h => by cases h; exact ⟨rfl, rfl⟩
    | 2, h => by cases h; exact ⟨rfl, rfl⟩
    | 3, h => by cases h; exact ⟨rfl, rfl⟩
    | 4, h => by cases h; exact ⟨rfl, rfl⟩
    | 5, h => by cases h; exact ⟨rfl, rfl⟩
    | j + 6, h => by cases h), (fun j h => match j, h with
    | 0, _ => rfl
    | 1, _ => rfl
    | 2, _ => rfl
    | 3, _ => rfl
    | 4, _ => rfl
    | 5, _ => rfl
    | j + 6, h => absurd h (by omega)), rfl⟩
theorem kOK_26 : KindOK kcl 26 := ⟨"java/util/TreeMap$Values", T_26, 1, ty_26, rfl, in_26, tyk_26, nm_26, rfl, (fun j f h => match j, h with
    | 0, h => by cases h; exact ⟨rfl, rfl⟩
    | j + 1, h => by cases h), (fun j h => match j, h with
    | 0, _ => rfl
    | j + 1, h => absurd h (by omega)), rfl⟩
theorem kOK_27 : KindOK kcl 27 := ⟨"java/util/AbstractMap$2$1", T_27, 2, ty_27, rfl, in_27, tyk_27, nm_27, rfl, (fun j f h => match j, h with
    | 0, h => by cases h; exact ⟨rfl, rfl⟩
    | 1, h => by cases h; exact ⟨rfl, rfl⟩
    | j + 2, h => by cases h), (fun j h => match j, h with
    | 0, _ => rfl
    | 1, _ => rfl
    | j + 2, h => absurd h (by omega)), rfl⟩
theorem kOK_28 : KindOK kcl 28 := ⟨"java/util/TreeMap$AscendingSubMap$AscendingEntrySetView", T_28, 4, ty_28, rfl, in_28, tyk_28, nm_28, rfl, (fun j f h => match j, h with
    | 0, h => by cases h; exact ⟨rfl, rfl⟩
    | 1, h => by cases h; exact ⟨rfl, rfl⟩
    | 2, h => by cases h; exact ⟨rfl, rfl⟩
    | 3, h => by cases h; exact ⟨rfl, rfl⟩
    | j + 4, h => by cases h), (fun j h => match j, h with
    | 0, _ => rfl
    | 1, _ => rfl
    | 2, _ => rfl
    | 3, _ => rfl
    | j + 4, h => absurd h (by omega)), rfl⟩
theorem kOK_29 : KindOK kcl 29 := ⟨"java/util/TreeMap$NavigableSubMap$SubMapEntryIterator", T_29, 5, ty_29, rfl, in_29, tyk_29, nm_29, rfl, (fun j f h => match j, h with
    | 0, h => by cases h; exact ⟨rfl, rfl⟩
    | 1, h => by cases h; exact ⟨rfl, rfl⟩
    | 2, h => by cases h; exact ⟨rfl, rfl⟩
    | 3, h => by cases h; exact ⟨rfl, rfl⟩
    | 4, h => by cases h; exact ⟨rfl, rfl⟩
    | j + 5, h => by cases h), (fun j h => match j, h with
    | 0, _ => rfl
    | 1, _ => rfl
    | 2, _ => rfl
    | 3, _ => rfl
    | 4, _ => rfl
    | j + 5, h => absurd h (by omega)), rfl⟩
theorem kOK_30 : KindOK kcl 30 := ⟨"java/util/PriorityQueue$Itr", T_30, 6, ty_30, rfl, in_30, tyk_30, nm_30, rfl, (fun j f h => match j, h with
    | 0, h => by cases h; exact ⟨rfl, rfl⟩
    | 1, h => by cases h; exact ⟨rfl, rfl⟩
    | 2, h => by cases h; exact ⟨rfl, rfl⟩
    | 3, h => by cases h; exact ⟨rfl, rfl⟩
    | 4, h => by cases h; exact ⟨rfl, rfl⟩
    | 5, h => by cases h; exact ⟨rfl, rfl⟩
    | j + 6, h => by cases h), (fun j h => match j, h with
    | 0, _ => rfl
    | 1, _ => rfl
    | 2, _ => rfl
    | 3, _ => rfl
    | 4, _ => rfl
    | 5, _ => rfl
    | j + 6, h => absurd h (by omega)), rfl⟩
theorem kOK_31 : KindOK kcl 31 := ⟨"java/util/TreeMap$ValueIterator", T_31, 4, ty_31, rfl, in_31, tyk_31, nm_31, rfl, (fun j f h => match j, h with
    | 0, h => by cases h; exact ⟨rfl, rfl⟩
    | 1, h => by cases h; exact ⟨rfl, rfl⟩
    | 2, h => by cases h; exact ⟨rfl, rfl⟩
    | 3, h => by cases h; exact ⟨rfl, rfl⟩
    | j + 4, h => by cases h), (fun j h => match j, h with
    | 0, _ => rfl
    | 1, _ => rfl
    | 2, _ => rfl
    | 3, _ => rfl
    | j + 4, h => absurd h (by omega)), rfl⟩
theorem kOK_32 : KindOK kcl 32 := ⟨"java/util/TreeMap$AscendingSubMap", T_32, 12, ty_32, rfl, in_32, tyk_32, nm_32, rfl, (fun j f h => match j, h with
    | 0, h => by cases h; exact ⟨rfl, rfl⟩
    | 1, h => by cases h; exact ⟨rfl, rfl⟩
    | 2, h => by cases h; exact ⟨rfl, rfl⟩
    | 3, h => by cases h; exact ⟨rfl, rfl⟩
    | 4, h => by cases h; exact ⟨rfl, rfl⟩
    | 5, h => by cases h; exact ⟨rfl, rfl⟩
    | 6, h => by cases h; exact ⟨rfl, rfl⟩
    | 7, h => by cases h; exact ⟨rfl, rfl⟩
    | 8, h => by cases h; exact ⟨rfl, rfl⟩
    | 9, h => by cases h; exact ⟨rfl, rfl⟩
    | 10, h => by cases h; exact ⟨rfl, rfl⟩
    | 11, h => by cases h; exact ⟨rfl, rfl⟩
    | j + 12, h => by cases h), (fun j h => match j, h with
    | 0, _ => rfl
    | 1, _ => rfl
    | 2, _ => rfl
    | 3, _ => rfl
    | 4, _ => rfl
    | 5, _ => rfl
    | 6, _ => rfl
    | 7, _ => rfl
    | 8, _ => rfl
    | 9, _ => rfl
    | 10, _ => rfl
    | 11, _ => rfl
    | j + 12, h => absurd h (by omega)), rfl⟩
theorem kOK_33 : KindOK kcl 33 := ⟨"java/util/AbstractMap$2", T_33, 1, ty_33, rfl, in_33, tyk_33, nm_33, rfl, (fun j f h => match j, h with
    | 0, h => by cases h; exact ⟨rfl, rfl⟩
    | j + 1, h => by cases h), (fun j h => match j, h with
    | 0, _ => rfl
    | j + 1, h => absurd h (by omega)), rfl⟩
theorem kOK_34 : KindOK kcl 34 := ⟨"java/util/AbstractMap$SimpleImmutableEntry", T_34, 2, ty_34, rfl, in_34, tyk_34, nm_34, rfl, (fun j f h => match j, h with
    | 0, h => by cases h; exact ⟨rfl, rfl⟩
    | 1, h => by cases h; exact ⟨rfl, rfl⟩
    | j + 2, h => by cases h), (fun j h => match j, h with
    | 0, _ => rfl
    | 1, _ => rfl
    | j + 2, h => absurd h (by omega)), rfl⟩
theorem kOK_35 : KindOK kcl 35 := ⟨"java/lang/Integer", T_23, 1, ty_23, rfl, in_23, tyk_23, nm_23, rfl, (fun j f h => match j, h with
    | 0, h => by cases h; exact ⟨rfl, rfl⟩
    | j + 1, h => by cases h), (fun j h => match j, h with
    | 0, _ => rfl
    | j + 1, h => absurd h (by omega)), rfl⟩
theorem kOK_36 : KindOK kcl 36 := ⟨"java/lang/Long", T_24, 1, ty_24, rfl, in_24, tyk_24, nm_24, rfl, (fun j f h => match j, h with
    | 0, h => by cases h; exact ⟨rfl, rfl⟩
    | j + 1, h => by cases h), (fun j h => match j, h with
    | 0, _ => rfl
    | j + 1, h => absurd h (by omega)), rfl⟩
theorem tKind : ∀ k, k < 37 → KindOK kcl k := fun k h => match k, h with
  | 0, _ => kOK_0
  | 1, _ => kOK_1
  | 2, _ => kOK_2
  | 3, _ => kOK_3
  | 4, _ => kOK_4
  | 5, _ => kOK_5
  | 6, _ => kOK_6
  | 7, _ => kOK_7
  | 8, _ => kOK_8
  | 9, _ => kOK_9
  | 10, _ => kOK_10
  | 11, _ => kOK_11
  | 12, _ => kOK_12
  | 13, _ => kOK_13
  | 14, _ => kOK_14
  | 15, _ => kOK_15
  | 16, _ => kOK_16
  | 17, _ => kOK_17
  | 18, _ => kOK_18
  | 19, _ => kOK_19
  | 20, _ => kOK_20
  | 21, _ => kOK_21
  | 22, _ => kOK_22
  | 23, _ => kOK_23
  | 24, _ => kOK_24
  | 25, _ => kOK_25
  | 26, _ => kOK_26
  | 27, _ => kOK_27
  | 28, _ => kOK_28
  | 29, _ => kOK_29
  | 30, _ => kOK_30
  | 31, _ => kOK_31
  | 32, _ => kOK_32
  | 33, _ => kOK_33
  | 34, _ => kOK_34
  | 35, _ => kOK_35
  | 36, _ => kOK_36
  | k + 37, h => absurd h (by omega)
theorem tk_ {α : Type} {P : α → Prop} {l : List α} (n : Nat) (h : ∀ q ∈ l.take n, P q) (t : ∀ q ∈ l.drop n, P q) : ∀ q ∈ l, P q := fun q hq => by
  rw [← List.take_append_drop n l] at hq
  exact (List.mem_append.mp hq).elim (h q) (t q)
def nwl_ : List Cond := [.fieldLinkNest "Leafcredit" 170 "Leafcredit$Piece" "first" "I" "Leafcredit", .fieldLinkNest "Leafcredit" 177 "Leafcredit$Piece" "last" "I" "Leafcredit", .fieldLinkNest "Leafcredit" 180 "Leafcredit$Piece" "holder" "I" "Leafcredit", .fieldLinkNest "Leafcredit" 194 "Leafcredit$Account" "plant" "LLeafcredit$Plant;" "Leafcredit", .fieldLinkNest "Leafcredit" 201 "Leafcredit$Plant" "benchmark" "I" "Leafcredit", .fieldLinkNest "Leafcredit" 204 "Leafcredit$Plant" "uncertainty" "I" "Leafcredit", .fieldLinkNest "Leafcredit" 214 "Leafcredit$Plant" "lastReport" "I" "Leafcredit", .fieldLinkNest "Leafcredit" 219 "Leafcredit$Plant" "reports" "I" "Leafcredit", .fieldLinkNest "Leafcredit" 222 "Leafcredit$Plant" "sum" "J" "Leafcredit", .fieldLinkNest "Leafcredit" 226 "Leafcredit$Plant" "greatest" "J" "Leafcredit", .fieldLinkNest "Leafcredit" 235 "Leafcredit$Plant" "activities" "Ljava/util/TreeMap;" "Leafcredit", .fieldLinkNest "Leafcredit" 241 "Leafcredit$Plant" "emissions" "Ljava/util/TreeMap;" "Leafcredit", .fieldLinkNest "Leafcredit" 263 "Leafcredit$Account" "years" "Ljava/util/TreeMap;" "Leafcredit", .fieldLinkNest "Leafcredit" 268 "Leafcredit$Account" "free" "I" "Leafcredit", .fieldLinkNest "Leafcredit" 271 "Leafcredit$Account" "cash" "J" "Leafcredit", .fieldLinkNest "Leafcredit" 292 "Leafcredit$Account" "number" "I" "Leafcredit", .fieldLinkNest "Leafcredit" 328 "Leafcredit$Bid" "account" "LLeafcredit$Account;" "Leafcredit", .fieldLinkNest "Leafcredit" 332 "Leafcredit$Bid" "units" "I" "Leafcredit", .fieldLinkNest "Leafcredit" 335 "Leafcredit$Bid" "price" "I" "Leafcredit", .fieldLinkNest "Leafcredit" 354 "Leafcredit$Piece" "kind" "C" "Leafcredit", .fieldLinkNest "Leafcredit" 375 "Leafcredit$Transfer" "from" "LLeafcredit$Account;" "Leafcredit", .fieldLinkNest "Leafcredit" 378 "Leafcredit$Transfer" "kind" "C" "Leafcredit", .fieldLinkNest "Leafcredit" 379 "Leafcredit$Transfer" "units" "I" "Leafcredit", .fieldLinkNest "Leafcredit" 389 "Leafcredit$Account" "trusted" "I" "Leafcredit", .fieldLinkNest "Leafcredit" 392 "Leafcredit$Transfer" "to" "LLeafcredit$Account;" "Leafcredit", .fieldLinkNest "Leafcredit" 395 "Leafcredit$Piece" "moves" "I" "Leafcredit", .fieldLinkNest "Leafcredit" 398 "Leafcredit$Piece" "lock" "I" "Leafcredit", .fieldLinkNest "Leafcredit" 401 "Leafcredit$Transfer" "rows" "Ljava/util/List;" "Leafcredit", .fieldLinkNest "Leafcredit" 408 "Leafcredit$Transfer" "state" "C" "Leafcredit", .fieldLinkNest "Leafcredit" 427 "Leafcredit$Piece" "isFrozen" "Z" "Leafcredit", .fieldLinkNest "Leafcredit" 443 "Leafcredit$Piece" "vintage" "I" "Leafcredit", .fieldLinkNest "Leafcredit" 464 "Leafcredit$Project" "verified" "I" "Leafcredit", .fieldLinkNest "Leafcredit" 467 "Leafcredit$Project" "times" "I" "Leafcredit", .fieldLinkNest "Leafcredit" 472 "Leafcredit$Project" "buffer" "I" "Leafcredit", .fieldLinkNest "Leafcredit" 478 "Leafcredit$Project" "account" "LLeafcredit$Account;" "Leafcredit", .fieldLinkNest "Leafcredit" 479 "Leafcredit$Account" "reversed" "LLeafcredit$Sum;" "Leafcredit", .fieldLinkNest "Leafcredit" 483 "Leafcredit$Sum" "sum" "J" "Leafcredit", .fieldLinkNest "Leafcredit" 494 "Leafcredit$Account" "imported" "LLeafcredit$Sum;" "Leafcredit", .fieldLinkNest "Leafcredit" 504 "Leafcredit$Account" "carried" "LLeafcredit$Sum;" "Leafcredit", .fieldLinkNest "Leafcredit" 507 "Leafcredit$Entry" "first" "I" "Leafcredit", .fieldLinkNest "Leafcredit" 512 "Leafcredit$Entry" "last" "I" "Leafcredit", .fieldLinkNest "Leafcredit" 516 "Leafcredit$Entry" "holder" "I" "Leafcredit", .fieldLinkNest "Leafcredit$ByPrice" 7 "Leafcredit$Bid" "price" "I" "Leafcredit", .fieldLinkNest "Leafcredit$ByPrice" 19 "Leafcredit$Bid" "number" "I" "Leafcredit", .fieldLinkNest "Leafcredit$Account" 48 "Leafcredit$Plant" "emissions" "Ljava/util/TreeMap;" "Leafcredit", .fieldLinkNest "Leafcredit$ByUse" 15 "Leafcredit$Piece" "project" "I" "Leafcredit", .fieldLinkNest "Leafcredit$ByUse" 18 "Leafcredit$Piece" "first" "I" "Leafcredit", .fieldLinkNest "Leafcredit$ByUse" 27 "Leafcredit$Piece" "vintage" "I" "Leafcredit", .castable "java/lang/Integer" "java/lang/Comparable", .castable "java/lang/Long" "java/lang/Comparable", .fieldLinkNest "java/util/ArrayList$Itr" 28 "java/util/ArrayList" "size" "I" "java/util/ArrayList", .castable "java/util/TreeMap$Entry" "java/util/Map$Entry", .castable "java/util/AbstractMap$SimpleImmutableEntry" "java/util/Map$Entry", .fieldLinkNest "java/util/TreeMap$NavigableSubMap$EntrySetView" 38 "java/util/TreeMap" "modCount" "I" "java/util/TreeMap", .fieldLinkNest "java/util/TreeMap$NavigableSubMap$SubMapIterator" 19 "java/util/TreeMap" "modCount" "I" "java/util/TreeMap", .fieldLinkNest "java/util/TreeMap$NavigableSubMap$SubMapIterator" 35 "java/util/TreeMap" "UNBOUNDED" "Ljava/lang/Object;" "java/util/TreeMap", .fieldLinkNest "java/util/TreeMap$PrivateEntryIterator" 13 "java/util/TreeMap" "modCount" "I" "java/util/TreeMap", .castable "Leafcredit" "java/lang/Object", .castable "Leafcredit$ByPrice" "java/lang/Object", .castable "Leafcredit$Account" "java/lang/Object", .castable "Leafcredit$Sum" "java/lang/Object", .castable "LeafcreditModel" "java/lang/Object", .castable "LeafcreditModel$Account" "java/lang/Object", .castable "Leafcredit$Plant" "java/lang/Object", .castable "Leafcredit$Piece" "java/lang/Object", .castable "Leafcredit$Entry" "java/lang/Object", .castable "LeafcreditModel$Row" "java/lang/Object", .castable "Leafcredit$Bid" "java/lang/Object", .castable "LeafcreditModel$Bid" "java/lang/Object", .castable "Leafcredit$Transfer" "java/lang/Object", .castable "Leafcredit$ByUse" "java/lang/Object", .castable "LeafcreditModel$Transfer" "java/lang/Object", .castable "Leafcredit$Project" "java/lang/Object", .castable "LeafcreditModel$Project" "java/lang/Object", .castable "Leafcredit$Good" "java/lang/Object", .castable "LeafcreditModel$Good" "java/lang/Object", .castable "java/util/ArrayList" "java/lang/Object", .castable "java/util/TreeMap" "java/lang/Object", .castable "java/util/PriorityQueue" "java/lang/Object", .castable "java/util/ArrayList$Itr" "java/lang/Object", .castable "java/lang/Integer" "java/lang/Object", .castable "java/lang/Long" "java/lang/Object", .castable "java/util/TreeMap$Entry" "java/lang/Object", .castable "java/util/TreeMap$Values" "java/lang/Object", .castable "java/util/AbstractMap$2$1" "java/lang/Object", .castable "java/util/TreeMap$AscendingSubMap$AscendingEntrySetView" "java/lang/Object", .castable "java/util/TreeMap$NavigableSubMap$SubMapEntryIterator" "java/lang/Object", .castable "java/util/PriorityQueue$Itr" "java/lang/Object", .castable "java/util/TreeMap$ValueIterator" "java/lang/Object", .castable "java/util/TreeMap$AscendingSubMap" "java/lang/Object", .castable "java/util/AbstractMap$2" "java/lang/Object", .castable "java/util/AbstractMap$SimpleImmutableEntry" "java/lang/Object", .castable "[I" "java/lang/Object", .castable "[J" "java/lang/Object", .castable "[Z" "java/lang/Object", .castable "[D" "java/lang/Object", .castable "[Ljava/lang/Object;" "java/lang/Object", .declares ⟨"java/lang/Exception", "<init>", "()V"⟩, .declares ⟨"java/lang/Throwable", "<init>", "()V"⟩, .declares ⟨"java/lang/RuntimeException", "<init>", "()V"⟩, .castable "java/lang/IllegalArgumentException" "java/lang/IllegalArgumentException", .castable "java/lang/IllegalStateException" "java/lang/IllegalStateException", .castable "java/lang/IndexOutOfBoundsException" "java/lang/IndexOutOfBoundsException", .castable "java/util/NoSuchElementException" "java/util/NoSuchElementException", .castable "java/lang/UnsupportedOperationException" "java/lang/UnsupportedOperationException", .methodLinkNest "Leafcredit" 30 ⟨"Leafcredit$ByPrice", "<init>", "()V"⟩ "Leafcredit", .methodLinkNest "Leafcredit" 200 ⟨"Leafcredit$Plant", "<init>", "()V"⟩ "Leafcredit", .methodLinkNest "Leafcredit$Account" 9 ⟨"Leafcredit$Sum", "<init>", "()V"⟩ "Leafcredit", .methodLinkNest "LeafcreditModel" 352 ⟨"LeafcreditModel$Bid", "<init>", "(III)V"⟩ "LeafcreditModel", .methodLinkNest "LeafcreditModel" 408 ⟨"LeafcreditModel$Good", "<init>", "(III)V"⟩ "LeafcreditModel", .methodLinkNest "Leafcredit$Plant" 42 ⟨"Leafcredit", "up", "(JJ)J"⟩ "Leafcredit", .declares ⟨"java/util/AbstractCollection", "size", "()I"⟩, .declares ⟨"java/util/AbstractCollection", "iterator", "()Ljava/util/Iterator;"⟩, .declares ⟨"java/util/AbstractMap", "entrySet", "()Ljava/util/Set;"⟩, .declares ⟨"java/util/AbstractMap", "size", "()I"⟩, .methodLinkNest "java/util/TreeMap$NavigableSubMap$SubMapIterator" 69 ⟨"java/util/TreeMap", "deleteEntry", "(Ljava/util/TreeMap$Entry;)V"⟩ "java/util/TreeMap", .methodLinkNest "java/util/TreeMap$PrivateEntryIterator" 53 ⟨"java/util/TreeMap", "deleteEntry", "(Ljava/util/TreeMap$Entry;)V"⟩ "java/util/TreeMap"]
def ncl_ : List (String × String) := [("java/lang/IllegalStateException", "java/lang/IllegalArgumentException"), ("java/lang/IndexOutOfBoundsException", "java/lang/IllegalArgumentException"), ("java/util/NoSuchElementException", "java/lang/IllegalArgumentException"), ("java/lang/UnsupportedOperationException", "java/lang/IllegalArgumentException"), ("java/lang/IllegalArgumentException", "java/lang/IllegalStateException"), ("java/lang/IndexOutOfBoundsException", "java/lang/IllegalStateException"), ("java/util/NoSuchElementException", "java/lang/IllegalStateException"), ("java/lang/UnsupportedOperationException", "java/lang/IllegalStateException"), ("java/lang/IllegalArgumentException", "java/lang/IndexOutOfBoundsException"), ("java/lang/IllegalStateException", "java/lang/IndexOutOfBoundsException"), ("java/util/NoSuchElementException", "java/lang/IndexOutOfBoundsException"), ("java/lang/UnsupportedOperationException", "java/lang/IndexOutOfBoundsException"), ("java/lang/IllegalArgumentException", "java/lang/UnsupportedOperationException"), ("java/lang/IllegalStateException", "java/lang/UnsupportedOperationException"), ("java/lang/IndexOutOfBoundsException", "java/lang/UnsupportedOperationException"), ("java/util/NoSuchElementException", "java/lang/UnsupportedOperationException"), ("java/lang/IllegalArgumentException", "java/util/NoSuchElementException"), ("java/lang/IllegalStateException", "java/util/NoSuchElementException"), ("java/lang/IndexOutOfBoundsException", "java/util/NoSuchElementException"), ("java/lang/UnsupportedOperationException", "java/util/NoSuchElementException")]
def fwl_ : List (String × MethodName × MethodName) := [("java/util/ArrayList", ⟨"java/util/List", "add", "(Ljava/lang/Object;)Z"⟩, ⟨"java/util/ArrayList", "add", "(Ljava/lang/Object;)Z"⟩), ("java/util/ArrayList", ⟨"java/util/List", "size", "()I"⟩, ⟨"java/util/ArrayList", "size", "()I"⟩), ("java/util/ArrayList", ⟨"java/util/List", "get", "(I)Ljava/lang/Object;"⟩, ⟨"java/util/ArrayList", "get", "(I)Ljava/lang/Object;"⟩), ("java/util/ArrayList", ⟨"java/util/Collection", "iterator", "()Ljava/util/Iterator;"⟩, ⟨"java/util/ArrayList", "iterator", "()Ljava/util/Iterator;"⟩), ("java/util/PriorityQueue", ⟨"java/util/Collection", "iterator", "()Ljava/util/Iterator;"⟩, ⟨"java/util/PriorityQueue", "iterator", "()Ljava/util/Iterator;"⟩), ("java/util/TreeMap$Values", ⟨"java/util/Collection", "iterator", "()Ljava/util/Iterator;"⟩, ⟨"java/util/TreeMap$Values", "iterator", "()Ljava/util/Iterator;"⟩), ("java/util/TreeMap$AscendingSubMap$AscendingEntrySetView", ⟨"java/util/Collection", "iterator", "()Ljava/util/Iterator;"⟩, ⟨"java/util/TreeMap$AscendingSubMap$AscendingEntrySetView", "iterator", "()Ljava/util/Iterator;"⟩), ("java/util/AbstractMap$2", ⟨"java/util/Collection", "iterator", "()Ljava/util/Iterator;"⟩, ⟨"java/util/AbstractMap$2", "iterator", "()Ljava/util/Iterator;"⟩), ("java/util/ArrayList$Itr", ⟨"java/util/Iterator", "hasNext", "()Z"⟩, ⟨"java/util/ArrayList$Itr", "hasNext", "()Z"⟩), ("java/util/AbstractMap$2$1", ⟨"java/util/Iterator", "hasNext", "()Z"⟩, ⟨"java/util/AbstractMap$2$1", "hasNext", "()Z"⟩), ("java/util/TreeMap$NavigableSubMap$SubMapEntryIterator", ⟨"java/util/Iterator", "hasNext", "()Z"⟩, ⟨"java/util/TreeMap$NavigableSubMap$SubMapIterator", "hasNext", "()Z"⟩), ("java/util/PriorityQueue$Itr", ⟨"java/util/Iterator", "hasNext", "()Z"⟩, ⟨"java/util/PriorityQueue$Itr", "hasNext", "()Z"⟩), ("java/util/TreeMap$ValueIterator", ⟨"java/util/Iterator", "hasNext", "()Z"⟩, ⟨"java/util/TreeMap$PrivateEntryIterator", "hasNext", "()Z"⟩), ("java/util/ArrayList$Itr", ⟨"java/util/Iterator", "next", "()Ljava/lang/Object;"⟩, ⟨"java/util/ArrayList$Itr", "next", "()Ljava/lang/Object;"⟩), ("java/util/AbstractMap$2$1", ⟨"java/util/Iterator", "next", "()Ljava/lang/Object;"⟩, ⟨"java/util/AbstractMap$2$1", "next", "()Ljava/lang/Object;"⟩), ("java/util/TreeMap$NavigableSubMap$SubMapEntryIterator", ⟨"java/util/Iterator", "next", "()Ljava/lang/Object;"⟩, ⟨"java/util/TreeMap$NavigableSubMap$SubMapEntryIterator", "next", "()Ljava/lang/Object;"⟩), ("java/util/PriorityQueue$Itr", ⟨"java/util/Iterator", "next", "()Ljava/lang/Object;"⟩, ⟨"java/util/PriorityQueue$Itr", "next", "()Ljava/lang/Object;"⟩), ("java/util/TreeMap$ValueIterator", ⟨"java/util/Iterator", "next", "()Ljava/lang/Object;"⟩, ⟨"java/util/TreeMap$ValueIterator", "next", "()Ljava/lang/Object;"⟩), ("Leafcredit$ByPrice", ⟨"java/util/Comparator", "compare", "(Ljava/lang/Object;Ljava/lang/Object;)I"⟩, ⟨"Leafcredit$ByPrice", "compare", "(Ljava/lang/Object;Ljava/lang/Object;)I"⟩), ("Leafcredit$ByUse", ⟨"java/util/Comparator", "compare", "(Ljava/lang/Object;Ljava/lang/Object;)I"⟩, ⟨"Leafcredit$ByUse", "compare", "(Ljava/lang/Object;Ljava/lang/Object;)I"⟩), ("java/util/ArrayList", ⟨"java/util/List", "add", "(ILjava/lang/Object;)V"⟩, ⟨"java/util/ArrayList", "add", "(ILjava/lang/Object;)V"⟩), ("java/util/ArrayList", ⟨"java/util/List", "iterator", "()Ljava/util/Iterator;"⟩, ⟨"java/util/ArrayList", "iterator", "()Ljava/util/Iterator;"⟩), ("java/util/ArrayList", ⟨"java/util/List", "isEmpty", "()Z"⟩, ⟨"java/util/ArrayList", "isEmpty", "()Z"⟩), ("java/util/TreeMap", ⟨"java/util/Map", "values", "()Ljava/util/Collection;"⟩, ⟨"java/util/TreeMap", "values", "()Ljava/util/Collection;"⟩), ("java/util/TreeMap$AscendingSubMap", ⟨"java/util/Map", "values", "()Ljava/util/Collection;"⟩, ⟨"java/util/AbstractMap", "values", "()Ljava/util/Collection;"⟩), ("java/util/TreeMap$Entry", ⟨"java/util/Map$Entry", "getValue", "()Ljava/lang/Object;"⟩, ⟨"java/util/TreeMap$Entry", "getValue", "()Ljava/lang/Object;"⟩), ("java/util/AbstractMap$SimpleImmutableEntry", ⟨"java/util/Map$Entry", "getValue", "()Ljava/lang/Object;"⟩, ⟨"java/util/AbstractMap$SimpleImmutableEntry", "getValue", "()Ljava/lang/Object;"⟩), ("Leafcredit$Sum", ⟨"Leafcredit$Duty", "owed", "()J"⟩, ⟨"Leafcredit$Sum", "owed", "()J"⟩), ("Leafcredit$Plant", ⟨"Leafcredit$Duty", "owed", "()J"⟩, ⟨"Leafcredit$Plant", "owed", "()J"⟩), ("Leafcredit$Sum", ⟨"Leafcredit$Duty", "clear", "()V"⟩, ⟨"Leafcredit$Sum", "clear", "()V"⟩), ("Leafcredit$Plant", ⟨"Leafcredit$Duty", "clear", "()V"⟩, ⟨"Leafcredit$Plant", "clear", "()V"⟩), ("java/util/AbstractMap$2$1", ⟨"java/util/Iterator", "remove", "()V"⟩, ⟨"java/util/AbstractMap$2$1", "remove", "()V"⟩), ("java/util/TreeMap$NavigableSubMap$SubMapEntryIterator", ⟨"java/util/Iterator", "remove", "()V"⟩, ⟨"java/util/TreeMap$NavigableSubMap$SubMapEntryIterator", "remove", "()V"⟩), ("java/util/PriorityQueue$Itr", ⟨"java/util/Iterator", "remove", "()V"⟩, ⟨"java/util/PriorityQueue$Itr", "remove", "()V"⟩), ("java/util/TreeMap$ValueIterator", ⟨"java/util/Iterator", "remove", "()V"⟩, ⟨"java/util/TreeMap$PrivateEntryIterator", "remove", "()V"⟩), ("java/util/TreeMap$AscendingSubMap$AscendingEntrySetView", ⟨"java/util/Set", "clear", "()V"⟩, ⟨"java/util/AbstractCollection", "clear", "()V"⟩), ("java/lang/Integer", ⟨"java/lang/Comparable", "compareTo", "(Ljava/lang/Object;)I"⟩, ⟨"java/lang/Integer", "compareTo", "(Ljava/lang/Object;)I"⟩), ("java/lang/Long", ⟨"java/lang/Comparable", "compareTo", "(Ljava/lang/Object;)I"⟩, ⟨"java/lang/Long", "compareTo", "(Ljava/lang/Object;)I"⟩), ("java/util/TreeMap$AscendingSubMap$AscendingEntrySetView", ⟨"java/util/Set", "iterator", "()Ljava/util/Iterator;"⟩, ⟨"java/util/TreeMap$AscendingSubMap$AscendingEntrySetView", "iterator", "()Ljava/util/Iterator;"⟩), ("java/util/TreeMap$AscendingSubMap$AscendingEntrySetView", ⟨"java/util/Set", "size", "()I"⟩, ⟨"java/util/TreeMap$NavigableSubMap$EntrySetView", "size", "()I"⟩), ("java/util/TreeMap$Entry", ⟨"java/util/Map$Entry", "getKey", "()Ljava/lang/Object;"⟩, ⟨"java/util/TreeMap$Entry", "getKey", "()Ljava/lang/Object;"⟩), ("java/util/AbstractMap$SimpleImmutableEntry", ⟨"java/util/Map$Entry", "getKey", "()Ljava/lang/Object;"⟩, ⟨"java/util/AbstractMap$SimpleImmutableEntry", "getKey", "()Ljava/lang/Object;"⟩), ("java/util/TreeMap", ⟨"java/util/Map", "get", "(Ljava/lang/Object;)Ljava/lang/Object;"⟩, ⟨"java/util/TreeMap", "get", "(Ljava/lang/Object;)Ljava/lang/Object;"⟩), ("java/util/TreeMap$AscendingSubMap", ⟨"java/util/Map", "get", "(Ljava/lang/Object;)Ljava/lang/Object;"⟩, ⟨"java/util/TreeMap$NavigableSubMap", "get", "(Ljava/lang/Object;)Ljava/lang/Object;"⟩), ("java/util/TreeMap", ⟨"java/util/Map", "containsKey", "(Ljava/lang/Object;)Z"⟩, ⟨"java/util/TreeMap", "containsKey", "(Ljava/lang/Object;)Z"⟩), ("java/util/TreeMap$AscendingSubMap", ⟨"java/util/Map", "containsKey", "(Ljava/lang/Object;)Z"⟩, ⟨"java/util/TreeMap$NavigableSubMap", "containsKey", "(Ljava/lang/Object;)Z"⟩)]
def stl_ : List (String × String × String) := [("java/util/ArrayList", "DEFAULTCAPACITY_EMPTY_ELEMENTDATA", "[Ljava/lang/Object;"), ("java/lang/Integer$IntegerCache", "high", "I"), ("java/lang/Integer$IntegerCache", "cache", "[Ljava/lang/Integer;"), ("java/lang/Long$LongCache", "cache", "[Ljava/lang/Long;"), ("java/util/TreeMap", "UNBOUNDED", "Ljava/lang/Object;")]
theorem nw_tab : ∀ w ∈ nwl_, w.onTables = true := by decide +kernel
theorem nw_tbl : ∀ w ∈ nwl_, w ∈ lw_tbl := fa_ (q2135) (fa_ (q2137) (fa_ (q2146) (fa_ (q344) (fa_ (q1907) (fa_ (q1909) (fa_ (q1923) (fa_ (q1921) (fa_ (q1917) (fa_ (q1919) (fa_ (q1914) (fa_ (q1912) (fa_ (q352) (fa_ (q353) (fa_ (q342) (fa_ (q340) (fa_ (q2226) (fa_ (q2228) (fa_ (q2231) (fa_ (q2139) (fa_ (q2371) (fa_ (q2375) (fa_ (q2377) (fa_ (q354) (fa_ (q2373) (fa_ (q2152) (fa_ (q2148) (fa_ (q2381) (fa_ (q2379) (fa_ (q2150) (fa_ (q2142) (fa_ (q2781) (fa_ (q2782) (fa_ (q2778) (fa_ (q2774) (fa_ (q348) (fa_ (q332) (fa_ (q346) (fa_ (q350) (fa_ (q2179) (fa_ (q2181) (fa_ (q2183) (fa_ (q2230) (fa_ (q2224) (fa_ (q1911) (fa_ (q2144) (fa_ (q2134) (fa_ (q2141) (fa_ (q660) (fa_ (q674) (fa_ (q161) (fa_ (q1285) (fa_ (q1279) (fa_ (q189) (fa_ (q188) (fa_ (q948) (fa_ (q187) (fa_ (q3728) (fa_ (q3732) (fa_ (q3734) (fa_ (q3735) (fa_ (q3736) (fa_ (q3737) (fa_ (q3741) (fa_ (q3747) (fa_ (q3748) (fa_ (q3752) (fa_ (q3753) (fa_ (q3754) (fa_ (q3757) (fa_ (q3758) (fa_ (q3760) (fa_ (q3769) (fa_ (q3770) (fa_ (q3771) (fa_ (q3772) (fa_ (q3729) (fa_ (q3730) (fa_ (q3731) (fa_ (q3742) (fa_ (q3745) (fa_ (q3773) (fa_ (q3746) (fa_ (q3749) (fa_ (q3763) (fa_ (q3765) (fa_ (q3766) (fa_ (q3750) (fa_ (q3751) (fa_ (q3761) (fa_ (q3762) (fa_ (q3768) (fa_ (q3782) (fa_ (q3784) (fa_ (q3785) (fa_ (q3786) (fa_ (q3781) (fa_ (q237) (fa_ (q239) (fa_ (q235) (fa_ (q234) (fa_ (q1616) (fa_ (q1873) (fa_ (q1179) (fa_ (q1957) (fa_ (q217) (fa_ (q1901) (fa_ (q327) (fa_ (q3514) (fa_ (q3635) (fa_ (q2900) (fa_ (q2269) (fa_ (q1585) (fa_ (q582) (fa_ (q2310) (fa_ (q1793) (fa_ (q1771) (fn_)))))))))))))))))))))))))))))))))))))))))))))))))))))))))))))))))))))))))))))))))))))))))))))))))))))))))))))))))))))
theorem nw_warm : ∀ w ∈ nwl_, ∀ s U : State, s.WarmedH U.vm → va_Nw w s → va_Nw w U := fa_ (fun s U hW h => va_Nw.warmF hW h) (fa_ (fun s U hW h => va_Nw.warmF hW h) (fa_ (fun s U hW h => va_Nw.warmF hW h) (fa_ (fun s U hW h => va_Nw.warmF hW h) (fa_ (fun s U hW h => va_Nw.warmF hW h) (fa_ (fun s U hW h => va_Nw.warmF hW h) (fa_ (fun s U hW h => va_Nw.warmF hW h) (fa_ (fun s U hW h => va_Nw.warmF hW h) (fa_ (fun s U hW h => va_Nw.warmF hW h) (fa_ (fun s U hW h => va_Nw.warmF hW h) (fa_ (fun s U hW h => va_Nw.warmF hW h) (fa_ (fun s U hW h => va_Nw.warmF hW h) (fa_ (fun s U hW h => va_Nw.warmF hW h) (fa_ (fun s U hW h => va_Nw.warmF hW h) (fa_ (fun s U hW h => va_Nw.warmF hW h) (fa_ (fun s U hW h => va_Nw.warmF hW h) (fa_ (fun s U hW h => va_Nw.warmF hW h) (fa_ (fun s U hW h => va_Nw.warmF hW h) (fa_ (fun s U hW h => va_Nw.warmF hW h) (fa_ (fun s U hW h => va_Nw.warmF hW h) (fa_ (fun s U hW h => va_Nw.warmF hW h) (fa_ (fun s U hW h => va_Nw.warmF hW h) (fa_ (fun s U hW h => va_Nw.warmF hW h) (fa_ (fun s U hW h => va_Nw.warmF hW h) (fa_ (fun s U hW h => va_Nw.warmF hW h) (fa_ (fun s U hW h => va_Nw.warmF hW h) (fa_ (fun s U hW h => va_Nw.warmF hW h) (fa_ (fun s U hW h => va_Nw.warmF hW h) (fa_ (fun s U hW h => va_Nw.warmF hW h) (fa_ (fun s U hW h => va_Nw.warmF hW h) (fa_ (fun s U hW h => va_Nw.warmF hW h) (fa_ (fun s U hW h => va_Nw.warmF hW h) (fa_ (fun s U hW h => va_Nw.warmF hW h) (fa_ (fun s U hW h => va_Nw.warmF hW h) (fa_ (fun s U hW h => va_Nw.warmF hW h) (fa_ (fun s U hW h => va_Nw.warmF hW h) (fa_ (fun s U hW h => va_Nw.warmF hW h) (fa_ (fun s U hW h => va_Nw.warmF hW h) (fa_ (fun s U hW h => va_Nw.warmF hW h) (fa_ (fun s U hW h => va_Nw.warmF hW h) (fa_ (fun s U hW h => va_Nw.warmF hW h) (fa_ (fun s U hW h => va_Nw.warmF hW h) (fa_ (fun s U hW h => va_Nw.warmF hW h) (fa_ (fun s U hW h => va_Nw.warmF hW h) (fa_ (fun s U hW h => va_Nw.warmF hW h) (fa_ (fun s U hW h => va_Nw.warmF hW h) (fa_ (fun s U hW h => va_Nw.warmF hW h) (fa_ (fun s U hW h => va_Nw.warmF hW h) (fa_ (fun s U hW h => va_Nw.warmC hW h) (fa_ (fun s U hW h => va_Nw.warmC hW h) (fa_ (fun s U hW h => va_Nw.warmF hW h) (fa_ (fun s U hW h => va_Nw.warmC hW h) (fa_ (fun s U hW h => va_Nw.warmC hW h) (fa_ (fun s U hW h => va_Nw.warmF hW h) (fa_ (fun s U hW h => va_Nw.warmF hW h) (fa_ (fun s U hW h => va_Nw.warmF hW h) (fa_ (fun s U hW h => va_Nw.warmF hW h) (fa_ (fun s U hW h => va_Nw.warmC hW h) (fa_ (fun s U hW h => va_Nw.warmC hW h) (fa_ (fun s U hW h => va_Nw.warmC hW h) (fa_ (fun s U hW h => va_Nw.warmC hW h) (fa_ (fun s U hW h => va_Nw.warmC hW h) (fa_ (fun s U hW h => va_Nw.warmC hW h) (fa_ (fun s U hW h => va_Nw.warmC hW h) (fa_ (fun s U hW h => va_Nw.warmC hW h) (fa_ (fun s U hW h => va_Nw.warmC hW h) (fa_ (fun s U hW h => va_Nw.warmC hW h) (fa_ (fun s U hW h => va_Nw.warmC hW h) (fa_ (fun s U hW h => va_Nw.warmC hW h) (fa_ (fun s U hW h => va_Nw.warmC hW h) (fa_ (fun s U hW h => va_Nw.warmC hW h) (fa_ (fun s U hW h => va_Nw.warmC hW h) (fa_ (fun s U hW h => va_Nw.warmC hW h) (fa_ (fun s U hW h => va_Nw.warmC hW h) (fa_ (fun s U hW h => va_Nw.warmC hW h) (fa_ (fun s U hW h => va_Nw.warmC hW h) (fa_ (fun s U hW h => va_Nw.warmC hW h) (fa_ (fun s U hW h => va_Nw.warmC hW h) (fa_ (fun s U hW h => va_Nw.warmC hW h) (fa_ (fun s U hW h => va_Nw.warmC hW h) (fa_ (fun s U hW h => va_Nw.warmC hW h) (fa_ (fun s U hW h => va_Nw.warmC hW h) (fa_ (fun s U hW h => va_Nw.warmC hW h) (fa_ (fun s U hW h => va_Nw.warmC hW h) (fa_ (fun s U hW h => va_Nw.warmC hW h) (fa_ (fun s U hW h => va_Nw.warmC hW h) (fa_ (fun s U hW h => va_Nw.warmC hW h) (fa_ (fun s U hW h => va_Nw.warmC hW h) (fa_ (fun s U hW h => va_Nw.warmC hW h) (fa_ (fun s U hW h => va_Nw.warmC hW h) (fa_ (fun s U hW h => va_Nw.warmC hW h) (fa_ (fun s U hW h => va_Nw.warmC hW h) (fa_ (fun s U hW h => va_Nw.warmC hW h) (fa_ (fun s U hW h => va_Nw.warmC hW h) (fa_ (fun s U hW h => va_Nw.warmC hW h) (fa_ (fun s U hW h => va_Nw.warmC hW h) (fa_ (fun s U hW h => va_Nw.warmC hW h) (fa_ (fun s U hW h => va_Nw.warmD hW h) (fa_ (fun s U hW h => va_Nw.warmD hW h) (fa_ (fun s U hW h => va_Nw.warmD hW h) (fa_ (fun s U hW h => va_Nw.warmC hW h) (fa_ (fun s U hW h => va_Nw.warmC hW h) (fa_ (fun s U hW h => va_Nw.warmC hW h) (fa_ (fun s U hW h => va_Nw.warmC hW h) (fa_ (fun s U hW h => va_Nw.warmC hW h) (fa_ (fun s U hW h => va_Nw.warmM hW h) (fa_ (fun s U hW h => va_Nw.warmM hW h) (fa_ (fun s U hW h => va_Nw.warmM hW h) (fa_ (fun s U hW h => va_Nw.warmM hW h) (fa_ (fun s U hW h => va_Nw.warmM hW h) (fa_ (fun s U hW h => va_Nw.warmM hW h) (fa_ (fun s U hW h => va_Nw.warmD hW h) (fa_ (fun s U hW h => va_Nw.warmD hW h) (fa_ (fun s U hW h => va_Nw.warmD hW h) (fa_ (fun s U hW h => va_Nw.warmD hW h) (fa_ (fun s U hW h => va_Nw.warmM hW h) (fa_ (fun s U hW h => va_Nw.warmM hW h) (fn_)))))))))))))))))))))))))))))))))))))))))))))))))))))))))))))))))))))))))))))))))))))))))))))))))))))))))))))))))))))
theorem fw_mov : ∀ q ∈ fwl_, ∀ u U : State, u.vm.Alike U.vm → va_Fw q.1 q.2.1 q.2.2 u → va_Fw q.1 q.2.1 q.2.2 U := fa_ (fun u U hv h => va_Fw.moved ⟨by decide, by decide⟩ hv h) (fa_ (fun u U hv h => va_Fw.moved ⟨by decide, by decide⟩ hv h) (fa_ (fun u U hv h => va_Fw.moved ⟨by decide, by decide⟩ hv h) (fa_ (fun u U hv h => va_Fw.moved ⟨by decide, by decide⟩ hv h) (fa_ (fun u U hv h => va_Fw.moved ⟨by decide, by decide⟩ hv h) (fa_ (fun u U hv h => va_Fw.moved ⟨by decide, by decide⟩ hv h) (fa_ (fun u U hv h => va_Fw.moved ⟨by decide, by decide⟩ hv h) (fa_ (fun u U hv h => va_Fw.moved ⟨by decide, by decide⟩ hv h) (fa_ (fun u U hv h => va_Fw.moved ⟨by decide, by decide⟩ hv h) (fa_ (fun u U hv h => va_Fw.moved ⟨by decide, by decide⟩ hv h) (fa_ (fun u U hv h => va_Fw.moved ⟨by decide, by decide⟩ hv h) (fa_ (fun u U hv h => va_Fw.moved ⟨by decide, by decide⟩ hv h) (fa_ (fun u U hv h => va_Fw.moved ⟨by decide, by decide⟩ hv h) (fa_ (fun u U hv h => va_Fw.moved ⟨by decide, by decide⟩ hv h) (fa_ (fun u U hv h => va_Fw.moved ⟨by decide, by decide⟩ hv h) (fa_ (fun u U hv h => va_Fw.moved ⟨by decide, by decide⟩ hv h) (fa_ (fun u U hv h => va_Fw.moved ⟨by decide, by decide⟩ hv h) (fa_ (fun u U hv h => va_Fw.moved ⟨by decide, by decide⟩ hv h) (fa_ (fun u U hv h => va_Fw.moved ⟨by decide, by decide⟩ hv h) (fa_ (fun u U hv h => va_Fw.moved ⟨by decide, by decide⟩ hv h) (fa_ (fun u U hv h => va_Fw.moved ⟨by decide, by decide⟩ hv h) (fa_ (fun u U hv h => va_Fw.moved ⟨by decide, by decide⟩ hv h) (fa_ (fun u U hv h => va_Fw.moved ⟨by decide, by decide⟩ hv h) (fa_ (fun u U hv h => va_Fw.moved ⟨by decide, by decide⟩ hv h) (fa_ (fun u U hv h => va_Fw.moved ⟨by decide, by decide⟩ hv h) (fa_ (fun u U hv h => va_Fw.moved ⟨by decide, by decide⟩ hv h) (fa_ (fun u U hv h => va_Fw.moved ⟨by decide, by decide⟩ hv h) (fa_ (fun u U hv h => va_Fw.moved ⟨by decide, by decide⟩ hv h) (fa_ (fun u U hv h => va_Fw.moved ⟨by decide, by decide⟩ hv h) (fa_ (fun u U hv h => va_Fw.moved ⟨by decide, by decide⟩ hv h) (fa_ (fun u U hv h => va_Fw.moved ⟨by decide, by decide⟩ hv h) (fa_ (fun u U hv h => va_Fw.moved ⟨by decide, by decide⟩ hv h) (fa_ (fun u U hv h => va_Fw.moved ⟨by decide, by decide⟩ hv h) (fa_ (fun u U hv h => va_Fw.moved ⟨by decide, by decide⟩ hv h) (fa_ (fun u U hv h => va_Fw.moved ⟨by decide, by decide⟩ hv h) (fa_ (fun u U hv h => va_Fw.moved ⟨by decide, by decide⟩ hv h) (fa_ (fun u U hv h => va_Fw.moved ⟨by decide, by decide⟩ hv h) (fa_ (fun u U hv h => va_Fw.moved ⟨by decide, by decide⟩ hv h) (fa_ (fun u U hv h => va_Fw.moved ⟨by decide, by decide⟩ hv h) (fa_ (fun u U hv h => va_Fw.moved ⟨by decide, by decide⟩ hv h) (fa_ (fun u U hv h => va_Fw.moved ⟨by decide, by decide⟩ hv h) (fa_ (fun u U hv h => va_Fw.moved ⟨by decide, by decide⟩ hv h) (fa_ (fun u U hv h => va_Fw.moved ⟨by decide, by decide⟩ hv h) (fa_ (fun u U hv h => va_Fw.moved ⟨by decide, by decide⟩ hv h) (fa_ (fun u U hv h => va_Fw.moved ⟨by decide, by decide⟩ hv h) (fa_ (fun u U hv h => va_Fw.moved ⟨by decide, by decide⟩ hv h) (fn_))))))))))))))))))))))))))))))))))))))))))))))
theorem fw_of {U : State} {A : Array Value} (hts : ∀ w ∈ lw_tbl, w.before A U = true) : ∀ q ∈ fwl_, va_Fw q.1 q.2.1 q.2.2 U := fa_ (va_Fw.of (hts _ q377) (hts _ q376) (hts _ q382) (hts _ q380) (hts _ q378)) (fa_ (va_Fw.of (hts _ q1320) (hts _ q1319) (hts _ q1324) (hts _ q1322) (hts _ q378)) (fa_ (va_Fw.of (hts _ q1889) (hts _ q1888) (hts _ q1893) (hts _ q1891) (hts _ q378)) (fa_ (va_Fw.of (hts _ q568) (hts _ q567) (hts _ q1038) (hts _ q1036) (hts _ q1034)) (fa_ (va_Fw.of (hts _ q568) (hts _ q567) (hts _ q1063) (hts _ q1061) (hts _ q1059)) (fa_ (va_Fw.of (hts _ q568) (hts _ q567) (hts _ q1098) (hts _ q1096) (hts _ q1094)) (fa_ (va_Fw.of (hts _ q568) (hts _ q567) (hts _ q633) (hts _ q631) (hts _ q1090)) (fa_ (va_Fw.of (hts _ q568) (hts _ q567) (hts _ q573) (hts _ q571) (hts _ q569)) (fa_ (va_Fw.of (hts _ q1115) (hts _ q1114) (hts _ q1134) (hts _ q1132) (hts _ q1130)) (fa_ (va_Fw.of (hts _ q1115) (hts _ q1114) (hts _ q1120) (hts _ q1118) (hts _ q1116)) (fa_ (va_Fw.of (hts _ q1115) (hts _ q1114) (hts _ q1156) (hts _ q1154) (hts _ q1152)) (fa_ (va_Fw.of (hts _ q1115) (hts _ q1114) (hts _ q1140) (hts _ q1138) (hts _ q1136)) (fa_ (va_Fw.of (hts _ q1115) (hts _ q1114) (hts _ q1150) (hts _ q1160) (hts _ q1158)) (fa_ (va_Fw.of (hts _ q1164) (hts _ q1163) (hts _ q1201) (hts _ q1199) (hts _ q1130)) (fa_ (va_Fw.of (hts _ q1164) (hts _ q1163) (hts _ q1168) (hts _ q1166) (hts _ q1116)) (fa_ (va_Fw.of (hts _ q1164) (hts _ q1163) (hts _ q1251) (hts _ q1249) (hts _ q1152)) (fa_ (va_Fw.of (hts _ q1164) (hts _ q1163) (hts _ q1212) (hts _ q1210) (hts _ q1136)) (fa_ (va_Fw.of (hts _ q1164) (hts _ q1163) (hts _ q1269) (hts _ q1267) (hts _ q1158)) (fa_ (va_Fw.of (hts _ q900) (hts _ q899) (hts _ q905) (hts _ q903) (hts _ q901)) (fa_ (va_Fw.of (hts _ q900) (hts _ q899) (hts _ q917) (hts _ q915) (hts _ q913)) (fa_ (va_Fw.of (hts _ q2418) (hts _ q2417) (hts _ q2422) (hts _ q2420) (hts _ q378)) (fa_ (va_Fw.of (hts _ q1341) (hts _ q1340) (hts _ q1038) (hts _ q1036) (hts _ q378)) (fa_ (va_Fw.of (hts _ q2331) (hts _ q2330) (hts _ q2335) (hts _ q2333) (hts _ q378)) (fa_ (va_Fw.of (hts _ q2672) (hts _ q2671) (hts _ q2675) (hts _ q2674) (hts _ q2076)) (fa_ (va_Fw.of (hts _ q2672) (hts _ q2671) (hts _ q2679) (hts _ q2677) (hts _ q2080)) (fa_ (va_Fw.of (hts _ q1278) (hts _ q1277) (hts _ q1289) (hts _ q1287) (hts _ q1285)) (fa_ (va_Fw.of (hts _ q1278) (hts _ q1277) (hts _ q1283) (hts _ q1281) (hts _ q1279)) (fa_ (va_Fw.of (hts _ q2891) (hts _ q2890) (hts _ q2925) (hts _ q2923) (hts _ q2921)) (fa_ (va_Fw.of (hts _ q2891) (hts _ q2890) (hts _ q2896) (hts _ q2894) (hts _ q2892)) (fa_ (va_Fw.of (hts _ q2930) (hts _ q2929) (hts _ q2939) (hts _ q2937) (hts _ q2921)) (fa_ (va_Fw.of (hts _ q2930) (hts _ q2929) (hts _ q2934) (hts _ q2932) (hts _ q2892)) (fa_ (va_Fw.of (hts _ q1601) (hts _ q1600) (hts _ q1605) (hts _ q1603) (hts _ q1116)) (fa_ (va_Fw.of (hts _ q1601) (hts _ q1600) (hts _ q1783) (hts _ q1781) (hts _ q1152)) (fa_ (va_Fw.of (hts _ q1601) (hts _ q1600) (hts _ q1682) (hts _ q1680) (hts _ q1136)) (fa_ (va_Fw.of (hts _ q1601) (hts _ q1600) (hts _ q1767) (hts _ q1795) (hts _ q1158)) (fa_ (va_Fw.of (hts _ q1578) (hts _ q1577) (hts _ q1582) (hts _ q1580) (hts _ q629)) (fa_ (va_Fw.of (hts _ q659) (hts _ q658) (hts _ q664) (hts _ q662) (hts _ q660)) (fa_ (va_Fw.of (hts _ q659) (hts _ q658) (hts _ q678) (hts _ q676) (hts _ q674)) (fa_ (va_Fw.of (hts _ q628) (hts _ q627) (hts _ q633) (hts _ q631) (hts _ q629)) (fa_ (va_Fw.of (hts _ q2290) (hts _ q2289) (hts _ q2294) (hts _ q2292) (hts _ q629)) (fa_ (va_Fw.of (hts _ q1386) (hts _ q1385) (hts _ q1395) (hts _ q1393) (hts _ q1285)) (fa_ (va_Fw.of (hts _ q1386) (hts _ q1385) (hts _ q1390) (hts _ q1388) (hts _ q1279)) (fa_ (va_Fw.of (hts _ q2075) (hts _ q2074) (hts _ q2079) (hts _ q2078) (hts _ q2076)) (fa_ (va_Fw.of (hts _ q2075) (hts _ q2074) (hts _ q2084) (hts _ q2082) (hts _ q2080)) (fa_ (va_Fw.of (hts _ q2100) (hts _ q2099) (hts _ q2103) (hts _ q2102) (hts _ q2076)) (fa_ (va_Fw.of (hts _ q2100) (hts _ q2099) (hts _ q2107) (hts _ q2105) (hts _ q2080)) (fn_))))))))))))))))))))))))))))))))))))))))))))))
def spc_ (U : State) : Prop := True
theorem spc_mov : ∀ s U : State, s.WarmedH U.vm → spc_ s → spc_ U := fun _ _ _ h => h
theorem tFld_1 : ∀ q ∈ pF_1, FldOK onm nwl_ 1 q.1 q.2 := fa_ (⟨"Leafcredit", Or.inl q475, Or.inl rfl, rfl, rfl, rfl⟩) (fa_ (⟨"Leafcredit", Or.inl q476, Or.inl rfl, rfl, rfl, rfl⟩) (fa_ (⟨"Leafcredit", Or.inl q477, Or.inl rfl, rfl, rfl, rfl⟩) (fa_ (⟨"Leafcredit", Or.inl q478, Or.inl rfl, rfl, rfl, rfl⟩) (fa_ (⟨"Leafcredit", Or.inl q479, Or.inl rfl, rfl, rfl, rfl⟩) (fa_ (⟨"Leafcredit", Or.inl q480, Or.inl rfl, rfl, rfl, rfl⟩) (fa_ (⟨"Leafcredit", Or.inl q481, Or.inl rfl, rfl, rfl, rfl⟩) (fa_ (⟨"Leafcredit", Or.inl q486, Or.inl rfl, rfl, rfl, rfl⟩) (fa_ (⟨"Leafcredit", Or.inl q487, Or.inl rfl, rfl, rfl, rfl⟩) (fa_ (⟨"Leafcredit", Or.inl q490, Or.inl rfl, rfl, rfl, rfl⟩) (fa_ (⟨"Leafcredit", Or.inl q494, Or.inl rfl, rfl, rfl, rfl⟩) (fa_ (⟨"Leafcredit", Or.inl q482, Or.inl rfl, rfl, rfl, rfl⟩) (fa_ (⟨"Leafcredit", Or.inl q483, Or.inl rfl, rfl, rfl, rfl⟩) (fa_ (⟨"Leafcredit", Or.inl q484, Or.inl rfl, rfl, rfl, rfl⟩) (fa_ (⟨"Leafcredit$Piece", Or.inr ⟨by decide, "Leafcredit", (List.mem_of_getElem? (i := 0) rfl)⟩, Or.inl rfl, rfl, rfl, rfl⟩) (fa_ (⟨"Leafcredit$Piece", Or.inr ⟨by decide, "Leafcredit", (List.mem_of_getElem? (i := 1) rfl)⟩, Or.inl rfl, rfl, rfl, rfl⟩) (fa_ (⟨"Leafcredit$Piece", Or.inr ⟨by decide, "Leafcredit", (List.mem_of_getElem? (i := 2) rfl)⟩, Or.inl rfl, rfl, rfl, rfl⟩) (fa_ (⟨"Leafcredit$Account", Or.inr ⟨by decide, "Leafcredit", (List.mem_of_getElem? (i := 3) rfl)⟩, Or.inl rfl, rfl, rfl, rfl⟩) (fa_ (⟨"Leafcredit$Plant", Or.inr ⟨by decide, "Leafcredit", (List.mem_of_getElem? (i := 4) rfl)⟩, Or.inl rfl, rfl, rfl, rfl⟩) (fa_ (⟨"Leafcredit$Plant", Or.inr ⟨by decide, "Leafcredit", (List.mem_of_getElem? (i := 5) rfl)⟩, Or.inl rfl, rfl, rfl, rfl⟩) (fa_ (⟨"Leafcredit$Plant", Or.inr ⟨by decide, "Leafcredit", (List.mem_of_getElem? (i := 6) rfl)⟩, Or.inl rfl, rfl, rfl, rfl⟩) (fa_ (⟨"Leafcredit$Plant", Or.inr ⟨by decide, "Leafcredit", (List.mem_of_getElem? (i := 7) rfl)⟩, Or.inl rfl, rfl, rfl, rfl⟩) (fa_ (⟨"Leafcredit$Plant", Or.inr ⟨by decide, "Leafcredit", (List.mem_of_getElem? (i := 8) rfl)⟩, Or.inl rfl, rfl, rfl, rfl⟩) (fa_ (⟨"Leafcredit$Plant", Or.inr ⟨by decide, "Leafcredit", (List.mem_of_getElem? (i := 9) rfl)⟩, Or.inl rfl, rfl, rfl, rfl⟩) (fa_ (⟨"Leafcredit$Plant", Or.inr ⟨by decide, "Leafcredit", (List.mem_of_getElem? (i := 10) rfl)⟩, Or.inl rfl, rfl, rfl, rfl⟩) (fa_ (⟨"Leafcredit$Plant", Or.inr ⟨by decide, "Leafcredit", (List.mem_of_getElem? (i := 11) rfl)⟩, Or.inl rfl, rfl, rfl, rfl⟩) (fa_ (⟨"Leafcredit$Account", Or.inr ⟨by decide, "Leafcredit", (List.mem_of_getElem? (i := 12) rfl)⟩, Or.inl rfl, rfl, rfl, rfl⟩) (fa_ (⟨"Leafcredit$Account", Or.inr ⟨by decide, "Leafcredit", (List.mem_of_getElem? (i := 13) rfl)⟩, Or.inl rfl, rfl, rfl, rfl⟩) (fa_ (⟨"Leafcredit$Account", Or.inr ⟨by decide, "Leafcredit", (List.mem_of_getElem? (i := 14) rfl)⟩, Or.inl rfl, rfl, rfl, rfl⟩) (fa_ (⟨"Leafcredit", Or.inl q488, Or.inl rfl, rfl, rfl, rfl⟩) (fa_ (⟨"Leafcredit", Or.inl q489, Or.inl rfl, rfl, rfl, rfl⟩) (fa_ (⟨"Leafcredit", Or.inl q491, Or.inl rfl, rfl, rfl, rfl⟩) (fa_ (⟨"Leafcredit", Or.inl q493, Or.inl rfl, rfl, rfl, rfl⟩) (fa_ (⟨"Leafcredit$Account", Or.inr ⟨by decide, "Leafcredit", (List.mem_of_getElem? (i := 15) rfl)⟩, Or.inl rfl, rfl, rfl, rfl⟩) (fa_ (⟨"Leafcredit", Or.inl q492, Or.inl rfl, rfl, rfl, rfl⟩) (fa_ (⟨"Leafcredit$Bid", Or.inr ⟨by decide, "Leafcredit", (List.mem_of_getElem? (i := 16) rfl)⟩, Or.inl rfl, rfl, rfl, rfl⟩) (fa_ (⟨"Leafcredit$Bid", Or.inr ⟨by decide, "Leafcredit", (List.mem_of_getElem? (i := 17) rfl)⟩, Or.inl rfl, rfl, rfl, rfl⟩) (fa_ (⟨"Leafcredit$Bid", Or.inr ⟨by decide, "Leafcredit", (List.mem_of_getElem? (i := 18) rfl)⟩, Or.inl rfl, rfl, rfl, rfl⟩) (fa_ (⟨"Leafcredit", Or.inl q495, Or.inl rfl, rfl, rfl, rfl⟩) (fa_ (⟨"Leafcredit$Piece", Or.inr ⟨by decide, "Leafcredit", (List.mem_of_getElem? (i := 19) rfl)⟩, Or.inl rfl, rfl, rfl, rfl⟩) (fa_ (⟨"Leafcredit$Transfer", Or.inr ⟨by decide, "Leafcredit", (List.mem_of_getElem? (i := 20) rfl)⟩, Or.inl rfl, rfl, rfl, rfl⟩) (fa_ (⟨"Leafcredit$Transfer", Or.inr ⟨by decide, "Leafcredit", (List.mem_of_getElem? (i := 21) rfl)⟩, Or.inl rfl, rfl, rfl, rfl⟩) (fa_ (⟨"Leafcredit$Transfer", Or.inr ⟨by decide, "Leafcredit", (List.mem_of_getElem? (i := 22) rfl)⟩, Or.inl rfl, rfl, rfl, rfl⟩) (fa_ (⟨"Leafcredit$Account", Or.inr ⟨by decide, "Leafcredit", (List.mem_of_getElem? (i := 23) rfl)⟩, Or.inl rfl, rfl, rfl, rfl⟩) (fa_ (⟨"Leafcredit$Transfer", Or.inr ⟨by decide, "Leafcredit", (List.mem_of_getElem? (i := 24) rfl)⟩, Or.inl rfl, rfl, rfl, rfl⟩) (fa_ (⟨"Leafcredit$Piece", Or.inr ⟨by decide, "Leafcredit", (List.mem_of_getElem? (i := 25) rfl)⟩, Or.inl rfl, rfl, rfl, rfl⟩) (fa_ (⟨"Leafcredit$Piece", Or.inr ⟨by decide, "Leafcredit", (List.mem_of_getElem? (i := 26) rfl)⟩, Or.inl rfl, rfl, rfl, rfl⟩) (fa_ (⟨"Leafcredit$Transfer", Or.inr ⟨by decide, "Leafcredit", (List.mem_of_getElem? (i := 27) rfl)⟩, Or.inl rfl, rfl, rfl, rfl⟩) (fa_ (⟨"Leafcredit$Transfer", Or.inr ⟨by decide, "Leafcredit", (List.mem_of_getElem? (i := 28) rfl)⟩, Or.inl rfl, rfl, rfl, rfl⟩) (fa_ (⟨"Leafcredit$Piece", Or.inr ⟨by decide, "Leafcredit", (List.mem_of_getElem? (i := 29) rfl)⟩, Or.inl rfl, rfl, rfl, rfl⟩) (fa_ (⟨"Leafcredit$Piece", Or.inr ⟨by decide, "Leafcredit", (List.mem_of_getElem? (i := 30) rfl)⟩, Or.inl rfl, rfl, rfl, rfl⟩) (fa_ (⟨"Leafcredit", Or.inl q485, Or.inl rfl, rfl, rfl, rfl⟩) (fa_ (⟨"Leafcredit$Project", Or.inr ⟨by decide, "Leafcredit", (List.mem_of_getElem? (i := 31) rfl)⟩, Or.inl rfl, rfl, rfl, rfl⟩) (fa_ (⟨"Leafcredit$Project", Or.inr ⟨by decide, "Leafcredit", (List.mem_of_getElem? (i := 32) rfl)⟩, Or.inl rfl, rfl, rfl, rfl⟩) (fa_ (⟨"Leafcredit$Project", Or.inr ⟨by decide, "Leafcredit", (List.mem_of_getElem? (i := 33) rfl)⟩, Or.inl rfl, rfl, rfl, rfl⟩) (fa_ (⟨"Leafcredit$Project", Or.inr ⟨by decide, "Leafcredit", (List.mem_of_getElem? (i := 34) rfl)⟩, Or.inl rfl, rfl, rfl, rfl⟩) (fa_ (⟨"Leafcredit$Account", Or.inr ⟨by decide, "Leafcredit", (List.mem_of_getElem? (i := 35) rfl)⟩, Or.inl rfl, rfl, rfl, rfl⟩) (fa_ (⟨"Leafcredit$Sum", Or.inr ⟨by decide, "Leafcredit", (List.mem_of_getElem? (i := 36) rfl)⟩, Or.inl rfl, rfl, rfl, rfl⟩) (fa_ (⟨"Leafcredit$Account", Or.inr ⟨by decide, "Leafcredit", (List.mem_of_getElem? (i := 37) rfl)⟩, Or.inl rfl, rfl, rfl, rfl⟩) (fa_ (⟨"Leafcredit$Account", Or.inr ⟨by decide, "Leafcredit", (List.mem_of_getElem? (i := 38) rfl)⟩, Or.inl rfl, rfl, rfl, rfl⟩) (fa_ (⟨"Leafcredit$Entry", Or.inr ⟨by decide, "Leafcredit", (List.mem_of_getElem? (i := 39) rfl)⟩, Or.inl rfl, rfl, rfl, rfl⟩) (fa_ (⟨"Leafcredit$Entry", Or.inr ⟨by decide, "Leafcredit", (List.mem_of_getElem? (i := 40) rfl)⟩, Or.inl rfl, rfl, rfl, rfl⟩) (fa_ (⟨"Leafcredit$Entry", Or.inr ⟨by decide, "Leafcredit", (List.mem_of_getElem? (i := 41) rfl)⟩, Or.inl rfl, rfl, rfl, rfl⟩) (fn_)))))))))))))))))))))))))))))))))))))))))))))))))))))))))))))))
theorem tFld_2 : ∀ q ∈ pF_2, FldOK onm nwl_ 2 q.1 q.2 := fa_ (⟨"Leafcredit$Bid", Or.inr ⟨by decide, "Leafcredit", (List.mem_of_getElem? (i := 42) rfl)⟩, Or.inl rfl, rfl, rfl, rfl⟩) (fa_ (⟨"Leafcredit$Bid", Or.inr ⟨by decide, "Leafcredit", (List.mem_of_getElem? (i := 43) rfl)⟩, Or.inl rfl, rfl, rfl, rfl⟩) (fn_))
theorem tFld_3 : ∀ q ∈ pF_3, FldOK onm nwl_ 3 q.1 q.2 := fa_ (⟨"Leafcredit$Account", Or.inl q345, Or.inl rfl, rfl, rfl, rfl⟩) (fa_ (⟨"Leafcredit$Account", Or.inl q347, Or.inl rfl, rfl, rfl, rfl⟩) (fa_ (⟨"Leafcredit$Account", Or.inl q349, Or.inl rfl, rfl, rfl, rfl⟩) (fa_ (⟨"Leafcredit$Account", Or.inl q351, Or.inl rfl, rfl, rfl, rfl⟩) (fa_ (⟨"Leafcredit$Account", Or.inl q339, Or.inl rfl, rfl, rfl, rfl⟩) (fa_ (⟨"Leafcredit$Account", Or.inl q341, Or.inl rfl, rfl, rfl, rfl⟩) (fa_ (⟨"Leafcredit$Account", Or.inl q343, Or.inl rfl, rfl, rfl, rfl⟩) (fa_ (⟨"Leafcredit$Plant", Or.inr ⟨by decide, "Leafcredit", (List.mem_of_getElem? (i := 44) rfl)⟩, Or.inl rfl, rfl, rfl, rfl⟩) (fn_))))))))
theorem tFld_4 : ∀ q ∈ pF_4, FldOK onm nwl_ 4 q.1 q.2 := fa_ (⟨"Leafcredit$Sum", Or.inl q331, Or.inl rfl, rfl, rfl, rfl⟩) (fn_)
theorem tFld_5 : ∀ q ∈ pF_5, FldOK onm nwl_ 5 q.1 q.2 := fa_ (⟨"LeafcreditModel", Or.inl q3073, Or.inl rfl, rfl, rfl, rfl⟩) (fa_ (⟨"LeafcreditModel", Or.inl q3074, Or.inl rfl, rfl, rfl, rfl⟩) (fa_ (⟨"LeafcreditModel", Or.inl q3075, Or.inl rfl, rfl, rfl, rfl⟩) (fa_ (⟨"LeafcreditModel", Or.inl q3076, Or.inl rfl, rfl, rfl, rfl⟩) (fa_ (⟨"LeafcreditModel", Or.inl q3077, Or.inl rfl, rfl, rfl, rfl⟩) (fa_ (⟨"LeafcreditModel", Or.inl q3078, Or.inl rfl, rfl, rfl, rfl⟩) (fa_ (⟨"LeafcreditModel", Or.inl q3079, Or.inl rfl, rfl, rfl, rfl⟩) (fa_ (⟨"LeafcreditModel", Or.inl q3080, Or.inl rfl, rfl, rfl, rfl⟩) (fa_ (⟨"LeafcreditModel", Or.inl q3081, Or.inl rfl, rfl, rfl, rfl⟩) (fa_ (⟨"LeafcreditModel", Or.inl q3082, Or.inl rfl, rfl, rfl, rfl⟩) (fa_ (⟨"LeafcreditModel", Or.inl q3083, Or.inl rfl, rfl, rfl, rfl⟩) (fa_ (⟨"LeafcreditModel", Or.inl q3084, Or.inl rfl, rfl, rfl, rfl⟩) (fa_ (⟨"LeafcreditModel", Or.inl q3085, Or.inl rfl, rfl, rfl, rfl⟩) (fa_ (⟨"LeafcreditModel", Or.inl q3086, Or.inl rfl, rfl, rfl, rfl⟩) (fa_ (⟨"LeafcreditModel", Or.inl q3087, Or.inl rfl, rfl, rfl, rfl⟩) (fa_ (⟨"LeafcreditModel", Or.inl q3088, Or.inl rfl, rfl, rfl, rfl⟩) (fa_ (⟨"LeafcreditModel", Or.inl q3089, Or.inl rfl, rfl, rfl, rfl⟩) (fa_ (⟨"LeafcreditModel", Or.inl q3090, Or.inl rfl, rfl, rfl, rfl⟩) (fa_ (⟨"LeafcreditModel", Or.inl q3091, Or.inl rfl, rfl, rfl, rfl⟩) (fa_ (⟨"LeafcreditModel", Or.inl q3092, Or.inl rfl, rfl, rfl, rfl⟩) (fa_ (⟨"LeafcreditModel", Or.inl q3093, Or.inl rfl, rfl, rfl, rfl⟩) (fa_ (⟨"LeafcreditModel", Or.inl q3094, Or.inl rfl, rfl, rfl, rfl⟩) (fa_ (⟨"LeafcreditModel", Or.inl q3095, Or.inl rfl, rfl, rfl, rfl⟩) (fa_ (⟨"LeafcreditModel$Account", Or.inl q2997, Or.inl rfl, rfl, rfl, rfl⟩) (fa_ (⟨"LeafcreditModel$Account", Or.inl q2999, Or.inl rfl, rfl, rfl, rfl⟩) (fa_ (⟨"LeafcreditModel$Account", Or.inl q3001, Or.inl rfl, rfl, rfl, rfl⟩) (fa_ (⟨"LeafcreditModel$Account", Or.inl q3009, Or.inl rfl, rfl, rfl, rfl⟩) (fa_ (⟨"LeafcreditModel$Account", Or.inl q3007, Or.inl rfl, rfl, rfl, rfl⟩) (fa_ (⟨"LeafcreditModel$Account", Or.inl q3003, Or.inl rfl, rfl, rfl, rfl⟩) (fa_ (⟨"LeafcreditModel$Account", Or.inl q3005, Or.inl rfl, rfl, rfl, rfl⟩) (fa_ (⟨"LeafcreditModel$Account", Or.inl q3021, Or.inl rfl, rfl, rfl, rfl⟩) (fa_ (⟨"LeafcreditModel$Account", Or.inl q3023, Or.inl rfl, rfl, rfl, rfl⟩) (fa_ (⟨"LeafcreditModel$Account", Or.inl q3027, Or.inl rfl, rfl, rfl, rfl⟩) (fa_ (⟨"LeafcreditModel$Account", Or.inl q3013, Or.inl rfl, rfl, rfl, rfl⟩) (fa_ (⟨"LeafcreditModel$Account", Or.inl q2995, Or.inl rfl, rfl, rfl, rfl⟩) (fa_ (⟨"LeafcreditModel$Row", Or.inl q3299, Or.inl rfl, rfl, rfl, rfl⟩) (fa_ (⟨"LeafcreditModel$Row", Or.inl q3293, Or.inl rfl, rfl, rfl, rfl⟩) (fa_ (⟨"LeafcreditModel$Row", Or.inl q3303, Or.inl rfl, rfl, rfl, rfl⟩) (fa_ (⟨"LeafcreditModel$Row", Or.inl q3289, Or.inl rfl, rfl, rfl, rfl⟩) (fa_ (⟨"LeafcreditModel$Row", Or.inl q3291, Or.inl rfl, rfl, rfl, rfl⟩) (fa_ (⟨"LeafcreditModel$Row", Or.inl q3295, Or.inl rfl, rfl, rfl, rfl⟩) (fa_ (⟨"LeafcreditModel$Row", Or.inl q3297, Or.inl rfl, rfl, rfl, rfl⟩) (fa_ (⟨"LeafcreditModel$Row", Or.inl q3301, Or.inl rfl, rfl, rfl, rfl⟩) (fa_ (⟨"LeafcreditModel$Row", Or.inl q3305, Or.inl rfl, rfl, rfl, rfl⟩) (fa_ (⟨"LeafcreditModel$Transfer", Or.inl q3242, Or.inl rfl, rfl, rfl, rfl⟩) (fa_ (⟨"LeafcreditModel$Account", Or.inl q3031, Or.inl rfl, rfl, rfl, rfl⟩) (fa_ (⟨"LeafcreditModel$Transfer", Or.inl q3244, Or.inl rfl, rfl, rfl, rfl⟩) (fa_ (⟨"LeafcreditModel$Transfer", Or.inl q3246, Or.inl rfl, rfl, rfl, rfl⟩) (fa_ (⟨"LeafcreditModel$Transfer", Or.inl q3248, Or.inl rfl, rfl, rfl, rfl⟩) (fa_ (⟨"LeafcreditModel$Transfer", Or.inl q3252, Or.inl rfl, rfl, rfl, rfl⟩) (fa_ (⟨"LeafcreditModel$Transfer", Or.inl q3250, Or.inl rfl, rfl, rfl, rfl⟩) (fa_ (⟨"LeafcreditModel$Account", Or.inl q3029, Or.inl rfl, rfl, rfl, rfl⟩) (fa_ (⟨"LeafcreditModel$Account", Or.inl q3025, Or.inl rfl, rfl, rfl, rfl⟩) (fa_ (⟨"LeafcreditModel$Account", Or.inl q3011, Or.inl rfl, rfl, rfl, rfl⟩) (fa_ (⟨"LeafcreditModel$Project", Or.inl q3594, Or.inl rfl, rfl, rfl, rfl⟩) (fa_ (⟨"LeafcreditModel$Project", Or.inl q3592, Or.inl rfl, rfl, rfl, rfl⟩) (fa_ (⟨"LeafcreditModel$Project", Or.inl q3590, Or.inl rfl, rfl, rfl, rfl⟩) (fa_ (⟨"LeafcreditModel$Project", Or.inl q3584, Or.inl rfl, rfl, rfl, rfl⟩) (fa_ (⟨"LeafcreditModel$Project", Or.inl q3586, Or.inl rfl, rfl, rfl, rfl⟩) (fa_ (⟨"LeafcreditModel$Project", Or.inl q3588, Or.inl rfl, rfl, rfl, rfl⟩) (fa_ (⟨"LeafcreditModel$Project", Or.inl q3582, Or.inl rfl, rfl, rfl, rfl⟩) (fa_ (⟨"LeafcreditModel$Account", Or.inl q3017, Or.inl rfl, rfl, rfl, rfl⟩) (fa_ (⟨"LeafcreditModel$Account", Or.inl q3015, Or.inl rfl, rfl, rfl, rfl⟩) (fa_ (⟨"LeafcreditModel$Account", Or.inl q3019, Or.inl rfl, rfl, rfl, rfl⟩) (fn_))))))))))))))))))))))))))))))))))))))))))))))))))))))))))))))))
theorem tFld_6 : ∀ q ∈ pF_6, FldOK onm nwl_ 6 q.1 q.2 := fa_ (⟨"LeafcreditModel$Account", Or.inl q2996, Or.inl rfl, rfl, rfl, rfl⟩) (fa_ (⟨"LeafcreditModel$Account", Or.inl q2998, Or.inl rfl, rfl, rfl, rfl⟩) (fa_ (⟨"LeafcreditModel$Account", Or.inl q3000, Or.inl rfl, rfl, rfl, rfl⟩) (fa_ (⟨"LeafcreditModel$Account", Or.inl q3002, Or.inl rfl, rfl, rfl, rfl⟩) (fa_ (⟨"LeafcreditModel$Account", Or.inl q3004, Or.inl rfl, rfl, rfl, rfl⟩) (fa_ (⟨"LeafcreditModel$Account", Or.inl q3006, Or.inl rfl, rfl, rfl, rfl⟩) (fa_ (⟨"LeafcreditModel$Account", Or.inl q3008, Or.inl rfl, rfl, rfl, rfl⟩) (fa_ (⟨"LeafcreditModel$Account", Or.inl q3010, Or.inl rfl, rfl, rfl, rfl⟩) (fa_ (⟨"LeafcreditModel$Account", Or.inl q3012, Or.inl rfl, rfl, rfl, rfl⟩) (fa_ (⟨"LeafcreditModel$Account", Or.inl q3014, Or.inl rfl, rfl, rfl, rfl⟩) (fa_ (⟨"LeafcreditModel$Account", Or.inl q3016, Or.inl rfl, rfl, rfl, rfl⟩) (fa_ (⟨"LeafcreditModel$Account", Or.inl q3018, Or.inl rfl, rfl, rfl, rfl⟩) (fa_ (⟨"LeafcreditModel$Account", Or.inl q3020, Or.inl rfl, rfl, rfl, rfl⟩) (fa_ (⟨"LeafcreditModel$Account", Or.inl q3022, Or.inl rfl, rfl, rfl, rfl⟩) (fa_ (⟨"LeafcreditModel$Account", Or.inl q3024, Or.inl rfl, rfl, rfl, rfl⟩) (fa_ (⟨"LeafcreditModel$Account", Or.inl q3026, Or.inl rfl, rfl, rfl, rfl⟩) (fa_ (⟨"LeafcreditModel$Account", Or.inl q3028, Or.inl rfl, rfl, rfl, rfl⟩) (fa_ (⟨"LeafcreditModel$Account", Or.inl q3030, Or.inl rfl, rfl, rfl, rfl⟩) (fa_ (⟨"LeafcreditModel$Account", Or.inl q2994, Or.inl rfl, rfl, rfl, rfl⟩) (fn_)))))))))))))))))))
theorem tFld_7 : ∀ q ∈ pF_7, FldOK onm nwl_ 7 q.1 q.2 := fa_ (⟨"Leafcredit$Plant", Or.inl q1910, Or.inl rfl, rfl, rfl, rfl⟩) (fa_ (⟨"Leafcredit$Plant", Or.inl q1913, Or.inl rfl, rfl, rfl, rfl⟩) (fa_ (⟨"Leafcredit$Plant", Or.inl q1915, Or.inl rfl, rfl, rfl, rfl⟩) (fa_ (⟨"Leafcredit$Plant", Or.inl q1922, Or.inl rfl, rfl, rfl, rfl⟩) (fa_ (⟨"Leafcredit$Plant", Or.inl q1920, Or.inl rfl, rfl, rfl, rfl⟩) (fa_ (⟨"Leafcredit$Plant", Or.inl q1916, Or.inl rfl, rfl, rfl, rfl⟩) (fa_ (⟨"Leafcredit$Plant", Or.inl q1918, Or.inl rfl, rfl, rfl, rfl⟩) (fa_ (⟨"Leafcredit$Plant", Or.inl q1908, Or.inl rfl, rfl, rfl, rfl⟩) (fn_))))))))
theorem tFld_8 : ∀ q ∈ pF_8, FldOK onm nwl_ 8 q.1 q.2 := fa_ (⟨"Leafcredit$Piece", Or.inl q2133, Or.inl rfl, rfl, rfl, rfl⟩) (fa_ (⟨"Leafcredit$Piece", Or.inl q2136, Or.inl rfl, rfl, rfl, rfl⟩) (fa_ (⟨"Leafcredit$Piece", Or.inl q2138, Or.inl rfl, rfl, rfl, rfl⟩) (fa_ (⟨"Leafcredit$Piece", Or.inl q2140, Or.inl rfl, rfl, rfl, rfl⟩) (fa_ (⟨"Leafcredit$Piece", Or.inl q2143, Or.inl rfl, rfl, rfl, rfl⟩) (fa_ (⟨"Leafcredit$Piece", Or.inl q2145, Or.inl rfl, rfl, rfl, rfl⟩) (fa_ (⟨"Leafcredit$Piece", Or.inl q2147, Or.inl rfl, rfl, rfl, rfl⟩) (fa_ (⟨"Leafcredit$Piece", Or.inl q2149, Or.inl rfl, rfl, rfl, rfl⟩) (fa_ (⟨"Leafcredit$Piece", Or.inl q2151, Or.inl rfl, rfl, rfl, rfl⟩) (fn_)))))))))
theorem tFld_9 : ∀ q ∈ pF_9, FldOK onm nwl_ 9 q.1 q.2 := fa_ (⟨"Leafcredit$Entry", Or.inl q2178, Or.inl rfl, rfl, rfl, rfl⟩) (fa_ (⟨"Leafcredit$Entry", Or.inl q2180, Or.inl rfl, rfl, rfl, rfl⟩) (fa_ (⟨"Leafcredit$Entry", Or.inl q2182, Or.inl rfl, rfl, rfl, rfl⟩) (fn_)))
theorem tFld_10 : ∀ q ∈ pF_10, FldOK onm nwl_ 10 q.1 q.2 := fa_ (⟨"LeafcreditModel$Row", Or.inl q3300, Or.inl rfl, rfl, rfl, rfl⟩) (fa_ (⟨"LeafcreditModel$Row", Or.inl q3302, Or.inl rfl, rfl, rfl, rfl⟩) (fa_ (⟨"LeafcreditModel$Row", Or.inl q3304, Or.inl rfl, rfl, rfl, rfl⟩) (fa_ (⟨"LeafcreditModel$Row", Or.inl q3288, Or.inl rfl, rfl, rfl, rfl⟩) (fa_ (⟨"LeafcreditModel$Row", Or.inl q3290, Or.inl rfl, rfl, rfl, rfl⟩) (fa_ (⟨"LeafcreditModel$Row", Or.inl q3292, Or.inl rfl, rfl, rfl, rfl⟩) (fa_ (⟨"LeafcreditModel$Row", Or.inl q3294, Or.inl rfl, rfl, rfl, rfl⟩) (fa_ (⟨"LeafcreditModel$Row", Or.inl q3296, Or.inl rfl, rfl, rfl, rfl⟩) (fa_ (⟨"LeafcreditModel$Row", Or.inl q3298, Or.inl rfl, rfl, rfl, rfl⟩) (fn_)))))))))
theorem tFld_11 : ∀ q ∈ pF_11, FldOK onm nwl_ 11 q.1 q.2 := fa_ (⟨"Leafcredit$Bid", Or.inl q2223, Or.inl rfl, rfl, rfl, rfl⟩) (fa_ (⟨"Leafcredit$Bid", Or.inl q2225, Or.inl rfl, rfl, rfl, rfl⟩) (fa_ (⟨"Leafcredit$Bid", Or.inl q2227, Or.inl rfl, rfl, rfl, rfl⟩) (fa_ (⟨"Leafcredit$Bid", Or.inl q2229, Or.inl rfl, rfl, rfl, rfl⟩) (fn_))))
theorem tFld_12 : ∀ q ∈ pF_12, FldOK onm nwl_ 12 q.1 q.2 := fa_ (⟨"LeafcreditModel$Bid", Or.inl q3521, Or.inl rfl, rfl, rfl, rfl⟩) (fa_ (⟨"LeafcreditModel$Bid", Or.inl q3522, Or.inl rfl, rfl, rfl, rfl⟩) (fa_ (⟨"LeafcreditModel$Bid", Or.inl q3523, Or.inl rfl, rfl, rfl, rfl⟩) (fn_)))
theorem tFld_13 : ∀ q ∈ pF_13, FldOK onm nwl_ 13 q.1 q.2 := fa_ (⟨"Leafcredit$Transfer", Or.inl q2378, Or.inl rfl, rfl, rfl, rfl⟩) (fa_ (⟨"Leafcredit$Transfer", Or.inl q2380, Or.inl rfl, rfl, rfl, rfl⟩) (fa_ (⟨"Leafcredit$Transfer", Or.inl q2370, Or.inl rfl, rfl, rfl, rfl⟩) (fa_ (⟨"Leafcredit$Transfer", Or.inl q2372, Or.inl rfl, rfl, rfl, rfl⟩) (fa_ (⟨"Leafcredit$Transfer", Or.inl q2374, Or.inl rfl, rfl, rfl, rfl⟩) (fa_ (⟨"Leafcredit$Transfer", Or.inl q2376, Or.inl rfl, rfl, rfl, rfl⟩) (fn_))))))
theorem tFld_14 : ∀ q ∈ pF_14, FldOK onm nwl_ 14 q.1 q.2 := fa_ (⟨"Leafcredit$ByUse", Or.inl q2405, Or.inl rfl, rfl, rfl, rfl⟩) (fa_ (⟨"Leafcredit$Piece", Or.inr ⟨by decide, "Leafcredit", (List.mem_of_getElem? (i := 45) rfl)⟩, Or.inl rfl, rfl, rfl, rfl⟩) (fa_ (⟨"Leafcredit$Piece", Or.inr ⟨by decide, "Leafcredit", (List.mem_of_getElem? (i := 46) rfl)⟩, Or.inl rfl, rfl, rfl, rfl⟩) (fa_ (⟨"Leafcredit$Piece", Or.inr ⟨by decide, "Leafcredit", (List.mem_of_getElem? (i := 47) rfl)⟩, Or.inl rfl, rfl, rfl, rfl⟩) (fn_))))
theorem tFld_15 : ∀ q ∈ pF_15, FldOK onm nwl_ 15 q.1 q.2 := fa_ (⟨"LeafcreditModel$Transfer", Or.inl q3249, Or.inl rfl, rfl, rfl, rfl⟩) (fa_ (⟨"LeafcreditModel$Transfer", Or.inl q3251, Or.inl rfl, rfl, rfl, rfl⟩) (fa_ (⟨"LeafcreditModel$Transfer", Or.inl q3241, Or.inl rfl, rfl, rfl, rfl⟩) (fa_ (⟨"LeafcreditModel$Transfer", Or.inl q3243, Or.inl rfl, rfl, rfl, rfl⟩) (fa_ (⟨"LeafcreditModel$Transfer", Or.inl q3245, Or.inl rfl, rfl, rfl, rfl⟩) (fa_ (⟨"LeafcreditModel$Transfer", Or.inl q3247, Or.inl rfl, rfl, rfl, rfl⟩) (fn_))))))
theorem tFld_16 : ∀ q ∈ pF_16, FldOK onm nwl_ 16 q.1 q.2 := fa_ (⟨"Leafcredit$Project", Or.inl q2780, Or.inl rfl, rfl, rfl, rfl⟩) (fa_ (⟨"Leafcredit$Project", Or.inl q2773, Or.inl rfl, rfl, rfl, rfl⟩) (fa_ (⟨"Leafcredit$Project", Or.inl q2775, Or.inl rfl, rfl, rfl, rfl⟩) (fa_ (⟨"Leafcredit$Project", Or.inl q2776, Or.inl rfl, rfl, rfl, rfl⟩) (fa_ (⟨"Leafcredit$Project", Or.inl q2777, Or.inl rfl, rfl, rfl, rfl⟩) (fa_ (⟨"Leafcredit$Project", Or.inl q2779, Or.inl rfl, rfl, rfl, rfl⟩) (fn_))))))
theorem tFld_17 : ∀ q ∈ pF_17, FldOK onm nwl_ 17 q.1 q.2 := fa_ (⟨"LeafcreditModel$Project", Or.inl q3591, Or.inl rfl, rfl, rfl, rfl⟩) (fa_ (⟨"LeafcreditModel$Project", Or.inl q3593, Or.inl rfl, rfl, rfl, rfl⟩) (fa_ (⟨"LeafcreditModel$Project", Or.inl q3581, Or.inl rfl, rfl, rfl, rfl⟩) (fa_ (⟨"LeafcreditModel$Project", Or.inl q3583, Or.inl rfl, rfl, rfl, rfl⟩) (fa_ (⟨"LeafcreditModel$Project", Or.inl q3585, Or.inl rfl, rfl, rfl, rfl⟩) (fa_ (⟨"LeafcreditModel$Project", Or.inl q3587, Or.inl rfl, rfl, rfl, rfl⟩) (fa_ (⟨"LeafcreditModel$Project", Or.inl q3589, Or.inl rfl, rfl, rfl, rfl⟩) (fn_)))))))
theorem tFld_18 : ∀ q ∈ pF_18, FldOK onm nwl_ 18 q.1 q.2 := fa_ (⟨"Leafcredit$Good", Or.inl q2838, Or.inl rfl, rfl, rfl, rfl⟩) (fa_ (⟨"Leafcredit$Good", Or.inl q2839, Or.inl rfl, rfl, rfl, rfl⟩) (fa_ (⟨"Leafcredit$Good", Or.inl q2840, Or.inl rfl, rfl, rfl, rfl⟩) (fn_)))
theorem tFld_19 : ∀ q ∈ pF_19, FldOK onm nwl_ 19 q.1 q.2 := fa_ (⟨"LeafcreditModel$Good", Or.inl q3639, Or.inl rfl, rfl, rfl, rfl⟩) (fa_ (⟨"LeafcreditModel$Good", Or.inl q3640, Or.inl rfl, rfl, rfl, rfl⟩) (fa_ (⟨"LeafcreditModel$Good", Or.inl q3641, Or.inl rfl, rfl, rfl, rfl⟩) (fn_)))
theorem tFld_101 : ∀ q ∈ pF_101, FldOK onm nwl_ 101 q.1 q.2 := fa_ (⟨"java/util/AbstractList", Or.inl q163, Or.inl rfl, rfl, rfl, rfl⟩) (fn_)
theorem tFld_102 : ∀ q ∈ pF_102, FldOK onm nwl_ 102 q.1 q.2 := fa_ (⟨"java/util/ArrayList", Or.inl q159, Or.inl rfl, rfl, rfl, rfl⟩) (fa_ (⟨"java/util/ArrayList", Or.inl q162, Or.inl rfl, rfl, rfl, rfl⟩) (fa_ (⟨"java/util/ArrayList", Or.inl q166, Or.inr q165, rfl, rfl, rfl⟩) (fn_)))
theorem tFld_103 : ∀ q ∈ pF_103, FldOK onm nwl_ 103 q.1 q.2 := fa_ (⟨"java/util/AbstractMap", Or.inl q191, Or.inl rfl, rfl, rfl, rfl⟩) (fn_)
theorem tFld_104 : ∀ q ∈ pF_104, FldOK onm nwl_ 104 q.1 q.2 := fa_ (⟨"java/util/TreeMap", Or.inl q185, Or.inl rfl, rfl, rfl, rfl⟩) (fa_ (⟨"java/util/TreeMap", Or.inl q186, Or.inl rfl, rfl, rfl, rfl⟩) (fa_ (⟨"java/util/TreeMap", Or.inl q183, Or.inl rfl, rfl, rfl, rfl⟩) (fa_ (⟨"java/util/TreeMap$Entry", Or.inl q1433, Or.inl rfl, rfl, rfl, rfl⟩) (fa_ (⟨"java/util/TreeMap", Or.inl q184, Or.inl rfl, rfl, rfl, rfl⟩) (fa_ (⟨"java/util/TreeMap$Entry", Or.inl q1430, Or.inl rfl, rfl, rfl, rfl⟩) (fa_ (⟨"java/util/TreeMap$Entry", Or.inl q1436, Or.inl rfl, rfl, rfl, rfl⟩) (fa_ (⟨"java/util/TreeMap$Entry", Or.inl q1439, Or.inl rfl, rfl, rfl, rfl⟩) (fa_ (⟨"java/util/TreeMap$Entry", Or.inl q1441, Or.inl rfl, rfl, rfl, rfl⟩) (fa_ (⟨"java/util/TreeMap", Or.inl q190, Or.inl rfl, rfl, rfl, rfl⟩) (fa_ (⟨"java/util/TreeMap", Or.inl q192, Or.inr q193, rfl, rfl, rfl⟩) (fa_ (⟨"java/util/TreeMap$Entry", Or.inl q1443, Or.inl rfl, rfl, rfl, rfl⟩) (fn_))))))))))))
theorem tFld_106 : ∀ q ∈ pF_106, FldOK onm nwl_ 106 q.1 q.2 := fa_ (⟨"java/util/PriorityQueue", Or.inl q303, Or.inl rfl, rfl, rfl, rfl⟩) (fa_ (⟨"java/util/PriorityQueue", Or.inl q306, Or.inl rfl, rfl, rfl, rfl⟩) (fa_ (⟨"java/util/PriorityQueue", Or.inl q305, Or.inl rfl, rfl, rfl, rfl⟩) (fa_ (⟨"java/util/PriorityQueue", Or.inl q308, Or.inl rfl, rfl, rfl, rfl⟩) (fn_))))
theorem tFld_120 : ∀ q ∈ pF_120, FldOK onm nwl_ 120 q.1 q.2 := fa_ (⟨"java/util/ArrayList$Itr", Or.inl q1049, Or.inl rfl, rfl, rfl, rfl⟩) (fa_ (⟨"java/util/ArrayList$Itr", Or.inl q1047, Or.inl rfl, rfl, rfl, rfl⟩) (fa_ (⟨"java/util/ArrayList", Or.inl q164, Or.inr q165, rfl, rfl, rfl⟩) (fa_ (⟨"java/util/ArrayList$Itr", Or.inl q1048, Or.inl rfl, rfl, rfl, rfl⟩) (fa_ (⟨"java/util/ArrayList$Itr", Or.inl q1046, Or.inl rfl, rfl, rfl, rfl⟩) (fa_ (⟨"java/util/ArrayList", Or.inr ⟨by decide, "java/util/ArrayList", (List.mem_of_getElem? (i := 50) rfl)⟩, Or.inl rfl, rfl, rfl, rfl⟩) (fa_ (⟨"java/util/ArrayList", Or.inl q160, Or.inl rfl, rfl, rfl, rfl⟩) (fn_)))))))
theorem tFld_125 : ∀ q ∈ pF_125, FldOK onm nwl_ 125 q.1 q.2 := fa_ (⟨"java/lang/Integer", Or.inl q1362, Or.inl rfl, rfl, rfl, rfl⟩) (fn_)
theorem tFld_126 : ∀ q ∈ pF_126, FldOK onm nwl_ 126 q.1 q.2 := fa_ (⟨"java/lang/Long", Or.inl q2955, Or.inl rfl, rfl, rfl, rfl⟩) (fn_)
theorem tFld_130 : ∀ q ∈ pF_130, FldOK onm nwl_ 130 q.1 q.2 := fa_ (⟨"java/util/TreeMap$Entry", Or.inl q1442, Or.inl rfl, rfl, rfl, rfl⟩) (fa_ (⟨"java/util/TreeMap$Entry", Or.inl q1427, Or.inl rfl, rfl, rfl, rfl⟩) (fa_ (⟨"java/util/TreeMap$Entry", Or.inl q1431, Or.inl rfl, rfl, rfl, rfl⟩) (fa_ (⟨"java/util/TreeMap$Entry", Or.inl q1440, Or.inl rfl, rfl, rfl, rfl⟩) (fn_))))
theorem tFld_131 : ∀ q ∈ pF_131, FldOK onm nwl_ 131 q.1 q.2 := fa_ (⟨"java/util/TreeMap$Values", Or.inl q561, Or.inl rfl, rfl, rfl, rfl⟩) (fn_)
theorem tFld_132 : ∀ q ∈ pF_132, FldOK onm nwl_ 132 q.1 q.2 := fa_ (⟨"java/util/AbstractMap$2$1", Or.inl q996, Or.inl rfl, rfl, rfl, rfl⟩) (fa_ (⟨"java/util/AbstractMap$2", Or.inl q2688, Or.inl rfl, rfl, rfl, rfl⟩) (fa_ (⟨"java/util/AbstractMap$2$1", Or.inl q995, Or.inl rfl, rfl, rfl, rfl⟩) (fn_)))
theorem tFld_135 : ∀ q ∈ pF_135, FldOK onm nwl_ 135 q.1 q.2 := fa_ (⟨"java/util/TreeMap$NavigableSubMap$EntrySetView", Or.inl q615, Or.inl rfl, rfl, rfl, rfl⟩) (fa_ (⟨"java/util/TreeMap$NavigableSubMap$EntrySetView", Or.inl q613, Or.inl rfl, rfl, rfl, rfl⟩) (fa_ (⟨"java/util/TreeMap$NavigableSubMap", Or.inl q1528, Or.inl rfl, rfl, rfl, rfl⟩) (fa_ (⟨"java/util/TreeMap$NavigableSubMap", Or.inl q1530, Or.inl rfl, rfl, rfl, rfl⟩) (fa_ (⟨"java/util/TreeMap$NavigableSubMap", Or.inl q1524, Or.inl rfl, rfl, rfl, rfl⟩) (fa_ (⟨"java/util/TreeMap$NavigableSubMap$EntrySetView", Or.inl q614, Or.inl rfl, rfl, rfl, rfl⟩) (fa_ (⟨"java/util/TreeMap", Or.inr ⟨by decide, "java/util/TreeMap", (List.mem_of_getElem? (i := 53) rfl)⟩, Or.inl rfl, rfl, rfl, rfl⟩) (fn_)))))))
theorem tFld_136 : ∀ q ∈ pF_136, FldOK onm nwl_ 136 q.1 q.2 := fa_ (⟨"java/util/TreeMap$AscendingSubMap$AscendingEntrySetView", Or.inl q612, Or.inl rfl, rfl, rfl, rfl⟩) (fn_)
theorem tFld_137 : ∀ q ∈ pF_137, FldOK onm nwl_ 137 q.1 q.2 := fa_ (⟨"java/util/TreeMap$NavigableSubMap$SubMapIterator", Or.inl q954, Or.inl rfl, rfl, rfl, rfl⟩) (fa_ (⟨"java/util/TreeMap$NavigableSubMap", Or.inl q1522, Or.inl rfl, rfl, rfl, rfl⟩) (fa_ (⟨"java/util/TreeMap", Or.inr ⟨by decide, "java/util/TreeMap", (List.mem_of_getElem? (i := 54) rfl)⟩, Or.inl rfl, rfl, rfl, rfl⟩) (fa_ (⟨"java/util/TreeMap$NavigableSubMap$SubMapIterator", Or.inl q953, Or.inl rfl, rfl, rfl, rfl⟩) (fa_ (⟨"java/util/TreeMap$NavigableSubMap$SubMapIterator", Or.inl q950, Or.inl rfl, rfl, rfl, rfl⟩) (fa_ (⟨"java/util/TreeMap$NavigableSubMap$SubMapIterator", Or.inl q951, Or.inl rfl, rfl, rfl, rfl⟩) (fa_ (⟨"java/util/TreeMap$Entry", Or.inl q1428, Or.inl rfl, rfl, rfl, rfl⟩) (fa_ (⟨"java/util/TreeMap$NavigableSubMap$SubMapIterator", Or.inl q952, Or.inl rfl, rfl, rfl, rfl⟩) (fa_ (⟨"java/util/TreeMap$Entry", Or.inl q1435, Or.inl rfl, rfl, rfl, rfl⟩) (fa_ (⟨"java/util/TreeMap$Entry", Or.inl q1438, Or.inl rfl, rfl, rfl, rfl⟩) (fn_))))))))))
theorem tFld_139 : ∀ q ∈ pF_139, FldOK onm nwl_ 139 q.1 q.2 := fa_ (⟨"java/util/TreeMap$PrivateEntryIterator", Or.inl q985, Or.inl rfl, rfl, rfl, rfl⟩) (fa_ (⟨"java/util/TreeMap", Or.inr ⟨by decide, "java/util/TreeMap", (List.mem_of_getElem? (i := 56) rfl)⟩, Or.inl rfl, rfl, rfl, rfl⟩) (fa_ (⟨"java/util/TreeMap$PrivateEntryIterator", Or.inl q984, Or.inl rfl, rfl, rfl, rfl⟩) (fa_ (⟨"java/util/TreeMap$PrivateEntryIterator", Or.inl q983, Or.inl rfl, rfl, rfl, rfl⟩) (fa_ (⟨"java/util/TreeMap$PrivateEntryIterator", Or.inl q982, Or.inl rfl, rfl, rfl, rfl⟩) (fa_ (⟨"java/util/TreeMap$Entry", Or.inl q1434, Or.inl rfl, rfl, rfl, rfl⟩) (fa_ (⟨"java/util/TreeMap$Entry", Or.inl q1437, Or.inl rfl, rfl, rfl, rfl⟩) (fn_)))))))
theorem tFld_142 : ∀ q ∈ pF_142, FldOK onm nwl_ 142 q.1 q.2 := fa_ (⟨"java/util/PriorityQueue$Itr", Or.inl q1076, Or.inl rfl, rfl, rfl, rfl⟩) (fa_ (⟨"java/util/PriorityQueue$Itr", Or.inl q1072, Or.inl rfl, rfl, rfl, rfl⟩) (fa_ (⟨"java/util/PriorityQueue", Or.inl q307, Or.inl rfl, rfl, rfl, rfl⟩) (fa_ (⟨"java/util/PriorityQueue$Itr", Or.inl q1075, Or.inl rfl, rfl, rfl, rfl⟩) (fa_ (⟨"java/util/PriorityQueue$Itr", Or.inl q1071, Or.inl rfl, rfl, rfl, rfl⟩) (fa_ (⟨"java/util/PriorityQueue", Or.inl q304, Or.inl rfl, rfl, rfl, rfl⟩) (fa_ (⟨"java/util/PriorityQueue$Itr", Or.inl q1073, Or.inl rfl, rfl, rfl, rfl⟩) (fa_ (⟨"java/util/PriorityQueue", Or.inl q302, Or.inl rfl, rfl, rfl, rfl⟩) (fa_ (⟨"java/util/PriorityQueue$Itr", Or.inl q1074, Or.inl rfl, rfl, rfl, rfl⟩) (fn_)))))))))
theorem tFld_143 : ∀ q ∈ pF_143, FldOK onm nwl_ 143 q.1 q.2 := fa_ (⟨"java/util/TreeMap$Entry", Or.inl q1432, Or.inl rfl, rfl, rfl, rfl⟩) (fn_)
theorem tFld_147 : ∀ q ∈ pF_147, FldOK onm nwl_ 147 q.1 q.2 := fa_ (⟨"java/util/TreeMap$NavigableSubMap", Or.inl q1523, Or.inl rfl, rfl, rfl, rfl⟩) (fa_ (⟨"java/util/TreeMap$NavigableSubMap", Or.inl q1527, Or.inl rfl, rfl, rfl, rfl⟩) (fa_ (⟨"java/util/TreeMap$NavigableSubMap", Or.inl q1525, Or.inl rfl, rfl, rfl, rfl⟩) (fa_ (⟨"java/util/TreeMap$NavigableSubMap", Or.inl q1531, Or.inl rfl, rfl, rfl, rfl⟩) (fa_ (⟨"java/util/TreeMap$NavigableSubMap", Or.inl q1529, Or.inl rfl, rfl, rfl, rfl⟩) (fa_ (⟨"java/util/TreeMap$NavigableSubMap", Or.inl q1526, Or.inl rfl, rfl, rfl, rfl⟩) (fa_ (⟨"java/util/TreeMap$NavigableSubMap", Or.inl q1532, Or.inl rfl, rfl, rfl, rfl⟩) (fa_ (⟨"java/util/TreeMap$Entry", Or.inl q1429, Or.inl rfl, rfl, rfl, rfl⟩) (fn_))))))))
theorem tFld_148 : ∀ q ∈ pF_148, FldOK onm nwl_ 148 q.1 q.2 := fa_ (⟨"java/util/TreeMap$AscendingSubMap", Or.inl q1533, Or.inr q1534, rfl, rfl, rfl⟩) (fn_)
theorem tFld_149 : ∀ q ∈ pF_149, FldOK onm nwl_ 149 q.1 q.2 := fa_ (⟨"java/util/AbstractMap$2", Or.inl q2687, Or.inl rfl, rfl, rfl, rfl⟩) (fn_)
theorem tFld_150 : ∀ q ∈ pF_150, FldOK onm nwl_ 150 q.1 q.2 := fa_ (⟨"java/util/AbstractMap$SimpleImmutableEntry", Or.inl q1399, Or.inl rfl, rfl, rfl, rfl⟩) (fa_ (⟨"java/util/AbstractMap$SimpleImmutableEntry", Or.inl q1400, Or.inl rfl, rfl, rfl, rfl⟩) (fn_))
theorem tFld : ∀ o j f, (pF o).lookup j = some f → FldOK onm nwl_ o j f := by
  intro o j v h
  unfold pF at h
  split at h
  · exact tFld_1 _ (lk_mem h)
  · exact tFld_2 _ (lk_mem h)
  · exact tFld_3 _ (lk_mem h)
  · exact tFld_4 _ (lk_mem h)
  · exact tFld_5 _ (lk_mem h)
  · exact tFld_6 _ (lk_mem h)
  · exact tFld_7 _ (lk_mem h)
  · exact tFld_8 _ (lk_mem h)
  · exact tFld_9 _ (lk_mem h)
  · exact tFld_10 _ (lk_mem h)
  · exact tFld_11 _ (lk_mem h)
  · exact tFld_12 _ (lk_mem h)
  · exact tFld_13 _ (lk_mem h)
  · exact tFld_14 _ (lk_mem h)
  · exact tFld_15 _ (lk_mem h)
  · exact tFld_16 _ (lk_mem h)
  · exact tFld_17 _ (lk_mem h)
  · exact tFld_18 _ (lk_mem h)
  · exact tFld_19 _ (lk_mem h)
  · exact tFld_101 _ (lk_mem h)
  · exact tFld_102 _ (lk_mem h)
  · exact tFld_103 _ (lk_mem h)
  · exact tFld_104 _ (lk_mem h)
  · exact tFld_106 _ (lk_mem h)
  · exact tFld_120 _ (lk_mem h)
  · exact tFld_125 _ (lk_mem h)
  · exact tFld_126 _ (lk_mem h)
  · exact tFld_130 _ (lk_mem h)
  · exact tFld_131 _ (lk_mem h)
  · exact tFld_132 _ (lk_mem h)
  · exact tFld_135 _ (lk_mem h)
  · exact tFld_136 _ (lk_mem h)
  · exact tFld_137 _ (lk_mem h)
  · exact tFld_139 _ (lk_mem h)
  · exact tFld_142 _ (lk_mem h)
  · exact tFld_143 _ (lk_mem h)
  · exact tFld_147 _ (lk_mem h)
  · exact tFld_148 _ (lk_mem h)
  · exact tFld_149 _ (lk_mem h)
  · exact tFld_150 _ (lk_mem h)
  · cases h
theorem tStat_102 : ∀ q ∈ pS_102, StatOK onm nwl_ stl_ 102 q.1 q.2 := fa_ (⟨_, rfl, Or.inl q157⟩) (fn_)
theorem tStat_125 : ∀ q ∈ pS_125, StatOK onm nwl_ stl_ 125 q.1 q.2 := fa_ (⟨_, rfl, Or.inl q1350⟩) (fa_ (⟨_, rfl, Or.inl q1352⟩) (fn_))
theorem tStat_126 : ∀ q ∈ pS_126, StatOK onm nwl_ stl_ 126 q.1 q.2 := fa_ (⟨_, rfl, Or.inl q2948⟩) (fn_)
theorem tStat_137 : ∀ q ∈ pS_137, StatOK onm nwl_ stl_ 137 q.1 q.2 := fa_ (⟨_, rfl, Or.inr ⟨"java/util/TreeMap", (List.mem_of_getElem? (i := 55) rfl)⟩⟩) (fn_)
theorem tStat : ∀ o j i, (pS o).lookup j = some i → StatOK onm nwl_ stl_ o j i := by
  intro o j v h
  unfold pS at h
  split at h
  · exact tStat_102 _ (lk_mem h)
  · exact tStat_125 _ (lk_mem h)
  · exact tStat_126 _ (lk_mem h)
  · exact tStat_137 _ (lk_mem h)
  · cases h
theorem tConst_1 : ∀ q ∈ pK_1, ConstOK onm 1 q.1 q.2 := fa_ (⟨fun x h => (by cases h; exact q318), fun x h => (by cases h), fun i h => (by cases h)⟩) (fa_ (⟨fun x h => (by cases h; exact q1819), fun x h => (by cases h), fun i h => (by cases h)⟩) (fa_ (⟨fun x h => (by cases h; exact q1951), fun x h => (by cases h), fun i h => (by cases h)⟩) (fa_ (⟨fun x h => (by cases h), fun x h => (by cases h; exact q1970), fun i h => (by cases h)⟩) (fa_ (⟨fun x h => (by cases h), fun x h => (by cases h; exact q1971), fun i h => (by cases h)⟩) (fa_ (⟨fun x h => (by cases h), fun x h => (by cases h; exact q2117), fun i h => (by cases h)⟩) (fa_ (⟨fun x h => (by cases h), fun x h => (by cases h; exact q2122), fun i h => (by cases h)⟩) (fa_ (⟨fun x h => (by cases h), fun x h => (by cases h; exact q2123), fun i h => (by cases h)⟩) (fa_ (⟨fun x h => (by cases h), fun x h => (by cases h; exact q2193), fun i h => (by cases h)⟩) (fa_ (⟨fun x h => (by cases h), fun x h => (by cases h; exact q2752), fun i h => (by cases h)⟩) (fn_))))))))))
theorem tConst_5 : ∀ q ∈ pK_5, ConstOK onm 5 q.1 q.2 := fa_ (⟨fun x h => (by cases h; exact q2986), fun x h => (by cases h), fun i h => (by cases h)⟩) (fa_ (⟨fun x h => (by cases h), fun x h => (by cases h; exact q3164), fun i h => (by cases h)⟩) (fa_ (⟨fun x h => (by cases h), fun x h => (by cases h; exact q3151), fun i h => (by cases h)⟩) (fa_ (⟨fun x h => (by cases h), fun x h => (by cases h; exact q3165), fun i h => (by cases h)⟩) (fa_ (⟨fun x h => (by cases h), fun x h => (by cases h; exact q3166), fun i h => (by cases h)⟩) (fa_ (⟨fun x h => (by cases h), fun x h => (by cases h; exact q3177), fun i h => (by cases h)⟩) (fa_ (⟨fun x h => (by cases h), fun x h => (by cases h; exact q3195), fun i h => (by cases h)⟩) (fa_ (⟨fun x h => (by cases h), fun x h => (by cases h; exact q3215), fun i h => (by cases h)⟩) (fa_ (⟨fun x h => (by cases h), fun x h => (by cases h; exact q3461), fun i h => (by cases h)⟩) (fa_ (⟨fun x h => (by cases h), fun x h => (by cases h; exact q3485), fun i h => (by cases h)⟩) (fa_ (⟨fun x h => (by cases h), fun x h => (by cases h; exact q3486), fun i h => (by cases h)⟩) (fa_ (⟨fun x h => (by cases h), fun x h => (by cases h; exact q3487), fun i h => (by cases h)⟩) (fa_ (⟨fun x h => (by cases h), fun x h => (by cases h; exact q3501), fun i h => (by cases h)⟩) (fa_ (⟨fun x h => (by cases h), fun x h => (by cases h; exact q3511), fun i h => (by cases h)⟩) (fa_ (⟨fun x h => (by cases h), fun x h => (by cases h; exact q3685), fun i h => (by cases h)⟩) (fn_)))))))))))))))
theorem tConst_6 : ∀ q ∈ pK_6, ConstOK onm 6 q.1 q.2 := fa_ (⟨fun x h => (by cases h), fun x h => (by cases h; exact q2993), fun i h => (by cases h)⟩) (fn_)
theorem tConst_7 : ∀ q ∈ pK_7, ConstOK onm 7 q.1 q.2 := fa_ (⟨fun x h => (by cases h), fun x h => (by cases h; exact q2898), fun i h => (by cases h)⟩) (fa_ (⟨fun x h => (by cases h), fun x h => (by cases h; exact q2899), fun i h => (by cases h)⟩) (fa_ (⟨fun x h => (by cases h), fun x h => (by cases h; exact q2901), fun i h => (by cases h)⟩) (fa_ (⟨fun x h => (by cases h), fun x h => (by cases h; exact q2115), fun i h => (by cases h)⟩) (fa_ (⟨fun x h => (by cases h), fun x h => (by cases h; exact q2116), fun i h => (by cases h)⟩) (fn_)))))
theorem tConst_16 : ∀ q ∈ pK_16, ConstOK onm 16 q.1 q.2 := fa_ (⟨fun x h => (by cases h), fun x h => (by cases h; exact q2814), fun i h => (by cases h)⟩) (fn_)
theorem tConst_18 : ∀ q ∈ pK_18, ConstOK onm 18 q.1 q.2 := fa_ (⟨fun x h => (by cases h), fun x h => (by cases h; exact q2860), fun i h => (by cases h)⟩) (fn_)
theorem tConst_111 : ∀ q ∈ pK_111, ConstOK onm 111 q.1 q.2 := fa_ (⟨fun x h => (by cases h; exact q402), fun x h => (by cases h), fun i h => (by cases h)⟩) (fn_)
theorem tConst_113 : ∀ q ∈ pK_113, ConstOK onm 113 q.1 q.2 := fa_ (⟨fun x h => (by cases h), fun x h => (by cases h), fun i h => (by cases h; exact ⟨rfl, q465⟩)⟩) (fn_)
theorem tConst_126 : ∀ q ∈ pK_126, ConstOK onm 126 q.1 q.2 := fa_ (⟨fun x h => (by cases h), fun x h => (by cases h; exact q2946), fun i h => (by cases h)⟩) (fa_ (⟨fun x h => (by cases h), fun x h => (by cases h; exact q2947), fun i h => (by cases h)⟩) (fn_))
theorem tConst : ∀ o j v, (pK o).lookup j = some v → ConstOK onm o j v := by
  intro o j v h
  unfold pK at h
  split at h
  · exact tConst_1 _ (lk_mem h)
  · exact tConst_5 _ (lk_mem h)
  · exact tConst_6 _ (lk_mem h)
  · exact tConst_7 _ (lk_mem h)
  · exact tConst_16 _ (lk_mem h)
  · exact tConst_18 _ (lk_mem h)
  · exact tConst_111 _ (lk_mem h)
  · exact tConst_113 _ (lk_mem h)
  · exact tConst_126 _ (lk_mem h)
  · cases h
theorem tN_0 : ∀ q ∈ pN_0, (∀ k, q.2 = .inl k → NewOK onm kcl 0 q.1 k) ∧ (q.2 = .inr 904 → Cond.classLink (onm 0) q.1 "java/lang/Object" ∈ lw_all) := fa_ (⟨fun k h => (by cases h; exact ⟨by decide, q137, q138, q62⟩), fun h => (by cases h)⟩) (fa_ (⟨fun k h => (by cases h; exact ⟨by decide, q2978, q2979, q81⟩), fun h => (by cases h)⟩) (fn_))
theorem tN_1 : ∀ q ∈ pN_1, (∀ k, q.2 = .inl k → NewOK onm kcl 1 q.1 k) ∧ (q.2 = .inr 904 → Cond.classLink (onm 1) q.1 "java/lang/Object" ∈ lw_all) := fa_ (⟨fun k h => (by cases h; exact ⟨by decide, q145, q146, q65⟩), fun h => (by cases h)⟩) (fa_ (⟨fun k h => (by cases h; exact ⟨by decide, q174, q175, q67⟩), fun h => (by cases h)⟩) (fa_ (⟨fun k h => (by cases h; exact ⟨by decide, q213, q214, q69⟩), fun h => (by cases h)⟩) (fa_ (⟨fun k h => (by cases h; exact ⟨by decide, q215, q216, q70⟩), fun h => (by cases h)⟩) (fa_ (⟨fun k h => (by cases h; exact ⟨by decide, q319, q320, q75⟩), fun h => (by cases h)⟩) (fa_ (⟨fun k h => (by cases h), fun h => (by cases h)⟩) (fa_ (⟨fun k h => (by cases h), fun h => (by cases h)⟩) (fa_ (⟨fun k h => (by cases h), fun h => (by cases h)⟩) (fa_ (⟨fun k h => (by cases h), fun h => (by cases h)⟩) (fa_ (⟨fun k h => (by cases h), fun h => (by cases h)⟩) (fa_ (⟨fun k h => (by cases h; exact ⟨by decide, q1291, q2128, q103⟩), fun h => (by cases h)⟩) (fa_ (⟨fun k h => (by cases h; exact ⟨by decide, q1343, q2173, q104⟩), fun h => (by cases h)⟩) (fa_ (⟨fun k h => (by cases h; exact ⟨by decide, q1899, q1900, q89⟩), fun h => (by cases h)⟩) (fa_ (⟨fun k h => (by cases h; exact ⟨by decide, q2213, q2218, q119⟩), fun h => (by cases h)⟩) (fa_ (⟨fun k h => (by cases h; exact ⟨by decide, q2362, q2363, q124⟩), fun h => (by cases h)⟩) (fa_ (⟨fun k h => (by cases h; exact ⟨by decide, q2399, q2400, q125⟩), fun h => (by cases h)⟩) (fa_ (⟨fun k h => (by cases h; exact ⟨by decide, q2767, q2768, q131⟩), fun h => (by cases h)⟩) (fa_ (⟨fun k h => (by cases h; exact ⟨by decide, q2832, q2833, q133⟩), fun h => (by cases h)⟩) (fn_))))))))))))))))))
theorem tN_3 : ∀ q ∈ pN_3, (∀ k, q.2 = .inl k → NewOK onm kcl 3 q.1 k) ∧ (q.2 = .inr 904 → Cond.classLink (onm 3) q.1 "java/lang/Object" ∈ lw_all) := fa_ (⟨fun k h => (by cases h; exact ⟨by decide, q325, q326, q76⟩), fun h => (by cases h)⟩) (fa_ (⟨fun k h => (by cases h; exact ⟨by decide, q337, q175, q67⟩), fun h => (by cases h)⟩) (fn_))
theorem tN_5 : ∀ q ∈ pN_5, (∀ k, q.2 = .inl k → NewOK onm kcl 5 q.1 k) ∧ (q.2 = .inr 904 → Cond.classLink (onm 5) q.1 "java/lang/Object" ∈ lw_all) := fa_ (⟨fun k h => (by cases h; exact ⟨by decide, q2984, q146, q65⟩), fun h => (by cases h)⟩) (fa_ (⟨fun k h => (by cases h; exact ⟨by decide, q2987, q2988, q82⟩), fun h => (by cases h)⟩) (fa_ (⟨fun k h => (by cases h; exact ⟨by decide, q3220, q3283, q118⟩), fun h => (by cases h)⟩) (fa_ (⟨fun k h => (by cases h; exact ⟨by decide, q3233, q3234, q126⟩), fun h => (by cases h)⟩) (fa_ (⟨fun k h => (by cases h; exact ⟨by decide, q3512, q3513, q121⟩), fun h => (by cases h)⟩) (fa_ (⟨fun k h => (by cases h; exact ⟨by decide, q3575, q3576, q132⟩), fun h => (by cases h)⟩) (fa_ (⟨fun k h => (by cases h; exact ⟨by decide, q3633, q3634, q134⟩), fun h => (by cases h)⟩) (fn_)))))))
theorem tN_7 : ∀ q ∈ pN_7, (∀ k, q.2 = .inl k → NewOK onm kcl 7 q.1 k) ∧ (q.2 = .inr 904 → Cond.classLink (onm 7) q.1 "java/lang/Object" ∈ lw_all) := fa_ (⟨fun k h => (by cases h; exact ⟨by decide, q1905, q175, q67⟩), fun h => (by cases h)⟩) (fn_)
theorem tN_8 : ∀ q ∈ pN_8, (∀ k, q.2 = .inl k → NewOK onm kcl 8 q.1 k) ∧ (q.2 = .inr 904 → Cond.classLink (onm 8) q.1 "java/lang/Object" ∈ lw_all) := fa_ (⟨fun k h => (by cases h; exact ⟨by decide, q2634, q2128, q103⟩), fun h => (by cases h)⟩) (fn_)
theorem tN_13 : ∀ q ∈ pN_13, (∀ k, q.2 = .inl k → NewOK onm kcl 13 q.1 k) ∧ (q.2 = .inr 904 → Cond.classLink (onm 13) q.1 "java/lang/Object" ∈ lw_all) := fa_ (⟨fun k h => (by cases h; exact ⟨by decide, q2368, q146, q65⟩), fun h => (by cases h)⟩) (fn_)
theorem tN_15 : ∀ q ∈ pN_15, (∀ k, q.2 = .inl k → NewOK onm kcl 15 q.1 k) ∧ (q.2 = .inr 904 → Cond.classLink (onm 15) q.1 "java/lang/Object" ∈ lw_all) := fa_ (⟨fun k h => (by cases h; exact ⟨by decide, q3239, q146, q65⟩), fun h => (by cases h)⟩) (fn_)
theorem tN_102 : ∀ q ∈ pN_102, (∀ k, q.2 = .inl k → NewOK onm kcl 102 q.1 k) ∧ (q.2 = .inr 904 → Cond.classLink (onm 102) q.1 "java/lang/Object" ∈ lw_all) := fa_ (⟨fun k h => (by cases h), fun h => q474⟩) (fa_ (⟨fun k h => (by cases h), fun h => (by cases h)⟩) (fa_ (⟨fun k h => (by cases h; exact ⟨by decide, q1040, q1041, q90⟩), fun h => (by cases h)⟩) (fn_)))
theorem tN_103 : ∀ q ∈ pN_103, (∀ k, q.2 = .inl k → NewOK onm kcl 103 q.1 k) ∧ (q.2 = .inr 904 → Cond.classLink (onm 103) q.1 "java/lang/Object" ∈ lw_all) := fa_ (⟨fun k h => (by cases h; exact ⟨by decide, q2681, q2682, q129⟩), fun h => (by cases h)⟩) (fn_)
theorem tN_104 : ∀ q ∈ pN_104, (∀ k, q.2 = .inl k → NewOK onm kcl 104 q.1 k) ∧ (q.2 = .inr 904 → Cond.classLink (onm 104) q.1 "java/lang/Object" ∈ lw_all) := fa_ (⟨fun k h => (by cases h; exact ⟨by decide, q1421, q1422, q102⟩), fun h => (by cases h)⟩) (fa_ (⟨fun k h => (by cases h; exact ⟨by decide, q555, q556, q105⟩), fun h => (by cases h)⟩) (fa_ (⟨fun k h => (by cases h; exact ⟨by decide, q1499, q1500, q128⟩), fun h => (by cases h)⟩) (fa_ (⟨fun k h => (by cases h; exact ⟨by decide, q1377, q1378, q130⟩), fun h => (by cases h)⟩) (fn_))))
theorem tN_106 : ∀ q ∈ pN_106, (∀ k, q.2 = .inl k → NewOK onm kcl 106 q.1 k) ∧ (q.2 = .inr 904 → Cond.classLink (onm 106) q.1 "java/lang/Object" ∈ lw_all) := fa_ (⟨fun k h => (by cases h), fun h => (by cases h)⟩) (fa_ (⟨fun k h => (by cases h), fun h => q300⟩) (fa_ (⟨fun k h => (by cases h; exact ⟨by decide, q1065, q1066, q116⟩), fun h => (by cases h)⟩) (fn_)))
theorem tN_113 : ∀ q ∈ pN_113, (∀ k, q.2 = .inl k → NewOK onm kcl 113 q.1 k) ∧ (q.2 = .inr 904 → Cond.classLink (onm 113) q.1 "java/lang/Object" ∈ lw_all) := fa_ (⟨fun k h => (by cases h), fun h => q466⟩) (fn_)
theorem tN_120 : ∀ q ∈ pN_120, (∀ k, q.2 = .inl k → NewOK onm kcl 120 q.1 k) ∧ (q.2 = .inr 904 → Cond.classLink (onm 120) q.1 "java/lang/Object" ∈ lw_all) := fa_ (⟨fun k h => (by cases h), fun h => (by cases h)⟩) (fa_ (⟨fun k h => (by cases h), fun h => (by cases h)⟩) (fn_))
theorem tN_125 : ∀ q ∈ pN_125, (∀ k, q.2 = .inl k → NewOK onm kcl 125 q.1 k) ∧ (q.2 = .inr 904 → Cond.classLink (onm 125) q.1 "java/lang/Object" ∈ lw_all) := fa_ (⟨fun k h => (by cases h; exact ⟨by decide, q666, q1354, q95⟩), fun h => (by cases h)⟩) (fn_)
theorem tN_126 : ∀ q ∈ pN_126, (∀ k, q.2 = .inl k → NewOK onm kcl 126 q.1 k) ∧ (q.2 = .inr 904 → Cond.classLink (onm 126) q.1 "java/lang/Object" ∈ lw_all) := fa_ (⟨fun k h => (by cases h; exact ⟨by decide, q680, q2950, q97⟩), fun h => (by cases h)⟩) (fn_)
theorem tN_131 : ∀ q ∈ pN_131, (∀ k, q.2 = .inl k → NewOK onm kcl 131 q.1 k) ∧ (q.2 = .inr 904 → Cond.classLink (onm 131) q.1 "java/lang/Object" ∈ lw_all) := fa_ (⟨fun k h => (by cases h; exact ⟨by decide, q1100, q1101, q117⟩), fun h => (by cases h)⟩) (fn_)
theorem tN_136 : ∀ q ∈ pN_136, (∀ k, q.2 = .inl k → NewOK onm kcl 136 q.1 k) ∧ (q.2 = .inr 904 → Cond.classLink (onm 136) q.1 "java/lang/Object" ∈ lw_all) := fa_ (⟨fun k h => (by cases h; exact ⟨by decide, q635, q636, q112⟩), fun h => (by cases h)⟩) (fn_)
theorem tN_137 : ∀ q ∈ pN_137, (∀ k, q.2 = .inl k → NewOK onm kcl 137 q.1 k) ∧ (q.2 = .inr 904 → Cond.classLink (onm 137) q.1 "java/lang/Object" ∈ lw_all) := fa_ (⟨fun k h => (by cases h), fun h => (by cases h)⟩) (fa_ (⟨fun k h => (by cases h), fun h => (by cases h)⟩) (fn_))
theorem tN_139 : ∀ q ∈ pN_139, (∀ k, q.2 = .inl k → NewOK onm kcl 139 q.1 k) ∧ (q.2 = .inr 904 → Cond.classLink (onm 139) q.1 "java/lang/Object" ∈ lw_all) := fa_ (⟨fun k h => (by cases h), fun h => (by cases h)⟩) (fa_ (⟨fun k h => (by cases h), fun h => (by cases h)⟩) (fn_))
theorem tN_142 : ∀ q ∈ pN_142, (∀ k, q.2 = .inl k → NewOK onm kcl 142 q.1 k) ∧ (q.2 = .inr 904 → Cond.classLink (onm 142) q.1 "java/lang/Object" ∈ lw_all) := fa_ (⟨fun k h => (by cases h), fun h => (by cases h)⟩) (fa_ (⟨fun k h => (by cases h), fun h => (by cases h)⟩) (fn_))
theorem tN_147 : ∀ q ∈ pN_147, (∀ k, q.2 = .inl k → NewOK onm kcl 147 q.1 k) ∧ (q.2 = .inr 904 → Cond.classLink (onm 147) q.1 "java/lang/Object" ∈ lw_all) := fa_ (⟨fun k h => (by cases h), fun h => (by cases h)⟩) (fn_)
theorem tN_148 : ∀ q ∈ pN_148, (∀ k, q.2 = .inl k → NewOK onm kcl 148 q.1 k) ∧ (q.2 = .inr 904 → Cond.classLink (onm 148) q.1 "java/lang/Object" ∈ lw_all) := fa_ (⟨fun k h => (by cases h; exact ⟨by decide, q603, q604, q110⟩), fun h => (by cases h)⟩) (fn_)
theorem tN_149 : ∀ q ∈ pN_149, (∀ k, q.2 = .inl k → NewOK onm kcl 149 q.1 k) ∧ (q.2 = .inr 904 → Cond.classLink (onm 149) q.1 "java/lang/Object" ∈ lw_all) := fa_ (⟨fun k h => (by cases h; exact ⟨by decide, q575, q576, q106⟩), fun h => (by cases h)⟩) (fn_)
theorem tN : ∀ o j v, (pN o).lookup j = some v → (∀ k, v = .inl k → NewOK onm kcl o j k) ∧ (v = .inr 904 → Cond.classLink (onm o) j "java/lang/Object" ∈ lw_all) := by
  intro o j v h
  unfold pN at h
  split at h
  · exact tN_0 _ (lk_mem h)
  · exact tN_1 _ (lk_mem h)
  · exact tN_3 _ (lk_mem h)
  · exact tN_5 _ (lk_mem h)
  · exact tN_7 _ (lk_mem h)
  · exact tN_8 _ (lk_mem h)
  · exact tN_13 _ (lk_mem h)
  · exact tN_15 _ (lk_mem h)
  · exact tN_102 _ (lk_mem h)
  · exact tN_103 _ (lk_mem h)
  · exact tN_104 _ (lk_mem h)
  · exact tN_106 _ (lk_mem h)
  · exact tN_113 _ (lk_mem h)
  · exact tN_120 _ (lk_mem h)
  · exact tN_125 _ (lk_mem h)
  · exact tN_126 _ (lk_mem h)
  · exact tN_131 _ (lk_mem h)
  · exact tN_136 _ (lk_mem h)
  · exact tN_137 _ (lk_mem h)
  · exact tN_139 _ (lk_mem h)
  · exact tN_142 _ (lk_mem h)
  · exact tN_147 _ (lk_mem h)
  · exact tN_148 _ (lk_mem h)
  · exact tN_149 _ (lk_mem h)
  · cases h
theorem tC_1 : ∀ q ∈ cok_1, ∀ k ∈ q.2, CastOK onm kcl nwl_ 1 q.1 k := fa_ (fa_ (⟨by decide, "Leafcredit$Account", q319, Or.inl rfl⟩) (fn_)) (fa_ (fa_ (⟨by decide, "java/lang/Integer", q1986, Or.inl rfl⟩) (fa_ (⟨by decide, "java/lang/Integer", q1986, Or.inl rfl⟩) (fn_))) (fa_ (fa_ (⟨by decide, "Leafcredit$Piece", q1291, Or.inl rfl⟩) (fn_)) (fa_ (fa_ (⟨by decide, "Leafcredit$Entry", q1343, Or.inl rfl⟩) (fn_)) (fa_ (fa_ (⟨by decide, "java/lang/Long", q2020, Or.inl rfl⟩) (fa_ (⟨by decide, "java/lang/Long", q2020, Or.inl rfl⟩) (fn_))) (fa_ (fa_ (⟨by decide, "[J", q2036, Or.inl rfl⟩) (fn_)) (fa_ (fa_ (⟨by decide, "Leafcredit$Bid", q2213, Or.inl rfl⟩) (fn_)) (fa_ (fa_ (⟨by decide, "Leafcredit$Transfer", q2362, Or.inl rfl⟩) (fn_)) (fa_ (fa_ (⟨by decide, "[I", q1408, Or.inl rfl⟩) (fn_)) (fa_ (fa_ (⟨by decide, "Leafcredit$Project", q2767, Or.inl rfl⟩) (fn_)) (fa_ (fa_ (⟨by decide, "Leafcredit$Good", q2832, Or.inl rfl⟩) (fn_)) (fn_)))))))))))
theorem tC_2 : ∀ q ∈ cok_2, ∀ k ∈ q.2, CastOK onm kcl nwl_ 2 q.1 k := fa_ (fa_ (⟨by decide, "Leafcredit$Bid", q907, Or.inl rfl⟩) (fn_)) (fn_)
theorem tC_5 : ∀ q ∈ cok_5, ∀ k ∈ q.2, CastOK onm kcl nwl_ 5 q.1 k := fa_ (fa_ (⟨by decide, "LeafcreditModel$Account", q2987, Or.inl rfl⟩) (fn_)) (fa_ (fa_ (⟨by decide, "LeafcreditModel$Row", q3220, Or.inl rfl⟩) (fn_)) (fa_ (fa_ (⟨by decide, "LeafcreditModel$Transfer", q3233, Or.inl rfl⟩) (fn_)) (fa_ (fa_ (⟨by decide, "[I", q3403, Or.inl rfl⟩) (fn_)) (fa_ (fa_ (⟨by decide, "LeafcreditModel$Bid", q3512, Or.inl rfl⟩) (fn_)) (fa_ (fa_ (⟨by decide, "LeafcreditModel$Project", q3575, Or.inl rfl⟩) (fn_)) (fa_ (fa_ (⟨by decide, "LeafcreditModel$Good", q3633, Or.inl rfl⟩) (fn_)) (fn_)))))))
theorem tC_7 : ∀ q ∈ cok_7, ∀ k ∈ q.2, CastOK onm kcl nwl_ 7 q.1 k := fa_ (fa_ (⟨by decide, "java/lang/Long", q2919, Or.inl rfl⟩) (fa_ (⟨by decide, "java/lang/Long", q2919, Or.inl rfl⟩) (fn_))) (fa_ (fa_ (⟨by decide, "java/lang/Integer", q2110, Or.inl rfl⟩) (fa_ (⟨by decide, "java/lang/Integer", q2110, Or.inl rfl⟩) (fn_))) (fn_))
theorem tC_14 : ∀ q ∈ cok_14, ∀ k ∈ q.2, CastOK onm kcl nwl_ 14 q.1 k := fa_ (fa_ (⟨by decide, "Leafcredit$Piece", q919, Or.inl rfl⟩) (fn_)) (fn_)
theorem tC_104 : ∀ q ∈ cok_104, ∀ k ∈ q.2, CastOK onm kcl nwl_ 104 q.1 k := fa_ (fa_ (⟨by decide, "java/lang/Comparable", q655, Or.inr (List.mem_of_getElem? (i := 48) rfl)⟩) (fa_ (⟨by decide, "java/lang/Comparable", q655, Or.inr (List.mem_of_getElem? (i := 49) rfl)⟩) (fa_ (⟨by decide, "java/lang/Comparable", q655, Or.inr (List.mem_of_getElem? (i := 48) rfl)⟩) (fa_ (⟨by decide, "java/lang/Comparable", q655, Or.inr (List.mem_of_getElem? (i := 49) rfl)⟩) (fn_))))) (fn_)
theorem tC_113 : ∀ q ∈ cok_113, ∀ k ∈ q.2, CastOK onm kcl nwl_ 113 q.1 k := fa_ (fa_ (⟨by decide, "[Ljava/lang/Object;", q465, Or.inl rfl⟩) (fn_)) (fn_)
theorem tC_125 : ∀ q ∈ cok_125, ∀ k ∈ q.2, CastOK onm kcl nwl_ 125 q.1 k := fa_ (fa_ (⟨by decide, "java/lang/Integer", q666, Or.inl rfl⟩) (fa_ (⟨by decide, "java/lang/Integer", q666, Or.inl rfl⟩) (fn_))) (fn_)
theorem tC_126 : ∀ q ∈ cok_126, ∀ k ∈ q.2, CastOK onm kcl nwl_ 126 q.1 k := fa_ (fa_ (⟨by decide, "java/lang/Long", q680, Or.inl rfl⟩) (fa_ (⟨by decide, "java/lang/Long", q680, Or.inl rfl⟩) (fn_))) (fn_)
theorem tC_132 : ∀ q ∈ cok_132, ∀ k ∈ q.2, CastOK onm kcl nwl_ 132 q.1 k := fa_ (fa_ (⟨by decide, "java/util/Map$Entry", q1274, Or.inr (List.mem_of_getElem? (i := 51) rfl)⟩) (fa_ (⟨by decide, "java/util/Map$Entry", q1274, Or.inr (List.mem_of_getElem? (i := 52) rfl)⟩) (fn_))) (fn_)
theorem tCast : ∀ o j k, cok o j k = true → CastOK onm kcl nwl_ o j k := by
  intro o j k h
  unfold cok at h
  split at h
  · rename_i l hl
    have hk : k ∈ l := by simpa using h
    unfold cok_t at hl
    split at hl
    · exact tC_1 _ (lk_mem hl) _ hk
    · exact tC_2 _ (lk_mem hl) _ hk
    · exact tC_5 _ (lk_mem hl) _ hk
    · exact tC_7 _ (lk_mem hl) _ hk
    · exact tC_14 _ (lk_mem hl) _ hk
    · exact tC_104 _ (lk_mem hl) _ hk
    · exact tC_113 _ (lk_mem hl) _ hk
    · exact tC_125 _ (lk_mem hl) _ hk
    · exact tC_126 _ (lk_mem hl) _ hk
    · exact tC_132 _ (lk_mem hl) _ hk
    · cases hl
  · cases h
theorem tOb : ∀ k, obK k = true → Cond.castable (kname kcl k) "java/lang/Object" ∈ nwl_ := by
  intro k h
  have h := of_decide_eq_true h
  have hh : k < 35 ∨ k = 900 ∨ k = 901 ∨ k = 902 ∨ k = 903 ∨ k = 904 := by omega
  rcases hh with hh | rfl | rfl | rfl | rfl | rfl
  · match k, hh with
    | 0, _ => exact (List.mem_of_getElem? (i := 57) rfl)
    | 1, _ => exact (List.mem_of_getElem? (i := 58) rfl)
    | 2, _ => exact (List.mem_of_getElem? (i := 59) rfl)
    | 3, _ => exact (List.mem_of_getElem? (i := 60) rfl)
    | 4, _ => exact (List.mem_of_getElem? (i := 61) rfl)
    | 5, _ => exact (List.mem_of_getElem? (i := 62) rfl)
    | 6, _ => exact (List.mem_of_getElem? (i := 63) rfl)
    | 7, _ => exact (List.mem_of_getElem? (i := 64) rfl)
    | 8, _ => exact (List.mem_of_getElem? (i := 65) rfl)
    | 9, _ => exact (List.mem_of_getElem? (i := 66) rfl)
    | 10, _ => exact (List.mem_of_getElem? (i := 67) rfl)
    | 11, _ => exact (List.mem_of_getElem? (i := 68) rfl)
    | 12, _ => exact (List.mem_of_getElem? (i := 69) rfl)
    | 13, _ => exact (List.mem_of_getElem? (i := 70) rfl)
    | 14, _ => exact (List.mem_of_getElem? (i := 71) rfl)
    | 15, _ => exact (List.mem_of_getElem? (i := 72) rfl)
    | 16, _ => exact (List.mem_of_getElem? (i := 73) rfl)
    | 17, _ => exact (List.mem_of_getElem? (i := 74) rfl)
    | 18, _ => exact (List.mem_of_getElem? (i := 75) rfl)
    | 19, _ => exact (List.mem_of_getElem? (i := 76) rfl)
    | 20, _ => exact (List.mem_of_getElem? (i := 77) rfl)
    | 21, _ => exact (List.mem_of_getElem? (i := 78) rfl)
    | 22, _ => exact (List.mem_of_getElem? (i := 79) rfl)
    | 23, _ => exact (List.mem_of_getElem? (i := 80) rfl)
    | 24, _ => exact (List.mem_of_getElem? (i := 81) rfl)
    | 25, _ => exact (List.mem_of_getElem? (i := 82) rfl)
    | 26, _ => exact (List.mem_of_getElem? (i := 83) rfl)
    | 27, _ => exact (List.mem_of_getElem? (i := 84) rfl)
    | 28, _ => exact (List.mem_of_getElem? (i := 85) rfl)
    | 29, _ => exact (List.mem_of_getElem? (i := 86) rfl)
    | 30, _ => exact (List.mem_of_getElem? (i := 87) rfl)
    | 31, _ => exact (List.mem_of_getElem? (i := 88) rfl)
    | 32, _ => exact (List.mem_of_getElem? (i := 89) rfl)
    | 33, _ => exact (List.mem_of_getElem? (i := 90) rfl)
    | 34, _ => exact (List.mem_of_getElem? (i := 91) rfl)
    | k + 35, h => exact absurd h (by omega)
  · exact (List.mem_of_getElem? (i := 92) rfl)
  · exact (List.mem_of_getElem? (i := 93) rfl)
  · exact (List.mem_of_getElem? (i := 94) rfl)
  · exact (List.mem_of_getElem? (i := 95) rfl)
  · exact (List.mem_of_getElem? (i := 96) rfl)
theorem tAC : ∀ t, t ∈ [FieldType.int, .long, .boolean, .double] → Cond.arrayClass t ∈ lw_all := fa_ (q336) (fa_ (q2172) (fa_ (q3071) (fa_ (q3706) fn_)))
theorem at_thr : ∀ w ∈ Bundle.throwableAtoms, vx_no w = true → w ∈ lw_all ∨ w ∈ nwl_ := fa_ (fun _ => Or.inl q71) (fa_ (fun _ => Or.inl q254) (fa_ (fun _ => Or.inl q263) (fa_ (fun _ => Or.inl q271) (fa_ (fun _ => Or.inl q274) (fa_ (fun _ => Or.inl q276) (fa_ (fun _ => Or.inl q255) (fa_ (fun _ => Or.inl q256) (fa_ (fun _ => Or.inl q143) (fa_ (fun _ => Or.inl q144) (fa_ (fun _ => Or.inl q257) (fa_ (fun _ => Or.inl q262) (fa_ (fun _ => Or.inl q272) (fa_ (fun _ => Or.inl q289) (fa_ (fun _ => Or.inl q244) (fa_ (fun _ => Or.inl q290) (fa_ (fun _ => Or.inl q246) (fa_ (fun _ => Or.inl q291) (fa_ (fun _ => Or.inl q248) (fa_ (fun _ => Or.inl q258) (fa_ (fun h => absurd h (by decide +kernel)) (fa_ (fun _ => Or.inl q260) (fa_ (fun h => absurd h (by decide +kernel)) (fa_ (fun _ => Or.inl q250) (fn_))))))))))))))))))))))))
theorem pa_RE : ∀ w ∈ Bundle.passAtoms "java/lang/RuntimeException" "java/lang/Exception" 1 Bundle.five, vx_no w = true → w ∈ lw_all ∨ w ∈ nwl_ := fa_ (fun _ => Or.inl q281) (fa_ (fun _ => Or.inl q282) (fa_ (fun _ => Or.inl q283) (fa_ (fun _ => Or.inl q284) (fa_ (fun _ => Or.inr (List.mem_of_getElem? (i := 97) rfl)) (fn_)))))
theorem pa_EX : ∀ w ∈ Bundle.passAtoms "java/lang/Exception" "java/lang/Throwable" 1 Bundle.five, vx_no w = true → w ∈ lw_all ∨ w ∈ nwl_ := fa_ (fun _ => Or.inl q284) (fa_ (fun _ => Or.inl q285) (fa_ (fun _ => Or.inl q286) (fa_ (fun _ => Or.inl q255) (fa_ (fun _ => Or.inr (List.mem_of_getElem? (i := 98) rfl)) (fn_)))))
theorem pa_110 : ∀ w ∈ Bundle.passAtoms "java/lang/IllegalArgumentException" "java/lang/RuntimeException" 1 Bundle.five, vx_no w = true → w ∈ lw_all ∨ w ∈ nwl_ := fa_ (fun _ => Or.inl q278) (fa_ (fun _ => Or.inl q279) (fa_ (fun _ => Or.inl q280) (fa_ (fun _ => Or.inl q281) (fa_ (fun _ => Or.inr (List.mem_of_getElem? (i := 99) rfl)) (fn_)))))
theorem at_110 : ∀ w ∈ vx_at0 "Leafcredit" 75 "java/lang/IllegalArgumentException" ["java/lang/RuntimeException", "java/lang/Exception"], w ∈ lw_all ∨ w ∈ nwl_ := by
  intro w hw
  obtain ⟨hm, hno⟩ := List.mem_filter.mp hw
  rcases List.mem_append.mp hm with hm | hm
  · rcases List.mem_append.mp hm with hm | hm
    · exact at_thr w hm hno
    · rcases List.mem_append.mp hm with hm | hm
      · exact pa_110 w hm hno
      · rcases List.mem_append.mp hm with hm | hm
        · exact pa_RE w hm hno
        · exact pa_EX w hm hno
  · exact ap_ (P := fun w => vx_no w = true → w ∈ lw_all ∨ w ∈ nwl_) w hm (fa_ (fun _ => Or.inl q1827) (fa_ (fun _ => Or.inl q233) (fa_ (fun _ => Or.inr (List.mem_of_getElem? (i := 100) rfl)) (fa_ (fun _ => Or.inl q241) (fa_ (fun _ => Or.inl q242) (fa_ (fun _ => Or.inl q243) (fa_ (fun _ => Or.inl q245) (fa_ (fun _ => Or.inl q247) (fa_ (fun _ => Or.inl q249) (fa_ (fun h => absurd h (by decide +kernel)) (fa_ (fun h => absurd h (by decide +kernel)) (fa_ (fun _ => Or.inl q287) (fa_ (fun _ => Or.inl q252) (fa_ (fun _ => Or.inl q251) (fn_))))))))))))))) hno
theorem tT_110 : ThrowOK onm exn nwl_ 1 73 75 110 := ⟨["java/lang/RuntimeException", "java/lang/Exception"], by decide +kernel, by decide +kernel, by decide, q1826, q74, at_110, by decide +kernel⟩
theorem pa_114 : ∀ w ∈ Bundle.passAtoms "java/lang/IllegalStateException" "java/lang/RuntimeException" 1 Bundle.five, vx_no w = true → w ∈ lw_all ∨ w ∈ nwl_ := fa_ (fun _ => Or.inl q1624) (fa_ (fun _ => Or.inl q1625) (fa_ (fun _ => Or.inl q1626) (fa_ (fun _ => Or.inl q281) (fa_ (fun _ => Or.inr (List.mem_of_getElem? (i := 99) rfl)) (fn_)))))
theorem at_114 : ∀ w ∈ vx_at0 "Leafcredit" 78 "java/lang/IllegalStateException" ["java/lang/RuntimeException", "java/lang/Exception"], w ∈ lw_all ∨ w ∈ nwl_ := by
  intro w hw
  obtain ⟨hm, hno⟩ := List.mem_filter.mp hw
  rcases List.mem_append.mp hm with hm | hm
  · rcases List.mem_append.mp hm with hm | hm
    · exact at_thr w hm hno
    · rcases List.mem_append.mp hm with hm | hm
      · exact pa_114 w hm hno
      · rcases List.mem_append.mp hm with hm | hm
        · exact pa_RE w hm hno
        · exact pa_EX w hm hno
  · exact ap_ (P := fun w => vx_no w = true → w ∈ lw_all ∨ w ∈ nwl_) w hm (fa_ (fun _ => Or.inl q1832) (fa_ (fun _ => Or.inl q1615) (fa_ (fun _ => Or.inr (List.mem_of_getElem? (i := 101) rfl)) (fa_ (fun _ => Or.inl q1617) (fa_ (fun _ => Or.inl q266) (fa_ (fun _ => Or.inl q1618) (fa_ (fun _ => Or.inl q1619) (fa_ (fun _ => Or.inl q1620) (fa_ (fun _ => Or.inl q1621) (fa_ (fun h => absurd h (by decide +kernel)) (fa_ (fun h => absurd h (by decide +kernel)) (fa_ (fun _ => Or.inl q287) (fa_ (fun _ => Or.inl q252) (fa_ (fun _ => Or.inl q1622) (fn_))))))))))))))) hno
theorem tT_114 : ThrowOK onm exn nwl_ 1 76 78 114 := ⟨["java/lang/RuntimeException", "java/lang/Exception"], by decide +kernel, by decide +kernel, by decide, q1831, q83, at_114, by decide +kernel⟩
theorem pa_115 : ∀ w ∈ Bundle.passAtoms "java/lang/IndexOutOfBoundsException" "java/lang/RuntimeException" 1 Bundle.five, vx_no w = true → w ∈ lw_all ∨ w ∈ nwl_ := fa_ (fun _ => Or.inl q1881) (fa_ (fun _ => Or.inl q1882) (fa_ (fun _ => Or.inl q1883) (fa_ (fun _ => Or.inl q281) (fa_ (fun _ => Or.inr (List.mem_of_getElem? (i := 99) rfl)) (fn_)))))
theorem at_115 : ∀ w ∈ vx_at0 "Leafcredit" 87 "java/lang/IndexOutOfBoundsException" ["java/lang/RuntimeException", "java/lang/Exception"], w ∈ lw_all ∨ w ∈ nwl_ := by
  intro w hw
  obtain ⟨hm, hno⟩ := List.mem_filter.mp hw
  rcases List.mem_append.mp hm with hm | hm
  · rcases List.mem_append.mp hm with hm | hm
    · exact at_thr w hm hno
    · rcases List.mem_append.mp hm with hm | hm
      · exact pa_115 w hm hno
      · rcases List.mem_append.mp hm with hm | hm
        · exact pa_RE w hm hno
        · exact pa_EX w hm hno
  · exact ap_ (P := fun w => vx_no w = true → w ∈ lw_all ∨ w ∈ nwl_) w hm (fa_ (fun _ => Or.inl q1880) (fa_ (fun _ => Or.inl q1872) (fa_ (fun _ => Or.inr (List.mem_of_getElem? (i := 102) rfl)) (fa_ (fun _ => Or.inl q1874) (fa_ (fun _ => Or.inl q267) (fa_ (fun _ => Or.inl q1875) (fa_ (fun _ => Or.inl q1876) (fa_ (fun _ => Or.inl q1877) (fa_ (fun _ => Or.inl q1878) (fa_ (fun h => absurd h (by decide +kernel)) (fa_ (fun h => absurd h (by decide +kernel)) (fa_ (fun _ => Or.inl q287) (fa_ (fun _ => Or.inl q252) (fa_ (fun _ => Or.inl q1879) (fn_))))))))))))))) hno
theorem tT_115 : ThrowOK onm exn nwl_ 1 85 87 115 := ⟨["java/lang/RuntimeException", "java/lang/Exception"], by decide +kernel, by decide +kernel, by decide, q1871, q84, at_115, by decide +kernel⟩
theorem pa_121 : ∀ w ∈ Bundle.passAtoms "java/util/NoSuchElementException" "java/lang/RuntimeException" 1 Bundle.five, vx_no w = true → w ∈ lw_all ∨ w ∈ nwl_ := fa_ (fun _ => Or.inl q1187) (fa_ (fun _ => Or.inl q1188) (fa_ (fun _ => Or.inl q1189) (fa_ (fun _ => Or.inl q281) (fa_ (fun _ => Or.inr (List.mem_of_getElem? (i := 99) rfl)) (fn_)))))
theorem at_121 : ∀ w ∈ vx_at0 "Leafcredit" 81 "java/util/NoSuchElementException" ["java/lang/RuntimeException", "java/lang/Exception"], w ∈ lw_all ∨ w ∈ nwl_ := by
  intro w hw
  obtain ⟨hm, hno⟩ := List.mem_filter.mp hw
  rcases List.mem_append.mp hm with hm | hm
  · rcases List.mem_append.mp hm with hm | hm
    · exact at_thr w hm hno
    · rcases List.mem_append.mp hm with hm | hm
      · exact pa_121 w hm hno
      · rcases List.mem_append.mp hm with hm | hm
        · exact pa_RE w hm hno
        · exact pa_EX w hm hno
  · exact ap_ (P := fun w => vx_no w = true → w ∈ lw_all ∨ w ∈ nwl_) w hm (fa_ (fun _ => Or.inl q2015) (fa_ (fun _ => Or.inl q1178) (fa_ (fun _ => Or.inr (List.mem_of_getElem? (i := 103) rfl)) (fa_ (fun _ => Or.inl q1180) (fa_ (fun _ => Or.inl q270) (fa_ (fun _ => Or.inl q1181) (fa_ (fun _ => Or.inl q1182) (fa_ (fun _ => Or.inl q1183) (fa_ (fun _ => Or.inl q1184) (fa_ (fun h => absurd h (by decide +kernel)) (fa_ (fun h => absurd h (by decide +kernel)) (fa_ (fun _ => Or.inl q287) (fa_ (fun _ => Or.inl q252) (fa_ (fun _ => Or.inl q1185) (fn_))))))))))))))) hno
theorem tT_121 : ThrowOK onm exn nwl_ 1 79 81 121 := ⟨["java/lang/RuntimeException", "java/lang/Exception"], by decide +kernel, by decide +kernel, by decide, q2014, q91, at_121, by decide +kernel⟩
theorem pa_123 : ∀ w ∈ Bundle.passAtoms "java/lang/UnsupportedOperationException" "java/lang/RuntimeException" 1 Bundle.five, vx_no w = true → w ∈ lw_all ∨ w ∈ nwl_ := fa_ (fun _ => Or.inl q1965) (fa_ (fun _ => Or.inl q1966) (fa_ (fun _ => Or.inl q1967) (fa_ (fun _ => Or.inl q281) (fa_ (fun _ => Or.inr (List.mem_of_getElem? (i := 99) rfl)) (fn_)))))
theorem at_123 : ∀ w ∈ vx_at0 "Leafcredit" 84 "java/lang/UnsupportedOperationException" ["java/lang/RuntimeException", "java/lang/Exception"], w ∈ lw_all ∨ w ∈ nwl_ := by
  intro w hw
  obtain ⟨hm, hno⟩ := List.mem_filter.mp hw
  rcases List.mem_append.mp hm with hm | hm
  · rcases List.mem_append.mp hm with hm | hm
    · exact at_thr w hm hno
    · rcases List.mem_append.mp hm with hm | hm
      · exact pa_123 w hm hno
      · rcases List.mem_append.mp hm with hm | hm
        · exact pa_RE w hm hno
        · exact pa_EX w hm hno
  · exact ap_ (P := fun w => vx_no w = true → w ∈ lw_all ∨ w ∈ nwl_) w hm (fa_ (fun _ => Or.inl q1964) (fa_ (fun _ => Or.inl q1956) (fa_ (fun _ => Or.inr (List.mem_of_getElem? (i := 104) rfl)) (fa_ (fun _ => Or.inl q1958) (fa_ (fun _ => Or.inl q268) (fa_ (fun _ => Or.inl q1959) (fa_ (fun _ => Or.inl q1960) (fa_ (fun _ => Or.inl q1961) (fa_ (fun _ => Or.inl q1962) (fa_ (fun h => absurd h (by decide +kernel)) (fa_ (fun h => absurd h (by decide +kernel)) (fa_ (fun _ => Or.inl q287) (fa_ (fun _ => Or.inl q252) (fa_ (fun _ => Or.inl q1963) (fn_))))))))))))))) hno
theorem tT_123 : ThrowOK onm exn nwl_ 1 82 84 123 := ⟨["java/lang/RuntimeException", "java/lang/Exception"], by decide +kernel, by decide +kernel, by decide, q1955, q93, at_123, by decide +kernel⟩
theorem tH_ : ∀ q ∈ cth_t, q.1 ≠ 0 ∧ ∃ nm : String, Cond.classLink (onm 0) q.1 nm ∈ lw_all ∧ ∀ e, excK e = true → (cth 0 q.1 e = true → Cond.castable (exn e) nm ∈ nwl_) ∧ (cth 0 q.1 e = false → (exn e, nm) ∈ ncl_) := fa_ (⟨by decide, "java/lang/IllegalArgumentException", q1813, fun e he => by
    have he := of_decide_eq_true he
    rcases he with rfl | rfl | rfl | rfl | rfl
    · exact ⟨fun _ => (List.mem_of_getElem? (i := 100) rfl), fun h => (by cases h)⟩
    · exact ⟨fun h => (by cases h), fun _ => List.mem_of_getElem? (i := 0) rfl⟩
    · exact ⟨fun h => (by cases h), fun _ => List.mem_of_getElem? (i := 1) rfl⟩
    · exact ⟨fun h => (by cases h), fun _ => List.mem_of_getElem? (i := 2) rfl⟩
    · exact ⟨fun h => (by cases h), fun _ => List.mem_of_getElem? (i := 3) rfl⟩⟩) (fa_ (⟨by decide, "java/lang/IllegalStateException", q1814, fun e he => by
    have he := of_decide_eq_true he
    rcases he with rfl | rfl | rfl | rfl | rfl
    · exact ⟨fun h => (by cases h), fun _ => List.mem_of_getElem? (i := 4) rfl⟩
    · exact ⟨fun _ => (List.mem_of_getElem? (i := 101) rfl), fun h => (by cases h)⟩
    · exact ⟨fun h => (by cases h), fun _ => List.mem_of_getElem? (i := 5) rfl⟩
    · exact ⟨fun h => (by cases h), fun _ => List.mem_of_getElem? (i := 6) rfl⟩
    · exact ⟨fun h => (by cases h), fun _ => List.mem_of_getElem? (i := 7) rfl⟩⟩) (fa_ (⟨by decide, "java/lang/IndexOutOfBoundsException", q1836, fun e he => by
    have he := of_decide_eq_true he
    rcases he with rfl | rfl | rfl | rfl | rfl
    · exact ⟨fun h => (by cases h), fun _ => List.mem_of_getElem? (i := 8) rfl⟩
    · exact ⟨fun h => (by cases h), fun _ => List.mem_of_getElem? (i := 9) rfl⟩
    · exact ⟨fun _ => (List.mem_of_getElem? (i := 102) rfl), fun h => (by cases h)⟩
    · exact ⟨fun h => (by cases h), fun _ => List.mem_of_getElem? (i := 10) rfl⟩
    · exact ⟨fun h => (by cases h), fun _ => List.mem_of_getElem? (i := 11) rfl⟩⟩) (fa_ (⟨by decide, "java/lang/UnsupportedOperationException", q1946, fun e he => by
    have he := of_decide_eq_true he
    rcases he with rfl | rfl | rfl | rfl | rfl
    · exact ⟨fun h => (by cases h), fun _ => List.mem_of_getElem? (i := 12) rfl⟩
    · exact ⟨fun h => (by cases h), fun _ => List.mem_of_getElem? (i := 13) rfl⟩
    · exact ⟨fun h => (by cases h), fun _ => List.mem_of_getElem? (i := 14) rfl⟩
    · exact ⟨fun h => (by cases h), fun _ => List.mem_of_getElem? (i := 15) rfl⟩
    · exact ⟨fun _ => (List.mem_of_getElem? (i := 104) rfl), fun h => (by cases h)⟩⟩) (fa_ (⟨by decide, "java/util/NoSuchElementException", q1994, fun e he => by
    have he := of_decide_eq_true he
    rcases he with rfl | rfl | rfl | rfl | rfl
    · exact ⟨fun h => (by cases h), fun _ => List.mem_of_getElem? (i := 16) rfl⟩
    · exact ⟨fun h => (by cases h), fun _ => List.mem_of_getElem? (i := 17) rfl⟩
    · exact ⟨fun h => (by cases h), fun _ => List.mem_of_getElem? (i := 18) rfl⟩
    · exact ⟨fun _ => (List.mem_of_getElem? (i := 103) rfl), fun h => (by cases h)⟩
    · exact ⟨fun h => (by cases h), fun _ => List.mem_of_getElem? (i := 19) rfl⟩⟩) (fn_)))))
theorem tHand : ∀ M : MD, hOK M = true → HandOK onm exn nwl_ ncl_ M := by
  intro M h z hz
  unfold hOK at h
  rw [Bool.and_eq_true, List.all_eq_true] at h
  obtain ⟨h1, h2⟩ := h
  have h1 := of_decide_eq_true h1
  have h3 := h2 z hz
  rw [h1]
  obtain ⟨l, hl⟩ := Option.isSome_iff_exists.mp h3
  exact tH_ _ (lk_mem hl)
theorem od_0 : okD ⟨"Leafcredit", "addAccount", "(I)I"⟩ 1 := ⟨by decide, by decide, by decide +kernel⟩
theorem od_1 : okD ⟨"Leafcredit", "makePlant", "(III)I"⟩ 3 := ⟨by decide, by decide, by decide +kernel⟩
theorem od_2 : okD ⟨"Leafcredit", "report", "(III)I"⟩ 3 := ⟨by decide, by decide, by decide +kernel⟩
theorem od_3 : okD ⟨"Leafcredit", "tellActivity", "(II)I"⟩ 2 := ⟨by decide, by decide, by decide +kernel⟩
theorem od_4 : okD ⟨"Leafcredit", "emissionOf", "(II)J"⟩ 2 := ⟨by decide, by decide, by decide +kernel⟩
theorem od_5 : okD ⟨"Leafcredit", "owed", "(II)J"⟩ 2 := ⟨by decide, by decide, by decide +kernel⟩
theorem od_6 : okD ⟨"Leafcredit", "freeShare", "(I)I"⟩ 1 := ⟨by decide, by decide, by decide +kernel⟩
theorem od_7 : okD ⟨"Leafcredit", "cash", "(I)J"⟩ 1 := ⟨by decide, by decide, by decide +kernel⟩
theorem od_8 : okD ⟨"Leafcredit", "setCap", "(II)I"⟩ 2 := ⟨by decide, by decide, by decide +kernel⟩
theorem od_9 : okD ⟨"Leafcredit", "setBounds", "(III)I"⟩ 3 := ⟨by decide, by decide, by decide +kernel⟩
theorem od_10 : okD ⟨"Leafcredit", "bid", "(III)I"⟩ 3 := ⟨by decide, by decide, by decide +kernel⟩
theorem od_11 : okD ⟨"Leafcredit", "auction", "(II)I"⟩ 2 := ⟨by decide, by decide, by decide +kernel⟩
theorem od_12 : okD ⟨"Leafcredit", "price", "()I"⟩ 0 := ⟨by decide, by decide, by decide +kernel⟩
theorem od_13 : okD ⟨"Leafcredit", "transfer", "(IICI)I"⟩ 4 := ⟨by decide, by decide, by decide +kernel⟩
theorem od_14 : okD ⟨"Leafcredit", "confirm", "(I)I"⟩ 1 := ⟨by decide, by decide, by decide +kernel⟩
theorem od_15 : okD ⟨"Leafcredit", "trust", "(II)Z"⟩ 2 := ⟨by decide, by decide, by decide +kernel⟩
theorem od_16 : okD ⟨"Leafcredit", "freeze", "(I)I"⟩ 1 := ⟨by decide, by decide, by decide +kernel⟩
theorem od_17 : okD ⟨"Leafcredit", "release", "(I)I"⟩ 1 := ⟨by decide, by decide, by decide +kernel⟩
theorem od_18 : okD ⟨"Leafcredit", "stateOf", "(I)C"⟩ 1 := ⟨by decide, by decide, by decide +kernel⟩
theorem od_19 : okD ⟨"Leafcredit", "units", "(IC)I"⟩ 2 := ⟨by decide, by decide, by decide +kernel⟩
theorem od_20 : okD ⟨"Leafcredit", "usable", "(IC)I"⟩ 2 := ⟨by decide, by decide, by decide +kernel⟩
theorem od_21 : okD ⟨"Leafcredit", "holderOf", "(I)I"⟩ 1 := ⟨by decide, by decide, by decide +kernel⟩
theorem od_22 : okD ⟨"Leafcredit", "vintageOf", "(I)I"⟩ 1 := ⟨by decide, by decide, by decide +kernel⟩
theorem od_23 : okD ⟨"Leafcredit", "isFrozen", "(I)Z"⟩ 1 := ⟨by decide, by decide, by decide +kernel⟩
theorem od_24 : okD ⟨"Leafcredit", "surrender", "(IICI)J"⟩ 4 := ⟨by decide, by decide, by decide +kernel⟩
theorem od_25 : okD ⟨"Leafcredit", "surrendered", "(C)I"⟩ 1 := ⟨by decide, by decide, by decide +kernel⟩
theorem od_26 : okD ⟨"Leafcredit", "addProject", "(IIIIZ)I"⟩ 5 := ⟨by decide, by decide, by decide +kernel⟩
theorem od_27 : okD ⟨"Leafcredit", "verify", "(II)I"⟩ 2 := ⟨by decide, by decide, by decide +kernel⟩
theorem od_28 : okD ⟨"Leafcredit", "reverse", "(II)I"⟩ 2 := ⟨by decide, by decide, by decide +kernel⟩
theorem od_29 : okD ⟨"Leafcredit", "addGood", "(III)I"⟩ 3 := ⟨by decide, by decide, by decide +kernel⟩
theorem od_30 : okD ⟨"Leafcredit", "embedded", "(I)J"⟩ 1 := ⟨by decide, by decide, by decide +kernel⟩
theorem od_31 : okD ⟨"Leafcredit", "importGood", "(IIII)J"⟩ 4 := ⟨by decide, by decide, by decide +kernel⟩
theorem od_32 : okD ⟨"Leafcredit", "advance", "(I)I"⟩ 1 := ⟨by decide, by decide, by decide +kernel⟩
theorem od_33 : okD ⟨"Leafcredit", "offsetShare", "()F"⟩ 0 := ⟨by decide, by decide, by decide +kernel⟩
theorem od_34 : okD ⟨"Leafcredit", "meanVintage", "()D"⟩ 0 := ⟨by decide, by decide, by decide +kernel⟩
theorem od_35 : okD ⟨"Leafcredit", "<init>", "()V"⟩ 0 := ⟨by decide, by decide, by decide +kernel⟩
theorem od_36 : okD ⟨"LeafcreditModel", "<init>", "()V"⟩ 0 := ⟨by decide, by decide, by decide +kernel⟩
theorem od_37 : okD ⟨"LeafcreditLaw", "addAccount", "(LLeafcredit;I[J)I"⟩ 3 := ⟨by decide, by decide, by decide +kernel⟩
theorem od_38 : okD ⟨"LeafcreditModel", "addAccount", "(I)I"⟩ 1 := ⟨by decide, by decide, by decide +kernel⟩
theorem od_39 : okD ⟨"LeafcreditModel", "thrown", "()I"⟩ 0 := ⟨by decide, by decide, by decide +kernel⟩
theorem od_40 : okD ⟨"LeafcreditLaw", "makePlant", "(LLeafcredit;III[J)I"⟩ 5 := ⟨by decide, by decide, by decide +kernel⟩
theorem od_41 : okD ⟨"LeafcreditModel", "makePlant", "(III)I"⟩ 3 := ⟨by decide, by decide, by decide +kernel⟩
theorem od_42 : okD ⟨"LeafcreditLaw", "report", "(LLeafcredit;III[J)I"⟩ 5 := ⟨by decide, by decide, by decide +kernel⟩
theorem od_43 : okD ⟨"LeafcreditModel", "report", "(III)I"⟩ 3 := ⟨by decide, by decide, by decide +kernel⟩
theorem od_44 : okD ⟨"LeafcreditLaw", "tellActivity", "(LLeafcredit;II[J)I"⟩ 4 := ⟨by decide, by decide, by decide +kernel⟩
theorem od_45 : okD ⟨"LeafcreditModel", "tellActivity", "(II)I"⟩ 2 := ⟨by decide, by decide, by decide +kernel⟩
theorem od_46 : okD ⟨"LeafcreditLaw", "emissionOf", "(LLeafcredit;II[J)I"⟩ 4 := ⟨by decide, by decide, by decide +kernel⟩
theorem od_47 : okD ⟨"LeafcreditModel", "emissionOf", "(II)J"⟩ 2 := ⟨by decide, by decide, by decide +kernel⟩
theorem od_48 : okD ⟨"LeafcreditLaw", "owed", "(LLeafcredit;II[J)I"⟩ 4 := ⟨by decide, by decide, by decide +kernel⟩
theorem od_49 : okD ⟨"LeafcreditModel", "owed", "(II)J"⟩ 2 := ⟨by decide, by decide, by decide +kernel⟩
theorem od_50 : okD ⟨"LeafcreditLaw", "freeShare", "(LLeafcredit;I[J)I"⟩ 3 := ⟨by decide, by decide, by decide +kernel⟩
theorem od_51 : okD ⟨"LeafcreditModel", "freeShare", "(I)I"⟩ 1 := ⟨by decide, by decide, by decide +kernel⟩
theorem od_52 : okD ⟨"LeafcreditLaw", "cash", "(LLeafcredit;I[J)I"⟩ 3 := ⟨by decide, by decide, by decide +kernel⟩
theorem od_53 : okD ⟨"LeafcreditModel", "cash", "(I)J"⟩ 1 := ⟨by decide, by decide, by decide +kernel⟩
theorem od_54 : okD ⟨"LeafcreditLaw", "setCap", "(LLeafcredit;II[J)I"⟩ 4 := ⟨by decide, by decide, by decide +kernel⟩
theorem od_55 : okD ⟨"LeafcreditModel", "setCap", "(II)I"⟩ 2 := ⟨by decide, by decide, by decide +kernel⟩
theorem od_56 : okD ⟨"LeafcreditLaw", "setBounds", "(LLeafcredit;III[J)I"⟩ 5 := ⟨by decide, by decide, by decide +kernel⟩
theorem od_57 : okD ⟨"LeafcreditModel", "setBounds", "(III)I"⟩ 3 := ⟨by decide, by decide, by decide +kernel⟩
theorem od_58 : okD ⟨"LeafcreditLaw", "bid", "(LLeafcredit;III[J)I"⟩ 5 := ⟨by decide, by decide, by decide +kernel⟩
theorem od_59 : okD ⟨"LeafcreditModel", "bid", "(III)I"⟩ 3 := ⟨by decide, by decide, by decide +kernel⟩
theorem od_60 : okD ⟨"LeafcreditLaw", "auction", "(LLeafcredit;II[J)I"⟩ 4 := ⟨by decide, by decide, by decide +kernel⟩
theorem od_61 : okD ⟨"LeafcreditModel", "auction", "(II)I"⟩ 2 := ⟨by decide, by decide, by decide +kernel⟩
theorem od_62 : okD ⟨"LeafcreditLaw", "price", "(LLeafcredit;[J)I"⟩ 2 := ⟨by decide, by decide, by decide +kernel⟩
theorem od_63 : okD ⟨"LeafcreditModel", "price", "()I"⟩ 0 := ⟨by decide, by decide, by decide +kernel⟩
theorem od_64 : okD ⟨"Leafcredit", "volume", "()I"⟩ 0 := ⟨by decide, by decide, by decide +kernel⟩
theorem od_65 : okD ⟨"LeafcreditModel", "volume", "()I"⟩ 0 := ⟨by decide, by decide, by decide +kernel⟩
theorem od_66 : okD ⟨"Leafcredit", "reserve", "()I"⟩ 0 := ⟨by decide, by decide, by decide +kernel⟩
theorem od_67 : okD ⟨"LeafcreditModel", "reserve", "()I"⟩ 0 := ⟨by decide, by decide, by decide +kernel⟩
theorem od_68 : okD ⟨"Leafcredit", "circulation", "()I"⟩ 0 := ⟨by decide, by decide, by decide +kernel⟩
theorem od_69 : okD ⟨"LeafcreditModel", "circulation", "()I"⟩ 0 := ⟨by decide, by decide, by decide +kernel⟩
theorem od_70 : okD ⟨"LeafcreditLaw", "transfer", "(LLeafcredit;IICI[J)I"⟩ 6 := ⟨by decide, by decide, by decide +kernel⟩
theorem od_71 : okD ⟨"LeafcreditModel", "transfer", "(IICI)I"⟩ 4 := ⟨by decide, by decide, by decide +kernel⟩
theorem od_72 : okD ⟨"LeafcreditLaw", "confirm", "(LLeafcredit;I[J)I"⟩ 3 := ⟨by decide, by decide, by decide +kernel⟩
theorem od_73 : okD ⟨"LeafcreditModel", "confirm", "(I)I"⟩ 1 := ⟨by decide, by decide, by decide +kernel⟩
theorem od_74 : okD ⟨"LeafcreditLaw", "trust", "(LLeafcredit;II[J)I"⟩ 4 := ⟨by decide, by decide, by decide +kernel⟩
theorem od_75 : okD ⟨"LeafcreditModel", "trust", "(II)Z"⟩ 2 := ⟨by decide, by decide, by decide +kernel⟩
theorem od_76 : okD ⟨"LeafcreditLaw", "freeze", "(LLeafcredit;I[J)I"⟩ 3 := ⟨by decide, by decide, by decide +kernel⟩
theorem od_77 : okD ⟨"LeafcreditModel", "freeze", "(I)I"⟩ 1 := ⟨by decide, by decide, by decide +kernel⟩
theorem od_78 : okD ⟨"LeafcreditLaw", "release", "(LLeafcredit;I[J)I"⟩ 3 := ⟨by decide, by decide, by decide +kernel⟩
theorem od_79 : okD ⟨"LeafcreditModel", "release", "(I)I"⟩ 1 := ⟨by decide, by decide, by decide +kernel⟩
theorem od_80 : okD ⟨"LeafcreditLaw", "stateOf", "(LLeafcredit;I[J)I"⟩ 3 := ⟨by decide, by decide, by decide +kernel⟩
theorem od_81 : okD ⟨"LeafcreditModel", "stateOf", "(I)C"⟩ 1 := ⟨by decide, by decide, by decide +kernel⟩
theorem od_82 : okD ⟨"LeafcreditLaw", "units", "(LLeafcredit;IC[J)I"⟩ 4 := ⟨by decide, by decide, by decide +kernel⟩
theorem od_83 : okD ⟨"LeafcreditModel", "units", "(IC)I"⟩ 2 := ⟨by decide, by decide, by decide +kernel⟩
theorem od_84 : okD ⟨"LeafcreditLaw", "usable", "(LLeafcredit;IC[J)I"⟩ 4 := ⟨by decide, by decide, by decide +kernel⟩
theorem od_85 : okD ⟨"LeafcreditModel", "usable", "(IC)I"⟩ 2 := ⟨by decide, by decide, by decide +kernel⟩
theorem od_86 : okD ⟨"Leafcredit", "made", "()I"⟩ 0 := ⟨by decide, by decide, by decide +kernel⟩
theorem od_87 : okD ⟨"LeafcreditModel", "made", "()I"⟩ 0 := ⟨by decide, by decide, by decide +kernel⟩
theorem od_88 : okD ⟨"LeafcreditLaw", "holderOf", "(LLeafcredit;I[J)I"⟩ 3 := ⟨by decide, by decide, by decide +kernel⟩
theorem od_89 : okD ⟨"LeafcreditModel", "holderOf", "(I)I"⟩ 1 := ⟨by decide, by decide, by decide +kernel⟩
theorem od_90 : okD ⟨"LeafcreditLaw", "vintageOf", "(LLeafcredit;I[J)I"⟩ 3 := ⟨by decide, by decide, by decide +kernel⟩
theorem od_91 : okD ⟨"LeafcreditModel", "vintageOf", "(I)I"⟩ 1 := ⟨by decide, by decide, by decide +kernel⟩
theorem od_92 : okD ⟨"LeafcreditLaw", "isFrozen", "(LLeafcredit;I[J)I"⟩ 3 := ⟨by decide, by decide, by decide +kernel⟩
theorem od_93 : okD ⟨"LeafcreditModel", "isFrozen", "(I)Z"⟩ 1 := ⟨by decide, by decide, by decide +kernel⟩
theorem od_94 : okD ⟨"Leafcredit", "blocks", "()I"⟩ 0 := ⟨by decide, by decide, by decide +kernel⟩
theorem od_95 : okD ⟨"LeafcreditModel", "blocks", "()I"⟩ 0 := ⟨by decide, by decide, by decide +kernel⟩
theorem od_96 : okD ⟨"LeafcreditLaw", "surrender", "(LLeafcredit;IICI[J)I"⟩ 6 := ⟨by decide, by decide, by decide +kernel⟩
theorem od_97 : okD ⟨"LeafcreditModel", "surrender", "(IICI)J"⟩ 4 := ⟨by decide, by decide, by decide +kernel⟩
theorem od_98 : okD ⟨"LeafcreditLaw", "surrendered", "(LLeafcredit;C[J)I"⟩ 3 := ⟨by decide, by decide, by decide +kernel⟩
theorem od_99 : okD ⟨"LeafcreditModel", "surrendered", "(C)I"⟩ 1 := ⟨by decide, by decide, by decide +kernel⟩
theorem od_100 : okD ⟨"Leafcredit", "cancelled", "()I"⟩ 0 := ⟨by decide, by decide, by decide +kernel⟩
theorem od_101 : okD ⟨"LeafcreditModel", "cancelled", "()I"⟩ 0 := ⟨by decide, by decide, by decide +kernel⟩
theorem od_102 : okD ⟨"Leafcredit", "entries", "()I"⟩ 0 := ⟨by decide, by decide, by decide +kernel⟩
theorem od_103 : okD ⟨"LeafcreditModel", "entries", "()I"⟩ 0 := ⟨by decide, by decide, by decide +kernel⟩
theorem od_104 : okD ⟨"LeafcreditLaw", "addProject", "(LLeafcredit;IIIIZ[J)I"⟩ 7 := ⟨by decide, by decide, by decide +kernel⟩
theorem od_105 : okD ⟨"LeafcreditModel", "addProject", "(IIIIZ)I"⟩ 5 := ⟨by decide, by decide, by decide +kernel⟩
theorem od_106 : okD ⟨"LeafcreditLaw", "verify", "(LLeafcredit;II[J)I"⟩ 4 := ⟨by decide, by decide, by decide +kernel⟩
theorem od_107 : okD ⟨"LeafcreditModel", "verify", "(II)I"⟩ 2 := ⟨by decide, by decide, by decide +kernel⟩
theorem od_108 : okD ⟨"LeafcreditLaw", "reverse", "(LLeafcredit;II[J)I"⟩ 4 := ⟨by decide, by decide, by decide +kernel⟩
theorem od_109 : okD ⟨"LeafcreditModel", "reverse", "(II)I"⟩ 2 := ⟨by decide, by decide, by decide +kernel⟩
theorem od_110 : okD ⟨"LeafcreditLaw", "addGood", "(LLeafcredit;III[J)I"⟩ 5 := ⟨by decide, by decide, by decide +kernel⟩
theorem od_111 : okD ⟨"LeafcreditModel", "addGood", "(III)I"⟩ 3 := ⟨by decide, by decide, by decide +kernel⟩
theorem od_112 : okD ⟨"LeafcreditLaw", "embedded", "(LLeafcredit;I[J)I"⟩ 3 := ⟨by decide, by decide, by decide +kernel⟩
theorem od_113 : okD ⟨"LeafcreditModel", "embedded", "(I)J"⟩ 1 := ⟨by decide, by decide, by decide +kernel⟩
theorem od_114 : okD ⟨"LeafcreditLaw", "importGood", "(LLeafcredit;IIII[J)I"⟩ 6 := ⟨by decide, by decide, by decide +kernel⟩
theorem od_115 : okD ⟨"LeafcreditModel", "importGood", "(IIII)J"⟩ 4 := ⟨by decide, by decide, by decide +kernel⟩
theorem od_116 : okD ⟨"LeafcreditLaw", "advance", "(LLeafcredit;I[J)I"⟩ 3 := ⟨by decide, by decide, by decide +kernel⟩
theorem od_117 : okD ⟨"LeafcreditModel", "advance", "(I)I"⟩ 1 := ⟨by decide, by decide, by decide +kernel⟩
theorem od_118 : okD ⟨"Leafcredit", "day", "()I"⟩ 0 := ⟨by decide, by decide, by decide +kernel⟩
theorem od_119 : okD ⟨"LeafcreditModel", "day", "()I"⟩ 0 := ⟨by decide, by decide, by decide +kernel⟩
theorem od_120 : okD ⟨"LeafcreditLaw", "offsetShare", "(LLeafcredit;[D)I"⟩ 2 := ⟨by decide, by decide, by decide +kernel⟩
theorem od_121 : okD ⟨"LeafcreditModel", "offsetShare", "()F"⟩ 0 := ⟨by decide, by decide, by decide +kernel⟩
theorem od_122 : okD ⟨"LeafcreditLaw", "meanVintage", "(LLeafcredit;[D)I"⟩ 2 := ⟨by decide, by decide, by decide +kernel⟩
theorem od_123 : okD ⟨"LeafcreditModel", "meanVintage", "()D"⟩ 0 := ⟨by decide, by decide, by decide +kernel⟩
theorem od_124 : okD ⟨"Leafcredit", "isSound", "()Z"⟩ 0 := ⟨by decide, by decide, by decide +kernel⟩
theorem od_125 : okD ⟨"LeafcreditModel", "isSound", "()Z"⟩ 0 := ⟨by decide, by decide, by decide +kernel⟩
theorem od_126 : okD ⟨"java/util/ArrayList", "<init>", "()V"⟩ 0 := ⟨by decide, by decide, by decide +kernel⟩
theorem od_127 : okD ⟨"java/util/TreeMap", "<init>", "()V"⟩ 0 := ⟨by decide, by decide, by decide +kernel⟩
theorem od_128 : okD ⟨"Leafcredit$ByPrice", "<init>", "()V"⟩ 0 := ⟨by decide, by decide, by decide +kernel⟩
theorem od_129 : okD ⟨"java/util/PriorityQueue", "<init>", "(Ljava/util/Comparator;)V"⟩ 1 := ⟨by decide, by decide, by decide +kernel⟩
theorem od_130 : okD ⟨"Leafcredit$Account", "<init>", "(IJ)V"⟩ 2 := ⟨by decide, by decide, by decide +kernel⟩
theorem od_131 : okD ⟨"java/util/List", "add", "(Ljava/lang/Object;)Z"⟩ 1 := ⟨by decide, by decide, by decide +kernel⟩
theorem od_132 : okD ⟨"java/util/List", "size", "()I"⟩ 0 := ⟨by decide, by decide, by decide +kernel⟩
theorem od_133 : okD ⟨"Leafcredit", "isBetween", "(III)Z"⟩ 3 := ⟨by decide, by decide, by decide +kernel⟩
theorem od_134 : okD ⟨"Leafcredit", "checkIndex", "(Z)V"⟩ 1 := ⟨by decide, by decide, by decide +kernel⟩
theorem od_135 : okD ⟨"java/util/List", "get", "(I)Ljava/lang/Object;"⟩ 1 := ⟨by decide, by decide, by decide +kernel⟩
theorem od_136 : okD ⟨"java/lang/Integer", "valueOf", "(I)Ljava/lang/Integer;"⟩ 1 := ⟨by decide, by decide, by decide +kernel⟩
theorem od_137 : okD ⟨"Leafcredit", "year", "()I"⟩ 0 := ⟨by decide, by decide, by decide +kernel⟩
theorem od_138 : okD ⟨"Leafcredit$Piece", "<init>", "(IICIII)V"⟩ 6 := ⟨by decide, by decide, by decide +kernel⟩
theorem od_139 : okD ⟨"java/util/TreeMap", "put", "(Ljava/lang/Object;Ljava/lang/Object;)Ljava/lang/Object;"⟩ 2 := ⟨by decide, by decide, by decide +kernel⟩
theorem od_140 : okD ⟨"Leafcredit$Entry", "<init>", "(III)V"⟩ 3 := ⟨by decide, by decide, by decide +kernel⟩
theorem od_141 : okD ⟨"java/util/TreeMap", "values", "()Ljava/util/Collection;"⟩ 0 := ⟨by decide, by decide, by decide +kernel⟩
theorem od_142 : okD ⟨"java/util/Collection", "iterator", "()Ljava/util/Iterator;"⟩ 0 := ⟨by decide, by decide, by decide +kernel⟩
theorem od_143 : okD ⟨"java/util/Iterator", "hasNext", "()Z"⟩ 0 := ⟨by decide, by decide, by decide +kernel⟩
theorem od_144 : okD ⟨"java/util/Iterator", "next", "()Ljava/lang/Object;"⟩ 0 := ⟨by decide, by decide, by decide +kernel⟩
theorem od_145 : okD ⟨"Leafcredit$Piece", "isUsable", "(ICI)Z"⟩ 3 := ⟨by decide, by decide, by decide +kernel⟩
theorem od_146 : okD ⟨"Leafcredit$Piece", "size", "()I"⟩ 0 := ⟨by decide, by decide, by decide +kernel⟩
theorem od_147 : okD ⟨"java/util/Comparator", "compare", "(Ljava/lang/Object;Ljava/lang/Object;)I"⟩ 2 := ⟨by decide, by decide, by decide +kernel⟩
theorem od_148 : okD ⟨"java/util/List", "add", "(ILjava/lang/Object;)V"⟩ 2 := ⟨by decide, by decide, by decide +kernel⟩
theorem od_149 : okD ⟨"Leafcredit$Piece", "part", "(I)LLeafcredit$Piece;"⟩ 1 := ⟨by decide, by decide, by decide +kernel⟩
theorem od_150 : okD ⟨"Leafcredit", "checkArgument", "(Z)V"⟩ 1 := ⟨by decide, by decide, by decide +kernel⟩
theorem od_151 : okD ⟨"Leafcredit", "checkState", "(Z)V"⟩ 1 := ⟨by decide, by decide, by decide +kernel⟩
theorem od_152 : okD ⟨"Leafcredit", "accountFrom", "(II)LLeafcredit$Account;"⟩ 2 := ⟨by decide, by decide, by decide +kernel⟩
theorem od_153 : okD ⟨"Leafcredit$Plant", "<init>", "()V"⟩ 0 := ⟨by decide, by decide, by decide +kernel⟩
theorem od_154 : okD ⟨"java/util/List", "iterator", "()Ljava/util/Iterator;"⟩ 0 := ⟨by decide, by decide, by decide +kernel⟩
theorem od_155 : okD ⟨"Leafcredit", "checkPossible", "(Z)V"⟩ 1 := ⟨by decide, by decide, by decide +kernel⟩
theorem od_156 : okD ⟨"java/lang/Math", "max", "(JJ)J"⟩ 2 := ⟨by decide, by decide, by decide +kernel⟩
theorem od_157 : okD ⟨"java/lang/Integer", "intValue", "()I"⟩ 0 := ⟨by decide, by decide, by decide +kernel⟩
theorem od_158 : okD ⟨"java/util/TreeMap", "containsKey", "(Ljava/lang/Object;)Z"⟩ 1 := ⟨by decide, by decide, by decide +kernel⟩
theorem od_159 : okD ⟨"Leafcredit", "checkElement", "(Z)V"⟩ 1 := ⟨by decide, by decide, by decide +kernel⟩
theorem od_160 : okD ⟨"java/util/TreeMap", "get", "(Ljava/lang/Object;)Ljava/lang/Object;"⟩ 1 := ⟨by decide, by decide, by decide +kernel⟩
theorem od_161 : okD ⟨"java/lang/Long", "longValue", "()J"⟩ 0 := ⟨by decide, by decide, by decide +kernel⟩
theorem od_162 : okD ⟨"Leafcredit", "hasEnded", "(I)Z"⟩ 1 := ⟨by decide, by decide, by decide +kernel⟩
theorem od_163 : okD ⟨"Leafcredit", "begin", "()V"⟩ 0 := ⟨by decide, by decide, by decide +kernel⟩
theorem od_164 : okD ⟨"Leafcredit", "cap", "()I"⟩ 0 := ⟨by decide, by decide, by decide +kernel⟩
theorem od_165 : okD ⟨"Leafcredit$Plant", "average", "(I)I"⟩ 1 := ⟨by decide, by decide, by decide +kernel⟩
theorem od_166 : okD ⟨"Leafcredit", "make", "(ICII)V"⟩ 4 := ⟨by decide, by decide, by decide +kernel⟩
theorem od_167 : okD ⟨"java/lang/Math", "max", "(II)I"⟩ 2 := ⟨by decide, by decide, by decide +kernel⟩
theorem od_168 : okD ⟨"java/lang/Math", "min", "(JJ)J"⟩ 2 := ⟨by decide, by decide, by decide +kernel⟩
theorem od_169 : okD ⟨"java/lang/Math", "min", "(II)I"⟩ 2 := ⟨by decide, by decide, by decide +kernel⟩
theorem od_170 : okD ⟨"java/util/PriorityQueue", "iterator", "()Ljava/util/Iterator;"⟩ 0 := ⟨by decide, by decide, by decide +kernel⟩
theorem od_171 : okD ⟨"java/util/PriorityQueue", "size", "()I"⟩ 0 := ⟨by decide, by decide, by decide +kernel⟩
theorem od_172 : okD ⟨"Leafcredit$Bid", "<init>", "(ILLeafcredit$Account;II)V"⟩ 4 := ⟨by decide, by decide, by decide +kernel⟩
theorem od_173 : okD ⟨"java/util/PriorityQueue", "add", "(Ljava/lang/Object;)Z"⟩ 1 := ⟨by decide, by decide, by decide +kernel⟩
theorem od_174 : okD ⟨"java/util/AbstractCollection", "isEmpty", "()Z"⟩ 0 := ⟨by decide, by decide, by decide +kernel⟩
theorem od_175 : okD ⟨"java/util/PriorityQueue", "poll", "()Ljava/lang/Object;"⟩ 0 := ⟨by decide, by decide, by decide +kernel⟩
theorem od_176 : okD ⟨"java/util/PriorityQueue", "clear", "()V"⟩ 0 := ⟨by decide, by decide, by decide +kernel⟩
theorem od_177 : okD ⟨"java/util/List", "isEmpty", "()Z"⟩ 0 := ⟨by decide, by decide, by decide +kernel⟩
theorem od_178 : okD ⟨"Leafcredit", "isKind", "(C)Z"⟩ 1 := ⟨by decide, by decide, by decide +kernel⟩
theorem od_179 : okD ⟨"Leafcredit", "usableOf", "(IC)I"⟩ 2 := ⟨by decide, by decide, by decide +kernel⟩
theorem od_180 : okD ⟨"Leafcredit$Transfer", "<init>", "(LLeafcredit$Account;LLeafcredit$Account;CI)V"⟩ 4 := ⟨by decide, by decide, by decide +kernel⟩
theorem od_181 : okD ⟨"Leafcredit", "move", "(LLeafcredit$Transfer;)V"⟩ 1 := ⟨by decide, by decide, by decide +kernel⟩
theorem od_182 : okD ⟨"Leafcredit$ByUse", "<init>", "(I)V"⟩ 1 := ⟨by decide, by decide, by decide +kernel⟩
theorem od_183 : okD ⟨"Leafcredit", "taken", "(ICILjava/util/Comparator;)Ljava/util/List;"⟩ 4 := ⟨by decide, by decide, by decide +kernel⟩
theorem od_184 : okD ⟨"Leafcredit", "write", "(Ljava/util/List;I)V"⟩ 2 := ⟨by decide, by decide, by decide +kernel⟩
theorem od_185 : okD ⟨"Leafcredit", "transferWith", "(I)LLeafcredit$Transfer;"⟩ 1 := ⟨by decide, by decide, by decide +kernel⟩
theorem od_186 : okD ⟨"java/util/TreeMap", "subMap", "(Ljava/lang/Object;Ljava/lang/Object;)Ljava/util/SortedMap;"⟩ 2 := ⟨by decide, by decide, by decide +kernel⟩
theorem od_187 : okD ⟨"Leafcredit", "piecesOf", "([I)Ljava/util/Map;"⟩ 1 := ⟨by decide, by decide, by decide +kernel⟩
theorem od_188 : okD ⟨"java/util/Map", "values", "()Ljava/util/Collection;"⟩ 0 := ⟨by decide, by decide, by decide +kernel⟩
theorem od_189 : okD ⟨"java/util/TreeMap", "floorEntry", "(Ljava/lang/Object;)Ljava/util/Map$Entry;"⟩ 1 := ⟨by decide, by decide, by decide +kernel⟩
theorem od_190 : okD ⟨"java/util/Map$Entry", "getValue", "()Ljava/lang/Object;"⟩ 0 := ⟨by decide, by decide, by decide +kernel⟩
theorem od_191 : okD ⟨"Leafcredit", "pieceWith", "(I)LLeafcredit$Piece;"⟩ 1 := ⟨by decide, by decide, by decide +kernel⟩
theorem od_192 : okD ⟨"Leafcredit$Piece", "isAlike", "(LLeafcredit$Piece;I)Z"⟩ 2 := ⟨by decide, by decide, by decide +kernel⟩
theorem od_193 : okD ⟨"Leafcredit$Project", "<init>", "(LLeafcredit$Account;IIIZ)V"⟩ 5 := ⟨by decide, by decide, by decide +kernel⟩
theorem od_194 : okD ⟨"Leafcredit", "projectWith", "(I)LLeafcredit$Project;"⟩ 1 := ⟨by decide, by decide, by decide +kernel⟩
theorem od_195 : okD ⟨"Leafcredit$Project", "offsets", "(I)I"⟩ 1 := ⟨by decide, by decide, by decide +kernel⟩
theorem od_196 : okD ⟨"Leafcredit", "up", "(JJ)J"⟩ 2 := ⟨by decide, by decide, by decide +kernel⟩
theorem od_197 : okD ⟨"Leafcredit$Good", "<init>", "(ILLeafcredit$Good;I)V"⟩ 3 := ⟨by decide, by decide, by decide +kernel⟩
theorem od_198 : okD ⟨"Leafcredit$Good", "embedded", "()J"⟩ 0 := ⟨by decide, by decide, by decide +kernel⟩
theorem od_199 : okD ⟨"Leafcredit", "end", "(I)V"⟩ 1 := ⟨by decide, by decide, by decide +kernel⟩
theorem od_200 : okD ⟨"Leafcredit", "demand", "(I)V"⟩ 1 := ⟨by decide, by decide, by decide +kernel⟩
theorem od_201 : okD ⟨"Leafcredit$Account", "end", "(I)V"⟩ 1 := ⟨by decide, by decide, by decide +kernel⟩
theorem od_202 : okD ⟨"Leafcredit", "cut", "(Ljava/util/TreeMap;I)V"⟩ 2 := ⟨by decide, by decide, by decide +kernel⟩
theorem od_203 : okD ⟨"java/util/TreeMap", "lowerEntry", "(Ljava/lang/Object;)Ljava/util/Map$Entry;"⟩ 1 := ⟨by decide, by decide, by decide +kernel⟩
theorem od_204 : okD ⟨"Leafcredit", "byJournal", "()Ljava/util/TreeMap;"⟩ 0 := ⟨by decide, by decide, by decide +kernel⟩
theorem od_205 : okD ⟨"java/lang/Integer", "compare", "(II)I"⟩ 2 := ⟨by decide, by decide, by decide +kernel⟩
theorem od_206 : okD ⟨"Leafcredit$ByPrice", "compare", "(LLeafcredit$Bid;LLeafcredit$Bid;)I"⟩ 2 := ⟨by decide, by decide, by decide +kernel⟩
theorem od_207 : okD ⟨"Leafcredit$Sum", "<init>", "()V"⟩ 0 := ⟨by decide, by decide, by decide +kernel⟩
theorem od_208 : okD ⟨"java/lang/Long", "valueOf", "(J)Ljava/lang/Long;"⟩ 1 := ⟨by decide, by decide, by decide +kernel⟩
theorem od_209 : okD ⟨"LeafcreditModel$Account", "<init>", "(J)V"⟩ 1 := ⟨by decide, by decide, by decide +kernel⟩
theorem od_210 : okD ⟨"java/util/ArrayList", "add", "(Ljava/lang/Object;)Z"⟩ 1 := ⟨by decide, by decide, by decide +kernel⟩
theorem od_211 : okD ⟨"java/util/ArrayList", "size", "()I"⟩ 0 := ⟨by decide, by decide, by decide +kernel⟩
theorem od_212 : okD ⟨"LeafcreditModel", "in", "(JJJ)Z"⟩ 3 := ⟨by decide, by decide, by decide +kernel⟩
theorem od_213 : okD ⟨"LeafcreditModel", "isOther", "(I)Z"⟩ 1 := ⟨by decide, by decide, by decide +kernel⟩
theorem od_214 : okD ⟨"java/util/ArrayList", "get", "(I)Ljava/lang/Object;"⟩ 1 := ⟨by decide, by decide, by decide +kernel⟩
theorem od_215 : okD ⟨"java/util/ArrayList", "iterator", "()Ljava/util/Iterator;"⟩ 0 := ⟨by decide, by decide, by decide +kernel⟩
theorem od_216 : okD ⟨"LeafcreditModel", "year", "()I"⟩ 0 := ⟨by decide, by decide, by decide +kernel⟩
theorem od_217 : okD ⟨"LeafcreditModel", "hasEnded", "(I)Z"⟩ 1 := ⟨by decide, by decide, by decide +kernel⟩
theorem od_218 : okD ⟨"LeafcreditModel$Row", "<init>", "(IICIII)V"⟩ 6 := ⟨by decide, by decide, by decide +kernel⟩
theorem od_219 : okD ⟨"LeafcreditModel$Row", "isLocked", "(I)Z"⟩ 1 := ⟨by decide, by decide, by decide +kernel⟩
theorem od_220 : okD ⟨"LeafcreditModel", "isUsable", "(LLeafcreditModel$Row;IC)Z"⟩ 3 := ⟨by decide, by decide, by decide +kernel⟩
theorem od_221 : okD ⟨"LeafcreditModel$Row", "size", "()I"⟩ 0 := ⟨by decide, by decide, by decide +kernel⟩
theorem od_222 : okD ⟨"java/util/ArrayList", "indexOf", "(Ljava/lang/Object;)I"⟩ 1 := ⟨by decide, by decide, by decide +kernel⟩
theorem od_223 : okD ⟨"java/util/ArrayList", "add", "(ILjava/lang/Object;)V"⟩ 2 := ⟨by decide, by decide, by decide +kernel⟩
theorem od_224 : okD ⟨"LeafcreditModel", "next", "(ICI)LLeafcreditModel$Row;"⟩ 3 := ⟨by decide, by decide, by decide +kernel⟩
theorem od_225 : okD ⟨"LeafcreditModel", "cut", "(LLeafcreditModel$Row;I)V"⟩ 2 := ⟨by decide, by decide, by decide +kernel⟩
theorem od_226 : okD ⟨"LeafcreditModel", "take", "(ICIII)Ljava/util/ArrayList;"⟩ 5 := ⟨by decide, by decide, by decide +kernel⟩
theorem od_227 : okD ⟨"LeafcreditModel", "isKind", "(C)Z"⟩ 1 := ⟨by decide, by decide, by decide +kernel⟩
theorem od_228 : okD ⟨"LeafcreditModel", "usableOf", "(IC)I"⟩ 2 := ⟨by decide, by decide, by decide +kernel⟩
theorem od_229 : okD ⟨"LeafcreditModel$Transfer", "<init>", "(IICI)V"⟩ 4 := ⟨by decide, by decide, by decide +kernel⟩
theorem od_230 : okD ⟨"LeafcreditModel", "move", "(LLeafcreditModel$Transfer;)V"⟩ 1 := ⟨by decide, by decide, by decide +kernel⟩
theorem od_231 : okD ⟨"LeafcreditModel", "isTransfer", "(I)Z"⟩ 1 := ⟨by decide, by decide, by decide +kernel⟩
theorem od_232 : okD ⟨"LeafcreditModel", "freeze", "(IZ)I"⟩ 2 := ⟨by decide, by decide, by decide +kernel⟩
theorem od_233 : okD ⟨"LeafcreditModel", "wrongHolder", "(IC)I"⟩ 2 := ⟨by decide, by decide, by decide +kernel⟩
theorem od_234 : okD ⟨"LeafcreditModel", "plain", "(I)I"⟩ 1 := ⟨by decide, by decide, by decide +kernel⟩
theorem od_235 : okD ⟨"LeafcreditModel", "rowOf", "(I)LLeafcreditModel$Row;"⟩ 1 := ⟨by decide, by decide, by decide +kernel⟩
theorem od_236 : okD ⟨"LeafcreditModel$Row", "isLike", "(LLeafcreditModel$Row;I)Z"⟩ 2 := ⟨by decide, by decide, by decide +kernel⟩
theorem od_237 : okD ⟨"java/lang/Math", "abs", "(J)J"⟩ 1 := ⟨by decide, by decide, by decide +kernel⟩
theorem od_238 : okD ⟨"LeafcreditModel", "cap", "()I"⟩ 0 := ⟨by decide, by decide, by decide +kernel⟩
theorem od_239 : okD ⟨"LeafcreditModel", "make", "(CIII)V"⟩ 4 := ⟨by decide, by decide, by decide +kernel⟩
theorem od_240 : okD ⟨"LeafcreditModel", "circulating", "()I"⟩ 0 := ⟨by decide, by decide, by decide +kernel⟩
theorem od_241 : okD ⟨"LeafcreditModel", "beginYear", "()V"⟩ 0 := ⟨by decide, by decide, by decide +kernel⟩
theorem od_242 : okD ⟨"LeafcreditModel$Bid", "<init>", "(III)V"⟩ 3 := ⟨by decide, by decide, by decide +kernel⟩
theorem od_243 : okD ⟨"LeafcreditModel$Bid", "cost", "()J"⟩ 0 := ⟨by decide, by decide, by decide +kernel⟩
theorem od_244 : okD ⟨"LeafcreditModel$Bid", "account", "()I"⟩ 0 := ⟨by decide, by decide, by decide +kernel⟩
theorem od_245 : okD ⟨"LeafcreditModel$Bid", "price", "()I"⟩ 0 := ⟨by decide, by decide, by decide +kernel⟩
theorem od_246 : okD ⟨"java/util/ArrayList", "clear", "()V"⟩ 0 := ⟨by decide, by decide, by decide +kernel⟩
theorem od_247 : okD ⟨"LeafcreditModel$Bid", "units", "()I"⟩ 0 := ⟨by decide, by decide, by decide +kernel⟩
theorem od_248 : okD ⟨"LeafcreditModel$Project", "<init>", "(IIIIZ)V"⟩ 5 := ⟨by decide, by decide, by decide +kernel⟩
theorem od_249 : okD ⟨"LeafcreditModel", "isProject", "(I)Z"⟩ 1 := ⟨by decide, by decide, by decide +kernel⟩
theorem od_250 : okD ⟨"LeafcreditModel", "up", "(JJ)J"⟩ 2 := ⟨by decide, by decide, by decide +kernel⟩
theorem od_251 : okD ⟨"LeafcreditModel", "isGood", "(I)Z"⟩ 1 := ⟨by decide, by decide, by decide +kernel⟩
theorem od_252 : okD ⟨"LeafcreditModel$Good", "<init>", "(III)V"⟩ 3 := ⟨by decide, by decide, by decide +kernel⟩
theorem od_253 : okD ⟨"LeafcreditModel$Good", "own", "()I"⟩ 0 := ⟨by decide, by decide, by decide +kernel⟩
theorem od_254 : okD ⟨"LeafcreditModel$Good", "input", "()I"⟩ 0 := ⟨by decide, by decide, by decide +kernel⟩
theorem od_255 : okD ⟨"LeafcreditModel$Good", "amount", "()I"⟩ 0 := ⟨by decide, by decide, by decide +kernel⟩
theorem od_256 : okD ⟨"LeafcreditModel", "embeddedIn", "(I)J"⟩ 1 := ⟨by decide, by decide, by decide +kernel⟩
theorem od_257 : okD ⟨"LeafcreditModel", "emitted", "(LLeafcreditModel$Account;I)J"⟩ 2 := ⟨by decide, by decide, by decide +kernel⟩
theorem od_258 : okD ⟨"LeafcreditModel", "endYear", "(I)V"⟩ 1 := ⟨by decide, by decide, by decide +kernel⟩
theorem od_259 : okD ⟨"LeafcreditModel", "fallDue", "(I)V"⟩ 1 := ⟨by decide, by decide, by decide +kernel⟩
theorem od_260 : okD ⟨"java/util/AbstractMap", "isEmpty", "()Z"⟩ 0 := ⟨by decide, by decide, by decide +kernel⟩
theorem od_261 : okD ⟨"java/util/TreeMap", "lastEntry", "()Ljava/util/Map$Entry;"⟩ 0 := ⟨by decide, by decide, by decide +kernel⟩
theorem od_262 : okD ⟨"java/lang/Math", "abs", "(I)I"⟩ 1 := ⟨by decide, by decide, by decide +kernel⟩
theorem od_263 : okD ⟨"java/lang/Record", "<init>", "()V"⟩ 0 := ⟨by decide, by decide, by decide +kernel⟩
theorem od_264 : okD ⟨"Leafcredit$ByUse", "compare", "(LLeafcredit$Piece;LLeafcredit$Piece;)I"⟩ 2 := ⟨by decide, by decide, by decide +kernel⟩
theorem od_265 : okD ⟨"Leafcredit$Duty", "owed", "()J"⟩ 0 := ⟨by decide, by decide, by decide +kernel⟩
theorem od_266 : okD ⟨"Leafcredit$Duty", "clear", "()V"⟩ 0 := ⟨by decide, by decide, by decide +kernel⟩
theorem od_267 : okD ⟨"java/util/AbstractCollection", "size", "()I"⟩ 0 := ⟨by decide, by decide, by decide +kernel⟩
theorem od_268 : okD ⟨"java/util/AbstractCollection", "iterator", "()Ljava/util/Iterator;"⟩ 0 := ⟨by decide, by decide, by decide +kernel⟩
theorem od_269 : okD ⟨"java/util/Iterator", "remove", "()V"⟩ 0 := ⟨by decide, by decide, by decide +kernel⟩
theorem od_270 : okD ⟨"java/util/AbstractCollection", "<init>", "()V"⟩ 0 := ⟨by decide, by decide, by decide +kernel⟩
theorem od_271 : okD ⟨"java/util/AbstractList", "<init>", "()V"⟩ 0 := ⟨by decide, by decide, by decide +kernel⟩
theorem od_272 : okD ⟨"java/util/Arrays", "copyOf", "([Ljava/lang/Object;I)[Ljava/lang/Object;"⟩ 2 := ⟨by decide, by decide, by decide +kernel⟩
theorem od_273 : okD ⟨"java/util/ArrayList", "grow", "(I)[Ljava/lang/Object;"⟩ 1 := ⟨by decide, by decide, by decide +kernel⟩
theorem od_274 : okD ⟨"jdk/internal/util/ArraysSupport", "newLength", "(III)I"⟩ 3 := ⟨by decide, by decide, by decide +kernel⟩
theorem od_275 : okD ⟨"java/util/ArrayList", "indexOfRange", "(Ljava/lang/Object;II)I"⟩ 3 := ⟨by decide, by decide, by decide +kernel⟩
theorem od_276 : okD ⟨"java/lang/Object", "equals", "(Ljava/lang/Object;)Z"⟩ 1 := ⟨by decide, by decide, by decide +kernel⟩
theorem od_277 : okD ⟨"java/util/Objects", "checkIndex", "(II)I"⟩ 2 := ⟨by decide, by decide, by decide +kernel⟩
theorem od_278 : okD ⟨"java/util/ArrayList", "elementData", "(I)Ljava/lang/Object;"⟩ 1 := ⟨by decide, by decide, by decide +kernel⟩
theorem od_279 : okD ⟨"java/util/ArrayList", "grow", "()[Ljava/lang/Object;"⟩ 0 := ⟨by decide, by decide, by decide +kernel⟩
theorem od_280 : okD ⟨"java/util/ArrayList", "add", "(Ljava/lang/Object;[Ljava/lang/Object;I)V"⟩ 3 := ⟨by decide, by decide, by decide +kernel⟩
theorem od_281 : okD ⟨"java/util/ArrayList", "rangeCheckForAdd", "(I)V"⟩ 1 := ⟨by decide, by decide, by decide +kernel⟩
theorem od_282 : okD ⟨"java/util/ArrayList", "fastRemove", "([Ljava/lang/Object;I)V"⟩ 2 := ⟨by decide, by decide, by decide +kernel⟩
theorem od_283 : okD ⟨"java/util/ArrayList$Itr", "<init>", "(Ljava/util/ArrayList;)V"⟩ 1 := ⟨by decide, by decide, by decide +kernel⟩
theorem od_284 : okD ⟨"java/util/AbstractMap", "entrySet", "()Ljava/util/Set;"⟩ 0 := ⟨by decide, by decide, by decide +kernel⟩
theorem od_285 : okD ⟨"java/util/AbstractMap", "size", "()I"⟩ 0 := ⟨by decide, by decide, by decide +kernel⟩
theorem od_286 : okD ⟨"java/util/Set", "clear", "()V"⟩ 0 := ⟨by decide, by decide, by decide +kernel⟩
theorem od_287 : okD ⟨"java/util/AbstractMap$2", "<init>", "(Ljava/util/AbstractMap;)V"⟩ 1 := ⟨by decide, by decide, by decide +kernel⟩
theorem od_288 : okD ⟨"java/util/AbstractMap", "<init>", "()V"⟩ 0 := ⟨by decide, by decide, by decide +kernel⟩
theorem od_289 : okD ⟨"java/util/TreeMap", "getEntry", "(Ljava/lang/Object;)Ljava/util/TreeMap$Entry;"⟩ 1 := ⟨by decide, by decide, by decide +kernel⟩
theorem od_290 : okD ⟨"java/util/TreeMap", "successor", "(Ljava/util/TreeMap$Entry;)Ljava/util/TreeMap$Entry;"⟩ 1 := ⟨by decide, by decide, by decide +kernel⟩
theorem od_291 : okD ⟨"java/util/TreeMap", "getLastEntry", "()Ljava/util/TreeMap$Entry;"⟩ 0 := ⟨by decide, by decide, by decide +kernel⟩
theorem od_292 : okD ⟨"java/util/Objects", "requireNonNull", "(Ljava/lang/Object;)Ljava/lang/Object;"⟩ 1 := ⟨by decide, by decide, by decide +kernel⟩
theorem od_293 : okD ⟨"java/lang/Comparable", "compareTo", "(Ljava/lang/Object;)I"⟩ 1 := ⟨by decide, by decide, by decide +kernel⟩
theorem od_294 : okD ⟨"java/util/TreeMap", "compare", "(Ljava/lang/Object;Ljava/lang/Object;)I"⟩ 2 := ⟨by decide, by decide, by decide +kernel⟩
theorem od_295 : okD ⟨"java/util/TreeMap", "put", "(Ljava/lang/Object;Ljava/lang/Object;Z)Ljava/lang/Object;"⟩ 3 := ⟨by decide, by decide, by decide +kernel⟩
theorem od_296 : okD ⟨"java/util/TreeMap", "addEntryToEmptyMap", "(Ljava/lang/Object;Ljava/lang/Object;)V"⟩ 2 := ⟨by decide, by decide, by decide +kernel⟩
theorem od_297 : okD ⟨"java/util/TreeMap", "addEntry", "(Ljava/lang/Object;Ljava/lang/Object;Ljava/util/TreeMap$Entry;Z)V"⟩ 4 := ⟨by decide, by decide, by decide +kernel⟩
theorem od_298 : okD ⟨"java/util/TreeMap$Entry", "<init>", "(Ljava/lang/Object;Ljava/lang/Object;Ljava/util/TreeMap$Entry;)V"⟩ 3 := ⟨by decide, by decide, by decide +kernel⟩
theorem od_299 : okD ⟨"java/util/TreeMap", "fixAfterInsertion", "(Ljava/util/TreeMap$Entry;)V"⟩ 1 := ⟨by decide, by decide, by decide +kernel⟩
theorem od_300 : okD ⟨"java/util/TreeMap", "exportEntry", "(Ljava/util/TreeMap$Entry;)Ljava/util/Map$Entry;"⟩ 1 := ⟨by decide, by decide, by decide +kernel⟩
theorem od_301 : okD ⟨"java/util/TreeMap", "getLowerEntry", "(Ljava/lang/Object;)Ljava/util/TreeMap$Entry;"⟩ 1 := ⟨by decide, by decide, by decide +kernel⟩
theorem od_302 : okD ⟨"java/util/TreeMap", "getFloorEntry", "(Ljava/lang/Object;)Ljava/util/TreeMap$Entry;"⟩ 1 := ⟨by decide, by decide, by decide +kernel⟩
theorem od_303 : okD ⟨"java/util/TreeMap$Values", "<init>", "(Ljava/util/TreeMap;)V"⟩ 1 := ⟨by decide, by decide, by decide +kernel⟩
theorem od_304 : okD ⟨"java/util/TreeMap$EntrySet", "<init>", "(Ljava/util/TreeMap;)V"⟩ 1 := ⟨by decide, by decide, by decide +kernel⟩
theorem od_305 : okD ⟨"java/util/TreeMap$AscendingSubMap", "<init>", "(Ljava/util/TreeMap;ZLjava/lang/Object;ZZLjava/lang/Object;Z)V"⟩ 7 := ⟨by decide, by decide, by decide +kernel⟩
theorem od_306 : okD ⟨"java/util/TreeMap", "subMap", "(Ljava/lang/Object;ZLjava/lang/Object;Z)Ljava/util/NavigableMap;"⟩ 4 := ⟨by decide, by decide, by decide +kernel⟩
theorem od_307 : okD ⟨"java/util/AbstractMap$SimpleImmutableEntry", "<init>", "(Ljava/util/Map$Entry;)V"⟩ 1 := ⟨by decide, by decide, by decide +kernel⟩
theorem od_308 : okD ⟨"java/util/TreeMap", "parentOf", "(Ljava/util/TreeMap$Entry;)Ljava/util/TreeMap$Entry;"⟩ 1 := ⟨by decide, by decide, by decide +kernel⟩
theorem od_309 : okD ⟨"java/util/TreeMap", "leftOf", "(Ljava/util/TreeMap$Entry;)Ljava/util/TreeMap$Entry;"⟩ 1 := ⟨by decide, by decide, by decide +kernel⟩
theorem od_310 : okD ⟨"java/util/TreeMap", "rightOf", "(Ljava/util/TreeMap$Entry;)Ljava/util/TreeMap$Entry;"⟩ 1 := ⟨by decide, by decide, by decide +kernel⟩
theorem od_311 : okD ⟨"java/util/TreeMap", "colorOf", "(Ljava/util/TreeMap$Entry;)Z"⟩ 1 := ⟨by decide, by decide, by decide +kernel⟩
theorem od_312 : okD ⟨"java/util/TreeMap", "setColor", "(Ljava/util/TreeMap$Entry;Z)V"⟩ 2 := ⟨by decide, by decide, by decide +kernel⟩
theorem od_313 : okD ⟨"java/util/TreeMap", "rotateLeft", "(Ljava/util/TreeMap$Entry;)V"⟩ 1 := ⟨by decide, by decide, by decide +kernel⟩
theorem od_314 : okD ⟨"java/util/TreeMap", "rotateRight", "(Ljava/util/TreeMap$Entry;)V"⟩ 1 := ⟨by decide, by decide, by decide +kernel⟩
theorem od_315 : okD ⟨"java/util/TreeMap", "fixAfterDeletion", "(Ljava/util/TreeMap$Entry;)V"⟩ 1 := ⟨by decide, by decide, by decide +kernel⟩
theorem od_316 : okD ⟨"java/util/PriorityQueue", "<init>", "(ILjava/util/Comparator;)V"⟩ 2 := ⟨by decide, by decide, by decide +kernel⟩
theorem od_317 : okD ⟨"java/util/AbstractQueue", "<init>", "()V"⟩ 0 := ⟨by decide, by decide, by decide +kernel⟩
theorem od_318 : okD ⟨"java/util/PriorityQueue", "offer", "(Ljava/lang/Object;)Z"⟩ 1 := ⟨by decide, by decide, by decide +kernel⟩
theorem od_319 : okD ⟨"java/util/PriorityQueue", "grow", "(I)V"⟩ 1 := ⟨by decide, by decide, by decide +kernel⟩
theorem od_320 : okD ⟨"java/util/PriorityQueue", "siftUp", "(ILjava/lang/Object;)V"⟩ 2 := ⟨by decide, by decide, by decide +kernel⟩
theorem od_321 : okD ⟨"java/util/PriorityQueue", "removeAt", "(I)Ljava/lang/Object;"⟩ 1 := ⟨by decide, by decide, by decide +kernel⟩
theorem od_322 : okD ⟨"java/util/PriorityQueue$Itr", "<init>", "(Ljava/util/PriorityQueue;)V"⟩ 1 := ⟨by decide, by decide, by decide +kernel⟩
theorem od_323 : okD ⟨"java/util/PriorityQueue", "siftDownUsingComparator", "(ILjava/lang/Object;[Ljava/lang/Object;ILjava/util/Comparator;)V"⟩ 5 := ⟨by decide, by decide, by decide +kernel⟩
theorem od_324 : okD ⟨"java/util/PriorityQueue", "siftDown", "(ILjava/lang/Object;)V"⟩ 2 := ⟨by decide, by decide, by decide +kernel⟩
theorem od_325 : okD ⟨"java/util/PriorityQueue", "siftUpUsingComparator", "(ILjava/lang/Object;[Ljava/lang/Object;Ljava/util/Comparator;)V"⟩ 4 := ⟨by decide, by decide, by decide +kernel⟩
theorem od_326 : okD ⟨"java/util/Arrays", "copyOf", "([Ljava/lang/Object;ILjava/lang/Class;)[Ljava/lang/Object;"⟩ 3 := ⟨by decide, by decide, by decide +kernel⟩
theorem od_327 : okD ⟨"jdk/internal/util/Preconditions", "checkIndex", "(IILjava/util/function/BiFunction;)I"⟩ 3 := ⟨by decide, by decide, by decide +kernel⟩
theorem od_328 : okD ⟨"java/util/ArrayList$Itr", "checkForComodification", "()V"⟩ 0 := ⟨by decide, by decide, by decide +kernel⟩
theorem od_329 : okD ⟨"java/util/ArrayList", "remove", "(I)Ljava/lang/Object;"⟩ 1 := ⟨by decide, by decide, by decide +kernel⟩
theorem od_330 : okD ⟨"java/lang/Integer", "<init>", "(I)V"⟩ 1 := ⟨by decide, by decide, by decide +kernel⟩
theorem od_331 : okD ⟨"java/lang/Number", "<init>", "()V"⟩ 0 := ⟨by decide, by decide, by decide +kernel⟩
theorem od_332 : okD ⟨"java/lang/Integer", "compareTo", "(Ljava/lang/Integer;)I"⟩ 1 := ⟨by decide, by decide, by decide +kernel⟩
theorem od_333 : okD ⟨"java/lang/Long", "<init>", "(J)V"⟩ 1 := ⟨by decide, by decide, by decide +kernel⟩
theorem od_334 : okD ⟨"java/lang/Long", "compare", "(JJ)I"⟩ 2 := ⟨by decide, by decide, by decide +kernel⟩
theorem od_335 : okD ⟨"java/lang/Long", "compareTo", "(Ljava/lang/Long;)I"⟩ 1 := ⟨by decide, by decide, by decide +kernel⟩
theorem od_336 : okD ⟨"java/util/TreeMap", "getFirstEntry", "()Ljava/util/TreeMap$Entry;"⟩ 0 := ⟨by decide, by decide, by decide +kernel⟩
theorem od_337 : okD ⟨"java/util/TreeMap$ValueIterator", "<init>", "(Ljava/util/TreeMap;Ljava/util/TreeMap$Entry;)V"⟩ 2 := ⟨by decide, by decide, by decide +kernel⟩
theorem od_338 : okD ⟨"java/util/TreeMap", "size", "()I"⟩ 0 := ⟨by decide, by decide, by decide +kernel⟩
theorem od_339 : okD ⟨"java/util/Set", "iterator", "()Ljava/util/Iterator;"⟩ 0 := ⟨by decide, by decide, by decide +kernel⟩
theorem od_340 : okD ⟨"java/util/AbstractSet", "<init>", "()V"⟩ 0 := ⟨by decide, by decide, by decide +kernel⟩
theorem od_341 : okD ⟨"java/util/TreeMap$EntryIterator", "<init>", "(Ljava/util/TreeMap;Ljava/util/TreeMap$Entry;)V"⟩ 2 := ⟨by decide, by decide, by decide +kernel⟩
theorem od_342 : okD ⟨"java/util/TreeMap", "clear", "()V"⟩ 0 := ⟨by decide, by decide, by decide +kernel⟩
theorem od_343 : okD ⟨"java/util/TreeMap$NavigableSubMap$EntrySetView", "<init>", "(Ljava/util/TreeMap$NavigableSubMap;)V"⟩ 1 := ⟨by decide, by decide, by decide +kernel⟩
theorem od_344 : okD ⟨"java/util/TreeMap$NavigableSubMap", "absLowest", "()Ljava/util/TreeMap$Entry;"⟩ 0 := ⟨by decide, by decide, by decide +kernel⟩
theorem od_345 : okD ⟨"java/util/TreeMap$NavigableSubMap", "absHighFence", "()Ljava/util/TreeMap$Entry;"⟩ 0 := ⟨by decide, by decide, by decide +kernel⟩
theorem od_346 : okD ⟨"java/util/TreeMap$NavigableSubMap$SubMapEntryIterator", "<init>", "(Ljava/util/TreeMap$NavigableSubMap;Ljava/util/TreeMap$Entry;Ljava/util/TreeMap$Entry;)V"⟩ 3 := ⟨by decide, by decide, by decide +kernel⟩
theorem od_347 : okD ⟨"java/util/TreeMap", "deleteEntry", "(Ljava/util/TreeMap$Entry;)V"⟩ 1 := ⟨by decide, by decide, by decide +kernel⟩
theorem od_348 : okD ⟨"java/util/TreeMap$NavigableSubMap$SubMapIterator", "<init>", "(Ljava/util/TreeMap$NavigableSubMap;Ljava/util/TreeMap$Entry;Ljava/util/TreeMap$Entry;)V"⟩ 3 := ⟨by decide, by decide, by decide +kernel⟩
theorem od_349 : okD ⟨"java/util/TreeMap$NavigableSubMap$SubMapIterator", "nextEntry", "()Ljava/util/TreeMap$Entry;"⟩ 0 := ⟨by decide, by decide, by decide +kernel⟩
theorem od_350 : okD ⟨"java/util/TreeMap$NavigableSubMap$SubMapIterator", "removeAscending", "()V"⟩ 0 := ⟨by decide, by decide, by decide +kernel⟩
theorem od_351 : okD ⟨"java/util/TreeMap$NavigableSubMap$SubMapEntryIterator", "next", "()Ljava/util/Map$Entry;"⟩ 0 := ⟨by decide, by decide, by decide +kernel⟩
theorem od_352 : okD ⟨"java/util/TreeMap$PrivateEntryIterator", "<init>", "(Ljava/util/TreeMap;Ljava/util/TreeMap$Entry;)V"⟩ 2 := ⟨by decide, by decide, by decide +kernel⟩
theorem od_353 : okD ⟨"java/util/PriorityQueue", "removeEq", "(Ljava/lang/Object;)V"⟩ 1 := ⟨by decide, by decide, by decide +kernel⟩
theorem od_354 : okD ⟨"java/util/TreeMap$PrivateEntryIterator", "nextEntry", "()Ljava/util/TreeMap$Entry;"⟩ 0 := ⟨by decide, by decide, by decide +kernel⟩
theorem od_355 : okD ⟨"java/util/TreeMap$NavigableSubMap", "tooLow", "(Ljava/lang/Object;)Z"⟩ 1 := ⟨by decide, by decide, by decide +kernel⟩
theorem od_356 : okD ⟨"java/util/TreeMap$NavigableSubMap", "tooHigh", "(Ljava/lang/Object;)Z"⟩ 1 := ⟨by decide, by decide, by decide +kernel⟩
theorem od_357 : okD ⟨"java/util/TreeMap$NavigableSubMap", "inRange", "(Ljava/lang/Object;)Z"⟩ 1 := ⟨by decide, by decide, by decide +kernel⟩
theorem od_358 : okD ⟨"java/util/TreeMap", "getCeilingEntry", "(Ljava/lang/Object;)Ljava/util/TreeMap$Entry;"⟩ 1 := ⟨by decide, by decide, by decide +kernel⟩
theorem od_359 : okD ⟨"java/util/TreeMap", "getHigherEntry", "(Ljava/lang/Object;)Ljava/util/TreeMap$Entry;"⟩ 1 := ⟨by decide, by decide, by decide +kernel⟩
theorem od_360 : okD ⟨"java/util/Set", "size", "()I"⟩ 0 := ⟨by decide, by decide, by decide +kernel⟩
theorem od_361 : okD ⟨"java/util/TreeMap$NavigableSubMap", "<init>", "(Ljava/util/TreeMap;ZLjava/lang/Object;ZZLjava/lang/Object;Z)V"⟩ 7 := ⟨by decide, by decide, by decide +kernel⟩
theorem od_362 : okD ⟨"java/util/TreeMap$AscendingSubMap$AscendingEntrySetView", "<init>", "(Ljava/util/TreeMap$AscendingSubMap;)V"⟩ 1 := ⟨by decide, by decide, by decide +kernel⟩
theorem od_363 : okD ⟨"java/util/AbstractMap$2$1", "<init>", "(Ljava/util/AbstractMap$2;)V"⟩ 1 := ⟨by decide, by decide, by decide +kernel⟩
theorem od_364 : okD ⟨"java/util/Map$Entry", "getKey", "()Ljava/lang/Object;"⟩ 0 := ⟨by decide, by decide, by decide +kernel⟩
theorem od_365 : okD ⟨"java/util/Map", "get", "(Ljava/lang/Object;)Ljava/lang/Object;"⟩ 1 := ⟨by decide, by decide, by decide +kernel⟩
theorem od_366 : okD ⟨"java/util/Map", "containsKey", "(Ljava/lang/Object;)Z"⟩ 1 := ⟨by decide, by decide, by decide +kernel⟩
theorem spc_3_37 {base : Nat} {D : va_G} {dA : Nat → ClassId} {sv : Nat → Value} {ro : va_W} {scr : Nat × List Value} : CallOK onm kcl (FX kcl nwl_ ncl_ fwl_ stl_ spc_ base D dA sv ro scr) 3 1 37 3 mX20_ended := sorry
theorem spc_3_45 {base : Nat} {D : va_G} {dA : Nat → ClassId} {sv : Nat → Value} {ro : va_W} {scr : Nat × List Value} : CallOK onm kcl (FX kcl nwl_ ncl_ fwl_ stl_ spc_ base D dA sv ro scr) 3 1 45 6 mX20_ended := sorry
theorem spc_7_77 {base : Nat} {D : va_G} {dA : Nat → ClassId} {sv : Nat → Value} {ro : va_W} {scr : Nat × List Value} : CallOK onm kcl (FX kcl nwl_ ncl_ fwl_ stl_ spc_ base D dA sv ro scr) 7 1 77 20 mJ53_getOrDefault := sorry
theorem spc_1_513 {base : Nat} {D : va_G} {dA : Nat → ClassId} {sv : Nat → Value} {ro : va_W} {scr : Nat × List Value} : CallOK onm kcl (FX kcl nwl_ ncl_ fwl_ stl_ spc_ base D dA sv ro scr) 1 3 513 32 mJ3_clear := sorry
theorem md_mX1_init : MDOK onm mX1_init ∧ (mX1_init.2.2.2.2.2 ≠ [] → plainName mX1_init.2.1.cls = true) := ⟨⟨by decide +kernel, rfl, by decide⟩, fun _ => by rename_i h; exact absurd rfl h⟩
theorem md_mX1_accountFrom : MDOK onm mX1_accountFrom ∧ (mX1_accountFrom.2.2.2.2.2 ≠ [] → plainName mX1_accountFrom.2.1.cls = true) := ⟨⟨by decide +kernel, rfl, by decide⟩, fun _ => by rename_i h; exact absurd rfl h⟩
theorem md_mX1_addAccount : MDOK onm mX1_addAccount ∧ (mX1_addAccount.2.2.2.2.2 ≠ [] → plainName mX1_addAccount.2.1.cls = true) := ⟨⟨by decide +kernel, rfl, by decide⟩, fun _ => by rename_i h; exact absurd rfl h⟩
theorem md_mX1_addGood : MDOK onm mX1_addGood ∧ (mX1_addGood.2.2.2.2.2 ≠ [] → plainName mX1_addGood.2.1.cls = true) := ⟨⟨by decide +kernel, rfl, by decide⟩, fun _ => by rename_i h; exact absurd rfl h⟩
theorem md_mX1_addProject : MDOK onm mX1_addProject ∧ (mX1_addProject.2.2.2.2.2 ≠ [] → plainName mX1_addProject.2.1.cls = true) := ⟨⟨by decide +kernel, rfl, by decide⟩, fun _ => by rename_i h; exact absurd rfl h⟩
theorem md_mX1_advance : MDOK onm mX1_advance ∧ (mX1_advance.2.2.2.2.2 ≠ [] → plainName mX1_advance.2.1.cls = true) := ⟨⟨by decide +kernel, rfl, by decide⟩, fun _ => by rename_i h; exact absurd rfl h⟩
theorem md_mX1_auction : MDOK onm mX1_auction ∧ (mX1_auction.2.2.2.2.2 ≠ [] → plainName mX1_auction.2.1.cls = true) := ⟨⟨by decide +kernel, rfl, by decide⟩, fun _ => by rename_i h; exact absurd rfl h⟩
theorem md_mX1_begin : MDOK onm mX1_begin ∧ (mX1_begin.2.2.2.2.2 ≠ [] → plainName mX1_begin.2.1.cls = true) := ⟨⟨by decide +kernel, rfl, by decide⟩, fun _ => by rename_i h; exact absurd rfl h⟩
theorem md_mX1_bid : MDOK onm mX1_bid ∧ (mX1_bid.2.2.2.2.2 ≠ [] → plainName mX1_bid.2.1.cls = true) := ⟨⟨by decide +kernel, rfl, by decide⟩, fun _ => by rename_i h; exact absurd rfl h⟩
theorem md_mX1_blocks : MDOK onm mX1_blocks ∧ (mX1_blocks.2.2.2.2.2 ≠ [] → plainName mX1_blocks.2.1.cls = true) := ⟨⟨by decide +kernel, rfl, by decide⟩, fun _ => by rename_i h; exact absurd rfl h⟩
theorem md_mX1_byJournal : MDOK onm mX1_byJournal ∧ (mX1_byJournal.2.2.2.2.2 ≠ [] → plainName mX1_byJournal.2.1.cls = true) := ⟨⟨by decide +kernel, rfl, by decide⟩, fun _ => by rename_i h; exact absurd rfl h⟩
theorem md_mX1_cancelled : MDOK onm mX1_cancelled ∧ (mX1_cancelled.2.2.2.2.2 ≠ [] → plainName mX1_cancelled.2.1.cls = true) := ⟨⟨by decide +kernel, rfl, by decide⟩, fun _ => by rename_i h; exact absurd rfl h⟩
theorem md_mX1_cap : MDOK onm mX1_cap ∧ (mX1_cap.2.2.2.2.2 ≠ [] → plainName mX1_cap.2.1.cls = true) := ⟨⟨by decide +kernel, rfl, by decide⟩, fun _ => by rename_i h; exact absurd rfl h⟩
theorem md_mX1_cash : MDOK onm mX1_cash ∧ (mX1_cash.2.2.2.2.2 ≠ [] → plainName mX1_cash.2.1.cls = true) := ⟨⟨by decide +kernel, rfl, by decide⟩, fun _ => by rename_i h; exact absurd rfl h⟩
theorem md_mX1_checkArgument : MDOK onm mX1_checkArgument ∧ (mX1_checkArgument.2.2.2.2.2 ≠ [] → plainName mX1_checkArgument.2.1.cls = true) := ⟨⟨by decide +kernel, rfl, by decide⟩, fun _ => by rename_i h; exact absurd rfl h⟩
theorem md_mX1_checkElement : MDOK onm mX1_checkElement ∧ (mX1_checkElement.2.2.2.2.2 ≠ [] → plainName mX1_checkElement.2.1.cls = true) := ⟨⟨by decide +kernel, rfl, by decide⟩, fun _ => by rename_i h; exact absurd rfl h⟩
theorem md_mX1_checkIndex : MDOK onm mX1_checkIndex ∧ (mX1_checkIndex.2.2.2.2.2 ≠ [] → plainName mX1_checkIndex.2.1.cls = true) := ⟨⟨by decide +kernel, rfl, by decide⟩, fun _ => by rename_i h; exact absurd rfl h⟩
theorem md_mX1_checkPossible : MDOK onm mX1_checkPossible ∧ (mX1_checkPossible.2.2.2.2.2 ≠ [] → plainName mX1_checkPossible.2.1.cls = true) := ⟨⟨by decide +kernel, rfl, by decide⟩, fun _ => by rename_i h; exact absurd rfl h⟩
theorem md_mX1_checkState : MDOK onm mX1_checkState ∧ (mX1_checkState.2.2.2.2.2 ≠ [] → plainName mX1_checkState.2.1.cls = true) := ⟨⟨by decide +kernel, rfl, by decide⟩, fun _ => by rename_i h; exact absurd rfl h⟩
theorem md_mX1_circulation : MDOK onm mX1_circulation ∧ (mX1_circulation.2.2.2.2.2 ≠ [] → plainName mX1_circulation.2.1.cls = true) := ⟨⟨by decide +kernel, rfl, by decide⟩, fun _ => by rename_i h; exact absurd rfl h⟩
theorem md_mX1_confirm : MDOK onm mX1_confirm ∧ (mX1_confirm.2.2.2.2.2 ≠ [] → plainName mX1_confirm.2.1.cls = true) := ⟨⟨by decide +kernel, rfl, by decide⟩, fun _ => by rename_i h; exact absurd rfl h⟩
theorem md_mX1_cut : MDOK onm mX1_cut ∧ (mX1_cut.2.2.2.2.2 ≠ [] → plainName mX1_cut.2.1.cls = true) := ⟨⟨by decide +kernel, rfl, by decide⟩, fun _ => by rename_i h; exact absurd rfl h⟩
theorem md_mX1_day : MDOK onm mX1_day ∧ (mX1_day.2.2.2.2.2 ≠ [] → plainName mX1_day.2.1.cls = true) := ⟨⟨by decide +kernel, rfl, by decide⟩, fun _ => by rename_i h; exact absurd rfl h⟩
theorem md_mX1_demand : MDOK onm mX1_demand ∧ (mX1_demand.2.2.2.2.2 ≠ [] → plainName mX1_demand.2.1.cls = true) := ⟨⟨by decide +kernel, rfl, by decide⟩, fun _ => by rename_i h; exact absurd rfl h⟩
theorem md_mX1_embedded : MDOK onm mX1_embedded ∧ (mX1_embedded.2.2.2.2.2 ≠ [] → plainName mX1_embedded.2.1.cls = true) := ⟨⟨by decide +kernel, rfl, by decide⟩, fun _ => by rename_i h; exact absurd rfl h⟩
theorem md_mX1_emissionOf : MDOK onm mX1_emissionOf ∧ (mX1_emissionOf.2.2.2.2.2 ≠ [] → plainName mX1_emissionOf.2.1.cls = true) := ⟨⟨by decide +kernel, rfl, by decide⟩, fun _ => by rename_i h; exact absurd rfl h⟩
theorem md_mX1_end : MDOK onm mX1_end ∧ (mX1_end.2.2.2.2.2 ≠ [] → plainName mX1_end.2.1.cls = true) := ⟨⟨by decide +kernel, rfl, by decide⟩, fun _ => by rename_i h; exact absurd rfl h⟩
theorem md_mX1_entries : MDOK onm mX1_entries ∧ (mX1_entries.2.2.2.2.2 ≠ [] → plainName mX1_entries.2.1.cls = true) := ⟨⟨by decide +kernel, rfl, by decide⟩, fun _ => by rename_i h; exact absurd rfl h⟩
theorem md_mX1_freeShare : MDOK onm mX1_freeShare ∧ (mX1_freeShare.2.2.2.2.2 ≠ [] → plainName mX1_freeShare.2.1.cls = true) := ⟨⟨by decide +kernel, rfl, by decide⟩, fun _ => by rename_i h; exact absurd rfl h⟩
theorem md_mX1_freeze : MDOK onm mX1_freeze ∧ (mX1_freeze.2.2.2.2.2 ≠ [] → plainName mX1_freeze.2.1.cls = true) := ⟨⟨by decide +kernel, rfl, by decide⟩, fun _ => by rename_i h; exact absurd rfl h⟩
theorem md_mX1_hasEnded : MDOK onm mX1_hasEnded ∧ (mX1_hasEnded.2.2.2.2.2 ≠ [] → plainName mX1_hasEnded.2.1.cls = true) := ⟨⟨by decide +kernel, rfl, by decide⟩, fun _ => by rename_i h; exact absurd rfl h⟩
theorem md_mX1_holderOf : MDOK onm mX1_holderOf ∧ (mX1_holderOf.2.2.2.2.2 ≠ [] → plainName mX1_holderOf.2.1.cls = true) := ⟨⟨by decide +kernel, rfl, by decide⟩, fun _ => by rename_i h; exact absurd rfl h⟩
theorem md_mX1_importGood : MDOK onm mX1_importGood ∧ (mX1_importGood.2.2.2.2.2 ≠ [] → plainName mX1_importGood.2.1.cls = true) := ⟨⟨by decide +kernel, rfl, by decide⟩, fun _ => by rename_i h; exact absurd rfl h⟩
theorem md_mX1_isBetween : MDOK onm mX1_isBetween ∧ (mX1_isBetween.2.2.2.2.2 ≠ [] → plainName mX1_isBetween.2.1.cls = true) := ⟨⟨by decide +kernel, rfl, by decide⟩, fun _ => by rename_i h; exact absurd rfl h⟩
theorem md_mX1_isFrozen : MDOK onm mX1_isFrozen ∧ (mX1_isFrozen.2.2.2.2.2 ≠ [] → plainName mX1_isFrozen.2.1.cls = true) := ⟨⟨by decide +kernel, rfl, by decide⟩, fun _ => by rename_i h; exact absurd rfl h⟩
theorem md_mX1_isKind : MDOK onm mX1_isKind ∧ (mX1_isKind.2.2.2.2.2 ≠ [] → plainName mX1_isKind.2.1.cls = true) := ⟨⟨by decide +kernel, rfl, by decide⟩, fun _ => by rename_i h; exact absurd rfl h⟩
theorem md_mX1_isSound : MDOK onm mX1_isSound ∧ (mX1_isSound.2.2.2.2.2 ≠ [] → plainName mX1_isSound.2.1.cls = true) := ⟨⟨by decide +kernel, rfl, by decide⟩, fun _ => by rename_i h; exact absurd rfl h⟩
theorem md_mX1_made : MDOK onm mX1_made ∧ (mX1_made.2.2.2.2.2 ≠ [] → plainName mX1_made.2.1.cls = true) := ⟨⟨by decide +kernel, rfl, by decide⟩, fun _ => by rename_i h; exact absurd rfl h⟩
theorem md_mX1_make : MDOK onm mX1_make ∧ (mX1_make.2.2.2.2.2 ≠ [] → plainName mX1_make.2.1.cls = true) := ⟨⟨by decide +kernel, rfl, by decide⟩, fun _ => by rename_i h; exact absurd rfl h⟩
theorem md_mX1_makePlant : MDOK onm mX1_makePlant ∧ (mX1_makePlant.2.2.2.2.2 ≠ [] → plainName mX1_makePlant.2.1.cls = true) := ⟨⟨by decide +kernel, rfl, by decide⟩, fun _ => by rename_i h; exact absurd rfl h⟩
theorem md_mX1_meanVintage : MDOK onm mX1_meanVintage ∧ (mX1_meanVintage.2.2.2.2.2 ≠ [] → plainName mX1_meanVintage.2.1.cls = true) := ⟨⟨by decide +kernel, rfl, by decide⟩, fun _ => by rename_i h; exact absurd rfl h⟩
theorem md_mX1_move : MDOK onm mX1_move ∧ (mX1_move.2.2.2.2.2 ≠ [] → plainName mX1_move.2.1.cls = true) := ⟨⟨by decide +kernel, rfl, by decide⟩, fun _ => by rename_i h; exact absurd rfl h⟩
theorem md_mX1_offsetShare : MDOK onm mX1_offsetShare ∧ (mX1_offsetShare.2.2.2.2.2 ≠ [] → plainName mX1_offsetShare.2.1.cls = true) := ⟨⟨by decide +kernel, rfl, by decide⟩, fun _ => by rename_i h; exact absurd rfl h⟩
theorem md_mX1_owed : MDOK onm mX1_owed ∧ (mX1_owed.2.2.2.2.2 ≠ [] → plainName mX1_owed.2.1.cls = true) := ⟨⟨by decide +kernel, rfl, by decide⟩, fun _ => by rename_i h; exact absurd rfl h⟩
theorem md_mX1_pieceWith : MDOK onm mX1_pieceWith ∧ (mX1_pieceWith.2.2.2.2.2 ≠ [] → plainName mX1_pieceWith.2.1.cls = true) := ⟨⟨by decide +kernel, rfl, by decide⟩, fun _ => by rename_i h; exact absurd rfl h⟩
theorem md_mX1_piecesOf : MDOK onm mX1_piecesOf ∧ (mX1_piecesOf.2.2.2.2.2 ≠ [] → plainName mX1_piecesOf.2.1.cls = true) := ⟨⟨by decide +kernel, rfl, by decide⟩, fun _ => by rename_i h; exact absurd rfl h⟩
theorem md_mX1_price : MDOK onm mX1_price ∧ (mX1_price.2.2.2.2.2 ≠ [] → plainName mX1_price.2.1.cls = true) := ⟨⟨by decide +kernel, rfl, by decide⟩, fun _ => by rename_i h; exact absurd rfl h⟩
theorem md_mX1_projectWith : MDOK onm mX1_projectWith ∧ (mX1_projectWith.2.2.2.2.2 ≠ [] → plainName mX1_projectWith.2.1.cls = true) := ⟨⟨by decide +kernel, rfl, by decide⟩, fun _ => by rename_i h; exact absurd rfl h⟩
theorem md_mX1_release : MDOK onm mX1_release ∧ (mX1_release.2.2.2.2.2 ≠ [] → plainName mX1_release.2.1.cls = true) := ⟨⟨by decide +kernel, rfl, by decide⟩, fun _ => by rename_i h; exact absurd rfl h⟩
theorem md_mX1_report : MDOK onm mX1_report ∧ (mX1_report.2.2.2.2.2 ≠ [] → plainName mX1_report.2.1.cls = true) := ⟨⟨by decide +kernel, rfl, by decide⟩, fun _ => by rename_i h; exact absurd rfl h⟩
theorem md_mX1_reserve : MDOK onm mX1_reserve ∧ (mX1_reserve.2.2.2.2.2 ≠ [] → plainName mX1_reserve.2.1.cls = true) := ⟨⟨by decide +kernel, rfl, by decide⟩, fun _ => by rename_i h; exact absurd rfl h⟩
theorem md_mX1_reverse : MDOK onm mX1_reverse ∧ (mX1_reverse.2.2.2.2.2 ≠ [] → plainName mX1_reverse.2.1.cls = true) := ⟨⟨by decide +kernel, rfl, by decide⟩, fun _ => by rename_i h; exact absurd rfl h⟩
theorem md_mX1_setBounds : MDOK onm mX1_setBounds ∧ (mX1_setBounds.2.2.2.2.2 ≠ [] → plainName mX1_setBounds.2.1.cls = true) := ⟨⟨by decide +kernel, rfl, by decide⟩, fun _ => by rename_i h; exact absurd rfl h⟩
theorem md_mX1_setCap : MDOK onm mX1_setCap ∧ (mX1_setCap.2.2.2.2.2 ≠ [] → plainName mX1_setCap.2.1.cls = true) := ⟨⟨by decide +kernel, rfl, by decide⟩, fun _ => by rename_i h; exact absurd rfl h⟩
theorem md_mX1_stateOf : MDOK onm mX1_stateOf ∧ (mX1_stateOf.2.2.2.2.2 ≠ [] → plainName mX1_stateOf.2.1.cls = true) := ⟨⟨by decide +kernel, rfl, by decide⟩, fun _ => by rename_i h; exact absurd rfl h⟩
theorem md_mX1_surrender : MDOK onm mX1_surrender ∧ (mX1_surrender.2.2.2.2.2 ≠ [] → plainName mX1_surrender.2.1.cls = true) := ⟨⟨by decide +kernel, rfl, by decide⟩, fun _ => by rename_i h; exact absurd rfl h⟩
theorem md_mX1_surrendered : MDOK onm mX1_surrendered ∧ (mX1_surrendered.2.2.2.2.2 ≠ [] → plainName mX1_surrendered.2.1.cls = true) := ⟨⟨by decide +kernel, rfl, by decide⟩, fun _ => by rename_i h; exact absurd rfl h⟩
theorem md_mX1_taken : MDOK onm mX1_taken ∧ (mX1_taken.2.2.2.2.2 ≠ [] → plainName mX1_taken.2.1.cls = true) := ⟨⟨by decide +kernel, rfl, by decide⟩, fun _ => by rename_i h; exact absurd rfl h⟩
theorem md_mX1_tellActivity : MDOK onm mX1_tellActivity ∧ (mX1_tellActivity.2.2.2.2.2 ≠ [] → plainName mX1_tellActivity.2.1.cls = true) := ⟨⟨by decide +kernel, rfl, by decide⟩, fun _ => by rename_i h; exact absurd rfl h⟩
theorem md_mX1_transfer : MDOK onm mX1_transfer ∧ (mX1_transfer.2.2.2.2.2 ≠ [] → plainName mX1_transfer.2.1.cls = true) := ⟨⟨by decide +kernel, rfl, by decide⟩, fun _ => by rename_i h; exact absurd rfl h⟩
theorem md_mX1_transferWith : MDOK onm mX1_transferWith ∧ (mX1_transferWith.2.2.2.2.2 ≠ [] → plainName mX1_transferWith.2.1.cls = true) := ⟨⟨by decide +kernel, rfl, by decide⟩, fun _ => by rename_i h; exact absurd rfl h⟩
theorem md_mX1_trust : MDOK onm mX1_trust ∧ (mX1_trust.2.2.2.2.2 ≠ [] → plainName mX1_trust.2.1.cls = true) := ⟨⟨by decide +kernel, rfl, by decide⟩, fun _ => by rename_i h; exact absurd rfl h⟩
theorem md_mX1_units : MDOK onm mX1_units ∧ (mX1_units.2.2.2.2.2 ≠ [] → plainName mX1_units.2.1.cls = true) := ⟨⟨by decide +kernel, rfl, by decide⟩, fun _ => by rename_i h; exact absurd rfl h⟩
theorem md_mX1_up : MDOK onm mX1_up ∧ (mX1_up.2.2.2.2.2 ≠ [] → plainName mX1_up.2.1.cls = true) := ⟨⟨by decide +kernel, rfl, by decide⟩, fun _ => by rename_i h; exact absurd rfl h⟩
theorem md_mX1_usable : MDOK onm mX1_usable ∧ (mX1_usable.2.2.2.2.2 ≠ [] → plainName mX1_usable.2.1.cls = true) := ⟨⟨by decide +kernel, rfl, by decide⟩, fun _ => by rename_i h; exact absurd rfl h⟩
theorem md_mX1_usableOf : MDOK onm mX1_usableOf ∧ (mX1_usableOf.2.2.2.2.2 ≠ [] → plainName mX1_usableOf.2.1.cls = true) := ⟨⟨by decide +kernel, rfl, by decide⟩, fun _ => by rename_i h; exact absurd rfl h⟩
theorem md_mX1_verify : MDOK onm mX1_verify ∧ (mX1_verify.2.2.2.2.2 ≠ [] → plainName mX1_verify.2.1.cls = true) := ⟨⟨by decide +kernel, rfl, by decide⟩, fun _ => by rename_i h; exact absurd rfl h⟩
theorem md_mX1_vintageOf : MDOK onm mX1_vintageOf ∧ (mX1_vintageOf.2.2.2.2.2 ≠ [] → plainName mX1_vintageOf.2.1.cls = true) := ⟨⟨by decide +kernel, rfl, by decide⟩, fun _ => by rename_i h; exact absurd rfl h⟩
theorem md_mX1_volume : MDOK onm mX1_volume ∧ (mX1_volume.2.2.2.2.2 ≠ [] → plainName mX1_volume.2.1.cls = true) := ⟨⟨by decide +kernel, rfl, by decide⟩, fun _ => by rename_i h; exact absurd rfl h⟩
theorem md_mX1_write : MDOK onm mX1_write ∧ (mX1_write.2.2.2.2.2 ≠ [] → plainName mX1_write.2.1.cls = true) := ⟨⟨by decide +kernel, rfl, by decide⟩, fun _ => by rename_i h; exact absurd rfl h⟩
theorem md_mX1_year : MDOK onm mX1_year ∧ (mX1_year.2.2.2.2.2 ≠ [] → plainName mX1_year.2.1.cls = true) := ⟨⟨by decide +kernel, rfl, by decide⟩, fun _ => by rename_i h; exact absurd rfl h⟩
theorem md_mX3_init : MDOK onm mX3_init ∧ (mX3_init.2.2.2.2.2 ≠ [] → plainName mX3_init.2.1.cls = true) := ⟨⟨by decide +kernel, rfl, by decide⟩, fun _ => by rename_i h; exact absurd rfl h⟩
theorem md_mX3_end : MDOK onm mX3_end ∧ (mX3_end.2.2.2.2.2 ≠ [] → plainName mX3_end.2.1.cls = true) := ⟨⟨by decide +kernel, rfl, by decide⟩, fun _ => by rename_i h; exact absurd rfl h⟩
theorem md_mX11_init : MDOK onm mX11_init ∧ (mX11_init.2.2.2.2.2 ≠ [] → plainName mX11_init.2.1.cls = true) := ⟨⟨by decide +kernel, rfl, by decide⟩, fun _ => by rename_i h; exact absurd rfl h⟩
theorem md_mX2_init : MDOK onm mX2_init ∧ (mX2_init.2.2.2.2.2 ≠ [] → plainName mX2_init.2.1.cls = true) := ⟨⟨by decide +kernel, rfl, by decide⟩, fun _ => by rename_i h; exact absurd rfl h⟩
theorem md_mX2_compare_2 : MDOK onm mX2_compare_2 ∧ (mX2_compare_2.2.2.2.2.2 ≠ [] → plainName mX2_compare_2.2.1.cls = true) := ⟨⟨by decide +kernel, rfl, by decide⟩, fun _ => by rename_i h; exact absurd rfl h⟩
theorem md_mX2_compare : MDOK onm mX2_compare ∧ (mX2_compare.2.2.2.2.2 ≠ [] → plainName mX2_compare.2.1.cls = true) := ⟨⟨by decide +kernel, rfl, by decide⟩, fun _ => by rename_i h; exact absurd rfl h⟩
theorem md_mX14_init : MDOK onm mX14_init ∧ (mX14_init.2.2.2.2.2 ≠ [] → plainName mX14_init.2.1.cls = true) := ⟨⟨by decide +kernel, rfl, by decide⟩, fun _ => by rename_i h; exact absurd rfl h⟩
theorem md_mX14_compare_2 : MDOK onm mX14_compare_2 ∧ (mX14_compare_2.2.2.2.2.2 ≠ [] → plainName mX14_compare_2.2.1.cls = true) := ⟨⟨by decide +kernel, rfl, by decide⟩, fun _ => by rename_i h; exact absurd rfl h⟩
theorem md_mX14_compare : MDOK onm mX14_compare ∧ (mX14_compare.2.2.2.2.2 ≠ [] → plainName mX14_compare.2.1.cls = true) := ⟨⟨by decide +kernel, rfl, by decide⟩, fun _ => by rename_i h; exact absurd rfl h⟩
theorem md_mX20_ended : MDOK onm mX20_ended ∧ (mX20_ended.2.2.2.2.2 ≠ [] → plainName mX20_ended.2.1.cls = true) := ⟨⟨by decide +kernel, rfl, by decide⟩, fun _ => by rename_i h; exact absurd rfl h⟩
theorem md_mX9_init : MDOK onm mX9_init ∧ (mX9_init.2.2.2.2.2 ≠ [] → plainName mX9_init.2.1.cls = true) := ⟨⟨by decide +kernel, rfl, by decide⟩, fun _ => by rename_i h; exact absurd rfl h⟩
theorem md_mX18_init : MDOK onm mX18_init ∧ (mX18_init.2.2.2.2.2 ≠ [] → plainName mX18_init.2.1.cls = true) := ⟨⟨by decide +kernel, rfl, by decide⟩, fun _ => by rename_i h; exact absurd rfl h⟩
theorem md_mX18_embedded : MDOK onm mX18_embedded ∧ (mX18_embedded.2.2.2.2.2 ≠ [] → plainName mX18_embedded.2.1.cls = true) := ⟨⟨by decide +kernel, rfl, by decide⟩, fun _ => by rename_i h; exact absurd rfl h⟩
theorem md_mX8_init : MDOK onm mX8_init ∧ (mX8_init.2.2.2.2.2 ≠ [] → plainName mX8_init.2.1.cls = true) := ⟨⟨by decide +kernel, rfl, by decide⟩, fun _ => by rename_i h; exact absurd rfl h⟩
theorem md_mX8_isAlike : MDOK onm mX8_isAlike ∧ (mX8_isAlike.2.2.2.2.2 ≠ [] → plainName mX8_isAlike.2.1.cls = true) := ⟨⟨by decide +kernel, rfl, by decide⟩, fun _ => by rename_i h; exact absurd rfl h⟩
theorem md_mX8_isUsable : MDOK onm mX8_isUsable ∧ (mX8_isUsable.2.2.2.2.2 ≠ [] → plainName mX8_isUsable.2.1.cls = true) := ⟨⟨by decide +kernel, rfl, by decide⟩, fun _ => by rename_i h; exact absurd rfl h⟩
theorem md_mX8_part : MDOK onm mX8_part ∧ (mX8_part.2.2.2.2.2 ≠ [] → plainName mX8_part.2.1.cls = true) := ⟨⟨by decide +kernel, rfl, by decide⟩, fun _ => by rename_i h; exact absurd rfl h⟩
theorem md_mX8_size : MDOK onm mX8_size ∧ (mX8_size.2.2.2.2.2 ≠ [] → plainName mX8_size.2.1.cls = true) := ⟨⟨by decide +kernel, rfl, by decide⟩, fun _ => by rename_i h; exact absurd rfl h⟩
theorem md_mX7_init : MDOK onm mX7_init ∧ (mX7_init.2.2.2.2.2 ≠ [] → plainName mX7_init.2.1.cls = true) := ⟨⟨by decide +kernel, rfl, by decide⟩, fun _ => by rename_i h; exact absurd rfl h⟩
theorem md_mX7_average : MDOK onm mX7_average ∧ (mX7_average.2.2.2.2.2 ≠ [] → plainName mX7_average.2.1.cls = true) := ⟨⟨by decide +kernel, rfl, by decide⟩, fun _ => by rename_i h; exact absurd rfl h⟩
theorem md_mX7_clear : MDOK onm mX7_clear ∧ (mX7_clear.2.2.2.2.2 ≠ [] → plainName mX7_clear.2.1.cls = true) := ⟨⟨by decide +kernel, rfl, by decide⟩, fun _ => by rename_i h; exact absurd rfl h⟩
theorem md_mX7_owed : MDOK onm mX7_owed ∧ (mX7_owed.2.2.2.2.2 ≠ [] → plainName mX7_owed.2.1.cls = true) := ⟨⟨by decide +kernel, rfl, by decide⟩, fun _ => by rename_i h; exact absurd rfl h⟩
theorem md_mX16_init : MDOK onm mX16_init ∧ (mX16_init.2.2.2.2.2 ≠ [] → plainName mX16_init.2.1.cls = true) := ⟨⟨by decide +kernel, rfl, by decide⟩, fun _ => by rename_i h; exact absurd rfl h⟩
theorem md_mX16_offsets : MDOK onm mX16_offsets ∧ (mX16_offsets.2.2.2.2.2 ≠ [] → plainName mX16_offsets.2.1.cls = true) := ⟨⟨by decide +kernel, rfl, by decide⟩, fun _ => by rename_i h; exact absurd rfl h⟩
theorem md_mX4_init : MDOK onm mX4_init ∧ (mX4_init.2.2.2.2.2 ≠ [] → plainName mX4_init.2.1.cls = true) := ⟨⟨by decide +kernel, rfl, by decide⟩, fun _ => by rename_i h; exact absurd rfl h⟩
theorem md_mX4_clear : MDOK onm mX4_clear ∧ (mX4_clear.2.2.2.2.2 ≠ [] → plainName mX4_clear.2.1.cls = true) := ⟨⟨by decide +kernel, rfl, by decide⟩, fun _ => by rename_i h; exact absurd rfl h⟩
theorem md_mX4_owed : MDOK onm mX4_owed ∧ (mX4_owed.2.2.2.2.2 ≠ [] → plainName mX4_owed.2.1.cls = true) := ⟨⟨by decide +kernel, rfl, by decide⟩, fun _ => by rename_i h; exact absurd rfl h⟩
theorem md_mX13_init : MDOK onm mX13_init ∧ (mX13_init.2.2.2.2.2 ≠ [] → plainName mX13_init.2.1.cls = true) := ⟨⟨by decide +kernel, rfl, by decide⟩, fun _ => by rename_i h; exact absurd rfl h⟩
theorem md_mX0_addAccount : MDOK onm mX0_addAccount ∧ (mX0_addAccount.2.2.2.2.2 ≠ [] → plainName mX0_addAccount.2.1.cls = true) := ⟨⟨by decide +kernel, rfl, by decide⟩, fun _ => by decide +kernel⟩
theorem md_mX0_addGood : MDOK onm mX0_addGood ∧ (mX0_addGood.2.2.2.2.2 ≠ [] → plainName mX0_addGood.2.1.cls = true) := ⟨⟨by decide +kernel, rfl, by decide⟩, fun _ => by decide +kernel⟩
theorem md_mX0_addProject : MDOK onm mX0_addProject ∧ (mX0_addProject.2.2.2.2.2 ≠ [] → plainName mX0_addProject.2.1.cls = true) := ⟨⟨by decide +kernel, rfl, by decide⟩, fun _ => by decide +kernel⟩
theorem md_mX0_advance : MDOK onm mX0_advance ∧ (mX0_advance.2.2.2.2.2 ≠ [] → plainName mX0_advance.2.1.cls = true) := ⟨⟨by decide +kernel, rfl, by decide⟩, fun _ => by decide +kernel⟩
theorem md_mX0_auction : MDOK onm mX0_auction ∧ (mX0_auction.2.2.2.2.2 ≠ [] → plainName mX0_auction.2.1.cls = true) := ⟨⟨by decide +kernel, rfl, by decide⟩, fun _ => by decide +kernel⟩
theorem md_mX0_bid : MDOK onm mX0_bid ∧ (mX0_bid.2.2.2.2.2 ≠ [] → plainName mX0_bid.2.1.cls = true) := ⟨⟨by decide +kernel, rfl, by decide⟩, fun _ => by decide +kernel⟩
theorem md_mX0_cash : MDOK onm mX0_cash ∧ (mX0_cash.2.2.2.2.2 ≠ [] → plainName mX0_cash.2.1.cls = true) := ⟨⟨by decide +kernel, rfl, by decide⟩, fun _ => by decide +kernel⟩
theorem md_mX0_confirm : MDOK onm mX0_confirm ∧ (mX0_confirm.2.2.2.2.2 ≠ [] → plainName mX0_confirm.2.1.cls = true) := ⟨⟨by decide +kernel, rfl, by decide⟩, fun _ => by decide +kernel⟩
theorem md_mX0_embedded : MDOK onm mX0_embedded ∧ (mX0_embedded.2.2.2.2.2 ≠ [] → plainName mX0_embedded.2.1.cls = true) := ⟨⟨by decide +kernel, rfl, by decide⟩, fun _ => by decide +kernel⟩
theorem md_mX0_emissionOf : MDOK onm mX0_emissionOf ∧ (mX0_emissionOf.2.2.2.2.2 ≠ [] → plainName mX0_emissionOf.2.1.cls = true) := ⟨⟨by decide +kernel, rfl, by decide⟩, fun _ => by decide +kernel⟩
theorem md_mX0_freeShare : MDOK onm mX0_freeShare ∧ (mX0_freeShare.2.2.2.2.2 ≠ [] → plainName mX0_freeShare.2.1.cls = true) := ⟨⟨by decide +kernel, rfl, by decide⟩, fun _ => by decide +kernel⟩
theorem md_mX0_freeze : MDOK onm mX0_freeze ∧ (mX0_freeze.2.2.2.2.2 ≠ [] → plainName mX0_freeze.2.1.cls = true) := ⟨⟨by decide +kernel, rfl, by decide⟩, fun _ => by decide +kernel⟩
theorem md_mX0_holderOf : MDOK onm mX0_holderOf ∧ (mX0_holderOf.2.2.2.2.2 ≠ [] → plainName mX0_holderOf.2.1.cls = true) := ⟨⟨by decide +kernel, rfl, by decide⟩, fun _ => by decide +kernel⟩
theorem md_mX0_importGood : MDOK onm mX0_importGood ∧ (mX0_importGood.2.2.2.2.2 ≠ [] → plainName mX0_importGood.2.1.cls = true) := ⟨⟨by decide +kernel, rfl, by decide⟩, fun _ => by decide +kernel⟩
theorem md_mX0_isFrozen : MDOK onm mX0_isFrozen ∧ (mX0_isFrozen.2.2.2.2.2 ≠ [] → plainName mX0_isFrozen.2.1.cls = true) := ⟨⟨by decide +kernel, rfl, by decide⟩, fun _ => by decide +kernel⟩
theorem md_mX0_makePlant : MDOK onm mX0_makePlant ∧ (mX0_makePlant.2.2.2.2.2 ≠ [] → plainName mX0_makePlant.2.1.cls = true) := ⟨⟨by decide +kernel, rfl, by decide⟩, fun _ => by decide +kernel⟩
theorem md_mX0_meanVintage : MDOK onm mX0_meanVintage ∧ (mX0_meanVintage.2.2.2.2.2 ≠ [] → plainName mX0_meanVintage.2.1.cls = true) := ⟨⟨by decide +kernel, rfl, by decide⟩, fun _ => by decide +kernel⟩
theorem md_mX0_offsetShare : MDOK onm mX0_offsetShare ∧ (mX0_offsetShare.2.2.2.2.2 ≠ [] → plainName mX0_offsetShare.2.1.cls = true) := ⟨⟨by decide +kernel, rfl, by decide⟩, fun _ => by decide +kernel⟩
theorem md_mX0_owed : MDOK onm mX0_owed ∧ (mX0_owed.2.2.2.2.2 ≠ [] → plainName mX0_owed.2.1.cls = true) := ⟨⟨by decide +kernel, rfl, by decide⟩, fun _ => by decide +kernel⟩
theorem md_mX0_price : MDOK onm mX0_price ∧ (mX0_price.2.2.2.2.2 ≠ [] → plainName mX0_price.2.1.cls = true) := ⟨⟨by decide +kernel, rfl, by decide⟩, fun _ => by decide +kernel⟩
theorem md_mX0_release : MDOK onm mX0_release ∧ (mX0_release.2.2.2.2.2 ≠ [] → plainName mX0_release.2.1.cls = true) := ⟨⟨by decide +kernel, rfl, by decide⟩, fun _ => by decide +kernel⟩
theorem md_mX0_report : MDOK onm mX0_report ∧ (mX0_report.2.2.2.2.2 ≠ [] → plainName mX0_report.2.1.cls = true) := ⟨⟨by decide +kernel, rfl, by decide⟩, fun _ => by decide +kernel⟩
theorem md_mX0_reverse : MDOK onm mX0_reverse ∧ (mX0_reverse.2.2.2.2.2 ≠ [] → plainName mX0_reverse.2.1.cls = true) := ⟨⟨by decide +kernel, rfl, by decide⟩, fun _ => by decide +kernel⟩
theorem md_mX0_setBounds : MDOK onm mX0_setBounds ∧ (mX0_setBounds.2.2.2.2.2 ≠ [] → plainName mX0_setBounds.2.1.cls = true) := ⟨⟨by decide +kernel, rfl, by decide⟩, fun _ => by decide +kernel⟩
theorem md_mX0_setCap : MDOK onm mX0_setCap ∧ (mX0_setCap.2.2.2.2.2 ≠ [] → plainName mX0_setCap.2.1.cls = true) := ⟨⟨by decide +kernel, rfl, by decide⟩, fun _ => by decide +kernel⟩
theorem md_mX0_stateOf : MDOK onm mX0_stateOf ∧ (mX0_stateOf.2.2.2.2.2 ≠ [] → plainName mX0_stateOf.2.1.cls = true) := ⟨⟨by decide +kernel, rfl, by decide⟩, fun _ => by decide +kernel⟩
theorem md_mX0_surrender : MDOK onm mX0_surrender ∧ (mX0_surrender.2.2.2.2.2 ≠ [] → plainName mX0_surrender.2.1.cls = true) := ⟨⟨by decide +kernel, rfl, by decide⟩, fun _ => by decide +kernel⟩
theorem md_mX0_surrendered : MDOK onm mX0_surrendered ∧ (mX0_surrendered.2.2.2.2.2 ≠ [] → plainName mX0_surrendered.2.1.cls = true) := ⟨⟨by decide +kernel, rfl, by decide⟩, fun _ => by decide +kernel⟩
theorem md_mX0_tellActivity : MDOK onm mX0_tellActivity ∧ (mX0_tellActivity.2.2.2.2.2 ≠ [] → plainName mX0_tellActivity.2.1.cls = true) := ⟨⟨by decide +kernel, rfl, by decide⟩, fun _ => by decide +kernel⟩
theorem md_mX0_transfer : MDOK onm mX0_transfer ∧ (mX0_transfer.2.2.2.2.2 ≠ [] → plainName mX0_transfer.2.1.cls = true) := ⟨⟨by decide +kernel, rfl, by decide⟩, fun _ => by decide +kernel⟩
theorem md_mX0_trust : MDOK onm mX0_trust ∧ (mX0_trust.2.2.2.2.2 ≠ [] → plainName mX0_trust.2.1.cls = true) := ⟨⟨by decide +kernel, rfl, by decide⟩, fun _ => by decide +kernel⟩
theorem md_mX0_units : MDOK onm mX0_units ∧ (mX0_units.2.2.2.2.2 ≠ [] → plainName mX0_units.2.1.cls = true) := ⟨⟨by decide +kernel, rfl, by decide⟩, fun _ => by decide +kernel⟩
theorem md_mX0_usable : MDOK onm mX0_usable ∧ (mX0_usable.2.2.2.2.2 ≠ [] → plainName mX0_usable.2.1.cls = true) := ⟨⟨by decide +kernel, rfl, by decide⟩, fun _ => by decide +kernel⟩
theorem md_mX0_verify : MDOK onm mX0_verify ∧ (mX0_verify.2.2.2.2.2 ≠ [] → plainName mX0_verify.2.1.cls = true) := ⟨⟨by decide +kernel, rfl, by decide⟩, fun _ => by decide +kernel⟩
theorem md_mX0_vintageOf : MDOK onm mX0_vintageOf ∧ (mX0_vintageOf.2.2.2.2.2 ≠ [] → plainName mX0_vintageOf.2.1.cls = true) := ⟨⟨by decide +kernel, rfl, by decide⟩, fun _ => by decide +kernel⟩
theorem md_mX5_init : MDOK onm mX5_init ∧ (mX5_init.2.2.2.2.2 ≠ [] → plainName mX5_init.2.1.cls = true) := ⟨⟨by decide +kernel, rfl, by decide⟩, fun _ => by rename_i h; exact absurd rfl h⟩
theorem md_mX5_addAccount : MDOK onm mX5_addAccount ∧ (mX5_addAccount.2.2.2.2.2 ≠ [] → plainName mX5_addAccount.2.1.cls = true) := ⟨⟨by decide +kernel, rfl, by decide⟩, fun _ => by rename_i h; exact absurd rfl h⟩
theorem md_mX5_addGood : MDOK onm mX5_addGood ∧ (mX5_addGood.2.2.2.2.2 ≠ [] → plainName mX5_addGood.2.1.cls = true) := ⟨⟨by decide +kernel, rfl, by decide⟩, fun _ => by rename_i h; exact absurd rfl h⟩
theorem md_mX5_addProject : MDOK onm mX5_addProject ∧ (mX5_addProject.2.2.2.2.2 ≠ [] → plainName mX5_addProject.2.1.cls = true) := ⟨⟨by decide +kernel, rfl, by decide⟩, fun _ => by rename_i h; exact absurd rfl h⟩
theorem md_mX5_advance : MDOK onm mX5_advance ∧ (mX5_advance.2.2.2.2.2 ≠ [] → plainName mX5_advance.2.1.cls = true) := ⟨⟨by decide +kernel, rfl, by decide⟩, fun _ => by rename_i h; exact absurd rfl h⟩
theorem md_mX5_auction : MDOK onm mX5_auction ∧ (mX5_auction.2.2.2.2.2 ≠ [] → plainName mX5_auction.2.1.cls = true) := ⟨⟨by decide +kernel, rfl, by decide⟩, fun _ => by rename_i h; exact absurd rfl h⟩
theorem md_mX5_beginYear : MDOK onm mX5_beginYear ∧ (mX5_beginYear.2.2.2.2.2 ≠ [] → plainName mX5_beginYear.2.1.cls = true) := ⟨⟨by decide +kernel, rfl, by decide⟩, fun _ => by rename_i h; exact absurd rfl h⟩
theorem md_mX5_bid : MDOK onm mX5_bid ∧ (mX5_bid.2.2.2.2.2 ≠ [] → plainName mX5_bid.2.1.cls = true) := ⟨⟨by decide +kernel, rfl, by decide⟩, fun _ => by rename_i h; exact absurd rfl h⟩
theorem md_mX5_blocks : MDOK onm mX5_blocks ∧ (mX5_blocks.2.2.2.2.2 ≠ [] → plainName mX5_blocks.2.1.cls = true) := ⟨⟨by decide +kernel, rfl, by decide⟩, fun _ => by rename_i h; exact absurd rfl h⟩
theorem md_mX5_cancelled : MDOK onm mX5_cancelled ∧ (mX5_cancelled.2.2.2.2.2 ≠ [] → plainName mX5_cancelled.2.1.cls = true) := ⟨⟨by decide +kernel, rfl, by decide⟩, fun _ => by rename_i h; exact absurd rfl h⟩
theorem md_mX5_cap : MDOK onm mX5_cap ∧ (mX5_cap.2.2.2.2.2 ≠ [] → plainName mX5_cap.2.1.cls = true) := ⟨⟨by decide +kernel, rfl, by decide⟩, fun _ => by rename_i h; exact absurd rfl h⟩
theorem md_mX5_cash : MDOK onm mX5_cash ∧ (mX5_cash.2.2.2.2.2 ≠ [] → plainName mX5_cash.2.1.cls = true) := ⟨⟨by decide +kernel, rfl, by decide⟩, fun _ => by rename_i h; exact absurd rfl h⟩
theorem md_mX5_circulating : MDOK onm mX5_circulating ∧ (mX5_circulating.2.2.2.2.2 ≠ [] → plainName mX5_circulating.2.1.cls = true) := ⟨⟨by decide +kernel, rfl, by decide⟩, fun _ => by rename_i h; exact absurd rfl h⟩
theorem md_mX5_circulation : MDOK onm mX5_circulation ∧ (mX5_circulation.2.2.2.2.2 ≠ [] → plainName mX5_circulation.2.1.cls = true) := ⟨⟨by decide +kernel, rfl, by decide⟩, fun _ => by rename_i h; exact absurd rfl h⟩
theorem md_mX5_confirm : MDOK onm mX5_confirm ∧ (mX5_confirm.2.2.2.2.2 ≠ [] → plainName mX5_confirm.2.1.cls = true) := ⟨⟨by decide +kernel, rfl, by decide⟩, fun _ => by rename_i h; exact absurd rfl h⟩
theorem md_mX5_cut : MDOK onm mX5_cut ∧ (mX5_cut.2.2.2.2.2 ≠ [] → plainName mX5_cut.2.1.cls = true) := ⟨⟨by decide +kernel, rfl, by decide⟩, fun _ => by rename_i h; exact absurd rfl h⟩
theorem md_mX5_day : MDOK onm mX5_day ∧ (mX5_day.2.2.2.2.2 ≠ [] → plainName mX5_day.2.1.cls = true) := ⟨⟨by decide +kernel, rfl, by decide⟩, fun _ => by rename_i h; exact absurd rfl h⟩
theorem md_mX5_embedded : MDOK onm mX5_embedded ∧ (mX5_embedded.2.2.2.2.2 ≠ [] → plainName mX5_embedded.2.1.cls = true) := ⟨⟨by decide +kernel, rfl, by decide⟩, fun _ => by rename_i h; exact absurd rfl h⟩
theorem md_mX5_embeddedIn : MDOK onm mX5_embeddedIn ∧ (mX5_embeddedIn.2.2.2.2.2 ≠ [] → plainName mX5_embeddedIn.2.1.cls = true) := ⟨⟨by decide +kernel, rfl, by decide⟩, fun _ => by rename_i h; exact absurd rfl h⟩
theorem md_mX5_emissionOf : MDOK onm mX5_emissionOf ∧ (mX5_emissionOf.2.2.2.2.2 ≠ [] → plainName mX5_emissionOf.2.1.cls = true) := ⟨⟨by decide +kernel, rfl, by decide⟩, fun _ => by rename_i h; exact absurd rfl h⟩
theorem md_mX5_emitted : MDOK onm mX5_emitted ∧ (mX5_emitted.2.2.2.2.2 ≠ [] → plainName mX5_emitted.2.1.cls = true) := ⟨⟨by decide +kernel, rfl, by decide⟩, fun _ => by rename_i h; exact absurd rfl h⟩
theorem md_mX5_endYear : MDOK onm mX5_endYear ∧ (mX5_endYear.2.2.2.2.2 ≠ [] → plainName mX5_endYear.2.1.cls = true) := ⟨⟨by decide +kernel, rfl, by decide⟩, fun _ => by rename_i h; exact absurd rfl h⟩
theorem md_mX5_entries : MDOK onm mX5_entries ∧ (mX5_entries.2.2.2.2.2 ≠ [] → plainName mX5_entries.2.1.cls = true) := ⟨⟨by decide +kernel, rfl, by decide⟩, fun _ => by rename_i h; exact absurd rfl h⟩
theorem md_mX5_fallDue : MDOK onm mX5_fallDue ∧ (mX5_fallDue.2.2.2.2.2 ≠ [] → plainName mX5_fallDue.2.1.cls = true) := ⟨⟨by decide +kernel, rfl, by decide⟩, fun _ => by rename_i h; exact absurd rfl h⟩
theorem md_mX5_freeShare : MDOK onm mX5_freeShare ∧ (mX5_freeShare.2.2.2.2.2 ≠ [] → plainName mX5_freeShare.2.1.cls = true) := ⟨⟨by decide +kernel, rfl, by decide⟩, fun _ => by rename_i h; exact absurd rfl h⟩
theorem md_mX5_freeze : MDOK onm mX5_freeze ∧ (mX5_freeze.2.2.2.2.2 ≠ [] → plainName mX5_freeze.2.1.cls = true) := ⟨⟨by decide +kernel, rfl, by decide⟩, fun _ => by rename_i h; exact absurd rfl h⟩
theorem md_mX5_freeze_2 : MDOK onm mX5_freeze_2 ∧ (mX5_freeze_2.2.2.2.2.2 ≠ [] → plainName mX5_freeze_2.2.1.cls = true) := ⟨⟨by decide +kernel, rfl, by decide⟩, fun _ => by rename_i h; exact absurd rfl h⟩
theorem md_mX5_hasEnded : MDOK onm mX5_hasEnded ∧ (mX5_hasEnded.2.2.2.2.2 ≠ [] → plainName mX5_hasEnded.2.1.cls = true) := ⟨⟨by decide +kernel, rfl, by decide⟩, fun _ => by rename_i h; exact absurd rfl h⟩
theorem md_mX5_holderOf : MDOK onm mX5_holderOf ∧ (mX5_holderOf.2.2.2.2.2 ≠ [] → plainName mX5_holderOf.2.1.cls = true) := ⟨⟨by decide +kernel, rfl, by decide⟩, fun _ => by rename_i h; exact absurd rfl h⟩
theorem md_mX5_importGood : MDOK onm mX5_importGood ∧ (mX5_importGood.2.2.2.2.2 ≠ [] → plainName mX5_importGood.2.1.cls = true) := ⟨⟨by decide +kernel, rfl, by decide⟩, fun _ => by rename_i h; exact absurd rfl h⟩
theorem md_mX5_in : MDOK onm mX5_in ∧ (mX5_in.2.2.2.2.2 ≠ [] → plainName mX5_in.2.1.cls = true) := ⟨⟨by decide +kernel, rfl, by decide⟩, fun _ => by rename_i h; exact absurd rfl h⟩
theorem md_mX5_isFrozen : MDOK onm mX5_isFrozen ∧ (mX5_isFrozen.2.2.2.2.2 ≠ [] → plainName mX5_isFrozen.2.1.cls = true) := ⟨⟨by decide +kernel, rfl, by decide⟩, fun _ => by rename_i h; exact absurd rfl h⟩
theorem md_mX5_isGood : MDOK onm mX5_isGood ∧ (mX5_isGood.2.2.2.2.2 ≠ [] → plainName mX5_isGood.2.1.cls = true) := ⟨⟨by decide +kernel, rfl, by decide⟩, fun _ => by rename_i h; exact absurd rfl h⟩
theorem md_mX5_isKind : MDOK onm mX5_isKind ∧ (mX5_isKind.2.2.2.2.2 ≠ [] → plainName mX5_isKind.2.1.cls = true) := ⟨⟨by decide +kernel, rfl, by decide⟩, fun _ => by rename_i h; exact absurd rfl h⟩
theorem md_mX5_isOther : MDOK onm mX5_isOther ∧ (mX5_isOther.2.2.2.2.2 ≠ [] → plainName mX5_isOther.2.1.cls = true) := ⟨⟨by decide +kernel, rfl, by decide⟩, fun _ => by rename_i h; exact absurd rfl h⟩
theorem md_mX5_isProject : MDOK onm mX5_isProject ∧ (mX5_isProject.2.2.2.2.2 ≠ [] → plainName mX5_isProject.2.1.cls = true) := ⟨⟨by decide +kernel, rfl, by decide⟩, fun _ => by rename_i h; exact absurd rfl h⟩
theorem md_mX5_isSound : MDOK onm mX5_isSound ∧ (mX5_isSound.2.2.2.2.2 ≠ [] → plainName mX5_isSound.2.1.cls = true) := ⟨⟨by decide +kernel, rfl, by decide⟩, fun _ => by rename_i h; exact absurd rfl h⟩
theorem md_mX5_isTransfer : MDOK onm mX5_isTransfer ∧ (mX5_isTransfer.2.2.2.2.2 ≠ [] → plainName mX5_isTransfer.2.1.cls = true) := ⟨⟨by decide +kernel, rfl, by decide⟩, fun _ => by rename_i h; exact absurd rfl h⟩
theorem md_mX5_isUsable : MDOK onm mX5_isUsable ∧ (mX5_isUsable.2.2.2.2.2 ≠ [] → plainName mX5_isUsable.2.1.cls = true) := ⟨⟨by decide +kernel, rfl, by decide⟩, fun _ => by rename_i h; exact absurd rfl h⟩
theorem md_mX5_made : MDOK onm mX5_made ∧ (mX5_made.2.2.2.2.2 ≠ [] → plainName mX5_made.2.1.cls = true) := ⟨⟨by decide +kernel, rfl, by decide⟩, fun _ => by rename_i h; exact absurd rfl h⟩
theorem md_mX5_make : MDOK onm mX5_make ∧ (mX5_make.2.2.2.2.2 ≠ [] → plainName mX5_make.2.1.cls = true) := ⟨⟨by decide +kernel, rfl, by decide⟩, fun _ => by rename_i h; exact absurd rfl h⟩
theorem md_mX5_makePlant : MDOK onm mX5_makePlant ∧ (mX5_makePlant.2.2.2.2.2 ≠ [] → plainName mX5_makePlant.2.1.cls = true) := ⟨⟨by decide +kernel, rfl, by decide⟩, fun _ => by rename_i h; exact absurd rfl h⟩
theorem md_mX5_meanVintage : MDOK onm mX5_meanVintage ∧ (mX5_meanVintage.2.2.2.2.2 ≠ [] → plainName mX5_meanVintage.2.1.cls = true) := ⟨⟨by decide +kernel, rfl, by decide⟩, fun _ => by rename_i h; exact absurd rfl h⟩
theorem md_mX5_move : MDOK onm mX5_move ∧ (mX5_move.2.2.2.2.2 ≠ [] → plainName mX5_move.2.1.cls = true) := ⟨⟨by decide +kernel, rfl, by decide⟩, fun _ => by rename_i h; exact absurd rfl h⟩
theorem md_mX5_next : MDOK onm mX5_next ∧ (mX5_next.2.2.2.2.2 ≠ [] → plainName mX5_next.2.1.cls = true) := ⟨⟨by decide +kernel, rfl, by decide⟩, fun _ => by rename_i h; exact absurd rfl h⟩
theorem md_mX5_offsetShare : MDOK onm mX5_offsetShare ∧ (mX5_offsetShare.2.2.2.2.2 ≠ [] → plainName mX5_offsetShare.2.1.cls = true) := ⟨⟨by decide +kernel, rfl, by decide⟩, fun _ => by rename_i h; exact absurd rfl h⟩
theorem md_mX5_owed : MDOK onm mX5_owed ∧ (mX5_owed.2.2.2.2.2 ≠ [] → plainName mX5_owed.2.1.cls = true) := ⟨⟨by decide +kernel, rfl, by decide⟩, fun _ => by rename_i h; exact absurd rfl h⟩
theorem md_mX5_plain : MDOK onm mX5_plain ∧ (mX5_plain.2.2.2.2.2 ≠ [] → plainName mX5_plain.2.1.cls = true) := ⟨⟨by decide +kernel, rfl, by decide⟩, fun _ => by rename_i h; exact absurd rfl h⟩
theorem md_mX5_price : MDOK onm mX5_price ∧ (mX5_price.2.2.2.2.2 ≠ [] → plainName mX5_price.2.1.cls = true) := ⟨⟨by decide +kernel, rfl, by decide⟩, fun _ => by rename_i h; exact absurd rfl h⟩
theorem md_mX5_release : MDOK onm mX5_release ∧ (mX5_release.2.2.2.2.2 ≠ [] → plainName mX5_release.2.1.cls = true) := ⟨⟨by decide +kernel, rfl, by decide⟩, fun _ => by rename_i h; exact absurd rfl h⟩
theorem md_mX5_report : MDOK onm mX5_report ∧ (mX5_report.2.2.2.2.2 ≠ [] → plainName mX5_report.2.1.cls = true) := ⟨⟨by decide +kernel, rfl, by decide⟩, fun _ => by rename_i h; exact absurd rfl h⟩
theorem md_mX5_reserve : MDOK onm mX5_reserve ∧ (mX5_reserve.2.2.2.2.2 ≠ [] → plainName mX5_reserve.2.1.cls = true) := ⟨⟨by decide +kernel, rfl, by decide⟩, fun _ => by rename_i h; exact absurd rfl h⟩
theorem md_mX5_reverse : MDOK onm mX5_reverse ∧ (mX5_reverse.2.2.2.2.2 ≠ [] → plainName mX5_reverse.2.1.cls = true) := ⟨⟨by decide +kernel, rfl, by decide⟩, fun _ => by rename_i h; exact absurd rfl h⟩
theorem md_mX5_rowOf : MDOK onm mX5_rowOf ∧ (mX5_rowOf.2.2.2.2.2 ≠ [] → plainName mX5_rowOf.2.1.cls = true) := ⟨⟨by decide +kernel, rfl, by decide⟩, fun _ => by rename_i h; exact absurd rfl h⟩
theorem md_mX5_setBounds : MDOK onm mX5_setBounds ∧ (mX5_setBounds.2.2.2.2.2 ≠ [] → plainName mX5_setBounds.2.1.cls = true) := ⟨⟨by decide +kernel, rfl, by decide⟩, fun _ => by rename_i h; exact absurd rfl h⟩
theorem md_mX5_setCap : MDOK onm mX5_setCap ∧ (mX5_setCap.2.2.2.2.2 ≠ [] → plainName mX5_setCap.2.1.cls = true) := ⟨⟨by decide +kernel, rfl, by decide⟩, fun _ => by rename_i h; exact absurd rfl h⟩
theorem md_mX5_stateOf : MDOK onm mX5_stateOf ∧ (mX5_stateOf.2.2.2.2.2 ≠ [] → plainName mX5_stateOf.2.1.cls = true) := ⟨⟨by decide +kernel, rfl, by decide⟩, fun _ => by rename_i h; exact absurd rfl h⟩
theorem md_mX5_surrender : MDOK onm mX5_surrender ∧ (mX5_surrender.2.2.2.2.2 ≠ [] → plainName mX5_surrender.2.1.cls = true) := ⟨⟨by decide +kernel, rfl, by decide⟩, fun _ => by rename_i h; exact absurd rfl h⟩
theorem md_mX5_surrendered : MDOK onm mX5_surrendered ∧ (mX5_surrendered.2.2.2.2.2 ≠ [] → plainName mX5_surrendered.2.1.cls = true) := ⟨⟨by decide +kernel, rfl, by decide⟩, fun _ => by rename_i h; exact absurd rfl h⟩
theorem md_mX5_take : MDOK onm mX5_take ∧ (mX5_take.2.2.2.2.2 ≠ [] → plainName mX5_take.2.1.cls = true) := ⟨⟨by decide +kernel, rfl, by decide⟩, fun _ => by rename_i h; exact absurd rfl h⟩
theorem md_mX5_tellActivity : MDOK onm mX5_tellActivity ∧ (mX5_tellActivity.2.2.2.2.2 ≠ [] → plainName mX5_tellActivity.2.1.cls = true) := ⟨⟨by decide +kernel, rfl, by decide⟩, fun _ => by rename_i h; exact absurd rfl h⟩
theorem md_mX5_thrown : MDOK onm mX5_thrown ∧ (mX5_thrown.2.2.2.2.2 ≠ [] → plainName mX5_thrown.2.1.cls = true) := ⟨⟨by decide +kernel, rfl, by decide⟩, fun _ => by rename_i h; exact absurd rfl h⟩
theorem md_mX5_transfer : MDOK onm mX5_transfer ∧ (mX5_transfer.2.2.2.2.2 ≠ [] → plainName mX5_transfer.2.1.cls = true) := ⟨⟨by decide +kernel, rfl, by decide⟩, fun _ => by rename_i h; exact absurd rfl h⟩
theorem md_mX5_trust : MDOK onm mX5_trust ∧ (mX5_trust.2.2.2.2.2 ≠ [] → plainName mX5_trust.2.1.cls = true) := ⟨⟨by decide +kernel, rfl, by decide⟩, fun _ => by rename_i h; exact absurd rfl h⟩
theorem md_mX5_units : MDOK onm mX5_units ∧ (mX5_units.2.2.2.2.2 ≠ [] → plainName mX5_units.2.1.cls = true) := ⟨⟨by decide +kernel, rfl, by decide⟩, fun _ => by rename_i h; exact absurd rfl h⟩
theorem md_mX5_up : MDOK onm mX5_up ∧ (mX5_up.2.2.2.2.2 ≠ [] → plainName mX5_up.2.1.cls = true) := ⟨⟨by decide +kernel, rfl, by decide⟩, fun _ => by rename_i h; exact absurd rfl h⟩
theorem md_mX5_usable : MDOK onm mX5_usable ∧ (mX5_usable.2.2.2.2.2 ≠ [] → plainName mX5_usable.2.1.cls = true) := ⟨⟨by decide +kernel, rfl, by decide⟩, fun _ => by rename_i h; exact absurd rfl h⟩
theorem md_mX5_usableOf : MDOK onm mX5_usableOf ∧ (mX5_usableOf.2.2.2.2.2 ≠ [] → plainName mX5_usableOf.2.1.cls = true) := ⟨⟨by decide +kernel, rfl, by decide⟩, fun _ => by rename_i h; exact absurd rfl h⟩
theorem md_mX5_verify : MDOK onm mX5_verify ∧ (mX5_verify.2.2.2.2.2 ≠ [] → plainName mX5_verify.2.1.cls = true) := ⟨⟨by decide +kernel, rfl, by decide⟩, fun _ => by rename_i h; exact absurd rfl h⟩
theorem md_mX5_vintageOf : MDOK onm mX5_vintageOf ∧ (mX5_vintageOf.2.2.2.2.2 ≠ [] → plainName mX5_vintageOf.2.1.cls = true) := ⟨⟨by decide +kernel, rfl, by decide⟩, fun _ => by rename_i h; exact absurd rfl h⟩
theorem md_mX5_volume : MDOK onm mX5_volume ∧ (mX5_volume.2.2.2.2.2 ≠ [] → plainName mX5_volume.2.1.cls = true) := ⟨⟨by decide +kernel, rfl, by decide⟩, fun _ => by rename_i h; exact absurd rfl h⟩
theorem md_mX5_wrongHolder : MDOK onm mX5_wrongHolder ∧ (mX5_wrongHolder.2.2.2.2.2 ≠ [] → plainName mX5_wrongHolder.2.1.cls = true) := ⟨⟨by decide +kernel, rfl, by decide⟩, fun _ => by rename_i h; exact absurd rfl h⟩
theorem md_mX5_year : MDOK onm mX5_year ∧ (mX5_year.2.2.2.2.2 ≠ [] → plainName mX5_year.2.1.cls = true) := ⟨⟨by decide +kernel, rfl, by decide⟩, fun _ => by rename_i h; exact absurd rfl h⟩
theorem md_mX6_init : MDOK onm mX6_init ∧ (mX6_init.2.2.2.2.2 ≠ [] → plainName mX6_init.2.1.cls = true) := ⟨⟨by decide +kernel, rfl, by decide⟩, fun _ => by rename_i h; exact absurd rfl h⟩
theorem md_mX12_init : MDOK onm mX12_init ∧ (mX12_init.2.2.2.2.2 ≠ [] → plainName mX12_init.2.1.cls = true) := ⟨⟨by decide +kernel, rfl, by decide⟩, fun _ => by rename_i h; exact absurd rfl h⟩
theorem md_mX12_account : MDOK onm mX12_account ∧ (mX12_account.2.2.2.2.2 ≠ [] → plainName mX12_account.2.1.cls = true) := ⟨⟨by decide +kernel, rfl, by decide⟩, fun _ => by rename_i h; exact absurd rfl h⟩
theorem md_mX12_cost : MDOK onm mX12_cost ∧ (mX12_cost.2.2.2.2.2 ≠ [] → plainName mX12_cost.2.1.cls = true) := ⟨⟨by decide +kernel, rfl, by decide⟩, fun _ => by rename_i h; exact absurd rfl h⟩
theorem md_mX12_price : MDOK onm mX12_price ∧ (mX12_price.2.2.2.2.2 ≠ [] → plainName mX12_price.2.1.cls = true) := ⟨⟨by decide +kernel, rfl, by decide⟩, fun _ => by rename_i h; exact absurd rfl h⟩
theorem md_mX12_units : MDOK onm mX12_units ∧ (mX12_units.2.2.2.2.2 ≠ [] → plainName mX12_units.2.1.cls = true) := ⟨⟨by decide +kernel, rfl, by decide⟩, fun _ => by rename_i h; exact absurd rfl h⟩
theorem md_mX19_init : MDOK onm mX19_init ∧ (mX19_init.2.2.2.2.2 ≠ [] → plainName mX19_init.2.1.cls = true) := ⟨⟨by decide +kernel, rfl, by decide⟩, fun _ => by rename_i h; exact absurd rfl h⟩
theorem md_mX19_amount : MDOK onm mX19_amount ∧ (mX19_amount.2.2.2.2.2 ≠ [] → plainName mX19_amount.2.1.cls = true) := ⟨⟨by decide +kernel, rfl, by decide⟩, fun _ => by rename_i h; exact absurd rfl h⟩
theorem md_mX19_input : MDOK onm mX19_input ∧ (mX19_input.2.2.2.2.2 ≠ [] → plainName mX19_input.2.1.cls = true) := ⟨⟨by decide +kernel, rfl, by decide⟩, fun _ => by rename_i h; exact absurd rfl h⟩
theorem md_mX19_own : MDOK onm mX19_own ∧ (mX19_own.2.2.2.2.2 ≠ [] → plainName mX19_own.2.1.cls = true) := ⟨⟨by decide +kernel, rfl, by decide⟩, fun _ => by rename_i h; exact absurd rfl h⟩
theorem md_mX17_init : MDOK onm mX17_init ∧ (mX17_init.2.2.2.2.2 ≠ [] → plainName mX17_init.2.1.cls = true) := ⟨⟨by decide +kernel, rfl, by decide⟩, fun _ => by rename_i h; exact absurd rfl h⟩
theorem md_mX10_init : MDOK onm mX10_init ∧ (mX10_init.2.2.2.2.2 ≠ [] → plainName mX10_init.2.1.cls = true) := ⟨⟨by decide +kernel, rfl, by decide⟩, fun _ => by rename_i h; exact absurd rfl h⟩
theorem md_mX10_isLike : MDOK onm mX10_isLike ∧ (mX10_isLike.2.2.2.2.2 ≠ [] → plainName mX10_isLike.2.1.cls = true) := ⟨⟨by decide +kernel, rfl, by decide⟩, fun _ => by rename_i h; exact absurd rfl h⟩
theorem md_mX10_isLocked : MDOK onm mX10_isLocked ∧ (mX10_isLocked.2.2.2.2.2 ≠ [] → plainName mX10_isLocked.2.1.cls = true) := ⟨⟨by decide +kernel, rfl, by decide⟩, fun _ => by rename_i h; exact absurd rfl h⟩
theorem md_mX10_size : MDOK onm mX10_size ∧ (mX10_size.2.2.2.2.2 ≠ [] → plainName mX10_size.2.1.cls = true) := ⟨⟨by decide +kernel, rfl, by decide⟩, fun _ => by rename_i h; exact absurd rfl h⟩
theorem md_mX15_init : MDOK onm mX15_init ∧ (mX15_init.2.2.2.2.2 ≠ [] → plainName mX15_init.2.1.cls = true) := ⟨⟨by decide +kernel, rfl, by decide⟩, fun _ => by rename_i h; exact absurd rfl h⟩
theorem md_mJ25_init : MDOK onm mJ25_init ∧ (mJ25_init.2.2.2.2.2 ≠ [] → plainName mJ25_init.2.1.cls = true) := ⟨⟨by decide +kernel, rfl, by decide⟩, fun _ => by rename_i h; exact absurd rfl h⟩
theorem md_mJ25_compare : MDOK onm mJ25_compare ∧ (mJ25_compare.2.2.2.2.2 ≠ [] → plainName mJ25_compare.2.1.cls = true) := ⟨⟨by decide +kernel, rfl, by decide⟩, fun _ => by rename_i h; exact absurd rfl h⟩
theorem md_mJ25_compareTo_2 : MDOK onm mJ25_compareTo_2 ∧ (mJ25_compareTo_2.2.2.2.2.2 ≠ [] → plainName mJ25_compareTo_2.2.1.cls = true) := ⟨⟨by decide +kernel, rfl, by decide⟩, fun _ => by rename_i h; exact absurd rfl h⟩
theorem md_mJ25_compareTo : MDOK onm mJ25_compareTo ∧ (mJ25_compareTo.2.2.2.2.2 ≠ [] → plainName mJ25_compareTo.2.1.cls = true) := ⟨⟨by decide +kernel, rfl, by decide⟩, fun _ => by rename_i h; exact absurd rfl h⟩
theorem md_mJ25_intValue : MDOK onm mJ25_intValue ∧ (mJ25_intValue.2.2.2.2.2 ≠ [] → plainName mJ25_intValue.2.1.cls = true) := ⟨⟨by decide +kernel, rfl, by decide⟩, fun _ => by rename_i h; exact absurd rfl h⟩
theorem md_mJ25_valueOf : MDOK onm mJ25_valueOf ∧ (mJ25_valueOf.2.2.2.2.2 ≠ [] → plainName mJ25_valueOf.2.1.cls = true) := ⟨⟨by decide +kernel, rfl, by decide⟩, fun _ => by rename_i h; exact absurd rfl h⟩
theorem md_mJ26_init : MDOK onm mJ26_init ∧ (mJ26_init.2.2.2.2.2 ≠ [] → plainName mJ26_init.2.1.cls = true) := ⟨⟨by decide +kernel, rfl, by decide⟩, fun _ => by rename_i h; exact absurd rfl h⟩
theorem md_mJ26_compare : MDOK onm mJ26_compare ∧ (mJ26_compare.2.2.2.2.2 ≠ [] → plainName mJ26_compare.2.1.cls = true) := ⟨⟨by decide +kernel, rfl, by decide⟩, fun _ => by rename_i h; exact absurd rfl h⟩
theorem md_mJ26_compareTo_2 : MDOK onm mJ26_compareTo_2 ∧ (mJ26_compareTo_2.2.2.2.2.2 ≠ [] → plainName mJ26_compareTo_2.2.1.cls = true) := ⟨⟨by decide +kernel, rfl, by decide⟩, fun _ => by rename_i h; exact absurd rfl h⟩
theorem md_mJ26_compareTo : MDOK onm mJ26_compareTo ∧ (mJ26_compareTo.2.2.2.2.2 ≠ [] → plainName mJ26_compareTo.2.1.cls = true) := ⟨⟨by decide +kernel, rfl, by decide⟩, fun _ => by rename_i h; exact absurd rfl h⟩
theorem md_mJ26_longValue : MDOK onm mJ26_longValue ∧ (mJ26_longValue.2.2.2.2.2 ≠ [] → plainName mJ26_longValue.2.1.cls = true) := ⟨⟨by decide +kernel, rfl, by decide⟩, fun _ => by rename_i h; exact absurd rfl h⟩
theorem md_mJ26_valueOf : MDOK onm mJ26_valueOf ∧ (mJ26_valueOf.2.2.2.2.2 ≠ [] → plainName mJ26_valueOf.2.1.cls = true) := ⟨⟨by decide +kernel, rfl, by decide⟩, fun _ => by rename_i h; exact absurd rfl h⟩
theorem md_mJ12_abs : MDOK onm mJ12_abs ∧ (mJ12_abs.2.2.2.2.2 ≠ [] → plainName mJ12_abs.2.1.cls = true) := ⟨⟨by decide +kernel, rfl, by decide⟩, fun _ => by rename_i h; exact absurd rfl h⟩
theorem md_mJ12_abs_2 : MDOK onm mJ12_abs_2 ∧ (mJ12_abs_2.2.2.2.2.2 ≠ [] → plainName mJ12_abs_2.2.1.cls = true) := ⟨⟨by decide +kernel, rfl, by decide⟩, fun _ => by rename_i h; exact absurd rfl h⟩
theorem md_mJ12_max : MDOK onm mJ12_max ∧ (mJ12_max.2.2.2.2.2 ≠ [] → plainName mJ12_max.2.1.cls = true) := ⟨⟨by decide +kernel, rfl, by decide⟩, fun _ => by rename_i h; exact absurd rfl h⟩
theorem md_mJ12_max_2 : MDOK onm mJ12_max_2 ∧ (mJ12_max_2.2.2.2.2.2 ≠ [] → plainName mJ12_max_2.2.1.cls = true) := ⟨⟨by decide +kernel, rfl, by decide⟩, fun _ => by rename_i h; exact absurd rfl h⟩
theorem md_mJ12_min : MDOK onm mJ12_min ∧ (mJ12_min.2.2.2.2.2 ≠ [] → plainName mJ12_min.2.1.cls = true) := ⟨⟨by decide +kernel, rfl, by decide⟩, fun _ => by rename_i h; exact absurd rfl h⟩
theorem md_mJ12_min_2 : MDOK onm mJ12_min_2 ∧ (mJ12_min_2.2.2.2.2.2 ≠ [] → plainName mJ12_min_2.2.1.cls = true) := ⟨⟨by decide +kernel, rfl, by decide⟩, fun _ => by rename_i h; exact absurd rfl h⟩
theorem md_mJ24_init : MDOK onm mJ24_init ∧ (mJ24_init.2.2.2.2.2 ≠ [] → plainName mJ24_init.2.1.cls = true) := ⟨⟨by decide +kernel, rfl, by decide⟩, fun _ => by rename_i h; exact absurd rfl h⟩
theorem md_mJ52_equals : MDOK onm mJ52_equals ∧ (mJ52_equals.2.2.2.2.2 ≠ [] → plainName mJ52_equals.2.1.cls = true) := ⟨⟨by decide +kernel, rfl, by decide⟩, fun _ => by rename_i h; exact absurd rfl h⟩
theorem md_mJ44_init : MDOK onm mJ44_init ∧ (mJ44_init.2.2.2.2.2 ≠ [] → plainName mJ44_init.2.1.cls = true) := ⟨⟨by decide +kernel, rfl, by decide⟩, fun _ => by rename_i h; exact absurd rfl h⟩
theorem md_mJ0_init : MDOK onm mJ0_init ∧ (mJ0_init.2.2.2.2.2 ≠ [] → plainName mJ0_init.2.1.cls = true) := ⟨⟨by decide +kernel, rfl, by decide⟩, fun _ => by rename_i h; exact absurd rfl h⟩
theorem md_mJ0_clear : MDOK onm mJ0_clear ∧ (mJ0_clear.2.2.2.2.2 ≠ [] → plainName mJ0_clear.2.1.cls = true) := ⟨⟨by decide +kernel, rfl, by decide⟩, fun _ => by rename_i h; exact absurd rfl h⟩
theorem md_mJ0_isEmpty : MDOK onm mJ0_isEmpty ∧ (mJ0_isEmpty.2.2.2.2.2 ≠ [] → plainName mJ0_isEmpty.2.1.cls = true) := ⟨⟨by decide +kernel, rfl, by decide⟩, fun _ => by rename_i h; exact absurd rfl h⟩
theorem md_mJ1_init : MDOK onm mJ1_init ∧ (mJ1_init.2.2.2.2.2 ≠ [] → plainName mJ1_init.2.1.cls = true) := ⟨⟨by decide +kernel, rfl, by decide⟩, fun _ => by rename_i h; exact absurd rfl h⟩
theorem md_mJ3_init : MDOK onm mJ3_init ∧ (mJ3_init.2.2.2.2.2 ≠ [] → plainName mJ3_init.2.1.cls = true) := ⟨⟨by decide +kernel, rfl, by decide⟩, fun _ => by rename_i h; exact absurd rfl h⟩
theorem md_mJ3_clear : MDOK onm mJ3_clear ∧ (mJ3_clear.2.2.2.2.2 ≠ [] → plainName mJ3_clear.2.1.cls = true) := ⟨⟨by decide +kernel, rfl, by decide⟩, fun _ => by rename_i h; exact absurd rfl h⟩
theorem md_mJ3_isEmpty : MDOK onm mJ3_isEmpty ∧ (mJ3_isEmpty.2.2.2.2.2 ≠ [] → plainName mJ3_isEmpty.2.1.cls = true) := ⟨⟨by decide +kernel, rfl, by decide⟩, fun _ => by rename_i h; exact absurd rfl h⟩
theorem md_mJ3_values : MDOK onm mJ3_values ∧ (mJ3_values.2.2.2.2.2 ≠ [] → plainName mJ3_values.2.1.cls = true) := ⟨⟨by decide +kernel, rfl, by decide⟩, fun _ => by rename_i h; exact absurd rfl h⟩
theorem md_mJ49_init : MDOK onm mJ49_init ∧ (mJ49_init.2.2.2.2.2 ≠ [] → plainName mJ49_init.2.1.cls = true) := ⟨⟨by decide +kernel, rfl, by decide⟩, fun _ => by rename_i h; exact absurd rfl h⟩
theorem md_mJ49_iterator : MDOK onm mJ49_iterator ∧ (mJ49_iterator.2.2.2.2.2 ≠ [] → plainName mJ49_iterator.2.1.cls = true) := ⟨⟨by decide +kernel, rfl, by decide⟩, fun _ => by rename_i h; exact absurd rfl h⟩
theorem md_mJ32_init : MDOK onm mJ32_init ∧ (mJ32_init.2.2.2.2.2 ≠ [] → plainName mJ32_init.2.1.cls = true) := ⟨⟨by decide +kernel, rfl, by decide⟩, fun _ => by rename_i h; exact absurd rfl h⟩
theorem md_mJ32_hasNext : MDOK onm mJ32_hasNext ∧ (mJ32_hasNext.2.2.2.2.2 ≠ [] → plainName mJ32_hasNext.2.1.cls = true) := ⟨⟨by decide +kernel, rfl, by decide⟩, fun _ => by rename_i h; exact absurd rfl h⟩
theorem md_mJ32_next : MDOK onm mJ32_next ∧ (mJ32_next.2.2.2.2.2 ≠ [] → plainName mJ32_next.2.1.cls = true) := ⟨⟨by decide +kernel, rfl, by decide⟩, fun _ => by rename_i h; exact absurd rfl h⟩
theorem md_mJ32_remove : MDOK onm mJ32_remove ∧ (mJ32_remove.2.2.2.2.2 ≠ [] → plainName mJ32_remove.2.1.cls = true) := ⟨⟨by decide +kernel, rfl, by decide⟩, fun _ => by rename_i h; exact absurd rfl h⟩
theorem md_mJ50_init : MDOK onm mJ50_init ∧ (mJ50_init.2.2.2.2.2 ≠ [] → plainName mJ50_init.2.1.cls = true) := ⟨⟨by decide +kernel, rfl, by decide⟩, fun _ => by rename_i h; exact absurd rfl h⟩
theorem md_mJ50_getKey : MDOK onm mJ50_getKey ∧ (mJ50_getKey.2.2.2.2.2 ≠ [] → plainName mJ50_getKey.2.1.cls = true) := ⟨⟨by decide +kernel, rfl, by decide⟩, fun _ => by rename_i h; exact absurd rfl h⟩
theorem md_mJ50_getValue : MDOK onm mJ50_getValue ∧ (mJ50_getValue.2.2.2.2.2 ≠ [] → plainName mJ50_getValue.2.1.cls = true) := ⟨⟨by decide +kernel, rfl, by decide⟩, fun _ => by rename_i h; exact absurd rfl h⟩
theorem md_mJ5_init : MDOK onm mJ5_init ∧ (mJ5_init.2.2.2.2.2 ≠ [] → plainName mJ5_init.2.1.cls = true) := ⟨⟨by decide +kernel, rfl, by decide⟩, fun _ => by rename_i h; exact absurd rfl h⟩
theorem md_mJ33_init : MDOK onm mJ33_init ∧ (mJ33_init.2.2.2.2.2 ≠ [] → plainName mJ33_init.2.1.cls = true) := ⟨⟨by decide +kernel, rfl, by decide⟩, fun _ => by rename_i h; exact absurd rfl h⟩
theorem md_mJ2_init : MDOK onm mJ2_init ∧ (mJ2_init.2.2.2.2.2 ≠ [] → plainName mJ2_init.2.1.cls = true) := ⟨⟨by decide +kernel, rfl, by decide⟩, fun _ => by rename_i h; exact absurd rfl h⟩
theorem md_mJ2_add_3 : MDOK onm mJ2_add_3 ∧ (mJ2_add_3.2.2.2.2.2 ≠ [] → plainName mJ2_add_3.2.1.cls = true) := ⟨⟨by decide +kernel, rfl, by decide⟩, fun _ => by rename_i h; exact absurd rfl h⟩
theorem md_mJ2_add : MDOK onm mJ2_add ∧ (mJ2_add.2.2.2.2.2 ≠ [] → plainName mJ2_add.2.1.cls = true) := ⟨⟨by decide +kernel, rfl, by decide⟩, fun _ => by rename_i h; exact absurd rfl h⟩
theorem md_mJ2_add_2 : MDOK onm mJ2_add_2 ∧ (mJ2_add_2.2.2.2.2.2 ≠ [] → plainName mJ2_add_2.2.1.cls = true) := ⟨⟨by decide +kernel, rfl, by decide⟩, fun _ => by rename_i h; exact absurd rfl h⟩
theorem md_mJ2_clear : MDOK onm mJ2_clear ∧ (mJ2_clear.2.2.2.2.2 ≠ [] → plainName mJ2_clear.2.1.cls = true) := ⟨⟨by decide +kernel, rfl, by decide⟩, fun _ => by rename_i h; exact absurd rfl h⟩
theorem md_mJ2_elementData : MDOK onm mJ2_elementData ∧ (mJ2_elementData.2.2.2.2.2 ≠ [] → plainName mJ2_elementData.2.1.cls = true) := ⟨⟨by decide +kernel, rfl, by decide⟩, fun _ => by rename_i h; exact absurd rfl h⟩
theorem md_mJ2_fastRemove : MDOK onm mJ2_fastRemove ∧ (mJ2_fastRemove.2.2.2.2.2 ≠ [] → plainName mJ2_fastRemove.2.1.cls = true) := ⟨⟨by decide +kernel, rfl, by decide⟩, fun _ => by rename_i h; exact absurd rfl h⟩
theorem md_mJ2_get : MDOK onm mJ2_get ∧ (mJ2_get.2.2.2.2.2 ≠ [] → plainName mJ2_get.2.1.cls = true) := ⟨⟨by decide +kernel, rfl, by decide⟩, fun _ => by rename_i h; exact absurd rfl h⟩
theorem md_mJ2_grow : MDOK onm mJ2_grow ∧ (mJ2_grow.2.2.2.2.2 ≠ [] → plainName mJ2_grow.2.1.cls = true) := ⟨⟨by decide +kernel, rfl, by decide⟩, fun _ => by rename_i h; exact absurd rfl h⟩
theorem md_mJ2_grow_2 : MDOK onm mJ2_grow_2 ∧ (mJ2_grow_2.2.2.2.2.2 ≠ [] → plainName mJ2_grow_2.2.1.cls = true) := ⟨⟨by decide +kernel, rfl, by decide⟩, fun _ => by rename_i h; exact absurd rfl h⟩
theorem md_mJ2_indexOf : MDOK onm mJ2_indexOf ∧ (mJ2_indexOf.2.2.2.2.2 ≠ [] → plainName mJ2_indexOf.2.1.cls = true) := ⟨⟨by decide +kernel, rfl, by decide⟩, fun _ => by rename_i h; exact absurd rfl h⟩
theorem md_mJ2_indexOfRange : MDOK onm mJ2_indexOfRange ∧ (mJ2_indexOfRange.2.2.2.2.2 ≠ [] → plainName mJ2_indexOfRange.2.1.cls = true) := ⟨⟨by decide +kernel, rfl, by decide⟩, fun _ => by rename_i h; exact absurd rfl h⟩
theorem md_mJ2_isEmpty : MDOK onm mJ2_isEmpty ∧ (mJ2_isEmpty.2.2.2.2.2 ≠ [] → plainName mJ2_isEmpty.2.1.cls = true) := ⟨⟨by decide +kernel, rfl, by decide⟩, fun _ => by rename_i h; exact absurd rfl h⟩
theorem md_mJ2_iterator : MDOK onm mJ2_iterator ∧ (mJ2_iterator.2.2.2.2.2 ≠ [] → plainName mJ2_iterator.2.1.cls = true) := ⟨⟨by decide +kernel, rfl, by decide⟩, fun _ => by rename_i h; exact absurd rfl h⟩
theorem md_mJ2_rangeCheckForAdd : MDOK onm mJ2_rangeCheckForAdd ∧ (mJ2_rangeCheckForAdd.2.2.2.2.2 ≠ [] → plainName mJ2_rangeCheckForAdd.2.1.cls = true) := ⟨⟨by decide +kernel, rfl, by decide⟩, fun _ => by rename_i h; exact absurd rfl h⟩
theorem md_mJ2_remove : MDOK onm mJ2_remove ∧ (mJ2_remove.2.2.2.2.2 ≠ [] → plainName mJ2_remove.2.1.cls = true) := ⟨⟨by decide +kernel, rfl, by decide⟩, fun _ => by rename_i h; exact absurd rfl h⟩
theorem md_mJ2_size : MDOK onm mJ2_size ∧ (mJ2_size.2.2.2.2.2 ≠ [] → plainName mJ2_size.2.1.cls = true) := ⟨⟨by decide +kernel, rfl, by decide⟩, fun _ => by rename_i h; exact absurd rfl h⟩
theorem md_mJ20_init : MDOK onm mJ20_init ∧ (mJ20_init.2.2.2.2.2 ≠ [] → plainName mJ20_init.2.1.cls = true) := ⟨⟨by decide +kernel, rfl, by decide⟩, fun _ => by rename_i h; exact absurd rfl h⟩
theorem md_mJ20_checkForComodification : MDOK onm mJ20_checkForComodification ∧ (mJ20_checkForComodification.2.2.2.2.2 ≠ [] → plainName mJ20_checkForComodification.2.1.cls = true) := ⟨⟨by decide +kernel, rfl, by decide⟩, fun _ => by rename_i h; exact absurd rfl h⟩
theorem md_mJ20_hasNext : MDOK onm mJ20_hasNext ∧ (mJ20_hasNext.2.2.2.2.2 ≠ [] → plainName mJ20_hasNext.2.1.cls = true) := ⟨⟨by decide +kernel, rfl, by decide⟩, fun _ => by rename_i h; exact absurd rfl h⟩
theorem md_mJ20_next : MDOK onm mJ20_next ∧ (mJ20_next.2.2.2.2.2 ≠ [] → plainName mJ20_next.2.1.cls = true) := ⟨⟨by decide +kernel, rfl, by decide⟩, fun _ => by rename_i h; exact absurd rfl h⟩
theorem md_mJ13_copyOf : MDOK onm mJ13_copyOf ∧ (mJ13_copyOf.2.2.2.2.2 ≠ [] → plainName mJ13_copyOf.2.1.cls = true) := ⟨⟨by decide +kernel, rfl, by decide⟩, fun _ => by rename_i h; exact absurd rfl h⟩
theorem md_mJ13_copyOf_2 : MDOK onm mJ13_copyOf_2 ∧ (mJ13_copyOf_2.2.2.2.2.2 ≠ [] → plainName mJ13_copyOf_2.2.1.cls = true) := ⟨⟨by decide +kernel, rfl, by decide⟩, fun _ => by rename_i h; exact absurd rfl h⟩
theorem md_mJ53_getOrDefault : MDOK onm mJ53_getOrDefault ∧ (mJ53_getOrDefault.2.2.2.2.2 ≠ [] → plainName mJ53_getOrDefault.2.1.cls = true) := ⟨⟨by decide +kernel, rfl, by decide⟩, fun _ => by rename_i h; exact absurd rfl h⟩
theorem md_mJ18_checkIndex : MDOK onm mJ18_checkIndex ∧ (mJ18_checkIndex.2.2.2.2.2 ≠ [] → plainName mJ18_checkIndex.2.1.cls = true) := ⟨⟨by decide +kernel, rfl, by decide⟩, fun _ => by rename_i h; exact absurd rfl h⟩
theorem md_mJ18_requireNonNull : MDOK onm mJ18_requireNonNull ∧ (mJ18_requireNonNull.2.2.2.2.2 ≠ [] → plainName mJ18_requireNonNull.2.1.cls = true) := ⟨⟨by decide +kernel, rfl, by decide⟩, fun _ => by rename_i h; exact absurd rfl h⟩
theorem md_mJ6_init_2 : MDOK onm mJ6_init_2 ∧ (mJ6_init_2.2.2.2.2.2 ≠ [] → plainName mJ6_init_2.2.1.cls = true) := ⟨⟨by decide +kernel, rfl, by decide⟩, fun _ => by rename_i h; exact absurd rfl h⟩
theorem md_mJ6_init : MDOK onm mJ6_init ∧ (mJ6_init.2.2.2.2.2 ≠ [] → plainName mJ6_init.2.1.cls = true) := ⟨⟨by decide +kernel, rfl, by decide⟩, fun _ => by rename_i h; exact absurd rfl h⟩
theorem md_mJ6_add : MDOK onm mJ6_add ∧ (mJ6_add.2.2.2.2.2 ≠ [] → plainName mJ6_add.2.1.cls = true) := ⟨⟨by decide +kernel, rfl, by decide⟩, fun _ => by rename_i h; exact absurd rfl h⟩
theorem md_mJ6_clear : MDOK onm mJ6_clear ∧ (mJ6_clear.2.2.2.2.2 ≠ [] → plainName mJ6_clear.2.1.cls = true) := ⟨⟨by decide +kernel, rfl, by decide⟩, fun _ => by rename_i h; exact absurd rfl h⟩
theorem md_mJ6_grow : MDOK onm mJ6_grow ∧ (mJ6_grow.2.2.2.2.2 ≠ [] → plainName mJ6_grow.2.1.cls = true) := ⟨⟨by decide +kernel, rfl, by decide⟩, fun _ => by rename_i h; exact absurd rfl h⟩
theorem md_mJ6_iterator : MDOK onm mJ6_iterator ∧ (mJ6_iterator.2.2.2.2.2 ≠ [] → plainName mJ6_iterator.2.1.cls = true) := ⟨⟨by decide +kernel, rfl, by decide⟩, fun _ => by rename_i h; exact absurd rfl h⟩
theorem md_mJ6_offer : MDOK onm mJ6_offer ∧ (mJ6_offer.2.2.2.2.2 ≠ [] → plainName mJ6_offer.2.1.cls = true) := ⟨⟨by decide +kernel, rfl, by decide⟩, fun _ => by rename_i h; exact absurd rfl h⟩
theorem md_mJ6_poll : MDOK onm mJ6_poll ∧ (mJ6_poll.2.2.2.2.2 ≠ [] → plainName mJ6_poll.2.1.cls = true) := ⟨⟨by decide +kernel, rfl, by decide⟩, fun _ => by rename_i h; exact absurd rfl h⟩
theorem md_mJ6_removeAt : MDOK onm mJ6_removeAt ∧ (mJ6_removeAt.2.2.2.2.2 ≠ [] → plainName mJ6_removeAt.2.1.cls = true) := ⟨⟨by decide +kernel, rfl, by decide⟩, fun _ => by rename_i h; exact absurd rfl h⟩
theorem md_mJ6_removeEq : MDOK onm mJ6_removeEq ∧ (mJ6_removeEq.2.2.2.2.2 ≠ [] → plainName mJ6_removeEq.2.1.cls = true) := ⟨⟨by decide +kernel, rfl, by decide⟩, fun _ => by rename_i h; exact absurd rfl h⟩
theorem md_mJ6_siftDown : MDOK onm mJ6_siftDown ∧ (mJ6_siftDown.2.2.2.2.2 ≠ [] → plainName mJ6_siftDown.2.1.cls = true) := ⟨⟨by decide +kernel, rfl, by decide⟩, fun _ => by rename_i h; exact absurd rfl h⟩
theorem md_mJ6_siftDownUsingComparator : MDOK onm mJ6_siftDownUsingComparator ∧ (mJ6_siftDownUsingComparator.2.2.2.2.2 ≠ [] → plainName mJ6_siftDownUsingComparator.2.1.cls = true) := ⟨⟨by decide +kernel, rfl, by decide⟩, fun _ => by rename_i h; exact absurd rfl h⟩
theorem md_mJ6_siftUp : MDOK onm mJ6_siftUp ∧ (mJ6_siftUp.2.2.2.2.2 ≠ [] → plainName mJ6_siftUp.2.1.cls = true) := ⟨⟨by decide +kernel, rfl, by decide⟩, fun _ => by rename_i h; exact absurd rfl h⟩
theorem md_mJ6_siftUpUsingComparator : MDOK onm mJ6_siftUpUsingComparator ∧ (mJ6_siftUpUsingComparator.2.2.2.2.2 ≠ [] → plainName mJ6_siftUpUsingComparator.2.1.cls = true) := ⟨⟨by decide +kernel, rfl, by decide⟩, fun _ => by rename_i h; exact absurd rfl h⟩
theorem md_mJ6_size : MDOK onm mJ6_size ∧ (mJ6_size.2.2.2.2.2 ≠ [] → plainName mJ6_size.2.1.cls = true) := ⟨⟨by decide +kernel, rfl, by decide⟩, fun _ => by rename_i h; exact absurd rfl h⟩
theorem md_mJ42_init : MDOK onm mJ42_init ∧ (mJ42_init.2.2.2.2.2 ≠ [] → plainName mJ42_init.2.1.cls = true) := ⟨⟨by decide +kernel, rfl, by decide⟩, fun _ => by rename_i h; exact absurd rfl h⟩
theorem md_mJ42_hasNext : MDOK onm mJ42_hasNext ∧ (mJ42_hasNext.2.2.2.2.2 ≠ [] → plainName mJ42_hasNext.2.1.cls = true) := ⟨⟨by decide +kernel, rfl, by decide⟩, fun _ => by rename_i h; exact absurd rfl h⟩
theorem md_mJ42_next : MDOK onm mJ42_next ∧ (mJ42_next.2.2.2.2.2 ≠ [] → plainName mJ42_next.2.1.cls = true) := ⟨⟨by decide +kernel, rfl, by decide⟩, fun _ => by rename_i h; exact absurd rfl h⟩
theorem md_mJ42_remove : MDOK onm mJ42_remove ∧ (mJ42_remove.2.2.2.2.2 ≠ [] → plainName mJ42_remove.2.1.cls = true) := ⟨⟨by decide +kernel, rfl, by decide⟩, fun _ => by rename_i h; exact absurd rfl h⟩
theorem md_mJ4_init : MDOK onm mJ4_init ∧ (mJ4_init.2.2.2.2.2 ≠ [] → plainName mJ4_init.2.1.cls = true) := ⟨⟨by decide +kernel, rfl, by decide⟩, fun _ => by rename_i h; exact absurd rfl h⟩
theorem md_mJ4_addEntry : MDOK onm mJ4_addEntry ∧ (mJ4_addEntry.2.2.2.2.2 ≠ [] → plainName mJ4_addEntry.2.1.cls = true) := ⟨⟨by decide +kernel, rfl, by decide⟩, fun _ => by rename_i h; exact absurd rfl h⟩
theorem md_mJ4_addEntryToEmptyMap : MDOK onm mJ4_addEntryToEmptyMap ∧ (mJ4_addEntryToEmptyMap.2.2.2.2.2 ≠ [] → plainName mJ4_addEntryToEmptyMap.2.1.cls = true) := ⟨⟨by decide +kernel, rfl, by decide⟩, fun _ => by rename_i h; exact absurd rfl h⟩
theorem md_mJ4_clear : MDOK onm mJ4_clear ∧ (mJ4_clear.2.2.2.2.2 ≠ [] → plainName mJ4_clear.2.1.cls = true) := ⟨⟨by decide +kernel, rfl, by decide⟩, fun _ => by rename_i h; exact absurd rfl h⟩
theorem md_mJ4_colorOf : MDOK onm mJ4_colorOf ∧ (mJ4_colorOf.2.2.2.2.2 ≠ [] → plainName mJ4_colorOf.2.1.cls = true) := ⟨⟨by decide +kernel, rfl, by decide⟩, fun _ => by rename_i h; exact absurd rfl h⟩
theorem md_mJ4_compare : MDOK onm mJ4_compare ∧ (mJ4_compare.2.2.2.2.2 ≠ [] → plainName mJ4_compare.2.1.cls = true) := ⟨⟨by decide +kernel, rfl, by decide⟩, fun _ => by rename_i h; exact absurd rfl h⟩
theorem md_mJ4_containsKey : MDOK onm mJ4_containsKey ∧ (mJ4_containsKey.2.2.2.2.2 ≠ [] → plainName mJ4_containsKey.2.1.cls = true) := ⟨⟨by decide +kernel, rfl, by decide⟩, fun _ => by rename_i h; exact absurd rfl h⟩
theorem md_mJ4_deleteEntry : MDOK onm mJ4_deleteEntry ∧ (mJ4_deleteEntry.2.2.2.2.2 ≠ [] → plainName mJ4_deleteEntry.2.1.cls = true) := ⟨⟨by decide +kernel, rfl, by decide⟩, fun _ => by rename_i h; exact absurd rfl h⟩
theorem md_mJ4_exportEntry : MDOK onm mJ4_exportEntry ∧ (mJ4_exportEntry.2.2.2.2.2 ≠ [] → plainName mJ4_exportEntry.2.1.cls = true) := ⟨⟨by decide +kernel, rfl, by decide⟩, fun _ => by rename_i h; exact absurd rfl h⟩
theorem md_mJ4_fixAfterDeletion : MDOK onm mJ4_fixAfterDeletion ∧ (mJ4_fixAfterDeletion.2.2.2.2.2 ≠ [] → plainName mJ4_fixAfterDeletion.2.1.cls = true) := ⟨⟨by decide +kernel, rfl, by decide⟩, fun _ => by rename_i h; exact absurd rfl h⟩
theorem md_mJ4_fixAfterInsertion : MDOK onm mJ4_fixAfterInsertion ∧ (mJ4_fixAfterInsertion.2.2.2.2.2 ≠ [] → plainName mJ4_fixAfterInsertion.2.1.cls = true) := ⟨⟨by decide +kernel, rfl, by decide⟩, fun _ => by rename_i h; exact absurd rfl h⟩
theorem md_mJ4_floorEntry : MDOK onm mJ4_floorEntry ∧ (mJ4_floorEntry.2.2.2.2.2 ≠ [] → plainName mJ4_floorEntry.2.1.cls = true) := ⟨⟨by decide +kernel, rfl, by decide⟩, fun _ => by rename_i h; exact absurd rfl h⟩
theorem md_mJ4_get : MDOK onm mJ4_get ∧ (mJ4_get.2.2.2.2.2 ≠ [] → plainName mJ4_get.2.1.cls = true) := ⟨⟨by decide +kernel, rfl, by decide⟩, fun _ => by rename_i h; exact absurd rfl h⟩
theorem md_mJ4_getCeilingEntry : MDOK onm mJ4_getCeilingEntry ∧ (mJ4_getCeilingEntry.2.2.2.2.2 ≠ [] → plainName mJ4_getCeilingEntry.2.1.cls = true) := ⟨⟨by decide +kernel, rfl, by decide⟩, fun _ => by rename_i h; exact absurd rfl h⟩
theorem md_mJ4_getEntry : MDOK onm mJ4_getEntry ∧ (mJ4_getEntry.2.2.2.2.2 ≠ [] → plainName mJ4_getEntry.2.1.cls = true) := ⟨⟨by decide +kernel, rfl, by decide⟩, fun _ => by rename_i h; exact absurd rfl h⟩
theorem md_mJ4_getFirstEntry : MDOK onm mJ4_getFirstEntry ∧ (mJ4_getFirstEntry.2.2.2.2.2 ≠ [] → plainName mJ4_getFirstEntry.2.1.cls = true) := ⟨⟨by decide +kernel, rfl, by decide⟩, fun _ => by rename_i h; exact absurd rfl h⟩
theorem md_mJ4_getFloorEntry : MDOK onm mJ4_getFloorEntry ∧ (mJ4_getFloorEntry.2.2.2.2.2 ≠ [] → plainName mJ4_getFloorEntry.2.1.cls = true) := ⟨⟨by decide +kernel, rfl, by decide⟩, fun _ => by rename_i h; exact absurd rfl h⟩
theorem md_mJ4_getHigherEntry : MDOK onm mJ4_getHigherEntry ∧ (mJ4_getHigherEntry.2.2.2.2.2 ≠ [] → plainName mJ4_getHigherEntry.2.1.cls = true) := ⟨⟨by decide +kernel, rfl, by decide⟩, fun _ => by rename_i h; exact absurd rfl h⟩
theorem md_mJ4_getLastEntry : MDOK onm mJ4_getLastEntry ∧ (mJ4_getLastEntry.2.2.2.2.2 ≠ [] → plainName mJ4_getLastEntry.2.1.cls = true) := ⟨⟨by decide +kernel, rfl, by decide⟩, fun _ => by rename_i h; exact absurd rfl h⟩
theorem md_mJ4_getLowerEntry : MDOK onm mJ4_getLowerEntry ∧ (mJ4_getLowerEntry.2.2.2.2.2 ≠ [] → plainName mJ4_getLowerEntry.2.1.cls = true) := ⟨⟨by decide +kernel, rfl, by decide⟩, fun _ => by rename_i h; exact absurd rfl h⟩
theorem md_mJ4_lastEntry : MDOK onm mJ4_lastEntry ∧ (mJ4_lastEntry.2.2.2.2.2 ≠ [] → plainName mJ4_lastEntry.2.1.cls = true) := ⟨⟨by decide +kernel, rfl, by decide⟩, fun _ => by rename_i h; exact absurd rfl h⟩
theorem md_mJ4_leftOf : MDOK onm mJ4_leftOf ∧ (mJ4_leftOf.2.2.2.2.2 ≠ [] → plainName mJ4_leftOf.2.1.cls = true) := ⟨⟨by decide +kernel, rfl, by decide⟩, fun _ => by rename_i h; exact absurd rfl h⟩
theorem md_mJ4_lowerEntry : MDOK onm mJ4_lowerEntry ∧ (mJ4_lowerEntry.2.2.2.2.2 ≠ [] → plainName mJ4_lowerEntry.2.1.cls = true) := ⟨⟨by decide +kernel, rfl, by decide⟩, fun _ => by rename_i h; exact absurd rfl h⟩
theorem md_mJ4_parentOf : MDOK onm mJ4_parentOf ∧ (mJ4_parentOf.2.2.2.2.2 ≠ [] → plainName mJ4_parentOf.2.1.cls = true) := ⟨⟨by decide +kernel, rfl, by decide⟩, fun _ => by rename_i h; exact absurd rfl h⟩
theorem md_mJ4_put : MDOK onm mJ4_put ∧ (mJ4_put.2.2.2.2.2 ≠ [] → plainName mJ4_put.2.1.cls = true) := ⟨⟨by decide +kernel, rfl, by decide⟩, fun _ => by rename_i h; exact absurd rfl h⟩
theorem md_mJ4_put_2 : MDOK onm mJ4_put_2 ∧ (mJ4_put_2.2.2.2.2.2 ≠ [] → plainName mJ4_put_2.2.1.cls = true) := ⟨⟨by decide +kernel, rfl, by decide⟩, fun _ => by rename_i h; exact absurd rfl h⟩
theorem md_mJ4_rightOf : MDOK onm mJ4_rightOf ∧ (mJ4_rightOf.2.2.2.2.2 ≠ [] → plainName mJ4_rightOf.2.1.cls = true) := ⟨⟨by decide +kernel, rfl, by decide⟩, fun _ => by rename_i h; exact absurd rfl h⟩
theorem md_mJ4_rotateLeft : MDOK onm mJ4_rotateLeft ∧ (mJ4_rotateLeft.2.2.2.2.2 ≠ [] → plainName mJ4_rotateLeft.2.1.cls = true) := ⟨⟨by decide +kernel, rfl, by decide⟩, fun _ => by rename_i h; exact absurd rfl h⟩
theorem md_mJ4_rotateRight : MDOK onm mJ4_rotateRight ∧ (mJ4_rotateRight.2.2.2.2.2 ≠ [] → plainName mJ4_rotateRight.2.1.cls = true) := ⟨⟨by decide +kernel, rfl, by decide⟩, fun _ => by rename_i h; exact absurd rfl h⟩
theorem md_mJ4_setColor : MDOK onm mJ4_setColor ∧ (mJ4_setColor.2.2.2.2.2 ≠ [] → plainName mJ4_setColor.2.1.cls = true) := ⟨⟨by decide +kernel, rfl, by decide⟩, fun _ => by rename_i h; exact absurd rfl h⟩
theorem md_mJ4_size : MDOK onm mJ4_size ∧ (mJ4_size.2.2.2.2.2 ≠ [] → plainName mJ4_size.2.1.cls = true) := ⟨⟨by decide +kernel, rfl, by decide⟩, fun _ => by rename_i h; exact absurd rfl h⟩
theorem md_mJ4_subMap : MDOK onm mJ4_subMap ∧ (mJ4_subMap.2.2.2.2.2 ≠ [] → plainName mJ4_subMap.2.1.cls = true) := ⟨⟨by decide +kernel, rfl, by decide⟩, fun _ => by rename_i h; exact absurd rfl h⟩
theorem md_mJ4_subMap_2 : MDOK onm mJ4_subMap_2 ∧ (mJ4_subMap_2.2.2.2.2.2 ≠ [] → plainName mJ4_subMap_2.2.1.cls = true) := ⟨⟨by decide +kernel, rfl, by decide⟩, fun _ => by rename_i h; exact absurd rfl h⟩
theorem md_mJ4_successor : MDOK onm mJ4_successor ∧ (mJ4_successor.2.2.2.2.2 ≠ [] → plainName mJ4_successor.2.1.cls = true) := ⟨⟨by decide +kernel, rfl, by decide⟩, fun _ => by rename_i h; exact absurd rfl h⟩
theorem md_mJ4_values : MDOK onm mJ4_values ∧ (mJ4_values.2.2.2.2.2 ≠ [] → plainName mJ4_values.2.1.cls = true) := ⟨⟨by decide +kernel, rfl, by decide⟩, fun _ => by rename_i h; exact absurd rfl h⟩
theorem md_mJ48_init : MDOK onm mJ48_init ∧ (mJ48_init.2.2.2.2.2 ≠ [] → plainName mJ48_init.2.1.cls = true) := ⟨⟨by decide +kernel, rfl, by decide⟩, fun _ => by rename_i h; exact absurd rfl h⟩
theorem md_mJ48_entrySet : MDOK onm mJ48_entrySet ∧ (mJ48_entrySet.2.2.2.2.2 ≠ [] → plainName mJ48_entrySet.2.1.cls = true) := ⟨⟨by decide +kernel, rfl, by decide⟩, fun _ => by rename_i h; exact absurd rfl h⟩
theorem md_mJ36_init : MDOK onm mJ36_init ∧ (mJ36_init.2.2.2.2.2 ≠ [] → plainName mJ36_init.2.1.cls = true) := ⟨⟨by decide +kernel, rfl, by decide⟩, fun _ => by rename_i h; exact absurd rfl h⟩
theorem md_mJ36_iterator : MDOK onm mJ36_iterator ∧ (mJ36_iterator.2.2.2.2.2 ≠ [] → plainName mJ36_iterator.2.1.cls = true) := ⟨⟨by decide +kernel, rfl, by decide⟩, fun _ => by rename_i h; exact absurd rfl h⟩
theorem md_mJ30_init : MDOK onm mJ30_init ∧ (mJ30_init.2.2.2.2.2 ≠ [] → plainName mJ30_init.2.1.cls = true) := ⟨⟨by decide +kernel, rfl, by decide⟩, fun _ => by rename_i h; exact absurd rfl h⟩
theorem md_mJ30_getKey : MDOK onm mJ30_getKey ∧ (mJ30_getKey.2.2.2.2.2 ≠ [] → plainName mJ30_getKey.2.1.cls = true) := ⟨⟨by decide +kernel, rfl, by decide⟩, fun _ => by rename_i h; exact absurd rfl h⟩
theorem md_mJ30_getValue : MDOK onm mJ30_getValue ∧ (mJ30_getValue.2.2.2.2.2 ≠ [] → plainName mJ30_getValue.2.1.cls = true) := ⟨⟨by decide +kernel, rfl, by decide⟩, fun _ => by rename_i h; exact absurd rfl h⟩
theorem md_mJ40_init : MDOK onm mJ40_init ∧ (mJ40_init.2.2.2.2.2 ≠ [] → plainName mJ40_init.2.1.cls = true) := ⟨⟨by decide +kernel, rfl, by decide⟩, fun _ => by rename_i h; exact absurd rfl h⟩
theorem md_mJ34_init : MDOK onm mJ34_init ∧ (mJ34_init.2.2.2.2.2 ≠ [] → plainName mJ34_init.2.1.cls = true) := ⟨⟨by decide +kernel, rfl, by decide⟩, fun _ => by rename_i h; exact absurd rfl h⟩
theorem md_mJ47_init : MDOK onm mJ47_init ∧ (mJ47_init.2.2.2.2.2 ≠ [] → plainName mJ47_init.2.1.cls = true) := ⟨⟨by decide +kernel, rfl, by decide⟩, fun _ => by rename_i h; exact absurd rfl h⟩
theorem md_mJ47_absHighFence : MDOK onm mJ47_absHighFence ∧ (mJ47_absHighFence.2.2.2.2.2 ≠ [] → plainName mJ47_absHighFence.2.1.cls = true) := ⟨⟨by decide +kernel, rfl, by decide⟩, fun _ => by rename_i h; exact absurd rfl h⟩
theorem md_mJ47_absLowest : MDOK onm mJ47_absLowest ∧ (mJ47_absLowest.2.2.2.2.2 ≠ [] → plainName mJ47_absLowest.2.1.cls = true) := ⟨⟨by decide +kernel, rfl, by decide⟩, fun _ => by rename_i h; exact absurd rfl h⟩
theorem md_mJ47_containsKey : MDOK onm mJ47_containsKey ∧ (mJ47_containsKey.2.2.2.2.2 ≠ [] → plainName mJ47_containsKey.2.1.cls = true) := ⟨⟨by decide +kernel, rfl, by decide⟩, fun _ => by rename_i h; exact absurd rfl h⟩
theorem md_mJ47_get : MDOK onm mJ47_get ∧ (mJ47_get.2.2.2.2.2 ≠ [] → plainName mJ47_get.2.1.cls = true) := ⟨⟨by decide +kernel, rfl, by decide⟩, fun _ => by rename_i h; exact absurd rfl h⟩
theorem md_mJ47_inRange : MDOK onm mJ47_inRange ∧ (mJ47_inRange.2.2.2.2.2 ≠ [] → plainName mJ47_inRange.2.1.cls = true) := ⟨⟨by decide +kernel, rfl, by decide⟩, fun _ => by rename_i h; exact absurd rfl h⟩
theorem md_mJ47_tooHigh : MDOK onm mJ47_tooHigh ∧ (mJ47_tooHigh.2.2.2.2.2 ≠ [] → plainName mJ47_tooHigh.2.1.cls = true) := ⟨⟨by decide +kernel, rfl, by decide⟩, fun _ => by rename_i h; exact absurd rfl h⟩
theorem md_mJ47_tooLow : MDOK onm mJ47_tooLow ∧ (mJ47_tooLow.2.2.2.2.2 ≠ [] → plainName mJ47_tooLow.2.1.cls = true) := ⟨⟨by decide +kernel, rfl, by decide⟩, fun _ => by rename_i h; exact absurd rfl h⟩
theorem md_mJ35_init : MDOK onm mJ35_init ∧ (mJ35_init.2.2.2.2.2 ≠ [] → plainName mJ35_init.2.1.cls = true) := ⟨⟨by decide +kernel, rfl, by decide⟩, fun _ => by rename_i h; exact absurd rfl h⟩
theorem md_mJ35_size : MDOK onm mJ35_size ∧ (mJ35_size.2.2.2.2.2 ≠ [] → plainName mJ35_size.2.1.cls = true) := ⟨⟨by decide +kernel, rfl, by decide⟩, fun _ => by rename_i h; exact absurd rfl h⟩
theorem md_mJ38_init : MDOK onm mJ38_init ∧ (mJ38_init.2.2.2.2.2 ≠ [] → plainName mJ38_init.2.1.cls = true) := ⟨⟨by decide +kernel, rfl, by decide⟩, fun _ => by rename_i h; exact absurd rfl h⟩
theorem md_mJ38_next : MDOK onm mJ38_next ∧ (mJ38_next.2.2.2.2.2 ≠ [] → plainName mJ38_next.2.1.cls = true) := ⟨⟨by decide +kernel, rfl, by decide⟩, fun _ => by rename_i h; exact absurd rfl h⟩
theorem md_mJ38_next_2 : MDOK onm mJ38_next_2 ∧ (mJ38_next_2.2.2.2.2.2 ≠ [] → plainName mJ38_next_2.2.1.cls = true) := ⟨⟨by decide +kernel, rfl, by decide⟩, fun _ => by rename_i h; exact absurd rfl h⟩
theorem md_mJ38_remove : MDOK onm mJ38_remove ∧ (mJ38_remove.2.2.2.2.2 ≠ [] → plainName mJ38_remove.2.1.cls = true) := ⟨⟨by decide +kernel, rfl, by decide⟩, fun _ => by rename_i h; exact absurd rfl h⟩
theorem md_mJ37_init : MDOK onm mJ37_init ∧ (mJ37_init.2.2.2.2.2 ≠ [] → plainName mJ37_init.2.1.cls = true) := ⟨⟨by decide +kernel, rfl, by decide⟩, fun _ => by rename_i h; exact absurd rfl h⟩
theorem md_mJ37_hasNext : MDOK onm mJ37_hasNext ∧ (mJ37_hasNext.2.2.2.2.2 ≠ [] → plainName mJ37_hasNext.2.1.cls = true) := ⟨⟨by decide +kernel, rfl, by decide⟩, fun _ => by rename_i h; exact absurd rfl h⟩
theorem md_mJ37_nextEntry : MDOK onm mJ37_nextEntry ∧ (mJ37_nextEntry.2.2.2.2.2 ≠ [] → plainName mJ37_nextEntry.2.1.cls = true) := ⟨⟨by decide +kernel, rfl, by decide⟩, fun _ => by rename_i h; exact absurd rfl h⟩
theorem md_mJ37_removeAscending : MDOK onm mJ37_removeAscending ∧ (mJ37_removeAscending.2.2.2.2.2 ≠ [] → plainName mJ37_removeAscending.2.1.cls = true) := ⟨⟨by decide +kernel, rfl, by decide⟩, fun _ => by rename_i h; exact absurd rfl h⟩
theorem md_mJ39_init : MDOK onm mJ39_init ∧ (mJ39_init.2.2.2.2.2 ≠ [] → plainName mJ39_init.2.1.cls = true) := ⟨⟨by decide +kernel, rfl, by decide⟩, fun _ => by rename_i h; exact absurd rfl h⟩
theorem md_mJ39_hasNext : MDOK onm mJ39_hasNext ∧ (mJ39_hasNext.2.2.2.2.2 ≠ [] → plainName mJ39_hasNext.2.1.cls = true) := ⟨⟨by decide +kernel, rfl, by decide⟩, fun _ => by rename_i h; exact absurd rfl h⟩
theorem md_mJ39_nextEntry : MDOK onm mJ39_nextEntry ∧ (mJ39_nextEntry.2.2.2.2.2 ≠ [] → plainName mJ39_nextEntry.2.1.cls = true) := ⟨⟨by decide +kernel, rfl, by decide⟩, fun _ => by rename_i h; exact absurd rfl h⟩
theorem md_mJ39_remove : MDOK onm mJ39_remove ∧ (mJ39_remove.2.2.2.2.2 ≠ [] → plainName mJ39_remove.2.1.cls = true) := ⟨⟨by decide +kernel, rfl, by decide⟩, fun _ => by rename_i h; exact absurd rfl h⟩
theorem md_mJ43_init : MDOK onm mJ43_init ∧ (mJ43_init.2.2.2.2.2 ≠ [] → plainName mJ43_init.2.1.cls = true) := ⟨⟨by decide +kernel, rfl, by decide⟩, fun _ => by rename_i h; exact absurd rfl h⟩
theorem md_mJ43_next : MDOK onm mJ43_next ∧ (mJ43_next.2.2.2.2.2 ≠ [] → plainName mJ43_next.2.1.cls = true) := ⟨⟨by decide +kernel, rfl, by decide⟩, fun _ => by rename_i h; exact absurd rfl h⟩
theorem md_mJ31_init : MDOK onm mJ31_init ∧ (mJ31_init.2.2.2.2.2 ≠ [] → plainName mJ31_init.2.1.cls = true) := ⟨⟨by decide +kernel, rfl, by decide⟩, fun _ => by rename_i h; exact absurd rfl h⟩
theorem md_mJ31_iterator : MDOK onm mJ31_iterator ∧ (mJ31_iterator.2.2.2.2.2 ≠ [] → plainName mJ31_iterator.2.1.cls = true) := ⟨⟨by decide +kernel, rfl, by decide⟩, fun _ => by rename_i h; exact absurd rfl h⟩
theorem md_mJ11_newLength : MDOK onm mJ11_newLength ∧ (mJ11_newLength.2.2.2.2.2 ≠ [] → plainName mJ11_newLength.2.1.cls = true) := ⟨⟨by decide +kernel, rfl, by decide⟩, fun _ => by rename_i h; exact absurd rfl h⟩
theorem md_mJ19_checkIndex : MDOK onm mJ19_checkIndex ∧ (mJ19_checkIndex.2.2.2.2.2 ≠ [] → plainName mJ19_checkIndex.2.1.cls = true) := ⟨⟨by decide +kernel, rfl, by decide⟩, fun _ => by rename_i h; exact absurd rfl h⟩
/-- what an entry of the calls' table must say -/
def TgOK (o mode j k : Nat) (t : Tg) : Prop := k ≠ 9999 ∧ match t with
  | .inr P => PrimOK onm o mode j k P
  | .inl N => MDOK onm N ∧ (N.2.2.2.2.2 ≠ [] → plainName N.2.1.cls = true) ∧ (mode ≠ 0 → mode ≠ 2 → k < 37) ∧ ∀ (base : Nat) (D : va_G) (dA : Nat → ClassId) (sv : Nat → Value) (ro : va_W) (scr : Nat × List Value), CallOK onm kcl (FX kcl nwl_ ncl_ fwl_ stl_ spc_ base D dA sv ro scr) o mode j k N
theorem tG_0_0 : ∀ q ∈ (tL_0.drop 0).take 30, TgOK 0 q.1 q.2.1 q.2.2.1 q.2.2.2 := fa_ (⟨by decide, md_mX1_addAccount.1, md_mX1_addAccount.2, by decide, fun base D dA sv ro scr => callok_V (C := "Leafcredit") rfl rfl rfl rfl od_0 q1815 q1816 q1817 q62 q1818⟩) (fa_ (⟨by decide, md_mX1_makePlant.1, md_mX1_makePlant.2, by decide, fun base D dA sv ro scr => callok_V (C := "Leafcredit") rfl rfl rfl rfl od_1 q1860 q1861 q1862 q62 q1863⟩) (fa_ (⟨by decide, md_mX1_report.1, md_mX1_report.2, by decide, fun base D dA sv ro scr => callok_V (C := "Leafcredit") rfl rfl rfl rfl od_2 q1947 q1948 q1949 q62 q1950⟩) (fa_ (⟨by decide, md_mX1_tellActivity.1, md_mX1_tellActivity.2, by decide, fun base D dA sv ro scr => callok_V (C := "Leafcredit") rfl rfl rfl rfl od_3 q1978 q1979 q1980 q62 q1981⟩) (fa_ (⟨by decide, md_mX1_emissionOf.1, md_mX1_emissionOf.2, by decide, fun base D dA sv ro scr => callok_V (C := "Leafcredit") rfl rfl rfl rfl od_4 q1995 q1996 q1997 q62 q1998⟩) (fa_ (⟨by decide, md_mX1_owed.1, md_mX1_owed.2, by decide, fun base D dA sv ro scr => callok_V (C := "Leafcredit") rfl rfl rfl rfl od_5 q2028 q2029 q2030 q62 q2031⟩) (fa_ (⟨by decide, md_mX1_freeShare.1, md_mX1_freeShare.2, by decide, fun base D dA sv ro scr => callok_V (C := "Leafcredit") rfl rfl rfl rfl od_6 q2040 q2041 q2042 q62 q2043⟩) (fa_ (⟨by decide, md_mX1_cash.1, md_mX1_cash.2, by decide, fun base D dA sv ro scr => callok_V (C := "Leafcredit") rfl rfl rfl rfl od_7 q2047 q2048 q2049 q62 q2050⟩) (fa_ (⟨by decide, md_mX1_setCap.1, md_mX1_setCap.2, by decide, fun base D dA sv ro scr => callok_V (C := "Leafcredit") rfl rfl rfl rfl od_8 q2054 q2055 q2056 q62 q2057⟩) (fa_ (⟨by decide, md_mX1_setBounds.1, md_mX1_setBounds.2, by decide, fun base D dA sv ro scr => callok_V (C := "Leafcredit") rfl rfl rfl rfl od_9 q2201 q2202 q2203 q62 q2204⟩) (fa_ (⟨by decide, md_mX1_bid.1, md_mX1_bid.2, by decide, fun base D dA sv ro scr => callok_V (C := "Leafcredit") rfl rfl rfl rfl od_10 q2208 q2209 q2210 q62 q2211⟩) (fa_ (⟨by decide, md_mX1_auction.1, md_mX1_auction.2, by decide, fun base D dA sv ro scr => callok_V (C := "Leafcredit") rfl rfl rfl rfl od_11 q2258 q2259 q2260 q62 q2261⟩) (fa_ (⟨by decide, md_mX1_price.1, md_mX1_price.2, by decide, fun base D dA sv ro scr => callok_V (C := "Leafcredit") rfl rfl rfl rfl od_12 q2340 q2341 q2342 q62 q2343⟩) (fa_ (⟨by decide, md_mX1_transfer.1, md_mX1_transfer.2, by decide, fun base D dA sv ro scr => callok_V (C := "Leafcredit") rfl rfl rfl rfl od_13 q2347 q2348 q2349 q62 q2350⟩) (fa_ (⟨by decide, md_mX1_confirm.1, md_mX1_confirm.2, by decide, fun base D dA sv ro scr => callok_V (C := "Leafcredit") rfl rfl rfl rfl od_14 q2643 q2644 q2645 q62 q2646⟩) (fa_ (⟨by decide, md_mX1_trust.1, md_mX1_trust.2, by decide, fun base D dA sv ro scr => callok_V (C := "Leafcredit") rfl rfl rfl rfl od_15 q2654 q2655 q2656 q62 q2657⟩) (fa_ (⟨by decide, md_mX1_freeze.1, md_mX1_freeze.2, by decide, fun base D dA sv ro scr => callok_V (C := "Leafcredit") rfl rfl rfl rfl od_16 q2661 q2662 q2663 q62 q2664⟩) (fa_ (⟨by decide, md_mX1_release.1, md_mX1_release.2, by decide, fun base D dA sv ro scr => callok_V (C := "Leafcredit") rfl rfl rfl rfl od_17 q2695 q2696 q2697 q62 q2698⟩) (fa_ (⟨by decide, md_mX1_stateOf.1, md_mX1_stateOf.2, by decide, fun base D dA sv ro scr => callok_V (C := "Leafcredit") rfl rfl rfl rfl od_18 q2702 q2703 q2704 q62 q2705⟩) (fa_ (⟨by decide, md_mX1_units.1, md_mX1_units.2, by decide, fun base D dA sv ro scr => callok_V (C := "Leafcredit") rfl rfl rfl rfl od_19 q2709 q2710 q2711 q62 q2712⟩) (fa_ (⟨by decide, md_mX1_usable.1, md_mX1_usable.2, by decide, fun base D dA sv ro scr => callok_V (C := "Leafcredit") rfl rfl rfl rfl od_20 q2716 q2717 q2718 q62 q2719⟩) (fa_ (⟨by decide, md_mX1_holderOf.1, md_mX1_holderOf.2, by decide, fun base D dA sv ro scr => callok_V (C := "Leafcredit") rfl rfl rfl rfl od_21 q2723 q2724 q2725 q62 q2726⟩) (fa_ (⟨by decide, md_mX1_vintageOf.1, md_mX1_vintageOf.2, by decide, fun base D dA sv ro scr => callok_V (C := "Leafcredit") rfl rfl rfl rfl od_22 q2734 q2735 q2736 q62 q2737⟩) (fa_ (⟨by decide, md_mX1_isFrozen.1, md_mX1_isFrozen.2, by decide, fun base D dA sv ro scr => callok_V (C := "Leafcredit") rfl rfl rfl rfl od_23 q2741 q2742 q2743 q62 q2744⟩) (fa_ (⟨by decide, md_mX1_surrender.1, md_mX1_surrender.2, by decide, fun base D dA sv ro scr => callok_V (C := "Leafcredit") rfl rfl rfl rfl od_24 q2748 q2749 q2750 q62 q2751⟩) (fa_ (⟨by decide, md_mX1_surrendered.1, md_mX1_surrendered.2, by decide, fun base D dA sv ro scr => callok_V (C := "Leafcredit") rfl rfl rfl rfl od_25 q2756 q2757 q2758 q62 q2759⟩) (fa_ (⟨by decide, md_mX1_addProject.1, md_mX1_addProject.2, by decide, fun base D dA sv ro scr => callok_V (C := "Leafcredit") rfl rfl rfl rfl od_26 q2763 q2764 q2765 q62 q2766⟩) (fa_ (⟨by decide, md_mX1_verify.1, md_mX1_verify.2, by decide, fun base D dA sv ro scr => callok_V (C := "Leafcredit") rfl rfl rfl rfl od_27 q2801 q2802 q2803 q62 q2804⟩) (fa_ (⟨by decide, md_mX1_reverse.1, md_mX1_reverse.2, by decide, fun base D dA sv ro scr => callok_V (C := "Leafcredit") rfl rfl rfl rfl od_28 q2821 q2822 q2823 q62 q2824⟩) (fa_ (⟨by decide, md_mX1_addGood.1, md_mX1_addGood.2, by decide, fun base D dA sv ro scr => callok_V (C := "Leafcredit") rfl rfl rfl rfl od_29 q2828 q2829 q2830 q62 q2831⟩) (fn_))))))))))))))))))))))))))))))
theorem tG_0_1 : ∀ q ∈ (tL_0.drop 30).take 30, TgOK 0 q.1 q.2.1 q.2.2.1 q.2.2.2 := fa_ (⟨by decide, md_mX1_embedded.1, md_mX1_embedded.2, by decide, fun base D dA sv ro scr => callok_V (C := "Leafcredit") rfl rfl rfl rfl od_30 q2851 q2852 q2853 q62 q2854⟩) (fa_ (⟨by decide, md_mX1_importGood.1, md_mX1_importGood.2, by decide, fun base D dA sv ro scr => callok_V (C := "Leafcredit") rfl rfl rfl rfl od_31 q2864 q2865 q2866 q62 q2867⟩) (fa_ (⟨by decide, md_mX1_advance.1, md_mX1_advance.2, by decide, fun base D dA sv ro scr => callok_V (C := "Leafcredit") rfl rfl rfl rfl od_32 q2871 q2872 q2873 q62 q2874⟩) (fa_ (⟨by decide, md_mX1_offsetShare.1, md_mX1_offsetShare.2, by decide, fun base D dA sv ro scr => callok_V (C := "Leafcredit") rfl rfl rfl rfl od_33 q2967 q2968 q2969 q62 q2970⟩) (fa_ (⟨by decide, md_mX1_meanVintage.1, md_mX1_meanVintage.2, by decide, fun base D dA sv ro scr => callok_V (C := "Leafcredit") rfl rfl rfl rfl od_34 q2974 q2975 q2976 q62 q2977⟩) (fa_ (⟨by decide, md_mX1_init.1, md_mX1_init.2, by decide, fun base D dA sv ro scr => callok_I rfl rfl rfl rfl od_35 q139 q140 q62 q141⟩) (fa_ (⟨by decide, md_mX5_init.1, md_mX5_init.2, by decide, fun base D dA sv ro scr => callok_I rfl rfl rfl rfl od_36 q2980 q2981 q81 q2982⟩) (fa_ (⟨by decide, md_mX0_addAccount.1, md_mX0_addAccount.2, by decide, fun base D dA sv ro scr => callok_SW (by decide) rfl od_37 q1810 q1811 q61 q1812⟩) (fa_ (⟨by decide, md_mX5_addAccount.1, md_mX5_addAccount.2, by decide, fun base D dA sv ro scr => callok_V (C := "LeafcreditModel") rfl rfl rfl rfl od_38 q3147 q3148 q3149 q81 q3150⟩) (fa_ (⟨by decide, md_mX5_thrown.1, md_mX5_thrown.2, by decide, fun base D dA sv ro scr => callok_V (C := "LeafcreditModel") rfl rfl rfl rfl od_39 q3143 q3144 q3145 q81 q3146⟩) (fa_ (⟨by decide, md_mX0_makePlant.1, md_mX0_makePlant.2, by decide, fun base D dA sv ro scr => callok_SW (by decide) rfl od_40 q1833 q1834 q61 q1835⟩) (fa_ (⟨by decide, md_mX5_makePlant.1, md_mX5_makePlant.2, by decide, fun base D dA sv ro scr => callok_V (C := "LeafcreditModel") rfl rfl rfl rfl od_41 q3156 q3157 q3158 q81 q3159⟩) (fa_ (⟨by decide, md_mX0_report.1, md_mX0_report.2, by decide, fun base D dA sv ro scr => callok_SW (by decide) rfl od_42 q1943 q1944 q61 q1945⟩) (fa_ (⟨by decide, md_mX5_report.1, md_mX5_report.2, by decide, fun base D dA sv ro scr => callok_V (C := "LeafcreditModel") rfl rfl rfl rfl od_43 q3173 q3174 q3175 q81 q3176⟩) (fa_ (⟨by decide, md_mX0_tellActivity.1, md_mX0_tellActivity.2, by decide, fun base D dA sv ro scr => callok_SW (by decide) rfl od_44 q1975 q1976 q61 q1977⟩) (fa_ (⟨by decide, md_mX5_tellActivity.1, md_mX5_tellActivity.2, by decide, fun base D dA sv ro scr => callok_V (C := "LeafcreditModel") rfl rfl rfl rfl od_45 q3179 q3180 q3181 q81 q3182⟩) (fa_ (⟨by decide, md_mX0_emissionOf.1, md_mX0_emissionOf.2, by decide, fun base D dA sv ro scr => callok_SW (by decide) rfl od_46 q1991 q1992 q61 q1993⟩) (fa_ (⟨by decide, md_mX5_emissionOf.1, md_mX5_emissionOf.2, by decide, fun base D dA sv ro scr => callok_V (C := "LeafcreditModel") rfl rfl rfl rfl od_47 q3187 q3188 q3189 q81 q3190⟩) (fa_ (⟨by decide, md_mX0_owed.1, md_mX0_owed.2, by decide, fun base D dA sv ro scr => callok_SW (by decide) rfl od_48 q2025 q2026 q61 q2027⟩) (fa_ (⟨by decide, md_mX5_owed.1, md_mX5_owed.2, by decide, fun base D dA sv ro scr => callok_V (C := "LeafcreditModel") rfl rfl rfl rfl od_49 q3196 q3197 q3198 q81 q3199⟩) (fa_ (⟨by decide, md_mX0_freeShare.1, md_mX0_freeShare.2, by decide, fun base D dA sv ro scr => callok_SW (by decide) rfl od_50 q2037 q2038 q61 q2039⟩) (fa_ (⟨by decide, md_mX5_freeShare.1, md_mX5_freeShare.2, by decide, fun base D dA sv ro scr => callok_V (C := "LeafcreditModel") rfl rfl rfl rfl od_51 q3200 q3201 q3202 q81 q3203⟩) (fa_ (⟨by decide, md_mX0_cash.1, md_mX0_cash.2, by decide, fun base D dA sv ro scr => callok_SW (by decide) rfl od_52 q2044 q2045 q61 q2046⟩) (fa_ (⟨by decide, md_mX5_cash.1, md_mX5_cash.2, by decide, fun base D dA sv ro scr => callok_V (C := "LeafcreditModel") rfl rfl rfl rfl od_53 q3204 q3205 q3206 q81 q3207⟩) (fa_ (⟨by decide, md_mX0_setCap.1, md_mX0_setCap.2, by decide, fun base D dA sv ro scr => callok_SW (by decide) rfl od_54 q2051 q2052 q61 q2053⟩) (fa_ (⟨by decide, md_mX5_setCap.1, md_mX5_setCap.2, by decide, fun base D dA sv ro scr => callok_V (C := "LeafcreditModel") rfl rfl rfl rfl od_55 q3474 q3475 q3476 q81 q3477⟩) (fa_ (⟨by decide, md_mX0_setBounds.1, md_mX0_setBounds.2, by decide, fun base D dA sv ro scr => callok_SW (by decide) rfl od_56 q2198 q2199 q61 q2200⟩) (fa_ (⟨by decide, md_mX5_setBounds.1, md_mX5_setBounds.2, by decide, fun base D dA sv ro scr => callok_V (C := "LeafcreditModel") rfl rfl rfl rfl od_57 q3503 q3504 q3505 q81 q3506⟩) (fa_ (⟨by decide, md_mX0_bid.1, md_mX0_bid.2, by decide, fun base D dA sv ro scr => callok_SW (by decide) rfl od_58 q2205 q2206 q61 q2207⟩) (fa_ (⟨by decide, md_mX5_bid.1, md_mX5_bid.2, by decide, fun base D dA sv ro scr => callok_V (C := "LeafcreditModel") rfl rfl rfl rfl od_59 q3507 q3508 q3509 q81 q3510⟩) (fn_))))))))))))))))))))))))))))))
theorem tG_0_2 : ∀ q ∈ (tL_0.drop 60).take 30, TgOK 0 q.1 q.2.1 q.2.2.1 q.2.2.2 := fa_ (⟨by decide, md_mX0_auction.1, md_mX0_auction.2, by decide, fun base D dA sv ro scr => callok_SW (by decide) rfl od_60 q2255 q2256 q61 q2257⟩) (fa_ (⟨by decide, md_mX5_auction.1, md_mX5_auction.2, by decide, fun base D dA sv ro scr => callok_V (C := "LeafcreditModel") rfl rfl rfl rfl od_61 q3539 q3540 q3541 q81 q3542⟩) (fa_ (⟨by decide, md_mX0_price.1, md_mX0_price.2, by decide, fun base D dA sv ro scr => callok_SW (by decide) rfl od_62 q2337 q2338 q61 q2339⟩) (fa_ (⟨by decide, md_mX5_price.1, md_mX5_price.2, by decide, fun base D dA sv ro scr => callok_V (C := "LeafcreditModel") rfl rfl rfl rfl od_63 q3555 q3556 q3557 q81 q3558⟩) (fa_ (⟨by decide, md_mX1_volume.1, md_mX1_volume.2, by decide, fun base D dA sv ro scr => callok_V (C := "Leafcredit") rfl rfl rfl rfl od_64 q539 q540 q541 q62 q542⟩) (fa_ (⟨by decide, md_mX5_volume.1, md_mX5_volume.2, by decide, fun base D dA sv ro scr => callok_V (C := "LeafcreditModel") rfl rfl rfl rfl od_65 q3559 q3560 q3561 q81 q3562⟩) (fa_ (⟨by decide, md_mX1_reserve.1, md_mX1_reserve.2, by decide, fun base D dA sv ro scr => callok_V (C := "Leafcredit") rfl rfl rfl rfl od_66 q543 q544 q545 q62 q546⟩) (fa_ (⟨by decide, md_mX5_reserve.1, md_mX5_reserve.2, by decide, fun base D dA sv ro scr => callok_V (C := "LeafcreditModel") rfl rfl rfl rfl od_67 q3563 q3564 q3565 q81 q3566⟩) (fa_ (⟨by decide, md_mX1_circulation.1, md_mX1_circulation.2, by decide, fun base D dA sv ro scr => callok_V (C := "Leafcredit") rfl rfl rfl rfl od_68 q547 q548 q549 q62 q550⟩) (fa_ (⟨by decide, md_mX5_circulation.1, md_mX5_circulation.2, by decide, fun base D dA sv ro scr => callok_V (C := "LeafcreditModel") rfl rfl rfl rfl od_69 q3567 q3568 q3569 q81 q3570⟩) (fa_ (⟨by decide, md_mX0_transfer.1, md_mX0_transfer.2, by decide, fun base D dA sv ro scr => callok_SW (by decide) rfl od_70 q2344 q2345 q61 q2346⟩) (fa_ (⟨by decide, md_mX5_transfer.1, md_mX5_transfer.2, by decide, fun base D dA sv ro scr => callok_V (C := "LeafcreditModel") rfl rfl rfl rfl od_71 q3208 q3209 q3210 q81 q3211⟩) (fa_ (⟨by decide, md_mX0_confirm.1, md_mX0_confirm.2, by decide, fun base D dA sv ro scr => callok_SW (by decide) rfl od_72 q2640 q2641 q61 q2642⟩) (fa_ (⟨by decide, md_mX5_confirm.1, md_mX5_confirm.2, by decide, fun base D dA sv ro scr => callok_V (C := "LeafcreditModel") rfl rfl rfl rfl od_73 q3383 q3384 q3385 q81 q3386⟩) (fa_ (⟨by decide, md_mX0_trust.1, md_mX0_trust.2, by decide, fun base D dA sv ro scr => callok_SW (by decide) rfl od_74 q2651 q2652 q61 q2653⟩) (fa_ (⟨by decide, md_mX5_trust.1, md_mX5_trust.2, by decide, fun base D dA sv ro scr => callok_V (C := "LeafcreditModel") rfl rfl rfl rfl od_75 q3391 q3392 q3393 q81 q3394⟩) (fa_ (⟨by decide, md_mX0_freeze.1, md_mX0_freeze.2, by decide, fun base D dA sv ro scr => callok_SW (by decide) rfl od_76 q2658 q2659 q61 q2660⟩) (fa_ (⟨by decide, md_mX5_freeze.1, md_mX5_freeze.2, by decide, fun base D dA sv ro scr => callok_V (C := "LeafcreditModel") rfl rfl rfl rfl od_77 q3395 q3396 q3397 q81 q3398⟩) (fa_ (⟨by decide, md_mX0_release.1, md_mX0_release.2, by decide, fun base D dA sv ro scr => callok_SW (by decide) rfl od_78 q2692 q2693 q61 q2694⟩) (fa_ (⟨by decide, md_mX5_release.1, md_mX5_release.2, by decide, fun base D dA sv ro scr => callok_V (C := "LeafcreditModel") rfl rfl rfl rfl od_79 q3404 q3405 q3406 q81 q3407⟩) (fa_ (⟨by decide, md_mX0_stateOf.1, md_mX0_stateOf.2, by decide, fun base D dA sv ro scr => callok_SW (by decide) rfl od_80 q2699 q2700 q61 q2701⟩) (fa_ (⟨by decide, md_mX5_stateOf.1, md_mX5_stateOf.2, by decide, fun base D dA sv ro scr => callok_V (C := "LeafcreditModel") rfl rfl rfl rfl od_81 q3408 q3409 q3410 q81 q3411⟩) (fa_ (⟨by decide, md_mX0_units.1, md_mX0_units.2, by decide, fun base D dA sv ro scr => callok_SW (by decide) rfl od_82 q2706 q2707 q61 q2708⟩) (fa_ (⟨by decide, md_mX5_units.1, md_mX5_units.2, by decide, fun base D dA sv ro scr => callok_V (C := "LeafcreditModel") rfl rfl rfl rfl od_83 q3412 q3413 q3414 q81 q3415⟩) (fa_ (⟨by decide, md_mX0_usable.1, md_mX0_usable.2, by decide, fun base D dA sv ro scr => callok_SW (by decide) rfl od_84 q2713 q2714 q61 q2715⟩) (fa_ (⟨by decide, md_mX5_usable.1, md_mX5_usable.2, by decide, fun base D dA sv ro scr => callok_V (C := "LeafcreditModel") rfl rfl rfl rfl od_85 q3420 q3421 q3422 q81 q3423⟩) (fa_ (⟨by decide, md_mX1_made.1, md_mX1_made.2, by decide, fun base D dA sv ro scr => callok_V (C := "Leafcredit") rfl rfl rfl rfl od_86 q1296 q1297 q1298 q62 q1299⟩) (fa_ (⟨by decide, md_mX5_made.1, md_mX5_made.2, by decide, fun base D dA sv ro scr => callok_V (C := "LeafcreditModel") rfl rfl rfl rfl od_87 q3424 q3425 q3426 q81 q3427⟩) (fa_ (⟨by decide, md_mX0_holderOf.1, md_mX0_holderOf.2, by decide, fun base D dA sv ro scr => callok_SW (by decide) rfl od_88 q2720 q2721 q61 q2722⟩) (fa_ (⟨by decide, md_mX5_holderOf.1, md_mX5_holderOf.2, by decide, fun base D dA sv ro scr => callok_V (C := "LeafcreditModel") rfl rfl rfl rfl od_89 q3432 q3433 q3434 q81 q3435⟩) (fn_))))))))))))))))))))))))))))))
theorem tG_0_3 : ∀ q ∈ (tL_0.drop 90).take 30, TgOK 0 q.1 q.2.1 q.2.2.1 q.2.2.2 := fa_ (⟨by decide, md_mX0_vintageOf.1, md_mX0_vintageOf.2, by decide, fun base D dA sv ro scr => callok_SW (by decide) rfl od_90 q2731 q2732 q61 q2733⟩) (fa_ (⟨by decide, md_mX5_vintageOf.1, md_mX5_vintageOf.2, by decide, fun base D dA sv ro scr => callok_V (C := "LeafcreditModel") rfl rfl rfl rfl od_91 q3440 q3441 q3442 q81 q3443⟩) (fa_ (⟨by decide, md_mX0_isFrozen.1, md_mX0_isFrozen.2, by decide, fun base D dA sv ro scr => callok_SW (by decide) rfl od_92 q2738 q2739 q61 q2740⟩) (fa_ (⟨by decide, md_mX5_isFrozen.1, md_mX5_isFrozen.2, by decide, fun base D dA sv ro scr => callok_V (C := "LeafcreditModel") rfl rfl rfl rfl od_93 q3444 q3445 q3446 q81 q3447⟩) (fa_ (⟨by decide, md_mX1_blocks.1, md_mX1_blocks.2, by decide, fun base D dA sv ro scr => callok_V (C := "Leafcredit") rfl rfl rfl rfl od_94 q1300 q1301 q1302 q62 q1303⟩) (fa_ (⟨by decide, md_mX5_blocks.1, md_mX5_blocks.2, by decide, fun base D dA sv ro scr => callok_V (C := "LeafcreditModel") rfl rfl rfl rfl od_95 q3448 q3449 q3450 q81 q3451⟩) (fa_ (⟨by decide, md_mX0_surrender.1, md_mX0_surrender.2, by decide, fun base D dA sv ro scr => callok_SW (by decide) rfl od_96 q2745 q2746 q61 q2747⟩) (fa_ (⟨by decide, md_mX5_surrender.1, md_mX5_surrender.2, by decide, fun base D dA sv ro scr => callok_V (C := "LeafcreditModel") rfl rfl rfl rfl od_97 q3457 q3458 q3459 q81 q3460⟩) (fa_ (⟨by decide, md_mX0_surrendered.1, md_mX0_surrendered.2, by decide, fun base D dA sv ro scr => callok_SW (by decide) rfl od_98 q2753 q2754 q61 q2755⟩) (fa_ (⟨by decide, md_mX5_surrendered.1, md_mX5_surrendered.2, by decide, fun base D dA sv ro scr => callok_V (C := "LeafcreditModel") rfl rfl rfl rfl od_99 q3462 q3463 q3464 q81 q3465⟩) (fa_ (⟨by decide, md_mX1_cancelled.1, md_mX1_cancelled.2, by decide, fun base D dA sv ro scr => callok_V (C := "Leafcredit") rfl rfl rfl rfl od_100 q1309 q1310 q1311 q62 q1312⟩) (fa_ (⟨by decide, md_mX5_cancelled.1, md_mX5_cancelled.2, by decide, fun base D dA sv ro scr => callok_V (C := "LeafcreditModel") rfl rfl rfl rfl od_101 q3466 q3467 q3468 q81 q3469⟩) (fa_ (⟨by decide, md_mX1_entries.1, md_mX1_entries.2, by decide, fun base D dA sv ro scr => callok_V (C := "Leafcredit") rfl rfl rfl rfl od_102 q1313 q1314 q1315 q62 q1316⟩) (fa_ (⟨by decide, md_mX5_entries.1, md_mX5_entries.2, by decide, fun base D dA sv ro scr => callok_V (C := "LeafcreditModel") rfl rfl rfl rfl od_103 q3470 q3471 q3472 q81 q3473⟩) (fa_ (⟨by decide, md_mX0_addProject.1, md_mX0_addProject.2, by decide, fun base D dA sv ro scr => callok_SW (by decide) rfl od_104 q2760 q2761 q61 q2762⟩) (fa_ (⟨by decide, md_mX5_addProject.1, md_mX5_addProject.2, by decide, fun base D dA sv ro scr => callok_V (C := "LeafcreditModel") rfl rfl rfl rfl od_105 q3571 q3572 q3573 q81 q3574⟩) (fa_ (⟨by decide, md_mX0_verify.1, md_mX0_verify.2, by decide, fun base D dA sv ro scr => callok_SW (by decide) rfl od_106 q2798 q2799 q61 q2800⟩) (fa_ (⟨by decide, md_mX5_verify.1, md_mX5_verify.2, by decide, fun base D dA sv ro scr => callok_V (C := "LeafcreditModel") rfl rfl rfl rfl od_107 q3610 q3611 q3612 q81 q3613⟩) (fa_ (⟨by decide, md_mX0_reverse.1, md_mX0_reverse.2, by decide, fun base D dA sv ro scr => callok_SW (by decide) rfl od_108 q2818 q2819 q61 q2820⟩) (fa_ (⟨by decide, md_mX5_reverse.1, md_mX5_reverse.2, by decide, fun base D dA sv ro scr => callok_V (C := "LeafcreditModel") rfl rfl rfl rfl od_109 q3621 q3622 q3623 q81 q3624⟩) (fa_ (⟨by decide, md_mX0_addGood.1, md_mX0_addGood.2, by decide, fun base D dA sv ro scr => callok_SW (by decide) rfl od_110 q2825 q2826 q61 q2827⟩) (fa_ (⟨by decide, md_mX5_addGood.1, md_mX5_addGood.2, by decide, fun base D dA sv ro scr => callok_V (C := "LeafcreditModel") rfl rfl rfl rfl od_111 q3625 q3626 q3627 q81 q3628⟩) (fa_ (⟨by decide, md_mX0_embedded.1, md_mX0_embedded.2, by decide, fun base D dA sv ro scr => callok_SW (by decide) rfl od_112 q2848 q2849 q61 q2850⟩) (fa_ (⟨by decide, md_mX5_embedded.1, md_mX5_embedded.2, by decide, fun base D dA sv ro scr => callok_V (C := "LeafcreditModel") rfl rfl rfl rfl od_113 q3649 q3650 q3651 q81 q3652⟩) (fa_ (⟨by decide, md_mX0_importGood.1, md_mX0_importGood.2, by decide, fun base D dA sv ro scr => callok_SW (by decide) rfl od_114 q2861 q2862 q61 q2863⟩) (fa_ (⟨by decide, md_mX5_importGood.1, md_mX5_importGood.2, by decide, fun base D dA sv ro scr => callok_V (C := "LeafcreditModel") rfl rfl rfl rfl od_115 q3669 q3670 q3671 q81 q3672⟩) (fa_ (⟨by decide, md_mX0_advance.1, md_mX0_advance.2, by decide, fun base D dA sv ro scr => callok_SW (by decide) rfl od_116 q2868 q2869 q61 q2870⟩) (fa_ (⟨by decide, md_mX5_advance.1, md_mX5_advance.2, by decide, fun base D dA sv ro scr => callok_V (C := "LeafcreditModel") rfl rfl rfl rfl od_117 q3673 q3674 q3675 q81 q3676⟩) (fa_ (⟨by decide, md_mX1_day.1, md_mX1_day.2, by decide, fun base D dA sv ro scr => callok_V (C := "Leafcredit") rfl rfl rfl rfl od_118 q1326 q1327 q1328 q62 q1329⟩) (fa_ (⟨by decide, md_mX5_day.1, md_mX5_day.2, by decide, fun base D dA sv ro scr => callok_V (C := "LeafcreditModel") rfl rfl rfl rfl od_119 q3690 q3691 q3692 q81 q3693⟩) (fn_))))))))))))))))))))))))))))))
theorem tG_0_4 : ∀ q ∈ (tL_0.drop 120).take 30, TgOK 0 q.1 q.2.1 q.2.2.1 q.2.2.2 := fa_ (⟨by decide, md_mX0_offsetShare.1, md_mX0_offsetShare.2, by decide, fun base D dA sv ro scr => callok_SW (by decide) rfl od_120 q2964 q2965 q61 q2966⟩) (fa_ (⟨by decide, md_mX5_offsetShare.1, md_mX5_offsetShare.2, by decide, fun base D dA sv ro scr => callok_V (C := "LeafcreditModel") rfl rfl rfl rfl od_121 q3694 q3695 q3696 q81 q3697⟩) (fa_ (⟨by decide, md_mX0_meanVintage.1, md_mX0_meanVintage.2, by decide, fun base D dA sv ro scr => callok_SW (by decide) rfl od_122 q2971 q2972 q61 q2973⟩) (fa_ (⟨by decide, md_mX5_meanVintage.1, md_mX5_meanVintage.2, by decide, fun base D dA sv ro scr => callok_V (C := "LeafcreditModel") rfl rfl rfl rfl od_123 q3698 q3699 q3700 q81 q3701⟩) (fa_ (⟨by decide, md_mX1_isSound.1, md_mX1_isSound.2, by decide, fun base D dA sv ro scr => callok_V (C := "Leafcredit") rfl rfl rfl rfl od_124 q1330 q1331 q1332 q62 q1333⟩) (fa_ (⟨by decide, md_mX5_isSound.1, md_mX5_isSound.2, by decide, fun base D dA sv ro scr => callok_V (C := "LeafcreditModel") rfl rfl rfl rfl od_125 q3702 q3703 q3704 q81 q3705⟩) (fn_))))))
theorem tG_0 : ∀ q ∈ tL_0, TgOK 0 q.1 q.2.1 q.2.2.1 q.2.2.2 := tk_ 30 tG_0_0 (tk_ 30 tG_0_1 (tk_ 30 tG_0_2 (tk_ 30 tG_0_3 (tk_ 30 tG_0_4 (fun q h => by cases h)))))
theorem tG_1_0 : ∀ q ∈ (tL_1.drop 0).take 30, TgOK 1 q.1 q.2.1 q.2.2.1 q.2.2.2 := fa_ (⟨by decide, Or.inl ⟨rfl, rfl, q142, q143, q144⟩⟩) (fa_ (⟨by decide, md_mJ2_init.1, md_mJ2_init.2, by decide, fun base D dA sv ro scr => callok_I rfl rfl rfl rfl od_126 q147 q148 q65 q149⟩) (fa_ (⟨by decide, md_mJ4_init.1, md_mJ4_init.2, by decide, fun base D dA sv ro scr => callok_I rfl rfl rfl rfl od_127 q176 q177 q67 q178⟩) (fa_ (⟨by decide, md_mX2_init.1, md_mX2_init.2, by decide, fun base D dA sv ro scr => callok_IN rfl rfl rfl rfl od_128 (List.mem_of_getElem? (i := 105) rfl) q218 q70 q219⟩) (fa_ (⟨by decide, md_mJ6_init.1, md_mJ6_init.2, by decide, fun base D dA sv ro scr => callok_I rfl rfl rfl rfl od_129 q222 q223 q69 q224⟩) (fa_ (⟨by decide, md_mX3_init.1, md_mX3_init.2, by decide, fun base D dA sv ro scr => callok_I rfl rfl rfl rfl od_130 q321 q322 q75 q323⟩) (fa_ (⟨by decide, md_mJ2_add.1, md_mJ2_add.2, by decide, fun base D dA sv ro scr => callok_F (C := "java/util/ArrayList") (x := ⟨"java/util/List", "add", "(Ljava/lang/Object;)Z"⟩) rfl rfl (by decide) rfl od_131 (List.mem_of_getElem? (i := 0) rfl) q375 q379 q381 q65 q383⟩) (fa_ (⟨by decide, md_mJ2_size.1, md_mJ2_size.2, by decide, fun base D dA sv ro scr => callok_F (C := "java/util/ArrayList") (x := ⟨"java/util/List", "size", "()I"⟩) rfl rfl (by decide) rfl od_132 (List.mem_of_getElem? (i := 1) rfl) q1318 q1321 q1323 q65 q1325⟩) (fa_ (⟨by decide, md_mX1_isBetween.1, md_mX1_isBetween.2, by decide, fun base D dA sv ro scr => callok_S rfl rfl od_133 q1820 q1821 q62 q1822⟩) (fa_ (⟨by decide, md_mX1_checkIndex.1, md_mX1_checkIndex.2, by decide, fun base D dA sv ro scr => callok_S rfl rfl od_134 q1868 q1869 q62 q1870⟩) (fa_ (⟨by decide, md_mJ2_get.1, md_mJ2_get.2, by decide, fun base D dA sv ro scr => callok_F (C := "java/util/ArrayList") (x := ⟨"java/util/List", "get", "(I)Ljava/lang/Object;"⟩) rfl rfl (by decide) rfl od_135 (List.mem_of_getElem? (i := 2) rfl) q1887 q1890 q1892 q65 q1894⟩) (fa_ (⟨by decide, md_mJ25_valueOf.1, md_mJ25_valueOf.2, by decide, fun base D dA sv ro scr => callok_S rfl rfl od_136 q1347 q1348 q95 q1349⟩) (fa_ (⟨by decide, md_mX1_year.1, md_mX1_year.2, by decide, fun base D dA sv ro scr => callok_V (C := "Leafcredit") rfl rfl rfl rfl od_137 q1982 q1984 qs19 q62 q1985⟩) (fa_ (⟨by decide, md_mX8_init.1, md_mX8_init.2, by decide, fun base D dA sv ro scr => callok_I rfl rfl rfl rfl od_138 q2129 q2130 q103 q2131⟩) (fa_ (⟨by decide, md_mJ4_put.1, md_mJ4_put.2, by decide, fun base D dA sv ro scr => callok_V (C := "java/util/TreeMap") rfl rfl rfl rfl od_139 q1409 q1410 q1411 q67 q1412⟩) (fa_ (⟨by decide, md_mX9_init.1, md_mX9_init.2, by decide, fun base D dA sv ro scr => callok_I rfl rfl rfl rfl od_140 q2174 q2175 q104 q2176⟩) (fa_ (⟨by decide, md_mJ4_values.1, md_mJ4_values.2, by decide, fun base D dA sv ro scr => callok_V (C := "java/util/TreeMap") rfl rfl rfl rfl od_141 q551 q552 q553 q67 q554⟩) (fa_ (⟨by decide, md_mJ2_iterator.1, md_mJ2_iterator.2, by decide, fun base D dA sv ro scr => callok_F (C := "java/util/ArrayList") (x := ⟨"java/util/Collection", "iterator", "()Ljava/util/Iterator;"⟩) rfl rfl (by decide) rfl od_142 (List.mem_of_getElem? (i := 3) rfl) q566 q1035 q1037 q65 q1039⟩) (fa_ (⟨by decide, md_mJ6_iterator.1, md_mJ6_iterator.2, by decide, fun base D dA sv ro scr => callok_F (C := "java/util/PriorityQueue") (x := ⟨"java/util/Collection", "iterator", "()Ljava/util/Iterator;"⟩) rfl rfl (by decide) rfl od_142 (List.mem_of_getElem? (i := 4) rfl) q566 q1060 q1062 q69 q1064⟩) (fa_ (⟨by decide, md_mJ31_iterator.1, md_mJ31_iterator.2, by decide, fun base D dA sv ro scr => callok_F (C := "java/util/TreeMap$Values") (x := ⟨"java/util/Collection", "iterator", "()Ljava/util/Iterator;"⟩) rfl rfl (by decide) rfl od_142 (List.mem_of_getElem? (i := 5) rfl) q566 q1095 q1097 q105 q1099⟩) (fa_ (⟨by decide, md_mJ36_iterator.1, md_mJ36_iterator.2, by decide, fun base D dA sv ro scr => callok_F (C := "java/util/TreeMap$AscendingSubMap$AscendingEntrySetView") (x := ⟨"java/util/Collection", "iterator", "()Ljava/util/Iterator;"⟩) rfl rfl (by decide) rfl od_142 (List.mem_of_getElem? (i := 6) rfl) q566 q1091 q632 q110 q634⟩) (fa_ (⟨by decide, md_mJ49_iterator.1, md_mJ49_iterator.2, by decide, fun base D dA sv ro scr => callok_F (C := "java/util/AbstractMap$2") (x := ⟨"java/util/Collection", "iterator", "()Ljava/util/Iterator;"⟩) rfl rfl (by decide) rfl od_142 (List.mem_of_getElem? (i := 7) rfl) q566 q570 q572 q129 q574⟩) (fa_ (⟨by decide, md_mJ20_hasNext.1, md_mJ20_hasNext.2, by decide, fun base D dA sv ro scr => callok_F (C := "java/util/ArrayList$Itr") (x := ⟨"java/util/Iterator", "hasNext", "()Z"⟩) rfl rfl (by decide) rfl od_143 (List.mem_of_getElem? (i := 8) rfl) q1113 q1131 q1133 q90 q1135⟩) (fa_ (⟨by decide, md_mJ32_hasNext.1, md_mJ32_hasNext.2, by decide, fun base D dA sv ro scr => callok_F (C := "java/util/AbstractMap$2$1") (x := ⟨"java/util/Iterator", "hasNext", "()Z"⟩) rfl rfl (by decide) rfl od_143 (List.mem_of_getElem? (i := 9) rfl) q1113 q1117 q1119 q106 q1121⟩) (fa_ (⟨by decide, md_mJ37_hasNext.1, md_mJ37_hasNext.2, by decide, fun base D dA sv ro scr => callok_F (C := "java/util/TreeMap$NavigableSubMap$SubMapEntryIterator") (x := ⟨"java/util/Iterator", "hasNext", "()Z"⟩) rfl rfl (by decide) rfl od_143 (List.mem_of_getElem? (i := 10) rfl) q1113 q1153 q1155 q111 q1157⟩) (fa_ (⟨by decide, md_mJ42_hasNext.1, md_mJ42_hasNext.2, by decide, fun base D dA sv ro scr => callok_F (C := "java/util/PriorityQueue$Itr") (x := ⟨"java/util/Iterator", "hasNext", "()Z"⟩) rfl rfl (by decide) rfl od_143 (List.mem_of_getElem? (i := 11) rfl) q1113 q1137 q1139 q116 q1141⟩) (fa_ (⟨by decide, md_mJ39_hasNext.1, md_mJ39_hasNext.2, by decide, fun base D dA sv ro scr => callok_F (C := "java/util/TreeMap$ValueIterator") (x := ⟨"java/util/Iterator", "hasNext", "()Z"⟩) rfl rfl (by decide) rfl od_143 (List.mem_of_getElem? (i := 12) rfl) q1113 q1159 q1149 q113 q1151⟩) (fa_ (⟨by decide, md_mJ20_next.1, md_mJ20_next.2, by decide, fun base D dA sv ro scr => callok_F (C := "java/util/ArrayList$Itr") (x := ⟨"java/util/Iterator", "next", "()Ljava/lang/Object;"⟩) rfl rfl (by decide) rfl od_144 (List.mem_of_getElem? (i := 13) rfl) q1162 q1198 q1200 q90 q1202⟩) (fa_ (⟨by decide, md_mJ32_next.1, md_mJ32_next.2, by decide, fun base D dA sv ro scr => callok_F (C := "java/util/AbstractMap$2$1") (x := ⟨"java/util/Iterator", "next", "()Ljava/lang/Object;"⟩) rfl rfl (by decide) rfl od_144 (List.mem_of_getElem? (i := 14) rfl) q1162 q1165 q1167 q106 q1169⟩) (fa_ (⟨by decide, md_mJ38_next.1, md_mJ38_next.2, by decide, fun base D dA sv ro scr => callok_F (C := "java/util/TreeMap$NavigableSubMap$SubMapEntryIterator") (x := ⟨"java/util/Iterator", "next", "()Ljava/lang/Object;"⟩) rfl rfl (by decide) rfl od_144 (List.mem_of_getElem? (i := 15) rfl) q1162 q1248 q1250 q112 q1252⟩) (fn_))))))))))))))))))))))))))))))
theorem tG_1_1 : ∀ q ∈ (tL_1.drop 30).take 30, TgOK 1 q.1 q.2.1 q.2.2.1 q.2.2.2 := fa_ (⟨by decide, md_mJ42_next.1, md_mJ42_next.2, by decide, fun base D dA sv ro scr => callok_F (C := "java/util/PriorityQueue$Itr") (x := ⟨"java/util/Iterator", "next", "()Ljava/lang/Object;"⟩) rfl rfl (by decide) rfl od_144 (List.mem_of_getElem? (i := 16) rfl) q1162 q1209 q1211 q116 q1213⟩) (fa_ (⟨by decide, md_mJ43_next.1, md_mJ43_next.2, by decide, fun base D dA sv ro scr => callok_F (C := "java/util/TreeMap$ValueIterator") (x := ⟨"java/util/Iterator", "next", "()Ljava/lang/Object;"⟩) rfl rfl (by decide) rfl od_144 (List.mem_of_getElem? (i := 17) rfl) q1162 q1266 q1268 q117 q1270⟩) (fa_ (⟨by decide, md_mX8_isUsable.1, md_mX8_isUsable.2, by decide, fun base D dA sv ro scr => callok_V (C := "Leafcredit$Piece") rfl rfl rfl rfl od_145 q2358 q2359 q2360 q103 q2361⟩) (fa_ (⟨by decide, md_mX8_size.1, md_mX8_size.2, by decide, fun base D dA sv ro scr => callok_V (C := "Leafcredit$Piece") rfl rfl rfl rfl od_146 q1292 q1293 q1294 q103 q1295⟩) (fa_ (⟨by decide, md_mX2_compare.1, md_mX2_compare.2, by decide, fun base D dA sv ro scr => callok_F (C := "Leafcredit$ByPrice") (x := ⟨"java/util/Comparator", "compare", "(Ljava/lang/Object;Ljava/lang/Object;)I"⟩) rfl rfl (by decide) rfl od_147 (List.mem_of_getElem? (i := 18) rfl) q2414 q902 q904 q70 q906⟩) (fa_ (⟨by decide, md_mX14_compare.1, md_mX14_compare.2, by decide, fun base D dA sv ro scr => callok_F (C := "Leafcredit$ByUse") (x := ⟨"java/util/Comparator", "compare", "(Ljava/lang/Object;Ljava/lang/Object;)I"⟩) rfl rfl (by decide) rfl od_147 (List.mem_of_getElem? (i := 19) rfl) q2414 q914 q916 q125 q918⟩) (fa_ (⟨by decide, md_mJ2_add_3.1, md_mJ2_add_3.2, by decide, fun base D dA sv ro scr => callok_F (C := "java/util/ArrayList") (x := ⟨"java/util/List", "add", "(ILjava/lang/Object;)V"⟩) rfl rfl (by decide) rfl od_148 (List.mem_of_getElem? (i := 20) rfl) q2416 q2419 q2421 q65 q2423⟩) (fa_ (⟨by decide, md_mX8_part.1, md_mX8_part.2, by decide, fun base D dA sv ro scr => callok_V (C := "Leafcredit$Piece") rfl rfl rfl rfl od_149 q2630 q2631 q2632 q103 q2633⟩) (fa_ (⟨by decide, md_mX1_checkArgument.1, md_mX1_checkArgument.2, by decide, fun base D dA sv ro scr => callok_S rfl rfl od_150 q1823 q1824 q62 q1825⟩) (fa_ (⟨by decide, md_mX1_checkState.1, md_mX1_checkState.2, by decide, fun base D dA sv ro scr => callok_S rfl rfl od_151 q1828 q1829 q62 q1830⟩) (fa_ (⟨by decide, md_mX1_accountFrom.1, md_mX1_accountFrom.2, by decide, fun base D dA sv ro scr => callok_V (C := "Leafcredit") rfl rfl rfl rfl od_152 q1864 q1866 qs18 q62 q1867⟩) (fa_ (⟨by decide, md_mX7_init.1, md_mX7_init.2, by decide, fun base D dA sv ro scr => callok_IN rfl rfl rfl rfl od_153 (List.mem_of_getElem? (i := 106) rfl) q1902 q89 q1903⟩) (fa_ (⟨by decide, md_mJ2_iterator.1, md_mJ2_iterator.2, by decide, fun base D dA sv ro scr => callok_F (C := "java/util/ArrayList") (x := ⟨"java/util/List", "iterator", "()Ljava/util/Iterator;"⟩) rfl rfl (by decide) rfl od_154 (List.mem_of_getElem? (i := 21) rfl) q1339 q1342 q1037 q65 q1039⟩) (fa_ (⟨by decide, md_mX1_checkPossible.1, md_mX1_checkPossible.2, by decide, fun base D dA sv ro scr => callok_S rfl rfl od_155 q1952 q1953 q62 q1954⟩) (fa_ (⟨by decide, md_mJ12_max_2.1, md_mJ12_max_2.2, by decide, fun base D dA sv ro scr => callok_S rfl rfl od_156 q1972 q1973 q78 q1974⟩) (fa_ (⟨by decide, md_mJ25_intValue.1, md_mJ25_intValue.2, by decide, fun base D dA sv ro scr => callok_V (C := "java/lang/Integer") rfl rfl rfl rfl od_157 q1987 q1988 q1989 q95 q1990⟩) (fa_ (⟨by decide, md_mJ25_intValue.1, md_mJ25_intValue.2, by decide, fun base D dA sv ro scr => callok_V (C := "java/lang/Integer") rfl rfl rfl rfl od_157 q1987 q1988 q1989 q95 q1990⟩) (fa_ (⟨by decide, md_mJ4_containsKey.1, md_mJ4_containsKey.2, by decide, fun base D dA sv ro scr => callok_V (C := "java/util/TreeMap") rfl rfl rfl rfl od_158 q1999 q2000 q2001 q67 q2002⟩) (fa_ (⟨by decide, md_mX1_checkElement.1, md_mX1_checkElement.2, by decide, fun base D dA sv ro scr => callok_S rfl rfl od_159 q2011 q2012 q62 q2013⟩) (fa_ (⟨by decide, md_mJ4_get.1, md_mJ4_get.2, by decide, fun base D dA sv ro scr => callok_V (C := "java/util/TreeMap") rfl rfl rfl rfl od_160 q2016 q2017 q2018 q67 q2019⟩) (fa_ (⟨by decide, md_mJ26_longValue.1, md_mJ26_longValue.2, by decide, fun base D dA sv ro scr => callok_V (C := "java/lang/Long") rfl rfl rfl rfl od_161 q2021 q2022 q2023 q97 q2024⟩) (fa_ (⟨by decide, md_mJ26_longValue.1, md_mJ26_longValue.2, by decide, fun base D dA sv ro scr => callok_V (C := "java/lang/Long") rfl rfl rfl rfl od_161 q2021 q2022 q2023 q97 q2024⟩) (fa_ (⟨by decide, md_mX1_hasEnded.1, md_mX1_hasEnded.2, by decide, fun base D dA sv ro scr => callok_V (C := "Leafcredit") rfl rfl rfl rfl od_162 q2032 q2034 qs20 q62 q2035⟩) (fa_ (⟨by decide, md_mX1_begin.1, md_mX1_begin.2, by decide, fun base D dA sv ro scr => callok_V (C := "Leafcredit") rfl rfl rfl rfl od_163 q2058 q2060 qs21 q62 q2061⟩) (fa_ (⟨by decide, md_mX1_cap.1, md_mX1_cap.2, by decide, fun base D dA sv ro scr => callok_V (C := "Leafcredit") rfl rfl rfl rfl od_164 q2118 q2120 qs22 q62 q2121⟩) (fa_ (⟨by decide, md_mX7_average.1, md_mX7_average.2, by decide, fun base D dA sv ro scr => callok_V (C := "Leafcredit$Plant") rfl rfl rfl rfl od_165 q2062 q2063 q2064 q89 q2065⟩) (fa_ (⟨by decide, md_mX1_make.1, md_mX1_make.2, by decide, fun base D dA sv ro scr => callok_V (C := "Leafcredit") rfl rfl rfl rfl od_166 q2124 q2126 qs23 q62 q2127⟩) (fa_ (⟨by decide, md_mJ12_max.1, md_mJ12_max.2, by decide, fun base D dA sv ro scr => callok_S rfl rfl od_167 q2191 q400 q78 q401⟩) (fa_ (⟨by decide, md_mX1_circulation.1, md_mX1_circulation.2, by decide, fun base D dA sv ro scr => callok_V (C := "Leafcredit") rfl rfl rfl rfl od_68 q2192 q548 q549 q62 q550⟩) (fa_ (⟨by decide, md_mJ12_min_2.1, md_mJ12_min_2.2, by decide, fun base D dA sv ro scr => callok_S rfl rfl od_168 q2194 q2195 q78 q2196⟩) (fn_))))))))))))))))))))))))))))))
theorem tG_1_2 : ∀ q ∈ (tL_1.drop 60).take 30, TgOK 1 q.1 q.2.1 q.2.2.1 q.2.2.2 := fa_ (⟨by decide, md_mJ12_min.1, md_mJ12_min.2, by decide, fun base D dA sv ro scr => callok_S rfl rfl od_169 q2197 q468 q78 q469⟩) (fa_ (⟨by decide, md_mJ6_iterator.1, md_mJ6_iterator.2, by decide, fun base D dA sv ro scr => callok_V (C := "java/util/PriorityQueue") rfl rfl rfl rfl od_170 q2212 q1062 q3710 q69 q1064⟩) (fa_ (⟨by decide, md_mJ6_size.1, md_mJ6_size.2, by decide, fun base D dA sv ro scr => callok_V (C := "java/util/PriorityQueue") rfl rfl rfl rfl od_171 q2214 q2215 q2216 q69 q2217⟩) (fa_ (⟨by decide, md_mX11_init.1, md_mX11_init.2, by decide, fun base D dA sv ro scr => callok_I rfl rfl rfl rfl od_172 q2219 q2220 q119 q2221⟩) (fa_ (⟨by decide, md_mJ6_add.1, md_mJ6_add.2, by decide, fun base D dA sv ro scr => callok_V (C := "java/util/PriorityQueue") rfl rfl rfl rfl od_173 q2241 q2242 q2243 q69 q2244⟩) (fa_ (⟨by decide, md_mJ0_isEmpty.1, md_mJ0_isEmpty.2, by decide, fun base D dA sv ro scr => callok_U (C := "java/util/PriorityQueue") (x := ⟨"java/util/PriorityQueue", "isEmpty", "()Z"⟩) rfl rfl rfl rfl od_174 q2262 q2263 q2265 q2266 q63 q2267⟩) (fa_ (⟨by decide, md_mJ6_poll.1, md_mJ6_poll.2, by decide, fun base D dA sv ro scr => callok_V (C := "java/util/PriorityQueue") rfl rfl rfl rfl od_175 q2320 q2321 q2322 q69 q2323⟩) (fa_ (⟨by decide, md_mJ6_clear.1, md_mJ6_clear.2, by decide, fun base D dA sv ro scr => callok_V (C := "java/util/PriorityQueue") rfl rfl rfl rfl od_176 q2324 q2325 q2326 q69 q2327⟩) (fa_ (⟨by decide, md_mJ2_isEmpty.1, md_mJ2_isEmpty.2, by decide, fun base D dA sv ro scr => callok_F (C := "java/util/ArrayList") (x := ⟨"java/util/List", "isEmpty", "()Z"⟩) rfl rfl (by decide) rfl od_177 (List.mem_of_getElem? (i := 22) rfl) q2329 q2332 q2334 q65 q2336⟩) (fa_ (⟨by decide, md_mX1_isKind.1, md_mX1_isKind.2, by decide, fun base D dA sv ro scr => callok_S rfl rfl od_178 q2351 q2352 q62 q2353⟩) (fa_ (⟨by decide, md_mX1_usableOf.1, md_mX1_usableOf.2, by decide, fun base D dA sv ro scr => callok_V (C := "Leafcredit") rfl rfl rfl rfl od_179 q2354 q2356 qs25 q62 q2357⟩) (fa_ (⟨by decide, md_mX13_init.1, md_mX13_init.2, by decide, fun base D dA sv ro scr => callok_I rfl rfl rfl rfl od_180 q2364 q2365 q124 q2366⟩) (fa_ (⟨by decide, md_mX1_move.1, md_mX1_move.2, by decide, fun base D dA sv ro scr => callok_V (C := "Leafcredit") rfl rfl rfl rfl od_181 q2395 q2397 qs26 q62 q2398⟩) (fa_ (⟨by decide, md_mX14_init.1, md_mX14_init.2, by decide, fun base D dA sv ro scr => callok_I rfl rfl rfl rfl od_182 q2401 q2402 q125 q2403⟩) (fa_ (⟨by decide, md_mX1_taken.1, md_mX1_taken.2, by decide, fun base D dA sv ro scr => callok_V (C := "Leafcredit") rfl rfl rfl rfl od_183 q2409 q2411 qs27 q62 q2412⟩) (fa_ (⟨by decide, md_mX1_write.1, md_mX1_write.2, by decide, fun base D dA sv ro scr => callok_V (C := "Leafcredit") rfl rfl rfl rfl od_184 q2636 q2638 qs30 q62 q2639⟩) (fa_ (⟨by decide, md_mX1_transferWith.1, md_mX1_transferWith.2, by decide, fun base D dA sv ro scr => callok_V (C := "Leafcredit") rfl rfl rfl rfl od_185 q2647 q2649 qs31 q62 q2650⟩) (fa_ (⟨by decide, md_mJ4_subMap.1, md_mJ4_subMap.2, by decide, fun base D dA sv ro scr => callok_V (C := "java/util/TreeMap") rfl rfl rfl rfl od_186 q1491 q1492 q1493 q67 q1494⟩) (fa_ (⟨by decide, md_mX1_piecesOf.1, md_mX1_piecesOf.2, by decide, fun base D dA sv ro scr => callok_V (C := "Leafcredit") rfl rfl rfl rfl od_187 q2665 q2667 qs32 q62 q2668⟩) (fa_ (⟨by decide, md_mJ4_values.1, md_mJ4_values.2, by decide, fun base D dA sv ro scr => callok_F (C := "java/util/TreeMap") (x := ⟨"java/util/Map", "values", "()Ljava/util/Collection;"⟩) rfl rfl (by decide) rfl od_188 (List.mem_of_getElem? (i := 23) rfl) q2670 q2673 q552 q67 q554⟩) (fa_ (⟨by decide, md_mJ3_values.1, md_mJ3_values.2, by decide, fun base D dA sv ro scr => callok_F (C := "java/util/TreeMap$AscendingSubMap") (x := ⟨"java/util/Map", "values", "()Ljava/util/Collection;"⟩) rfl rfl (by decide) rfl od_188 (List.mem_of_getElem? (i := 24) rfl) q2670 q2676 q2678 q66 q2680⟩) (fa_ (⟨by decide, md_mJ4_floorEntry.1, md_mJ4_floorEntry.2, by decide, fun base D dA sv ro scr => callok_V (C := "java/util/TreeMap") rfl rfl rfl rfl od_189 q1802 q1803 q1804 q67 q1805⟩) (fa_ (⟨by decide, md_mJ30_getValue.1, md_mJ30_getValue.2, by decide, fun base D dA sv ro scr => callok_F (C := "java/util/TreeMap$Entry") (x := ⟨"java/util/Map$Entry", "getValue", "()Ljava/lang/Object;"⟩) rfl rfl (by decide) rfl od_190 (List.mem_of_getElem? (i := 25) rfl) q1407 q1286 q1288 q102 q1290⟩) (fa_ (⟨by decide, md_mJ50_getValue.1, md_mJ50_getValue.2, by decide, fun base D dA sv ro scr => callok_F (C := "java/util/AbstractMap$SimpleImmutableEntry") (x := ⟨"java/util/Map$Entry", "getValue", "()Ljava/lang/Object;"⟩) rfl rfl (by decide) rfl od_190 (List.mem_of_getElem? (i := 26) rfl) q1407 q1280 q1282 q130 q1284⟩) (fa_ (⟨by decide, md_mX1_pieceWith.1, md_mX1_pieceWith.2, by decide, fun base D dA sv ro scr => callok_V (C := "Leafcredit") rfl rfl rfl rfl od_191 q2727 q2729 qs33 q62 q2730⟩) (fa_ (⟨by decide, md_mX8_isAlike.1, md_mX8_isAlike.2, by decide, fun base D dA sv ro scr => callok_V (C := "Leafcredit$Piece") rfl rfl rfl rfl od_192 q1304 q1305 q1306 q103 q1307⟩) (fa_ (⟨by decide, md_mX16_init.1, md_mX16_init.2, by decide, fun base D dA sv ro scr => callok_I rfl rfl rfl rfl od_193 q2769 q2770 q131 q2771⟩) (fa_ (⟨by decide, md_mX1_projectWith.1, md_mX1_projectWith.2, by decide, fun base D dA sv ro scr => callok_V (C := "Leafcredit") rfl rfl rfl rfl od_194 q2805 q2807 qs34 q62 q2808⟩) (fa_ (⟨by decide, md_mX16_offsets.1, md_mX16_offsets.2, by decide, fun base D dA sv ro scr => callok_V (C := "Leafcredit$Project") rfl rfl rfl rfl od_195 q2809 q2810 q2811 q131 q2812⟩) (fa_ (⟨by decide, md_mX1_up.1, md_mX1_up.2, by decide, fun base D dA sv ro scr => callok_S rfl rfl od_196 q2815 q2816 q62 q2817⟩) (fn_))))))))))))))))))))))))))))))
theorem tG_1_3 : ∀ q ∈ (tL_1.drop 90).take 30, TgOK 1 q.1 q.2.1 q.2.2.1 q.2.2.2 := fa_ (⟨by decide, md_mX18_init.1, md_mX18_init.2, by decide, fun base D dA sv ro scr => callok_I rfl rfl rfl rfl od_197 q2834 q2835 q133 q2836⟩) (fa_ (⟨by decide, md_mX18_embedded.1, md_mX18_embedded.2, by decide, fun base D dA sv ro scr => callok_V (C := "Leafcredit$Good") rfl rfl rfl rfl od_198 q2855 q2856 q2857 q133 q2858⟩) (fa_ (⟨by decide, md_mX1_end.1, md_mX1_end.2, by decide, fun base D dA sv ro scr => callok_V (C := "Leafcredit") rfl rfl rfl rfl od_199 q2875 q2877 qs35 q62 q2878⟩) (fa_ (⟨by decide, md_mX1_demand.1, md_mX1_demand.2, by decide, fun base D dA sv ro scr => callok_V (C := "Leafcredit") rfl rfl rfl rfl od_200 q2960 q2962 qs36 q62 q2963⟩) (fa_ (⟨by decide, md_mX3_end.1, md_mX3_end.2, by decide, fun base D dA sv ro scr => callok_V (C := "Leafcredit$Account") rfl rfl rfl rfl od_201 q2879 q2880 q2881 q75 q2882⟩) (fa_ (⟨by decide, md_mX1_cut.1, md_mX1_cut.2, by decide, fun base D dA sv ro scr => callok_S rfl rfl od_202 q1344 q1345 q62 q1346⟩) (fa_ (⟨by decide, md_mJ4_lowerEntry.1, md_mJ4_lowerEntry.2, by decide, fun base D dA sv ro scr => callok_V (C := "java/util/TreeMap") rfl rfl rfl rfl od_203 q1366 q1367 q1368 q67 q1369⟩) (fa_ (⟨by decide, md_mX1_byJournal.1, md_mX1_byJournal.2, by decide, fun base D dA sv ro scr => callok_V (C := "Leafcredit") rfl rfl rfl rfl od_204 q1334 q1336 qs4 q62 q1337⟩) (fa_ (⟨by decide, md_mJ3_clear.1, md_mJ3_clear.2, by decide, fun base D dA sv ro scr => spc_1_513⟩) (fn_)))))))))
theorem tG_1 : ∀ q ∈ tL_1, TgOK 1 q.1 q.2.1 q.2.2.1 q.2.2.2 := tk_ 30 tG_1_0 (tk_ 30 tG_1_1 (tk_ 30 tG_1_2 (tk_ 30 tG_1_3 (fun q h => by cases h))))
theorem tG_2_0 : ∀ q ∈ (tL_2.drop 0).take 30, TgOK 2 q.1 q.2.1 q.2.2.1 q.2.2.2 := fa_ (⟨by decide, Or.inl ⟨rfl, rfl, q220, q143, q144⟩⟩) (fa_ (⟨by decide, md_mJ25_compare.1, md_mJ25_compare.2, by decide, fun base D dA sv ro scr => callok_S rfl rfl od_205 q912 q672 q95 q673⟩) (fa_ (⟨by decide, md_mX2_compare_2.1, md_mX2_compare_2.2, by decide, fun base D dA sv ro scr => callok_V (C := "Leafcredit$ByPrice") rfl rfl rfl rfl od_206 q908 q909 q910 q70 q911⟩) (fn_)))
theorem tG_2 : ∀ q ∈ tL_2, TgOK 2 q.1 q.2.1 q.2.2.1 q.2.2.2 := tk_ 30 tG_2_0 (fun q h => by cases h)
theorem tG_3_0 : ∀ q ∈ (tL_3.drop 0).take 30, TgOK 3 q.1 q.2.1 q.2.2.1 q.2.2.2 := fa_ (⟨by decide, Or.inl ⟨rfl, rfl, q324, q143, q144⟩⟩) (fa_ (⟨by decide, md_mX4_init.1, md_mX4_init.2, by decide, fun base D dA sv ro scr => callok_IN rfl rfl rfl rfl od_207 (List.mem_of_getElem? (i := 107) rfl) q328 q76 q329⟩) (fa_ (⟨by decide, md_mJ4_init.1, md_mJ4_init.2, by decide, fun base D dA sv ro scr => callok_I rfl rfl rfl rfl od_127 q338 q177 q67 q178⟩) (fa_ (⟨by decide, md_mJ25_valueOf.1, md_mJ25_valueOf.2, by decide, fun base D dA sv ro scr => callok_S rfl rfl od_136 q2942 q1348 q95 q1349⟩) (fa_ (⟨by decide, md_mJ26_valueOf.1, md_mJ26_valueOf.2, by decide, fun base D dA sv ro scr => callok_S rfl rfl od_208 q2943 q2944 q97 q2945⟩) (fa_ (⟨by decide, md_mJ4_put.1, md_mJ4_put.2, by decide, fun base D dA sv ro scr => callok_V (C := "java/util/TreeMap") rfl rfl rfl rfl od_139 q2959 q1410 q1411 q67 q1412⟩) (fa_ (⟨by decide, md_mX20_ended.1, md_mX20_ended.2, by decide, fun base D dA sv ro scr => spc_3_37⟩) (fa_ (⟨by decide, md_mX20_ended.1, md_mX20_ended.2, by decide, fun base D dA sv ro scr => spc_3_45⟩) (fn_))))))))
theorem tG_3 : ∀ q ∈ tL_3, TgOK 3 q.1 q.2.1 q.2.2.1 q.2.2.2 := tk_ 30 tG_3_0 (fun q h => by cases h)
theorem tG_4_0 : ∀ q ∈ (tL_4.drop 0).take 30, TgOK 4 q.1 q.2.1 q.2.2.1 q.2.2.2 := fa_ (⟨by decide, Or.inl ⟨rfl, rfl, q330, q143, q144⟩⟩) (fn_)
theorem tG_4 : ∀ q ∈ tL_4, TgOK 4 q.1 q.2.1 q.2.2.1 q.2.2.2 := tk_ 30 tG_4_0 (fun q h => by cases h)
theorem tG_5_0 : ∀ q ∈ (tL_5.drop 0).take 30, TgOK 5 q.1 q.2.1 q.2.2.1 q.2.2.2 := fa_ (⟨by decide, Or.inl ⟨rfl, rfl, q2983, q143, q144⟩⟩) (fa_ (⟨by decide, md_mJ2_init.1, md_mJ2_init.2, by decide, fun base D dA sv ro scr => callok_I rfl rfl rfl rfl od_126 q2985 q148 q65 q149⟩) (fa_ (⟨by decide, md_mX6_init.1, md_mX6_init.2, by decide, fun base D dA sv ro scr => callok_I rfl rfl rfl rfl od_209 q2989 q2990 q82 q2991⟩) (fa_ (⟨by decide, md_mJ2_add.1, md_mJ2_add.2, by decide, fun base D dA sv ro scr => callok_V (C := "java/util/ArrayList") rfl rfl rfl rfl od_210 q3072 q381 q3720 q65 q383⟩) (fa_ (⟨by decide, md_mJ2_size.1, md_mJ2_size.2, by decide, fun base D dA sv ro scr => callok_V (C := "java/util/ArrayList") rfl rfl rfl rfl od_211 q3155 q1323 q3721 q65 q1325⟩) (fa_ (⟨by decide, md_mX5_in.1, md_mX5_in.2, by decide, fun base D dA sv ro scr => callok_S rfl rfl od_212 q3152 q3153 q81 q3154⟩) (fa_ (⟨by decide, md_mX5_isOther.1, md_mX5_isOther.2, by decide, fun base D dA sv ro scr => callok_V (C := "LeafcreditModel") rfl rfl rfl rfl od_213 q3160 q3162 qs37 q81 q3163⟩) (fa_ (⟨by decide, md_mJ2_get.1, md_mJ2_get.2, by decide, fun base D dA sv ro scr => callok_V (C := "java/util/ArrayList") rfl rfl rfl rfl od_214 q3167 q1892 q3722 q65 q1894⟩) (fa_ (⟨by decide, md_mJ2_iterator.1, md_mJ2_iterator.2, by decide, fun base D dA sv ro scr => callok_V (C := "java/util/ArrayList") rfl rfl rfl rfl od_215 q3168 q1037 q3723 q65 q1039⟩) (fa_ (⟨by decide, md_mJ20_hasNext.1, md_mJ20_hasNext.2, by decide, fun base D dA sv ro scr => callok_F (C := "java/util/ArrayList$Itr") (x := ⟨"java/util/Iterator", "hasNext", "()Z"⟩) rfl rfl (by decide) rfl od_143 (List.mem_of_getElem? (i := 8) rfl) q3170 q1131 q1133 q90 q1135⟩) (fa_ (⟨by decide, md_mJ32_hasNext.1, md_mJ32_hasNext.2, by decide, fun base D dA sv ro scr => callok_F (C := "java/util/AbstractMap$2$1") (x := ⟨"java/util/Iterator", "hasNext", "()Z"⟩) rfl rfl (by decide) rfl od_143 (List.mem_of_getElem? (i := 9) rfl) q3170 q1117 q1119 q106 q1121⟩) (fa_ (⟨by decide, md_mJ37_hasNext.1, md_mJ37_hasNext.2, by decide, fun base D dA sv ro scr => callok_F (C := "java/util/TreeMap$NavigableSubMap$SubMapEntryIterator") (x := ⟨"java/util/Iterator", "hasNext", "()Z"⟩) rfl rfl (by decide) rfl od_143 (List.mem_of_getElem? (i := 10) rfl) q3170 q1153 q1155 q111 q1157⟩) (fa_ (⟨by decide, md_mJ42_hasNext.1, md_mJ42_hasNext.2, by decide, fun base D dA sv ro scr => callok_F (C := "java/util/PriorityQueue$Itr") (x := ⟨"java/util/Iterator", "hasNext", "()Z"⟩) rfl rfl (by decide) rfl od_143 (List.mem_of_getElem? (i := 11) rfl) q3170 q1137 q1139 q116 q1141⟩) (fa_ (⟨by decide, md_mJ39_hasNext.1, md_mJ39_hasNext.2, by decide, fun base D dA sv ro scr => callok_F (C := "java/util/TreeMap$ValueIterator") (x := ⟨"java/util/Iterator", "hasNext", "()Z"⟩) rfl rfl (by decide) rfl od_143 (List.mem_of_getElem? (i := 12) rfl) q3170 q1159 q1149 q113 q1151⟩) (fa_ (⟨by decide, md_mJ20_next.1, md_mJ20_next.2, by decide, fun base D dA sv ro scr => callok_F (C := "java/util/ArrayList$Itr") (x := ⟨"java/util/Iterator", "next", "()Ljava/lang/Object;"⟩) rfl rfl (by decide) rfl od_144 (List.mem_of_getElem? (i := 13) rfl) q3172 q1198 q1200 q90 q1202⟩) (fa_ (⟨by decide, md_mJ32_next.1, md_mJ32_next.2, by decide, fun base D dA sv ro scr => callok_F (C := "java/util/AbstractMap$2$1") (x := ⟨"java/util/Iterator", "next", "()Ljava/lang/Object;"⟩) rfl rfl (by decide) rfl od_144 (List.mem_of_getElem? (i := 14) rfl) q3172 q1165 q1167 q106 q1169⟩) (fa_ (⟨by decide, md_mJ38_next.1, md_mJ38_next.2, by decide, fun base D dA sv ro scr => callok_F (C := "java/util/TreeMap$NavigableSubMap$SubMapEntryIterator") (x := ⟨"java/util/Iterator", "next", "()Ljava/lang/Object;"⟩) rfl rfl (by decide) rfl od_144 (List.mem_of_getElem? (i := 15) rfl) q3172 q1248 q1250 q112 q1252⟩) (fa_ (⟨by decide, md_mJ42_next.1, md_mJ42_next.2, by decide, fun base D dA sv ro scr => callok_F (C := "java/util/PriorityQueue$Itr") (x := ⟨"java/util/Iterator", "next", "()Ljava/lang/Object;"⟩) rfl rfl (by decide) rfl od_144 (List.mem_of_getElem? (i := 16) rfl) q3172 q1209 q1211 q116 q1213⟩) (fa_ (⟨by decide, md_mJ43_next.1, md_mJ43_next.2, by decide, fun base D dA sv ro scr => callok_F (C := "java/util/TreeMap$ValueIterator") (x := ⟨"java/util/Iterator", "next", "()Ljava/lang/Object;"⟩) rfl rfl (by decide) rfl od_144 (List.mem_of_getElem? (i := 17) rfl) q3172 q1266 q1268 q117 q1270⟩) (fa_ (⟨by decide, md_mJ12_max_2.1, md_mJ12_max_2.2, by decide, fun base D dA sv ro scr => callok_S rfl rfl od_156 q3178 q1973 q78 q1974⟩) (fa_ (⟨by decide, md_mX5_year.1, md_mX5_year.2, by decide, fun base D dA sv ro scr => callok_V (C := "LeafcreditModel") rfl rfl rfl rfl od_216 q3183 q3185 qs38 q81 q3186⟩) (fa_ (⟨by decide, md_mX5_hasEnded.1, md_mX5_hasEnded.2, by decide, fun base D dA sv ro scr => callok_V (C := "LeafcreditModel") rfl rfl rfl rfl od_217 q3191 q3193 qs39 q81 q3194⟩) (fa_ (⟨by decide, md_mX10_init.1, md_mX10_init.2, by decide, fun base D dA sv ro scr => callok_I rfl rfl rfl rfl od_218 q3284 q3285 q118 q3286⟩) (fa_ (⟨by decide, md_mX10_isLocked.1, md_mX10_isLocked.2, by decide, fun base D dA sv ro scr => callok_V (C := "LeafcreditModel$Row") rfl rfl rfl rfl od_219 q3225 q3226 q3227 q118 q3228⟩) (fa_ (⟨by decide, md_mX5_isUsable.1, md_mX5_isUsable.2, by decide, fun base D dA sv ro scr => callok_V (C := "LeafcreditModel") rfl rfl rfl rfl od_220 q3221 q3223 qs41 q81 q3224⟩) (fa_ (⟨by decide, md_mX10_size.1, md_mX10_size.2, by decide, fun base D dA sv ro scr => callok_V (C := "LeafcreditModel$Row") rfl rfl rfl rfl od_221 q3229 q3230 q3231 q118 q3232⟩) (fa_ (⟨by decide, md_mJ2_indexOf.1, md_mJ2_indexOf.2, by decide, fun base D dA sv ro scr => callok_V (C := "java/util/ArrayList") rfl rfl rfl rfl od_222 q3325 q3326 q3327 q65 q3328⟩) (fa_ (⟨by decide, md_mJ2_add_3.1, md_mJ2_add_3.2, by decide, fun base D dA sv ro scr => callok_V (C := "java/util/ArrayList") rfl rfl rfl rfl od_223 q3382 q2421 q3724 q65 q2423⟩) (fa_ (⟨by decide, md_mX5_next.1, md_mX5_next.2, by decide, fun base D dA sv ro scr => callok_V (C := "LeafcreditModel") rfl rfl rfl rfl od_224 q3274 q3276 qs44 q81 q3277⟩) (fa_ (⟨by decide, md_mJ12_min.1, md_mJ12_min.2, by decide, fun base D dA sv ro scr => callok_S rfl rfl od_169 q3278 q468 q78 q469⟩) (fn_))))))))))))))))))))))))))))))
theorem tG_5_1 : ∀ q ∈ (tL_5.drop 30).take 30, TgOK 5 q.1 q.2.1 q.2.2.1 q.2.2.2 := fa_ (⟨by decide, md_mX5_cut.1, md_mX5_cut.2, by decide, fun base D dA sv ro scr => callok_V (C := "LeafcreditModel") rfl rfl rfl rfl od_225 q3279 q3281 qs45 q81 q3282⟩) (fa_ (⟨by decide, md_mX5_take.1, md_mX5_take.2, by decide, fun base D dA sv ro scr => callok_V (C := "LeafcreditModel") rfl rfl rfl rfl od_226 q3270 q3272 qs43 q81 q3273⟩) (fa_ (⟨by decide, md_mX5_isKind.1, md_mX5_isKind.2, by decide, fun base D dA sv ro scr => callok_S rfl rfl od_227 q3212 q3213 q81 q3214⟩) (fa_ (⟨by decide, md_mX5_usableOf.1, md_mX5_usableOf.2, by decide, fun base D dA sv ro scr => callok_V (C := "LeafcreditModel") rfl rfl rfl rfl od_228 q3216 q3218 qs40 q81 q3219⟩) (fa_ (⟨by decide, md_mX15_init.1, md_mX15_init.2, by decide, fun base D dA sv ro scr => callok_I rfl rfl rfl rfl od_229 q3235 q3236 q126 q3237⟩) (fa_ (⟨by decide, md_mX5_move.1, md_mX5_move.2, by decide, fun base D dA sv ro scr => callok_V (C := "LeafcreditModel") rfl rfl rfl rfl od_230 q3266 q3268 qs42 q81 q3269⟩) (fa_ (⟨by decide, md_mX5_isTransfer.1, md_mX5_isTransfer.2, by decide, fun base D dA sv ro scr => callok_V (C := "LeafcreditModel") rfl rfl rfl rfl od_231 q3387 q3389 qs46 q81 q3390⟩) (fa_ (⟨by decide, md_mX5_freeze_2.1, md_mX5_freeze_2.2, by decide, fun base D dA sv ro scr => callok_V (C := "LeafcreditModel") rfl rfl rfl rfl od_232 q3399 q3401 qs47 q81 q3402⟩) (fa_ (⟨by decide, md_mX5_wrongHolder.1, md_mX5_wrongHolder.2, by decide, fun base D dA sv ro scr => callok_V (C := "LeafcreditModel") rfl rfl rfl rfl od_233 q3416 q3418 qs48 q81 q3419⟩) (fa_ (⟨by decide, md_mX5_plain.1, md_mX5_plain.2, by decide, fun base D dA sv ro scr => callok_V (C := "LeafcreditModel") rfl rfl rfl rfl od_234 q3428 q3430 qs49 q81 q3431⟩) (fa_ (⟨by decide, md_mX5_rowOf.1, md_mX5_rowOf.2, by decide, fun base D dA sv ro scr => callok_V (C := "LeafcreditModel") rfl rfl rfl rfl od_235 q3436 q3438 qs50 q81 q3439⟩) (fa_ (⟨by decide, md_mX10_isLike.1, md_mX10_isLike.2, by decide, fun base D dA sv ro scr => callok_V (C := "LeafcreditModel$Row") rfl rfl rfl rfl od_236 q3452 q3453 q3454 q118 q3455⟩) (fa_ (⟨by decide, md_mJ12_max.1, md_mJ12_max.2, by decide, fun base D dA sv ro scr => callok_S rfl rfl od_167 q3492 q400 q78 q401⟩) (fa_ (⟨by decide, md_mJ12_abs_2.1, md_mJ12_abs_2.2, by decide, fun base D dA sv ro scr => callok_S rfl rfl od_237 q3482 q3483 q78 q3484⟩) (fa_ (⟨by decide, md_mX5_cap.1, md_mX5_cap.2, by decide, fun base D dA sv ro scr => callok_V (C := "LeafcreditModel") rfl rfl rfl rfl od_238 q3488 q3490 qs52 q81 q3491⟩) (fa_ (⟨by decide, md_mX5_make.1, md_mX5_make.2, by decide, fun base D dA sv ro scr => callok_V (C := "LeafcreditModel") rfl rfl rfl rfl od_239 q3493 q3495 qs53 q81 q3496⟩) (fa_ (⟨by decide, md_mX5_circulating.1, md_mX5_circulating.2, by decide, fun base D dA sv ro scr => callok_V (C := "LeafcreditModel") rfl rfl rfl rfl od_240 q3497 q3499 qs54 q81 q3500⟩) (fa_ (⟨by decide, md_mJ12_min_2.1, md_mJ12_min_2.2, by decide, fun base D dA sv ro scr => callok_S rfl rfl od_168 q3502 q2195 q78 q2196⟩) (fa_ (⟨by decide, md_mX5_beginYear.1, md_mX5_beginYear.2, by decide, fun base D dA sv ro scr => callok_V (C := "LeafcreditModel") rfl rfl rfl rfl od_241 q3478 q3480 qs51 q81 q3481⟩) (fa_ (⟨by decide, md_mX12_init.1, md_mX12_init.2, by decide, fun base D dA sv ro scr => callok_IN rfl rfl rfl rfl od_242 (List.mem_of_getElem? (i := 108) rfl) q3515 q121 q3516⟩) (fa_ (⟨by decide, md_mX12_cost.1, md_mX12_cost.2, by decide, fun base D dA sv ro scr => callok_V (C := "LeafcreditModel$Bid") rfl rfl rfl rfl od_243 q3531 q3532 q3533 q121 q3534⟩) (fa_ (⟨by decide, md_mX12_account.1, md_mX12_account.2, by decide, fun base D dA sv ro scr => callok_V (C := "LeafcreditModel$Bid") rfl rfl rfl rfl od_244 q3535 q3536 q3537 q121 q3538⟩) (fa_ (⟨by decide, md_mX12_price.1, md_mX12_price.2, by decide, fun base D dA sv ro scr => callok_V (C := "LeafcreditModel$Bid") rfl rfl rfl rfl od_245 q3543 q3544 q3545 q121 q3546⟩) (fa_ (⟨by decide, md_mJ2_clear.1, md_mJ2_clear.2, by decide, fun base D dA sv ro scr => callok_V (C := "java/util/ArrayList") rfl rfl rfl rfl od_246 q3547 q3548 q3549 q65 q3550⟩) (fa_ (⟨by decide, md_mX12_units.1, md_mX12_units.2, by decide, fun base D dA sv ro scr => callok_V (C := "LeafcreditModel$Bid") rfl rfl rfl rfl od_247 q3551 q3552 q3553 q121 q3554⟩) (fa_ (⟨by decide, md_mX17_init.1, md_mX17_init.2, by decide, fun base D dA sv ro scr => callok_I rfl rfl rfl rfl od_248 q3577 q3578 q132 q3579⟩) (fa_ (⟨by decide, md_mX5_isProject.1, md_mX5_isProject.2, by decide, fun base D dA sv ro scr => callok_V (C := "LeafcreditModel") rfl rfl rfl rfl od_249 q3614 q3616 qs55 q81 q3617⟩) (fa_ (⟨by decide, md_mX5_up.1, md_mX5_up.2, by decide, fun base D dA sv ro scr => callok_S rfl rfl od_250 q3618 q3619 q81 q3620⟩) (fa_ (⟨by decide, md_mX5_isGood.1, md_mX5_isGood.2, by decide, fun base D dA sv ro scr => callok_V (C := "LeafcreditModel") rfl rfl rfl rfl od_251 q3629 q3631 qs56 q81 q3632⟩) (fa_ (⟨by decide, md_mX19_init.1, md_mX19_init.2, by decide, fun base D dA sv ro scr => callok_IN rfl rfl rfl rfl od_252 (List.mem_of_getElem? (i := 109) rfl) q3636 q134 q3637⟩) (fn_))))))))))))))))))))))))))))))
theorem tG_5_2 : ∀ q ∈ (tL_5.drop 60).take 30, TgOK 5 q.1 q.2.1 q.2.2.1 q.2.2.2 := fa_ (⟨by decide, md_mX19_own.1, md_mX19_own.2, by decide, fun base D dA sv ro scr => callok_V (C := "LeafcreditModel$Good") rfl rfl rfl rfl od_253 q3657 q3658 q3659 q134 q3660⟩) (fa_ (⟨by decide, md_mX19_input.1, md_mX19_input.2, by decide, fun base D dA sv ro scr => callok_V (C := "LeafcreditModel$Good") rfl rfl rfl rfl od_254 q3661 q3662 q3663 q134 q3664⟩) (fa_ (⟨by decide, md_mX19_amount.1, md_mX19_amount.2, by decide, fun base D dA sv ro scr => callok_V (C := "LeafcreditModel$Good") rfl rfl rfl rfl od_255 q3665 q3666 q3667 q134 q3668⟩) (fa_ (⟨by decide, md_mX5_embeddedIn.1, md_mX5_embeddedIn.2, by decide, fun base D dA sv ro scr => callok_V (C := "LeafcreditModel") rfl rfl rfl rfl od_256 q3653 q3655 qs57 q81 q3656⟩) (fa_ (⟨by decide, md_mX5_emitted.1, md_mX5_emitted.2, by decide, fun base D dA sv ro scr => callok_V (C := "LeafcreditModel") rfl rfl rfl rfl od_257 q3681 q3683 qs59 q81 q3684⟩) (fa_ (⟨by decide, md_mX5_endYear.1, md_mX5_endYear.2, by decide, fun base D dA sv ro scr => callok_V (C := "LeafcreditModel") rfl rfl rfl rfl od_258 q3677 q3679 qs58 q81 q3680⟩) (fa_ (⟨by decide, md_mX5_fallDue.1, md_mX5_fallDue.2, by decide, fun base D dA sv ro scr => callok_V (C := "LeafcreditModel") rfl rfl rfl rfl od_259 q3686 q3688 qs60 q81 q3689⟩) (fn_)))))))
theorem tG_5 : ∀ q ∈ tL_5, TgOK 5 q.1 q.2.1 q.2.2.1 q.2.2.2 := tk_ 30 tG_5_0 (tk_ 30 tG_5_1 (tk_ 30 tG_5_2 (fun q h => by cases h)))
theorem tG_6_0 : ∀ q ∈ (tL_6.drop 0).take 30, TgOK 6 q.1 q.2.1 q.2.2.1 q.2.2.2 := fa_ (⟨by decide, Or.inl ⟨rfl, rfl, q2992, q143, q144⟩⟩) (fn_)
theorem tG_6 : ∀ q ∈ tL_6, TgOK 6 q.1 q.2.1 q.2.2.1 q.2.2.2 := tk_ 30 tG_6_0 (fun q h => by cases h)
theorem tG_7_0 : ∀ q ∈ (tL_7.drop 0).take 30, TgOK 7 q.1 q.2.1 q.2.2.1 q.2.2.2 := fa_ (⟨by decide, Or.inl ⟨rfl, rfl, q1904, q143, q144⟩⟩) (fa_ (⟨by decide, md_mJ4_init.1, md_mJ4_init.2, by decide, fun base D dA sv ro scr => callok_I rfl rfl rfl rfl od_127 q1906 q177 q67 q178⟩) (fa_ (⟨by decide, md_mX1_up.1, md_mX1_up.2, by decide, fun base D dA sv ro scr => callok_SN rfl rfl od_196 (List.mem_of_getElem? (i := 110) rfl) q2816 q62 q2817⟩) (fa_ (⟨by decide, md_mJ3_isEmpty.1, md_mJ3_isEmpty.2, by decide, fun base D dA sv ro scr => callok_U (C := "java/util/TreeMap") (x := ⟨"java/util/TreeMap", "isEmpty", "()Z"⟩) rfl rfl rfl rfl od_260 q2902 q2903 q2905 q2906 q66 q2907⟩) (fa_ (⟨by decide, md_mJ4_lastEntry.1, md_mJ4_lastEntry.2, by decide, fun base D dA sv ro scr => callok_V (C := "java/util/TreeMap") rfl rfl rfl rfl od_261 q2909 q2910 q2911 q67 q2912⟩) (fa_ (⟨by decide, md_mJ30_getValue.1, md_mJ30_getValue.2, by decide, fun base D dA sv ro scr => callok_F (C := "java/util/TreeMap$Entry") (x := ⟨"java/util/Map$Entry", "getValue", "()Ljava/lang/Object;"⟩) rfl rfl (by decide) rfl od_190 (List.mem_of_getElem? (i := 25) rfl) q2918 q1286 q1288 q102 q1290⟩) (fa_ (⟨by decide, md_mJ50_getValue.1, md_mJ50_getValue.2, by decide, fun base D dA sv ro scr => callok_F (C := "java/util/AbstractMap$SimpleImmutableEntry") (x := ⟨"java/util/Map$Entry", "getValue", "()Ljava/lang/Object;"⟩) rfl rfl (by decide) rfl od_190 (List.mem_of_getElem? (i := 26) rfl) q2918 q1280 q1282 q130 q1284⟩) (fa_ (⟨by decide, md_mJ26_longValue.1, md_mJ26_longValue.2, by decide, fun base D dA sv ro scr => callok_V (C := "java/lang/Long") rfl rfl rfl rfl od_161 q2920 q2022 q2023 q97 q2024⟩) (fa_ (⟨by decide, md_mJ26_longValue.1, md_mJ26_longValue.2, by decide, fun base D dA sv ro scr => callok_V (C := "java/lang/Long") rfl rfl rfl rfl od_161 q2920 q2022 q2023 q97 q2024⟩) (fa_ (⟨by decide, md_mJ25_valueOf.1, md_mJ25_valueOf.2, by decide, fun base D dA sv ro scr => callok_S rfl rfl od_136 q2066 q1348 q95 q1349⟩) (fa_ (⟨by decide, md_mJ25_intValue.1, md_mJ25_intValue.2, by decide, fun base D dA sv ro scr => callok_V (C := "java/lang/Integer") rfl rfl rfl rfl od_157 q2111 q1988 q1989 q95 q1990⟩) (fa_ (⟨by decide, md_mJ25_intValue.1, md_mJ25_intValue.2, by decide, fun base D dA sv ro scr => callok_V (C := "java/lang/Integer") rfl rfl rfl rfl od_157 q2111 q1988 q1989 q95 q1990⟩) (fa_ (⟨by decide, md_mJ12_abs.1, md_mJ12_abs.2, by decide, fun base D dA sv ro scr => callok_S rfl rfl od_262 q2112 q2113 q78 q2114⟩) (fa_ (⟨by decide, md_mJ53_getOrDefault.1, md_mJ53_getOrDefault.2, by decide, fun base D dA sv ro scr => spc_7_77⟩) (fn_))))))))))))))
theorem tG_7 : ∀ q ∈ tL_7, TgOK 7 q.1 q.2.1 q.2.2.1 q.2.2.2 := tk_ 30 tG_7_0 (fun q h => by cases h)
theorem tG_8_0 : ∀ q ∈ (tL_8.drop 0).take 30, TgOK 8 q.1 q.2.1 q.2.2.1 q.2.2.2 := fa_ (⟨by decide, Or.inl ⟨rfl, rfl, q2132, q143, q144⟩⟩) (fa_ (⟨by decide, md_mJ12_max.1, md_mJ12_max.2, by decide, fun base D dA sv ro scr => callok_S rfl rfl od_167 q1308 q400 q78 q401⟩) (fa_ (⟨by decide, md_mX8_init.1, md_mX8_init.2, by decide, fun base D dA sv ro scr => callok_I rfl rfl rfl rfl od_138 q2635 q2130 q103 q2131⟩) (fn_)))
theorem tG_8 : ∀ q ∈ tL_8, TgOK 8 q.1 q.2.1 q.2.2.1 q.2.2.2 := tk_ 30 tG_8_0 (fun q h => by cases h)
theorem tG_9_0 : ∀ q ∈ (tL_9.drop 0).take 30, TgOK 9 q.1 q.2.1 q.2.2.1 q.2.2.2 := fa_ (⟨by decide, Or.inl ⟨rfl, rfl, q2177, q143, q144⟩⟩) (fn_)
theorem tG_9 : ∀ q ∈ tL_9, TgOK 9 q.1 q.2.1 q.2.2.1 q.2.2.2 := tk_ 30 tG_9_0 (fun q h => by cases h)
theorem tG_10_0 : ∀ q ∈ (tL_10.drop 0).take 30, TgOK 10 q.1 q.2.1 q.2.2.1 q.2.2.2 := fa_ (⟨by decide, Or.inl ⟨rfl, rfl, q3287, q143, q144⟩⟩) (fa_ (⟨by decide, md_mX10_isLocked.1, md_mX10_isLocked.2, by decide, fun base D dA sv ro scr => callok_V (C := "LeafcreditModel$Row") rfl rfl rfl rfl od_219 q3456 q3226 q3227 q118 q3228⟩) (fn_))
theorem tG_10 : ∀ q ∈ tL_10, TgOK 10 q.1 q.2.1 q.2.2.1 q.2.2.2 := tk_ 30 tG_10_0 (fun q h => by cases h)
theorem tG_11_0 : ∀ q ∈ (tL_11.drop 0).take 30, TgOK 11 q.1 q.2.1 q.2.2.1 q.2.2.2 := fa_ (⟨by decide, Or.inl ⟨rfl, rfl, q2222, q143, q144⟩⟩) (fn_)
theorem tG_11 : ∀ q ∈ tL_11, TgOK 11 q.1 q.2.1 q.2.2.1 q.2.2.2 := tk_ 30 tG_11_0 (fun q h => by cases h)
theorem tG_12_0 : ∀ q ∈ (tL_12.drop 0).take 30, TgOK 12 q.1 q.2.1 q.2.2.1 q.2.2.2 := fa_ (⟨by decide, md_mJ44_init.1, md_mJ44_init.2, by decide, fun base D dA sv ro scr => callok_I rfl rfl rfl rfl od_263 q3517 q3518 q120 q3519⟩) (fn_)
theorem tG_12 : ∀ q ∈ tL_12, TgOK 12 q.1 q.2.1 q.2.2.1 q.2.2.2 := tk_ 30 tG_12_0 (fun q h => by cases h)
theorem tG_13_0 : ∀ q ∈ (tL_13.drop 0).take 30, TgOK 13 q.1 q.2.1 q.2.2.1 q.2.2.2 := fa_ (⟨by decide, Or.inl ⟨rfl, rfl, q2367, q143, q144⟩⟩) (fa_ (⟨by decide, md_mJ2_init.1, md_mJ2_init.2, by decide, fun base D dA sv ro scr => callok_I rfl rfl rfl rfl od_126 q2369 q148 q65 q149⟩) (fn_))
theorem tG_13 : ∀ q ∈ tL_13, TgOK 13 q.1 q.2.1 q.2.2.1 q.2.2.2 := tk_ 30 tG_13_0 (fun q h => by cases h)
theorem tG_14_0 : ∀ q ∈ (tL_14.drop 0).take 30, TgOK 14 q.1 q.2.1 q.2.2.1 q.2.2.2 := fa_ (⟨by decide, Or.inl ⟨rfl, rfl, q2404, q143, q144⟩⟩) (fa_ (⟨by decide, md_mJ25_compare.1, md_mJ25_compare.2, by decide, fun base D dA sv ro scr => callok_S rfl rfl od_205 q924 q672 q95 q673⟩) (fa_ (⟨by decide, md_mX14_compare_2.1, md_mX14_compare_2.2, by decide, fun base D dA sv ro scr => callok_V (C := "Leafcredit$ByUse") rfl rfl rfl rfl od_264 q920 q921 q922 q125 q923⟩) (fn_)))
theorem tG_14 : ∀ q ∈ tL_14, TgOK 14 q.1 q.2.1 q.2.2.1 q.2.2.2 := tk_ 30 tG_14_0 (fun q h => by cases h)
theorem tG_15_0 : ∀ q ∈ (tL_15.drop 0).take 30, TgOK 15 q.1 q.2.1 q.2.2.1 q.2.2.2 := fa_ (⟨by decide, Or.inl ⟨rfl, rfl, q3238, q143, q144⟩⟩) (fa_ (⟨by decide, md_mJ2_init.1, md_mJ2_init.2, by decide, fun base D dA sv ro scr => callok_I rfl rfl rfl rfl od_126 q3240 q148 q65 q149⟩) (fn_))
theorem tG_15 : ∀ q ∈ tL_15, TgOK 15 q.1 q.2.1 q.2.2.1 q.2.2.2 := tk_ 30 tG_15_0 (fun q h => by cases h)
theorem tG_16_0 : ∀ q ∈ (tL_16.drop 0).take 30, TgOK 16 q.1 q.2.1 q.2.2.1 q.2.2.2 := fa_ (⟨by decide, Or.inl ⟨rfl, rfl, q2772, q143, q144⟩⟩) (fa_ (⟨by decide, md_mJ12_max.1, md_mJ12_max.2, by decide, fun base D dA sv ro scr => callok_S rfl rfl od_167 q2813 q400 q78 q401⟩) (fn_))
theorem tG_16 : ∀ q ∈ tL_16, TgOK 16 q.1 q.2.1 q.2.2.1 q.2.2.2 := tk_ 30 tG_16_0 (fun q h => by cases h)
theorem tG_17_0 : ∀ q ∈ (tL_17.drop 0).take 30, TgOK 17 q.1 q.2.1 q.2.2.1 q.2.2.2 := fa_ (⟨by decide, Or.inl ⟨rfl, rfl, q3580, q143, q144⟩⟩) (fn_)
theorem tG_17 : ∀ q ∈ tL_17, TgOK 17 q.1 q.2.1 q.2.2.1 q.2.2.2 := tk_ 30 tG_17_0 (fun q h => by cases h)
theorem tG_18_0 : ∀ q ∈ (tL_18.drop 0).take 30, TgOK 18 q.1 q.2.1 q.2.2.1 q.2.2.2 := fa_ (⟨by decide, Or.inl ⟨rfl, rfl, q2837, q143, q144⟩⟩) (fa_ (⟨by decide, md_mX18_embedded.1, md_mX18_embedded.2, by decide, fun base D dA sv ro scr => callok_V (C := "Leafcredit$Good") rfl rfl rfl rfl od_198 q2859 q2856 q2857 q133 q2858⟩) (fn_))
theorem tG_18 : ∀ q ∈ tL_18, TgOK 18 q.1 q.2.1 q.2.2.1 q.2.2.2 := tk_ 30 tG_18_0 (fun q h => by cases h)
theorem tG_19_0 : ∀ q ∈ (tL_19.drop 0).take 30, TgOK 19 q.1 q.2.1 q.2.2.1 q.2.2.2 := fa_ (⟨by decide, md_mJ44_init.1, md_mJ44_init.2, by decide, fun base D dA sv ro scr => callok_I rfl rfl rfl rfl od_263 q3638 q3518 q120 q3519⟩) (fn_)
theorem tG_19 : ∀ q ∈ tL_19, TgOK 19 q.1 q.2.1 q.2.2.1 q.2.2.2 := tk_ 30 tG_19_0 (fun q h => by cases h)
theorem tG_20_0 : ∀ q ∈ (tL_20.drop 0).take 30, TgOK 20 q.1 q.2.1 q.2.2.1 q.2.2.2 := fa_ (⟨by decide, md_mX4_owed.1, md_mX4_owed.2, by decide, fun base D dA sv ro scr => callok_F (C := "Leafcredit$Sum") (x := ⟨"Leafcredit$Duty", "owed", "()J"⟩) rfl rfl (by decide) rfl od_265 (List.mem_of_getElem? (i := 27) rfl) q2889 q2922 q2924 q76 q2926⟩) (fa_ (⟨by decide, md_mX7_owed.1, md_mX7_owed.2, by decide, fun base D dA sv ro scr => callok_F (C := "Leafcredit$Plant") (x := ⟨"Leafcredit$Duty", "owed", "()J"⟩) rfl rfl (by decide) rfl od_265 (List.mem_of_getElem? (i := 28) rfl) q2889 q2893 q2895 q89 q2897⟩) (fa_ (⟨by decide, md_mX4_clear.1, md_mX4_clear.2, by decide, fun base D dA sv ro scr => callok_F (C := "Leafcredit$Sum") (x := ⟨"Leafcredit$Duty", "clear", "()V"⟩) rfl rfl (by decide) rfl od_266 (List.mem_of_getElem? (i := 29) rfl) q2928 q2936 q2938 q76 q2940⟩) (fa_ (⟨by decide, md_mX7_clear.1, md_mX7_clear.2, by decide, fun base D dA sv ro scr => callok_F (C := "Leafcredit$Plant") (x := ⟨"Leafcredit$Duty", "clear", "()V"⟩) rfl rfl (by decide) rfl od_266 (List.mem_of_getElem? (i := 30) rfl) q2928 q2931 q2933 q89 q2935⟩) (fn_))))
theorem tG_20 : ∀ q ∈ tL_20, TgOK 20 q.1 q.2.1 q.2.2.1 q.2.2.2 := tk_ 30 tG_20_0 (fun q h => by cases h)
theorem tG_100_0 : ∀ q ∈ (tL_100.drop 0).take 30, TgOK 100 q.1 q.2.1 q.2.2.1 q.2.2.2 := fa_ (⟨by decide, Or.inl ⟨rfl, rfl, q156, q143, q144⟩⟩) (fa_ (⟨by decide, md_mJ6_size.1, md_mJ6_size.2, by decide, fun base D dA sv ro scr => callok_A (C := "java/util/PriorityQueue") (x := ⟨"java/util/AbstractCollection", "size", "()I"⟩) rfl rfl rfl od_267 q2268 q2270 (List.mem_of_getElem? (i := 111) rfl) q2313 q2215 q69 q2217⟩) (fa_ (⟨by decide, md_mJ36_iterator.1, md_mJ36_iterator.2, by decide, fun base D dA sv ro scr => callok_A (C := "java/util/TreeMap$AscendingSubMap$AscendingEntrySetView") (x := ⟨"java/util/AbstractCollection", "iterator", "()Ljava/util/Iterator;"⟩) rfl rfl rfl od_268 q1584 q1586 (List.mem_of_getElem? (i := 112) rfl) q1591 q632 q110 q634⟩) (fa_ (⟨by decide, md_mJ20_hasNext.1, md_mJ20_hasNext.2, by decide, fun base D dA sv ro scr => callok_F (C := "java/util/ArrayList$Itr") (x := ⟨"java/util/Iterator", "hasNext", "()Z"⟩) rfl rfl (by decide) rfl od_143 (List.mem_of_getElem? (i := 8) rfl) q1595 q1131 q1133 q90 q1135⟩) (fa_ (⟨by decide, md_mJ32_hasNext.1, md_mJ32_hasNext.2, by decide, fun base D dA sv ro scr => callok_F (C := "java/util/AbstractMap$2$1") (x := ⟨"java/util/Iterator", "hasNext", "()Z"⟩) rfl rfl (by decide) rfl od_143 (List.mem_of_getElem? (i := 9) rfl) q1595 q1117 q1119 q106 q1121⟩) (fa_ (⟨by decide, md_mJ37_hasNext.1, md_mJ37_hasNext.2, by decide, fun base D dA sv ro scr => callok_F (C := "java/util/TreeMap$NavigableSubMap$SubMapEntryIterator") (x := ⟨"java/util/Iterator", "hasNext", "()Z"⟩) rfl rfl (by decide) rfl od_143 (List.mem_of_getElem? (i := 10) rfl) q1595 q1153 q1155 q111 q1157⟩) (fa_ (⟨by decide, md_mJ42_hasNext.1, md_mJ42_hasNext.2, by decide, fun base D dA sv ro scr => callok_F (C := "java/util/PriorityQueue$Itr") (x := ⟨"java/util/Iterator", "hasNext", "()Z"⟩) rfl rfl (by decide) rfl od_143 (List.mem_of_getElem? (i := 11) rfl) q1595 q1137 q1139 q116 q1141⟩) (fa_ (⟨by decide, md_mJ39_hasNext.1, md_mJ39_hasNext.2, by decide, fun base D dA sv ro scr => callok_F (C := "java/util/TreeMap$ValueIterator") (x := ⟨"java/util/Iterator", "hasNext", "()Z"⟩) rfl rfl (by decide) rfl od_143 (List.mem_of_getElem? (i := 12) rfl) q1595 q1159 q1149 q113 q1151⟩) (fa_ (⟨by decide, md_mJ20_next.1, md_mJ20_next.2, by decide, fun base D dA sv ro scr => callok_F (C := "java/util/ArrayList$Itr") (x := ⟨"java/util/Iterator", "next", "()Ljava/lang/Object;"⟩) rfl rfl (by decide) rfl od_144 (List.mem_of_getElem? (i := 13) rfl) q1597 q1198 q1200 q90 q1202⟩) (fa_ (⟨by decide, md_mJ32_next.1, md_mJ32_next.2, by decide, fun base D dA sv ro scr => callok_F (C := "java/util/AbstractMap$2$1") (x := ⟨"java/util/Iterator", "next", "()Ljava/lang/Object;"⟩) rfl rfl (by decide) rfl od_144 (List.mem_of_getElem? (i := 14) rfl) q1597 q1165 q1167 q106 q1169⟩) (fa_ (⟨by decide, md_mJ38_next.1, md_mJ38_next.2, by decide, fun base D dA sv ro scr => callok_F (C := "java/util/TreeMap$NavigableSubMap$SubMapEntryIterator") (x := ⟨"java/util/Iterator", "next", "()Ljava/lang/Object;"⟩) rfl rfl (by decide) rfl od_144 (List.mem_of_getElem? (i := 15) rfl) q1597 q1248 q1250 q112 q1252⟩) (fa_ (⟨by decide, md_mJ42_next.1, md_mJ42_next.2, by decide, fun base D dA sv ro scr => callok_F (C := "java/util/PriorityQueue$Itr") (x := ⟨"java/util/Iterator", "next", "()Ljava/lang/Object;"⟩) rfl rfl (by decide) rfl od_144 (List.mem_of_getElem? (i := 16) rfl) q1597 q1209 q1211 q116 q1213⟩) (fa_ (⟨by decide, md_mJ43_next.1, md_mJ43_next.2, by decide, fun base D dA sv ro scr => callok_F (C := "java/util/TreeMap$ValueIterator") (x := ⟨"java/util/Iterator", "next", "()Ljava/lang/Object;"⟩) rfl rfl (by decide) rfl od_144 (List.mem_of_getElem? (i := 17) rfl) q1597 q1266 q1268 q117 q1270⟩) (fa_ (⟨by decide, md_mJ32_remove.1, md_mJ32_remove.2, by decide, fun base D dA sv ro scr => callok_F (C := "java/util/AbstractMap$2$1") (x := ⟨"java/util/Iterator", "remove", "()V"⟩) rfl rfl (by decide) rfl od_269 (List.mem_of_getElem? (i := 31) rfl) q1599 q1602 q1604 q106 q1606⟩) (fa_ (⟨by decide, md_mJ38_remove.1, md_mJ38_remove.2, by decide, fun base D dA sv ro scr => callok_F (C := "java/util/TreeMap$NavigableSubMap$SubMapEntryIterator") (x := ⟨"java/util/Iterator", "remove", "()V"⟩) rfl rfl (by decide) rfl od_269 (List.mem_of_getElem? (i := 32) rfl) q1599 q1780 q1782 q112 q1784⟩) (fa_ (⟨by decide, md_mJ42_remove.1, md_mJ42_remove.2, by decide, fun base D dA sv ro scr => callok_F (C := "java/util/PriorityQueue$Itr") (x := ⟨"java/util/Iterator", "remove", "()V"⟩) rfl rfl (by decide) rfl od_269 (List.mem_of_getElem? (i := 33) rfl) q1599 q1679 q1681 q116 q1683⟩) (fa_ (⟨by decide, md_mJ39_remove.1, md_mJ39_remove.2, by decide, fun base D dA sv ro scr => callok_F (C := "java/util/TreeMap$ValueIterator") (x := ⟨"java/util/Iterator", "remove", "()V"⟩) rfl rfl (by decide) rfl od_269 (List.mem_of_getElem? (i := 34) rfl) q1599 q1794 q1766 q113 q1768⟩) (fn_)))))))))))))))))
theorem tG_100 : ∀ q ∈ tL_100, TgOK 100 q.1 q.2.1 q.2.2.1 q.2.2.2 := tk_ 30 tG_100_0 (fun q h => by cases h)
theorem tG_101_0 : ∀ q ∈ (tL_101.drop 0).take 30, TgOK 101 q.1 q.2.1 q.2.2.1 q.2.2.2 := fa_ (⟨by decide, md_mJ0_init.1, md_mJ0_init.2, by decide, fun base D dA sv ro scr => callok_I rfl rfl rfl rfl od_270 q153 q154 q63 q155⟩) (fn_)
theorem tG_101 : ∀ q ∈ tL_101, TgOK 101 q.1 q.2.1 q.2.2.1 q.2.2.2 := tk_ 30 tG_101_0 (fun q h => by cases h)
theorem tG_102_0 : ∀ q ∈ (tL_102.drop 0).take 30, TgOK 102 q.1 q.2.1 q.2.2.1 q.2.2.2 := fa_ (⟨by decide, md_mJ1_init.1, md_mJ1_init.2, by decide, fun base D dA sv ro scr => callok_I rfl rfl rfl rfl od_271 q150 q151 q64 q152⟩) (fa_ (⟨by decide, md_mJ13_copyOf.1, md_mJ13_copyOf.2, by decide, fun base D dA sv ro scr => callok_S rfl rfl od_272 q406 q407 q79 q408⟩) (fa_ (⟨by decide, md_mJ2_grow_2.1, md_mJ2_grow_2.2, by decide, fun base D dA sv ro scr => callok_V (C := "java/util/ArrayList") rfl rfl rfl rfl od_273 q392 q394 qs3 q65 q395⟩) (fa_ (⟨by decide, md_mJ11_newLength.1, md_mJ11_newLength.2, by decide, fun base D dA sv ro scr => callok_S rfl rfl od_274 q396 q397 q77 q398⟩) (fa_ (⟨by decide, md_mJ12_max.1, md_mJ12_max.2, by decide, fun base D dA sv ro scr => callok_S rfl rfl od_167 q473 q400 q78 q401⟩) (fa_ (⟨by decide, md_mJ2_indexOfRange.1, md_mJ2_indexOfRange.2, by decide, fun base D dA sv ro scr => callok_V (C := "java/util/ArrayList") rfl rfl rfl rfl od_275 q3329 q3330 q3331 q65 q3332⟩) (fa_ (⟨by decide, md_mJ52_equals.1, md_mJ52_equals.2, by decide, fun base D dA sv ro scr => callok_U (C := "Leafcredit") (x := ⟨"java/lang/Object", "equals", "(Ljava/lang/Object;)Z"⟩) rfl rfl rfl rfl od_276 q3334 q3336 q3337 q3335 q3725 q3381⟩) (fa_ (⟨by decide, md_mJ52_equals.1, md_mJ52_equals.2, by decide, fun base D dA sv ro scr => callok_U (C := "Leafcredit$ByPrice") (x := ⟨"java/lang/Object", "equals", "(Ljava/lang/Object;)Z"⟩) rfl rfl rfl rfl od_276 q3334 q3336 q3340 q3335 q3725 q3381⟩) (fa_ (⟨by decide, md_mJ52_equals.1, md_mJ52_equals.2, by decide, fun base D dA sv ro scr => callok_U (C := "Leafcredit$Account") (x := ⟨"java/lang/Object", "equals", "(Ljava/lang/Object;)Z"⟩) rfl rfl rfl rfl od_276 q3334 q3336 q3338 q3335 q3725 q3381⟩) (fa_ (⟨by decide, md_mJ52_equals.1, md_mJ52_equals.2, by decide, fun base D dA sv ro scr => callok_U (C := "Leafcredit$Sum") (x := ⟨"java/lang/Object", "equals", "(Ljava/lang/Object;)Z"⟩) rfl rfl rfl rfl od_276 q3334 q3336 q3347 q3335 q3725 q3381⟩) (fa_ (⟨by decide, md_mJ52_equals.1, md_mJ52_equals.2, by decide, fun base D dA sv ro scr => callok_U (C := "LeafcreditModel") (x := ⟨"java/lang/Object", "equals", "(Ljava/lang/Object;)Z"⟩) rfl rfl rfl rfl od_276 q3334 q3336 q3349 q3335 q3725 q3381⟩) (fa_ (⟨by decide, md_mJ52_equals.1, md_mJ52_equals.2, by decide, fun base D dA sv ro scr => callok_U (C := "LeafcreditModel$Account") (x := ⟨"java/lang/Object", "equals", "(Ljava/lang/Object;)Z"⟩) rfl rfl rfl rfl od_276 q3334 q3336 q3350 q3335 q3725 q3381⟩) (fa_ (⟨by decide, md_mJ52_equals.1, md_mJ52_equals.2, by decide, fun base D dA sv ro scr => callok_U (C := "Leafcredit$Plant") (x := ⟨"java/lang/Object", "equals", "(Ljava/lang/Object;)Z"⟩) rfl rfl rfl rfl od_276 q3334 q3336 q3345 q3335 q3725 q3381⟩) (fa_ (⟨by decide, md_mJ52_equals.1, md_mJ52_equals.2, by decide, fun base D dA sv ro scr => callok_U (C := "Leafcredit$Piece") (x := ⟨"java/lang/Object", "equals", "(Ljava/lang/Object;)Z"⟩) rfl rfl rfl rfl od_276 q3334 q3336 q3344 q3335 q3725 q3381⟩) (fa_ (⟨by decide, md_mJ52_equals.1, md_mJ52_equals.2, by decide, fun base D dA sv ro scr => callok_U (C := "Leafcredit$Entry") (x := ⟨"java/lang/Object", "equals", "(Ljava/lang/Object;)Z"⟩) rfl rfl rfl rfl od_276 q3334 q3336 q3342 q3335 q3725 q3381⟩) (fa_ (⟨by decide, md_mJ52_equals.1, md_mJ52_equals.2, by decide, fun base D dA sv ro scr => callok_U (C := "LeafcreditModel$Row") (x := ⟨"java/lang/Object", "equals", "(Ljava/lang/Object;)Z"⟩) rfl rfl rfl rfl od_276 q3334 q3336 q3358 q3335 q3725 q3381⟩) (fa_ (⟨by decide, md_mJ52_equals.1, md_mJ52_equals.2, by decide, fun base D dA sv ro scr => callok_U (C := "Leafcredit$Bid") (x := ⟨"java/lang/Object", "equals", "(Ljava/lang/Object;)Z"⟩) rfl rfl rfl rfl od_276 q3334 q3336 q3339 q3335 q3725 q3381⟩) (fa_ (⟨by decide, md_mJ52_equals.1, md_mJ52_equals.2, by decide, fun base D dA sv ro scr => callok_U (C := "Leafcredit$Transfer") (x := ⟨"java/lang/Object", "equals", "(Ljava/lang/Object;)Z"⟩) rfl rfl rfl rfl od_276 q3334 q3336 q3348 q3335 q3725 q3381⟩) (fa_ (⟨by decide, md_mJ52_equals.1, md_mJ52_equals.2, by decide, fun base D dA sv ro scr => callok_U (C := "Leafcredit$ByUse") (x := ⟨"java/lang/Object", "equals", "(Ljava/lang/Object;)Z"⟩) rfl rfl rfl rfl od_276 q3334 q3336 q3341 q3335 q3725 q3381⟩) (fa_ (⟨by decide, md_mJ52_equals.1, md_mJ52_equals.2, by decide, fun base D dA sv ro scr => callok_U (C := "LeafcreditModel$Transfer") (x := ⟨"java/lang/Object", "equals", "(Ljava/lang/Object;)Z"⟩) rfl rfl rfl rfl od_276 q3334 q3336 q3359 q3335 q3725 q3381⟩) (fa_ (⟨by decide, md_mJ52_equals.1, md_mJ52_equals.2, by decide, fun base D dA sv ro scr => callok_U (C := "Leafcredit$Project") (x := ⟨"java/lang/Object", "equals", "(Ljava/lang/Object;)Z"⟩) rfl rfl rfl rfl od_276 q3334 q3336 q3346 q3335 q3725 q3381⟩) (fa_ (⟨by decide, md_mJ52_equals.1, md_mJ52_equals.2, by decide, fun base D dA sv ro scr => callok_U (C := "LeafcreditModel$Project") (x := ⟨"java/lang/Object", "equals", "(Ljava/lang/Object;)Z"⟩) rfl rfl rfl rfl od_276 q3334 q3336 q3357 q3335 q3725 q3381⟩) (fa_ (⟨by decide, md_mJ52_equals.1, md_mJ52_equals.2, by decide, fun base D dA sv ro scr => callok_U (C := "Leafcredit$Good") (x := ⟨"java/lang/Object", "equals", "(Ljava/lang/Object;)Z"⟩) rfl rfl rfl rfl od_276 q3334 q3336 q3343 q3335 q3725 q3381⟩) (fa_ (⟨by decide, Or.inr (Or.inl ⟨rfl, rfl, q1663, q472, q471, q80⟩)⟩) (fa_ (⟨by decide, md_mJ18_checkIndex.1, md_mJ18_checkIndex.2, by decide, fun base D dA sv ro scr => callok_S rfl rfl od_277 q1653 q1654 q87 q1655⟩) (fa_ (⟨by decide, md_mJ2_elementData.1, md_mJ2_elementData.2, by decide, fun base D dA sv ro scr => callok_V (C := "java/util/ArrayList") rfl rfl rfl rfl od_278 q1895 q1896 q1897 q65 q1898⟩) (fa_ (⟨by decide, md_mJ2_grow.1, md_mJ2_grow.2, by decide, fun base D dA sv ro scr => callok_V (C := "java/util/ArrayList") rfl rfl rfl rfl od_279 q388 q390 qs2 q65 q391⟩) (fa_ (⟨by decide, md_mJ2_add_2.1, md_mJ2_add_2.2, by decide, fun base D dA sv ro scr => callok_V (C := "java/util/ArrayList") rfl rfl rfl rfl od_280 q384 q386 qs1 q65 q387⟩) (fa_ (⟨by decide, md_mJ2_rangeCheckForAdd.1, md_mJ2_rangeCheckForAdd.2, by decide, fun base D dA sv ro scr => callok_V (C := "java/util/ArrayList") rfl rfl rfl rfl od_281 q2424 q2426 qs28 q65 q2427⟩) (fa_ (⟨by decide, md_mJ2_fastRemove.1, md_mJ2_fastRemove.2, by decide, fun base D dA sv ro scr => callok_V (C := "java/util/ArrayList") rfl rfl rfl rfl od_282 q1659 q1661 qs11 q65 q1662⟩) (fn_))))))))))))))))))))))))))))))
theorem tG_102_1 : ∀ q ∈ (tL_102.drop 30).take 30, TgOK 102 q.1 q.2.1 q.2.2.1 q.2.2.2 := fa_ (⟨by decide, md_mJ20_init.1, md_mJ20_init.2, by decide, fun base D dA sv ro scr => callok_I rfl rfl rfl rfl od_283 q1042 q1043 q90 q1044⟩) (fn_)
theorem tG_102 : ∀ q ∈ tL_102, TgOK 102 q.1 q.2.1 q.2.2.1 q.2.2.2 := tk_ 30 tG_102_0 (tk_ 30 tG_102_1 (fun q h => by cases h))
theorem tG_103_0 : ∀ q ∈ (tL_103.drop 0).take 30, TgOK 103 q.1 q.2.1 q.2.2.1 q.2.2.2 := fa_ (⟨by decide, Or.inl ⟨rfl, rfl, q182, q143, q144⟩⟩) (fa_ (⟨by decide, md_mJ48_entrySet.1, md_mJ48_entrySet.2, by decide, fun base D dA sv ro scr => callok_A (C := "java/util/TreeMap$AscendingSubMap") (x := ⟨"java/util/AbstractMap", "entrySet", "()Ljava/util/Set;"⟩) rfl rfl rfl od_284 q1574 q583 (List.mem_of_getElem? (i := 113) rfl) q600 q601 q128 q602⟩) (fa_ (⟨by decide, md_mJ4_size.1, md_mJ4_size.2, by decide, fun base D dA sv ro scr => callok_A (C := "java/util/TreeMap") (x := ⟨"java/util/AbstractMap", "size", "()I"⟩) rfl rfl rfl od_285 q2908 q2276 (List.mem_of_getElem? (i := 114) rfl) q2277 q2278 q67 q2279⟩) (fa_ (⟨by decide, md_mJ0_clear.1, md_mJ0_clear.2, by decide, fun base D dA sv ro scr => callok_F (C := "java/util/TreeMap$AscendingSubMap$AscendingEntrySetView") (x := ⟨"java/util/Set", "clear", "()V"⟩) rfl rfl (by decide) rfl od_286 (List.mem_of_getElem? (i := 35) rfl) q1576 q1579 q1581 q63 q1583⟩) (fa_ (⟨by decide, md_mJ49_init.1, md_mJ49_init.2, by decide, fun base D dA sv ro scr => callok_I rfl rfl rfl rfl od_287 q2683 q2684 q129 q2685⟩) (fn_)))))
theorem tG_103 : ∀ q ∈ tL_103, TgOK 103 q.1 q.2.1 q.2.2.1 q.2.2.2 := tk_ 30 tG_103_0 (fun q h => by cases h)
theorem tG_104_0 : ∀ q ∈ (tL_104.drop 0).take 30, TgOK 104 q.1 q.2.1 q.2.2.1 q.2.2.2 := fa_ (⟨by decide, md_mJ3_init.1, md_mJ3_init.2, by decide, fun base D dA sv ro scr => callok_I rfl rfl rfl rfl od_288 q179 q180 q66 q181⟩) (fa_ (⟨by decide, md_mJ4_getEntry.1, md_mJ4_getEntry.2, by decide, fun base D dA sv ro scr => callok_V (C := "java/util/TreeMap") rfl rfl rfl rfl od_289 q2003 q2004 q2005 q67 q2006⟩) (fa_ (⟨by decide, md_mJ4_successor.1, md_mJ4_successor.2, by decide, fun base D dA sv ro scr => callok_S rfl rfl od_290 q1775 q1246 q67 q1247⟩) (fa_ (⟨by decide, md_mJ4_getLastEntry.1, md_mJ4_getLastEntry.2, by decide, fun base D dA sv ro scr => callok_V (C := "java/util/TreeMap") rfl rfl rfl rfl od_291 q2913 q2914 q2915 q67 q2916⟩) (fa_ (⟨by decide, md_mJ18_requireNonNull.1, md_mJ18_requireNonNull.2, by decide, fun base D dA sv ro scr => callok_S rfl rfl od_292 q1457 q1458 q87 q1459⟩) (fa_ (⟨by decide, md_mJ25_compareTo.1, md_mJ25_compareTo.2, by decide, fun base D dA sv ro scr => callok_F (C := "java/lang/Integer") (x := ⟨"java/lang/Comparable", "compareTo", "(Ljava/lang/Object;)I"⟩) rfl rfl (by decide) rfl od_293 (List.mem_of_getElem? (i := 36) rfl) q657 q661 q663 q95 q665⟩) (fa_ (⟨by decide, md_mJ26_compareTo.1, md_mJ26_compareTo.2, by decide, fun base D dA sv ro scr => callok_F (C := "java/lang/Long") (x := ⟨"java/lang/Comparable", "compareTo", "(Ljava/lang/Object;)I"⟩) rfl rfl (by decide) rfl od_293 (List.mem_of_getElem? (i := 37) rfl) q657 q675 q677 q97 q679⟩) (fa_ (⟨by decide, md_mJ25_compareTo.1, md_mJ25_compareTo.2, by decide, fun base D dA sv ro scr => callok_F (C := "java/lang/Integer") (x := ⟨"java/lang/Comparable", "compareTo", "(Ljava/lang/Object;)I"⟩) rfl rfl (by decide) rfl od_293 (List.mem_of_getElem? (i := 36) rfl) q657 q661 q663 q95 q665⟩) (fa_ (⟨by decide, md_mJ26_compareTo.1, md_mJ26_compareTo.2, by decide, fun base D dA sv ro scr => callok_F (C := "java/lang/Long") (x := ⟨"java/lang/Comparable", "compareTo", "(Ljava/lang/Object;)I"⟩) rfl rfl (by decide) rfl od_293 (List.mem_of_getElem? (i := 37) rfl) q657 q675 q677 q97 q679⟩) (fa_ (⟨by decide, md_mX2_compare.1, md_mX2_compare.2, by decide, fun base D dA sv ro scr => callok_F (C := "Leafcredit$ByPrice") (x := ⟨"java/util/Comparator", "compare", "(Ljava/lang/Object;Ljava/lang/Object;)I"⟩) rfl rfl (by decide) rfl od_147 (List.mem_of_getElem? (i := 18) rfl) q898 q902 q904 q70 q906⟩) (fa_ (⟨by decide, md_mX14_compare.1, md_mX14_compare.2, by decide, fun base D dA sv ro scr => callok_F (C := "Leafcredit$ByUse") (x := ⟨"java/util/Comparator", "compare", "(Ljava/lang/Object;Ljava/lang/Object;)I"⟩) rfl rfl (by decide) rfl od_147 (List.mem_of_getElem? (i := 19) rfl) q898 q914 q916 q125 q918⟩) (fa_ (⟨by decide, md_mJ4_compare.1, md_mJ4_compare.2, by decide, fun base D dA sv ro scr => callok_V (C := "java/util/TreeMap") rfl rfl rfl rfl od_294 q651 q652 q653 q67 q654⟩) (fa_ (⟨by decide, md_mJ4_put_2.1, md_mJ4_put_2.2, by decide, fun base D dA sv ro scr => callok_V (C := "java/util/TreeMap") rfl rfl rfl rfl od_295 q1413 q1415 qs5 q67 q1416⟩) (fa_ (⟨by decide, md_mJ4_addEntryToEmptyMap.1, md_mJ4_addEntryToEmptyMap.2, by decide, fun base D dA sv ro scr => callok_V (C := "java/util/TreeMap") rfl rfl rfl rfl od_296 q1417 q1419 qs6 q67 q1420⟩) (fa_ (⟨by decide, md_mJ4_addEntry.1, md_mJ4_addEntry.2, by decide, fun base D dA sv ro scr => callok_V (C := "java/util/TreeMap") rfl rfl rfl rfl od_297 q1460 q1462 qs7 q67 q1463⟩) (fa_ (⟨by decide, md_mJ30_init.1, md_mJ30_init.2, by decide, fun base D dA sv ro scr => callok_I rfl rfl rfl rfl od_298 q1423 q1424 q102 q1425⟩) (fa_ (⟨by decide, md_mJ4_fixAfterInsertion.1, md_mJ4_fixAfterInsertion.2, by decide, fun base D dA sv ro scr => callok_V (C := "java/util/TreeMap") rfl rfl rfl rfl od_299 q1464 q1466 qs8 q67 q1467⟩) (fa_ (⟨by decide, md_mJ4_exportEntry.1, md_mJ4_exportEntry.2, by decide, fun base D dA sv ro scr => callok_S rfl rfl od_300 q1374 q1375 q67 q1376⟩) (fa_ (⟨by decide, md_mJ4_getLowerEntry.1, md_mJ4_getLowerEntry.2, by decide, fun base D dA sv ro scr => callok_V (C := "java/util/TreeMap") rfl rfl rfl rfl od_301 q1370 q1371 q1372 q67 q1373⟩) (fa_ (⟨by decide, md_mJ4_getFloorEntry.1, md_mJ4_getFloorEntry.2, by decide, fun base D dA sv ro scr => callok_V (C := "java/util/TreeMap") rfl rfl rfl rfl od_302 q1806 q1807 q1808 q67 q1809⟩) (fa_ (⟨by decide, md_mJ31_init.1, md_mJ31_init.2, by decide, fun base D dA sv ro scr => callok_I rfl rfl rfl rfl od_303 q557 q558 q105 q559⟩) (fa_ (⟨by decide, md_mJ34_init.1, md_mJ34_init.2, by decide, fun base D dA sv ro scr => callok_I rfl rfl rfl rfl od_304 q589 q590 q108 q591⟩) (fa_ (⟨by decide, md_mJ48_init.1, md_mJ48_init.2, by decide, fun base D dA sv ro scr => callok_I rfl rfl rfl rfl od_305 q1501 q1502 q128 q1503⟩) (fa_ (⟨by decide, md_mJ4_subMap_2.1, md_mJ4_subMap_2.2, by decide, fun base D dA sv ro scr => callok_V (C := "java/util/TreeMap") rfl rfl rfl rfl od_306 q1495 q1496 q1497 q67 q1498⟩) (fa_ (⟨by decide, md_mJ50_init.1, md_mJ50_init.2, by decide, fun base D dA sv ro scr => callok_I rfl rfl rfl rfl od_307 q1379 q1380 q130 q1381⟩) (fa_ (⟨by decide, md_mJ4_parentOf.1, md_mJ4_parentOf.2, by decide, fun base D dA sv ro scr => callok_S rfl rfl od_308 q1468 q1469 q67 q1470⟩) (fa_ (⟨by decide, md_mJ4_leftOf.1, md_mJ4_leftOf.2, by decide, fun base D dA sv ro scr => callok_S rfl rfl od_309 q1471 q1472 q67 q1473⟩) (fa_ (⟨by decide, md_mJ4_rightOf.1, md_mJ4_rightOf.2, by decide, fun base D dA sv ro scr => callok_S rfl rfl od_310 q1474 q1475 q67 q1476⟩) (fa_ (⟨by decide, md_mJ4_colorOf.1, md_mJ4_colorOf.2, by decide, fun base D dA sv ro scr => callok_S rfl rfl od_311 q1477 q1478 q67 q1479⟩) (fa_ (⟨by decide, md_mJ4_setColor.1, md_mJ4_setColor.2, by decide, fun base D dA sv ro scr => callok_S rfl rfl od_312 q1480 q1481 q67 q1482⟩) (fn_))))))))))))))))))))))))))))))
theorem tG_104_1 : ∀ q ∈ (tL_104.drop 30).take 30, TgOK 104 q.1 q.2.1 q.2.2.1 q.2.2.2 := fa_ (⟨by decide, md_mJ4_rotateLeft.1, md_mJ4_rotateLeft.2, by decide, fun base D dA sv ro scr => callok_V (C := "java/util/TreeMap") rfl rfl rfl rfl od_313 q1483 q1485 qs9 q67 q1486⟩) (fa_ (⟨by decide, md_mJ4_rotateRight.1, md_mJ4_rotateRight.2, by decide, fun base D dA sv ro scr => callok_V (C := "java/util/TreeMap") rfl rfl rfl rfl od_314 q1487 q1489 qs10 q67 q1490⟩) (fa_ (⟨by decide, md_mJ4_fixAfterDeletion.1, md_mJ4_fixAfterDeletion.2, by decide, fun base D dA sv ro scr => callok_V (C := "java/util/TreeMap") rfl rfl rfl rfl od_315 q1776 q1778 qs17 q67 q1779⟩) (fn_)))
theorem tG_104 : ∀ q ∈ tL_104, TgOK 104 q.1 q.2.1 q.2.2.1 q.2.2.2 := tk_ 30 tG_104_0 (tk_ 30 tG_104_1 (fun q h => by cases h))
theorem tG_105_0 : ∀ q ∈ (tL_105.drop 0).take 30, TgOK 105 q.1 q.2.1 q.2.2.1 q.2.2.2 := fa_ (⟨by decide, md_mJ0_init.1, md_mJ0_init.2, by decide, fun base D dA sv ro scr => callok_I rfl rfl rfl rfl od_270 q231 q154 q63 q155⟩) (fn_)
theorem tG_105 : ∀ q ∈ tL_105, TgOK 105 q.1 q.2.1 q.2.2.1 q.2.2.2 := tk_ 30 tG_105_0 (fun q h => by cases h)
theorem tG_106_0 : ∀ q ∈ (tL_106.drop 0).take 30, TgOK 106 q.1 q.2.1 q.2.2.1 q.2.2.2 := fa_ (⟨by decide, md_mJ6_init_2.1, md_mJ6_init_2.2, by decide, fun base D dA sv ro scr => callok_I rfl rfl rfl rfl od_316 q225 q226 q69 q227⟩) (fa_ (⟨by decide, md_mJ5_init.1, md_mJ5_init.2, by decide, fun base D dA sv ro scr => callok_I rfl rfl rfl rfl od_317 q228 q229 q68 q230⟩) (fa_ (⟨by decide, md_mJ11_newLength.1, md_mJ11_newLength.2, by decide, fun base D dA sv ro scr => callok_S rfl rfl od_274 q2253 q397 q77 q398⟩) (fa_ (⟨by decide, md_mJ13_copyOf.1, md_mJ13_copyOf.2, by decide, fun base D dA sv ro scr => callok_S rfl rfl od_272 q2254 q407 q79 q408⟩) (fa_ (⟨by decide, md_mJ6_offer.1, md_mJ6_offer.2, by decide, fun base D dA sv ro scr => callok_V (C := "java/util/PriorityQueue") rfl rfl rfl rfl od_318 q2245 q2246 q2247 q69 q2248⟩) (fa_ (⟨by decide, md_mJ6_grow.1, md_mJ6_grow.2, by decide, fun base D dA sv ro scr => callok_V (C := "java/util/PriorityQueue") rfl rfl rfl rfl od_319 q2249 q2251 qs24 q69 q2252⟩) (fa_ (⟨by decide, md_mJ6_siftUp.1, md_mJ6_siftUp.2, by decide, fun base D dA sv ro scr => callok_V (C := "java/util/PriorityQueue") rfl rfl rfl rfl od_320 q1703 q1705 qs13 q69 q1706⟩) (fa_ (⟨by decide, md_mJ6_removeAt.1, md_mJ6_removeAt.2, by decide, fun base D dA sv ro scr => callok_V (C := "java/util/PriorityQueue") rfl rfl rfl rfl od_321 q1761 q1685 q1686 q69 q1687⟩) (fa_ (⟨by decide, md_mJ42_init.1, md_mJ42_init.2, by decide, fun base D dA sv ro scr => callok_I rfl rfl rfl rfl od_322 q1067 q1068 q116 q1069⟩) (fa_ (⟨by decide, md_mJ6_siftDownUsingComparator.1, md_mJ6_siftDownUsingComparator.2, by decide, fun base D dA sv ro scr => callok_S rfl rfl od_323 q1692 q1693 q69 q1694⟩) (fa_ (⟨by decide, md_mJ6_siftDown.1, md_mJ6_siftDown.2, by decide, fun base D dA sv ro scr => callok_V (C := "java/util/PriorityQueue") rfl rfl rfl rfl od_324 q1688 q1690 qs12 q69 q1691⟩) (fa_ (⟨by decide, md_mJ6_siftUpUsingComparator.1, md_mJ6_siftUpUsingComparator.2, by decide, fun base D dA sv ro scr => callok_S rfl rfl od_325 q1707 q1708 q69 q1709⟩) (fa_ (⟨by decide, md_mX2_compare.1, md_mX2_compare.2, by decide, fun base D dA sv ro scr => callok_F (C := "Leafcredit$ByPrice") (x := ⟨"java/util/Comparator", "compare", "(Ljava/lang/Object;Ljava/lang/Object;)I"⟩) rfl rfl (by decide) rfl od_147 (List.mem_of_getElem? (i := 18) rfl) q1696 q902 q904 q70 q906⟩) (fa_ (⟨by decide, md_mX14_compare.1, md_mX14_compare.2, by decide, fun base D dA sv ro scr => callok_F (C := "Leafcredit$ByUse") (x := ⟨"java/util/Comparator", "compare", "(Ljava/lang/Object;Ljava/lang/Object;)I"⟩) rfl rfl (by decide) rfl od_147 (List.mem_of_getElem? (i := 19) rfl) q1696 q914 q916 q125 q918⟩) (fn_))))))))))))))
theorem tG_106 : ∀ q ∈ tL_106, TgOK 106 q.1 q.2.1 q.2.2.1 q.2.2.2 := tk_ 30 tG_106_0 (fun q h => by cases h)
theorem tG_111_0 : ∀ q ∈ (tL_111.drop 0).take 30, TgOK 111 q.1 q.2.1 q.2.2.1 q.2.2.2 := fa_ (⟨by decide, md_mJ12_max.1, md_mJ12_max.2, by decide, fun base D dA sv ro scr => callok_S rfl rfl od_167 q399 q400 q78 q401⟩) (fn_)
theorem tG_111 : ∀ q ∈ tL_111, TgOK 111 q.1 q.2.1 q.2.2.1 q.2.2.2 := tk_ 30 tG_111_0 (fun q h => by cases h)
theorem tG_113_0 : ∀ q ∈ (tL_113.drop 0).take 30, TgOK 113 q.1 q.2.1 q.2.2.1 q.2.2.2 := fa_ (⟨by decide, Or.inr (Or.inr ⟨rfl, rfl, q409, q3779, q410, q461⟩)⟩) (fa_ (⟨by decide, Or.inr (Or.inl ⟨rfl, rfl, q470, q472, q471, q80⟩)⟩) (fa_ (⟨by decide, md_mJ13_copyOf_2.1, md_mJ13_copyOf_2.2, by decide, fun base D dA sv ro scr => callok_S rfl rfl od_326 q462 q463 q79 q464⟩) (fa_ (⟨by decide, md_mJ12_min.1, md_mJ12_min.2, by decide, fun base D dA sv ro scr => callok_S rfl rfl od_169 q467 q468 q78 q469⟩) (fn_))))
theorem tG_113 : ∀ q ∈ tL_113, TgOK 113 q.1 q.2.1 q.2.2.1 q.2.2.2 := tk_ 30 tG_113_0 (fun q h => by cases h)
theorem tG_118_0 : ∀ q ∈ (tL_118.drop 0).take 30, TgOK 118 q.1 q.2.1 q.2.2.1 q.2.2.2 := fa_ (⟨by decide, md_mJ19_checkIndex.1, md_mJ19_checkIndex.2, by decide, fun base D dA sv ro scr => callok_S rfl rfl od_327 q1656 q1657 q88 q1658⟩) (fn_)
theorem tG_118 : ∀ q ∈ tL_118, TgOK 118 q.1 q.2.1 q.2.2.1 q.2.2.2 := tk_ 30 tG_118_0 (fun q h => by cases h)
theorem tG_120_0 : ∀ q ∈ (tL_120.drop 0).take 30, TgOK 120 q.1 q.2.1 q.2.2.1 q.2.2.2 := fa_ (⟨by decide, Or.inl ⟨rfl, rfl, q1045, q143, q144⟩⟩) (fa_ (⟨by decide, md_mJ20_checkForComodification.1, md_mJ20_checkForComodification.2, by decide, fun base D dA sv ro scr => callok_V (C := "java/util/ArrayList$Itr") rfl rfl rfl rfl od_328 q1203 q1204 q1205 q90 q1206⟩) (fa_ (⟨by decide, md_mJ2_remove.1, md_mJ2_remove.2, by decide, fun base D dA sv ro scr => callok_V (C := "java/util/ArrayList") rfl rfl rfl rfl od_329 q1649 q1650 q1651 q65 q1652⟩) (fn_)))
theorem tG_120 : ∀ q ∈ tL_120, TgOK 120 q.1 q.2.1 q.2.2.1 q.2.2.2 := tk_ 30 tG_120_0 (fun q h => by cases h)
theorem tG_124_0 : ∀ q ∈ (tL_124.drop 0).take 30, TgOK 124 q.1 q.2.1 q.2.2.1 q.2.2.2 := fa_ (⟨by decide, Or.inl ⟨rfl, rfl, q1361, q143, q144⟩⟩) (fn_)
theorem tG_124 : ∀ q ∈ tL_124, TgOK 124 q.1 q.2.1 q.2.2.1 q.2.2.2 := tk_ 30 tG_124_0 (fun q h => by cases h)
theorem tG_125_0 : ∀ q ∈ (tL_125.drop 0).take 30, TgOK 125 q.1 q.2.1 q.2.2.1 q.2.2.2 := fa_ (⟨by decide, md_mJ25_init.1, md_mJ25_init.2, by decide, fun base D dA sv ro scr => callok_I rfl rfl rfl rfl od_330 q1355 q1356 q95 q1357⟩) (fa_ (⟨by decide, md_mJ24_init.1, md_mJ24_init.2, by decide, fun base D dA sv ro scr => callok_I rfl rfl rfl rfl od_331 q1358 q1359 q94 q1360⟩) (fa_ (⟨by decide, md_mJ25_compare.1, md_mJ25_compare.2, by decide, fun base D dA sv ro scr => callok_S rfl rfl od_205 q671 q672 q95 q673⟩) (fa_ (⟨by decide, md_mJ25_compareTo_2.1, md_mJ25_compareTo_2.2, by decide, fun base D dA sv ro scr => callok_V (C := "java/lang/Integer") rfl rfl rfl rfl od_332 q667 q668 q669 q95 q670⟩) (fa_ (⟨by decide, md_mJ25_compareTo_2.1, md_mJ25_compareTo_2.2, by decide, fun base D dA sv ro scr => callok_V (C := "java/lang/Integer") rfl rfl rfl rfl od_332 q667 q668 q669 q95 q670⟩) (fn_)))))
theorem tG_125 : ∀ q ∈ tL_125, TgOK 125 q.1 q.2.1 q.2.2.1 q.2.2.2 := tk_ 30 tG_125_0 (fun q h => by cases h)
theorem tG_126_0 : ∀ q ∈ (tL_126.drop 0).take 30, TgOK 126 q.1 q.2.1 q.2.2.1 q.2.2.2 := fa_ (⟨by decide, md_mJ26_init.1, md_mJ26_init.2, by decide, fun base D dA sv ro scr => callok_I rfl rfl rfl rfl od_333 q2951 q2952 q97 q2953⟩) (fa_ (⟨by decide, md_mJ24_init.1, md_mJ24_init.2, by decide, fun base D dA sv ro scr => callok_I rfl rfl rfl rfl od_331 q2954 q1359 q94 q1360⟩) (fa_ (⟨by decide, md_mJ26_compare.1, md_mJ26_compare.2, by decide, fun base D dA sv ro scr => callok_S rfl rfl od_334 q685 q686 q97 q687⟩) (fa_ (⟨by decide, md_mJ26_compareTo_2.1, md_mJ26_compareTo_2.2, by decide, fun base D dA sv ro scr => callok_V (C := "java/lang/Long") rfl rfl rfl rfl od_335 q681 q682 q683 q97 q684⟩) (fa_ (⟨by decide, md_mJ26_compareTo_2.1, md_mJ26_compareTo_2.2, by decide, fun base D dA sv ro scr => callok_V (C := "java/lang/Long") rfl rfl rfl rfl od_335 q681 q682 q683 q97 q684⟩) (fn_)))))
theorem tG_126 : ∀ q ∈ tL_126, TgOK 126 q.1 q.2.1 q.2.2.1 q.2.2.2 := tk_ 30 tG_126_0 (fun q h => by cases h)
theorem tG_130_0 : ∀ q ∈ (tL_130.drop 0).take 30, TgOK 130 q.1 q.2.1 q.2.2.1 q.2.2.2 := fa_ (⟨by decide, Or.inl ⟨rfl, rfl, q1426, q143, q144⟩⟩) (fn_)
theorem tG_130 : ∀ q ∈ tL_130, TgOK 130 q.1 q.2.1 q.2.2.1 q.2.2.2 := tk_ 30 tG_130_0 (fun q h => by cases h)
theorem tG_131_0 : ∀ q ∈ (tL_131.drop 0).take 30, TgOK 131 q.1 q.2.1 q.2.2.1 q.2.2.2 := fa_ (⟨by decide, md_mJ0_init.1, md_mJ0_init.2, by decide, fun base D dA sv ro scr => callok_I rfl rfl rfl rfl od_270 q560 q154 q63 q155⟩) (fa_ (⟨by decide, md_mJ4_getFirstEntry.1, md_mJ4_getFirstEntry.2, by decide, fun base D dA sv ro scr => callok_V (C := "java/util/TreeMap") rfl rfl rfl rfl od_336 q1102 q644 q645 q67 q646⟩) (fa_ (⟨by decide, md_mJ43_init.1, md_mJ43_init.2, by decide, fun base D dA sv ro scr => callok_I rfl rfl rfl rfl od_337 q1103 q1104 q117 q1105⟩) (fa_ (⟨by decide, md_mJ4_size.1, md_mJ4_size.2, by decide, fun base D dA sv ro scr => callok_V (C := "java/util/TreeMap") rfl rfl rfl rfl od_338 q2319 q2278 q3711 q67 q2279⟩) (fn_))))
theorem tG_131 : ∀ q ∈ tL_131, TgOK 131 q.1 q.2.1 q.2.2.1 q.2.2.2 := tk_ 30 tG_131_0 (fun q h => by cases h)
theorem tG_132_0 : ∀ q ∈ (tL_132.drop 0).take 30, TgOK 132 q.1 q.2.1 q.2.2.1 q.2.2.2 := fa_ (⟨by decide, Or.inl ⟨rfl, rfl, q580, q143, q144⟩⟩) (fa_ (⟨by decide, md_mJ48_entrySet.1, md_mJ48_entrySet.2, by decide, fun base D dA sv ro scr => callok_A (C := "java/util/TreeMap$AscendingSubMap") (x := ⟨"java/util/AbstractMap", "entrySet", "()Ljava/util/Set;"⟩) rfl rfl rfl od_284 q581 q583 (List.mem_of_getElem? (i := 113) rfl) q600 q601 q128 q602⟩) (fa_ (⟨by decide, md_mJ36_iterator.1, md_mJ36_iterator.2, by decide, fun base D dA sv ro scr => callok_F (C := "java/util/TreeMap$AscendingSubMap$AscendingEntrySetView") (x := ⟨"java/util/Set", "iterator", "()Ljava/util/Iterator;"⟩) rfl rfl (by decide) rfl od_339 (List.mem_of_getElem? (i := 38) rfl) q626 q630 q632 q110 q634⟩) (fa_ (⟨by decide, md_mJ20_hasNext.1, md_mJ20_hasNext.2, by decide, fun base D dA sv ro scr => callok_F (C := "java/util/ArrayList$Itr") (x := ⟨"java/util/Iterator", "hasNext", "()Z"⟩) rfl rfl (by decide) rfl od_143 (List.mem_of_getElem? (i := 8) rfl) q1123 q1131 q1133 q90 q1135⟩) (fa_ (⟨by decide, md_mJ32_hasNext.1, md_mJ32_hasNext.2, by decide, fun base D dA sv ro scr => callok_F (C := "java/util/AbstractMap$2$1") (x := ⟨"java/util/Iterator", "hasNext", "()Z"⟩) rfl rfl (by decide) rfl od_143 (List.mem_of_getElem? (i := 9) rfl) q1123 q1117 q1119 q106 q1121⟩) (fa_ (⟨by decide, md_mJ37_hasNext.1, md_mJ37_hasNext.2, by decide, fun base D dA sv ro scr => callok_F (C := "java/util/TreeMap$NavigableSubMap$SubMapEntryIterator") (x := ⟨"java/util/Iterator", "hasNext", "()Z"⟩) rfl rfl (by decide) rfl od_143 (List.mem_of_getElem? (i := 10) rfl) q1123 q1153 q1155 q111 q1157⟩) (fa_ (⟨by decide, md_mJ42_hasNext.1, md_mJ42_hasNext.2, by decide, fun base D dA sv ro scr => callok_F (C := "java/util/PriorityQueue$Itr") (x := ⟨"java/util/Iterator", "hasNext", "()Z"⟩) rfl rfl (by decide) rfl od_143 (List.mem_of_getElem? (i := 11) rfl) q1123 q1137 q1139 q116 q1141⟩) (fa_ (⟨by decide, md_mJ39_hasNext.1, md_mJ39_hasNext.2, by decide, fun base D dA sv ro scr => callok_F (C := "java/util/TreeMap$ValueIterator") (x := ⟨"java/util/Iterator", "hasNext", "()Z"⟩) rfl rfl (by decide) rfl od_143 (List.mem_of_getElem? (i := 12) rfl) q1123 q1159 q1149 q113 q1151⟩) (fa_ (⟨by decide, md_mJ20_next.1, md_mJ20_next.2, by decide, fun base D dA sv ro scr => callok_F (C := "java/util/ArrayList$Itr") (x := ⟨"java/util/Iterator", "next", "()Ljava/lang/Object;"⟩) rfl rfl (by decide) rfl od_144 (List.mem_of_getElem? (i := 13) rfl) q1171 q1198 q1200 q90 q1202⟩) (fa_ (⟨by decide, md_mJ32_next.1, md_mJ32_next.2, by decide, fun base D dA sv ro scr => callok_F (C := "java/util/AbstractMap$2$1") (x := ⟨"java/util/Iterator", "next", "()Ljava/lang/Object;"⟩) rfl rfl (by decide) rfl od_144 (List.mem_of_getElem? (i := 14) rfl) q1171 q1165 q1167 q106 q1169⟩) (fa_ (⟨by decide, md_mJ38_next.1, md_mJ38_next.2, by decide, fun base D dA sv ro scr => callok_F (C := "java/util/TreeMap$NavigableSubMap$SubMapEntryIterator") (x := ⟨"java/util/Iterator", "next", "()Ljava/lang/Object;"⟩) rfl rfl (by decide) rfl od_144 (List.mem_of_getElem? (i := 15) rfl) q1171 q1248 q1250 q112 q1252⟩) (fa_ (⟨by decide, md_mJ42_next.1, md_mJ42_next.2, by decide, fun base D dA sv ro scr => callok_F (C := "java/util/PriorityQueue$Itr") (x := ⟨"java/util/Iterator", "next", "()Ljava/lang/Object;"⟩) rfl rfl (by decide) rfl od_144 (List.mem_of_getElem? (i := 16) rfl) q1171 q1209 q1211 q116 q1213⟩) (fa_ (⟨by decide, md_mJ43_next.1, md_mJ43_next.2, by decide, fun base D dA sv ro scr => callok_F (C := "java/util/TreeMap$ValueIterator") (x := ⟨"java/util/Iterator", "next", "()Ljava/lang/Object;"⟩) rfl rfl (by decide) rfl od_144 (List.mem_of_getElem? (i := 17) rfl) q1171 q1266 q1268 q117 q1270⟩) (fa_ (⟨by decide, md_mJ30_getValue.1, md_mJ30_getValue.2, by decide, fun base D dA sv ro scr => callok_F (C := "java/util/TreeMap$Entry") (x := ⟨"java/util/Map$Entry", "getValue", "()Ljava/lang/Object;"⟩) rfl rfl (by decide) rfl od_190 (List.mem_of_getElem? (i := 25) rfl) q1276 q1286 q1288 q102 q1290⟩) (fa_ (⟨by decide, md_mJ50_getValue.1, md_mJ50_getValue.2, by decide, fun base D dA sv ro scr => callok_F (C := "java/util/AbstractMap$SimpleImmutableEntry") (x := ⟨"java/util/Map$Entry", "getValue", "()Ljava/lang/Object;"⟩) rfl rfl (by decide) rfl od_190 (List.mem_of_getElem? (i := 26) rfl) q1276 q1280 q1282 q130 q1284⟩) (fa_ (⟨by decide, md_mJ32_remove.1, md_mJ32_remove.2, by decide, fun base D dA sv ro scr => callok_F (C := "java/util/AbstractMap$2$1") (x := ⟨"java/util/Iterator", "remove", "()V"⟩) rfl rfl (by decide) rfl od_269 (List.mem_of_getElem? (i := 31) rfl) q1608 q1602 q1604 q106 q1606⟩) (fa_ (⟨by decide, md_mJ38_remove.1, md_mJ38_remove.2, by decide, fun base D dA sv ro scr => callok_F (C := "java/util/TreeMap$NavigableSubMap$SubMapEntryIterator") (x := ⟨"java/util/Iterator", "remove", "()V"⟩) rfl rfl (by decide) rfl od_269 (List.mem_of_getElem? (i := 32) rfl) q1608 q1780 q1782 q112 q1784⟩) (fa_ (⟨by decide, md_mJ42_remove.1, md_mJ42_remove.2, by decide, fun base D dA sv ro scr => callok_F (C := "java/util/PriorityQueue$Itr") (x := ⟨"java/util/Iterator", "remove", "()V"⟩) rfl rfl (by decide) rfl od_269 (List.mem_of_getElem? (i := 33) rfl) q1608 q1679 q1681 q116 q1683⟩) (fa_ (⟨by decide, md_mJ39_remove.1, md_mJ39_remove.2, by decide, fun base D dA sv ro scr => callok_F (C := "java/util/TreeMap$ValueIterator") (x := ⟨"java/util/Iterator", "remove", "()V"⟩) rfl rfl (by decide) rfl od_269 (List.mem_of_getElem? (i := 34) rfl) q1608 q1794 q1766 q113 q1768⟩) (fn_)))))))))))))))))))
theorem tG_132 : ∀ q ∈ tL_132, TgOK 132 q.1 q.2.1 q.2.2.1 q.2.2.2 := tk_ 30 tG_132_0 (fun q h => by cases h)
theorem tG_133_0 : ∀ q ∈ (tL_133.drop 0).take 30, TgOK 133 q.1 q.2.1 q.2.2.1 q.2.2.2 := fa_ (⟨by decide, md_mJ0_init.1, md_mJ0_init.2, by decide, fun base D dA sv ro scr => callok_I rfl rfl rfl rfl od_270 q595 q154 q63 q155⟩) (fn_)
theorem tG_133 : ∀ q ∈ tL_133, TgOK 133 q.1 q.2.1 q.2.2.1 q.2.2.2 := tk_ 30 tG_133_0 (fun q h => by cases h)
theorem tG_134_0 : ∀ q ∈ (tL_134.drop 0).take 30, TgOK 134 q.1 q.2.1 q.2.2.1 q.2.2.2 := fa_ (⟨by decide, md_mJ33_init.1, md_mJ33_init.2, by decide, fun base D dA sv ro scr => callok_I rfl rfl rfl rfl od_340 q592 q593 q107 q594⟩) (fa_ (⟨by decide, md_mJ4_getFirstEntry.1, md_mJ4_getFirstEntry.2, by decide, fun base D dA sv ro scr => callok_V (C := "java/util/TreeMap") rfl rfl rfl rfl od_336 q974 q644 q645 q67 q646⟩) (fa_ (⟨by decide, md_mJ40_init.1, md_mJ40_init.2, by decide, fun base D dA sv ro scr => callok_I rfl rfl rfl rfl od_341 q975 q976 q114 q977⟩) (fa_ (⟨by decide, md_mJ4_size.1, md_mJ4_size.2, by decide, fun base D dA sv ro scr => callok_V (C := "java/util/TreeMap") rfl rfl rfl rfl od_338 q2309 q2278 q3711 q67 q2279⟩) (fa_ (⟨by decide, md_mJ4_clear.1, md_mJ4_clear.2, by decide, fun base D dA sv ro scr => callok_V (C := "java/util/TreeMap") rfl rfl rfl rfl od_342 q1801 q1565 q3709 q67 q1567⟩) (fn_)))))
theorem tG_134 : ∀ q ∈ tL_134, TgOK 134 q.1 q.2.1 q.2.2.1 q.2.2.2 := tk_ 30 tG_134_0 (fun q h => by cases h)
theorem tG_135_0 : ∀ q ∈ (tL_135.drop 0).take 30, TgOK 135 q.1 q.2.1 q.2.2.1 q.2.2.2 := fa_ (⟨by decide, md_mJ33_init.1, md_mJ33_init.2, by decide, fun base D dA sv ro scr => callok_I rfl rfl rfl rfl od_340 q611 q593 q107 q594⟩) (fa_ (⟨by decide, md_mJ4_size.1, md_mJ4_size.2, by decide, fun base D dA sv ro scr => callok_V (C := "java/util/TreeMap") rfl rfl rfl rfl od_338 q2296 q2278 q3711 q67 q2279⟩) (fa_ (⟨by decide, md_mJ20_hasNext.1, md_mJ20_hasNext.2, by decide, fun base D dA sv ro scr => callok_F (C := "java/util/ArrayList$Itr") (x := ⟨"java/util/Iterator", "hasNext", "()Z"⟩) rfl rfl (by decide) rfl od_143 (List.mem_of_getElem? (i := 8) rfl) q2301 q1131 q1133 q90 q1135⟩) (fa_ (⟨by decide, md_mJ32_hasNext.1, md_mJ32_hasNext.2, by decide, fun base D dA sv ro scr => callok_F (C := "java/util/AbstractMap$2$1") (x := ⟨"java/util/Iterator", "hasNext", "()Z"⟩) rfl rfl (by decide) rfl od_143 (List.mem_of_getElem? (i := 9) rfl) q2301 q1117 q1119 q106 q1121⟩) (fa_ (⟨by decide, md_mJ37_hasNext.1, md_mJ37_hasNext.2, by decide, fun base D dA sv ro scr => callok_F (C := "java/util/TreeMap$NavigableSubMap$SubMapEntryIterator") (x := ⟨"java/util/Iterator", "hasNext", "()Z"⟩) rfl rfl (by decide) rfl od_143 (List.mem_of_getElem? (i := 10) rfl) q2301 q1153 q1155 q111 q1157⟩) (fa_ (⟨by decide, md_mJ42_hasNext.1, md_mJ42_hasNext.2, by decide, fun base D dA sv ro scr => callok_F (C := "java/util/PriorityQueue$Itr") (x := ⟨"java/util/Iterator", "hasNext", "()Z"⟩) rfl rfl (by decide) rfl od_143 (List.mem_of_getElem? (i := 11) rfl) q2301 q1137 q1139 q116 q1141⟩) (fa_ (⟨by decide, md_mJ39_hasNext.1, md_mJ39_hasNext.2, by decide, fun base D dA sv ro scr => callok_F (C := "java/util/TreeMap$ValueIterator") (x := ⟨"java/util/Iterator", "hasNext", "()Z"⟩) rfl rfl (by decide) rfl od_143 (List.mem_of_getElem? (i := 12) rfl) q2301 q1159 q1149 q113 q1151⟩) (fa_ (⟨by decide, md_mJ20_next.1, md_mJ20_next.2, by decide, fun base D dA sv ro scr => callok_F (C := "java/util/ArrayList$Itr") (x := ⟨"java/util/Iterator", "next", "()Ljava/lang/Object;"⟩) rfl rfl (by decide) rfl od_144 (List.mem_of_getElem? (i := 13) rfl) q2303 q1198 q1200 q90 q1202⟩) (fa_ (⟨by decide, md_mJ32_next.1, md_mJ32_next.2, by decide, fun base D dA sv ro scr => callok_F (C := "java/util/AbstractMap$2$1") (x := ⟨"java/util/Iterator", "next", "()Ljava/lang/Object;"⟩) rfl rfl (by decide) rfl od_144 (List.mem_of_getElem? (i := 14) rfl) q2303 q1165 q1167 q106 q1169⟩) (fa_ (⟨by decide, md_mJ38_next.1, md_mJ38_next.2, by decide, fun base D dA sv ro scr => callok_F (C := "java/util/TreeMap$NavigableSubMap$SubMapEntryIterator") (x := ⟨"java/util/Iterator", "next", "()Ljava/lang/Object;"⟩) rfl rfl (by decide) rfl od_144 (List.mem_of_getElem? (i := 15) rfl) q2303 q1248 q1250 q112 q1252⟩) (fa_ (⟨by decide, md_mJ42_next.1, md_mJ42_next.2, by decide, fun base D dA sv ro scr => callok_F (C := "java/util/PriorityQueue$Itr") (x := ⟨"java/util/Iterator", "next", "()Ljava/lang/Object;"⟩) rfl rfl (by decide) rfl od_144 (List.mem_of_getElem? (i := 16) rfl) q2303 q1209 q1211 q116 q1213⟩) (fa_ (⟨by decide, md_mJ43_next.1, md_mJ43_next.2, by decide, fun base D dA sv ro scr => callok_F (C := "java/util/TreeMap$ValueIterator") (x := ⟨"java/util/Iterator", "next", "()Ljava/lang/Object;"⟩) rfl rfl (by decide) rfl od_144 (List.mem_of_getElem? (i := 17) rfl) q2303 q1266 q1268 q117 q1270⟩) (fn_))))))))))))
theorem tG_135 : ∀ q ∈ tL_135, TgOK 135 q.1 q.2.1 q.2.2.1 q.2.2.2 := tk_ 30 tG_135_0 (fun q h => by cases h)
theorem tG_136_0 : ∀ q ∈ (tL_136.drop 0).take 30, TgOK 136 q.1 q.2.1 q.2.2.1 q.2.2.2 := fa_ (⟨by decide, md_mJ35_init.1, md_mJ35_init.2, by decide, fun base D dA sv ro scr => callok_I rfl rfl rfl rfl od_343 q608 q609 q109 q610⟩) (fa_ (⟨by decide, md_mJ47_absLowest.1, md_mJ47_absLowest.2, by decide, fun base D dA sv ro scr => callok_U (C := "java/util/TreeMap$AscendingSubMap") (x := ⟨"java/util/TreeMap$AscendingSubMap", "absLowest", "()Ljava/util/TreeMap$Entry;"⟩) rfl rfl rfl rfl od_344 q637 q638 q640 q641 q127 q642⟩) (fa_ (⟨by decide, md_mJ47_absHighFence.1, md_mJ47_absHighFence.2, by decide, fun base D dA sv ro scr => callok_U (C := "java/util/TreeMap$AscendingSubMap") (x := ⟨"java/util/TreeMap$AscendingSubMap", "absHighFence", "()Ljava/util/TreeMap$Entry;"⟩) rfl rfl rfl rfl od_345 q935 q936 q938 q939 q127 q940⟩) (fa_ (⟨by decide, md_mJ38_init.1, md_mJ38_init.2, by decide, fun base D dA sv ro scr => callok_I rfl rfl rfl rfl od_346 q941 q942 q112 q943⟩) (fn_))))
theorem tG_136 : ∀ q ∈ tL_136, TgOK 136 q.1 q.2.1 q.2.2.1 q.2.2.2 := tk_ 30 tG_136_0 (fun q h => by cases h)
theorem tG_137_0 : ∀ q ∈ (tL_137.drop 0).take 30, TgOK 137 q.1 q.2.1 q.2.2.1 q.2.2.2 := fa_ (⟨by decide, Or.inl ⟨rfl, rfl, q947, q143, q144⟩⟩) (fa_ (⟨by decide, md_mJ4_successor.1, md_mJ4_successor.2, by decide, fun base D dA sv ro scr => callok_S rfl rfl od_290 q1265 q1246 q67 q1247⟩) (fa_ (⟨by decide, md_mJ4_deleteEntry.1, md_mJ4_deleteEntry.2, by decide, fun base D dA sv ro scr => callok_VN (C := "java/util/TreeMap") rfl rfl rfl od_347 (List.mem_of_getElem? (i := 115) rfl) q1773 qs16 q67 q1774⟩) (fn_)))
theorem tG_137 : ∀ q ∈ tL_137, TgOK 137 q.1 q.2.1 q.2.2.1 q.2.2.2 := tk_ 30 tG_137_0 (fun q h => by cases h)
theorem tG_138_0 : ∀ q ∈ (tL_138.drop 0).take 30, TgOK 138 q.1 q.2.1 q.2.2.1 q.2.2.2 := fa_ (⟨by decide, md_mJ37_init.1, md_mJ37_init.2, by decide, fun base D dA sv ro scr => callok_I rfl rfl rfl rfl od_348 q944 q945 q111 q946⟩) (fa_ (⟨by decide, md_mJ37_nextEntry.1, md_mJ37_nextEntry.2, by decide, fun base D dA sv ro scr => callok_U (C := "java/util/TreeMap$NavigableSubMap$SubMapEntryIterator") (x := ⟨"java/util/TreeMap$NavigableSubMap$SubMapEntryIterator", "nextEntry", "()Ljava/util/TreeMap$Entry;"⟩) rfl rfl rfl rfl od_349 q1257 q1258 q1260 q1261 q111 q1262⟩) (fa_ (⟨by decide, md_mJ37_removeAscending.1, md_mJ37_removeAscending.2, by decide, fun base D dA sv ro scr => callok_U (C := "java/util/TreeMap$NavigableSubMap$SubMapEntryIterator") (x := ⟨"java/util/TreeMap$NavigableSubMap$SubMapEntryIterator", "removeAscending", "()V"⟩) rfl rfl rfl rfl od_350 q1785 q1786 q1788 q1789 q111 q1790⟩) (fa_ (⟨by decide, md_mJ38_next_2.1, md_mJ38_next_2.2, by decide, fun base D dA sv ro scr => callok_V (C := "java/util/TreeMap$NavigableSubMap$SubMapEntryIterator") rfl rfl rfl rfl od_351 q1253 q1254 q1255 q112 q1256⟩) (fn_))))
theorem tG_138 : ∀ q ∈ tL_138, TgOK 138 q.1 q.2.1 q.2.2.1 q.2.2.2 := tk_ 30 tG_138_0 (fun q h => by cases h)
theorem tG_139_0 : ∀ q ∈ (tL_139.drop 0).take 30, TgOK 139 q.1 q.2.1 q.2.2.1 q.2.2.2 := fa_ (⟨by decide, Or.inl ⟨rfl, rfl, q981, q143, q144⟩⟩) (fa_ (⟨by decide, md_mJ4_successor.1, md_mJ4_successor.2, by decide, fun base D dA sv ro scr => callok_S rfl rfl od_290 q1245 q1246 q67 q1247⟩) (fa_ (⟨by decide, md_mJ4_deleteEntry.1, md_mJ4_deleteEntry.2, by decide, fun base D dA sv ro scr => callok_VN (C := "java/util/TreeMap") rfl rfl rfl od_347 (List.mem_of_getElem? (i := 116) rfl) q1773 qs16 q67 q1774⟩) (fn_)))
theorem tG_139 : ∀ q ∈ tL_139, TgOK 139 q.1 q.2.1 q.2.2.1 q.2.2.2 := tk_ 30 tG_139_0 (fun q h => by cases h)
theorem tG_140_0 : ∀ q ∈ (tL_140.drop 0).take 30, TgOK 140 q.1 q.2.1 q.2.2.1 q.2.2.2 := fa_ (⟨by decide, md_mJ39_init.1, md_mJ39_init.2, by decide, fun base D dA sv ro scr => callok_I rfl rfl rfl rfl od_352 q978 q979 q113 q980⟩) (fn_)
theorem tG_140 : ∀ q ∈ tL_140, TgOK 140 q.1 q.2.1 q.2.2.1 q.2.2.2 := tk_ 30 tG_140_0 (fun q h => by cases h)
theorem tG_142_0 : ∀ q ∈ (tL_142.drop 0).take 30, TgOK 142 q.1 q.2.1 q.2.2.1 q.2.2.2 := fa_ (⟨by decide, Or.inl ⟨rfl, rfl, q1070, q143, q144⟩⟩) (fa_ (⟨by decide, md_mJ6_removeAt.1, md_mJ6_removeAt.2, by decide, fun base D dA sv ro scr => callok_V (C := "java/util/PriorityQueue") rfl rfl rfl rfl od_321 q1684 q1685 q1686 q69 q1687⟩) (fa_ (⟨by decide, md_mJ6_removeEq.1, md_mJ6_removeEq.2, by decide, fun base D dA sv ro scr => callok_V (C := "java/util/PriorityQueue") rfl rfl rfl rfl od_353 q1757 q1758 q1759 q69 q1760⟩) (fn_)))
theorem tG_142 : ∀ q ∈ tL_142, TgOK 142 q.1 q.2.1 q.2.2.1 q.2.2.2 := tk_ 30 tG_142_0 (fun q h => by cases h)
theorem tG_143_0 : ∀ q ∈ (tL_143.drop 0).take 30, TgOK 143 q.1 q.2.1 q.2.2.1 q.2.2.2 := fa_ (⟨by decide, md_mJ39_init.1, md_mJ39_init.2, by decide, fun base D dA sv ro scr => callok_I rfl rfl rfl rfl od_352 q1106 q979 q113 q980⟩) (fa_ (⟨by decide, md_mJ39_nextEntry.1, md_mJ39_nextEntry.2, by decide, fun base D dA sv ro scr => callok_U (C := "java/util/TreeMap$ValueIterator") (x := ⟨"java/util/TreeMap$ValueIterator", "nextEntry", "()Ljava/util/TreeMap$Entry;"⟩) rfl rfl rfl rfl od_354 q1271 q1272 q1273 q1241 q113 q1242⟩) (fn_))
theorem tG_143 : ∀ q ∈ tL_143, TgOK 143 q.1 q.2.1 q.2.2.1 q.2.2.2 := tk_ 30 tG_143_0 (fun q h => by cases h)
theorem tG_144_0 : ∀ q ∈ (tL_144.drop 0).take 30, TgOK 144 q.1 q.2.1 q.2.2.1 q.2.2.2 := fa_ (⟨by decide, Or.inl ⟨rfl, rfl, q3520, q143, q144⟩⟩) (fn_)
theorem tG_144 : ∀ q ∈ tL_144, TgOK 144 q.1 q.2.1 q.2.2.1 q.2.2.2 := tk_ 30 tG_144_0 (fun q h => by cases h)
theorem tG_147_0 : ∀ q ∈ (tL_147.drop 0).take 30, TgOK 147 q.1 q.2.1 q.2.2.1 q.2.2.2 := fa_ (⟨by decide, md_mJ3_init.1, md_mJ3_init.2, by decide, fun base D dA sv ro scr => callok_I rfl rfl rfl rfl od_288 q1507 q180 q66 q181⟩) (fa_ (⟨by decide, md_mJ4_compare.1, md_mJ4_compare.2, by decide, fun base D dA sv ro scr => callok_V (C := "java/util/TreeMap") rfl rfl rfl rfl od_294 q934 q652 q653 q67 q654⟩) (fa_ (⟨by decide, md_mJ47_tooLow.1, md_mJ47_tooLow.2, by decide, fun base D dA sv ro scr => callok_U (C := "java/util/TreeMap$AscendingSubMap") (x := ⟨"java/util/TreeMap$NavigableSubMap", "tooLow", "(Ljava/lang/Object;)Z"⟩) rfl rfl rfl rfl od_355 q2091 q2093 q2094 q2092 q127 q2095⟩) (fa_ (⟨by decide, md_mJ47_tooHigh.1, md_mJ47_tooHigh.2, by decide, fun base D dA sv ro scr => callok_U (C := "java/util/TreeMap$AscendingSubMap") (x := ⟨"java/util/TreeMap$NavigableSubMap", "tooHigh", "(Ljava/lang/Object;)Z"⟩) rfl rfl rfl rfl od_356 q929 q931 q932 q930 q127 q933⟩) (fa_ (⟨by decide, md_mJ47_inRange.1, md_mJ47_inRange.2, by decide, fun base D dA sv ro scr => callok_U (C := "java/util/TreeMap$AscendingSubMap") (x := ⟨"java/util/TreeMap$NavigableSubMap", "inRange", "(Ljava/lang/Object;)Z"⟩) rfl rfl rfl rfl od_357 q2086 q2088 q2089 q2087 q127 q2090⟩) (fa_ (⟨by decide, md_mJ4_getFirstEntry.1, md_mJ4_getFirstEntry.2, by decide, fun base D dA sv ro scr => callok_V (C := "java/util/TreeMap") rfl rfl rfl rfl od_336 q643 q644 q645 q67 q646⟩) (fa_ (⟨by decide, md_mJ4_getCeilingEntry.1, md_mJ4_getCeilingEntry.2, by decide, fun base D dA sv ro scr => callok_V (C := "java/util/TreeMap") rfl rfl rfl rfl od_358 q647 q648 q649 q67 q650⟩) (fa_ (⟨by decide, md_mJ4_getHigherEntry.1, md_mJ4_getHigherEntry.2, by decide, fun base D dA sv ro scr => callok_V (C := "java/util/TreeMap") rfl rfl rfl rfl od_359 q925 q926 q927 q67 q928⟩) (fa_ (⟨by decide, md_mJ4_size.1, md_mJ4_size.2, by decide, fun base D dA sv ro scr => callok_V (C := "java/util/TreeMap") rfl rfl rfl rfl od_338 q2283 q2278 q3711 q67 q2279⟩) (fa_ (⟨by decide, md_mJ35_size.1, md_mJ35_size.2, by decide, fun base D dA sv ro scr => callok_F (C := "java/util/TreeMap$AscendingSubMap$AscendingEntrySetView") (x := ⟨"java/util/Set", "size", "()I"⟩) rfl rfl (by decide) rfl od_360 (List.mem_of_getElem? (i := 39) rfl) q2288 q2291 q2293 q109 q2295⟩) (fa_ (⟨by decide, md_mJ4_containsKey.1, md_mJ4_containsKey.2, by decide, fun base D dA sv ro scr => callok_V (C := "java/util/TreeMap") rfl rfl rfl rfl od_158 q2109 q2000 q2001 q67 q2002⟩) (fa_ (⟨by decide, md_mJ4_get.1, md_mJ4_get.2, by decide, fun base D dA sv ro scr => callok_V (C := "java/util/TreeMap") rfl rfl rfl rfl od_160 q2096 q2017 q2018 q67 q2019⟩) (fn_))))))))))))
theorem tG_147 : ∀ q ∈ tL_147, TgOK 147 q.1 q.2.1 q.2.2.1 q.2.2.2 := tk_ 30 tG_147_0 (fun q h => by cases h)
theorem tG_148_0 : ∀ q ∈ (tL_148.drop 0).take 30, TgOK 148 q.1 q.2.1 q.2.2.1 q.2.2.2 := fa_ (⟨by decide, md_mJ47_init.1, md_mJ47_init.2, by decide, fun base D dA sv ro scr => callok_I rfl rfl rfl rfl od_361 q1504 q1505 q127 q1506⟩) (fa_ (⟨by decide, md_mJ36_init.1, md_mJ36_init.2, by decide, fun base D dA sv ro scr => callok_I rfl rfl rfl rfl od_362 q605 q606 q110 q607⟩) (fn_))
theorem tG_148 : ∀ q ∈ tL_148, TgOK 148 q.1 q.2.1 q.2.2.1 q.2.2.2 := tk_ 30 tG_148_0 (fun q h => by cases h)
theorem tG_149_0 : ∀ q ∈ (tL_149.drop 0).take 30, TgOK 149 q.1 q.2.1 q.2.2.1 q.2.2.2 := fa_ (⟨by decide, md_mJ0_init.1, md_mJ0_init.2, by decide, fun base D dA sv ro scr => callok_I rfl rfl rfl rfl od_270 q2686 q154 q63 q155⟩) (fa_ (⟨by decide, md_mJ32_init.1, md_mJ32_init.2, by decide, fun base D dA sv ro scr => callok_I rfl rfl rfl rfl od_363 q577 q578 q106 q579⟩) (fn_))
theorem tG_149 : ∀ q ∈ tL_149, TgOK 149 q.1 q.2.1 q.2.2.1 q.2.2.2 := tk_ 30 tG_149_0 (fun q h => by cases h)
theorem tG_150_0 : ∀ q ∈ (tL_150.drop 0).take 30, TgOK 150 q.1 q.2.1 q.2.2.1 q.2.2.2 := fa_ (⟨by decide, Or.inl ⟨rfl, rfl, q1382, q143, q144⟩⟩) (fa_ (⟨by decide, md_mJ30_getKey.1, md_mJ30_getKey.2, by decide, fun base D dA sv ro scr => callok_F (C := "java/util/TreeMap$Entry") (x := ⟨"java/util/Map$Entry", "getKey", "()Ljava/lang/Object;"⟩) rfl rfl (by decide) rfl od_364 (List.mem_of_getElem? (i := 40) rfl) q1384 q1392 q1394 q102 q1396⟩) (fa_ (⟨by decide, md_mJ50_getKey.1, md_mJ50_getKey.2, by decide, fun base D dA sv ro scr => callok_F (C := "java/util/AbstractMap$SimpleImmutableEntry") (x := ⟨"java/util/Map$Entry", "getKey", "()Ljava/lang/Object;"⟩) rfl rfl (by decide) rfl od_364 (List.mem_of_getElem? (i := 41) rfl) q1384 q1387 q1389 q130 q1391⟩) (fa_ (⟨by decide, md_mJ30_getValue.1, md_mJ30_getValue.2, by decide, fun base D dA sv ro scr => callok_F (C := "java/util/TreeMap$Entry") (x := ⟨"java/util/Map$Entry", "getValue", "()Ljava/lang/Object;"⟩) rfl rfl (by decide) rfl od_190 (List.mem_of_getElem? (i := 25) rfl) q1398 q1286 q1288 q102 q1290⟩) (fa_ (⟨by decide, md_mJ50_getValue.1, md_mJ50_getValue.2, by decide, fun base D dA sv ro scr => callok_F (C := "java/util/AbstractMap$SimpleImmutableEntry") (x := ⟨"java/util/Map$Entry", "getValue", "()Ljava/lang/Object;"⟩) rfl rfl (by decide) rfl od_190 (List.mem_of_getElem? (i := 26) rfl) q1398 q1280 q1282 q130 q1284⟩) (fn_)))))
theorem tG_150 : ∀ q ∈ tL_150, TgOK 150 q.1 q.2.1 q.2.2.1 q.2.2.2 := tk_ 30 tG_150_0 (fun q h => by cases h)
theorem tG_153_0 : ∀ q ∈ (tL_153.drop 0).take 30, TgOK 153 q.1 q.2.1 q.2.2.1 q.2.2.2 := fa_ (⟨by decide, md_mJ4_get.1, md_mJ4_get.2, by decide, fun base D dA sv ro scr => callok_F (C := "java/util/TreeMap") (x := ⟨"java/util/Map", "get", "(Ljava/lang/Object;)Ljava/lang/Object;"⟩) rfl rfl (by decide) rfl od_365 (List.mem_of_getElem? (i := 42) rfl) q2073 q2077 q2017 q67 q2019⟩) (fa_ (⟨by decide, md_mJ47_get.1, md_mJ47_get.2, by decide, fun base D dA sv ro scr => callok_F (C := "java/util/TreeMap$AscendingSubMap") (x := ⟨"java/util/Map", "get", "(Ljava/lang/Object;)Ljava/lang/Object;"⟩) rfl rfl (by decide) rfl od_365 (List.mem_of_getElem? (i := 43) rfl) q2073 q2081 q2083 q127 q2085⟩) (fa_ (⟨by decide, md_mJ4_containsKey.1, md_mJ4_containsKey.2, by decide, fun base D dA sv ro scr => callok_F (C := "java/util/TreeMap") (x := ⟨"java/util/Map", "containsKey", "(Ljava/lang/Object;)Z"⟩) rfl rfl (by decide) rfl od_366 (List.mem_of_getElem? (i := 44) rfl) q2098 q2101 q2000 q67 q2002⟩) (fa_ (⟨by decide, md_mJ47_containsKey.1, md_mJ47_containsKey.2, by decide, fun base D dA sv ro scr => callok_F (C := "java/util/TreeMap$AscendingSubMap") (x := ⟨"java/util/Map", "containsKey", "(Ljava/lang/Object;)Z"⟩) rfl rfl (by decide) rfl od_366 (List.mem_of_getElem? (i := 45) rfl) q2098 q2104 q2106 q127 q2108⟩) (fn_))))
theorem tG_153 : ∀ q ∈ tL_153, TgOK 153 q.1 q.2.1 q.2.2.1 q.2.2.2 := tk_ 30 tG_153_0 (fun q h => by cases h)
theorem tG : ∀ o mode j k t, tgL o mode j k = some t → TgOK o mode j k t := by
  intro o mode j k t h
  unfold tgL at h
  rw [Option.map_eq_some_iff] at h
  obtain ⟨e, he, rfl⟩ := h
  have h1 := List.find?_some he
  have h2 := List.mem_of_find?_eq_some he
  simp only [Bool.and_eq_true, beq_iff_eq] at h1
  obtain ⟨rfl, rfl, rfl⟩ := h1
  unfold tL at h2
  split at h2
  · exact tG_0 _ h2
  · exact tG_1 _ h2
  · exact tG_2 _ h2
  · exact tG_3 _ h2
  · exact tG_4 _ h2
  · exact tG_5 _ h2
  · exact tG_6 _ h2
  · exact tG_7 _ h2
  · exact tG_8 _ h2
  · exact tG_9 _ h2
  · exact tG_10 _ h2
  · exact tG_11 _ h2
  · exact tG_12 _ h2
  · exact tG_13 _ h2
  · exact tG_14 _ h2
  · exact tG_15 _ h2
  · exact tG_16 _ h2
  · exact tG_17 _ h2
  · exact tG_18 _ h2
  · exact tG_19 _ h2
  · exact tG_20 _ h2
  · exact tG_100 _ h2
  · exact tG_101 _ h2
  · exact tG_102 _ h2
  · exact tG_103 _ h2
  · exact tG_104 _ h2
  · exact tG_105 _ h2
  · exact tG_106 _ h2
  · exact tG_111 _ h2
  · exact tG_113 _ h2
  · exact tG_118 _ h2
  · exact tG_120 _ h2
  · exact tG_124 _ h2
  · exact tG_125 _ h2
  · exact tG_126 _ h2
  · exact tG_130 _ h2
  · exact tG_131 _ h2
  · exact tG_132 _ h2
  · exact tG_133 _ h2
  · exact tG_134 _ h2
  · exact tG_135 _ h2
  · exact tG_136 _ h2
  · exact tG_137 _ h2
  · exact tG_138 _ h2
  · exact tG_139 _ h2
  · exact tG_140 _ h2
  · exact tG_142 _ h2
  · exact tG_143 _ h2
  · exact tG_144 _ h2
  · exact tG_147 _ h2
  · exact tG_148 _ h2
  · exact tG_149 _ h2
  · exact tG_150 _ h2
  · exact tG_153 _ h2
  · cases h2
theorem tE_1 : ∀ q ∈ pE_1, ∀ z ∈ pN_1, z.2 = .inr q.2 → (z.1, q.1, q.2) ∈ [(73, 75, 110), (76, 78, 114), (85, 87, 115), (79, 81, 121), (82, 84, 123)] := by decide +kernel
theorem tE_2 : ∀ w ∈ [((73 : Nat), (75 : Nat), (110 : Nat)), (76, 78, 114), (85, 87, 115), (79, 81, 121), (82, 84, 123)], ThrowOK onm exn nwl_ 1 w.1 w.2.1 w.2.2 := fa_ tT_110 (fa_ tT_114 (fa_ tT_115 (fa_ tT_121 (fa_ tT_123 fn_))))
theorem tThrow : ∀ o j ic e, (pN o).lookup j = some (.inr e) → (pE o).lookup ic = some e → ThrowOK onm exn nwl_ o j ic e := by
  intro o j ic e h1 h2
  have m1 := lk_mem h1
  have m2 := lk_mem h2
  unfold pE at m2
  split at m2
  · exact tE_2 _ (tE_1 _ m2 _ m1 rfl)
  · cases m2
/-- the tables are as the words say -/
theorem tabOK : TabOK onm exn kcl nwl_ ncl_ fwl_ stl_ spc_ tgL := by
  refine ⟨tKind, tFld, tStat, tConst, tOb, tCast, fun o j k h => (tN o j _ h).1 k rfl, tAC, fun o j h => (tN o j _ h).2 rfl, tThrow, ⟨nw_tab, nw_warm, fw_mov, spc_mov⟩, tHand, fun o mode j N h => (tG o mode j _ _ h).1 rfl, fun o mode j k P h => (tG o mode j k _ h).2, fun o mode j k N h => ?_⟩
  have := (tG o mode j k _ h).2
  exact this
