/-! SOUNDNESS 1: locals, sizes -/
def kn (L : List Value) : List (Nat × Value) := (List.range L.length).filterMap fun i => match L[i]? with
  | some v => if v = uV then none else some (i, v)
  | none => none
theorem mem_kn {L : List Value} {i : Nat} {v : Value} : (i, v) ∈ kn L ↔ L[i]? = some v ∧ v ≠ uV := by
  unfold kn
  rw [List.mem_filterMap]
  constructor
  · rintro ⟨j, hj, h⟩
    split at h
    · rename_i w hw
      split at h
      · cases h
      · rename_i hne
        cases h
        exact ⟨hw, hne⟩
    · cases h
  · rintro ⟨h, hne⟩
    refine ⟨i, List.mem_range.mpr (List.getElem?_eq_some_iff.mp h).1, ?_⟩
    rw [h]
    simp [hne]
def RL (ls : Array Slot) (n : Nat) (L : List Value) : Prop := L.length = n ∧ lv_has ls n (kn L)
theorem RL.get {ls : Array Slot} {n : Nat} {L : List Value} (h : RL ls n L) {i : Nat} {v : Value} (hv : L[i]? = some v) (hu : v ≠ uV) : ls[i]? = some (.val v) := h.2.2.2 (i, v) (mem_kn.mpr ⟨hv, hu⟩)
theorem RL.has {ls : Array Slot} {n : Nat} {L : List Value} (h : RL ls n L) : lv_has ls n (kn L) := h.2
theorem cat2_iff (v : Value) : cat2 v = true ↔ v.category = 2 := by cases v <;> simp [cat2, Value.category]
theorem clr_len (L : List Value) (k : Nat) : (clr L k).length = L.length := by
  unfold clr
  split
  · rfl
  · split
    · split <;> simp
    · rfl
theorem clr_get {L : List Value} {k j : Nat} {w : Value} (h : (clr L k)[j]? = some w) (hu : w ≠ uV) : L[j]? = some w ∧ ¬ (j + 1 = k ∧ cat2 w = true) := by
  unfold clr at h
  split at h
  · exact ⟨h, fun q => by omega⟩
  · rename_i k
    split at h
    · rename_i v hv
      split at h
      · rename_i hc
        rw [List.getElem?_set] at h
        split at h
        · split at h
          · cases h; exact absurd rfl hu
          · cases h
        · rename_i hne
          exact ⟨h, fun q => hne (by omega)⟩
      · rename_i hc
        refine ⟨h, fun q => hc ?_⟩
        obtain ⟨q1, q2⟩ := q
        have e : j = k := by omega
        subst e
        rw [hv] at h
        cases h
        exact q2
    · rename_i hv
      refine ⟨h, fun q => ?_⟩
      obtain ⟨q1, q2⟩ := q
      have e : j = k := by omega
      subst e
      rw [hv] at h
      cases h
theorem RL.st1 {ls' : Array Slot} {n : Nat} {L : List Value} {i : Nat} {v : Value} (hn : L.length = n) (h : lv_has ls' n ((i, v) :: (kn L).filter (fun q => !(q.1 == i) && !(q.1 + 1 == i && q.2.category == 2)))) : RL ls' n (st1 L i v) := by
  refine ⟨by unfold _root_.Jvm.Pilot.CLeafcreditLaw_law_r9614_c003ae.st1; rw [List.length_set, clr_len, hn], h.1, h.2.1, ?_⟩
  rintro ⟨j, w⟩ hq
  obtain ⟨h1, hu⟩ := mem_kn.mp hq
  unfold _root_.Jvm.Pilot.CLeafcreditLaw_law_r9614_c003ae.st1 at h1
  rw [List.getElem?_set] at h1
  split at h1
  · rename_i e
    subst e
    split at h1
    · cases h1
      exact h.2.2 (i, v) List.mem_cons_self
    · cases h1
  · rename_i hne
    obtain ⟨h2, h3⟩ := clr_get h1 hu
    refine h.2.2 (j, w) (List.mem_cons_of_mem _ (List.mem_filter.mpr ⟨mem_kn.mpr ⟨h2, hu⟩, ?_⟩))
    have hne' : ¬ j = i := fun q => hne q.symm
    by_cases hj : j + 1 = i
    · have : ¬ w.category = 2 := fun q => h3 ⟨hj, (cat2_iff w).mpr q⟩
      simp [hne', this]
    · simp [hne', hj]
theorem RL.st2 {ls' : Array Slot} {n : Nat} {L : List Value} {i : Nat} {v : Value} (hn : L.length = n) (h : lv_has ls' n ((i, v) :: (kn L).filter (fun q => !(q.1 == i) && (!(q.1 == i + 1) && !(q.1 + 1 == i && q.2.category == 2))))) : RL ls' n (st2 L i v) := by
  refine ⟨by unfold _root_.Jvm.Pilot.CLeafcreditLaw_law_r9614_c003ae.st2; rw [List.length_set, List.length_set, clr_len, clr_len, hn], h.1, h.2.1, ?_⟩
  rintro ⟨j, w⟩ hq
  obtain ⟨h1, hu⟩ := mem_kn.mp hq
  unfold _root_.Jvm.Pilot.CLeafcreditLaw_law_r9614_c003ae.st2 at h1
  rw [List.getElem?_set] at h1
  split at h1
  · split at h1
    · cases h1; exact absurd rfl hu
    · cases h1
  · rename_i hne1
    rw [List.getElem?_set] at h1
    split at h1
    · rename_i e
      subst e
      split at h1
      · cases h1
        exact h.2.2 (i, v) List.mem_cons_self
      · cases h1
    · rename_i hne
      obtain ⟨h2, h3⟩ := clr_get h1 hu
      obtain ⟨h4, h5⟩ := clr_get h2 hu
      refine h.2.2 (j, w) (List.mem_cons_of_mem _ (List.mem_filter.mpr ⟨mem_kn.mpr ⟨h4, hu⟩, ?_⟩))
      have hne' : ¬ j = i := fun q => hne q.symm
      have hne1' : ¬ j = i + 1 := fun q => hne1 q.symm
      by_cases hj : j + 1 = i
      · have : ¬ w.category = 2 := fun q => h3 ⟨hj, (cat2_iff w).mpr q⟩
        simp [hne', hne1', this]
      · simp [hne', hne1', hj]
def sumd (n : Nat) (H : Heap) : Nat := ((H.toList.drop n).map (·.slots.size)).sum
/-- how a heap has grown -/
def Gr (H H1 : Heap) (k n : Nat) : Prop := H.size ≤ H1.size ∧ H1.size ≤ H.size + k ∧ sumd H.size H1 ≤ n ∧ ∀ (q : Nat) (c : Cell), H[q]? = some c → ∃ c' : Cell, H1[q]? = some c' ∧ c'.slots.size = c.slots.size
theorem sumd_self (H : Heap) : sumd H.size H = 0 := by
  unfold sumd
  rw [List.drop_eq_nil_of_le (by simp)]
  rfl
theorem Gr.refl (H : Heap) : Gr H H 0 0 := ⟨Nat.le_refl _, Nat.le_refl _, by rw [sumd_self]; exact Nat.le_refl _, fun q c h => ⟨c, h, rfl⟩⟩
theorem sizes_take {H H1 : Heap} (h : ∀ (q : Nat) (c : Cell), H[q]? = some c → ∃ c' : Cell, H1[q]? = some c' ∧ c'.slots.size = c.slots.size) : (H1.toList.map (·.slots.size)).take H.size = H.toList.map (·.slots.size) := by
  apply List.ext_getElem?
  intro q
  rw [List.getElem?_take]
  split
  · rename_i hq
    have e1 : H[q]? = some H[q] := Array.getElem?_eq_getElem hq
    obtain ⟨c', e2, e3⟩ := h q _ e1
    rw [List.getElem?_map, List.getElem?_map, Array.getElem?_toList, Array.getElem?_toList, e1, e2]
    simp [e3]
  · rename_i hq
    rw [List.getElem?_map, Array.getElem?_toList, Array.getElem?_eq_none (by omega)]
    rfl
theorem sumd_add {H H1 : Heap} {n : Nat} (hn : n ≤ H.size) (h : ∀ (q : Nat) (c : Cell), H[q]? = some c → ∃ c' : Cell, H1[q]? = some c' ∧ c'.slots.size = c.slots.size) : sumd n H1 = sumd n H + sumd H.size H1 := by
  unfold sumd
  rw [List.map_drop, List.map_drop, List.map_drop]
  have e := sizes_take h
  have e2 := List.take_append_drop H.size (H1.toList.map (·.slots.size))
  rw [e] at e2
  rw [← e2, List.drop_append_of_le_length (by simpa using hn), List.sum_append, List.drop_append]
  have z : List.drop H.size (List.map (fun x : Cell => x.slots.size) H.toList) = [] := List.drop_eq_nil_of_le (by simp)
  simp [z]
theorem Gr.trans {H H1 H2 : Heap} {k n k2 n2 : Nat} (h : Gr H H1 k n) (h2 : Gr H1 H2 k2 n2) : Gr H H2 (k + k2) (n + n2) := by
  obtain ⟨a1, a2, a3, a4⟩ := h
  obtain ⟨b1, b2, b3, b4⟩ := h2
  refine ⟨Nat.le_trans a1 b1, by omega, ?_, fun q c hc => ?_⟩
  · rw [sumd_add a1 b4]; omega
  · obtain ⟨c1, e1, e2⟩ := a4 q c hc
    obtain ⟨c2, e3, e4⟩ := b4 q c1 e1
    exact ⟨c2, e3, e4.trans e2⟩
theorem Gr.mono {H H1 : Heap} {k n k2 n2 : Nat} (h : Gr H H1 k n) (h1 : k ≤ k2) (h2 : n ≤ n2) : Gr H H1 k2 n2 := ⟨h.1, Nat.le_trans h.2.1 (by omega), Nat.le_trans h.2.2.1 h2, h.2.2.2⟩
section SZ
variable {p : Program} {l : Launch} {e : Env} {R : Room} {s : State} {m : MethodId} {args : Array Value} {below : List Frame} {meth : Method} {c : Code} {T : State} {locs : List Loc} {cells slots : Nat}
theorem stand_Gr (X : Stand p l e R s m args below meth c T locs cells slots) : Gr s.heap T.heap cells slots := by
  obtain ⟨-, h2, h3, -, h5, h6⟩ := X.same
  refine ⟨h2, h3, h5, fun q c hc => ?_⟩
  obtain ⟨c', e1, -, e3, -⟩ := h6 q c hc
  exact ⟨c', e1, e3⟩
theorem stand_tight (X : Stand p l e R s m args below meth c T locs cells slots) {k n : Nat} (h : Gr s.heap T.heap k n) : Stand p l e R s m args below meth c T locs k n := by
  obtain ⟨h1, h2, h3, h4, h5, h6⟩ := X.same
  exact { X with same := ⟨h1, h2, h.2.1, h4, h.2.2.1, h6⟩ }
/-- inside a walk the heap's growth is known -/
theorem W_Gr {H : Heap} {Q : State → Prop} {g : JFrame} (k : Gr s.heap H cells slots → W p l e R s m args below meth c H locs cells slots Q g) : W p l e R s m args below meth c H locs cells slots Q g := by
  intro T hT X
  exact k (by rw [← hT]; exact stand_Gr X) T hT X
theorem W_tight {H : Heap} {Q : State → Prop} {g : JFrame} {k n : Nat} (h : Gr s.heap H k n) (w : W p l e R s m args below meth c H locs k n Q g) : W p l e R s m args below meth c H locs cells slots Q g := by
  intro T hT X
  exact w T hT (stand_tight X (by rw [hT]; exact h))
end SZ
