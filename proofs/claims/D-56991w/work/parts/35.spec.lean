/-! WHAT THE OPERATIONS DO: code (0: it answers), answer, new state -/
abbrev St : Type := Sc × List Acc × List Row × List En × List Bd × List Tr × List Pj × List Gd
def gAll (h : Hp) (σ : St) : Prop := gX h σ.1 ∧ gA h σ.2.1 ∧ gR h σ.2.2.1 ∧ gJ h σ.2.2.2.1 ∧ gB h σ.2.2.2.2.1 (σ.1 12) ∧ gT h σ.2.2.2.2.2.1 ∧ gP h σ.2.2.2.2.2.2.1 ∧ gG h σ.2.2.2.2.2.2.2
def nAll (h : Hp) (σ : St) (th : Int32) : Prop := nM h σ.1 th (nI σ.2.2.2.1.length) ∧ nA h σ.2.1 ∧ nR h σ.2.2.1 ∧ nB h σ.2.2.2.2.1 (σ.1 12) ∧ nT h σ.2.2.2.2.2.1 ∧ nP h σ.2.2.2.2.2.2.1 ∧ nG h σ.2.2.2.2.2.2.2
/-- the classes of a side -/
def XC : List Nat := [0, 18, 20, 2, 3, 6, 7, 8, 9, 21, 10, 22, 11, 19, 23, 12, 24, 13, 14, 15, 25, 16, 26, 17]
def MC : List Nat := [30, 50, 32, 33, 51, 40, 52, 42, 53, 43, 44, 45, 54, 46, 55, 47]
theorem gAll_e {P : List Nat} {h h' : Hp} {n n' : Nat} {σ : St} (e : Ext P h n h' n') (pp : ∀ c ∈ XC, c ∉ P) (H : gAll h σ) : gAll h' σ := by
  obtain ⟨a, b, c, d, f, g, i, j⟩ := H
  have q : ∀ l : List Nat, (∀ x ∈ l, x ∈ XC) → ∀ c ∈ l, c ∉ P := fun l hl c hc => pp c (hl c hc)
  exact ⟨gX_e e (q _ (by decide)) a, gA_e e (q _ (by decide)) b, gR_e e (q _ (by decide)) c, gJ_e e (q _ (by decide)) d, gB_e e (q _ (by decide)) f, gT_e e (q _ (by decide)) g, gP_e e (q _ (by decide)) i, gG_e e (q _ (by decide)) j⟩
theorem nAll_e {P : List Nat} {h h' : Hp} {n n' : Nat} {σ : St} {th : Int32} (e : Ext P h n h' n') (pp : ∀ c ∈ MC, c ∉ P) (H : nAll h σ th) : nAll h' σ th := by
  obtain ⟨a, b, c, d, f, g, i⟩ := H
  have q : ∀ l : List Nat, (∀ x ∈ l, x ∈ MC) → ∀ c ∈ l, c ∉ P := fun l hl c hc => pp c (hl c hc)
  exact ⟨nM_e e (q _ (by decide)) a, nA_e e (q _ (by decide)) b, nR_e e (q _ (by decide)) c, nB_e e (q _ (by decide)) d, nT_e e (q _ (by decide)) f, nP_e e (q _ (by decide)) g, nG_e e (q _ (by decide)) i⟩
/-- in the range of a list's places, from a least one -/
abbrev inR (x least : Int32) (n : Nat) : Prop := ¬ x < least ∧ ¬ nI n - 1 < x
theorem inR_i {x y : Int32} {n : Nat} (hn : n < 2 ^ 30) (hy : ¬ y < 0) (H : inR x y n) : ∃ j, j < n ∧ x = nI j := by
  obtain ⟨h1, h2⟩ := H
  cases n with
  | zero =>
    exfalso
    rw [Int32.lt_iff_toInt_lt] at h1 h2 hy
    have e : (nI 0 - 1).toInt = -1 := by decide +kernel
    have e0 : (0 : Int32).toInt = 0 := by decide +kernel
    omega
  | succ n =>
    rw [nI_pred] at h2
    rw [Int32.lt_iff_toInt_lt] at h1 h2 hy
    rw [nI_toInt (by omega)] at h2
    have e0 : (0 : Int32).toInt = 0 := by decide +kernel
    obtain ⟨j, hj, rfl⟩ := nI_of (x := x) (by rw [Int32.lt_iff_toInt_lt]; omega)
    rw [nI_toInt hj] at h2
    exact ⟨j, by omega, rfl⟩
theorem refs_at {c n j : Nat} (h : j < n) : (refs c n)[j]? = some (.ref (ad c j 0)) := by
  unfold refs
  rw [List.getElem?_map, List.getElem?_range h]
  rfl
theorem refs_len {c n : Nat} : (refs c n).length = n := by unfold refs; rw [List.length_map, List.length_range]
theorem refs_succ {c n : Nat} : refs c (n + 1) = refs c n ++ [.ref (ad c n 0)] := by
  unfold refs
  rw [List.range_succ, List.map_append]
  rfl
/-- what an operation gives: code, answer, state -/
abbrev Rs : Type := Nat × Value × St
def outX (es : List Nat) (z : Rs) : Out := if z.1 = 0 then .inl (some z.2.1) else .inr (es.getD (z.1 - 1) 0)
def lz (z : Rs) : St := z.2.2
def opAddAccount (σ : St) (x : Int32) : Rs :=
  if ¬ (¬ x < 0 ∧ ¬ 1000000 < x) then (1, .int 0, σ) else if ¬ nI σ.2.1.length < 10 then (2, .int 0, σ) else
  (0, .int (nI σ.2.1.length), (σ.1, σ.2.1 ++ [(x.toInt64, none, 0, 0, 0, [], 0, 0)], σ.2.2))
