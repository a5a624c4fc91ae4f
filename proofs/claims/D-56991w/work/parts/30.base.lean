/-! ADDRESSES: a cell of the A-level lies at the address of its tag (class, number, number) -/
def pr2 (i j : Nat) : Nat := (i + j) * (i + j) + i
theorem pr2_inj {i j i' j' : Nat} (h : pr2 i j = pr2 i' j') : i = i' ∧ j = j' := by
  unfold pr2 at h
  have key : ∀ s t a b : Nat, a ≤ s → b ≤ t → s * s + a = t * t + b → ¬ s < t := by
    intro s t a b ha hb e hlt
    have h1 : (s + 1) * (s + 1) ≤ t * t := Nat.mul_le_mul hlt hlt
    have h2 : (s + 1) * (s + 1) = s * s + s + s + 1 := by rw [Nat.add_mul, Nat.mul_add]; omega
    omega
  have k1 := key (i + j) (i' + j') i i' (Nat.le_add_right _ _) (Nat.le_add_right _ _) h
  have k2 := key (i' + j') (i + j) i' i (Nat.le_add_right _ _) (Nat.le_add_right _ _) h.symm
  have e : i + j = i' + j' := by omega
  rw [e] at h
  omega
def ad (c i j : Nat) : Nat := pr2 c (pr2 i j)
theorem ad_inj {c i j c' i' j' : Nat} : (ad c i j = ad c' i' j') = (c = c' ∧ i = i' ∧ j = j') := by
  refine propext ⟨fun h => ?_, fun ⟨h1, h2, h3⟩ => by rw [h1, h2, h3]⟩
  obtain ⟨h1, h2⟩ := pr2_inj h
  exact ⟨h1, pr2_inj h2⟩
theorem ref_ad {c i j c' i' j' : Nat} : (Value.ref (ad c i j) = Value.ref (ad c' i' j')) = (c = c' ∧ i = i' ∧ j = j') := by
  rw [← ad_inj]
  exact propext ⟨fun h => by injection h, fun h => by rw [h]⟩
theorem upd_ad {h : Hp} {o : Ob} {c i j c' i' j' : Nat} : upd_ h (ad c i j) o (ad c' i' j') = if c' = c ∧ i' = i ∧ j' = j then some o else h (ad c' i' j') := by
  unfold upd_
  simp only [ad_inj]
theorem upd_sm {h : Hp} {o : Ob} {a : Nat} : upd_ h a o a = some o := if_pos rfl
theorem upd_of {h : Hp} {o : Ob} {c i j c' i' j' : Nat} (hn : ¬ (c' = c ∧ i' = i ∧ j' = j)) : upd_ h (ad c i j) o (ad c' i' j') = h (ad c' i' j') := by
  rw [upd_ad, if_neg hn]
theorem upd_cl {h : Hp} {o : Ob} {c i j c' i' j' : Nat} (hn : c' ≠ c) : upd_ h (ad c i j) o (ad c' i' j') = h (ad c' i' j') := upd_of fun z => hn z.1
/-- a number's place: one to one -/
def ix (x : Int32) : Nat := x.toUInt32.toNat
theorem ix_inj {x y : Int32} : (ix x = ix y) = (x = y) := by
  refine propext ⟨fun h => ?_, fun h => by rw [h]⟩
  have h1 : x.toUInt32 = y.toUInt32 := UInt32.toNat_inj.mp h
  have h2 := congrArg UInt32.toInt32 h1
  simpa using h2
/-- nothing lies at the temporary places from n on -/
def Fsh (h : Hp) (n : Nat) : Prop := ∀ i j, n ≤ i → h (ad 60 i j) = none
theorem Fsh.u {h : Hp} {n i j c : Nat} {o : Ob} (H : Fsh h n) (hc : c ≠ 60 ∨ i < n) : Fsh (upd_ h (ad c i j) o) n := by
  intro i' j' hi
  rw [upd_of]
  · exact H i' j' hi
  · rintro ⟨h1, h2, _⟩
    rcases hc with hc | hc
    · exact hc h1.symm
    · omega
theorem Fsh.le {h : Hp} {n n' : Nat} (H : Fsh h n) (hn : n ≤ n') : Fsh h n' := fun i j hi => H i j (Nat.le_trans hn hi)
/-- what a method leaves: the classes P changed, new temporaries -/
def Ext (P : List Nat) (h : Hp) (n : Nat) (h' : Hp) (n' : Nat) : Prop := n ≤ n' ∧ Fsh h' n' ∧ ∀ c i j, c ∉ P → (c = 60 → i < n) → h' (ad c i j) = h (ad c i j)
theorem Ext.rfl' {P : List Nat} {h : Hp} {n : Nat} (H : Fsh h n) : Ext P h n h n := ⟨Nat.le_refl _, H, fun _ _ _ _ _ => rfl⟩
theorem Ext.trans {P : List Nat} {h h1 h2 : Hp} {n n1 n2 : Nat} (a : Ext P h n h1 n1) (b : Ext P h1 n1 h2 n2) : Ext P h n h2 n2 :=
  ⟨Nat.le_trans a.1 b.1, b.2.1, fun c i j hc hi => (b.2.2 c i j hc (fun z => Nat.lt_of_lt_of_le (hi z) a.1)).trans (a.2.2 c i j hc hi)⟩
theorem Ext.mono {P P' : List Nat} {h h1 : Hp} {n n1 : Nat} (a : Ext P h n h1 n1) (hp : ∀ c ∈ P, c ∈ P') : Ext P' h n h1 n1 :=
  ⟨a.1, a.2.1, fun c i j hc hi => a.2.2 c i j (fun z => hc (hp c z)) hi⟩
theorem Ext.u {P : List Nat} {h h1 : Hp} {n n1 c i j : Nat} {o : Ob} (a : Ext P h n h1 n1) (hc : c ∈ P ∨ (c = 60 ∧ n ≤ i)) (hi : c ≠ 60 ∨ i < n1) : Ext P h n (upd_ h1 (ad c i j) o) n1 := by
  refine ⟨a.1, a.2.1.u hi, fun c' i' j' hc' hi' => ?_⟩
  rw [upd_of]
  · exact a.2.2 c' i' j' hc' hi'
  · rintro ⟨h1, h2, _⟩
    subst h1; subst h2
    rcases hc with hc | hc
    · exact hc' hc
    · have := hi' hc.1
      omega
theorem Ext.n {P : List Nat} {h h1 : Hp} {n n1 n2 : Nat} (a : Ext P h n h1 n1) (hn : n1 ≤ n2) : Ext P h n h1 n2 := ⟨Nat.le_trans a.1 hn, a.2.1.le hn, a.2.2⟩
theorem Ext.at {P : List Nat} {h h1 : Hp} {n n1 : Nat} (a : Ext P h n h1 n1) {c i j : Nat} {o : Option Ob} (H : h (ad c i j) = o) (hc : c ∉ P) (hi : c ≠ 60 ∨ i < n) : h1 (ad c i j) = o := (a.2.2 c i j hc (fun z => hi.resolve_left (fun y => y z))).trans H
