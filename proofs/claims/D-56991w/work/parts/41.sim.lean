/-! THE SIMULATION of the A-level by the low level -/
def Pt (φ : Nat → Nat) (tot : Nat) : Prop := ∃ ls : List Nat, ls.Nodup ∧ (∀ a, φ a ≠ 0 → a ∈ ls) ∧ (ls.map φ).sum ≤ tot
theorem sum_other {φ : Nat → Nat} {a x : Nat} : ∀ ls : List Nat, a ∉ ls → (ls.map fun b => if b = a then x else φ b).sum = (ls.map φ).sum
  | [], _ => rfl
  | c :: ls, h => by
    rw [List.map_cons, List.map_cons, List.sum_cons, List.sum_cons, if_neg (fun e => h (by rw [e]; exact List.mem_cons_self)), sum_other ls (fun m => h (List.mem_cons_of_mem _ m))]
theorem sum_set {φ : Nat → Nat} {a x : Nat} : ∀ ls : List Nat, ls.Nodup → a ∈ ls → (ls.map fun b => if b = a then x else φ b).sum + φ a = (ls.map φ).sum + x
  | [], _, h => by cases h
  | c :: ls, hn, h => by
    rw [List.nodup_cons] at hn
    rw [List.map_cons, List.map_cons, List.sum_cons, List.sum_cons]
    by_cases e : c = a
    · subst e
      rw [if_pos rfl, sum_other ls hn.1]
      omega
    · have hm : a ∈ ls := by
        rcases List.mem_cons.mp h with z | z
        · exact absurd z.symm e
        · exact z
      have := sum_set (φ := φ) (x := x) ls hn.2 hm
      rw [if_neg e]
      omega
theorem Pt_set {φ : Nat → Nat} {tot tot' a x : Nat} (h : Pt φ tot) (ht : tot + x ≤ tot' + φ a) : Pt (fun b => if b = a then x else φ b) tot' := by
  obtain ⟨ls, h1, h2, h3⟩ := h
  by_cases hm : a ∈ ls
  · refine ⟨ls, h1, fun b hb => ?_, ?_⟩
    · by_cases e : b = a
      · rw [e]; exact hm
      · exact h2 b (by have hb : (if b = a then x else φ b) ≠ 0 := hb; rwa [if_neg e] at hb)
    · have := sum_set (φ := φ) (x := x) ls h1 hm
      omega
  · have h0 : φ a = 0 := Classical.byContradiction fun z => hm (h2 a z)
    refine ⟨a :: ls, List.nodup_cons.mpr ⟨hm, h1⟩, fun b hb => ?_, ?_⟩
    · by_cases e : b = a
      · rw [e]; exact List.mem_cons_self
      · exact List.mem_cons_of_mem _ (h2 b (by have hb : (if b = a then x else φ b) ≠ 0 := hb; rwa [if_neg e] at hb))
    · rw [List.map_cons, List.sum_cons, if_pos rfl, sum_other ls hm]
      omega
def renO (ρ : Nat → Nat) (o : Out) : Out := match o with
  | .inl v => .inl (v.map (ren ρ))
  | .inr e => .inr e
def VOKo (H : Hp) (o : Out) : Prop := match o with
  | .inl (some v) => VOK H v
  | _ => True
def Gro (ρ ρ' : Nat → Nat) (H H' : Hp) : Prop := ∀ b, H b ≠ none → H' b ≠ none ∧ ρ' b = ρ b
theorem Gro.refl {ρ : Nat → Nat} {H : Hp} : Gro ρ ρ H H := fun _ h => ⟨h, rfl⟩
theorem Gro.trans {ρ ρ1 ρ2 : Nat → Nat} {H H1 H2 : Hp} (a : Gro ρ ρ1 H H1) (b : Gro ρ1 ρ2 H1 H2) : Gro ρ ρ2 H H2 := fun c h => ⟨(b c (a c h).1).1, ((b c (a c h).1).2).trans (a c h).2⟩
theorem Gro.vok {ρ ρ1 : Nat → Nat} {H H1 : Hp} (a : Gro ρ ρ1 H H1) {v : Value} (h : VOK H v) : VOK H1 v := by
  cases v with
  | ref b => exact (a b h).1
  | _ => trivial
theorem Gro.upd {ρ : Nat → Nat} {H : Hp} {a : Nat} {o : Ob} : Gro ρ ρ H (upd_ H a o) := fun b h => ⟨by
  unfold upd_
  split
  · exact fun z => by cases z
  · exact h, rfl⟩
theorem Gro.new {ρ : Nat → Nat} {H : Hp} {a q : Nat} {o : Ob} (ha : H a = none) : Gro ρ (fun b => if b = a then q else ρ b) H (upd_ H a o) := fun b h => ⟨(Gro.upd (ρ := ρ) b h).1, if_neg (fun e => h (by rw [e]; exact ha))⟩
/-- what holds at the low level behind a run -/
def Lift (sv : Nat → Value) (ρ : Nat → Nat) (H : Hp) (Q : Post) : Post := fun o h' r' => ∃ (ρ' φ' : Nat → Nat) (F' : Nat → Nat → Prop) (H' : Hp) (r1 tot : Nat) (o' : Out), Rel sv ρ' φ' F' H' h' ∧ Pt φ' tot ∧ r1 + tot ≤ r' ∧ Gro ρ ρ' H H' ∧ renO ρ' o' = o ∧ VOKo H' o' ∧ Q o' H' r1
theorem Lift_gro {sv : Nat → Value} {ρ ρ1 : Nat → Nat} {H H1 : Hp} {Q : Post} (g : Gro ρ ρ1 H H1) {o : Out} {h : Hp} {r : Nat} : Lift sv ρ1 H1 Q o h r → Lift sv ρ H Q o h r :=
  fun ⟨ρ', φ', F', H', r1, tot, o', a, b, c, d, e⟩ => ⟨ρ', φ', F', H', r1, tot, o', a, b, c, g.trans d, e⟩
theorem Lift_mono {sv : Nat → Value} {ρ : Nat → Nat} {H : Hp} {Q Q' : Post} (hQ : ∀ o h r, Q o h r → Q' o h r) {o : Out} {h : Hp} {r : Nat} : Lift sv ρ H Q o h r → Lift sv ρ H Q' o h r :=
  fun ⟨ρ', φ', F', H', r1, tot, o', a, b, c, d, e, f, g⟩ => ⟨ρ', φ', F', H', r1, tot, o', a, b, c, d, e, f, hQ _ _ _ g⟩
def Sim (sv : Nat → Value) : XT := fun M pc L S H r d Q => ownO M.1 = true → ∀ (ρ φ : Nat → Nat) (F : Nat → Nat → Prop) (h : Hp) (r' tot : Nat), Rel sv ρ φ F H h → Pt φ tot → r + tot ≤ r' → (∀ v ∈ L, VOK H v) → (∀ v ∈ S, VOK H v) → Wp (EL sv) M pc (rens ρ L) (rens ρ S) h r' d (Lift sv ρ H Q)
/-- a primitive's simulation -/
def PrimS (sv : Nat → Value) (p : Nat) : Prop := ∀ (as : List Value) (H : Hp) (r : Nat) (K : Post) (ρ φ : Nat → Nat) (F : Nat → Nat → Prop) (h : Hp) (r' tot d : Nat) (K' : Post), primH p as H r K → Rel sv ρ φ F H h → Pt φ tot → r + tot ≤ r' → (∀ v ∈ as, VOK H v) → 16 ≤ d → (∀ o h r, Lift sv ρ H K o h r → K' o h r) → Run (EL sv) (Wp (EL sv)) (jt p) (rens ρ as) h r' d K'
/-- all values of a step -/
def stVs (s : St1) : List Value := match s with
  | .inl (_, L, S) => L ++ S
  | .inr (.inl (a, _, fs, _, L, S)) => .ref a :: (fs ++ (L ++ S))
  | .inr (.inr (.inl (_, fs, _, L, S))) => fs ++ (L ++ S)
  | .inr (.inr (.inr (.inl v))) => v.toList
  | .inr (.inr (.inr (.inr (.inl _)))) => []
  | .inr (.inr (.inr (.inr (.inr (.inl (_, _, _, as, L, S)))))) => as ++ (L ++ S)
  | .inr (.inr (.inr (.inr (.inr (.inr (a, _, _, L, S)))))) => .ref a :: (L ++ S)
theorem stVs_ren {ρ : Nat → Nat} {s : St1} : stVs (renS ρ s) = rens ρ (stVs s) := by
  rcases s with ⟨p, L, S⟩ | ⟨a, k, fs, p, L, S⟩ | ⟨k, fs, p, L, S⟩ | v | e | ⟨mode, j, p, as, L, S⟩ | ⟨a, j, p, L, S⟩
  · simp [renS, stVs, rens]
  · simp [renS, stVs, rens, ren]
  · simp [renS, stVs, rens]
  · cases v <;> rfl
  · rfl
  · simp [renS, stVs, rens]
  · simp [renS, stVs, rens, ren]
theorem map_fix {f : Value → Value} : ∀ l : List Value, l.map f = l → ∀ v ∈ l, f v = v
  | [], _, _, h => by cases h
  | w :: l, e, v, h => by
    rw [List.map_cons, List.cons.injEq] at e
    rcases List.mem_cons.mp h with z | z
    · rw [z]; exact e.1
    · exact map_fix l e.2 v z
theorem own_M {o : Nat} (h : ownO o = true) : ownM o := by
  refine ⟨fun j => by rw [own_pS o h]; rfl, fun j m hj => ?_⟩
  have := List.all_eq_true.mp (own_pK o h) _ (lk_mem hj)
  cases this
section SIM
variable {sv : Nat → Value} {M : MD} {pc nx tg : Nat} {L S : List Value} {H : Hp} {s : St1} {i : Instr}
theorem stI_vok (hM : ownM M.1) (hL : ∀ v ∈ L, VOK H v) (hS : ∀ v ∈ S, VOK H v) (hC : ∀ a o, H a = some o → ∀ v ∈ obVs o, VOK H v) (e : stI sv (rdO H) M pc nx tg L S i = some s) : ∀ v ∈ stVs s, VOK H v := by
  intro v hv
  cases v with
  | ref b =>
    show H b ≠ none
    intro hb
    have fx : ∀ w, VOK H w → ren (fun z => if z = b then b + 1 else z) w = w := by
      intro w hw
      cases w with
      | ref c =>
        show Value.ref (if c = b then b + 1 else c) = .ref c
        rw [if_neg (fun z => (show H c ≠ none from hw) (by rw [z]; exact hb))]
      | _ => rfl
    have fl : ∀ l : List Value, (∀ w ∈ l, VOK H w) → rens (fun z => if z = b then b + 1 else z) l = l := fun l hl => by
      conv => rhs; rw [← List.map_id l]
      exact List.map_congr_left fun w hw => fx w (hl w hw)
    have nat := stI_nat (ρ := fun z => if z = b then b + 1 else z) (rd := rdO H) (rd' := rdO H) (sv' := sv) (fun a x hx => by
      have ha : H a = some (.inl x) := by
        unfold rdO at hx
        split at hx
        · next y hy => cases hx; exact hy
        · cases hx
      show rdO H (if a = b then b + 1 else a) = _
      rw [if_neg (fun z => by rw [z, hb] at ha; cases ha), hx, fl x.2 (hC a _ ha)]) hM (fun _ y x S' hSS he => by
      rw [fx x (hS x (by rw [hSS]; simp)), fx y (hS y (by rw [hSS]; simp))] at he
      exact he) e
    rw [fl L hL, fl S hS, e] at nat
    have e2 := congrArg stVs (Option.some.inj nat)
    rw [stVs_ren] at e2
    have e3 := map_fix _ e2.symm _ hv
    have e4 : Value.ref (if b = b then b + 1 else b) = .ref b := e3
    rw [if_pos rfl] at e4
    injection e4 with e5
    exact absurd e5 (Nat.succ_ne_self b)
  | _ => trivial
theorem stI_wr {rd : Nat → Option (Nat × List Value)} {a k p : Nat} {fs L' S' : List Value} (e : stI sv rd M pc nx tg L S i = some (.inr (.inl (a, k, fs, p, L', S')))) : ∃ fs0, rd a = some (k, fs0) := by
  have key : ∀ {b : Nat} {c : Value → Bool}, arP rd b c nx L S = some (.inr (.inl (a, k, fs, p, L', S'))) → ∃ fs0, rd a = some (k, fs0) := by
    intro b c e
    unfold arP at e
    split at e
    · split at e
      · next hr => split at e <;> cases e; exact ⟨_, hr⟩
      · cases e
    · cases e
  cases i with
  | iastore => exact key e
  | lastore => exact key e
  | bastore => exact key e
  | dastore => exact key e
  | aastore =>
    simp only [stI] at e
    split at e
    · split at e
      · split at e
        · exact key e
        · cases e
      · cases e
    · exact key e
  | putfield j =>
    simp only [stI] at e
    split at e
    · split at e
      · next hr =>
        split at e
        · split at e
          · cases e; exact ⟨_, hr⟩
          · cases e
        · cases e
      · cases e
    · cases e
  | newarray ty =>
    exfalso
    simp only [stI] at e
    split at e
    · split at e
      · cases e
      · split at e <;> cases e
    · cases e
  | _ =>
    exfalso
    simp only [stI, ldI, stI1, stI2, arG] at e
    first
    | (cases e; done)
    | (repeat' split at e) <;> cases e
theorem stI_nw {rd : Nat → Option (Nat × List Value)} {k p : Nat} {fs L' S' : List Value} (hM : ownO M.1 = true) (e : stI sv rd M pc nx tg L S i = some (.inr (.inr (.inl (k, fs, p, L', S'))))) : imK k = false ∧ k ≠ 32 := by
  cases i with
  | new j =>
    simp only [stI] at e
    split at e
    · next k' hk =>
      cases e
      have := List.all_eq_true.mp (own_pN _ hM) _ (lk_mem hk)
      simp only [Bool.and_eq_true, Bool.not_eq_true', decide_eq_true_eq] at this
      exact ⟨this.1, by omega⟩
    · split at e <;> cases e
    · cases e
  | newarray ty =>
    simp only [stI] at e
    split at e
    · split at e
      · cases e
      · split at e <;> cases e <;> exact ⟨by decide, by decide⟩
    · cases e
  | anewarray j =>
    simp only [stI] at e
    split at e
    · split at e <;> cases e
      exact ⟨by decide, by decide⟩
    · cases e
  | aastore =>
    exfalso
    simp only [stI, arP] at e
    (repeat' split at e) <;> cases e
  | iastore => exfalso; simp only [stI, arP] at e; (repeat' split at e) <;> cases e
  | lastore => exfalso; simp only [stI, arP] at e; (repeat' split at e) <;> cases e
  | bastore => exfalso; simp only [stI, arP] at e; (repeat' split at e) <;> cases e
  | dastore => exfalso; simp only [stI, arP] at e; (repeat' split at e) <;> cases e
  | _ =>
    exfalso
    simp only [stI, ldI, stI1, stI2, arG] at e
    first
    | (cases e; done)
    | (repeat' split at e) <;> cases e
end SIM
section SIM2
variable {sv : Nat → Value} {ρ φ : Nat → Nat} {F : Nat → Nat → Prop} {H h : Hp}
theorem rdO_s {h : Hp} {a : Nat} {x : Nat × List Value} (e : rdO h a = some x) : h a = some (.inl x) := by
  unfold rdO at e
  split at e
  · next y hy => cases e; exact hy
  · cases e
theorem rdO_i {h : Hp} {a : Nat} {x : Nat × List Value} (e : h a = some (.inl x)) : rdO h a = some x := by
  unfold rdO
  rw [e]
theorem Rel.pl (hR : Rel sv ρ φ F H h) {a k : Nat} {fs : List Value} (ha : H a = some (.inl (k, fs))) : h (ρ a) = some (.inl (k, rens ρ fs)) ∧ k ≠ 32 ∧ ∀ z, F a z ↔ z = ρ a := hR.1 a _ ha
theorem Rel.inj (hR : Rel sv ρ φ F H h) {a b : Nat} {x y : Nat × List Value} (ha : H a = some (.inl x)) (hb : H b = some (.inl y)) (e : ρ a = ρ b) : a = b :=
  hR.2.1 a b (ρ a) (by rw [ha]; exact fun z => by cases z) (by rw [hb]; exact fun z => by cases z) (((hR.pl ha).2.2 _).mpr rfl) (((hR.pl hb).2.2 _).mpr e)
theorem acK_inj (hR : Rel sv ρ φ F H h) {x y : Value} (hx : acK H x) (hy : acK H y) (e : ren ρ x = ren ρ y) : x = y := by
  cases x with
  | ref a =>
    cases y with
    | ref b =>
      obtain ⟨u, hu⟩ := hx
      obtain ⟨w, hw⟩ := hy
      have e2 : Value.ref (ρ a) = .ref (ρ b) := e
      injection e2 with e3
      rw [hR.inj hu hw e3]
    | _ => cases e
  | _ =>
    cases y with
    | ref b => cases e
    | _ => exact e
/-- a plain cell is written -/
theorem Rel.wr (hR : Rel sv ρ φ F H h) {a k : Nat} {fs0 fs : List Value} (ha : H a = some (.inl (k, fs0))) (hv : ∀ v ∈ fs, VOK H v) : Rel sv ρ φ F (upd_ H a (.inl (k, fs))) (upd_ h (ρ a) (.inl (k, rens ρ fs))) := by
  obtain ⟨e1, e2, e3⟩ := hR.pl ha
  have hn : H a ≠ none := by rw [ha]; exact fun z => by cases z
  obtain ⟨k', fs', e4, e5⟩ := hR.2.2.1 a (ρ a) hn ((e3 _).mpr rfl)
  rw [e1] at e4
  cases e4
  have im : Imm h (upd_ h (ρ a) (.inl (k, rens ρ fs))) := by
    refine ⟨fun z k1 f1 hz hk => ?_, fun z v f1 hz => ?_⟩
    · have : z ≠ ρ a := fun e => by
        rw [e, e1] at hz
        cases hz
        rw [e5] at hk; cases hk
      rw [show upd_ h (ρ a) _ z = h z from if_neg this]
      exact hz
    · have : z ≠ ρ a := fun e => by
        rw [e, e1] at hz
        simp only [Option.some.injEq, Sum.inl.injEq, Prod.mk.injEq] at hz
        exact e2 hz.1
      rw [show upd_ h (ρ a) _ z = h z from if_neg this]
      exact ⟨f1, hz⟩
  have R := Rel_upd (o' := .inl (k, fs)) (Fa := F a) (x := φ a) hR ha im (fun z _ hf => if_neg (fun e => hf ((e3 z).mpr e))) (fun u hu hun => by
    have : u ≠ ρ a := fun e => by rw [e, e1] at hun; cases hun
    rw [show upd_ h (ρ a) _ u = h u from if_neg this]
    exact hun) (fun z hz => ⟨Or.inl hz, k, rens ρ fs, by rw [(e3 z).mp hz]; exact if_pos rfl, e5⟩) hv (Or.inl rfl) ⟨if_pos rfl, e2, fun z => by
    show (if a = a then F a else F a) z ↔ z = ρ a
    rw [if_pos rfl]; exact e3 z⟩
  have f1 : (fun b => if b = a then φ a else φ b) = φ := funext fun b => by split <;> simp_all
  have f2 : (fun b => if b = a then F a else F b) = F := funext fun b => by split <;> simp_all
  rw [f1, f2] at R
  exact R
/-- a plain cell is made -/
theorem Rel.nw (hR : Rel sv ρ φ F H h) {a q k : Nat} {fs : List Value} (ha : H a = none) (hq : h q = none) (hu : sv 4 ≠ .ref q) (hk : imK k = false) (h32 : k ≠ 32) (hv : ∀ v ∈ fs, VOK H v) : Rel sv (fun b => if b = a then q else ρ b) (fun b => if b = a then 0 else φ b) (fun b => if b = a then (fun z => z = q) else F b) (upd_ H a (.inl (k, fs))) (upd_ h q (.inl (k, rens ρ fs))) := by
  have ne : ∀ z, h z ≠ none → z ≠ q := fun z hz e => hz (by rw [e]; exact hq)
  refine Rel_new hR ha ⟨fun z k1 f1 hz _ => ?_, fun z v f1 hz => ⟨f1, ?_⟩⟩ (fun z hz => if_neg (ne z hz)) (fun u hu1 hun => ?_) (fun z hz => ⟨by rw [hz]; exact hq, k, rens ρ fs, by rw [hz]; exact if_pos rfl, hk⟩) hv ⟨?_, h32, fun z => ?_⟩
  · exact (if_neg (ne z (by rw [hz]; exact fun z => by cases z))).trans hz
  · exact (if_neg (ne z (by rw [hz]; exact fun z => by cases z))).trans hz
  · exact (if_neg (fun e => hu (by rw [hu1, e]))).trans hun
  · show upd_ h q _ (if a = a then q else ρ a) = _
    rw [if_pos rfl, show upd_ h q _ q = _ from if_pos rfl, rens_eq (ρ' := fun b => if b = a then q else ρ b) (ρ := ρ) hv (fun b hb => if_neg (fun e => hb (by rw [e]; exact ha)))]
  · show (if a = a then (fun z => z = q) else F a) z ↔ z = (if a = a then q else ρ a)
    rw [if_pos rfl, if_pos rfl]
theorem Pt_new {φ : Nat → Nat} {tot a : Nat} (h : Pt φ tot) : Pt (fun b => if b = a then 0 else φ b) tot := Pt_set h (by omega)
theorem Con_kd {a : Nat} {o : Ob} (hc : Con sv ρ H h F φ a o) : kd o = 9997 ∨ ∃ x, h (ρ a) = some (.inl x) ∧ (x.1 = kd o ∨ (kd o = 23 ∧ x.1 = 35) ∨ (kd o = 24 ∧ x.1 = 36)) := by
  unfold Con at hc
  split at hc
  · next k fs => exact Or.inr ⟨_, hc.1, Or.inl rfl⟩
  · obtain ⟨m, cap, ⟨b, e, _⟩, _⟩ := hc; exact Or.inr ⟨_, e, Or.inl rfl⟩
  · obtain ⟨es, m, root, ⟨vals, e, _⟩, _⟩ := hc; exact Or.inr ⟨_, e, Or.inl rfl⟩
  · obtain ⟨⟨m, cap, b, e, _⟩, _⟩ := hc; exact Or.inr ⟨_, e, Or.inl rfl⟩
  · obtain ⟨_, l, m, e, _⟩ := hc; exact Or.inr ⟨_, e, Or.inl rfl⟩
  · obtain ⟨_, l, u, m, e, _⟩ := hc; exact Or.inr ⟨_, e, Or.inl rfl⟩
  · obtain ⟨_, p, l, m, e, _⟩ := hc; exact Or.inr ⟨_, e, Or.inl rfl⟩
  · obtain ⟨j, s2, x, e, _⟩ := hc; exact Or.inr ⟨_, e, Or.inl rfl⟩
  · rcases hc.1 with e | e
    · exact Or.inr ⟨_, e, Or.inl rfl⟩
    · exact Or.inr ⟨_, e, Or.inr (Or.inl ⟨rfl, rfl⟩)⟩
  · rcases hc.1 with e | e
    · exact Or.inr ⟨_, e, Or.inl rfl⟩
    · exact Or.inr ⟨_, e, Or.inr (Or.inr ⟨rfl, rfl⟩)⟩
  · exact Or.inr ⟨_, hc.1, Or.inl rfl⟩
  · obtain ⟨_, k1, k2, esv, vals, _, _, e, _⟩ := hc; exact Or.inr ⟨_, e, Or.inl rfl⟩
  · exact Or.inr ⟨_, hc.1, Or.inl rfl⟩
  · obtain ⟨⟨kb, w, e, _⟩, _⟩ := hc; exact Or.inr ⟨_, e, Or.inl rfl⟩
  · exact Or.inl rfl
  · exact hc.elim
theorem Aft_sim {M : MD} {pc p d : Nat} {L S : List Value} {Q : Post} (hM : ownO M.1 = true) (hL : ∀ v ∈ L, VOK H v) (hS : ∀ v ∈ S, VOK H v) {o : Out} {h1 : Hp} {r1 : Nat} (hl : Lift sv ρ H (AftA (Sim sv) M pc p L S d Q) o h1 r1) : Aft (Wp (EL sv)) M pc p (rens ρ L) (rens ρ S) d (Lift sv ρ H Q) o h1 r1 := by
  obtain ⟨ρ', φ', F', H', r2, tot, o', a1, a2, a3, a4, a5, a6, a7⟩ := hl
  have eL : rens ρ L = rens ρ' L := (rens_eq hL (fun b hb => (a4 b hb).2)).symm
  have eS : rens ρ S = rens ρ' S := (rens_eq hS (fun b hb => (a4 b hb).2)).symm
  have vL : ∀ v ∈ L, VOK H' v := fun v hv => a4.vok (hL v hv)
  have vS : ∀ v ∈ S, VOK H' v := fun v hv => a4.vok (hS v hv)
  subst a5
  rw [eL, eS]
  rcases o' with (_ | v) | e
  · exact Wp_mono (hEL sv) (fun _ _ _ => Lift_gro a4) (a7 hM ρ' φ' F' h1 r1 tot a1 a2 a3 vL vS)
  · refine Wp_mono (hEL sv) (fun _ _ _ => Lift_gro a4) (a7 hM ρ' φ' F' h1 r1 tot a1 a2 a3 vL (fun w hw => ?_))
    rcases List.mem_cons.mp hw with z | z
    · rw [z]; exact a6
    · exact vS w z
  · show Thr (Wp (EL sv)) M pc (rens ρ' L) d (Lift sv ρ H Q) e h1 r1
    have a7 : ThrA (Sim sv) M pc L d Q e H' r2 := a7
    unfold ThrA at a7
    unfold Thr
    split at a7
    · next hp he =>
      rw [he]
      obtain ⟨b1, b2, q, b3, b4⟩ := a7
      refine ⟨b1, b2, fun q' => ?_⟩
      have g : Gro ρ' (fun b => if b = q then q' else ρ' b) H' (upd_ H' q exOb) := Gro.new b3
      have R := Rel_new (o := exOb) (q' := q') (Fa := fun _ => False) (x := 0) a1 b3 (h' := h1) ⟨fun _ _ _ z _ => z, fun _ _ f z => ⟨f, z⟩⟩ (fun _ _ => rfl) (fun _ _ z => z) (fun _ z => z.elim) (fun v hv => by cases hv) (fun z => by
        show ¬ (if q = q then (fun _ => False) else F' q) z
        rw [if_pos rfl]; exact id)
      have := b4 hM _ _ _ h1 r1 tot R (Pt_new a2) a3 (fun v hv => g.vok (vL v hv)) (fun w hw => by
        rw [List.mem_singleton.mp hw]
        show upd_ H' q exOb q ≠ none
        rw [show upd_ H' q exOb q = some exOb from if_pos rfl]
        exact fun z => by cases z)
      rw [rens_eq vL (fun b hb => (g b hb).2)] at this
      have e3 : rens (fun b => if b = q then q' else ρ' b) [.ref q] = [.ref q'] := by
        show [Value.ref (if q = q then q' else ρ' q)] = _
        rw [if_pos rfl]
      rw [e3] at this
      exact Wp_mono (hEL sv) (fun _ _ _ => Lift_gro (a4.trans g)) this
    · next he =>
      rw [he]
      exact ⟨a7.1, ρ', φ', F', H', r2, tot, .inr e, a1, a2, a3, a4, rfl, trivial, a7.2⟩
theorem rcv_r {mode a : Nat} {l : List Value} {g : Hp} : rcv mode (.ref a :: l) g = if mode = 0 then 0 else if mode = 2 then 0 else (match g a with | some o => kd o | none => 9999) := rfl
theorem rcv_no {mode : Nat} {as : List Value} {g : Hp} (h0 : ¬ mode = 0) (hn : ∀ a l, as = .ref a :: l → False) : rcv mode as g = 9999 := by
  unfold rcv
  rw [if_neg h0]
  split
  · next a l => exact (hn _ _ rfl).elim
  · rfl
theorem sim_step (hP : ∀ p, PrimS sv p) {M : MD} {pc r d : Nat} {L S : List Value} {Q : Post} (hs : StpA (EH sv) (Sim sv) M pc L S H r d Q) : Sim sv M pc L S H r d Q := by
  intro hM ρ φ F h r' tot hR hPt hr hL hS
  refine Wp_in (hEL sv) ?_
  unfold StpA at hs
  unfold StpE
  split at hs
  · next i len hd =>
    obtain ⟨hl, h0, hac, hs⟩ := hs
    rw [hd]
    dsimp only
    refine ⟨hl, h0, ?_⟩
    cases he : stI (EH sv).2.2 (rdO H) M pc (pc + len) (tgt_ pc (ioff i)) L S i with
    | none => rw [he] at hs; exact hs.elim
    | some s =>
      rw [he] at hs
      have he : stI sv (rdO H) M pc (pc + len) (tgt_ pc (ioff i)) L S i = some s := he
      have vk := stI_vok (own_M hM) hL hS hR.2.2.2.1 he
      have nat := stI_nat (ρ := ρ) (rd' := rdO h) (sv' := sv) (fun a x hx => rdO_i (hR.pl (rdO_s hx)).1) (own_M hM) (fun hi y x S' hSS e => by
        have := hac hi
        rw [hSS] at this
        exact acK_inj hR this.1 this.2 e) he
      show Do1 (EL sv) (Wp (EL sv)) M pc h r' d (Lift sv ρ H Q) (stI sv (rdO h) M pc (pc + len) (tgt_ pc (ioff i)) (rens ρ L) (rens ρ S) i)
      rw [nat]
      rcases s with ⟨p, L1, S1⟩ | ⟨a, k, fs, p, L1, S1⟩ | ⟨k, fs, p, L1, S1⟩ | v | e | ⟨mode, j, p, as, L1, S1⟩ | ⟨a, j, p, L1, S1⟩
      · exact hs hM ρ φ F h r' tot hR hPt hr (fun v hv => vk v (List.mem_append_left _ hv)) (fun v hv => vk v (List.mem_append_right _ hv))
      · obtain ⟨fs0, hw⟩ := stI_wr he
        have ha := rdO_s hw
        have vf : ∀ v ∈ fs, VOK H v := fun v hv => vk v (List.mem_cons_of_mem _ (List.mem_append_left _ hv))
        have g : Gro ρ ρ H (upd_ H a (.inl (k, fs))) := Gro.upd
        exact Wp_mono (hEL sv) (fun _ _ _ => Lift_gro g) (hs hM ρ φ F _ r' tot (hR.wr ha vf) hPt hr (fun v hv => VOK_up (vk v (List.mem_cons_of_mem _ (List.mem_append_right _ (List.mem_append_left _ hv))))) (fun v hv => VOK_up (vk v (List.mem_cons_of_mem _ (List.mem_append_right _ (List.mem_append_right _ hv))))))
      · obtain ⟨i1, i2⟩ := stI_nw hM he
        obtain ⟨hc, q, hq, hs⟩ := hs
        refine ⟨by rw [rens, List.length_map]; omega, fun q' hq' hu => ?_⟩
        have vf : ∀ v ∈ fs, VOK H v := fun v hv => vk v (List.mem_append_left _ hv)
        have vL1 : ∀ v ∈ L1, VOK H v := fun v hv => vk v (List.mem_append_right _ (List.mem_append_left _ hv))
        have vS1 : ∀ v ∈ S1, VOK H v := fun v hv => vk v (List.mem_append_right _ (List.mem_append_right _ hv))
        have g : Gro ρ (fun b => if b = q then q' else ρ b) H (upd_ H q (.inl (k, fs))) := Gro.new hq
        have R := hR.nw hq hq' hu i1 i2 vf
        have := hs hM _ _ _ _ (r' - cst (rens ρ fs).length) tot R (Pt_new hPt) (by rw [rens, List.length_map]; omega) (fun v hv => g.vok (vL1 v hv)) (fun w hw => by
          rcases List.mem_cons.mp hw with z | z
          · rw [z]
            show upd_ H q _ q ≠ none
            rw [show upd_ H q (Sum.inl (k, fs)) q = some (Sum.inl (k, fs)) from if_pos rfl]
            exact fun z => by cases z
          · exact g.vok (vS1 w z))
        rw [rens_eq vL1 (fun b hb => (g b hb).2)] at this
        have e3 : rens (fun b => if b = q then q' else ρ b) (.ref q :: S1) = .ref q' :: rens ρ S1 := by
          show Value.ref (if q = q then q' else ρ q) :: rens _ S1 = _
          rw [if_pos rfl, rens_eq vS1 (fun b hb => (g b hb).2)]
        rw [e3] at this
        exact Wp_mono (hEL sv) (fun _ _ _ => Lift_gro g) this
      · refine ⟨ρ, φ, F, H, r, tot, .inl v, hR, hPt, hr, Gro.refl, rfl, ?_, hs⟩
        cases v with
        | none => trivial
        | some v => exact vk v (by simp [stVs])
      · have hs : 2 ≤ r ∧ Q (.inr e) H (r - 2) := hs
        exact ⟨by omega, ρ, φ, F, H, r - 2, tot, .inr e, hR, hPt, by omega, Gro.refl, rfl, trivial, hs.2⟩
      · obtain ⟨hcat, hs⟩ := hs
        have va : ∀ v ∈ as, VOK H v := fun v hv => vk v (List.mem_append_left _ hv)
        have vL1 : ∀ v ∈ L1, VOK H v := fun v hv => vk v (List.mem_append_right _ (List.mem_append_left _ hv))
        have vS1 : ∀ v ∈ S1, VOK H v := fun v hv => vk v (List.mem_append_right _ (List.mem_append_right _ hv))
        refine ⟨by rw [catS_ren]; exact hcat, ?_⟩
        show (match tgL M.1 mode j (rcv mode (rens ρ as) h) with | some t => _ | none => False)
        cases ht : tgH M.1 mode j (rcv mode as H) with
        | none => exact (show False by
            have hs : (match tgH M.1 mode j (rcv mode as H) with | some t => _ | none => False) := hs
            rw [ht] at hs; exact hs).elim
        | some t =>
          have hs : (match tgH M.1 mode j (rcv mode as H) with | some t => Run (EH sv) (Sim sv) t as H r d (AftA (Sim sv) M pc p L1 S1 d Q) | none => False) := hs
          rw [ht] at hs
          dsimp only at hs
          obtain ⟨t1, t2, t3⟩ := simTab ht
          -- the low receiver
          have hrc : rcv mode (rens ρ as) h = rcv mode as H ∨ (rcv mode as H = 23 ∧ rcv mode (rens ρ as) h = 35) ∨ (rcv mode as H = 24 ∧ rcv mode (rens ρ as) h = 36) := by
            by_cases m0 : mode = 0
            · subst m0; exact Or.inl rfl
            · by_cases hr2 : ∃ a l, as = .ref a :: l
              · obtain ⟨a, as', rfl⟩ := hr2
                rw [show rens ρ (.ref a :: as') = .ref (ρ a) :: rens ρ as' from rfl, rcv_r, rcv_r, if_neg m0, if_neg m0]
                rw [rcv_r, if_neg m0] at t1
                by_cases m2 : mode = 2
                · rw [if_pos m2, if_pos m2]; exact Or.inl rfl
                · rw [if_neg m2] at t1
                  rw [if_neg m2, if_neg m2]
                  cases hHa : H a with
                  | none => rw [hHa] at t1; exact absurd t1 (by decide)
                  | some o =>
                    rw [hHa] at t1
                    rcases Con_kd (hR.1 a o hHa) with c | ⟨x, c1, c2⟩
                    · have t1 : kd o ≤ 36 := t1
                      omega
                    · rw [c1]; exact c2
              · rw [rcv_no m0 (fun a l e => hr2 ⟨a, l, e⟩)] at t1
                exact absurd t1 (by decide)
          cases t with
          | inl N =>
            obtain ⟨n1, n2, n3, n4⟩ := t3
            have hk : rcv mode (rens ρ as) h = rcv mode as H := by
              rcases hrc with c | ⟨c, _⟩ | ⟨c, _⟩
              · exact c
              · exact absurd c n2
              · exact absurd c n3
            rw [hk, n4]
            show Run (EL sv) (Wp (EL sv)) (.inl N) (rens ρ as) h r' d _
            cases d with
            | zero => exact hs.elim
            | succ d' =>
              obtain ⟨c1, R, c2, c3, c4⟩ := hs
              refine ⟨by rw [entL_ren, rens, List.length_map]; exact c1, Lift sv ρ H R, ?_, ?_, fun o h2 r2 z => ?_⟩
              · have := c2 n1 ρ φ F h r' tot hR hPt hr (fun v hv => ?_) (fun v hv => by cases hv)
                · rw [ent_ren]; exact this
                · unfold ent at hv
                  rcases List.mem_append.mp hv with z | z
                  · have key : ∀ l : List Value, (∀ w ∈ l, VOK H w) → ∀ w ∈ entL l, VOK H w := by
                      intro l
                      induction l with
                      | nil => exact fun _ w hw => by cases hw
                      | cons u l ih =>
                        intro hl w hw
                        have hw : w ∈ (if cat2 u = true then u :: uV :: entL l else u :: entL l) := hw
                        split at hw
                        · rcases List.mem_cons.mp hw with z | z
                          · rw [z]; exact hl u (by simp)
                          · rcases List.mem_cons.mp z with z | z
                            · rw [z]; trivial
                            · exact ih (fun w hw => hl w (by simp [hw])) w z
                        · rcases List.mem_cons.mp hw with z | z
                          · rw [z]; exact hl u (by simp)
                          · exact ih (fun w hw => hl w (by simp [hw])) w z
                    exact key as va v z
                  · rw [(List.mem_replicate.mp z).2]; trivial
              · rcases c3 with c3 | c3
                · exact Or.inl c3
                · refine Or.inr (fun e h2 r2 z => ?_)
                  obtain ⟨ρ2, φ2, F2, H2, r3, tot2, o2, a1, a2, a3, a4, a5, a6, a7⟩ := z
                  rcases o2 with v2 | e2
                  · cases a5
                  · exact c3 e2 H2 r3 a7
              · exact Aft_sim hM vL1 vS1 (Lift_mono c4 z)
          | inr P =>
            obtain ⟨n1, n2, n3⟩ := t3
            have hk : tgL M.1 mode j (rcv mode (rens ρ as) h) = some (jt P) := by
              rcases hrc with c | ⟨c, c'⟩ | ⟨c, c'⟩
              · rw [c]; exact n1
              · rw [c']; exact n2 c
              · rw [c']; exact n3 c
            rw [hk]
            obtain ⟨c1, c2⟩ := hs
            exact hP P as H r _ ρ φ F h r' tot d _ c2 hR hPt hr va c1 (fun o h2 r2 z => Aft_sim hM vL1 vS1 z)
      · have hs : (match H a with | some o => cok M.1 j (kd o) = true ∧ Sim sv M p L1 S1 H r d Q | none => False) := hs
        show (match h (ρ a) with | some o => cok M.1 j (kd o) = true ∧ Wp (EL sv) M p (rens ρ L1) (rens ρ S1) h r' d (Lift sv ρ H Q) | none => False)
        cases hHa : H a with
        | none => rw [hHa] at hs; exact hs.elim
        | some o =>
          rw [hHa] at hs
          obtain ⟨c1, c2⟩ := hs
          have vk2 : ∀ v ∈ L1 ++ S1, VOK H v := fun v hv => vk v (List.mem_cons_of_mem _ hv)
          rcases Con_kd (hR.1 a o hHa) with c | ⟨x, d1, d2⟩
          · exact absurd c (cok_bx c1 (Or.inl rfl)).2
          · rw [d1]
            exact ⟨(cok_bx c1 d2).1, c2 hM ρ φ F h r' tot hR hPt hr (fun v hv => vk2 v (List.mem_append_left _ hv)) (fun v hv => vk2 v (List.mem_append_right _ hv))⟩
  · exact hs.elim
/-- THE SIMULATION -/
theorem sim (hP : ∀ p, PrimS sv p) {M : MD} {pc r d : Nat} {L S : List Value} {Q : Post} (hw : Wa (EH sv) M pc L S H r d Q) : Sim sv M pc L S H r d Q := hw _ fun _ _ _ _ _ _ _ _ z => sim_step hP z
end SIM2
