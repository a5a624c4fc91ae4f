/-! THE A-LEVEL: the evaluator with angelic allocation (an address is chosen), for the high evaluator. An exception caught lies in an opaque cell. -/
def exOb : Ob := .inr (9997, 0, [], [])
def ThrA (X : XT) (M : MD) (pc : Nat) (L : List Value) (d : Nat) (Q : Post) (e : Nat) (h : Hp) (r : Nat) : Prop := match hnd M pc e with
  | some hp => excK e = true ∧ hOK M = true ∧ ∃ q : Nat, h q = none ∧ X M hp L [.ref q] (upd_ h q exOb) r d Q
  | none => M.2.2.2.2.2 = [] ∧ Q (.inr e) h r
def AftA (X : XT) (M : MD) (pc nx : Nat) (L S : List Value) (d : Nat) (Q : Post) : Post := fun o h r => match o with
  | .inl none => X M nx L S h r d Q
  | .inl (some v) => X M nx L (v :: S) h r d Q
  | .inr e => ThrA X M pc L d Q e h r
def DoA (E : Evn) (X : XT) (M : MD) (pc : Nat) (h : Hp) (r d : Nat) (Q : Post) (o : Option St1) : Prop := match o with
  | some (.inl (p, L, S)) => X M p L S h r d Q
  | some (.inr (.inl (a, k, fs, p, L, S))) => X M p L S (upd_ h a (.inl (k, fs))) r d Q
  | some (.inr (.inr (.inl (k, fs, p, L, S)))) => cst fs.length ≤ r ∧ ∃ q : Nat, h q = none ∧ X M p L (.ref q :: S) (upd_ h q (.inl (k, fs))) (r - cst fs.length) d Q
  | some (.inr (.inr (.inr (.inl v)))) => Q (.inl v) h r
  | some (.inr (.inr (.inr (.inr (.inl e))))) => 2 ≤ r ∧ Q (.inr e) h (r - 2)
  | some (.inr (.inr (.inr (.inr (.inr (.inl (mode, j, p, as, L, S))))))) => catS S ≤ 8 ∧ (match E.1 M.1 mode j (rcv mode as h) with
    | some t => Run E X t as h r d (AftA X M pc p L S d Q)
    | none => False)
  | some (.inr (.inr (.inr (.inr (.inr (.inr (a, j, p, L, S))))))) => (match h a with
    | some o => cok M.1 j (kd o) = true ∧ X M p L S h r d Q
    | none => False)
  | none => False
/-- what is compared by reference is null or a plain cell -/
def acK (h : Hp) (v : Value) : Prop := match v with
  | .ref a => ∃ x, h a = some (.inl x)
  | _ => True
def acI (i : Instr) : Bool := match i with
  | .if_acmp _ _ => true
  | _ => false
def AcK (h : Hp) (S : List Value) (i : Instr) : Prop := acI i = true → match S with
  | y :: x :: _ => acK h x ∧ acK h y
  | _ => True
def StpA (E : Evn) (X : XT) : XT := fun M pc L S h r d Q => match decode M.2.2.1 pc with
  | .ok (i, len) => (len = ilen i ∨ ilen i = 0) ∧ 0 ≤ (pc : Int) + ioff i ∧ AcK h S i ∧ DoA E X M pc h r d Q (stI E.2.2 (rdO h) M pc (pc + len) (tgt_ pc (ioff i)) L S i)
  | .error _ => False
def Wa (E : Evn) : XT := fun M pc L S h r d Q => ∀ X : XT, (∀ M pc L S h r d Q, StpA E X M pc L S h r d Q → X M pc L S h r d Q) → X M pc L S h r d Q
theorem ThrA_mono {X Y : XT} (hXY : ∀ M pc L S h r d Q, X M pc L S h r d Q → Y M pc L S h r d Q) {M : MD} {pc : Nat} {L : List Value} {d : Nat} {Q Q' : Post} (hQ : ∀ o h r, Q o h r → Q' o h r) (hq : ∀ M pc L S h r d, X M pc L S h r d Q → X M pc L S h r d Q') {e : Nat} {h : Hp} {r : Nat} (H : ThrA X M pc L d Q e h r) : ThrA Y M pc L d Q' e h r := by
  unfold ThrA at H ⊢
  split at H
  · rename_i hp he
    obtain ⟨h1, h2, q, h3, h4⟩ := H
    exact ⟨h1, h2, q, h3, hXY _ _ _ _ _ _ _ _ (hq _ _ _ _ _ _ _ h4)⟩
  · rename_i he
    exact ⟨H.1, hQ _ _ _ H.2⟩
theorem AftA_mono {X Y : XT} (hXY : ∀ M pc L S h r d Q, X M pc L S h r d Q → Y M pc L S h r d Q) {M : MD} {pc nx : Nat} {L S : List Value} {d : Nat} {Q Q' : Post} (hQ : ∀ o h r, Q o h r → Q' o h r) (hq : ∀ M pc L S h r d, X M pc L S h r d Q → X M pc L S h r d Q') {o : Out} {h : Hp} {r : Nat} (H : AftA X M pc nx L S d Q o h r) : AftA Y M pc nx L S d Q' o h r := by
  rcases o with (_ | v) | e
  · exact hXY _ _ _ _ _ _ _ _ (hq _ _ _ _ _ _ _ H)
  · exact hXY _ _ _ _ _ _ _ _ (hq _ _ _ _ _ _ _ H)
  · exact ThrA_mono hXY hQ hq H
theorem DoA_mono {E : Evn} (hE : PMon E) {X Y : XT} (hXY : ∀ M pc L S h r d Q, X M pc L S h r d Q → Y M pc L S h r d Q) {M : MD} {pc : Nat} {h : Hp} {r d : Nat} {Q Q' : Post} (hQ : ∀ o h r, Q o h r → Q' o h r) (hq : ∀ M pc L S h r d, X M pc L S h r d Q → X M pc L S h r d Q') {o : Option St1} (H : DoA E X M pc h r d Q o) : DoA E Y M pc h r d Q' o := by
  rcases o with _ | (⟨p, L, S⟩ | ⟨a, k, fs, p, L, S⟩ | ⟨k, fs, p, L, S⟩ | v | e | ⟨mode, j, p, as, L, S⟩ | ⟨a, j, p, L, S⟩)
  · exact H
  · exact hXY _ _ _ _ _ _ _ _ (hq _ _ _ _ _ _ _ H)
  · exact hXY _ _ _ _ _ _ _ _ (hq _ _ _ _ _ _ _ H)
  · obtain ⟨h1, q, h2, h3⟩ := H
    exact ⟨h1, q, h2, hXY _ _ _ _ _ _ _ _ (hq _ _ _ _ _ _ _ h3)⟩
  · exact hQ _ _ _ H
  · exact ⟨H.1, hQ _ _ _ H.2⟩
  · refine ⟨H.1, ?_⟩
    have H2 := H.2
    split at H2
    · rename_i t ht
      exact Run_mono hE hXY (fun o h r z => AftA_mono hXY hQ hq z) H2
    · exact H2
  · show (match h a with | some o => _ | none => _)
    have H2 : (match h a with | some o => cok M.1 j (kd o) = true ∧ X M p L S h r d Q | none => False) := H
    split at H2
    · exact ⟨H2.1, hXY _ _ _ _ _ _ _ _ (hq _ _ _ _ _ _ _ H2.2)⟩
    · exact H2
theorem StpA_mono {E : Evn} (hE : PMon E) {X Y : XT} (hXY : ∀ M pc L S h r d Q, X M pc L S h r d Q → Y M pc L S h r d Q) {M : MD} {pc : Nat} {L S : List Value} {h : Hp} {r d : Nat} {Q Q' : Post} (hQ : ∀ o h r, Q o h r → Q' o h r) (hq : ∀ M pc L S h r d, X M pc L S h r d Q → X M pc L S h r d Q') (H : StpA E X M pc L S h r d Q) : StpA E Y M pc L S h r d Q' := by
  unfold StpA at H ⊢
  split at H
  · exact ⟨H.1, H.2.1, H.2.2.1, DoA_mono hE hXY hQ hq H.2.2.2⟩
  · exact H
theorem Wa_in {E : Evn} (hE : PMon E) {M : MD} {pc : Nat} {L S : List Value} {h : Hp} {r d : Nat} {Q : Post} (H : StpA E (Wa E) M pc L S h r d Q) : Wa E M pc L S h r d Q := by
  intro X hX
  exact hX _ _ _ _ _ _ _ _ (StpA_mono hE (fun M pc L S h r d Q z => z X hX) (fun _ _ _ z => z) (fun _ _ _ _ _ _ _ z => z) H)
theorem Wa_out {E : Evn} (hE : PMon E) {M : MD} {pc : Nat} {L S : List Value} {h : Hp} {r d : Nat} {Q : Post} (H : Wa E M pc L S h r d Q) : StpA E (Wa E) M pc L S h r d Q :=
  H (fun M pc L S h r d Q => StpA E (Wa E) M pc L S h r d Q) (fun M pc L S h r d Q z => StpA_mono hE (fun M pc L S h r d Q z => Wa_in hE z) (fun _ _ _ z => z) (fun _ _ _ _ _ _ _ z => z) z)
theorem Wa_eq {E : Evn} (hE : PMon E) {M : MD} {pc : Nat} {L S : List Value} {h : Hp} {r d : Nat} {Q : Post} : Wa E M pc L S h r d Q = StpA E (Wa E) M pc L S h r d Q := propext ⟨Wa_out hE, Wa_in hE⟩
theorem Wa_mono {E : Evn} (hE : PMon E) {M : MD} {pc : Nat} {L S : List Value} {h : Hp} {r d : Nat} {Q Q' : Post} (hQ : ∀ o h r, Q o h r → Q' o h r) (H : Wa E M pc L S h r d Q) : Wa E M pc L S h r d Q' := by
  have H2 := H (fun M pc L S h r d Q => ∀ Q' : Post, (∀ o h r, Q o h r → Q' o h r) → Wa E M pc L S h r d Q') (fun M pc L S h r d Q z Q' hQ => ?_) Q' hQ
  · exact H2
  · refine Wa_in hE ?_
    have z2 : StpA E (fun M pc L S h r d Q => ∀ Q' : Post, (∀ o h r, Q o h r → Q' o h r) → Wa E M pc L S h r d Q') M pc L S h r d Q' := StpA_mono (Y := fun M pc L S h r d Q => ∀ Q' : Post, (∀ o h r, Q o h r → Q' o h r) → Wa E M pc L S h r d Q') hE (fun _ _ _ _ _ _ _ _ z => z) hQ (fun M pc L S h r d z Q2 h2 => z Q2 (fun o h r w => h2 o h r (hQ o h r w))) z
    exact StpA_mono hE (fun M pc L S h r d Q z => z Q (fun _ _ _ w => w)) (fun _ _ _ w => w) (fun M pc L S h r d z => z) z2
/-- the step's equation, the instruction known -/
theorem Wa_at {E : Evn} (hE : PMon E) {M : MD} {pc : Nat} {i : Instr} {len : Nat} (hd : decode M.2.2.1 pc = .ok (i, len)) (hl : len = ilen i ∨ ilen i = 0) (h0 : 0 ≤ (pc : Int) + ioff i) {L S : List Value} {h : Hp} {r d : Nat} {Q : Post} {nx tg : Nat} (hn : pc + len = nx) (ht : tgt_ pc (ioff i) = tg) (hk : acI i = false) :
    Wa E M pc L S h r d Q = DoA E (Wa E) M pc h r d Q (stI E.2.2 (rdO h) M pc nx tg L S i) := by
  subst hn; subst ht
  rw [Wa_eq hE]
  unfold StpA
  rw [hd]
  exact propext ⟨fun z => z.2.2.2, fun z => ⟨hl, h0, fun w => Bool.noConfusion (hk.symm.trans w), z⟩⟩
theorem Wa_ac {E : Evn} (hE : PMon E) {M : MD} {pc : Nat} {c : ACond} {o : Int} {len : Nat} (hd : decode M.2.2.1 pc = .ok (.if_acmp c o, len)) (hl : len = ilen (.if_acmp c o) ∨ ilen (.if_acmp c o) = 0) (h0 : 0 ≤ (pc : Int) + ioff (.if_acmp c o)) {L S : List Value} {x y : Value} {h : Hp} {r d : Nat} {Q : Post} {nx tg : Nat} (hn : pc + len = nx) (ht : tgt_ pc (ioff (.if_acmp c o)) = tg) :
    Wa E M pc L (y :: x :: S) h r d Q = ((acK h x ∧ acK h y) ∧ DoA E (Wa E) M pc h r d Q (stI E.2.2 (rdO h) M pc nx tg L (y :: x :: S) (.if_acmp c o))) := by
  subst hn; subst ht
  rw [Wa_eq hE]
  unfold StpA
  rw [hd]
  exact propext ⟨fun z => ⟨z.2.2.1 rfl, z.2.2.2⟩, fun z => ⟨hl, h0, fun _ => z.1, z.2⟩⟩

theorem Br_itea {c : Prop} [Decidable c] {E : Evn} {M : MD} {pc t f : Nat} {L S : List Value} {h : Hp} {r d : Nat} {Q : Post} : DoA E (Wa E) M pc h r d Q (if c then sGo t L S else sGo f L S) = Br c (Wa E M t L S h r d Q) (Wa E M f L S h r d Q) := by
  refine propext ⟨fun H => ?_, fun H => ?_⟩
  · by_cases hc : c
    · rw [if_pos hc] at H; exact ⟨fun _ => H, fun h => absurd hc h⟩
    · rw [if_neg hc] at H; exact ⟨fun h => absurd h hc, fun _ => H⟩
  · by_cases hc : c
    · rw [if_pos hc]; exact H.1 hc
    · rw [if_neg hc]; exact H.2 hc
theorem Br_Ta {E : Evn} {M : MD} {t : Nat} {L S : List Value} {h : Hp} {r d : Nat} {Q : Post} {B : Prop} : Br True (Wa E M (frz t) L S h r d Q) B = Wa E M t L S h r d Q := propext ⟨fun H => H.1 trivial, fun H => ⟨fun _ => H, fun h => absurd trivial h⟩⟩
theorem Br_Fa {E : Evn} {M : MD} {t : Nat} {L S : List Value} {h : Hp} {r d : Nat} {Q : Post} {A : Prop} : Br False A (Wa E M (frz t) L S h r d Q) = Wa E M t L S h r d Q := propext ⟨fun H => H.2 id, fun H => ⟨fun h => h.elim, fun _ => H⟩⟩
def GFa (E : Evn) (M : MD) (o : Option Ob) (k n nx : Nat) (L S : List Value) (h : Hp) (r d : Nat) (Q : Post) : Prop := match o with
  | some (.inl x) => x.1 = k ∧ (match x.2[n]? with
    | some v => Wa E M nx L (v :: S) h r d Q
    | none => False)
  | _ => False
def GVa (E : Evn) (M : MD) (o : Option Value) (nx : Nat) (L S : List Value) (h : Hp) (r d : Nat) (Q : Post) : Prop := match o with
  | some v => Wa E M nx L (v :: S) h r d Q
  | none => False
theorem GV_somea {E : Evn} {M : MD} {v : Value} {nx : Nat} {L S : List Value} {h : Hp} {r d : Nat} {Q : Post} : GVa E M (some v) nx L S h r d Q = Wa E M nx L (v :: S) h r d Q := rfl
def GGa (E : Evn) (M : MD) (o : Option Ob) (f nx : Nat) (L S : List Value) (h : Hp) (r d : Nat) (Q : Post) : Prop := match o with
  | some (.inl x) => (match (fix x.1).idxOf? f with
    | some n => (match x.2[n]? with
      | some v => Wa E M nx L (v :: S) h r d Q
      | none => False)
    | none => False)
  | _ => False
def PFa (E : Evn) (M : MD) (o : Option Ob) (k n : Nat) (t : FieldType) (a : Nat) (v : Value) (nx : Nat) (L S : List Value) (h : Hp) (r d : Nat) (Q : Post) : Prop := match o with
  | some (.inl x) => x.1 = k ∧ n < x.2.length ∧ fits t v = true ∧ Wa E M nx L S (upd_ h a (.inl (k, x.2.set n v))) r d Q
  | _ => False
theorem PF_somea {E : Evn} {M : MD} {fs : List Value} {k n : Nat} {t : FieldType} {a : Nat} {v : Value} {nx : Nat} {L S : List Value} {h : Hp} {r d : Nat} {Q : Post} : PFa E M (some (.inl (k, fs))) k n t a v nx L S h r d Q = (n < fs.length ∧ fits t v = true ∧ Wa E M nx L S (upd_ h a (.inl (k, fs.set n v))) r d Q) := propext ⟨fun H => H.2, fun H => ⟨rfl, H⟩⟩
def AGa (E : Evn) (M : MD) (o : Option Ob) (b : Nat) (c : Value → Bool) (i : Int32) (nx : Nat) (L S : List Value) (h : Hp) (r d : Nat) (Q : Post) : Prop := match o with
  | some (.inl x) => arrIs x.1 b = true ∧ ¬ i < 0 ∧ (match x.2[i.toNatClampNeg]? with
    | some v => c v = true ∧ Wa E M nx L (v :: S) h r d Q
    | none => False)
  | _ => False
theorem AG_ia {E : Evn} {M : MD} {k : Nat} {fs : List Value} {b : Nat} {c : Value → Bool} {i : Int32} {nx : Nat} {L S : List Value} {h : Hp} {r d : Nat} {Q : Post} {v : Value} (h1 : arrIs k b = true) (h2 : ¬ i < 0) (h3 : fs[i.toNatClampNeg]? = some v) (h4 : c v = true) (H : Wa E M nx L (v :: S) h r d Q) : AGa E M (some (.inl (k, fs))) b c i nx L S h r d Q := by
  refine ⟨h1, h2, ?_⟩
  dsimp only
  rw [h3]
  exact ⟨h4, H⟩
def APa (E : Evn) (M : MD) (o : Option Ob) (b : Nat) (c : Value → Bool) (a : Nat) (i : Int32) (v : Value) (nx : Nat) (L S : List Value) (h : Hp) (r d : Nat) (Q : Post) : Prop := match o with
  | some (.inl x) => x.1 = b ∧ ¬ i < 0 ∧ i.toNatClampNeg < x.2.length ∧ c v = true ∧ Wa E M nx L S (upd_ h a (.inl (b, x.2.set i.toNatClampNeg v))) r d Q
  | _ => False
theorem AP_somea {E : Evn} {M : MD} {fs : List Value} {b : Nat} {c : Value → Bool} {a : Nat} {i : Int32} {v : Value} {nx : Nat} {L S : List Value} {h : Hp} {r d : Nat} {Q : Post} : APa E M (some (.inl (b, fs))) b c a i v nx L S h r d Q = (¬ i < 0 ∧ i.toNatClampNeg < fs.length ∧ c v = true ∧ Wa E M nx L S (upd_ h a (.inl (b, fs.set i.toNatClampNeg v))) r d Q) := propext ⟨fun H => H.2, fun H => ⟨rfl, H⟩⟩
def ALa (E : Evn) (M : MD) (o : Option Ob) (nx : Nat) (L S : List Value) (h : Hp) (r d : Nat) (Q : Post) : Prop := match o with
  | some (.inl x) => 900 ≤ x.1 ∧ Wa E M nx L (.int (nI x.2.length) :: S) h r d Q
  | _ => False
theorem AL_somea {E : Evn} {M : MD} {fs : List Value} {k nx : Nat} {L S : List Value} {h : Hp} {r d : Nat} {Q : Post} : ALa E M (some (.inl (k, fs))) nx L S h r d Q = (900 ≤ k ∧ Wa E M nx L (.int (nI fs.length) :: S) h r d Q) := rfl
def Nwa (E : Evn) (M : MD) (k : Nat) (fs : List Value) (nx : Nat) (L S : List Value) (h : Hp) (r d : Nat) (Q : Post) : Prop := cst fs.length ≤ r ∧ ∃ q : Nat, h q = none ∧ Wa E M nx L (.ref q :: S) (upd_ h q (.inl (k, fs))) (r - cst fs.length) d Q
theorem Nw_ia {E : Evn} {M : MD} {k : Nat} {fs : List Value} {nx : Nat} {L S : List Value} {h : Hp} {r d : Nat} {Q : Post} (q n : Nat) (hn : cst fs.length = n) (h1 : n ≤ r) (hq : h q = none) (H : Wa E M nx L (.ref q :: S) (upd_ h q (.inl (k, fs))) (r - n) d Q) : Nwa E M k fs nx L S h r d Q := by
  subst hn; exact ⟨h1, q, hq, H⟩
def CCa (E : Evn) (M : MD) (o : Option Ob) (ow j a nx : Nat) (L S : List Value) (h : Hp) (r d : Nat) (Q : Post) : Prop := match o with
  | some o => cok ow j (kd o) = true ∧ Wa E M nx L (.ref a :: S) h r d Q
  | none => False
theorem CC_somea {E : Evn} {M : MD} {o : Ob} {ow j a nx : Nat} {L S : List Value} {h : Hp} {r d : Nat} {Q : Post} : CCa E M (some o) ow j a nx L S h r d Q = (cok ow j (kd o) = true ∧ Wa E M nx L (.ref a :: S) h r d Q) := rfl
def Cla (E : Evn) (M : MD) (t : Option Tg) (as : List Value) (pc nx : Nat) (L S : List Value) (h : Hp) (r d : Nat) (Q : Post) : Prop := catS S ≤ 8 ∧ (match t with
  | some t => Run E (Wa E) t as h r d (AftA (Wa E) M pc nx L S d Q)
  | none => False)
theorem Cl_somea {E : Evn} {M : MD} {t : Tg} {as : List Value} {pc nx : Nat} {L S : List Value} {h : Hp} {r d : Nat} {Q : Post} : Cla E M (some t) as pc nx L S h r d Q = (catS S ≤ 8 ∧ Run E (Wa E) t as h r d (AftA (Wa E) M pc nx L S d Q)) := rfl
theorem Aft_va {E : Evn} {M : MD} {pc nx : Nat} {L S : List Value} {d : Nat} {Q : Post} {v : Value} {h : Hp} {r : Nat} : AftA (Wa E) M pc nx L S d Q (.inl (some v)) h r = Wa E M nx L (v :: S) h r d Q := rfl
theorem Aft_na {E : Evn} {M : MD} {pc nx : Nat} {L S : List Value} {d : Nat} {Q : Post} {h : Hp} {r : Nat} : AftA (Wa E) M pc nx L S d Q (.inl none) h r = Wa E M nx L S h r d Q := rfl
theorem Aft_xa {E : Evn} {M : MD} {pc nx : Nat} {L S : List Value} {d : Nat} {Q : Post} {e : Nat} {h : Hp} {r : Nat} (hM : M.2.2.2.2.2 = []) : AftA (Wa E) M pc nx L S d Q (.inr e) h r = Q (.inr e) h r := by
  show ThrA (Wa E) M pc L d Q e h r = _
  unfold ThrA hnd
  rw [hM]
  exact propext ⟨fun H => H.2, fun H => ⟨rfl, H⟩⟩
theorem Run_ia {E : Evn} {N : MD} {as : List Value} {h : Hp} {r d : Nat} {K : Post} (hH : N.2.2.2.2.2 = []) (h1 : (entL as).length ≤ N.2.2.2.1) (H : Wa E N 0 (ent N.2.2.2.1 as) [] h r d K) : Run E (Wa E) (.inl N) as h r (d + 1) K := ⟨h1, K, H, Or.inl hH, fun _ _ _ z => z⟩
theorem Run_eqa {E : Evn} (hE : PMon E) {N : MD} {as : List Value} {h : Hp} {r d : Nat} {K : Post} (hH : N.2.2.2.2.2 = []) : Run E (Wa E) (.inl N) as h r (d + 1) K = ((entL as).length ≤ N.2.2.2.1 ∧ Wa E N 0 (ent N.2.2.2.1 as) [] h r d K) := propext ⟨fun ⟨h1, R, h2, _, h3⟩ => ⟨h1, Wa_mono hE h3 h2⟩, fun ⟨h1, h2⟩ => Run_ia hH h1 h2⟩
section WK
variable {E : Evn} {M : MD} {pc nx tg len : Nat} {i : Instr} {L S : List Value} {h : Hp} {r d : Nat} {Q : Post}
theorem g_goa (hE : PMon E) (hd : decode M.2.2.1 pc = .ok (i, len)) (hl : len = ilen i ∨ ilen i = 0) (h0 : 0 ≤ (pc : Int) + ioff i) (hn : pc + len = nx) (ht : tgt_ pc (ioff i) = tg) (hki : acI i = false) {p : Nat} {L' S' : List Value} (hs : stI E.2.2 (rdO h) M pc nx tg L S i = sGo p L' S') : Wa E M pc L S h r d Q = Wa E M p L' S' h r d Q := by
  rw [Wa_at hE hd hl h0 hn ht hki, hs]; rfl
theorem g_ifa (hE : PMon E) (hd : decode M.2.2.1 pc = .ok (i, len)) (hl : len = ilen i ∨ ilen i = 0) (h0 : 0 ≤ (pc : Int) + ioff i) (hn : pc + len = nx) (ht : tgt_ pc (ioff i) = tg) (hki : acI i = false) {p : Nat} {L' S' : List Value} {c : Prop} [Decidable c] (hs : stI E.2.2 (rdO h) M pc nx tg L S i = if c then sGo p L' S' else none) : Wa E M pc L S h r d Q = (c ∧ Wa E M p L' S' h r d Q) := by
  rw [Wa_at hE hd hl h0 hn ht hki, hs]
  by_cases hc : c
  · rw [if_pos hc]; exact propext ⟨fun H => ⟨hc, H⟩, fun H => H.2⟩
  · rw [if_neg hc]; exact propext ⟨fun H => H.elim, fun H => absurd H.1 hc⟩
theorem g_bra (hE : PMon E) (hd : decode M.2.2.1 pc = .ok (i, len)) (hl : len = ilen i ∨ ilen i = 0) (h0 : 0 ≤ (pc : Int) + ioff i) (hn : pc + len = nx) (ht : tgt_ pc (ioff i) = tg) (hki : acI i = false) {t f : Nat} {L' S' : List Value} {c c' : Prop} [Decidable c] (hs : stI E.2.2 (rdO h) M pc nx tg L S i = if c then sGo t L' S' else sGo f L' S') (hc : c = c') : Wa E M pc L S h r d Q = Br c' (Wa E M t L' S' h r d Q) (Wa E M f L' S' h r d Q) := by
  rw [Wa_at hE hd hl h0 hn ht hki, hs, Br_itea, hc]
theorem g_brna (hE : PMon E) (hd : decode M.2.2.1 pc = .ok (i, len)) (hl : len = ilen i ∨ ilen i = 0) (h0 : 0 ≤ (pc : Int) + ioff i) (hn : pc + len = nx) (ht : tgt_ pc (ioff i) = tg) (hki : acI i = false) {t f : Nat} {L' S' : List Value} {c c' : Prop} [Decidable c] (hs : stI E.2.2 (rdO h) M pc nx tg L S i = if c then sGo t L' S' else sGo f L' S') (hc : c = ¬c') : Wa E M pc L S h r d Q = Br c' (Wa E M f L' S' h r d Q) (Wa E M t L' S' h r d Q) := by
  rw [Wa_at hE hd hl h0 hn ht hki, hs, Br_itea, hc, Br_not]
end WK
section WK2
variable {E : Evn} {M : MD} {pc nx tg len : Nat} {i : Instr} {L S : List Value} {h : Hp} {r d : Nat} {Q : Post}
theorem g_ifna (hE : PMon E) (hd : decode M.2.2.1 pc = .ok (i, len)) (hl : len = ilen i ∨ ilen i = 0) (h0 : 0 ≤ (pc : Int) + ioff i) (hn : pc + len = nx) (ht : tgt_ pc (ioff i) = tg) (hki : acI i = false) {p : Nat} {L' S' : List Value} {c : Prop} [Decidable c] (hs : stI E.2.2 (rdO h) M pc nx tg L S i = if c then none else sGo p L' S') : Wa E M pc L S h r d Q = (¬c ∧ Wa E M p L' S' h r d Q) := by
  rw [Wa_at hE hd hl h0 hn ht hki, hs]
  by_cases hc : c
  · rw [if_pos hc]; exact propext ⟨fun H => H.elim, fun H => absurd hc H.1⟩
  · rw [if_neg hc]; exact propext ⟨fun H => ⟨hc, H⟩, fun H => H.2⟩
theorem g_ifoa (hE : PMon E) (hd : decode M.2.2.1 pc = .ok (i, len)) (hl : len = ilen i ∨ ilen i = 0) (h0 : 0 ≤ (pc : Int) + ioff i) (hn : pc + len = nx) (ht : tgt_ pc (ioff i) = tg) (hki : acI i = false) {p : Nat} {L' S' : List Value} {c : Prop} [Decidable c] (hs : stI E.2.2 (rdO h) M pc nx tg L S i = if c then none else sGo p L' S') : Wa E M pc L S h r d Q = (¬c ∧ Wa E M p L' S' h r d Q) := g_ifna hE hd hl h0 hn ht hki hs
theorem g_ifca (hE : PMon E) (hd : decode M.2.2.1 pc = .ok (i, len)) (hl : len = ilen i ∨ ilen i = 0) (h0 : 0 ≤ (pc : Int) + ioff i) (hn : pc + len = nx) (ht : tgt_ pc (ioff i) = tg) (hki : acI i = false) {p : Nat} {L' S' : List Value} {b : Bool} (hs : stI E.2.2 (rdO h) M pc nx tg L S i = if b = true then none else sGo p L' S') : Wa E M pc L S h r d Q = (b = false ∧ Wa E M p L' S' h r d Q) := by
  rw [g_ifna hE hd hl h0 hn ht hki hs]
  cases b <;> simp
theorem g_acnea {x y : Value} (hE : PMon E) (hd : decode M.2.2.1 pc = .ok (i, len)) (hl : len = ilen i ∨ ilen i = 0) (h0 : 0 ≤ (pc : Int) + ioff i) (hn : pc + len = nx) (ht : tgt_ pc (ioff i) = tg) {o : Int} (hi : i = .if_acmp .ne o) {S0 : List Value} (hS : S = y :: x :: S0) {t f : Nat} {L' S' : List Value} (hs : stI E.2.2 (rdO h) M pc nx tg L S i = if isR x = true ∧ isR y = true then (if (x = y) ↔ (ACond.ne = ACond.eq) then sGo t L' S' else sGo f L' S') else none) : Wa E M pc L S h r d Q = (acK h x ∧ acK h y ∧ isR x = true ∧ isR y = true ∧ Br (x = y) (Wa E M f L' S' h r d Q) (Wa E M t L' S' h r d Q)) := by
  subst hi; subst hS
  rw [Wa_ac hE hd hl h0 hn ht, hs, and_assoc]
  refine congrArg (acK h x ∧ ·) (congrArg (acK h y ∧ ·) ?_)
  by_cases hc : isR x = true ∧ isR y = true
  · rw [if_pos hc, Br_itea, Br_congr (show ((x = y) ↔ (ACond.ne = ACond.eq)) = ¬(x = y) from by simp), Br_not]
    exact propext ⟨fun H => ⟨hc.1, hc.2, H⟩, fun H => H.2.2⟩
  · rw [if_neg hc]; exact propext ⟨fun H => H.elim, fun H => absurd ⟨H.1, H.2.1⟩ hc⟩
theorem g_aceqa {x y : Value} (hE : PMon E) (hd : decode M.2.2.1 pc = .ok (i, len)) (hl : len = ilen i ∨ ilen i = 0) (h0 : 0 ≤ (pc : Int) + ioff i) (hn : pc + len = nx) (ht : tgt_ pc (ioff i) = tg) {o : Int} (hi : i = .if_acmp .eq o) {S0 : List Value} (hS : S = y :: x :: S0) {t f : Nat} {L' S' : List Value} (hs : stI E.2.2 (rdO h) M pc nx tg L S i = if isR x = true ∧ isR y = true then (if (x = y) ↔ (ACond.eq = ACond.eq) then sGo t L' S' else sGo f L' S') else none) : Wa E M pc L S h r d Q = (acK h x ∧ acK h y ∧ isR x = true ∧ isR y = true ∧ Br (x = y) (Wa E M t L' S' h r d Q) (Wa E M f L' S' h r d Q)) := by
  subst hi; subst hS
  rw [Wa_ac hE hd hl h0 hn ht, hs, and_assoc]
  refine congrArg (acK h x ∧ ·) (congrArg (acK h y ∧ ·) ?_)
  by_cases hc : isR x = true ∧ isR y = true
  · rw [if_pos hc, Br_itea, Br_congr (show ((x = y) ↔ (ACond.eq = ACond.eq)) = (x = y) from by simp)]
    exact propext ⟨fun H => ⟨hc.1, hc.2, H⟩, fun H => H.2.2⟩
  · rw [if_neg hc]; exact propext ⟨fun H => H.elim, fun H => absurd ⟨H.1, H.2.1⟩ hc⟩
theorem g_gfa {j o f K n a : Nat} (hE : PMon E) (hd : decode M.2.2.1 pc = .ok (.getfield j, len)) (hl : len = ilen (.getfield j) ∨ ilen (.getfield j) = 0) (h0 : 0 ≤ (pc : Int) + ioff (.getfield j)) (hn : pc + len = nx) (ht : tgt_ pc (ioff (.getfield j)) = tg) (hM : M.1 = o) (hF : (pF o).lookup j = some f) (hx : ∀ k, (fix k).idxOf? f = if k = K then some n else none) : Wa E M pc L (.ref a :: S) h r d Q = GFa E M (h a) K n nx L S h r d Q := by
  subst hM
  rw [Wa_at hE hd hl h0 hn ht rfl]
  simp only [stI, hF, rdO]
  unfold GFa
  cases h a with
  | none => rfl
  | some o =>
    cases o with
    | inr c => rfl
    | inl x =>
      obtain ⟨k, fs⟩ := x
      dsimp only
      rw [hx]
      by_cases hk : k = K
      · rw [if_pos hk]
        dsimp only
        cases fs[n]? with
        | none => exact propext ⟨fun H => H.elim, fun H => H.2.elim⟩
        | some v => exact propext ⟨fun H => ⟨hk, H⟩, fun H => H.2⟩
      · rw [if_neg hk]
        exact propext ⟨fun H => H.elim, fun H => absurd H.1 hk⟩
theorem g_gga {j o f a : Nat} (hE : PMon E) (hd : decode M.2.2.1 pc = .ok (.getfield j, len)) (hl : len = ilen (.getfield j) ∨ ilen (.getfield j) = 0) (h0 : 0 ≤ (pc : Int) + ioff (.getfield j)) (hn : pc + len = nx) (ht : tgt_ pc (ioff (.getfield j)) = tg) (hM : M.1 = o) (hF : (pF o).lookup j = some f) : Wa E M pc L (.ref a :: S) h r d Q = GGa E M (h a) f nx L S h r d Q := by
  subst hM
  rw [Wa_at hE hd hl h0 hn ht rfl]
  simp only [stI, hF, rdO]
  unfold GGa
  cases h a with
  | none => rfl
  | some o =>
    cases o with
    | inr c => rfl
    | inl x =>
      obtain ⟨k, fs⟩ := x
      dsimp only
      cases (fix k).idxOf? f with
      | none => rfl
      | some n =>
        dsimp only
        cases fs[n]? <;> rfl
theorem g_pf0a {j o f K n a : Nat} {v : Value} {t : FieldType} (hE : PMon E) (hd : decode M.2.2.1 pc = .ok (.putfield j, len)) (hl : len = ilen (.putfield j) ∨ ilen (.putfield j) = 0) (h0 : 0 ≤ (pc : Int) + ioff (.putfield j)) (hn : pc + len = nx) (ht : tgt_ pc (ioff (.putfield j)) = tg) (hM : M.1 = o) (hF : (pF o).lookup j = some f) (hx1 : (fix K).idxOf? f = some n) (hx2 : ∀ k, k ≠ K → (fix k).idxOf? f ≠ none → wrK k = false) (hw : wrK K = true) (hf : fty f = t) (hi : fin f = true → M.2.1.name = "<init>" ∧ fow f = M.1) : Wa E M pc L (v :: .ref a :: S) h r d Q = PFa E M (h a) K n t a v nx L S h r d Q := by
  subst hM
  subst hf
  rw [Wa_at hE hd hl h0 hn ht rfl]
  simp only [stI, hF, rdO]
  unfold PFa
  cases h a with
  | none => rfl
  | some o =>
    cases o with
    | inr c => rfl
    | inl x =>
      obtain ⟨k, fs⟩ := x
      dsimp only
      by_cases hk : k = K
      · subst hk
        rw [hx1]
        dsimp only
        by_cases hc : n < fs.length ∧ fits (fty f) v = true
        · rw [if_pos ⟨hw, hc.1, hc.2, hi⟩]
          exact propext ⟨fun H => ⟨rfl, hc.1, hc.2, H⟩, fun H => H.2.2.2⟩
        · rw [if_neg (fun z => hc ⟨z.2.1, z.2.2.1⟩)]
          exact propext ⟨fun H => H.elim, fun H => absurd ⟨H.2.1, H.2.2.1⟩ hc⟩
      · have h2 := hx2 k hk
        cases hz : (fix k).idxOf? f with
        | none => exact propext ⟨fun H => H.elim, fun H => absurd H.1 hk⟩
        | some m =>
          have h3 := h2 (by rw [hz]; exact fun z => by cases z)
          dsimp only
          rw [if_neg (fun z => by rw [h3] at z; cases z.1)]
          exact propext ⟨fun H => H.elim, fun H => absurd H.1 hk⟩
theorem g_pfa {j o f K n a : Nat} {v : Value} {t : FieldType} (hE : PMon E) (hd : decode M.2.2.1 pc = .ok (.putfield j, len)) (hl : len = ilen (.putfield j) ∨ ilen (.putfield j) = 0) (h0 : 0 ≤ (pc : Int) + ioff (.putfield j)) (hn : pc + len = nx) (ht : tgt_ pc (ioff (.putfield j)) = tg) (hM : M.1 = o) (hF : (pF o).lookup j = some f) (hx : ∀ k, (fix k).idxOf? f = if k = K then some n else none) (hw : wrK K = true) (hf : fty f = t) (hi : fin f = true → M.2.1.name = "<init>" ∧ fow f = M.1) : Wa E M pc L (v :: .ref a :: S) h r d Q = PFa E M (h a) K n t a v nx L S h r d Q :=
  g_pf0a hE hd hl h0 hn ht hM hF (by rw [hx, if_pos rfl]) (fun k hk hz => absurd (by rw [hx, if_neg hk]) hz) hw hf hi
theorem g_pf2a {j o f K n a : Nat} {v : Value} {t : FieldType} (hE : PMon E) (hd : decode M.2.2.1 pc = .ok (.putfield j, len)) (hl : len = ilen (.putfield j) ∨ ilen (.putfield j) = 0) (h0 : 0 ≤ (pc : Int) + ioff (.putfield j)) (hn : pc + len = nx) (ht : tgt_ pc (ioff (.putfield j)) = tg) (hM : M.1 = o) (hF : (pF o).lookup j = some f) (hx : (fix K).idxOf? f = some n ∧ ∀ k, k ≠ K → (fix k).idxOf? f ≠ none → wrK k = false) (hw : wrK K = true) (hf : fty f = t) (hi : fin f = true → M.2.1.name = "<init>" ∧ fow f = M.1) : Wa E M pc L (v :: .ref a :: S) h r d Q = PFa E M (h a) K n t a v nx L S h r d Q :=
  g_pf0a hE hd hl h0 hn ht hM hF hx.1 hx.2 hw hf hi
theorem g_aga {b a : Nat} {c : Value → Bool} {x : Int32} (hE : PMon E) (hd : decode M.2.2.1 pc = .ok (i, len)) (hl : len = ilen i ∨ ilen i = 0) (h0 : 0 ≤ (pc : Int) + ioff i) (hn : pc + len = nx) (ht : tgt_ pc (ioff i) = tg) (hki : acI i = false) (hs : stI E.2.2 (rdO h) M pc nx tg L (.int x :: .ref a :: S) i = arG (rdO h) b c nx L (.int x :: .ref a :: S)) : Wa E M pc L (.int x :: .ref a :: S) h r d Q = AGa E M (h a) b c x nx L S h r d Q := by
  rw [Wa_at hE hd hl h0 hn ht hki, hs]
  unfold arG rdO AGa
  dsimp only
  cases h a with
  | none => rfl
  | some o =>
    cases o with
    | inr c => rfl
    | inl z =>
      obtain ⟨k, fs⟩ := z
      dsimp only
      by_cases hc : arrIs k b = true ∧ ¬ x < 0
      · rw [if_pos hc]
        cases fs[x.toNatClampNeg]? with
        | none => exact propext ⟨fun H => H.elim, fun H => H.2.2.elim⟩
        | some v =>
          dsimp only
          by_cases hv : c v = true
          · rw [if_pos hv]; exact propext ⟨fun H => ⟨hc.1, hc.2, hv, H⟩, fun H => H.2.2.2⟩
          · rw [if_neg hv]; exact propext ⟨fun H => H.elim, fun H => absurd H.2.2.1 hv⟩
      · rw [if_neg hc]; exact propext ⟨fun H => H.elim, fun H => absurd ⟨H.1, H.2.1⟩ hc⟩
theorem arP_eqa {b a : Nat} {c : Value → Bool} {x : Int32} {v : Value} : DoA E (Wa E) M pc h r d Q (arP (rdO h) b c nx L (v :: .int x :: .ref a :: S)) = APa E M (h a) b c a x v nx L S h r d Q := by
  unfold arP rdO APa
  dsimp only
  cases h a with
  | none => rfl
  | some o =>
    cases o with
    | inr c => rfl
    | inl z =>
      obtain ⟨k, fs⟩ := z
      dsimp only
      by_cases hc : k = b ∧ ¬ x < 0 ∧ x.toNatClampNeg < fs.length ∧ c v = true
      · rw [if_pos hc]
        obtain ⟨rfl, c1, c2, c3⟩ := hc
        exact propext ⟨fun H => ⟨rfl, c1, c2, c3, H⟩, fun H => H.2.2.2.2⟩
      · rw [if_neg hc]; exact propext ⟨fun H => H.elim, fun H => absurd ⟨H.1, H.2.1, H.2.2.1, H.2.2.2.1⟩ hc⟩
theorem g_apa {b a : Nat} {c : Value → Bool} {x : Int32} {v : Value} (hE : PMon E) (hd : decode M.2.2.1 pc = .ok (i, len)) (hl : len = ilen i ∨ ilen i = 0) (h0 : 0 ≤ (pc : Int) + ioff i) (hn : pc + len = nx) (ht : tgt_ pc (ioff i) = tg) (hki : acI i = false) (hs : stI E.2.2 (rdO h) M pc nx tg L (v :: .int x :: .ref a :: S) i = arP (rdO h) b c nx L (v :: .int x :: .ref a :: S)) : Wa E M pc L (v :: .int x :: .ref a :: S) h r d Q = APa E M (h a) b c a x v nx L S h r d Q := by
  rw [Wa_at hE hd hl h0 hn ht hki, hs, arP_eqa]
theorem g_aaa {b a q : Nat} {c : Value → Bool} {x : Int32} (hE : PMon E) (hd : decode M.2.2.1 pc = .ok (i, len)) (hl : len = ilen i ∨ ilen i = 0) (h0 : 0 ≤ (pc : Int) + ioff i) (hn : pc + len = nx) (ht : tgt_ pc (ioff i) = tg) (hki : acI i = false) (hs : stI E.2.2 (rdO h) M pc nx tg L (.ref q :: .int x :: .ref a :: S) i = (match rdO h q with
      | some z => if obK z.1 = true then arP (rdO h) b c nx L (.ref q :: .int x :: .ref a :: S) else none
      | none => none)) : Wa E M pc L (.ref q :: .int x :: .ref a :: S) h r d Q = (obO (h q) = true ∧ APa E M (h a) b c a x (.ref q) nx L S h r d Q) := by
  rw [Wa_at hE hd hl h0 hn ht hki, hs]
  rw [show rdO h q = (match h q with
    | some (.inl x) => some x
    | _ => none) from rfl]
  unfold obO
  cases h q with
  | none => exact propext ⟨fun H => H.elim, fun H => absurd H.1 (by decide)⟩
  | some o =>
    cases o with
    | inr c => exact propext ⟨fun H => H.elim, fun H => absurd H.1 (fun z => by cases z)⟩
    | inl z =>
      dsimp only
      by_cases hc : obK z.1 = true
      · rw [if_pos hc, arP_eqa]; exact propext ⟨fun H => ⟨hc, H⟩, fun H => H.2⟩
      · rw [if_neg hc]; exact propext ⟨fun H => H.elim, fun H => absurd H.1 hc⟩
theorem g_ala {a : Nat} (hE : PMon E) (hd : decode M.2.2.1 pc = .ok (i, len)) (hl : len = ilen i ∨ ilen i = 0) (h0 : 0 ≤ (pc : Int) + ioff i) (hn : pc + len = nx) (ht : tgt_ pc (ioff i) = tg) (hki : acI i = false) (hs : stI E.2.2 (rdO h) M pc nx tg L (.ref a :: S) i = (match rdO h a with
      | some z => if 900 ≤ z.1 then sGo nx L (.int (nI z.2.length) :: S) else none
      | none => none)) : Wa E M pc L (.ref a :: S) h r d Q = ALa E M (h a) nx L S h r d Q := by
  rw [Wa_at hE hd hl h0 hn ht hki, hs]
  rw [show rdO h a = (match h a with
    | some (.inl x) => some x
    | _ => none) from rfl]
  unfold ALa
  cases h a with
  | none => rfl
  | some o =>
    cases o with
    | inr c => rfl
    | inl z =>
      dsimp only
      by_cases hc : 900 ≤ z.1
      · rw [if_pos hc]; exact propext ⟨fun H => ⟨hc, H⟩, fun H => H.2⟩
      · rw [if_neg hc]; exact propext ⟨fun H => H.elim, fun H => absurd H.1 hc⟩
theorem g_nwa {k : Nat} {fs : List Value} (hE : PMon E) (hd : decode M.2.2.1 pc = .ok (i, len)) (hl : len = ilen i ∨ ilen i = 0) (h0 : 0 ≤ (pc : Int) + ioff i) (hn : pc + len = nx) (ht : tgt_ pc (ioff i) = tg) (hki : acI i = false) (hs : stI E.2.2 (rdO h) M pc nx tg L S i = sNw k fs nx L S) : Wa E M pc L S h r d Q = Nwa E M k fs nx L S h r d Q := by
  rw [Wa_at hE hd hl h0 hn ht hki, hs]; rfl
theorem g_naa {k : Nat} {fs S' : List Value} {c : Prop} [Decidable c] (hE : PMon E) (hd : decode M.2.2.1 pc = .ok (i, len)) (hl : len = ilen i ∨ ilen i = 0) (h0 : 0 ≤ (pc : Int) + ioff i) (hn : pc + len = nx) (ht : tgt_ pc (ioff i) = tg) (hki : acI i = false) (hs : stI E.2.2 (rdO h) M pc nx tg L S i = if c then none else sNw k fs nx L S') : Wa E M pc L S h r d Q = (¬c ∧ Nwa E M k fs nx L S' h r d Q) := by
  rw [Wa_at hE hd hl h0 hn ht hki, hs]
  by_cases hc : c
  · rw [if_pos hc]; exact propext ⟨fun H => H.elim, fun H => absurd hc H.1⟩
  · rw [if_neg hc]; exact propext ⟨fun H => ⟨hc, H⟩, fun H => H.2⟩
theorem g_thra {e : Nat} (hE : PMon E) (hd : decode M.2.2.1 pc = .ok (i, len)) (hl : len = ilen i ∨ ilen i = 0) (h0 : 0 ≤ (pc : Int) + ioff i) (hn : pc + len = nx) (ht : tgt_ pc (ioff i) = tg) (hki : acI i = false) (hs : stI E.2.2 (rdO h) M pc nx tg L S i = if excAt M pc = some e ∧ catS S ≤ 8 then sTh e else none) (hx : excAt M pc = some e) : Wa E M pc L S h r d Q = (catS S ≤ 8 ∧ 2 ≤ r ∧ Q (.inr e) h (r - 2)) := by
  rw [Wa_at hE hd hl h0 hn ht hki, hs]
  by_cases hc : catS S ≤ 8
  · rw [if_pos ⟨hx, hc⟩]; exact propext ⟨fun H => ⟨hc, H.1, H.2⟩, fun H => H.2⟩
  · rw [if_neg (fun z => hc z.2)]; exact propext ⟨fun H => H.elim, fun H => absurd H.1 hc⟩
theorem g_cca {a j : Nat} (hE : PMon E) (hd : decode M.2.2.1 pc = .ok (i, len)) (hl : len = ilen i ∨ ilen i = 0) (h0 : 0 ≤ (pc : Int) + ioff i) (hn : pc + len = nx) (ht : tgt_ pc (ioff i) = tg) (hki : acI i = false) (hs : stI E.2.2 (rdO h) M pc nx tg L (.ref a :: S) i = sCs a j nx L (.ref a :: S)) : Wa E M pc L (.ref a :: S) h r d Q = CCa E M (h a) M.1 j a nx L S h r d Q := by
  rw [Wa_at hE hd hl h0 hn ht hki, hs]; rfl
theorem g_cla {n mode j k : Nat} {S0 S1 as : List Value} (hE : PMon E) (hd : decode M.2.2.1 pc = .ok (i, len)) (hl : len = ilen i ∨ ilen i = 0) (h0 : 0 ≤ (pc : Int) + ioff i) (hn : pc + len = nx) (ht : tgt_ pc (ioff i) = tg) (hki : acI i = false) (hs : stI E.2.2 (rdO h) M pc nx tg L S0 i = if n ≤ S0.length then sCl mode j nx (S0.take n).reverse L (S0.drop n) else none) (h1 : n ≤ S0.length) (h2 : (S0.take n).reverse = as) (h3 : S0.drop n = S1) (hk : rcv mode as h = k) : Wa E M pc L S0 h r d Q = Cla E M (E.1 M.1 mode j k) as pc nx L S1 h r d Q := by
  subst h2; subst h3; subst hk
  rw [Wa_at hE hd hl h0 hn ht hki, hs, if_pos h1]
  rfl
theorem g_rta {v : Option Value} (hE : PMon E) (hd : decode M.2.2.1 pc = .ok (i, len)) (hl : len = ilen i ∨ ilen i = 0) (h0 : 0 ≤ (pc : Int) + ioff i) (hn : pc + len = nx) (ht : tgt_ pc (ioff i) = tg) (hki : acI i = false) (hs : stI E.2.2 (rdO h) M pc nx tg L S i = sRt v) : Wa E M pc L S h r d Q = Q (.inl v) h r := by
  rw [Wa_at hE hd hl h0 hn ht hki, hs]; rfl
theorem g_rba {v : Option Value} {c : Prop} [Decidable c] (hE : PMon E) (hd : decode M.2.2.1 pc = .ok (i, len)) (hl : len = ilen i ∨ ilen i = 0) (h0 : 0 ≤ (pc : Int) + ioff i) (hn : pc + len = nx) (ht : tgt_ pc (ioff i) = tg) (hki : acI i = false) (hs : stI E.2.2 (rdO h) M pc nx tg L S i = if decide c = true then sRt v else none) : Wa E M pc L S h r d Q = (c ∧ Q (.inl v) h r) := by
  rw [Wa_at hE hd hl h0 hn ht hki, hs]
  by_cases hc : c
  · rw [if_pos (decide_eq_true hc)]; exact propext ⟨fun H => ⟨hc, H⟩, fun H => H.2⟩
  · rw [if_neg (fun z => hc (of_decide_eq_true z))]; exact propext ⟨fun H => H.elim, fun H => absurd H.1 hc⟩
theorem g_rra {v : Value} (hE : PMon E) (hd : decode M.2.2.1 pc = .ok (i, len)) (hl : len = ilen i ∨ ilen i = 0) (h0 : 0 ≤ (pc : Int) + ioff i) (hn : pc + len = nx) (ht : tgt_ pc (ioff i) = tg) (hki : acI i = false) (hs : stI E.2.2 (rdO h) M pc nx tg L [v] i = if isR v = true ∧ retR M.2.2.2.2.1 = true then sRt (some v) else none) (hr : retR M.2.2.2.2.1 = true) : Wa E M pc L [v] h r d Q = (isR v = true ∧ Q (.inl (some v)) h r) := by
  rw [Wa_at hE hd hl h0 hn ht hki, hs]
  by_cases hc : isR v = true
  · rw [if_pos ⟨hc, hr⟩]; exact propext ⟨fun H => ⟨hc, H⟩, fun H => H.2⟩
  · rw [if_neg (fun z => hc z.1)]; exact propext ⟨fun H => H.elim, fun H => absurd H.1 hc⟩
end WK2
section WK3
variable {E : Evn} {M : MD} {pc nx tg len : Nat} {i : Instr} {L S : List Value} {h : Hp} {r d : Nat} {Q : Post}
theorem g_sta (hE : PMon E) (hd : decode M.2.2.1 pc = .ok (i, len)) (hl : len = ilen i ∨ ilen i = 0) (h0 : 0 ≤ (pc : Int) + ioff i) (hn : pc + len = nx) (ht : tgt_ pc (ioff i) = tg) (hki : acI i = false) {p : Nat} {L' S' : List Value} {c c' : Prop} [Decidable c] [Decidable c'] (hc : c') (hs : stI E.2.2 (rdO h) M pc nx tg L S i = if c ∧ c' then sGo p L' S' else none) : Wa E M pc L S h r d Q = (c ∧ Wa E M p L' S' h r d Q) := by
  rw [g_ifa hE hd hl h0 hn ht hki hs]
  exact propext ⟨fun H => ⟨H.1.1, H.2⟩, fun H => ⟨⟨H.1, hc⟩, H.2⟩⟩
theorem h_cca {a j o : Nat} (hE : PMon E) (hd : decode M.2.2.1 pc = .ok (i, len)) (hl : len = ilen i ∨ ilen i = 0) (h0 : 0 ≤ (pc : Int) + ioff i) (hn : pc + len = nx) (ht : tgt_ pc (ioff i) = tg) (hki : acI i = false) (hs : stI E.2.2 (rdO h) M pc nx tg L (.ref a :: S) i = sCs a j nx L (.ref a :: S)) (hM : M.1 = o) : Wa E M pc L (.ref a :: S) h r d Q = CCa E M (h a) o j a nx L S h r d Q := by
  subst hM; exact g_cca hE hd hl h0 hn ht hki hs
end WK3
