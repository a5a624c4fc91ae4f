/-! THE LEVELS' RELATION, and how it goes on -/
def VOK (H : Hp) (v : Value) : Prop := match v with
  | .ref a => H a ≠ none
  | _ => True
def obVs (o : Ob) : List Value := match o with
  | .inl (_, fs) => fs
  | .inr (_, _, xs, l) => xs ++ l.map fun z => z.2
/-- the statics: the empty array, the boxes' caches -/
def Bas (sv : Nat → Value) (h : Hp) : Prop := (∃ b, sv 0 = .ref b ∧ h b = some (.inl (914, []))) ∧ sv 1 = .int 127 ∧ (∃ c C, sv 2 = .ref c ∧ h c = some (.inl (911, C)) ∧ ∀ i, i < 256 → ∃ b, C[i]? = some (.ref b) ∧ h b = some (.inl (35, [.int (nI i - 128)]))) ∧ (∃ c C, sv 3 = .ref c ∧ h c = some (.inl (912, C)) ∧ ∀ i, i < 256 → ∃ b, C[i]? = some (.ref b) ∧ h b = some (.inl (36, [.long (lN i - 128)]))) ∧ ∃ mi, sv 900 = .ref mi
def Rel (sv : Nat → Value) (ρ φ : Nat → Nat) (F : Nat → Nat → Prop) (H h : Hp) : Prop :=
  (∀ a o, H a = some o → Con sv ρ H h F φ a o) ∧
  (∀ a b z, H a ≠ none → H b ≠ none → F a z → F b z → a = b) ∧
  (∀ a z, H a ≠ none → F a z → ∃ k fs, h z = some (.inl (k, fs)) ∧ imK k = false) ∧
  (∀ a o, H a = some o → ∀ v ∈ obVs o, VOK H v) ∧
  Bas sv h ∧ (∃ u, sv 4 = .ref u ∧ h u = none)
theorem VOK_up {H : Hp} {a : Nat} {o : Ob} {v : Value} (hv : VOK H v) : VOK (upd_ H a o) v := by
  cases v with
  | ref b =>
    show upd_ H a o b ≠ none
    unfold upd_
    split
    · exact fun z => by cases z
    · exact hv
  | _ => trivial
theorem rens_eq {ρ ρ' : Nat → Nat} {H : Hp} {l : List Value} (hl : ∀ v ∈ l, VOK H v) (hρ : ∀ b, H b ≠ none → ρ' b = ρ b) : rens ρ' l = rens ρ l := by
  refine List.map_congr_left fun v hv => ?_
  have h2 := hl v hv
  cases v with
  | ref b => show Value.ref (ρ' b) = .ref (ρ b); rw [hρ b h2]
  | _ => rfl
theorem ren_eq {ρ ρ' : Nat → Nat} {H : Hp} {v : Value} (h2 : VOK H v) (hρ : ∀ b, H b ≠ none → ρ' b = ρ b) : ren ρ' v = ren ρ v := by
  cases v with
  | ref b => show Value.ref (ρ' b) = .ref (ρ b); rw [hρ b h2]
  | _ => rfl
/-- what may change of the low heap, the cells F apart -/
def Imm (h h' : Hp) : Prop := (∀ z k fs, h z = some (.inl (k, fs)) → imK k = true → h' z = some (.inl (k, fs))) ∧ ∀ z v fs, h z = some (.inl (32, v :: fs)) → ∃ fs', h' z = some (.inl (32, v :: fs'))
theorem Bas_im {sv : Nat → Value} {h h' : Hp} (hi : Imm h h') (H : Bas sv h) : Bas sv h' := by
  obtain ⟨⟨b, e1, e2⟩, e3, ⟨c, C, e4, e5, e6⟩, ⟨c', C', e7, e8, e9⟩, e10⟩ := H
  exact ⟨⟨b, e1, hi.1 _ _ _ e2 rfl⟩, e3, ⟨c, C, e4, hi.1 _ _ _ e5 rfl, fun i h => (e6 i h).imp fun b z => ⟨z.1, hi.1 _ _ _ z.2 rfl⟩⟩, ⟨c', C', e7, hi.1 _ _ _ e8 rfl, fun i h => (e9 i h).imp fun b z => ⟨z.1, hi.1 _ _ _ z.2 rfl⟩⟩, e10⟩
theorem bxI_im {h h' : Hp} {q : Nat} {x : Int32} (hi : Imm h h') (H : bxI h q x) : bxI h' q x := H.imp (fun z => hi.1 _ _ _ z rfl) (fun z => hi.1 _ _ _ z rfl)
theorem bxL_im {h h' : Hp} {q : Nat} {x : Int64} (hi : Imm h h') (H : bxL h q x) : bxL h' q x := H.imp (fun z => hi.1 _ _ _ z rfl) (fun z => hi.1 _ _ _ z rfl)
theorem VR_im {ρ ρ' : Nat → Nat} {H h h' : Hp} {u w : Value} (hi : Imm h h') (hu : VOK H u) (hρ : ∀ b, H b ≠ none → ρ' b = ρ b) (hv : VR ρ h u w) : VR ρ' h' u w := by
  cases u with
  | int x => obtain ⟨b, e, hb⟩ := hv; exact ⟨b, e, bxI_im hi hb⟩
  | long x => obtain ⟨b, e, hb⟩ := hv; exact ⟨b, e, bxL_im hi hb⟩
  | ref b => exact (show w = _ from hv).trans (ren_eq hu hρ).symm
  | _ => exact hv
theorem TrL_fr {h h' : Hp} (hi : Imm h h') : ∀ (n : Nat) (p par : Value) (es : Es), (∀ z, z ∈ es.map (fun e => e.1) → h' z = h z) → TrL h n p par es → TrL h' n p par es
  | 0, _, _, _, _, H => H
  | n + 1, p, par, es, hz, H => by
    rcases H with H | ⟨a, k, v, l, r, c, kb, es1, es2, e1, e2, e3, e4, e5, e6, e7⟩
    · exact Or.inl H
    · subst e2
      refine Or.inr ⟨a, k, v, l, r, c, kb, es1, es2, e1, rfl, ?_, bxI_im hi e4, e5, TrL_fr hi n _ _ _ (fun z hm => hz z ?_) e6, TrL_fr hi n _ _ _ (fun z hm => hz z ?_) e7⟩
      · rw [hz a (by simp)]; exact e3
      · rw [List.map_append]; exact List.mem_append_left _ hm
      · rw [List.map_append]; exact List.mem_append_right _ (List.mem_cons_of_mem _ hm)
theorem MaL_fr {h h' : Hp} (hi : Imm h h') {q : Nat} {es : Es} {F : Nat → Prop} {m : Int32} {root : Value} (hz : ∀ z, F z → h' z = h z) (H : MaL h q es F m root) : MaL h' q es F m root := by
  obtain ⟨vals, e1, e2, ⟨n, e3⟩, e4, e5, e6, e7⟩ := H
  refine ⟨vals, ?_, e2.imp id (fun ⟨v, a, b⟩ => ⟨v, a, hi.1 _ _ _ b rfl⟩), ⟨n, TrL_fr hi n _ _ _ (fun z hm => hz z ((e7 z).mpr (Or.inr hm))) e3⟩, e4, e5, e6, e7⟩
  rw [hz q ((e7 q).mpr (Or.inl rfl))]; exact e1
theorem LiL_fr {sv : Nat → Value} {h h' : Hp} (hi : Imm h h') {q : Nat} {xs : List Value} {F : Nat → Prop} {m : Int32} {cap : Nat} (hz : ∀ z, F z → h' z = h z) (H : LiL sv h q xs F m cap) : LiL sv h' q xs F m cap := by
  obtain ⟨b, e1, e2, e3, e30, e4⟩ := H
  refine ⟨b, by rw [hz q e3]; exact e1, e2, e3, e30, ?_⟩
  rcases e4 with ⟨a1, a2, a3, a4, a5⟩ | ⟨a1, a2, a3, a4, a5⟩
  · exact Or.inl ⟨a1, a2, a3, hi.1 _ _ _ a4 rfl, a5⟩
  · exact Or.inr ⟨a1, by rw [hz b a4]; exact a2, a3, a4, a5⟩
theorem QuL_fr {h h' : Hp} {q c : Nat} {xs : List Value} {F : Nat → Prop} {m : Int32} {cap : Nat} (hz : ∀ z, F z → h' z = h z) (H : QuL h q c xs F m cap) : QuL h' q c xs F m cap := by
  obtain ⟨b, e1, e2, e3, e4, e5, e6, e7, e8⟩ := H
  exact ⟨b, by rw [hz q ((e8 q).mpr (Or.inl rfl))]; exact e1, e2, e3, e4, e5, by rw [hz b ((e8 b).mpr (Or.inr rfl))]; exact e6, e7, e8⟩
/-- a container as it was, or of a newer version -/
def KeepC (H H' h h' : Hp) (F F' : Nat → Nat → Prop) (b : Nat) : Prop := (H' b = H b ∧ F' b = F b ∧ ∀ z, F b z → h' z = h z) ∨ (∃ v v', ver (H b) = some v ∧ ver (H' b) = some v' ∧ v < v') ∨ ver (H b) = none
theorem itV_fr {H H' h h' : Hp} {F F' : Nat → Nat → Prop} {b v : Nat} {P P' : Prop} (hk : KeepC H H' h h' F F' b) (hp : (F' b = F b ∧ ∀ z, F b z → h' z = h z) → P → P') (hi : itV H b v P) : itV H' b v P' := by
  obtain ⟨w, e1, e2, e3⟩ := hi
  rcases hk with ⟨k1, k2, k3⟩ | ⟨x, x', k1, k2, k3⟩ | k
  · exact ⟨w, by rw [k1]; exact e1, e2, fun z => hp ⟨k2, k3⟩ (e3 z)⟩
  · rw [k1] at e1
    cases e1
    exact ⟨x', k2, by omega, fun z => by omega⟩
  · rw [k] at e1; cases e1
section CFR
variable {sv : Nat → Value} {ρ ρ' φ φ' : Nat → Nat} {F F' : Nat → Nat → Prop} {H H' h h' : Hp} {a : Nat} {o : Ob}
theorem Con_fr (hi : Imm h h') (hc : Con sv ρ H h F φ a o) (ha : H a ≠ none) (hv : ∀ v ∈ obVs o, VOK H v) (hρ : ∀ b, H b ≠ none → ρ' b = ρ b) (hF : F' a = F a) (hφ : φ' a = φ a) (hz : ∀ z, F a z → h' z = h z) (hk : ∀ b, H b ≠ none → KeepC H H' h h' F F' b) : Con sv ρ' H' h' F' φ' a o := by
  have hra := hρ a ha
  unfold Con at hc
  split at hc
  · next k fs =>
    obtain ⟨e, e2, f⟩ := hc
    show h' (ρ' a) = some (.inl (k, rens ρ' fs)) ∧ k ≠ 32 ∧ ∀ z, F' a z ↔ z = ρ' a
    rw [hra, hF, rens_eq (l := fs) hv hρ, hz _ ((f _).mpr rfl)]
    exact ⟨e, e2, f⟩
  · next xs =>
    obtain ⟨m, cap, e, f⟩ := hc
    show ∃ m cap, LiL sv h' (ρ' a) (rens ρ' xs) (F' a) m cap ∧ _
    rw [hra, hF, rens_eq (fun v hm => hv v (by simp [obVs, hm])) hρ]
    exact ⟨m, cap, LiL_fr hi hz e, by rw [hφ]; exact f⟩
  · next l =>
    obtain ⟨es, m, root, e, f1, f2⟩ := hc
    show ∃ es m root, MaL h' (ρ' a) es (F' a) m root ∧ VRs ρ' h' l es
    rw [hra, hF]
    refine ⟨es, m, root, MaL_fr hi hz e, f1, fun i x y h1 h2 => ⟨(f2 i x y h1 h2).1, VR_im hi (hv x.2 ?_) hρ (f2 i x y h1 h2).2⟩⟩
    have := List.mem_of_getElem? h1
    simp only [obVs, List.mem_append, List.mem_map]
    exact Or.inr ⟨x, this, rfl⟩
  · next c xs ks =>
    obtain ⟨⟨m, cap, e⟩, f1, f2⟩ := hc
    show (∃ m cap, QuL h' (ρ' a) (ρ' c) (rens ρ' xs) (F' a) m cap) ∧ xs.length = ks.length ∧ hpO ks
    have hc2 : H c ≠ none := hv (.ref c) (by simp [obVs])
    rw [hra, hF, hρ c hc2, rens_eq (fun v hm => hv v (by simp [obVs, hm])) hρ]
    exact ⟨⟨m, cap, QuL_fr hz e⟩, f1, f2⟩
  · next b i y v =>
    obtain ⟨f, l, m, e, it⟩ := hc
    have hb : H b ≠ none := hv (.ref b) (by simp [obVs])
    show (∀ z, F' a z ↔ z = ρ' a) ∧ ∃ l m, h' (ρ' a) = some (.inl (22, [.int (nI i), l, .int m, .ref (ρ' b)])) ∧ itV H' b v (F' b (ρ' b) ∧ ∃ fs, h' (ρ' b) = some (.inl (19, .int m :: fs)))
    rw [hra, hF, hρ b hb, hz _ ((f _).mpr rfl)]
    exact ⟨f, l, m, e, itV_fr (hk b hb) (fun ⟨k1, k2⟩ ⟨p1, fs, p2⟩ => ⟨by rw [k1]; exact p1, fs, by rw [k2 _ p1]; exact p2⟩) it⟩
  · next b i y v =>
    obtain ⟨f, l, u, m, e, it⟩ := hc
    have hb : H b ≠ none := hv (.ref b) (by simp [obVs])
    show (∀ z, F' a z ↔ z = ρ' a) ∧ ∃ l u m, h' (ρ' a) = some (.inl (30, [.int (nI i), l, .null, u, .int m, .ref (ρ' b)])) ∧ itV H' b v (F' b (ρ' b) ∧ ∃ x y z, h' (ρ' b) = some (.inl (21, [x, y, z, .int m])))
    rw [hra, hF, hρ b hb, hz _ ((f _).mpr rfl)]
    exact ⟨f, l, u, m, e, itV_fr (hk b hb) (fun ⟨k1, k2⟩ ⟨p1, x, y, z, p2⟩ => ⟨by rw [k1]; exact p1, x, y, z, by rw [k2 _ p1]; exact p2⟩) it⟩
  · next b i y v =>
    obtain ⟨f, p, l, m, e, it⟩ := hc
    have hb : H b ≠ none := hv (.ref b) (by simp [obVs])
    show (∀ z, F' a z ↔ z = ρ' a) ∧ ∃ p l m, h' (ρ' a) = some (.inl (31, [p, l, .int m, .ref (ρ' b)])) ∧ itV H' b v (∃ es root, MaL h' (ρ' b) es (F' b) m root ∧ y = es.length ∧ i ≤ y ∧ p = adr es i)
    rw [hra, hF, hρ b hb, hz _ ((f _).mpr rfl)]
    exact ⟨f, p, l, m, e, itV_fr (hk b hb) (fun ⟨k1, k2⟩ ⟨es, root, p1, p2⟩ => ⟨es, root, by rw [k1]; exact MaL_fr hi k2 p1, p2⟩) it⟩
  · next b i y v =>
    obtain ⟨j, s2, x, e1, e2, f, p, l, fk, m, e3, ⟨fs, e4⟩, it⟩ := hc
    have hb : H b ≠ none := hv (.ref b) (by simp [obVs])
    show ∃ (j s2 : Nat) (x : Value), h' (ρ' a) = some (.inl (27, [.ref j, x])) ∧ j ≠ ρ' a ∧ (∀ z, F' a z ↔ z = ρ' a ∨ z = j) ∧ ∃ p l fk m, h' j = some (.inl (29, [l, p, fk, .int m, .ref s2])) ∧ (∃ fs, h' s2 = some (.inl (32, .ref (ρ' b) :: fs))) ∧ itV H' b v (∃ es root, MaL h' (ρ' b) es (F' b) m root ∧ y ≤ es.length ∧ i ≤ y ∧ p = adr es i ∧ (match es[y]? with
      | some x => ∃ fs kb, h' x.1 = some (.inl (25, .ref kb :: fs)) ∧ fk = .ref kb
      | none => ∃ u, fk = .ref u ∧ sv 4 = .ref u))
    rw [hra, hF, hρ b hb]
    refine ⟨j, s2, x, by rw [hz _ ((f _).mpr (Or.inl rfl))]; exact e1, e2, f, p, l, fk, m, by rw [hz _ ((f _).mpr (Or.inr rfl))]; exact e3, hi.2 _ _ _ e4, itV_fr (hk b hb) (fun ⟨k1, k2⟩ ⟨es, root, p1, p2, p3, p4, p5⟩ => ⟨es, root, by rw [k1]; exact MaL_fr hi k2 p1, p2, p3, p4, ?_⟩) it⟩
    cases hy : es[y]? with
    | none => rw [hy] at p5; exact p5
    | some w =>
      rw [hy] at p5
      obtain ⟨fs, kb, q1, q2⟩ := p5
      obtain ⟨_, _, _, _, _, _, _, p7⟩ := p1
      refine ⟨fs, kb, ?_, q2⟩
      rw [k2 w.1 ((p7 w.1).mpr (Or.inr (List.mem_map.mpr ⟨w, List.mem_of_getElem? hy, rfl⟩)))]
      exact q1
  · next x =>
    show bxI h' (ρ' a) x ∧ ∀ z, ¬ F' a z
    rw [hra, hF]
    exact ⟨bxI_im hi hc.1, hc.2⟩
  · next x =>
    show bxL h' (ρ' a) x ∧ ∀ z, ¬ F' a z
    rw [hra, hF]
    exact ⟨bxL_im hi hc.1, hc.2⟩
  · next b =>
    have hb : H b ≠ none := hv (.ref b) (by simp [obVs])
    show h' (ρ' a) = some (.inl (26, [.ref (ρ' b)])) ∧ ∀ z, ¬ F' a z
    rw [hra, hF, hρ b hb]
    exact ⟨hi.1 _ _ _ hc.1 rfl, hc.2⟩
  · next b lo hi' =>
    obtain ⟨f, k1, k2, esv, vals, e1, e2, e3, e4, e5⟩ := hc
    have hb : H b ≠ none := hv (.ref b) (by simp [obVs])
    show (∀ z, F' a z ↔ z = ρ' a) ∧ ∃ (k1 k2 : Nat) (esv vals : Value), bxI h' k1 lo ∧ bxI h' k2 hi' ∧ h' (ρ' a) = some (.inl (32, [.ref (ρ' b), .ref k1, .ref k2, .int 0, .int 0, .int 1, .int 0, .null, esv, .null, .null, vals])) ∧ (esv = .null ∨ ∃ w x y, esv = .ref w ∧ h' w = some (.inl (28, [x, y, .ref (ρ' a), .ref (ρ' a)]))) ∧ (vals = .null ∨ ∃ w, vals = .ref w ∧ h' w = some (.inl (33, [.ref (ρ' a)])))
    rw [hra, hF, hρ b hb, hz _ ((f _).mpr rfl)]
    exact ⟨f, k1, k2, esv, vals, bxI_im hi e1, bxI_im hi e2, e3, e4.imp id (fun ⟨w, x, y, p, q⟩ => ⟨w, x, y, p, hi.1 _ _ _ q rfl⟩), e5.imp id (fun ⟨w, p, q⟩ => ⟨w, p, hi.1 _ _ _ q rfl⟩)⟩
  · next b =>
    have hb : H b ≠ none := hv (.ref b) (by simp [obVs])
    show h' (ρ' a) = some (.inl (33, [.ref (ρ' b)])) ∧ ∀ z, ¬ F' a z
    rw [hra, hF, hρ b hb]
    exact ⟨hi.1 _ _ _ hc.1 rfl, hc.2⟩
  · next v =>
    obtain ⟨⟨kb, w, e1, e2⟩, e3⟩ := hc
    show (∃ kb w, h' (ρ' a) = some (.inl (34, [kb, w])) ∧ VR ρ' h' v w) ∧ ∀ z, ¬ F' a z
    rw [hra, hF]
    exact ⟨⟨kb, w, hi.1 _ _ _ e1 rfl, VR_im hi (hv v (by simp [obVs])) hρ e2⟩, e3⟩
  · show ∀ z, ¬ F' a z
    rw [hF]
    exact hc
  · exact hc.elim
/-- a cell is changed: the low heap changes in its cells alone, and makes new ones -/
theorem Rel_upd {o o' : Ob} {Fa : Nat → Prop} {x : Nat} (hR : Rel sv ρ φ F H h) (ha : H a = some o) (hi : Imm h h') (hz : ∀ z, h z ≠ none → ¬ F a z → h' z = h z) (hu : ∀ u, sv 4 = .ref u → h u = none → h' u = none) (hFa : ∀ z, Fa z → (F a z ∨ h z = none) ∧ ∃ k fs, h' z = some (.inl (k, fs)) ∧ imK k = false) (hv : ∀ v ∈ obVs o', VOK H v) (hver : ver (some o) = none ∨ ∃ v v', ver (some o) = some v ∧ ver (some o') = some v' ∧ v < v') (hc : Con sv ρ (upd_ H a o') h' (fun b => if b = a then Fa else F b) (fun b => if b = a then x else φ b) a o') : Rel sv ρ (fun b => if b = a then x else φ b) (fun b => if b = a then Fa else F b) (upd_ H a o') h' := by
  obtain ⟨r1, r2, r3, r4, r5, u0, r7, r8⟩ := hR
  have hn : ∀ b, upd_ H a o' b ≠ none → H b ≠ none := by
    intro b hb
    unfold upd_ at hb
    split at hb
    · next e => subst e; rw [ha]; exact fun z => by cases z
    · exact hb
  have hkeep : ∀ b z, b ≠ a → H b ≠ none → F b z → h' z = h z := by
    intro b z hba hb hf
    obtain ⟨k, fs, e, _⟩ := r3 b z hb hf
    refine hz z (by rw [e]; exact fun z => by cases z) (fun hfa => hba (r2 b a z hb (by rw [ha]; exact fun z => by cases z) hf hfa))
  refine ⟨fun b ob hb => ?_, fun b c z hb hc2 h1 h2 => ?_, fun b z hb h1 => ?_, fun b ob hb v hvm => ?_, Bas_im hi r5, u0, r7, hu u0 r7 r8⟩
  · by_cases hba : b = a
    · subst hba
      rw [show upd_ H b o' b = some o' from if_pos rfl] at hb
      cases hb
      exact hc
    · rw [show upd_ H a o' b = H b from if_neg hba] at hb
      refine Con_fr hi (r1 b ob hb) (by rw [hb]; exact fun z => by cases z) (r4 b ob hb) (fun _ _ => rfl) (if_neg hba) (if_neg hba) (fun z hf => hkeep b z hba (by rw [hb]; exact fun z => by cases z) hf) (fun c hcn => ?_)
      by_cases hca : c = a
      · subst hca
        rcases hver with hver | ⟨v, v', w1, w2, w3⟩
        · right; right; rw [ha]; exact hver
        · right; left; exact ⟨v, v', by rw [ha]; exact w1, by rw [show upd_ H c o' c = some o' from if_pos rfl]; exact w2, w3⟩
      · left
        exact ⟨if_neg hca, if_neg hca, fun z hf => hkeep c z hca hcn hf⟩
  · dsimp only at h1 h2
    have hb' := hn b hb
    have hc' := hn c hc2
    by_cases hba : b = a <;> by_cases hca : c = a
    · rw [hba, hca]
    · rw [if_pos hba] at h1; rw [if_neg hca] at h2
      exfalso
      rcases (hFa z h1).1 with h3 | h3
      · exact hca (r2 c a z hc' (by rw [ha]; exact fun z => by cases z) h2 h3)
      · obtain ⟨k, fs, e, _⟩ := r3 c z hc' h2
        rw [h3] at e; cases e
    · rw [if_neg hba] at h1; rw [if_pos hca] at h2
      exfalso
      rcases (hFa z h2).1 with h3 | h3
      · exact hba (r2 b a z hb' (by rw [ha]; exact fun z => by cases z) h1 h3)
      · obtain ⟨k, fs, e, _⟩ := r3 b z hb' h1
        rw [h3] at e; cases e
    · rw [if_neg hba] at h1; rw [if_neg hca] at h2
      exact r2 b c z hb' hc' h1 h2
  · dsimp only at h1
    by_cases hba : b = a
    · rw [if_pos hba] at h1; exact (hFa z h1).2
    · rw [if_neg hba] at h1
      rw [hkeep b z hba (hn b hb) h1]
      exact r3 b z (hn b hb) h1
  · by_cases hba : b = a
    · subst hba
      rw [show upd_ H b o' b = some o' from if_pos rfl] at hb
      cases hb
      exact VOK_up (hv v hvm)
    · rw [show upd_ H a o' b = H b from if_neg hba] at hb
      exact VOK_up (r4 b ob hb v hvm)
/-- a new cell -/
theorem Rel_new {q' : Nat} {Fa : Nat → Prop} {x : Nat} (hR : Rel sv ρ φ F H h) (ha : H a = none) (hi : Imm h h') (hz : ∀ z, h z ≠ none → h' z = h z) (hu : ∀ u, sv 4 = .ref u → h u = none → h' u = none) (hFa : ∀ z, Fa z → h z = none ∧ ∃ k fs, h' z = some (.inl (k, fs)) ∧ imK k = false) (hv : ∀ v ∈ obVs o, VOK H v) (hc : Con sv (fun b => if b = a then q' else ρ b) (upd_ H a o) h' (fun b => if b = a then Fa else F b) (fun b => if b = a then x else φ b) a o) : Rel sv (fun b => if b = a then q' else ρ b) (fun b => if b = a then x else φ b) (fun b => if b = a then Fa else F b) (upd_ H a o) h' := by
  obtain ⟨r1, r2, r3, r4, r5, u0, r7, r8⟩ := hR
  have hne : ∀ b, H b ≠ none → b ≠ a := fun b hb e => hb (by rw [e]; exact ha)
  have hkeep : ∀ b z, H b ≠ none → F b z → h' z = h z := by
    intro b z hb hf
    obtain ⟨k, fs, e, _⟩ := r3 b z hb hf
    exact hz z (by rw [e]; exact fun z => by cases z)
  have hn : ∀ b, b ≠ a → upd_ H a o b ≠ none → H b ≠ none := by
    intro b hba hb
    rw [show upd_ H a o b = H b from if_neg hba] at hb
    exact hb
  refine ⟨fun b ob hb => ?_, fun b c z hb hc2 h1 h2 => ?_, fun b z hb h1 => ?_, fun b ob hb v hvm => ?_, Bas_im hi r5, u0, r7, hu u0 r7 r8⟩
  · by_cases hba : b = a
    · subst hba
      rw [show upd_ H b o b = some o from if_pos rfl] at hb
      cases hb
      exact hc
    · rw [show upd_ H a o b = H b from if_neg hba] at hb
      have hbn : H b ≠ none := by rw [hb]; exact fun z => by cases z
      refine Con_fr hi (r1 b ob hb) hbn (r4 b ob hb) (fun c hcn => if_neg (hne c hcn)) (if_neg hba) (if_neg hba) (fun z hf => hkeep b z hbn hf) (fun c hcn => Or.inl ⟨if_neg (hne c hcn), if_neg (hne c hcn), fun z hf => hkeep c z hcn hf⟩)
  · dsimp only at h1 h2
    by_cases hba : b = a <;> by_cases hca : c = a
    · rw [hba, hca]
    · rw [if_pos hba] at h1; rw [if_neg hca] at h2
      exfalso
      obtain ⟨k, fs, e, _⟩ := r3 c z (hn c hca hc2) h2
      rw [(hFa z h1).1] at e; cases e
    · rw [if_neg hba] at h1; rw [if_pos hca] at h2
      exfalso
      obtain ⟨k, fs, e, _⟩ := r3 b z (hn b hba hb) h1
      rw [(hFa z h2).1] at e; cases e
    · rw [if_neg hba] at h1; rw [if_neg hca] at h2
      exact r2 b c z (hn b hba hb) (hn c hca hc2) h1 h2
  · dsimp only at h1
    by_cases hba : b = a
    · rw [if_pos hba] at h1; exact (hFa z h1).2
    · rw [if_neg hba] at h1
      rw [hkeep b z (hn b hba hb) h1]
      exact r3 b z (hn b hba hb) h1
  · by_cases hba : b = a
    · subst hba
      rw [show upd_ H b o b = some o from if_pos rfl] at hb
      cases hb
      exact VOK_up (hv v hvm)
    · rw [show upd_ H a o b = H b from if_neg hba] at hb
      exact VOK_up (r4 b ob hb v hvm)
end CFR
