/-! JDK AT THE LOW LEVEL 2: growing, adding, clearing, iterating -/
/-- a value that may lie in an Object[] -/
def okl (h : Hp) (v : Value) : Prop := v = .null ∨ ∃ y k fs, v = .ref y ∧ h y = some (.inl (k, fs)) ∧ obK k = true
theorem okl_R {h : Hp} {v : Value} (H : okl h v) : isR v = true := by
  rcases H with rfl | ⟨y, k, fs, rfl, _⟩ <;> rfl
theorem okl_ob {h : Hp} {y : Nat} (H : okl h (.ref y)) : ∃ k fs, rdO h y = some (k, fs) ∧ obK k = true := by
  rcases H with H | ⟨y', k, fs, e, h1, h2⟩
  · cases H
  · cases e; exact ⟨k, fs, rdO_i h1, h2⟩
theorem cpyL_0 {A : List Value} {n : Nat} : cpyL A (List.replicate (A.length + n) .null) 0 0 A.length = A ++ List.replicate n .null := by
  apply List.ext_getElem?
  intro j
  rcases Nat.lt_or_ge j (A.length + n) with hj | hj
  · rw [cpyL_at (by rw [List.length_replicate]; exact hj)]
    by_cases h1 : j < A.length
    · rw [if_pos ⟨by omega, by omega⟩, List.getElem?_append_left h1]
      simp [h1]
    · rw [if_neg (by omega), List.getElem?_append_right (by omega), List.getElem?_replicate, if_pos (by omega)]
      simp [hj]
  · rw [List.getElem?_eq_none (by rw [cpyL_len, List.length_replicate]; exact hj), List.getElem?_eq_none (by rw [List.length_append, List.length_replicate]; exact hj)]
section JL2
variable {sv : Nat → Value} {h : Hp} {r d q b n : Nat} {K : Post} {x y z m : Int32} {X : Int64} {v w : Value} {A xs : List Value}
theorem rL_2 {a0 a1 s0 d0 n : Nat} {f0 f1 : List Value} (hd : 16 ≤ d) (h1 : h a0 = some (.inl (904, f0))) (h2 : h a1 = some (.inl (904, f1))) (hs : s0 < 2 ^ 31) (hd0 : d0 < 2 ^ 31) (hn : n < 2 ^ 31) (h3 : s0 + n ≤ f0.length) (h4 : d0 + n ≤ f1.length) (h5 : ∀ v ∈ f0, okl h v) (h6 : ∀ v ∈ f1, isR v = true) (k : K (.inl none) (upd_ h a1 (.inl (904, cpyL f0 f1 s0 d0 n))) r) : Run (EL sv) (Wp (EL sv)) (.inr 2) [.ref a0, .int (nI s0), .ref a1, .int (nI d0), .int (nI n)] h r d K := by
  refine ⟨hd, a0, a1, nI s0, nI d0, nI n, f0, f1, rfl, rdO_i h1, rdO_i h2, nI_pos hs, nI_pos hd0, nI_pos hn, ?_, ?_, fun i hi y hy => ?_, fun v hv => okl_R (h5 v hv), h6, ?_⟩
  · rw [nI_clamp hs, nI_clamp hn]; exact h3
  · rw [nI_clamp hd0, nI_clamp hn]; exact h4
  · exact okl_ob (h5 _ (List.mem_of_getElem? hy))
  · rw [nI_clamp hs, nI_clamp hd0, nI_clamp hn]; exact k
theorem rL_3 {a mi : Nat} {fs : List Value} (h1 : h a = some (.inl (904, fs))) (hm : sv 900 = .ref mi) : Run (EL sv) (Wp (EL sv)) (.inr 3) [.ref a] h r d K = (16 ≤ d ∧ K (.inl (some (.ref mi))) h r) := by
  refine propext ⟨fun z => ⟨z.1, ?_⟩, fun z => ⟨z.1, ⟨a, fs, rfl, rdO_i h1⟩, ?_⟩⟩
  · have := z.2.2; rw [hm] at this; exact this
  · rw [hm]; exact z.2
theorem l_newLen {a k p : Nat} (hk : 1 ≤ k) (hs : a + (k + p) < 2147483639) (hd : 2 ≤ d) : Run (EL sv) (Wp (EL sv)) (.inl mJ11_newLength) [.int (nI a), .int (nI k), .int (nI p)] h r (d + 1) K = K (.inl (some (.int (nI (a + (if k < p then p else k)))))) h r := by
  obtain ⟨d, rfl⟩ := Nat.exists_eq_add_of_le' hd
  have e1 : (if nI k < nI p then nI p else nI k) = nI (if k < p then p else k) := by
    by_cases c : k < p
    · rw [if_pos (nI_lt c (by omega)), if_pos c]
    · rw [if_neg (nI_nlt (by omega) (by omega)), if_neg c]
  have hb : a + (if k < p then p else k) < 2147483639 := by split <;> omega
  have h1 : (0 < nI (a + (if k < p then p else k))) = True := eq_true (by
    rw [Int32.lt_iff_toInt_lt, nI_toInt (by omega), Int32.toInt_zero]; split <;> omega)
  have h2 : (2147483639 < nI (a + (if k < p then p else k))) = False := eq_false (by
    rw [Int32.lt_iff_toInt_lt, nI_toInt (by omega)]
    have : (2147483639 : Int32).toInt = 2147483639 := by decide +kernel
    omega)
  rw [ul_J11_newLength]
  simp only [frz, wJ11_newLength_0 (hEL sv), wJ11_newLength_1 (hEL sv), wJ11_newLength_2 (hEL sv), wJ11_newLength_3 (hEL sv), wJ11_newLength_6 (hEL sv), wJ11_newLength_7 (hEL sv), wJ11_newLength_8 (hEL sv), wJ11_newLength_9 (hEL sv), wJ11_newLength_10 (hEL sv), wJ11_newLength_13 (hEL sv), wJ11_newLength_14 (hEL sv), wJ11_newLength_16 (hEL sv), wJ11_newLength_19 (hEL sv), wJ11_newLength_20 (hEL sv), wJ11_newLength_21 (hEL sv), wJ11_newLength_22 (hEL sv), wJ11_newLength_23 (hEL sv), wJ11_newLength_26 (hEL sv), gL_111_0_194_0, isR_ref, isR_null, isI_int, isL_long, isD_dbl, isF_flt, true_and, and_true, c2_int, c2_ref, c2_null, c2_u, c2_long, c2_dbl, c2_flt, cat2_i, cat2_r, cat2_n, cat2_l, ft_int, ft_long, ft_ref, ft_null, ft_aref, ft_anull, kd_l, kd_r, kdo_l, kdo_r, catS_n, catS_i, catS_r, catS_0, catS_l, List.getElem?_cons_zero, List.getElem?_cons_succ, List.set_cons_zero, List.set_cons_succ, List.length_cons, List.length_nil, not_true_eq_false, not_false_eq_true, Nat.reduceLeDiff, Nat.reduceAdd, GF_some, GV_some, PF_some, AP_some, AL_some, CC_some, Cl_some, Aft_v, Aft_n, Br_T, Br_F, EL_sv, rL_1, Br_not, Nat.reduceLeDiff, Nat.reduceSubDiff, l_max, e1, nI_add, h1, h2]
/-- a full array grows -/
theorem l_grow (h1 : h q = some (.inl (19, [.int m, .ref b, .int (nI n)]))) (h2 : h b = some (.inl (904, A))) (hA : A.length = n) (hn : 10 ≤ n) (hn2 : n ≤ 200000) (hok : ∀ v ∈ A, okl h v) (hB : Bas sv h) (hr : 1 + (n + n / 2) / 4 ≤ r) (hd : 30 ≤ d) (k : ∀ p, h p = none → sv 4 ≠ .ref p → K (.inl (some (.ref p))) (upd_ (upd_ h p (.inl (904, A ++ List.replicate (n / 2) .null))) q (.inl (19, [.int m, .ref p, .int (nI n)]))) (r - (1 + (n + n / 2) / 4))) : Run (EL sv) (Wp (EL sv)) (.inl mJ2_grow) [.ref q] h r (d + 1) K := by
  obtain ⟨d, rfl⟩ := Nat.exists_eq_add_of_le' hd
  obtain ⟨-, -, -, -, mi, hmi⟩ := hB
  have e1 : (0 < nI n) = True := eq_true (by rw [Int32.lt_iff_toInt_lt, nI_toInt (by omega), Int32.toInt_zero]; omega)
  have e2 : nI n + 1 - nI n = nI 1 := by rw [nI_1, pk_sub (by omega)]; congr 1; omega
  have e3 : nI n >>> ((1 : Int32) &&& 31) = nI (n / 2) := by
    have := pk_shrN (n := n) (by omega) ((1 : Int32) &&& 31) 1 (by decide +kernel)
    rw [this]
  have e4 : (if 1 < n / 2 then n / 2 else 1) = n / 2 := by rw [if_pos (by omega)]
  have e5 : ¬ (nI (n + n / 2) < 0 ∨ 1000000 < (nI (n + n / 2)).toNatClampNeg) := by
    rw [nI_clamp (by omega)]
    rintro (z | z)
    · exact nI_pos (by omega) z
    · omega
  have e6 : (if nI (n + n / 2) < nI n then nI (n + n / 2) else nI n) = nI n := if_neg (nI_nlt (by omega) (by omega))
  rw [ul_J2_grow]
  simp only [frz, wJ2_grow_0 (hEL sv), wJ2_grow_1 (hEL sv), wJ2_grow_2 (hEL sv), wJ2_grow_5 (hEL sv), wJ2_grow_6 (hEL sv), wJ2_grow_7 (hEL sv), wJ2_grow_10 (hEL sv), gL_102_1_69_19, wJ2_grow_2_0 (hEL sv), wJ2_grow_2_1 (hEL sv), wJ2_grow_2_4 (hEL sv), wJ2_grow_2_5 (hEL sv), wJ2_grow_2_6 (hEL sv), wJ2_grow_2_7 (hEL sv), wJ2_grow_2_10 (hEL sv), wJ2_grow_2_11 (hEL sv), wJ2_grow_2_14 (hEL sv), wJ2_grow_2_17 (hEL sv), wJ2_grow_2_20 (hEL sv), wJ2_grow_2_21 (hEL sv), wJ2_grow_2_22 (hEL sv), wJ2_grow_2_23 (hEL sv), wJ2_grow_2_24 (hEL sv), wJ2_grow_2_25 (hEL sv), wJ2_grow_2_26 (hEL sv), wJ2_grow_2_27 (hEL sv), wJ2_grow_2_30 (hEL sv), wJ2_grow_2_31 (hEL sv), wJ2_grow_2_32 (hEL sv), wJ2_grow_2_33 (hEL sv), wJ2_grow_2_36 (hEL sv), wJ2_grow_2_37 (hEL sv), wJ2_grow_2_40 (hEL sv), wJ2_grow_2_41 (hEL sv), wJ2_grow_2_44 (hEL sv), wJ2_grow_2_45 (hEL sv), wJ2_grow_2_46 (hEL sv), wJ2_grow_2_48 (hEL sv), wJ2_grow_2_49 (hEL sv), wJ2_grow_2_52 (hEL sv), wJ2_grow_2_55 (hEL sv), wJ2_grow_2_56 (hEL sv), wJ2_grow_2_59 (hEL sv), gL_102_0_73_0, gL_102_0_66_0, gL_102_0_79_0, wJ13_copyOf_0 (hEL sv), wJ13_copyOf_1 (hEL sv), wJ13_copyOf_2 (hEL sv), wJ13_copyOf_3 (hEL sv), wJ13_copyOf_6 (hEL sv), wJ13_copyOf_9 (hEL sv), gL_113_1_86_904, gL_113_0_300_0, wJ13_copyOf_2_0 (hEL sv), wJ13_copyOf_2_1 (hEL sv), wJ13_copyOf_2_3 (hEL sv), wJ13_copyOf_2_6 (hEL sv), wJ13_copyOf_2_7 (hEL sv), wJ13_copyOf_2_10 (hEL sv), wJ13_copyOf_2_13 (hEL sv), wJ13_copyOf_2_17 (hEL sv), wJ13_copyOf_2_21a (hEL sv), wJ13_copyOf_2_21b (hEL sv), wJ13_copyOf_2_24 (hEL sv), wJ13_copyOf_2_25 (hEL sv), wJ13_copyOf_2_26 (hEL sv), wJ13_copyOf_2_27 (hEL sv), wJ13_copyOf_2_28 (hEL sv), wJ13_copyOf_2_29 (hEL sv), wJ13_copyOf_2_30 (hEL sv), wJ13_copyOf_2_31 (hEL sv), wJ13_copyOf_2_32 (hEL sv), wJ13_copyOf_2_35 (hEL sv), wJ13_copyOf_2_38 (hEL sv), wJ13_copyOf_2_39 (hEL sv), gL_113_0_304_0, gL_113_0_150_0, ck_113_110_904, ul_J2_grow_2, ul_J13_copyOf, ul_J13_copyOf_2, isR_ref, isR_null, isI_int, isL_long, isD_dbl, isF_flt, true_and, and_true, c2_int, c2_ref, c2_null, c2_u, c2_long, c2_dbl, c2_flt, cat2_i, cat2_r, cat2_n, cat2_l, ft_int, ft_long, ft_ref, ft_null, ft_aref, ft_anull, kd_l, kd_r, kdo_l, kdo_r, catS_n, catS_i, catS_r, catS_0, catS_l, List.getElem?_cons_zero, List.getElem?_cons_succ, List.set_cons_zero, List.set_cons_succ, List.length_cons, List.length_nil, not_true_eq_false, not_false_eq_true, Nat.reduceLeDiff, Nat.reduceAdd, GF_some, GV_some, PF_some, AP_some, AL_some, CC_some, Cl_some, Aft_v, Aft_n, Br_T, Br_F, EL_sv, rL_1, Br_not, Nat.reduceLeDiff, Nat.reduceSubDiff, h1, h2, hA, e1, e2, e3, l_newLen (a := n) (k := 1) (p := n / 2) (Nat.le_refl 1) (by omega) (Nat.le_add_left 2 _), e4, rL_3 h2 hmi, hmi]
  refine ⟨e5, Nw_i (1 + (n + n / 2) / 4) (by rw [List.length_replicate, nI_clamp (by omega)]; rfl) hr fun p hp hu => ?_⟩
  have hbp : b ≠ p := fun e => by rw [e, hp] at h2; cases h2
  have hqp : q ≠ p := fun e => by rw [e, hp] at h1; cases h1
  rw [nI_clamp (by omega)]
  have g1 : upd_ h p (.inl (904, List.replicate (n + n / 2) .null)) b = some (.inl (904, A)) := by rw [upd_eq, if_neg hbp]; exact h2
  simp only [frz, wJ13_copyOf_2_0 (hEL sv), wJ13_copyOf_2_1 (hEL sv), wJ13_copyOf_2_3 (hEL sv), wJ13_copyOf_2_6 (hEL sv), wJ13_copyOf_2_7 (hEL sv), wJ13_copyOf_2_10 (hEL sv), wJ13_copyOf_2_13 (hEL sv), wJ13_copyOf_2_17 (hEL sv), wJ13_copyOf_2_21a (hEL sv), wJ13_copyOf_2_21b (hEL sv), wJ13_copyOf_2_24 (hEL sv), wJ13_copyOf_2_25 (hEL sv), wJ13_copyOf_2_26 (hEL sv), wJ13_copyOf_2_27 (hEL sv), wJ13_copyOf_2_28 (hEL sv), wJ13_copyOf_2_29 (hEL sv), wJ13_copyOf_2_30 (hEL sv), wJ13_copyOf_2_31 (hEL sv), wJ13_copyOf_2_32 (hEL sv), wJ13_copyOf_2_35 (hEL sv), wJ13_copyOf_2_38 (hEL sv), wJ13_copyOf_2_39 (hEL sv), gL_113_0_304_0, gL_113_0_150_0, ck_113_110_904, isR_ref, isR_null, isI_int, isL_long, isD_dbl, isF_flt, true_and, and_true, c2_int, c2_ref, c2_null, c2_u, c2_long, c2_dbl, c2_flt, cat2_i, cat2_r, cat2_n, cat2_l, ft_int, ft_long, ft_ref, ft_null, ft_aref, ft_anull, kd_l, kd_r, kdo_l, kdo_r, catS_n, catS_i, catS_r, catS_0, catS_l, List.getElem?_cons_zero, List.getElem?_cons_succ, List.set_cons_zero, List.set_cons_succ, List.length_cons, List.length_nil, not_true_eq_false, not_false_eq_true, Nat.reduceLeDiff, Nat.reduceAdd, GF_some, GV_some, PF_some, AP_some, AL_some, CC_some, Cl_some, Aft_v, Aft_n, Br_T, Br_F, EL_sv, rL_1, Br_not, Nat.reduceLeDiff, Nat.reduceSubDiff, g1, hA, l_min, e6]
  refine rL_2 (s0 := 0) (d0 := 0) (n := n) (by omega) g1 upd_sm (by omega) (by omega) (by omega) (by omega) (by rw [List.length_replicate]; omega) (fun v hv => ?_) (fun v hv => by rw [(List.mem_replicate.mp hv).2]; rfl) ?_
  · rcases hok v hv with z | ⟨y, k, fs, z1, z2, z3⟩
    · exact Or.inl z
    · refine Or.inr ⟨y, k, fs, z1, ?_, z3⟩
      rw [upd_eq, if_neg (fun e => by rw [e, hp] at z2; cases z2)]
      exact z2
  · have g2 : upd_ h p (.inl (904, A ++ List.replicate (n / 2) .null)) q = some (.inl (19, [.int m, .ref b, .int (nI n)])) := by rw [upd_eq, if_neg hqp]; exact h1
    have g3 : cpyL A (List.replicate (n + n / 2) .null) 0 0 n = A ++ List.replicate (n / 2) .null := by
      rw [← hA]; exact cpyL_0
    rw [g3, upd_upd]
    simp only [frz, wJ13_copyOf_2_0 (hEL sv), wJ13_copyOf_2_1 (hEL sv), wJ13_copyOf_2_3 (hEL sv), wJ13_copyOf_2_6 (hEL sv), wJ13_copyOf_2_7 (hEL sv), wJ13_copyOf_2_10 (hEL sv), wJ13_copyOf_2_13 (hEL sv), wJ13_copyOf_2_17 (hEL sv), wJ13_copyOf_2_21a (hEL sv), wJ13_copyOf_2_21b (hEL sv), wJ13_copyOf_2_24 (hEL sv), wJ13_copyOf_2_25 (hEL sv), wJ13_copyOf_2_26 (hEL sv), wJ13_copyOf_2_27 (hEL sv), wJ13_copyOf_2_28 (hEL sv), wJ13_copyOf_2_29 (hEL sv), wJ13_copyOf_2_30 (hEL sv), wJ13_copyOf_2_31 (hEL sv), wJ13_copyOf_2_32 (hEL sv), wJ13_copyOf_2_35 (hEL sv), wJ13_copyOf_2_38 (hEL sv), wJ13_copyOf_2_39 (hEL sv), gL_113_0_304_0, gL_113_0_150_0, ck_113_110_904, wJ13_copyOf_0 (hEL sv), wJ13_copyOf_1 (hEL sv), wJ13_copyOf_2 (hEL sv), wJ13_copyOf_3 (hEL sv), wJ13_copyOf_6 (hEL sv), wJ13_copyOf_9 (hEL sv), gL_113_1_86_904, gL_113_0_300_0, wJ2_grow_2_0 (hEL sv), wJ2_grow_2_1 (hEL sv), wJ2_grow_2_4 (hEL sv), wJ2_grow_2_5 (hEL sv), wJ2_grow_2_6 (hEL sv), wJ2_grow_2_7 (hEL sv), wJ2_grow_2_10 (hEL sv), wJ2_grow_2_11 (hEL sv), wJ2_grow_2_14 (hEL sv), wJ2_grow_2_17 (hEL sv), wJ2_grow_2_20 (hEL sv), wJ2_grow_2_21 (hEL sv), wJ2_grow_2_22 (hEL sv), wJ2_grow_2_23 (hEL sv), wJ2_grow_2_24 (hEL sv), wJ2_grow_2_25 (hEL sv), wJ2_grow_2_26 (hEL sv), wJ2_grow_2_27 (hEL sv), wJ2_grow_2_30 (hEL sv), wJ2_grow_2_31 (hEL sv), wJ2_grow_2_32 (hEL sv), wJ2_grow_2_33 (hEL sv), wJ2_grow_2_36 (hEL sv), wJ2_grow_2_37 (hEL sv), wJ2_grow_2_40 (hEL sv), wJ2_grow_2_41 (hEL sv), wJ2_grow_2_44 (hEL sv), wJ2_grow_2_45 (hEL sv), wJ2_grow_2_46 (hEL sv), wJ2_grow_2_48 (hEL sv), wJ2_grow_2_49 (hEL sv), wJ2_grow_2_52 (hEL sv), wJ2_grow_2_55 (hEL sv), wJ2_grow_2_56 (hEL sv), wJ2_grow_2_59 (hEL sv), gL_102_0_73_0, gL_102_0_66_0, gL_102_0_79_0, wJ2_grow_0 (hEL sv), wJ2_grow_1 (hEL sv), wJ2_grow_2 (hEL sv), wJ2_grow_5 (hEL sv), wJ2_grow_6 (hEL sv), wJ2_grow_7 (hEL sv), wJ2_grow_10 (hEL sv), gL_102_1_69_19, ul_J13_copyOf, ul_J2_grow_2, ul_J2_grow, isR_ref, isR_null, isI_int, isL_long, isD_dbl, isF_flt, true_and, and_true, c2_int, c2_ref, c2_null, c2_u, c2_long, c2_dbl, c2_flt, cat2_i, cat2_r, cat2_n, cat2_l, ft_int, ft_long, ft_ref, ft_null, ft_aref, ft_anull, kd_l, kd_r, kdo_l, kdo_r, catS_n, catS_i, catS_r, catS_0, catS_l, List.getElem?_cons_zero, List.getElem?_cons_succ, List.set_cons_zero, List.set_cons_succ, List.length_cons, List.length_nil, not_true_eq_false, not_false_eq_true, Nat.reduceLeDiff, Nat.reduceAdd, GF_some, GV_some, PF_some, AP_some, AL_some, CC_some, Cl_some, Aft_v, Aft_n, Br_T, Br_F, EL_sv, rL_1, Br_not, Nat.reduceLeDiff, Nat.reduceSubDiff, g2]
    exact k p hp hu
/-- the first array -/
theorem l_grow0 (h1 : h q = some (.inl (19, [.int m, .ref b, .int 0]))) (h2 : h b = some (.inl (914, []))) (hb : sv 0 = .ref b) (hr : 3 ≤ r) (hd : 30 ≤ d) (k : ∀ p, h p = none → sv 4 ≠ .ref p → K (.inl (some (.ref p))) (upd_ (upd_ h p (.inl (904, List.replicate 10 .null))) q (.inl (19, [.int m, .ref p, .int 0]))) (r - 3)) : Run (EL sv) (Wp (EL sv)) (.inl mJ2_grow) [.ref q] h r (d + 1) K := by
  obtain ⟨d, rfl⟩ := Nat.exists_eq_add_of_le' hd
  have e1 : (0 < nI 0) = False := eq_false (by decide +kernel)
  have e2 : ((10 : Int32) < 0 + 1) = False := eq_false (by decide +kernel)
  have e3 : (¬((10 : Int32) < 0 ∨ 1000000 < (10 : Int32).toNatClampNeg)) = True := eq_true (by decide +kernel)
  have e4 : (10 : Int32).toNatClampNeg = 10 := by decide +kernel
  rw [ul_J2_grow]
  simp only [frz, wJ2_grow_0 (hEL sv), wJ2_grow_1 (hEL sv), wJ2_grow_2 (hEL sv), wJ2_grow_5 (hEL sv), wJ2_grow_6 (hEL sv), wJ2_grow_7 (hEL sv), wJ2_grow_10 (hEL sv), gL_102_1_69_19, wJ2_grow_2_0 (hEL sv), wJ2_grow_2_1 (hEL sv), wJ2_grow_2_4 (hEL sv), wJ2_grow_2_5 (hEL sv), wJ2_grow_2_6 (hEL sv), wJ2_grow_2_7 (hEL sv), wJ2_grow_2_10 (hEL sv), wJ2_grow_2_11 (hEL sv), wJ2_grow_2_14 (hEL sv), wJ2_grow_2_17 (hEL sv), wJ2_grow_2_20 (hEL sv), wJ2_grow_2_21 (hEL sv), wJ2_grow_2_22 (hEL sv), wJ2_grow_2_23 (hEL sv), wJ2_grow_2_24 (hEL sv), wJ2_grow_2_25 (hEL sv), wJ2_grow_2_26 (hEL sv), wJ2_grow_2_27 (hEL sv), wJ2_grow_2_30 (hEL sv), wJ2_grow_2_31 (hEL sv), wJ2_grow_2_32 (hEL sv), wJ2_grow_2_33 (hEL sv), wJ2_grow_2_36 (hEL sv), wJ2_grow_2_37 (hEL sv), wJ2_grow_2_40 (hEL sv), wJ2_grow_2_41 (hEL sv), wJ2_grow_2_44 (hEL sv), wJ2_grow_2_45 (hEL sv), wJ2_grow_2_46 (hEL sv), wJ2_grow_2_48 (hEL sv), wJ2_grow_2_49 (hEL sv), wJ2_grow_2_52 (hEL sv), wJ2_grow_2_55 (hEL sv), wJ2_grow_2_56 (hEL sv), wJ2_grow_2_59 (hEL sv), gL_102_0_73_0, gL_102_0_66_0, gL_102_0_79_0, ul_J2_grow_2, isR_ref, isR_null, isI_int, isL_long, isD_dbl, isF_flt, true_and, and_true, c2_int, c2_ref, c2_null, c2_u, c2_long, c2_dbl, c2_flt, cat2_i, cat2_r, cat2_n, cat2_l, ft_int, ft_long, ft_ref, ft_null, ft_aref, ft_anull, kd_l, kd_r, kdo_l, kdo_r, catS_n, catS_i, catS_r, catS_0, catS_l, List.getElem?_cons_zero, List.getElem?_cons_succ, List.set_cons_zero, List.set_cons_succ, List.length_cons, List.length_nil, not_true_eq_false, not_false_eq_true, Nat.reduceLeDiff, Nat.reduceAdd, GF_some, GV_some, PF_some, AP_some, AL_some, CC_some, Cl_some, Aft_v, Aft_n, Br_T, Br_F, EL_sv, rL_1, Br_not, Nat.reduceLeDiff, Nat.reduceSubDiff, h1, h2, hb, e1, Br_eq, l_max, e2, e3, e4, if_false, if_true]
  refine Nw_i 3 rfl hr fun p hp hu => ?_
  have hqp : q ≠ p := fun e => by rw [e, hp] at h1; cases h1
  have g2 : upd_ h p (.inl (904, List.replicate 10 .null)) q = some (.inl (19, [.int m, .ref b, .int 0])) := by rw [upd_eq, if_neg hqp]; exact h1
  simp only [frz, wJ2_grow_2_0 (hEL sv), wJ2_grow_2_1 (hEL sv), wJ2_grow_2_4 (hEL sv), wJ2_grow_2_5 (hEL sv), wJ2_grow_2_6 (hEL sv), wJ2_grow_2_7 (hEL sv), wJ2_grow_2_10 (hEL sv), wJ2_grow_2_11 (hEL sv), wJ2_grow_2_14 (hEL sv), wJ2_grow_2_17 (hEL sv), wJ2_grow_2_20 (hEL sv), wJ2_grow_2_21 (hEL sv), wJ2_grow_2_22 (hEL sv), wJ2_grow_2_23 (hEL sv), wJ2_grow_2_24 (hEL sv), wJ2_grow_2_25 (hEL sv), wJ2_grow_2_26 (hEL sv), wJ2_grow_2_27 (hEL sv), wJ2_grow_2_30 (hEL sv), wJ2_grow_2_31 (hEL sv), wJ2_grow_2_32 (hEL sv), wJ2_grow_2_33 (hEL sv), wJ2_grow_2_36 (hEL sv), wJ2_grow_2_37 (hEL sv), wJ2_grow_2_40 (hEL sv), wJ2_grow_2_41 (hEL sv), wJ2_grow_2_44 (hEL sv), wJ2_grow_2_45 (hEL sv), wJ2_grow_2_46 (hEL sv), wJ2_grow_2_48 (hEL sv), wJ2_grow_2_49 (hEL sv), wJ2_grow_2_52 (hEL sv), wJ2_grow_2_55 (hEL sv), wJ2_grow_2_56 (hEL sv), wJ2_grow_2_59 (hEL sv), gL_102_0_73_0, gL_102_0_66_0, gL_102_0_79_0, wJ2_grow_0 (hEL sv), wJ2_grow_1 (hEL sv), wJ2_grow_2 (hEL sv), wJ2_grow_5 (hEL sv), wJ2_grow_6 (hEL sv), wJ2_grow_7 (hEL sv), wJ2_grow_10 (hEL sv), gL_102_1_69_19, ul_J2_grow, isR_ref, isR_null, isI_int, isL_long, isD_dbl, isF_flt, true_and, and_true, c2_int, c2_ref, c2_null, c2_u, c2_long, c2_dbl, c2_flt, cat2_i, cat2_r, cat2_n, cat2_l, ft_int, ft_long, ft_ref, ft_null, ft_aref, ft_anull, kd_l, kd_r, kdo_l, kdo_r, catS_n, catS_i, catS_r, catS_0, catS_l, List.getElem?_cons_zero, List.getElem?_cons_succ, List.set_cons_zero, List.set_cons_succ, List.length_cons, List.length_nil, not_true_eq_false, not_false_eq_true, Nat.reduceLeDiff, Nat.reduceAdd, GF_some, GV_some, PF_some, AP_some, AL_some, CC_some, Cl_some, Aft_v, Aft_n, Br_T, Br_F, EL_sv, rL_1, Br_not, Nat.reduceLeDiff, Nat.reduceSubDiff, g2]
  exact k p hp hu
end JL2
