set_option maxRecDepth 100000
section WV
variable {E : Evn} {L S : List Value} {h : Hp} {r d : Nat} {Q : Post} {x y i n : Int32} {X Y : Int64} {fx fy : UInt32} {gx gy : UInt64} {a b : Nat} {v u v0 v1 v2 v3 v4 v5 v6 v7 v8 : Value} {l0 l1 l2 l3 l4 l5 l6 l7 l8 l9 l10 l11 l12 l13 l14 l15 l16 l17 l18 l19 l20 l21 l22 l23 l24 l25 l26 l27 l28 l29 : Value}
abbrev cX0_addAccount : ByteArray := method_3_code
def dkwX0_addAccount_0 : List UInt8 := [44, 3, 42, 27, 182, 0, 7, 133, 80, 167, 0, 9, 78, 4, 172, 78, 5, 172, 3, 172]
abbrev dktX0_addAccount_0 : List UInt8 := dkwX0_addAccount_0 ++ []
theorem dksX0_addAccount_0 : cX0_addAccount.data.toList.drop 0 = dktX0_addAccount_0 := by decide +kernel
theorem dX0_addAccount_0 : decode cX0_addAccount 0 = .ok (.aload_n 2, 1) := dk_44 (dk_at dksX0_addAccount_0 0 rfl rfl)
theorem dX0_addAccount_1 : decode cX0_addAccount 1 = .ok (.iconst 0, 1) := dk_3 (dk_at dksX0_addAccount_0 1 rfl rfl)
theorem dX0_addAccount_2 : decode cX0_addAccount 2 = .ok (.aload_n 0, 1) := dk_42 (dk_at dksX0_addAccount_0 2 rfl rfl)
theorem dX0_addAccount_3 : decode cX0_addAccount 3 = .ok (.iload_n 1, 1) := dk_27 (dk_at dksX0_addAccount_0 3 rfl rfl)
theorem dX0_addAccount_4 : decode cX0_addAccount 4 = .ok (.invokevirtual 7, 3) := dk_182 0 7 (dk_at dksX0_addAccount_0 4 rfl rfl)
theorem dX0_addAccount_7 : decode cX0_addAccount 7 = .ok (.i2l, 1) := dk_133 (dk_at dksX0_addAccount_0 7 rfl rfl)
theorem dX0_addAccount_8 : decode cX0_addAccount 8 = .ok (.lastore, 1) := dk_80 (dk_at dksX0_addAccount_0 8 rfl rfl)
theorem dX0_addAccount_9 : decode cX0_addAccount 9 = .ok (.goto 9, 3) := dk_167 0 9 (dk_at dksX0_addAccount_0 9 rfl rfl)
theorem dX0_addAccount_12 : decode cX0_addAccount 12 = .ok (.astore_n 3, 1) := dk_78 (dk_at dksX0_addAccount_0 12 rfl rfl)
theorem dX0_addAccount_13 : decode cX0_addAccount 13 = .ok (.iconst 1, 1) := dk_4 (dk_at dksX0_addAccount_0 13 rfl rfl)
theorem dX0_addAccount_14 : decode cX0_addAccount 14 = .ok (.ireturn, 1) := dk_172 (dk_at dksX0_addAccount_0 14 rfl rfl)
theorem dX0_addAccount_15 : decode cX0_addAccount 15 = .ok (.astore_n 3, 1) := dk_78 (dk_at dksX0_addAccount_0 15 rfl rfl)
theorem dX0_addAccount_16 : decode cX0_addAccount 16 = .ok (.iconst 2, 1) := dk_5 (dk_at dksX0_addAccount_0 16 rfl rfl)
theorem dX0_addAccount_17 : decode cX0_addAccount 17 = .ok (.ireturn, 1) := dk_172 (dk_at dksX0_addAccount_0 17 rfl rfl)
theorem dX0_addAccount_18 : decode cX0_addAccount 18 = .ok (.iconst 0, 1) := dk_3 (dk_at dksX0_addAccount_0 18 rfl rfl)
theorem dX0_addAccount_19 : decode cX0_addAccount 19 = .ok (.ireturn, 1) := dk_172 (dk_at dksX0_addAccount_0 19 rfl rfl)
theorem wX0_addAccount_0 (hE : PMon E) : Wa E mX0_addAccount 0 [l0, l1, l2, l3] S h r d Q = (isR l2 = true ∧ Wa E mX0_addAccount 1 [l0, l1, l2, l3] (l2 :: S) h r d Q) := sA_aload_n hE dX0_addAccount_0 rfl rfl
theorem wX0_addAccount_1 (hE : PMon E) : Wa E mX0_addAccount 1 L S h r d Q = Wa E mX0_addAccount 2 L (.int 0 :: S) h r d Q := sA_iconst hE dX0_addAccount_1 rfl (by decide)
theorem wX0_addAccount_2 (hE : PMon E) : Wa E mX0_addAccount 2 [l0, l1, l2, l3] S h r d Q = (isR l0 = true ∧ Wa E mX0_addAccount 3 [l0, l1, l2, l3] (l0 :: S) h r d Q) := sA_aload_n hE dX0_addAccount_2 rfl rfl
theorem wX0_addAccount_3 (hE : PMon E) : Wa E mX0_addAccount 3 [l0, l1, l2, l3] S h r d Q = (isI l1 = true ∧ Wa E mX0_addAccount 4 [l0, l1, l2, l3] (l1 :: S) h r d Q) := sA_iload_n hE dX0_addAccount_3 rfl rfl
theorem wX0_addAccount_4 (hE : PMon E) : Wa E mX0_addAccount 4 L (v1 :: .ref a :: S) h r d Q = Cla E mX0_addAccount (E.1 0 1 7 (kdo (h a))) [.ref a, v1] 4 7 L S h r d Q := sA_invokevirtual hE dX0_addAccount_4 rfl rfl rfl (by simp) rfl rfl rfl
theorem wX0_addAccount_7 (hE : PMon E) : Wa E mX0_addAccount 7 L (.int x :: S) h r d Q = Wa E mX0_addAccount 8 L (.long x.toInt64 :: S) h r d Q := sA_i2l hE dX0_addAccount_7 rfl
theorem wX0_addAccount_8 (hE : PMon E) : Wa E mX0_addAccount 8 L (v :: .int i :: .ref a :: S) h r d Q = APa E mX0_addAccount (h a) 901 isL a i v 9 L S h r d Q := sA_lastore hE dX0_addAccount_8 rfl
theorem wX0_addAccount_9 (hE : PMon E) : Wa E mX0_addAccount 9 L S h r d Q = Wa E mX0_addAccount 18 L S h r d Q := sA_goto hE dX0_addAccount_9 rfl (by decide) (by decide)
theorem wX0_addAccount_12 (hE : PMon E) : Wa E mX0_addAccount 12 [l0, l1, l2, l3] (v :: S) h r d Q = (isR v = true ∧ Wa E mX0_addAccount 13 [l0, l1, c2 l2, v] S h r d Q) := sA_astore_n hE dX0_addAccount_12 rfl (by show 3 < 4; decide) st1_4_3
theorem wX0_addAccount_13 (hE : PMon E) : Wa E mX0_addAccount 13 L S h r d Q = Wa E mX0_addAccount 14 L (.int 1 :: S) h r d Q := sA_iconst hE dX0_addAccount_13 rfl (by decide)
theorem wX0_addAccount_14 (hE : PMon E) : Wa E mX0_addAccount 14 L [.int x] h r d Q = Q (.inl (some (.int x))) h r := sA_ireturn hE dX0_addAccount_14 rfl
theorem wX0_addAccount_15 (hE : PMon E) : Wa E mX0_addAccount 15 [l0, l1, l2, l3] (v :: S) h r d Q = (isR v = true ∧ Wa E mX0_addAccount 16 [l0, l1, c2 l2, v] S h r d Q) := sA_astore_n hE dX0_addAccount_15 rfl (by show 3 < 4; decide) st1_4_3
theorem wX0_addAccount_16 (hE : PMon E) : Wa E mX0_addAccount 16 L S h r d Q = Wa E mX0_addAccount 17 L (.int 2 :: S) h r d Q := sA_iconst hE dX0_addAccount_16 rfl (by decide)
theorem wX0_addAccount_17 (hE : PMon E) : Wa E mX0_addAccount 17 L [.int x] h r d Q = Q (.inl (some (.int x))) h r := sA_ireturn hE dX0_addAccount_17 rfl
theorem wX0_addAccount_18 (hE : PMon E) : Wa E mX0_addAccount 18 L S h r d Q = Wa E mX0_addAccount 19 L (.int 0 :: S) h r d Q := sA_iconst hE dX0_addAccount_18 rfl (by decide)
theorem wX0_addAccount_19 (hE : PMon E) : Wa E mX0_addAccount 19 L [.int x] h r d Q = Q (.inl (some (.int x))) h r := sA_ireturn hE dX0_addAccount_19 rfl
abbrev cX0_makePlant : ByteArray := method_4_code
def dkwX0_makePlant_1 : List UInt8 := [172]
abbrev dktX0_makePlant_1 : List UInt8 := dkwX0_makePlant_1 ++ []
def dkwX0_makePlant_0 : List UInt8 := [25, 4, 3, 42, 27, 28, 29, 182, 0, 17, 133, 80, 167, 0, 11, 58, 5, 4, 172, 58, 5, 5, 172, 3]
abbrev dktX0_makePlant_0 : List UInt8 := dkwX0_makePlant_0 ++ dktX0_makePlant_1
theorem dksX0_makePlant_0 : cX0_makePlant.data.toList.drop 0 = dktX0_makePlant_0 := by decide +kernel
theorem dksX0_makePlant_1 : cX0_makePlant.data.toList.drop 24 = dktX0_makePlant_1 := dk_seg dksX0_makePlant_0 24 rfl rfl
theorem dX0_makePlant_0 : decode cX0_makePlant 0 = .ok (.aload 4, 2) := dk_25 4 (dk_at dksX0_makePlant_0 0 rfl rfl)
theorem dX0_makePlant_2 : decode cX0_makePlant 2 = .ok (.iconst 0, 1) := dk_3 (dk_at dksX0_makePlant_0 2 rfl rfl)
theorem dX0_makePlant_3 : decode cX0_makePlant 3 = .ok (.aload_n 0, 1) := dk_42 (dk_at dksX0_makePlant_0 3 rfl rfl)
theorem dX0_makePlant_4 : decode cX0_makePlant 4 = .ok (.iload_n 1, 1) := dk_27 (dk_at dksX0_makePlant_0 4 rfl rfl)
theorem dX0_makePlant_5 : decode cX0_makePlant 5 = .ok (.iload_n 2, 1) := dk_28 (dk_at dksX0_makePlant_0 5 rfl rfl)
theorem dX0_makePlant_6 : decode cX0_makePlant 6 = .ok (.iload_n 3, 1) := dk_29 (dk_at dksX0_makePlant_0 6 rfl rfl)
theorem dX0_makePlant_7 : decode cX0_makePlant 7 = .ok (.invokevirtual 17, 3) := dk_182 0 17 (dk_at dksX0_makePlant_0 7 rfl rfl)
theorem dX0_makePlant_10 : decode cX0_makePlant 10 = .ok (.i2l, 1) := dk_133 (dk_at dksX0_makePlant_0 10 rfl rfl)
theorem dX0_makePlant_11 : decode cX0_makePlant 11 = .ok (.lastore, 1) := dk_80 (dk_at dksX0_makePlant_0 11 rfl rfl)
theorem dX0_makePlant_12 : decode cX0_makePlant 12 = .ok (.goto 11, 3) := dk_167 0 11 (dk_at dksX0_makePlant_0 12 rfl rfl)
theorem dX0_makePlant_15 : decode cX0_makePlant 15 = .ok (.astore 5, 2) := dk_58 5 (dk_at dksX0_makePlant_0 15 rfl rfl)
theorem dX0_makePlant_17 : decode cX0_makePlant 17 = .ok (.iconst 1, 1) := dk_4 (dk_at dksX0_makePlant_0 17 rfl rfl)
theorem dX0_makePlant_18 : decode cX0_makePlant 18 = .ok (.ireturn, 1) := dk_172 (dk_at dksX0_makePlant_0 18 rfl rfl)
theorem dX0_makePlant_19 : decode cX0_makePlant 19 = .ok (.astore 5, 2) := dk_58 5 (dk_at dksX0_makePlant_0 19 rfl rfl)
theorem dX0_makePlant_21 : decode cX0_makePlant 21 = .ok (.iconst 2, 1) := dk_5 (dk_at dksX0_makePlant_0 21 rfl rfl)
theorem dX0_makePlant_22 : decode cX0_makePlant 22 = .ok (.ireturn, 1) := dk_172 (dk_at dksX0_makePlant_0 22 rfl rfl)
theorem dX0_makePlant_23 : decode cX0_makePlant 23 = .ok (.iconst 0, 1) := dk_3 (dk_at dksX0_makePlant_0 23 rfl rfl)
theorem dX0_makePlant_24 : decode cX0_makePlant 24 = .ok (.ireturn, 1) := dk_172 (dk_at dksX0_makePlant_1 0 rfl rfl)
theorem wX0_makePlant_0 (hE : PMon E) : Wa E mX0_makePlant 0 [l0, l1, l2, l3, l4, l5] S h r d Q = (isR l4 = true ∧ Wa E mX0_makePlant 2 [l0, l1, l2, l3, l4, l5] (l4 :: S) h r d Q) := sA_aload hE dX0_makePlant_0 rfl rfl
theorem wX0_makePlant_2 (hE : PMon E) : Wa E mX0_makePlant 2 L S h r d Q = Wa E mX0_makePlant 3 L (.int 0 :: S) h r d Q := sA_iconst hE dX0_makePlant_2 rfl (by decide)
theorem wX0_makePlant_3 (hE : PMon E) : Wa E mX0_makePlant 3 [l0, l1, l2, l3, l4, l5] S h r d Q = (isR l0 = true ∧ Wa E mX0_makePlant 4 [l0, l1, l2, l3, l4, l5] (l0 :: S) h r d Q) := sA_aload_n hE dX0_makePlant_3 rfl rfl
theorem wX0_makePlant_4 (hE : PMon E) : Wa E mX0_makePlant 4 [l0, l1, l2, l3, l4, l5] S h r d Q = (isI l1 = true ∧ Wa E mX0_makePlant 5 [l0, l1, l2, l3, l4, l5] (l1 :: S) h r d Q) := sA_iload_n hE dX0_makePlant_4 rfl rfl
theorem wX0_makePlant_5 (hE : PMon E) : Wa E mX0_makePlant 5 [l0, l1, l2, l3, l4, l5] S h r d Q = (isI l2 = true ∧ Wa E mX0_makePlant 6 [l0, l1, l2, l3, l4, l5] (l2 :: S) h r d Q) := sA_iload_n hE dX0_makePlant_5 rfl rfl
theorem wX0_makePlant_6 (hE : PMon E) : Wa E mX0_makePlant 6 [l0, l1, l2, l3, l4, l5] S h r d Q = (isI l3 = true ∧ Wa E mX0_makePlant 7 [l0, l1, l2, l3, l4, l5] (l3 :: S) h r d Q) := sA_iload_n hE dX0_makePlant_6 rfl rfl
theorem wX0_makePlant_7 (hE : PMon E) : Wa E mX0_makePlant 7 L (v3 :: v2 :: v1 :: .ref a :: S) h r d Q = Cla E mX0_makePlant (E.1 0 1 17 (kdo (h a))) [.ref a, v1, v2, v3] 7 10 L S h r d Q := sA_invokevirtual hE dX0_makePlant_7 rfl rfl rfl (by simp) rfl rfl rfl
theorem wX0_makePlant_10 (hE : PMon E) : Wa E mX0_makePlant 10 L (.int x :: S) h r d Q = Wa E mX0_makePlant 11 L (.long x.toInt64 :: S) h r d Q := sA_i2l hE dX0_makePlant_10 rfl
theorem wX0_makePlant_11 (hE : PMon E) : Wa E mX0_makePlant 11 L (v :: .int i :: .ref a :: S) h r d Q = APa E mX0_makePlant (h a) 901 isL a i v 12 L S h r d Q := sA_lastore hE dX0_makePlant_11 rfl
theorem wX0_makePlant_12 (hE : PMon E) : Wa E mX0_makePlant 12 L S h r d Q = Wa E mX0_makePlant 23 L S h r d Q := sA_goto hE dX0_makePlant_12 rfl (by decide) (by decide)
theorem wX0_makePlant_15 (hE : PMon E) : Wa E mX0_makePlant 15 [l0, l1, l2, l3, l4, l5] (v :: S) h r d Q = (isR v = true ∧ Wa E mX0_makePlant 17 [l0, l1, l2, l3, c2 l4, v] S h r d Q) := sA_astore hE dX0_makePlant_15 rfl (by show 5 < 6; decide) st1_6_5
theorem wX0_makePlant_17 (hE : PMon E) : Wa E mX0_makePlant 17 L S h r d Q = Wa E mX0_makePlant 18 L (.int 1 :: S) h r d Q := sA_iconst hE dX0_makePlant_17 rfl (by decide)
theorem wX0_makePlant_18 (hE : PMon E) : Wa E mX0_makePlant 18 L [.int x] h r d Q = Q (.inl (some (.int x))) h r := sA_ireturn hE dX0_makePlant_18 rfl
theorem wX0_makePlant_19 (hE : PMon E) : Wa E mX0_makePlant 19 [l0, l1, l2, l3, l4, l5] (v :: S) h r d Q = (isR v = true ∧ Wa E mX0_makePlant 21 [l0, l1, l2, l3, c2 l4, v] S h r d Q) := sA_astore hE dX0_makePlant_19 rfl (by show 5 < 6; decide) st1_6_5
theorem wX0_makePlant_21 (hE : PMon E) : Wa E mX0_makePlant 21 L S h r d Q = Wa E mX0_makePlant 22 L (.int 2 :: S) h r d Q := sA_iconst hE dX0_makePlant_21 rfl (by decide)
theorem wX0_makePlant_22 (hE : PMon E) : Wa E mX0_makePlant 22 L [.int x] h r d Q = Q (.inl (some (.int x))) h r := sA_ireturn hE dX0_makePlant_22 rfl
theorem wX0_makePlant_23 (hE : PMon E) : Wa E mX0_makePlant 23 L S h r d Q = Wa E mX0_makePlant 24 L (.int 0 :: S) h r d Q := sA_iconst hE dX0_makePlant_23 rfl (by decide)
theorem wX0_makePlant_24 (hE : PMon E) : Wa E mX0_makePlant 24 L [.int x] h r d Q = Q (.inl (some (.int x))) h r := sA_ireturn hE dX0_makePlant_24 rfl
abbrev cX0_report : ByteArray := method_5_code
def dkwX0_report_1 : List UInt8 := [58, 5, 6, 172, 58, 5, 7, 172, 3, 172]
abbrev dktX0_report_1 : List UInt8 := dkwX0_report_1 ++ []
def dkwX0_report_0 : List UInt8 := [25, 4, 3, 42, 27, 28, 29, 182, 0, 23, 133, 80, 167, 0, 19, 58, 5, 4, 172, 58, 5, 5, 172]
abbrev dktX0_report_0 : List UInt8 := dkwX0_report_0 ++ dktX0_report_1
theorem dksX0_report_0 : cX0_report.data.toList.drop 0 = dktX0_report_0 := by decide +kernel
theorem dksX0_report_1 : cX0_report.data.toList.drop 23 = dktX0_report_1 := dk_seg dksX0_report_0 23 rfl rfl
theorem dX0_report_0 : decode cX0_report 0 = .ok (.aload 4, 2) := dk_25 4 (dk_at dksX0_report_0 0 rfl rfl)
theorem dX0_report_2 : decode cX0_report 2 = .ok (.iconst 0, 1) := dk_3 (dk_at dksX0_report_0 2 rfl rfl)
theorem dX0_report_3 : decode cX0_report 3 = .ok (.aload_n 0, 1) := dk_42 (dk_at dksX0_report_0 3 rfl rfl)
theorem dX0_report_4 : decode cX0_report 4 = .ok (.iload_n 1, 1) := dk_27 (dk_at dksX0_report_0 4 rfl rfl)
theorem dX0_report_5 : decode cX0_report 5 = .ok (.iload_n 2, 1) := dk_28 (dk_at dksX0_report_0 5 rfl rfl)
theorem dX0_report_6 : decode cX0_report 6 = .ok (.iload_n 3, 1) := dk_29 (dk_at dksX0_report_0 6 rfl rfl)
theorem dX0_report_7 : decode cX0_report 7 = .ok (.invokevirtual 23, 3) := dk_182 0 23 (dk_at dksX0_report_0 7 rfl rfl)
theorem dX0_report_10 : decode cX0_report 10 = .ok (.i2l, 1) := dk_133 (dk_at dksX0_report_0 10 rfl rfl)
theorem dX0_report_11 : decode cX0_report 11 = .ok (.lastore, 1) := dk_80 (dk_at dksX0_report_0 11 rfl rfl)
theorem dX0_report_12 : decode cX0_report 12 = .ok (.goto 19, 3) := dk_167 0 19 (dk_at dksX0_report_0 12 rfl rfl)
theorem dX0_report_15 : decode cX0_report 15 = .ok (.astore 5, 2) := dk_58 5 (dk_at dksX0_report_0 15 rfl rfl)
theorem dX0_report_17 : decode cX0_report 17 = .ok (.iconst 1, 1) := dk_4 (dk_at dksX0_report_0 17 rfl rfl)
theorem dX0_report_18 : decode cX0_report 18 = .ok (.ireturn, 1) := dk_172 (dk_at dksX0_report_0 18 rfl rfl)
theorem dX0_report_19 : decode cX0_report 19 = .ok (.astore 5, 2) := dk_58 5 (dk_at dksX0_report_0 19 rfl rfl)
theorem dX0_report_21 : decode cX0_report 21 = .ok (.iconst 2, 1) := dk_5 (dk_at dksX0_report_0 21 rfl rfl)
theorem dX0_report_22 : decode cX0_report 22 = .ok (.ireturn, 1) := dk_172 (dk_at dksX0_report_0 22 rfl rfl)
theorem dX0_report_23 : decode cX0_report 23 = .ok (.astore 5, 2) := dk_58 5 (dk_at dksX0_report_1 0 rfl rfl)
theorem dX0_report_25 : decode cX0_report 25 = .ok (.iconst 3, 1) := dk_6 (dk_at dksX0_report_1 2 rfl rfl)
theorem dX0_report_26 : decode cX0_report 26 = .ok (.ireturn, 1) := dk_172 (dk_at dksX0_report_1 3 rfl rfl)
theorem dX0_report_27 : decode cX0_report 27 = .ok (.astore 5, 2) := dk_58 5 (dk_at dksX0_report_1 4 rfl rfl)
theorem dX0_report_29 : decode cX0_report 29 = .ok (.iconst 4, 1) := dk_7 (dk_at dksX0_report_1 6 rfl rfl)
theorem dX0_report_30 : decode cX0_report 30 = .ok (.ireturn, 1) := dk_172 (dk_at dksX0_report_1 7 rfl rfl)
theorem dX0_report_31 : decode cX0_report 31 = .ok (.iconst 0, 1) := dk_3 (dk_at dksX0_report_1 8 rfl rfl)
theorem dX0_report_32 : decode cX0_report 32 = .ok (.ireturn, 1) := dk_172 (dk_at dksX0_report_1 9 rfl rfl)
theorem wX0_report_0 (hE : PMon E) : Wa E mX0_report 0 [l0, l1, l2, l3, l4, l5] S h r d Q = (isR l4 = true ∧ Wa E mX0_report 2 [l0, l1, l2, l3, l4, l5] (l4 :: S) h r d Q) := sA_aload hE dX0_report_0 rfl rfl
theorem wX0_report_2 (hE : PMon E) : Wa E mX0_report 2 L S h r d Q = Wa E mX0_report 3 L (.int 0 :: S) h r d Q := sA_iconst hE dX0_report_2 rfl (by decide)
theorem wX0_report_3 (hE : PMon E) : Wa E mX0_report 3 [l0, l1, l2, l3, l4, l5] S h r d Q = (isR l0 = true ∧ Wa E mX0_report 4 [l0, l1, l2, l3, l4, l5] (l0 :: S) h r d Q) := sA_aload_n hE dX0_report_3 rfl rfl
theorem wX0_report_4 (hE : PMon E) : Wa E mX0_report 4 [l0, l1, l2, l3, l4, l5] S h r d Q = (isI l1 = true ∧ Wa E mX0_report 5 [l0, l1, l2, l3, l4, l5] (l1 :: S) h r d Q) := sA_iload_n hE dX0_report_4 rfl rfl
theorem wX0_report_5 (hE : PMon E) : Wa E mX0_report 5 [l0, l1, l2, l3, l4, l5] S h r d Q = (isI l2 = true ∧ Wa E mX0_report 6 [l0, l1, l2, l3, l4, l5] (l2 :: S) h r d Q) := sA_iload_n hE dX0_report_5 rfl rfl
theorem wX0_report_6 (hE : PMon E) : Wa E mX0_report 6 [l0, l1, l2, l3, l4, l5] S h r d Q = (isI l3 = true ∧ Wa E mX0_report 7 [l0, l1, l2, l3, l4, l5] (l3 :: S) h r d Q) := sA_iload_n hE dX0_report_6 rfl rfl
theorem wX0_report_7 (hE : PMon E) : Wa E mX0_report 7 L (v3 :: v2 :: v1 :: .ref a :: S) h r d Q = Cla E mX0_report (E.1 0 1 23 (kdo (h a))) [.ref a, v1, v2, v3] 7 10 L S h r d Q := sA_invokevirtual hE dX0_report_7 rfl rfl rfl (by simp) rfl rfl rfl
theorem wX0_report_10 (hE : PMon E) : Wa E mX0_report 10 L (.int x :: S) h r d Q = Wa E mX0_report 11 L (.long x.toInt64 :: S) h r d Q := sA_i2l hE dX0_report_10 rfl
theorem wX0_report_11 (hE : PMon E) : Wa E mX0_report 11 L (v :: .int i :: .ref a :: S) h r d Q = APa E mX0_report (h a) 901 isL a i v 12 L S h r d Q := sA_lastore hE dX0_report_11 rfl
theorem wX0_report_12 (hE : PMon E) : Wa E mX0_report 12 L S h r d Q = Wa E mX0_report 31 L S h r d Q := sA_goto hE dX0_report_12 rfl (by decide) (by decide)
theorem wX0_report_15 (hE : PMon E) : Wa E mX0_report 15 [l0, l1, l2, l3, l4, l5] (v :: S) h r d Q = (isR v = true ∧ Wa E mX0_report 17 [l0, l1, l2, l3, c2 l4, v] S h r d Q) := sA_astore hE dX0_report_15 rfl (by show 5 < 6; decide) st1_6_5
theorem wX0_report_17 (hE : PMon E) : Wa E mX0_report 17 L S h r d Q = Wa E mX0_report 18 L (.int 1 :: S) h r d Q := sA_iconst hE dX0_report_17 rfl (by decide)
theorem wX0_report_18 (hE : PMon E) : Wa E mX0_report 18 L [.int x] h r d Q = Q (.inl (some (.int x))) h r := sA_ireturn hE dX0_report_18 rfl
theorem wX0_report_19 (hE : PMon E) : Wa E mX0_report 19 [l0, l1, l2, l3, l4, l5] (v :: S) h r d Q = (isR v = true ∧ Wa E mX0_report 21 [l0, l1, l2, l3, c2 l4, v] S h r d Q) := sA_astore hE dX0_report_19 rfl (by show 5 < 6; decide) st1_6_5
theorem wX0_report_21 (hE : PMon E) : Wa E mX0_report 21 L S h r d Q = Wa E mX0_report 22 L (.int 2 :: S) h r d Q := sA_iconst hE dX0_report_21 rfl (by decide)
theorem wX0_report_22 (hE : PMon E) : Wa E mX0_report 22 L [.int x] h r d Q = Q (.inl (some (.int x))) h r := sA_ireturn hE dX0_report_22 rfl
theorem wX0_report_23 (hE : PMon E) : Wa E mX0_report 23 [l0, l1, l2, l3, l4, l5] (v :: S) h r d Q = (isR v = true ∧ Wa E mX0_report 25 [l0, l1, l2, l3, c2 l4, v] S h r d Q) := sA_astore hE dX0_report_23 rfl (by show 5 < 6; decide) st1_6_5
theorem wX0_report_25 (hE : PMon E) : Wa E mX0_report 25 L S h r d Q = Wa E mX0_report 26 L (.int 3 :: S) h r d Q := sA_iconst hE dX0_report_25 rfl (by decide)
theorem wX0_report_26 (hE : PMon E) : Wa E mX0_report 26 L [.int x] h r d Q = Q (.inl (some (.int x))) h r := sA_ireturn hE dX0_report_26 rfl
theorem wX0_report_27 (hE : PMon E) : Wa E mX0_report 27 [l0, l1, l2, l3, l4, l5] (v :: S) h r d Q = (isR v = true ∧ Wa E mX0_report 29 [l0, l1, l2, l3, c2 l4, v] S h r d Q) := sA_astore hE dX0_report_27 rfl (by show 5 < 6; decide) st1_6_5
theorem wX0_report_29 (hE : PMon E) : Wa E mX0_report 29 L S h r d Q = Wa E mX0_report 30 L (.int 4 :: S) h r d Q := sA_iconst hE dX0_report_29 rfl (by decide)
theorem wX0_report_30 (hE : PMon E) : Wa E mX0_report 30 L [.int x] h r d Q = Q (.inl (some (.int x))) h r := sA_ireturn hE dX0_report_30 rfl
theorem wX0_report_31 (hE : PMon E) : Wa E mX0_report 31 L S h r d Q = Wa E mX0_report 32 L (.int 0 :: S) h r d Q := sA_iconst hE dX0_report_31 rfl (by decide)
theorem wX0_report_32 (hE : PMon E) : Wa E mX0_report 32 L [.int x] h r d Q = Q (.inl (some (.int x))) h r := sA_ireturn hE dX0_report_32 rfl
abbrev cX0_tellActivity : ByteArray := method_6_code
def dkwX0_tellActivity_1 : List UInt8 := [172, 3, 172]
abbrev dktX0_tellActivity_1 : List UInt8 := dkwX0_tellActivity_1 ++ []
def dkwX0_tellActivity_0 : List UInt8 := [45, 3, 42, 27, 28, 182, 0, 28, 133, 80, 167, 0, 15, 58, 4, 4, 172, 58, 4, 5, 172, 58, 4, 6]
abbrev dktX0_tellActivity_0 : List UInt8 := dkwX0_tellActivity_0 ++ dktX0_tellActivity_1
theorem dksX0_tellActivity_0 : cX0_tellActivity.data.toList.drop 0 = dktX0_tellActivity_0 := by decide +kernel
theorem dksX0_tellActivity_1 : cX0_tellActivity.data.toList.drop 24 = dktX0_tellActivity_1 := dk_seg dksX0_tellActivity_0 24 rfl rfl
theorem dX0_tellActivity_0 : decode cX0_tellActivity 0 = .ok (.aload_n 3, 1) := dk_45 (dk_at dksX0_tellActivity_0 0 rfl rfl)
theorem dX0_tellActivity_1 : decode cX0_tellActivity 1 = .ok (.iconst 0, 1) := dk_3 (dk_at dksX0_tellActivity_0 1 rfl rfl)
theorem dX0_tellActivity_2 : decode cX0_tellActivity 2 = .ok (.aload_n 0, 1) := dk_42 (dk_at dksX0_tellActivity_0 2 rfl rfl)
theorem dX0_tellActivity_3 : decode cX0_tellActivity 3 = .ok (.iload_n 1, 1) := dk_27 (dk_at dksX0_tellActivity_0 3 rfl rfl)
theorem dX0_tellActivity_4 : decode cX0_tellActivity 4 = .ok (.iload_n 2, 1) := dk_28 (dk_at dksX0_tellActivity_0 4 rfl rfl)
theorem dX0_tellActivity_5 : decode cX0_tellActivity 5 = .ok (.invokevirtual 28, 3) := dk_182 0 28 (dk_at dksX0_tellActivity_0 5 rfl rfl)
theorem dX0_tellActivity_8 : decode cX0_tellActivity 8 = .ok (.i2l, 1) := dk_133 (dk_at dksX0_tellActivity_0 8 rfl rfl)
theorem dX0_tellActivity_9 : decode cX0_tellActivity 9 = .ok (.lastore, 1) := dk_80 (dk_at dksX0_tellActivity_0 9 rfl rfl)
theorem dX0_tellActivity_10 : decode cX0_tellActivity 10 = .ok (.goto 15, 3) := dk_167 0 15 (dk_at dksX0_tellActivity_0 10 rfl rfl)
theorem dX0_tellActivity_13 : decode cX0_tellActivity 13 = .ok (.astore 4, 2) := dk_58 4 (dk_at dksX0_tellActivity_0 13 rfl rfl)
theorem dX0_tellActivity_15 : decode cX0_tellActivity 15 = .ok (.iconst 1, 1) := dk_4 (dk_at dksX0_tellActivity_0 15 rfl rfl)
theorem dX0_tellActivity_16 : decode cX0_tellActivity 16 = .ok (.ireturn, 1) := dk_172 (dk_at dksX0_tellActivity_0 16 rfl rfl)
theorem dX0_tellActivity_17 : decode cX0_tellActivity 17 = .ok (.astore 4, 2) := dk_58 4 (dk_at dksX0_tellActivity_0 17 rfl rfl)
theorem dX0_tellActivity_19 : decode cX0_tellActivity 19 = .ok (.iconst 2, 1) := dk_5 (dk_at dksX0_tellActivity_0 19 rfl rfl)
theorem dX0_tellActivity_20 : decode cX0_tellActivity 20 = .ok (.ireturn, 1) := dk_172 (dk_at dksX0_tellActivity_0 20 rfl rfl)
theorem dX0_tellActivity_21 : decode cX0_tellActivity 21 = .ok (.astore 4, 2) := dk_58 4 (dk_at dksX0_tellActivity_0 21 rfl rfl)
theorem dX0_tellActivity_23 : decode cX0_tellActivity 23 = .ok (.iconst 3, 1) := dk_6 (dk_at dksX0_tellActivity_0 23 rfl rfl)
theorem dX0_tellActivity_24 : decode cX0_tellActivity 24 = .ok (.ireturn, 1) := dk_172 (dk_at dksX0_tellActivity_1 0 rfl rfl)
theorem dX0_tellActivity_25 : decode cX0_tellActivity 25 = .ok (.iconst 0, 1) := dk_3 (dk_at dksX0_tellActivity_1 1 rfl rfl)
theorem dX0_tellActivity_26 : decode cX0_tellActivity 26 = .ok (.ireturn, 1) := dk_172 (dk_at dksX0_tellActivity_1 2 rfl rfl)
theorem wX0_tellActivity_0 (hE : PMon E) : Wa E mX0_tellActivity 0 [l0, l1, l2, l3, l4] S h r d Q = (isR l3 = true ∧ Wa E mX0_tellActivity 1 [l0, l1, l2, l3, l4] (l3 :: S) h r d Q) := sA_aload_n hE dX0_tellActivity_0 rfl rfl
theorem wX0_tellActivity_1 (hE : PMon E) : Wa E mX0_tellActivity 1 L S h r d Q = Wa E mX0_tellActivity 2 L (.int 0 :: S) h r d Q := sA_iconst hE dX0_tellActivity_1 rfl (by decide)
theorem wX0_tellActivity_2 (hE : PMon E) : Wa E mX0_tellActivity 2 [l0, l1, l2, l3, l4] S h r d Q = (isR l0 = true ∧ Wa E mX0_tellActivity 3 [l0, l1, l2, l3, l4] (l0 :: S) h r d Q) := sA_aload_n hE dX0_tellActivity_2 rfl rfl
theorem wX0_tellActivity_3 (hE : PMon E) : Wa E mX0_tellActivity 3 [l0, l1, l2, l3, l4] S h r d Q = (isI l1 = true ∧ Wa E mX0_tellActivity 4 [l0, l1, l2, l3, l4] (l1 :: S) h r d Q) := sA_iload_n hE dX0_tellActivity_3 rfl rfl
theorem wX0_tellActivity_4 (hE : PMon E) : Wa E mX0_tellActivity 4 [l0, l1, l2, l3, l4] S h r d Q = (isI l2 = true ∧ Wa E mX0_tellActivity 5 [l0, l1, l2, l3, l4] (l2 :: S) h r d Q) := sA_iload_n hE dX0_tellActivity_4 rfl rfl
theorem wX0_tellActivity_5 (hE : PMon E) : Wa E mX0_tellActivity 5 L (v2 :: v1 :: .ref a :: S) h r d Q = Cla E mX0_tellActivity (E.1 0 1 28 (kdo (h a))) [.ref a, v1, v2] 5 8 L S h r d Q := sA_invokevirtual hE dX0_tellActivity_5 rfl rfl rfl (by simp) rfl rfl rfl
theorem wX0_tellActivity_8 (hE : PMon E) : Wa E mX0_tellActivity 8 L (.int x :: S) h r d Q = Wa E mX0_tellActivity 9 L (.long x.toInt64 :: S) h r d Q := sA_i2l hE dX0_tellActivity_8 rfl
theorem wX0_tellActivity_9 (hE : PMon E) : Wa E mX0_tellActivity 9 L (v :: .int i :: .ref a :: S) h r d Q = APa E mX0_tellActivity (h a) 901 isL a i v 10 L S h r d Q := sA_lastore hE dX0_tellActivity_9 rfl
theorem wX0_tellActivity_10 (hE : PMon E) : Wa E mX0_tellActivity 10 L S h r d Q = Wa E mX0_tellActivity 25 L S h r d Q := sA_goto hE dX0_tellActivity_10 rfl (by decide) (by decide)
theorem wX0_tellActivity_13 (hE : PMon E) : Wa E mX0_tellActivity 13 [l0, l1, l2, l3, l4] (v :: S) h r d Q = (isR v = true ∧ Wa E mX0_tellActivity 15 [l0, l1, l2, c2 l3, v] S h r d Q) := sA_astore hE dX0_tellActivity_13 rfl (by show 4 < 5; decide) st1_5_4
theorem wX0_tellActivity_15 (hE : PMon E) : Wa E mX0_tellActivity 15 L S h r d Q = Wa E mX0_tellActivity 16 L (.int 1 :: S) h r d Q := sA_iconst hE dX0_tellActivity_15 rfl (by decide)
theorem wX0_tellActivity_16 (hE : PMon E) : Wa E mX0_tellActivity 16 L [.int x] h r d Q = Q (.inl (some (.int x))) h r := sA_ireturn hE dX0_tellActivity_16 rfl
theorem wX0_tellActivity_17 (hE : PMon E) : Wa E mX0_tellActivity 17 [l0, l1, l2, l3, l4] (v :: S) h r d Q = (isR v = true ∧ Wa E mX0_tellActivity 19 [l0, l1, l2, c2 l3, v] S h r d Q) := sA_astore hE dX0_tellActivity_17 rfl (by show 4 < 5; decide) st1_5_4
theorem wX0_tellActivity_19 (hE : PMon E) : Wa E mX0_tellActivity 19 L S h r d Q = Wa E mX0_tellActivity 20 L (.int 2 :: S) h r d Q := sA_iconst hE dX0_tellActivity_19 rfl (by decide)
theorem wX0_tellActivity_20 (hE : PMon E) : Wa E mX0_tellActivity 20 L [.int x] h r d Q = Q (.inl (some (.int x))) h r := sA_ireturn hE dX0_tellActivity_20 rfl
theorem wX0_tellActivity_21 (hE : PMon E) : Wa E mX0_tellActivity 21 [l0, l1, l2, l3, l4] (v :: S) h r d Q = (isR v = true ∧ Wa E mX0_tellActivity 23 [l0, l1, l2, c2 l3, v] S h r d Q) := sA_astore hE dX0_tellActivity_21 rfl (by show 4 < 5; decide) st1_5_4
theorem wX0_tellActivity_23 (hE : PMon E) : Wa E mX0_tellActivity 23 L S h r d Q = Wa E mX0_tellActivity 24 L (.int 3 :: S) h r d Q := sA_iconst hE dX0_tellActivity_23 rfl (by decide)
theorem wX0_tellActivity_24 (hE : PMon E) : Wa E mX0_tellActivity 24 L [.int x] h r d Q = Q (.inl (some (.int x))) h r := sA_ireturn hE dX0_tellActivity_24 rfl
theorem wX0_tellActivity_25 (hE : PMon E) : Wa E mX0_tellActivity 25 L S h r d Q = Wa E mX0_tellActivity 26 L (.int 0 :: S) h r d Q := sA_iconst hE dX0_tellActivity_25 rfl (by decide)
theorem wX0_tellActivity_26 (hE : PMon E) : Wa E mX0_tellActivity 26 L [.int x] h r d Q = Q (.inl (some (.int x))) h r := sA_ireturn hE dX0_tellActivity_26 rfl
abbrev cX0_emissionOf : ByteArray := method_7_code
def dkwX0_emissionOf_1 : List UInt8 := [3, 172]
abbrev dktX0_emissionOf_1 : List UInt8 := dkwX0_emissionOf_1 ++ []
def dkwX0_emissionOf_0 : List UInt8 := [45, 3, 42, 27, 28, 182, 0, 32, 80, 167, 0, 15, 58, 4, 4, 172, 58, 4, 5, 172, 58, 4, 6, 172]
abbrev dktX0_emissionOf_0 : List UInt8 := dkwX0_emissionOf_0 ++ dktX0_emissionOf_1
theorem dksX0_emissionOf_0 : cX0_emissionOf.data.toList.drop 0 = dktX0_emissionOf_0 := by decide +kernel
theorem dksX0_emissionOf_1 : cX0_emissionOf.data.toList.drop 24 = dktX0_emissionOf_1 := dk_seg dksX0_emissionOf_0 24 rfl rfl
theorem dX0_emissionOf_0 : decode cX0_emissionOf 0 = .ok (.aload_n 3, 1) := dk_45 (dk_at dksX0_emissionOf_0 0 rfl rfl)
theorem dX0_emissionOf_1 : decode cX0_emissionOf 1 = .ok (.iconst 0, 1) := dk_3 (dk_at dksX0_emissionOf_0 1 rfl rfl)
theorem dX0_emissionOf_2 : decode cX0_emissionOf 2 = .ok (.aload_n 0, 1) := dk_42 (dk_at dksX0_emissionOf_0 2 rfl rfl)
theorem dX0_emissionOf_3 : decode cX0_emissionOf 3 = .ok (.iload_n 1, 1) := dk_27 (dk_at dksX0_emissionOf_0 3 rfl rfl)
theorem dX0_emissionOf_4 : decode cX0_emissionOf 4 = .ok (.iload_n 2, 1) := dk_28 (dk_at dksX0_emissionOf_0 4 rfl rfl)
theorem dX0_emissionOf_5 : decode cX0_emissionOf 5 = .ok (.invokevirtual 32, 3) := dk_182 0 32 (dk_at dksX0_emissionOf_0 5 rfl rfl)
theorem dX0_emissionOf_8 : decode cX0_emissionOf 8 = .ok (.lastore, 1) := dk_80 (dk_at dksX0_emissionOf_0 8 rfl rfl)
theorem dX0_emissionOf_9 : decode cX0_emissionOf 9 = .ok (.goto 15, 3) := dk_167 0 15 (dk_at dksX0_emissionOf_0 9 rfl rfl)
theorem dX0_emissionOf_12 : decode cX0_emissionOf 12 = .ok (.astore 4, 2) := dk_58 4 (dk_at dksX0_emissionOf_0 12 rfl rfl)
theorem dX0_emissionOf_14 : decode cX0_emissionOf 14 = .ok (.iconst 1, 1) := dk_4 (dk_at dksX0_emissionOf_0 14 rfl rfl)
theorem dX0_emissionOf_15 : decode cX0_emissionOf 15 = .ok (.ireturn, 1) := dk_172 (dk_at dksX0_emissionOf_0 15 rfl rfl)
theorem dX0_emissionOf_16 : decode cX0_emissionOf 16 = .ok (.astore 4, 2) := dk_58 4 (dk_at dksX0_emissionOf_0 16 rfl rfl)
theorem dX0_emissionOf_18 : decode cX0_emissionOf 18 = .ok (.iconst 2, 1) := dk_5 (dk_at dksX0_emissionOf_0 18 rfl rfl)
theorem dX0_emissionOf_19 : decode cX0_emissionOf 19 = .ok (.ireturn, 1) := dk_172 (dk_at dksX0_emissionOf_0 19 rfl rfl)
theorem dX0_emissionOf_20 : decode cX0_emissionOf 20 = .ok (.astore 4, 2) := dk_58 4 (dk_at dksX0_emissionOf_0 20 rfl rfl)
theorem dX0_emissionOf_22 : decode cX0_emissionOf 22 = .ok (.iconst 3, 1) := dk_6 (dk_at dksX0_emissionOf_0 22 rfl rfl)
theorem dX0_emissionOf_23 : decode cX0_emissionOf 23 = .ok (.ireturn, 1) := dk_172 (dk_at dksX0_emissionOf_0 23 rfl rfl)
theorem dX0_emissionOf_24 : decode cX0_emissionOf 24 = .ok (.iconst 0, 1) := dk_3 (dk_at dksX0_emissionOf_1 0 rfl rfl)
theorem dX0_emissionOf_25 : decode cX0_emissionOf 25 = .ok (.ireturn, 1) := dk_172 (dk_at dksX0_emissionOf_1 1 rfl rfl)
theorem wX0_emissionOf_0 (hE : PMon E) : Wa E mX0_emissionOf 0 [l0, l1, l2, l3, l4] S h r d Q = (isR l3 = true ∧ Wa E mX0_emissionOf 1 [l0, l1, l2, l3, l4] (l3 :: S) h r d Q) := sA_aload_n hE dX0_emissionOf_0 rfl rfl
theorem wX0_emissionOf_1 (hE : PMon E) : Wa E mX0_emissionOf 1 L S h r d Q = Wa E mX0_emissionOf 2 L (.int 0 :: S) h r d Q := sA_iconst hE dX0_emissionOf_1 rfl (by decide)
theorem wX0_emissionOf_2 (hE : PMon E) : Wa E mX0_emissionOf 2 [l0, l1, l2, l3, l4] S h r d Q = (isR l0 = true ∧ Wa E mX0_emissionOf 3 [l0, l1, l2, l3, l4] (l0 :: S) h r d Q) := sA_aload_n hE dX0_emissionOf_2 rfl rfl
theorem wX0_emissionOf_3 (hE : PMon E) : Wa E mX0_emissionOf 3 [l0, l1, l2, l3, l4] S h r d Q = (isI l1 = true ∧ Wa E mX0_emissionOf 4 [l0, l1, l2, l3, l4] (l1 :: S) h r d Q) := sA_iload_n hE dX0_emissionOf_3 rfl rfl
theorem wX0_emissionOf_4 (hE : PMon E) : Wa E mX0_emissionOf 4 [l0, l1, l2, l3, l4] S h r d Q = (isI l2 = true ∧ Wa E mX0_emissionOf 5 [l0, l1, l2, l3, l4] (l2 :: S) h r d Q) := sA_iload_n hE dX0_emissionOf_4 rfl rfl
theorem wX0_emissionOf_5 (hE : PMon E) : Wa E mX0_emissionOf 5 L (v2 :: v1 :: .ref a :: S) h r d Q = Cla E mX0_emissionOf (E.1 0 1 32 (kdo (h a))) [.ref a, v1, v2] 5 8 L S h r d Q := sA_invokevirtual hE dX0_emissionOf_5 rfl rfl rfl (by simp) rfl rfl rfl
theorem wX0_emissionOf_8 (hE : PMon E) : Wa E mX0_emissionOf 8 L (v :: .int i :: .ref a :: S) h r d Q = APa E mX0_emissionOf (h a) 901 isL a i v 9 L S h r d Q := sA_lastore hE dX0_emissionOf_8 rfl
theorem wX0_emissionOf_9 (hE : PMon E) : Wa E mX0_emissionOf 9 L S h r d Q = Wa E mX0_emissionOf 24 L S h r d Q := sA_goto hE dX0_emissionOf_9 rfl (by decide) (by decide)
theorem wX0_emissionOf_12 (hE : PMon E) : Wa E mX0_emissionOf 12 [l0, l1, l2, l3, l4] (v :: S) h r d Q = (isR v = true ∧ Wa E mX0_emissionOf 14 [l0, l1, l2, c2 l3, v] S h r d Q) := sA_astore hE dX0_emissionOf_12 rfl (by show 4 < 5; decide) st1_5_4
theorem wX0_emissionOf_14 (hE : PMon E) : Wa E mX0_emissionOf 14 L S h r d Q = Wa E mX0_emissionOf 15 L (.int 1 :: S) h r d Q := sA_iconst hE dX0_emissionOf_14 rfl (by decide)
theorem wX0_emissionOf_15 (hE : PMon E) : Wa E mX0_emissionOf 15 L [.int x] h r d Q = Q (.inl (some (.int x))) h r := sA_ireturn hE dX0_emissionOf_15 rfl
theorem wX0_emissionOf_16 (hE : PMon E) : Wa E mX0_emissionOf 16 [l0, l1, l2, l3, l4] (v :: S) h r d Q = (isR v = true ∧ Wa E mX0_emissionOf 18 [l0, l1, l2, c2 l3, v] S h r d Q) := sA_astore hE dX0_emissionOf_16 rfl (by show 4 < 5; decide) st1_5_4
theorem wX0_emissionOf_18 (hE : PMon E) : Wa E mX0_emissionOf 18 L S h r d Q = Wa E mX0_emissionOf 19 L (.int 2 :: S) h r d Q := sA_iconst hE dX0_emissionOf_18 rfl (by decide)
theorem wX0_emissionOf_19 (hE : PMon E) : Wa E mX0_emissionOf 19 L [.int x] h r d Q = Q (.inl (some (.int x))) h r := sA_ireturn hE dX0_emissionOf_19 rfl
theorem wX0_emissionOf_20 (hE : PMon E) : Wa E mX0_emissionOf 20 [l0, l1, l2, l3, l4] (v :: S) h r d Q = (isR v = true ∧ Wa E mX0_emissionOf 22 [l0, l1, l2, c2 l3, v] S h r d Q) := sA_astore hE dX0_emissionOf_20 rfl (by show 4 < 5; decide) st1_5_4
theorem wX0_emissionOf_22 (hE : PMon E) : Wa E mX0_emissionOf 22 L S h r d Q = Wa E mX0_emissionOf 23 L (.int 3 :: S) h r d Q := sA_iconst hE dX0_emissionOf_22 rfl (by decide)
theorem wX0_emissionOf_23 (hE : PMon E) : Wa E mX0_emissionOf 23 L [.int x] h r d Q = Q (.inl (some (.int x))) h r := sA_ireturn hE dX0_emissionOf_23 rfl
theorem wX0_emissionOf_24 (hE : PMon E) : Wa E mX0_emissionOf 24 L S h r d Q = Wa E mX0_emissionOf 25 L (.int 0 :: S) h r d Q := sA_iconst hE dX0_emissionOf_24 rfl (by decide)
theorem wX0_emissionOf_25 (hE : PMon E) : Wa E mX0_emissionOf 25 L [.int x] h r d Q = Q (.inl (some (.int x))) h r := sA_ireturn hE dX0_emissionOf_25 rfl
abbrev cX0_owed : ByteArray := method_8_code
def dkwX0_owed_0 : List UInt8 := [45, 3, 42, 27, 28, 182, 0, 38, 80, 167, 0, 11, 58, 4, 4, 172, 58, 4, 5, 172, 3, 172]
abbrev dktX0_owed_0 : List UInt8 := dkwX0_owed_0 ++ []
theorem dksX0_owed_0 : cX0_owed.data.toList.drop 0 = dktX0_owed_0 := by decide +kernel
theorem dX0_owed_0 : decode cX0_owed 0 = .ok (.aload_n 3, 1) := dk_45 (dk_at dksX0_owed_0 0 rfl rfl)
theorem dX0_owed_1 : decode cX0_owed 1 = .ok (.iconst 0, 1) := dk_3 (dk_at dksX0_owed_0 1 rfl rfl)
theorem dX0_owed_2 : decode cX0_owed 2 = .ok (.aload_n 0, 1) := dk_42 (dk_at dksX0_owed_0 2 rfl rfl)
theorem dX0_owed_3 : decode cX0_owed 3 = .ok (.iload_n 1, 1) := dk_27 (dk_at dksX0_owed_0 3 rfl rfl)
theorem dX0_owed_4 : decode cX0_owed 4 = .ok (.iload_n 2, 1) := dk_28 (dk_at dksX0_owed_0 4 rfl rfl)
theorem dX0_owed_5 : decode cX0_owed 5 = .ok (.invokevirtual 38, 3) := dk_182 0 38 (dk_at dksX0_owed_0 5 rfl rfl)
theorem dX0_owed_8 : decode cX0_owed 8 = .ok (.lastore, 1) := dk_80 (dk_at dksX0_owed_0 8 rfl rfl)
theorem dX0_owed_9 : decode cX0_owed 9 = .ok (.goto 11, 3) := dk_167 0 11 (dk_at dksX0_owed_0 9 rfl rfl)
theorem dX0_owed_12 : decode cX0_owed 12 = .ok (.astore 4, 2) := dk_58 4 (dk_at dksX0_owed_0 12 rfl rfl)
theorem dX0_owed_14 : decode cX0_owed 14 = .ok (.iconst 1, 1) := dk_4 (dk_at dksX0_owed_0 14 rfl rfl)
theorem dX0_owed_15 : decode cX0_owed 15 = .ok (.ireturn, 1) := dk_172 (dk_at dksX0_owed_0 15 rfl rfl)
theorem dX0_owed_16 : decode cX0_owed 16 = .ok (.astore 4, 2) := dk_58 4 (dk_at dksX0_owed_0 16 rfl rfl)
theorem dX0_owed_18 : decode cX0_owed 18 = .ok (.iconst 2, 1) := dk_5 (dk_at dksX0_owed_0 18 rfl rfl)
theorem dX0_owed_19 : decode cX0_owed 19 = .ok (.ireturn, 1) := dk_172 (dk_at dksX0_owed_0 19 rfl rfl)
theorem dX0_owed_20 : decode cX0_owed 20 = .ok (.iconst 0, 1) := dk_3 (dk_at dksX0_owed_0 20 rfl rfl)
theorem dX0_owed_21 : decode cX0_owed 21 = .ok (.ireturn, 1) := dk_172 (dk_at dksX0_owed_0 21 rfl rfl)
theorem wX0_owed_0 (hE : PMon E) : Wa E mX0_owed 0 [l0, l1, l2, l3, l4] S h r d Q = (isR l3 = true ∧ Wa E mX0_owed 1 [l0, l1, l2, l3, l4] (l3 :: S) h r d Q) := sA_aload_n hE dX0_owed_0 rfl rfl
theorem wX0_owed_1 (hE : PMon E) : Wa E mX0_owed 1 L S h r d Q = Wa E mX0_owed 2 L (.int 0 :: S) h r d Q := sA_iconst hE dX0_owed_1 rfl (by decide)
theorem wX0_owed_2 (hE : PMon E) : Wa E mX0_owed 2 [l0, l1, l2, l3, l4] S h r d Q = (isR l0 = true ∧ Wa E mX0_owed 3 [l0, l1, l2, l3, l4] (l0 :: S) h r d Q) := sA_aload_n hE dX0_owed_2 rfl rfl
theorem wX0_owed_3 (hE : PMon E) : Wa E mX0_owed 3 [l0, l1, l2, l3, l4] S h r d Q = (isI l1 = true ∧ Wa E mX0_owed 4 [l0, l1, l2, l3, l4] (l1 :: S) h r d Q) := sA_iload_n hE dX0_owed_3 rfl rfl
theorem wX0_owed_4 (hE : PMon E) : Wa E mX0_owed 4 [l0, l1, l2, l3, l4] S h r d Q = (isI l2 = true ∧ Wa E mX0_owed 5 [l0, l1, l2, l3, l4] (l2 :: S) h r d Q) := sA_iload_n hE dX0_owed_4 rfl rfl
theorem wX0_owed_5 (hE : PMon E) : Wa E mX0_owed 5 L (v2 :: v1 :: .ref a :: S) h r d Q = Cla E mX0_owed (E.1 0 1 38 (kdo (h a))) [.ref a, v1, v2] 5 8 L S h r d Q := sA_invokevirtual hE dX0_owed_5 rfl rfl rfl (by simp) rfl rfl rfl
theorem wX0_owed_8 (hE : PMon E) : Wa E mX0_owed 8 L (v :: .int i :: .ref a :: S) h r d Q = APa E mX0_owed (h a) 901 isL a i v 9 L S h r d Q := sA_lastore hE dX0_owed_8 rfl
theorem wX0_owed_9 (hE : PMon E) : Wa E mX0_owed 9 L S h r d Q = Wa E mX0_owed 20 L S h r d Q := sA_goto hE dX0_owed_9 rfl (by decide) (by decide)
theorem wX0_owed_12 (hE : PMon E) : Wa E mX0_owed 12 [l0, l1, l2, l3, l4] (v :: S) h r d Q = (isR v = true ∧ Wa E mX0_owed 14 [l0, l1, l2, c2 l3, v] S h r d Q) := sA_astore hE dX0_owed_12 rfl (by show 4 < 5; decide) st1_5_4
theorem wX0_owed_14 (hE : PMon E) : Wa E mX0_owed 14 L S h r d Q = Wa E mX0_owed 15 L (.int 1 :: S) h r d Q := sA_iconst hE dX0_owed_14 rfl (by decide)
theorem wX0_owed_15 (hE : PMon E) : Wa E mX0_owed 15 L [.int x] h r d Q = Q (.inl (some (.int x))) h r := sA_ireturn hE dX0_owed_15 rfl
theorem wX0_owed_16 (hE : PMon E) : Wa E mX0_owed 16 [l0, l1, l2, l3, l4] (v :: S) h r d Q = (isR v = true ∧ Wa E mX0_owed 18 [l0, l1, l2, c2 l3, v] S h r d Q) := sA_astore hE dX0_owed_16 rfl (by show 4 < 5; decide) st1_5_4
theorem wX0_owed_18 (hE : PMon E) : Wa E mX0_owed 18 L S h r d Q = Wa E mX0_owed 19 L (.int 2 :: S) h r d Q := sA_iconst hE dX0_owed_18 rfl (by decide)
theorem wX0_owed_19 (hE : PMon E) : Wa E mX0_owed 19 L [.int x] h r d Q = Q (.inl (some (.int x))) h r := sA_ireturn hE dX0_owed_19 rfl
theorem wX0_owed_20 (hE : PMon E) : Wa E mX0_owed 20 L S h r d Q = Wa E mX0_owed 21 L (.int 0 :: S) h r d Q := sA_iconst hE dX0_owed_20 rfl (by decide)
theorem wX0_owed_21 (hE : PMon E) : Wa E mX0_owed 21 L [.int x] h r d Q = Q (.inl (some (.int x))) h r := sA_ireturn hE dX0_owed_21 rfl
abbrev cX0_freeShare : ByteArray := method_9_code
def dkwX0_freeShare_0 : List UInt8 := [44, 3, 42, 27, 182, 0, 41, 133, 80, 167, 0, 6, 78, 4, 172, 3, 172]
abbrev dktX0_freeShare_0 : List UInt8 := dkwX0_freeShare_0 ++ []
theorem dksX0_freeShare_0 : cX0_freeShare.data.toList.drop 0 = dktX0_freeShare_0 := by decide +kernel
theorem dX0_freeShare_0 : decode cX0_freeShare 0 = .ok (.aload_n 2, 1) := dk_44 (dk_at dksX0_freeShare_0 0 rfl rfl)
theorem dX0_freeShare_1 : decode cX0_freeShare 1 = .ok (.iconst 0, 1) := dk_3 (dk_at dksX0_freeShare_0 1 rfl rfl)
theorem dX0_freeShare_2 : decode cX0_freeShare 2 = .ok (.aload_n 0, 1) := dk_42 (dk_at dksX0_freeShare_0 2 rfl rfl)
theorem dX0_freeShare_3 : decode cX0_freeShare 3 = .ok (.iload_n 1, 1) := dk_27 (dk_at dksX0_freeShare_0 3 rfl rfl)
theorem dX0_freeShare_4 : decode cX0_freeShare 4 = .ok (.invokevirtual 41, 3) := dk_182 0 41 (dk_at dksX0_freeShare_0 4 rfl rfl)
theorem dX0_freeShare_7 : decode cX0_freeShare 7 = .ok (.i2l, 1) := dk_133 (dk_at dksX0_freeShare_0 7 rfl rfl)
theorem dX0_freeShare_8 : decode cX0_freeShare 8 = .ok (.lastore, 1) := dk_80 (dk_at dksX0_freeShare_0 8 rfl rfl)
theorem dX0_freeShare_9 : decode cX0_freeShare 9 = .ok (.goto 6, 3) := dk_167 0 6 (dk_at dksX0_freeShare_0 9 rfl rfl)
theorem dX0_freeShare_12 : decode cX0_freeShare 12 = .ok (.astore_n 3, 1) := dk_78 (dk_at dksX0_freeShare_0 12 rfl rfl)
theorem dX0_freeShare_13 : decode cX0_freeShare 13 = .ok (.iconst 1, 1) := dk_4 (dk_at dksX0_freeShare_0 13 rfl rfl)
theorem dX0_freeShare_14 : decode cX0_freeShare 14 = .ok (.ireturn, 1) := dk_172 (dk_at dksX0_freeShare_0 14 rfl rfl)
theorem dX0_freeShare_15 : decode cX0_freeShare 15 = .ok (.iconst 0, 1) := dk_3 (dk_at dksX0_freeShare_0 15 rfl rfl)
theorem dX0_freeShare_16 : decode cX0_freeShare 16 = .ok (.ireturn, 1) := dk_172 (dk_at dksX0_freeShare_0 16 rfl rfl)
theorem wX0_freeShare_0 (hE : PMon E) : Wa E mX0_freeShare 0 [l0, l1, l2, l3] S h r d Q = (isR l2 = true ∧ Wa E mX0_freeShare 1 [l0, l1, l2, l3] (l2 :: S) h r d Q) := sA_aload_n hE dX0_freeShare_0 rfl rfl
theorem wX0_freeShare_1 (hE : PMon E) : Wa E mX0_freeShare 1 L S h r d Q = Wa E mX0_freeShare 2 L (.int 0 :: S) h r d Q := sA_iconst hE dX0_freeShare_1 rfl (by decide)
theorem wX0_freeShare_2 (hE : PMon E) : Wa E mX0_freeShare 2 [l0, l1, l2, l3] S h r d Q = (isR l0 = true ∧ Wa E mX0_freeShare 3 [l0, l1, l2, l3] (l0 :: S) h r d Q) := sA_aload_n hE dX0_freeShare_2 rfl rfl
theorem wX0_freeShare_3 (hE : PMon E) : Wa E mX0_freeShare 3 [l0, l1, l2, l3] S h r d Q = (isI l1 = true ∧ Wa E mX0_freeShare 4 [l0, l1, l2, l3] (l1 :: S) h r d Q) := sA_iload_n hE dX0_freeShare_3 rfl rfl
theorem wX0_freeShare_4 (hE : PMon E) : Wa E mX0_freeShare 4 L (v1 :: .ref a :: S) h r d Q = Cla E mX0_freeShare (E.1 0 1 41 (kdo (h a))) [.ref a, v1] 4 7 L S h r d Q := sA_invokevirtual hE dX0_freeShare_4 rfl rfl rfl (by simp) rfl rfl rfl
theorem wX0_freeShare_7 (hE : PMon E) : Wa E mX0_freeShare 7 L (.int x :: S) h r d Q = Wa E mX0_freeShare 8 L (.long x.toInt64 :: S) h r d Q := sA_i2l hE dX0_freeShare_7 rfl
theorem wX0_freeShare_8 (hE : PMon E) : Wa E mX0_freeShare 8 L (v :: .int i :: .ref a :: S) h r d Q = APa E mX0_freeShare (h a) 901 isL a i v 9 L S h r d Q := sA_lastore hE dX0_freeShare_8 rfl
theorem wX0_freeShare_9 (hE : PMon E) : Wa E mX0_freeShare 9 L S h r d Q = Wa E mX0_freeShare 15 L S h r d Q := sA_goto hE dX0_freeShare_9 rfl (by decide) (by decide)
theorem wX0_freeShare_12 (hE : PMon E) : Wa E mX0_freeShare 12 [l0, l1, l2, l3] (v :: S) h r d Q = (isR v = true ∧ Wa E mX0_freeShare 13 [l0, l1, c2 l2, v] S h r d Q) := sA_astore_n hE dX0_freeShare_12 rfl (by show 3 < 4; decide) st1_4_3
theorem wX0_freeShare_13 (hE : PMon E) : Wa E mX0_freeShare 13 L S h r d Q = Wa E mX0_freeShare 14 L (.int 1 :: S) h r d Q := sA_iconst hE dX0_freeShare_13 rfl (by decide)
theorem wX0_freeShare_14 (hE : PMon E) : Wa E mX0_freeShare 14 L [.int x] h r d Q = Q (.inl (some (.int x))) h r := sA_ireturn hE dX0_freeShare_14 rfl
theorem wX0_freeShare_15 (hE : PMon E) : Wa E mX0_freeShare 15 L S h r d Q = Wa E mX0_freeShare 16 L (.int 0 :: S) h r d Q := sA_iconst hE dX0_freeShare_15 rfl (by decide)
theorem wX0_freeShare_16 (hE : PMon E) : Wa E mX0_freeShare 16 L [.int x] h r d Q = Q (.inl (some (.int x))) h r := sA_ireturn hE dX0_freeShare_16 rfl
abbrev cX0_cash : ByteArray := method_10_code
def dkwX0_cash_0 : List UInt8 := [44, 3, 42, 27, 182, 0, 44, 80, 167, 0, 6, 78, 4, 172, 3, 172]
abbrev dktX0_cash_0 : List UInt8 := dkwX0_cash_0 ++ []
theorem dksX0_cash_0 : cX0_cash.data.toList.drop 0 = dktX0_cash_0 := by decide +kernel
theorem dX0_cash_0 : decode cX0_cash 0 = .ok (.aload_n 2, 1) := dk_44 (dk_at dksX0_cash_0 0 rfl rfl)
theorem dX0_cash_1 : decode cX0_cash 1 = .ok (.iconst 0, 1) := dk_3 (dk_at dksX0_cash_0 1 rfl rfl)
theorem dX0_cash_2 : decode cX0_cash 2 = .ok (.aload_n 0, 1) := dk_42 (dk_at dksX0_cash_0 2 rfl rfl)
theorem dX0_cash_3 : decode cX0_cash 3 = .ok (.iload_n 1, 1) := dk_27 (dk_at dksX0_cash_0 3 rfl rfl)
theorem dX0_cash_4 : decode cX0_cash 4 = .ok (.invokevirtual 44, 3) := dk_182 0 44 (dk_at dksX0_cash_0 4 rfl rfl)
theorem dX0_cash_7 : decode cX0_cash 7 = .ok (.lastore, 1) := dk_80 (dk_at dksX0_cash_0 7 rfl rfl)
theorem dX0_cash_8 : decode cX0_cash 8 = .ok (.goto 6, 3) := dk_167 0 6 (dk_at dksX0_cash_0 8 rfl rfl)
theorem dX0_cash_11 : decode cX0_cash 11 = .ok (.astore_n 3, 1) := dk_78 (dk_at dksX0_cash_0 11 rfl rfl)
theorem dX0_cash_12 : decode cX0_cash 12 = .ok (.iconst 1, 1) := dk_4 (dk_at dksX0_cash_0 12 rfl rfl)
theorem dX0_cash_13 : decode cX0_cash 13 = .ok (.ireturn, 1) := dk_172 (dk_at dksX0_cash_0 13 rfl rfl)
theorem dX0_cash_14 : decode cX0_cash 14 = .ok (.iconst 0, 1) := dk_3 (dk_at dksX0_cash_0 14 rfl rfl)
theorem dX0_cash_15 : decode cX0_cash 15 = .ok (.ireturn, 1) := dk_172 (dk_at dksX0_cash_0 15 rfl rfl)
theorem wX0_cash_0 (hE : PMon E) : Wa E mX0_cash 0 [l0, l1, l2, l3] S h r d Q = (isR l2 = true ∧ Wa E mX0_cash 1 [l0, l1, l2, l3] (l2 :: S) h r d Q) := sA_aload_n hE dX0_cash_0 rfl rfl
theorem wX0_cash_1 (hE : PMon E) : Wa E mX0_cash 1 L S h r d Q = Wa E mX0_cash 2 L (.int 0 :: S) h r d Q := sA_iconst hE dX0_cash_1 rfl (by decide)
theorem wX0_cash_2 (hE : PMon E) : Wa E mX0_cash 2 [l0, l1, l2, l3] S h r d Q = (isR l0 = true ∧ Wa E mX0_cash 3 [l0, l1, l2, l3] (l0 :: S) h r d Q) := sA_aload_n hE dX0_cash_2 rfl rfl
theorem wX0_cash_3 (hE : PMon E) : Wa E mX0_cash 3 [l0, l1, l2, l3] S h r d Q = (isI l1 = true ∧ Wa E mX0_cash 4 [l0, l1, l2, l3] (l1 :: S) h r d Q) := sA_iload_n hE dX0_cash_3 rfl rfl
theorem wX0_cash_4 (hE : PMon E) : Wa E mX0_cash 4 L (v1 :: .ref a :: S) h r d Q = Cla E mX0_cash (E.1 0 1 44 (kdo (h a))) [.ref a, v1] 4 7 L S h r d Q := sA_invokevirtual hE dX0_cash_4 rfl rfl rfl (by simp) rfl rfl rfl
theorem wX0_cash_7 (hE : PMon E) : Wa E mX0_cash 7 L (v :: .int i :: .ref a :: S) h r d Q = APa E mX0_cash (h a) 901 isL a i v 8 L S h r d Q := sA_lastore hE dX0_cash_7 rfl
theorem wX0_cash_8 (hE : PMon E) : Wa E mX0_cash 8 L S h r d Q = Wa E mX0_cash 14 L S h r d Q := sA_goto hE dX0_cash_8 rfl (by decide) (by decide)
theorem wX0_cash_11 (hE : PMon E) : Wa E mX0_cash 11 [l0, l1, l2, l3] (v :: S) h r d Q = (isR v = true ∧ Wa E mX0_cash 12 [l0, l1, c2 l2, v] S h r d Q) := sA_astore_n hE dX0_cash_11 rfl (by show 3 < 4; decide) st1_4_3
theorem wX0_cash_12 (hE : PMon E) : Wa E mX0_cash 12 L S h r d Q = Wa E mX0_cash 13 L (.int 1 :: S) h r d Q := sA_iconst hE dX0_cash_12 rfl (by decide)
theorem wX0_cash_13 (hE : PMon E) : Wa E mX0_cash 13 L [.int x] h r d Q = Q (.inl (some (.int x))) h r := sA_ireturn hE dX0_cash_13 rfl
theorem wX0_cash_14 (hE : PMon E) : Wa E mX0_cash 14 L S h r d Q = Wa E mX0_cash 15 L (.int 0 :: S) h r d Q := sA_iconst hE dX0_cash_14 rfl (by decide)
theorem wX0_cash_15 (hE : PMon E) : Wa E mX0_cash 15 L [.int x] h r d Q = Q (.inl (some (.int x))) h r := sA_ireturn hE dX0_cash_15 rfl
abbrev cX0_setCap : ByteArray := method_11_code
def dkwX0_setCap_0 : List UInt8 := [45, 3, 42, 27, 28, 182, 0, 48, 133, 80, 167, 0, 7, 58, 4, 4, 172, 3, 172]
abbrev dktX0_setCap_0 : List UInt8 := dkwX0_setCap_0 ++ []
theorem dksX0_setCap_0 : cX0_setCap.data.toList.drop 0 = dktX0_setCap_0 := by decide +kernel
theorem dX0_setCap_0 : decode cX0_setCap 0 = .ok (.aload_n 3, 1) := dk_45 (dk_at dksX0_setCap_0 0 rfl rfl)
theorem dX0_setCap_1 : decode cX0_setCap 1 = .ok (.iconst 0, 1) := dk_3 (dk_at dksX0_setCap_0 1 rfl rfl)
theorem dX0_setCap_2 : decode cX0_setCap 2 = .ok (.aload_n 0, 1) := dk_42 (dk_at dksX0_setCap_0 2 rfl rfl)
theorem dX0_setCap_3 : decode cX0_setCap 3 = .ok (.iload_n 1, 1) := dk_27 (dk_at dksX0_setCap_0 3 rfl rfl)
theorem dX0_setCap_4 : decode cX0_setCap 4 = .ok (.iload_n 2, 1) := dk_28 (dk_at dksX0_setCap_0 4 rfl rfl)
theorem dX0_setCap_5 : decode cX0_setCap 5 = .ok (.invokevirtual 48, 3) := dk_182 0 48 (dk_at dksX0_setCap_0 5 rfl rfl)
theorem dX0_setCap_8 : decode cX0_setCap 8 = .ok (.i2l, 1) := dk_133 (dk_at dksX0_setCap_0 8 rfl rfl)
theorem dX0_setCap_9 : decode cX0_setCap 9 = .ok (.lastore, 1) := dk_80 (dk_at dksX0_setCap_0 9 rfl rfl)
theorem dX0_setCap_10 : decode cX0_setCap 10 = .ok (.goto 7, 3) := dk_167 0 7 (dk_at dksX0_setCap_0 10 rfl rfl)
theorem dX0_setCap_13 : decode cX0_setCap 13 = .ok (.astore 4, 2) := dk_58 4 (dk_at dksX0_setCap_0 13 rfl rfl)
theorem dX0_setCap_15 : decode cX0_setCap 15 = .ok (.iconst 1, 1) := dk_4 (dk_at dksX0_setCap_0 15 rfl rfl)
theorem dX0_setCap_16 : decode cX0_setCap 16 = .ok (.ireturn, 1) := dk_172 (dk_at dksX0_setCap_0 16 rfl rfl)
theorem dX0_setCap_17 : decode cX0_setCap 17 = .ok (.iconst 0, 1) := dk_3 (dk_at dksX0_setCap_0 17 rfl rfl)
theorem dX0_setCap_18 : decode cX0_setCap 18 = .ok (.ireturn, 1) := dk_172 (dk_at dksX0_setCap_0 18 rfl rfl)
theorem wX0_setCap_0 (hE : PMon E) : Wa E mX0_setCap 0 [l0, l1, l2, l3, l4] S h r d Q = (isR l3 = true ∧ Wa E mX0_setCap 1 [l0, l1, l2, l3, l4] (l3 :: S) h r d Q) := sA_aload_n hE dX0_setCap_0 rfl rfl
theorem wX0_setCap_1 (hE : PMon E) : Wa E mX0_setCap 1 L S h r d Q = Wa E mX0_setCap 2 L (.int 0 :: S) h r d Q := sA_iconst hE dX0_setCap_1 rfl (by decide)
theorem wX0_setCap_2 (hE : PMon E) : Wa E mX0_setCap 2 [l0, l1, l2, l3, l4] S h r d Q = (isR l0 = true ∧ Wa E mX0_setCap 3 [l0, l1, l2, l3, l4] (l0 :: S) h r d Q) := sA_aload_n hE dX0_setCap_2 rfl rfl
theorem wX0_setCap_3 (hE : PMon E) : Wa E mX0_setCap 3 [l0, l1, l2, l3, l4] S h r d Q = (isI l1 = true ∧ Wa E mX0_setCap 4 [l0, l1, l2, l3, l4] (l1 :: S) h r d Q) := sA_iload_n hE dX0_setCap_3 rfl rfl
theorem wX0_setCap_4 (hE : PMon E) : Wa E mX0_setCap 4 [l0, l1, l2, l3, l4] S h r d Q = (isI l2 = true ∧ Wa E mX0_setCap 5 [l0, l1, l2, l3, l4] (l2 :: S) h r d Q) := sA_iload_n hE dX0_setCap_4 rfl rfl
theorem wX0_setCap_5 (hE : PMon E) : Wa E mX0_setCap 5 L (v2 :: v1 :: .ref a :: S) h r d Q = Cla E mX0_setCap (E.1 0 1 48 (kdo (h a))) [.ref a, v1, v2] 5 8 L S h r d Q := sA_invokevirtual hE dX0_setCap_5 rfl rfl rfl (by simp) rfl rfl rfl
theorem wX0_setCap_8 (hE : PMon E) : Wa E mX0_setCap 8 L (.int x :: S) h r d Q = Wa E mX0_setCap 9 L (.long x.toInt64 :: S) h r d Q := sA_i2l hE dX0_setCap_8 rfl
theorem wX0_setCap_9 (hE : PMon E) : Wa E mX0_setCap 9 L (v :: .int i :: .ref a :: S) h r d Q = APa E mX0_setCap (h a) 901 isL a i v 10 L S h r d Q := sA_lastore hE dX0_setCap_9 rfl
theorem wX0_setCap_10 (hE : PMon E) : Wa E mX0_setCap 10 L S h r d Q = Wa E mX0_setCap 17 L S h r d Q := sA_goto hE dX0_setCap_10 rfl (by decide) (by decide)
theorem wX0_setCap_13 (hE : PMon E) : Wa E mX0_setCap 13 [l0, l1, l2, l3, l4] (v :: S) h r d Q = (isR v = true ∧ Wa E mX0_setCap 15 [l0, l1, l2, c2 l3, v] S h r d Q) := sA_astore hE dX0_setCap_13 rfl (by show 4 < 5; decide) st1_5_4
theorem wX0_setCap_15 (hE : PMon E) : Wa E mX0_setCap 15 L S h r d Q = Wa E mX0_setCap 16 L (.int 1 :: S) h r d Q := sA_iconst hE dX0_setCap_15 rfl (by decide)
theorem wX0_setCap_16 (hE : PMon E) : Wa E mX0_setCap 16 L [.int x] h r d Q = Q (.inl (some (.int x))) h r := sA_ireturn hE dX0_setCap_16 rfl
theorem wX0_setCap_17 (hE : PMon E) : Wa E mX0_setCap 17 L S h r d Q = Wa E mX0_setCap 18 L (.int 0 :: S) h r d Q := sA_iconst hE dX0_setCap_17 rfl (by decide)
theorem wX0_setCap_18 (hE : PMon E) : Wa E mX0_setCap 18 L [.int x] h r d Q = Q (.inl (some (.int x))) h r := sA_ireturn hE dX0_setCap_18 rfl
abbrev cX0_setBounds : ByteArray := method_12_code
def dkwX0_setBounds_0 : List UInt8 := [25, 4, 3, 42, 27, 28, 29, 182, 0, 51, 133, 80, 167, 0, 7, 58, 5, 4, 172, 3, 172]
abbrev dktX0_setBounds_0 : List UInt8 := dkwX0_setBounds_0 ++ []
theorem dksX0_setBounds_0 : cX0_setBounds.data.toList.drop 0 = dktX0_setBounds_0 := by decide +kernel
theorem dX0_setBounds_0 : decode cX0_setBounds 0 = .ok (.aload 4, 2) := dk_25 4 (dk_at dksX0_setBounds_0 0 rfl rfl)
theorem dX0_setBounds_2 : decode cX0_setBounds 2 = .ok (.iconst 0, 1) := dk_3 (dk_at dksX0_setBounds_0 2 rfl rfl)
theorem dX0_setBounds_3 : decode cX0_setBounds 3 = .ok (.aload_n 0, 1) := dk_42 (dk_at dksX0_setBounds_0 3 rfl rfl)
theorem dX0_setBounds_4 : decode cX0_setBounds 4 = .ok (.iload_n 1, 1) := dk_27 (dk_at dksX0_setBounds_0 4 rfl rfl)
theorem dX0_setBounds_5 : decode cX0_setBounds 5 = .ok (.iload_n 2, 1) := dk_28 (dk_at dksX0_setBounds_0 5 rfl rfl)
theorem dX0_setBounds_6 : decode cX0_setBounds 6 = .ok (.iload_n 3, 1) := dk_29 (dk_at dksX0_setBounds_0 6 rfl rfl)
theorem dX0_setBounds_7 : decode cX0_setBounds 7 = .ok (.invokevirtual 51, 3) := dk_182 0 51 (dk_at dksX0_setBounds_0 7 rfl rfl)
theorem dX0_setBounds_10 : decode cX0_setBounds 10 = .ok (.i2l, 1) := dk_133 (dk_at dksX0_setBounds_0 10 rfl rfl)
theorem dX0_setBounds_11 : decode cX0_setBounds 11 = .ok (.lastore, 1) := dk_80 (dk_at dksX0_setBounds_0 11 rfl rfl)
theorem dX0_setBounds_12 : decode cX0_setBounds 12 = .ok (.goto 7, 3) := dk_167 0 7 (dk_at dksX0_setBounds_0 12 rfl rfl)
theorem dX0_setBounds_15 : decode cX0_setBounds 15 = .ok (.astore 5, 2) := dk_58 5 (dk_at dksX0_setBounds_0 15 rfl rfl)
theorem dX0_setBounds_17 : decode cX0_setBounds 17 = .ok (.iconst 1, 1) := dk_4 (dk_at dksX0_setBounds_0 17 rfl rfl)
theorem dX0_setBounds_18 : decode cX0_setBounds 18 = .ok (.ireturn, 1) := dk_172 (dk_at dksX0_setBounds_0 18 rfl rfl)
theorem dX0_setBounds_19 : decode cX0_setBounds 19 = .ok (.iconst 0, 1) := dk_3 (dk_at dksX0_setBounds_0 19 rfl rfl)
theorem dX0_setBounds_20 : decode cX0_setBounds 20 = .ok (.ireturn, 1) := dk_172 (dk_at dksX0_setBounds_0 20 rfl rfl)
theorem wX0_setBounds_0 (hE : PMon E) : Wa E mX0_setBounds 0 [l0, l1, l2, l3, l4, l5] S h r d Q = (isR l4 = true ∧ Wa E mX0_setBounds 2 [l0, l1, l2, l3, l4, l5] (l4 :: S) h r d Q) := sA_aload hE dX0_setBounds_0 rfl rfl
theorem wX0_setBounds_2 (hE : PMon E) : Wa E mX0_setBounds 2 L S h r d Q = Wa E mX0_setBounds 3 L (.int 0 :: S) h r d Q := sA_iconst hE dX0_setBounds_2 rfl (by decide)
theorem wX0_setBounds_3 (hE : PMon E) : Wa E mX0_setBounds 3 [l0, l1, l2, l3, l4, l5] S h r d Q = (isR l0 = true ∧ Wa E mX0_setBounds 4 [l0, l1, l2, l3, l4, l5] (l0 :: S) h r d Q) := sA_aload_n hE dX0_setBounds_3 rfl rfl
theorem wX0_setBounds_4 (hE : PMon E) : Wa E mX0_setBounds 4 [l0, l1, l2, l3, l4, l5] S h r d Q = (isI l1 = true ∧ Wa E mX0_setBounds 5 [l0, l1, l2, l3, l4, l5] (l1 :: S) h r d Q) := sA_iload_n hE dX0_setBounds_4 rfl rfl
theorem wX0_setBounds_5 (hE : PMon E) : Wa E mX0_setBounds 5 [l0, l1, l2, l3, l4, l5] S h r d Q = (isI l2 = true ∧ Wa E mX0_setBounds 6 [l0, l1, l2, l3, l4, l5] (l2 :: S) h r d Q) := sA_iload_n hE dX0_setBounds_5 rfl rfl
theorem wX0_setBounds_6 (hE : PMon E) : Wa E mX0_setBounds 6 [l0, l1, l2, l3, l4, l5] S h r d Q = (isI l3 = true ∧ Wa E mX0_setBounds 7 [l0, l1, l2, l3, l4, l5] (l3 :: S) h r d Q) := sA_iload_n hE dX0_setBounds_6 rfl rfl
theorem wX0_setBounds_7 (hE : PMon E) : Wa E mX0_setBounds 7 L (v3 :: v2 :: v1 :: .ref a :: S) h r d Q = Cla E mX0_setBounds (E.1 0 1 51 (kdo (h a))) [.ref a, v1, v2, v3] 7 10 L S h r d Q := sA_invokevirtual hE dX0_setBounds_7 rfl rfl rfl (by simp) rfl rfl rfl
theorem wX0_setBounds_10 (hE : PMon E) : Wa E mX0_setBounds 10 L (.int x :: S) h r d Q = Wa E mX0_setBounds 11 L (.long x.toInt64 :: S) h r d Q := sA_i2l hE dX0_setBounds_10 rfl
theorem wX0_setBounds_11 (hE : PMon E) : Wa E mX0_setBounds 11 L (v :: .int i :: .ref a :: S) h r d Q = APa E mX0_setBounds (h a) 901 isL a i v 12 L S h r d Q := sA_lastore hE dX0_setBounds_11 rfl
theorem wX0_setBounds_12 (hE : PMon E) : Wa E mX0_setBounds 12 L S h r d Q = Wa E mX0_setBounds 19 L S h r d Q := sA_goto hE dX0_setBounds_12 rfl (by decide) (by decide)
theorem wX0_setBounds_15 (hE : PMon E) : Wa E mX0_setBounds 15 [l0, l1, l2, l3, l4, l5] (v :: S) h r d Q = (isR v = true ∧ Wa E mX0_setBounds 17 [l0, l1, l2, l3, c2 l4, v] S h r d Q) := sA_astore hE dX0_setBounds_15 rfl (by show 5 < 6; decide) st1_6_5
theorem wX0_setBounds_17 (hE : PMon E) : Wa E mX0_setBounds 17 L S h r d Q = Wa E mX0_setBounds 18 L (.int 1 :: S) h r d Q := sA_iconst hE dX0_setBounds_17 rfl (by decide)
theorem wX0_setBounds_18 (hE : PMon E) : Wa E mX0_setBounds 18 L [.int x] h r d Q = Q (.inl (some (.int x))) h r := sA_ireturn hE dX0_setBounds_18 rfl
theorem wX0_setBounds_19 (hE : PMon E) : Wa E mX0_setBounds 19 L S h r d Q = Wa E mX0_setBounds 20 L (.int 0 :: S) h r d Q := sA_iconst hE dX0_setBounds_19 rfl (by decide)
theorem wX0_setBounds_20 (hE : PMon E) : Wa E mX0_setBounds 20 L [.int x] h r d Q = Q (.inl (some (.int x))) h r := sA_ireturn hE dX0_setBounds_20 rfl
abbrev cX0_bid : ByteArray := method_13_code
def dkwX0_bid_1 : List UInt8 := [58, 5, 6, 172, 58, 5, 7, 172, 3, 172]
abbrev dktX0_bid_1 : List UInt8 := dkwX0_bid_1 ++ []
def dkwX0_bid_0 : List UInt8 := [25, 4, 3, 42, 27, 28, 29, 182, 0, 54, 133, 80, 167, 0, 19, 58, 5, 4, 172, 58, 5, 5, 172]
abbrev dktX0_bid_0 : List UInt8 := dkwX0_bid_0 ++ dktX0_bid_1
theorem dksX0_bid_0 : cX0_bid.data.toList.drop 0 = dktX0_bid_0 := by decide +kernel
theorem dksX0_bid_1 : cX0_bid.data.toList.drop 23 = dktX0_bid_1 := dk_seg dksX0_bid_0 23 rfl rfl
theorem dX0_bid_0 : decode cX0_bid 0 = .ok (.aload 4, 2) := dk_25 4 (dk_at dksX0_bid_0 0 rfl rfl)
theorem dX0_bid_2 : decode cX0_bid 2 = .ok (.iconst 0, 1) := dk_3 (dk_at dksX0_bid_0 2 rfl rfl)
theorem dX0_bid_3 : decode cX0_bid 3 = .ok (.aload_n 0, 1) := dk_42 (dk_at dksX0_bid_0 3 rfl rfl)
theorem dX0_bid_4 : decode cX0_bid 4 = .ok (.iload_n 1, 1) := dk_27 (dk_at dksX0_bid_0 4 rfl rfl)
theorem dX0_bid_5 : decode cX0_bid 5 = .ok (.iload_n 2, 1) := dk_28 (dk_at dksX0_bid_0 5 rfl rfl)
theorem dX0_bid_6 : decode cX0_bid 6 = .ok (.iload_n 3, 1) := dk_29 (dk_at dksX0_bid_0 6 rfl rfl)
theorem dX0_bid_7 : decode cX0_bid 7 = .ok (.invokevirtual 54, 3) := dk_182 0 54 (dk_at dksX0_bid_0 7 rfl rfl)
theorem dX0_bid_10 : decode cX0_bid 10 = .ok (.i2l, 1) := dk_133 (dk_at dksX0_bid_0 10 rfl rfl)
theorem dX0_bid_11 : decode cX0_bid 11 = .ok (.lastore, 1) := dk_80 (dk_at dksX0_bid_0 11 rfl rfl)
theorem dX0_bid_12 : decode cX0_bid 12 = .ok (.goto 19, 3) := dk_167 0 19 (dk_at dksX0_bid_0 12 rfl rfl)
theorem dX0_bid_15 : decode cX0_bid 15 = .ok (.astore 5, 2) := dk_58 5 (dk_at dksX0_bid_0 15 rfl rfl)
theorem dX0_bid_17 : decode cX0_bid 17 = .ok (.iconst 1, 1) := dk_4 (dk_at dksX0_bid_0 17 rfl rfl)
theorem dX0_bid_18 : decode cX0_bid 18 = .ok (.ireturn, 1) := dk_172 (dk_at dksX0_bid_0 18 rfl rfl)
theorem dX0_bid_19 : decode cX0_bid 19 = .ok (.astore 5, 2) := dk_58 5 (dk_at dksX0_bid_0 19 rfl rfl)
theorem dX0_bid_21 : decode cX0_bid 21 = .ok (.iconst 2, 1) := dk_5 (dk_at dksX0_bid_0 21 rfl rfl)
theorem dX0_bid_22 : decode cX0_bid 22 = .ok (.ireturn, 1) := dk_172 (dk_at dksX0_bid_0 22 rfl rfl)
theorem dX0_bid_23 : decode cX0_bid 23 = .ok (.astore 5, 2) := dk_58 5 (dk_at dksX0_bid_1 0 rfl rfl)
theorem dX0_bid_25 : decode cX0_bid 25 = .ok (.iconst 3, 1) := dk_6 (dk_at dksX0_bid_1 2 rfl rfl)
theorem dX0_bid_26 : decode cX0_bid 26 = .ok (.ireturn, 1) := dk_172 (dk_at dksX0_bid_1 3 rfl rfl)
theorem dX0_bid_27 : decode cX0_bid 27 = .ok (.astore 5, 2) := dk_58 5 (dk_at dksX0_bid_1 4 rfl rfl)
theorem dX0_bid_29 : decode cX0_bid 29 = .ok (.iconst 4, 1) := dk_7 (dk_at dksX0_bid_1 6 rfl rfl)
theorem dX0_bid_30 : decode cX0_bid 30 = .ok (.ireturn, 1) := dk_172 (dk_at dksX0_bid_1 7 rfl rfl)
theorem dX0_bid_31 : decode cX0_bid 31 = .ok (.iconst 0, 1) := dk_3 (dk_at dksX0_bid_1 8 rfl rfl)
theorem dX0_bid_32 : decode cX0_bid 32 = .ok (.ireturn, 1) := dk_172 (dk_at dksX0_bid_1 9 rfl rfl)
theorem wX0_bid_0 (hE : PMon E) : Wa E mX0_bid 0 [l0, l1, l2, l3, l4, l5] S h r d Q = (isR l4 = true ∧ Wa E mX0_bid 2 [l0, l1, l2, l3, l4, l5] (l4 :: S) h r d Q) := sA_aload hE dX0_bid_0 rfl rfl
theorem wX0_bid_2 (hE : PMon E) : Wa E mX0_bid 2 L S h r d Q = Wa E mX0_bid 3 L (.int 0 :: S) h r d Q := sA_iconst hE dX0_bid_2 rfl (by decide)
theorem wX0_bid_3 (hE : PMon E) : Wa E mX0_bid 3 [l0, l1, l2, l3, l4, l5] S h r d Q = (isR l0 = true ∧ Wa E mX0_bid 4 [l0, l1, l2, l3, l4, l5] (l0 :: S) h r d Q) := sA_aload_n hE dX0_bid_3 rfl rfl
theorem wX0_bid_4 (hE : PMon E) : Wa E mX0_bid 4 [l0, l1, l2, l3, l4, l5] S h r d Q = (isI l1 = true ∧ Wa E mX0_bid 5 [l0, l1, l2, l3, l4, l5] (l1 :: S) h r d Q) := sA_iload_n hE dX0_bid_4 rfl rfl
theorem wX0_bid_5 (hE : PMon E) : Wa E mX0_bid 5 [l0, l1, l2, l3, l4, l5] S h r d Q = (isI l2 = true ∧ Wa E mX0_bid 6 [l0, l1, l2, l3, l4, l5] (l2 :: S) h r d Q) := sA_iload_n hE dX0_bid_5 rfl rfl
theorem wX0_bid_6 (hE : PMon E) : Wa E mX0_bid 6 [l0, l1, l2, l3, l4, l5] S h r d Q = (isI l3 = true ∧ Wa E mX0_bid 7 [l0, l1, l2, l3, l4, l5] (l3 :: S) h r d Q) := sA_iload_n hE dX0_bid_6 rfl rfl
theorem wX0_bid_7 (hE : PMon E) : Wa E mX0_bid 7 L (v3 :: v2 :: v1 :: .ref a :: S) h r d Q = Cla E mX0_bid (E.1 0 1 54 (kdo (h a))) [.ref a, v1, v2, v3] 7 10 L S h r d Q := sA_invokevirtual hE dX0_bid_7 rfl rfl rfl (by simp) rfl rfl rfl
theorem wX0_bid_10 (hE : PMon E) : Wa E mX0_bid 10 L (.int x :: S) h r d Q = Wa E mX0_bid 11 L (.long x.toInt64 :: S) h r d Q := sA_i2l hE dX0_bid_10 rfl
theorem wX0_bid_11 (hE : PMon E) : Wa E mX0_bid 11 L (v :: .int i :: .ref a :: S) h r d Q = APa E mX0_bid (h a) 901 isL a i v 12 L S h r d Q := sA_lastore hE dX0_bid_11 rfl
theorem wX0_bid_12 (hE : PMon E) : Wa E mX0_bid 12 L S h r d Q = Wa E mX0_bid 31 L S h r d Q := sA_goto hE dX0_bid_12 rfl (by decide) (by decide)
theorem wX0_bid_15 (hE : PMon E) : Wa E mX0_bid 15 [l0, l1, l2, l3, l4, l5] (v :: S) h r d Q = (isR v = true ∧ Wa E mX0_bid 17 [l0, l1, l2, l3, c2 l4, v] S h r d Q) := sA_astore hE dX0_bid_15 rfl (by show 5 < 6; decide) st1_6_5
theorem wX0_bid_17 (hE : PMon E) : Wa E mX0_bid 17 L S h r d Q = Wa E mX0_bid 18 L (.int 1 :: S) h r d Q := sA_iconst hE dX0_bid_17 rfl (by decide)
theorem wX0_bid_18 (hE : PMon E) : Wa E mX0_bid 18 L [.int x] h r d Q = Q (.inl (some (.int x))) h r := sA_ireturn hE dX0_bid_18 rfl
theorem wX0_bid_19 (hE : PMon E) : Wa E mX0_bid 19 [l0, l1, l2, l3, l4, l5] (v :: S) h r d Q = (isR v = true ∧ Wa E mX0_bid 21 [l0, l1, l2, l3, c2 l4, v] S h r d Q) := sA_astore hE dX0_bid_19 rfl (by show 5 < 6; decide) st1_6_5
theorem wX0_bid_21 (hE : PMon E) : Wa E mX0_bid 21 L S h r d Q = Wa E mX0_bid 22 L (.int 2 :: S) h r d Q := sA_iconst hE dX0_bid_21 rfl (by decide)
theorem wX0_bid_22 (hE : PMon E) : Wa E mX0_bid 22 L [.int x] h r d Q = Q (.inl (some (.int x))) h r := sA_ireturn hE dX0_bid_22 rfl
theorem wX0_bid_23 (hE : PMon E) : Wa E mX0_bid 23 [l0, l1, l2, l3, l4, l5] (v :: S) h r d Q = (isR v = true ∧ Wa E mX0_bid 25 [l0, l1, l2, l3, c2 l4, v] S h r d Q) := sA_astore hE dX0_bid_23 rfl (by show 5 < 6; decide) st1_6_5
theorem wX0_bid_25 (hE : PMon E) : Wa E mX0_bid 25 L S h r d Q = Wa E mX0_bid 26 L (.int 3 :: S) h r d Q := sA_iconst hE dX0_bid_25 rfl (by decide)
theorem wX0_bid_26 (hE : PMon E) : Wa E mX0_bid 26 L [.int x] h r d Q = Q (.inl (some (.int x))) h r := sA_ireturn hE dX0_bid_26 rfl
theorem wX0_bid_27 (hE : PMon E) : Wa E mX0_bid 27 [l0, l1, l2, l3, l4, l5] (v :: S) h r d Q = (isR v = true ∧ Wa E mX0_bid 29 [l0, l1, l2, l3, c2 l4, v] S h r d Q) := sA_astore hE dX0_bid_27 rfl (by show 5 < 6; decide) st1_6_5
theorem wX0_bid_29 (hE : PMon E) : Wa E mX0_bid 29 L S h r d Q = Wa E mX0_bid 30 L (.int 4 :: S) h r d Q := sA_iconst hE dX0_bid_29 rfl (by decide)
theorem wX0_bid_30 (hE : PMon E) : Wa E mX0_bid 30 L [.int x] h r d Q = Q (.inl (some (.int x))) h r := sA_ireturn hE dX0_bid_30 rfl
theorem wX0_bid_31 (hE : PMon E) : Wa E mX0_bid 31 L S h r d Q = Wa E mX0_bid 32 L (.int 0 :: S) h r d Q := sA_iconst hE dX0_bid_31 rfl (by decide)
theorem wX0_bid_32 (hE : PMon E) : Wa E mX0_bid 32 L [.int x] h r d Q = Q (.inl (some (.int x))) h r := sA_ireturn hE dX0_bid_32 rfl
abbrev cX0_auction : ByteArray := method_14_code
def dkwX0_auction_0 : List UInt8 := [45, 3, 42, 27, 28, 182, 0, 57, 133, 80, 167, 0, 11, 58, 4, 4, 172, 58, 4, 5, 172, 3, 172]
abbrev dktX0_auction_0 : List UInt8 := dkwX0_auction_0 ++ []
theorem dksX0_auction_0 : cX0_auction.data.toList.drop 0 = dktX0_auction_0 := by decide +kernel
theorem dX0_auction_0 : decode cX0_auction 0 = .ok (.aload_n 3, 1) := dk_45 (dk_at dksX0_auction_0 0 rfl rfl)
theorem dX0_auction_1 : decode cX0_auction 1 = .ok (.iconst 0, 1) := dk_3 (dk_at dksX0_auction_0 1 rfl rfl)
theorem dX0_auction_2 : decode cX0_auction 2 = .ok (.aload_n 0, 1) := dk_42 (dk_at dksX0_auction_0 2 rfl rfl)
theorem dX0_auction_3 : decode cX0_auction 3 = .ok (.iload_n 1, 1) := dk_27 (dk_at dksX0_auction_0 3 rfl rfl)
theorem dX0_auction_4 : decode cX0_auction 4 = .ok (.iload_n 2, 1) := dk_28 (dk_at dksX0_auction_0 4 rfl rfl)
theorem dX0_auction_5 : decode cX0_auction 5 = .ok (.invokevirtual 57, 3) := dk_182 0 57 (dk_at dksX0_auction_0 5 rfl rfl)
theorem dX0_auction_8 : decode cX0_auction 8 = .ok (.i2l, 1) := dk_133 (dk_at dksX0_auction_0 8 rfl rfl)
theorem dX0_auction_9 : decode cX0_auction 9 = .ok (.lastore, 1) := dk_80 (dk_at dksX0_auction_0 9 rfl rfl)
theorem dX0_auction_10 : decode cX0_auction 10 = .ok (.goto 11, 3) := dk_167 0 11 (dk_at dksX0_auction_0 10 rfl rfl)
theorem dX0_auction_13 : decode cX0_auction 13 = .ok (.astore 4, 2) := dk_58 4 (dk_at dksX0_auction_0 13 rfl rfl)
theorem dX0_auction_15 : decode cX0_auction 15 = .ok (.iconst 1, 1) := dk_4 (dk_at dksX0_auction_0 15 rfl rfl)
theorem dX0_auction_16 : decode cX0_auction 16 = .ok (.ireturn, 1) := dk_172 (dk_at dksX0_auction_0 16 rfl rfl)
theorem dX0_auction_17 : decode cX0_auction 17 = .ok (.astore 4, 2) := dk_58 4 (dk_at dksX0_auction_0 17 rfl rfl)
theorem dX0_auction_19 : decode cX0_auction 19 = .ok (.iconst 2, 1) := dk_5 (dk_at dksX0_auction_0 19 rfl rfl)
theorem dX0_auction_20 : decode cX0_auction 20 = .ok (.ireturn, 1) := dk_172 (dk_at dksX0_auction_0 20 rfl rfl)
theorem dX0_auction_21 : decode cX0_auction 21 = .ok (.iconst 0, 1) := dk_3 (dk_at dksX0_auction_0 21 rfl rfl)
theorem dX0_auction_22 : decode cX0_auction 22 = .ok (.ireturn, 1) := dk_172 (dk_at dksX0_auction_0 22 rfl rfl)
theorem wX0_auction_0 (hE : PMon E) : Wa E mX0_auction 0 [l0, l1, l2, l3, l4] S h r d Q = (isR l3 = true ∧ Wa E mX0_auction 1 [l0, l1, l2, l3, l4] (l3 :: S) h r d Q) := sA_aload_n hE dX0_auction_0 rfl rfl
theorem wX0_auction_1 (hE : PMon E) : Wa E mX0_auction 1 L S h r d Q = Wa E mX0_auction 2 L (.int 0 :: S) h r d Q := sA_iconst hE dX0_auction_1 rfl (by decide)
theorem wX0_auction_2 (hE : PMon E) : Wa E mX0_auction 2 [l0, l1, l2, l3, l4] S h r d Q = (isR l0 = true ∧ Wa E mX0_auction 3 [l0, l1, l2, l3, l4] (l0 :: S) h r d Q) := sA_aload_n hE dX0_auction_2 rfl rfl
theorem wX0_auction_3 (hE : PMon E) : Wa E mX0_auction 3 [l0, l1, l2, l3, l4] S h r d Q = (isI l1 = true ∧ Wa E mX0_auction 4 [l0, l1, l2, l3, l4] (l1 :: S) h r d Q) := sA_iload_n hE dX0_auction_3 rfl rfl
theorem wX0_auction_4 (hE : PMon E) : Wa E mX0_auction 4 [l0, l1, l2, l3, l4] S h r d Q = (isI l2 = true ∧ Wa E mX0_auction 5 [l0, l1, l2, l3, l4] (l2 :: S) h r d Q) := sA_iload_n hE dX0_auction_4 rfl rfl
theorem wX0_auction_5 (hE : PMon E) : Wa E mX0_auction 5 L (v2 :: v1 :: .ref a :: S) h r d Q = Cla E mX0_auction (E.1 0 1 57 (kdo (h a))) [.ref a, v1, v2] 5 8 L S h r d Q := sA_invokevirtual hE dX0_auction_5 rfl rfl rfl (by simp) rfl rfl rfl
theorem wX0_auction_8 (hE : PMon E) : Wa E mX0_auction 8 L (.int x :: S) h r d Q = Wa E mX0_auction 9 L (.long x.toInt64 :: S) h r d Q := sA_i2l hE dX0_auction_8 rfl
theorem wX0_auction_9 (hE : PMon E) : Wa E mX0_auction 9 L (v :: .int i :: .ref a :: S) h r d Q = APa E mX0_auction (h a) 901 isL a i v 10 L S h r d Q := sA_lastore hE dX0_auction_9 rfl
theorem wX0_auction_10 (hE : PMon E) : Wa E mX0_auction 10 L S h r d Q = Wa E mX0_auction 21 L S h r d Q := sA_goto hE dX0_auction_10 rfl (by decide) (by decide)
theorem wX0_auction_13 (hE : PMon E) : Wa E mX0_auction 13 [l0, l1, l2, l3, l4] (v :: S) h r d Q = (isR v = true ∧ Wa E mX0_auction 15 [l0, l1, l2, c2 l3, v] S h r d Q) := sA_astore hE dX0_auction_13 rfl (by show 4 < 5; decide) st1_5_4
theorem wX0_auction_15 (hE : PMon E) : Wa E mX0_auction 15 L S h r d Q = Wa E mX0_auction 16 L (.int 1 :: S) h r d Q := sA_iconst hE dX0_auction_15 rfl (by decide)
theorem wX0_auction_16 (hE : PMon E) : Wa E mX0_auction 16 L [.int x] h r d Q = Q (.inl (some (.int x))) h r := sA_ireturn hE dX0_auction_16 rfl
theorem wX0_auction_17 (hE : PMon E) : Wa E mX0_auction 17 [l0, l1, l2, l3, l4] (v :: S) h r d Q = (isR v = true ∧ Wa E mX0_auction 19 [l0, l1, l2, c2 l3, v] S h r d Q) := sA_astore hE dX0_auction_17 rfl (by show 4 < 5; decide) st1_5_4
theorem wX0_auction_19 (hE : PMon E) : Wa E mX0_auction 19 L S h r d Q = Wa E mX0_auction 20 L (.int 2 :: S) h r d Q := sA_iconst hE dX0_auction_19 rfl (by decide)
theorem wX0_auction_20 (hE : PMon E) : Wa E mX0_auction 20 L [.int x] h r d Q = Q (.inl (some (.int x))) h r := sA_ireturn hE dX0_auction_20 rfl
theorem wX0_auction_21 (hE : PMon E) : Wa E mX0_auction 21 L S h r d Q = Wa E mX0_auction 22 L (.int 0 :: S) h r d Q := sA_iconst hE dX0_auction_21 rfl (by decide)
theorem wX0_auction_22 (hE : PMon E) : Wa E mX0_auction 22 L [.int x] h r d Q = Q (.inl (some (.int x))) h r := sA_ireturn hE dX0_auction_22 rfl
abbrev cX0_price : ByteArray := method_15_code
def dkwX0_price_0 : List UInt8 := [43, 3, 42, 182, 0, 60, 133, 80, 167, 0, 6, 77, 4, 172, 3, 172]
abbrev dktX0_price_0 : List UInt8 := dkwX0_price_0 ++ []
theorem dksX0_price_0 : cX0_price.data.toList.drop 0 = dktX0_price_0 := by decide +kernel
theorem dX0_price_0 : decode cX0_price 0 = .ok (.aload_n 1, 1) := dk_43 (dk_at dksX0_price_0 0 rfl rfl)
theorem dX0_price_1 : decode cX0_price 1 = .ok (.iconst 0, 1) := dk_3 (dk_at dksX0_price_0 1 rfl rfl)
theorem dX0_price_2 : decode cX0_price 2 = .ok (.aload_n 0, 1) := dk_42 (dk_at dksX0_price_0 2 rfl rfl)
theorem dX0_price_3 : decode cX0_price 3 = .ok (.invokevirtual 60, 3) := dk_182 0 60 (dk_at dksX0_price_0 3 rfl rfl)
theorem dX0_price_6 : decode cX0_price 6 = .ok (.i2l, 1) := dk_133 (dk_at dksX0_price_0 6 rfl rfl)
theorem dX0_price_7 : decode cX0_price 7 = .ok (.lastore, 1) := dk_80 (dk_at dksX0_price_0 7 rfl rfl)
theorem dX0_price_8 : decode cX0_price 8 = .ok (.goto 6, 3) := dk_167 0 6 (dk_at dksX0_price_0 8 rfl rfl)
theorem dX0_price_11 : decode cX0_price 11 = .ok (.astore_n 2, 1) := dk_77 (dk_at dksX0_price_0 11 rfl rfl)
theorem dX0_price_12 : decode cX0_price 12 = .ok (.iconst 1, 1) := dk_4 (dk_at dksX0_price_0 12 rfl rfl)
theorem dX0_price_13 : decode cX0_price 13 = .ok (.ireturn, 1) := dk_172 (dk_at dksX0_price_0 13 rfl rfl)
theorem dX0_price_14 : decode cX0_price 14 = .ok (.iconst 0, 1) := dk_3 (dk_at dksX0_price_0 14 rfl rfl)
theorem dX0_price_15 : decode cX0_price 15 = .ok (.ireturn, 1) := dk_172 (dk_at dksX0_price_0 15 rfl rfl)
theorem wX0_price_0 (hE : PMon E) : Wa E mX0_price 0 [l0, l1, l2] S h r d Q = (isR l1 = true ∧ Wa E mX0_price 1 [l0, l1, l2] (l1 :: S) h r d Q) := sA_aload_n hE dX0_price_0 rfl rfl
theorem wX0_price_1 (hE : PMon E) : Wa E mX0_price 1 L S h r d Q = Wa E mX0_price 2 L (.int 0 :: S) h r d Q := sA_iconst hE dX0_price_1 rfl (by decide)
theorem wX0_price_2 (hE : PMon E) : Wa E mX0_price 2 [l0, l1, l2] S h r d Q = (isR l0 = true ∧ Wa E mX0_price 3 [l0, l1, l2] (l0 :: S) h r d Q) := sA_aload_n hE dX0_price_2 rfl rfl
theorem wX0_price_3 (hE : PMon E) : Wa E mX0_price 3 L (.ref a :: S) h r d Q = Cla E mX0_price (E.1 0 1 60 (kdo (h a))) [.ref a] 3 6 L S h r d Q := sA_invokevirtual hE dX0_price_3 rfl rfl rfl (by simp) rfl rfl rfl
theorem wX0_price_6 (hE : PMon E) : Wa E mX0_price 6 L (.int x :: S) h r d Q = Wa E mX0_price 7 L (.long x.toInt64 :: S) h r d Q := sA_i2l hE dX0_price_6 rfl
theorem wX0_price_7 (hE : PMon E) : Wa E mX0_price 7 L (v :: .int i :: .ref a :: S) h r d Q = APa E mX0_price (h a) 901 isL a i v 8 L S h r d Q := sA_lastore hE dX0_price_7 rfl
theorem wX0_price_8 (hE : PMon E) : Wa E mX0_price 8 L S h r d Q = Wa E mX0_price 14 L S h r d Q := sA_goto hE dX0_price_8 rfl (by decide) (by decide)
theorem wX0_price_11 (hE : PMon E) : Wa E mX0_price 11 [l0, l1, l2] (v :: S) h r d Q = (isR v = true ∧ Wa E mX0_price 12 [l0, c2 l1, v] S h r d Q) := sA_astore_n hE dX0_price_11 rfl (by show 2 < 3; decide) st1_3_2
theorem wX0_price_12 (hE : PMon E) : Wa E mX0_price 12 L S h r d Q = Wa E mX0_price 13 L (.int 1 :: S) h r d Q := sA_iconst hE dX0_price_12 rfl (by decide)
theorem wX0_price_13 (hE : PMon E) : Wa E mX0_price 13 L [.int x] h r d Q = Q (.inl (some (.int x))) h r := sA_ireturn hE dX0_price_13 rfl
theorem wX0_price_14 (hE : PMon E) : Wa E mX0_price 14 L S h r d Q = Wa E mX0_price 15 L (.int 0 :: S) h r d Q := sA_iconst hE dX0_price_14 rfl (by decide)
theorem wX0_price_15 (hE : PMon E) : Wa E mX0_price 15 L [.int x] h r d Q = Q (.inl (some (.int x))) h r := sA_ireturn hE dX0_price_15 rfl
abbrev cX0_transfer : ByteArray := method_16_code
def dkwX0_transfer_1 : List UInt8 := [172, 58, 6, 6, 172, 58, 6, 7, 172, 3, 172]
abbrev dktX0_transfer_1 : List UInt8 := dkwX0_transfer_1 ++ []
def dkwX0_transfer_0 : List UInt8 := [25, 5, 3, 42, 27, 28, 29, 21, 4, 182, 0, 64, 133, 80, 167, 0, 19, 58, 6, 4, 172, 58, 6, 5]
abbrev dktX0_transfer_0 : List UInt8 := dkwX0_transfer_0 ++ dktX0_transfer_1
theorem dksX0_transfer_0 : cX0_transfer.data.toList.drop 0 = dktX0_transfer_0 := by decide +kernel
theorem dksX0_transfer_1 : cX0_transfer.data.toList.drop 24 = dktX0_transfer_1 := dk_seg dksX0_transfer_0 24 rfl rfl
theorem dX0_transfer_0 : decode cX0_transfer 0 = .ok (.aload 5, 2) := dk_25 5 (dk_at dksX0_transfer_0 0 rfl rfl)
theorem dX0_transfer_2 : decode cX0_transfer 2 = .ok (.iconst 0, 1) := dk_3 (dk_at dksX0_transfer_0 2 rfl rfl)
theorem dX0_transfer_3 : decode cX0_transfer 3 = .ok (.aload_n 0, 1) := dk_42 (dk_at dksX0_transfer_0 3 rfl rfl)
theorem dX0_transfer_4 : decode cX0_transfer 4 = .ok (.iload_n 1, 1) := dk_27 (dk_at dksX0_transfer_0 4 rfl rfl)
theorem dX0_transfer_5 : decode cX0_transfer 5 = .ok (.iload_n 2, 1) := dk_28 (dk_at dksX0_transfer_0 5 rfl rfl)
theorem dX0_transfer_6 : decode cX0_transfer 6 = .ok (.iload_n 3, 1) := dk_29 (dk_at dksX0_transfer_0 6 rfl rfl)
theorem dX0_transfer_7 : decode cX0_transfer 7 = .ok (.iload 4, 2) := dk_21 4 (dk_at dksX0_transfer_0 7 rfl rfl)
theorem dX0_transfer_9 : decode cX0_transfer 9 = .ok (.invokevirtual 64, 3) := dk_182 0 64 (dk_at dksX0_transfer_0 9 rfl rfl)
theorem dX0_transfer_12 : decode cX0_transfer 12 = .ok (.i2l, 1) := dk_133 (dk_at dksX0_transfer_0 12 rfl rfl)
theorem dX0_transfer_13 : decode cX0_transfer 13 = .ok (.lastore, 1) := dk_80 (dk_at dksX0_transfer_0 13 rfl rfl)
theorem dX0_transfer_14 : decode cX0_transfer 14 = .ok (.goto 19, 3) := dk_167 0 19 (dk_at dksX0_transfer_0 14 rfl rfl)
theorem dX0_transfer_17 : decode cX0_transfer 17 = .ok (.astore 6, 2) := dk_58 6 (dk_at dksX0_transfer_0 17 rfl rfl)
theorem dX0_transfer_19 : decode cX0_transfer 19 = .ok (.iconst 1, 1) := dk_4 (dk_at dksX0_transfer_0 19 rfl rfl)
theorem dX0_transfer_20 : decode cX0_transfer 20 = .ok (.ireturn, 1) := dk_172 (dk_at dksX0_transfer_0 20 rfl rfl)
theorem dX0_transfer_21 : decode cX0_transfer 21 = .ok (.astore 6, 2) := dk_58 6 (dk_at dksX0_transfer_0 21 rfl rfl)
theorem dX0_transfer_23 : decode cX0_transfer 23 = .ok (.iconst 2, 1) := dk_5 (dk_at dksX0_transfer_0 23 rfl rfl)
theorem dX0_transfer_24 : decode cX0_transfer 24 = .ok (.ireturn, 1) := dk_172 (dk_at dksX0_transfer_1 0 rfl rfl)
theorem dX0_transfer_25 : decode cX0_transfer 25 = .ok (.astore 6, 2) := dk_58 6 (dk_at dksX0_transfer_1 1 rfl rfl)
theorem dX0_transfer_27 : decode cX0_transfer 27 = .ok (.iconst 3, 1) := dk_6 (dk_at dksX0_transfer_1 3 rfl rfl)
theorem dX0_transfer_28 : decode cX0_transfer 28 = .ok (.ireturn, 1) := dk_172 (dk_at dksX0_transfer_1 4 rfl rfl)
theorem dX0_transfer_29 : decode cX0_transfer 29 = .ok (.astore 6, 2) := dk_58 6 (dk_at dksX0_transfer_1 5 rfl rfl)
theorem dX0_transfer_31 : decode cX0_transfer 31 = .ok (.iconst 4, 1) := dk_7 (dk_at dksX0_transfer_1 7 rfl rfl)
theorem dX0_transfer_32 : decode cX0_transfer 32 = .ok (.ireturn, 1) := dk_172 (dk_at dksX0_transfer_1 8 rfl rfl)
theorem dX0_transfer_33 : decode cX0_transfer 33 = .ok (.iconst 0, 1) := dk_3 (dk_at dksX0_transfer_1 9 rfl rfl)
theorem dX0_transfer_34 : decode cX0_transfer 34 = .ok (.ireturn, 1) := dk_172 (dk_at dksX0_transfer_1 10 rfl rfl)
theorem wX0_transfer_0 (hE : PMon E) : Wa E mX0_transfer 0 [l0, l1, l2, l3, l4, l5, l6] S h r d Q = (isR l5 = true ∧ Wa E mX0_transfer 2 [l0, l1, l2, l3, l4, l5, l6] (l5 :: S) h r d Q) := sA_aload hE dX0_transfer_0 rfl rfl
theorem wX0_transfer_2 (hE : PMon E) : Wa E mX0_transfer 2 L S h r d Q = Wa E mX0_transfer 3 L (.int 0 :: S) h r d Q := sA_iconst hE dX0_transfer_2 rfl (by decide)
theorem wX0_transfer_3 (hE : PMon E) : Wa E mX0_transfer 3 [l0, l1, l2, l3, l4, l5, l6] S h r d Q = (isR l0 = true ∧ Wa E mX0_transfer 4 [l0, l1, l2, l3, l4, l5, l6] (l0 :: S) h r d Q) := sA_aload_n hE dX0_transfer_3 rfl rfl
theorem wX0_transfer_4 (hE : PMon E) : Wa E mX0_transfer 4 [l0, l1, l2, l3, l4, l5, l6] S h r d Q = (isI l1 = true ∧ Wa E mX0_transfer 5 [l0, l1, l2, l3, l4, l5, l6] (l1 :: S) h r d Q) := sA_iload_n hE dX0_transfer_4 rfl rfl
theorem wX0_transfer_5 (hE : PMon E) : Wa E mX0_transfer 5 [l0, l1, l2, l3, l4, l5, l6] S h r d Q = (isI l2 = true ∧ Wa E mX0_transfer 6 [l0, l1, l2, l3, l4, l5, l6] (l2 :: S) h r d Q) := sA_iload_n hE dX0_transfer_5 rfl rfl
theorem wX0_transfer_6 (hE : PMon E) : Wa E mX0_transfer 6 [l0, l1, l2, l3, l4, l5, l6] S h r d Q = (isI l3 = true ∧ Wa E mX0_transfer 7 [l0, l1, l2, l3, l4, l5, l6] (l3 :: S) h r d Q) := sA_iload_n hE dX0_transfer_6 rfl rfl
theorem wX0_transfer_7 (hE : PMon E) : Wa E mX0_transfer 7 [l0, l1, l2, l3, l4, l5, l6] S h r d Q = (isI l4 = true ∧ Wa E mX0_transfer 9 [l0, l1, l2, l3, l4, l5, l6] (l4 :: S) h r d Q) := sA_iload hE dX0_transfer_7 rfl rfl
theorem wX0_transfer_9 (hE : PMon E) : Wa E mX0_transfer 9 L (v4 :: v3 :: v2 :: v1 :: .ref a :: S) h r d Q = Cla E mX0_transfer (E.1 0 1 64 (kdo (h a))) [.ref a, v1, v2, v3, v4] 9 12 L S h r d Q := sA_invokevirtual hE dX0_transfer_9 rfl rfl rfl (by simp) rfl rfl rfl
theorem wX0_transfer_12 (hE : PMon E) : Wa E mX0_transfer 12 L (.int x :: S) h r d Q = Wa E mX0_transfer 13 L (.long x.toInt64 :: S) h r d Q := sA_i2l hE dX0_transfer_12 rfl
theorem wX0_transfer_13 (hE : PMon E) : Wa E mX0_transfer 13 L (v :: .int i :: .ref a :: S) h r d Q = APa E mX0_transfer (h a) 901 isL a i v 14 L S h r d Q := sA_lastore hE dX0_transfer_13 rfl
theorem wX0_transfer_14 (hE : PMon E) : Wa E mX0_transfer 14 L S h r d Q = Wa E mX0_transfer 33 L S h r d Q := sA_goto hE dX0_transfer_14 rfl (by decide) (by decide)
theorem wX0_transfer_17 (hE : PMon E) : Wa E mX0_transfer 17 [l0, l1, l2, l3, l4, l5, l6] (v :: S) h r d Q = (isR v = true ∧ Wa E mX0_transfer 19 [l0, l1, l2, l3, l4, c2 l5, v] S h r d Q) := sA_astore hE dX0_transfer_17 rfl (by show 6 < 7; decide) st1_7_6
theorem wX0_transfer_19 (hE : PMon E) : Wa E mX0_transfer 19 L S h r d Q = Wa E mX0_transfer 20 L (.int 1 :: S) h r d Q := sA_iconst hE dX0_transfer_19 rfl (by decide)
theorem wX0_transfer_20 (hE : PMon E) : Wa E mX0_transfer 20 L [.int x] h r d Q = Q (.inl (some (.int x))) h r := sA_ireturn hE dX0_transfer_20 rfl
theorem wX0_transfer_21 (hE : PMon E) : Wa E mX0_transfer 21 [l0, l1, l2, l3, l4, l5, l6] (v :: S) h r d Q = (isR v = true ∧ Wa E mX0_transfer 23 [l0, l1, l2, l3, l4, c2 l5, v] S h r d Q) := sA_astore hE dX0_transfer_21 rfl (by show 6 < 7; decide) st1_7_6
theorem wX0_transfer_23 (hE : PMon E) : Wa E mX0_transfer 23 L S h r d Q = Wa E mX0_transfer 24 L (.int 2 :: S) h r d Q := sA_iconst hE dX0_transfer_23 rfl (by decide)
theorem wX0_transfer_24 (hE : PMon E) : Wa E mX0_transfer 24 L [.int x] h r d Q = Q (.inl (some (.int x))) h r := sA_ireturn hE dX0_transfer_24 rfl
theorem wX0_transfer_25 (hE : PMon E) : Wa E mX0_transfer 25 [l0, l1, l2, l3, l4, l5, l6] (v :: S) h r d Q = (isR v = true ∧ Wa E mX0_transfer 27 [l0, l1, l2, l3, l4, c2 l5, v] S h r d Q) := sA_astore hE dX0_transfer_25 rfl (by show 6 < 7; decide) st1_7_6
theorem wX0_transfer_27 (hE : PMon E) : Wa E mX0_transfer 27 L S h r d Q = Wa E mX0_transfer 28 L (.int 3 :: S) h r d Q := sA_iconst hE dX0_transfer_27 rfl (by decide)
theorem wX0_transfer_28 (hE : PMon E) : Wa E mX0_transfer 28 L [.int x] h r d Q = Q (.inl (some (.int x))) h r := sA_ireturn hE dX0_transfer_28 rfl
theorem wX0_transfer_29 (hE : PMon E) : Wa E mX0_transfer 29 [l0, l1, l2, l3, l4, l5, l6] (v :: S) h r d Q = (isR v = true ∧ Wa E mX0_transfer 31 [l0, l1, l2, l3, l4, c2 l5, v] S h r d Q) := sA_astore hE dX0_transfer_29 rfl (by show 6 < 7; decide) st1_7_6
theorem wX0_transfer_31 (hE : PMon E) : Wa E mX0_transfer 31 L S h r d Q = Wa E mX0_transfer 32 L (.int 4 :: S) h r d Q := sA_iconst hE dX0_transfer_31 rfl (by decide)
theorem wX0_transfer_32 (hE : PMon E) : Wa E mX0_transfer 32 L [.int x] h r d Q = Q (.inl (some (.int x))) h r := sA_ireturn hE dX0_transfer_32 rfl
theorem wX0_transfer_33 (hE : PMon E) : Wa E mX0_transfer 33 L S h r d Q = Wa E mX0_transfer 34 L (.int 0 :: S) h r d Q := sA_iconst hE dX0_transfer_33 rfl (by decide)
theorem wX0_transfer_34 (hE : PMon E) : Wa E mX0_transfer 34 L [.int x] h r d Q = Q (.inl (some (.int x))) h r := sA_ireturn hE dX0_transfer_34 rfl
abbrev cX0_confirm : ByteArray := method_17_code
def dkwX0_confirm_0 : List UInt8 := [44, 3, 42, 27, 182, 0, 68, 133, 80, 167, 0, 9, 78, 4, 172, 78, 5, 172, 3, 172]
abbrev dktX0_confirm_0 : List UInt8 := dkwX0_confirm_0 ++ []
theorem dksX0_confirm_0 : cX0_confirm.data.toList.drop 0 = dktX0_confirm_0 := by decide +kernel
theorem dX0_confirm_0 : decode cX0_confirm 0 = .ok (.aload_n 2, 1) := dk_44 (dk_at dksX0_confirm_0 0 rfl rfl)
theorem dX0_confirm_1 : decode cX0_confirm 1 = .ok (.iconst 0, 1) := dk_3 (dk_at dksX0_confirm_0 1 rfl rfl)
theorem dX0_confirm_2 : decode cX0_confirm 2 = .ok (.aload_n 0, 1) := dk_42 (dk_at dksX0_confirm_0 2 rfl rfl)
theorem dX0_confirm_3 : decode cX0_confirm 3 = .ok (.iload_n 1, 1) := dk_27 (dk_at dksX0_confirm_0 3 rfl rfl)
theorem dX0_confirm_4 : decode cX0_confirm 4 = .ok (.invokevirtual 68, 3) := dk_182 0 68 (dk_at dksX0_confirm_0 4 rfl rfl)
theorem dX0_confirm_7 : decode cX0_confirm 7 = .ok (.i2l, 1) := dk_133 (dk_at dksX0_confirm_0 7 rfl rfl)
theorem dX0_confirm_8 : decode cX0_confirm 8 = .ok (.lastore, 1) := dk_80 (dk_at dksX0_confirm_0 8 rfl rfl)
theorem dX0_confirm_9 : decode cX0_confirm 9 = .ok (.goto 9, 3) := dk_167 0 9 (dk_at dksX0_confirm_0 9 rfl rfl)
theorem dX0_confirm_12 : decode cX0_confirm 12 = .ok (.astore_n 3, 1) := dk_78 (dk_at dksX0_confirm_0 12 rfl rfl)
theorem dX0_confirm_13 : decode cX0_confirm 13 = .ok (.iconst 1, 1) := dk_4 (dk_at dksX0_confirm_0 13 rfl rfl)
theorem dX0_confirm_14 : decode cX0_confirm 14 = .ok (.ireturn, 1) := dk_172 (dk_at dksX0_confirm_0 14 rfl rfl)
theorem dX0_confirm_15 : decode cX0_confirm 15 = .ok (.astore_n 3, 1) := dk_78 (dk_at dksX0_confirm_0 15 rfl rfl)
theorem dX0_confirm_16 : decode cX0_confirm 16 = .ok (.iconst 2, 1) := dk_5 (dk_at dksX0_confirm_0 16 rfl rfl)
theorem dX0_confirm_17 : decode cX0_confirm 17 = .ok (.ireturn, 1) := dk_172 (dk_at dksX0_confirm_0 17 rfl rfl)
theorem dX0_confirm_18 : decode cX0_confirm 18 = .ok (.iconst 0, 1) := dk_3 (dk_at dksX0_confirm_0 18 rfl rfl)
theorem dX0_confirm_19 : decode cX0_confirm 19 = .ok (.ireturn, 1) := dk_172 (dk_at dksX0_confirm_0 19 rfl rfl)
theorem wX0_confirm_0 (hE : PMon E) : Wa E mX0_confirm 0 [l0, l1, l2, l3] S h r d Q = (isR l2 = true ∧ Wa E mX0_confirm 1 [l0, l1, l2, l3] (l2 :: S) h r d Q) := sA_aload_n hE dX0_confirm_0 rfl rfl
theorem wX0_confirm_1 (hE : PMon E) : Wa E mX0_confirm 1 L S h r d Q = Wa E mX0_confirm 2 L (.int 0 :: S) h r d Q := sA_iconst hE dX0_confirm_1 rfl (by decide)
theorem wX0_confirm_2 (hE : PMon E) : Wa E mX0_confirm 2 [l0, l1, l2, l3] S h r d Q = (isR l0 = true ∧ Wa E mX0_confirm 3 [l0, l1, l2, l3] (l0 :: S) h r d Q) := sA_aload_n hE dX0_confirm_2 rfl rfl
theorem wX0_confirm_3 (hE : PMon E) : Wa E mX0_confirm 3 [l0, l1, l2, l3] S h r d Q = (isI l1 = true ∧ Wa E mX0_confirm 4 [l0, l1, l2, l3] (l1 :: S) h r d Q) := sA_iload_n hE dX0_confirm_3 rfl rfl
theorem wX0_confirm_4 (hE : PMon E) : Wa E mX0_confirm 4 L (v1 :: .ref a :: S) h r d Q = Cla E mX0_confirm (E.1 0 1 68 (kdo (h a))) [.ref a, v1] 4 7 L S h r d Q := sA_invokevirtual hE dX0_confirm_4 rfl rfl rfl (by simp) rfl rfl rfl
theorem wX0_confirm_7 (hE : PMon E) : Wa E mX0_confirm 7 L (.int x :: S) h r d Q = Wa E mX0_confirm 8 L (.long x.toInt64 :: S) h r d Q := sA_i2l hE dX0_confirm_7 rfl
theorem wX0_confirm_8 (hE : PMon E) : Wa E mX0_confirm 8 L (v :: .int i :: .ref a :: S) h r d Q = APa E mX0_confirm (h a) 901 isL a i v 9 L S h r d Q := sA_lastore hE dX0_confirm_8 rfl
theorem wX0_confirm_9 (hE : PMon E) : Wa E mX0_confirm 9 L S h r d Q = Wa E mX0_confirm 18 L S h r d Q := sA_goto hE dX0_confirm_9 rfl (by decide) (by decide)
theorem wX0_confirm_12 (hE : PMon E) : Wa E mX0_confirm 12 [l0, l1, l2, l3] (v :: S) h r d Q = (isR v = true ∧ Wa E mX0_confirm 13 [l0, l1, c2 l2, v] S h r d Q) := sA_astore_n hE dX0_confirm_12 rfl (by show 3 < 4; decide) st1_4_3
theorem wX0_confirm_13 (hE : PMon E) : Wa E mX0_confirm 13 L S h r d Q = Wa E mX0_confirm 14 L (.int 1 :: S) h r d Q := sA_iconst hE dX0_confirm_13 rfl (by decide)
theorem wX0_confirm_14 (hE : PMon E) : Wa E mX0_confirm 14 L [.int x] h r d Q = Q (.inl (some (.int x))) h r := sA_ireturn hE dX0_confirm_14 rfl
theorem wX0_confirm_15 (hE : PMon E) : Wa E mX0_confirm 15 [l0, l1, l2, l3] (v :: S) h r d Q = (isR v = true ∧ Wa E mX0_confirm 16 [l0, l1, c2 l2, v] S h r d Q) := sA_astore_n hE dX0_confirm_15 rfl (by show 3 < 4; decide) st1_4_3
theorem wX0_confirm_16 (hE : PMon E) : Wa E mX0_confirm 16 L S h r d Q = Wa E mX0_confirm 17 L (.int 2 :: S) h r d Q := sA_iconst hE dX0_confirm_16 rfl (by decide)
theorem wX0_confirm_17 (hE : PMon E) : Wa E mX0_confirm 17 L [.int x] h r d Q = Q (.inl (some (.int x))) h r := sA_ireturn hE dX0_confirm_17 rfl
theorem wX0_confirm_18 (hE : PMon E) : Wa E mX0_confirm 18 L S h r d Q = Wa E mX0_confirm 19 L (.int 0 :: S) h r d Q := sA_iconst hE dX0_confirm_18 rfl (by decide)
theorem wX0_confirm_19 (hE : PMon E) : Wa E mX0_confirm 19 L [.int x] h r d Q = Q (.inl (some (.int x))) h r := sA_ireturn hE dX0_confirm_19 rfl
abbrev cX0_trust : ByteArray := method_18_code
def dkwX0_trust_1 : List UInt8 := [58, 4, 5, 172, 3, 172]
abbrev dktX0_trust_1 : List UInt8 := dkwX0_trust_1 ++ []
def dkwX0_trust_0 : List UInt8 := [45, 3, 42, 27, 28, 182, 0, 71, 153, 0, 7, 10, 167, 0, 4, 9, 80, 167, 0, 11, 58, 4, 4, 172]
abbrev dktX0_trust_0 : List UInt8 := dkwX0_trust_0 ++ dktX0_trust_1
theorem dksX0_trust_0 : cX0_trust.data.toList.drop 0 = dktX0_trust_0 := by decide +kernel
theorem dksX0_trust_1 : cX0_trust.data.toList.drop 24 = dktX0_trust_1 := dk_seg dksX0_trust_0 24 rfl rfl
theorem dX0_trust_0 : decode cX0_trust 0 = .ok (.aload_n 3, 1) := dk_45 (dk_at dksX0_trust_0 0 rfl rfl)
theorem dX0_trust_1 : decode cX0_trust 1 = .ok (.iconst 0, 1) := dk_3 (dk_at dksX0_trust_0 1 rfl rfl)
theorem dX0_trust_2 : decode cX0_trust 2 = .ok (.aload_n 0, 1) := dk_42 (dk_at dksX0_trust_0 2 rfl rfl)
theorem dX0_trust_3 : decode cX0_trust 3 = .ok (.iload_n 1, 1) := dk_27 (dk_at dksX0_trust_0 3 rfl rfl)
theorem dX0_trust_4 : decode cX0_trust 4 = .ok (.iload_n 2, 1) := dk_28 (dk_at dksX0_trust_0 4 rfl rfl)
theorem dX0_trust_5 : decode cX0_trust 5 = .ok (.invokevirtual 71, 3) := dk_182 0 71 (dk_at dksX0_trust_0 5 rfl rfl)
theorem dX0_trust_8 : decode cX0_trust 8 = .ok (.ifCond .eq 7, 3) := dk_153 0 7 (dk_at dksX0_trust_0 8 rfl rfl)
theorem dX0_trust_11 : decode cX0_trust 11 = .ok (.lconst 1, 1) := dk_10 (dk_at dksX0_trust_0 11 rfl rfl)
theorem dX0_trust_12 : decode cX0_trust 12 = .ok (.goto 4, 3) := dk_167 0 4 (dk_at dksX0_trust_0 12 rfl rfl)
theorem dX0_trust_15 : decode cX0_trust 15 = .ok (.lconst 0, 1) := dk_9 (dk_at dksX0_trust_0 15 rfl rfl)
theorem dX0_trust_16 : decode cX0_trust 16 = .ok (.lastore, 1) := dk_80 (dk_at dksX0_trust_0 16 rfl rfl)
theorem dX0_trust_17 : decode cX0_trust 17 = .ok (.goto 11, 3) := dk_167 0 11 (dk_at dksX0_trust_0 17 rfl rfl)
theorem dX0_trust_20 : decode cX0_trust 20 = .ok (.astore 4, 2) := dk_58 4 (dk_at dksX0_trust_0 20 rfl rfl)
theorem dX0_trust_22 : decode cX0_trust 22 = .ok (.iconst 1, 1) := dk_4 (dk_at dksX0_trust_0 22 rfl rfl)
theorem dX0_trust_23 : decode cX0_trust 23 = .ok (.ireturn, 1) := dk_172 (dk_at dksX0_trust_0 23 rfl rfl)
theorem dX0_trust_24 : decode cX0_trust 24 = .ok (.astore 4, 2) := dk_58 4 (dk_at dksX0_trust_1 0 rfl rfl)
theorem dX0_trust_26 : decode cX0_trust 26 = .ok (.iconst 2, 1) := dk_5 (dk_at dksX0_trust_1 2 rfl rfl)
theorem dX0_trust_27 : decode cX0_trust 27 = .ok (.ireturn, 1) := dk_172 (dk_at dksX0_trust_1 3 rfl rfl)
theorem dX0_trust_28 : decode cX0_trust 28 = .ok (.iconst 0, 1) := dk_3 (dk_at dksX0_trust_1 4 rfl rfl)
theorem dX0_trust_29 : decode cX0_trust 29 = .ok (.ireturn, 1) := dk_172 (dk_at dksX0_trust_1 5 rfl rfl)
theorem wX0_trust_0 (hE : PMon E) : Wa E mX0_trust 0 [l0, l1, l2, l3, l4] S h r d Q = (isR l3 = true ∧ Wa E mX0_trust 1 [l0, l1, l2, l3, l4] (l3 :: S) h r d Q) := sA_aload_n hE dX0_trust_0 rfl rfl
theorem wX0_trust_1 (hE : PMon E) : Wa E mX0_trust 1 L S h r d Q = Wa E mX0_trust 2 L (.int 0 :: S) h r d Q := sA_iconst hE dX0_trust_1 rfl (by decide)
theorem wX0_trust_2 (hE : PMon E) : Wa E mX0_trust 2 [l0, l1, l2, l3, l4] S h r d Q = (isR l0 = true ∧ Wa E mX0_trust 3 [l0, l1, l2, l3, l4] (l0 :: S) h r d Q) := sA_aload_n hE dX0_trust_2 rfl rfl
theorem wX0_trust_3 (hE : PMon E) : Wa E mX0_trust 3 [l0, l1, l2, l3, l4] S h r d Q = (isI l1 = true ∧ Wa E mX0_trust 4 [l0, l1, l2, l3, l4] (l1 :: S) h r d Q) := sA_iload_n hE dX0_trust_3 rfl rfl
theorem wX0_trust_4 (hE : PMon E) : Wa E mX0_trust 4 [l0, l1, l2, l3, l4] S h r d Q = (isI l2 = true ∧ Wa E mX0_trust 5 [l0, l1, l2, l3, l4] (l2 :: S) h r d Q) := sA_iload_n hE dX0_trust_4 rfl rfl
theorem wX0_trust_5 (hE : PMon E) : Wa E mX0_trust 5 L (v2 :: v1 :: .ref a :: S) h r d Q = Cla E mX0_trust (E.1 0 1 71 (kdo (h a))) [.ref a, v1, v2] 5 8 L S h r d Q := sA_invokevirtual hE dX0_trust_5 rfl rfl rfl (by simp) rfl rfl rfl
theorem wX0_trust_8 (hE : PMon E) : Wa E mX0_trust 8 L (.int x :: S) h r d Q = Br (x = 0) (Wa E mX0_trust (frz 15) L S h r d Q) (Wa E mX0_trust (frz 11) L S h r d Q) := sA_ifCond_eq hE dX0_trust_8 rfl (by decide) (by decide)
theorem wX0_trust_11 (hE : PMon E) : Wa E mX0_trust 11 L S h r d Q = Wa E mX0_trust 12 L (.long 1 :: S) h r d Q := sA_lconst hE dX0_trust_11 rfl (by decide)
theorem wX0_trust_12 (hE : PMon E) : Wa E mX0_trust 12 L S h r d Q = Wa E mX0_trust 16 L S h r d Q := sA_goto hE dX0_trust_12 rfl (by decide) (by decide)
theorem wX0_trust_15 (hE : PMon E) : Wa E mX0_trust 15 L S h r d Q = Wa E mX0_trust 16 L (.long 0 :: S) h r d Q := sA_lconst hE dX0_trust_15 rfl (by decide)
theorem wX0_trust_16 (hE : PMon E) : Wa E mX0_trust 16 L (v :: .int i :: .ref a :: S) h r d Q = APa E mX0_trust (h a) 901 isL a i v 17 L S h r d Q := sA_lastore hE dX0_trust_16 rfl
theorem wX0_trust_17 (hE : PMon E) : Wa E mX0_trust 17 L S h r d Q = Wa E mX0_trust 28 L S h r d Q := sA_goto hE dX0_trust_17 rfl (by decide) (by decide)
theorem wX0_trust_20 (hE : PMon E) : Wa E mX0_trust 20 [l0, l1, l2, l3, l4] (v :: S) h r d Q = (isR v = true ∧ Wa E mX0_trust 22 [l0, l1, l2, c2 l3, v] S h r d Q) := sA_astore hE dX0_trust_20 rfl (by show 4 < 5; decide) st1_5_4
theorem wX0_trust_22 (hE : PMon E) : Wa E mX0_trust 22 L S h r d Q = Wa E mX0_trust 23 L (.int 1 :: S) h r d Q := sA_iconst hE dX0_trust_22 rfl (by decide)
theorem wX0_trust_23 (hE : PMon E) : Wa E mX0_trust 23 L [.int x] h r d Q = Q (.inl (some (.int x))) h r := sA_ireturn hE dX0_trust_23 rfl
theorem wX0_trust_24 (hE : PMon E) : Wa E mX0_trust 24 [l0, l1, l2, l3, l4] (v :: S) h r d Q = (isR v = true ∧ Wa E mX0_trust 26 [l0, l1, l2, c2 l3, v] S h r d Q) := sA_astore hE dX0_trust_24 rfl (by show 4 < 5; decide) st1_5_4
theorem wX0_trust_26 (hE : PMon E) : Wa E mX0_trust 26 L S h r d Q = Wa E mX0_trust 27 L (.int 2 :: S) h r d Q := sA_iconst hE dX0_trust_26 rfl (by decide)
theorem wX0_trust_27 (hE : PMon E) : Wa E mX0_trust 27 L [.int x] h r d Q = Q (.inl (some (.int x))) h r := sA_ireturn hE dX0_trust_27 rfl
theorem wX0_trust_28 (hE : PMon E) : Wa E mX0_trust 28 L S h r d Q = Wa E mX0_trust 29 L (.int 0 :: S) h r d Q := sA_iconst hE dX0_trust_28 rfl (by decide)
theorem wX0_trust_29 (hE : PMon E) : Wa E mX0_trust 29 L [.int x] h r d Q = Q (.inl (some (.int x))) h r := sA_ireturn hE dX0_trust_29 rfl
abbrev cX0_freeze : ByteArray := method_19_code
def dkwX0_freeze_0 : List UInt8 := [44, 3, 42, 27, 182, 0, 75, 133, 80, 167, 0, 9, 78, 4, 172, 78, 5, 172, 3, 172]
abbrev dktX0_freeze_0 : List UInt8 := dkwX0_freeze_0 ++ []
theorem dksX0_freeze_0 : cX0_freeze.data.toList.drop 0 = dktX0_freeze_0 := by decide +kernel
theorem dX0_freeze_0 : decode cX0_freeze 0 = .ok (.aload_n 2, 1) := dk_44 (dk_at dksX0_freeze_0 0 rfl rfl)
theorem dX0_freeze_1 : decode cX0_freeze 1 = .ok (.iconst 0, 1) := dk_3 (dk_at dksX0_freeze_0 1 rfl rfl)
theorem dX0_freeze_2 : decode cX0_freeze 2 = .ok (.aload_n 0, 1) := dk_42 (dk_at dksX0_freeze_0 2 rfl rfl)
theorem dX0_freeze_3 : decode cX0_freeze 3 = .ok (.iload_n 1, 1) := dk_27 (dk_at dksX0_freeze_0 3 rfl rfl)
theorem dX0_freeze_4 : decode cX0_freeze 4 = .ok (.invokevirtual 75, 3) := dk_182 0 75 (dk_at dksX0_freeze_0 4 rfl rfl)
theorem dX0_freeze_7 : decode cX0_freeze 7 = .ok (.i2l, 1) := dk_133 (dk_at dksX0_freeze_0 7 rfl rfl)
theorem dX0_freeze_8 : decode cX0_freeze 8 = .ok (.lastore, 1) := dk_80 (dk_at dksX0_freeze_0 8 rfl rfl)
theorem dX0_freeze_9 : decode cX0_freeze 9 = .ok (.goto 9, 3) := dk_167 0 9 (dk_at dksX0_freeze_0 9 rfl rfl)
theorem dX0_freeze_12 : decode cX0_freeze 12 = .ok (.astore_n 3, 1) := dk_78 (dk_at dksX0_freeze_0 12 rfl rfl)
theorem dX0_freeze_13 : decode cX0_freeze 13 = .ok (.iconst 1, 1) := dk_4 (dk_at dksX0_freeze_0 13 rfl rfl)
theorem dX0_freeze_14 : decode cX0_freeze 14 = .ok (.ireturn, 1) := dk_172 (dk_at dksX0_freeze_0 14 rfl rfl)
theorem dX0_freeze_15 : decode cX0_freeze 15 = .ok (.astore_n 3, 1) := dk_78 (dk_at dksX0_freeze_0 15 rfl rfl)
theorem dX0_freeze_16 : decode cX0_freeze 16 = .ok (.iconst 2, 1) := dk_5 (dk_at dksX0_freeze_0 16 rfl rfl)
theorem dX0_freeze_17 : decode cX0_freeze 17 = .ok (.ireturn, 1) := dk_172 (dk_at dksX0_freeze_0 17 rfl rfl)
theorem dX0_freeze_18 : decode cX0_freeze 18 = .ok (.iconst 0, 1) := dk_3 (dk_at dksX0_freeze_0 18 rfl rfl)
theorem dX0_freeze_19 : decode cX0_freeze 19 = .ok (.ireturn, 1) := dk_172 (dk_at dksX0_freeze_0 19 rfl rfl)
theorem wX0_freeze_0 (hE : PMon E) : Wa E mX0_freeze 0 [l0, l1, l2, l3] S h r d Q = (isR l2 = true ∧ Wa E mX0_freeze 1 [l0, l1, l2, l3] (l2 :: S) h r d Q) := sA_aload_n hE dX0_freeze_0 rfl rfl
theorem wX0_freeze_1 (hE : PMon E) : Wa E mX0_freeze 1 L S h r d Q = Wa E mX0_freeze 2 L (.int 0 :: S) h r d Q := sA_iconst hE dX0_freeze_1 rfl (by decide)
theorem wX0_freeze_2 (hE : PMon E) : Wa E mX0_freeze 2 [l0, l1, l2, l3] S h r d Q = (isR l0 = true ∧ Wa E mX0_freeze 3 [l0, l1, l2, l3] (l0 :: S) h r d Q) := sA_aload_n hE dX0_freeze_2 rfl rfl
theorem wX0_freeze_3 (hE : PMon E) : Wa E mX0_freeze 3 [l0, l1, l2, l3] S h r d Q = (isI l1 = true ∧ Wa E mX0_freeze 4 [l0, l1, l2, l3] (l1 :: S) h r d Q) := sA_iload_n hE dX0_freeze_3 rfl rfl
theorem wX0_freeze_4 (hE : PMon E) : Wa E mX0_freeze 4 L (v1 :: .ref a :: S) h r d Q = Cla E mX0_freeze (E.1 0 1 75 (kdo (h a))) [.ref a, v1] 4 7 L S h r d Q := sA_invokevirtual hE dX0_freeze_4 rfl rfl rfl (by simp) rfl rfl rfl
theorem wX0_freeze_7 (hE : PMon E) : Wa E mX0_freeze 7 L (.int x :: S) h r d Q = Wa E mX0_freeze 8 L (.long x.toInt64 :: S) h r d Q := sA_i2l hE dX0_freeze_7 rfl
theorem wX0_freeze_8 (hE : PMon E) : Wa E mX0_freeze 8 L (v :: .int i :: .ref a :: S) h r d Q = APa E mX0_freeze (h a) 901 isL a i v 9 L S h r d Q := sA_lastore hE dX0_freeze_8 rfl
theorem wX0_freeze_9 (hE : PMon E) : Wa E mX0_freeze 9 L S h r d Q = Wa E mX0_freeze 18 L S h r d Q := sA_goto hE dX0_freeze_9 rfl (by decide) (by decide)
theorem wX0_freeze_12 (hE : PMon E) : Wa E mX0_freeze 12 [l0, l1, l2, l3] (v :: S) h r d Q = (isR v = true ∧ Wa E mX0_freeze 13 [l0, l1, c2 l2, v] S h r d Q) := sA_astore_n hE dX0_freeze_12 rfl (by show 3 < 4; decide) st1_4_3
theorem wX0_freeze_13 (hE : PMon E) : Wa E mX0_freeze 13 L S h r d Q = Wa E mX0_freeze 14 L (.int 1 :: S) h r d Q := sA_iconst hE dX0_freeze_13 rfl (by decide)
theorem wX0_freeze_14 (hE : PMon E) : Wa E mX0_freeze 14 L [.int x] h r d Q = Q (.inl (some (.int x))) h r := sA_ireturn hE dX0_freeze_14 rfl
theorem wX0_freeze_15 (hE : PMon E) : Wa E mX0_freeze 15 [l0, l1, l2, l3] (v :: S) h r d Q = (isR v = true ∧ Wa E mX0_freeze 16 [l0, l1, c2 l2, v] S h r d Q) := sA_astore_n hE dX0_freeze_15 rfl (by show 3 < 4; decide) st1_4_3
theorem wX0_freeze_16 (hE : PMon E) : Wa E mX0_freeze 16 L S h r d Q = Wa E mX0_freeze 17 L (.int 2 :: S) h r d Q := sA_iconst hE dX0_freeze_16 rfl (by decide)
theorem wX0_freeze_17 (hE : PMon E) : Wa E mX0_freeze 17 L [.int x] h r d Q = Q (.inl (some (.int x))) h r := sA_ireturn hE dX0_freeze_17 rfl
theorem wX0_freeze_18 (hE : PMon E) : Wa E mX0_freeze 18 L S h r d Q = Wa E mX0_freeze 19 L (.int 0 :: S) h r d Q := sA_iconst hE dX0_freeze_18 rfl (by decide)
theorem wX0_freeze_19 (hE : PMon E) : Wa E mX0_freeze 19 L [.int x] h r d Q = Q (.inl (some (.int x))) h r := sA_ireturn hE dX0_freeze_19 rfl
abbrev cX0_release : ByteArray := method_20_code
def dkwX0_release_0 : List UInt8 := [44, 3, 42, 27, 182, 0, 78, 133, 80, 167, 0, 9, 78, 4, 172, 78, 5, 172, 3, 172]
abbrev dktX0_release_0 : List UInt8 := dkwX0_release_0 ++ []
theorem dksX0_release_0 : cX0_release.data.toList.drop 0 = dktX0_release_0 := by decide +kernel
theorem dX0_release_0 : decode cX0_release 0 = .ok (.aload_n 2, 1) := dk_44 (dk_at dksX0_release_0 0 rfl rfl)
theorem dX0_release_1 : decode cX0_release 1 = .ok (.iconst 0, 1) := dk_3 (dk_at dksX0_release_0 1 rfl rfl)
theorem dX0_release_2 : decode cX0_release 2 = .ok (.aload_n 0, 1) := dk_42 (dk_at dksX0_release_0 2 rfl rfl)
theorem dX0_release_3 : decode cX0_release 3 = .ok (.iload_n 1, 1) := dk_27 (dk_at dksX0_release_0 3 rfl rfl)
theorem dX0_release_4 : decode cX0_release 4 = .ok (.invokevirtual 78, 3) := dk_182 0 78 (dk_at dksX0_release_0 4 rfl rfl)
theorem dX0_release_7 : decode cX0_release 7 = .ok (.i2l, 1) := dk_133 (dk_at dksX0_release_0 7 rfl rfl)
theorem dX0_release_8 : decode cX0_release 8 = .ok (.lastore, 1) := dk_80 (dk_at dksX0_release_0 8 rfl rfl)
theorem dX0_release_9 : decode cX0_release 9 = .ok (.goto 9, 3) := dk_167 0 9 (dk_at dksX0_release_0 9 rfl rfl)
theorem dX0_release_12 : decode cX0_release 12 = .ok (.astore_n 3, 1) := dk_78 (dk_at dksX0_release_0 12 rfl rfl)
theorem dX0_release_13 : decode cX0_release 13 = .ok (.iconst 1, 1) := dk_4 (dk_at dksX0_release_0 13 rfl rfl)
theorem dX0_release_14 : decode cX0_release 14 = .ok (.ireturn, 1) := dk_172 (dk_at dksX0_release_0 14 rfl rfl)
theorem dX0_release_15 : decode cX0_release 15 = .ok (.astore_n 3, 1) := dk_78 (dk_at dksX0_release_0 15 rfl rfl)
theorem dX0_release_16 : decode cX0_release 16 = .ok (.iconst 2, 1) := dk_5 (dk_at dksX0_release_0 16 rfl rfl)
theorem dX0_release_17 : decode cX0_release 17 = .ok (.ireturn, 1) := dk_172 (dk_at dksX0_release_0 17 rfl rfl)
theorem dX0_release_18 : decode cX0_release 18 = .ok (.iconst 0, 1) := dk_3 (dk_at dksX0_release_0 18 rfl rfl)
theorem dX0_release_19 : decode cX0_release 19 = .ok (.ireturn, 1) := dk_172 (dk_at dksX0_release_0 19 rfl rfl)
theorem wX0_release_0 (hE : PMon E) : Wa E mX0_release 0 [l0, l1, l2, l3] S h r d Q = (isR l2 = true ∧ Wa E mX0_release 1 [l0, l1, l2, l3] (l2 :: S) h r d Q) := sA_aload_n hE dX0_release_0 rfl rfl
theorem wX0_release_1 (hE : PMon E) : Wa E mX0_release 1 L S h r d Q = Wa E mX0_release 2 L (.int 0 :: S) h r d Q := sA_iconst hE dX0_release_1 rfl (by decide)
theorem wX0_release_2 (hE : PMon E) : Wa E mX0_release 2 [l0, l1, l2, l3] S h r d Q = (isR l0 = true ∧ Wa E mX0_release 3 [l0, l1, l2, l3] (l0 :: S) h r d Q) := sA_aload_n hE dX0_release_2 rfl rfl
theorem wX0_release_3 (hE : PMon E) : Wa E mX0_release 3 [l0, l1, l2, l3] S h r d Q = (isI l1 = true ∧ Wa E mX0_release 4 [l0, l1, l2, l3] (l1 :: S) h r d Q) := sA_iload_n hE dX0_release_3 rfl rfl
theorem wX0_release_4 (hE : PMon E) : Wa E mX0_release 4 L (v1 :: .ref a :: S) h r d Q = Cla E mX0_release (E.1 0 1 78 (kdo (h a))) [.ref a, v1] 4 7 L S h r d Q := sA_invokevirtual hE dX0_release_4 rfl rfl rfl (by simp) rfl rfl rfl
theorem wX0_release_7 (hE : PMon E) : Wa E mX0_release 7 L (.int x :: S) h r d Q = Wa E mX0_release 8 L (.long x.toInt64 :: S) h r d Q := sA_i2l hE dX0_release_7 rfl
theorem wX0_release_8 (hE : PMon E) : Wa E mX0_release 8 L (v :: .int i :: .ref a :: S) h r d Q = APa E mX0_release (h a) 901 isL a i v 9 L S h r d Q := sA_lastore hE dX0_release_8 rfl
theorem wX0_release_9 (hE : PMon E) : Wa E mX0_release 9 L S h r d Q = Wa E mX0_release 18 L S h r d Q := sA_goto hE dX0_release_9 rfl (by decide) (by decide)
theorem wX0_release_12 (hE : PMon E) : Wa E mX0_release 12 [l0, l1, l2, l3] (v :: S) h r d Q = (isR v = true ∧ Wa E mX0_release 13 [l0, l1, c2 l2, v] S h r d Q) := sA_astore_n hE dX0_release_12 rfl (by show 3 < 4; decide) st1_4_3
theorem wX0_release_13 (hE : PMon E) : Wa E mX0_release 13 L S h r d Q = Wa E mX0_release 14 L (.int 1 :: S) h r d Q := sA_iconst hE dX0_release_13 rfl (by decide)
theorem wX0_release_14 (hE : PMon E) : Wa E mX0_release 14 L [.int x] h r d Q = Q (.inl (some (.int x))) h r := sA_ireturn hE dX0_release_14 rfl
theorem wX0_release_15 (hE : PMon E) : Wa E mX0_release 15 [l0, l1, l2, l3] (v :: S) h r d Q = (isR v = true ∧ Wa E mX0_release 16 [l0, l1, c2 l2, v] S h r d Q) := sA_astore_n hE dX0_release_15 rfl (by show 3 < 4; decide) st1_4_3
theorem wX0_release_16 (hE : PMon E) : Wa E mX0_release 16 L S h r d Q = Wa E mX0_release 17 L (.int 2 :: S) h r d Q := sA_iconst hE dX0_release_16 rfl (by decide)
theorem wX0_release_17 (hE : PMon E) : Wa E mX0_release 17 L [.int x] h r d Q = Q (.inl (some (.int x))) h r := sA_ireturn hE dX0_release_17 rfl
theorem wX0_release_18 (hE : PMon E) : Wa E mX0_release 18 L S h r d Q = Wa E mX0_release 19 L (.int 0 :: S) h r d Q := sA_iconst hE dX0_release_18 rfl (by decide)
theorem wX0_release_19 (hE : PMon E) : Wa E mX0_release 19 L [.int x] h r d Q = Q (.inl (some (.int x))) h r := sA_ireturn hE dX0_release_19 rfl
abbrev cX0_stateOf : ByteArray := method_21_code
def dkwX0_stateOf_0 : List UInt8 := [44, 3, 42, 27, 182, 0, 81, 133, 80, 167, 0, 6, 78, 4, 172, 3, 172]
abbrev dktX0_stateOf_0 : List UInt8 := dkwX0_stateOf_0 ++ []
theorem dksX0_stateOf_0 : cX0_stateOf.data.toList.drop 0 = dktX0_stateOf_0 := by decide +kernel
theorem dX0_stateOf_0 : decode cX0_stateOf 0 = .ok (.aload_n 2, 1) := dk_44 (dk_at dksX0_stateOf_0 0 rfl rfl)
theorem dX0_stateOf_1 : decode cX0_stateOf 1 = .ok (.iconst 0, 1) := dk_3 (dk_at dksX0_stateOf_0 1 rfl rfl)
theorem dX0_stateOf_2 : decode cX0_stateOf 2 = .ok (.aload_n 0, 1) := dk_42 (dk_at dksX0_stateOf_0 2 rfl rfl)
theorem dX0_stateOf_3 : decode cX0_stateOf 3 = .ok (.iload_n 1, 1) := dk_27 (dk_at dksX0_stateOf_0 3 rfl rfl)
theorem dX0_stateOf_4 : decode cX0_stateOf 4 = .ok (.invokevirtual 81, 3) := dk_182 0 81 (dk_at dksX0_stateOf_0 4 rfl rfl)
theorem dX0_stateOf_7 : decode cX0_stateOf 7 = .ok (.i2l, 1) := dk_133 (dk_at dksX0_stateOf_0 7 rfl rfl)
theorem dX0_stateOf_8 : decode cX0_stateOf 8 = .ok (.lastore, 1) := dk_80 (dk_at dksX0_stateOf_0 8 rfl rfl)
theorem dX0_stateOf_9 : decode cX0_stateOf 9 = .ok (.goto 6, 3) := dk_167 0 6 (dk_at dksX0_stateOf_0 9 rfl rfl)
theorem dX0_stateOf_12 : decode cX0_stateOf 12 = .ok (.astore_n 3, 1) := dk_78 (dk_at dksX0_stateOf_0 12 rfl rfl)
theorem dX0_stateOf_13 : decode cX0_stateOf 13 = .ok (.iconst 1, 1) := dk_4 (dk_at dksX0_stateOf_0 13 rfl rfl)
theorem dX0_stateOf_14 : decode cX0_stateOf 14 = .ok (.ireturn, 1) := dk_172 (dk_at dksX0_stateOf_0 14 rfl rfl)
theorem dX0_stateOf_15 : decode cX0_stateOf 15 = .ok (.iconst 0, 1) := dk_3 (dk_at dksX0_stateOf_0 15 rfl rfl)
theorem dX0_stateOf_16 : decode cX0_stateOf 16 = .ok (.ireturn, 1) := dk_172 (dk_at dksX0_stateOf_0 16 rfl rfl)
theorem wX0_stateOf_0 (hE : PMon E) : Wa E mX0_stateOf 0 [l0, l1, l2, l3] S h r d Q = (isR l2 = true ∧ Wa E mX0_stateOf 1 [l0, l1, l2, l3] (l2 :: S) h r d Q) := sA_aload_n hE dX0_stateOf_0 rfl rfl
theorem wX0_stateOf_1 (hE : PMon E) : Wa E mX0_stateOf 1 L S h r d Q = Wa E mX0_stateOf 2 L (.int 0 :: S) h r d Q := sA_iconst hE dX0_stateOf_1 rfl (by decide)
theorem wX0_stateOf_2 (hE : PMon E) : Wa E mX0_stateOf 2 [l0, l1, l2, l3] S h r d Q = (isR l0 = true ∧ Wa E mX0_stateOf 3 [l0, l1, l2, l3] (l0 :: S) h r d Q) := sA_aload_n hE dX0_stateOf_2 rfl rfl
theorem wX0_stateOf_3 (hE : PMon E) : Wa E mX0_stateOf 3 [l0, l1, l2, l3] S h r d Q = (isI l1 = true ∧ Wa E mX0_stateOf 4 [l0, l1, l2, l3] (l1 :: S) h r d Q) := sA_iload_n hE dX0_stateOf_3 rfl rfl
theorem wX0_stateOf_4 (hE : PMon E) : Wa E mX0_stateOf 4 L (v1 :: .ref a :: S) h r d Q = Cla E mX0_stateOf (E.1 0 1 81 (kdo (h a))) [.ref a, v1] 4 7 L S h r d Q := sA_invokevirtual hE dX0_stateOf_4 rfl rfl rfl (by simp) rfl rfl rfl
theorem wX0_stateOf_7 (hE : PMon E) : Wa E mX0_stateOf 7 L (.int x :: S) h r d Q = Wa E mX0_stateOf 8 L (.long x.toInt64 :: S) h r d Q := sA_i2l hE dX0_stateOf_7 rfl
theorem wX0_stateOf_8 (hE : PMon E) : Wa E mX0_stateOf 8 L (v :: .int i :: .ref a :: S) h r d Q = APa E mX0_stateOf (h a) 901 isL a i v 9 L S h r d Q := sA_lastore hE dX0_stateOf_8 rfl
theorem wX0_stateOf_9 (hE : PMon E) : Wa E mX0_stateOf 9 L S h r d Q = Wa E mX0_stateOf 15 L S h r d Q := sA_goto hE dX0_stateOf_9 rfl (by decide) (by decide)
theorem wX0_stateOf_12 (hE : PMon E) : Wa E mX0_stateOf 12 [l0, l1, l2, l3] (v :: S) h r d Q = (isR v = true ∧ Wa E mX0_stateOf 13 [l0, l1, c2 l2, v] S h r d Q) := sA_astore_n hE dX0_stateOf_12 rfl (by show 3 < 4; decide) st1_4_3
theorem wX0_stateOf_13 (hE : PMon E) : Wa E mX0_stateOf 13 L S h r d Q = Wa E mX0_stateOf 14 L (.int 1 :: S) h r d Q := sA_iconst hE dX0_stateOf_13 rfl (by decide)
theorem wX0_stateOf_14 (hE : PMon E) : Wa E mX0_stateOf 14 L [.int x] h r d Q = Q (.inl (some (.int x))) h r := sA_ireturn hE dX0_stateOf_14 rfl
theorem wX0_stateOf_15 (hE : PMon E) : Wa E mX0_stateOf 15 L S h r d Q = Wa E mX0_stateOf 16 L (.int 0 :: S) h r d Q := sA_iconst hE dX0_stateOf_15 rfl (by decide)
theorem wX0_stateOf_16 (hE : PMon E) : Wa E mX0_stateOf 16 L [.int x] h r d Q = Q (.inl (some (.int x))) h r := sA_ireturn hE dX0_stateOf_16 rfl
abbrev cX0_units : ByteArray := method_22_code
def dkwX0_units_0 : List UInt8 := [45, 3, 42, 27, 28, 182, 0, 85, 133, 80, 167, 0, 11, 58, 4, 4, 172, 58, 4, 5, 172, 3, 172]
abbrev dktX0_units_0 : List UInt8 := dkwX0_units_0 ++ []
theorem dksX0_units_0 : cX0_units.data.toList.drop 0 = dktX0_units_0 := by decide +kernel
theorem dX0_units_0 : decode cX0_units 0 = .ok (.aload_n 3, 1) := dk_45 (dk_at dksX0_units_0 0 rfl rfl)
theorem dX0_units_1 : decode cX0_units 1 = .ok (.iconst 0, 1) := dk_3 (dk_at dksX0_units_0 1 rfl rfl)
theorem dX0_units_2 : decode cX0_units 2 = .ok (.aload_n 0, 1) := dk_42 (dk_at dksX0_units_0 2 rfl rfl)
theorem dX0_units_3 : decode cX0_units 3 = .ok (.iload_n 1, 1) := dk_27 (dk_at dksX0_units_0 3 rfl rfl)
theorem dX0_units_4 : decode cX0_units 4 = .ok (.iload_n 2, 1) := dk_28 (dk_at dksX0_units_0 4 rfl rfl)
theorem dX0_units_5 : decode cX0_units 5 = .ok (.invokevirtual 85, 3) := dk_182 0 85 (dk_at dksX0_units_0 5 rfl rfl)
theorem dX0_units_8 : decode cX0_units 8 = .ok (.i2l, 1) := dk_133 (dk_at dksX0_units_0 8 rfl rfl)
theorem dX0_units_9 : decode cX0_units 9 = .ok (.lastore, 1) := dk_80 (dk_at dksX0_units_0 9 rfl rfl)
theorem dX0_units_10 : decode cX0_units 10 = .ok (.goto 11, 3) := dk_167 0 11 (dk_at dksX0_units_0 10 rfl rfl)
theorem dX0_units_13 : decode cX0_units 13 = .ok (.astore 4, 2) := dk_58 4 (dk_at dksX0_units_0 13 rfl rfl)
theorem dX0_units_15 : decode cX0_units 15 = .ok (.iconst 1, 1) := dk_4 (dk_at dksX0_units_0 15 rfl rfl)
theorem dX0_units_16 : decode cX0_units 16 = .ok (.ireturn, 1) := dk_172 (dk_at dksX0_units_0 16 rfl rfl)
theorem dX0_units_17 : decode cX0_units 17 = .ok (.astore 4, 2) := dk_58 4 (dk_at dksX0_units_0 17 rfl rfl)
theorem dX0_units_19 : decode cX0_units 19 = .ok (.iconst 2, 1) := dk_5 (dk_at dksX0_units_0 19 rfl rfl)
theorem dX0_units_20 : decode cX0_units 20 = .ok (.ireturn, 1) := dk_172 (dk_at dksX0_units_0 20 rfl rfl)
theorem dX0_units_21 : decode cX0_units 21 = .ok (.iconst 0, 1) := dk_3 (dk_at dksX0_units_0 21 rfl rfl)
theorem dX0_units_22 : decode cX0_units 22 = .ok (.ireturn, 1) := dk_172 (dk_at dksX0_units_0 22 rfl rfl)
theorem wX0_units_0 (hE : PMon E) : Wa E mX0_units 0 [l0, l1, l2, l3, l4] S h r d Q = (isR l3 = true ∧ Wa E mX0_units 1 [l0, l1, l2, l3, l4] (l3 :: S) h r d Q) := sA_aload_n hE dX0_units_0 rfl rfl
theorem wX0_units_1 (hE : PMon E) : Wa E mX0_units 1 L S h r d Q = Wa E mX0_units 2 L (.int 0 :: S) h r d Q := sA_iconst hE dX0_units_1 rfl (by decide)
theorem wX0_units_2 (hE : PMon E) : Wa E mX0_units 2 [l0, l1, l2, l3, l4] S h r d Q = (isR l0 = true ∧ Wa E mX0_units 3 [l0, l1, l2, l3, l4] (l0 :: S) h r d Q) := sA_aload_n hE dX0_units_2 rfl rfl
theorem wX0_units_3 (hE : PMon E) : Wa E mX0_units 3 [l0, l1, l2, l3, l4] S h r d Q = (isI l1 = true ∧ Wa E mX0_units 4 [l0, l1, l2, l3, l4] (l1 :: S) h r d Q) := sA_iload_n hE dX0_units_3 rfl rfl
theorem wX0_units_4 (hE : PMon E) : Wa E mX0_units 4 [l0, l1, l2, l3, l4] S h r d Q = (isI l2 = true ∧ Wa E mX0_units 5 [l0, l1, l2, l3, l4] (l2 :: S) h r d Q) := sA_iload_n hE dX0_units_4 rfl rfl
theorem wX0_units_5 (hE : PMon E) : Wa E mX0_units 5 L (v2 :: v1 :: .ref a :: S) h r d Q = Cla E mX0_units (E.1 0 1 85 (kdo (h a))) [.ref a, v1, v2] 5 8 L S h r d Q := sA_invokevirtual hE dX0_units_5 rfl rfl rfl (by simp) rfl rfl rfl
theorem wX0_units_8 (hE : PMon E) : Wa E mX0_units 8 L (.int x :: S) h r d Q = Wa E mX0_units 9 L (.long x.toInt64 :: S) h r d Q := sA_i2l hE dX0_units_8 rfl
theorem wX0_units_9 (hE : PMon E) : Wa E mX0_units 9 L (v :: .int i :: .ref a :: S) h r d Q = APa E mX0_units (h a) 901 isL a i v 10 L S h r d Q := sA_lastore hE dX0_units_9 rfl
theorem wX0_units_10 (hE : PMon E) : Wa E mX0_units 10 L S h r d Q = Wa E mX0_units 21 L S h r d Q := sA_goto hE dX0_units_10 rfl (by decide) (by decide)
theorem wX0_units_13 (hE : PMon E) : Wa E mX0_units 13 [l0, l1, l2, l3, l4] (v :: S) h r d Q = (isR v = true ∧ Wa E mX0_units 15 [l0, l1, l2, c2 l3, v] S h r d Q) := sA_astore hE dX0_units_13 rfl (by show 4 < 5; decide) st1_5_4
theorem wX0_units_15 (hE : PMon E) : Wa E mX0_units 15 L S h r d Q = Wa E mX0_units 16 L (.int 1 :: S) h r d Q := sA_iconst hE dX0_units_15 rfl (by decide)
theorem wX0_units_16 (hE : PMon E) : Wa E mX0_units 16 L [.int x] h r d Q = Q (.inl (some (.int x))) h r := sA_ireturn hE dX0_units_16 rfl
theorem wX0_units_17 (hE : PMon E) : Wa E mX0_units 17 [l0, l1, l2, l3, l4] (v :: S) h r d Q = (isR v = true ∧ Wa E mX0_units 19 [l0, l1, l2, c2 l3, v] S h r d Q) := sA_astore hE dX0_units_17 rfl (by show 4 < 5; decide) st1_5_4
theorem wX0_units_19 (hE : PMon E) : Wa E mX0_units 19 L S h r d Q = Wa E mX0_units 20 L (.int 2 :: S) h r d Q := sA_iconst hE dX0_units_19 rfl (by decide)
theorem wX0_units_20 (hE : PMon E) : Wa E mX0_units 20 L [.int x] h r d Q = Q (.inl (some (.int x))) h r := sA_ireturn hE dX0_units_20 rfl
theorem wX0_units_21 (hE : PMon E) : Wa E mX0_units 21 L S h r d Q = Wa E mX0_units 22 L (.int 0 :: S) h r d Q := sA_iconst hE dX0_units_21 rfl (by decide)
theorem wX0_units_22 (hE : PMon E) : Wa E mX0_units 22 L [.int x] h r d Q = Q (.inl (some (.int x))) h r := sA_ireturn hE dX0_units_22 rfl
abbrev cX0_usable : ByteArray := method_23_code
def dkwX0_usable_0 : List UInt8 := [45, 3, 42, 27, 28, 182, 0, 89, 133, 80, 167, 0, 11, 58, 4, 4, 172, 58, 4, 5, 172, 3, 172]
abbrev dktX0_usable_0 : List UInt8 := dkwX0_usable_0 ++ []
theorem dksX0_usable_0 : cX0_usable.data.toList.drop 0 = dktX0_usable_0 := by decide +kernel
theorem dX0_usable_0 : decode cX0_usable 0 = .ok (.aload_n 3, 1) := dk_45 (dk_at dksX0_usable_0 0 rfl rfl)
theorem dX0_usable_1 : decode cX0_usable 1 = .ok (.iconst 0, 1) := dk_3 (dk_at dksX0_usable_0 1 rfl rfl)
theorem dX0_usable_2 : decode cX0_usable 2 = .ok (.aload_n 0, 1) := dk_42 (dk_at dksX0_usable_0 2 rfl rfl)
theorem dX0_usable_3 : decode cX0_usable 3 = .ok (.iload_n 1, 1) := dk_27 (dk_at dksX0_usable_0 3 rfl rfl)
theorem dX0_usable_4 : decode cX0_usable 4 = .ok (.iload_n 2, 1) := dk_28 (dk_at dksX0_usable_0 4 rfl rfl)
theorem dX0_usable_5 : decode cX0_usable 5 = .ok (.invokevirtual 89, 3) := dk_182 0 89 (dk_at dksX0_usable_0 5 rfl rfl)
theorem dX0_usable_8 : decode cX0_usable 8 = .ok (.i2l, 1) := dk_133 (dk_at dksX0_usable_0 8 rfl rfl)
theorem dX0_usable_9 : decode cX0_usable 9 = .ok (.lastore, 1) := dk_80 (dk_at dksX0_usable_0 9 rfl rfl)
theorem dX0_usable_10 : decode cX0_usable 10 = .ok (.goto 11, 3) := dk_167 0 11 (dk_at dksX0_usable_0 10 rfl rfl)
theorem dX0_usable_13 : decode cX0_usable 13 = .ok (.astore 4, 2) := dk_58 4 (dk_at dksX0_usable_0 13 rfl rfl)
theorem dX0_usable_15 : decode cX0_usable 15 = .ok (.iconst 1, 1) := dk_4 (dk_at dksX0_usable_0 15 rfl rfl)
theorem dX0_usable_16 : decode cX0_usable 16 = .ok (.ireturn, 1) := dk_172 (dk_at dksX0_usable_0 16 rfl rfl)
theorem dX0_usable_17 : decode cX0_usable 17 = .ok (.astore 4, 2) := dk_58 4 (dk_at dksX0_usable_0 17 rfl rfl)
theorem dX0_usable_19 : decode cX0_usable 19 = .ok (.iconst 2, 1) := dk_5 (dk_at dksX0_usable_0 19 rfl rfl)
theorem dX0_usable_20 : decode cX0_usable 20 = .ok (.ireturn, 1) := dk_172 (dk_at dksX0_usable_0 20 rfl rfl)
theorem dX0_usable_21 : decode cX0_usable 21 = .ok (.iconst 0, 1) := dk_3 (dk_at dksX0_usable_0 21 rfl rfl)
theorem dX0_usable_22 : decode cX0_usable 22 = .ok (.ireturn, 1) := dk_172 (dk_at dksX0_usable_0 22 rfl rfl)
theorem wX0_usable_0 (hE : PMon E) : Wa E mX0_usable 0 [l0, l1, l2, l3, l4] S h r d Q = (isR l3 = true ∧ Wa E mX0_usable 1 [l0, l1, l2, l3, l4] (l3 :: S) h r d Q) := sA_aload_n hE dX0_usable_0 rfl rfl
theorem wX0_usable_1 (hE : PMon E) : Wa E mX0_usable 1 L S h r d Q = Wa E mX0_usable 2 L (.int 0 :: S) h r d Q := sA_iconst hE dX0_usable_1 rfl (by decide)
theorem wX0_usable_2 (hE : PMon E) : Wa E mX0_usable 2 [l0, l1, l2, l3, l4] S h r d Q = (isR l0 = true ∧ Wa E mX0_usable 3 [l0, l1, l2, l3, l4] (l0 :: S) h r d Q) := sA_aload_n hE dX0_usable_2 rfl rfl
theorem wX0_usable_3 (hE : PMon E) : Wa E mX0_usable 3 [l0, l1, l2, l3, l4] S h r d Q = (isI l1 = true ∧ Wa E mX0_usable 4 [l0, l1, l2, l3, l4] (l1 :: S) h r d Q) := sA_iload_n hE dX0_usable_3 rfl rfl
theorem wX0_usable_4 (hE : PMon E) : Wa E mX0_usable 4 [l0, l1, l2, l3, l4] S h r d Q = (isI l2 = true ∧ Wa E mX0_usable 5 [l0, l1, l2, l3, l4] (l2 :: S) h r d Q) := sA_iload_n hE dX0_usable_4 rfl rfl
theorem wX0_usable_5 (hE : PMon E) : Wa E mX0_usable 5 L (v2 :: v1 :: .ref a :: S) h r d Q = Cla E mX0_usable (E.1 0 1 89 (kdo (h a))) [.ref a, v1, v2] 5 8 L S h r d Q := sA_invokevirtual hE dX0_usable_5 rfl rfl rfl (by simp) rfl rfl rfl
theorem wX0_usable_8 (hE : PMon E) : Wa E mX0_usable 8 L (.int x :: S) h r d Q = Wa E mX0_usable 9 L (.long x.toInt64 :: S) h r d Q := sA_i2l hE dX0_usable_8 rfl
theorem wX0_usable_9 (hE : PMon E) : Wa E mX0_usable 9 L (v :: .int i :: .ref a :: S) h r d Q = APa E mX0_usable (h a) 901 isL a i v 10 L S h r d Q := sA_lastore hE dX0_usable_9 rfl
theorem wX0_usable_10 (hE : PMon E) : Wa E mX0_usable 10 L S h r d Q = Wa E mX0_usable 21 L S h r d Q := sA_goto hE dX0_usable_10 rfl (by decide) (by decide)
theorem wX0_usable_13 (hE : PMon E) : Wa E mX0_usable 13 [l0, l1, l2, l3, l4] (v :: S) h r d Q = (isR v = true ∧ Wa E mX0_usable 15 [l0, l1, l2, c2 l3, v] S h r d Q) := sA_astore hE dX0_usable_13 rfl (by show 4 < 5; decide) st1_5_4
theorem wX0_usable_15 (hE : PMon E) : Wa E mX0_usable 15 L S h r d Q = Wa E mX0_usable 16 L (.int 1 :: S) h r d Q := sA_iconst hE dX0_usable_15 rfl (by decide)
theorem wX0_usable_16 (hE : PMon E) : Wa E mX0_usable 16 L [.int x] h r d Q = Q (.inl (some (.int x))) h r := sA_ireturn hE dX0_usable_16 rfl
theorem wX0_usable_17 (hE : PMon E) : Wa E mX0_usable 17 [l0, l1, l2, l3, l4] (v :: S) h r d Q = (isR v = true ∧ Wa E mX0_usable 19 [l0, l1, l2, c2 l3, v] S h r d Q) := sA_astore hE dX0_usable_17 rfl (by show 4 < 5; decide) st1_5_4
theorem wX0_usable_19 (hE : PMon E) : Wa E mX0_usable 19 L S h r d Q = Wa E mX0_usable 20 L (.int 2 :: S) h r d Q := sA_iconst hE dX0_usable_19 rfl (by decide)
theorem wX0_usable_20 (hE : PMon E) : Wa E mX0_usable 20 L [.int x] h r d Q = Q (.inl (some (.int x))) h r := sA_ireturn hE dX0_usable_20 rfl
theorem wX0_usable_21 (hE : PMon E) : Wa E mX0_usable 21 L S h r d Q = Wa E mX0_usable 22 L (.int 0 :: S) h r d Q := sA_iconst hE dX0_usable_21 rfl (by decide)
theorem wX0_usable_22 (hE : PMon E) : Wa E mX0_usable 22 L [.int x] h r d Q = Q (.inl (some (.int x))) h r := sA_ireturn hE dX0_usable_22 rfl
abbrev cX0_holderOf : ByteArray := method_24_code
def dkwX0_holderOf_0 : List UInt8 := [44, 3, 42, 27, 182, 0, 92, 133, 80, 167, 0, 6, 78, 4, 172, 3, 172]
abbrev dktX0_holderOf_0 : List UInt8 := dkwX0_holderOf_0 ++ []
theorem dksX0_holderOf_0 : cX0_holderOf.data.toList.drop 0 = dktX0_holderOf_0 := by decide +kernel
theorem dX0_holderOf_0 : decode cX0_holderOf 0 = .ok (.aload_n 2, 1) := dk_44 (dk_at dksX0_holderOf_0 0 rfl rfl)
theorem dX0_holderOf_1 : decode cX0_holderOf 1 = .ok (.iconst 0, 1) := dk_3 (dk_at dksX0_holderOf_0 1 rfl rfl)
theorem dX0_holderOf_2 : decode cX0_holderOf 2 = .ok (.aload_n 0, 1) := dk_42 (dk_at dksX0_holderOf_0 2 rfl rfl)
theorem dX0_holderOf_3 : decode cX0_holderOf 3 = .ok (.iload_n 1, 1) := dk_27 (dk_at dksX0_holderOf_0 3 rfl rfl)
theorem dX0_holderOf_4 : decode cX0_holderOf 4 = .ok (.invokevirtual 92, 3) := dk_182 0 92 (dk_at dksX0_holderOf_0 4 rfl rfl)
theorem dX0_holderOf_7 : decode cX0_holderOf 7 = .ok (.i2l, 1) := dk_133 (dk_at dksX0_holderOf_0 7 rfl rfl)
theorem dX0_holderOf_8 : decode cX0_holderOf 8 = .ok (.lastore, 1) := dk_80 (dk_at dksX0_holderOf_0 8 rfl rfl)
theorem dX0_holderOf_9 : decode cX0_holderOf 9 = .ok (.goto 6, 3) := dk_167 0 6 (dk_at dksX0_holderOf_0 9 rfl rfl)
theorem dX0_holderOf_12 : decode cX0_holderOf 12 = .ok (.astore_n 3, 1) := dk_78 (dk_at dksX0_holderOf_0 12 rfl rfl)
theorem dX0_holderOf_13 : decode cX0_holderOf 13 = .ok (.iconst 1, 1) := dk_4 (dk_at dksX0_holderOf_0 13 rfl rfl)
theorem dX0_holderOf_14 : decode cX0_holderOf 14 = .ok (.ireturn, 1) := dk_172 (dk_at dksX0_holderOf_0 14 rfl rfl)
theorem dX0_holderOf_15 : decode cX0_holderOf 15 = .ok (.iconst 0, 1) := dk_3 (dk_at dksX0_holderOf_0 15 rfl rfl)
theorem dX0_holderOf_16 : decode cX0_holderOf 16 = .ok (.ireturn, 1) := dk_172 (dk_at dksX0_holderOf_0 16 rfl rfl)
theorem wX0_holderOf_0 (hE : PMon E) : Wa E mX0_holderOf 0 [l0, l1, l2, l3] S h r d Q = (isR l2 = true ∧ Wa E mX0_holderOf 1 [l0, l1, l2, l3] (l2 :: S) h r d Q) := sA_aload_n hE dX0_holderOf_0 rfl rfl
theorem wX0_holderOf_1 (hE : PMon E) : Wa E mX0_holderOf 1 L S h r d Q = Wa E mX0_holderOf 2 L (.int 0 :: S) h r d Q := sA_iconst hE dX0_holderOf_1 rfl (by decide)
theorem wX0_holderOf_2 (hE : PMon E) : Wa E mX0_holderOf 2 [l0, l1, l2, l3] S h r d Q = (isR l0 = true ∧ Wa E mX0_holderOf 3 [l0, l1, l2, l3] (l0 :: S) h r d Q) := sA_aload_n hE dX0_holderOf_2 rfl rfl
theorem wX0_holderOf_3 (hE : PMon E) : Wa E mX0_holderOf 3 [l0, l1, l2, l3] S h r d Q = (isI l1 = true ∧ Wa E mX0_holderOf 4 [l0, l1, l2, l3] (l1 :: S) h r d Q) := sA_iload_n hE dX0_holderOf_3 rfl rfl
theorem wX0_holderOf_4 (hE : PMon E) : Wa E mX0_holderOf 4 L (v1 :: .ref a :: S) h r d Q = Cla E mX0_holderOf (E.1 0 1 92 (kdo (h a))) [.ref a, v1] 4 7 L S h r d Q := sA_invokevirtual hE dX0_holderOf_4 rfl rfl rfl (by simp) rfl rfl rfl
theorem wX0_holderOf_7 (hE : PMon E) : Wa E mX0_holderOf 7 L (.int x :: S) h r d Q = Wa E mX0_holderOf 8 L (.long x.toInt64 :: S) h r d Q := sA_i2l hE dX0_holderOf_7 rfl
theorem wX0_holderOf_8 (hE : PMon E) : Wa E mX0_holderOf 8 L (v :: .int i :: .ref a :: S) h r d Q = APa E mX0_holderOf (h a) 901 isL a i v 9 L S h r d Q := sA_lastore hE dX0_holderOf_8 rfl
theorem wX0_holderOf_9 (hE : PMon E) : Wa E mX0_holderOf 9 L S h r d Q = Wa E mX0_holderOf 15 L S h r d Q := sA_goto hE dX0_holderOf_9 rfl (by decide) (by decide)
theorem wX0_holderOf_12 (hE : PMon E) : Wa E mX0_holderOf 12 [l0, l1, l2, l3] (v :: S) h r d Q = (isR v = true ∧ Wa E mX0_holderOf 13 [l0, l1, c2 l2, v] S h r d Q) := sA_astore_n hE dX0_holderOf_12 rfl (by show 3 < 4; decide) st1_4_3
theorem wX0_holderOf_13 (hE : PMon E) : Wa E mX0_holderOf 13 L S h r d Q = Wa E mX0_holderOf 14 L (.int 1 :: S) h r d Q := sA_iconst hE dX0_holderOf_13 rfl (by decide)
theorem wX0_holderOf_14 (hE : PMon E) : Wa E mX0_holderOf 14 L [.int x] h r d Q = Q (.inl (some (.int x))) h r := sA_ireturn hE dX0_holderOf_14 rfl
theorem wX0_holderOf_15 (hE : PMon E) : Wa E mX0_holderOf 15 L S h r d Q = Wa E mX0_holderOf 16 L (.int 0 :: S) h r d Q := sA_iconst hE dX0_holderOf_15 rfl (by decide)
theorem wX0_holderOf_16 (hE : PMon E) : Wa E mX0_holderOf 16 L [.int x] h r d Q = Q (.inl (some (.int x))) h r := sA_ireturn hE dX0_holderOf_16 rfl
abbrev cX0_vintageOf : ByteArray := method_25_code
def dkwX0_vintageOf_0 : List UInt8 := [44, 3, 42, 27, 182, 0, 95, 133, 80, 167, 0, 6, 78, 4, 172, 3, 172]
abbrev dktX0_vintageOf_0 : List UInt8 := dkwX0_vintageOf_0 ++ []
theorem dksX0_vintageOf_0 : cX0_vintageOf.data.toList.drop 0 = dktX0_vintageOf_0 := by decide +kernel
theorem dX0_vintageOf_0 : decode cX0_vintageOf 0 = .ok (.aload_n 2, 1) := dk_44 (dk_at dksX0_vintageOf_0 0 rfl rfl)
theorem dX0_vintageOf_1 : decode cX0_vintageOf 1 = .ok (.iconst 0, 1) := dk_3 (dk_at dksX0_vintageOf_0 1 rfl rfl)
theorem dX0_vintageOf_2 : decode cX0_vintageOf 2 = .ok (.aload_n 0, 1) := dk_42 (dk_at dksX0_vintageOf_0 2 rfl rfl)
theorem dX0_vintageOf_3 : decode cX0_vintageOf 3 = .ok (.iload_n 1, 1) := dk_27 (dk_at dksX0_vintageOf_0 3 rfl rfl)
theorem dX0_vintageOf_4 : decode cX0_vintageOf 4 = .ok (.invokevirtual 95, 3) := dk_182 0 95 (dk_at dksX0_vintageOf_0 4 rfl rfl)
theorem dX0_vintageOf_7 : decode cX0_vintageOf 7 = .ok (.i2l, 1) := dk_133 (dk_at dksX0_vintageOf_0 7 rfl rfl)
theorem dX0_vintageOf_8 : decode cX0_vintageOf 8 = .ok (.lastore, 1) := dk_80 (dk_at dksX0_vintageOf_0 8 rfl rfl)
theorem dX0_vintageOf_9 : decode cX0_vintageOf 9 = .ok (.goto 6, 3) := dk_167 0 6 (dk_at dksX0_vintageOf_0 9 rfl rfl)
theorem dX0_vintageOf_12 : decode cX0_vintageOf 12 = .ok (.astore_n 3, 1) := dk_78 (dk_at dksX0_vintageOf_0 12 rfl rfl)
theorem dX0_vintageOf_13 : decode cX0_vintageOf 13 = .ok (.iconst 1, 1) := dk_4 (dk_at dksX0_vintageOf_0 13 rfl rfl)
theorem dX0_vintageOf_14 : decode cX0_vintageOf 14 = .ok (.ireturn, 1) := dk_172 (dk_at dksX0_vintageOf_0 14 rfl rfl)
theorem dX0_vintageOf_15 : decode cX0_vintageOf 15 = .ok (.iconst 0, 1) := dk_3 (dk_at dksX0_vintageOf_0 15 rfl rfl)
theorem dX0_vintageOf_16 : decode cX0_vintageOf 16 = .ok (.ireturn, 1) := dk_172 (dk_at dksX0_vintageOf_0 16 rfl rfl)
theorem wX0_vintageOf_0 (hE : PMon E) : Wa E mX0_vintageOf 0 [l0, l1, l2, l3] S h r d Q = (isR l2 = true ∧ Wa E mX0_vintageOf 1 [l0, l1, l2, l3] (l2 :: S) h r d Q) := sA_aload_n hE dX0_vintageOf_0 rfl rfl
theorem wX0_vintageOf_1 (hE : PMon E) : Wa E mX0_vintageOf 1 L S h r d Q = Wa E mX0_vintageOf 2 L (.int 0 :: S) h r d Q := sA_iconst hE dX0_vintageOf_1 rfl (by decide)
theorem wX0_vintageOf_2 (hE : PMon E) : Wa E mX0_vintageOf 2 [l0, l1, l2, l3] S h r d Q = (isR l0 = true ∧ Wa E mX0_vintageOf 3 [l0, l1, l2, l3] (l0 :: S) h r d Q) := sA_aload_n hE dX0_vintageOf_2 rfl rfl
theorem wX0_vintageOf_3 (hE : PMon E) : Wa E mX0_vintageOf 3 [l0, l1, l2, l3] S h r d Q = (isI l1 = true ∧ Wa E mX0_vintageOf 4 [l0, l1, l2, l3] (l1 :: S) h r d Q) := sA_iload_n hE dX0_vintageOf_3 rfl rfl
theorem wX0_vintageOf_4 (hE : PMon E) : Wa E mX0_vintageOf 4 L (v1 :: .ref a :: S) h r d Q = Cla E mX0_vintageOf (E.1 0 1 95 (kdo (h a))) [.ref a, v1] 4 7 L S h r d Q := sA_invokevirtual hE dX0_vintageOf_4 rfl rfl rfl (by simp) rfl rfl rfl
theorem wX0_vintageOf_7 (hE : PMon E) : Wa E mX0_vintageOf 7 L (.int x :: S) h r d Q = Wa E mX0_vintageOf 8 L (.long x.toInt64 :: S) h r d Q := sA_i2l hE dX0_vintageOf_7 rfl
theorem wX0_vintageOf_8 (hE : PMon E) : Wa E mX0_vintageOf 8 L (v :: .int i :: .ref a :: S) h r d Q = APa E mX0_vintageOf (h a) 901 isL a i v 9 L S h r d Q := sA_lastore hE dX0_vintageOf_8 rfl
theorem wX0_vintageOf_9 (hE : PMon E) : Wa E mX0_vintageOf 9 L S h r d Q = Wa E mX0_vintageOf 15 L S h r d Q := sA_goto hE dX0_vintageOf_9 rfl (by decide) (by decide)
theorem wX0_vintageOf_12 (hE : PMon E) : Wa E mX0_vintageOf 12 [l0, l1, l2, l3] (v :: S) h r d Q = (isR v = true ∧ Wa E mX0_vintageOf 13 [l0, l1, c2 l2, v] S h r d Q) := sA_astore_n hE dX0_vintageOf_12 rfl (by show 3 < 4; decide) st1_4_3
theorem wX0_vintageOf_13 (hE : PMon E) : Wa E mX0_vintageOf 13 L S h r d Q = Wa E mX0_vintageOf 14 L (.int 1 :: S) h r d Q := sA_iconst hE dX0_vintageOf_13 rfl (by decide)
theorem wX0_vintageOf_14 (hE : PMon E) : Wa E mX0_vintageOf 14 L [.int x] h r d Q = Q (.inl (some (.int x))) h r := sA_ireturn hE dX0_vintageOf_14 rfl
theorem wX0_vintageOf_15 (hE : PMon E) : Wa E mX0_vintageOf 15 L S h r d Q = Wa E mX0_vintageOf 16 L (.int 0 :: S) h r d Q := sA_iconst hE dX0_vintageOf_15 rfl (by decide)
theorem wX0_vintageOf_16 (hE : PMon E) : Wa E mX0_vintageOf 16 L [.int x] h r d Q = Q (.inl (some (.int x))) h r := sA_ireturn hE dX0_vintageOf_16 rfl
abbrev cX0_isFrozen : ByteArray := method_26_code
def dkwX0_isFrozen_0 : List UInt8 := [44, 3, 42, 27, 182, 0, 98, 153, 0, 7, 10, 167, 0, 4, 9, 80, 167, 0, 6, 78, 4, 172, 3, 172]
abbrev dktX0_isFrozen_0 : List UInt8 := dkwX0_isFrozen_0 ++ []
theorem dksX0_isFrozen_0 : cX0_isFrozen.data.toList.drop 0 = dktX0_isFrozen_0 := by decide +kernel
theorem dX0_isFrozen_0 : decode cX0_isFrozen 0 = .ok (.aload_n 2, 1) := dk_44 (dk_at dksX0_isFrozen_0 0 rfl rfl)
theorem dX0_isFrozen_1 : decode cX0_isFrozen 1 = .ok (.iconst 0, 1) := dk_3 (dk_at dksX0_isFrozen_0 1 rfl rfl)
theorem dX0_isFrozen_2 : decode cX0_isFrozen 2 = .ok (.aload_n 0, 1) := dk_42 (dk_at dksX0_isFrozen_0 2 rfl rfl)
theorem dX0_isFrozen_3 : decode cX0_isFrozen 3 = .ok (.iload_n 1, 1) := dk_27 (dk_at dksX0_isFrozen_0 3 rfl rfl)
theorem dX0_isFrozen_4 : decode cX0_isFrozen 4 = .ok (.invokevirtual 98, 3) := dk_182 0 98 (dk_at dksX0_isFrozen_0 4 rfl rfl)
theorem dX0_isFrozen_7 : decode cX0_isFrozen 7 = .ok (.ifCond .eq 7, 3) := dk_153 0 7 (dk_at dksX0_isFrozen_0 7 rfl rfl)
theorem dX0_isFrozen_10 : decode cX0_isFrozen 10 = .ok (.lconst 1, 1) := dk_10 (dk_at dksX0_isFrozen_0 10 rfl rfl)
theorem dX0_isFrozen_11 : decode cX0_isFrozen 11 = .ok (.goto 4, 3) := dk_167 0 4 (dk_at dksX0_isFrozen_0 11 rfl rfl)
theorem dX0_isFrozen_14 : decode cX0_isFrozen 14 = .ok (.lconst 0, 1) := dk_9 (dk_at dksX0_isFrozen_0 14 rfl rfl)
theorem dX0_isFrozen_15 : decode cX0_isFrozen 15 = .ok (.lastore, 1) := dk_80 (dk_at dksX0_isFrozen_0 15 rfl rfl)
theorem dX0_isFrozen_16 : decode cX0_isFrozen 16 = .ok (.goto 6, 3) := dk_167 0 6 (dk_at dksX0_isFrozen_0 16 rfl rfl)
theorem dX0_isFrozen_19 : decode cX0_isFrozen 19 = .ok (.astore_n 3, 1) := dk_78 (dk_at dksX0_isFrozen_0 19 rfl rfl)
theorem dX0_isFrozen_20 : decode cX0_isFrozen 20 = .ok (.iconst 1, 1) := dk_4 (dk_at dksX0_isFrozen_0 20 rfl rfl)
theorem dX0_isFrozen_21 : decode cX0_isFrozen 21 = .ok (.ireturn, 1) := dk_172 (dk_at dksX0_isFrozen_0 21 rfl rfl)
theorem dX0_isFrozen_22 : decode cX0_isFrozen 22 = .ok (.iconst 0, 1) := dk_3 (dk_at dksX0_isFrozen_0 22 rfl rfl)
theorem dX0_isFrozen_23 : decode cX0_isFrozen 23 = .ok (.ireturn, 1) := dk_172 (dk_at dksX0_isFrozen_0 23 rfl rfl)
theorem wX0_isFrozen_0 (hE : PMon E) : Wa E mX0_isFrozen 0 [l0, l1, l2, l3] S h r d Q = (isR l2 = true ∧ Wa E mX0_isFrozen 1 [l0, l1, l2, l3] (l2 :: S) h r d Q) := sA_aload_n hE dX0_isFrozen_0 rfl rfl
theorem wX0_isFrozen_1 (hE : PMon E) : Wa E mX0_isFrozen 1 L S h r d Q = Wa E mX0_isFrozen 2 L (.int 0 :: S) h r d Q := sA_iconst hE dX0_isFrozen_1 rfl (by decide)
theorem wX0_isFrozen_2 (hE : PMon E) : Wa E mX0_isFrozen 2 [l0, l1, l2, l3] S h r d Q = (isR l0 = true ∧ Wa E mX0_isFrozen 3 [l0, l1, l2, l3] (l0 :: S) h r d Q) := sA_aload_n hE dX0_isFrozen_2 rfl rfl
theorem wX0_isFrozen_3 (hE : PMon E) : Wa E mX0_isFrozen 3 [l0, l1, l2, l3] S h r d Q = (isI l1 = true ∧ Wa E mX0_isFrozen 4 [l0, l1, l2, l3] (l1 :: S) h r d Q) := sA_iload_n hE dX0_isFrozen_3 rfl rfl
theorem wX0_isFrozen_4 (hE : PMon E) : Wa E mX0_isFrozen 4 L (v1 :: .ref a :: S) h r d Q = Cla E mX0_isFrozen (E.1 0 1 98 (kdo (h a))) [.ref a, v1] 4 7 L S h r d Q := sA_invokevirtual hE dX0_isFrozen_4 rfl rfl rfl (by simp) rfl rfl rfl
theorem wX0_isFrozen_7 (hE : PMon E) : Wa E mX0_isFrozen 7 L (.int x :: S) h r d Q = Br (x = 0) (Wa E mX0_isFrozen (frz 14) L S h r d Q) (Wa E mX0_isFrozen (frz 10) L S h r d Q) := sA_ifCond_eq hE dX0_isFrozen_7 rfl (by decide) (by decide)
theorem wX0_isFrozen_10 (hE : PMon E) : Wa E mX0_isFrozen 10 L S h r d Q = Wa E mX0_isFrozen 11 L (.long 1 :: S) h r d Q := sA_lconst hE dX0_isFrozen_10 rfl (by decide)
theorem wX0_isFrozen_11 (hE : PMon E) : Wa E mX0_isFrozen 11 L S h r d Q = Wa E mX0_isFrozen 15 L S h r d Q := sA_goto hE dX0_isFrozen_11 rfl (by decide) (by decide)
theorem wX0_isFrozen_14 (hE : PMon E) : Wa E mX0_isFrozen 14 L S h r d Q = Wa E mX0_isFrozen 15 L (.long 0 :: S) h r d Q := sA_lconst hE dX0_isFrozen_14 rfl (by decide)
theorem wX0_isFrozen_15 (hE : PMon E) : Wa E mX0_isFrozen 15 L (v :: .int i :: .ref a :: S) h r d Q = APa E mX0_isFrozen (h a) 901 isL a i v 16 L S h r d Q := sA_lastore hE dX0_isFrozen_15 rfl
theorem wX0_isFrozen_16 (hE : PMon E) : Wa E mX0_isFrozen 16 L S h r d Q = Wa E mX0_isFrozen 22 L S h r d Q := sA_goto hE dX0_isFrozen_16 rfl (by decide) (by decide)
theorem wX0_isFrozen_19 (hE : PMon E) : Wa E mX0_isFrozen 19 [l0, l1, l2, l3] (v :: S) h r d Q = (isR v = true ∧ Wa E mX0_isFrozen 20 [l0, l1, c2 l2, v] S h r d Q) := sA_astore_n hE dX0_isFrozen_19 rfl (by show 3 < 4; decide) st1_4_3
theorem wX0_isFrozen_20 (hE : PMon E) : Wa E mX0_isFrozen 20 L S h r d Q = Wa E mX0_isFrozen 21 L (.int 1 :: S) h r d Q := sA_iconst hE dX0_isFrozen_20 rfl (by decide)
theorem wX0_isFrozen_21 (hE : PMon E) : Wa E mX0_isFrozen 21 L [.int x] h r d Q = Q (.inl (some (.int x))) h r := sA_ireturn hE dX0_isFrozen_21 rfl
theorem wX0_isFrozen_22 (hE : PMon E) : Wa E mX0_isFrozen 22 L S h r d Q = Wa E mX0_isFrozen 23 L (.int 0 :: S) h r d Q := sA_iconst hE dX0_isFrozen_22 rfl (by decide)
theorem wX0_isFrozen_23 (hE : PMon E) : Wa E mX0_isFrozen 23 L [.int x] h r d Q = Q (.inl (some (.int x))) h r := sA_ireturn hE dX0_isFrozen_23 rfl
abbrev cX0_surrender : ByteArray := method_27_code
def dkwX0_surrender_1 : List UInt8 := [58, 6, 6, 172, 58, 6, 7, 172, 3, 172]
abbrev dktX0_surrender_1 : List UInt8 := dkwX0_surrender_1 ++ []
def dkwX0_surrender_0 : List UInt8 := [25, 5, 3, 42, 27, 28, 29, 21, 4, 182, 0, 102, 80, 167, 0, 19, 58, 6, 4, 172, 58, 6, 5, 172]
abbrev dktX0_surrender_0 : List UInt8 := dkwX0_surrender_0 ++ dktX0_surrender_1
theorem dksX0_surrender_0 : cX0_surrender.data.toList.drop 0 = dktX0_surrender_0 := by decide +kernel
theorem dksX0_surrender_1 : cX0_surrender.data.toList.drop 24 = dktX0_surrender_1 := dk_seg dksX0_surrender_0 24 rfl rfl
theorem dX0_surrender_0 : decode cX0_surrender 0 = .ok (.aload 5, 2) := dk_25 5 (dk_at dksX0_surrender_0 0 rfl rfl)
theorem dX0_surrender_2 : decode cX0_surrender 2 = .ok (.iconst 0, 1) := dk_3 (dk_at dksX0_surrender_0 2 rfl rfl)
theorem dX0_surrender_3 : decode cX0_surrender 3 = .ok (.aload_n 0, 1) := dk_42 (dk_at dksX0_surrender_0 3 rfl rfl)
theorem dX0_surrender_4 : decode cX0_surrender 4 = .ok (.iload_n 1, 1) := dk_27 (dk_at dksX0_surrender_0 4 rfl rfl)
theorem dX0_surrender_5 : decode cX0_surrender 5 = .ok (.iload_n 2, 1) := dk_28 (dk_at dksX0_surrender_0 5 rfl rfl)
theorem dX0_surrender_6 : decode cX0_surrender 6 = .ok (.iload_n 3, 1) := dk_29 (dk_at dksX0_surrender_0 6 rfl rfl)
theorem dX0_surrender_7 : decode cX0_surrender 7 = .ok (.iload 4, 2) := dk_21 4 (dk_at dksX0_surrender_0 7 rfl rfl)
theorem dX0_surrender_9 : decode cX0_surrender 9 = .ok (.invokevirtual 102, 3) := dk_182 0 102 (dk_at dksX0_surrender_0 9 rfl rfl)
theorem dX0_surrender_12 : decode cX0_surrender 12 = .ok (.lastore, 1) := dk_80 (dk_at dksX0_surrender_0 12 rfl rfl)
theorem dX0_surrender_13 : decode cX0_surrender 13 = .ok (.goto 19, 3) := dk_167 0 19 (dk_at dksX0_surrender_0 13 rfl rfl)
theorem dX0_surrender_16 : decode cX0_surrender 16 = .ok (.astore 6, 2) := dk_58 6 (dk_at dksX0_surrender_0 16 rfl rfl)
theorem dX0_surrender_18 : decode cX0_surrender 18 = .ok (.iconst 1, 1) := dk_4 (dk_at dksX0_surrender_0 18 rfl rfl)
theorem dX0_surrender_19 : decode cX0_surrender 19 = .ok (.ireturn, 1) := dk_172 (dk_at dksX0_surrender_0 19 rfl rfl)
theorem dX0_surrender_20 : decode cX0_surrender 20 = .ok (.astore 6, 2) := dk_58 6 (dk_at dksX0_surrender_0 20 rfl rfl)
theorem dX0_surrender_22 : decode cX0_surrender 22 = .ok (.iconst 2, 1) := dk_5 (dk_at dksX0_surrender_0 22 rfl rfl)
theorem dX0_surrender_23 : decode cX0_surrender 23 = .ok (.ireturn, 1) := dk_172 (dk_at dksX0_surrender_0 23 rfl rfl)
theorem dX0_surrender_24 : decode cX0_surrender 24 = .ok (.astore 6, 2) := dk_58 6 (dk_at dksX0_surrender_1 0 rfl rfl)
theorem dX0_surrender_26 : decode cX0_surrender 26 = .ok (.iconst 3, 1) := dk_6 (dk_at dksX0_surrender_1 2 rfl rfl)
theorem dX0_surrender_27 : decode cX0_surrender 27 = .ok (.ireturn, 1) := dk_172 (dk_at dksX0_surrender_1 3 rfl rfl)
theorem dX0_surrender_28 : decode cX0_surrender 28 = .ok (.astore 6, 2) := dk_58 6 (dk_at dksX0_surrender_1 4 rfl rfl)
theorem dX0_surrender_30 : decode cX0_surrender 30 = .ok (.iconst 4, 1) := dk_7 (dk_at dksX0_surrender_1 6 rfl rfl)
theorem dX0_surrender_31 : decode cX0_surrender 31 = .ok (.ireturn, 1) := dk_172 (dk_at dksX0_surrender_1 7 rfl rfl)
theorem dX0_surrender_32 : decode cX0_surrender 32 = .ok (.iconst 0, 1) := dk_3 (dk_at dksX0_surrender_1 8 rfl rfl)
theorem dX0_surrender_33 : decode cX0_surrender 33 = .ok (.ireturn, 1) := dk_172 (dk_at dksX0_surrender_1 9 rfl rfl)
theorem wX0_surrender_0 (hE : PMon E) : Wa E mX0_surrender 0 [l0, l1, l2, l3, l4, l5, l6] S h r d Q = (isR l5 = true ∧ Wa E mX0_surrender 2 [l0, l1, l2, l3, l4, l5, l6] (l5 :: S) h r d Q) := sA_aload hE dX0_surrender_0 rfl rfl
theorem wX0_surrender_2 (hE : PMon E) : Wa E mX0_surrender 2 L S h r d Q = Wa E mX0_surrender 3 L (.int 0 :: S) h r d Q := sA_iconst hE dX0_surrender_2 rfl (by decide)
theorem wX0_surrender_3 (hE : PMon E) : Wa E mX0_surrender 3 [l0, l1, l2, l3, l4, l5, l6] S h r d Q = (isR l0 = true ∧ Wa E mX0_surrender 4 [l0, l1, l2, l3, l4, l5, l6] (l0 :: S) h r d Q) := sA_aload_n hE dX0_surrender_3 rfl rfl
theorem wX0_surrender_4 (hE : PMon E) : Wa E mX0_surrender 4 [l0, l1, l2, l3, l4, l5, l6] S h r d Q = (isI l1 = true ∧ Wa E mX0_surrender 5 [l0, l1, l2, l3, l4, l5, l6] (l1 :: S) h r d Q) := sA_iload_n hE dX0_surrender_4 rfl rfl
theorem wX0_surrender_5 (hE : PMon E) : Wa E mX0_surrender 5 [l0, l1, l2, l3, l4, l5, l6] S h r d Q = (isI l2 = true ∧ Wa E mX0_surrender 6 [l0, l1, l2, l3, l4, l5, l6] (l2 :: S) h r d Q) := sA_iload_n hE dX0_surrender_5 rfl rfl
theorem wX0_surrender_6 (hE : PMon E) : Wa E mX0_surrender 6 [l0, l1, l2, l3, l4, l5, l6] S h r d Q = (isI l3 = true ∧ Wa E mX0_surrender 7 [l0, l1, l2, l3, l4, l5, l6] (l3 :: S) h r d Q) := sA_iload_n hE dX0_surrender_6 rfl rfl
theorem wX0_surrender_7 (hE : PMon E) : Wa E mX0_surrender 7 [l0, l1, l2, l3, l4, l5, l6] S h r d Q = (isI l4 = true ∧ Wa E mX0_surrender 9 [l0, l1, l2, l3, l4, l5, l6] (l4 :: S) h r d Q) := sA_iload hE dX0_surrender_7 rfl rfl
theorem wX0_surrender_9 (hE : PMon E) : Wa E mX0_surrender 9 L (v4 :: v3 :: v2 :: v1 :: .ref a :: S) h r d Q = Cla E mX0_surrender (E.1 0 1 102 (kdo (h a))) [.ref a, v1, v2, v3, v4] 9 12 L S h r d Q := sA_invokevirtual hE dX0_surrender_9 rfl rfl rfl (by simp) rfl rfl rfl
theorem wX0_surrender_12 (hE : PMon E) : Wa E mX0_surrender 12 L (v :: .int i :: .ref a :: S) h r d Q = APa E mX0_surrender (h a) 901 isL a i v 13 L S h r d Q := sA_lastore hE dX0_surrender_12 rfl
theorem wX0_surrender_13 (hE : PMon E) : Wa E mX0_surrender 13 L S h r d Q = Wa E mX0_surrender 32 L S h r d Q := sA_goto hE dX0_surrender_13 rfl (by decide) (by decide)
theorem wX0_surrender_16 (hE : PMon E) : Wa E mX0_surrender 16 [l0, l1, l2, l3, l4, l5, l6] (v :: S) h r d Q = (isR v = true ∧ Wa E mX0_surrender 18 [l0, l1, l2, l3, l4, c2 l5, v] S h r d Q) := sA_astore hE dX0_surrender_16 rfl (by show 6 < 7; decide) st1_7_6
theorem wX0_surrender_18 (hE : PMon E) : Wa E mX0_surrender 18 L S h r d Q = Wa E mX0_surrender 19 L (.int 1 :: S) h r d Q := sA_iconst hE dX0_surrender_18 rfl (by decide)
theorem wX0_surrender_19 (hE : PMon E) : Wa E mX0_surrender 19 L [.int x] h r d Q = Q (.inl (some (.int x))) h r := sA_ireturn hE dX0_surrender_19 rfl
theorem wX0_surrender_20 (hE : PMon E) : Wa E mX0_surrender 20 [l0, l1, l2, l3, l4, l5, l6] (v :: S) h r d Q = (isR v = true ∧ Wa E mX0_surrender 22 [l0, l1, l2, l3, l4, c2 l5, v] S h r d Q) := sA_astore hE dX0_surrender_20 rfl (by show 6 < 7; decide) st1_7_6
theorem wX0_surrender_22 (hE : PMon E) : Wa E mX0_surrender 22 L S h r d Q = Wa E mX0_surrender 23 L (.int 2 :: S) h r d Q := sA_iconst hE dX0_surrender_22 rfl (by decide)
theorem wX0_surrender_23 (hE : PMon E) : Wa E mX0_surrender 23 L [.int x] h r d Q = Q (.inl (some (.int x))) h r := sA_ireturn hE dX0_surrender_23 rfl
theorem wX0_surrender_24 (hE : PMon E) : Wa E mX0_surrender 24 [l0, l1, l2, l3, l4, l5, l6] (v :: S) h r d Q = (isR v = true ∧ Wa E mX0_surrender 26 [l0, l1, l2, l3, l4, c2 l5, v] S h r d Q) := sA_astore hE dX0_surrender_24 rfl (by show 6 < 7; decide) st1_7_6
theorem wX0_surrender_26 (hE : PMon E) : Wa E mX0_surrender 26 L S h r d Q = Wa E mX0_surrender 27 L (.int 3 :: S) h r d Q := sA_iconst hE dX0_surrender_26 rfl (by decide)
theorem wX0_surrender_27 (hE : PMon E) : Wa E mX0_surrender 27 L [.int x] h r d Q = Q (.inl (some (.int x))) h r := sA_ireturn hE dX0_surrender_27 rfl
theorem wX0_surrender_28 (hE : PMon E) : Wa E mX0_surrender 28 [l0, l1, l2, l3, l4, l5, l6] (v :: S) h r d Q = (isR v = true ∧ Wa E mX0_surrender 30 [l0, l1, l2, l3, l4, c2 l5, v] S h r d Q) := sA_astore hE dX0_surrender_28 rfl (by show 6 < 7; decide) st1_7_6
theorem wX0_surrender_30 (hE : PMon E) : Wa E mX0_surrender 30 L S h r d Q = Wa E mX0_surrender 31 L (.int 4 :: S) h r d Q := sA_iconst hE dX0_surrender_30 rfl (by decide)
theorem wX0_surrender_31 (hE : PMon E) : Wa E mX0_surrender 31 L [.int x] h r d Q = Q (.inl (some (.int x))) h r := sA_ireturn hE dX0_surrender_31 rfl
theorem wX0_surrender_32 (hE : PMon E) : Wa E mX0_surrender 32 L S h r d Q = Wa E mX0_surrender 33 L (.int 0 :: S) h r d Q := sA_iconst hE dX0_surrender_32 rfl (by decide)
theorem wX0_surrender_33 (hE : PMon E) : Wa E mX0_surrender 33 L [.int x] h r d Q = Q (.inl (some (.int x))) h r := sA_ireturn hE dX0_surrender_33 rfl
abbrev cX0_surrendered : ByteArray := method_28_code
def dkwX0_surrendered_0 : List UInt8 := [44, 3, 42, 27, 182, 0, 106, 133, 80, 167, 0, 6, 78, 4, 172, 3, 172]
abbrev dktX0_surrendered_0 : List UInt8 := dkwX0_surrendered_0 ++ []
theorem dksX0_surrendered_0 : cX0_surrendered.data.toList.drop 0 = dktX0_surrendered_0 := by decide +kernel
theorem dX0_surrendered_0 : decode cX0_surrendered 0 = .ok (.aload_n 2, 1) := dk_44 (dk_at dksX0_surrendered_0 0 rfl rfl)
theorem dX0_surrendered_1 : decode cX0_surrendered 1 = .ok (.iconst 0, 1) := dk_3 (dk_at dksX0_surrendered_0 1 rfl rfl)
theorem dX0_surrendered_2 : decode cX0_surrendered 2 = .ok (.aload_n 0, 1) := dk_42 (dk_at dksX0_surrendered_0 2 rfl rfl)
theorem dX0_surrendered_3 : decode cX0_surrendered 3 = .ok (.iload_n 1, 1) := dk_27 (dk_at dksX0_surrendered_0 3 rfl rfl)
theorem dX0_surrendered_4 : decode cX0_surrendered 4 = .ok (.invokevirtual 106, 3) := dk_182 0 106 (dk_at dksX0_surrendered_0 4 rfl rfl)
theorem dX0_surrendered_7 : decode cX0_surrendered 7 = .ok (.i2l, 1) := dk_133 (dk_at dksX0_surrendered_0 7 rfl rfl)
theorem dX0_surrendered_8 : decode cX0_surrendered 8 = .ok (.lastore, 1) := dk_80 (dk_at dksX0_surrendered_0 8 rfl rfl)
theorem dX0_surrendered_9 : decode cX0_surrendered 9 = .ok (.goto 6, 3) := dk_167 0 6 (dk_at dksX0_surrendered_0 9 rfl rfl)
theorem dX0_surrendered_12 : decode cX0_surrendered 12 = .ok (.astore_n 3, 1) := dk_78 (dk_at dksX0_surrendered_0 12 rfl rfl)
theorem dX0_surrendered_13 : decode cX0_surrendered 13 = .ok (.iconst 1, 1) := dk_4 (dk_at dksX0_surrendered_0 13 rfl rfl)
theorem dX0_surrendered_14 : decode cX0_surrendered 14 = .ok (.ireturn, 1) := dk_172 (dk_at dksX0_surrendered_0 14 rfl rfl)
theorem dX0_surrendered_15 : decode cX0_surrendered 15 = .ok (.iconst 0, 1) := dk_3 (dk_at dksX0_surrendered_0 15 rfl rfl)
theorem dX0_surrendered_16 : decode cX0_surrendered 16 = .ok (.ireturn, 1) := dk_172 (dk_at dksX0_surrendered_0 16 rfl rfl)
theorem wX0_surrendered_0 (hE : PMon E) : Wa E mX0_surrendered 0 [l0, l1, l2, l3] S h r d Q = (isR l2 = true ∧ Wa E mX0_surrendered 1 [l0, l1, l2, l3] (l2 :: S) h r d Q) := sA_aload_n hE dX0_surrendered_0 rfl rfl
theorem wX0_surrendered_1 (hE : PMon E) : Wa E mX0_surrendered 1 L S h r d Q = Wa E mX0_surrendered 2 L (.int 0 :: S) h r d Q := sA_iconst hE dX0_surrendered_1 rfl (by decide)
theorem wX0_surrendered_2 (hE : PMon E) : Wa E mX0_surrendered 2 [l0, l1, l2, l3] S h r d Q = (isR l0 = true ∧ Wa E mX0_surrendered 3 [l0, l1, l2, l3] (l0 :: S) h r d Q) := sA_aload_n hE dX0_surrendered_2 rfl rfl
theorem wX0_surrendered_3 (hE : PMon E) : Wa E mX0_surrendered 3 [l0, l1, l2, l3] S h r d Q = (isI l1 = true ∧ Wa E mX0_surrendered 4 [l0, l1, l2, l3] (l1 :: S) h r d Q) := sA_iload_n hE dX0_surrendered_3 rfl rfl
theorem wX0_surrendered_4 (hE : PMon E) : Wa E mX0_surrendered 4 L (v1 :: .ref a :: S) h r d Q = Cla E mX0_surrendered (E.1 0 1 106 (kdo (h a))) [.ref a, v1] 4 7 L S h r d Q := sA_invokevirtual hE dX0_surrendered_4 rfl rfl rfl (by simp) rfl rfl rfl
theorem wX0_surrendered_7 (hE : PMon E) : Wa E mX0_surrendered 7 L (.int x :: S) h r d Q = Wa E mX0_surrendered 8 L (.long x.toInt64 :: S) h r d Q := sA_i2l hE dX0_surrendered_7 rfl
theorem wX0_surrendered_8 (hE : PMon E) : Wa E mX0_surrendered 8 L (v :: .int i :: .ref a :: S) h r d Q = APa E mX0_surrendered (h a) 901 isL a i v 9 L S h r d Q := sA_lastore hE dX0_surrendered_8 rfl
theorem wX0_surrendered_9 (hE : PMon E) : Wa E mX0_surrendered 9 L S h r d Q = Wa E mX0_surrendered 15 L S h r d Q := sA_goto hE dX0_surrendered_9 rfl (by decide) (by decide)
theorem wX0_surrendered_12 (hE : PMon E) : Wa E mX0_surrendered 12 [l0, l1, l2, l3] (v :: S) h r d Q = (isR v = true ∧ Wa E mX0_surrendered 13 [l0, l1, c2 l2, v] S h r d Q) := sA_astore_n hE dX0_surrendered_12 rfl (by show 3 < 4; decide) st1_4_3
theorem wX0_surrendered_13 (hE : PMon E) : Wa E mX0_surrendered 13 L S h r d Q = Wa E mX0_surrendered 14 L (.int 1 :: S) h r d Q := sA_iconst hE dX0_surrendered_13 rfl (by decide)
theorem wX0_surrendered_14 (hE : PMon E) : Wa E mX0_surrendered 14 L [.int x] h r d Q = Q (.inl (some (.int x))) h r := sA_ireturn hE dX0_surrendered_14 rfl
theorem wX0_surrendered_15 (hE : PMon E) : Wa E mX0_surrendered 15 L S h r d Q = Wa E mX0_surrendered 16 L (.int 0 :: S) h r d Q := sA_iconst hE dX0_surrendered_15 rfl (by decide)
theorem wX0_surrendered_16 (hE : PMon E) : Wa E mX0_surrendered 16 L [.int x] h r d Q = Q (.inl (some (.int x))) h r := sA_ireturn hE dX0_surrendered_16 rfl
abbrev cX0_addProject : ByteArray := method_29_code
def dkwX0_addProject_1 : List UInt8 := [58, 7, 5, 172, 58, 7, 6, 172, 3, 172]
abbrev dktX0_addProject_1 : List UInt8 := dkwX0_addProject_1 ++ []
def dkwX0_addProject_0 : List UInt8 := [25, 6, 3, 42, 27, 28, 29, 21, 4, 21, 5, 182, 0, 110, 133, 80, 167, 0, 15, 58, 7, 4, 172]
abbrev dktX0_addProject_0 : List UInt8 := dkwX0_addProject_0 ++ dktX0_addProject_1
theorem dksX0_addProject_0 : cX0_addProject.data.toList.drop 0 = dktX0_addProject_0 := by decide +kernel
theorem dksX0_addProject_1 : cX0_addProject.data.toList.drop 23 = dktX0_addProject_1 := dk_seg dksX0_addProject_0 23 rfl rfl
theorem dX0_addProject_0 : decode cX0_addProject 0 = .ok (.aload 6, 2) := dk_25 6 (dk_at dksX0_addProject_0 0 rfl rfl)
theorem dX0_addProject_2 : decode cX0_addProject 2 = .ok (.iconst 0, 1) := dk_3 (dk_at dksX0_addProject_0 2 rfl rfl)
theorem dX0_addProject_3 : decode cX0_addProject 3 = .ok (.aload_n 0, 1) := dk_42 (dk_at dksX0_addProject_0 3 rfl rfl)
theorem dX0_addProject_4 : decode cX0_addProject 4 = .ok (.iload_n 1, 1) := dk_27 (dk_at dksX0_addProject_0 4 rfl rfl)
theorem dX0_addProject_5 : decode cX0_addProject 5 = .ok (.iload_n 2, 1) := dk_28 (dk_at dksX0_addProject_0 5 rfl rfl)
theorem dX0_addProject_6 : decode cX0_addProject 6 = .ok (.iload_n 3, 1) := dk_29 (dk_at dksX0_addProject_0 6 rfl rfl)
theorem dX0_addProject_7 : decode cX0_addProject 7 = .ok (.iload 4, 2) := dk_21 4 (dk_at dksX0_addProject_0 7 rfl rfl)
theorem dX0_addProject_9 : decode cX0_addProject 9 = .ok (.iload 5, 2) := dk_21 5 (dk_at dksX0_addProject_0 9 rfl rfl)
theorem dX0_addProject_11 : decode cX0_addProject 11 = .ok (.invokevirtual 110, 3) := dk_182 0 110 (dk_at dksX0_addProject_0 11 rfl rfl)
theorem dX0_addProject_14 : decode cX0_addProject 14 = .ok (.i2l, 1) := dk_133 (dk_at dksX0_addProject_0 14 rfl rfl)
theorem dX0_addProject_15 : decode cX0_addProject 15 = .ok (.lastore, 1) := dk_80 (dk_at dksX0_addProject_0 15 rfl rfl)
theorem dX0_addProject_16 : decode cX0_addProject 16 = .ok (.goto 15, 3) := dk_167 0 15 (dk_at dksX0_addProject_0 16 rfl rfl)
theorem dX0_addProject_19 : decode cX0_addProject 19 = .ok (.astore 7, 2) := dk_58 7 (dk_at dksX0_addProject_0 19 rfl rfl)
theorem dX0_addProject_21 : decode cX0_addProject 21 = .ok (.iconst 1, 1) := dk_4 (dk_at dksX0_addProject_0 21 rfl rfl)
theorem dX0_addProject_22 : decode cX0_addProject 22 = .ok (.ireturn, 1) := dk_172 (dk_at dksX0_addProject_0 22 rfl rfl)
theorem dX0_addProject_23 : decode cX0_addProject 23 = .ok (.astore 7, 2) := dk_58 7 (dk_at dksX0_addProject_1 0 rfl rfl)
theorem dX0_addProject_25 : decode cX0_addProject 25 = .ok (.iconst 2, 1) := dk_5 (dk_at dksX0_addProject_1 2 rfl rfl)
theorem dX0_addProject_26 : decode cX0_addProject 26 = .ok (.ireturn, 1) := dk_172 (dk_at dksX0_addProject_1 3 rfl rfl)
theorem dX0_addProject_27 : decode cX0_addProject 27 = .ok (.astore 7, 2) := dk_58 7 (dk_at dksX0_addProject_1 4 rfl rfl)
theorem dX0_addProject_29 : decode cX0_addProject 29 = .ok (.iconst 3, 1) := dk_6 (dk_at dksX0_addProject_1 6 rfl rfl)
theorem dX0_addProject_30 : decode cX0_addProject 30 = .ok (.ireturn, 1) := dk_172 (dk_at dksX0_addProject_1 7 rfl rfl)
theorem dX0_addProject_31 : decode cX0_addProject 31 = .ok (.iconst 0, 1) := dk_3 (dk_at dksX0_addProject_1 8 rfl rfl)
theorem dX0_addProject_32 : decode cX0_addProject 32 = .ok (.ireturn, 1) := dk_172 (dk_at dksX0_addProject_1 9 rfl rfl)
theorem wX0_addProject_0 (hE : PMon E) : Wa E mX0_addProject 0 [l0, l1, l2, l3, l4, l5, l6, l7] S h r d Q = (isR l6 = true ∧ Wa E mX0_addProject 2 [l0, l1, l2, l3, l4, l5, l6, l7] (l6 :: S) h r d Q) := sA_aload hE dX0_addProject_0 rfl rfl
theorem wX0_addProject_2 (hE : PMon E) : Wa E mX0_addProject 2 L S h r d Q = Wa E mX0_addProject 3 L (.int 0 :: S) h r d Q := sA_iconst hE dX0_addProject_2 rfl (by decide)
theorem wX0_addProject_3 (hE : PMon E) : Wa E mX0_addProject 3 [l0, l1, l2, l3, l4, l5, l6, l7] S h r d Q = (isR l0 = true ∧ Wa E mX0_addProject 4 [l0, l1, l2, l3, l4, l5, l6, l7] (l0 :: S) h r d Q) := sA_aload_n hE dX0_addProject_3 rfl rfl
theorem wX0_addProject_4 (hE : PMon E) : Wa E mX0_addProject 4 [l0, l1, l2, l3, l4, l5, l6, l7] S h r d Q = (isI l1 = true ∧ Wa E mX0_addProject 5 [l0, l1, l2, l3, l4, l5, l6, l7] (l1 :: S) h r d Q) := sA_iload_n hE dX0_addProject_4 rfl rfl
theorem wX0_addProject_5 (hE : PMon E) : Wa E mX0_addProject 5 [l0, l1, l2, l3, l4, l5, l6, l7] S h r d Q = (isI l2 = true ∧ Wa E mX0_addProject 6 [l0, l1, l2, l3, l4, l5, l6, l7] (l2 :: S) h r d Q) := sA_iload_n hE dX0_addProject_5 rfl rfl
theorem wX0_addProject_6 (hE : PMon E) : Wa E mX0_addProject 6 [l0, l1, l2, l3, l4, l5, l6, l7] S h r d Q = (isI l3 = true ∧ Wa E mX0_addProject 7 [l0, l1, l2, l3, l4, l5, l6, l7] (l3 :: S) h r d Q) := sA_iload_n hE dX0_addProject_6 rfl rfl
theorem wX0_addProject_7 (hE : PMon E) : Wa E mX0_addProject 7 [l0, l1, l2, l3, l4, l5, l6, l7] S h r d Q = (isI l4 = true ∧ Wa E mX0_addProject 9 [l0, l1, l2, l3, l4, l5, l6, l7] (l4 :: S) h r d Q) := sA_iload hE dX0_addProject_7 rfl rfl
theorem wX0_addProject_9 (hE : PMon E) : Wa E mX0_addProject 9 [l0, l1, l2, l3, l4, l5, l6, l7] S h r d Q = (isI l5 = true ∧ Wa E mX0_addProject 11 [l0, l1, l2, l3, l4, l5, l6, l7] (l5 :: S) h r d Q) := sA_iload hE dX0_addProject_9 rfl rfl
theorem wX0_addProject_11 (hE : PMon E) : Wa E mX0_addProject 11 L (v5 :: v4 :: v3 :: v2 :: v1 :: .ref a :: S) h r d Q = Cla E mX0_addProject (E.1 0 1 110 (kdo (h a))) [.ref a, v1, v2, v3, v4, v5] 11 14 L S h r d Q := sA_invokevirtual hE dX0_addProject_11 rfl rfl rfl (by simp) rfl rfl rfl
theorem wX0_addProject_14 (hE : PMon E) : Wa E mX0_addProject 14 L (.int x :: S) h r d Q = Wa E mX0_addProject 15 L (.long x.toInt64 :: S) h r d Q := sA_i2l hE dX0_addProject_14 rfl
theorem wX0_addProject_15 (hE : PMon E) : Wa E mX0_addProject 15 L (v :: .int i :: .ref a :: S) h r d Q = APa E mX0_addProject (h a) 901 isL a i v 16 L S h r d Q := sA_lastore hE dX0_addProject_15 rfl
theorem wX0_addProject_16 (hE : PMon E) : Wa E mX0_addProject 16 L S h r d Q = Wa E mX0_addProject 31 L S h r d Q := sA_goto hE dX0_addProject_16 rfl (by decide) (by decide)
theorem wX0_addProject_19 (hE : PMon E) : Wa E mX0_addProject 19 [l0, l1, l2, l3, l4, l5, l6, l7] (v :: S) h r d Q = (isR v = true ∧ Wa E mX0_addProject 21 [l0, l1, l2, l3, l4, l5, c2 l6, v] S h r d Q) := sA_astore hE dX0_addProject_19 rfl (by show 7 < 8; decide) st1_8_7
theorem wX0_addProject_21 (hE : PMon E) : Wa E mX0_addProject 21 L S h r d Q = Wa E mX0_addProject 22 L (.int 1 :: S) h r d Q := sA_iconst hE dX0_addProject_21 rfl (by decide)
theorem wX0_addProject_22 (hE : PMon E) : Wa E mX0_addProject 22 L [.int x] h r d Q = Q (.inl (some (.int x))) h r := sA_ireturn hE dX0_addProject_22 rfl
theorem wX0_addProject_23 (hE : PMon E) : Wa E mX0_addProject 23 [l0, l1, l2, l3, l4, l5, l6, l7] (v :: S) h r d Q = (isR v = true ∧ Wa E mX0_addProject 25 [l0, l1, l2, l3, l4, l5, c2 l6, v] S h r d Q) := sA_astore hE dX0_addProject_23 rfl (by show 7 < 8; decide) st1_8_7
theorem wX0_addProject_25 (hE : PMon E) : Wa E mX0_addProject 25 L S h r d Q = Wa E mX0_addProject 26 L (.int 2 :: S) h r d Q := sA_iconst hE dX0_addProject_25 rfl (by decide)
theorem wX0_addProject_26 (hE : PMon E) : Wa E mX0_addProject 26 L [.int x] h r d Q = Q (.inl (some (.int x))) h r := sA_ireturn hE dX0_addProject_26 rfl
theorem wX0_addProject_27 (hE : PMon E) : Wa E mX0_addProject 27 [l0, l1, l2, l3, l4, l5, l6, l7] (v :: S) h r d Q = (isR v = true ∧ Wa E mX0_addProject 29 [l0, l1, l2, l3, l4, l5, c2 l6, v] S h r d Q) := sA_astore hE dX0_addProject_27 rfl (by show 7 < 8; decide) st1_8_7
theorem wX0_addProject_29 (hE : PMon E) : Wa E mX0_addProject 29 L S h r d Q = Wa E mX0_addProject 30 L (.int 3 :: S) h r d Q := sA_iconst hE dX0_addProject_29 rfl (by decide)
theorem wX0_addProject_30 (hE : PMon E) : Wa E mX0_addProject 30 L [.int x] h r d Q = Q (.inl (some (.int x))) h r := sA_ireturn hE dX0_addProject_30 rfl
theorem wX0_addProject_31 (hE : PMon E) : Wa E mX0_addProject 31 L S h r d Q = Wa E mX0_addProject 32 L (.int 0 :: S) h r d Q := sA_iconst hE dX0_addProject_31 rfl (by decide)
theorem wX0_addProject_32 (hE : PMon E) : Wa E mX0_addProject 32 L [.int x] h r d Q = Q (.inl (some (.int x))) h r := sA_ireturn hE dX0_addProject_32 rfl
abbrev cX0_verify : ByteArray := method_30_code
def dkwX0_verify_1 : List UInt8 := [172, 3, 172]
abbrev dktX0_verify_1 : List UInt8 := dkwX0_verify_1 ++ []
def dkwX0_verify_0 : List UInt8 := [45, 3, 42, 27, 28, 182, 0, 114, 133, 80, 167, 0, 15, 58, 4, 4, 172, 58, 4, 5, 172, 58, 4, 6]
abbrev dktX0_verify_0 : List UInt8 := dkwX0_verify_0 ++ dktX0_verify_1
theorem dksX0_verify_0 : cX0_verify.data.toList.drop 0 = dktX0_verify_0 := by decide +kernel
theorem dksX0_verify_1 : cX0_verify.data.toList.drop 24 = dktX0_verify_1 := dk_seg dksX0_verify_0 24 rfl rfl
theorem dX0_verify_0 : decode cX0_verify 0 = .ok (.aload_n 3, 1) := dk_45 (dk_at dksX0_verify_0 0 rfl rfl)
theorem dX0_verify_1 : decode cX0_verify 1 = .ok (.iconst 0, 1) := dk_3 (dk_at dksX0_verify_0 1 rfl rfl)
theorem dX0_verify_2 : decode cX0_verify 2 = .ok (.aload_n 0, 1) := dk_42 (dk_at dksX0_verify_0 2 rfl rfl)
theorem dX0_verify_3 : decode cX0_verify 3 = .ok (.iload_n 1, 1) := dk_27 (dk_at dksX0_verify_0 3 rfl rfl)
theorem dX0_verify_4 : decode cX0_verify 4 = .ok (.iload_n 2, 1) := dk_28 (dk_at dksX0_verify_0 4 rfl rfl)
theorem dX0_verify_5 : decode cX0_verify 5 = .ok (.invokevirtual 114, 3) := dk_182 0 114 (dk_at dksX0_verify_0 5 rfl rfl)
theorem dX0_verify_8 : decode cX0_verify 8 = .ok (.i2l, 1) := dk_133 (dk_at dksX0_verify_0 8 rfl rfl)
theorem dX0_verify_9 : decode cX0_verify 9 = .ok (.lastore, 1) := dk_80 (dk_at dksX0_verify_0 9 rfl rfl)
theorem dX0_verify_10 : decode cX0_verify 10 = .ok (.goto 15, 3) := dk_167 0 15 (dk_at dksX0_verify_0 10 rfl rfl)
theorem dX0_verify_13 : decode cX0_verify 13 = .ok (.astore 4, 2) := dk_58 4 (dk_at dksX0_verify_0 13 rfl rfl)
theorem dX0_verify_15 : decode cX0_verify 15 = .ok (.iconst 1, 1) := dk_4 (dk_at dksX0_verify_0 15 rfl rfl)
theorem dX0_verify_16 : decode cX0_verify 16 = .ok (.ireturn, 1) := dk_172 (dk_at dksX0_verify_0 16 rfl rfl)
theorem dX0_verify_17 : decode cX0_verify 17 = .ok (.astore 4, 2) := dk_58 4 (dk_at dksX0_verify_0 17 rfl rfl)
theorem dX0_verify_19 : decode cX0_verify 19 = .ok (.iconst 2, 1) := dk_5 (dk_at dksX0_verify_0 19 rfl rfl)
theorem dX0_verify_20 : decode cX0_verify 20 = .ok (.ireturn, 1) := dk_172 (dk_at dksX0_verify_0 20 rfl rfl)
theorem dX0_verify_21 : decode cX0_verify 21 = .ok (.astore 4, 2) := dk_58 4 (dk_at dksX0_verify_0 21 rfl rfl)
theorem dX0_verify_23 : decode cX0_verify 23 = .ok (.iconst 3, 1) := dk_6 (dk_at dksX0_verify_0 23 rfl rfl)
theorem dX0_verify_24 : decode cX0_verify 24 = .ok (.ireturn, 1) := dk_172 (dk_at dksX0_verify_1 0 rfl rfl)
theorem dX0_verify_25 : decode cX0_verify 25 = .ok (.iconst 0, 1) := dk_3 (dk_at dksX0_verify_1 1 rfl rfl)
theorem dX0_verify_26 : decode cX0_verify 26 = .ok (.ireturn, 1) := dk_172 (dk_at dksX0_verify_1 2 rfl rfl)
theorem wX0_verify_0 (hE : PMon E) : Wa E mX0_verify 0 [l0, l1, l2, l3, l4] S h r d Q = (isR l3 = true ∧ Wa E mX0_verify 1 [l0, l1, l2, l3, l4] (l3 :: S) h r d Q) := sA_aload_n hE dX0_verify_0 rfl rfl
theorem wX0_verify_1 (hE : PMon E) : Wa E mX0_verify 1 L S h r d Q = Wa E mX0_verify 2 L (.int 0 :: S) h r d Q := sA_iconst hE dX0_verify_1 rfl (by decide)
theorem wX0_verify_2 (hE : PMon E) : Wa E mX0_verify 2 [l0, l1, l2, l3, l4] S h r d Q = (isR l0 = true ∧ Wa E mX0_verify 3 [l0, l1, l2, l3, l4] (l0 :: S) h r d Q) := sA_aload_n hE dX0_verify_2 rfl rfl
theorem wX0_verify_3 (hE : PMon E) : Wa E mX0_verify 3 [l0, l1, l2, l3, l4] S h r d Q = (isI l1 = true ∧ Wa E mX0_verify 4 [l0, l1, l2, l3, l4] (l1 :: S) h r d Q) := sA_iload_n hE dX0_verify_3 rfl rfl
theorem wX0_verify_4 (hE : PMon E) : Wa E mX0_verify 4 [l0, l1, l2, l3, l4] S h r d Q = (isI l2 = true ∧ Wa E mX0_verify 5 [l0, l1, l2, l3, l4] (l2 :: S) h r d Q) := sA_iload_n hE dX0_verify_4 rfl rfl
theorem wX0_verify_5 (hE : PMon E) : Wa E mX0_verify 5 L (v2 :: v1 :: .ref a :: S) h r d Q = Cla E mX0_verify (E.1 0 1 114 (kdo (h a))) [.ref a, v1, v2] 5 8 L S h r d Q := sA_invokevirtual hE dX0_verify_5 rfl rfl rfl (by simp) rfl rfl rfl
theorem wX0_verify_8 (hE : PMon E) : Wa E mX0_verify 8 L (.int x :: S) h r d Q = Wa E mX0_verify 9 L (.long x.toInt64 :: S) h r d Q := sA_i2l hE dX0_verify_8 rfl
theorem wX0_verify_9 (hE : PMon E) : Wa E mX0_verify 9 L (v :: .int i :: .ref a :: S) h r d Q = APa E mX0_verify (h a) 901 isL a i v 10 L S h r d Q := sA_lastore hE dX0_verify_9 rfl
theorem wX0_verify_10 (hE : PMon E) : Wa E mX0_verify 10 L S h r d Q = Wa E mX0_verify 25 L S h r d Q := sA_goto hE dX0_verify_10 rfl (by decide) (by decide)
theorem wX0_verify_13 (hE : PMon E) : Wa E mX0_verify 13 [l0, l1, l2, l3, l4] (v :: S) h r d Q = (isR v = true ∧ Wa E mX0_verify 15 [l0, l1, l2, c2 l3, v] S h r d Q) := sA_astore hE dX0_verify_13 rfl (by show 4 < 5; decide) st1_5_4
theorem wX0_verify_15 (hE : PMon E) : Wa E mX0_verify 15 L S h r d Q = Wa E mX0_verify 16 L (.int 1 :: S) h r d Q := sA_iconst hE dX0_verify_15 rfl (by decide)
theorem wX0_verify_16 (hE : PMon E) : Wa E mX0_verify 16 L [.int x] h r d Q = Q (.inl (some (.int x))) h r := sA_ireturn hE dX0_verify_16 rfl
theorem wX0_verify_17 (hE : PMon E) : Wa E mX0_verify 17 [l0, l1, l2, l3, l4] (v :: S) h r d Q = (isR v = true ∧ Wa E mX0_verify 19 [l0, l1, l2, c2 l3, v] S h r d Q) := sA_astore hE dX0_verify_17 rfl (by show 4 < 5; decide) st1_5_4
theorem wX0_verify_19 (hE : PMon E) : Wa E mX0_verify 19 L S h r d Q = Wa E mX0_verify 20 L (.int 2 :: S) h r d Q := sA_iconst hE dX0_verify_19 rfl (by decide)
theorem wX0_verify_20 (hE : PMon E) : Wa E mX0_verify 20 L [.int x] h r d Q = Q (.inl (some (.int x))) h r := sA_ireturn hE dX0_verify_20 rfl
theorem wX0_verify_21 (hE : PMon E) : Wa E mX0_verify 21 [l0, l1, l2, l3, l4] (v :: S) h r d Q = (isR v = true ∧ Wa E mX0_verify 23 [l0, l1, l2, c2 l3, v] S h r d Q) := sA_astore hE dX0_verify_21 rfl (by show 4 < 5; decide) st1_5_4
theorem wX0_verify_23 (hE : PMon E) : Wa E mX0_verify 23 L S h r d Q = Wa E mX0_verify 24 L (.int 3 :: S) h r d Q := sA_iconst hE dX0_verify_23 rfl (by decide)
theorem wX0_verify_24 (hE : PMon E) : Wa E mX0_verify 24 L [.int x] h r d Q = Q (.inl (some (.int x))) h r := sA_ireturn hE dX0_verify_24 rfl
theorem wX0_verify_25 (hE : PMon E) : Wa E mX0_verify 25 L S h r d Q = Wa E mX0_verify 26 L (.int 0 :: S) h r d Q := sA_iconst hE dX0_verify_25 rfl (by decide)
theorem wX0_verify_26 (hE : PMon E) : Wa E mX0_verify 26 L [.int x] h r d Q = Q (.inl (some (.int x))) h r := sA_ireturn hE dX0_verify_26 rfl
abbrev cX0_reverse : ByteArray := method_31_code
def dkwX0_reverse_0 : List UInt8 := [45, 3, 42, 27, 28, 182, 0, 117, 133, 80, 167, 0, 11, 58, 4, 4, 172, 58, 4, 5, 172, 3, 172]
abbrev dktX0_reverse_0 : List UInt8 := dkwX0_reverse_0 ++ []
theorem dksX0_reverse_0 : cX0_reverse.data.toList.drop 0 = dktX0_reverse_0 := by decide +kernel
theorem dX0_reverse_0 : decode cX0_reverse 0 = .ok (.aload_n 3, 1) := dk_45 (dk_at dksX0_reverse_0 0 rfl rfl)
theorem dX0_reverse_1 : decode cX0_reverse 1 = .ok (.iconst 0, 1) := dk_3 (dk_at dksX0_reverse_0 1 rfl rfl)
theorem dX0_reverse_2 : decode cX0_reverse 2 = .ok (.aload_n 0, 1) := dk_42 (dk_at dksX0_reverse_0 2 rfl rfl)
theorem dX0_reverse_3 : decode cX0_reverse 3 = .ok (.iload_n 1, 1) := dk_27 (dk_at dksX0_reverse_0 3 rfl rfl)
theorem dX0_reverse_4 : decode cX0_reverse 4 = .ok (.iload_n 2, 1) := dk_28 (dk_at dksX0_reverse_0 4 rfl rfl)
theorem dX0_reverse_5 : decode cX0_reverse 5 = .ok (.invokevirtual 117, 3) := dk_182 0 117 (dk_at dksX0_reverse_0 5 rfl rfl)
theorem dX0_reverse_8 : decode cX0_reverse 8 = .ok (.i2l, 1) := dk_133 (dk_at dksX0_reverse_0 8 rfl rfl)
theorem dX0_reverse_9 : decode cX0_reverse 9 = .ok (.lastore, 1) := dk_80 (dk_at dksX0_reverse_0 9 rfl rfl)
theorem dX0_reverse_10 : decode cX0_reverse 10 = .ok (.goto 11, 3) := dk_167 0 11 (dk_at dksX0_reverse_0 10 rfl rfl)
theorem dX0_reverse_13 : decode cX0_reverse 13 = .ok (.astore 4, 2) := dk_58 4 (dk_at dksX0_reverse_0 13 rfl rfl)
theorem dX0_reverse_15 : decode cX0_reverse 15 = .ok (.iconst 1, 1) := dk_4 (dk_at dksX0_reverse_0 15 rfl rfl)
theorem dX0_reverse_16 : decode cX0_reverse 16 = .ok (.ireturn, 1) := dk_172 (dk_at dksX0_reverse_0 16 rfl rfl)
theorem dX0_reverse_17 : decode cX0_reverse 17 = .ok (.astore 4, 2) := dk_58 4 (dk_at dksX0_reverse_0 17 rfl rfl)
theorem dX0_reverse_19 : decode cX0_reverse 19 = .ok (.iconst 2, 1) := dk_5 (dk_at dksX0_reverse_0 19 rfl rfl)
theorem dX0_reverse_20 : decode cX0_reverse 20 = .ok (.ireturn, 1) := dk_172 (dk_at dksX0_reverse_0 20 rfl rfl)
theorem dX0_reverse_21 : decode cX0_reverse 21 = .ok (.iconst 0, 1) := dk_3 (dk_at dksX0_reverse_0 21 rfl rfl)
theorem dX0_reverse_22 : decode cX0_reverse 22 = .ok (.ireturn, 1) := dk_172 (dk_at dksX0_reverse_0 22 rfl rfl)
theorem wX0_reverse_0 (hE : PMon E) : Wa E mX0_reverse 0 [l0, l1, l2, l3, l4] S h r d Q = (isR l3 = true ∧ Wa E mX0_reverse 1 [l0, l1, l2, l3, l4] (l3 :: S) h r d Q) := sA_aload_n hE dX0_reverse_0 rfl rfl
theorem wX0_reverse_1 (hE : PMon E) : Wa E mX0_reverse 1 L S h r d Q = Wa E mX0_reverse 2 L (.int 0 :: S) h r d Q := sA_iconst hE dX0_reverse_1 rfl (by decide)
theorem wX0_reverse_2 (hE : PMon E) : Wa E mX0_reverse 2 [l0, l1, l2, l3, l4] S h r d Q = (isR l0 = true ∧ Wa E mX0_reverse 3 [l0, l1, l2, l3, l4] (l0 :: S) h r d Q) := sA_aload_n hE dX0_reverse_2 rfl rfl
theorem wX0_reverse_3 (hE : PMon E) : Wa E mX0_reverse 3 [l0, l1, l2, l3, l4] S h r d Q = (isI l1 = true ∧ Wa E mX0_reverse 4 [l0, l1, l2, l3, l4] (l1 :: S) h r d Q) := sA_iload_n hE dX0_reverse_3 rfl rfl
theorem wX0_reverse_4 (hE : PMon E) : Wa E mX0_reverse 4 [l0, l1, l2, l3, l4] S h r d Q = (isI l2 = true ∧ Wa E mX0_reverse 5 [l0, l1, l2, l3, l4] (l2 :: S) h r d Q) := sA_iload_n hE dX0_reverse_4 rfl rfl
theorem wX0_reverse_5 (hE : PMon E) : Wa E mX0_reverse 5 L (v2 :: v1 :: .ref a :: S) h r d Q = Cla E mX0_reverse (E.1 0 1 117 (kdo (h a))) [.ref a, v1, v2] 5 8 L S h r d Q := sA_invokevirtual hE dX0_reverse_5 rfl rfl rfl (by simp) rfl rfl rfl
theorem wX0_reverse_8 (hE : PMon E) : Wa E mX0_reverse 8 L (.int x :: S) h r d Q = Wa E mX0_reverse 9 L (.long x.toInt64 :: S) h r d Q := sA_i2l hE dX0_reverse_8 rfl
theorem wX0_reverse_9 (hE : PMon E) : Wa E mX0_reverse 9 L (v :: .int i :: .ref a :: S) h r d Q = APa E mX0_reverse (h a) 901 isL a i v 10 L S h r d Q := sA_lastore hE dX0_reverse_9 rfl
theorem wX0_reverse_10 (hE : PMon E) : Wa E mX0_reverse 10 L S h r d Q = Wa E mX0_reverse 21 L S h r d Q := sA_goto hE dX0_reverse_10 rfl (by decide) (by decide)
theorem wX0_reverse_13 (hE : PMon E) : Wa E mX0_reverse 13 [l0, l1, l2, l3, l4] (v :: S) h r d Q = (isR v = true ∧ Wa E mX0_reverse 15 [l0, l1, l2, c2 l3, v] S h r d Q) := sA_astore hE dX0_reverse_13 rfl (by show 4 < 5; decide) st1_5_4
theorem wX0_reverse_15 (hE : PMon E) : Wa E mX0_reverse 15 L S h r d Q = Wa E mX0_reverse 16 L (.int 1 :: S) h r d Q := sA_iconst hE dX0_reverse_15 rfl (by decide)
theorem wX0_reverse_16 (hE : PMon E) : Wa E mX0_reverse 16 L [.int x] h r d Q = Q (.inl (some (.int x))) h r := sA_ireturn hE dX0_reverse_16 rfl
theorem wX0_reverse_17 (hE : PMon E) : Wa E mX0_reverse 17 [l0, l1, l2, l3, l4] (v :: S) h r d Q = (isR v = true ∧ Wa E mX0_reverse 19 [l0, l1, l2, c2 l3, v] S h r d Q) := sA_astore hE dX0_reverse_17 rfl (by show 4 < 5; decide) st1_5_4
theorem wX0_reverse_19 (hE : PMon E) : Wa E mX0_reverse 19 L S h r d Q = Wa E mX0_reverse 20 L (.int 2 :: S) h r d Q := sA_iconst hE dX0_reverse_19 rfl (by decide)
theorem wX0_reverse_20 (hE : PMon E) : Wa E mX0_reverse 20 L [.int x] h r d Q = Q (.inl (some (.int x))) h r := sA_ireturn hE dX0_reverse_20 rfl
theorem wX0_reverse_21 (hE : PMon E) : Wa E mX0_reverse 21 L S h r d Q = Wa E mX0_reverse 22 L (.int 0 :: S) h r d Q := sA_iconst hE dX0_reverse_21 rfl (by decide)
theorem wX0_reverse_22 (hE : PMon E) : Wa E mX0_reverse 22 L [.int x] h r d Q = Q (.inl (some (.int x))) h r := sA_ireturn hE dX0_reverse_22 rfl
abbrev cX0_addGood : ByteArray := method_32_code
def dkwX0_addGood_1 : List UInt8 := [58, 5, 6, 172, 3, 172]
abbrev dktX0_addGood_1 : List UInt8 := dkwX0_addGood_1 ++ []
def dkwX0_addGood_0 : List UInt8 := [25, 4, 3, 42, 27, 28, 29, 182, 0, 120, 133, 80, 167, 0, 15, 58, 5, 4, 172, 58, 5, 5, 172]
abbrev dktX0_addGood_0 : List UInt8 := dkwX0_addGood_0 ++ dktX0_addGood_1
theorem dksX0_addGood_0 : cX0_addGood.data.toList.drop 0 = dktX0_addGood_0 := by decide +kernel
theorem dksX0_addGood_1 : cX0_addGood.data.toList.drop 23 = dktX0_addGood_1 := dk_seg dksX0_addGood_0 23 rfl rfl
theorem dX0_addGood_0 : decode cX0_addGood 0 = .ok (.aload 4, 2) := dk_25 4 (dk_at dksX0_addGood_0 0 rfl rfl)
theorem dX0_addGood_2 : decode cX0_addGood 2 = .ok (.iconst 0, 1) := dk_3 (dk_at dksX0_addGood_0 2 rfl rfl)
theorem dX0_addGood_3 : decode cX0_addGood 3 = .ok (.aload_n 0, 1) := dk_42 (dk_at dksX0_addGood_0 3 rfl rfl)
theorem dX0_addGood_4 : decode cX0_addGood 4 = .ok (.iload_n 1, 1) := dk_27 (dk_at dksX0_addGood_0 4 rfl rfl)
theorem dX0_addGood_5 : decode cX0_addGood 5 = .ok (.iload_n 2, 1) := dk_28 (dk_at dksX0_addGood_0 5 rfl rfl)
theorem dX0_addGood_6 : decode cX0_addGood 6 = .ok (.iload_n 3, 1) := dk_29 (dk_at dksX0_addGood_0 6 rfl rfl)
theorem dX0_addGood_7 : decode cX0_addGood 7 = .ok (.invokevirtual 120, 3) := dk_182 0 120 (dk_at dksX0_addGood_0 7 rfl rfl)
theorem dX0_addGood_10 : decode cX0_addGood 10 = .ok (.i2l, 1) := dk_133 (dk_at dksX0_addGood_0 10 rfl rfl)
theorem dX0_addGood_11 : decode cX0_addGood 11 = .ok (.lastore, 1) := dk_80 (dk_at dksX0_addGood_0 11 rfl rfl)
theorem dX0_addGood_12 : decode cX0_addGood 12 = .ok (.goto 15, 3) := dk_167 0 15 (dk_at dksX0_addGood_0 12 rfl rfl)
theorem dX0_addGood_15 : decode cX0_addGood 15 = .ok (.astore 5, 2) := dk_58 5 (dk_at dksX0_addGood_0 15 rfl rfl)
theorem dX0_addGood_17 : decode cX0_addGood 17 = .ok (.iconst 1, 1) := dk_4 (dk_at dksX0_addGood_0 17 rfl rfl)
theorem dX0_addGood_18 : decode cX0_addGood 18 = .ok (.ireturn, 1) := dk_172 (dk_at dksX0_addGood_0 18 rfl rfl)
theorem dX0_addGood_19 : decode cX0_addGood 19 = .ok (.astore 5, 2) := dk_58 5 (dk_at dksX0_addGood_0 19 rfl rfl)
theorem dX0_addGood_21 : decode cX0_addGood 21 = .ok (.iconst 2, 1) := dk_5 (dk_at dksX0_addGood_0 21 rfl rfl)
theorem dX0_addGood_22 : decode cX0_addGood 22 = .ok (.ireturn, 1) := dk_172 (dk_at dksX0_addGood_0 22 rfl rfl)
theorem dX0_addGood_23 : decode cX0_addGood 23 = .ok (.astore 5, 2) := dk_58 5 (dk_at dksX0_addGood_1 0 rfl rfl)
theorem dX0_addGood_25 : decode cX0_addGood 25 = .ok (.iconst 3, 1) := dk_6 (dk_at dksX0_addGood_1 2 rfl rfl)
theorem dX0_addGood_26 : decode cX0_addGood 26 = .ok (.ireturn, 1) := dk_172 (dk_at dksX0_addGood_1 3 rfl rfl)
theorem dX0_addGood_27 : decode cX0_addGood 27 = .ok (.iconst 0, 1) := dk_3 (dk_at dksX0_addGood_1 4 rfl rfl)
theorem dX0_addGood_28 : decode cX0_addGood 28 = .ok (.ireturn, 1) := dk_172 (dk_at dksX0_addGood_1 5 rfl rfl)
theorem wX0_addGood_0 (hE : PMon E) : Wa E mX0_addGood 0 [l0, l1, l2, l3, l4, l5] S h r d Q = (isR l4 = true ∧ Wa E mX0_addGood 2 [l0, l1, l2, l3, l4, l5] (l4 :: S) h r d Q) := sA_aload hE dX0_addGood_0 rfl rfl
theorem wX0_addGood_2 (hE : PMon E) : Wa E mX0_addGood 2 L S h r d Q = Wa E mX0_addGood 3 L (.int 0 :: S) h r d Q := sA_iconst hE dX0_addGood_2 rfl (by decide)
theorem wX0_addGood_3 (hE : PMon E) : Wa E mX0_addGood 3 [l0, l1, l2, l3, l4, l5] S h r d Q = (isR l0 = true ∧ Wa E mX0_addGood 4 [l0, l1, l2, l3, l4, l5] (l0 :: S) h r d Q) := sA_aload_n hE dX0_addGood_3 rfl rfl
theorem wX0_addGood_4 (hE : PMon E) : Wa E mX0_addGood 4 [l0, l1, l2, l3, l4, l5] S h r d Q = (isI l1 = true ∧ Wa E mX0_addGood 5 [l0, l1, l2, l3, l4, l5] (l1 :: S) h r d Q) := sA_iload_n hE dX0_addGood_4 rfl rfl
theorem wX0_addGood_5 (hE : PMon E) : Wa E mX0_addGood 5 [l0, l1, l2, l3, l4, l5] S h r d Q = (isI l2 = true ∧ Wa E mX0_addGood 6 [l0, l1, l2, l3, l4, l5] (l2 :: S) h r d Q) := sA_iload_n hE dX0_addGood_5 rfl rfl
theorem wX0_addGood_6 (hE : PMon E) : Wa E mX0_addGood 6 [l0, l1, l2, l3, l4, l5] S h r d Q = (isI l3 = true ∧ Wa E mX0_addGood 7 [l0, l1, l2, l3, l4, l5] (l3 :: S) h r d Q) := sA_iload_n hE dX0_addGood_6 rfl rfl
theorem wX0_addGood_7 (hE : PMon E) : Wa E mX0_addGood 7 L (v3 :: v2 :: v1 :: .ref a :: S) h r d Q = Cla E mX0_addGood (E.1 0 1 120 (kdo (h a))) [.ref a, v1, v2, v3] 7 10 L S h r d Q := sA_invokevirtual hE dX0_addGood_7 rfl rfl rfl (by simp) rfl rfl rfl
theorem wX0_addGood_10 (hE : PMon E) : Wa E mX0_addGood 10 L (.int x :: S) h r d Q = Wa E mX0_addGood 11 L (.long x.toInt64 :: S) h r d Q := sA_i2l hE dX0_addGood_10 rfl
theorem wX0_addGood_11 (hE : PMon E) : Wa E mX0_addGood 11 L (v :: .int i :: .ref a :: S) h r d Q = APa E mX0_addGood (h a) 901 isL a i v 12 L S h r d Q := sA_lastore hE dX0_addGood_11 rfl
theorem wX0_addGood_12 (hE : PMon E) : Wa E mX0_addGood 12 L S h r d Q = Wa E mX0_addGood 27 L S h r d Q := sA_goto hE dX0_addGood_12 rfl (by decide) (by decide)
theorem wX0_addGood_15 (hE : PMon E) : Wa E mX0_addGood 15 [l0, l1, l2, l3, l4, l5] (v :: S) h r d Q = (isR v = true ∧ Wa E mX0_addGood 17 [l0, l1, l2, l3, c2 l4, v] S h r d Q) := sA_astore hE dX0_addGood_15 rfl (by show 5 < 6; decide) st1_6_5
theorem wX0_addGood_17 (hE : PMon E) : Wa E mX0_addGood 17 L S h r d Q = Wa E mX0_addGood 18 L (.int 1 :: S) h r d Q := sA_iconst hE dX0_addGood_17 rfl (by decide)
theorem wX0_addGood_18 (hE : PMon E) : Wa E mX0_addGood 18 L [.int x] h r d Q = Q (.inl (some (.int x))) h r := sA_ireturn hE dX0_addGood_18 rfl
theorem wX0_addGood_19 (hE : PMon E) : Wa E mX0_addGood 19 [l0, l1, l2, l3, l4, l5] (v :: S) h r d Q = (isR v = true ∧ Wa E mX0_addGood 21 [l0, l1, l2, l3, c2 l4, v] S h r d Q) := sA_astore hE dX0_addGood_19 rfl (by show 5 < 6; decide) st1_6_5
theorem wX0_addGood_21 (hE : PMon E) : Wa E mX0_addGood 21 L S h r d Q = Wa E mX0_addGood 22 L (.int 2 :: S) h r d Q := sA_iconst hE dX0_addGood_21 rfl (by decide)
theorem wX0_addGood_22 (hE : PMon E) : Wa E mX0_addGood 22 L [.int x] h r d Q = Q (.inl (some (.int x))) h r := sA_ireturn hE dX0_addGood_22 rfl
theorem wX0_addGood_23 (hE : PMon E) : Wa E mX0_addGood 23 [l0, l1, l2, l3, l4, l5] (v :: S) h r d Q = (isR v = true ∧ Wa E mX0_addGood 25 [l0, l1, l2, l3, c2 l4, v] S h r d Q) := sA_astore hE dX0_addGood_23 rfl (by show 5 < 6; decide) st1_6_5
theorem wX0_addGood_25 (hE : PMon E) : Wa E mX0_addGood 25 L S h r d Q = Wa E mX0_addGood 26 L (.int 3 :: S) h r d Q := sA_iconst hE dX0_addGood_25 rfl (by decide)
theorem wX0_addGood_26 (hE : PMon E) : Wa E mX0_addGood 26 L [.int x] h r d Q = Q (.inl (some (.int x))) h r := sA_ireturn hE dX0_addGood_26 rfl
theorem wX0_addGood_27 (hE : PMon E) : Wa E mX0_addGood 27 L S h r d Q = Wa E mX0_addGood 28 L (.int 0 :: S) h r d Q := sA_iconst hE dX0_addGood_27 rfl (by decide)
theorem wX0_addGood_28 (hE : PMon E) : Wa E mX0_addGood 28 L [.int x] h r d Q = Q (.inl (some (.int x))) h r := sA_ireturn hE dX0_addGood_28 rfl
abbrev cX0_embedded : ByteArray := method_33_code
def dkwX0_embedded_0 : List UInt8 := [44, 3, 42, 27, 182, 0, 123, 80, 167, 0, 6, 78, 4, 172, 3, 172]
abbrev dktX0_embedded_0 : List UInt8 := dkwX0_embedded_0 ++ []
theorem dksX0_embedded_0 : cX0_embedded.data.toList.drop 0 = dktX0_embedded_0 := by decide +kernel
theorem dX0_embedded_0 : decode cX0_embedded 0 = .ok (.aload_n 2, 1) := dk_44 (dk_at dksX0_embedded_0 0 rfl rfl)
theorem dX0_embedded_1 : decode cX0_embedded 1 = .ok (.iconst 0, 1) := dk_3 (dk_at dksX0_embedded_0 1 rfl rfl)
theorem dX0_embedded_2 : decode cX0_embedded 2 = .ok (.aload_n 0, 1) := dk_42 (dk_at dksX0_embedded_0 2 rfl rfl)
theorem dX0_embedded_3 : decode cX0_embedded 3 = .ok (.iload_n 1, 1) := dk_27 (dk_at dksX0_embedded_0 3 rfl rfl)
theorem dX0_embedded_4 : decode cX0_embedded 4 = .ok (.invokevirtual 123, 3) := dk_182 0 123 (dk_at dksX0_embedded_0 4 rfl rfl)
theorem dX0_embedded_7 : decode cX0_embedded 7 = .ok (.lastore, 1) := dk_80 (dk_at dksX0_embedded_0 7 rfl rfl)
theorem dX0_embedded_8 : decode cX0_embedded 8 = .ok (.goto 6, 3) := dk_167 0 6 (dk_at dksX0_embedded_0 8 rfl rfl)
theorem dX0_embedded_11 : decode cX0_embedded 11 = .ok (.astore_n 3, 1) := dk_78 (dk_at dksX0_embedded_0 11 rfl rfl)
theorem dX0_embedded_12 : decode cX0_embedded 12 = .ok (.iconst 1, 1) := dk_4 (dk_at dksX0_embedded_0 12 rfl rfl)
theorem dX0_embedded_13 : decode cX0_embedded 13 = .ok (.ireturn, 1) := dk_172 (dk_at dksX0_embedded_0 13 rfl rfl)
theorem dX0_embedded_14 : decode cX0_embedded 14 = .ok (.iconst 0, 1) := dk_3 (dk_at dksX0_embedded_0 14 rfl rfl)
theorem dX0_embedded_15 : decode cX0_embedded 15 = .ok (.ireturn, 1) := dk_172 (dk_at dksX0_embedded_0 15 rfl rfl)
theorem wX0_embedded_0 (hE : PMon E) : Wa E mX0_embedded 0 [l0, l1, l2, l3] S h r d Q = (isR l2 = true ∧ Wa E mX0_embedded 1 [l0, l1, l2, l3] (l2 :: S) h r d Q) := sA_aload_n hE dX0_embedded_0 rfl rfl
theorem wX0_embedded_1 (hE : PMon E) : Wa E mX0_embedded 1 L S h r d Q = Wa E mX0_embedded 2 L (.int 0 :: S) h r d Q := sA_iconst hE dX0_embedded_1 rfl (by decide)
theorem wX0_embedded_2 (hE : PMon E) : Wa E mX0_embedded 2 [l0, l1, l2, l3] S h r d Q = (isR l0 = true ∧ Wa E mX0_embedded 3 [l0, l1, l2, l3] (l0 :: S) h r d Q) := sA_aload_n hE dX0_embedded_2 rfl rfl
theorem wX0_embedded_3 (hE : PMon E) : Wa E mX0_embedded 3 [l0, l1, l2, l3] S h r d Q = (isI l1 = true ∧ Wa E mX0_embedded 4 [l0, l1, l2, l3] (l1 :: S) h r d Q) := sA_iload_n hE dX0_embedded_3 rfl rfl
theorem wX0_embedded_4 (hE : PMon E) : Wa E mX0_embedded 4 L (v1 :: .ref a :: S) h r d Q = Cla E mX0_embedded (E.1 0 1 123 (kdo (h a))) [.ref a, v1] 4 7 L S h r d Q := sA_invokevirtual hE dX0_embedded_4 rfl rfl rfl (by simp) rfl rfl rfl
theorem wX0_embedded_7 (hE : PMon E) : Wa E mX0_embedded 7 L (v :: .int i :: .ref a :: S) h r d Q = APa E mX0_embedded (h a) 901 isL a i v 8 L S h r d Q := sA_lastore hE dX0_embedded_7 rfl
theorem wX0_embedded_8 (hE : PMon E) : Wa E mX0_embedded 8 L S h r d Q = Wa E mX0_embedded 14 L S h r d Q := sA_goto hE dX0_embedded_8 rfl (by decide) (by decide)
theorem wX0_embedded_11 (hE : PMon E) : Wa E mX0_embedded 11 [l0, l1, l2, l3] (v :: S) h r d Q = (isR v = true ∧ Wa E mX0_embedded 12 [l0, l1, c2 l2, v] S h r d Q) := sA_astore_n hE dX0_embedded_11 rfl (by show 3 < 4; decide) st1_4_3
theorem wX0_embedded_12 (hE : PMon E) : Wa E mX0_embedded 12 L S h r d Q = Wa E mX0_embedded 13 L (.int 1 :: S) h r d Q := sA_iconst hE dX0_embedded_12 rfl (by decide)
theorem wX0_embedded_13 (hE : PMon E) : Wa E mX0_embedded 13 L [.int x] h r d Q = Q (.inl (some (.int x))) h r := sA_ireturn hE dX0_embedded_13 rfl
theorem wX0_embedded_14 (hE : PMon E) : Wa E mX0_embedded 14 L S h r d Q = Wa E mX0_embedded 15 L (.int 0 :: S) h r d Q := sA_iconst hE dX0_embedded_14 rfl (by decide)
theorem wX0_embedded_15 (hE : PMon E) : Wa E mX0_embedded 15 L [.int x] h r d Q = Q (.inl (some (.int x))) h r := sA_ireturn hE dX0_embedded_15 rfl
abbrev cX0_importGood : ByteArray := method_34_code
def dkwX0_importGood_1 : List UInt8 := [3, 172]
abbrev dktX0_importGood_1 : List UInt8 := dkwX0_importGood_1 ++ []
def dkwX0_importGood_0 : List UInt8 := [25, 5, 3, 42, 27, 28, 29, 21, 4, 182, 0, 126, 80, 167, 0, 11, 58, 6, 4, 172, 58, 6, 5, 172]
abbrev dktX0_importGood_0 : List UInt8 := dkwX0_importGood_0 ++ dktX0_importGood_1
theorem dksX0_importGood_0 : cX0_importGood.data.toList.drop 0 = dktX0_importGood_0 := by decide +kernel
theorem dksX0_importGood_1 : cX0_importGood.data.toList.drop 24 = dktX0_importGood_1 := dk_seg dksX0_importGood_0 24 rfl rfl
theorem dX0_importGood_0 : decode cX0_importGood 0 = .ok (.aload 5, 2) := dk_25 5 (dk_at dksX0_importGood_0 0 rfl rfl)
theorem dX0_importGood_2 : decode cX0_importGood 2 = .ok (.iconst 0, 1) := dk_3 (dk_at dksX0_importGood_0 2 rfl rfl)
theorem dX0_importGood_3 : decode cX0_importGood 3 = .ok (.aload_n 0, 1) := dk_42 (dk_at dksX0_importGood_0 3 rfl rfl)
theorem dX0_importGood_4 : decode cX0_importGood 4 = .ok (.iload_n 1, 1) := dk_27 (dk_at dksX0_importGood_0 4 rfl rfl)
theorem dX0_importGood_5 : decode cX0_importGood 5 = .ok (.iload_n 2, 1) := dk_28 (dk_at dksX0_importGood_0 5 rfl rfl)
theorem dX0_importGood_6 : decode cX0_importGood 6 = .ok (.iload_n 3, 1) := dk_29 (dk_at dksX0_importGood_0 6 rfl rfl)
theorem dX0_importGood_7 : decode cX0_importGood 7 = .ok (.iload 4, 2) := dk_21 4 (dk_at dksX0_importGood_0 7 rfl rfl)
theorem dX0_importGood_9 : decode cX0_importGood 9 = .ok (.invokevirtual 126, 3) := dk_182 0 126 (dk_at dksX0_importGood_0 9 rfl rfl)
theorem dX0_importGood_12 : decode cX0_importGood 12 = .ok (.lastore, 1) := dk_80 (dk_at dksX0_importGood_0 12 rfl rfl)
theorem dX0_importGood_13 : decode cX0_importGood 13 = .ok (.goto 11, 3) := dk_167 0 11 (dk_at dksX0_importGood_0 13 rfl rfl)
theorem dX0_importGood_16 : decode cX0_importGood 16 = .ok (.astore 6, 2) := dk_58 6 (dk_at dksX0_importGood_0 16 rfl rfl)
theorem dX0_importGood_18 : decode cX0_importGood 18 = .ok (.iconst 1, 1) := dk_4 (dk_at dksX0_importGood_0 18 rfl rfl)
theorem dX0_importGood_19 : decode cX0_importGood 19 = .ok (.ireturn, 1) := dk_172 (dk_at dksX0_importGood_0 19 rfl rfl)
theorem dX0_importGood_20 : decode cX0_importGood 20 = .ok (.astore 6, 2) := dk_58 6 (dk_at dksX0_importGood_0 20 rfl rfl)
theorem dX0_importGood_22 : decode cX0_importGood 22 = .ok (.iconst 2, 1) := dk_5 (dk_at dksX0_importGood_0 22 rfl rfl)
theorem dX0_importGood_23 : decode cX0_importGood 23 = .ok (.ireturn, 1) := dk_172 (dk_at dksX0_importGood_0 23 rfl rfl)
theorem dX0_importGood_24 : decode cX0_importGood 24 = .ok (.iconst 0, 1) := dk_3 (dk_at dksX0_importGood_1 0 rfl rfl)
theorem dX0_importGood_25 : decode cX0_importGood 25 = .ok (.ireturn, 1) := dk_172 (dk_at dksX0_importGood_1 1 rfl rfl)
theorem wX0_importGood_0 (hE : PMon E) : Wa E mX0_importGood 0 [l0, l1, l2, l3, l4, l5, l6] S h r d Q = (isR l5 = true ∧ Wa E mX0_importGood 2 [l0, l1, l2, l3, l4, l5, l6] (l5 :: S) h r d Q) := sA_aload hE dX0_importGood_0 rfl rfl
theorem wX0_importGood_2 (hE : PMon E) : Wa E mX0_importGood 2 L S h r d Q = Wa E mX0_importGood 3 L (.int 0 :: S) h r d Q := sA_iconst hE dX0_importGood_2 rfl (by decide)
theorem wX0_importGood_3 (hE : PMon E) : Wa E mX0_importGood 3 [l0, l1, l2, l3, l4, l5, l6] S h r d Q = (isR l0 = true ∧ Wa E mX0_importGood 4 [l0, l1, l2, l3, l4, l5, l6] (l0 :: S) h r d Q) := sA_aload_n hE dX0_importGood_3 rfl rfl
theorem wX0_importGood_4 (hE : PMon E) : Wa E mX0_importGood 4 [l0, l1, l2, l3, l4, l5, l6] S h r d Q = (isI l1 = true ∧ Wa E mX0_importGood 5 [l0, l1, l2, l3, l4, l5, l6] (l1 :: S) h r d Q) := sA_iload_n hE dX0_importGood_4 rfl rfl
theorem wX0_importGood_5 (hE : PMon E) : Wa E mX0_importGood 5 [l0, l1, l2, l3, l4, l5, l6] S h r d Q = (isI l2 = true ∧ Wa E mX0_importGood 6 [l0, l1, l2, l3, l4, l5, l6] (l2 :: S) h r d Q) := sA_iload_n hE dX0_importGood_5 rfl rfl
theorem wX0_importGood_6 (hE : PMon E) : Wa E mX0_importGood 6 [l0, l1, l2, l3, l4, l5, l6] S h r d Q = (isI l3 = true ∧ Wa E mX0_importGood 7 [l0, l1, l2, l3, l4, l5, l6] (l3 :: S) h r d Q) := sA_iload_n hE dX0_importGood_6 rfl rfl
theorem wX0_importGood_7 (hE : PMon E) : Wa E mX0_importGood 7 [l0, l1, l2, l3, l4, l5, l6] S h r d Q = (isI l4 = true ∧ Wa E mX0_importGood 9 [l0, l1, l2, l3, l4, l5, l6] (l4 :: S) h r d Q) := sA_iload hE dX0_importGood_7 rfl rfl
theorem wX0_importGood_9 (hE : PMon E) : Wa E mX0_importGood 9 L (v4 :: v3 :: v2 :: v1 :: .ref a :: S) h r d Q = Cla E mX0_importGood (E.1 0 1 126 (kdo (h a))) [.ref a, v1, v2, v3, v4] 9 12 L S h r d Q := sA_invokevirtual hE dX0_importGood_9 rfl rfl rfl (by simp) rfl rfl rfl
theorem wX0_importGood_12 (hE : PMon E) : Wa E mX0_importGood 12 L (v :: .int i :: .ref a :: S) h r d Q = APa E mX0_importGood (h a) 901 isL a i v 13 L S h r d Q := sA_lastore hE dX0_importGood_12 rfl
theorem wX0_importGood_13 (hE : PMon E) : Wa E mX0_importGood 13 L S h r d Q = Wa E mX0_importGood 24 L S h r d Q := sA_goto hE dX0_importGood_13 rfl (by decide) (by decide)
theorem wX0_importGood_16 (hE : PMon E) : Wa E mX0_importGood 16 [l0, l1, l2, l3, l4, l5, l6] (v :: S) h r d Q = (isR v = true ∧ Wa E mX0_importGood 18 [l0, l1, l2, l3, l4, c2 l5, v] S h r d Q) := sA_astore hE dX0_importGood_16 rfl (by show 6 < 7; decide) st1_7_6
theorem wX0_importGood_18 (hE : PMon E) : Wa E mX0_importGood 18 L S h r d Q = Wa E mX0_importGood 19 L (.int 1 :: S) h r d Q := sA_iconst hE dX0_importGood_18 rfl (by decide)
theorem wX0_importGood_19 (hE : PMon E) : Wa E mX0_importGood 19 L [.int x] h r d Q = Q (.inl (some (.int x))) h r := sA_ireturn hE dX0_importGood_19 rfl
theorem wX0_importGood_20 (hE : PMon E) : Wa E mX0_importGood 20 [l0, l1, l2, l3, l4, l5, l6] (v :: S) h r d Q = (isR v = true ∧ Wa E mX0_importGood 22 [l0, l1, l2, l3, l4, c2 l5, v] S h r d Q) := sA_astore hE dX0_importGood_20 rfl (by show 6 < 7; decide) st1_7_6
theorem wX0_importGood_22 (hE : PMon E) : Wa E mX0_importGood 22 L S h r d Q = Wa E mX0_importGood 23 L (.int 2 :: S) h r d Q := sA_iconst hE dX0_importGood_22 rfl (by decide)
theorem wX0_importGood_23 (hE : PMon E) : Wa E mX0_importGood 23 L [.int x] h r d Q = Q (.inl (some (.int x))) h r := sA_ireturn hE dX0_importGood_23 rfl
theorem wX0_importGood_24 (hE : PMon E) : Wa E mX0_importGood 24 L S h r d Q = Wa E mX0_importGood 25 L (.int 0 :: S) h r d Q := sA_iconst hE dX0_importGood_24 rfl (by decide)
theorem wX0_importGood_25 (hE : PMon E) : Wa E mX0_importGood 25 L [.int x] h r d Q = Q (.inl (some (.int x))) h r := sA_ireturn hE dX0_importGood_25 rfl
abbrev cX0_advance : ByteArray := method_35_code
def dkwX0_advance_0 : List UInt8 := [44, 3, 42, 27, 182, 0, 130, 133, 80, 167, 0, 6, 78, 4, 172, 3, 172]
abbrev dktX0_advance_0 : List UInt8 := dkwX0_advance_0 ++ []
theorem dksX0_advance_0 : cX0_advance.data.toList.drop 0 = dktX0_advance_0 := by decide +kernel
theorem dX0_advance_0 : decode cX0_advance 0 = .ok (.aload_n 2, 1) := dk_44 (dk_at dksX0_advance_0 0 rfl rfl)
theorem dX0_advance_1 : decode cX0_advance 1 = .ok (.iconst 0, 1) := dk_3 (dk_at dksX0_advance_0 1 rfl rfl)
theorem dX0_advance_2 : decode cX0_advance 2 = .ok (.aload_n 0, 1) := dk_42 (dk_at dksX0_advance_0 2 rfl rfl)
theorem dX0_advance_3 : decode cX0_advance 3 = .ok (.iload_n 1, 1) := dk_27 (dk_at dksX0_advance_0 3 rfl rfl)
theorem dX0_advance_4 : decode cX0_advance 4 = .ok (.invokevirtual 130, 3) := dk_182 0 130 (dk_at dksX0_advance_0 4 rfl rfl)
theorem dX0_advance_7 : decode cX0_advance 7 = .ok (.i2l, 1) := dk_133 (dk_at dksX0_advance_0 7 rfl rfl)
theorem dX0_advance_8 : decode cX0_advance 8 = .ok (.lastore, 1) := dk_80 (dk_at dksX0_advance_0 8 rfl rfl)
theorem dX0_advance_9 : decode cX0_advance 9 = .ok (.goto 6, 3) := dk_167 0 6 (dk_at dksX0_advance_0 9 rfl rfl)
theorem dX0_advance_12 : decode cX0_advance 12 = .ok (.astore_n 3, 1) := dk_78 (dk_at dksX0_advance_0 12 rfl rfl)
theorem dX0_advance_13 : decode cX0_advance 13 = .ok (.iconst 1, 1) := dk_4 (dk_at dksX0_advance_0 13 rfl rfl)
theorem dX0_advance_14 : decode cX0_advance 14 = .ok (.ireturn, 1) := dk_172 (dk_at dksX0_advance_0 14 rfl rfl)
theorem dX0_advance_15 : decode cX0_advance 15 = .ok (.iconst 0, 1) := dk_3 (dk_at dksX0_advance_0 15 rfl rfl)
theorem dX0_advance_16 : decode cX0_advance 16 = .ok (.ireturn, 1) := dk_172 (dk_at dksX0_advance_0 16 rfl rfl)
theorem wX0_advance_0 (hE : PMon E) : Wa E mX0_advance 0 [l0, l1, l2, l3] S h r d Q = (isR l2 = true ∧ Wa E mX0_advance 1 [l0, l1, l2, l3] (l2 :: S) h r d Q) := sA_aload_n hE dX0_advance_0 rfl rfl
theorem wX0_advance_1 (hE : PMon E) : Wa E mX0_advance 1 L S h r d Q = Wa E mX0_advance 2 L (.int 0 :: S) h r d Q := sA_iconst hE dX0_advance_1 rfl (by decide)
theorem wX0_advance_2 (hE : PMon E) : Wa E mX0_advance 2 [l0, l1, l2, l3] S h r d Q = (isR l0 = true ∧ Wa E mX0_advance 3 [l0, l1, l2, l3] (l0 :: S) h r d Q) := sA_aload_n hE dX0_advance_2 rfl rfl
theorem wX0_advance_3 (hE : PMon E) : Wa E mX0_advance 3 [l0, l1, l2, l3] S h r d Q = (isI l1 = true ∧ Wa E mX0_advance 4 [l0, l1, l2, l3] (l1 :: S) h r d Q) := sA_iload_n hE dX0_advance_3 rfl rfl
theorem wX0_advance_4 (hE : PMon E) : Wa E mX0_advance 4 L (v1 :: .ref a :: S) h r d Q = Cla E mX0_advance (E.1 0 1 130 (kdo (h a))) [.ref a, v1] 4 7 L S h r d Q := sA_invokevirtual hE dX0_advance_4 rfl rfl rfl (by simp) rfl rfl rfl
theorem wX0_advance_7 (hE : PMon E) : Wa E mX0_advance 7 L (.int x :: S) h r d Q = Wa E mX0_advance 8 L (.long x.toInt64 :: S) h r d Q := sA_i2l hE dX0_advance_7 rfl
theorem wX0_advance_8 (hE : PMon E) : Wa E mX0_advance 8 L (v :: .int i :: .ref a :: S) h r d Q = APa E mX0_advance (h a) 901 isL a i v 9 L S h r d Q := sA_lastore hE dX0_advance_8 rfl
theorem wX0_advance_9 (hE : PMon E) : Wa E mX0_advance 9 L S h r d Q = Wa E mX0_advance 15 L S h r d Q := sA_goto hE dX0_advance_9 rfl (by decide) (by decide)
theorem wX0_advance_12 (hE : PMon E) : Wa E mX0_advance 12 [l0, l1, l2, l3] (v :: S) h r d Q = (isR v = true ∧ Wa E mX0_advance 13 [l0, l1, c2 l2, v] S h r d Q) := sA_astore_n hE dX0_advance_12 rfl (by show 3 < 4; decide) st1_4_3
theorem wX0_advance_13 (hE : PMon E) : Wa E mX0_advance 13 L S h r d Q = Wa E mX0_advance 14 L (.int 1 :: S) h r d Q := sA_iconst hE dX0_advance_13 rfl (by decide)
theorem wX0_advance_14 (hE : PMon E) : Wa E mX0_advance 14 L [.int x] h r d Q = Q (.inl (some (.int x))) h r := sA_ireturn hE dX0_advance_14 rfl
theorem wX0_advance_15 (hE : PMon E) : Wa E mX0_advance 15 L S h r d Q = Wa E mX0_advance 16 L (.int 0 :: S) h r d Q := sA_iconst hE dX0_advance_15 rfl (by decide)
theorem wX0_advance_16 (hE : PMon E) : Wa E mX0_advance 16 L [.int x] h r d Q = Q (.inl (some (.int x))) h r := sA_ireturn hE dX0_advance_16 rfl
abbrev cX0_offsetShare : ByteArray := method_36_code
def dkwX0_offsetShare_0 : List UInt8 := [43, 3, 42, 182, 0, 133, 141, 82, 167, 0, 6, 77, 4, 172, 3, 172]
abbrev dktX0_offsetShare_0 : List UInt8 := dkwX0_offsetShare_0 ++ []
theorem dksX0_offsetShare_0 : cX0_offsetShare.data.toList.drop 0 = dktX0_offsetShare_0 := by decide +kernel
theorem dX0_offsetShare_0 : decode cX0_offsetShare 0 = .ok (.aload_n 1, 1) := dk_43 (dk_at dksX0_offsetShare_0 0 rfl rfl)
theorem dX0_offsetShare_1 : decode cX0_offsetShare 1 = .ok (.iconst 0, 1) := dk_3 (dk_at dksX0_offsetShare_0 1 rfl rfl)
theorem dX0_offsetShare_2 : decode cX0_offsetShare 2 = .ok (.aload_n 0, 1) := dk_42 (dk_at dksX0_offsetShare_0 2 rfl rfl)
theorem dX0_offsetShare_3 : decode cX0_offsetShare 3 = .ok (.invokevirtual 133, 3) := dk_182 0 133 (dk_at dksX0_offsetShare_0 3 rfl rfl)
theorem dX0_offsetShare_6 : decode cX0_offsetShare 6 = .ok (.f2d, 1) := dk_141 (dk_at dksX0_offsetShare_0 6 rfl rfl)
theorem dX0_offsetShare_7 : decode cX0_offsetShare 7 = .ok (.dastore, 1) := dk_82 (dk_at dksX0_offsetShare_0 7 rfl rfl)
theorem dX0_offsetShare_8 : decode cX0_offsetShare 8 = .ok (.goto 6, 3) := dk_167 0 6 (dk_at dksX0_offsetShare_0 8 rfl rfl)
theorem dX0_offsetShare_11 : decode cX0_offsetShare 11 = .ok (.astore_n 2, 1) := dk_77 (dk_at dksX0_offsetShare_0 11 rfl rfl)
theorem dX0_offsetShare_12 : decode cX0_offsetShare 12 = .ok (.iconst 1, 1) := dk_4 (dk_at dksX0_offsetShare_0 12 rfl rfl)
theorem dX0_offsetShare_13 : decode cX0_offsetShare 13 = .ok (.ireturn, 1) := dk_172 (dk_at dksX0_offsetShare_0 13 rfl rfl)
theorem dX0_offsetShare_14 : decode cX0_offsetShare 14 = .ok (.iconst 0, 1) := dk_3 (dk_at dksX0_offsetShare_0 14 rfl rfl)
theorem dX0_offsetShare_15 : decode cX0_offsetShare 15 = .ok (.ireturn, 1) := dk_172 (dk_at dksX0_offsetShare_0 15 rfl rfl)
theorem wX0_offsetShare_0 (hE : PMon E) : Wa E mX0_offsetShare 0 [l0, l1, l2] S h r d Q = (isR l1 = true ∧ Wa E mX0_offsetShare 1 [l0, l1, l2] (l1 :: S) h r d Q) := sA_aload_n hE dX0_offsetShare_0 rfl rfl
theorem wX0_offsetShare_1 (hE : PMon E) : Wa E mX0_offsetShare 1 L S h r d Q = Wa E mX0_offsetShare 2 L (.int 0 :: S) h r d Q := sA_iconst hE dX0_offsetShare_1 rfl (by decide)
theorem wX0_offsetShare_2 (hE : PMon E) : Wa E mX0_offsetShare 2 [l0, l1, l2] S h r d Q = (isR l0 = true ∧ Wa E mX0_offsetShare 3 [l0, l1, l2] (l0 :: S) h r d Q) := sA_aload_n hE dX0_offsetShare_2 rfl rfl
theorem wX0_offsetShare_3 (hE : PMon E) : Wa E mX0_offsetShare 3 L (.ref a :: S) h r d Q = Cla E mX0_offsetShare (E.1 0 1 133 (kdo (h a))) [.ref a] 3 6 L S h r d Q := sA_invokevirtual hE dX0_offsetShare_3 rfl rfl rfl (by simp) rfl rfl rfl
theorem wX0_offsetShare_6 (hE : PMon E) : Wa E mX0_offsetShare 6 L (.float fx :: S) h r d Q = ((FP.f2d fx) &&& 0x7fffffffffffffff ≤ 0x7ff0000000000000 ∧ Wa E mX0_offsetShare 7 L (.double (FP.f2d fx) :: S) h r d Q) := sA_f2d hE dX0_offsetShare_6 rfl
theorem wX0_offsetShare_7 (hE : PMon E) : Wa E mX0_offsetShare 7 L (v :: .int i :: .ref a :: S) h r d Q = APa E mX0_offsetShare (h a) 903 isD a i v 8 L S h r d Q := sA_dastore hE dX0_offsetShare_7 rfl
theorem wX0_offsetShare_8 (hE : PMon E) : Wa E mX0_offsetShare 8 L S h r d Q = Wa E mX0_offsetShare 14 L S h r d Q := sA_goto hE dX0_offsetShare_8 rfl (by decide) (by decide)
theorem wX0_offsetShare_11 (hE : PMon E) : Wa E mX0_offsetShare 11 [l0, l1, l2] (v :: S) h r d Q = (isR v = true ∧ Wa E mX0_offsetShare 12 [l0, c2 l1, v] S h r d Q) := sA_astore_n hE dX0_offsetShare_11 rfl (by show 2 < 3; decide) st1_3_2
theorem wX0_offsetShare_12 (hE : PMon E) : Wa E mX0_offsetShare 12 L S h r d Q = Wa E mX0_offsetShare 13 L (.int 1 :: S) h r d Q := sA_iconst hE dX0_offsetShare_12 rfl (by decide)
theorem wX0_offsetShare_13 (hE : PMon E) : Wa E mX0_offsetShare 13 L [.int x] h r d Q = Q (.inl (some (.int x))) h r := sA_ireturn hE dX0_offsetShare_13 rfl
theorem wX0_offsetShare_14 (hE : PMon E) : Wa E mX0_offsetShare 14 L S h r d Q = Wa E mX0_offsetShare 15 L (.int 0 :: S) h r d Q := sA_iconst hE dX0_offsetShare_14 rfl (by decide)
theorem wX0_offsetShare_15 (hE : PMon E) : Wa E mX0_offsetShare 15 L [.int x] h r d Q = Q (.inl (some (.int x))) h r := sA_ireturn hE dX0_offsetShare_15 rfl
abbrev cX0_meanVintage : ByteArray := method_37_code
def dkwX0_meanVintage_0 : List UInt8 := [43, 3, 42, 182, 0, 137, 82, 167, 0, 6, 77, 4, 172, 3, 172]
abbrev dktX0_meanVintage_0 : List UInt8 := dkwX0_meanVintage_0 ++ []
theorem dksX0_meanVintage_0 : cX0_meanVintage.data.toList.drop 0 = dktX0_meanVintage_0 := by decide +kernel
theorem dX0_meanVintage_0 : decode cX0_meanVintage 0 = .ok (.aload_n 1, 1) := dk_43 (dk_at dksX0_meanVintage_0 0 rfl rfl)
theorem dX0_meanVintage_1 : decode cX0_meanVintage 1 = .ok (.iconst 0, 1) := dk_3 (dk_at dksX0_meanVintage_0 1 rfl rfl)
theorem dX0_meanVintage_2 : decode cX0_meanVintage 2 = .ok (.aload_n 0, 1) := dk_42 (dk_at dksX0_meanVintage_0 2 rfl rfl)
theorem dX0_meanVintage_3 : decode cX0_meanVintage 3 = .ok (.invokevirtual 137, 3) := dk_182 0 137 (dk_at dksX0_meanVintage_0 3 rfl rfl)
theorem dX0_meanVintage_6 : decode cX0_meanVintage 6 = .ok (.dastore, 1) := dk_82 (dk_at dksX0_meanVintage_0 6 rfl rfl)
theorem dX0_meanVintage_7 : decode cX0_meanVintage 7 = .ok (.goto 6, 3) := dk_167 0 6 (dk_at dksX0_meanVintage_0 7 rfl rfl)
theorem dX0_meanVintage_10 : decode cX0_meanVintage 10 = .ok (.astore_n 2, 1) := dk_77 (dk_at dksX0_meanVintage_0 10 rfl rfl)
theorem dX0_meanVintage_11 : decode cX0_meanVintage 11 = .ok (.iconst 1, 1) := dk_4 (dk_at dksX0_meanVintage_0 11 rfl rfl)
theorem dX0_meanVintage_12 : decode cX0_meanVintage 12 = .ok (.ireturn, 1) := dk_172 (dk_at dksX0_meanVintage_0 12 rfl rfl)
theorem dX0_meanVintage_13 : decode cX0_meanVintage 13 = .ok (.iconst 0, 1) := dk_3 (dk_at dksX0_meanVintage_0 13 rfl rfl)
theorem dX0_meanVintage_14 : decode cX0_meanVintage 14 = .ok (.ireturn, 1) := dk_172 (dk_at dksX0_meanVintage_0 14 rfl rfl)
theorem wX0_meanVintage_0 (hE : PMon E) : Wa E mX0_meanVintage 0 [l0, l1, l2] S h r d Q = (isR l1 = true ∧ Wa E mX0_meanVintage 1 [l0, l1, l2] (l1 :: S) h r d Q) := sA_aload_n hE dX0_meanVintage_0 rfl rfl
theorem wX0_meanVintage_1 (hE : PMon E) : Wa E mX0_meanVintage 1 L S h r d Q = Wa E mX0_meanVintage 2 L (.int 0 :: S) h r d Q := sA_iconst hE dX0_meanVintage_1 rfl (by decide)
theorem wX0_meanVintage_2 (hE : PMon E) : Wa E mX0_meanVintage 2 [l0, l1, l2] S h r d Q = (isR l0 = true ∧ Wa E mX0_meanVintage 3 [l0, l1, l2] (l0 :: S) h r d Q) := sA_aload_n hE dX0_meanVintage_2 rfl rfl
theorem wX0_meanVintage_3 (hE : PMon E) : Wa E mX0_meanVintage 3 L (.ref a :: S) h r d Q = Cla E mX0_meanVintage (E.1 0 1 137 (kdo (h a))) [.ref a] 3 6 L S h r d Q := sA_invokevirtual hE dX0_meanVintage_3 rfl rfl rfl (by simp) rfl rfl rfl
theorem wX0_meanVintage_6 (hE : PMon E) : Wa E mX0_meanVintage 6 L (v :: .int i :: .ref a :: S) h r d Q = APa E mX0_meanVintage (h a) 903 isD a i v 7 L S h r d Q := sA_dastore hE dX0_meanVintage_6 rfl
theorem wX0_meanVintage_7 (hE : PMon E) : Wa E mX0_meanVintage 7 L S h r d Q = Wa E mX0_meanVintage 13 L S h r d Q := sA_goto hE dX0_meanVintage_7 rfl (by decide) (by decide)
theorem wX0_meanVintage_10 (hE : PMon E) : Wa E mX0_meanVintage 10 [l0, l1, l2] (v :: S) h r d Q = (isR v = true ∧ Wa E mX0_meanVintage 11 [l0, c2 l1, v] S h r d Q) := sA_astore_n hE dX0_meanVintage_10 rfl (by show 2 < 3; decide) st1_3_2
theorem wX0_meanVintage_11 (hE : PMon E) : Wa E mX0_meanVintage 11 L S h r d Q = Wa E mX0_meanVintage 12 L (.int 1 :: S) h r d Q := sA_iconst hE dX0_meanVintage_11 rfl (by decide)
theorem wX0_meanVintage_12 (hE : PMon E) : Wa E mX0_meanVintage 12 L [.int x] h r d Q = Q (.inl (some (.int x))) h r := sA_ireturn hE dX0_meanVintage_12 rfl
theorem wX0_meanVintage_13 (hE : PMon E) : Wa E mX0_meanVintage 13 L S h r d Q = Wa E mX0_meanVintage 14 L (.int 0 :: S) h r d Q := sA_iconst hE dX0_meanVintage_13 rfl (by decide)
theorem wX0_meanVintage_14 (hE : PMon E) : Wa E mX0_meanVintage 14 L [.int x] h r d Q = Q (.inl (some (.int x))) h r := sA_ireturn hE dX0_meanVintage_14 rfl
end WV
