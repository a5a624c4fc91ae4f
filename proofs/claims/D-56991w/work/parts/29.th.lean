def tH_0 : List (Nat × Nat × Nat × Tg) := [(1, 7, 0, .inl mX1_addAccount), (1, 17, 0, .inl mX1_makePlant), (1, 23, 0, .inl mX1_report), (1, 28, 0, .inl mX1_tellActivity), (1, 32, 0, .inl mX1_emissionOf), (1, 38, 0, .inl mX1_owed), (1, 41, 0, .inl mX1_freeShare), (1, 44, 0, .inl mX1_cash), (1, 48, 0, .inl mX1_setCap), (1, 51, 0, .inl mX1_setBounds), (1, 54, 0, .inl mX1_bid), (1, 57, 0, .inl mX1_auction), (1, 60, 0, .inl mX1_price), (1, 64, 0, .inl mX1_transfer), (1, 68, 0, .inl mX1_confirm), (1, 71, 0, .inl mX1_trust), (1, 75, 0, .inl mX1_freeze), (1, 78, 0, .inl mX1_release), (1, 81, 0, .inl mX1_stateOf), (1, 85, 0, .inl mX1_units), (1, 89, 0, .inl mX1_usable), (1, 92, 0, .inl mX1_holderOf), (1, 95, 0, .inl mX1_vintageOf), (1, 98, 0, .inl mX1_isFrozen), (1, 102, 0, .inl mX1_surrender), (1, 106, 0, .inl mX1_surrendered), (1, 110, 0, .inl mX1_addProject), (1, 114, 0, .inl mX1_verify), (1, 117, 0, .inl mX1_reverse), (1, 120, 0, .inl mX1_addGood), (1, 123, 0, .inl mX1_embedded), (1, 126, 0, .inl mX1_importGood), (1, 130, 0, .inl mX1_advance), (1, 133, 0, .inl mX1_offsetShare), (1, 137, 0, .inl mX1_meanVintage), (2, 141, 0, .inl mX1_init), (2, 144, 0, .inl mX5_init), (0, 145, 0, .inl mX0_addAccount), (1, 150, 4, .inl mX5_addAccount), (1, 151, 4, .inl mX5_thrown), (0, 154, 0, .inl mX0_makePlant), (1, 157, 4, .inl mX5_makePlant), (0, 158, 0, .inl mX0_report), (1, 160, 4, .inl mX5_report), (0, 161, 0, .inl mX0_tellActivity), (1, 164, 4, .inl mX5_tellActivity), (0, 165, 0, .inl mX0_emissionOf), (1, 167, 4, .inl mX5_emissionOf), (0, 168, 0, .inl mX0_owed), (1, 170, 4, .inl mX5_owed), (0, 171, 0, .inl mX0_freeShare), (1, 173, 4, .inl mX5_freeShare), (0, 174, 0, .inl mX0_cash), (1, 176, 4, .inl mX5_cash), (0, 177, 0, .inl mX0_setCap), (1, 179, 4, .inl mX5_setCap), (0, 180, 0, .inl mX0_setBounds), (1, 182, 4, .inl mX5_setBounds), (0, 183, 0, .inl mX0_bid), (1, 185, 4, .inl mX5_bid), (0, 186, 0, .inl mX0_auction), (1, 188, 4, .inl mX5_auction), (0, 189, 0, .inl mX0_price), (1, 192, 4, .inl mX5_price), (1, 193, 0, .inl mX1_volume), (1, 196, 4, .inl mX5_volume), (1, 197, 0, .inl mX1_reserve), (1, 200, 4, .inl mX5_reserve), (1, 201, 0, .inl mX1_circulation), (1, 204, 4, .inl mX5_circulation), (0, 205, 0, .inl mX0_transfer), (1, 208, 4, .inl mX5_transfer), (0, 209, 0, .inl mX0_confirm), (1, 211, 4, .inl mX5_confirm), (0, 212, 0, .inl mX0_trust), (1, 214, 4, .inl mX5_trust), (0, 215, 0, .inl mX0_freeze), (1, 217, 4, .inl mX5_freeze), (0, 218, 0, .inl mX0_release), (1, 220, 4, .inl mX5_release), (0, 221, 0, .inl mX0_stateOf), (1, 223, 4, .inl mX5_stateOf), (0, 224, 0, .inl mX0_units), (1, 227, 4, .inl mX5_units), (0, 228, 0, .inl mX0_usable), (1, 230, 4, .inl mX5_usable), (1, 231, 0, .inl mX1_made), (1, 234, 4, .inl mX5_made), (0, 235, 0, .inl mX0_holderOf), (1, 237, 4, .inl mX5_holderOf), (0, 238, 0, .inl mX0_vintageOf), (1, 240, 4, .inl mX5_vintageOf), (0, 241, 0, .inl mX0_isFrozen), (1, 243, 4, .inl mX5_isFrozen), (1, 244, 0, .inl mX1_blocks), (1, 247, 4, .inl mX5_blocks), (0, 248, 0, .inl mX0_surrender), (1, 250, 4, .inl mX5_surrender), (0, 251, 0, .inl mX0_surrendered), (1, 254, 4, .inl mX5_surrendered), (1, 255, 0, .inl mX1_cancelled), (1, 258, 4, .inl mX5_cancelled), (1, 259, 0, .inl mX1_entries), (1, 262, 4, .inl mX5_entries), (0, 263, 0, .inl mX0_addProject), (1, 266, 4, .inl mX5_addProject), (0, 267, 0, .inl mX0_verify), (1, 269, 4, .inl mX5_verify), (0, 270, 0, .inl mX0_reverse), (1, 272, 4, .inl mX5_reverse), (0, 273, 0, .inl mX0_addGood), (1, 275, 4, .inl mX5_addGood), (0, 276, 0, .inl mX0_embedded), (1, 278, 4, .inl mX5_embedded), (0, 279, 0, .inl mX0_importGood), (1, 282, 4, .inl mX5_importGood), (0, 283, 0, .inl mX0_advance), (1, 285, 4, .inl mX5_advance), (1, 286, 0, .inl mX1_day), (1, 289, 4, .inl mX5_day), (0, 290, 0, .inl mX0_offsetShare), (1, 293, 4, .inl mX5_offsetShare), (0, 294, 0, .inl mX0_meanVintage), (1, 296, 4, .inl mX5_meanVintage), (1, 297, 0, .inl mX1_isSound), (1, 301, 4, .inl mX5_isSound)]
def tH_1 : List (Nat × Nat × Nat × Tg) := [(2, 1, 0, .inr 1), (2, 9, 0, .inr 10), (2, 18, 0, .inr 21), (2, 30, 0, .inl mX2_init), (2, 31, 0, .inr 41), (2, 64, 0, .inl mX3_init), (3, 67, 19, .inr 11), (3, 88, 19, .inr 14), (0, 92, 0, .inl mX1_isBetween), (0, 96, 0, .inl mX1_checkIndex), (3, 100, 19, .inr 13), (0, 110, 0, .inr 50), (1, 118, 0, .inl mX1_year), (2, 121, 0, .inl mX8_init), (1, 124, 20, .inr 22), (2, 130, 0, .inl mX9_init), (1, 136, 20, .inr 30), (3, 140, 19, .inr 18), (3, 140, 21, .inr 47), (3, 140, 26, .inr 33), (3, 140, 33, .inr 37), (3, 146, 22, .inr 19), (3, 146, 27, .inr 38), (3, 146, 30, .inr 48), (3, 146, 31, .inr 34), (3, 152, 22, .inr 20), (3, 152, 27, .inr 39), (3, 152, 30, .inr 49), (3, 152, 31, .inr 35), (1, 156, 7, .inl mX8_isUsable), (1, 160, 7, .inl mX8_size), (3, 161, 1, .inl mX2_compare), (3, 161, 13, .inl mX14_compare), (3, 167, 19, .inr 12), (1, 173, 7, .inl mX8_part), (0, 184, 0, .inl mX1_checkArgument), (0, 187, 0, .inl mX1_checkState), (1, 190, 0, .inl mX1_accountFrom), (2, 200, 0, .inl mX7_init), (3, 207, 19, .inr 18), (0, 209, 0, .inl mX1_checkPossible), (0, 229, 0, .inl mJ12_max_2), (1, 238, 23, .inr 51), (1, 244, 20, .inr 24), (0, 247, 0, .inl mX1_checkElement), (1, 250, 20, .inr 23), (1, 255, 24, .inr 53), (1, 259, 0, .inl mX1_hasEnded), (1, 277, 0, .inl mX1_begin), (1, 280, 0, .inl mX1_cap), (1, 295, 6, .inl mX7_average), (1, 305, 0, .inl mX1_make), (0, 312, 0, .inl mJ12_max), (1, 315, 0, .inl mX1_circulation), (0, 320, 0, .inl mJ12_min_2), (0, 323, 0, .inl mJ12_min), (1, 325, 21, .inr 47), (1, 336, 21, .inr 45), (2, 340, 0, .inl mX11_init), (1, 343, 21, .inr 42), (1, 344, 21, .inr 44), (1, 347, 21, .inr 43), (1, 350, 21, .inr 46), (3, 353, 19, .inr 15), (0, 358, 0, .inl mX1_isKind), (1, 362, 0, .inl mX1_usableOf), (2, 368, 0, .inl mX13_init), (1, 371, 0, .inl mX1_move), (2, 382, 0, .inl mX14_init), (1, 385, 0, .inl mX1_taken), (1, 404, 0, .inl mX1_write), (1, 411, 0, .inl mX1_transferWith), (1, 415, 20, .inr 31), (1, 420, 0, .inl mX1_piecesOf), (3, 424, 20, .inr 30), (3, 424, 32, .inr 36), (1, 431, 20, .inr 28), (3, 435, 34, .inr 32), (1, 440, 0, .inl mX1_pieceWith), (1, 446, 7, .inl mX8_isAlike), (2, 457, 0, .inl mX16_init), (1, 460, 0, .inl mX1_projectWith), (1, 470, 15, .inl mX16_offsets), (0, 475, 0, .inl mX1_up), (2, 488, 0, .inl mX18_init), (1, 491, 17, .inl mX18_embedded), (1, 497, 0, .inl mX1_end), (1, 500, 0, .inl mX1_demand), (1, 503, 2, .inl mX3_end), (0, 508, 0, .inl mX1_cut), (1, 517, 20, .inr 29), (1, 520, 0, .inl mX1_byJournal), (3, 513, 32, .inr 40)]
def tH_2 : List (Nat × Nat × Nat × Tg) := [(2, 1, 0, .inr 1), (0, 13, 0, .inr 54), (1, 22, 1, .inl mX2_compare_2)]
def tH_3 : List (Nat × Nat × Nat × Tg) := [(2, 1, 0, .inr 1), (2, 9, 0, .inl mX4_init), (2, 24, 0, .inr 21), (0, 51, 0, .inr 50), (0, 57, 0, .inr 52), (1, 62, 20, .inr 22), (1, 37, 3, .inl mX20_ended), (1, 45, 6, .inl mX20_ended)]
def tH_4 : List (Nat × Nat × Nat × Tg) := [(2, 1, 0, .inr 1)]
def tH_5 : List (Nat × Nat × Nat × Tg) := [(2, 1, 0, .inr 1), (2, 9, 0, .inr 10), (2, 87, 0, .inl mX6_init), (1, 90, 19, .inr 11), (1, 96, 19, .inr 14), (0, 100, 0, .inl mX5_in), (1, 106, 4, .inl mX5_isOther), (1, 114, 19, .inr 13), (1, 127, 19, .inr 18), (3, 131, 22, .inr 19), (3, 131, 27, .inr 38), (3, 131, 30, .inr 48), (3, 131, 31, .inr 34), (3, 137, 22, .inr 20), (3, 137, 27, .inr 39), (3, 137, 30, .inr 49), (3, 137, 31, .inr 35), (0, 156, 0, .inl mJ12_max_2), (1, 166, 4, .inl mX5_year), (1, 169, 4, .inl mX5_hasEnded), (2, 189, 0, .inl mX10_init), (1, 199, 9, .inl mX10_isLocked), (1, 205, 4, .inl mX5_isUsable), (1, 209, 9, .inl mX10_size), (1, 228, 19, .inr 17), (1, 232, 19, .inr 12), (1, 235, 4, .inl mX5_next), (0, 238, 0, .inl mJ12_min), (1, 242, 4, .inl mX5_cut), (1, 258, 4, .inl mX5_take), (0, 268, 0, .inl mX5_isKind), (1, 274, 4, .inl mX5_usableOf), (2, 278, 0, .inl mX15_init), (1, 281, 4, .inl mX5_move), (1, 285, 4, .inl mX5_isTransfer), (1, 289, 4, .inl mX5_freeze_2), (1, 293, 4, .inl mX5_wrongHolder), (1, 296, 4, .inl mX5_plain), (1, 300, 4, .inl mX5_rowOf), (1, 304, 9, .inl mX10_isLike), (0, 316, 0, .inl mJ12_max), (0, 321, 0, .inl mJ12_abs_2), (1, 331, 4, .inl mX5_cap), (1, 334, 4, .inl mX5_make), (1, 338, 4, .inl mX5_circulating), (0, 343, 0, .inl mJ12_min_2), (1, 345, 4, .inl mX5_beginYear), (2, 352, 0, .inl mX12_init), (1, 355, 11, .inl mX12_cost), (1, 359, 11, .inl mX12_account), (1, 362, 11, .inl mX12_price), (1, 364, 19, .inr 16), (1, 367, 11, .inl mX12_units), (2, 371, 0, .inl mX17_init), (1, 374, 4, .inl mX5_isProject), (0, 395, 0, .inl mX5_up), (1, 403, 4, .inl mX5_isGood), (2, 408, 0, .inl mX19_init), (1, 409, 18, .inl mX19_own), (1, 412, 18, .inl mX19_input), (1, 415, 18, .inl mX19_amount), (1, 418, 4, .inl mX5_embeddedIn), (1, 427, 4, .inl mX5_emitted), (1, 434, 4, .inl mX5_endYear), (1, 438, 4, .inl mX5_fallDue)]
def tH_6 : List (Nat × Nat × Nat × Tg) := [(2, 3, 0, .inr 1)]
def tH_7 : List (Nat × Nat × Nat × Tg) := [(2, 3, 0, .inr 1), (2, 11, 0, .inr 21), (0, 42, 0, .inl mX1_up), (1, 51, 20, .inr 26), (1, 55, 20, .inr 27), (3, 59, 34, .inr 32), (1, 67, 24, .inr 53), (0, 71, 0, .inr 50), (1, 81, 23, .inr 51), (0, 85, 0, .inl mJ12_abs), (1, 77, 20, .inr 25)]
def tH_8 : List (Nat × Nat × Nat × Tg) := [(2, 1, 0, .inr 1), (0, 36, 0, .inl mJ12_max), (2, 45, 0, .inl mX8_init)]
def tH_9 : List (Nat × Nat × Nat × Tg) := [(2, 1, 0, .inr 1)]
def tH_10 : List (Nat × Nat × Nat × Tg) := [(2, 1, 0, .inr 1), (1, 39, 9, .inl mX10_isLocked)]
def tH_11 : List (Nat × Nat × Nat × Tg) := [(2, 1, 0, .inr 1)]
def tH_12 : List (Nat × Nat × Nat × Tg) := [(2, 1, 0, .inl mJ44_init)]
def tH_13 : List (Nat × Nat × Nat × Tg) := [(2, 1, 0, .inr 1), (2, 15, 0, .inr 10)]
def tH_14 : List (Nat × Nat × Nat × Tg) := [(2, 3, 0, .inr 1), (0, 21, 0, .inr 54), (1, 30, 13, .inl mX14_compare_2)]
def tH_15 : List (Nat × Nat × Nat × Tg) := [(2, 1, 0, .inr 1), (2, 15, 0, .inr 10)]
def tH_16 : List (Nat × Nat × Nat × Tg) := [(2, 3, 0, .inr 1), (0, 32, 0, .inl mJ12_max)]
def tH_17 : List (Nat × Nat × Nat × Tg) := [(2, 1, 0, .inr 1)]
def tH_18 : List (Nat × Nat × Nat × Tg) := [(2, 3, 0, .inr 1), (1, 22, 17, .inl mX18_embedded)]
def tH_19 : List (Nat × Nat × Nat × Tg) := [(2, 1, 0, .inl mJ44_init)]
def tH_20 : List (Nat × Nat × Nat × Tg) := [(3, 1, 3, .inl mX4_owed), (3, 1, 6, .inl mX7_owed), (3, 7, 3, .inl mX4_clear), (3, 7, 6, .inl mX7_clear)]
def tH_144 : List (Nat × Nat × Nat × Tg) := [(2, 1, 0, .inr 1)]
def tH (o : Nat) : List (Nat × Nat × Nat × Tg) := match o with
  | 0 => tH_0
  | 1 => tH_1
  | 2 => tH_2
  | 3 => tH_3
  | 4 => tH_4
  | 5 => tH_5
  | 6 => tH_6
  | 7 => tH_7
  | 8 => tH_8
  | 9 => tH_9
  | 10 => tH_10
  | 11 => tH_11
  | 12 => tH_12
  | 13 => tH_13
  | 14 => tH_14
  | 15 => tH_15
  | 16 => tH_16
  | 17 => tH_17
  | 18 => tH_18
  | 19 => tH_19
  | 20 => tH_20
  | 144 => tH_144
  | _ => []
/-- the high evaluator's calls -/
def tgH (o mode j k : Nat) : Option Tg := ((tH o).find? fun e => e.1 == mode && (e.2.1 == j && e.2.2.1 == k)).map fun e => e.2.2.2
def EH (sv : Nat → Value) : Evn := (tgH, primH, sv)
theorem hEH (sv : Nat → Value) : PMon (EH sv) := primH_mono sv tgH
theorem EH_sv {sv : Nat → Value} {n : Nat} : (EH sv).2.2 n = sv n := rfl
section
variable {sv : Nat → Value} {X : XT} {as : List Value} {h H : Hp} {r d : Nat} {K : Post} {a b q o c s kr k1 k2 : Nat} {i x z : Int32} {v w : Value} {y : Int64}
theorem gH_0_1_7_0 : (EH sv).1 0 1 7 0 = some (.inl mX1_addAccount) := rfl
theorem gH_0_1_17_0 : (EH sv).1 0 1 17 0 = some (.inl mX1_makePlant) := rfl
theorem gH_0_1_23_0 : (EH sv).1 0 1 23 0 = some (.inl mX1_report) := rfl
theorem gH_0_1_28_0 : (EH sv).1 0 1 28 0 = some (.inl mX1_tellActivity) := rfl
theorem gH_0_1_32_0 : (EH sv).1 0 1 32 0 = some (.inl mX1_emissionOf) := rfl
theorem gH_0_1_38_0 : (EH sv).1 0 1 38 0 = some (.inl mX1_owed) := rfl
theorem gH_0_1_41_0 : (EH sv).1 0 1 41 0 = some (.inl mX1_freeShare) := rfl
theorem gH_0_1_44_0 : (EH sv).1 0 1 44 0 = some (.inl mX1_cash) := rfl
theorem gH_0_1_48_0 : (EH sv).1 0 1 48 0 = some (.inl mX1_setCap) := rfl
theorem gH_0_1_51_0 : (EH sv).1 0 1 51 0 = some (.inl mX1_setBounds) := rfl
theorem gH_0_1_54_0 : (EH sv).1 0 1 54 0 = some (.inl mX1_bid) := rfl
theorem gH_0_1_57_0 : (EH sv).1 0 1 57 0 = some (.inl mX1_auction) := rfl
theorem gH_0_1_60_0 : (EH sv).1 0 1 60 0 = some (.inl mX1_price) := rfl
theorem gH_0_1_64_0 : (EH sv).1 0 1 64 0 = some (.inl mX1_transfer) := rfl
theorem gH_0_1_68_0 : (EH sv).1 0 1 68 0 = some (.inl mX1_confirm) := rfl
theorem gH_0_1_71_0 : (EH sv).1 0 1 71 0 = some (.inl mX1_trust) := rfl
theorem gH_0_1_75_0 : (EH sv).1 0 1 75 0 = some (.inl mX1_freeze) := rfl
theorem gH_0_1_78_0 : (EH sv).1 0 1 78 0 = some (.inl mX1_release) := rfl
theorem gH_0_1_81_0 : (EH sv).1 0 1 81 0 = some (.inl mX1_stateOf) := rfl
theorem gH_0_1_85_0 : (EH sv).1 0 1 85 0 = some (.inl mX1_units) := rfl
theorem gH_0_1_89_0 : (EH sv).1 0 1 89 0 = some (.inl mX1_usable) := rfl
theorem gH_0_1_92_0 : (EH sv).1 0 1 92 0 = some (.inl mX1_holderOf) := rfl
theorem gH_0_1_95_0 : (EH sv).1 0 1 95 0 = some (.inl mX1_vintageOf) := rfl
theorem gH_0_1_98_0 : (EH sv).1 0 1 98 0 = some (.inl mX1_isFrozen) := rfl
theorem gH_0_1_102_0 : (EH sv).1 0 1 102 0 = some (.inl mX1_surrender) := rfl
theorem gH_0_1_106_0 : (EH sv).1 0 1 106 0 = some (.inl mX1_surrendered) := rfl
theorem gH_0_1_110_0 : (EH sv).1 0 1 110 0 = some (.inl mX1_addProject) := rfl
theorem gH_0_1_114_0 : (EH sv).1 0 1 114 0 = some (.inl mX1_verify) := rfl
theorem gH_0_1_117_0 : (EH sv).1 0 1 117 0 = some (.inl mX1_reverse) := rfl
theorem gH_0_1_120_0 : (EH sv).1 0 1 120 0 = some (.inl mX1_addGood) := rfl
theorem gH_0_1_123_0 : (EH sv).1 0 1 123 0 = some (.inl mX1_embedded) := rfl
theorem gH_0_1_126_0 : (EH sv).1 0 1 126 0 = some (.inl mX1_importGood) := rfl
theorem gH_0_1_130_0 : (EH sv).1 0 1 130 0 = some (.inl mX1_advance) := rfl
theorem gH_0_1_133_0 : (EH sv).1 0 1 133 0 = some (.inl mX1_offsetShare) := rfl
theorem gH_0_1_137_0 : (EH sv).1 0 1 137 0 = some (.inl mX1_meanVintage) := rfl
theorem gH_0_2_141_0 : (EH sv).1 0 2 141 0 = some (.inl mX1_init) := rfl
theorem gH_0_2_144_0 : (EH sv).1 0 2 144 0 = some (.inl mX5_init) := rfl
theorem gH_0_0_145_0 : (EH sv).1 0 0 145 0 = some (.inl mX0_addAccount) := rfl
theorem gH_0_1_150_4 : (EH sv).1 0 1 150 4 = some (.inl mX5_addAccount) := rfl
theorem gH_0_1_151_4 : (EH sv).1 0 1 151 4 = some (.inl mX5_thrown) := rfl
theorem gH_0_0_154_0 : (EH sv).1 0 0 154 0 = some (.inl mX0_makePlant) := rfl
theorem gH_0_1_157_4 : (EH sv).1 0 1 157 4 = some (.inl mX5_makePlant) := rfl
theorem gH_0_0_158_0 : (EH sv).1 0 0 158 0 = some (.inl mX0_report) := rfl
theorem gH_0_1_160_4 : (EH sv).1 0 1 160 4 = some (.inl mX5_report) := rfl
theorem gH_0_0_161_0 : (EH sv).1 0 0 161 0 = some (.inl mX0_tellActivity) := rfl
theorem gH_0_1_164_4 : (EH sv).1 0 1 164 4 = some (.inl mX5_tellActivity) := rfl
theorem gH_0_0_165_0 : (EH sv).1 0 0 165 0 = some (.inl mX0_emissionOf) := rfl
theorem gH_0_1_167_4 : (EH sv).1 0 1 167 4 = some (.inl mX5_emissionOf) := rfl
theorem gH_0_0_168_0 : (EH sv).1 0 0 168 0 = some (.inl mX0_owed) := rfl
theorem gH_0_1_170_4 : (EH sv).1 0 1 170 4 = some (.inl mX5_owed) := rfl
theorem gH_0_0_171_0 : (EH sv).1 0 0 171 0 = some (.inl mX0_freeShare) := rfl
theorem gH_0_1_173_4 : (EH sv).1 0 1 173 4 = some (.inl mX5_freeShare) := rfl
theorem gH_0_0_174_0 : (EH sv).1 0 0 174 0 = some (.inl mX0_cash) := rfl
theorem gH_0_1_176_4 : (EH sv).1 0 1 176 4 = some (.inl mX5_cash) := rfl
theorem gH_0_0_177_0 : (EH sv).1 0 0 177 0 = some (.inl mX0_setCap) := rfl
theorem gH_0_1_179_4 : (EH sv).1 0 1 179 4 = some (.inl mX5_setCap) := rfl
theorem gH_0_0_180_0 : (EH sv).1 0 0 180 0 = some (.inl mX0_setBounds) := rfl
theorem gH_0_1_182_4 : (EH sv).1 0 1 182 4 = some (.inl mX5_setBounds) := rfl
theorem gH_0_0_183_0 : (EH sv).1 0 0 183 0 = some (.inl mX0_bid) := rfl
theorem gH_0_1_185_4 : (EH sv).1 0 1 185 4 = some (.inl mX5_bid) := rfl
theorem gH_0_0_186_0 : (EH sv).1 0 0 186 0 = some (.inl mX0_auction) := rfl
theorem gH_0_1_188_4 : (EH sv).1 0 1 188 4 = some (.inl mX5_auction) := rfl
theorem gH_0_0_189_0 : (EH sv).1 0 0 189 0 = some (.inl mX0_price) := rfl
theorem gH_0_1_192_4 : (EH sv).1 0 1 192 4 = some (.inl mX5_price) := rfl
theorem gH_0_1_193_0 : (EH sv).1 0 1 193 0 = some (.inl mX1_volume) := rfl
theorem gH_0_1_196_4 : (EH sv).1 0 1 196 4 = some (.inl mX5_volume) := rfl
theorem gH_0_1_197_0 : (EH sv).1 0 1 197 0 = some (.inl mX1_reserve) := rfl
theorem gH_0_1_200_4 : (EH sv).1 0 1 200 4 = some (.inl mX5_reserve) := rfl
theorem gH_0_1_201_0 : (EH sv).1 0 1 201 0 = some (.inl mX1_circulation) := rfl
theorem gH_0_1_204_4 : (EH sv).1 0 1 204 4 = some (.inl mX5_circulation) := rfl
theorem gH_0_0_205_0 : (EH sv).1 0 0 205 0 = some (.inl mX0_transfer) := rfl
theorem gH_0_1_208_4 : (EH sv).1 0 1 208 4 = some (.inl mX5_transfer) := rfl
theorem gH_0_0_209_0 : (EH sv).1 0 0 209 0 = some (.inl mX0_confirm) := rfl
theorem gH_0_1_211_4 : (EH sv).1 0 1 211 4 = some (.inl mX5_confirm) := rfl
theorem gH_0_0_212_0 : (EH sv).1 0 0 212 0 = some (.inl mX0_trust) := rfl
theorem gH_0_1_214_4 : (EH sv).1 0 1 214 4 = some (.inl mX5_trust) := rfl
theorem gH_0_0_215_0 : (EH sv).1 0 0 215 0 = some (.inl mX0_freeze) := rfl
theorem gH_0_1_217_4 : (EH sv).1 0 1 217 4 = some (.inl mX5_freeze) := rfl
theorem gH_0_0_218_0 : (EH sv).1 0 0 218 0 = some (.inl mX0_release) := rfl
theorem gH_0_1_220_4 : (EH sv).1 0 1 220 4 = some (.inl mX5_release) := rfl
theorem gH_0_0_221_0 : (EH sv).1 0 0 221 0 = some (.inl mX0_stateOf) := rfl
theorem gH_0_1_223_4 : (EH sv).1 0 1 223 4 = some (.inl mX5_stateOf) := rfl
theorem gH_0_0_224_0 : (EH sv).1 0 0 224 0 = some (.inl mX0_units) := rfl
theorem gH_0_1_227_4 : (EH sv).1 0 1 227 4 = some (.inl mX5_units) := rfl
theorem gH_0_0_228_0 : (EH sv).1 0 0 228 0 = some (.inl mX0_usable) := rfl
theorem gH_0_1_230_4 : (EH sv).1 0 1 230 4 = some (.inl mX5_usable) := rfl
theorem gH_0_1_231_0 : (EH sv).1 0 1 231 0 = some (.inl mX1_made) := rfl
theorem gH_0_1_234_4 : (EH sv).1 0 1 234 4 = some (.inl mX5_made) := rfl
theorem gH_0_0_235_0 : (EH sv).1 0 0 235 0 = some (.inl mX0_holderOf) := rfl
theorem gH_0_1_237_4 : (EH sv).1 0 1 237 4 = some (.inl mX5_holderOf) := rfl
theorem gH_0_0_238_0 : (EH sv).1 0 0 238 0 = some (.inl mX0_vintageOf) := rfl
theorem gH_0_1_240_4 : (EH sv).1 0 1 240 4 = some (.inl mX5_vintageOf) := rfl
theorem gH_0_0_241_0 : (EH sv).1 0 0 241 0 = some (.inl mX0_isFrozen) := rfl
theorem gH_0_1_243_4 : (EH sv).1 0 1 243 4 = some (.inl mX5_isFrozen) := rfl
theorem gH_0_1_244_0 : (EH sv).1 0 1 244 0 = some (.inl mX1_blocks) := rfl
theorem gH_0_1_247_4 : (EH sv).1 0 1 247 4 = some (.inl mX5_blocks) := rfl
theorem gH_0_0_248_0 : (EH sv).1 0 0 248 0 = some (.inl mX0_surrender) := rfl
theorem gH_0_1_250_4 : (EH sv).1 0 1 250 4 = some (.inl mX5_surrender) := rfl
theorem gH_0_0_251_0 : (EH sv).1 0 0 251 0 = some (.inl mX0_surrendered) := rfl
theorem gH_0_1_254_4 : (EH sv).1 0 1 254 4 = some (.inl mX5_surrendered) := rfl
theorem gH_0_1_255_0 : (EH sv).1 0 1 255 0 = some (.inl mX1_cancelled) := rfl
theorem gH_0_1_258_4 : (EH sv).1 0 1 258 4 = some (.inl mX5_cancelled) := rfl
theorem gH_0_1_259_0 : (EH sv).1 0 1 259 0 = some (.inl mX1_entries) := rfl
theorem gH_0_1_262_4 : (EH sv).1 0 1 262 4 = some (.inl mX5_entries) := rfl
theorem gH_0_0_263_0 : (EH sv).1 0 0 263 0 = some (.inl mX0_addProject) := rfl
theorem gH_0_1_266_4 : (EH sv).1 0 1 266 4 = some (.inl mX5_addProject) := rfl
theorem gH_0_0_267_0 : (EH sv).1 0 0 267 0 = some (.inl mX0_verify) := rfl
theorem gH_0_1_269_4 : (EH sv).1 0 1 269 4 = some (.inl mX5_verify) := rfl
theorem gH_0_0_270_0 : (EH sv).1 0 0 270 0 = some (.inl mX0_reverse) := rfl
theorem gH_0_1_272_4 : (EH sv).1 0 1 272 4 = some (.inl mX5_reverse) := rfl
theorem gH_0_0_273_0 : (EH sv).1 0 0 273 0 = some (.inl mX0_addGood) := rfl
theorem gH_0_1_275_4 : (EH sv).1 0 1 275 4 = some (.inl mX5_addGood) := rfl
theorem gH_0_0_276_0 : (EH sv).1 0 0 276 0 = some (.inl mX0_embedded) := rfl
theorem gH_0_1_278_4 : (EH sv).1 0 1 278 4 = some (.inl mX5_embedded) := rfl
theorem gH_0_0_279_0 : (EH sv).1 0 0 279 0 = some (.inl mX0_importGood) := rfl
theorem gH_0_1_282_4 : (EH sv).1 0 1 282 4 = some (.inl mX5_importGood) := rfl
theorem gH_0_0_283_0 : (EH sv).1 0 0 283 0 = some (.inl mX0_advance) := rfl
theorem gH_0_1_285_4 : (EH sv).1 0 1 285 4 = some (.inl mX5_advance) := rfl
theorem gH_0_1_286_0 : (EH sv).1 0 1 286 0 = some (.inl mX1_day) := rfl
theorem gH_0_1_289_4 : (EH sv).1 0 1 289 4 = some (.inl mX5_day) := rfl
theorem gH_0_0_290_0 : (EH sv).1 0 0 290 0 = some (.inl mX0_offsetShare) := rfl
theorem gH_0_1_293_4 : (EH sv).1 0 1 293 4 = some (.inl mX5_offsetShare) := rfl
theorem gH_0_0_294_0 : (EH sv).1 0 0 294 0 = some (.inl mX0_meanVintage) := rfl
theorem gH_0_1_296_4 : (EH sv).1 0 1 296 4 = some (.inl mX5_meanVintage) := rfl
theorem gH_0_1_297_0 : (EH sv).1 0 1 297 0 = some (.inl mX1_isSound) := rfl
theorem gH_0_1_301_4 : (EH sv).1 0 1 301 4 = some (.inl mX5_isSound) := rfl
theorem gH_1_2_1_0 : (EH sv).1 1 2 1 0 = some (.inr 1) := rfl
theorem gH_1_2_9_0 : (EH sv).1 1 2 9 0 = some (.inr 10) := rfl
theorem gH_1_2_18_0 : (EH sv).1 1 2 18 0 = some (.inr 21) := rfl
theorem gH_1_2_30_0 : (EH sv).1 1 2 30 0 = some (.inl mX2_init) := rfl
theorem gH_1_2_31_0 : (EH sv).1 1 2 31 0 = some (.inr 41) := rfl
theorem gH_1_2_64_0 : (EH sv).1 1 2 64 0 = some (.inl mX3_init) := rfl
theorem gH_1_3_67_19 : (EH sv).1 1 3 67 19 = some (.inr 11) := rfl
theorem gH_1_3_88_19 : (EH sv).1 1 3 88 19 = some (.inr 14) := rfl
theorem gH_1_0_92_0 : (EH sv).1 1 0 92 0 = some (.inl mX1_isBetween) := rfl
theorem gH_1_0_96_0 : (EH sv).1 1 0 96 0 = some (.inl mX1_checkIndex) := rfl
theorem gH_1_3_100_19 : (EH sv).1 1 3 100 19 = some (.inr 13) := rfl
theorem gH_1_0_110_0 : (EH sv).1 1 0 110 0 = some (.inr 50) := rfl
theorem gH_1_1_118_0 : (EH sv).1 1 1 118 0 = some (.inl mX1_year) := rfl
theorem gH_1_2_121_0 : (EH sv).1 1 2 121 0 = some (.inl mX8_init) := rfl
theorem gH_1_1_124_20 : (EH sv).1 1 1 124 20 = some (.inr 22) := rfl
theorem gH_1_2_130_0 : (EH sv).1 1 2 130 0 = some (.inl mX9_init) := rfl
theorem gH_1_1_136_20 : (EH sv).1 1 1 136 20 = some (.inr 30) := rfl
theorem gH_1_3_140_19 : (EH sv).1 1 3 140 19 = some (.inr 18) := rfl
theorem gH_1_3_140_21 : (EH sv).1 1 3 140 21 = some (.inr 47) := rfl
theorem gH_1_3_140_26 : (EH sv).1 1 3 140 26 = some (.inr 33) := rfl
theorem gH_1_3_140_33 : (EH sv).1 1 3 140 33 = some (.inr 37) := rfl
theorem gH_1_3_146_22 : (EH sv).1 1 3 146 22 = some (.inr 19) := rfl
theorem gH_1_3_146_27 : (EH sv).1 1 3 146 27 = some (.inr 38) := rfl
theorem gH_1_3_146_30 : (EH sv).1 1 3 146 30 = some (.inr 48) := rfl
theorem gH_1_3_146_31 : (EH sv).1 1 3 146 31 = some (.inr 34) := rfl
theorem gH_1_3_152_22 : (EH sv).1 1 3 152 22 = some (.inr 20) := rfl
theorem gH_1_3_152_27 : (EH sv).1 1 3 152 27 = some (.inr 39) := rfl
theorem gH_1_3_152_30 : (EH sv).1 1 3 152 30 = some (.inr 49) := rfl
theorem gH_1_3_152_31 : (EH sv).1 1 3 152 31 = some (.inr 35) := rfl
theorem gH_1_1_156_7 : (EH sv).1 1 1 156 7 = some (.inl mX8_isUsable) := rfl
theorem gH_1_1_160_7 : (EH sv).1 1 1 160 7 = some (.inl mX8_size) := rfl
theorem gH_1_3_161_1 : (EH sv).1 1 3 161 1 = some (.inl mX2_compare) := rfl
theorem gH_1_3_161_13 : (EH sv).1 1 3 161 13 = some (.inl mX14_compare) := rfl
theorem gH_1_3_167_19 : (EH sv).1 1 3 167 19 = some (.inr 12) := rfl
theorem gH_1_1_173_7 : (EH sv).1 1 1 173 7 = some (.inl mX8_part) := rfl
theorem gH_1_0_184_0 : (EH sv).1 1 0 184 0 = some (.inl mX1_checkArgument) := rfl
theorem gH_1_0_187_0 : (EH sv).1 1 0 187 0 = some (.inl mX1_checkState) := rfl
theorem gH_1_1_190_0 : (EH sv).1 1 1 190 0 = some (.inl mX1_accountFrom) := rfl
theorem gH_1_2_200_0 : (EH sv).1 1 2 200 0 = some (.inl mX7_init) := rfl
theorem gH_1_3_207_19 : (EH sv).1 1 3 207 19 = some (.inr 18) := rfl
theorem gH_1_0_209_0 : (EH sv).1 1 0 209 0 = some (.inl mX1_checkPossible) := rfl
theorem gH_1_0_229_0 : (EH sv).1 1 0 229 0 = some (.inl mJ12_max_2) := rfl
theorem gH_1_1_238_23 : (EH sv).1 1 1 238 23 = some (.inr 51) := rfl
theorem gH_1_1_244_20 : (EH sv).1 1 1 244 20 = some (.inr 24) := rfl
theorem gH_1_0_247_0 : (EH sv).1 1 0 247 0 = some (.inl mX1_checkElement) := rfl
theorem gH_1_1_250_20 : (EH sv).1 1 1 250 20 = some (.inr 23) := rfl
theorem gH_1_1_255_24 : (EH sv).1 1 1 255 24 = some (.inr 53) := rfl
theorem gH_1_1_259_0 : (EH sv).1 1 1 259 0 = some (.inl mX1_hasEnded) := rfl
theorem gH_1_1_277_0 : (EH sv).1 1 1 277 0 = some (.inl mX1_begin) := rfl
theorem gH_1_1_280_0 : (EH sv).1 1 1 280 0 = some (.inl mX1_cap) := rfl
theorem gH_1_1_295_6 : (EH sv).1 1 1 295 6 = some (.inl mX7_average) := rfl
theorem gH_1_1_305_0 : (EH sv).1 1 1 305 0 = some (.inl mX1_make) := rfl
theorem gH_1_0_312_0 : (EH sv).1 1 0 312 0 = some (.inl mJ12_max) := rfl
theorem gH_1_1_315_0 : (EH sv).1 1 1 315 0 = some (.inl mX1_circulation) := rfl
theorem gH_1_0_320_0 : (EH sv).1 1 0 320 0 = some (.inl mJ12_min_2) := rfl
theorem gH_1_0_323_0 : (EH sv).1 1 0 323 0 = some (.inl mJ12_min) := rfl
theorem gH_1_1_325_21 : (EH sv).1 1 1 325 21 = some (.inr 47) := rfl
theorem gH_1_1_336_21 : (EH sv).1 1 1 336 21 = some (.inr 45) := rfl
theorem gH_1_2_340_0 : (EH sv).1 1 2 340 0 = some (.inl mX11_init) := rfl
theorem gH_1_1_343_21 : (EH sv).1 1 1 343 21 = some (.inr 42) := rfl
theorem gH_1_1_344_21 : (EH sv).1 1 1 344 21 = some (.inr 44) := rfl
theorem gH_1_1_347_21 : (EH sv).1 1 1 347 21 = some (.inr 43) := rfl
theorem gH_1_1_350_21 : (EH sv).1 1 1 350 21 = some (.inr 46) := rfl
theorem gH_1_3_353_19 : (EH sv).1 1 3 353 19 = some (.inr 15) := rfl
theorem gH_1_0_358_0 : (EH sv).1 1 0 358 0 = some (.inl mX1_isKind) := rfl
theorem gH_1_1_362_0 : (EH sv).1 1 1 362 0 = some (.inl mX1_usableOf) := rfl
theorem gH_1_2_368_0 : (EH sv).1 1 2 368 0 = some (.inl mX13_init) := rfl
theorem gH_1_1_371_0 : (EH sv).1 1 1 371 0 = some (.inl mX1_move) := rfl
theorem gH_1_2_382_0 : (EH sv).1 1 2 382 0 = some (.inl mX14_init) := rfl
theorem gH_1_1_385_0 : (EH sv).1 1 1 385 0 = some (.inl mX1_taken) := rfl
theorem gH_1_1_404_0 : (EH sv).1 1 1 404 0 = some (.inl mX1_write) := rfl
theorem gH_1_1_411_0 : (EH sv).1 1 1 411 0 = some (.inl mX1_transferWith) := rfl
theorem gH_1_1_415_20 : (EH sv).1 1 1 415 20 = some (.inr 31) := rfl
theorem gH_1_1_420_0 : (EH sv).1 1 1 420 0 = some (.inl mX1_piecesOf) := rfl
theorem gH_1_3_424_20 : (EH sv).1 1 3 424 20 = some (.inr 30) := rfl
theorem gH_1_3_424_32 : (EH sv).1 1 3 424 32 = some (.inr 36) := rfl
theorem gH_1_1_431_20 : (EH sv).1 1 1 431 20 = some (.inr 28) := rfl
theorem gH_1_3_435_34 : (EH sv).1 1 3 435 34 = some (.inr 32) := rfl
theorem gH_1_1_440_0 : (EH sv).1 1 1 440 0 = some (.inl mX1_pieceWith) := rfl
theorem gH_1_1_446_7 : (EH sv).1 1 1 446 7 = some (.inl mX8_isAlike) := rfl
theorem gH_1_2_457_0 : (EH sv).1 1 2 457 0 = some (.inl mX16_init) := rfl
theorem gH_1_1_460_0 : (EH sv).1 1 1 460 0 = some (.inl mX1_projectWith) := rfl
theorem gH_1_1_470_15 : (EH sv).1 1 1 470 15 = some (.inl mX16_offsets) := rfl
theorem gH_1_0_475_0 : (EH sv).1 1 0 475 0 = some (.inl mX1_up) := rfl
theorem gH_1_2_488_0 : (EH sv).1 1 2 488 0 = some (.inl mX18_init) := rfl
theorem gH_1_1_491_17 : (EH sv).1 1 1 491 17 = some (.inl mX18_embedded) := rfl
theorem gH_1_1_497_0 : (EH sv).1 1 1 497 0 = some (.inl mX1_end) := rfl
theorem gH_1_1_500_0 : (EH sv).1 1 1 500 0 = some (.inl mX1_demand) := rfl
theorem gH_1_1_503_2 : (EH sv).1 1 1 503 2 = some (.inl mX3_end) := rfl
theorem gH_1_0_508_0 : (EH sv).1 1 0 508 0 = some (.inl mX1_cut) := rfl
theorem gH_1_1_517_20 : (EH sv).1 1 1 517 20 = some (.inr 29) := rfl
theorem gH_1_1_520_0 : (EH sv).1 1 1 520 0 = some (.inl mX1_byJournal) := rfl
theorem gH_1_3_513_32 : (EH sv).1 1 3 513 32 = some (.inr 40) := rfl
theorem gH_2_2_1_0 : (EH sv).1 2 2 1 0 = some (.inr 1) := rfl
theorem gH_2_0_13_0 : (EH sv).1 2 0 13 0 = some (.inr 54) := rfl
theorem gH_2_1_22_1 : (EH sv).1 2 1 22 1 = some (.inl mX2_compare_2) := rfl
theorem gH_3_2_1_0 : (EH sv).1 3 2 1 0 = some (.inr 1) := rfl
theorem gH_3_2_9_0 : (EH sv).1 3 2 9 0 = some (.inl mX4_init) := rfl
theorem gH_3_2_24_0 : (EH sv).1 3 2 24 0 = some (.inr 21) := rfl
theorem gH_3_0_51_0 : (EH sv).1 3 0 51 0 = some (.inr 50) := rfl
theorem gH_3_0_57_0 : (EH sv).1 3 0 57 0 = some (.inr 52) := rfl
theorem gH_3_1_62_20 : (EH sv).1 3 1 62 20 = some (.inr 22) := rfl
theorem gH_3_1_37_3 : (EH sv).1 3 1 37 3 = some (.inl mX20_ended) := rfl
theorem gH_3_1_45_6 : (EH sv).1 3 1 45 6 = some (.inl mX20_ended) := rfl
theorem gH_4_2_1_0 : (EH sv).1 4 2 1 0 = some (.inr 1) := rfl
theorem gH_5_2_1_0 : (EH sv).1 5 2 1 0 = some (.inr 1) := rfl
theorem gH_5_2_9_0 : (EH sv).1 5 2 9 0 = some (.inr 10) := rfl
theorem gH_5_2_87_0 : (EH sv).1 5 2 87 0 = some (.inl mX6_init) := rfl
theorem gH_5_1_90_19 : (EH sv).1 5 1 90 19 = some (.inr 11) := rfl
theorem gH_5_1_96_19 : (EH sv).1 5 1 96 19 = some (.inr 14) := rfl
theorem gH_5_0_100_0 : (EH sv).1 5 0 100 0 = some (.inl mX5_in) := rfl
theorem gH_5_1_106_4 : (EH sv).1 5 1 106 4 = some (.inl mX5_isOther) := rfl
theorem gH_5_1_114_19 : (EH sv).1 5 1 114 19 = some (.inr 13) := rfl
theorem gH_5_1_127_19 : (EH sv).1 5 1 127 19 = some (.inr 18) := rfl
theorem gH_5_3_131_22 : (EH sv).1 5 3 131 22 = some (.inr 19) := rfl
theorem gH_5_3_131_27 : (EH sv).1 5 3 131 27 = some (.inr 38) := rfl
theorem gH_5_3_131_30 : (EH sv).1 5 3 131 30 = some (.inr 48) := rfl
theorem gH_5_3_131_31 : (EH sv).1 5 3 131 31 = some (.inr 34) := rfl
theorem gH_5_3_137_22 : (EH sv).1 5 3 137 22 = some (.inr 20) := rfl
theorem gH_5_3_137_27 : (EH sv).1 5 3 137 27 = some (.inr 39) := rfl
theorem gH_5_3_137_30 : (EH sv).1 5 3 137 30 = some (.inr 49) := rfl
theorem gH_5_3_137_31 : (EH sv).1 5 3 137 31 = some (.inr 35) := rfl
theorem gH_5_0_156_0 : (EH sv).1 5 0 156 0 = some (.inl mJ12_max_2) := rfl
theorem gH_5_1_166_4 : (EH sv).1 5 1 166 4 = some (.inl mX5_year) := rfl
theorem gH_5_1_169_4 : (EH sv).1 5 1 169 4 = some (.inl mX5_hasEnded) := rfl
theorem gH_5_2_189_0 : (EH sv).1 5 2 189 0 = some (.inl mX10_init) := rfl
theorem gH_5_1_199_9 : (EH sv).1 5 1 199 9 = some (.inl mX10_isLocked) := rfl
theorem gH_5_1_205_4 : (EH sv).1 5 1 205 4 = some (.inl mX5_isUsable) := rfl
theorem gH_5_1_209_9 : (EH sv).1 5 1 209 9 = some (.inl mX10_size) := rfl
theorem gH_5_1_228_19 : (EH sv).1 5 1 228 19 = some (.inr 17) := rfl
theorem gH_5_1_232_19 : (EH sv).1 5 1 232 19 = some (.inr 12) := rfl
theorem gH_5_1_235_4 : (EH sv).1 5 1 235 4 = some (.inl mX5_next) := rfl
theorem gH_5_0_238_0 : (EH sv).1 5 0 238 0 = some (.inl mJ12_min) := rfl
theorem gH_5_1_242_4 : (EH sv).1 5 1 242 4 = some (.inl mX5_cut) := rfl
theorem gH_5_1_258_4 : (EH sv).1 5 1 258 4 = some (.inl mX5_take) := rfl
theorem gH_5_0_268_0 : (EH sv).1 5 0 268 0 = some (.inl mX5_isKind) := rfl
theorem gH_5_1_274_4 : (EH sv).1 5 1 274 4 = some (.inl mX5_usableOf) := rfl
theorem gH_5_2_278_0 : (EH sv).1 5 2 278 0 = some (.inl mX15_init) := rfl
theorem gH_5_1_281_4 : (EH sv).1 5 1 281 4 = some (.inl mX5_move) := rfl
theorem gH_5_1_285_4 : (EH sv).1 5 1 285 4 = some (.inl mX5_isTransfer) := rfl
theorem gH_5_1_289_4 : (EH sv).1 5 1 289 4 = some (.inl mX5_freeze_2) := rfl
theorem gH_5_1_293_4 : (EH sv).1 5 1 293 4 = some (.inl mX5_wrongHolder) := rfl
theorem gH_5_1_296_4 : (EH sv).1 5 1 296 4 = some (.inl mX5_plain) := rfl
theorem gH_5_1_300_4 : (EH sv).1 5 1 300 4 = some (.inl mX5_rowOf) := rfl
theorem gH_5_1_304_9 : (EH sv).1 5 1 304 9 = some (.inl mX10_isLike) := rfl
theorem gH_5_0_316_0 : (EH sv).1 5 0 316 0 = some (.inl mJ12_max) := rfl
theorem gH_5_0_321_0 : (EH sv).1 5 0 321 0 = some (.inl mJ12_abs_2) := rfl
theorem gH_5_1_331_4 : (EH sv).1 5 1 331 4 = some (.inl mX5_cap) := rfl
theorem gH_5_1_334_4 : (EH sv).1 5 1 334 4 = some (.inl mX5_make) := rfl
theorem gH_5_1_338_4 : (EH sv).1 5 1 338 4 = some (.inl mX5_circulating) := rfl
theorem gH_5_0_343_0 : (EH sv).1 5 0 343 0 = some (.inl mJ12_min_2) := rfl
theorem gH_5_1_345_4 : (EH sv).1 5 1 345 4 = some (.inl mX5_beginYear) := rfl
theorem gH_5_2_352_0 : (EH sv).1 5 2 352 0 = some (.inl mX12_init) := rfl
theorem gH_5_1_355_11 : (EH sv).1 5 1 355 11 = some (.inl mX12_cost) := rfl
theorem gH_5_1_359_11 : (EH sv).1 5 1 359 11 = some (.inl mX12_account) := rfl
theorem gH_5_1_362_11 : (EH sv).1 5 1 362 11 = some (.inl mX12_price) := rfl
theorem gH_5_1_364_19 : (EH sv).1 5 1 364 19 = some (.inr 16) := rfl
theorem gH_5_1_367_11 : (EH sv).1 5 1 367 11 = some (.inl mX12_units) := rfl
theorem gH_5_2_371_0 : (EH sv).1 5 2 371 0 = some (.inl mX17_init) := rfl
theorem gH_5_1_374_4 : (EH sv).1 5 1 374 4 = some (.inl mX5_isProject) := rfl
theorem gH_5_0_395_0 : (EH sv).1 5 0 395 0 = some (.inl mX5_up) := rfl
theorem gH_5_1_403_4 : (EH sv).1 5 1 403 4 = some (.inl mX5_isGood) := rfl
theorem gH_5_2_408_0 : (EH sv).1 5 2 408 0 = some (.inl mX19_init) := rfl
theorem gH_5_1_409_18 : (EH sv).1 5 1 409 18 = some (.inl mX19_own) := rfl
theorem gH_5_1_412_18 : (EH sv).1 5 1 412 18 = some (.inl mX19_input) := rfl
theorem gH_5_1_415_18 : (EH sv).1 5 1 415 18 = some (.inl mX19_amount) := rfl
theorem gH_5_1_418_4 : (EH sv).1 5 1 418 4 = some (.inl mX5_embeddedIn) := rfl
theorem gH_5_1_427_4 : (EH sv).1 5 1 427 4 = some (.inl mX5_emitted) := rfl
theorem gH_5_1_434_4 : (EH sv).1 5 1 434 4 = some (.inl mX5_endYear) := rfl
theorem gH_5_1_438_4 : (EH sv).1 5 1 438 4 = some (.inl mX5_fallDue) := rfl
theorem gH_6_2_3_0 : (EH sv).1 6 2 3 0 = some (.inr 1) := rfl
theorem gH_7_2_3_0 : (EH sv).1 7 2 3 0 = some (.inr 1) := rfl
theorem gH_7_2_11_0 : (EH sv).1 7 2 11 0 = some (.inr 21) := rfl
theorem gH_7_0_42_0 : (EH sv).1 7 0 42 0 = some (.inl mX1_up) := rfl
theorem gH_7_1_51_20 : (EH sv).1 7 1 51 20 = some (.inr 26) := rfl
theorem gH_7_1_55_20 : (EH sv).1 7 1 55 20 = some (.inr 27) := rfl
theorem gH_7_3_59_34 : (EH sv).1 7 3 59 34 = some (.inr 32) := rfl
theorem gH_7_1_67_24 : (EH sv).1 7 1 67 24 = some (.inr 53) := rfl
theorem gH_7_0_71_0 : (EH sv).1 7 0 71 0 = some (.inr 50) := rfl
theorem gH_7_1_81_23 : (EH sv).1 7 1 81 23 = some (.inr 51) := rfl
theorem gH_7_0_85_0 : (EH sv).1 7 0 85 0 = some (.inl mJ12_abs) := rfl
theorem gH_7_1_77_20 : (EH sv).1 7 1 77 20 = some (.inr 25) := rfl
theorem gH_8_2_1_0 : (EH sv).1 8 2 1 0 = some (.inr 1) := rfl
theorem gH_8_0_36_0 : (EH sv).1 8 0 36 0 = some (.inl mJ12_max) := rfl
theorem gH_8_2_45_0 : (EH sv).1 8 2 45 0 = some (.inl mX8_init) := rfl
theorem gH_9_2_1_0 : (EH sv).1 9 2 1 0 = some (.inr 1) := rfl
theorem gH_10_2_1_0 : (EH sv).1 10 2 1 0 = some (.inr 1) := rfl
theorem gH_10_1_39_9 : (EH sv).1 10 1 39 9 = some (.inl mX10_isLocked) := rfl
theorem gH_11_2_1_0 : (EH sv).1 11 2 1 0 = some (.inr 1) := rfl
theorem gH_12_2_1_0 : (EH sv).1 12 2 1 0 = some (.inl mJ44_init) := rfl
theorem gH_13_2_1_0 : (EH sv).1 13 2 1 0 = some (.inr 1) := rfl
theorem gH_13_2_15_0 : (EH sv).1 13 2 15 0 = some (.inr 10) := rfl
theorem gH_14_2_3_0 : (EH sv).1 14 2 3 0 = some (.inr 1) := rfl
theorem gH_14_0_21_0 : (EH sv).1 14 0 21 0 = some (.inr 54) := rfl
theorem gH_14_1_30_13 : (EH sv).1 14 1 30 13 = some (.inl mX14_compare_2) := rfl
theorem gH_15_2_1_0 : (EH sv).1 15 2 1 0 = some (.inr 1) := rfl
theorem gH_15_2_15_0 : (EH sv).1 15 2 15 0 = some (.inr 10) := rfl
theorem gH_16_2_3_0 : (EH sv).1 16 2 3 0 = some (.inr 1) := rfl
theorem gH_16_0_32_0 : (EH sv).1 16 0 32 0 = some (.inl mJ12_max) := rfl
theorem gH_17_2_1_0 : (EH sv).1 17 2 1 0 = some (.inr 1) := rfl
theorem gH_18_2_3_0 : (EH sv).1 18 2 3 0 = some (.inr 1) := rfl
theorem gH_18_1_22_17 : (EH sv).1 18 1 22 17 = some (.inl mX18_embedded) := rfl
theorem gH_19_2_1_0 : (EH sv).1 19 2 1 0 = some (.inl mJ44_init) := rfl
theorem gH_20_3_1_3 : (EH sv).1 20 3 1 3 = some (.inl mX4_owed) := rfl
theorem gH_20_3_1_6 : (EH sv).1 20 3 1 6 = some (.inl mX7_owed) := rfl
theorem gH_20_3_7_3 : (EH sv).1 20 3 7 3 = some (.inl mX4_clear) := rfl
theorem gH_20_3_7_6 : (EH sv).1 20 3 7 6 = some (.inl mX7_clear) := rfl
theorem gH_144_2_1_0 : (EH sv).1 144 2 1 0 = some (.inr 1) := rfl
theorem rH_1 : Run (EH sv) X (.inr 1) [.ref a] H r d K = (16 ≤ d ∧ (K (.inl none) H r)) := rfl
theorem rH_10 : Run (EH sv) X (.inr 10) [.ref a] H r d K = (16 ≤ d ∧ (H a = some (.inl (19, [.int 0, .null, .int 0])) ∧ 3 ≤ r ∧ K (.inl none) (upd_ H a (cL 0 [])) (r - 3))) := rfl
theorem rH_11 : Run (EH sv) X (.inr 11) [.ref a, v] H r d K = (16 ≤ d ∧ (oL (H a) fun mc xs => okE H v ∧ xs.length < bigN ∧ 2 ≤ r ∧ K (.inl (some (.int 1))) (upd_ H a (cL (mc + 1) (xs ++ [v]))) (r - 2))) := rfl
theorem rH_12 : Run (EH sv) X (.inr 12) [.ref a, .int i, v] H r d K = (16 ≤ d ∧ (oL (H a) fun mc xs => okE H v ∧ xs.length < bigN ∧ ¬ i < 0 ∧ i.toNatClampNeg ≤ xs.length ∧ 2 ≤ r ∧ K (.inl none) (upd_ H a (cL (mc + 1) (xs.take i.toNatClampNeg ++ v :: xs.drop i.toNatClampNeg))) (r - 2))) := rfl
theorem rH_13 : Run (EH sv) X (.inr 13) [.ref a, .int i] H r d K = (16 ≤ d ∧ (oL (H a) fun _ xs => ¬ i < 0 ∧ gE (xs[i.toNatClampNeg]?) fun v => K (.inl (some v)) H r)) := rfl
theorem rH_14 : Run (EH sv) X (.inr 14) [.ref a] H r d K = (16 ≤ d ∧ (oL (H a) fun _ xs => K (.inl (some (.int (nI xs.length)))) H r)) := rfl
theorem rH_15 : Run (EH sv) X (.inr 15) [.ref a] H r d K = (16 ≤ d ∧ (oL (H a) fun _ xs => K (.inl (some (.int (b2 (xs.length = 0))))) H r)) := rfl
theorem rH_16 : Run (EH sv) X (.inr 16) [.ref a] H r d K = (16 ≤ d ∧ (oL (H a) fun mc _ => K (.inl none) (upd_ H a (cL (mc + 1) [])) r)) := rfl
theorem rH_17 : Run (EH sv) X (.inr 17) [.ref a, .ref o] H r d K = (16 ≤ d ∧ (oL (H a) fun _ xs => allRw H xs ∧ .ref o ∈ xs ∧ K (.inl (some (.int (nI (xs.idxOf (.ref o)))))) H r)) := rfl
theorem rH_18 : Run (EH sv) X (.inr 18) [.ref a] H r d K = (16 ≤ d ∧ (oL (H a) fun mc _ => Fre (cI 22 mc a 0 0) 2 H r K)) := rfl
theorem rH_19 : Run (EH sv) X (.inr 19) [.ref q] H r d K = (16 ≤ d ∧ (oI 22 (H q) fun _ a i _ => oL (H a) fun _ xs => i ≤ xs.length ∧ K (.inl (some (.int (b2 (i < xs.length))))) H r)) := rfl
theorem rH_20 : Run (EH sv) X (.inr 20) [.ref q] H r d K = (16 ≤ d ∧ (oI 22 (H q) fun mc a i _ => oL (H a) fun mc2 xs => mc2 = mc ∧ gE (xs[i]?) fun v => K (.inl (some v)) (upd_ H q (cI 22 mc a (i + 1) 0)) r)) := rfl
theorem rH_21 : Run (EH sv) X (.inr 21) [.ref a] H r d K = (16 ≤ d ∧ (H a = some (.inl (20, [.null, .null, .null, .null, .int 0, .int 0, .null, .null, .null])) ∧ K (.inl none) (upd_ H a (cM 0 [])) r)) := rfl
theorem rH_22 : Run (EH sv) X (.inr 22) [.ref a, .ref kr, v] H r d K = (16 ≤ d ∧ (oM (H a) fun mc l => oB (H kr) fun k => isR v = true ∧ l.length < bigN ∧ 2 ≤ r ∧ rB K (vOr (tmGet k l)) (upd_ H a (cM (mc + 1) (tmPut k (unB H v) l))) (r - 2))) := rfl
theorem rH_23 : Run (EH sv) X (.inr 23) [.ref a, .ref kr] H r d K = (16 ≤ d ∧ (oM (H a) fun _ l => oB (H kr) fun k => rB K (vOr (tmGet k l)) H r)) := rfl
theorem rH_24 : Run (EH sv) X (.inr 24) [.ref a, .ref kr] H r d K = (16 ≤ d ∧ (oM (H a) fun _ l => oB (H kr) fun k => K (.inl (some (.int (b2 ((tmGet k l).isSome = true))))) H r)) := rfl
theorem rH_25 : Run (EH sv) X (.inr 25) [.ref a, .ref kr, w] H r d K = (16 ≤ d ∧ (oM (H a) fun _ l => oB (H kr) fun k => isR w = true ∧ (∀ e ∈ l, e.2 ≠ .null) ∧ rB K ((tmGet k l).getD w) H r)) := rfl
theorem rH_26 : Run (EH sv) X (.inr 26) [.ref a] H r d K = (16 ≤ d ∧ (oM (H a) fun _ l => K (.inl (some (.int (b2 (l.length = 0))))) H r)) := rfl
theorem rH_27 : Run (EH sv) X (.inr 27) [.ref a] H r d K = (16 ≤ d ∧ (oM (H a) fun _ l => 1 ≤ r ∧ eOr l.getLast? H r K)) := rfl
theorem rH_28 : Run (EH sv) X (.inr 28) [.ref a, .ref kr] H r d K = (16 ≤ d ∧ (oM (H a) fun _ l => oB (H kr) fun k => 1 ≤ r ∧ eOr (tmFloor k l) H r K)) := rfl
theorem rH_29 : Run (EH sv) X (.inr 29) [.ref a, .ref kr] H r d K = (16 ≤ d ∧ (oM (H a) fun _ l => oB (H kr) fun k => 1 ≤ r ∧ eOr (tmLower k l) H r K)) := rfl
theorem rH_30 : Run (EH sv) X (.inr 30) [.ref a] H r d K = (16 ≤ d ∧ (oM (H a) fun _ _ => Fre (cV a) 1 H r K)) := rfl
theorem rH_31 : Run (EH sv) X (.inr 31) [.ref a, .ref k1, .ref k2] H r d K = (16 ≤ d ∧ (oM (H a) fun _ _ => oB (H k1) fun lo => oB (H k2) fun hi => lo ≤ hi ∧ Fre (cS a lo hi) 4 H r K)) := rfl
theorem rH_32 : Run (EH sv) X (.inr 32) [.ref q] H r d K = (16 ≤ d ∧ (oE (H q) fun v => rB K v H r)) := rfl
theorem rH_33 : Run (EH sv) X (.inr 33) [.ref q] H r d K = (16 ≤ d ∧ (oV (H q) fun a => oM (H a) fun mc l => Fre (cI 31 mc a 0 l.length) 2 H r K)) := rfl
theorem rH_34 : Run (EH sv) X (.inr 34) [.ref q] H r d K = (16 ≤ d ∧ (oI 31 (H q) fun mc a i e => oM (H a) fun mc2 _ => mc2 = mc ∧ i ≤ e ∧ K (.inl (some (.int (b2 (i < e))))) H r)) := rfl
theorem rH_35 : Run (EH sv) X (.inr 35) [.ref q] H r d K = (16 ≤ d ∧ (oI 31 (H q) fun mc a i e => oM (H a) fun mc2 l => mc2 = mc ∧ i < e ∧ gE (l[i]?) fun x => isR x.2 = true ∧ K (.inl (some x.2)) (upd_ H q (cI 31 mc a (i + 1) e)) r)) := rfl
theorem rH_36 : Run (EH sv) X (.inr 36) [.ref s] H r d K = (16 ≤ d ∧ (oS (H s) fun _ _ _ => Fre (cSV s) 1 H r K)) := rfl
theorem rH_37 : Run (EH sv) X (.inr 37) [.ref q] H r d K = (16 ≤ d ∧ (oSV (H q) fun s => oS (H s) fun a lo hi => oM (H a) fun mc l => Fre (cI 27 mc a (tmLo lo l) (tmLo hi l)) 8 H r K)) := rfl
theorem rH_38 : Run (EH sv) X (.inr 38) [.ref q] H r d K = (16 ≤ d ∧ (oI 27 (H q) fun mc a i e => oM (H a) fun mc2 _ => mc2 = mc ∧ i ≤ e ∧ K (.inl (some (.int (b2 (i < e))))) H r)) := rfl
theorem rH_39 : Run (EH sv) X (.inr 39) [.ref q] H r d K = (16 ≤ d ∧ (oI 27 (H q) fun mc a i e => oM (H a) fun mc2 l => mc2 = mc ∧ i < e ∧ gE (l[i]?) fun x => isR x.2 = true ∧ K (.inl (some x.2)) (upd_ H q (cI 27 mc a (i + 1) e)) r)) := rfl
theorem rH_40 : Run (EH sv) X (.inr 40) [.ref s] H r d K = (16 ≤ d ∧ (oS (H s) fun a lo hi => oM (H a) fun mc l => 8 ≤ r ∧ K (.inl none) (upd_ H a (cM (mc + 1) (tmCut lo hi l))) (r - 8))) := rfl
theorem rH_41 : Run (EH sv) X (.inr 41) [.ref a, .ref c] H r d K = (16 ≤ d ∧ (H a = some (.inl (21, [.null, .int 0, .null, .int 0])) ∧ H c = some (.inl (1, [])) ∧ 12 ≤ r ∧ K (.inl none) (upd_ H a (cQ 0 c [])) (r - 12))) := rfl
theorem rH_42 : Run (EH sv) X (.inr 42) [.ref a, .ref b] H r d K = (16 ≤ d ∧ (oQ (H a) fun mc c zs => H c = some (.inl (1, [])) ∧ (∀ z ∈ zs, okB H z) ∧ zs.length < 12 ∧ 8 ≤ r ∧ ∃ k, bidK (H b) k ∧ ∀ ys : Qz, ys.Perm ((.ref b, k) :: zs) → K (.inl (some (.int 1))) (upd_ H a (cQ (mc + 1) c ys)) (r - 8))) := rfl
theorem rH_43 : Run (EH sv) X (.inr 43) [.ref a] H r d K = (16 ≤ d ∧ (oQ (H a) fun mc c zs => H c = some (.inl (1, [])) ∧ (∀ z ∈ zs, okB H z) ∧ (zs = [] → K (.inl (some .null)) H r) ∧ ∀ (v : Value × Int32 × Value) (ys : Qz), zs.Perm (v :: ys) → (∀ y ∈ ys, ¬ ltK y.2 v.2) → K (.inl (some v.1)) (upd_ H a (cQ (mc + 1) c ys)) r)) := rfl
theorem rH_44 : Run (EH sv) X (.inr 44) [.ref a] H r d K = (16 ≤ d ∧ (oQ (H a) fun _ _ xs => K (.inl (some (.int (b2 (xs.length = 0))))) H r)) := rfl
theorem rH_45 : Run (EH sv) X (.inr 45) [.ref a] H r d K = (16 ≤ d ∧ (oQ (H a) fun _ _ xs => K (.inl (some (.int (nI xs.length)))) H r)) := rfl
theorem rH_46 : Run (EH sv) X (.inr 46) [.ref a] H r d K = (16 ≤ d ∧ (oQ (H a) fun mc c _ => K (.inl none) (upd_ H a (cQ (mc + 1) c [])) r)) := rfl
theorem rH_47 : Run (EH sv) X (.inr 47) [.ref a] H r d K = (16 ≤ d ∧ (oQ (H a) fun mc _ _ => Fre (cI 30 mc a 0 0) 2 H r K)) := rfl
theorem rH_48 : Run (EH sv) X (.inr 48) [.ref q] H r d K = (16 ≤ d ∧ (oI 30 (H q) fun _ a i _ => oQ (H a) fun _ _ xs => i ≤ xs.length ∧ K (.inl (some (.int (b2 (i < xs.length))))) H r)) := rfl
theorem rH_49 : Run (EH sv) X (.inr 49) [.ref q] H r d K = (16 ≤ d ∧ (oI 30 (H q) fun mc a i _ => oQ (H a) fun mc2 _ xs => mc2 = mc ∧ gE (xs[i]?) fun v => K (.inl (some v.1)) (upd_ H q (cI 30 mc a (i + 1) 0)) r)) := rfl
theorem rH_50 : Run (EH sv) X (.inr 50) [.int x] H r d K = (16 ≤ d ∧ (Fre (cB x) 1 H r K)) := rfl
theorem rH_51 : Run (EH sv) X (.inr 51) [.ref q] H r d K = (16 ≤ d ∧ (oB (H q) fun x => K (.inl (some (.int x))) H r)) := rfl
theorem rH_52 : Run (EH sv) X (.inr 52) [.long y] H r d K = (16 ≤ d ∧ Fre (cBL y) 1 H r K) := rfl
theorem rH_53 : Run (EH sv) X (.inr 53) [.ref q] H r d K = (16 ≤ d ∧ (oBL (H q) fun x => K (.inl (some (.long x))) H r)) := rfl
theorem rH_54 : Run (EH sv) X (.inr 54) [.int x, .int z] H r d K = (16 ≤ d ∧ (K (.inl (some (.int (if x < z then -1 else if x = z then 0 else 1)))) H r)) := rfl
end
theorem ck_1_62_2 : (cok 1 62 2 = true) = True := eq_true rfl
theorem ck_1_111_23 : (cok 1 111 23 = true) = True := eq_true rfl
theorem ck_1_111_35 : (cok 1 111 35 = true) = True := eq_true rfl
theorem ck_1_116_7 : (cok 1 116 7 = true) = True := eq_true rfl
theorem ck_1_128_8 : (cok 1 128 8 = true) = True := eq_true rfl
theorem ck_1_253_24 : (cok 1 253 24 = true) = True := eq_true rfl
theorem ck_1_253_36 : (cok 1 253 36 = true) = True := eq_true rfl
theorem ck_1_266_901 : (cok 1 266 901 = true) = True := eq_true rfl
theorem ck_1_326_10 : (cok 1 326 10 = true) = True := eq_true rfl
theorem ck_1_366_12 : (cok 1 366 12 = true) = True := eq_true rfl
theorem ck_1_419_900 : (cok 1 419 900 = true) = True := eq_true rfl
theorem ck_1_455_15 : (cok 1 455 15 = true) = True := eq_true rfl
theorem ck_1_486_17 : (cok 1 486 17 = true) = True := eq_true rfl
theorem ck_2_8_10 : (cok 2 8 10 = true) = True := eq_true rfl
theorem ck_5_85_5 : (cok 5 85 5 = true) = True := eq_true rfl
theorem ck_5_187_9 : (cok 5 187 9 = true) = True := eq_true rfl
theorem ck_5_247_14 : (cok 5 247 14 = true) = True := eq_true rfl
theorem ck_5_288_900 : (cok 5 288 900 = true) = True := eq_true rfl
theorem ck_5_350_11 : (cok 5 350 11 = true) = True := eq_true rfl
theorem ck_5_369_16 : (cok 5 369 16 = true) = True := eq_true rfl
theorem ck_5_406_18 : (cok 5 406 18 = true) = True := eq_true rfl
theorem ck_7_65_24 : (cok 7 65 24 = true) = True := eq_true rfl
theorem ck_7_65_36 : (cok 7 65 36 = true) = True := eq_true rfl
theorem ck_7_72_23 : (cok 7 72 23 = true) = True := eq_true rfl
theorem ck_7_72_35 : (cok 7 72 35 = true) = True := eq_true rfl
theorem ck_14_16_7 : (cok 14 16 7 = true) = True := eq_true rfl
theorem ck_104_99_23 : (cok 104 99 23 = true) = True := eq_true rfl
theorem ck_104_99_24 : (cok 104 99 24 = true) = True := eq_true rfl
theorem ck_104_99_35 : (cok 104 99 35 = true) = True := eq_true rfl
theorem ck_104_99_36 : (cok 104 99 36 = true) = True := eq_true rfl
theorem ck_113_110_904 : (cok 113 110 904 = true) = True := eq_true rfl
theorem ck_125_1_23 : (cok 125 1 23 = true) = True := eq_true rfl
theorem ck_125_1_35 : (cok 125 1 35 = true) = True := eq_true rfl
theorem ck_126_1_24 : (cok 126 1 24 = true) = True := eq_true rfl
theorem ck_126_1_36 : (cok 126 1 36 = true) = True := eq_true rfl
theorem ck_132_45_25 : (cok 132 45 25 = true) = True := eq_true rfl
theorem ck_132_45_34 : (cok 132 45 34 = true) = True := eq_true rfl
def EL (sv : Nat → Value) : Evn := (tgL, primL sv, sv)
theorem hEL (sv : Nat → Value) : PMon (EL sv) := primL_mono sv tgL
theorem EL_sv {sv : Nat → Value} {n : Nat} : (EL sv).2.2 n = sv n := rfl
section
variable {sv : Nat → Value}
theorem gL_2_2_1_0 : (EL sv).1 2 2 1 0 = some (.inr 1) := rfl
theorem gL_2_0_13_0 : (EL sv).1 2 0 13 0 = some (.inl mJ25_compare) := rfl
theorem gL_2_1_22_1 : (EL sv).1 2 1 22 1 = some (.inl mX2_compare_2) := rfl
theorem gL_100_2_1_0 : (EL sv).1 100 2 1 0 = some (.inr 1) := rfl
theorem gL_100_1_7_21 : (EL sv).1 100 1 7 21 = some (.inl mJ6_size) := rfl
theorem gL_100_1_13_28 : (EL sv).1 100 1 13 28 = some (.inl mJ36_iterator) := rfl
theorem gL_100_3_17_22 : (EL sv).1 100 3 17 22 = some (.inl mJ20_hasNext) := rfl
theorem gL_100_3_17_27 : (EL sv).1 100 3 17 27 = some (.inl mJ32_hasNext) := rfl
theorem gL_100_3_17_29 : (EL sv).1 100 3 17 29 = some (.inl mJ37_hasNext) := rfl
theorem gL_100_3_17_30 : (EL sv).1 100 3 17 30 = some (.inl mJ42_hasNext) := rfl
theorem gL_100_3_17_31 : (EL sv).1 100 3 17 31 = some (.inl mJ39_hasNext) := rfl
theorem gL_100_3_23_22 : (EL sv).1 100 3 23 22 = some (.inl mJ20_next) := rfl
theorem gL_100_3_23_27 : (EL sv).1 100 3 23 27 = some (.inl mJ32_next) := rfl
theorem gL_100_3_23_29 : (EL sv).1 100 3 23 29 = some (.inl mJ38_next) := rfl
theorem gL_100_3_23_30 : (EL sv).1 100 3 23 30 = some (.inl mJ42_next) := rfl
theorem gL_100_3_23_31 : (EL sv).1 100 3 23 31 = some (.inl mJ43_next) := rfl
theorem gL_100_3_73_27 : (EL sv).1 100 3 73 27 = some (.inl mJ32_remove) := rfl
theorem gL_100_3_73_29 : (EL sv).1 100 3 73 29 = some (.inl mJ38_remove) := rfl
theorem gL_100_3_73_30 : (EL sv).1 100 3 73 30 = some (.inl mJ42_remove) := rfl
theorem gL_100_3_73_31 : (EL sv).1 100 3 73 31 = some (.inl mJ39_remove) := rfl
theorem gL_101_2_1_0 : (EL sv).1 101 2 1 0 = some (.inl mJ0_init) := rfl
theorem gL_102_2_1_0 : (EL sv).1 102 2 1 0 = some (.inl mJ1_init) := rfl
theorem gL_102_0_66_0 : (EL sv).1 102 0 66 0 = some (.inl mJ13_copyOf) := rfl
theorem gL_102_1_69_19 : (EL sv).1 102 1 69 19 = some (.inl mJ2_grow_2) := rfl
theorem gL_102_0_73_0 : (EL sv).1 102 0 73 0 = some (.inl mJ11_newLength) := rfl
theorem gL_102_0_79_0 : (EL sv).1 102 0 79 0 = some (.inl mJ12_max) := rfl
theorem gL_102_1_89_19 : (EL sv).1 102 1 89 19 = some (.inl mJ2_indexOfRange) := rfl
theorem gL_102_1_93_0 : (EL sv).1 102 1 93 0 = some (.inl mJ52_equals) := rfl
theorem gL_102_1_93_1 : (EL sv).1 102 1 93 1 = some (.inl mJ52_equals) := rfl
theorem gL_102_1_93_2 : (EL sv).1 102 1 93 2 = some (.inl mJ52_equals) := rfl
theorem gL_102_1_93_3 : (EL sv).1 102 1 93 3 = some (.inl mJ52_equals) := rfl
theorem gL_102_1_93_4 : (EL sv).1 102 1 93 4 = some (.inl mJ52_equals) := rfl
theorem gL_102_1_93_5 : (EL sv).1 102 1 93 5 = some (.inl mJ52_equals) := rfl
theorem gL_102_1_93_6 : (EL sv).1 102 1 93 6 = some (.inl mJ52_equals) := rfl
theorem gL_102_1_93_7 : (EL sv).1 102 1 93 7 = some (.inl mJ52_equals) := rfl
theorem gL_102_1_93_8 : (EL sv).1 102 1 93 8 = some (.inl mJ52_equals) := rfl
theorem gL_102_1_93_9 : (EL sv).1 102 1 93 9 = some (.inl mJ52_equals) := rfl
theorem gL_102_1_93_10 : (EL sv).1 102 1 93 10 = some (.inl mJ52_equals) := rfl
theorem gL_102_1_93_12 : (EL sv).1 102 1 93 12 = some (.inl mJ52_equals) := rfl
theorem gL_102_1_93_13 : (EL sv).1 102 1 93 13 = some (.inl mJ52_equals) := rfl
theorem gL_102_1_93_14 : (EL sv).1 102 1 93 14 = some (.inl mJ52_equals) := rfl
theorem gL_102_1_93_15 : (EL sv).1 102 1 93 15 = some (.inl mJ52_equals) := rfl
theorem gL_102_1_93_16 : (EL sv).1 102 1 93 16 = some (.inl mJ52_equals) := rfl
theorem gL_102_1_93_17 : (EL sv).1 102 1 93 17 = some (.inl mJ52_equals) := rfl
theorem gL_102_0_112_0 : (EL sv).1 102 0 112 0 = some (.inr 2) := rfl
theorem gL_102_0_118_0 : (EL sv).1 102 0 118 0 = some (.inl mJ18_checkIndex) := rfl
theorem gL_102_1_123_19 : (EL sv).1 102 1 123 19 = some (.inl mJ2_elementData) := rfl
theorem gL_102_1_129_19 : (EL sv).1 102 1 129 19 = some (.inl mJ2_grow) := rfl
theorem gL_102_1_131_19 : (EL sv).1 102 1 131 19 = some (.inl mJ2_add_2) := rfl
theorem gL_102_1_135_19 : (EL sv).1 102 1 135 19 = some (.inl mJ2_rangeCheckForAdd) := rfl
theorem gL_102_1_144_19 : (EL sv).1 102 1 144 19 = some (.inl mJ2_fastRemove) := rfl
theorem gL_102_2_269_0 : (EL sv).1 102 2 269 0 = some (.inl mJ20_init) := rfl
theorem gL_103_2_1_0 : (EL sv).1 103 2 1 0 = some (.inr 1) := rfl
theorem gL_103_1_7_32 : (EL sv).1 103 1 7 32 = some (.inl mJ48_entrySet) := rfl
theorem gL_103_1_19_20 : (EL sv).1 103 1 19 20 = some (.inl mJ4_size) := rfl
theorem gL_103_3_59_28 : (EL sv).1 103 3 59 28 = some (.inl mJ0_clear) := rfl
theorem gL_103_2_77_0 : (EL sv).1 103 2 77 0 = some (.inl mJ49_init) := rfl
theorem gL_104_2_1_0 : (EL sv).1 104 2 1 0 = some (.inl mJ3_init) := rfl
theorem gL_104_1_50_20 : (EL sv).1 104 1 50 20 = some (.inl mJ4_getEntry) := rfl
theorem gL_104_0_68_0 : (EL sv).1 104 0 68 0 = some (.inl mJ4_successor) := rfl
theorem gL_104_1_76_20 : (EL sv).1 104 1 76 20 = some (.inl mJ4_getLastEntry) := rfl
theorem gL_104_0_95_0 : (EL sv).1 104 0 95 0 = some (.inl mJ18_requireNonNull) := rfl
theorem gL_104_3_107_23 : (EL sv).1 104 3 107 23 = some (.inl mJ25_compareTo) := rfl
theorem gL_104_3_107_24 : (EL sv).1 104 3 107 24 = some (.inl mJ26_compareTo) := rfl
theorem gL_104_3_107_35 : (EL sv).1 104 3 107 35 = some (.inl mJ25_compareTo) := rfl
theorem gL_104_3_107_36 : (EL sv).1 104 3 107 36 = some (.inl mJ26_compareTo) := rfl
theorem gL_104_3_117_1 : (EL sv).1 104 3 117 1 = some (.inl mX2_compare) := rfl
theorem gL_104_3_117_13 : (EL sv).1 104 3 117 13 = some (.inl mX14_compare) := rfl
theorem gL_104_1_123_20 : (EL sv).1 104 1 123 20 = some (.inl mJ4_compare) := rfl
theorem gL_104_1_127_20 : (EL sv).1 104 1 127 20 = some (.inl mJ4_put_2) := rfl
theorem gL_104_1_135_20 : (EL sv).1 104 1 135 20 = some (.inl mJ4_addEntryToEmptyMap) := rfl
theorem gL_104_1_139_20 : (EL sv).1 104 1 139 20 = some (.inl mJ4_addEntry) := rfl
theorem gL_104_2_167_0 : (EL sv).1 104 2 167 0 = some (.inl mJ30_init) := rfl
theorem gL_104_1_170_20 : (EL sv).1 104 1 170 20 = some (.inl mJ4_fixAfterInsertion) := rfl
theorem gL_104_0_200_0 : (EL sv).1 104 0 200 0 = some (.inl mJ4_exportEntry) := rfl
theorem gL_104_1_204_20 : (EL sv).1 104 1 204 20 = some (.inl mJ4_getLowerEntry) := rfl
theorem gL_104_1_210_20 : (EL sv).1 104 1 210 20 = some (.inl mJ4_getFloorEntry) := rfl
theorem gL_104_2_239_0 : (EL sv).1 104 2 239 0 = some (.inl mJ31_init) := rfl
theorem gL_104_2_244_0 : (EL sv).1 104 2 244 0 = some (.inl mJ34_init) := rfl
theorem gL_104_2_252_0 : (EL sv).1 104 2 252 0 = some (.inl mJ48_init) := rfl
theorem gL_104_1_253_20 : (EL sv).1 104 1 253 20 = some (.inl mJ4_subMap_2) := rfl
theorem gL_104_2_284_0 : (EL sv).1 104 2 284 0 = some (.inl mJ50_init) := rfl
theorem gL_104_0_294_0 : (EL sv).1 104 0 294 0 = some (.inl mJ4_parentOf) := rfl
theorem gL_104_0_297_0 : (EL sv).1 104 0 297 0 = some (.inl mJ4_leftOf) := rfl
theorem gL_104_0_300_0 : (EL sv).1 104 0 300 0 = some (.inl mJ4_rightOf) := rfl
theorem gL_104_0_303_0 : (EL sv).1 104 0 303 0 = some (.inl mJ4_colorOf) := rfl
theorem gL_104_0_307_0 : (EL sv).1 104 0 307 0 = some (.inl mJ4_setColor) := rfl
theorem gL_104_1_311_20 : (EL sv).1 104 1 311 20 = some (.inl mJ4_rotateLeft) := rfl
theorem gL_104_1_314_20 : (EL sv).1 104 1 314 20 = some (.inl mJ4_rotateRight) := rfl
theorem gL_104_1_317_20 : (EL sv).1 104 1 317 20 = some (.inl mJ4_fixAfterDeletion) := rfl
theorem gL_105_2_1_0 : (EL sv).1 105 2 1 0 = some (.inl mJ0_init) := rfl
theorem gL_106_2_3_0 : (EL sv).1 106 2 3 0 = some (.inl mJ6_init_2) := rfl
theorem gL_106_2_7_0 : (EL sv).1 106 2 7 0 = some (.inl mJ5_init) := rfl
theorem gL_106_0_80_0 : (EL sv).1 106 0 80 0 = some (.inl mJ11_newLength) := rfl
theorem gL_106_0_86_0 : (EL sv).1 106 0 86 0 = some (.inl mJ13_copyOf) := rfl
theorem gL_106_1_89_21 : (EL sv).1 106 1 89 21 = some (.inl mJ6_offer) := rfl
theorem gL_106_1_96_21 : (EL sv).1 106 1 96 21 = some (.inl mJ6_grow) := rfl
theorem gL_106_1_100_21 : (EL sv).1 106 1 100 21 = some (.inl mJ6_siftUp) := rfl
theorem gL_106_1_111_21 : (EL sv).1 106 1 111 21 = some (.inl mJ6_removeAt) := rfl
theorem gL_106_2_123_0 : (EL sv).1 106 2 123 0 = some (.inl mJ42_init) := rfl
theorem gL_106_0_129_0 : (EL sv).1 106 0 129 0 = some (.inl mJ6_siftDownUsingComparator) := rfl
theorem gL_106_1_133_21 : (EL sv).1 106 1 133 21 = some (.inl mJ6_siftDown) := rfl
theorem gL_106_0_136_0 : (EL sv).1 106 0 136 0 = some (.inl mJ6_siftUpUsingComparator) := rfl
theorem gL_106_3_149_1 : (EL sv).1 106 3 149 1 = some (.inl mX2_compare) := rfl
theorem gL_106_3_149_13 : (EL sv).1 106 3 149 13 = some (.inl mX14_compare) := rfl
theorem gL_111_0_194_0 : (EL sv).1 111 0 194 0 = some (.inl mJ12_max) := rfl
theorem gL_113_1_86_904 : (EL sv).1 113 1 86 904 = some (.inr 3) := rfl
theorem gL_113_0_150_0 : (EL sv).1 113 0 150 0 = some (.inr 2) := rfl
theorem gL_113_0_300_0 : (EL sv).1 113 0 300 0 = some (.inl mJ13_copyOf_2) := rfl
theorem gL_113_0_304_0 : (EL sv).1 113 0 304 0 = some (.inl mJ12_min) := rfl
theorem gL_118_0_105_0 : (EL sv).1 118 0 105 0 = some (.inl mJ19_checkIndex) := rfl
theorem gL_120_2_7_0 : (EL sv).1 120 2 7 0 = some (.inr 1) := rfl
theorem gL_120_1_31_22 : (EL sv).1 120 1 31 22 = some (.inl mJ20_checkForComodification) := rfl
theorem gL_120_1_47_19 : (EL sv).1 120 1 47 19 = some (.inl mJ2_remove) := rfl
theorem gL_124_2_1_0 : (EL sv).1 124 2 1 0 = some (.inr 1) := rfl
theorem gL_125_2_199_0 : (EL sv).1 125 2 199 0 = some (.inl mJ25_init) := rfl
theorem gL_125_2_202_0 : (EL sv).1 125 2 202 0 = some (.inl mJ24_init) := rfl
theorem gL_125_0_259_0 : (EL sv).1 125 0 259 0 = some (.inl mJ25_compare) := rfl
theorem gL_125_1_284_23 : (EL sv).1 125 1 284 23 = some (.inl mJ25_compareTo_2) := rfl
theorem gL_125_1_284_35 : (EL sv).1 125 1 284 35 = some (.inl mJ25_compareTo_2) := rfl
theorem gL_126_2_240_0 : (EL sv).1 126 2 240 0 = some (.inl mJ26_init) := rfl
theorem gL_126_2_270_0 : (EL sv).1 126 2 270 0 = some (.inl mJ24_init) := rfl
theorem gL_126_0_302_0 : (EL sv).1 126 0 302 0 = some (.inl mJ26_compare) := rfl
theorem gL_126_1_343_24 : (EL sv).1 126 1 343 24 = some (.inl mJ26_compareTo_2) := rfl
theorem gL_126_1_343_36 : (EL sv).1 126 1 343 36 = some (.inl mJ26_compareTo_2) := rfl
theorem gL_130_2_3_0 : (EL sv).1 130 2 3 0 = some (.inr 1) := rfl
theorem gL_131_2_7_0 : (EL sv).1 131 2 7 0 = some (.inl mJ0_init) := rfl
theorem gL_131_1_15_20 : (EL sv).1 131 1 15 20 = some (.inl mJ4_getFirstEntry) := rfl
theorem gL_131_2_21_0 : (EL sv).1 131 2 21 0 = some (.inl mJ43_init) := rfl
theorem gL_131_1_24_20 : (EL sv).1 131 1 24 20 = some (.inl mJ4_size) := rfl
theorem gL_132_2_7_0 : (EL sv).1 132 2 7 0 = some (.inr 1) := rfl
theorem gL_132_1_19_32 : (EL sv).1 132 1 19 32 = some (.inl mJ48_entrySet) := rfl
theorem gL_132_3_25_28 : (EL sv).1 132 3 25 28 = some (.inl mJ36_iterator) := rfl
theorem gL_132_3_35_22 : (EL sv).1 132 3 35 22 = some (.inl mJ20_hasNext) := rfl
theorem gL_132_3_35_27 : (EL sv).1 132 3 35 27 = some (.inl mJ32_hasNext) := rfl
theorem gL_132_3_35_29 : (EL sv).1 132 3 35 29 = some (.inl mJ37_hasNext) := rfl
theorem gL_132_3_35_30 : (EL sv).1 132 3 35 30 = some (.inl mJ42_hasNext) := rfl
theorem gL_132_3_35_31 : (EL sv).1 132 3 35 31 = some (.inl mJ39_hasNext) := rfl
theorem gL_132_3_41_22 : (EL sv).1 132 3 41 22 = some (.inl mJ20_next) := rfl
theorem gL_132_3_41_27 : (EL sv).1 132 3 41 27 = some (.inl mJ32_next) := rfl
theorem gL_132_3_41_29 : (EL sv).1 132 3 41 29 = some (.inl mJ38_next) := rfl
theorem gL_132_3_41_30 : (EL sv).1 132 3 41 30 = some (.inl mJ42_next) := rfl
theorem gL_132_3_41_31 : (EL sv).1 132 3 41 31 = some (.inl mJ43_next) := rfl
theorem gL_132_3_47_25 : (EL sv).1 132 3 47 25 = some (.inl mJ30_getValue) := rfl
theorem gL_132_3_47_34 : (EL sv).1 132 3 47 34 = some (.inl mJ50_getValue) := rfl
theorem gL_132_3_50_27 : (EL sv).1 132 3 50 27 = some (.inl mJ32_remove) := rfl
theorem gL_132_3_50_29 : (EL sv).1 132 3 50 29 = some (.inl mJ38_remove) := rfl
theorem gL_132_3_50_30 : (EL sv).1 132 3 50 30 = some (.inl mJ42_remove) := rfl
theorem gL_132_3_50_31 : (EL sv).1 132 3 50 31 = some (.inl mJ39_remove) := rfl
theorem gL_133_2_1_0 : (EL sv).1 133 2 1 0 = some (.inl mJ0_init) := rfl
theorem gL_134_2_7_0 : (EL sv).1 134 2 7 0 = some (.inl mJ33_init) := rfl
theorem gL_134_1_15_20 : (EL sv).1 134 1 15 20 = some (.inl mJ4_getFirstEntry) := rfl
theorem gL_134_2_21_0 : (EL sv).1 134 2 21 0 = some (.inl mJ40_init) := rfl
theorem gL_134_1_48_20 : (EL sv).1 134 1 48 20 = some (.inl mJ4_size) := rfl
theorem gL_134_1_52_20 : (EL sv).1 134 1 52 20 = some (.inl mJ4_clear) := rfl
theorem gL_135_2_7_0 : (EL sv).1 135 2 7 0 = some (.inl mJ33_init) := rfl
theorem gL_135_1_30_20 : (EL sv).1 135 1 30 20 = some (.inl mJ4_size) := rfl
theorem gL_135_3_45_22 : (EL sv).1 135 3 45 22 = some (.inl mJ20_hasNext) := rfl
theorem gL_135_3_45_27 : (EL sv).1 135 3 45 27 = some (.inl mJ32_hasNext) := rfl
theorem gL_135_3_45_29 : (EL sv).1 135 3 45 29 = some (.inl mJ37_hasNext) := rfl
theorem gL_135_3_45_30 : (EL sv).1 135 3 45 30 = some (.inl mJ42_hasNext) := rfl
theorem gL_135_3_45_31 : (EL sv).1 135 3 45 31 = some (.inl mJ39_hasNext) := rfl
theorem gL_135_3_51_22 : (EL sv).1 135 3 51 22 = some (.inl mJ20_next) := rfl
theorem gL_135_3_51_27 : (EL sv).1 135 3 51 27 = some (.inl mJ32_next) := rfl
theorem gL_135_3_51_29 : (EL sv).1 135 3 51 29 = some (.inl mJ38_next) := rfl
theorem gL_135_3_51_30 : (EL sv).1 135 3 51 30 = some (.inl mJ42_next) := rfl
theorem gL_135_3_51_31 : (EL sv).1 135 3 51 31 = some (.inl mJ43_next) := rfl
theorem gL_136_2_7_0 : (EL sv).1 136 2 7 0 = some (.inl mJ35_init) := rfl
theorem gL_136_1_15_32 : (EL sv).1 136 1 15 32 = some (.inl mJ47_absLowest) := rfl
theorem gL_136_1_21_32 : (EL sv).1 136 1 21 32 = some (.inl mJ47_absHighFence) := rfl
theorem gL_136_2_24_0 : (EL sv).1 136 2 24 0 = some (.inl mJ38_init) := rfl
theorem gL_137_2_7_0 : (EL sv).1 137 2 7 0 = some (.inr 1) := rfl
theorem gL_137_0_53_0 : (EL sv).1 137 0 53 0 = some (.inl mJ4_successor) := rfl
theorem gL_137_1_69_20 : (EL sv).1 137 1 69 20 = some (.inl mJ4_deleteEntry) := rfl
theorem gL_138_2_1_0 : (EL sv).1 138 2 1 0 = some (.inl mJ37_init) := rfl
theorem gL_138_1_7_29 : (EL sv).1 138 1 7 29 = some (.inl mJ37_nextEntry) := rfl
theorem gL_138_1_13_29 : (EL sv).1 138 1 13 29 = some (.inl mJ37_removeAscending) := rfl
theorem gL_138_1_17_29 : (EL sv).1 138 1 17 29 = some (.inl mJ38_next_2) := rfl
theorem gL_139_2_7_0 : (EL sv).1 139 2 7 0 = some (.inr 1) := rfl
theorem gL_139_0_35_0 : (EL sv).1 139 0 35 0 = some (.inl mJ4_successor) := rfl
theorem gL_139_1_53_20 : (EL sv).1 139 1 53 20 = some (.inl mJ4_deleteEntry) := rfl
theorem gL_140_2_1_0 : (EL sv).1 140 2 1 0 = some (.inl mJ39_init) := rfl
theorem gL_142_2_7_0 : (EL sv).1 142 2 7 0 = some (.inr 1) := rfl
theorem gL_142_1_59_21 : (EL sv).1 142 1 59 21 = some (.inl mJ6_removeAt) := rfl
theorem gL_142_1_68_21 : (EL sv).1 142 1 68 21 = some (.inl mJ6_removeEq) := rfl
theorem gL_143_2_1_0 : (EL sv).1 143 2 1 0 = some (.inl mJ39_init) := rfl
theorem gL_143_1_7_31 : (EL sv).1 143 1 7 31 = some (.inl mJ39_nextEntry) := rfl
theorem gL_144_2_1_0 : (EL sv).1 144 2 1 0 = some (.inr 1) := rfl
theorem gL_147_2_1_0 : (EL sv).1 147 2 1 0 = some (.inl mJ3_init) := rfl
theorem gL_147_1_7_20 : (EL sv).1 147 1 7 20 = some (.inl mJ4_compare) := rfl
theorem gL_147_1_46_32 : (EL sv).1 147 1 46 32 = some (.inl mJ47_tooLow) := rfl
theorem gL_147_1_50_32 : (EL sv).1 147 1 50 32 = some (.inl mJ47_tooHigh) := rfl
theorem gL_147_1_53_32 : (EL sv).1 147 1 53 32 = some (.inl mJ47_inRange) := rfl
theorem gL_147_1_59_20 : (EL sv).1 147 1 59 20 = some (.inl mJ4_getFirstEntry) := rfl
theorem gL_147_1_63_20 : (EL sv).1 147 1 63 20 = some (.inl mJ4_getCeilingEntry) := rfl
theorem gL_147_1_67_20 : (EL sv).1 147 1 67 20 = some (.inl mJ4_getHigherEntry) := rfl
theorem gL_147_1_101_20 : (EL sv).1 147 1 101 20 = some (.inl mJ4_size) := rfl
theorem gL_147_3_105_28 : (EL sv).1 147 3 105 28 = some (.inl mJ35_size) := rfl
theorem gL_147_1_106_20 : (EL sv).1 147 1 106 20 = some (.inl mJ4_containsKey) := rfl
theorem gL_147_1_143_20 : (EL sv).1 147 1 143 20 = some (.inl mJ4_get) := rfl
theorem gL_148_2_1_0 : (EL sv).1 148 2 1 0 = some (.inl mJ47_init) := rfl
theorem gL_148_2_87_0 : (EL sv).1 148 2 87 0 = some (.inl mJ36_init) := rfl
theorem gL_149_2_7_0 : (EL sv).1 149 2 7 0 = some (.inl mJ0_init) := rfl
theorem gL_149_2_15_0 : (EL sv).1 149 2 15 0 = some (.inl mJ32_init) := rfl
theorem gL_150_2_1_0 : (EL sv).1 150 2 1 0 = some (.inr 1) := rfl
theorem gL_150_3_16_25 : (EL sv).1 150 3 16 25 = some (.inl mJ30_getKey) := rfl
theorem gL_150_3_16_34 : (EL sv).1 150 3 16 34 = some (.inl mJ50_getKey) := rfl
theorem gL_150_3_22_25 : (EL sv).1 150 3 22 25 = some (.inl mJ30_getValue) := rfl
theorem gL_150_3_22_34 : (EL sv).1 150 3 22 34 = some (.inl mJ50_getValue) := rfl
theorem gL_153_3_1_20 : (EL sv).1 153 3 1 20 = some (.inl mJ4_get) := rfl
theorem gL_153_3_1_32 : (EL sv).1 153 3 1 32 = some (.inl mJ47_get) := rfl
theorem gL_153_3_7_20 : (EL sv).1 153 3 7 20 = some (.inl mJ4_containsKey) := rfl
theorem gL_153_3_7_32 : (EL sv).1 153 3 7 32 = some (.inl mJ47_containsKey) := rfl
end
section
variable {sv : Nat → Value} {h : Hp} {r d : Nat} {K : Post}
theorem Run_ua {E : Evn} (hE : PMon E) {N : MD} {as L : List Value} (hH : N.2.2.2.2.2 = []) (h1 : (entL as).length ≤ N.2.2.2.1) (h2 : ent N.2.2.2.1 as = L) : Run E (Wa E) (.inl N) as h r (d + 1) K = Wa E N 0 L [] h r d K := by
  rw [Run_eqa hE hH, h2]
  exact propext ⟨fun z => z.2, fun z => ⟨h1, z⟩⟩
theorem entL_c {v : Value} {vs : List Value} (hv : cat2 v = false) : entL (v :: vs) = v :: entL vs := by
  show (if cat2 v = true then _ else _) = _
  rw [hv]
  exact if_neg (by decide)
theorem entL_n : entL [] = [] := rfl
theorem entL_i {x : Int32} {vs : List Value} : entL (.int x :: vs) = .int x :: entL vs := rfl
theorem entL_r {x : Nat} {vs : List Value} : entL (.ref x :: vs) = .ref x :: entL vs := rfl
theorem entL_2 {X : Int64} {vs : List Value} : entL (.long X :: vs) = .long X :: uV :: entL vs := rfl
theorem u_J12_max {x0 : Int32} {x1 : Int32}  : Run (EH sv) (Wa (EH sv)) (.inl mJ12_max) [.int x0, .int x1] h r (d + 1) K = Wa (EH sv) mJ12_max 0 [.int x0, .int x1] [] h r d K := Run_ua (hEH sv) rfl (Nat.le_of_ble_eq_true rfl) rfl
theorem u_J12_min {x0 : Int32} {x1 : Int32}  : Run (EH sv) (Wa (EH sv)) (.inl mJ12_min) [.int x0, .int x1] h r (d + 1) K = Wa (EH sv) mJ12_min 0 [.int x0, .int x1] [] h r d K := Run_ua (hEH sv) rfl (Nat.le_of_ble_eq_true rfl) rfl
theorem u_J12_max_2 {x0 : Int64} {x1 : Int64}  : Run (EH sv) (Wa (EH sv)) (.inl mJ12_max_2) [.long x0, .long x1] h r (d + 1) K = Wa (EH sv) mJ12_max_2 0 [.long x0, uV, .long x1, uV] [] h r d K := Run_ua (hEH sv) rfl (Nat.le_of_ble_eq_true rfl) rfl
theorem u_J12_abs {x0 : Int32}  : Run (EH sv) (Wa (EH sv)) (.inl mJ12_abs) [.int x0] h r (d + 1) K = Wa (EH sv) mJ12_abs 0 [.int x0] [] h r d K := Run_ua (hEH sv) rfl (Nat.le_of_ble_eq_true rfl) rfl
theorem u_J12_min_2 {x0 : Int64} {x1 : Int64}  : Run (EH sv) (Wa (EH sv)) (.inl mJ12_min_2) [.long x0, .long x1] h r (d + 1) K = Wa (EH sv) mJ12_min_2 0 [.long x0, uV, .long x1, uV] [] h r d K := Run_ua (hEH sv) rfl (Nat.le_of_ble_eq_true rfl) rfl
theorem u_J12_abs_2 {x0 : Int64}  : Run (EH sv) (Wa (EH sv)) (.inl mJ12_abs_2) [.long x0] h r (d + 1) K = Wa (EH sv) mJ12_abs_2 0 [.long x0, uV] [] h r d K := Run_ua (hEH sv) rfl (Nat.le_of_ble_eq_true rfl) rfl
theorem u_J44_init {a : Nat}   : Run (EH sv) (Wa (EH sv)) (.inl mJ44_init) [.ref a] h r (d + 1) K = Wa (EH sv) mJ44_init 0 [.ref a] [] h r d K := Run_ua (hEH sv) rfl (Nat.le_of_ble_eq_true rfl) rfl
theorem u_X1_init {a : Nat}   : Run (EH sv) (Wa (EH sv)) (.inl mX1_init) [.ref a] h r (d + 1) K = Wa (EH sv) mX1_init 0 [.ref a] [] h r d K := Run_ua (hEH sv) rfl (Nat.le_of_ble_eq_true rfl) rfl
theorem u_X1_volume {a : Nat}   : Run (EH sv) (Wa (EH sv)) (.inl mX1_volume) [.ref a] h r (d + 1) K = Wa (EH sv) mX1_volume 0 [.ref a] [] h r d K := Run_ua (hEH sv) rfl (Nat.le_of_ble_eq_true rfl) rfl
theorem u_X1_reserve {a : Nat}   : Run (EH sv) (Wa (EH sv)) (.inl mX1_reserve) [.ref a] h r (d + 1) K = Wa (EH sv) mX1_reserve 0 [.ref a] [] h r d K := Run_ua (hEH sv) rfl (Nat.le_of_ble_eq_true rfl) rfl
theorem u_X1_circulation {a : Nat}   : Run (EH sv) (Wa (EH sv)) (.inl mX1_circulation) [.ref a] h r (d + 1) K = Wa (EH sv) mX1_circulation 0 [.ref a, uV, uV, uV] [] h r d K := Run_ua (hEH sv) rfl (Nat.le_of_ble_eq_true rfl) rfl
theorem u_X1_made {a : Nat}   : Run (EH sv) (Wa (EH sv)) (.inl mX1_made) [.ref a] h r (d + 1) K = Wa (EH sv) mX1_made 0 [.ref a] [] h r d K := Run_ua (hEH sv) rfl (Nat.le_of_ble_eq_true rfl) rfl
theorem u_X1_blocks {a : Nat}   : Run (EH sv) (Wa (EH sv)) (.inl mX1_blocks) [.ref a] h r (d + 1) K = Wa (EH sv) mX1_blocks 0 [.ref a, uV, uV, uV, uV, uV] [] h r d K := Run_ua (hEH sv) rfl (Nat.le_of_ble_eq_true rfl) rfl
theorem u_X1_cancelled {a : Nat}   : Run (EH sv) (Wa (EH sv)) (.inl mX1_cancelled) [.ref a] h r (d + 1) K = Wa (EH sv) mX1_cancelled 0 [.ref a] [] h r d K := Run_ua (hEH sv) rfl (Nat.le_of_ble_eq_true rfl) rfl
theorem u_X1_entries {a : Nat}   : Run (EH sv) (Wa (EH sv)) (.inl mX1_entries) [.ref a] h r (d + 1) K = Wa (EH sv) mX1_entries 0 [.ref a] [] h r d K := Run_ua (hEH sv) rfl (Nat.le_of_ble_eq_true rfl) rfl
theorem u_X1_day {a : Nat}   : Run (EH sv) (Wa (EH sv)) (.inl mX1_day) [.ref a] h r (d + 1) K = Wa (EH sv) mX1_day 0 [.ref a] [] h r d K := Run_ua (hEH sv) rfl (Nat.le_of_ble_eq_true rfl) rfl
theorem u_X1_isSound {a : Nat}   : Run (EH sv) (Wa (EH sv)) (.inl mX1_isSound) [.ref a] h r (d + 1) K = Wa (EH sv) mX1_isSound 0 [.ref a, uV, uV, uV, uV, uV, uV, uV] [] h r d K := Run_ua (hEH sv) rfl (Nat.le_of_ble_eq_true rfl) rfl
theorem u_X1_byJournal {a : Nat}   : Run (EH sv) (Wa (EH sv)) (.inl mX1_byJournal) [.ref a] h r (d + 1) K = Wa (EH sv) mX1_byJournal 0 [.ref a, uV, uV, uV] [] h r d K := Run_ua (hEH sv) rfl (Nat.le_of_ble_eq_true rfl) rfl
theorem u_X1_cut {v0 : Value} {x1 : Int32} (h0 : cat2 v0 = false) : Run (EH sv) (Wa (EH sv)) (.inl mX1_cut) [v0, .int x1] h r (d + 1) K = Wa (EH sv) mX1_cut 0 [v0, .int x1, uV] [] h r d K := Run_ua (hEH sv) rfl (by simp [entL_i, entL_r, entL_c, entL_2, entL_n, h0, mX1_cut]) (by simp [ent, entL_i, entL_r, entL_c, entL_2, entL_n, h0, mX1_cut, List.replicate])
theorem u_X1_addAccount {a : Nat} {x0 : Int32}  : Run (EH sv) (Wa (EH sv)) (.inl mX1_addAccount) [.ref a, .int x0] h r (d + 1) K = Wa (EH sv) mX1_addAccount 0 [.ref a, .int x0] [] h r d K := Run_ua (hEH sv) rfl (Nat.le_of_ble_eq_true rfl) rfl
theorem u_X1_isBetween {x0 : Int32} {x1 : Int32} {x2 : Int32}  : Run (EH sv) (Wa (EH sv)) (.inl mX1_isBetween) [.int x0, .int x1, .int x2] h r (d + 1) K = Wa (EH sv) mX1_isBetween 0 [.int x0, .int x1, .int x2] [] h r d K := Run_ua (hEH sv) rfl (Nat.le_of_ble_eq_true rfl) rfl
theorem u_X1_checkArgument {x0 : Int32}  : Run (EH sv) (Wa (EH sv)) (.inl mX1_checkArgument) [.int x0] h r (d + 1) K = Wa (EH sv) mX1_checkArgument 0 [.int x0] [] h r d K := Run_ua (hEH sv) rfl (Nat.le_of_ble_eq_true rfl) rfl
theorem u_X1_checkState {x0 : Int32}  : Run (EH sv) (Wa (EH sv)) (.inl mX1_checkState) [.int x0] h r (d + 1) K = Wa (EH sv) mX1_checkState 0 [.int x0] [] h r d K := Run_ua (hEH sv) rfl (Nat.le_of_ble_eq_true rfl) rfl
theorem u_X1_makePlant {a : Nat} {x0 : Int32} {x1 : Int32} {x2 : Int32}  : Run (EH sv) (Wa (EH sv)) (.inl mX1_makePlant) [.ref a, .int x0, .int x1, .int x2] h r (d + 1) K = Wa (EH sv) mX1_makePlant 0 [.ref a, .int x0, .int x1, .int x2, uV, uV, uV, uV] [] h r d K := Run_ua (hEH sv) rfl (Nat.le_of_ble_eq_true rfl) rfl
theorem u_X1_accountFrom {a : Nat} {x0 : Int32} {x1 : Int32}  : Run (EH sv) (Wa (EH sv)) (.inl mX1_accountFrom) [.ref a, .int x0, .int x1] h r (d + 1) K = Wa (EH sv) mX1_accountFrom 0 [.ref a, .int x0, .int x1] [] h r d K := Run_ua (hEH sv) rfl (Nat.le_of_ble_eq_true rfl) rfl
theorem u_X1_checkIndex {x0 : Int32}  : Run (EH sv) (Wa (EH sv)) (.inl mX1_checkIndex) [.int x0] h r (d + 1) K = Wa (EH sv) mX1_checkIndex 0 [.int x0] [] h r d K := Run_ua (hEH sv) rfl (Nat.le_of_ble_eq_true rfl) rfl
theorem u_X1_report {a : Nat} {x0 : Int32} {x1 : Int32} {x2 : Int32}  : Run (EH sv) (Wa (EH sv)) (.inl mX1_report) [.ref a, .int x0, .int x1, .int x2] h r (d + 1) K = Wa (EH sv) mX1_report 0 [.ref a, .int x0, .int x1, .int x2, uV, uV, uV] [] h r d K := Run_ua (hEH sv) rfl (Nat.le_of_ble_eq_true rfl) rfl
theorem u_X1_checkPossible {x0 : Int32}  : Run (EH sv) (Wa (EH sv)) (.inl mX1_checkPossible) [.int x0] h r (d + 1) K = Wa (EH sv) mX1_checkPossible 0 [.int x0] [] h r d K := Run_ua (hEH sv) rfl (Nat.le_of_ble_eq_true rfl) rfl
theorem u_X1_tellActivity {a : Nat} {x0 : Int32} {x1 : Int32}  : Run (EH sv) (Wa (EH sv)) (.inl mX1_tellActivity) [.ref a, .int x0, .int x1] h r (d + 1) K = Wa (EH sv) mX1_tellActivity 0 [.ref a, .int x0, .int x1, uV, uV] [] h r d K := Run_ua (hEH sv) rfl (Nat.le_of_ble_eq_true rfl) rfl
theorem u_X1_year {a : Nat}   : Run (EH sv) (Wa (EH sv)) (.inl mX1_year) [.ref a] h r (d + 1) K = Wa (EH sv) mX1_year 0 [.ref a] [] h r d K := Run_ua (hEH sv) rfl (Nat.le_of_ble_eq_true rfl) rfl
theorem u_X1_emissionOf {a : Nat} {x0 : Int32} {x1 : Int32}  : Run (EH sv) (Wa (EH sv)) (.inl mX1_emissionOf) [.ref a, .int x0, .int x1] h r (d + 1) K = Wa (EH sv) mX1_emissionOf 0 [.ref a, .int x0, .int x1, uV] [] h r d K := Run_ua (hEH sv) rfl (Nat.le_of_ble_eq_true rfl) rfl
theorem u_X1_checkElement {x0 : Int32}  : Run (EH sv) (Wa (EH sv)) (.inl mX1_checkElement) [.int x0] h r (d + 1) K = Wa (EH sv) mX1_checkElement 0 [.int x0] [] h r d K := Run_ua (hEH sv) rfl (Nat.le_of_ble_eq_true rfl) rfl
theorem u_X1_owed {a : Nat} {x0 : Int32} {x1 : Int32}  : Run (EH sv) (Wa (EH sv)) (.inl mX1_owed) [.ref a, .int x0, .int x1] h r (d + 1) K = Wa (EH sv) mX1_owed 0 [.ref a, .int x0, .int x1, uV] [] h r d K := Run_ua (hEH sv) rfl (Nat.le_of_ble_eq_true rfl) rfl
theorem u_X1_hasEnded {a : Nat} {x0 : Int32}  : Run (EH sv) (Wa (EH sv)) (.inl mX1_hasEnded) [.ref a, .int x0] h r (d + 1) K = Wa (EH sv) mX1_hasEnded 0 [.ref a, .int x0] [] h r d K := Run_ua (hEH sv) rfl (Nat.le_of_ble_eq_true rfl) rfl
theorem u_X1_freeShare {a : Nat} {x0 : Int32}  : Run (EH sv) (Wa (EH sv)) (.inl mX1_freeShare) [.ref a, .int x0] h r (d + 1) K = Wa (EH sv) mX1_freeShare 0 [.ref a, .int x0] [] h r d K := Run_ua (hEH sv) rfl (Nat.le_of_ble_eq_true rfl) rfl
theorem u_X1_cash {a : Nat} {x0 : Int32}  : Run (EH sv) (Wa (EH sv)) (.inl mX1_cash) [.ref a, .int x0] h r (d + 1) K = Wa (EH sv) mX1_cash 0 [.ref a, .int x0] [] h r d K := Run_ua (hEH sv) rfl (Nat.le_of_ble_eq_true rfl) rfl
theorem u_X1_setCap {a : Nat} {x0 : Int32} {x1 : Int32}  : Run (EH sv) (Wa (EH sv)) (.inl mX1_setCap) [.ref a, .int x0, .int x1] h r (d + 1) K = Wa (EH sv) mX1_setCap 0 [.ref a, .int x0, .int x1, uV] [] h r d K := Run_ua (hEH sv) rfl (Nat.le_of_ble_eq_true rfl) rfl
theorem u_X1_begin {a : Nat}   : Run (EH sv) (Wa (EH sv)) (.inl mX1_begin) [.ref a] h r (d + 1) K = Wa (EH sv) mX1_begin 0 [.ref a, uV, uV, uV, uV, uV, uV, uV, uV, uV, uV] [] h r d K := Run_ua (hEH sv) rfl (Nat.le_of_ble_eq_true rfl) rfl
theorem u_X1_cap {a : Nat}   : Run (EH sv) (Wa (EH sv)) (.inl mX1_cap) [.ref a] h r (d + 1) K = Wa (EH sv) mX1_cap 0 [.ref a] [] h r d K := Run_ua (hEH sv) rfl (Nat.le_of_ble_eq_true rfl) rfl
theorem u_X1_make {a : Nat} {x0 : Int32} {x1 : Int32} {x2 : Int32} {x3 : Int32}  : Run (EH sv) (Wa (EH sv)) (.inl mX1_make) [.ref a, .int x0, .int x1, .int x2, .int x3] h r (d + 1) K = Wa (EH sv) mX1_make 0 [.ref a, .int x0, .int x1, .int x2, .int x3] [] h r d K := Run_ua (hEH sv) rfl (Nat.le_of_ble_eq_true rfl) rfl
theorem u_X1_setBounds {a : Nat} {x0 : Int32} {x1 : Int32} {x2 : Int32}  : Run (EH sv) (Wa (EH sv)) (.inl mX1_setBounds) [.ref a, .int x0, .int x1, .int x2] h r (d + 1) K = Wa (EH sv) mX1_setBounds 0 [.ref a, .int x0, .int x1, .int x2] [] h r d K := Run_ua (hEH sv) rfl (Nat.le_of_ble_eq_true rfl) rfl
theorem u_X1_bid {a : Nat} {x0 : Int32} {x1 : Int32} {x2 : Int32}  : Run (EH sv) (Wa (EH sv)) (.inl mX1_bid) [.ref a, .int x0, .int x1, .int x2] h r (d + 1) K = Wa (EH sv) mX1_bid 0 [.ref a, .int x0, .int x1, .int x2, uV, uV, uV, uV, uV] [] h r d K := Run_ua (hEH sv) rfl (Nat.le_of_ble_eq_true rfl) rfl
theorem u_X1_auction {a : Nat} {x0 : Int32} {x1 : Int32}  : Run (EH sv) (Wa (EH sv)) (.inl mX1_auction) [.ref a, .int x0, .int x1] h r (d + 1) K = Wa (EH sv) mX1_auction 0 [.ref a, .int x0, .int x1, uV, uV, uV, uV, uV, uV, uV] [] h r d K := Run_ua (hEH sv) rfl (Nat.le_of_ble_eq_true rfl) rfl
theorem u_X1_price {a : Nat}   : Run (EH sv) (Wa (EH sv)) (.inl mX1_price) [.ref a] h r (d + 1) K = Wa (EH sv) mX1_price 0 [.ref a] [] h r d K := Run_ua (hEH sv) rfl (Nat.le_of_ble_eq_true rfl) rfl
theorem u_X1_transfer {a : Nat} {x0 : Int32} {x1 : Int32} {x2 : Int32} {x3 : Int32}  : Run (EH sv) (Wa (EH sv)) (.inl mX1_transfer) [.ref a, .int x0, .int x1, .int x2, .int x3] h r (d + 1) K = Wa (EH sv) mX1_transfer 0 [.ref a, .int x0, .int x1, .int x2, .int x3, uV, uV, uV] [] h r d K := Run_ua (hEH sv) rfl (Nat.le_of_ble_eq_true rfl) rfl
theorem u_X1_isKind {x0 : Int32}  : Run (EH sv) (Wa (EH sv)) (.inl mX1_isKind) [.int x0] h r (d + 1) K = Wa (EH sv) mX1_isKind 0 [.int x0] [] h r d K := Run_ua (hEH sv) rfl (Nat.le_of_ble_eq_true rfl) rfl
theorem u_X1_usableOf {a : Nat} {x0 : Int32} {x1 : Int32}  : Run (EH sv) (Wa (EH sv)) (.inl mX1_usableOf) [.ref a, .int x0, .int x1] h r (d + 1) K = Wa (EH sv) mX1_usableOf 0 [.ref a, .int x0, .int x1, uV, uV, uV] [] h r d K := Run_ua (hEH sv) rfl (Nat.le_of_ble_eq_true rfl) rfl
theorem u_X1_move {a : Nat} {v0 : Value} (h0 : cat2 v0 = false) : Run (EH sv) (Wa (EH sv)) (.inl mX1_move) [.ref a, v0] h r (d + 1) K = Wa (EH sv) mX1_move 0 [.ref a, v0, uV, uV, uV, uV] [] h r d K := Run_ua (hEH sv) rfl (by simp [entL_i, entL_r, entL_c, entL_2, entL_n, h0, mX1_move]) (by simp [ent, entL_i, entL_r, entL_c, entL_2, entL_n, h0, mX1_move, List.replicate])
theorem u_X1_taken {a : Nat} {x0 : Int32} {x1 : Int32} {x2 : Int32} {v3 : Value} (h3 : cat2 v3 = false) : Run (EH sv) (Wa (EH sv)) (.inl mX1_taken) [.ref a, .int x0, .int x1, .int x2, v3] h r (d + 1) K = Wa (EH sv) mX1_taken 0 [.ref a, .int x0, .int x1, .int x2, v3, uV, uV, uV, uV, uV, uV] [] h r d K := Run_ua (hEH sv) rfl (by simp [entL_i, entL_r, entL_c, entL_2, entL_n, h3, mX1_taken]) (by simp [ent, entL_i, entL_r, entL_c, entL_2, entL_n, h3, mX1_taken, List.replicate])
theorem u_X1_write {a : Nat} {v0 : Value} {x1 : Int32} (h0 : cat2 v0 = false) : Run (EH sv) (Wa (EH sv)) (.inl mX1_write) [.ref a, v0, .int x1] h r (d + 1) K = Wa (EH sv) mX1_write 0 [.ref a, v0, .int x1, uV, uV, uV] [] h r d K := Run_ua (hEH sv) rfl (by simp [entL_i, entL_r, entL_c, entL_2, entL_n, h0, mX1_write]) (by simp [ent, entL_i, entL_r, entL_c, entL_2, entL_n, h0, mX1_write, List.replicate])
theorem u_X1_confirm {a : Nat} {x0 : Int32}  : Run (EH sv) (Wa (EH sv)) (.inl mX1_confirm) [.ref a, .int x0] h r (d + 1) K = Wa (EH sv) mX1_confirm 0 [.ref a, .int x0, uV] [] h r d K := Run_ua (hEH sv) rfl (Nat.le_of_ble_eq_true rfl) rfl
theorem u_X1_transferWith {a : Nat} {x0 : Int32}  : Run (EH sv) (Wa (EH sv)) (.inl mX1_transferWith) [.ref a, .int x0] h r (d + 1) K = Wa (EH sv) mX1_transferWith 0 [.ref a, .int x0] [] h r d K := Run_ua (hEH sv) rfl (Nat.le_of_ble_eq_true rfl) rfl
theorem u_X1_trust {a : Nat} {x0 : Int32} {x1 : Int32}  : Run (EH sv) (Wa (EH sv)) (.inl mX1_trust) [.ref a, .int x0, .int x1] h r (d + 1) K = Wa (EH sv) mX1_trust 0 [.ref a, .int x0, .int x1, uV, uV] [] h r d K := Run_ua (hEH sv) rfl (Nat.le_of_ble_eq_true rfl) rfl
theorem u_X1_freeze {a : Nat} {x0 : Int32}  : Run (EH sv) (Wa (EH sv)) (.inl mX1_freeze) [.ref a, .int x0] h r (d + 1) K = Wa (EH sv) mX1_freeze 0 [.ref a, .int x0, uV, uV, uV, uV, uV, uV] [] h r d K := Run_ua (hEH sv) rfl (Nat.le_of_ble_eq_true rfl) rfl
theorem u_X1_piecesOf {a : Nat} {v0 : Value} (h0 : cat2 v0 = false) : Run (EH sv) (Wa (EH sv)) (.inl mX1_piecesOf) [.ref a, v0] h r (d + 1) K = Wa (EH sv) mX1_piecesOf 0 [.ref a, v0] [] h r d K := Run_ua (hEH sv) rfl (by simp [entL_i, entL_r, entL_c, entL_2, entL_n, h0, mX1_piecesOf]) (by simp [ent, entL_i, entL_r, entL_c, entL_2, entL_n, h0, mX1_piecesOf, List.replicate])
theorem u_X1_release {a : Nat} {x0 : Int32}  : Run (EH sv) (Wa (EH sv)) (.inl mX1_release) [.ref a, .int x0] h r (d + 1) K = Wa (EH sv) mX1_release 0 [.ref a, .int x0, uV, uV, uV, uV, uV, uV] [] h r d K := Run_ua (hEH sv) rfl (Nat.le_of_ble_eq_true rfl) rfl
theorem u_X1_stateOf {a : Nat} {x0 : Int32}  : Run (EH sv) (Wa (EH sv)) (.inl mX1_stateOf) [.ref a, .int x0] h r (d + 1) K = Wa (EH sv) mX1_stateOf 0 [.ref a, .int x0] [] h r d K := Run_ua (hEH sv) rfl (Nat.le_of_ble_eq_true rfl) rfl
theorem u_X1_units {a : Nat} {x0 : Int32} {x1 : Int32}  : Run (EH sv) (Wa (EH sv)) (.inl mX1_units) [.ref a, .int x0, .int x1] h r (d + 1) K = Wa (EH sv) mX1_units 0 [.ref a, .int x0, .int x1, uV, uV, uV] [] h r d K := Run_ua (hEH sv) rfl (Nat.le_of_ble_eq_true rfl) rfl
theorem u_X1_usable {a : Nat} {x0 : Int32} {x1 : Int32}  : Run (EH sv) (Wa (EH sv)) (.inl mX1_usable) [.ref a, .int x0, .int x1] h r (d + 1) K = Wa (EH sv) mX1_usable 0 [.ref a, .int x0, .int x1] [] h r d K := Run_ua (hEH sv) rfl (Nat.le_of_ble_eq_true rfl) rfl
theorem u_X1_holderOf {a : Nat} {x0 : Int32}  : Run (EH sv) (Wa (EH sv)) (.inl mX1_holderOf) [.ref a, .int x0] h r (d + 1) K = Wa (EH sv) mX1_holderOf 0 [.ref a, .int x0] [] h r d K := Run_ua (hEH sv) rfl (Nat.le_of_ble_eq_true rfl) rfl
theorem u_X1_pieceWith {a : Nat} {x0 : Int32}  : Run (EH sv) (Wa (EH sv)) (.inl mX1_pieceWith) [.ref a, .int x0] h r (d + 1) K = Wa (EH sv) mX1_pieceWith 0 [.ref a, .int x0] [] h r d K := Run_ua (hEH sv) rfl (Nat.le_of_ble_eq_true rfl) rfl
theorem u_X1_vintageOf {a : Nat} {x0 : Int32}  : Run (EH sv) (Wa (EH sv)) (.inl mX1_vintageOf) [.ref a, .int x0] h r (d + 1) K = Wa (EH sv) mX1_vintageOf 0 [.ref a, .int x0] [] h r d K := Run_ua (hEH sv) rfl (Nat.le_of_ble_eq_true rfl) rfl
theorem u_X1_isFrozen {a : Nat} {x0 : Int32}  : Run (EH sv) (Wa (EH sv)) (.inl mX1_isFrozen) [.ref a, .int x0] h r (d + 1) K = Wa (EH sv) mX1_isFrozen 0 [.ref a, .int x0] [] h r d K := Run_ua (hEH sv) rfl (Nat.le_of_ble_eq_true rfl) rfl
theorem u_X1_surrender {a : Nat} {x0 : Int32} {x1 : Int32} {x2 : Int32} {x3 : Int32}  : Run (EH sv) (Wa (EH sv)) (.inl mX1_surrender) [.ref a, .int x0, .int x1, .int x2, .int x3] h r (d + 1) K = Wa (EH sv) mX1_surrender 0 [.ref a, .int x0, .int x1, .int x2, .int x3, uV, uV, uV] [] h r d K := Run_ua (hEH sv) rfl (Nat.le_of_ble_eq_true rfl) rfl
theorem u_X1_surrendered {a : Nat} {x0 : Int32}  : Run (EH sv) (Wa (EH sv)) (.inl mX1_surrendered) [.ref a, .int x0] h r (d + 1) K = Wa (EH sv) mX1_surrendered 0 [.ref a, .int x0] [] h r d K := Run_ua (hEH sv) rfl (Nat.le_of_ble_eq_true rfl) rfl
theorem u_X1_addProject {a : Nat} {x0 : Int32} {x1 : Int32} {x2 : Int32} {x3 : Int32} {x4 : Int32}  : Run (EH sv) (Wa (EH sv)) (.inl mX1_addProject) [.ref a, .int x0, .int x1, .int x2, .int x3, .int x4] h r (d + 1) K = Wa (EH sv) mX1_addProject 0 [.ref a, .int x0, .int x1, .int x2, .int x3, .int x4, uV] [] h r d K := Run_ua (hEH sv) rfl (Nat.le_of_ble_eq_true rfl) rfl
theorem u_X1_verify {a : Nat} {x0 : Int32} {x1 : Int32}  : Run (EH sv) (Wa (EH sv)) (.inl mX1_verify) [.ref a, .int x0, .int x1] h r (d + 1) K = Wa (EH sv) mX1_verify 0 [.ref a, .int x0, .int x1, uV, uV, uV] [] h r d K := Run_ua (hEH sv) rfl (Nat.le_of_ble_eq_true rfl) rfl
theorem u_X1_projectWith {a : Nat} {x0 : Int32}  : Run (EH sv) (Wa (EH sv)) (.inl mX1_projectWith) [.ref a, .int x0] h r (d + 1) K = Wa (EH sv) mX1_projectWith 0 [.ref a, .int x0] [] h r d K := Run_ua (hEH sv) rfl (Nat.le_of_ble_eq_true rfl) rfl
theorem u_X1_up {x0 : Int64} {x1 : Int64}  : Run (EH sv) (Wa (EH sv)) (.inl mX1_up) [.long x0, .long x1] h r (d + 1) K = Wa (EH sv) mX1_up 0 [.long x0, uV, .long x1, uV] [] h r d K := Run_ua (hEH sv) rfl (Nat.le_of_ble_eq_true rfl) rfl
theorem u_X1_reverse {a : Nat} {x0 : Int32} {x1 : Int32}  : Run (EH sv) (Wa (EH sv)) (.inl mX1_reverse) [.ref a, .int x0, .int x1] h r (d + 1) K = Wa (EH sv) mX1_reverse 0 [.ref a, .int x0, .int x1, uV, uV] [] h r d K := Run_ua (hEH sv) rfl (Nat.le_of_ble_eq_true rfl) rfl
theorem u_X1_addGood {a : Nat} {x0 : Int32} {x1 : Int32} {x2 : Int32}  : Run (EH sv) (Wa (EH sv)) (.inl mX1_addGood) [.ref a, .int x0, .int x1, .int x2] h r (d + 1) K = Wa (EH sv) mX1_addGood 0 [.ref a, .int x0, .int x1, .int x2] [] h r d K := Run_ua (hEH sv) rfl (Nat.le_of_ble_eq_true rfl) rfl
theorem u_X1_embedded {a : Nat} {x0 : Int32}  : Run (EH sv) (Wa (EH sv)) (.inl mX1_embedded) [.ref a, .int x0] h r (d + 1) K = Wa (EH sv) mX1_embedded 0 [.ref a, .int x0] [] h r d K := Run_ua (hEH sv) rfl (Nat.le_of_ble_eq_true rfl) rfl
theorem u_X1_importGood {a : Nat} {x0 : Int32} {x1 : Int32} {x2 : Int32} {x3 : Int32}  : Run (EH sv) (Wa (EH sv)) (.inl mX1_importGood) [.ref a, .int x0, .int x1, .int x2, .int x3] h r (d + 1) K = Wa (EH sv) mX1_importGood 0 [.ref a, .int x0, .int x1, .int x2, .int x3, uV, uV, uV] [] h r d K := Run_ua (hEH sv) rfl (Nat.le_of_ble_eq_true rfl) rfl
theorem u_X1_advance {a : Nat} {x0 : Int32}  : Run (EH sv) (Wa (EH sv)) (.inl mX1_advance) [.ref a, .int x0] h r (d + 1) K = Wa (EH sv) mX1_advance 0 [.ref a, .int x0, uV] [] h r d K := Run_ua (hEH sv) rfl (Nat.le_of_ble_eq_true rfl) rfl
theorem u_X1_end {a : Nat} {x0 : Int32}  : Run (EH sv) (Wa (EH sv)) (.inl mX1_end) [.ref a, .int x0] h r (d + 1) K = Wa (EH sv) mX1_end 0 [.ref a, .int x0, uV] [] h r d K := Run_ua (hEH sv) rfl (Nat.le_of_ble_eq_true rfl) rfl
theorem u_X1_demand {a : Nat} {x0 : Int32}  : Run (EH sv) (Wa (EH sv)) (.inl mX1_demand) [.ref a, .int x0] h r (d + 1) K = Wa (EH sv) mX1_demand 0 [.ref a, .int x0, uV, uV, uV] [] h r d K := Run_ua (hEH sv) rfl (Nat.le_of_ble_eq_true rfl) rfl
theorem u_X1_offsetShare {a : Nat}   : Run (EH sv) (Wa (EH sv)) (.inl mX1_offsetShare) [.ref a] h r (d + 1) K = Wa (EH sv) mX1_offsetShare 0 [.ref a] [] h r d K := Run_ua (hEH sv) rfl (Nat.le_of_ble_eq_true rfl) rfl
theorem u_X1_meanVintage {a : Nat}   : Run (EH sv) (Wa (EH sv)) (.inl mX1_meanVintage) [.ref a] h r (d + 1) K = Wa (EH sv) mX1_meanVintage 0 [.ref a, uV, uV, uV, uV, uV] [] h r d K := Run_ua (hEH sv) rfl (Nat.le_of_ble_eq_true rfl) rfl
theorem u_X10_isLocked {a : Nat} {x0 : Int32}  : Run (EH sv) (Wa (EH sv)) (.inl mX10_isLocked) [.ref a, .int x0] h r (d + 1) K = Wa (EH sv) mX10_isLocked 0 [.ref a, .int x0] [] h r d K := Run_ua (hEH sv) rfl (Nat.le_of_ble_eq_true rfl) rfl
theorem u_X10_size {a : Nat}   : Run (EH sv) (Wa (EH sv)) (.inl mX10_size) [.ref a] h r (d + 1) K = Wa (EH sv) mX10_size 0 [.ref a] [] h r d K := Run_ua (hEH sv) rfl (Nat.le_of_ble_eq_true rfl) rfl
theorem u_X10_init {a : Nat} {x0 : Int32} {x1 : Int32} {x2 : Int32} {x3 : Int32} {x4 : Int32} {x5 : Int32}  : Run (EH sv) (Wa (EH sv)) (.inl mX10_init) [.ref a, .int x0, .int x1, .int x2, .int x3, .int x4, .int x5] h r (d + 1) K = Wa (EH sv) mX10_init 0 [.ref a, .int x0, .int x1, .int x2, .int x3, .int x4, .int x5] [] h r d K := Run_ua (hEH sv) rfl (Nat.le_of_ble_eq_true rfl) rfl
theorem u_X10_isLike {a : Nat} {v0 : Value} {x1 : Int32} (h0 : cat2 v0 = false) : Run (EH sv) (Wa (EH sv)) (.inl mX10_isLike) [.ref a, v0, .int x1] h r (d + 1) K = Wa (EH sv) mX10_isLike 0 [.ref a, v0, .int x1, uV, uV] [] h r d K := Run_ua (hEH sv) rfl (by simp [entL_i, entL_r, entL_c, entL_2, entL_n, h0, mX10_isLike]) (by simp [ent, entL_i, entL_r, entL_c, entL_2, entL_n, h0, mX10_isLike, List.replicate])
theorem u_X11_init {a : Nat} {x0 : Int32} {v1 : Value} {x2 : Int32} {x3 : Int32} (h1 : cat2 v1 = false) : Run (EH sv) (Wa (EH sv)) (.inl mX11_init) [.ref a, .int x0, v1, .int x2, .int x3] h r (d + 1) K = Wa (EH sv) mX11_init 0 [.ref a, .int x0, v1, .int x2, .int x3] [] h r d K := Run_ua (hEH sv) rfl (by simp [entL_i, entL_r, entL_c, entL_2, entL_n, h1, mX11_init]) (by simp [ent, entL_i, entL_r, entL_c, entL_2, entL_n, h1, mX11_init, List.replicate])
theorem u_X12_init {a : Nat} {x0 : Int32} {x1 : Int32} {x2 : Int32}  : Run (EH sv) (Wa (EH sv)) (.inl mX12_init) [.ref a, .int x0, .int x1, .int x2] h r (d + 1) K = Wa (EH sv) mX12_init 0 [.ref a, .int x0, .int x1, .int x2] [] h r d K := Run_ua (hEH sv) rfl (Nat.le_of_ble_eq_true rfl) rfl
theorem u_X12_cost {a : Nat}   : Run (EH sv) (Wa (EH sv)) (.inl mX12_cost) [.ref a] h r (d + 1) K = Wa (EH sv) mX12_cost 0 [.ref a] [] h r d K := Run_ua (hEH sv) rfl (Nat.le_of_ble_eq_true rfl) rfl
theorem u_X12_account {a : Nat}   : Run (EH sv) (Wa (EH sv)) (.inl mX12_account) [.ref a] h r (d + 1) K = Wa (EH sv) mX12_account 0 [.ref a] [] h r d K := Run_ua (hEH sv) rfl (Nat.le_of_ble_eq_true rfl) rfl
theorem u_X12_price {a : Nat}   : Run (EH sv) (Wa (EH sv)) (.inl mX12_price) [.ref a] h r (d + 1) K = Wa (EH sv) mX12_price 0 [.ref a] [] h r d K := Run_ua (hEH sv) rfl (Nat.le_of_ble_eq_true rfl) rfl
theorem u_X12_units {a : Nat}   : Run (EH sv) (Wa (EH sv)) (.inl mX12_units) [.ref a] h r (d + 1) K = Wa (EH sv) mX12_units 0 [.ref a] [] h r d K := Run_ua (hEH sv) rfl (Nat.le_of_ble_eq_true rfl) rfl
theorem u_X13_init {a : Nat} {v0 : Value} {v1 : Value} {x2 : Int32} {x3 : Int32} (h0 : cat2 v0 = false) (h1 : cat2 v1 = false) : Run (EH sv) (Wa (EH sv)) (.inl mX13_init) [.ref a, v0, v1, .int x2, .int x3] h r (d + 1) K = Wa (EH sv) mX13_init 0 [.ref a, v0, v1, .int x2, .int x3] [] h r d K := Run_ua (hEH sv) rfl (by simp [entL_i, entL_r, entL_c, entL_2, entL_n, h0, h1, mX13_init]) (by simp [ent, entL_i, entL_r, entL_c, entL_2, entL_n, h0, h1, mX13_init, List.replicate])
theorem u_X14_compare {a : Nat} {v0 : Value} {v1 : Value} (h0 : cat2 v0 = false) (h1 : cat2 v1 = false) : Run (EH sv) (Wa (EH sv)) (.inl mX14_compare) [.ref a, v0, v1] h r (d + 1) K = Wa (EH sv) mX14_compare 0 [.ref a, v0, v1] [] h r d K := Run_ua (hEH sv) rfl (by simp [entL_i, entL_r, entL_c, entL_2, entL_n, h0, h1, mX14_compare]) (by simp [ent, entL_i, entL_r, entL_c, entL_2, entL_n, h0, h1, mX14_compare, List.replicate])
theorem u_X14_compare_2 {a : Nat} {v0 : Value} {v1 : Value} (h0 : cat2 v0 = false) (h1 : cat2 v1 = false) : Run (EH sv) (Wa (EH sv)) (.inl mX14_compare_2) [.ref a, v0, v1] h r (d + 1) K = Wa (EH sv) mX14_compare_2 0 [.ref a, v0, v1, uV] [] h r d K := Run_ua (hEH sv) rfl (by simp [entL_i, entL_r, entL_c, entL_2, entL_n, h0, h1, mX14_compare_2]) (by simp [ent, entL_i, entL_r, entL_c, entL_2, entL_n, h0, h1, mX14_compare_2, List.replicate])
theorem u_X14_init {a : Nat} {x0 : Int32}  : Run (EH sv) (Wa (EH sv)) (.inl mX14_init) [.ref a, .int x0] h r (d + 1) K = Wa (EH sv) mX14_init 0 [.ref a, .int x0] [] h r d K := Run_ua (hEH sv) rfl (Nat.le_of_ble_eq_true rfl) rfl
theorem u_X15_init {a : Nat} {x0 : Int32} {x1 : Int32} {x2 : Int32} {x3 : Int32}  : Run (EH sv) (Wa (EH sv)) (.inl mX15_init) [.ref a, .int x0, .int x1, .int x2, .int x3] h r (d + 1) K = Wa (EH sv) mX15_init 0 [.ref a, .int x0, .int x1, .int x2, .int x3] [] h r d K := Run_ua (hEH sv) rfl (Nat.le_of_ble_eq_true rfl) rfl
theorem u_X16_init {a : Nat} {v0 : Value} {x1 : Int32} {x2 : Int32} {x3 : Int32} {x4 : Int32} (h0 : cat2 v0 = false) : Run (EH sv) (Wa (EH sv)) (.inl mX16_init) [.ref a, v0, .int x1, .int x2, .int x3, .int x4] h r (d + 1) K = Wa (EH sv) mX16_init 0 [.ref a, v0, .int x1, .int x2, .int x3, .int x4] [] h r d K := Run_ua (hEH sv) rfl (by simp [entL_i, entL_r, entL_c, entL_2, entL_n, h0, mX16_init]) (by simp [ent, entL_i, entL_r, entL_c, entL_2, entL_n, h0, mX16_init, List.replicate])
theorem u_X16_offsets {a : Nat} {x0 : Int32}  : Run (EH sv) (Wa (EH sv)) (.inl mX16_offsets) [.ref a, .int x0] h r (d + 1) K = Wa (EH sv) mX16_offsets 0 [.ref a, .int x0] [] h r d K := Run_ua (hEH sv) rfl (Nat.le_of_ble_eq_true rfl) rfl
theorem u_X17_init {a : Nat} {x0 : Int32} {x1 : Int32} {x2 : Int32} {x3 : Int32} {x4 : Int32}  : Run (EH sv) (Wa (EH sv)) (.inl mX17_init) [.ref a, .int x0, .int x1, .int x2, .int x3, .int x4] h r (d + 1) K = Wa (EH sv) mX17_init 0 [.ref a, .int x0, .int x1, .int x2, .int x3, .int x4] [] h r d K := Run_ua (hEH sv) rfl (Nat.le_of_ble_eq_true rfl) rfl
theorem u_X18_init {a : Nat} {x0 : Int32} {v1 : Value} {x2 : Int32} (h1 : cat2 v1 = false) : Run (EH sv) (Wa (EH sv)) (.inl mX18_init) [.ref a, .int x0, v1, .int x2] h r (d + 1) K = Wa (EH sv) mX18_init 0 [.ref a, .int x0, v1, .int x2] [] h r d K := Run_ua (hEH sv) rfl (by simp [entL_i, entL_r, entL_c, entL_2, entL_n, h1, mX18_init]) (by simp [ent, entL_i, entL_r, entL_c, entL_2, entL_n, h1, mX18_init, List.replicate])
theorem u_X18_embedded {a : Nat}   : Run (EH sv) (Wa (EH sv)) (.inl mX18_embedded) [.ref a] h r (d + 1) K = Wa (EH sv) mX18_embedded 0 [.ref a] [] h r d K := Run_ua (hEH sv) rfl (Nat.le_of_ble_eq_true rfl) rfl
theorem u_X19_init {a : Nat} {x0 : Int32} {x1 : Int32} {x2 : Int32}  : Run (EH sv) (Wa (EH sv)) (.inl mX19_init) [.ref a, .int x0, .int x1, .int x2] h r (d + 1) K = Wa (EH sv) mX19_init 0 [.ref a, .int x0, .int x1, .int x2] [] h r d K := Run_ua (hEH sv) rfl (Nat.le_of_ble_eq_true rfl) rfl
theorem u_X19_own {a : Nat}   : Run (EH sv) (Wa (EH sv)) (.inl mX19_own) [.ref a] h r (d + 1) K = Wa (EH sv) mX19_own 0 [.ref a] [] h r d K := Run_ua (hEH sv) rfl (Nat.le_of_ble_eq_true rfl) rfl
theorem u_X19_input {a : Nat}   : Run (EH sv) (Wa (EH sv)) (.inl mX19_input) [.ref a] h r (d + 1) K = Wa (EH sv) mX19_input 0 [.ref a] [] h r d K := Run_ua (hEH sv) rfl (Nat.le_of_ble_eq_true rfl) rfl
theorem u_X19_amount {a : Nat}   : Run (EH sv) (Wa (EH sv)) (.inl mX19_amount) [.ref a] h r (d + 1) K = Wa (EH sv) mX19_amount 0 [.ref a] [] h r d K := Run_ua (hEH sv) rfl (Nat.le_of_ble_eq_true rfl) rfl
theorem u_X2_init {a : Nat}   : Run (EH sv) (Wa (EH sv)) (.inl mX2_init) [.ref a] h r (d + 1) K = Wa (EH sv) mX2_init 0 [.ref a] [] h r d K := Run_ua (hEH sv) rfl (Nat.le_of_ble_eq_true rfl) rfl
theorem u_X2_compare {a : Nat} {v0 : Value} {v1 : Value} (h0 : cat2 v0 = false) (h1 : cat2 v1 = false) : Run (EH sv) (Wa (EH sv)) (.inl mX2_compare) [.ref a, v0, v1] h r (d + 1) K = Wa (EH sv) mX2_compare 0 [.ref a, v0, v1] [] h r d K := Run_ua (hEH sv) rfl (by simp [entL_i, entL_r, entL_c, entL_2, entL_n, h0, h1, mX2_compare]) (by simp [ent, entL_i, entL_r, entL_c, entL_2, entL_n, h0, h1, mX2_compare, List.replicate])
theorem u_X2_compare_2 {a : Nat} {v0 : Value} {v1 : Value} (h0 : cat2 v0 = false) (h1 : cat2 v1 = false) : Run (EH sv) (Wa (EH sv)) (.inl mX2_compare_2) [.ref a, v0, v1] h r (d + 1) K = Wa (EH sv) mX2_compare_2 0 [.ref a, v0, v1] [] h r d K := Run_ua (hEH sv) rfl (by simp [entL_i, entL_r, entL_c, entL_2, entL_n, h0, h1, mX2_compare_2]) (by simp [ent, entL_i, entL_r, entL_c, entL_2, entL_n, h0, h1, mX2_compare_2, List.replicate])
theorem u_X20_ended {a : Nat}   : Run (EH sv) (Wa (EH sv)) (.inl mX20_ended) [.ref a] h r (d + 1) K = Wa (EH sv) mX20_ended 0 [.ref a, uV, uV] [] h r d K := Run_ua (hEH sv) rfl (Nat.le_of_ble_eq_true rfl) rfl
theorem u_X3_init {a : Nat} {x0 : Int32} {x1 : Int64}  : Run (EH sv) (Wa (EH sv)) (.inl mX3_init) [.ref a, .int x0, .long x1] h r (d + 1) K = Wa (EH sv) mX3_init 0 [.ref a, .int x0, .long x1, uV] [] h r d K := Run_ua (hEH sv) rfl (Nat.le_of_ble_eq_true rfl) rfl
theorem u_X3_end {a : Nat} {x0 : Int32}  : Run (EH sv) (Wa (EH sv)) (.inl mX3_end) [.ref a, .int x0] h r (d + 1) K = Wa (EH sv) mX3_end 0 [.ref a, .int x0, uV, uV, uV, uV] [] h r d K := Run_ua (hEH sv) rfl (Nat.le_of_ble_eq_true rfl) rfl
theorem u_X4_init {a : Nat}   : Run (EH sv) (Wa (EH sv)) (.inl mX4_init) [.ref a] h r (d + 1) K = Wa (EH sv) mX4_init 0 [.ref a] [] h r d K := Run_ua (hEH sv) rfl (Nat.le_of_ble_eq_true rfl) rfl
theorem u_X4_owed {a : Nat}   : Run (EH sv) (Wa (EH sv)) (.inl mX4_owed) [.ref a] h r (d + 1) K = Wa (EH sv) mX4_owed 0 [.ref a] [] h r d K := Run_ua (hEH sv) rfl (Nat.le_of_ble_eq_true rfl) rfl
theorem u_X4_clear {a : Nat}   : Run (EH sv) (Wa (EH sv)) (.inl mX4_clear) [.ref a] h r (d + 1) K = Wa (EH sv) mX4_clear 0 [.ref a] [] h r d K := Run_ua (hEH sv) rfl (Nat.le_of_ble_eq_true rfl) rfl
theorem u_X5_init {a : Nat}   : Run (EH sv) (Wa (EH sv)) (.inl mX5_init) [.ref a] h r (d + 1) K = Wa (EH sv) mX5_init 0 [.ref a] [] h r d K := Run_ua (hEH sv) rfl (Nat.le_of_ble_eq_true rfl) rfl
theorem u_X5_thrown {a : Nat}   : Run (EH sv) (Wa (EH sv)) (.inl mX5_thrown) [.ref a] h r (d + 1) K = Wa (EH sv) mX5_thrown 0 [.ref a] [] h r d K := Run_ua (hEH sv) rfl (Nat.le_of_ble_eq_true rfl) rfl
theorem u_X5_addAccount {a : Nat} {x0 : Int32}  : Run (EH sv) (Wa (EH sv)) (.inl mX5_addAccount) [.ref a, .int x0] h r (d + 1) K = Wa (EH sv) mX5_addAccount 0 [.ref a, .int x0] [] h r d K := Run_ua (hEH sv) rfl (Nat.le_of_ble_eq_true rfl) rfl
theorem u_X5_in {x0 : Int64} {x1 : Int64} {x2 : Int64}  : Run (EH sv) (Wa (EH sv)) (.inl mX5_in) [.long x0, .long x1, .long x2] h r (d + 1) K = Wa (EH sv) mX5_in 0 [.long x0, uV, .long x1, uV, .long x2, uV] [] h r d K := Run_ua (hEH sv) rfl (Nat.le_of_ble_eq_true rfl) rfl
theorem u_X5_makePlant {a : Nat} {x0 : Int32} {x1 : Int32} {x2 : Int32}  : Run (EH sv) (Wa (EH sv)) (.inl mX5_makePlant) [.ref a, .int x0, .int x1, .int x2] h r (d + 1) K = Wa (EH sv) mX5_makePlant 0 [.ref a, .int x0, .int x1, .int x2, uV, uV, uV, uV] [] h r d K := Run_ua (hEH sv) rfl (Nat.le_of_ble_eq_true rfl) rfl
theorem u_X5_isOther {a : Nat} {x0 : Int32}  : Run (EH sv) (Wa (EH sv)) (.inl mX5_isOther) [.ref a, .int x0] h r (d + 1) K = Wa (EH sv) mX5_isOther 0 [.ref a, .int x0] [] h r d K := Run_ua (hEH sv) rfl (Nat.le_of_ble_eq_true rfl) rfl
theorem u_X5_report {a : Nat} {x0 : Int32} {x1 : Int32} {x2 : Int32}  : Run (EH sv) (Wa (EH sv)) (.inl mX5_report) [.ref a, .int x0, .int x1, .int x2] h r (d + 1) K = Wa (EH sv) mX5_report 0 [.ref a, .int x0, .int x1, .int x2, uV, uV, uV] [] h r d K := Run_ua (hEH sv) rfl (Nat.le_of_ble_eq_true rfl) rfl
theorem u_X5_tellActivity {a : Nat} {x0 : Int32} {x1 : Int32}  : Run (EH sv) (Wa (EH sv)) (.inl mX5_tellActivity) [.ref a, .int x0, .int x1] h r (d + 1) K = Wa (EH sv) mX5_tellActivity 0 [.ref a, .int x0, .int x1, uV] [] h r d K := Run_ua (hEH sv) rfl (Nat.le_of_ble_eq_true rfl) rfl
theorem u_X5_year {a : Nat}   : Run (EH sv) (Wa (EH sv)) (.inl mX5_year) [.ref a] h r (d + 1) K = Wa (EH sv) mX5_year 0 [.ref a] [] h r d K := Run_ua (hEH sv) rfl (Nat.le_of_ble_eq_true rfl) rfl
theorem u_X5_emissionOf {a : Nat} {x0 : Int32} {x1 : Int32}  : Run (EH sv) (Wa (EH sv)) (.inl mX5_emissionOf) [.ref a, .int x0, .int x1] h r (d + 1) K = Wa (EH sv) mX5_emissionOf 0 [.ref a, .int x0, .int x1] [] h r d K := Run_ua (hEH sv) rfl (Nat.le_of_ble_eq_true rfl) rfl
theorem u_X5_hasEnded {a : Nat} {x0 : Int32}  : Run (EH sv) (Wa (EH sv)) (.inl mX5_hasEnded) [.ref a, .int x0] h r (d + 1) K = Wa (EH sv) mX5_hasEnded 0 [.ref a, .int x0] [] h r d K := Run_ua (hEH sv) rfl (Nat.le_of_ble_eq_true rfl) rfl
theorem u_X5_owed {a : Nat} {x0 : Int32} {x1 : Int32}  : Run (EH sv) (Wa (EH sv)) (.inl mX5_owed) [.ref a, .int x0, .int x1] h r (d + 1) K = Wa (EH sv) mX5_owed 0 [.ref a, .int x0, .int x1] [] h r d K := Run_ua (hEH sv) rfl (Nat.le_of_ble_eq_true rfl) rfl
theorem u_X5_freeShare {a : Nat} {x0 : Int32}  : Run (EH sv) (Wa (EH sv)) (.inl mX5_freeShare) [.ref a, .int x0] h r (d + 1) K = Wa (EH sv) mX5_freeShare 0 [.ref a, .int x0] [] h r d K := Run_ua (hEH sv) rfl (Nat.le_of_ble_eq_true rfl) rfl
theorem u_X5_cash {a : Nat} {x0 : Int32}  : Run (EH sv) (Wa (EH sv)) (.inl mX5_cash) [.ref a, .int x0] h r (d + 1) K = Wa (EH sv) mX5_cash 0 [.ref a, .int x0] [] h r d K := Run_ua (hEH sv) rfl (Nat.le_of_ble_eq_true rfl) rfl
theorem u_X5_transfer {a : Nat} {x0 : Int32} {x1 : Int32} {x2 : Int32} {x3 : Int32}  : Run (EH sv) (Wa (EH sv)) (.inl mX5_transfer) [.ref a, .int x0, .int x1, .int x2, .int x3] h r (d + 1) K = Wa (EH sv) mX5_transfer 0 [.ref a, .int x0, .int x1, .int x2, .int x3, uV] [] h r d K := Run_ua (hEH sv) rfl (Nat.le_of_ble_eq_true rfl) rfl
theorem u_X5_isKind {x0 : Int32}  : Run (EH sv) (Wa (EH sv)) (.inl mX5_isKind) [.int x0] h r (d + 1) K = Wa (EH sv) mX5_isKind 0 [.int x0] [] h r d K := Run_ua (hEH sv) rfl (Nat.le_of_ble_eq_true rfl) rfl
theorem u_X5_usableOf {a : Nat} {x0 : Int32} {x1 : Int32}  : Run (EH sv) (Wa (EH sv)) (.inl mX5_usableOf) [.ref a, .int x0, .int x1] h r (d + 1) K = Wa (EH sv) mX5_usableOf 0 [.ref a, .int x0, .int x1, uV, uV, uV] [] h r d K := Run_ua (hEH sv) rfl (Nat.le_of_ble_eq_true rfl) rfl
theorem u_X5_isUsable {a : Nat} {v0 : Value} {x1 : Int32} {x2 : Int32} (h0 : cat2 v0 = false) : Run (EH sv) (Wa (EH sv)) (.inl mX5_isUsable) [.ref a, v0, .int x1, .int x2] h r (d + 1) K = Wa (EH sv) mX5_isUsable 0 [.ref a, v0, .int x1, .int x2] [] h r d K := Run_ua (hEH sv) rfl (by simp [entL_i, entL_r, entL_c, entL_2, entL_n, h0, mX5_isUsable]) (by simp [ent, entL_i, entL_r, entL_c, entL_2, entL_n, h0, mX5_isUsable, List.replicate])
theorem u_X5_move {a : Nat} {v0 : Value} (h0 : cat2 v0 = false) : Run (EH sv) (Wa (EH sv)) (.inl mX5_move) [.ref a, v0] h r (d + 1) K = Wa (EH sv) mX5_move 0 [.ref a, v0, uV, uV, uV] [] h r d K := Run_ua (hEH sv) rfl (by simp [entL_i, entL_r, entL_c, entL_2, entL_n, h0, mX5_move]) (by simp [ent, entL_i, entL_r, entL_c, entL_2, entL_n, h0, mX5_move, List.replicate])
theorem u_X5_take {a : Nat} {x0 : Int32} {x1 : Int32} {x2 : Int32} {x3 : Int32} {x4 : Int32}  : Run (EH sv) (Wa (EH sv)) (.inl mX5_take) [.ref a, .int x0, .int x1, .int x2, .int x3, .int x4] h r (d + 1) K = Wa (EH sv) mX5_take 0 [.ref a, .int x0, .int x1, .int x2, .int x3, .int x4, uV, uV, uV, uV] [] h r d K := Run_ua (hEH sv) rfl (Nat.le_of_ble_eq_true rfl) rfl
theorem u_X5_next {a : Nat} {x0 : Int32} {x1 : Int32} {x2 : Int32}  : Run (EH sv) (Wa (EH sv)) (.inl mX5_next) [.ref a, .int x0, .int x1, .int x2] h r (d + 1) K = Wa (EH sv) mX5_next 0 [.ref a, .int x0, .int x1, .int x2, uV, uV, uV, uV] [] h r d K := Run_ua (hEH sv) rfl (Nat.le_of_ble_eq_true rfl) rfl
theorem u_X5_cut {a : Nat} {v0 : Value} {x1 : Int32} (h0 : cat2 v0 = false) : Run (EH sv) (Wa (EH sv)) (.inl mX5_cut) [.ref a, v0, .int x1] h r (d + 1) K = Wa (EH sv) mX5_cut 0 [.ref a, v0, .int x1, uV] [] h r d K := Run_ua (hEH sv) rfl (by simp [entL_i, entL_r, entL_c, entL_2, entL_n, h0, mX5_cut]) (by simp [ent, entL_i, entL_r, entL_c, entL_2, entL_n, h0, mX5_cut, List.replicate])
theorem u_X5_confirm {a : Nat} {x0 : Int32}  : Run (EH sv) (Wa (EH sv)) (.inl mX5_confirm) [.ref a, .int x0] h r (d + 1) K = Wa (EH sv) mX5_confirm 0 [.ref a, .int x0, uV] [] h r d K := Run_ua (hEH sv) rfl (Nat.le_of_ble_eq_true rfl) rfl
theorem u_X5_isTransfer {a : Nat} {x0 : Int32}  : Run (EH sv) (Wa (EH sv)) (.inl mX5_isTransfer) [.ref a, .int x0] h r (d + 1) K = Wa (EH sv) mX5_isTransfer 0 [.ref a, .int x0] [] h r d K := Run_ua (hEH sv) rfl (Nat.le_of_ble_eq_true rfl) rfl
theorem u_X5_trust {a : Nat} {x0 : Int32} {x1 : Int32}  : Run (EH sv) (Wa (EH sv)) (.inl mX5_trust) [.ref a, .int x0, .int x1] h r (d + 1) K = Wa (EH sv) mX5_trust 0 [.ref a, .int x0, .int x1, uV] [] h r d K := Run_ua (hEH sv) rfl (Nat.le_of_ble_eq_true rfl) rfl
theorem u_X5_freeze {a : Nat} {x0 : Int32}  : Run (EH sv) (Wa (EH sv)) (.inl mX5_freeze) [.ref a, .int x0] h r (d + 1) K = Wa (EH sv) mX5_freeze 0 [.ref a, .int x0] [] h r d K := Run_ua (hEH sv) rfl (Nat.le_of_ble_eq_true rfl) rfl
theorem u_X5_freeze_2 {a : Nat} {x0 : Int32} {x1 : Int32}  : Run (EH sv) (Wa (EH sv)) (.inl mX5_freeze_2) [.ref a, .int x0, .int x1] h r (d + 1) K = Wa (EH sv) mX5_freeze_2 0 [.ref a, .int x0, .int x1, uV, uV, uV, uV, uV] [] h r d K := Run_ua (hEH sv) rfl (Nat.le_of_ble_eq_true rfl) rfl
theorem u_X5_release {a : Nat} {x0 : Int32}  : Run (EH sv) (Wa (EH sv)) (.inl mX5_release) [.ref a, .int x0] h r (d + 1) K = Wa (EH sv) mX5_release 0 [.ref a, .int x0] [] h r d K := Run_ua (hEH sv) rfl (Nat.le_of_ble_eq_true rfl) rfl
theorem u_X5_stateOf {a : Nat} {x0 : Int32}  : Run (EH sv) (Wa (EH sv)) (.inl mX5_stateOf) [.ref a, .int x0] h r (d + 1) K = Wa (EH sv) mX5_stateOf 0 [.ref a, .int x0] [] h r d K := Run_ua (hEH sv) rfl (Nat.le_of_ble_eq_true rfl) rfl
theorem u_X5_units {a : Nat} {x0 : Int32} {x1 : Int32}  : Run (EH sv) (Wa (EH sv)) (.inl mX5_units) [.ref a, .int x0, .int x1] h r (d + 1) K = Wa (EH sv) mX5_units 0 [.ref a, .int x0, .int x1, uV, uV, uV] [] h r d K := Run_ua (hEH sv) rfl (Nat.le_of_ble_eq_true rfl) rfl
theorem u_X5_wrongHolder {a : Nat} {x0 : Int32} {x1 : Int32}  : Run (EH sv) (Wa (EH sv)) (.inl mX5_wrongHolder) [.ref a, .int x0, .int x1] h r (d + 1) K = Wa (EH sv) mX5_wrongHolder 0 [.ref a, .int x0, .int x1] [] h r d K := Run_ua (hEH sv) rfl (Nat.le_of_ble_eq_true rfl) rfl
theorem u_X5_usable {a : Nat} {x0 : Int32} {x1 : Int32}  : Run (EH sv) (Wa (EH sv)) (.inl mX5_usable) [.ref a, .int x0, .int x1] h r (d + 1) K = Wa (EH sv) mX5_usable 0 [.ref a, .int x0, .int x1] [] h r d K := Run_ua (hEH sv) rfl (Nat.le_of_ble_eq_true rfl) rfl
theorem u_X5_made {a : Nat}   : Run (EH sv) (Wa (EH sv)) (.inl mX5_made) [.ref a] h r (d + 1) K = Wa (EH sv) mX5_made 0 [.ref a] [] h r d K := Run_ua (hEH sv) rfl (Nat.le_of_ble_eq_true rfl) rfl
theorem u_X5_plain {a : Nat} {x0 : Int32}  : Run (EH sv) (Wa (EH sv)) (.inl mX5_plain) [.ref a, .int x0] h r (d + 1) K = Wa (EH sv) mX5_plain 0 [.ref a, .int x0] [] h r d K := Run_ua (hEH sv) rfl (Nat.le_of_ble_eq_true rfl) rfl
theorem u_X5_holderOf {a : Nat} {x0 : Int32}  : Run (EH sv) (Wa (EH sv)) (.inl mX5_holderOf) [.ref a, .int x0] h r (d + 1) K = Wa (EH sv) mX5_holderOf 0 [.ref a, .int x0, uV] [] h r d K := Run_ua (hEH sv) rfl (Nat.le_of_ble_eq_true rfl) rfl
theorem u_X5_rowOf {a : Nat} {x0 : Int32}  : Run (EH sv) (Wa (EH sv)) (.inl mX5_rowOf) [.ref a, .int x0] h r (d + 1) K = Wa (EH sv) mX5_rowOf 0 [.ref a, .int x0, uV, uV] [] h r d K := Run_ua (hEH sv) rfl (Nat.le_of_ble_eq_true rfl) rfl
theorem u_X5_vintageOf {a : Nat} {x0 : Int32}  : Run (EH sv) (Wa (EH sv)) (.inl mX5_vintageOf) [.ref a, .int x0] h r (d + 1) K = Wa (EH sv) mX5_vintageOf 0 [.ref a, .int x0, uV] [] h r d K := Run_ua (hEH sv) rfl (Nat.le_of_ble_eq_true rfl) rfl
theorem u_X5_isFrozen {a : Nat} {x0 : Int32}  : Run (EH sv) (Wa (EH sv)) (.inl mX5_isFrozen) [.ref a, .int x0] h r (d + 1) K = Wa (EH sv) mX5_isFrozen 0 [.ref a, .int x0, uV] [] h r d K := Run_ua (hEH sv) rfl (Nat.le_of_ble_eq_true rfl) rfl
theorem u_X5_blocks {a : Nat}   : Run (EH sv) (Wa (EH sv)) (.inl mX5_blocks) [.ref a] h r (d + 1) K = Wa (EH sv) mX5_blocks 0 [.ref a, uV, uV] [] h r d K := Run_ua (hEH sv) rfl (Nat.le_of_ble_eq_true rfl) rfl
theorem u_X5_surrender {a : Nat} {x0 : Int32} {x1 : Int32} {x2 : Int32} {x3 : Int32}  : Run (EH sv) (Wa (EH sv)) (.inl mX5_surrender) [.ref a, .int x0, .int x1, .int x2, .int x3] h r (d + 1) K = Wa (EH sv) mX5_surrender 0 [.ref a, .int x0, .int x1, .int x2, .int x3, uV, uV] [] h r d K := Run_ua (hEH sv) rfl (Nat.le_of_ble_eq_true rfl) rfl
theorem u_X5_surrendered {a : Nat} {x0 : Int32}  : Run (EH sv) (Wa (EH sv)) (.inl mX5_surrendered) [.ref a, .int x0] h r (d + 1) K = Wa (EH sv) mX5_surrendered 0 [.ref a, .int x0] [] h r d K := Run_ua (hEH sv) rfl (Nat.le_of_ble_eq_true rfl) rfl
theorem u_X5_cancelled {a : Nat}   : Run (EH sv) (Wa (EH sv)) (.inl mX5_cancelled) [.ref a] h r (d + 1) K = Wa (EH sv) mX5_cancelled 0 [.ref a] [] h r d K := Run_ua (hEH sv) rfl (Nat.le_of_ble_eq_true rfl) rfl
theorem u_X5_entries {a : Nat}   : Run (EH sv) (Wa (EH sv)) (.inl mX5_entries) [.ref a] h r (d + 1) K = Wa (EH sv) mX5_entries 0 [.ref a] [] h r d K := Run_ua (hEH sv) rfl (Nat.le_of_ble_eq_true rfl) rfl
theorem u_X5_setCap {a : Nat} {x0 : Int32} {x1 : Int32}  : Run (EH sv) (Wa (EH sv)) (.inl mX5_setCap) [.ref a, .int x0, .int x1] h r (d + 1) K = Wa (EH sv) mX5_setCap 0 [.ref a, .int x0, .int x1] [] h r d K := Run_ua (hEH sv) rfl (Nat.le_of_ble_eq_true rfl) rfl
theorem u_X5_beginYear {a : Nat}   : Run (EH sv) (Wa (EH sv)) (.inl mX5_beginYear) [.ref a] h r (d + 1) K = Wa (EH sv) mX5_beginYear 0 [.ref a, uV, uV, uV, uV, uV, uV, uV, uV, uV] [] h r d K := Run_ua (hEH sv) rfl (Nat.le_of_ble_eq_true rfl) rfl
theorem u_X5_cap {a : Nat}   : Run (EH sv) (Wa (EH sv)) (.inl mX5_cap) [.ref a] h r (d + 1) K = Wa (EH sv) mX5_cap 0 [.ref a] [] h r d K := Run_ua (hEH sv) rfl (Nat.le_of_ble_eq_true rfl) rfl
theorem u_X5_make {a : Nat} {x0 : Int32} {x1 : Int32} {x2 : Int32} {x3 : Int32}  : Run (EH sv) (Wa (EH sv)) (.inl mX5_make) [.ref a, .int x0, .int x1, .int x2, .int x3] h r (d + 1) K = Wa (EH sv) mX5_make 0 [.ref a, .int x0, .int x1, .int x2, .int x3] [] h r d K := Run_ua (hEH sv) rfl (Nat.le_of_ble_eq_true rfl) rfl
theorem u_X5_circulating {a : Nat}   : Run (EH sv) (Wa (EH sv)) (.inl mX5_circulating) [.ref a] h r (d + 1) K = Wa (EH sv) mX5_circulating 0 [.ref a, uV, uV, uV] [] h r d K := Run_ua (hEH sv) rfl (Nat.le_of_ble_eq_true rfl) rfl
theorem u_X5_setBounds {a : Nat} {x0 : Int32} {x1 : Int32} {x2 : Int32}  : Run (EH sv) (Wa (EH sv)) (.inl mX5_setBounds) [.ref a, .int x0, .int x1, .int x2] h r (d + 1) K = Wa (EH sv) mX5_setBounds 0 [.ref a, .int x0, .int x1, .int x2] [] h r d K := Run_ua (hEH sv) rfl (Nat.le_of_ble_eq_true rfl) rfl
theorem u_X5_bid {a : Nat} {x0 : Int32} {x1 : Int32} {x2 : Int32}  : Run (EH sv) (Wa (EH sv)) (.inl mX5_bid) [.ref a, .int x0, .int x1, .int x2] h r (d + 1) K = Wa (EH sv) mX5_bid 0 [.ref a, .int x0, .int x1, .int x2, uV, uV, uV, uV, uV] [] h r d K := Run_ua (hEH sv) rfl (Nat.le_of_ble_eq_true rfl) rfl
theorem u_X5_auction {a : Nat} {x0 : Int32} {x1 : Int32}  : Run (EH sv) (Wa (EH sv)) (.inl mX5_auction) [.ref a, .int x0, .int x1] h r (d + 1) K = Wa (EH sv) mX5_auction 0 [.ref a, .int x0, .int x1, uV, uV, uV, uV, uV, uV] [] h r d K := Run_ua (hEH sv) rfl (Nat.le_of_ble_eq_true rfl) rfl
theorem u_X5_price {a : Nat}   : Run (EH sv) (Wa (EH sv)) (.inl mX5_price) [.ref a] h r (d + 1) K = Wa (EH sv) mX5_price 0 [.ref a] [] h r d K := Run_ua (hEH sv) rfl (Nat.le_of_ble_eq_true rfl) rfl
theorem u_X5_volume {a : Nat}   : Run (EH sv) (Wa (EH sv)) (.inl mX5_volume) [.ref a] h r (d + 1) K = Wa (EH sv) mX5_volume 0 [.ref a] [] h r d K := Run_ua (hEH sv) rfl (Nat.le_of_ble_eq_true rfl) rfl
theorem u_X5_reserve {a : Nat}   : Run (EH sv) (Wa (EH sv)) (.inl mX5_reserve) [.ref a] h r (d + 1) K = Wa (EH sv) mX5_reserve 0 [.ref a] [] h r d K := Run_ua (hEH sv) rfl (Nat.le_of_ble_eq_true rfl) rfl
theorem u_X5_circulation {a : Nat}   : Run (EH sv) (Wa (EH sv)) (.inl mX5_circulation) [.ref a] h r (d + 1) K = Wa (EH sv) mX5_circulation 0 [.ref a] [] h r d K := Run_ua (hEH sv) rfl (Nat.le_of_ble_eq_true rfl) rfl
theorem u_X5_addProject {a : Nat} {x0 : Int32} {x1 : Int32} {x2 : Int32} {x3 : Int32} {x4 : Int32}  : Run (EH sv) (Wa (EH sv)) (.inl mX5_addProject) [.ref a, .int x0, .int x1, .int x2, .int x3, .int x4] h r (d + 1) K = Wa (EH sv) mX5_addProject 0 [.ref a, .int x0, .int x1, .int x2, .int x3, .int x4] [] h r d K := Run_ua (hEH sv) rfl (Nat.le_of_ble_eq_true rfl) rfl
theorem u_X5_verify {a : Nat} {x0 : Int32} {x1 : Int32}  : Run (EH sv) (Wa (EH sv)) (.inl mX5_verify) [.ref a, .int x0, .int x1] h r (d + 1) K = Wa (EH sv) mX5_verify 0 [.ref a, .int x0, .int x1, uV, uV, uV] [] h r d K := Run_ua (hEH sv) rfl (Nat.le_of_ble_eq_true rfl) rfl
theorem u_X5_isProject {a : Nat} {x0 : Int32}  : Run (EH sv) (Wa (EH sv)) (.inl mX5_isProject) [.ref a, .int x0] h r (d + 1) K = Wa (EH sv) mX5_isProject 0 [.ref a, .int x0] [] h r d K := Run_ua (hEH sv) rfl (Nat.le_of_ble_eq_true rfl) rfl
theorem u_X5_up {x0 : Int64} {x1 : Int64}  : Run (EH sv) (Wa (EH sv)) (.inl mX5_up) [.long x0, .long x1] h r (d + 1) K = Wa (EH sv) mX5_up 0 [.long x0, uV, .long x1, uV] [] h r d K := Run_ua (hEH sv) rfl (Nat.le_of_ble_eq_true rfl) rfl
theorem u_X5_reverse {a : Nat} {x0 : Int32} {x1 : Int32}  : Run (EH sv) (Wa (EH sv)) (.inl mX5_reverse) [.ref a, .int x0, .int x1] h r (d + 1) K = Wa (EH sv) mX5_reverse 0 [.ref a, .int x0, .int x1, uV] [] h r d K := Run_ua (hEH sv) rfl (Nat.le_of_ble_eq_true rfl) rfl
theorem u_X5_addGood {a : Nat} {x0 : Int32} {x1 : Int32} {x2 : Int32}  : Run (EH sv) (Wa (EH sv)) (.inl mX5_addGood) [.ref a, .int x0, .int x1, .int x2] h r (d + 1) K = Wa (EH sv) mX5_addGood 0 [.ref a, .int x0, .int x1, .int x2] [] h r d K := Run_ua (hEH sv) rfl (Nat.le_of_ble_eq_true rfl) rfl
theorem u_X5_isGood {a : Nat} {x0 : Int32}  : Run (EH sv) (Wa (EH sv)) (.inl mX5_isGood) [.ref a, .int x0] h r (d + 1) K = Wa (EH sv) mX5_isGood 0 [.ref a, .int x0] [] h r d K := Run_ua (hEH sv) rfl (Nat.le_of_ble_eq_true rfl) rfl
theorem u_X5_embedded {a : Nat} {x0 : Int32}  : Run (EH sv) (Wa (EH sv)) (.inl mX5_embedded) [.ref a, .int x0] h r (d + 1) K = Wa (EH sv) mX5_embedded 0 [.ref a, .int x0] [] h r d K := Run_ua (hEH sv) rfl (Nat.le_of_ble_eq_true rfl) rfl
theorem u_X5_embeddedIn {a : Nat} {x0 : Int32}  : Run (EH sv) (Wa (EH sv)) (.inl mX5_embeddedIn) [.ref a, .int x0] h r (d + 1) K = Wa (EH sv) mX5_embeddedIn 0 [.ref a, .int x0, uV] [] h r d K := Run_ua (hEH sv) rfl (Nat.le_of_ble_eq_true rfl) rfl
theorem u_X5_importGood {a : Nat} {x0 : Int32} {x1 : Int32} {x2 : Int32} {x3 : Int32}  : Run (EH sv) (Wa (EH sv)) (.inl mX5_importGood) [.ref a, .int x0, .int x1, .int x2, .int x3] h r (d + 1) K = Wa (EH sv) mX5_importGood 0 [.ref a, .int x0, .int x1, .int x2, .int x3, uV, uV] [] h r d K := Run_ua (hEH sv) rfl (Nat.le_of_ble_eq_true rfl) rfl
theorem u_X5_advance {a : Nat} {x0 : Int32}  : Run (EH sv) (Wa (EH sv)) (.inl mX5_advance) [.ref a, .int x0] h r (d + 1) K = Wa (EH sv) mX5_advance 0 [.ref a, .int x0, uV] [] h r d K := Run_ua (hEH sv) rfl (Nat.le_of_ble_eq_true rfl) rfl
theorem u_X5_endYear {a : Nat} {x0 : Int32}  : Run (EH sv) (Wa (EH sv)) (.inl mX5_endYear) [.ref a, .int x0] h r (d + 1) K = Wa (EH sv) mX5_endYear 0 [.ref a, .int x0, uV, uV] [] h r d K := Run_ua (hEH sv) rfl (Nat.le_of_ble_eq_true rfl) rfl
theorem u_X5_emitted {a : Nat} {v0 : Value} {x1 : Int32} (h0 : cat2 v0 = false) : Run (EH sv) (Wa (EH sv)) (.inl mX5_emitted) [.ref a, v0, .int x1] h r (d + 1) K = Wa (EH sv) mX5_emitted 0 [.ref a, v0, .int x1, uV, uV] [] h r d K := Run_ua (hEH sv) rfl (by simp [entL_i, entL_r, entL_c, entL_2, entL_n, h0, mX5_emitted]) (by simp [ent, entL_i, entL_r, entL_c, entL_2, entL_n, h0, mX5_emitted, List.replicate])
theorem u_X5_fallDue {a : Nat} {x0 : Int32}  : Run (EH sv) (Wa (EH sv)) (.inl mX5_fallDue) [.ref a, .int x0] h r (d + 1) K = Wa (EH sv) mX5_fallDue 0 [.ref a, .int x0, uV, uV] [] h r d K := Run_ua (hEH sv) rfl (Nat.le_of_ble_eq_true rfl) rfl
theorem u_X5_day {a : Nat}   : Run (EH sv) (Wa (EH sv)) (.inl mX5_day) [.ref a] h r (d + 1) K = Wa (EH sv) mX5_day 0 [.ref a] [] h r d K := Run_ua (hEH sv) rfl (Nat.le_of_ble_eq_true rfl) rfl
theorem u_X5_offsetShare {a : Nat}   : Run (EH sv) (Wa (EH sv)) (.inl mX5_offsetShare) [.ref a] h r (d + 1) K = Wa (EH sv) mX5_offsetShare 0 [.ref a] [] h r d K := Run_ua (hEH sv) rfl (Nat.le_of_ble_eq_true rfl) rfl
theorem u_X5_meanVintage {a : Nat}   : Run (EH sv) (Wa (EH sv)) (.inl mX5_meanVintage) [.ref a] h r (d + 1) K = Wa (EH sv) mX5_meanVintage 0 [.ref a, uV, uV, uV, uV, uV] [] h r d K := Run_ua (hEH sv) rfl (Nat.le_of_ble_eq_true rfl) rfl
theorem u_X5_isSound {a : Nat}   : Run (EH sv) (Wa (EH sv)) (.inl mX5_isSound) [.ref a] h r (d + 1) K = Wa (EH sv) mX5_isSound 0 [.ref a] [] h r d K := Run_ua (hEH sv) rfl (Nat.le_of_ble_eq_true rfl) rfl
theorem u_X6_init {a : Nat} {x0 : Int64}  : Run (EH sv) (Wa (EH sv)) (.inl mX6_init) [.ref a, .long x0] h r (d + 1) K = Wa (EH sv) mX6_init 0 [.ref a, .long x0, uV, uV] [] h r d K := Run_ua (hEH sv) rfl (Nat.le_of_ble_eq_true rfl) rfl
theorem u_X7_init {a : Nat}   : Run (EH sv) (Wa (EH sv)) (.inl mX7_init) [.ref a] h r (d + 1) K = Wa (EH sv) mX7_init 0 [.ref a] [] h r d K := Run_ua (hEH sv) rfl (Nat.le_of_ble_eq_true rfl) rfl
theorem u_X7_average {a : Nat} {x0 : Int32}  : Run (EH sv) (Wa (EH sv)) (.inl mX7_average) [.ref a, .int x0] h r (d + 1) K = Wa (EH sv) mX7_average 0 [.ref a, .int x0, uV, uV] [] h r d K := Run_ua (hEH sv) rfl (Nat.le_of_ble_eq_true rfl) rfl
theorem u_X7_owed {a : Nat}   : Run (EH sv) (Wa (EH sv)) (.inl mX7_owed) [.ref a] h r (d + 1) K = Wa (EH sv) mX7_owed 0 [.ref a, uV, uV] [] h r d K := Run_ua (hEH sv) rfl (Nat.le_of_ble_eq_true rfl) rfl
theorem u_X7_clear {a : Nat}   : Run (EH sv) (Wa (EH sv)) (.inl mX7_clear) [.ref a] h r (d + 1) K = Wa (EH sv) mX7_clear 0 [.ref a] [] h r d K := Run_ua (hEH sv) rfl (Nat.le_of_ble_eq_true rfl) rfl
theorem u_X8_size {a : Nat}   : Run (EH sv) (Wa (EH sv)) (.inl mX8_size) [.ref a] h r (d + 1) K = Wa (EH sv) mX8_size 0 [.ref a] [] h r d K := Run_ua (hEH sv) rfl (Nat.le_of_ble_eq_true rfl) rfl
theorem u_X8_isAlike {a : Nat} {v0 : Value} {x1 : Int32} (h0 : cat2 v0 = false) : Run (EH sv) (Wa (EH sv)) (.inl mX8_isAlike) [.ref a, v0, .int x1] h r (d + 1) K = Wa (EH sv) mX8_isAlike 0 [.ref a, v0, .int x1, uV] [] h r d K := Run_ua (hEH sv) rfl (by simp [entL_i, entL_r, entL_c, entL_2, entL_n, h0, mX8_isAlike]) (by simp [ent, entL_i, entL_r, entL_c, entL_2, entL_n, h0, mX8_isAlike, List.replicate])
theorem u_X8_init {a : Nat} {x0 : Int32} {x1 : Int32} {x2 : Int32} {x3 : Int32} {x4 : Int32} {x5 : Int32}  : Run (EH sv) (Wa (EH sv)) (.inl mX8_init) [.ref a, .int x0, .int x1, .int x2, .int x3, .int x4, .int x5] h r (d + 1) K = Wa (EH sv) mX8_init 0 [.ref a, .int x0, .int x1, .int x2, .int x3, .int x4, .int x5] [] h r d K := Run_ua (hEH sv) rfl (Nat.le_of_ble_eq_true rfl) rfl
theorem u_X8_isUsable {a : Nat} {x0 : Int32} {x1 : Int32} {x2 : Int32}  : Run (EH sv) (Wa (EH sv)) (.inl mX8_isUsable) [.ref a, .int x0, .int x1, .int x2] h r (d + 1) K = Wa (EH sv) mX8_isUsable 0 [.ref a, .int x0, .int x1, .int x2] [] h r d K := Run_ua (hEH sv) rfl (Nat.le_of_ble_eq_true rfl) rfl
theorem u_X8_part {a : Nat} {x0 : Int32}  : Run (EH sv) (Wa (EH sv)) (.inl mX8_part) [.ref a, .int x0] h r (d + 1) K = Wa (EH sv) mX8_part 0 [.ref a, .int x0, uV] [] h r d K := Run_ua (hEH sv) rfl (Nat.le_of_ble_eq_true rfl) rfl
theorem u_X9_init {a : Nat} {x0 : Int32} {x1 : Int32} {x2 : Int32}  : Run (EH sv) (Wa (EH sv)) (.inl mX9_init) [.ref a, .int x0, .int x1, .int x2] h r (d + 1) K = Wa (EH sv) mX9_init 0 [.ref a, .int x0, .int x1, .int x2] [] h r d K := Run_ua (hEH sv) rfl (Nat.le_of_ble_eq_true rfl) rfl
theorem xx_J12_max {E : Evn} {pc nx : Nat} {L S : List Value} {Q : Post} {e : Nat} : AftA (Wa E) mJ12_max pc nx L S d Q (.inr e) h r = Q (.inr e) h r := Aft_xa rfl
theorem xx_J12_min {E : Evn} {pc nx : Nat} {L S : List Value} {Q : Post} {e : Nat} : AftA (Wa E) mJ12_min pc nx L S d Q (.inr e) h r = Q (.inr e) h r := Aft_xa rfl
theorem xx_J12_max_2 {E : Evn} {pc nx : Nat} {L S : List Value} {Q : Post} {e : Nat} : AftA (Wa E) mJ12_max_2 pc nx L S d Q (.inr e) h r = Q (.inr e) h r := Aft_xa rfl
theorem xx_J12_abs {E : Evn} {pc nx : Nat} {L S : List Value} {Q : Post} {e : Nat} : AftA (Wa E) mJ12_abs pc nx L S d Q (.inr e) h r = Q (.inr e) h r := Aft_xa rfl
theorem xx_J12_min_2 {E : Evn} {pc nx : Nat} {L S : List Value} {Q : Post} {e : Nat} : AftA (Wa E) mJ12_min_2 pc nx L S d Q (.inr e) h r = Q (.inr e) h r := Aft_xa rfl
theorem xx_J12_abs_2 {E : Evn} {pc nx : Nat} {L S : List Value} {Q : Post} {e : Nat} : AftA (Wa E) mJ12_abs_2 pc nx L S d Q (.inr e) h r = Q (.inr e) h r := Aft_xa rfl
theorem xx_J44_init {E : Evn} {pc nx : Nat} {L S : List Value} {Q : Post} {e : Nat} : AftA (Wa E) mJ44_init pc nx L S d Q (.inr e) h r = Q (.inr e) h r := Aft_xa rfl
theorem xx_X1_init {E : Evn} {pc nx : Nat} {L S : List Value} {Q : Post} {e : Nat} : AftA (Wa E) mX1_init pc nx L S d Q (.inr e) h r = Q (.inr e) h r := Aft_xa rfl
theorem xx_X1_volume {E : Evn} {pc nx : Nat} {L S : List Value} {Q : Post} {e : Nat} : AftA (Wa E) mX1_volume pc nx L S d Q (.inr e) h r = Q (.inr e) h r := Aft_xa rfl
theorem xx_X1_reserve {E : Evn} {pc nx : Nat} {L S : List Value} {Q : Post} {e : Nat} : AftA (Wa E) mX1_reserve pc nx L S d Q (.inr e) h r = Q (.inr e) h r := Aft_xa rfl
theorem xx_X1_circulation {E : Evn} {pc nx : Nat} {L S : List Value} {Q : Post} {e : Nat} : AftA (Wa E) mX1_circulation pc nx L S d Q (.inr e) h r = Q (.inr e) h r := Aft_xa rfl
theorem xx_X1_made {E : Evn} {pc nx : Nat} {L S : List Value} {Q : Post} {e : Nat} : AftA (Wa E) mX1_made pc nx L S d Q (.inr e) h r = Q (.inr e) h r := Aft_xa rfl
theorem xx_X1_blocks {E : Evn} {pc nx : Nat} {L S : List Value} {Q : Post} {e : Nat} : AftA (Wa E) mX1_blocks pc nx L S d Q (.inr e) h r = Q (.inr e) h r := Aft_xa rfl
theorem xx_X1_cancelled {E : Evn} {pc nx : Nat} {L S : List Value} {Q : Post} {e : Nat} : AftA (Wa E) mX1_cancelled pc nx L S d Q (.inr e) h r = Q (.inr e) h r := Aft_xa rfl
theorem xx_X1_entries {E : Evn} {pc nx : Nat} {L S : List Value} {Q : Post} {e : Nat} : AftA (Wa E) mX1_entries pc nx L S d Q (.inr e) h r = Q (.inr e) h r := Aft_xa rfl
theorem xx_X1_day {E : Evn} {pc nx : Nat} {L S : List Value} {Q : Post} {e : Nat} : AftA (Wa E) mX1_day pc nx L S d Q (.inr e) h r = Q (.inr e) h r := Aft_xa rfl
theorem xx_X1_isSound {E : Evn} {pc nx : Nat} {L S : List Value} {Q : Post} {e : Nat} : AftA (Wa E) mX1_isSound pc nx L S d Q (.inr e) h r = Q (.inr e) h r := Aft_xa rfl
theorem xx_X1_byJournal {E : Evn} {pc nx : Nat} {L S : List Value} {Q : Post} {e : Nat} : AftA (Wa E) mX1_byJournal pc nx L S d Q (.inr e) h r = Q (.inr e) h r := Aft_xa rfl
theorem xx_X1_cut {E : Evn} {pc nx : Nat} {L S : List Value} {Q : Post} {e : Nat} : AftA (Wa E) mX1_cut pc nx L S d Q (.inr e) h r = Q (.inr e) h r := Aft_xa rfl
theorem xx_X1_addAccount {E : Evn} {pc nx : Nat} {L S : List Value} {Q : Post} {e : Nat} : AftA (Wa E) mX1_addAccount pc nx L S d Q (.inr e) h r = Q (.inr e) h r := Aft_xa rfl
theorem xx_X1_isBetween {E : Evn} {pc nx : Nat} {L S : List Value} {Q : Post} {e : Nat} : AftA (Wa E) mX1_isBetween pc nx L S d Q (.inr e) h r = Q (.inr e) h r := Aft_xa rfl
theorem xx_X1_checkArgument {E : Evn} {pc nx : Nat} {L S : List Value} {Q : Post} {e : Nat} : AftA (Wa E) mX1_checkArgument pc nx L S d Q (.inr e) h r = Q (.inr e) h r := Aft_xa rfl
theorem xx_X1_checkState {E : Evn} {pc nx : Nat} {L S : List Value} {Q : Post} {e : Nat} : AftA (Wa E) mX1_checkState pc nx L S d Q (.inr e) h r = Q (.inr e) h r := Aft_xa rfl
theorem xx_X1_makePlant {E : Evn} {pc nx : Nat} {L S : List Value} {Q : Post} {e : Nat} : AftA (Wa E) mX1_makePlant pc nx L S d Q (.inr e) h r = Q (.inr e) h r := Aft_xa rfl
theorem xx_X1_accountFrom {E : Evn} {pc nx : Nat} {L S : List Value} {Q : Post} {e : Nat} : AftA (Wa E) mX1_accountFrom pc nx L S d Q (.inr e) h r = Q (.inr e) h r := Aft_xa rfl
theorem xx_X1_checkIndex {E : Evn} {pc nx : Nat} {L S : List Value} {Q : Post} {e : Nat} : AftA (Wa E) mX1_checkIndex pc nx L S d Q (.inr e) h r = Q (.inr e) h r := Aft_xa rfl
theorem xx_X1_report {E : Evn} {pc nx : Nat} {L S : List Value} {Q : Post} {e : Nat} : AftA (Wa E) mX1_report pc nx L S d Q (.inr e) h r = Q (.inr e) h r := Aft_xa rfl
theorem xx_X1_checkPossible {E : Evn} {pc nx : Nat} {L S : List Value} {Q : Post} {e : Nat} : AftA (Wa E) mX1_checkPossible pc nx L S d Q (.inr e) h r = Q (.inr e) h r := Aft_xa rfl
theorem xx_X1_tellActivity {E : Evn} {pc nx : Nat} {L S : List Value} {Q : Post} {e : Nat} : AftA (Wa E) mX1_tellActivity pc nx L S d Q (.inr e) h r = Q (.inr e) h r := Aft_xa rfl
theorem xx_X1_year {E : Evn} {pc nx : Nat} {L S : List Value} {Q : Post} {e : Nat} : AftA (Wa E) mX1_year pc nx L S d Q (.inr e) h r = Q (.inr e) h r := Aft_xa rfl
theorem xx_X1_emissionOf {E : Evn} {pc nx : Nat} {L S : List Value} {Q : Post} {e : Nat} : AftA (Wa E) mX1_emissionOf pc nx L S d Q (.inr e) h r = Q (.inr e) h r := Aft_xa rfl
theorem xx_X1_checkElement {E : Evn} {pc nx : Nat} {L S : List Value} {Q : Post} {e : Nat} : AftA (Wa E) mX1_checkElement pc nx L S d Q (.inr e) h r = Q (.inr e) h r := Aft_xa rfl
theorem xx_X1_owed {E : Evn} {pc nx : Nat} {L S : List Value} {Q : Post} {e : Nat} : AftA (Wa E) mX1_owed pc nx L S d Q (.inr e) h r = Q (.inr e) h r := Aft_xa rfl
theorem xx_X1_hasEnded {E : Evn} {pc nx : Nat} {L S : List Value} {Q : Post} {e : Nat} : AftA (Wa E) mX1_hasEnded pc nx L S d Q (.inr e) h r = Q (.inr e) h r := Aft_xa rfl
theorem xx_X1_freeShare {E : Evn} {pc nx : Nat} {L S : List Value} {Q : Post} {e : Nat} : AftA (Wa E) mX1_freeShare pc nx L S d Q (.inr e) h r = Q (.inr e) h r := Aft_xa rfl
theorem xx_X1_cash {E : Evn} {pc nx : Nat} {L S : List Value} {Q : Post} {e : Nat} : AftA (Wa E) mX1_cash pc nx L S d Q (.inr e) h r = Q (.inr e) h r := Aft_xa rfl
theorem xx_X1_setCap {E : Evn} {pc nx : Nat} {L S : List Value} {Q : Post} {e : Nat} : AftA (Wa E) mX1_setCap pc nx L S d Q (.inr e) h r = Q (.inr e) h r := Aft_xa rfl
theorem xx_X1_begin {E : Evn} {pc nx : Nat} {L S : List Value} {Q : Post} {e : Nat} : AftA (Wa E) mX1_begin pc nx L S d Q (.inr e) h r = Q (.inr e) h r := Aft_xa rfl
theorem xx_X1_cap {E : Evn} {pc nx : Nat} {L S : List Value} {Q : Post} {e : Nat} : AftA (Wa E) mX1_cap pc nx L S d Q (.inr e) h r = Q (.inr e) h r := Aft_xa rfl
theorem xx_X1_make {E : Evn} {pc nx : Nat} {L S : List Value} {Q : Post} {e : Nat} : AftA (Wa E) mX1_make pc nx L S d Q (.inr e) h r = Q (.inr e) h r := Aft_xa rfl
theorem xx_X1_setBounds {E : Evn} {pc nx : Nat} {L S : List Value} {Q : Post} {e : Nat} : AftA (Wa E) mX1_setBounds pc nx L S d Q (.inr e) h r = Q (.inr e) h r := Aft_xa rfl
theorem xx_X1_bid {E : Evn} {pc nx : Nat} {L S : List Value} {Q : Post} {e : Nat} : AftA (Wa E) mX1_bid pc nx L S d Q (.inr e) h r = Q (.inr e) h r := Aft_xa rfl
theorem xx_X1_auction {E : Evn} {pc nx : Nat} {L S : List Value} {Q : Post} {e : Nat} : AftA (Wa E) mX1_auction pc nx L S d Q (.inr e) h r = Q (.inr e) h r := Aft_xa rfl
theorem xx_X1_price {E : Evn} {pc nx : Nat} {L S : List Value} {Q : Post} {e : Nat} : AftA (Wa E) mX1_price pc nx L S d Q (.inr e) h r = Q (.inr e) h r := Aft_xa rfl
theorem xx_X1_transfer {E : Evn} {pc nx : Nat} {L S : List Value} {Q : Post} {e : Nat} : AftA (Wa E) mX1_transfer pc nx L S d Q (.inr e) h r = Q (.inr e) h r := Aft_xa rfl
theorem xx_X1_isKind {E : Evn} {pc nx : Nat} {L S : List Value} {Q : Post} {e : Nat} : AftA (Wa E) mX1_isKind pc nx L S d Q (.inr e) h r = Q (.inr e) h r := Aft_xa rfl
theorem xx_X1_usableOf {E : Evn} {pc nx : Nat} {L S : List Value} {Q : Post} {e : Nat} : AftA (Wa E) mX1_usableOf pc nx L S d Q (.inr e) h r = Q (.inr e) h r := Aft_xa rfl
theorem xx_X1_move {E : Evn} {pc nx : Nat} {L S : List Value} {Q : Post} {e : Nat} : AftA (Wa E) mX1_move pc nx L S d Q (.inr e) h r = Q (.inr e) h r := Aft_xa rfl
theorem xx_X1_taken {E : Evn} {pc nx : Nat} {L S : List Value} {Q : Post} {e : Nat} : AftA (Wa E) mX1_taken pc nx L S d Q (.inr e) h r = Q (.inr e) h r := Aft_xa rfl
theorem xx_X1_write {E : Evn} {pc nx : Nat} {L S : List Value} {Q : Post} {e : Nat} : AftA (Wa E) mX1_write pc nx L S d Q (.inr e) h r = Q (.inr e) h r := Aft_xa rfl
theorem xx_X1_confirm {E : Evn} {pc nx : Nat} {L S : List Value} {Q : Post} {e : Nat} : AftA (Wa E) mX1_confirm pc nx L S d Q (.inr e) h r = Q (.inr e) h r := Aft_xa rfl
theorem xx_X1_transferWith {E : Evn} {pc nx : Nat} {L S : List Value} {Q : Post} {e : Nat} : AftA (Wa E) mX1_transferWith pc nx L S d Q (.inr e) h r = Q (.inr e) h r := Aft_xa rfl
theorem xx_X1_trust {E : Evn} {pc nx : Nat} {L S : List Value} {Q : Post} {e : Nat} : AftA (Wa E) mX1_trust pc nx L S d Q (.inr e) h r = Q (.inr e) h r := Aft_xa rfl
theorem xx_X1_freeze {E : Evn} {pc nx : Nat} {L S : List Value} {Q : Post} {e : Nat} : AftA (Wa E) mX1_freeze pc nx L S d Q (.inr e) h r = Q (.inr e) h r := Aft_xa rfl
theorem xx_X1_piecesOf {E : Evn} {pc nx : Nat} {L S : List Value} {Q : Post} {e : Nat} : AftA (Wa E) mX1_piecesOf pc nx L S d Q (.inr e) h r = Q (.inr e) h r := Aft_xa rfl
theorem xx_X1_release {E : Evn} {pc nx : Nat} {L S : List Value} {Q : Post} {e : Nat} : AftA (Wa E) mX1_release pc nx L S d Q (.inr e) h r = Q (.inr e) h r := Aft_xa rfl
theorem xx_X1_stateOf {E : Evn} {pc nx : Nat} {L S : List Value} {Q : Post} {e : Nat} : AftA (Wa E) mX1_stateOf pc nx L S d Q (.inr e) h r = Q (.inr e) h r := Aft_xa rfl
theorem xx_X1_units {E : Evn} {pc nx : Nat} {L S : List Value} {Q : Post} {e : Nat} : AftA (Wa E) mX1_units pc nx L S d Q (.inr e) h r = Q (.inr e) h r := Aft_xa rfl
theorem xx_X1_usable {E : Evn} {pc nx : Nat} {L S : List Value} {Q : Post} {e : Nat} : AftA (Wa E) mX1_usable pc nx L S d Q (.inr e) h r = Q (.inr e) h r := Aft_xa rfl
theorem xx_X1_holderOf {E : Evn} {pc nx : Nat} {L S : List Value} {Q : Post} {e : Nat} : AftA (Wa E) mX1_holderOf pc nx L S d Q (.inr e) h r = Q (.inr e) h r := Aft_xa rfl
theorem xx_X1_pieceWith {E : Evn} {pc nx : Nat} {L S : List Value} {Q : Post} {e : Nat} : AftA (Wa E) mX1_pieceWith pc nx L S d Q (.inr e) h r = Q (.inr e) h r := Aft_xa rfl
theorem xx_X1_vintageOf {E : Evn} {pc nx : Nat} {L S : List Value} {Q : Post} {e : Nat} : AftA (Wa E) mX1_vintageOf pc nx L S d Q (.inr e) h r = Q (.inr e) h r := Aft_xa rfl
theorem xx_X1_isFrozen {E : Evn} {pc nx : Nat} {L S : List Value} {Q : Post} {e : Nat} : AftA (Wa E) mX1_isFrozen pc nx L S d Q (.inr e) h r = Q (.inr e) h r := Aft_xa rfl
theorem xx_X1_surrender {E : Evn} {pc nx : Nat} {L S : List Value} {Q : Post} {e : Nat} : AftA (Wa E) mX1_surrender pc nx L S d Q (.inr e) h r = Q (.inr e) h r := Aft_xa rfl
theorem xx_X1_surrendered {E : Evn} {pc nx : Nat} {L S : List Value} {Q : Post} {e : Nat} : AftA (Wa E) mX1_surrendered pc nx L S d Q (.inr e) h r = Q (.inr e) h r := Aft_xa rfl
theorem xx_X1_addProject {E : Evn} {pc nx : Nat} {L S : List Value} {Q : Post} {e : Nat} : AftA (Wa E) mX1_addProject pc nx L S d Q (.inr e) h r = Q (.inr e) h r := Aft_xa rfl
theorem xx_X1_verify {E : Evn} {pc nx : Nat} {L S : List Value} {Q : Post} {e : Nat} : AftA (Wa E) mX1_verify pc nx L S d Q (.inr e) h r = Q (.inr e) h r := Aft_xa rfl
theorem xx_X1_projectWith {E : Evn} {pc nx : Nat} {L S : List Value} {Q : Post} {e : Nat} : AftA (Wa E) mX1_projectWith pc nx L S d Q (.inr e) h r = Q (.inr e) h r := Aft_xa rfl
theorem xx_X1_up {E : Evn} {pc nx : Nat} {L S : List Value} {Q : Post} {e : Nat} : AftA (Wa E) mX1_up pc nx L S d Q (.inr e) h r = Q (.inr e) h r := Aft_xa rfl
theorem xx_X1_reverse {E : Evn} {pc nx : Nat} {L S : List Value} {Q : Post} {e : Nat} : AftA (Wa E) mX1_reverse pc nx L S d Q (.inr e) h r = Q (.inr e) h r := Aft_xa rfl
theorem xx_X1_addGood {E : Evn} {pc nx : Nat} {L S : List Value} {Q : Post} {e : Nat} : AftA (Wa E) mX1_addGood pc nx L S d Q (.inr e) h r = Q (.inr e) h r := Aft_xa rfl
theorem xx_X1_embedded {E : Evn} {pc nx : Nat} {L S : List Value} {Q : Post} {e : Nat} : AftA (Wa E) mX1_embedded pc nx L S d Q (.inr e) h r = Q (.inr e) h r := Aft_xa rfl
theorem xx_X1_importGood {E : Evn} {pc nx : Nat} {L S : List Value} {Q : Post} {e : Nat} : AftA (Wa E) mX1_importGood pc nx L S d Q (.inr e) h r = Q (.inr e) h r := Aft_xa rfl
theorem xx_X1_advance {E : Evn} {pc nx : Nat} {L S : List Value} {Q : Post} {e : Nat} : AftA (Wa E) mX1_advance pc nx L S d Q (.inr e) h r = Q (.inr e) h r := Aft_xa rfl
theorem xx_X1_end {E : Evn} {pc nx : Nat} {L S : List Value} {Q : Post} {e : Nat} : AftA (Wa E) mX1_end pc nx L S d Q (.inr e) h r = Q (.inr e) h r := Aft_xa rfl
theorem xx_X1_demand {E : Evn} {pc nx : Nat} {L S : List Value} {Q : Post} {e : Nat} : AftA (Wa E) mX1_demand pc nx L S d Q (.inr e) h r = Q (.inr e) h r := Aft_xa rfl
theorem xx_X1_offsetShare {E : Evn} {pc nx : Nat} {L S : List Value} {Q : Post} {e : Nat} : AftA (Wa E) mX1_offsetShare pc nx L S d Q (.inr e) h r = Q (.inr e) h r := Aft_xa rfl
theorem xx_X1_meanVintage {E : Evn} {pc nx : Nat} {L S : List Value} {Q : Post} {e : Nat} : AftA (Wa E) mX1_meanVintage pc nx L S d Q (.inr e) h r = Q (.inr e) h r := Aft_xa rfl
theorem xx_X10_isLocked {E : Evn} {pc nx : Nat} {L S : List Value} {Q : Post} {e : Nat} : AftA (Wa E) mX10_isLocked pc nx L S d Q (.inr e) h r = Q (.inr e) h r := Aft_xa rfl
theorem xx_X10_size {E : Evn} {pc nx : Nat} {L S : List Value} {Q : Post} {e : Nat} : AftA (Wa E) mX10_size pc nx L S d Q (.inr e) h r = Q (.inr e) h r := Aft_xa rfl
theorem xx_X10_init {E : Evn} {pc nx : Nat} {L S : List Value} {Q : Post} {e : Nat} : AftA (Wa E) mX10_init pc nx L S d Q (.inr e) h r = Q (.inr e) h r := Aft_xa rfl
theorem xx_X10_isLike {E : Evn} {pc nx : Nat} {L S : List Value} {Q : Post} {e : Nat} : AftA (Wa E) mX10_isLike pc nx L S d Q (.inr e) h r = Q (.inr e) h r := Aft_xa rfl
theorem xx_X11_init {E : Evn} {pc nx : Nat} {L S : List Value} {Q : Post} {e : Nat} : AftA (Wa E) mX11_init pc nx L S d Q (.inr e) h r = Q (.inr e) h r := Aft_xa rfl
theorem xx_X12_init {E : Evn} {pc nx : Nat} {L S : List Value} {Q : Post} {e : Nat} : AftA (Wa E) mX12_init pc nx L S d Q (.inr e) h r = Q (.inr e) h r := Aft_xa rfl
theorem xx_X12_cost {E : Evn} {pc nx : Nat} {L S : List Value} {Q : Post} {e : Nat} : AftA (Wa E) mX12_cost pc nx L S d Q (.inr e) h r = Q (.inr e) h r := Aft_xa rfl
theorem xx_X12_account {E : Evn} {pc nx : Nat} {L S : List Value} {Q : Post} {e : Nat} : AftA (Wa E) mX12_account pc nx L S d Q (.inr e) h r = Q (.inr e) h r := Aft_xa rfl
theorem xx_X12_price {E : Evn} {pc nx : Nat} {L S : List Value} {Q : Post} {e : Nat} : AftA (Wa E) mX12_price pc nx L S d Q (.inr e) h r = Q (.inr e) h r := Aft_xa rfl
theorem xx_X12_units {E : Evn} {pc nx : Nat} {L S : List Value} {Q : Post} {e : Nat} : AftA (Wa E) mX12_units pc nx L S d Q (.inr e) h r = Q (.inr e) h r := Aft_xa rfl
theorem xx_X13_init {E : Evn} {pc nx : Nat} {L S : List Value} {Q : Post} {e : Nat} : AftA (Wa E) mX13_init pc nx L S d Q (.inr e) h r = Q (.inr e) h r := Aft_xa rfl
theorem xx_X14_compare {E : Evn} {pc nx : Nat} {L S : List Value} {Q : Post} {e : Nat} : AftA (Wa E) mX14_compare pc nx L S d Q (.inr e) h r = Q (.inr e) h r := Aft_xa rfl
theorem xx_X14_compare_2 {E : Evn} {pc nx : Nat} {L S : List Value} {Q : Post} {e : Nat} : AftA (Wa E) mX14_compare_2 pc nx L S d Q (.inr e) h r = Q (.inr e) h r := Aft_xa rfl
theorem xx_X14_init {E : Evn} {pc nx : Nat} {L S : List Value} {Q : Post} {e : Nat} : AftA (Wa E) mX14_init pc nx L S d Q (.inr e) h r = Q (.inr e) h r := Aft_xa rfl
theorem xx_X15_init {E : Evn} {pc nx : Nat} {L S : List Value} {Q : Post} {e : Nat} : AftA (Wa E) mX15_init pc nx L S d Q (.inr e) h r = Q (.inr e) h r := Aft_xa rfl
theorem xx_X16_init {E : Evn} {pc nx : Nat} {L S : List Value} {Q : Post} {e : Nat} : AftA (Wa E) mX16_init pc nx L S d Q (.inr e) h r = Q (.inr e) h r := Aft_xa rfl
theorem xx_X16_offsets {E : Evn} {pc nx : Nat} {L S : List Value} {Q : Post} {e : Nat} : AftA (Wa E) mX16_offsets pc nx L S d Q (.inr e) h r = Q (.inr e) h r := Aft_xa rfl
theorem xx_X17_init {E : Evn} {pc nx : Nat} {L S : List Value} {Q : Post} {e : Nat} : AftA (Wa E) mX17_init pc nx L S d Q (.inr e) h r = Q (.inr e) h r := Aft_xa rfl
theorem xx_X18_init {E : Evn} {pc nx : Nat} {L S : List Value} {Q : Post} {e : Nat} : AftA (Wa E) mX18_init pc nx L S d Q (.inr e) h r = Q (.inr e) h r := Aft_xa rfl
theorem xx_X18_embedded {E : Evn} {pc nx : Nat} {L S : List Value} {Q : Post} {e : Nat} : AftA (Wa E) mX18_embedded pc nx L S d Q (.inr e) h r = Q (.inr e) h r := Aft_xa rfl
theorem xx_X19_init {E : Evn} {pc nx : Nat} {L S : List Value} {Q : Post} {e : Nat} : AftA (Wa E) mX19_init pc nx L S d Q (.inr e) h r = Q (.inr e) h r := Aft_xa rfl
theorem xx_X19_own {E : Evn} {pc nx : Nat} {L S : List Value} {Q : Post} {e : Nat} : AftA (Wa E) mX19_own pc nx L S d Q (.inr e) h r = Q (.inr e) h r := Aft_xa rfl
theorem xx_X19_input {E : Evn} {pc nx : Nat} {L S : List Value} {Q : Post} {e : Nat} : AftA (Wa E) mX19_input pc nx L S d Q (.inr e) h r = Q (.inr e) h r := Aft_xa rfl
theorem xx_X19_amount {E : Evn} {pc nx : Nat} {L S : List Value} {Q : Post} {e : Nat} : AftA (Wa E) mX19_amount pc nx L S d Q (.inr e) h r = Q (.inr e) h r := Aft_xa rfl
theorem xx_X2_init {E : Evn} {pc nx : Nat} {L S : List Value} {Q : Post} {e : Nat} : AftA (Wa E) mX2_init pc nx L S d Q (.inr e) h r = Q (.inr e) h r := Aft_xa rfl
theorem xx_X2_compare {E : Evn} {pc nx : Nat} {L S : List Value} {Q : Post} {e : Nat} : AftA (Wa E) mX2_compare pc nx L S d Q (.inr e) h r = Q (.inr e) h r := Aft_xa rfl
theorem xx_X2_compare_2 {E : Evn} {pc nx : Nat} {L S : List Value} {Q : Post} {e : Nat} : AftA (Wa E) mX2_compare_2 pc nx L S d Q (.inr e) h r = Q (.inr e) h r := Aft_xa rfl
theorem xx_X20_ended {E : Evn} {pc nx : Nat} {L S : List Value} {Q : Post} {e : Nat} : AftA (Wa E) mX20_ended pc nx L S d Q (.inr e) h r = Q (.inr e) h r := Aft_xa rfl
theorem xx_X3_init {E : Evn} {pc nx : Nat} {L S : List Value} {Q : Post} {e : Nat} : AftA (Wa E) mX3_init pc nx L S d Q (.inr e) h r = Q (.inr e) h r := Aft_xa rfl
theorem xx_X3_end {E : Evn} {pc nx : Nat} {L S : List Value} {Q : Post} {e : Nat} : AftA (Wa E) mX3_end pc nx L S d Q (.inr e) h r = Q (.inr e) h r := Aft_xa rfl
theorem xx_X4_init {E : Evn} {pc nx : Nat} {L S : List Value} {Q : Post} {e : Nat} : AftA (Wa E) mX4_init pc nx L S d Q (.inr e) h r = Q (.inr e) h r := Aft_xa rfl
theorem xx_X4_owed {E : Evn} {pc nx : Nat} {L S : List Value} {Q : Post} {e : Nat} : AftA (Wa E) mX4_owed pc nx L S d Q (.inr e) h r = Q (.inr e) h r := Aft_xa rfl
theorem xx_X4_clear {E : Evn} {pc nx : Nat} {L S : List Value} {Q : Post} {e : Nat} : AftA (Wa E) mX4_clear pc nx L S d Q (.inr e) h r = Q (.inr e) h r := Aft_xa rfl
theorem xx_X5_init {E : Evn} {pc nx : Nat} {L S : List Value} {Q : Post} {e : Nat} : AftA (Wa E) mX5_init pc nx L S d Q (.inr e) h r = Q (.inr e) h r := Aft_xa rfl
theorem xx_X5_thrown {E : Evn} {pc nx : Nat} {L S : List Value} {Q : Post} {e : Nat} : AftA (Wa E) mX5_thrown pc nx L S d Q (.inr e) h r = Q (.inr e) h r := Aft_xa rfl
theorem xx_X5_addAccount {E : Evn} {pc nx : Nat} {L S : List Value} {Q : Post} {e : Nat} : AftA (Wa E) mX5_addAccount pc nx L S d Q (.inr e) h r = Q (.inr e) h r := Aft_xa rfl
theorem xx_X5_in {E : Evn} {pc nx : Nat} {L S : List Value} {Q : Post} {e : Nat} : AftA (Wa E) mX5_in pc nx L S d Q (.inr e) h r = Q (.inr e) h r := Aft_xa rfl
theorem xx_X5_makePlant {E : Evn} {pc nx : Nat} {L S : List Value} {Q : Post} {e : Nat} : AftA (Wa E) mX5_makePlant pc nx L S d Q (.inr e) h r = Q (.inr e) h r := Aft_xa rfl
theorem xx_X5_isOther {E : Evn} {pc nx : Nat} {L S : List Value} {Q : Post} {e : Nat} : AftA (Wa E) mX5_isOther pc nx L S d Q (.inr e) h r = Q (.inr e) h r := Aft_xa rfl
theorem xx_X5_report {E : Evn} {pc nx : Nat} {L S : List Value} {Q : Post} {e : Nat} : AftA (Wa E) mX5_report pc nx L S d Q (.inr e) h r = Q (.inr e) h r := Aft_xa rfl
theorem xx_X5_tellActivity {E : Evn} {pc nx : Nat} {L S : List Value} {Q : Post} {e : Nat} : AftA (Wa E) mX5_tellActivity pc nx L S d Q (.inr e) h r = Q (.inr e) h r := Aft_xa rfl
theorem xx_X5_year {E : Evn} {pc nx : Nat} {L S : List Value} {Q : Post} {e : Nat} : AftA (Wa E) mX5_year pc nx L S d Q (.inr e) h r = Q (.inr e) h r := Aft_xa rfl
theorem xx_X5_emissionOf {E : Evn} {pc nx : Nat} {L S : List Value} {Q : Post} {e : Nat} : AftA (Wa E) mX5_emissionOf pc nx L S d Q (.inr e) h r = Q (.inr e) h r := Aft_xa rfl
theorem xx_X5_hasEnded {E : Evn} {pc nx : Nat} {L S : List Value} {Q : Post} {e : Nat} : AftA (Wa E) mX5_hasEnded pc nx L S d Q (.inr e) h r = Q (.inr e) h r := Aft_xa rfl
theorem xx_X5_owed {E : Evn} {pc nx : Nat} {L S : List Value} {Q : Post} {e : Nat} : AftA (Wa E) mX5_owed pc nx L S d Q (.inr e) h r = Q (.inr e) h r := Aft_xa rfl
theorem xx_X5_freeShare {E : Evn} {pc nx : Nat} {L S : List Value} {Q : Post} {e : Nat} : AftA (Wa E) mX5_freeShare pc nx L S d Q (.inr e) h r = Q (.inr e) h r := Aft_xa rfl
theorem xx_X5_cash {E : Evn} {pc nx : Nat} {L S : List Value} {Q : Post} {e : Nat} : AftA (Wa E) mX5_cash pc nx L S d Q (.inr e) h r = Q (.inr e) h r := Aft_xa rfl
theorem xx_X5_transfer {E : Evn} {pc nx : Nat} {L S : List Value} {Q : Post} {e : Nat} : AftA (Wa E) mX5_transfer pc nx L S d Q (.inr e) h r = Q (.inr e) h r := Aft_xa rfl
theorem xx_X5_isKind {E : Evn} {pc nx : Nat} {L S : List Value} {Q : Post} {e : Nat} : AftA (Wa E) mX5_isKind pc nx L S d Q (.inr e) h r = Q (.inr e) h r := Aft_xa rfl
theorem xx_X5_usableOf {E : Evn} {pc nx : Nat} {L S : List Value} {Q : Post} {e : Nat} : AftA (Wa E) mX5_usableOf pc nx L S d Q (.inr e) h r = Q (.inr e) h r := Aft_xa rfl
theorem xx_X5_isUsable {E : Evn} {pc nx : Nat} {L S : List Value} {Q : Post} {e : Nat} : AftA (Wa E) mX5_isUsable pc nx L S d Q (.inr e) h r = Q (.inr e) h r := Aft_xa rfl
theorem xx_X5_move {E : Evn} {pc nx : Nat} {L S : List Value} {Q : Post} {e : Nat} : AftA (Wa E) mX5_move pc nx L S d Q (.inr e) h r = Q (.inr e) h r := Aft_xa rfl
theorem xx_X5_take {E : Evn} {pc nx : Nat} {L S : List Value} {Q : Post} {e : Nat} : AftA (Wa E) mX5_take pc nx L S d Q (.inr e) h r = Q (.inr e) h r := Aft_xa rfl
theorem xx_X5_next {E : Evn} {pc nx : Nat} {L S : List Value} {Q : Post} {e : Nat} : AftA (Wa E) mX5_next pc nx L S d Q (.inr e) h r = Q (.inr e) h r := Aft_xa rfl
theorem xx_X5_cut {E : Evn} {pc nx : Nat} {L S : List Value} {Q : Post} {e : Nat} : AftA (Wa E) mX5_cut pc nx L S d Q (.inr e) h r = Q (.inr e) h r := Aft_xa rfl
theorem xx_X5_confirm {E : Evn} {pc nx : Nat} {L S : List Value} {Q : Post} {e : Nat} : AftA (Wa E) mX5_confirm pc nx L S d Q (.inr e) h r = Q (.inr e) h r := Aft_xa rfl
theorem xx_X5_isTransfer {E : Evn} {pc nx : Nat} {L S : List Value} {Q : Post} {e : Nat} : AftA (Wa E) mX5_isTransfer pc nx L S d Q (.inr e) h r = Q (.inr e) h r := Aft_xa rfl
theorem xx_X5_trust {E : Evn} {pc nx : Nat} {L S : List Value} {Q : Post} {e : Nat} : AftA (Wa E) mX5_trust pc nx L S d Q (.inr e) h r = Q (.inr e) h r := Aft_xa rfl
theorem xx_X5_freeze {E : Evn} {pc nx : Nat} {L S : List Value} {Q : Post} {e : Nat} : AftA (Wa E) mX5_freeze pc nx L S d Q (.inr e) h r = Q (.inr e) h r := Aft_xa rfl
theorem xx_X5_freeze_2 {E : Evn} {pc nx : Nat} {L S : List Value} {Q : Post} {e : Nat} : AftA (Wa E) mX5_freeze_2 pc nx L S d Q (.inr e) h r = Q (.inr e) h r := Aft_xa rfl
theorem xx_X5_release {E : Evn} {pc nx : Nat} {L S : List Value} {Q : Post} {e : Nat} : AftA (Wa E) mX5_release pc nx L S d Q (.inr e) h r = Q (.inr e) h r := Aft_xa rfl
theorem xx_X5_stateOf {E : Evn} {pc nx : Nat} {L S : List Value} {Q : Post} {e : Nat} : AftA (Wa E) mX5_stateOf pc nx L S d Q (.inr e) h r = Q (.inr e) h r := Aft_xa rfl
theorem xx_X5_units {E : Evn} {pc nx : Nat} {L S : List Value} {Q : Post} {e : Nat} : AftA (Wa E) mX5_units pc nx L S d Q (.inr e) h r = Q (.inr e) h r := Aft_xa rfl
theorem xx_X5_wrongHolder {E : Evn} {pc nx : Nat} {L S : List Value} {Q : Post} {e : Nat} : AftA (Wa E) mX5_wrongHolder pc nx L S d Q (.inr e) h r = Q (.inr e) h r := Aft_xa rfl
theorem xx_X5_usable {E : Evn} {pc nx : Nat} {L S : List Value} {Q : Post} {e : Nat} : AftA (Wa E) mX5_usable pc nx L S d Q (.inr e) h r = Q (.inr e) h r := Aft_xa rfl
theorem xx_X5_made {E : Evn} {pc nx : Nat} {L S : List Value} {Q : Post} {e : Nat} : AftA (Wa E) mX5_made pc nx L S d Q (.inr e) h r = Q (.inr e) h r := Aft_xa rfl
theorem xx_X5_plain {E : Evn} {pc nx : Nat} {L S : List Value} {Q : Post} {e : Nat} : AftA (Wa E) mX5_plain pc nx L S d Q (.inr e) h r = Q (.inr e) h r := Aft_xa rfl
theorem xx_X5_holderOf {E : Evn} {pc nx : Nat} {L S : List Value} {Q : Post} {e : Nat} : AftA (Wa E) mX5_holderOf pc nx L S d Q (.inr e) h r = Q (.inr e) h r := Aft_xa rfl
theorem xx_X5_rowOf {E : Evn} {pc nx : Nat} {L S : List Value} {Q : Post} {e : Nat} : AftA (Wa E) mX5_rowOf pc nx L S d Q (.inr e) h r = Q (.inr e) h r := Aft_xa rfl
theorem xx_X5_vintageOf {E : Evn} {pc nx : Nat} {L S : List Value} {Q : Post} {e : Nat} : AftA (Wa E) mX5_vintageOf pc nx L S d Q (.inr e) h r = Q (.inr e) h r := Aft_xa rfl
theorem xx_X5_isFrozen {E : Evn} {pc nx : Nat} {L S : List Value} {Q : Post} {e : Nat} : AftA (Wa E) mX5_isFrozen pc nx L S d Q (.inr e) h r = Q (.inr e) h r := Aft_xa rfl
theorem xx_X5_blocks {E : Evn} {pc nx : Nat} {L S : List Value} {Q : Post} {e : Nat} : AftA (Wa E) mX5_blocks pc nx L S d Q (.inr e) h r = Q (.inr e) h r := Aft_xa rfl
theorem xx_X5_surrender {E : Evn} {pc nx : Nat} {L S : List Value} {Q : Post} {e : Nat} : AftA (Wa E) mX5_surrender pc nx L S d Q (.inr e) h r = Q (.inr e) h r := Aft_xa rfl
theorem xx_X5_surrendered {E : Evn} {pc nx : Nat} {L S : List Value} {Q : Post} {e : Nat} : AftA (Wa E) mX5_surrendered pc nx L S d Q (.inr e) h r = Q (.inr e) h r := Aft_xa rfl
theorem xx_X5_cancelled {E : Evn} {pc nx : Nat} {L S : List Value} {Q : Post} {e : Nat} : AftA (Wa E) mX5_cancelled pc nx L S d Q (.inr e) h r = Q (.inr e) h r := Aft_xa rfl
theorem xx_X5_entries {E : Evn} {pc nx : Nat} {L S : List Value} {Q : Post} {e : Nat} : AftA (Wa E) mX5_entries pc nx L S d Q (.inr e) h r = Q (.inr e) h r := Aft_xa rfl
theorem xx_X5_setCap {E : Evn} {pc nx : Nat} {L S : List Value} {Q : Post} {e : Nat} : AftA (Wa E) mX5_setCap pc nx L S d Q (.inr e) h r = Q (.inr e) h r := Aft_xa rfl
theorem xx_X5_beginYear {E : Evn} {pc nx : Nat} {L S : List Value} {Q : Post} {e : Nat} : AftA (Wa E) mX5_beginYear pc nx L S d Q (.inr e) h r = Q (.inr e) h r := Aft_xa rfl
theorem xx_X5_cap {E : Evn} {pc nx : Nat} {L S : List Value} {Q : Post} {e : Nat} : AftA (Wa E) mX5_cap pc nx L S d Q (.inr e) h r = Q (.inr e) h r := Aft_xa rfl
theorem xx_X5_make {E : Evn} {pc nx : Nat} {L S : List Value} {Q : Post} {e : Nat} : AftA (Wa E) mX5_make pc nx L S d Q (.inr e) h r = Q (.inr e) h r := Aft_xa rfl
theorem xx_X5_circulating {E : Evn} {pc nx : Nat} {L S : List Value} {Q : Post} {e : Nat} : AftA (Wa E) mX5_circulating pc nx L S d Q (.inr e) h r = Q (.inr e) h r := Aft_xa rfl
theorem xx_X5_setBounds {E : Evn} {pc nx : Nat} {L S : List Value} {Q : Post} {e : Nat} : AftA (Wa E) mX5_setBounds pc nx L S d Q (.inr e) h r = Q (.inr e) h r := Aft_xa rfl
theorem xx_X5_bid {E : Evn} {pc nx : Nat} {L S : List Value} {Q : Post} {e : Nat} : AftA (Wa E) mX5_bid pc nx L S d Q (.inr e) h r = Q (.inr e) h r := Aft_xa rfl
theorem xx_X5_auction {E : Evn} {pc nx : Nat} {L S : List Value} {Q : Post} {e : Nat} : AftA (Wa E) mX5_auction pc nx L S d Q (.inr e) h r = Q (.inr e) h r := Aft_xa rfl
theorem xx_X5_price {E : Evn} {pc nx : Nat} {L S : List Value} {Q : Post} {e : Nat} : AftA (Wa E) mX5_price pc nx L S d Q (.inr e) h r = Q (.inr e) h r := Aft_xa rfl
theorem xx_X5_volume {E : Evn} {pc nx : Nat} {L S : List Value} {Q : Post} {e : Nat} : AftA (Wa E) mX5_volume pc nx L S d Q (.inr e) h r = Q (.inr e) h r := Aft_xa rfl
theorem xx_X5_reserve {E : Evn} {pc nx : Nat} {L S : List Value} {Q : Post} {e : Nat} : AftA (Wa E) mX5_reserve pc nx L S d Q (.inr e) h r = Q (.inr e) h r := Aft_xa rfl
theorem xx_X5_circulation {E : Evn} {pc nx : Nat} {L S : List Value} {Q : Post} {e : Nat} : AftA (Wa E) mX5_circulation pc nx L S d Q (.inr e) h r = Q (.inr e) h r := Aft_xa rfl
theorem xx_X5_addProject {E : Evn} {pc nx : Nat} {L S : List Value} {Q : Post} {e : Nat} : AftA (Wa E) mX5_addProject pc nx L S d Q (.inr e) h r = Q (.inr e) h r := Aft_xa rfl
theorem xx_X5_verify {E : Evn} {pc nx : Nat} {L S : List Value} {Q : Post} {e : Nat} : AftA (Wa E) mX5_verify pc nx L S d Q (.inr e) h r = Q (.inr e) h r := Aft_xa rfl
theorem xx_X5_isProject {E : Evn} {pc nx : Nat} {L S : List Value} {Q : Post} {e : Nat} : AftA (Wa E) mX5_isProject pc nx L S d Q (.inr e) h r = Q (.inr e) h r := Aft_xa rfl
theorem xx_X5_up {E : Evn} {pc nx : Nat} {L S : List Value} {Q : Post} {e : Nat} : AftA (Wa E) mX5_up pc nx L S d Q (.inr e) h r = Q (.inr e) h r := Aft_xa rfl
theorem xx_X5_reverse {E : Evn} {pc nx : Nat} {L S : List Value} {Q : Post} {e : Nat} : AftA (Wa E) mX5_reverse pc nx L S d Q (.inr e) h r = Q (.inr e) h r := Aft_xa rfl
theorem xx_X5_addGood {E : Evn} {pc nx : Nat} {L S : List Value} {Q : Post} {e : Nat} : AftA (Wa E) mX5_addGood pc nx L S d Q (.inr e) h r = Q (.inr e) h r := Aft_xa rfl
theorem xx_X5_isGood {E : Evn} {pc nx : Nat} {L S : List Value} {Q : Post} {e : Nat} : AftA (Wa E) mX5_isGood pc nx L S d Q (.inr e) h r = Q (.inr e) h r := Aft_xa rfl
theorem xx_X5_embedded {E : Evn} {pc nx : Nat} {L S : List Value} {Q : Post} {e : Nat} : AftA (Wa E) mX5_embedded pc nx L S d Q (.inr e) h r = Q (.inr e) h r := Aft_xa rfl
theorem xx_X5_embeddedIn {E : Evn} {pc nx : Nat} {L S : List Value} {Q : Post} {e : Nat} : AftA (Wa E) mX5_embeddedIn pc nx L S d Q (.inr e) h r = Q (.inr e) h r := Aft_xa rfl
theorem xx_X5_importGood {E : Evn} {pc nx : Nat} {L S : List Value} {Q : Post} {e : Nat} : AftA (Wa E) mX5_importGood pc nx L S d Q (.inr e) h r = Q (.inr e) h r := Aft_xa rfl
theorem xx_X5_advance {E : Evn} {pc nx : Nat} {L S : List Value} {Q : Post} {e : Nat} : AftA (Wa E) mX5_advance pc nx L S d Q (.inr e) h r = Q (.inr e) h r := Aft_xa rfl
theorem xx_X5_endYear {E : Evn} {pc nx : Nat} {L S : List Value} {Q : Post} {e : Nat} : AftA (Wa E) mX5_endYear pc nx L S d Q (.inr e) h r = Q (.inr e) h r := Aft_xa rfl
theorem xx_X5_emitted {E : Evn} {pc nx : Nat} {L S : List Value} {Q : Post} {e : Nat} : AftA (Wa E) mX5_emitted pc nx L S d Q (.inr e) h r = Q (.inr e) h r := Aft_xa rfl
theorem xx_X5_fallDue {E : Evn} {pc nx : Nat} {L S : List Value} {Q : Post} {e : Nat} : AftA (Wa E) mX5_fallDue pc nx L S d Q (.inr e) h r = Q (.inr e) h r := Aft_xa rfl
theorem xx_X5_day {E : Evn} {pc nx : Nat} {L S : List Value} {Q : Post} {e : Nat} : AftA (Wa E) mX5_day pc nx L S d Q (.inr e) h r = Q (.inr e) h r := Aft_xa rfl
theorem xx_X5_offsetShare {E : Evn} {pc nx : Nat} {L S : List Value} {Q : Post} {e : Nat} : AftA (Wa E) mX5_offsetShare pc nx L S d Q (.inr e) h r = Q (.inr e) h r := Aft_xa rfl
theorem xx_X5_meanVintage {E : Evn} {pc nx : Nat} {L S : List Value} {Q : Post} {e : Nat} : AftA (Wa E) mX5_meanVintage pc nx L S d Q (.inr e) h r = Q (.inr e) h r := Aft_xa rfl
theorem xx_X5_isSound {E : Evn} {pc nx : Nat} {L S : List Value} {Q : Post} {e : Nat} : AftA (Wa E) mX5_isSound pc nx L S d Q (.inr e) h r = Q (.inr e) h r := Aft_xa rfl
theorem xx_X6_init {E : Evn} {pc nx : Nat} {L S : List Value} {Q : Post} {e : Nat} : AftA (Wa E) mX6_init pc nx L S d Q (.inr e) h r = Q (.inr e) h r := Aft_xa rfl
theorem xx_X7_init {E : Evn} {pc nx : Nat} {L S : List Value} {Q : Post} {e : Nat} : AftA (Wa E) mX7_init pc nx L S d Q (.inr e) h r = Q (.inr e) h r := Aft_xa rfl
theorem xx_X7_average {E : Evn} {pc nx : Nat} {L S : List Value} {Q : Post} {e : Nat} : AftA (Wa E) mX7_average pc nx L S d Q (.inr e) h r = Q (.inr e) h r := Aft_xa rfl
theorem xx_X7_owed {E : Evn} {pc nx : Nat} {L S : List Value} {Q : Post} {e : Nat} : AftA (Wa E) mX7_owed pc nx L S d Q (.inr e) h r = Q (.inr e) h r := Aft_xa rfl
theorem xx_X7_clear {E : Evn} {pc nx : Nat} {L S : List Value} {Q : Post} {e : Nat} : AftA (Wa E) mX7_clear pc nx L S d Q (.inr e) h r = Q (.inr e) h r := Aft_xa rfl
theorem xx_X8_size {E : Evn} {pc nx : Nat} {L S : List Value} {Q : Post} {e : Nat} : AftA (Wa E) mX8_size pc nx L S d Q (.inr e) h r = Q (.inr e) h r := Aft_xa rfl
theorem xx_X8_isAlike {E : Evn} {pc nx : Nat} {L S : List Value} {Q : Post} {e : Nat} : AftA (Wa E) mX8_isAlike pc nx L S d Q (.inr e) h r = Q (.inr e) h r := Aft_xa rfl
theorem xx_X8_init {E : Evn} {pc nx : Nat} {L S : List Value} {Q : Post} {e : Nat} : AftA (Wa E) mX8_init pc nx L S d Q (.inr e) h r = Q (.inr e) h r := Aft_xa rfl
theorem xx_X8_isUsable {E : Evn} {pc nx : Nat} {L S : List Value} {Q : Post} {e : Nat} : AftA (Wa E) mX8_isUsable pc nx L S d Q (.inr e) h r = Q (.inr e) h r := Aft_xa rfl
theorem xx_X8_part {E : Evn} {pc nx : Nat} {L S : List Value} {Q : Post} {e : Nat} : AftA (Wa E) mX8_part pc nx L S d Q (.inr e) h r = Q (.inr e) h r := Aft_xa rfl
theorem xx_X9_init {E : Evn} {pc nx : Nat} {L S : List Value} {Q : Post} {e : Nat} : AftA (Wa E) mX9_init pc nx L S d Q (.inr e) h r = Q (.inr e) h r := Aft_xa rfl
end
