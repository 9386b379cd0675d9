set_option maxRecDepth 100000
def dkwX0_count_0 : List UInt8 := [44, 3, 42, 27, 182, 0, 7, 133, 80, 167, 0, 6, 78, 4, 172, 3, 172]
abbrev dktX0_count_0 : List UInt8 := dkwX0_count_0 ++ []
theorem dksX0_count_0 : cX0_count.data.toList.drop 0 = dktX0_count_0 := by decide +kernel
theorem dX0_count_0 : decode cX0_count 0 = .ok (.aload_n 2, 1) := dk_44 (dk_at dksX0_count_0 0 rfl rfl)
theorem dX0_count_1 : decode cX0_count 1 = .ok (.iconst 0, 1) := dk_3 (dk_at dksX0_count_0 1 rfl rfl)
theorem dX0_count_2 : decode cX0_count 2 = .ok (.aload_n 0, 1) := dk_42 (dk_at dksX0_count_0 2 rfl rfl)
theorem dX0_count_3 : decode cX0_count 3 = .ok (.iload_n 1, 1) := dk_27 (dk_at dksX0_count_0 3 rfl rfl)
theorem dX0_count_4 : decode cX0_count 4 = .ok (.invokevirtual 7, 3) := dk_182 0 7 (dk_at dksX0_count_0 4 rfl rfl)
theorem dX0_count_7 : decode cX0_count 7 = .ok (.i2l, 1) := dk_133 (dk_at dksX0_count_0 7 rfl rfl)
theorem dX0_count_8 : decode cX0_count 8 = .ok (.lastore, 1) := dk_80 (dk_at dksX0_count_0 8 rfl rfl)
theorem dX0_count_9 : decode cX0_count 9 = .ok (.goto 6, 3) := dk_167 0 6 (dk_at dksX0_count_0 9 rfl rfl)
theorem dX0_count_12 : decode cX0_count 12 = .ok (.astore_n 3, 1) := dk_78 (dk_at dksX0_count_0 12 rfl rfl)
theorem dX0_count_13 : decode cX0_count 13 = .ok (.iconst 1, 1) := dk_4 (dk_at dksX0_count_0 13 rfl rfl)
theorem dX0_count_14 : decode cX0_count 14 = .ok (.ireturn, 1) := dk_172 (dk_at dksX0_count_0 14 rfl rfl)
theorem dX0_count_15 : decode cX0_count 15 = .ok (.iconst 0, 1) := dk_3 (dk_at dksX0_count_0 15 rfl rfl)
theorem dX0_count_16 : decode cX0_count 16 = .ok (.ireturn, 1) := dk_172 (dk_at dksX0_count_0 16 rfl rfl)
def dkwX0_pile_0 : List UInt8 := [44, 3, 42, 27, 182, 0, 15, 133, 80, 167, 0, 6, 78, 4, 172, 3, 172]
abbrev dktX0_pile_0 : List UInt8 := dkwX0_pile_0 ++ []
theorem dksX0_pile_0 : cX0_pile.data.toList.drop 0 = dktX0_pile_0 := by decide +kernel
theorem dX0_pile_0 : decode cX0_pile 0 = .ok (.aload_n 2, 1) := dk_44 (dk_at dksX0_pile_0 0 rfl rfl)
theorem dX0_pile_1 : decode cX0_pile 1 = .ok (.iconst 0, 1) := dk_3 (dk_at dksX0_pile_0 1 rfl rfl)
theorem dX0_pile_2 : decode cX0_pile 2 = .ok (.aload_n 0, 1) := dk_42 (dk_at dksX0_pile_0 2 rfl rfl)
theorem dX0_pile_3 : decode cX0_pile 3 = .ok (.iload_n 1, 1) := dk_27 (dk_at dksX0_pile_0 3 rfl rfl)
theorem dX0_pile_4 : decode cX0_pile 4 = .ok (.invokevirtual 15, 3) := dk_182 0 15 (dk_at dksX0_pile_0 4 rfl rfl)
theorem dX0_pile_7 : decode cX0_pile 7 = .ok (.i2l, 1) := dk_133 (dk_at dksX0_pile_0 7 rfl rfl)
theorem dX0_pile_8 : decode cX0_pile 8 = .ok (.lastore, 1) := dk_80 (dk_at dksX0_pile_0 8 rfl rfl)
theorem dX0_pile_9 : decode cX0_pile 9 = .ok (.goto 6, 3) := dk_167 0 6 (dk_at dksX0_pile_0 9 rfl rfl)
theorem dX0_pile_12 : decode cX0_pile 12 = .ok (.astore_n 3, 1) := dk_78 (dk_at dksX0_pile_0 12 rfl rfl)
theorem dX0_pile_13 : decode cX0_pile 13 = .ok (.iconst 1, 1) := dk_4 (dk_at dksX0_pile_0 13 rfl rfl)
theorem dX0_pile_14 : decode cX0_pile 14 = .ok (.ireturn, 1) := dk_172 (dk_at dksX0_pile_0 14 rfl rfl)
theorem dX0_pile_15 : decode cX0_pile 15 = .ok (.iconst 0, 1) := dk_3 (dk_at dksX0_pile_0 15 rfl rfl)
theorem dX0_pile_16 : decode cX0_pile 16 = .ok (.ireturn, 1) := dk_172 (dk_at dksX0_pile_0 16 rfl rfl)
def dkwX0_hand_0 : List UInt8 := [44, 3, 42, 27, 182, 0, 20, 133, 80, 167, 0, 6, 78, 4, 172, 3, 172]
abbrev dktX0_hand_0 : List UInt8 := dkwX0_hand_0 ++ []
theorem dksX0_hand_0 : cX0_hand.data.toList.drop 0 = dktX0_hand_0 := by decide +kernel
theorem dX0_hand_0 : decode cX0_hand 0 = .ok (.aload_n 2, 1) := dk_44 (dk_at dksX0_hand_0 0 rfl rfl)
theorem dX0_hand_1 : decode cX0_hand 1 = .ok (.iconst 0, 1) := dk_3 (dk_at dksX0_hand_0 1 rfl rfl)
theorem dX0_hand_2 : decode cX0_hand 2 = .ok (.aload_n 0, 1) := dk_42 (dk_at dksX0_hand_0 2 rfl rfl)
theorem dX0_hand_3 : decode cX0_hand 3 = .ok (.iload_n 1, 1) := dk_27 (dk_at dksX0_hand_0 3 rfl rfl)
theorem dX0_hand_4 : decode cX0_hand 4 = .ok (.invokevirtual 20, 3) := dk_182 0 20 (dk_at dksX0_hand_0 4 rfl rfl)
theorem dX0_hand_7 : decode cX0_hand 7 = .ok (.i2l, 1) := dk_133 (dk_at dksX0_hand_0 7 rfl rfl)
theorem dX0_hand_8 : decode cX0_hand 8 = .ok (.lastore, 1) := dk_80 (dk_at dksX0_hand_0 8 rfl rfl)
theorem dX0_hand_9 : decode cX0_hand 9 = .ok (.goto 6, 3) := dk_167 0 6 (dk_at dksX0_hand_0 9 rfl rfl)
theorem dX0_hand_12 : decode cX0_hand 12 = .ok (.astore_n 3, 1) := dk_78 (dk_at dksX0_hand_0 12 rfl rfl)
theorem dX0_hand_13 : decode cX0_hand 13 = .ok (.iconst 1, 1) := dk_4 (dk_at dksX0_hand_0 13 rfl rfl)
theorem dX0_hand_14 : decode cX0_hand 14 = .ok (.ireturn, 1) := dk_172 (dk_at dksX0_hand_0 14 rfl rfl)
theorem dX0_hand_15 : decode cX0_hand 15 = .ok (.iconst 0, 1) := dk_3 (dk_at dksX0_hand_0 15 rfl rfl)
theorem dX0_hand_16 : decode cX0_hand 16 = .ok (.ireturn, 1) := dk_172 (dk_at dksX0_hand_0 16 rfl rfl)
def dkwX0_card_0 : List UInt8 := [45, 3, 42, 27, 28, 182, 0, 23, 133, 80, 167, 0, 7, 58, 4, 4, 172, 3, 172]
abbrev dktX0_card_0 : List UInt8 := dkwX0_card_0 ++ []
theorem dksX0_card_0 : cX0_card.data.toList.drop 0 = dktX0_card_0 := by decide +kernel
theorem dX0_card_0 : decode cX0_card 0 = .ok (.aload_n 3, 1) := dk_45 (dk_at dksX0_card_0 0 rfl rfl)
theorem dX0_card_1 : decode cX0_card 1 = .ok (.iconst 0, 1) := dk_3 (dk_at dksX0_card_0 1 rfl rfl)
theorem dX0_card_2 : decode cX0_card 2 = .ok (.aload_n 0, 1) := dk_42 (dk_at dksX0_card_0 2 rfl rfl)
theorem dX0_card_3 : decode cX0_card 3 = .ok (.iload_n 1, 1) := dk_27 (dk_at dksX0_card_0 3 rfl rfl)
theorem dX0_card_4 : decode cX0_card 4 = .ok (.iload_n 2, 1) := dk_28 (dk_at dksX0_card_0 4 rfl rfl)
theorem dX0_card_5 : decode cX0_card 5 = .ok (.invokevirtual 23, 3) := dk_182 0 23 (dk_at dksX0_card_0 5 rfl rfl)
theorem dX0_card_8 : decode cX0_card 8 = .ok (.i2l, 1) := dk_133 (dk_at dksX0_card_0 8 rfl rfl)
theorem dX0_card_9 : decode cX0_card 9 = .ok (.lastore, 1) := dk_80 (dk_at dksX0_card_0 9 rfl rfl)
theorem dX0_card_10 : decode cX0_card 10 = .ok (.goto 7, 3) := dk_167 0 7 (dk_at dksX0_card_0 10 rfl rfl)
theorem dX0_card_13 : decode cX0_card 13 = .ok (.astore 4, 2) := dk_58 4 (dk_at dksX0_card_0 13 rfl rfl)
theorem dX0_card_15 : decode cX0_card 15 = .ok (.iconst 1, 1) := dk_4 (dk_at dksX0_card_0 15 rfl rfl)
theorem dX0_card_16 : decode cX0_card 16 = .ok (.ireturn, 1) := dk_172 (dk_at dksX0_card_0 16 rfl rfl)
theorem dX0_card_17 : decode cX0_card 17 = .ok (.iconst 0, 1) := dk_3 (dk_at dksX0_card_0 17 rfl rfl)
theorem dX0_card_18 : decode cX0_card 18 = .ok (.ireturn, 1) := dk_172 (dk_at dksX0_card_0 18 rfl rfl)
def dkwX0_copies_1 : List UInt8 := [172]
abbrev dktX0_copies_1 : List UInt8 := dkwX0_copies_1 ++ []
def dkwX0_copies_0 : List UInt8 := [25, 4, 3, 42, 27, 28, 29, 182, 0, 27, 133, 80, 167, 0, 11, 58, 5, 4, 172, 58, 5, 5, 172, 3]
abbrev dktX0_copies_0 : List UInt8 := dkwX0_copies_0 ++ dktX0_copies_1
theorem dksX0_copies_0 : cX0_copies.data.toList.drop 0 = dktX0_copies_0 := by decide +kernel
theorem dksX0_copies_1 : cX0_copies.data.toList.drop 24 = dktX0_copies_1 := dk_seg dksX0_copies_0 24 rfl rfl
theorem dX0_copies_0 : decode cX0_copies 0 = .ok (.aload 4, 2) := dk_25 4 (dk_at dksX0_copies_0 0 rfl rfl)
theorem dX0_copies_2 : decode cX0_copies 2 = .ok (.iconst 0, 1) := dk_3 (dk_at dksX0_copies_0 2 rfl rfl)
theorem dX0_copies_3 : decode cX0_copies 3 = .ok (.aload_n 0, 1) := dk_42 (dk_at dksX0_copies_0 3 rfl rfl)
theorem dX0_copies_4 : decode cX0_copies 4 = .ok (.iload_n 1, 1) := dk_27 (dk_at dksX0_copies_0 4 rfl rfl)
theorem dX0_copies_5 : decode cX0_copies 5 = .ok (.iload_n 2, 1) := dk_28 (dk_at dksX0_copies_0 5 rfl rfl)
theorem dX0_copies_6 : decode cX0_copies 6 = .ok (.iload_n 3, 1) := dk_29 (dk_at dksX0_copies_0 6 rfl rfl)
theorem dX0_copies_7 : decode cX0_copies 7 = .ok (.invokevirtual 27, 3) := dk_182 0 27 (dk_at dksX0_copies_0 7 rfl rfl)
theorem dX0_copies_10 : decode cX0_copies 10 = .ok (.i2l, 1) := dk_133 (dk_at dksX0_copies_0 10 rfl rfl)
theorem dX0_copies_11 : decode cX0_copies 11 = .ok (.lastore, 1) := dk_80 (dk_at dksX0_copies_0 11 rfl rfl)
theorem dX0_copies_12 : decode cX0_copies 12 = .ok (.goto 11, 3) := dk_167 0 11 (dk_at dksX0_copies_0 12 rfl rfl)
theorem dX0_copies_15 : decode cX0_copies 15 = .ok (.astore 5, 2) := dk_58 5 (dk_at dksX0_copies_0 15 rfl rfl)
theorem dX0_copies_17 : decode cX0_copies 17 = .ok (.iconst 1, 1) := dk_4 (dk_at dksX0_copies_0 17 rfl rfl)
theorem dX0_copies_18 : decode cX0_copies 18 = .ok (.ireturn, 1) := dk_172 (dk_at dksX0_copies_0 18 rfl rfl)
theorem dX0_copies_19 : decode cX0_copies 19 = .ok (.astore 5, 2) := dk_58 5 (dk_at dksX0_copies_0 19 rfl rfl)
theorem dX0_copies_21 : decode cX0_copies 21 = .ok (.iconst 2, 1) := dk_5 (dk_at dksX0_copies_0 21 rfl rfl)
theorem dX0_copies_22 : decode cX0_copies 22 = .ok (.ireturn, 1) := dk_172 (dk_at dksX0_copies_0 22 rfl rfl)
theorem dX0_copies_23 : decode cX0_copies 23 = .ok (.iconst 0, 1) := dk_3 (dk_at dksX0_copies_0 23 rfl rfl)
theorem dX0_copies_24 : decode cX0_copies 24 = .ok (.ireturn, 1) := dk_172 (dk_at dksX0_copies_1 0 rfl rfl)
def dkwX0_isUseless_1 : List UInt8 := [3, 172]
abbrev dktX0_isUseless_1 : List UInt8 := dkwX0_isUseless_1 ++ []
def dkwX0_isUseless_0 : List UInt8 := [45, 3, 42, 27, 28, 182, 0, 31, 153, 0, 7, 10, 167, 0, 4, 9, 80, 167, 0, 7, 58, 4, 4, 172]
abbrev dktX0_isUseless_0 : List UInt8 := dkwX0_isUseless_0 ++ dktX0_isUseless_1
theorem dksX0_isUseless_0 : cX0_isUseless.data.toList.drop 0 = dktX0_isUseless_0 := by decide +kernel
theorem dksX0_isUseless_1 : cX0_isUseless.data.toList.drop 24 = dktX0_isUseless_1 := dk_seg dksX0_isUseless_0 24 rfl rfl
theorem dX0_isUseless_0 : decode cX0_isUseless 0 = .ok (.aload_n 3, 1) := dk_45 (dk_at dksX0_isUseless_0 0 rfl rfl)
theorem dX0_isUseless_1 : decode cX0_isUseless 1 = .ok (.iconst 0, 1) := dk_3 (dk_at dksX0_isUseless_0 1 rfl rfl)
theorem dX0_isUseless_2 : decode cX0_isUseless 2 = .ok (.aload_n 0, 1) := dk_42 (dk_at dksX0_isUseless_0 2 rfl rfl)
theorem dX0_isUseless_3 : decode cX0_isUseless 3 = .ok (.iload_n 1, 1) := dk_27 (dk_at dksX0_isUseless_0 3 rfl rfl)
theorem dX0_isUseless_4 : decode cX0_isUseless 4 = .ok (.iload_n 2, 1) := dk_28 (dk_at dksX0_isUseless_0 4 rfl rfl)
theorem dX0_isUseless_5 : decode cX0_isUseless 5 = .ok (.invokevirtual 31, 3) := dk_182 0 31 (dk_at dksX0_isUseless_0 5 rfl rfl)
theorem dX0_isUseless_8 : decode cX0_isUseless 8 = .ok (.ifCond .eq 7, 3) := dk_153 0 7 (dk_at dksX0_isUseless_0 8 rfl rfl)
theorem dX0_isUseless_11 : decode cX0_isUseless 11 = .ok (.lconst 1, 1) := dk_10 (dk_at dksX0_isUseless_0 11 rfl rfl)
theorem dX0_isUseless_12 : decode cX0_isUseless 12 = .ok (.goto 4, 3) := dk_167 0 4 (dk_at dksX0_isUseless_0 12 rfl rfl)
theorem dX0_isUseless_15 : decode cX0_isUseless 15 = .ok (.lconst 0, 1) := dk_9 (dk_at dksX0_isUseless_0 15 rfl rfl)
theorem dX0_isUseless_16 : decode cX0_isUseless 16 = .ok (.lastore, 1) := dk_80 (dk_at dksX0_isUseless_0 16 rfl rfl)
theorem dX0_isUseless_17 : decode cX0_isUseless 17 = .ok (.goto 7, 3) := dk_167 0 7 (dk_at dksX0_isUseless_0 17 rfl rfl)
theorem dX0_isUseless_20 : decode cX0_isUseless 20 = .ok (.astore 4, 2) := dk_58 4 (dk_at dksX0_isUseless_0 20 rfl rfl)
theorem dX0_isUseless_22 : decode cX0_isUseless 22 = .ok (.iconst 1, 1) := dk_4 (dk_at dksX0_isUseless_0 22 rfl rfl)
theorem dX0_isUseless_23 : decode cX0_isUseless 23 = .ok (.ireturn, 1) := dk_172 (dk_at dksX0_isUseless_0 23 rfl rfl)
theorem dX0_isUseless_24 : decode cX0_isUseless 24 = .ok (.iconst 0, 1) := dk_3 (dk_at dksX0_isUseless_1 0 rfl rfl)
theorem dX0_isUseless_25 : decode cX0_isUseless 25 = .ok (.ireturn, 1) := dk_172 (dk_at dksX0_isUseless_1 1 rfl rfl)
def dkwX0_isCritical_1 : List UInt8 := [3, 172]
abbrev dktX0_isCritical_1 : List UInt8 := dkwX0_isCritical_1 ++ []
def dkwX0_isCritical_0 : List UInt8 := [45, 3, 42, 27, 28, 182, 0, 35, 153, 0, 7, 10, 167, 0, 4, 9, 80, 167, 0, 7, 58, 4, 4, 172]
abbrev dktX0_isCritical_0 : List UInt8 := dkwX0_isCritical_0 ++ dktX0_isCritical_1
theorem dksX0_isCritical_0 : cX0_isCritical.data.toList.drop 0 = dktX0_isCritical_0 := by decide +kernel
theorem dksX0_isCritical_1 : cX0_isCritical.data.toList.drop 24 = dktX0_isCritical_1 := dk_seg dksX0_isCritical_0 24 rfl rfl
theorem dX0_isCritical_0 : decode cX0_isCritical 0 = .ok (.aload_n 3, 1) := dk_45 (dk_at dksX0_isCritical_0 0 rfl rfl)
theorem dX0_isCritical_1 : decode cX0_isCritical 1 = .ok (.iconst 0, 1) := dk_3 (dk_at dksX0_isCritical_0 1 rfl rfl)
theorem dX0_isCritical_2 : decode cX0_isCritical 2 = .ok (.aload_n 0, 1) := dk_42 (dk_at dksX0_isCritical_0 2 rfl rfl)
theorem dX0_isCritical_3 : decode cX0_isCritical 3 = .ok (.iload_n 1, 1) := dk_27 (dk_at dksX0_isCritical_0 3 rfl rfl)
theorem dX0_isCritical_4 : decode cX0_isCritical 4 = .ok (.iload_n 2, 1) := dk_28 (dk_at dksX0_isCritical_0 4 rfl rfl)
theorem dX0_isCritical_5 : decode cX0_isCritical 5 = .ok (.invokevirtual 35, 3) := dk_182 0 35 (dk_at dksX0_isCritical_0 5 rfl rfl)
theorem dX0_isCritical_8 : decode cX0_isCritical 8 = .ok (.ifCond .eq 7, 3) := dk_153 0 7 (dk_at dksX0_isCritical_0 8 rfl rfl)
theorem dX0_isCritical_11 : decode cX0_isCritical 11 = .ok (.lconst 1, 1) := dk_10 (dk_at dksX0_isCritical_0 11 rfl rfl)
theorem dX0_isCritical_12 : decode cX0_isCritical 12 = .ok (.goto 4, 3) := dk_167 0 4 (dk_at dksX0_isCritical_0 12 rfl rfl)
theorem dX0_isCritical_15 : decode cX0_isCritical 15 = .ok (.lconst 0, 1) := dk_9 (dk_at dksX0_isCritical_0 15 rfl rfl)
theorem dX0_isCritical_16 : decode cX0_isCritical 16 = .ok (.lastore, 1) := dk_80 (dk_at dksX0_isCritical_0 16 rfl rfl)
theorem dX0_isCritical_17 : decode cX0_isCritical 17 = .ok (.goto 7, 3) := dk_167 0 7 (dk_at dksX0_isCritical_0 17 rfl rfl)
theorem dX0_isCritical_20 : decode cX0_isCritical 20 = .ok (.astore 4, 2) := dk_58 4 (dk_at dksX0_isCritical_0 20 rfl rfl)
theorem dX0_isCritical_22 : decode cX0_isCritical 22 = .ok (.iconst 1, 1) := dk_4 (dk_at dksX0_isCritical_0 22 rfl rfl)
theorem dX0_isCritical_23 : decode cX0_isCritical 23 = .ok (.ireturn, 1) := dk_172 (dk_at dksX0_isCritical_0 23 rfl rfl)
theorem dX0_isCritical_24 : decode cX0_isCritical 24 = .ok (.iconst 0, 1) := dk_3 (dk_at dksX0_isCritical_1 0 rfl rfl)
theorem dX0_isCritical_25 : decode cX0_isCritical 25 = .ok (.ireturn, 1) := dk_172 (dk_at dksX0_isCritical_1 1 rfl rfl)
def dkwX0_colorsOf_0 : List UInt8 := [45, 3, 42, 27, 28, 182, 0, 38, 133, 80, 167, 0, 7, 58, 4, 4, 172, 3, 172]
abbrev dktX0_colorsOf_0 : List UInt8 := dkwX0_colorsOf_0 ++ []
theorem dksX0_colorsOf_0 : cX0_colorsOf.data.toList.drop 0 = dktX0_colorsOf_0 := by decide +kernel
theorem dX0_colorsOf_0 : decode cX0_colorsOf 0 = .ok (.aload_n 3, 1) := dk_45 (dk_at dksX0_colorsOf_0 0 rfl rfl)
theorem dX0_colorsOf_1 : decode cX0_colorsOf 1 = .ok (.iconst 0, 1) := dk_3 (dk_at dksX0_colorsOf_0 1 rfl rfl)
theorem dX0_colorsOf_2 : decode cX0_colorsOf 2 = .ok (.aload_n 0, 1) := dk_42 (dk_at dksX0_colorsOf_0 2 rfl rfl)
theorem dX0_colorsOf_3 : decode cX0_colorsOf 3 = .ok (.iload_n 1, 1) := dk_27 (dk_at dksX0_colorsOf_0 3 rfl rfl)
theorem dX0_colorsOf_4 : decode cX0_colorsOf 4 = .ok (.iload_n 2, 1) := dk_28 (dk_at dksX0_colorsOf_0 4 rfl rfl)
theorem dX0_colorsOf_5 : decode cX0_colorsOf 5 = .ok (.invokevirtual 38, 3) := dk_182 0 38 (dk_at dksX0_colorsOf_0 5 rfl rfl)
theorem dX0_colorsOf_8 : decode cX0_colorsOf 8 = .ok (.i2l, 1) := dk_133 (dk_at dksX0_colorsOf_0 8 rfl rfl)
theorem dX0_colorsOf_9 : decode cX0_colorsOf 9 = .ok (.lastore, 1) := dk_80 (dk_at dksX0_colorsOf_0 9 rfl rfl)
theorem dX0_colorsOf_10 : decode cX0_colorsOf 10 = .ok (.goto 7, 3) := dk_167 0 7 (dk_at dksX0_colorsOf_0 10 rfl rfl)
theorem dX0_colorsOf_13 : decode cX0_colorsOf 13 = .ok (.astore 4, 2) := dk_58 4 (dk_at dksX0_colorsOf_0 13 rfl rfl)
theorem dX0_colorsOf_15 : decode cX0_colorsOf 15 = .ok (.iconst 1, 1) := dk_4 (dk_at dksX0_colorsOf_0 15 rfl rfl)
theorem dX0_colorsOf_16 : decode cX0_colorsOf 16 = .ok (.ireturn, 1) := dk_172 (dk_at dksX0_colorsOf_0 16 rfl rfl)
theorem dX0_colorsOf_17 : decode cX0_colorsOf 17 = .ok (.iconst 0, 1) := dk_3 (dk_at dksX0_colorsOf_0 17 rfl rfl)
theorem dX0_colorsOf_18 : decode cX0_colorsOf 18 = .ok (.ireturn, 1) := dk_172 (dk_at dksX0_colorsOf_0 18 rfl rfl)
def dkwX0_ranksOf_0 : List UInt8 := [45, 3, 42, 27, 28, 182, 0, 41, 133, 80, 167, 0, 7, 58, 4, 4, 172, 3, 172]
abbrev dktX0_ranksOf_0 : List UInt8 := dkwX0_ranksOf_0 ++ []
theorem dksX0_ranksOf_0 : cX0_ranksOf.data.toList.drop 0 = dktX0_ranksOf_0 := by decide +kernel
theorem dX0_ranksOf_0 : decode cX0_ranksOf 0 = .ok (.aload_n 3, 1) := dk_45 (dk_at dksX0_ranksOf_0 0 rfl rfl)
theorem dX0_ranksOf_1 : decode cX0_ranksOf 1 = .ok (.iconst 0, 1) := dk_3 (dk_at dksX0_ranksOf_0 1 rfl rfl)
theorem dX0_ranksOf_2 : decode cX0_ranksOf 2 = .ok (.aload_n 0, 1) := dk_42 (dk_at dksX0_ranksOf_0 2 rfl rfl)
theorem dX0_ranksOf_3 : decode cX0_ranksOf 3 = .ok (.iload_n 1, 1) := dk_27 (dk_at dksX0_ranksOf_0 3 rfl rfl)
theorem dX0_ranksOf_4 : decode cX0_ranksOf 4 = .ok (.iload_n 2, 1) := dk_28 (dk_at dksX0_ranksOf_0 4 rfl rfl)
theorem dX0_ranksOf_5 : decode cX0_ranksOf 5 = .ok (.invokevirtual 41, 3) := dk_182 0 41 (dk_at dksX0_ranksOf_0 5 rfl rfl)
theorem dX0_ranksOf_8 : decode cX0_ranksOf 8 = .ok (.i2l, 1) := dk_133 (dk_at dksX0_ranksOf_0 8 rfl rfl)
theorem dX0_ranksOf_9 : decode cX0_ranksOf 9 = .ok (.lastore, 1) := dk_80 (dk_at dksX0_ranksOf_0 9 rfl rfl)
theorem dX0_ranksOf_10 : decode cX0_ranksOf 10 = .ok (.goto 7, 3) := dk_167 0 7 (dk_at dksX0_ranksOf_0 10 rfl rfl)
theorem dX0_ranksOf_13 : decode cX0_ranksOf 13 = .ok (.astore 4, 2) := dk_58 4 (dk_at dksX0_ranksOf_0 13 rfl rfl)
theorem dX0_ranksOf_15 : decode cX0_ranksOf 15 = .ok (.iconst 1, 1) := dk_4 (dk_at dksX0_ranksOf_0 15 rfl rfl)
theorem dX0_ranksOf_16 : decode cX0_ranksOf 16 = .ok (.ireturn, 1) := dk_172 (dk_at dksX0_ranksOf_0 16 rfl rfl)
theorem dX0_ranksOf_17 : decode cX0_ranksOf 17 = .ok (.iconst 0, 1) := dk_3 (dk_at dksX0_ranksOf_0 17 rfl rfl)
theorem dX0_ranksOf_18 : decode cX0_ranksOf 18 = .ok (.ireturn, 1) := dk_172 (dk_at dksX0_ranksOf_0 18 rfl rfl)
def dkwX0_isTouched_1 : List UInt8 := [3, 172]
abbrev dktX0_isTouched_1 : List UInt8 := dkwX0_isTouched_1 ++ []
def dkwX0_isTouched_0 : List UInt8 := [45, 3, 42, 27, 28, 182, 0, 44, 153, 0, 7, 10, 167, 0, 4, 9, 80, 167, 0, 7, 58, 4, 4, 172]
abbrev dktX0_isTouched_0 : List UInt8 := dkwX0_isTouched_0 ++ dktX0_isTouched_1
theorem dksX0_isTouched_0 : cX0_isTouched.data.toList.drop 0 = dktX0_isTouched_0 := by decide +kernel
theorem dksX0_isTouched_1 : cX0_isTouched.data.toList.drop 24 = dktX0_isTouched_1 := dk_seg dksX0_isTouched_0 24 rfl rfl
theorem dX0_isTouched_0 : decode cX0_isTouched 0 = .ok (.aload_n 3, 1) := dk_45 (dk_at dksX0_isTouched_0 0 rfl rfl)
theorem dX0_isTouched_1 : decode cX0_isTouched 1 = .ok (.iconst 0, 1) := dk_3 (dk_at dksX0_isTouched_0 1 rfl rfl)
theorem dX0_isTouched_2 : decode cX0_isTouched 2 = .ok (.aload_n 0, 1) := dk_42 (dk_at dksX0_isTouched_0 2 rfl rfl)
theorem dX0_isTouched_3 : decode cX0_isTouched 3 = .ok (.iload_n 1, 1) := dk_27 (dk_at dksX0_isTouched_0 3 rfl rfl)
theorem dX0_isTouched_4 : decode cX0_isTouched 4 = .ok (.iload_n 2, 1) := dk_28 (dk_at dksX0_isTouched_0 4 rfl rfl)
theorem dX0_isTouched_5 : decode cX0_isTouched 5 = .ok (.invokevirtual 44, 3) := dk_182 0 44 (dk_at dksX0_isTouched_0 5 rfl rfl)
theorem dX0_isTouched_8 : decode cX0_isTouched 8 = .ok (.ifCond .eq 7, 3) := dk_153 0 7 (dk_at dksX0_isTouched_0 8 rfl rfl)
theorem dX0_isTouched_11 : decode cX0_isTouched 11 = .ok (.lconst 1, 1) := dk_10 (dk_at dksX0_isTouched_0 11 rfl rfl)
theorem dX0_isTouched_12 : decode cX0_isTouched 12 = .ok (.goto 4, 3) := dk_167 0 4 (dk_at dksX0_isTouched_0 12 rfl rfl)
theorem dX0_isTouched_15 : decode cX0_isTouched 15 = .ok (.lconst 0, 1) := dk_9 (dk_at dksX0_isTouched_0 15 rfl rfl)
theorem dX0_isTouched_16 : decode cX0_isTouched 16 = .ok (.lastore, 1) := dk_80 (dk_at dksX0_isTouched_0 16 rfl rfl)
theorem dX0_isTouched_17 : decode cX0_isTouched 17 = .ok (.goto 7, 3) := dk_167 0 7 (dk_at dksX0_isTouched_0 17 rfl rfl)
theorem dX0_isTouched_20 : decode cX0_isTouched 20 = .ok (.astore 4, 2) := dk_58 4 (dk_at dksX0_isTouched_0 20 rfl rfl)
theorem dX0_isTouched_22 : decode cX0_isTouched 22 = .ok (.iconst 1, 1) := dk_4 (dk_at dksX0_isTouched_0 22 rfl rfl)
theorem dX0_isTouched_23 : decode cX0_isTouched 23 = .ok (.ireturn, 1) := dk_172 (dk_at dksX0_isTouched_0 23 rfl rfl)
theorem dX0_isTouched_24 : decode cX0_isTouched 24 = .ok (.iconst 0, 1) := dk_3 (dk_at dksX0_isTouched_1 0 rfl rfl)
theorem dX0_isTouched_25 : decode cX0_isTouched 25 = .ok (.ireturn, 1) := dk_172 (dk_at dksX0_isTouched_1 1 rfl rfl)
def dkwX0_thinks_0 : List UInt8 := [45, 3, 42, 27, 28, 182, 0, 47, 133, 80, 167, 0, 7, 58, 4, 4, 172, 3, 172]
abbrev dktX0_thinks_0 : List UInt8 := dkwX0_thinks_0 ++ []
theorem dksX0_thinks_0 : cX0_thinks.data.toList.drop 0 = dktX0_thinks_0 := by decide +kernel
theorem dX0_thinks_0 : decode cX0_thinks 0 = .ok (.aload_n 3, 1) := dk_45 (dk_at dksX0_thinks_0 0 rfl rfl)
theorem dX0_thinks_1 : decode cX0_thinks 1 = .ok (.iconst 0, 1) := dk_3 (dk_at dksX0_thinks_0 1 rfl rfl)
theorem dX0_thinks_2 : decode cX0_thinks 2 = .ok (.aload_n 0, 1) := dk_42 (dk_at dksX0_thinks_0 2 rfl rfl)
theorem dX0_thinks_3 : decode cX0_thinks 3 = .ok (.iload_n 1, 1) := dk_27 (dk_at dksX0_thinks_0 3 rfl rfl)
theorem dX0_thinks_4 : decode cX0_thinks 4 = .ok (.iload_n 2, 1) := dk_28 (dk_at dksX0_thinks_0 4 rfl rfl)
theorem dX0_thinks_5 : decode cX0_thinks 5 = .ok (.invokevirtual 47, 3) := dk_182 0 47 (dk_at dksX0_thinks_0 5 rfl rfl)
theorem dX0_thinks_8 : decode cX0_thinks 8 = .ok (.i2l, 1) := dk_133 (dk_at dksX0_thinks_0 8 rfl rfl)
theorem dX0_thinks_9 : decode cX0_thinks 9 = .ok (.lastore, 1) := dk_80 (dk_at dksX0_thinks_0 9 rfl rfl)
theorem dX0_thinks_10 : decode cX0_thinks 10 = .ok (.goto 7, 3) := dk_167 0 7 (dk_at dksX0_thinks_0 10 rfl rfl)
theorem dX0_thinks_13 : decode cX0_thinks 13 = .ok (.astore 4, 2) := dk_58 4 (dk_at dksX0_thinks_0 13 rfl rfl)
theorem dX0_thinks_15 : decode cX0_thinks 15 = .ok (.iconst 1, 1) := dk_4 (dk_at dksX0_thinks_0 15 rfl rfl)
theorem dX0_thinks_16 : decode cX0_thinks 16 = .ok (.ireturn, 1) := dk_172 (dk_at dksX0_thinks_0 16 rfl rfl)
theorem dX0_thinks_17 : decode cX0_thinks 17 = .ok (.iconst 0, 1) := dk_3 (dk_at dksX0_thinks_0 17 rfl rfl)
theorem dX0_thinks_18 : decode cX0_thinks 18 = .ok (.ireturn, 1) := dk_172 (dk_at dksX0_thinks_0 18 rfl rfl)
def dkwX0_thought_0 : List UInt8 := [25, 4, 3, 42, 27, 28, 29, 182, 0, 50, 133, 80, 167, 0, 7, 58, 5, 4, 172, 3, 172]
abbrev dktX0_thought_0 : List UInt8 := dkwX0_thought_0 ++ []
theorem dksX0_thought_0 : cX0_thought.data.toList.drop 0 = dktX0_thought_0 := by decide +kernel
theorem dX0_thought_0 : decode cX0_thought 0 = .ok (.aload 4, 2) := dk_25 4 (dk_at dksX0_thought_0 0 rfl rfl)
theorem dX0_thought_2 : decode cX0_thought 2 = .ok (.iconst 0, 1) := dk_3 (dk_at dksX0_thought_0 2 rfl rfl)
theorem dX0_thought_3 : decode cX0_thought 3 = .ok (.aload_n 0, 1) := dk_42 (dk_at dksX0_thought_0 3 rfl rfl)
theorem dX0_thought_4 : decode cX0_thought 4 = .ok (.iload_n 1, 1) := dk_27 (dk_at dksX0_thought_0 4 rfl rfl)
theorem dX0_thought_5 : decode cX0_thought 5 = .ok (.iload_n 2, 1) := dk_28 (dk_at dksX0_thought_0 5 rfl rfl)
theorem dX0_thought_6 : decode cX0_thought 6 = .ok (.iload_n 3, 1) := dk_29 (dk_at dksX0_thought_0 6 rfl rfl)
theorem dX0_thought_7 : decode cX0_thought 7 = .ok (.invokevirtual 50, 3) := dk_182 0 50 (dk_at dksX0_thought_0 7 rfl rfl)
theorem dX0_thought_10 : decode cX0_thought 10 = .ok (.i2l, 1) := dk_133 (dk_at dksX0_thought_0 10 rfl rfl)
theorem dX0_thought_11 : decode cX0_thought 11 = .ok (.lastore, 1) := dk_80 (dk_at dksX0_thought_0 11 rfl rfl)
theorem dX0_thought_12 : decode cX0_thought 12 = .ok (.goto 7, 3) := dk_167 0 7 (dk_at dksX0_thought_0 12 rfl rfl)
theorem dX0_thought_15 : decode cX0_thought 15 = .ok (.astore 5, 2) := dk_58 5 (dk_at dksX0_thought_0 15 rfl rfl)
theorem dX0_thought_17 : decode cX0_thought 17 = .ok (.iconst 1, 1) := dk_4 (dk_at dksX0_thought_0 17 rfl rfl)
theorem dX0_thought_18 : decode cX0_thought 18 = .ok (.ireturn, 1) := dk_172 (dk_at dksX0_thought_0 18 rfl rfl)
theorem dX0_thought_19 : decode cX0_thought 19 = .ok (.iconst 0, 1) := dk_3 (dk_at dksX0_thought_0 19 rfl rfl)
theorem dX0_thought_20 : decode cX0_thought 20 = .ok (.ireturn, 1) := dk_172 (dk_at dksX0_thought_0 20 rfl rfl)
def dkwX0_knows_0 : List UInt8 := [45, 3, 42, 27, 28, 182, 0, 53, 133, 80, 167, 0, 7, 58, 4, 4, 172, 3, 172]
abbrev dktX0_knows_0 : List UInt8 := dkwX0_knows_0 ++ []
theorem dksX0_knows_0 : cX0_knows.data.toList.drop 0 = dktX0_knows_0 := by decide +kernel
theorem dX0_knows_0 : decode cX0_knows 0 = .ok (.aload_n 3, 1) := dk_45 (dk_at dksX0_knows_0 0 rfl rfl)
theorem dX0_knows_1 : decode cX0_knows 1 = .ok (.iconst 0, 1) := dk_3 (dk_at dksX0_knows_0 1 rfl rfl)
theorem dX0_knows_2 : decode cX0_knows 2 = .ok (.aload_n 0, 1) := dk_42 (dk_at dksX0_knows_0 2 rfl rfl)
theorem dX0_knows_3 : decode cX0_knows 3 = .ok (.iload_n 1, 1) := dk_27 (dk_at dksX0_knows_0 3 rfl rfl)
theorem dX0_knows_4 : decode cX0_knows 4 = .ok (.iload_n 2, 1) := dk_28 (dk_at dksX0_knows_0 4 rfl rfl)
theorem dX0_knows_5 : decode cX0_knows 5 = .ok (.invokevirtual 53, 3) := dk_182 0 53 (dk_at dksX0_knows_0 5 rfl rfl)
theorem dX0_knows_8 : decode cX0_knows 8 = .ok (.i2l, 1) := dk_133 (dk_at dksX0_knows_0 8 rfl rfl)
theorem dX0_knows_9 : decode cX0_knows 9 = .ok (.lastore, 1) := dk_80 (dk_at dksX0_knows_0 9 rfl rfl)
theorem dX0_knows_10 : decode cX0_knows 10 = .ok (.goto 7, 3) := dk_167 0 7 (dk_at dksX0_knows_0 10 rfl rfl)
theorem dX0_knows_13 : decode cX0_knows 13 = .ok (.astore 4, 2) := dk_58 4 (dk_at dksX0_knows_0 13 rfl rfl)
theorem dX0_knows_15 : decode cX0_knows 15 = .ok (.iconst 1, 1) := dk_4 (dk_at dksX0_knows_0 15 rfl rfl)
theorem dX0_knows_16 : decode cX0_knows 16 = .ok (.ireturn, 1) := dk_172 (dk_at dksX0_knows_0 16 rfl rfl)
theorem dX0_knows_17 : decode cX0_knows 17 = .ok (.iconst 0, 1) := dk_3 (dk_at dksX0_knows_0 17 rfl rfl)
theorem dX0_knows_18 : decode cX0_knows 18 = .ok (.ireturn, 1) := dk_172 (dk_at dksX0_knows_0 18 rfl rfl)
def dkwX0_wordsLeft_0 : List UInt8 := [45, 3, 42, 27, 28, 182, 0, 56, 133, 80, 167, 0, 7, 58, 4, 4, 172, 3, 172]
abbrev dktX0_wordsLeft_0 : List UInt8 := dkwX0_wordsLeft_0 ++ []
theorem dksX0_wordsLeft_0 : cX0_wordsLeft.data.toList.drop 0 = dktX0_wordsLeft_0 := by decide +kernel
theorem dX0_wordsLeft_0 : decode cX0_wordsLeft 0 = .ok (.aload_n 3, 1) := dk_45 (dk_at dksX0_wordsLeft_0 0 rfl rfl)
theorem dX0_wordsLeft_1 : decode cX0_wordsLeft 1 = .ok (.iconst 0, 1) := dk_3 (dk_at dksX0_wordsLeft_0 1 rfl rfl)
theorem dX0_wordsLeft_2 : decode cX0_wordsLeft 2 = .ok (.aload_n 0, 1) := dk_42 (dk_at dksX0_wordsLeft_0 2 rfl rfl)
theorem dX0_wordsLeft_3 : decode cX0_wordsLeft 3 = .ok (.iload_n 1, 1) := dk_27 (dk_at dksX0_wordsLeft_0 3 rfl rfl)
theorem dX0_wordsLeft_4 : decode cX0_wordsLeft 4 = .ok (.iload_n 2, 1) := dk_28 (dk_at dksX0_wordsLeft_0 4 rfl rfl)
theorem dX0_wordsLeft_5 : decode cX0_wordsLeft 5 = .ok (.invokevirtual 56, 3) := dk_182 0 56 (dk_at dksX0_wordsLeft_0 5 rfl rfl)
theorem dX0_wordsLeft_8 : decode cX0_wordsLeft 8 = .ok (.i2l, 1) := dk_133 (dk_at dksX0_wordsLeft_0 8 rfl rfl)
theorem dX0_wordsLeft_9 : decode cX0_wordsLeft 9 = .ok (.lastore, 1) := dk_80 (dk_at dksX0_wordsLeft_0 9 rfl rfl)
theorem dX0_wordsLeft_10 : decode cX0_wordsLeft 10 = .ok (.goto 7, 3) := dk_167 0 7 (dk_at dksX0_wordsLeft_0 10 rfl rfl)
theorem dX0_wordsLeft_13 : decode cX0_wordsLeft 13 = .ok (.astore 4, 2) := dk_58 4 (dk_at dksX0_wordsLeft_0 13 rfl rfl)
theorem dX0_wordsLeft_15 : decode cX0_wordsLeft 15 = .ok (.iconst 1, 1) := dk_4 (dk_at dksX0_wordsLeft_0 15 rfl rfl)
theorem dX0_wordsLeft_16 : decode cX0_wordsLeft 16 = .ok (.ireturn, 1) := dk_172 (dk_at dksX0_wordsLeft_0 16 rfl rfl)
theorem dX0_wordsLeft_17 : decode cX0_wordsLeft 17 = .ok (.iconst 0, 1) := dk_3 (dk_at dksX0_wordsLeft_0 17 rfl rfl)
theorem dX0_wordsLeft_18 : decode cX0_wordsLeft 18 = .ok (.ireturn, 1) := dk_172 (dk_at dksX0_wordsLeft_0 18 rfl rfl)
def dkwX0_touches_1 : List UInt8 := [172]
abbrev dktX0_touches_1 : List UInt8 := dkwX0_touches_1 ++ []
def dkwX0_touches_0 : List UInt8 := [25, 4, 3, 42, 27, 28, 29, 182, 0, 59, 133, 80, 167, 0, 11, 58, 5, 4, 172, 58, 5, 5, 172, 3]
abbrev dktX0_touches_0 : List UInt8 := dkwX0_touches_0 ++ dktX0_touches_1
theorem dksX0_touches_0 : cX0_touches.data.toList.drop 0 = dktX0_touches_0 := by decide +kernel
theorem dksX0_touches_1 : cX0_touches.data.toList.drop 24 = dktX0_touches_1 := dk_seg dksX0_touches_0 24 rfl rfl
theorem dX0_touches_0 : decode cX0_touches 0 = .ok (.aload 4, 2) := dk_25 4 (dk_at dksX0_touches_0 0 rfl rfl)
theorem dX0_touches_2 : decode cX0_touches 2 = .ok (.iconst 0, 1) := dk_3 (dk_at dksX0_touches_0 2 rfl rfl)
theorem dX0_touches_3 : decode cX0_touches 3 = .ok (.aload_n 0, 1) := dk_42 (dk_at dksX0_touches_0 3 rfl rfl)
theorem dX0_touches_4 : decode cX0_touches 4 = .ok (.iload_n 1, 1) := dk_27 (dk_at dksX0_touches_0 4 rfl rfl)
theorem dX0_touches_5 : decode cX0_touches 5 = .ok (.iload_n 2, 1) := dk_28 (dk_at dksX0_touches_0 5 rfl rfl)
theorem dX0_touches_6 : decode cX0_touches 6 = .ok (.iload_n 3, 1) := dk_29 (dk_at dksX0_touches_0 6 rfl rfl)
theorem dX0_touches_7 : decode cX0_touches 7 = .ok (.invokevirtual 59, 3) := dk_182 0 59 (dk_at dksX0_touches_0 7 rfl rfl)
theorem dX0_touches_10 : decode cX0_touches 10 = .ok (.i2l, 1) := dk_133 (dk_at dksX0_touches_0 10 rfl rfl)
theorem dX0_touches_11 : decode cX0_touches 11 = .ok (.lastore, 1) := dk_80 (dk_at dksX0_touches_0 11 rfl rfl)
theorem dX0_touches_12 : decode cX0_touches 12 = .ok (.goto 11, 3) := dk_167 0 11 (dk_at dksX0_touches_0 12 rfl rfl)
theorem dX0_touches_15 : decode cX0_touches 15 = .ok (.astore 5, 2) := dk_58 5 (dk_at dksX0_touches_0 15 rfl rfl)
theorem dX0_touches_17 : decode cX0_touches 17 = .ok (.iconst 1, 1) := dk_4 (dk_at dksX0_touches_0 17 rfl rfl)
theorem dX0_touches_18 : decode cX0_touches 18 = .ok (.ireturn, 1) := dk_172 (dk_at dksX0_touches_0 18 rfl rfl)
theorem dX0_touches_19 : decode cX0_touches 19 = .ok (.astore 5, 2) := dk_58 5 (dk_at dksX0_touches_0 19 rfl rfl)
theorem dX0_touches_21 : decode cX0_touches 21 = .ok (.iconst 2, 1) := dk_5 (dk_at dksX0_touches_0 21 rfl rfl)
theorem dX0_touches_22 : decode cX0_touches 22 = .ok (.ireturn, 1) := dk_172 (dk_at dksX0_touches_0 22 rfl rfl)
theorem dX0_touches_23 : decode cX0_touches 23 = .ok (.iconst 0, 1) := dk_3 (dk_at dksX0_touches_0 23 rfl rfl)
theorem dX0_touches_24 : decode cX0_touches 24 = .ok (.ireturn, 1) := dk_172 (dk_at dksX0_touches_1 0 rfl rfl)
def dkwX0_tells_1 : List UInt8 := [172]
abbrev dktX0_tells_1 : List UInt8 := dkwX0_tells_1 ++ []
def dkwX0_tells_0 : List UInt8 := [25, 4, 3, 42, 27, 28, 29, 182, 0, 62, 133, 80, 167, 0, 11, 58, 5, 4, 172, 58, 5, 5, 172, 3]
abbrev dktX0_tells_0 : List UInt8 := dkwX0_tells_0 ++ dktX0_tells_1
theorem dksX0_tells_0 : cX0_tells.data.toList.drop 0 = dktX0_tells_0 := by decide +kernel
theorem dksX0_tells_1 : cX0_tells.data.toList.drop 24 = dktX0_tells_1 := dk_seg dksX0_tells_0 24 rfl rfl
theorem dX0_tells_0 : decode cX0_tells 0 = .ok (.aload 4, 2) := dk_25 4 (dk_at dksX0_tells_0 0 rfl rfl)
theorem dX0_tells_2 : decode cX0_tells 2 = .ok (.iconst 0, 1) := dk_3 (dk_at dksX0_tells_0 2 rfl rfl)
theorem dX0_tells_3 : decode cX0_tells 3 = .ok (.aload_n 0, 1) := dk_42 (dk_at dksX0_tells_0 3 rfl rfl)
theorem dX0_tells_4 : decode cX0_tells 4 = .ok (.iload_n 1, 1) := dk_27 (dk_at dksX0_tells_0 4 rfl rfl)
theorem dX0_tells_5 : decode cX0_tells 5 = .ok (.iload_n 2, 1) := dk_28 (dk_at dksX0_tells_0 5 rfl rfl)
theorem dX0_tells_6 : decode cX0_tells 6 = .ok (.iload_n 3, 1) := dk_29 (dk_at dksX0_tells_0 6 rfl rfl)
theorem dX0_tells_7 : decode cX0_tells 7 = .ok (.invokevirtual 62, 3) := dk_182 0 62 (dk_at dksX0_tells_0 7 rfl rfl)
theorem dX0_tells_10 : decode cX0_tells 10 = .ok (.i2l, 1) := dk_133 (dk_at dksX0_tells_0 10 rfl rfl)
theorem dX0_tells_11 : decode cX0_tells 11 = .ok (.lastore, 1) := dk_80 (dk_at dksX0_tells_0 11 rfl rfl)
theorem dX0_tells_12 : decode cX0_tells 12 = .ok (.goto 11, 3) := dk_167 0 11 (dk_at dksX0_tells_0 12 rfl rfl)
theorem dX0_tells_15 : decode cX0_tells 15 = .ok (.astore 5, 2) := dk_58 5 (dk_at dksX0_tells_0 15 rfl rfl)
theorem dX0_tells_17 : decode cX0_tells 17 = .ok (.iconst 1, 1) := dk_4 (dk_at dksX0_tells_0 17 rfl rfl)
theorem dX0_tells_18 : decode cX0_tells 18 = .ok (.ireturn, 1) := dk_172 (dk_at dksX0_tells_0 18 rfl rfl)
theorem dX0_tells_19 : decode cX0_tells 19 = .ok (.astore 5, 2) := dk_58 5 (dk_at dksX0_tells_0 19 rfl rfl)
theorem dX0_tells_21 : decode cX0_tells 21 = .ok (.iconst 2, 1) := dk_5 (dk_at dksX0_tells_0 21 rfl rfl)
theorem dX0_tells_22 : decode cX0_tells 22 = .ok (.ireturn, 1) := dk_172 (dk_at dksX0_tells_0 22 rfl rfl)
theorem dX0_tells_23 : decode cX0_tells 23 = .ok (.iconst 0, 1) := dk_3 (dk_at dksX0_tells_0 23 rfl rfl)
theorem dX0_tells_24 : decode cX0_tells 24 = .ok (.ireturn, 1) := dk_172 (dk_at dksX0_tells_1 0 rfl rfl)
def dkwX0_play_0 : List UInt8 := [44, 3, 42, 27, 182, 0, 65, 133, 80, 167, 0, 6, 78, 4, 172, 3, 172]
abbrev dktX0_play_0 : List UInt8 := dkwX0_play_0 ++ []
theorem dksX0_play_0 : cX0_play.data.toList.drop 0 = dktX0_play_0 := by decide +kernel
theorem dX0_play_0 : decode cX0_play 0 = .ok (.aload_n 2, 1) := dk_44 (dk_at dksX0_play_0 0 rfl rfl)
theorem dX0_play_1 : decode cX0_play 1 = .ok (.iconst 0, 1) := dk_3 (dk_at dksX0_play_0 1 rfl rfl)
theorem dX0_play_2 : decode cX0_play 2 = .ok (.aload_n 0, 1) := dk_42 (dk_at dksX0_play_0 2 rfl rfl)
theorem dX0_play_3 : decode cX0_play 3 = .ok (.iload_n 1, 1) := dk_27 (dk_at dksX0_play_0 3 rfl rfl)
theorem dX0_play_4 : decode cX0_play 4 = .ok (.invokevirtual 65, 3) := dk_182 0 65 (dk_at dksX0_play_0 4 rfl rfl)
theorem dX0_play_7 : decode cX0_play 7 = .ok (.i2l, 1) := dk_133 (dk_at dksX0_play_0 7 rfl rfl)
theorem dX0_play_8 : decode cX0_play 8 = .ok (.lastore, 1) := dk_80 (dk_at dksX0_play_0 8 rfl rfl)
theorem dX0_play_9 : decode cX0_play 9 = .ok (.goto 6, 3) := dk_167 0 6 (dk_at dksX0_play_0 9 rfl rfl)
theorem dX0_play_12 : decode cX0_play 12 = .ok (.astore_n 3, 1) := dk_78 (dk_at dksX0_play_0 12 rfl rfl)
theorem dX0_play_13 : decode cX0_play 13 = .ok (.iconst 1, 1) := dk_4 (dk_at dksX0_play_0 13 rfl rfl)
theorem dX0_play_14 : decode cX0_play 14 = .ok (.ireturn, 1) := dk_172 (dk_at dksX0_play_0 14 rfl rfl)
theorem dX0_play_15 : decode cX0_play 15 = .ok (.iconst 0, 1) := dk_3 (dk_at dksX0_play_0 15 rfl rfl)
theorem dX0_play_16 : decode cX0_play 16 = .ok (.ireturn, 1) := dk_172 (dk_at dksX0_play_0 16 rfl rfl)
def dkwX0_discard_0 : List UInt8 := [44, 3, 42, 27, 182, 0, 68, 133, 80, 167, 0, 6, 78, 4, 172, 3, 172]
abbrev dktX0_discard_0 : List UInt8 := dkwX0_discard_0 ++ []
theorem dksX0_discard_0 : cX0_discard.data.toList.drop 0 = dktX0_discard_0 := by decide +kernel
theorem dX0_discard_0 : decode cX0_discard 0 = .ok (.aload_n 2, 1) := dk_44 (dk_at dksX0_discard_0 0 rfl rfl)
theorem dX0_discard_1 : decode cX0_discard 1 = .ok (.iconst 0, 1) := dk_3 (dk_at dksX0_discard_0 1 rfl rfl)
theorem dX0_discard_2 : decode cX0_discard 2 = .ok (.aload_n 0, 1) := dk_42 (dk_at dksX0_discard_0 2 rfl rfl)
theorem dX0_discard_3 : decode cX0_discard 3 = .ok (.iload_n 1, 1) := dk_27 (dk_at dksX0_discard_0 3 rfl rfl)
theorem dX0_discard_4 : decode cX0_discard 4 = .ok (.invokevirtual 68, 3) := dk_182 0 68 (dk_at dksX0_discard_0 4 rfl rfl)
theorem dX0_discard_7 : decode cX0_discard 7 = .ok (.i2l, 1) := dk_133 (dk_at dksX0_discard_0 7 rfl rfl)
theorem dX0_discard_8 : decode cX0_discard 8 = .ok (.lastore, 1) := dk_80 (dk_at dksX0_discard_0 8 rfl rfl)
theorem dX0_discard_9 : decode cX0_discard 9 = .ok (.goto 6, 3) := dk_167 0 6 (dk_at dksX0_discard_0 9 rfl rfl)
theorem dX0_discard_12 : decode cX0_discard 12 = .ok (.astore_n 3, 1) := dk_78 (dk_at dksX0_discard_0 12 rfl rfl)
theorem dX0_discard_13 : decode cX0_discard 13 = .ok (.iconst 1, 1) := dk_4 (dk_at dksX0_discard_0 13 rfl rfl)
theorem dX0_discard_14 : decode cX0_discard 14 = .ok (.ireturn, 1) := dk_172 (dk_at dksX0_discard_0 14 rfl rfl)
theorem dX0_discard_15 : decode cX0_discard 15 = .ok (.iconst 0, 1) := dk_3 (dk_at dksX0_discard_0 15 rfl rfl)
theorem dX0_discard_16 : decode cX0_discard 16 = .ok (.ireturn, 1) := dk_172 (dk_at dksX0_discard_0 16 rfl rfl)
def dkwX0_hint_1 : List UInt8 := [172]
abbrev dktX0_hint_1 : List UInt8 := dkwX0_hint_1 ++ []
def dkwX0_hint_0 : List UInt8 := [25, 4, 3, 42, 27, 28, 29, 182, 0, 71, 133, 80, 167, 0, 11, 58, 5, 4, 172, 58, 5, 5, 172, 3]
abbrev dktX0_hint_0 : List UInt8 := dkwX0_hint_0 ++ dktX0_hint_1
theorem dksX0_hint_0 : cX0_hint.data.toList.drop 0 = dktX0_hint_0 := by decide +kernel
theorem dksX0_hint_1 : cX0_hint.data.toList.drop 24 = dktX0_hint_1 := dk_seg dksX0_hint_0 24 rfl rfl
theorem dX0_hint_0 : decode cX0_hint 0 = .ok (.aload 4, 2) := dk_25 4 (dk_at dksX0_hint_0 0 rfl rfl)
theorem dX0_hint_2 : decode cX0_hint 2 = .ok (.iconst 0, 1) := dk_3 (dk_at dksX0_hint_0 2 rfl rfl)
theorem dX0_hint_3 : decode cX0_hint 3 = .ok (.aload_n 0, 1) := dk_42 (dk_at dksX0_hint_0 3 rfl rfl)
theorem dX0_hint_4 : decode cX0_hint 4 = .ok (.iload_n 1, 1) := dk_27 (dk_at dksX0_hint_0 4 rfl rfl)
theorem dX0_hint_5 : decode cX0_hint 5 = .ok (.iload_n 2, 1) := dk_28 (dk_at dksX0_hint_0 5 rfl rfl)
theorem dX0_hint_6 : decode cX0_hint 6 = .ok (.iload_n 3, 1) := dk_29 (dk_at dksX0_hint_0 6 rfl rfl)
theorem dX0_hint_7 : decode cX0_hint 7 = .ok (.invokevirtual 71, 3) := dk_182 0 71 (dk_at dksX0_hint_0 7 rfl rfl)
theorem dX0_hint_10 : decode cX0_hint 10 = .ok (.i2l, 1) := dk_133 (dk_at dksX0_hint_0 10 rfl rfl)
theorem dX0_hint_11 : decode cX0_hint 11 = .ok (.lastore, 1) := dk_80 (dk_at dksX0_hint_0 11 rfl rfl)
theorem dX0_hint_12 : decode cX0_hint 12 = .ok (.goto 11, 3) := dk_167 0 11 (dk_at dksX0_hint_0 12 rfl rfl)
theorem dX0_hint_15 : decode cX0_hint 15 = .ok (.astore 5, 2) := dk_58 5 (dk_at dksX0_hint_0 15 rfl rfl)
theorem dX0_hint_17 : decode cX0_hint 17 = .ok (.iconst 1, 1) := dk_4 (dk_at dksX0_hint_0 17 rfl rfl)
theorem dX0_hint_18 : decode cX0_hint 18 = .ok (.ireturn, 1) := dk_172 (dk_at dksX0_hint_0 18 rfl rfl)
theorem dX0_hint_19 : decode cX0_hint 19 = .ok (.astore 5, 2) := dk_58 5 (dk_at dksX0_hint_0 19 rfl rfl)
theorem dX0_hint_21 : decode cX0_hint 21 = .ok (.iconst 2, 1) := dk_5 (dk_at dksX0_hint_0 21 rfl rfl)
theorem dX0_hint_22 : decode cX0_hint 22 = .ok (.ireturn, 1) := dk_172 (dk_at dksX0_hint_0 22 rfl rfl)
theorem dX0_hint_23 : decode cX0_hint 23 = .ok (.iconst 0, 1) := dk_3 (dk_at dksX0_hint_0 23 rfl rfl)
theorem dX0_hint_24 : decode cX0_hint 24 = .ok (.ireturn, 1) := dk_172 (dk_at dksX0_hint_1 0 rfl rfl)
def dkwX0_advice_0 : List UInt8 := [44, 3, 42, 27, 182, 0, 74, 133, 80, 167, 0, 6, 78, 4, 172, 3, 172]
abbrev dktX0_advice_0 : List UInt8 := dkwX0_advice_0 ++ []
theorem dksX0_advice_0 : cX0_advice.data.toList.drop 0 = dktX0_advice_0 := by decide +kernel
theorem dX0_advice_0 : decode cX0_advice 0 = .ok (.aload_n 2, 1) := dk_44 (dk_at dksX0_advice_0 0 rfl rfl)
theorem dX0_advice_1 : decode cX0_advice 1 = .ok (.iconst 0, 1) := dk_3 (dk_at dksX0_advice_0 1 rfl rfl)
theorem dX0_advice_2 : decode cX0_advice 2 = .ok (.aload_n 0, 1) := dk_42 (dk_at dksX0_advice_0 2 rfl rfl)
theorem dX0_advice_3 : decode cX0_advice 3 = .ok (.iload_n 1, 1) := dk_27 (dk_at dksX0_advice_0 3 rfl rfl)
theorem dX0_advice_4 : decode cX0_advice 4 = .ok (.invokevirtual 74, 3) := dk_182 0 74 (dk_at dksX0_advice_0 4 rfl rfl)
theorem dX0_advice_7 : decode cX0_advice 7 = .ok (.i2l, 1) := dk_133 (dk_at dksX0_advice_0 7 rfl rfl)
theorem dX0_advice_8 : decode cX0_advice 8 = .ok (.lastore, 1) := dk_80 (dk_at dksX0_advice_0 8 rfl rfl)
theorem dX0_advice_9 : decode cX0_advice 9 = .ok (.goto 6, 3) := dk_167 0 6 (dk_at dksX0_advice_0 9 rfl rfl)
theorem dX0_advice_12 : decode cX0_advice 12 = .ok (.astore_n 3, 1) := dk_78 (dk_at dksX0_advice_0 12 rfl rfl)
theorem dX0_advice_13 : decode cX0_advice 13 = .ok (.iconst 1, 1) := dk_4 (dk_at dksX0_advice_0 13 rfl rfl)
theorem dX0_advice_14 : decode cX0_advice 14 = .ok (.ireturn, 1) := dk_172 (dk_at dksX0_advice_0 14 rfl rfl)
theorem dX0_advice_15 : decode cX0_advice 15 = .ok (.iconst 0, 1) := dk_3 (dk_at dksX0_advice_0 15 rfl rfl)
theorem dX0_advice_16 : decode cX0_advice 16 = .ok (.ireturn, 1) := dk_172 (dk_at dksX0_advice_0 16 rfl rfl)
def dkwX0_follow_0 : List UInt8 := [44, 3, 42, 27, 182, 0, 77, 133, 80, 167, 0, 6, 78, 4, 172, 3, 172]
abbrev dktX0_follow_0 : List UInt8 := dkwX0_follow_0 ++ []
theorem dksX0_follow_0 : cX0_follow.data.toList.drop 0 = dktX0_follow_0 := by decide +kernel
theorem dX0_follow_0 : decode cX0_follow 0 = .ok (.aload_n 2, 1) := dk_44 (dk_at dksX0_follow_0 0 rfl rfl)
theorem dX0_follow_1 : decode cX0_follow 1 = .ok (.iconst 0, 1) := dk_3 (dk_at dksX0_follow_0 1 rfl rfl)
theorem dX0_follow_2 : decode cX0_follow 2 = .ok (.aload_n 0, 1) := dk_42 (dk_at dksX0_follow_0 2 rfl rfl)
theorem dX0_follow_3 : decode cX0_follow 3 = .ok (.iload_n 1, 1) := dk_27 (dk_at dksX0_follow_0 3 rfl rfl)
theorem dX0_follow_4 : decode cX0_follow 4 = .ok (.invokevirtual 77, 3) := dk_182 0 77 (dk_at dksX0_follow_0 4 rfl rfl)
theorem dX0_follow_7 : decode cX0_follow 7 = .ok (.i2l, 1) := dk_133 (dk_at dksX0_follow_0 7 rfl rfl)
theorem dX0_follow_8 : decode cX0_follow 8 = .ok (.lastore, 1) := dk_80 (dk_at dksX0_follow_0 8 rfl rfl)
theorem dX0_follow_9 : decode cX0_follow 9 = .ok (.goto 6, 3) := dk_167 0 6 (dk_at dksX0_follow_0 9 rfl rfl)
theorem dX0_follow_12 : decode cX0_follow 12 = .ok (.astore_n 3, 1) := dk_78 (dk_at dksX0_follow_0 12 rfl rfl)
theorem dX0_follow_13 : decode cX0_follow 13 = .ok (.iconst 1, 1) := dk_4 (dk_at dksX0_follow_0 13 rfl rfl)
theorem dX0_follow_14 : decode cX0_follow 14 = .ok (.ireturn, 1) := dk_172 (dk_at dksX0_follow_0 14 rfl rfl)
theorem dX0_follow_15 : decode cX0_follow 15 = .ok (.iconst 0, 1) := dk_3 (dk_at dksX0_follow_0 15 rfl rfl)
theorem dX0_follow_16 : decode cX0_follow 16 = .ok (.ireturn, 1) := dk_172 (dk_at dksX0_follow_0 16 rfl rfl)
def dkwX0_valueBehind_0 : List UInt8 := [45, 3, 42, 27, 28, 182, 0, 80, 133, 80, 167, 0, 7, 58, 4, 4, 172, 3, 172]
abbrev dktX0_valueBehind_0 : List UInt8 := dkwX0_valueBehind_0 ++ []
theorem dksX0_valueBehind_0 : cX0_valueBehind.data.toList.drop 0 = dktX0_valueBehind_0 := by decide +kernel
theorem dX0_valueBehind_0 : decode cX0_valueBehind 0 = .ok (.aload_n 3, 1) := dk_45 (dk_at dksX0_valueBehind_0 0 rfl rfl)
theorem dX0_valueBehind_1 : decode cX0_valueBehind 1 = .ok (.iconst 0, 1) := dk_3 (dk_at dksX0_valueBehind_0 1 rfl rfl)
theorem dX0_valueBehind_2 : decode cX0_valueBehind 2 = .ok (.aload_n 0, 1) := dk_42 (dk_at dksX0_valueBehind_0 2 rfl rfl)
theorem dX0_valueBehind_3 : decode cX0_valueBehind 3 = .ok (.iload_n 1, 1) := dk_27 (dk_at dksX0_valueBehind_0 3 rfl rfl)
theorem dX0_valueBehind_4 : decode cX0_valueBehind 4 = .ok (.iload_n 2, 1) := dk_28 (dk_at dksX0_valueBehind_0 4 rfl rfl)
theorem dX0_valueBehind_5 : decode cX0_valueBehind 5 = .ok (.invokevirtual 80, 3) := dk_182 0 80 (dk_at dksX0_valueBehind_0 5 rfl rfl)
theorem dX0_valueBehind_8 : decode cX0_valueBehind 8 = .ok (.i2l, 1) := dk_133 (dk_at dksX0_valueBehind_0 8 rfl rfl)
theorem dX0_valueBehind_9 : decode cX0_valueBehind 9 = .ok (.lastore, 1) := dk_80 (dk_at dksX0_valueBehind_0 9 rfl rfl)
theorem dX0_valueBehind_10 : decode cX0_valueBehind 10 = .ok (.goto 7, 3) := dk_167 0 7 (dk_at dksX0_valueBehind_0 10 rfl rfl)
theorem dX0_valueBehind_13 : decode cX0_valueBehind 13 = .ok (.astore 4, 2) := dk_58 4 (dk_at dksX0_valueBehind_0 13 rfl rfl)
theorem dX0_valueBehind_15 : decode cX0_valueBehind 15 = .ok (.iconst 1, 1) := dk_4 (dk_at dksX0_valueBehind_0 15 rfl rfl)
theorem dX0_valueBehind_16 : decode cX0_valueBehind 16 = .ok (.ireturn, 1) := dk_172 (dk_at dksX0_valueBehind_0 16 rfl rfl)
theorem dX0_valueBehind_17 : decode cX0_valueBehind 17 = .ok (.iconst 0, 1) := dk_3 (dk_at dksX0_valueBehind_0 17 rfl rfl)
theorem dX0_valueBehind_18 : decode cX0_valueBehind 18 = .ok (.ireturn, 1) := dk_172 (dk_at dksX0_valueBehind_0 18 rfl rfl)
def dkwX0_bestMove_0 : List UInt8 := [44, 3, 42, 27, 182, 0, 83, 133, 80, 167, 0, 6, 78, 4, 172, 3, 172]
abbrev dktX0_bestMove_0 : List UInt8 := dkwX0_bestMove_0 ++ []
theorem dksX0_bestMove_0 : cX0_bestMove.data.toList.drop 0 = dktX0_bestMove_0 := by decide +kernel
theorem dX0_bestMove_0 : decode cX0_bestMove 0 = .ok (.aload_n 2, 1) := dk_44 (dk_at dksX0_bestMove_0 0 rfl rfl)
theorem dX0_bestMove_1 : decode cX0_bestMove 1 = .ok (.iconst 0, 1) := dk_3 (dk_at dksX0_bestMove_0 1 rfl rfl)
theorem dX0_bestMove_2 : decode cX0_bestMove 2 = .ok (.aload_n 0, 1) := dk_42 (dk_at dksX0_bestMove_0 2 rfl rfl)
theorem dX0_bestMove_3 : decode cX0_bestMove 3 = .ok (.iload_n 1, 1) := dk_27 (dk_at dksX0_bestMove_0 3 rfl rfl)
theorem dX0_bestMove_4 : decode cX0_bestMove 4 = .ok (.invokevirtual 83, 3) := dk_182 0 83 (dk_at dksX0_bestMove_0 4 rfl rfl)
theorem dX0_bestMove_7 : decode cX0_bestMove 7 = .ok (.i2l, 1) := dk_133 (dk_at dksX0_bestMove_0 7 rfl rfl)
theorem dX0_bestMove_8 : decode cX0_bestMove 8 = .ok (.lastore, 1) := dk_80 (dk_at dksX0_bestMove_0 8 rfl rfl)
theorem dX0_bestMove_9 : decode cX0_bestMove 9 = .ok (.goto 6, 3) := dk_167 0 6 (dk_at dksX0_bestMove_0 9 rfl rfl)
theorem dX0_bestMove_12 : decode cX0_bestMove 12 = .ok (.astore_n 3, 1) := dk_78 (dk_at dksX0_bestMove_0 12 rfl rfl)
theorem dX0_bestMove_13 : decode cX0_bestMove 13 = .ok (.iconst 1, 1) := dk_4 (dk_at dksX0_bestMove_0 13 rfl rfl)
theorem dX0_bestMove_14 : decode cX0_bestMove 14 = .ok (.ireturn, 1) := dk_172 (dk_at dksX0_bestMove_0 14 rfl rfl)
theorem dX0_bestMove_15 : decode cX0_bestMove 15 = .ok (.iconst 0, 1) := dk_3 (dk_at dksX0_bestMove_0 15 rfl rfl)
theorem dX0_bestMove_16 : decode cX0_bestMove 16 = .ok (.ireturn, 1) := dk_172 (dk_at dksX0_bestMove_0 16 rfl rfl)
def dkwX0_total_0 : List UInt8 := [44, 3, 42, 27, 182, 0, 86, 133, 80, 167, 0, 6, 78, 4, 172, 3, 172]
abbrev dktX0_total_0 : List UInt8 := dkwX0_total_0 ++ []
theorem dksX0_total_0 : cX0_total.data.toList.drop 0 = dktX0_total_0 := by decide +kernel
theorem dX0_total_0 : decode cX0_total 0 = .ok (.aload_n 2, 1) := dk_44 (dk_at dksX0_total_0 0 rfl rfl)
theorem dX0_total_1 : decode cX0_total 1 = .ok (.iconst 0, 1) := dk_3 (dk_at dksX0_total_0 1 rfl rfl)
theorem dX0_total_2 : decode cX0_total 2 = .ok (.aload_n 0, 1) := dk_42 (dk_at dksX0_total_0 2 rfl rfl)
theorem dX0_total_3 : decode cX0_total 3 = .ok (.iload_n 1, 1) := dk_27 (dk_at dksX0_total_0 3 rfl rfl)
theorem dX0_total_4 : decode cX0_total 4 = .ok (.invokevirtual 86, 3) := dk_182 0 86 (dk_at dksX0_total_0 4 rfl rfl)
theorem dX0_total_7 : decode cX0_total 7 = .ok (.i2l, 1) := dk_133 (dk_at dksX0_total_0 7 rfl rfl)
theorem dX0_total_8 : decode cX0_total 8 = .ok (.lastore, 1) := dk_80 (dk_at dksX0_total_0 8 rfl rfl)
theorem dX0_total_9 : decode cX0_total 9 = .ok (.goto 6, 3) := dk_167 0 6 (dk_at dksX0_total_0 9 rfl rfl)
theorem dX0_total_12 : decode cX0_total 12 = .ok (.astore_n 3, 1) := dk_78 (dk_at dksX0_total_0 12 rfl rfl)
theorem dX0_total_13 : decode cX0_total 13 = .ok (.iconst 1, 1) := dk_4 (dk_at dksX0_total_0 13 rfl rfl)
theorem dX0_total_14 : decode cX0_total 14 = .ok (.ireturn, 1) := dk_172 (dk_at dksX0_total_0 14 rfl rfl)
theorem dX0_total_15 : decode cX0_total 15 = .ok (.iconst 0, 1) := dk_3 (dk_at dksX0_total_0 15 rfl rfl)
theorem dX0_total_16 : decode cX0_total 16 = .ok (.ireturn, 1) := dk_172 (dk_at dksX0_total_0 16 rfl rfl)
def dkwX0_logPart_0 : List UInt8 := [45, 3, 42, 27, 28, 182, 0, 89, 133, 80, 167, 0, 7, 58, 4, 4, 172, 3, 172]
abbrev dktX0_logPart_0 : List UInt8 := dkwX0_logPart_0 ++ []
theorem dksX0_logPart_0 : cX0_logPart.data.toList.drop 0 = dktX0_logPart_0 := by decide +kernel
theorem dX0_logPart_0 : decode cX0_logPart 0 = .ok (.aload_n 3, 1) := dk_45 (dk_at dksX0_logPart_0 0 rfl rfl)
theorem dX0_logPart_1 : decode cX0_logPart 1 = .ok (.iconst 0, 1) := dk_3 (dk_at dksX0_logPart_0 1 rfl rfl)
theorem dX0_logPart_2 : decode cX0_logPart 2 = .ok (.aload_n 0, 1) := dk_42 (dk_at dksX0_logPart_0 2 rfl rfl)
theorem dX0_logPart_3 : decode cX0_logPart 3 = .ok (.iload_n 1, 1) := dk_27 (dk_at dksX0_logPart_0 3 rfl rfl)
theorem dX0_logPart_4 : decode cX0_logPart 4 = .ok (.iload_n 2, 1) := dk_28 (dk_at dksX0_logPart_0 4 rfl rfl)
theorem dX0_logPart_5 : decode cX0_logPart 5 = .ok (.invokevirtual 89, 3) := dk_182 0 89 (dk_at dksX0_logPart_0 5 rfl rfl)
theorem dX0_logPart_8 : decode cX0_logPart 8 = .ok (.i2l, 1) := dk_133 (dk_at dksX0_logPart_0 8 rfl rfl)
theorem dX0_logPart_9 : decode cX0_logPart 9 = .ok (.lastore, 1) := dk_80 (dk_at dksX0_logPart_0 9 rfl rfl)
theorem dX0_logPart_10 : decode cX0_logPart 10 = .ok (.goto 7, 3) := dk_167 0 7 (dk_at dksX0_logPart_0 10 rfl rfl)
theorem dX0_logPart_13 : decode cX0_logPart 13 = .ok (.astore 4, 2) := dk_58 4 (dk_at dksX0_logPart_0 13 rfl rfl)
theorem dX0_logPart_15 : decode cX0_logPart 15 = .ok (.iconst 1, 1) := dk_4 (dk_at dksX0_logPart_0 15 rfl rfl)
theorem dX0_logPart_16 : decode cX0_logPart 16 = .ok (.ireturn, 1) := dk_172 (dk_at dksX0_logPart_0 16 rfl rfl)
theorem dX0_logPart_17 : decode cX0_logPart 17 = .ok (.iconst 0, 1) := dk_3 (dk_at dksX0_logPart_0 17 rfl rfl)
theorem dX0_logPart_18 : decode cX0_logPart 18 = .ok (.ireturn, 1) := dk_172 (dk_at dksX0_logPart_0 18 rfl rfl)
def dkwX0_writeHand_0 : List UInt8 := [45, 3, 42, 27, 28, 182, 0, 92, 133, 80, 167, 0, 7, 58, 4, 4, 172, 3, 172]
abbrev dktX0_writeHand_0 : List UInt8 := dkwX0_writeHand_0 ++ []
theorem dksX0_writeHand_0 : cX0_writeHand.data.toList.drop 0 = dktX0_writeHand_0 := by decide +kernel
theorem dX0_writeHand_0 : decode cX0_writeHand 0 = .ok (.aload_n 3, 1) := dk_45 (dk_at dksX0_writeHand_0 0 rfl rfl)
theorem dX0_writeHand_1 : decode cX0_writeHand 1 = .ok (.iconst 0, 1) := dk_3 (dk_at dksX0_writeHand_0 1 rfl rfl)
theorem dX0_writeHand_2 : decode cX0_writeHand 2 = .ok (.aload_n 0, 1) := dk_42 (dk_at dksX0_writeHand_0 2 rfl rfl)
theorem dX0_writeHand_3 : decode cX0_writeHand 3 = .ok (.iload_n 1, 1) := dk_27 (dk_at dksX0_writeHand_0 3 rfl rfl)
theorem dX0_writeHand_4 : decode cX0_writeHand 4 = .ok (.iload_n 2, 1) := dk_28 (dk_at dksX0_writeHand_0 4 rfl rfl)
theorem dX0_writeHand_5 : decode cX0_writeHand 5 = .ok (.invokevirtual 92, 3) := dk_182 0 92 (dk_at dksX0_writeHand_0 5 rfl rfl)
theorem dX0_writeHand_8 : decode cX0_writeHand 8 = .ok (.i2l, 1) := dk_133 (dk_at dksX0_writeHand_0 8 rfl rfl)
theorem dX0_writeHand_9 : decode cX0_writeHand 9 = .ok (.lastore, 1) := dk_80 (dk_at dksX0_writeHand_0 9 rfl rfl)
theorem dX0_writeHand_10 : decode cX0_writeHand 10 = .ok (.goto 7, 3) := dk_167 0 7 (dk_at dksX0_writeHand_0 10 rfl rfl)
theorem dX0_writeHand_13 : decode cX0_writeHand 13 = .ok (.astore 4, 2) := dk_58 4 (dk_at dksX0_writeHand_0 13 rfl rfl)
theorem dX0_writeHand_15 : decode cX0_writeHand 15 = .ok (.iconst 1, 1) := dk_4 (dk_at dksX0_writeHand_0 15 rfl rfl)
theorem dX0_writeHand_16 : decode cX0_writeHand 16 = .ok (.ireturn, 1) := dk_172 (dk_at dksX0_writeHand_0 16 rfl rfl)
theorem dX0_writeHand_17 : decode cX0_writeHand 17 = .ok (.iconst 0, 1) := dk_3 (dk_at dksX0_writeHand_0 17 rfl rfl)
theorem dX0_writeHand_18 : decode cX0_writeHand 18 = .ok (.ireturn, 1) := dk_172 (dk_at dksX0_writeHand_0 18 rfl rfl)
def dkwX0_saveSnapshot_0 : List UInt8 := [44, 3, 42, 27, 182, 0, 96, 133, 80, 167, 0, 6, 78, 4, 172, 3, 172]
abbrev dktX0_saveSnapshot_0 : List UInt8 := dkwX0_saveSnapshot_0 ++ []
theorem dksX0_saveSnapshot_0 : cX0_saveSnapshot.data.toList.drop 0 = dktX0_saveSnapshot_0 := by decide +kernel
theorem dX0_saveSnapshot_0 : decode cX0_saveSnapshot 0 = .ok (.aload_n 2, 1) := dk_44 (dk_at dksX0_saveSnapshot_0 0 rfl rfl)
theorem dX0_saveSnapshot_1 : decode cX0_saveSnapshot 1 = .ok (.iconst 0, 1) := dk_3 (dk_at dksX0_saveSnapshot_0 1 rfl rfl)
theorem dX0_saveSnapshot_2 : decode cX0_saveSnapshot 2 = .ok (.aload_n 0, 1) := dk_42 (dk_at dksX0_saveSnapshot_0 2 rfl rfl)
theorem dX0_saveSnapshot_3 : decode cX0_saveSnapshot 3 = .ok (.iload_n 1, 1) := dk_27 (dk_at dksX0_saveSnapshot_0 3 rfl rfl)
theorem dX0_saveSnapshot_4 : decode cX0_saveSnapshot 4 = .ok (.invokevirtual 96, 3) := dk_182 0 96 (dk_at dksX0_saveSnapshot_0 4 rfl rfl)
theorem dX0_saveSnapshot_7 : decode cX0_saveSnapshot 7 = .ok (.i2l, 1) := dk_133 (dk_at dksX0_saveSnapshot_0 7 rfl rfl)
theorem dX0_saveSnapshot_8 : decode cX0_saveSnapshot 8 = .ok (.lastore, 1) := dk_80 (dk_at dksX0_saveSnapshot_0 8 rfl rfl)
theorem dX0_saveSnapshot_9 : decode cX0_saveSnapshot 9 = .ok (.goto 6, 3) := dk_167 0 6 (dk_at dksX0_saveSnapshot_0 9 rfl rfl)
theorem dX0_saveSnapshot_12 : decode cX0_saveSnapshot 12 = .ok (.astore_n 3, 1) := dk_78 (dk_at dksX0_saveSnapshot_0 12 rfl rfl)
theorem dX0_saveSnapshot_13 : decode cX0_saveSnapshot 13 = .ok (.iconst 1, 1) := dk_4 (dk_at dksX0_saveSnapshot_0 13 rfl rfl)
theorem dX0_saveSnapshot_14 : decode cX0_saveSnapshot 14 = .ok (.ireturn, 1) := dk_172 (dk_at dksX0_saveSnapshot_0 14 rfl rfl)
theorem dX0_saveSnapshot_15 : decode cX0_saveSnapshot 15 = .ok (.iconst 0, 1) := dk_3 (dk_at dksX0_saveSnapshot_0 15 rfl rfl)
theorem dX0_saveSnapshot_16 : decode cX0_saveSnapshot 16 = .ok (.ireturn, 1) := dk_172 (dk_at dksX0_saveSnapshot_0 16 rfl rfl)
def dkwX0_restoreSnapshot_0 : List UInt8 := [44, 3, 42, 27, 182, 0, 99, 133, 80, 167, 0, 6, 78, 4, 172, 3, 172]
abbrev dktX0_restoreSnapshot_0 : List UInt8 := dkwX0_restoreSnapshot_0 ++ []
theorem dksX0_restoreSnapshot_0 : cX0_restoreSnapshot.data.toList.drop 0 = dktX0_restoreSnapshot_0 := by decide +kernel
theorem dX0_restoreSnapshot_0 : decode cX0_restoreSnapshot 0 = .ok (.aload_n 2, 1) := dk_44 (dk_at dksX0_restoreSnapshot_0 0 rfl rfl)
theorem dX0_restoreSnapshot_1 : decode cX0_restoreSnapshot 1 = .ok (.iconst 0, 1) := dk_3 (dk_at dksX0_restoreSnapshot_0 1 rfl rfl)
theorem dX0_restoreSnapshot_2 : decode cX0_restoreSnapshot 2 = .ok (.aload_n 0, 1) := dk_42 (dk_at dksX0_restoreSnapshot_0 2 rfl rfl)
theorem dX0_restoreSnapshot_3 : decode cX0_restoreSnapshot 3 = .ok (.iload_n 1, 1) := dk_27 (dk_at dksX0_restoreSnapshot_0 3 rfl rfl)
theorem dX0_restoreSnapshot_4 : decode cX0_restoreSnapshot 4 = .ok (.invokevirtual 99, 3) := dk_182 0 99 (dk_at dksX0_restoreSnapshot_0 4 rfl rfl)
theorem dX0_restoreSnapshot_7 : decode cX0_restoreSnapshot 7 = .ok (.i2l, 1) := dk_133 (dk_at dksX0_restoreSnapshot_0 7 rfl rfl)
theorem dX0_restoreSnapshot_8 : decode cX0_restoreSnapshot 8 = .ok (.lastore, 1) := dk_80 (dk_at dksX0_restoreSnapshot_0 8 rfl rfl)
theorem dX0_restoreSnapshot_9 : decode cX0_restoreSnapshot 9 = .ok (.goto 6, 3) := dk_167 0 6 (dk_at dksX0_restoreSnapshot_0 9 rfl rfl)
theorem dX0_restoreSnapshot_12 : decode cX0_restoreSnapshot 12 = .ok (.astore_n 3, 1) := dk_78 (dk_at dksX0_restoreSnapshot_0 12 rfl rfl)
theorem dX0_restoreSnapshot_13 : decode cX0_restoreSnapshot 13 = .ok (.iconst 1, 1) := dk_4 (dk_at dksX0_restoreSnapshot_0 13 rfl rfl)
theorem dX0_restoreSnapshot_14 : decode cX0_restoreSnapshot 14 = .ok (.ireturn, 1) := dk_172 (dk_at dksX0_restoreSnapshot_0 14 rfl rfl)
theorem dX0_restoreSnapshot_15 : decode cX0_restoreSnapshot 15 = .ok (.iconst 0, 1) := dk_3 (dk_at dksX0_restoreSnapshot_0 15 rfl rfl)
theorem dX0_restoreSnapshot_16 : decode cX0_restoreSnapshot 16 = .ok (.ireturn, 1) := dk_172 (dk_at dksX0_restoreSnapshot_0 16 rfl rfl)
theorem b_X0_advice_0 {G : Wd} {l : Launch} {d : Nat} {post : Option Value → VH → Prop} {xp : Nat → VH → Prop} {V : Nat → List (Nat × VT) → List Value → VH → Prop} {XV : Nat → List (Nat × VT) → Nat → VH → Prop} (C : Ctx G l d mX0_advice post xp V XV) {i1 : Int32} {a0 a2 : Nat} {h : VH}
    (f : (kd h a0 = 1) ∧ D G l d mX1_advice [vR a0, vI i1] h (fun v h1 => ∃ ri1, v = some (.int ri1) ∧ ((kd h1 a2 = 203) ∧ (vp_in (jI 0) (ln h1 a2)) ∧ (∀ h2 : VH, h2 = sL h1 ((jI 0)).toNatClampNeg a2 (Int32.toInt64 ri1) → (post (some (.int (jI 0))) h2)))) (fun q h9 => XV 4 [] q h9)) : V 0 [(0, vR a0), (1, vI i1), (2, vR a2)] [] h := by
  obtain ⟨p, e, R, s, m, args, below, meth, c, Q, ⟨hx, hb, hr, hlk, hml, hown, hk, hRr, htb, hnm, hsB, htr, hQ⟩, hV, hX⟩ := C
  rw [hV]
  intro H locs ls hR hL hl
  have hb : c.code = cX0_advice := hb
  have hr : meth.sig.returnType = some .int := hr
  have hml : c.maxLocals = 4 := hml
  have hown : s.vm.findClass RX0 = some m.cls := hown
  have hl : lv_has ls 4 (lm [(0, vR a0), (1, vI i1), (2, vR a2)]) := hl
  have hsz : ls.size = c.maxLocals := hl.1.trans hml.symm
  subst hQ
  refine w_aload_n hx hb dX0_advice_0 rfl (lv_v hl (k := 2) rfl rfl) ?_
  refine w_iconst hx hb dX0_advice_1 ?_
  refine w_aload_n hx hb dX0_advice_2 rfl (lv_v hl (k := 0) rfl rfl) ?_
  refine lv_iload_n hx hb dX0_advice_3 rfl (lv_v hl (k := 1) rfl rfl) ?_
  refine w_call (mi := mX1_advice) (As := [vR a0, vI i1]) (rest := [.int (jI 0), vr a2]) (len := 3) hk hR hL hsz hsB htr hRr (cok_V (i := 0) (C := RX1) (argsL := [.int i1]) hx hb hown hk hR f.1 (by decide) rfl q2806 q2807 q2808 q2809 kX1_advice.1 kX1_advice.2 rfl dX0_advice_4) f.2 wX1_advice iX1_advice (by decide) (cat_sum _ (Nat.le_of_ble_eq_true rfl)) rfl (fun v h1 H locs f hR hL => ?_) (fun q h9 H locs hp hR hL => (hX _ _ _ _).mp hp.2.2 H locs _ _ q rfl hp.1 hp.2.1 hR hL (lv_p hl [] rfl))
  obtain ⟨ri1, rfl, f⟩ := f
  show Wn p l e R s m args below meth c H locs _ (F0 m 7 ls [.int ri1, .int (jI 0), vr a2])
  refine lv_i2l (v := Int32.toInt64 ri1) hx hb dX0_advice_7 rfl ?_
  obtain ⟨f1, f2, f⟩ := f
  refine w_last hx hb hk hR hL f1 f2 dX0_advice_8 (fun H locs hR hL => ?_)
  obtain ⟨h2, eh2⟩ : ∃ z : VH, z = sL h1 ((jI 0)).toNatClampNeg a2 (Int32.toInt64 ri1) := ⟨_, rfl⟩
  have hR : Rp G h2 H := by rw [eh2]; exact hR
  have f := f h2 eh2
  refine lv_goto (tgt := 15) hx hb dX0_advice_9 (by decide) ?_
  refine w_iconst hx hb dX0_advice_15 ?_
  exact w_iret hx hb hr hlk hR hL dX0_advice_16 f
theorem b_X0_advice_12 {G : Wd} {l : Launch} {d : Nat} {post : Option Value → VH → Prop} {xp : Nat → VH → Prop} {V : Nat → List (Nat × VT) → List Value → VH → Prop} {XV : Nat → List (Nat × VT) → Nat → VH → Prop} (C : Ctx G l d mX0_advice post xp V XV) {b0 : Nat} {h : VH}
    (f : post (some (.int (jI 1))) h) : V 12 [] [vr b0] h := by
  obtain ⟨p, e, R, s, m, args, below, meth, c, Q, ⟨hx, hb, hr, hlk, hml, hown, hk, hRr, htb, hnm, hsB, htr, hQ⟩, hV, hX⟩ := C
  rw [hV]
  intro H locs ls hR hL hl
  have hb : c.code = cX0_advice := hb
  have hr : meth.sig.returnType = some .int := hr
  have hml : c.maxLocals = 4 := hml
  have hown : s.vm.findClass RX0 = some m.cls := hown
  have hl : lv_has ls 4 (lm []) := hl
  have hsz : ls.size = c.maxLocals := hl.1.trans hml.symm
  subst hQ
  refine w_astore_n' (L' := [(3, vR b0)]) hx hb dX0_advice_12 rfl hl (by decide) rfl (fun ls hl => ?_)
  have hsz : ls.size = c.maxLocals := hl.1.trans hml.symm
  refine w_iconst hx hb dX0_advice_13 ?_
  exact w_iret hx hb hr hlk hR hL dX0_advice_14 f
theorem b_X0_bestMove_0 {G : Wd} {l : Launch} {d : Nat} {post : Option Value → VH → Prop} {xp : Nat → VH → Prop} {V : Nat → List (Nat × VT) → List Value → VH → Prop} {XV : Nat → List (Nat × VT) → Nat → VH → Prop} (C : Ctx G l d mX0_bestMove post xp V XV) {i1 : Int32} {a0 a2 : Nat} {h : VH}
    (f : (kd h a0 = 1) ∧ D G l d mX1_bestMove [vR a0, vI i1] h (fun v h1 => ∃ ri1, v = some (.int ri1) ∧ ((kd h1 a2 = 203) ∧ (vp_in (jI 0) (ln h1 a2)) ∧ (∀ h2 : VH, h2 = sL h1 ((jI 0)).toNatClampNeg a2 (Int32.toInt64 ri1) → (post (some (.int (jI 0))) h2)))) (fun q h9 => XV 4 [] q h9)) : V 0 [(0, vR a0), (1, vI i1), (2, vR a2)] [] h := by
  obtain ⟨p, e, R, s, m, args, below, meth, c, Q, ⟨hx, hb, hr, hlk, hml, hown, hk, hRr, htb, hnm, hsB, htr, hQ⟩, hV, hX⟩ := C
  rw [hV]
  intro H locs ls hR hL hl
  have hb : c.code = cX0_bestMove := hb
  have hr : meth.sig.returnType = some .int := hr
  have hml : c.maxLocals = 4 := hml
  have hown : s.vm.findClass RX0 = some m.cls := hown
  have hl : lv_has ls 4 (lm [(0, vR a0), (1, vI i1), (2, vR a2)]) := hl
  have hsz : ls.size = c.maxLocals := hl.1.trans hml.symm
  subst hQ
  refine w_aload_n hx hb dX0_bestMove_0 rfl (lv_v hl (k := 2) rfl rfl) ?_
  refine w_iconst hx hb dX0_bestMove_1 ?_
  refine w_aload_n hx hb dX0_bestMove_2 rfl (lv_v hl (k := 0) rfl rfl) ?_
  refine lv_iload_n hx hb dX0_bestMove_3 rfl (lv_v hl (k := 1) rfl rfl) ?_
  refine w_call (mi := mX1_bestMove) (As := [vR a0, vI i1]) (rest := [.int (jI 0), vr a2]) (len := 3) hk hR hL hsz hsB htr hRr (cok_V (i := 0) (C := RX1) (argsL := [.int i1]) hx hb hown hk hR f.1 (by decide) rfl q2863 q2864 q2865 q2866 kX1_bestMove.1 kX1_bestMove.2 rfl dX0_bestMove_4) f.2 wX1_bestMove iX1_bestMove (by decide) (cat_sum _ (Nat.le_of_ble_eq_true rfl)) rfl (fun v h1 H locs f hR hL => ?_) (fun q h9 H locs hp hR hL => (hX _ _ _ _).mp hp.2.2 H locs _ _ q rfl hp.1 hp.2.1 hR hL (lv_p hl [] rfl))
  obtain ⟨ri1, rfl, f⟩ := f
  show Wn p l e R s m args below meth c H locs _ (F0 m 7 ls [.int ri1, .int (jI 0), vr a2])
  refine lv_i2l (v := Int32.toInt64 ri1) hx hb dX0_bestMove_7 rfl ?_
  obtain ⟨f1, f2, f⟩ := f
  refine w_last hx hb hk hR hL f1 f2 dX0_bestMove_8 (fun H locs hR hL => ?_)
  obtain ⟨h2, eh2⟩ : ∃ z : VH, z = sL h1 ((jI 0)).toNatClampNeg a2 (Int32.toInt64 ri1) := ⟨_, rfl⟩
  have hR : Rp G h2 H := by rw [eh2]; exact hR
  have f := f h2 eh2
  refine lv_goto (tgt := 15) hx hb dX0_bestMove_9 (by decide) ?_
  refine w_iconst hx hb dX0_bestMove_15 ?_
  exact w_iret hx hb hr hlk hR hL dX0_bestMove_16 f
theorem b_X0_bestMove_12 {G : Wd} {l : Launch} {d : Nat} {post : Option Value → VH → Prop} {xp : Nat → VH → Prop} {V : Nat → List (Nat × VT) → List Value → VH → Prop} {XV : Nat → List (Nat × VT) → Nat → VH → Prop} (C : Ctx G l d mX0_bestMove post xp V XV) {b0 : Nat} {h : VH}
    (f : post (some (.int (jI 1))) h) : V 12 [] [vr b0] h := by
  obtain ⟨p, e, R, s, m, args, below, meth, c, Q, ⟨hx, hb, hr, hlk, hml, hown, hk, hRr, htb, hnm, hsB, htr, hQ⟩, hV, hX⟩ := C
  rw [hV]
  intro H locs ls hR hL hl
  have hb : c.code = cX0_bestMove := hb
  have hr : meth.sig.returnType = some .int := hr
  have hml : c.maxLocals = 4 := hml
  have hown : s.vm.findClass RX0 = some m.cls := hown
  have hl : lv_has ls 4 (lm []) := hl
  have hsz : ls.size = c.maxLocals := hl.1.trans hml.symm
  subst hQ
  refine w_astore_n' (L' := [(3, vR b0)]) hx hb dX0_bestMove_12 rfl hl (by decide) rfl (fun ls hl => ?_)
  have hsz : ls.size = c.maxLocals := hl.1.trans hml.symm
  refine w_iconst hx hb dX0_bestMove_13 ?_
  exact w_iret hx hb hr hlk hR hL dX0_bestMove_14 f
theorem b_X0_card_0 {G : Wd} {l : Launch} {d : Nat} {post : Option Value → VH → Prop} {xp : Nat → VH → Prop} {V : Nat → List (Nat × VT) → List Value → VH → Prop} {XV : Nat → List (Nat × VT) → Nat → VH → Prop} (C : Ctx G l d mX0_card post xp V XV) {i1 i2 : Int32} {a0 a3 : Nat} {h : VH}
    (f : (kd h a0 = 1) ∧ D G l d mX1_card [vR a0, vI i1, vI i2] h (fun v h1 => ∃ ri1, v = some (.int ri1) ∧ ((kd h1 a3 = 203) ∧ (vp_in (jI 0) (ln h1 a3)) ∧ (∀ h2 : VH, h2 = sL h1 ((jI 0)).toNatClampNeg a3 (Int32.toInt64 ri1) → (post (some (.int (jI 0))) h2)))) (fun q h9 => XV 5 [] q h9)) : V 0 [(0, vR a0), (1, vI i1), (2, vI i2), (3, vR a3)] [] h := by
  obtain ⟨p, e, R, s, m, args, below, meth, c, Q, ⟨hx, hb, hr, hlk, hml, hown, hk, hRr, htb, hnm, hsB, htr, hQ⟩, hV, hX⟩ := C
  rw [hV]
  intro H locs ls hR hL hl
  have hb : c.code = cX0_card := hb
  have hr : meth.sig.returnType = some .int := hr
  have hml : c.maxLocals = 5 := hml
  have hown : s.vm.findClass RX0 = some m.cls := hown
  have hl : lv_has ls 5 (lm [(0, vR a0), (1, vI i1), (2, vI i2), (3, vR a3)]) := hl
  have hsz : ls.size = c.maxLocals := hl.1.trans hml.symm
  subst hQ
  refine w_aload_n hx hb dX0_card_0 rfl (lv_v hl (k := 3) rfl rfl) ?_
  refine w_iconst hx hb dX0_card_1 ?_
  refine w_aload_n hx hb dX0_card_2 rfl (lv_v hl (k := 0) rfl rfl) ?_
  refine lv_iload_n hx hb dX0_card_3 rfl (lv_v hl (k := 1) rfl rfl) ?_
  refine lv_iload_n hx hb dX0_card_4 rfl (lv_v hl (k := 2) rfl rfl) ?_
  refine w_call (mi := mX1_card) (As := [vR a0, vI i1, vI i2]) (rest := [.int (jI 0), vr a3]) (len := 3) hk hR hL hsz hsB htr hRr (cok_V (i := 0) (C := RX1) (argsL := [.int i1, .int i2]) hx hb hown hk hR f.1 (by decide) rfl q2653 q2654 q2655 q2656 kX1_card.1 kX1_card.2 rfl dX0_card_5) f.2 wX1_card iX1_card (by decide) (cat_sum _ (Nat.le_of_ble_eq_true rfl)) rfl (fun v h1 H locs f hR hL => ?_) (fun q h9 H locs hp hR hL => (hX _ _ _ _).mp hp.2.2 H locs _ _ q rfl hp.1 hp.2.1 hR hL (lv_p hl [] rfl))
  obtain ⟨ri1, rfl, f⟩ := f
  show Wn p l e R s m args below meth c H locs _ (F0 m 8 ls [.int ri1, .int (jI 0), vr a3])
  refine lv_i2l (v := Int32.toInt64 ri1) hx hb dX0_card_8 rfl ?_
  obtain ⟨f1, f2, f⟩ := f
  refine w_last hx hb hk hR hL f1 f2 dX0_card_9 (fun H locs hR hL => ?_)
  obtain ⟨h2, eh2⟩ : ∃ z : VH, z = sL h1 ((jI 0)).toNatClampNeg a3 (Int32.toInt64 ri1) := ⟨_, rfl⟩
  have hR : Rp G h2 H := by rw [eh2]; exact hR
  have f := f h2 eh2
  refine lv_goto (tgt := 17) hx hb dX0_card_10 (by decide) ?_
  refine w_iconst hx hb dX0_card_17 ?_
  exact w_iret hx hb hr hlk hR hL dX0_card_18 f
theorem b_X0_card_13 {G : Wd} {l : Launch} {d : Nat} {post : Option Value → VH → Prop} {xp : Nat → VH → Prop} {V : Nat → List (Nat × VT) → List Value → VH → Prop} {XV : Nat → List (Nat × VT) → Nat → VH → Prop} (C : Ctx G l d mX0_card post xp V XV) {b0 : Nat} {h : VH}
    (f : post (some (.int (jI 1))) h) : V 13 [] [vr b0] h := by
  obtain ⟨p, e, R, s, m, args, below, meth, c, Q, ⟨hx, hb, hr, hlk, hml, hown, hk, hRr, htb, hnm, hsB, htr, hQ⟩, hV, hX⟩ := C
  rw [hV]
  intro H locs ls hR hL hl
  have hb : c.code = cX0_card := hb
  have hr : meth.sig.returnType = some .int := hr
  have hml : c.maxLocals = 5 := hml
  have hown : s.vm.findClass RX0 = some m.cls := hown
  have hl : lv_has ls 5 (lm []) := hl
  have hsz : ls.size = c.maxLocals := hl.1.trans hml.symm
  subst hQ
  refine w_astore' (L' := [(4, vR b0)]) hx hb dX0_card_13 hl (by decide) rfl (fun ls hl => ?_)
  have hsz : ls.size = c.maxLocals := hl.1.trans hml.symm
  refine w_iconst hx hb dX0_card_15 ?_
  exact w_iret hx hb hr hlk hR hL dX0_card_16 f
theorem b_X0_colorsOf_0 {G : Wd} {l : Launch} {d : Nat} {post : Option Value → VH → Prop} {xp : Nat → VH → Prop} {V : Nat → List (Nat × VT) → List Value → VH → Prop} {XV : Nat → List (Nat × VT) → Nat → VH → Prop} (C : Ctx G l d mX0_colorsOf post xp V XV) {i1 i2 : Int32} {a0 a3 : Nat} {h : VH}
    (f : (kd h a0 = 1) ∧ D G l d mX1_colorsOf [vR a0, vI i1, vI i2] h (fun v h1 => ∃ ri1, v = some (.int ri1) ∧ ((kd h1 a3 = 203) ∧ (vp_in (jI 0) (ln h1 a3)) ∧ (∀ h2 : VH, h2 = sL h1 ((jI 0)).toNatClampNeg a3 (Int32.toInt64 ri1) → (post (some (.int (jI 0))) h2)))) (fun q h9 => XV 5 [] q h9)) : V 0 [(0, vR a0), (1, vI i1), (2, vI i2), (3, vR a3)] [] h := by
  obtain ⟨p, e, R, s, m, args, below, meth, c, Q, ⟨hx, hb, hr, hlk, hml, hown, hk, hRr, htb, hnm, hsB, htr, hQ⟩, hV, hX⟩ := C
  rw [hV]
  intro H locs ls hR hL hl
  have hb : c.code = cX0_colorsOf := hb
  have hr : meth.sig.returnType = some .int := hr
  have hml : c.maxLocals = 5 := hml
  have hown : s.vm.findClass RX0 = some m.cls := hown
  have hl : lv_has ls 5 (lm [(0, vR a0), (1, vI i1), (2, vI i2), (3, vR a3)]) := hl
  have hsz : ls.size = c.maxLocals := hl.1.trans hml.symm
  subst hQ
  refine w_aload_n hx hb dX0_colorsOf_0 rfl (lv_v hl (k := 3) rfl rfl) ?_
  refine w_iconst hx hb dX0_colorsOf_1 ?_
  refine w_aload_n hx hb dX0_colorsOf_2 rfl (lv_v hl (k := 0) rfl rfl) ?_
  refine lv_iload_n hx hb dX0_colorsOf_3 rfl (lv_v hl (k := 1) rfl rfl) ?_
  refine lv_iload_n hx hb dX0_colorsOf_4 rfl (lv_v hl (k := 2) rfl rfl) ?_
  refine w_call (mi := mX1_colorsOf) (As := [vR a0, vI i1, vI i2]) (rest := [.int (jI 0), vr a3]) (len := 3) hk hR hL hsz hsB htr hRr (cok_V (i := 0) (C := RX1) (argsL := [.int i1, .int i2]) hx hb hown hk hR f.1 (by decide) rfl q2696 q2697 q2698 q2699 kX1_colorsOf.1 kX1_colorsOf.2 rfl dX0_colorsOf_5) f.2 wX1_colorsOf iX1_colorsOf (by decide) (cat_sum _ (Nat.le_of_ble_eq_true rfl)) rfl (fun v h1 H locs f hR hL => ?_) (fun q h9 H locs hp hR hL => (hX _ _ _ _).mp hp.2.2 H locs _ _ q rfl hp.1 hp.2.1 hR hL (lv_p hl [] rfl))
  obtain ⟨ri1, rfl, f⟩ := f
  show Wn p l e R s m args below meth c H locs _ (F0 m 8 ls [.int ri1, .int (jI 0), vr a3])
  refine lv_i2l (v := Int32.toInt64 ri1) hx hb dX0_colorsOf_8 rfl ?_
  obtain ⟨f1, f2, f⟩ := f
  refine w_last hx hb hk hR hL f1 f2 dX0_colorsOf_9 (fun H locs hR hL => ?_)
  obtain ⟨h2, eh2⟩ : ∃ z : VH, z = sL h1 ((jI 0)).toNatClampNeg a3 (Int32.toInt64 ri1) := ⟨_, rfl⟩
  have hR : Rp G h2 H := by rw [eh2]; exact hR
  have f := f h2 eh2
  refine lv_goto (tgt := 17) hx hb dX0_colorsOf_10 (by decide) ?_
  refine w_iconst hx hb dX0_colorsOf_17 ?_
  exact w_iret hx hb hr hlk hR hL dX0_colorsOf_18 f
theorem b_X0_colorsOf_13 {G : Wd} {l : Launch} {d : Nat} {post : Option Value → VH → Prop} {xp : Nat → VH → Prop} {V : Nat → List (Nat × VT) → List Value → VH → Prop} {XV : Nat → List (Nat × VT) → Nat → VH → Prop} (C : Ctx G l d mX0_colorsOf post xp V XV) {b0 : Nat} {h : VH}
    (f : post (some (.int (jI 1))) h) : V 13 [] [vr b0] h := by
  obtain ⟨p, e, R, s, m, args, below, meth, c, Q, ⟨hx, hb, hr, hlk, hml, hown, hk, hRr, htb, hnm, hsB, htr, hQ⟩, hV, hX⟩ := C
  rw [hV]
  intro H locs ls hR hL hl
  have hb : c.code = cX0_colorsOf := hb
  have hr : meth.sig.returnType = some .int := hr
  have hml : c.maxLocals = 5 := hml
  have hown : s.vm.findClass RX0 = some m.cls := hown
  have hl : lv_has ls 5 (lm []) := hl
  have hsz : ls.size = c.maxLocals := hl.1.trans hml.symm
  subst hQ
  refine w_astore' (L' := [(4, vR b0)]) hx hb dX0_colorsOf_13 hl (by decide) rfl (fun ls hl => ?_)
  have hsz : ls.size = c.maxLocals := hl.1.trans hml.symm
  refine w_iconst hx hb dX0_colorsOf_15 ?_
  exact w_iret hx hb hr hlk hR hL dX0_colorsOf_16 f
theorem b_X0_copies_0 {G : Wd} {l : Launch} {d : Nat} {post : Option Value → VH → Prop} {xp : Nat → VH → Prop} {V : Nat → List (Nat × VT) → List Value → VH → Prop} {XV : Nat → List (Nat × VT) → Nat → VH → Prop} (C : Ctx G l d mX0_copies post xp V XV) {i1 i2 i3 : Int32} {a0 a4 : Nat} {h : VH}
    (f : (kd h a0 = 1) ∧ D G l d mX1_copies [vR a0, vI i1, vI i2, vI i3] h (fun v h1 => ∃ ri1, v = some (.int ri1) ∧ ((kd h1 a4 = 203) ∧ (vp_in (jI 0) (ln h1 a4)) ∧ (∀ h2 : VH, h2 = sL h1 ((jI 0)).toNatClampNeg a4 (Int32.toInt64 ri1) → (post (some (.int (jI 0))) h2)))) (fun q h9 => XV 7 [] q h9)) : V 0 [(0, vR a0), (1, vI i1), (2, vI i2), (3, vI i3), (4, vR a4)] [] h := by
  obtain ⟨p, e, R, s, m, args, below, meth, c, Q, ⟨hx, hb, hr, hlk, hml, hown, hk, hRr, htb, hnm, hsB, htr, hQ⟩, hV, hX⟩ := C
  rw [hV]
  intro H locs ls hR hL hl
  have hb : c.code = cX0_copies := hb
  have hr : meth.sig.returnType = some .int := hr
  have hml : c.maxLocals = 6 := hml
  have hown : s.vm.findClass RX0 = some m.cls := hown
  have hl : lv_has ls 6 (lm [(0, vR a0), (1, vI i1), (2, vI i2), (3, vI i3), (4, vR a4)]) := hl
  have hsz : ls.size = c.maxLocals := hl.1.trans hml.symm
  subst hQ
  refine w_aload hx hb dX0_copies_0 (lv_v hl (k := 4) rfl rfl) ?_
  refine w_iconst hx hb dX0_copies_2 ?_
  refine w_aload_n hx hb dX0_copies_3 rfl (lv_v hl (k := 0) rfl rfl) ?_
  refine lv_iload_n hx hb dX0_copies_4 rfl (lv_v hl (k := 1) rfl rfl) ?_
  refine lv_iload_n hx hb dX0_copies_5 rfl (lv_v hl (k := 2) rfl rfl) ?_
  refine lv_iload_n hx hb dX0_copies_6 rfl (lv_v hl (k := 3) rfl rfl) ?_
  refine w_call (mi := mX1_copies) (As := [vR a0, vI i1, vI i2, vI i3]) (rest := [.int (jI 0), vr a4]) (len := 3) hk hR hL hsz hsB htr hRr (cok_V (i := 0) (C := RX1) (argsL := [.int i1, .int i2, .int i3]) hx hb hown hk hR f.1 (by decide) rfl q2664 q2665 q2666 q2667 kX1_copies.1 kX1_copies.2 rfl dX0_copies_7) f.2 wX1_copies iX1_copies (by decide) (cat_sum _ (Nat.le_of_ble_eq_true rfl)) rfl (fun v h1 H locs f hR hL => ?_) (fun q h9 H locs hp hR hL => (hX _ _ _ _).mp hp.2.2 H locs _ _ q rfl hp.1 hp.2.1 hR hL (lv_p hl [] rfl))
  obtain ⟨ri1, rfl, f⟩ := f
  show Wn p l e R s m args below meth c H locs _ (F0 m 10 ls [.int ri1, .int (jI 0), vr a4])
  refine lv_i2l (v := Int32.toInt64 ri1) hx hb dX0_copies_10 rfl ?_
  obtain ⟨f1, f2, f⟩ := f
  refine w_last hx hb hk hR hL f1 f2 dX0_copies_11 (fun H locs hR hL => ?_)
  obtain ⟨h2, eh2⟩ : ∃ z : VH, z = sL h1 ((jI 0)).toNatClampNeg a4 (Int32.toInt64 ri1) := ⟨_, rfl⟩
  have hR : Rp G h2 H := by rw [eh2]; exact hR
  have f := f h2 eh2
  refine lv_goto (tgt := 23) hx hb dX0_copies_12 (by decide) ?_
  refine w_iconst hx hb dX0_copies_23 ?_
  exact w_iret hx hb hr hlk hR hL dX0_copies_24 f
theorem b_X0_copies_15 {G : Wd} {l : Launch} {d : Nat} {post : Option Value → VH → Prop} {xp : Nat → VH → Prop} {V : Nat → List (Nat × VT) → List Value → VH → Prop} {XV : Nat → List (Nat × VT) → Nat → VH → Prop} (C : Ctx G l d mX0_copies post xp V XV) {b0 : Nat} {h : VH}
    (f : post (some (.int (jI 1))) h) : V 15 [] [vr b0] h := by
  obtain ⟨p, e, R, s, m, args, below, meth, c, Q, ⟨hx, hb, hr, hlk, hml, hown, hk, hRr, htb, hnm, hsB, htr, hQ⟩, hV, hX⟩ := C
  rw [hV]
  intro H locs ls hR hL hl
  have hb : c.code = cX0_copies := hb
  have hr : meth.sig.returnType = some .int := hr
  have hml : c.maxLocals = 6 := hml
  have hown : s.vm.findClass RX0 = some m.cls := hown
  have hl : lv_has ls 6 (lm []) := hl
  have hsz : ls.size = c.maxLocals := hl.1.trans hml.symm
  subst hQ
  refine w_astore' (L' := [(5, vR b0)]) hx hb dX0_copies_15 hl (by decide) rfl (fun ls hl => ?_)
  have hsz : ls.size = c.maxLocals := hl.1.trans hml.symm
  refine w_iconst hx hb dX0_copies_17 ?_
  exact w_iret hx hb hr hlk hR hL dX0_copies_18 f
theorem b_X0_copies_19 {G : Wd} {l : Launch} {d : Nat} {post : Option Value → VH → Prop} {xp : Nat → VH → Prop} {V : Nat → List (Nat × VT) → List Value → VH → Prop} {XV : Nat → List (Nat × VT) → Nat → VH → Prop} (C : Ctx G l d mX0_copies post xp V XV) {b0 : Nat} {h : VH}
    (f : post (some (.int (jI 2))) h) : V 19 [] [vr b0] h := by
  obtain ⟨p, e, R, s, m, args, below, meth, c, Q, ⟨hx, hb, hr, hlk, hml, hown, hk, hRr, htb, hnm, hsB, htr, hQ⟩, hV, hX⟩ := C
  rw [hV]
  intro H locs ls hR hL hl
  have hb : c.code = cX0_copies := hb
  have hr : meth.sig.returnType = some .int := hr
  have hml : c.maxLocals = 6 := hml
  have hown : s.vm.findClass RX0 = some m.cls := hown
  have hl : lv_has ls 6 (lm []) := hl
  have hsz : ls.size = c.maxLocals := hl.1.trans hml.symm
  subst hQ
  refine w_astore' (L' := [(5, vR b0)]) hx hb dX0_copies_19 hl (by decide) rfl (fun ls hl => ?_)
  have hsz : ls.size = c.maxLocals := hl.1.trans hml.symm
  refine w_iconst hx hb dX0_copies_21 ?_
  exact w_iret hx hb hr hlk hR hL dX0_copies_22 f
theorem b_X0_count_0 {G : Wd} {l : Launch} {d : Nat} {post : Option Value → VH → Prop} {xp : Nat → VH → Prop} {V : Nat → List (Nat × VT) → List Value → VH → Prop} {XV : Nat → List (Nat × VT) → Nat → VH → Prop} (C : Ctx G l d mX0_count post xp V XV) {i1 : Int32} {a0 a2 : Nat} {h : VH}
    (f : (kd h a0 = 1) ∧ D G l d mX1_count [vR a0, vI i1] h (fun v h1 => ∃ ri1, v = some (.int ri1) ∧ ((kd h1 a2 = 203) ∧ (vp_in (jI 0) (ln h1 a2)) ∧ (∀ h2 : VH, h2 = sL h1 ((jI 0)).toNatClampNeg a2 (Int32.toInt64 ri1) → (post (some (.int (jI 0))) h2)))) (fun q h9 => XV 4 [] q h9)) : V 0 [(0, vR a0), (1, vI i1), (2, vR a2)] [] h := by
  obtain ⟨p, e, R, s, m, args, below, meth, c, Q, ⟨hx, hb, hr, hlk, hml, hown, hk, hRr, htb, hnm, hsB, htr, hQ⟩, hV, hX⟩ := C
  rw [hV]
  intro H locs ls hR hL hl
  have hb : c.code = cX0_count := hb
  have hr : meth.sig.returnType = some .int := hr
  have hml : c.maxLocals = 4 := hml
  have hown : s.vm.findClass RX0 = some m.cls := hown
  have hl : lv_has ls 4 (lm [(0, vR a0), (1, vI i1), (2, vR a2)]) := hl
  have hsz : ls.size = c.maxLocals := hl.1.trans hml.symm
  subst hQ
  refine w_aload_n hx hb dX0_count_0 rfl (lv_v hl (k := 2) rfl rfl) ?_
  refine w_iconst hx hb dX0_count_1 ?_
  refine w_aload_n hx hb dX0_count_2 rfl (lv_v hl (k := 0) rfl rfl) ?_
  refine lv_iload_n hx hb dX0_count_3 rfl (lv_v hl (k := 1) rfl rfl) ?_
  refine w_call (mi := mX1_count) (As := [vR a0, vI i1]) (rest := [.int (jI 0), vr a2]) (len := 3) hk hR hL hsz hsB htr hRr (cok_V (i := 0) (C := RX1) (argsL := [.int i1]) hx hb hown hk hR f.1 (by decide) rfl q2599 q2600 q2601 q2602 kX1_count.1 kX1_count.2 rfl dX0_count_4) f.2 wX1_count iX1_count (by decide) (cat_sum _ (Nat.le_of_ble_eq_true rfl)) rfl (fun v h1 H locs f hR hL => ?_) (fun q h9 H locs hp hR hL => (hX _ _ _ _).mp hp.2.2 H locs _ _ q rfl hp.1 hp.2.1 hR hL (lv_p hl [] rfl))
  obtain ⟨ri1, rfl, f⟩ := f
  show Wn p l e R s m args below meth c H locs _ (F0 m 7 ls [.int ri1, .int (jI 0), vr a2])
  refine lv_i2l (v := Int32.toInt64 ri1) hx hb dX0_count_7 rfl ?_
  obtain ⟨f1, f2, f⟩ := f
  refine w_last hx hb hk hR hL f1 f2 dX0_count_8 (fun H locs hR hL => ?_)
  obtain ⟨h2, eh2⟩ : ∃ z : VH, z = sL h1 ((jI 0)).toNatClampNeg a2 (Int32.toInt64 ri1) := ⟨_, rfl⟩
  have hR : Rp G h2 H := by rw [eh2]; exact hR
  have f := f h2 eh2
  refine lv_goto (tgt := 15) hx hb dX0_count_9 (by decide) ?_
  refine w_iconst hx hb dX0_count_15 ?_
  exact w_iret hx hb hr hlk hR hL dX0_count_16 f
theorem b_X0_count_12 {G : Wd} {l : Launch} {d : Nat} {post : Option Value → VH → Prop} {xp : Nat → VH → Prop} {V : Nat → List (Nat × VT) → List Value → VH → Prop} {XV : Nat → List (Nat × VT) → Nat → VH → Prop} (C : Ctx G l d mX0_count post xp V XV) {b0 : Nat} {h : VH}
    (f : post (some (.int (jI 1))) h) : V 12 [] [vr b0] h := by
  obtain ⟨p, e, R, s, m, args, below, meth, c, Q, ⟨hx, hb, hr, hlk, hml, hown, hk, hRr, htb, hnm, hsB, htr, hQ⟩, hV, hX⟩ := C
  rw [hV]
  intro H locs ls hR hL hl
  have hb : c.code = cX0_count := hb
  have hr : meth.sig.returnType = some .int := hr
  have hml : c.maxLocals = 4 := hml
  have hown : s.vm.findClass RX0 = some m.cls := hown
  have hl : lv_has ls 4 (lm []) := hl
  have hsz : ls.size = c.maxLocals := hl.1.trans hml.symm
  subst hQ
  refine w_astore_n' (L' := [(3, vR b0)]) hx hb dX0_count_12 rfl hl (by decide) rfl (fun ls hl => ?_)
  have hsz : ls.size = c.maxLocals := hl.1.trans hml.symm
  refine w_iconst hx hb dX0_count_13 ?_
  exact w_iret hx hb hr hlk hR hL dX0_count_14 f
theorem b_X0_discard_0 {G : Wd} {l : Launch} {d : Nat} {post : Option Value → VH → Prop} {xp : Nat → VH → Prop} {V : Nat → List (Nat × VT) → List Value → VH → Prop} {XV : Nat → List (Nat × VT) → Nat → VH → Prop} (C : Ctx G l d mX0_discard post xp V XV) {i1 : Int32} {a0 a2 : Nat} {h : VH}
    (f : (kd h a0 = 1) ∧ D G l d mX1_discard [vR a0, vI i1] h (fun v h1 => ∃ ri1, v = some (.int ri1) ∧ ((kd h1 a2 = 203) ∧ (vp_in (jI 0) (ln h1 a2)) ∧ (∀ h2 : VH, h2 = sL h1 ((jI 0)).toNatClampNeg a2 (Int32.toInt64 ri1) → (post (some (.int (jI 0))) h2)))) (fun q h9 => XV 4 [] q h9)) : V 0 [(0, vR a0), (1, vI i1), (2, vR a2)] [] h := by
  obtain ⟨p, e, R, s, m, args, below, meth, c, Q, ⟨hx, hb, hr, hlk, hml, hown, hk, hRr, htb, hnm, hsB, htr, hQ⟩, hV, hX⟩ := C
  rw [hV]
  intro H locs ls hR hL hl
  have hb : c.code = cX0_discard := hb
  have hr : meth.sig.returnType = some .int := hr
  have hml : c.maxLocals = 4 := hml
  have hown : s.vm.findClass RX0 = some m.cls := hown
  have hl : lv_has ls 4 (lm [(0, vR a0), (1, vI i1), (2, vR a2)]) := hl
  have hsz : ls.size = c.maxLocals := hl.1.trans hml.symm
  subst hQ
  refine w_aload_n hx hb dX0_discard_0 rfl (lv_v hl (k := 2) rfl rfl) ?_
  refine w_iconst hx hb dX0_discard_1 ?_
  refine w_aload_n hx hb dX0_discard_2 rfl (lv_v hl (k := 0) rfl rfl) ?_
  refine lv_iload_n hx hb dX0_discard_3 rfl (lv_v hl (k := 1) rfl rfl) ?_
  refine w_call (mi := mX1_discard) (As := [vR a0, vI i1]) (rest := [.int (jI 0), vr a2]) (len := 3) hk hR hL hsz hsB htr hRr (cok_V (i := 0) (C := RX1) (argsL := [.int i1]) hx hb hown hk hR f.1 (by decide) rfl q2789 q2790 q2791 q2792 kX1_discard.1 kX1_discard.2 rfl dX0_discard_4) f.2 wX1_discard iX1_discard (by decide) (cat_sum _ (Nat.le_of_ble_eq_true rfl)) rfl (fun v h1 H locs f hR hL => ?_) (fun q h9 H locs hp hR hL => (hX _ _ _ _).mp hp.2.2 H locs _ _ q rfl hp.1 hp.2.1 hR hL (lv_p hl [] rfl))
  obtain ⟨ri1, rfl, f⟩ := f
  show Wn p l e R s m args below meth c H locs _ (F0 m 7 ls [.int ri1, .int (jI 0), vr a2])
  refine lv_i2l (v := Int32.toInt64 ri1) hx hb dX0_discard_7 rfl ?_
  obtain ⟨f1, f2, f⟩ := f
  refine w_last hx hb hk hR hL f1 f2 dX0_discard_8 (fun H locs hR hL => ?_)
  obtain ⟨h2, eh2⟩ : ∃ z : VH, z = sL h1 ((jI 0)).toNatClampNeg a2 (Int32.toInt64 ri1) := ⟨_, rfl⟩
  have hR : Rp G h2 H := by rw [eh2]; exact hR
  have f := f h2 eh2
  refine lv_goto (tgt := 15) hx hb dX0_discard_9 (by decide) ?_
  refine w_iconst hx hb dX0_discard_15 ?_
  exact w_iret hx hb hr hlk hR hL dX0_discard_16 f
theorem b_X0_discard_12 {G : Wd} {l : Launch} {d : Nat} {post : Option Value → VH → Prop} {xp : Nat → VH → Prop} {V : Nat → List (Nat × VT) → List Value → VH → Prop} {XV : Nat → List (Nat × VT) → Nat → VH → Prop} (C : Ctx G l d mX0_discard post xp V XV) {b0 : Nat} {h : VH}
    (f : post (some (.int (jI 1))) h) : V 12 [] [vr b0] h := by
  obtain ⟨p, e, R, s, m, args, below, meth, c, Q, ⟨hx, hb, hr, hlk, hml, hown, hk, hRr, htb, hnm, hsB, htr, hQ⟩, hV, hX⟩ := C
  rw [hV]
  intro H locs ls hR hL hl
  have hb : c.code = cX0_discard := hb
  have hr : meth.sig.returnType = some .int := hr
  have hml : c.maxLocals = 4 := hml
  have hown : s.vm.findClass RX0 = some m.cls := hown
  have hl : lv_has ls 4 (lm []) := hl
  have hsz : ls.size = c.maxLocals := hl.1.trans hml.symm
  subst hQ
  refine w_astore_n' (L' := [(3, vR b0)]) hx hb dX0_discard_12 rfl hl (by decide) rfl (fun ls hl => ?_)
  have hsz : ls.size = c.maxLocals := hl.1.trans hml.symm
  refine w_iconst hx hb dX0_discard_13 ?_
  exact w_iret hx hb hr hlk hR hL dX0_discard_14 f
theorem b_X0_follow_0 {G : Wd} {l : Launch} {d : Nat} {post : Option Value → VH → Prop} {xp : Nat → VH → Prop} {V : Nat → List (Nat × VT) → List Value → VH → Prop} {XV : Nat → List (Nat × VT) → Nat → VH → Prop} (C : Ctx G l d mX0_follow post xp V XV) {i1 : Int32} {a0 a2 : Nat} {h : VH}
    (f : (kd h a0 = 1) ∧ D G l d mX1_follow [vR a0, vI i1] h (fun v h1 => ∃ ri1, v = some (.int ri1) ∧ ((kd h1 a2 = 203) ∧ (vp_in (jI 0) (ln h1 a2)) ∧ (∀ h2 : VH, h2 = sL h1 ((jI 0)).toNatClampNeg a2 (Int32.toInt64 ri1) → (post (some (.int (jI 0))) h2)))) (fun q h9 => XV 4 [] q h9)) : V 0 [(0, vR a0), (1, vI i1), (2, vR a2)] [] h := by
  obtain ⟨p, e, R, s, m, args, below, meth, c, Q, ⟨hx, hb, hr, hlk, hml, hown, hk, hRr, htb, hnm, hsB, htr, hQ⟩, hV, hX⟩ := C
  rw [hV]
  intro H locs ls hR hL hl
  have hb : c.code = cX0_follow := hb
  have hr : meth.sig.returnType = some .int := hr
  have hml : c.maxLocals = 4 := hml
  have hown : s.vm.findClass RX0 = some m.cls := hown
  have hl : lv_has ls 4 (lm [(0, vR a0), (1, vI i1), (2, vR a2)]) := hl
  have hsz : ls.size = c.maxLocals := hl.1.trans hml.symm
  subst hQ
  refine w_aload_n hx hb dX0_follow_0 rfl (lv_v hl (k := 2) rfl rfl) ?_
  refine w_iconst hx hb dX0_follow_1 ?_
  refine w_aload_n hx hb dX0_follow_2 rfl (lv_v hl (k := 0) rfl rfl) ?_
  refine lv_iload_n hx hb dX0_follow_3 rfl (lv_v hl (k := 1) rfl rfl) ?_
  refine w_call (mi := mX1_follow) (As := [vR a0, vI i1]) (rest := [.int (jI 0), vr a2]) (len := 3) hk hR hL hsz hsB htr hRr (cok_V (i := 0) (C := RX1) (argsL := [.int i1]) hx hb hown hk hR f.1 (by decide) rfl q2836 q2837 q2838 q2839 kX1_follow.1 kX1_follow.2 rfl dX0_follow_4) f.2 wX1_follow iX1_follow (by decide) (cat_sum _ (Nat.le_of_ble_eq_true rfl)) rfl (fun v h1 H locs f hR hL => ?_) (fun q h9 H locs hp hR hL => (hX _ _ _ _).mp hp.2.2 H locs _ _ q rfl hp.1 hp.2.1 hR hL (lv_p hl [] rfl))
  obtain ⟨ri1, rfl, f⟩ := f
  show Wn p l e R s m args below meth c H locs _ (F0 m 7 ls [.int ri1, .int (jI 0), vr a2])
  refine lv_i2l (v := Int32.toInt64 ri1) hx hb dX0_follow_7 rfl ?_
  obtain ⟨f1, f2, f⟩ := f
  refine w_last hx hb hk hR hL f1 f2 dX0_follow_8 (fun H locs hR hL => ?_)
  obtain ⟨h2, eh2⟩ : ∃ z : VH, z = sL h1 ((jI 0)).toNatClampNeg a2 (Int32.toInt64 ri1) := ⟨_, rfl⟩
  have hR : Rp G h2 H := by rw [eh2]; exact hR
  have f := f h2 eh2
  refine lv_goto (tgt := 15) hx hb dX0_follow_9 (by decide) ?_
  refine w_iconst hx hb dX0_follow_15 ?_
  exact w_iret hx hb hr hlk hR hL dX0_follow_16 f
theorem b_X0_follow_12 {G : Wd} {l : Launch} {d : Nat} {post : Option Value → VH → Prop} {xp : Nat → VH → Prop} {V : Nat → List (Nat × VT) → List Value → VH → Prop} {XV : Nat → List (Nat × VT) → Nat → VH → Prop} (C : Ctx G l d mX0_follow post xp V XV) {b0 : Nat} {h : VH}
    (f : post (some (.int (jI 1))) h) : V 12 [] [vr b0] h := by
  obtain ⟨p, e, R, s, m, args, below, meth, c, Q, ⟨hx, hb, hr, hlk, hml, hown, hk, hRr, htb, hnm, hsB, htr, hQ⟩, hV, hX⟩ := C
  rw [hV]
  intro H locs ls hR hL hl
  have hb : c.code = cX0_follow := hb
  have hr : meth.sig.returnType = some .int := hr
  have hml : c.maxLocals = 4 := hml
  have hown : s.vm.findClass RX0 = some m.cls := hown
  have hl : lv_has ls 4 (lm []) := hl
  have hsz : ls.size = c.maxLocals := hl.1.trans hml.symm
  subst hQ
  refine w_astore_n' (L' := [(3, vR b0)]) hx hb dX0_follow_12 rfl hl (by decide) rfl (fun ls hl => ?_)
  have hsz : ls.size = c.maxLocals := hl.1.trans hml.symm
  refine w_iconst hx hb dX0_follow_13 ?_
  exact w_iret hx hb hr hlk hR hL dX0_follow_14 f
theorem b_X0_hand_0 {G : Wd} {l : Launch} {d : Nat} {post : Option Value → VH → Prop} {xp : Nat → VH → Prop} {V : Nat → List (Nat × VT) → List Value → VH → Prop} {XV : Nat → List (Nat × VT) → Nat → VH → Prop} (C : Ctx G l d mX0_hand post xp V XV) {i1 : Int32} {a0 a2 : Nat} {h : VH}
    (f : (kd h a0 = 1) ∧ D G l d mX1_hand [vR a0, vI i1] h (fun v h1 => ∃ ri1, v = some (.int ri1) ∧ ((kd h1 a2 = 203) ∧ (vp_in (jI 0) (ln h1 a2)) ∧ (∀ h2 : VH, h2 = sL h1 ((jI 0)).toNatClampNeg a2 (Int32.toInt64 ri1) → (post (some (.int (jI 0))) h2)))) (fun q h9 => XV 4 [] q h9)) : V 0 [(0, vR a0), (1, vI i1), (2, vR a2)] [] h := by
  obtain ⟨p, e, R, s, m, args, below, meth, c, Q, ⟨hx, hb, hr, hlk, hml, hown, hk, hRr, htb, hnm, hsB, htr, hQ⟩, hV, hX⟩ := C
  rw [hV]
  intro H locs ls hR hL hl
  have hb : c.code = cX0_hand := hb
  have hr : meth.sig.returnType = some .int := hr
  have hml : c.maxLocals = 4 := hml
  have hown : s.vm.findClass RX0 = some m.cls := hown
  have hl : lv_has ls 4 (lm [(0, vR a0), (1, vI i1), (2, vR a2)]) := hl
  have hsz : ls.size = c.maxLocals := hl.1.trans hml.symm
  subst hQ
  refine w_aload_n hx hb dX0_hand_0 rfl (lv_v hl (k := 2) rfl rfl) ?_
  refine w_iconst hx hb dX0_hand_1 ?_
  refine w_aload_n hx hb dX0_hand_2 rfl (lv_v hl (k := 0) rfl rfl) ?_
  refine lv_iload_n hx hb dX0_hand_3 rfl (lv_v hl (k := 1) rfl rfl) ?_
  refine w_call (mi := mX1_hand) (As := [vR a0, vI i1]) (rest := [.int (jI 0), vr a2]) (len := 3) hk hR hL hsz hsB htr hRr (cok_V (i := 0) (C := RX1) (argsL := [.int i1]) hx hb hown hk hR f.1 (by decide) rfl q2642 q2643 q2644 q2645 kX1_hand.1 kX1_hand.2 rfl dX0_hand_4) f.2 wX1_hand iX1_hand (by decide) (cat_sum _ (Nat.le_of_ble_eq_true rfl)) rfl (fun v h1 H locs f hR hL => ?_) (fun q h9 H locs hp hR hL => (hX _ _ _ _).mp hp.2.2 H locs _ _ q rfl hp.1 hp.2.1 hR hL (lv_p hl [] rfl))
  obtain ⟨ri1, rfl, f⟩ := f
  show Wn p l e R s m args below meth c H locs _ (F0 m 7 ls [.int ri1, .int (jI 0), vr a2])
  refine lv_i2l (v := Int32.toInt64 ri1) hx hb dX0_hand_7 rfl ?_
  obtain ⟨f1, f2, f⟩ := f
  refine w_last hx hb hk hR hL f1 f2 dX0_hand_8 (fun H locs hR hL => ?_)
  obtain ⟨h2, eh2⟩ : ∃ z : VH, z = sL h1 ((jI 0)).toNatClampNeg a2 (Int32.toInt64 ri1) := ⟨_, rfl⟩
  have hR : Rp G h2 H := by rw [eh2]; exact hR
  have f := f h2 eh2
  refine lv_goto (tgt := 15) hx hb dX0_hand_9 (by decide) ?_
  refine w_iconst hx hb dX0_hand_15 ?_
  exact w_iret hx hb hr hlk hR hL dX0_hand_16 f
theorem b_X0_hand_12 {G : Wd} {l : Launch} {d : Nat} {post : Option Value → VH → Prop} {xp : Nat → VH → Prop} {V : Nat → List (Nat × VT) → List Value → VH → Prop} {XV : Nat → List (Nat × VT) → Nat → VH → Prop} (C : Ctx G l d mX0_hand post xp V XV) {b0 : Nat} {h : VH}
    (f : post (some (.int (jI 1))) h) : V 12 [] [vr b0] h := by
  obtain ⟨p, e, R, s, m, args, below, meth, c, Q, ⟨hx, hb, hr, hlk, hml, hown, hk, hRr, htb, hnm, hsB, htr, hQ⟩, hV, hX⟩ := C
  rw [hV]
  intro H locs ls hR hL hl
  have hb : c.code = cX0_hand := hb
  have hr : meth.sig.returnType = some .int := hr
  have hml : c.maxLocals = 4 := hml
  have hown : s.vm.findClass RX0 = some m.cls := hown
  have hl : lv_has ls 4 (lm []) := hl
  have hsz : ls.size = c.maxLocals := hl.1.trans hml.symm
  subst hQ
  refine w_astore_n' (L' := [(3, vR b0)]) hx hb dX0_hand_12 rfl hl (by decide) rfl (fun ls hl => ?_)
  have hsz : ls.size = c.maxLocals := hl.1.trans hml.symm
  refine w_iconst hx hb dX0_hand_13 ?_
  exact w_iret hx hb hr hlk hR hL dX0_hand_14 f
theorem b_X0_hint_0 {G : Wd} {l : Launch} {d : Nat} {post : Option Value → VH → Prop} {xp : Nat → VH → Prop} {V : Nat → List (Nat × VT) → List Value → VH → Prop} {XV : Nat → List (Nat × VT) → Nat → VH → Prop} (C : Ctx G l d mX0_hint post xp V XV) {i1 i2 i3 : Int32} {a0 a4 : Nat} {h : VH}
    (f : (kd h a0 = 1) ∧ D G l d mX1_hint [vR a0, vI i1, vI i2, vI i3] h (fun v h1 => ∃ ri1, v = some (.int ri1) ∧ ((kd h1 a4 = 203) ∧ (vp_in (jI 0) (ln h1 a4)) ∧ (∀ h2 : VH, h2 = sL h1 ((jI 0)).toNatClampNeg a4 (Int32.toInt64 ri1) → (post (some (.int (jI 0))) h2)))) (fun q h9 => XV 7 [] q h9)) : V 0 [(0, vR a0), (1, vI i1), (2, vI i2), (3, vI i3), (4, vR a4)] [] h := by
  obtain ⟨p, e, R, s, m, args, below, meth, c, Q, ⟨hx, hb, hr, hlk, hml, hown, hk, hRr, htb, hnm, hsB, htr, hQ⟩, hV, hX⟩ := C
  rw [hV]
  intro H locs ls hR hL hl
  have hb : c.code = cX0_hint := hb
  have hr : meth.sig.returnType = some .int := hr
  have hml : c.maxLocals = 6 := hml
  have hown : s.vm.findClass RX0 = some m.cls := hown
  have hl : lv_has ls 6 (lm [(0, vR a0), (1, vI i1), (2, vI i2), (3, vI i3), (4, vR a4)]) := hl
  have hsz : ls.size = c.maxLocals := hl.1.trans hml.symm
  subst hQ
  refine w_aload hx hb dX0_hint_0 (lv_v hl (k := 4) rfl rfl) ?_
  refine w_iconst hx hb dX0_hint_2 ?_
  refine w_aload_n hx hb dX0_hint_3 rfl (lv_v hl (k := 0) rfl rfl) ?_
  refine lv_iload_n hx hb dX0_hint_4 rfl (lv_v hl (k := 1) rfl rfl) ?_
  refine lv_iload_n hx hb dX0_hint_5 rfl (lv_v hl (k := 2) rfl rfl) ?_
  refine lv_iload_n hx hb dX0_hint_6 rfl (lv_v hl (k := 3) rfl rfl) ?_
  refine w_call (mi := mX1_hint) (As := [vR a0, vI i1, vI i2, vI i3]) (rest := [.int (jI 0), vr a4]) (len := 3) hk hR hL hsz hsB htr hRr (cok_V (i := 0) (C := RX1) (argsL := [.int i1, .int i2, .int i3]) hx hb hown hk hR f.1 (by decide) rfl q2797 q2798 q2799 q2800 kX1_hint.1 kX1_hint.2 rfl dX0_hint_7) f.2 wX1_hint iX1_hint (by decide) (cat_sum _ (Nat.le_of_ble_eq_true rfl)) rfl (fun v h1 H locs f hR hL => ?_) (fun q h9 H locs hp hR hL => (hX _ _ _ _).mp hp.2.2 H locs _ _ q rfl hp.1 hp.2.1 hR hL (lv_p hl [] rfl))
  obtain ⟨ri1, rfl, f⟩ := f
  show Wn p l e R s m args below meth c H locs _ (F0 m 10 ls [.int ri1, .int (jI 0), vr a4])
  refine lv_i2l (v := Int32.toInt64 ri1) hx hb dX0_hint_10 rfl ?_
  obtain ⟨f1, f2, f⟩ := f
  refine w_last hx hb hk hR hL f1 f2 dX0_hint_11 (fun H locs hR hL => ?_)
  obtain ⟨h2, eh2⟩ : ∃ z : VH, z = sL h1 ((jI 0)).toNatClampNeg a4 (Int32.toInt64 ri1) := ⟨_, rfl⟩
  have hR : Rp G h2 H := by rw [eh2]; exact hR
  have f := f h2 eh2
  refine lv_goto (tgt := 23) hx hb dX0_hint_12 (by decide) ?_
  refine w_iconst hx hb dX0_hint_23 ?_
  exact w_iret hx hb hr hlk hR hL dX0_hint_24 f
theorem b_X0_hint_15 {G : Wd} {l : Launch} {d : Nat} {post : Option Value → VH → Prop} {xp : Nat → VH → Prop} {V : Nat → List (Nat × VT) → List Value → VH → Prop} {XV : Nat → List (Nat × VT) → Nat → VH → Prop} (C : Ctx G l d mX0_hint post xp V XV) {b0 : Nat} {h : VH}
    (f : post (some (.int (jI 1))) h) : V 15 [] [vr b0] h := by
  obtain ⟨p, e, R, s, m, args, below, meth, c, Q, ⟨hx, hb, hr, hlk, hml, hown, hk, hRr, htb, hnm, hsB, htr, hQ⟩, hV, hX⟩ := C
  rw [hV]
  intro H locs ls hR hL hl
  have hb : c.code = cX0_hint := hb
  have hr : meth.sig.returnType = some .int := hr
  have hml : c.maxLocals = 6 := hml
  have hown : s.vm.findClass RX0 = some m.cls := hown
  have hl : lv_has ls 6 (lm []) := hl
  have hsz : ls.size = c.maxLocals := hl.1.trans hml.symm
  subst hQ
  refine w_astore' (L' := [(5, vR b0)]) hx hb dX0_hint_15 hl (by decide) rfl (fun ls hl => ?_)
  have hsz : ls.size = c.maxLocals := hl.1.trans hml.symm
  refine w_iconst hx hb dX0_hint_17 ?_
  exact w_iret hx hb hr hlk hR hL dX0_hint_18 f
theorem b_X0_hint_19 {G : Wd} {l : Launch} {d : Nat} {post : Option Value → VH → Prop} {xp : Nat → VH → Prop} {V : Nat → List (Nat × VT) → List Value → VH → Prop} {XV : Nat → List (Nat × VT) → Nat → VH → Prop} (C : Ctx G l d mX0_hint post xp V XV) {b0 : Nat} {h : VH}
    (f : post (some (.int (jI 2))) h) : V 19 [] [vr b0] h := by
  obtain ⟨p, e, R, s, m, args, below, meth, c, Q, ⟨hx, hb, hr, hlk, hml, hown, hk, hRr, htb, hnm, hsB, htr, hQ⟩, hV, hX⟩ := C
  rw [hV]
  intro H locs ls hR hL hl
  have hb : c.code = cX0_hint := hb
  have hr : meth.sig.returnType = some .int := hr
  have hml : c.maxLocals = 6 := hml
  have hown : s.vm.findClass RX0 = some m.cls := hown
  have hl : lv_has ls 6 (lm []) := hl
  have hsz : ls.size = c.maxLocals := hl.1.trans hml.symm
  subst hQ
  refine w_astore' (L' := [(5, vR b0)]) hx hb dX0_hint_19 hl (by decide) rfl (fun ls hl => ?_)
  have hsz : ls.size = c.maxLocals := hl.1.trans hml.symm
  refine w_iconst hx hb dX0_hint_21 ?_
  exact w_iret hx hb hr hlk hR hL dX0_hint_22 f
theorem b_X0_isCritical_0 {G : Wd} {l : Launch} {d : Nat} {post : Option Value → VH → Prop} {xp : Nat → VH → Prop} {V : Nat → List (Nat × VT) → List Value → VH → Prop} {XV : Nat → List (Nat × VT) → Nat → VH → Prop} (C : Ctx G l d mX0_isCritical post xp V XV) {i1 i2 : Int32} {a0 a3 : Nat} {h : VH}
    (f : (kd h a0 = 1) ∧ D G l d mX1_isCritical [vR a0, vI i1, vI i2] h (fun v h1 => ∃ ri1, v = some (.int ri1) ∧ ((ri1 = 0 → ((kd h1 a3 = 203) ∧ (vp_in (jI 0) (ln h1 a3)) ∧ (∀ h2 : VH, h2 = sL h1 ((jI 0)).toNatClampNeg a3 (jL 0) → (post (some (.int (jI 0))) h2)))) ∧ (¬ ri1 = 0 → ((kd h1 a3 = 203) ∧ (vp_in (jI 0) (ln h1 a3)) ∧ (∀ h3 : VH, h3 = sL h1 ((jI 0)).toNatClampNeg a3 (jL 1) → (post (some (.int (jI 0))) h3)))))) (fun q h9 => XV 5 [] q h9)) : V 0 [(0, vR a0), (1, vI i1), (2, vI i2), (3, vR a3)] [] h := by
  obtain ⟨p, e, R, s, m, args, below, meth, c, Q, ⟨hx, hb, hr, hlk, hml, hown, hk, hRr, htb, hnm, hsB, htr, hQ⟩, hV, hX⟩ := C
  rw [hV]
  intro H locs ls hR hL hl
  have hb : c.code = cX0_isCritical := hb
  have hr : meth.sig.returnType = some .int := hr
  have hml : c.maxLocals = 5 := hml
  have hown : s.vm.findClass RX0 = some m.cls := hown
  have hl : lv_has ls 5 (lm [(0, vR a0), (1, vI i1), (2, vI i2), (3, vR a3)]) := hl
  have hsz : ls.size = c.maxLocals := hl.1.trans hml.symm
  subst hQ
  refine w_aload_n hx hb dX0_isCritical_0 rfl (lv_v hl (k := 3) rfl rfl) ?_
  refine w_iconst hx hb dX0_isCritical_1 ?_
  refine w_aload_n hx hb dX0_isCritical_2 rfl (lv_v hl (k := 0) rfl rfl) ?_
  refine lv_iload_n hx hb dX0_isCritical_3 rfl (lv_v hl (k := 1) rfl rfl) ?_
  refine lv_iload_n hx hb dX0_isCritical_4 rfl (lv_v hl (k := 2) rfl rfl) ?_
  refine w_call (mi := mX1_isCritical) (As := [vR a0, vI i1, vI i2]) (rest := [.int (jI 0), vr a3]) (len := 3) hk hR hL hsz hsB htr hRr (cok_V (i := 0) (C := RX1) (argsL := [.int i1, .int i2]) hx hb hown hk hR f.1 (by decide) rfl q2688 q2689 q2690 q2691 kX1_isCritical.1 kX1_isCritical.2 rfl dX0_isCritical_5) f.2 wX1_isCritical iX1_isCritical (by decide) (cat_sum _ (Nat.le_of_ble_eq_true rfl)) rfl (fun v h1 H locs f hR hL => ?_) (fun q h9 H locs hp hR hL => (hX _ _ _ _).mp hp.2.2 H locs _ _ q rfl hp.1 hp.2.1 hR hL (lv_p hl [] rfl))
  obtain ⟨ri1, rfl, f⟩ := f
  show Wn p l e R s m args below meth c H locs _ (F0 m 8 ls [.int ri1, .int (jI 0), vr a3])
  refine lv_if_eq (tgt := 15) hx hb dX0_isCritical_8 (by decide) (fun c9 => ?_) (fun c9 => ?_)
  · have f := f.1 c9
    refine w_lconst0 hx hb dX0_isCritical_15 ?_
    obtain ⟨f1, f2, f⟩ := f
    refine w_last hx hb hk hR hL f1 f2 dX0_isCritical_16 (fun H locs hR hL => ?_)
    obtain ⟨h2, eh2⟩ : ∃ z : VH, z = sL h1 ((jI 0)).toNatClampNeg a3 (jL 0) := ⟨_, rfl⟩
    have hR : Rp G h2 H := by rw [eh2]; exact hR
    have f := f h2 eh2
    refine lv_goto (tgt := 24) hx hb dX0_isCritical_17 (by decide) ?_
    refine w_iconst hx hb dX0_isCritical_24 ?_
    exact w_iret hx hb hr hlk hR hL dX0_isCritical_25 f
  · have f := f.2 c9
    refine w_lconst1 hx hb dX0_isCritical_11 ?_
    refine lv_goto (tgt := 16) hx hb dX0_isCritical_12 (by decide) ?_
    obtain ⟨f1, f2, f⟩ := f
    refine w_last hx hb hk hR hL f1 f2 dX0_isCritical_16 (fun H locs hR hL => ?_)
    obtain ⟨h3, eh3⟩ : ∃ z : VH, z = sL h1 ((jI 0)).toNatClampNeg a3 (jL 1) := ⟨_, rfl⟩
    have hR : Rp G h3 H := by rw [eh3]; exact hR
    have f := f h3 eh3
    refine lv_goto (tgt := 24) hx hb dX0_isCritical_17 (by decide) ?_
    refine w_iconst hx hb dX0_isCritical_24 ?_
    exact w_iret hx hb hr hlk hR hL dX0_isCritical_25 f
theorem b_X0_isCritical_20 {G : Wd} {l : Launch} {d : Nat} {post : Option Value → VH → Prop} {xp : Nat → VH → Prop} {V : Nat → List (Nat × VT) → List Value → VH → Prop} {XV : Nat → List (Nat × VT) → Nat → VH → Prop} (C : Ctx G l d mX0_isCritical post xp V XV) {b0 : Nat} {h : VH}
    (f : post (some (.int (jI 1))) h) : V 20 [] [vr b0] h := by
  obtain ⟨p, e, R, s, m, args, below, meth, c, Q, ⟨hx, hb, hr, hlk, hml, hown, hk, hRr, htb, hnm, hsB, htr, hQ⟩, hV, hX⟩ := C
  rw [hV]
  intro H locs ls hR hL hl
  have hb : c.code = cX0_isCritical := hb
  have hr : meth.sig.returnType = some .int := hr
  have hml : c.maxLocals = 5 := hml
  have hown : s.vm.findClass RX0 = some m.cls := hown
  have hl : lv_has ls 5 (lm []) := hl
  have hsz : ls.size = c.maxLocals := hl.1.trans hml.symm
  subst hQ
  refine w_astore' (L' := [(4, vR b0)]) hx hb dX0_isCritical_20 hl (by decide) rfl (fun ls hl => ?_)
  have hsz : ls.size = c.maxLocals := hl.1.trans hml.symm
  refine w_iconst hx hb dX0_isCritical_22 ?_
  exact w_iret hx hb hr hlk hR hL dX0_isCritical_23 f
theorem b_X0_isTouched_0 {G : Wd} {l : Launch} {d : Nat} {post : Option Value → VH → Prop} {xp : Nat → VH → Prop} {V : Nat → List (Nat × VT) → List Value → VH → Prop} {XV : Nat → List (Nat × VT) → Nat → VH → Prop} (C : Ctx G l d mX0_isTouched post xp V XV) {i1 i2 : Int32} {a0 a3 : Nat} {h : VH}
    (f : (kd h a0 = 1) ∧ D G l d mX1_isTouched [vR a0, vI i1, vI i2] h (fun v h1 => ∃ ri1, v = some (.int ri1) ∧ ((ri1 = 0 → ((kd h1 a3 = 203) ∧ (vp_in (jI 0) (ln h1 a3)) ∧ (∀ h2 : VH, h2 = sL h1 ((jI 0)).toNatClampNeg a3 (jL 0) → (post (some (.int (jI 0))) h2)))) ∧ (¬ ri1 = 0 → ((kd h1 a3 = 203) ∧ (vp_in (jI 0) (ln h1 a3)) ∧ (∀ h3 : VH, h3 = sL h1 ((jI 0)).toNatClampNeg a3 (jL 1) → (post (some (.int (jI 0))) h3)))))) (fun q h9 => XV 5 [] q h9)) : V 0 [(0, vR a0), (1, vI i1), (2, vI i2), (3, vR a3)] [] h := by
  obtain ⟨p, e, R, s, m, args, below, meth, c, Q, ⟨hx, hb, hr, hlk, hml, hown, hk, hRr, htb, hnm, hsB, htr, hQ⟩, hV, hX⟩ := C
  rw [hV]
  intro H locs ls hR hL hl
  have hb : c.code = cX0_isTouched := hb
  have hr : meth.sig.returnType = some .int := hr
  have hml : c.maxLocals = 5 := hml
  have hown : s.vm.findClass RX0 = some m.cls := hown
  have hl : lv_has ls 5 (lm [(0, vR a0), (1, vI i1), (2, vI i2), (3, vR a3)]) := hl
  have hsz : ls.size = c.maxLocals := hl.1.trans hml.symm
  subst hQ
  refine w_aload_n hx hb dX0_isTouched_0 rfl (lv_v hl (k := 3) rfl rfl) ?_
  refine w_iconst hx hb dX0_isTouched_1 ?_
  refine w_aload_n hx hb dX0_isTouched_2 rfl (lv_v hl (k := 0) rfl rfl) ?_
  refine lv_iload_n hx hb dX0_isTouched_3 rfl (lv_v hl (k := 1) rfl rfl) ?_
  refine lv_iload_n hx hb dX0_isTouched_4 rfl (lv_v hl (k := 2) rfl rfl) ?_
  refine w_call (mi := mX1_isTouched) (As := [vR a0, vI i1, vI i2]) (rest := [.int (jI 0), vr a3]) (len := 3) hk hR hL hsz hsB htr hRr (cok_V (i := 0) (C := RX1) (argsL := [.int i1, .int i2]) hx hb hown hk hR f.1 (by decide) rfl q2710 q2711 q2712 q2713 kX1_isTouched.1 kX1_isTouched.2 rfl dX0_isTouched_5) f.2 wX1_isTouched iX1_isTouched (by decide) (cat_sum _ (Nat.le_of_ble_eq_true rfl)) rfl (fun v h1 H locs f hR hL => ?_) (fun q h9 H locs hp hR hL => (hX _ _ _ _).mp hp.2.2 H locs _ _ q rfl hp.1 hp.2.1 hR hL (lv_p hl [] rfl))
  obtain ⟨ri1, rfl, f⟩ := f
  show Wn p l e R s m args below meth c H locs _ (F0 m 8 ls [.int ri1, .int (jI 0), vr a3])
  refine lv_if_eq (tgt := 15) hx hb dX0_isTouched_8 (by decide) (fun c9 => ?_) (fun c9 => ?_)
  · have f := f.1 c9
    refine w_lconst0 hx hb dX0_isTouched_15 ?_
    obtain ⟨f1, f2, f⟩ := f
    refine w_last hx hb hk hR hL f1 f2 dX0_isTouched_16 (fun H locs hR hL => ?_)
    obtain ⟨h2, eh2⟩ : ∃ z : VH, z = sL h1 ((jI 0)).toNatClampNeg a3 (jL 0) := ⟨_, rfl⟩
    have hR : Rp G h2 H := by rw [eh2]; exact hR
    have f := f h2 eh2
    refine lv_goto (tgt := 24) hx hb dX0_isTouched_17 (by decide) ?_
    refine w_iconst hx hb dX0_isTouched_24 ?_
    exact w_iret hx hb hr hlk hR hL dX0_isTouched_25 f
  · have f := f.2 c9
    refine w_lconst1 hx hb dX0_isTouched_11 ?_
    refine lv_goto (tgt := 16) hx hb dX0_isTouched_12 (by decide) ?_
    obtain ⟨f1, f2, f⟩ := f
    refine w_last hx hb hk hR hL f1 f2 dX0_isTouched_16 (fun H locs hR hL => ?_)
    obtain ⟨h3, eh3⟩ : ∃ z : VH, z = sL h1 ((jI 0)).toNatClampNeg a3 (jL 1) := ⟨_, rfl⟩
    have hR : Rp G h3 H := by rw [eh3]; exact hR
    have f := f h3 eh3
    refine lv_goto (tgt := 24) hx hb dX0_isTouched_17 (by decide) ?_
    refine w_iconst hx hb dX0_isTouched_24 ?_
    exact w_iret hx hb hr hlk hR hL dX0_isTouched_25 f
theorem b_X0_isTouched_20 {G : Wd} {l : Launch} {d : Nat} {post : Option Value → VH → Prop} {xp : Nat → VH → Prop} {V : Nat → List (Nat × VT) → List Value → VH → Prop} {XV : Nat → List (Nat × VT) → Nat → VH → Prop} (C : Ctx G l d mX0_isTouched post xp V XV) {b0 : Nat} {h : VH}
    (f : post (some (.int (jI 1))) h) : V 20 [] [vr b0] h := by
  obtain ⟨p, e, R, s, m, args, below, meth, c, Q, ⟨hx, hb, hr, hlk, hml, hown, hk, hRr, htb, hnm, hsB, htr, hQ⟩, hV, hX⟩ := C
  rw [hV]
  intro H locs ls hR hL hl
  have hb : c.code = cX0_isTouched := hb
  have hr : meth.sig.returnType = some .int := hr
  have hml : c.maxLocals = 5 := hml
  have hown : s.vm.findClass RX0 = some m.cls := hown
  have hl : lv_has ls 5 (lm []) := hl
  have hsz : ls.size = c.maxLocals := hl.1.trans hml.symm
  subst hQ
  refine w_astore' (L' := [(4, vR b0)]) hx hb dX0_isTouched_20 hl (by decide) rfl (fun ls hl => ?_)
  have hsz : ls.size = c.maxLocals := hl.1.trans hml.symm
  refine w_iconst hx hb dX0_isTouched_22 ?_
  exact w_iret hx hb hr hlk hR hL dX0_isTouched_23 f
theorem b_X0_isUseless_0 {G : Wd} {l : Launch} {d : Nat} {post : Option Value → VH → Prop} {xp : Nat → VH → Prop} {V : Nat → List (Nat × VT) → List Value → VH → Prop} {XV : Nat → List (Nat × VT) → Nat → VH → Prop} (C : Ctx G l d mX0_isUseless post xp V XV) {i1 i2 : Int32} {a0 a3 : Nat} {h : VH}
    (f : (kd h a0 = 1) ∧ D G l d mX1_isUseless [vR a0, vI i1, vI i2] h (fun v h1 => ∃ ri1, v = some (.int ri1) ∧ ((ri1 = 0 → ((kd h1 a3 = 203) ∧ (vp_in (jI 0) (ln h1 a3)) ∧ (∀ h2 : VH, h2 = sL h1 ((jI 0)).toNatClampNeg a3 (jL 0) → (post (some (.int (jI 0))) h2)))) ∧ (¬ ri1 = 0 → ((kd h1 a3 = 203) ∧ (vp_in (jI 0) (ln h1 a3)) ∧ (∀ h3 : VH, h3 = sL h1 ((jI 0)).toNatClampNeg a3 (jL 1) → (post (some (.int (jI 0))) h3)))))) (fun q h9 => XV 5 [] q h9)) : V 0 [(0, vR a0), (1, vI i1), (2, vI i2), (3, vR a3)] [] h := by
  obtain ⟨p, e, R, s, m, args, below, meth, c, Q, ⟨hx, hb, hr, hlk, hml, hown, hk, hRr, htb, hnm, hsB, htr, hQ⟩, hV, hX⟩ := C
  rw [hV]
  intro H locs ls hR hL hl
  have hb : c.code = cX0_isUseless := hb
  have hr : meth.sig.returnType = some .int := hr
  have hml : c.maxLocals = 5 := hml
  have hown : s.vm.findClass RX0 = some m.cls := hown
  have hl : lv_has ls 5 (lm [(0, vR a0), (1, vI i1), (2, vI i2), (3, vR a3)]) := hl
  have hsz : ls.size = c.maxLocals := hl.1.trans hml.symm
  subst hQ
  refine w_aload_n hx hb dX0_isUseless_0 rfl (lv_v hl (k := 3) rfl rfl) ?_
  refine w_iconst hx hb dX0_isUseless_1 ?_
  refine w_aload_n hx hb dX0_isUseless_2 rfl (lv_v hl (k := 0) rfl rfl) ?_
  refine lv_iload_n hx hb dX0_isUseless_3 rfl (lv_v hl (k := 1) rfl rfl) ?_
  refine lv_iload_n hx hb dX0_isUseless_4 rfl (lv_v hl (k := 2) rfl rfl) ?_
  refine w_call (mi := mX1_isUseless) (As := [vR a0, vI i1, vI i2]) (rest := [.int (jI 0), vr a3]) (len := 3) hk hR hL hsz hsB htr hRr (cok_V (i := 0) (C := RX1) (argsL := [.int i1, .int i2]) hx hb hown hk hR f.1 (by decide) rfl q2681 q2682 q2683 q2684 kX1_isUseless.1 kX1_isUseless.2 rfl dX0_isUseless_5) f.2 wX1_isUseless iX1_isUseless (by decide) (cat_sum _ (Nat.le_of_ble_eq_true rfl)) rfl (fun v h1 H locs f hR hL => ?_) (fun q h9 H locs hp hR hL => (hX _ _ _ _).mp hp.2.2 H locs _ _ q rfl hp.1 hp.2.1 hR hL (lv_p hl [] rfl))
  obtain ⟨ri1, rfl, f⟩ := f
  show Wn p l e R s m args below meth c H locs _ (F0 m 8 ls [.int ri1, .int (jI 0), vr a3])
  refine lv_if_eq (tgt := 15) hx hb dX0_isUseless_8 (by decide) (fun c9 => ?_) (fun c9 => ?_)
  · have f := f.1 c9
    refine w_lconst0 hx hb dX0_isUseless_15 ?_
    obtain ⟨f1, f2, f⟩ := f
    refine w_last hx hb hk hR hL f1 f2 dX0_isUseless_16 (fun H locs hR hL => ?_)
    obtain ⟨h2, eh2⟩ : ∃ z : VH, z = sL h1 ((jI 0)).toNatClampNeg a3 (jL 0) := ⟨_, rfl⟩
    have hR : Rp G h2 H := by rw [eh2]; exact hR
    have f := f h2 eh2
    refine lv_goto (tgt := 24) hx hb dX0_isUseless_17 (by decide) ?_
    refine w_iconst hx hb dX0_isUseless_24 ?_
    exact w_iret hx hb hr hlk hR hL dX0_isUseless_25 f
  · have f := f.2 c9
    refine w_lconst1 hx hb dX0_isUseless_11 ?_
    refine lv_goto (tgt := 16) hx hb dX0_isUseless_12 (by decide) ?_
    obtain ⟨f1, f2, f⟩ := f
    refine w_last hx hb hk hR hL f1 f2 dX0_isUseless_16 (fun H locs hR hL => ?_)
    obtain ⟨h3, eh3⟩ : ∃ z : VH, z = sL h1 ((jI 0)).toNatClampNeg a3 (jL 1) := ⟨_, rfl⟩
    have hR : Rp G h3 H := by rw [eh3]; exact hR
    have f := f h3 eh3
    refine lv_goto (tgt := 24) hx hb dX0_isUseless_17 (by decide) ?_
    refine w_iconst hx hb dX0_isUseless_24 ?_
    exact w_iret hx hb hr hlk hR hL dX0_isUseless_25 f
theorem b_X0_isUseless_20 {G : Wd} {l : Launch} {d : Nat} {post : Option Value → VH → Prop} {xp : Nat → VH → Prop} {V : Nat → List (Nat × VT) → List Value → VH → Prop} {XV : Nat → List (Nat × VT) → Nat → VH → Prop} (C : Ctx G l d mX0_isUseless post xp V XV) {b0 : Nat} {h : VH}
    (f : post (some (.int (jI 1))) h) : V 20 [] [vr b0] h := by
  obtain ⟨p, e, R, s, m, args, below, meth, c, Q, ⟨hx, hb, hr, hlk, hml, hown, hk, hRr, htb, hnm, hsB, htr, hQ⟩, hV, hX⟩ := C
  rw [hV]
  intro H locs ls hR hL hl
  have hb : c.code = cX0_isUseless := hb
  have hr : meth.sig.returnType = some .int := hr
  have hml : c.maxLocals = 5 := hml
  have hown : s.vm.findClass RX0 = some m.cls := hown
  have hl : lv_has ls 5 (lm []) := hl
  have hsz : ls.size = c.maxLocals := hl.1.trans hml.symm
  subst hQ
  refine w_astore' (L' := [(4, vR b0)]) hx hb dX0_isUseless_20 hl (by decide) rfl (fun ls hl => ?_)
  have hsz : ls.size = c.maxLocals := hl.1.trans hml.symm
  refine w_iconst hx hb dX0_isUseless_22 ?_
  exact w_iret hx hb hr hlk hR hL dX0_isUseless_23 f
theorem b_X0_knows_0 {G : Wd} {l : Launch} {d : Nat} {post : Option Value → VH → Prop} {xp : Nat → VH → Prop} {V : Nat → List (Nat × VT) → List Value → VH → Prop} {XV : Nat → List (Nat × VT) → Nat → VH → Prop} (C : Ctx G l d mX0_knows post xp V XV) {i1 i2 : Int32} {a0 a3 : Nat} {h : VH}
    (f : (kd h a0 = 1) ∧ D G l d mX1_knows [vR a0, vI i1, vI i2] h (fun v h1 => ∃ ri1, v = some (.int ri1) ∧ ((kd h1 a3 = 203) ∧ (vp_in (jI 0) (ln h1 a3)) ∧ (∀ h2 : VH, h2 = sL h1 ((jI 0)).toNatClampNeg a3 (Int32.toInt64 ri1) → (post (some (.int (jI 0))) h2)))) (fun q h9 => XV 5 [] q h9)) : V 0 [(0, vR a0), (1, vI i1), (2, vI i2), (3, vR a3)] [] h := by
  obtain ⟨p, e, R, s, m, args, below, meth, c, Q, ⟨hx, hb, hr, hlk, hml, hown, hk, hRr, htb, hnm, hsB, htr, hQ⟩, hV, hX⟩ := C
  rw [hV]
  intro H locs ls hR hL hl
  have hb : c.code = cX0_knows := hb
  have hr : meth.sig.returnType = some .int := hr
  have hml : c.maxLocals = 5 := hml
  have hown : s.vm.findClass RX0 = some m.cls := hown
  have hl : lv_has ls 5 (lm [(0, vR a0), (1, vI i1), (2, vI i2), (3, vR a3)]) := hl
  have hsz : ls.size = c.maxLocals := hl.1.trans hml.symm
  subst hQ
  refine w_aload_n hx hb dX0_knows_0 rfl (lv_v hl (k := 3) rfl rfl) ?_
  refine w_iconst hx hb dX0_knows_1 ?_
  refine w_aload_n hx hb dX0_knows_2 rfl (lv_v hl (k := 0) rfl rfl) ?_
  refine lv_iload_n hx hb dX0_knows_3 rfl (lv_v hl (k := 1) rfl rfl) ?_
  refine lv_iload_n hx hb dX0_knows_4 rfl (lv_v hl (k := 2) rfl rfl) ?_
  refine w_call (mi := mX1_knows) (As := [vR a0, vI i1, vI i2]) (rest := [.int (jI 0), vr a3]) (len := 3) hk hR hL hsz hsB htr hRr (cok_V (i := 0) (C := RX1) (argsL := [.int i1, .int i2]) hx hb hown hk hR f.1 (by decide) rfl q2741 q2742 q2743 q2744 kX1_knows.1 kX1_knows.2 rfl dX0_knows_5) f.2 wX1_knows iX1_knows (by decide) (cat_sum _ (Nat.le_of_ble_eq_true rfl)) rfl (fun v h1 H locs f hR hL => ?_) (fun q h9 H locs hp hR hL => (hX _ _ _ _).mp hp.2.2 H locs _ _ q rfl hp.1 hp.2.1 hR hL (lv_p hl [] rfl))
  obtain ⟨ri1, rfl, f⟩ := f
  show Wn p l e R s m args below meth c H locs _ (F0 m 8 ls [.int ri1, .int (jI 0), vr a3])
  refine lv_i2l (v := Int32.toInt64 ri1) hx hb dX0_knows_8 rfl ?_
  obtain ⟨f1, f2, f⟩ := f
  refine w_last hx hb hk hR hL f1 f2 dX0_knows_9 (fun H locs hR hL => ?_)
  obtain ⟨h2, eh2⟩ : ∃ z : VH, z = sL h1 ((jI 0)).toNatClampNeg a3 (Int32.toInt64 ri1) := ⟨_, rfl⟩
  have hR : Rp G h2 H := by rw [eh2]; exact hR
  have f := f h2 eh2
  refine lv_goto (tgt := 17) hx hb dX0_knows_10 (by decide) ?_
  refine w_iconst hx hb dX0_knows_17 ?_
  exact w_iret hx hb hr hlk hR hL dX0_knows_18 f
theorem b_X0_knows_13 {G : Wd} {l : Launch} {d : Nat} {post : Option Value → VH → Prop} {xp : Nat → VH → Prop} {V : Nat → List (Nat × VT) → List Value → VH → Prop} {XV : Nat → List (Nat × VT) → Nat → VH → Prop} (C : Ctx G l d mX0_knows post xp V XV) {b0 : Nat} {h : VH}
    (f : post (some (.int (jI 1))) h) : V 13 [] [vr b0] h := by
  obtain ⟨p, e, R, s, m, args, below, meth, c, Q, ⟨hx, hb, hr, hlk, hml, hown, hk, hRr, htb, hnm, hsB, htr, hQ⟩, hV, hX⟩ := C
  rw [hV]
  intro H locs ls hR hL hl
  have hb : c.code = cX0_knows := hb
  have hr : meth.sig.returnType = some .int := hr
  have hml : c.maxLocals = 5 := hml
  have hown : s.vm.findClass RX0 = some m.cls := hown
  have hl : lv_has ls 5 (lm []) := hl
  have hsz : ls.size = c.maxLocals := hl.1.trans hml.symm
  subst hQ
  refine w_astore' (L' := [(4, vR b0)]) hx hb dX0_knows_13 hl (by decide) rfl (fun ls hl => ?_)
  have hsz : ls.size = c.maxLocals := hl.1.trans hml.symm
  refine w_iconst hx hb dX0_knows_15 ?_
  exact w_iret hx hb hr hlk hR hL dX0_knows_16 f
theorem b_X0_logPart_0 {G : Wd} {l : Launch} {d : Nat} {post : Option Value → VH → Prop} {xp : Nat → VH → Prop} {V : Nat → List (Nat × VT) → List Value → VH → Prop} {XV : Nat → List (Nat × VT) → Nat → VH → Prop} (C : Ctx G l d mX0_logPart post xp V XV) {i1 i2 : Int32} {a0 a3 : Nat} {h : VH}
    (f : (kd h a0 = 1) ∧ D G l d mX1_logPart [vR a0, vI i1, vI i2] h (fun v h1 => ∃ ri1, v = some (.int ri1) ∧ ((kd h1 a3 = 203) ∧ (vp_in (jI 0) (ln h1 a3)) ∧ (∀ h2 : VH, h2 = sL h1 ((jI 0)).toNatClampNeg a3 (Int32.toInt64 ri1) → (post (some (.int (jI 0))) h2)))) (fun q h9 => XV 5 [] q h9)) : V 0 [(0, vR a0), (1, vI i1), (2, vI i2), (3, vR a3)] [] h := by
  obtain ⟨p, e, R, s, m, args, below, meth, c, Q, ⟨hx, hb, hr, hlk, hml, hown, hk, hRr, htb, hnm, hsB, htr, hQ⟩, hV, hX⟩ := C
  rw [hV]
  intro H locs ls hR hL hl
  have hb : c.code = cX0_logPart := hb
  have hr : meth.sig.returnType = some .int := hr
  have hml : c.maxLocals = 5 := hml
  have hown : s.vm.findClass RX0 = some m.cls := hown
  have hl : lv_has ls 5 (lm [(0, vR a0), (1, vI i1), (2, vI i2), (3, vR a3)]) := hl
  have hsz : ls.size = c.maxLocals := hl.1.trans hml.symm
  subst hQ
  refine w_aload_n hx hb dX0_logPart_0 rfl (lv_v hl (k := 3) rfl rfl) ?_
  refine w_iconst hx hb dX0_logPart_1 ?_
  refine w_aload_n hx hb dX0_logPart_2 rfl (lv_v hl (k := 0) rfl rfl) ?_
  refine lv_iload_n hx hb dX0_logPart_3 rfl (lv_v hl (k := 1) rfl rfl) ?_
  refine lv_iload_n hx hb dX0_logPart_4 rfl (lv_v hl (k := 2) rfl rfl) ?_
  refine w_call (mi := mX1_logPart) (As := [vR a0, vI i1, vI i2]) (rest := [.int (jI 0), vr a3]) (len := 3) hk hR hL hsz hsB htr hRr (cok_V (i := 0) (C := RX1) (argsL := [.int i1, .int i2]) hx hb hown hk hR f.1 (by decide) rfl q2878 q2879 q2880 q2881 kX1_logPart.1 kX1_logPart.2 rfl dX0_logPart_5) f.2 wX1_logPart iX1_logPart (by decide) (cat_sum _ (Nat.le_of_ble_eq_true rfl)) rfl (fun v h1 H locs f hR hL => ?_) (fun q h9 H locs hp hR hL => (hX _ _ _ _).mp hp.2.2 H locs _ _ q rfl hp.1 hp.2.1 hR hL (lv_p hl [] rfl))
  obtain ⟨ri1, rfl, f⟩ := f
  show Wn p l e R s m args below meth c H locs _ (F0 m 8 ls [.int ri1, .int (jI 0), vr a3])
  refine lv_i2l (v := Int32.toInt64 ri1) hx hb dX0_logPart_8 rfl ?_
  obtain ⟨f1, f2, f⟩ := f
  refine w_last hx hb hk hR hL f1 f2 dX0_logPart_9 (fun H locs hR hL => ?_)
  obtain ⟨h2, eh2⟩ : ∃ z : VH, z = sL h1 ((jI 0)).toNatClampNeg a3 (Int32.toInt64 ri1) := ⟨_, rfl⟩
  have hR : Rp G h2 H := by rw [eh2]; exact hR
  have f := f h2 eh2
  refine lv_goto (tgt := 17) hx hb dX0_logPart_10 (by decide) ?_
  refine w_iconst hx hb dX0_logPart_17 ?_
  exact w_iret hx hb hr hlk hR hL dX0_logPart_18 f
theorem b_X0_logPart_13 {G : Wd} {l : Launch} {d : Nat} {post : Option Value → VH → Prop} {xp : Nat → VH → Prop} {V : Nat → List (Nat × VT) → List Value → VH → Prop} {XV : Nat → List (Nat × VT) → Nat → VH → Prop} (C : Ctx G l d mX0_logPart post xp V XV) {b0 : Nat} {h : VH}
    (f : post (some (.int (jI 1))) h) : V 13 [] [vr b0] h := by
  obtain ⟨p, e, R, s, m, args, below, meth, c, Q, ⟨hx, hb, hr, hlk, hml, hown, hk, hRr, htb, hnm, hsB, htr, hQ⟩, hV, hX⟩ := C
  rw [hV]
  intro H locs ls hR hL hl
  have hb : c.code = cX0_logPart := hb
  have hr : meth.sig.returnType = some .int := hr
  have hml : c.maxLocals = 5 := hml
  have hown : s.vm.findClass RX0 = some m.cls := hown
  have hl : lv_has ls 5 (lm []) := hl
  have hsz : ls.size = c.maxLocals := hl.1.trans hml.symm
  subst hQ
  refine w_astore' (L' := [(4, vR b0)]) hx hb dX0_logPart_13 hl (by decide) rfl (fun ls hl => ?_)
  have hsz : ls.size = c.maxLocals := hl.1.trans hml.symm
  refine w_iconst hx hb dX0_logPart_15 ?_
  exact w_iret hx hb hr hlk hR hL dX0_logPart_16 f
theorem b_X0_pile_0 {G : Wd} {l : Launch} {d : Nat} {post : Option Value → VH → Prop} {xp : Nat → VH → Prop} {V : Nat → List (Nat × VT) → List Value → VH → Prop} {XV : Nat → List (Nat × VT) → Nat → VH → Prop} (C : Ctx G l d mX0_pile post xp V XV) {i1 : Int32} {a0 a2 : Nat} {h : VH}
    (f : (kd h a0 = 1) ∧ D G l d mX1_pile [vR a0, vI i1] h (fun v h1 => ∃ ri1, v = some (.int ri1) ∧ ((kd h1 a2 = 203) ∧ (vp_in (jI 0) (ln h1 a2)) ∧ (∀ h2 : VH, h2 = sL h1 ((jI 0)).toNatClampNeg a2 (Int32.toInt64 ri1) → (post (some (.int (jI 0))) h2)))) (fun q h9 => XV 4 [] q h9)) : V 0 [(0, vR a0), (1, vI i1), (2, vR a2)] [] h := by
  obtain ⟨p, e, R, s, m, args, below, meth, c, Q, ⟨hx, hb, hr, hlk, hml, hown, hk, hRr, htb, hnm, hsB, htr, hQ⟩, hV, hX⟩ := C
  rw [hV]
  intro H locs ls hR hL hl
  have hb : c.code = cX0_pile := hb
  have hr : meth.sig.returnType = some .int := hr
  have hml : c.maxLocals = 4 := hml
  have hown : s.vm.findClass RX0 = some m.cls := hown
  have hl : lv_has ls 4 (lm [(0, vR a0), (1, vI i1), (2, vR a2)]) := hl
  have hsz : ls.size = c.maxLocals := hl.1.trans hml.symm
  subst hQ
  refine w_aload_n hx hb dX0_pile_0 rfl (lv_v hl (k := 2) rfl rfl) ?_
  refine w_iconst hx hb dX0_pile_1 ?_
  refine w_aload_n hx hb dX0_pile_2 rfl (lv_v hl (k := 0) rfl rfl) ?_
  refine lv_iload_n hx hb dX0_pile_3 rfl (lv_v hl (k := 1) rfl rfl) ?_
  refine w_call (mi := mX1_pile) (As := [vR a0, vI i1]) (rest := [.int (jI 0), vr a2]) (len := 3) hk hR hL hsz hsB htr hRr (cok_V (i := 0) (C := RX1) (argsL := [.int i1]) hx hb hown hk hR f.1 (by decide) rfl q2627 q2628 q2629 q2630 kX1_pile.1 kX1_pile.2 rfl dX0_pile_4) f.2 wX1_pile iX1_pile (by decide) (cat_sum _ (Nat.le_of_ble_eq_true rfl)) rfl (fun v h1 H locs f hR hL => ?_) (fun q h9 H locs hp hR hL => (hX _ _ _ _).mp hp.2.2 H locs _ _ q rfl hp.1 hp.2.1 hR hL (lv_p hl [] rfl))
  obtain ⟨ri1, rfl, f⟩ := f
  show Wn p l e R s m args below meth c H locs _ (F0 m 7 ls [.int ri1, .int (jI 0), vr a2])
  refine lv_i2l (v := Int32.toInt64 ri1) hx hb dX0_pile_7 rfl ?_
  obtain ⟨f1, f2, f⟩ := f
  refine w_last hx hb hk hR hL f1 f2 dX0_pile_8 (fun H locs hR hL => ?_)
  obtain ⟨h2, eh2⟩ : ∃ z : VH, z = sL h1 ((jI 0)).toNatClampNeg a2 (Int32.toInt64 ri1) := ⟨_, rfl⟩
  have hR : Rp G h2 H := by rw [eh2]; exact hR
  have f := f h2 eh2
  refine lv_goto (tgt := 15) hx hb dX0_pile_9 (by decide) ?_
  refine w_iconst hx hb dX0_pile_15 ?_
  exact w_iret hx hb hr hlk hR hL dX0_pile_16 f
theorem b_X0_pile_12 {G : Wd} {l : Launch} {d : Nat} {post : Option Value → VH → Prop} {xp : Nat → VH → Prop} {V : Nat → List (Nat × VT) → List Value → VH → Prop} {XV : Nat → List (Nat × VT) → Nat → VH → Prop} (C : Ctx G l d mX0_pile post xp V XV) {b0 : Nat} {h : VH}
    (f : post (some (.int (jI 1))) h) : V 12 [] [vr b0] h := by
  obtain ⟨p, e, R, s, m, args, below, meth, c, Q, ⟨hx, hb, hr, hlk, hml, hown, hk, hRr, htb, hnm, hsB, htr, hQ⟩, hV, hX⟩ := C
  rw [hV]
  intro H locs ls hR hL hl
  have hb : c.code = cX0_pile := hb
  have hr : meth.sig.returnType = some .int := hr
  have hml : c.maxLocals = 4 := hml
  have hown : s.vm.findClass RX0 = some m.cls := hown
  have hl : lv_has ls 4 (lm []) := hl
  have hsz : ls.size = c.maxLocals := hl.1.trans hml.symm
  subst hQ
  refine w_astore_n' (L' := [(3, vR b0)]) hx hb dX0_pile_12 rfl hl (by decide) rfl (fun ls hl => ?_)
  have hsz : ls.size = c.maxLocals := hl.1.trans hml.symm
  refine w_iconst hx hb dX0_pile_13 ?_
  exact w_iret hx hb hr hlk hR hL dX0_pile_14 f
theorem b_X0_play_0 {G : Wd} {l : Launch} {d : Nat} {post : Option Value → VH → Prop} {xp : Nat → VH → Prop} {V : Nat → List (Nat × VT) → List Value → VH → Prop} {XV : Nat → List (Nat × VT) → Nat → VH → Prop} (C : Ctx G l d mX0_play post xp V XV) {i1 : Int32} {a0 a2 : Nat} {h : VH}
    (f : (kd h a0 = 1) ∧ D G l d mX1_play [vR a0, vI i1] h (fun v h1 => ∃ ri1, v = some (.int ri1) ∧ ((kd h1 a2 = 203) ∧ (vp_in (jI 0) (ln h1 a2)) ∧ (∀ h2 : VH, h2 = sL h1 ((jI 0)).toNatClampNeg a2 (Int32.toInt64 ri1) → (post (some (.int (jI 0))) h2)))) (fun q h9 => XV 4 [] q h9)) : V 0 [(0, vR a0), (1, vI i1), (2, vR a2)] [] h := by
  obtain ⟨p, e, R, s, m, args, below, meth, c, Q, ⟨hx, hb, hr, hlk, hml, hown, hk, hRr, htb, hnm, hsB, htr, hQ⟩, hV, hX⟩ := C
  rw [hV]
  intro H locs ls hR hL hl
  have hb : c.code = cX0_play := hb
  have hr : meth.sig.returnType = some .int := hr
  have hml : c.maxLocals = 4 := hml
  have hown : s.vm.findClass RX0 = some m.cls := hown
  have hl : lv_has ls 4 (lm [(0, vR a0), (1, vI i1), (2, vR a2)]) := hl
  have hsz : ls.size = c.maxLocals := hl.1.trans hml.symm
  subst hQ
  refine w_aload_n hx hb dX0_play_0 rfl (lv_v hl (k := 2) rfl rfl) ?_
  refine w_iconst hx hb dX0_play_1 ?_
  refine w_aload_n hx hb dX0_play_2 rfl (lv_v hl (k := 0) rfl rfl) ?_
  refine lv_iload_n hx hb dX0_play_3 rfl (lv_v hl (k := 1) rfl rfl) ?_
  refine w_call (mi := mX1_play) (As := [vR a0, vI i1]) (rest := [.int (jI 0), vr a2]) (len := 3) hk hR hL hsz hsB htr hRr (cok_V (i := 0) (C := RX1) (argsL := [.int i1]) hx hb hown hk hR f.1 (by decide) rfl q2777 q2778 q2779 q2780 kX1_play.1 kX1_play.2 rfl dX0_play_4) f.2 wX1_play iX1_play (by decide) (cat_sum _ (Nat.le_of_ble_eq_true rfl)) rfl (fun v h1 H locs f hR hL => ?_) (fun q h9 H locs hp hR hL => (hX _ _ _ _).mp hp.2.2 H locs _ _ q rfl hp.1 hp.2.1 hR hL (lv_p hl [] rfl))
  obtain ⟨ri1, rfl, f⟩ := f
  show Wn p l e R s m args below meth c H locs _ (F0 m 7 ls [.int ri1, .int (jI 0), vr a2])
  refine lv_i2l (v := Int32.toInt64 ri1) hx hb dX0_play_7 rfl ?_
  obtain ⟨f1, f2, f⟩ := f
  refine w_last hx hb hk hR hL f1 f2 dX0_play_8 (fun H locs hR hL => ?_)
  obtain ⟨h2, eh2⟩ : ∃ z : VH, z = sL h1 ((jI 0)).toNatClampNeg a2 (Int32.toInt64 ri1) := ⟨_, rfl⟩
  have hR : Rp G h2 H := by rw [eh2]; exact hR
  have f := f h2 eh2
  refine lv_goto (tgt := 15) hx hb dX0_play_9 (by decide) ?_
  refine w_iconst hx hb dX0_play_15 ?_
  exact w_iret hx hb hr hlk hR hL dX0_play_16 f
theorem b_X0_play_12 {G : Wd} {l : Launch} {d : Nat} {post : Option Value → VH → Prop} {xp : Nat → VH → Prop} {V : Nat → List (Nat × VT) → List Value → VH → Prop} {XV : Nat → List (Nat × VT) → Nat → VH → Prop} (C : Ctx G l d mX0_play post xp V XV) {b0 : Nat} {h : VH}
    (f : post (some (.int (jI 1))) h) : V 12 [] [vr b0] h := by
  obtain ⟨p, e, R, s, m, args, below, meth, c, Q, ⟨hx, hb, hr, hlk, hml, hown, hk, hRr, htb, hnm, hsB, htr, hQ⟩, hV, hX⟩ := C
  rw [hV]
  intro H locs ls hR hL hl
  have hb : c.code = cX0_play := hb
  have hr : meth.sig.returnType = some .int := hr
  have hml : c.maxLocals = 4 := hml
  have hown : s.vm.findClass RX0 = some m.cls := hown
  have hl : lv_has ls 4 (lm []) := hl
  have hsz : ls.size = c.maxLocals := hl.1.trans hml.symm
  subst hQ
  refine w_astore_n' (L' := [(3, vR b0)]) hx hb dX0_play_12 rfl hl (by decide) rfl (fun ls hl => ?_)
  have hsz : ls.size = c.maxLocals := hl.1.trans hml.symm
  refine w_iconst hx hb dX0_play_13 ?_
  exact w_iret hx hb hr hlk hR hL dX0_play_14 f
theorem b_X0_ranksOf_0 {G : Wd} {l : Launch} {d : Nat} {post : Option Value → VH → Prop} {xp : Nat → VH → Prop} {V : Nat → List (Nat × VT) → List Value → VH → Prop} {XV : Nat → List (Nat × VT) → Nat → VH → Prop} (C : Ctx G l d mX0_ranksOf post xp V XV) {i1 i2 : Int32} {a0 a3 : Nat} {h : VH}
    (f : (kd h a0 = 1) ∧ D G l d mX1_ranksOf [vR a0, vI i1, vI i2] h (fun v h1 => ∃ ri1, v = some (.int ri1) ∧ ((kd h1 a3 = 203) ∧ (vp_in (jI 0) (ln h1 a3)) ∧ (∀ h2 : VH, h2 = sL h1 ((jI 0)).toNatClampNeg a3 (Int32.toInt64 ri1) → (post (some (.int (jI 0))) h2)))) (fun q h9 => XV 5 [] q h9)) : V 0 [(0, vR a0), (1, vI i1), (2, vI i2), (3, vR a3)] [] h := by
  obtain ⟨p, e, R, s, m, args, below, meth, c, Q, ⟨hx, hb, hr, hlk, hml, hown, hk, hRr, htb, hnm, hsB, htr, hQ⟩, hV, hX⟩ := C
  rw [hV]
  intro H locs ls hR hL hl
  have hb : c.code = cX0_ranksOf := hb
  have hr : meth.sig.returnType = some .int := hr
  have hml : c.maxLocals = 5 := hml
  have hown : s.vm.findClass RX0 = some m.cls := hown
  have hl : lv_has ls 5 (lm [(0, vR a0), (1, vI i1), (2, vI i2), (3, vR a3)]) := hl
  have hsz : ls.size = c.maxLocals := hl.1.trans hml.symm
  subst hQ
  refine w_aload_n hx hb dX0_ranksOf_0 rfl (lv_v hl (k := 3) rfl rfl) ?_
  refine w_iconst hx hb dX0_ranksOf_1 ?_
  refine w_aload_n hx hb dX0_ranksOf_2 rfl (lv_v hl (k := 0) rfl rfl) ?_
  refine lv_iload_n hx hb dX0_ranksOf_3 rfl (lv_v hl (k := 1) rfl rfl) ?_
  refine lv_iload_n hx hb dX0_ranksOf_4 rfl (lv_v hl (k := 2) rfl rfl) ?_
  refine w_call (mi := mX1_ranksOf) (As := [vR a0, vI i1, vI i2]) (rest := [.int (jI 0), vr a3]) (len := 3) hk hR hL hsz hsB htr hRr (cok_V (i := 0) (C := RX1) (argsL := [.int i1, .int i2]) hx hb hown hk hR f.1 (by decide) rfl q2703 q2704 q2705 q2706 kX1_ranksOf.1 kX1_ranksOf.2 rfl dX0_ranksOf_5) f.2 wX1_ranksOf iX1_ranksOf (by decide) (cat_sum _ (Nat.le_of_ble_eq_true rfl)) rfl (fun v h1 H locs f hR hL => ?_) (fun q h9 H locs hp hR hL => (hX _ _ _ _).mp hp.2.2 H locs _ _ q rfl hp.1 hp.2.1 hR hL (lv_p hl [] rfl))
  obtain ⟨ri1, rfl, f⟩ := f
  show Wn p l e R s m args below meth c H locs _ (F0 m 8 ls [.int ri1, .int (jI 0), vr a3])
  refine lv_i2l (v := Int32.toInt64 ri1) hx hb dX0_ranksOf_8 rfl ?_
  obtain ⟨f1, f2, f⟩ := f
  refine w_last hx hb hk hR hL f1 f2 dX0_ranksOf_9 (fun H locs hR hL => ?_)
  obtain ⟨h2, eh2⟩ : ∃ z : VH, z = sL h1 ((jI 0)).toNatClampNeg a3 (Int32.toInt64 ri1) := ⟨_, rfl⟩
  have hR : Rp G h2 H := by rw [eh2]; exact hR
  have f := f h2 eh2
  refine lv_goto (tgt := 17) hx hb dX0_ranksOf_10 (by decide) ?_
  refine w_iconst hx hb dX0_ranksOf_17 ?_
  exact w_iret hx hb hr hlk hR hL dX0_ranksOf_18 f
theorem b_X0_ranksOf_13 {G : Wd} {l : Launch} {d : Nat} {post : Option Value → VH → Prop} {xp : Nat → VH → Prop} {V : Nat → List (Nat × VT) → List Value → VH → Prop} {XV : Nat → List (Nat × VT) → Nat → VH → Prop} (C : Ctx G l d mX0_ranksOf post xp V XV) {b0 : Nat} {h : VH}
    (f : post (some (.int (jI 1))) h) : V 13 [] [vr b0] h := by
  obtain ⟨p, e, R, s, m, args, below, meth, c, Q, ⟨hx, hb, hr, hlk, hml, hown, hk, hRr, htb, hnm, hsB, htr, hQ⟩, hV, hX⟩ := C
  rw [hV]
  intro H locs ls hR hL hl
  have hb : c.code = cX0_ranksOf := hb
  have hr : meth.sig.returnType = some .int := hr
  have hml : c.maxLocals = 5 := hml
  have hown : s.vm.findClass RX0 = some m.cls := hown
  have hl : lv_has ls 5 (lm []) := hl
  have hsz : ls.size = c.maxLocals := hl.1.trans hml.symm
  subst hQ
  refine w_astore' (L' := [(4, vR b0)]) hx hb dX0_ranksOf_13 hl (by decide) rfl (fun ls hl => ?_)
  have hsz : ls.size = c.maxLocals := hl.1.trans hml.symm
  refine w_iconst hx hb dX0_ranksOf_15 ?_
  exact w_iret hx hb hr hlk hR hL dX0_ranksOf_16 f
theorem b_X0_restoreSnapshot_0 {G : Wd} {l : Launch} {d : Nat} {post : Option Value → VH → Prop} {xp : Nat → VH → Prop} {V : Nat → List (Nat × VT) → List Value → VH → Prop} {XV : Nat → List (Nat × VT) → Nat → VH → Prop} (C : Ctx G l d mX0_restoreSnapshot post xp V XV) {i1 : Int32} {a0 a2 : Nat} {h : VH}
    (f : (kd h a0 = 1) ∧ D G l d mX1_restoreSnapshot [vR a0, vI i1] h (fun v h1 => ∃ ri1, v = some (.int ri1) ∧ ((kd h1 a2 = 203) ∧ (vp_in (jI 0) (ln h1 a2)) ∧ (∀ h2 : VH, h2 = sL h1 ((jI 0)).toNatClampNeg a2 (Int32.toInt64 ri1) → (post (some (.int (jI 0))) h2)))) (fun q h9 => XV 4 [] q h9)) : V 0 [(0, vR a0), (1, vI i1), (2, vR a2)] [] h := by
  obtain ⟨p, e, R, s, m, args, below, meth, c, Q, ⟨hx, hb, hr, hlk, hml, hown, hk, hRr, htb, hnm, hsB, htr, hQ⟩, hV, hX⟩ := C
  rw [hV]
  intro H locs ls hR hL hl
  have hb : c.code = cX0_restoreSnapshot := hb
  have hr : meth.sig.returnType = some .int := hr
  have hml : c.maxLocals = 4 := hml
  have hown : s.vm.findClass RX0 = some m.cls := hown
  have hl : lv_has ls 4 (lm [(0, vR a0), (1, vI i1), (2, vR a2)]) := hl
  have hsz : ls.size = c.maxLocals := hl.1.trans hml.symm
  subst hQ
  refine w_aload_n hx hb dX0_restoreSnapshot_0 rfl (lv_v hl (k := 2) rfl rfl) ?_
  refine w_iconst hx hb dX0_restoreSnapshot_1 ?_
  refine w_aload_n hx hb dX0_restoreSnapshot_2 rfl (lv_v hl (k := 0) rfl rfl) ?_
  refine lv_iload_n hx hb dX0_restoreSnapshot_3 rfl (lv_v hl (k := 1) rfl rfl) ?_
  refine w_call (mi := mX1_restoreSnapshot) (As := [vR a0, vI i1]) (rest := [.int (jI 0), vr a2]) (len := 3) hk hR hL hsz hsB htr hRr (cok_V (i := 0) (C := RX1) (argsL := [.int i1]) hx hb hown hk hR f.1 (by decide) rfl q2983 q2984 q2985 q2986 kX1_restoreSnapshot.1 kX1_restoreSnapshot.2 rfl dX0_restoreSnapshot_4) f.2 wX1_restoreSnapshot iX1_restoreSnapshot (by decide) (cat_sum _ (Nat.le_of_ble_eq_true rfl)) rfl (fun v h1 H locs f hR hL => ?_) (fun q h9 H locs hp hR hL => (hX _ _ _ _).mp hp.2.2 H locs _ _ q rfl hp.1 hp.2.1 hR hL (lv_p hl [] rfl))
  obtain ⟨ri1, rfl, f⟩ := f
  show Wn p l e R s m args below meth c H locs _ (F0 m 7 ls [.int ri1, .int (jI 0), vr a2])
  refine lv_i2l (v := Int32.toInt64 ri1) hx hb dX0_restoreSnapshot_7 rfl ?_
  obtain ⟨f1, f2, f⟩ := f
  refine w_last hx hb hk hR hL f1 f2 dX0_restoreSnapshot_8 (fun H locs hR hL => ?_)
  obtain ⟨h2, eh2⟩ : ∃ z : VH, z = sL h1 ((jI 0)).toNatClampNeg a2 (Int32.toInt64 ri1) := ⟨_, rfl⟩
  have hR : Rp G h2 H := by rw [eh2]; exact hR
  have f := f h2 eh2
  refine lv_goto (tgt := 15) hx hb dX0_restoreSnapshot_9 (by decide) ?_
  refine w_iconst hx hb dX0_restoreSnapshot_15 ?_
  exact w_iret hx hb hr hlk hR hL dX0_restoreSnapshot_16 f
theorem b_X0_restoreSnapshot_12 {G : Wd} {l : Launch} {d : Nat} {post : Option Value → VH → Prop} {xp : Nat → VH → Prop} {V : Nat → List (Nat × VT) → List Value → VH → Prop} {XV : Nat → List (Nat × VT) → Nat → VH → Prop} (C : Ctx G l d mX0_restoreSnapshot post xp V XV) {b0 : Nat} {h : VH}
    (f : post (some (.int (jI 1))) h) : V 12 [] [vr b0] h := by
  obtain ⟨p, e, R, s, m, args, below, meth, c, Q, ⟨hx, hb, hr, hlk, hml, hown, hk, hRr, htb, hnm, hsB, htr, hQ⟩, hV, hX⟩ := C
  rw [hV]
  intro H locs ls hR hL hl
  have hb : c.code = cX0_restoreSnapshot := hb
  have hr : meth.sig.returnType = some .int := hr
  have hml : c.maxLocals = 4 := hml
  have hown : s.vm.findClass RX0 = some m.cls := hown
  have hl : lv_has ls 4 (lm []) := hl
  have hsz : ls.size = c.maxLocals := hl.1.trans hml.symm
  subst hQ
  refine w_astore_n' (L' := [(3, vR b0)]) hx hb dX0_restoreSnapshot_12 rfl hl (by decide) rfl (fun ls hl => ?_)
  have hsz : ls.size = c.maxLocals := hl.1.trans hml.symm
  refine w_iconst hx hb dX0_restoreSnapshot_13 ?_
  exact w_iret hx hb hr hlk hR hL dX0_restoreSnapshot_14 f
theorem b_X0_saveSnapshot_0 {G : Wd} {l : Launch} {d : Nat} {post : Option Value → VH → Prop} {xp : Nat → VH → Prop} {V : Nat → List (Nat × VT) → List Value → VH → Prop} {XV : Nat → List (Nat × VT) → Nat → VH → Prop} (C : Ctx G l d mX0_saveSnapshot post xp V XV) {i1 : Int32} {a0 a2 : Nat} {h : VH}
    (f : (kd h a0 = 1) ∧ D G l d mX1_saveSnapshot [vR a0, vI i1] h (fun v h1 => ∃ ri1, v = some (.int ri1) ∧ ((kd h1 a2 = 203) ∧ (vp_in (jI 0) (ln h1 a2)) ∧ (∀ h2 : VH, h2 = sL h1 ((jI 0)).toNatClampNeg a2 (Int32.toInt64 ri1) → (post (some (.int (jI 0))) h2)))) (fun q h9 => XV 4 [] q h9)) : V 0 [(0, vR a0), (1, vI i1), (2, vR a2)] [] h := by
  obtain ⟨p, e, R, s, m, args, below, meth, c, Q, ⟨hx, hb, hr, hlk, hml, hown, hk, hRr, htb, hnm, hsB, htr, hQ⟩, hV, hX⟩ := C
  rw [hV]
  intro H locs ls hR hL hl
  have hb : c.code = cX0_saveSnapshot := hb
  have hr : meth.sig.returnType = some .int := hr
  have hml : c.maxLocals = 4 := hml
  have hown : s.vm.findClass RX0 = some m.cls := hown
  have hl : lv_has ls 4 (lm [(0, vR a0), (1, vI i1), (2, vR a2)]) := hl
  have hsz : ls.size = c.maxLocals := hl.1.trans hml.symm
  subst hQ
  refine w_aload_n hx hb dX0_saveSnapshot_0 rfl (lv_v hl (k := 2) rfl rfl) ?_
  refine w_iconst hx hb dX0_saveSnapshot_1 ?_
  refine w_aload_n hx hb dX0_saveSnapshot_2 rfl (lv_v hl (k := 0) rfl rfl) ?_
  refine lv_iload_n hx hb dX0_saveSnapshot_3 rfl (lv_v hl (k := 1) rfl rfl) ?_
  refine w_call (mi := mX1_saveSnapshot) (As := [vR a0, vI i1]) (rest := [.int (jI 0), vr a2]) (len := 3) hk hR hL hsz hsB htr hRr (cok_V (i := 0) (C := RX1) (argsL := [.int i1]) hx hb hown hk hR f.1 (by decide) rfl q2973 q2974 q2975 q2976 kX1_saveSnapshot.1 kX1_saveSnapshot.2 rfl dX0_saveSnapshot_4) f.2 wX1_saveSnapshot iX1_saveSnapshot (by decide) (cat_sum _ (Nat.le_of_ble_eq_true rfl)) rfl (fun v h1 H locs f hR hL => ?_) (fun q h9 H locs hp hR hL => (hX _ _ _ _).mp hp.2.2 H locs _ _ q rfl hp.1 hp.2.1 hR hL (lv_p hl [] rfl))
  obtain ⟨ri1, rfl, f⟩ := f
  show Wn p l e R s m args below meth c H locs _ (F0 m 7 ls [.int ri1, .int (jI 0), vr a2])
  refine lv_i2l (v := Int32.toInt64 ri1) hx hb dX0_saveSnapshot_7 rfl ?_
  obtain ⟨f1, f2, f⟩ := f
  refine w_last hx hb hk hR hL f1 f2 dX0_saveSnapshot_8 (fun H locs hR hL => ?_)
  obtain ⟨h2, eh2⟩ : ∃ z : VH, z = sL h1 ((jI 0)).toNatClampNeg a2 (Int32.toInt64 ri1) := ⟨_, rfl⟩
  have hR : Rp G h2 H := by rw [eh2]; exact hR
  have f := f h2 eh2
  refine lv_goto (tgt := 15) hx hb dX0_saveSnapshot_9 (by decide) ?_
  refine w_iconst hx hb dX0_saveSnapshot_15 ?_
  exact w_iret hx hb hr hlk hR hL dX0_saveSnapshot_16 f
theorem b_X0_saveSnapshot_12 {G : Wd} {l : Launch} {d : Nat} {post : Option Value → VH → Prop} {xp : Nat → VH → Prop} {V : Nat → List (Nat × VT) → List Value → VH → Prop} {XV : Nat → List (Nat × VT) → Nat → VH → Prop} (C : Ctx G l d mX0_saveSnapshot post xp V XV) {b0 : Nat} {h : VH}
    (f : post (some (.int (jI 1))) h) : V 12 [] [vr b0] h := by
  obtain ⟨p, e, R, s, m, args, below, meth, c, Q, ⟨hx, hb, hr, hlk, hml, hown, hk, hRr, htb, hnm, hsB, htr, hQ⟩, hV, hX⟩ := C
  rw [hV]
  intro H locs ls hR hL hl
  have hb : c.code = cX0_saveSnapshot := hb
  have hr : meth.sig.returnType = some .int := hr
  have hml : c.maxLocals = 4 := hml
  have hown : s.vm.findClass RX0 = some m.cls := hown
  have hl : lv_has ls 4 (lm []) := hl
  have hsz : ls.size = c.maxLocals := hl.1.trans hml.symm
  subst hQ
  refine w_astore_n' (L' := [(3, vR b0)]) hx hb dX0_saveSnapshot_12 rfl hl (by decide) rfl (fun ls hl => ?_)
  have hsz : ls.size = c.maxLocals := hl.1.trans hml.symm
  refine w_iconst hx hb dX0_saveSnapshot_13 ?_
  exact w_iret hx hb hr hlk hR hL dX0_saveSnapshot_14 f
theorem b_X0_tells_0 {G : Wd} {l : Launch} {d : Nat} {post : Option Value → VH → Prop} {xp : Nat → VH → Prop} {V : Nat → List (Nat × VT) → List Value → VH → Prop} {XV : Nat → List (Nat × VT) → Nat → VH → Prop} (C : Ctx G l d mX0_tells post xp V XV) {i1 i2 i3 : Int32} {a0 a4 : Nat} {h : VH}
    (f : (kd h a0 = 1) ∧ D G l d mX1_tells [vR a0, vI i1, vI i2, vI i3] h (fun v h1 => ∃ ri1, v = some (.int ri1) ∧ ((kd h1 a4 = 203) ∧ (vp_in (jI 0) (ln h1 a4)) ∧ (∀ h2 : VH, h2 = sL h1 ((jI 0)).toNatClampNeg a4 (Int32.toInt64 ri1) → (post (some (.int (jI 0))) h2)))) (fun q h9 => XV 7 [] q h9)) : V 0 [(0, vR a0), (1, vI i1), (2, vI i2), (3, vI i3), (4, vR a4)] [] h := by
  obtain ⟨p, e, R, s, m, args, below, meth, c, Q, ⟨hx, hb, hr, hlk, hml, hown, hk, hRr, htb, hnm, hsB, htr, hQ⟩, hV, hX⟩ := C
  rw [hV]
  intro H locs ls hR hL hl
  have hb : c.code = cX0_tells := hb
  have hr : meth.sig.returnType = some .int := hr
  have hml : c.maxLocals = 6 := hml
  have hown : s.vm.findClass RX0 = some m.cls := hown
  have hl : lv_has ls 6 (lm [(0, vR a0), (1, vI i1), (2, vI i2), (3, vI i3), (4, vR a4)]) := hl
  have hsz : ls.size = c.maxLocals := hl.1.trans hml.symm
  subst hQ
  refine w_aload hx hb dX0_tells_0 (lv_v hl (k := 4) rfl rfl) ?_
  refine w_iconst hx hb dX0_tells_2 ?_
  refine w_aload_n hx hb dX0_tells_3 rfl (lv_v hl (k := 0) rfl rfl) ?_
  refine lv_iload_n hx hb dX0_tells_4 rfl (lv_v hl (k := 1) rfl rfl) ?_
  refine lv_iload_n hx hb dX0_tells_5 rfl (lv_v hl (k := 2) rfl rfl) ?_
  refine lv_iload_n hx hb dX0_tells_6 rfl (lv_v hl (k := 3) rfl rfl) ?_
  refine w_call (mi := mX1_tells) (As := [vR a0, vI i1, vI i2, vI i3]) (rest := [.int (jI 0), vr a4]) (len := 3) hk hR hL hsz hsB htr hRr (cok_V (i := 0) (C := RX1) (argsL := [.int i1, .int i2, .int i3]) hx hb hown hk hR f.1 (by decide) rfl q2770 q2771 q2772 q2773 kX1_tells.1 kX1_tells.2 rfl dX0_tells_7) f.2 wX1_tells iX1_tells (by decide) (cat_sum _ (Nat.le_of_ble_eq_true rfl)) rfl (fun v h1 H locs f hR hL => ?_) (fun q h9 H locs hp hR hL => (hX _ _ _ _).mp hp.2.2 H locs _ _ q rfl hp.1 hp.2.1 hR hL (lv_p hl [] rfl))
  obtain ⟨ri1, rfl, f⟩ := f
  show Wn p l e R s m args below meth c H locs _ (F0 m 10 ls [.int ri1, .int (jI 0), vr a4])
  refine lv_i2l (v := Int32.toInt64 ri1) hx hb dX0_tells_10 rfl ?_
  obtain ⟨f1, f2, f⟩ := f
  refine w_last hx hb hk hR hL f1 f2 dX0_tells_11 (fun H locs hR hL => ?_)
  obtain ⟨h2, eh2⟩ : ∃ z : VH, z = sL h1 ((jI 0)).toNatClampNeg a4 (Int32.toInt64 ri1) := ⟨_, rfl⟩
  have hR : Rp G h2 H := by rw [eh2]; exact hR
  have f := f h2 eh2
  refine lv_goto (tgt := 23) hx hb dX0_tells_12 (by decide) ?_
  refine w_iconst hx hb dX0_tells_23 ?_
  exact w_iret hx hb hr hlk hR hL dX0_tells_24 f
theorem b_X0_tells_15 {G : Wd} {l : Launch} {d : Nat} {post : Option Value → VH → Prop} {xp : Nat → VH → Prop} {V : Nat → List (Nat × VT) → List Value → VH → Prop} {XV : Nat → List (Nat × VT) → Nat → VH → Prop} (C : Ctx G l d mX0_tells post xp V XV) {b0 : Nat} {h : VH}
    (f : post (some (.int (jI 1))) h) : V 15 [] [vr b0] h := by
  obtain ⟨p, e, R, s, m, args, below, meth, c, Q, ⟨hx, hb, hr, hlk, hml, hown, hk, hRr, htb, hnm, hsB, htr, hQ⟩, hV, hX⟩ := C
  rw [hV]
  intro H locs ls hR hL hl
  have hb : c.code = cX0_tells := hb
  have hr : meth.sig.returnType = some .int := hr
  have hml : c.maxLocals = 6 := hml
  have hown : s.vm.findClass RX0 = some m.cls := hown
  have hl : lv_has ls 6 (lm []) := hl
  have hsz : ls.size = c.maxLocals := hl.1.trans hml.symm
  subst hQ
  refine w_astore' (L' := [(5, vR b0)]) hx hb dX0_tells_15 hl (by decide) rfl (fun ls hl => ?_)
  have hsz : ls.size = c.maxLocals := hl.1.trans hml.symm
  refine w_iconst hx hb dX0_tells_17 ?_
  exact w_iret hx hb hr hlk hR hL dX0_tells_18 f
theorem b_X0_tells_19 {G : Wd} {l : Launch} {d : Nat} {post : Option Value → VH → Prop} {xp : Nat → VH → Prop} {V : Nat → List (Nat × VT) → List Value → VH → Prop} {XV : Nat → List (Nat × VT) → Nat → VH → Prop} (C : Ctx G l d mX0_tells post xp V XV) {b0 : Nat} {h : VH}
    (f : post (some (.int (jI 2))) h) : V 19 [] [vr b0] h := by
  obtain ⟨p, e, R, s, m, args, below, meth, c, Q, ⟨hx, hb, hr, hlk, hml, hown, hk, hRr, htb, hnm, hsB, htr, hQ⟩, hV, hX⟩ := C
  rw [hV]
  intro H locs ls hR hL hl
  have hb : c.code = cX0_tells := hb
  have hr : meth.sig.returnType = some .int := hr
  have hml : c.maxLocals = 6 := hml
  have hown : s.vm.findClass RX0 = some m.cls := hown
  have hl : lv_has ls 6 (lm []) := hl
  have hsz : ls.size = c.maxLocals := hl.1.trans hml.symm
  subst hQ
  refine w_astore' (L' := [(5, vR b0)]) hx hb dX0_tells_19 hl (by decide) rfl (fun ls hl => ?_)
  have hsz : ls.size = c.maxLocals := hl.1.trans hml.symm
  refine w_iconst hx hb dX0_tells_21 ?_
  exact w_iret hx hb hr hlk hR hL dX0_tells_22 f
theorem b_X0_thinks_0 {G : Wd} {l : Launch} {d : Nat} {post : Option Value → VH → Prop} {xp : Nat → VH → Prop} {V : Nat → List (Nat × VT) → List Value → VH → Prop} {XV : Nat → List (Nat × VT) → Nat → VH → Prop} (C : Ctx G l d mX0_thinks post xp V XV) {i1 i2 : Int32} {a0 a3 : Nat} {h : VH}
    (f : (kd h a0 = 1) ∧ D G l d mX1_thinks [vR a0, vI i1, vI i2] h (fun v h1 => ∃ ri1, v = some (.int ri1) ∧ ((kd h1 a3 = 203) ∧ (vp_in (jI 0) (ln h1 a3)) ∧ (∀ h2 : VH, h2 = sL h1 ((jI 0)).toNatClampNeg a3 (Int32.toInt64 ri1) → (post (some (.int (jI 0))) h2)))) (fun q h9 => XV 5 [] q h9)) : V 0 [(0, vR a0), (1, vI i1), (2, vI i2), (3, vR a3)] [] h := by
  obtain ⟨p, e, R, s, m, args, below, meth, c, Q, ⟨hx, hb, hr, hlk, hml, hown, hk, hRr, htb, hnm, hsB, htr, hQ⟩, hV, hX⟩ := C
  rw [hV]
  intro H locs ls hR hL hl
  have hb : c.code = cX0_thinks := hb
  have hr : meth.sig.returnType = some .int := hr
  have hml : c.maxLocals = 5 := hml
  have hown : s.vm.findClass RX0 = some m.cls := hown
  have hl : lv_has ls 5 (lm [(0, vR a0), (1, vI i1), (2, vI i2), (3, vR a3)]) := hl
  have hsz : ls.size = c.maxLocals := hl.1.trans hml.symm
  subst hQ
  refine w_aload_n hx hb dX0_thinks_0 rfl (lv_v hl (k := 3) rfl rfl) ?_
  refine w_iconst hx hb dX0_thinks_1 ?_
  refine w_aload_n hx hb dX0_thinks_2 rfl (lv_v hl (k := 0) rfl rfl) ?_
  refine lv_iload_n hx hb dX0_thinks_3 rfl (lv_v hl (k := 1) rfl rfl) ?_
  refine lv_iload_n hx hb dX0_thinks_4 rfl (lv_v hl (k := 2) rfl rfl) ?_
  refine w_call (mi := mX1_thinks) (As := [vR a0, vI i1, vI i2]) (rest := [.int (jI 0), vr a3]) (len := 3) hk hR hL hsz hsB htr hRr (cok_V (i := 0) (C := RX1) (argsL := [.int i1, .int i2]) hx hb hown hk hR f.1 (by decide) rfl q2717 q2718 q2719 q2720 kX1_thinks.1 kX1_thinks.2 rfl dX0_thinks_5) f.2 wX1_thinks iX1_thinks (by decide) (cat_sum _ (Nat.le_of_ble_eq_true rfl)) rfl (fun v h1 H locs f hR hL => ?_) (fun q h9 H locs hp hR hL => (hX _ _ _ _).mp hp.2.2 H locs _ _ q rfl hp.1 hp.2.1 hR hL (lv_p hl [] rfl))
  obtain ⟨ri1, rfl, f⟩ := f
  show Wn p l e R s m args below meth c H locs _ (F0 m 8 ls [.int ri1, .int (jI 0), vr a3])
  refine lv_i2l (v := Int32.toInt64 ri1) hx hb dX0_thinks_8 rfl ?_
  obtain ⟨f1, f2, f⟩ := f
  refine w_last hx hb hk hR hL f1 f2 dX0_thinks_9 (fun H locs hR hL => ?_)
  obtain ⟨h2, eh2⟩ : ∃ z : VH, z = sL h1 ((jI 0)).toNatClampNeg a3 (Int32.toInt64 ri1) := ⟨_, rfl⟩
  have hR : Rp G h2 H := by rw [eh2]; exact hR
  have f := f h2 eh2
  refine lv_goto (tgt := 17) hx hb dX0_thinks_10 (by decide) ?_
  refine w_iconst hx hb dX0_thinks_17 ?_
  exact w_iret hx hb hr hlk hR hL dX0_thinks_18 f
theorem b_X0_thinks_13 {G : Wd} {l : Launch} {d : Nat} {post : Option Value → VH → Prop} {xp : Nat → VH → Prop} {V : Nat → List (Nat × VT) → List Value → VH → Prop} {XV : Nat → List (Nat × VT) → Nat → VH → Prop} (C : Ctx G l d mX0_thinks post xp V XV) {b0 : Nat} {h : VH}
    (f : post (some (.int (jI 1))) h) : V 13 [] [vr b0] h := by
  obtain ⟨p, e, R, s, m, args, below, meth, c, Q, ⟨hx, hb, hr, hlk, hml, hown, hk, hRr, htb, hnm, hsB, htr, hQ⟩, hV, hX⟩ := C
  rw [hV]
  intro H locs ls hR hL hl
  have hb : c.code = cX0_thinks := hb
  have hr : meth.sig.returnType = some .int := hr
  have hml : c.maxLocals = 5 := hml
  have hown : s.vm.findClass RX0 = some m.cls := hown
  have hl : lv_has ls 5 (lm []) := hl
  have hsz : ls.size = c.maxLocals := hl.1.trans hml.symm
  subst hQ
  refine w_astore' (L' := [(4, vR b0)]) hx hb dX0_thinks_13 hl (by decide) rfl (fun ls hl => ?_)
  have hsz : ls.size = c.maxLocals := hl.1.trans hml.symm
  refine w_iconst hx hb dX0_thinks_15 ?_
  exact w_iret hx hb hr hlk hR hL dX0_thinks_16 f
theorem b_X0_thought_0 {G : Wd} {l : Launch} {d : Nat} {post : Option Value → VH → Prop} {xp : Nat → VH → Prop} {V : Nat → List (Nat × VT) → List Value → VH → Prop} {XV : Nat → List (Nat × VT) → Nat → VH → Prop} (C : Ctx G l d mX0_thought post xp V XV) {i1 i2 i3 : Int32} {a0 a4 : Nat} {h : VH}
    (f : (kd h a0 = 1) ∧ D G l d mX1_thought [vR a0, vI i1, vI i2, vI i3] h (fun v h1 => ∃ ri1, v = some (.int ri1) ∧ ((kd h1 a4 = 203) ∧ (vp_in (jI 0) (ln h1 a4)) ∧ (∀ h2 : VH, h2 = sL h1 ((jI 0)).toNatClampNeg a4 (Int32.toInt64 ri1) → (post (some (.int (jI 0))) h2)))) (fun q h9 => XV 7 [] q h9)) : V 0 [(0, vR a0), (1, vI i1), (2, vI i2), (3, vI i3), (4, vR a4)] [] h := by
  obtain ⟨p, e, R, s, m, args, below, meth, c, Q, ⟨hx, hb, hr, hlk, hml, hown, hk, hRr, htb, hnm, hsB, htr, hQ⟩, hV, hX⟩ := C
  rw [hV]
  intro H locs ls hR hL hl
  have hb : c.code = cX0_thought := hb
  have hr : meth.sig.returnType = some .int := hr
  have hml : c.maxLocals = 6 := hml
  have hown : s.vm.findClass RX0 = some m.cls := hown
  have hl : lv_has ls 6 (lm [(0, vR a0), (1, vI i1), (2, vI i2), (3, vI i3), (4, vR a4)]) := hl
  have hsz : ls.size = c.maxLocals := hl.1.trans hml.symm
  subst hQ
  refine w_aload hx hb dX0_thought_0 (lv_v hl (k := 4) rfl rfl) ?_
  refine w_iconst hx hb dX0_thought_2 ?_
  refine w_aload_n hx hb dX0_thought_3 rfl (lv_v hl (k := 0) rfl rfl) ?_
  refine lv_iload_n hx hb dX0_thought_4 rfl (lv_v hl (k := 1) rfl rfl) ?_
  refine lv_iload_n hx hb dX0_thought_5 rfl (lv_v hl (k := 2) rfl rfl) ?_
  refine lv_iload_n hx hb dX0_thought_6 rfl (lv_v hl (k := 3) rfl rfl) ?_
  refine w_call (mi := mX1_thought) (As := [vR a0, vI i1, vI i2, vI i3]) (rest := [.int (jI 0), vr a4]) (len := 3) hk hR hL hsz hsB htr hRr (cok_V (i := 0) (C := RX1) (argsL := [.int i1, .int i2, .int i3]) hx hb hown hk hR f.1 (by decide) rfl q2734 q2735 q2736 q2737 kX1_thought.1 kX1_thought.2 rfl dX0_thought_7) f.2 wX1_thought iX1_thought (by decide) (cat_sum _ (Nat.le_of_ble_eq_true rfl)) rfl (fun v h1 H locs f hR hL => ?_) (fun q h9 H locs hp hR hL => (hX _ _ _ _).mp hp.2.2 H locs _ _ q rfl hp.1 hp.2.1 hR hL (lv_p hl [] rfl))
  obtain ⟨ri1, rfl, f⟩ := f
  show Wn p l e R s m args below meth c H locs _ (F0 m 10 ls [.int ri1, .int (jI 0), vr a4])
  refine lv_i2l (v := Int32.toInt64 ri1) hx hb dX0_thought_10 rfl ?_
  obtain ⟨f1, f2, f⟩ := f
  refine w_last hx hb hk hR hL f1 f2 dX0_thought_11 (fun H locs hR hL => ?_)
  obtain ⟨h2, eh2⟩ : ∃ z : VH, z = sL h1 ((jI 0)).toNatClampNeg a4 (Int32.toInt64 ri1) := ⟨_, rfl⟩
  have hR : Rp G h2 H := by rw [eh2]; exact hR
  have f := f h2 eh2
  refine lv_goto (tgt := 19) hx hb dX0_thought_12 (by decide) ?_
  refine w_iconst hx hb dX0_thought_19 ?_
  exact w_iret hx hb hr hlk hR hL dX0_thought_20 f
theorem b_X0_thought_15 {G : Wd} {l : Launch} {d : Nat} {post : Option Value → VH → Prop} {xp : Nat → VH → Prop} {V : Nat → List (Nat × VT) → List Value → VH → Prop} {XV : Nat → List (Nat × VT) → Nat → VH → Prop} (C : Ctx G l d mX0_thought post xp V XV) {b0 : Nat} {h : VH}
    (f : post (some (.int (jI 1))) h) : V 15 [] [vr b0] h := by
  obtain ⟨p, e, R, s, m, args, below, meth, c, Q, ⟨hx, hb, hr, hlk, hml, hown, hk, hRr, htb, hnm, hsB, htr, hQ⟩, hV, hX⟩ := C
  rw [hV]
  intro H locs ls hR hL hl
  have hb : c.code = cX0_thought := hb
  have hr : meth.sig.returnType = some .int := hr
  have hml : c.maxLocals = 6 := hml
  have hown : s.vm.findClass RX0 = some m.cls := hown
  have hl : lv_has ls 6 (lm []) := hl
  have hsz : ls.size = c.maxLocals := hl.1.trans hml.symm
  subst hQ
  refine w_astore' (L' := [(5, vR b0)]) hx hb dX0_thought_15 hl (by decide) rfl (fun ls hl => ?_)
  have hsz : ls.size = c.maxLocals := hl.1.trans hml.symm
  refine w_iconst hx hb dX0_thought_17 ?_
  exact w_iret hx hb hr hlk hR hL dX0_thought_18 f
theorem b_X0_total_0 {G : Wd} {l : Launch} {d : Nat} {post : Option Value → VH → Prop} {xp : Nat → VH → Prop} {V : Nat → List (Nat × VT) → List Value → VH → Prop} {XV : Nat → List (Nat × VT) → Nat → VH → Prop} (C : Ctx G l d mX0_total post xp V XV) {i1 : Int32} {a0 a2 : Nat} {h : VH}
    (f : (kd h a0 = 1) ∧ D G l d mX1_total [vR a0, vI i1] h (fun v h1 => ∃ ri1, v = some (.int ri1) ∧ ((kd h1 a2 = 203) ∧ (vp_in (jI 0) (ln h1 a2)) ∧ (∀ h2 : VH, h2 = sL h1 ((jI 0)).toNatClampNeg a2 (Int32.toInt64 ri1) → (post (some (.int (jI 0))) h2)))) (fun q h9 => XV 4 [] q h9)) : V 0 [(0, vR a0), (1, vI i1), (2, vR a2)] [] h := by
  obtain ⟨p, e, R, s, m, args, below, meth, c, Q, ⟨hx, hb, hr, hlk, hml, hown, hk, hRr, htb, hnm, hsB, htr, hQ⟩, hV, hX⟩ := C
  rw [hV]
  intro H locs ls hR hL hl
  have hb : c.code = cX0_total := hb
  have hr : meth.sig.returnType = some .int := hr
  have hml : c.maxLocals = 4 := hml
  have hown : s.vm.findClass RX0 = some m.cls := hown
  have hl : lv_has ls 4 (lm [(0, vR a0), (1, vI i1), (2, vR a2)]) := hl
  have hsz : ls.size = c.maxLocals := hl.1.trans hml.symm
  subst hQ
  refine w_aload_n hx hb dX0_total_0 rfl (lv_v hl (k := 2) rfl rfl) ?_
  refine w_iconst hx hb dX0_total_1 ?_
  refine w_aload_n hx hb dX0_total_2 rfl (lv_v hl (k := 0) rfl rfl) ?_
  refine lv_iload_n hx hb dX0_total_3 rfl (lv_v hl (k := 1) rfl rfl) ?_
  refine w_call (mi := mX1_total) (As := [vR a0, vI i1]) (rest := [.int (jI 0), vr a2]) (len := 3) hk hR hL hsz hsB htr hRr (cok_V (i := 0) (C := RX1) (argsL := [.int i1]) hx hb hown hk hR f.1 (by decide) rfl q2870 q2871 q2872 q2873 kX1_total.1 kX1_total.2 rfl dX0_total_4) f.2 wX1_total iX1_total (by decide) (cat_sum _ (Nat.le_of_ble_eq_true rfl)) rfl (fun v h1 H locs f hR hL => ?_) (fun q h9 H locs hp hR hL => (hX _ _ _ _).mp hp.2.2 H locs _ _ q rfl hp.1 hp.2.1 hR hL (lv_p hl [] rfl))
  obtain ⟨ri1, rfl, f⟩ := f
  show Wn p l e R s m args below meth c H locs _ (F0 m 7 ls [.int ri1, .int (jI 0), vr a2])
  refine lv_i2l (v := Int32.toInt64 ri1) hx hb dX0_total_7 rfl ?_
  obtain ⟨f1, f2, f⟩ := f
  refine w_last hx hb hk hR hL f1 f2 dX0_total_8 (fun H locs hR hL => ?_)
  obtain ⟨h2, eh2⟩ : ∃ z : VH, z = sL h1 ((jI 0)).toNatClampNeg a2 (Int32.toInt64 ri1) := ⟨_, rfl⟩
  have hR : Rp G h2 H := by rw [eh2]; exact hR
  have f := f h2 eh2
  refine lv_goto (tgt := 15) hx hb dX0_total_9 (by decide) ?_
  refine w_iconst hx hb dX0_total_15 ?_
  exact w_iret hx hb hr hlk hR hL dX0_total_16 f
theorem b_X0_total_12 {G : Wd} {l : Launch} {d : Nat} {post : Option Value → VH → Prop} {xp : Nat → VH → Prop} {V : Nat → List (Nat × VT) → List Value → VH → Prop} {XV : Nat → List (Nat × VT) → Nat → VH → Prop} (C : Ctx G l d mX0_total post xp V XV) {b0 : Nat} {h : VH}
    (f : post (some (.int (jI 1))) h) : V 12 [] [vr b0] h := by
  obtain ⟨p, e, R, s, m, args, below, meth, c, Q, ⟨hx, hb, hr, hlk, hml, hown, hk, hRr, htb, hnm, hsB, htr, hQ⟩, hV, hX⟩ := C
  rw [hV]
  intro H locs ls hR hL hl
  have hb : c.code = cX0_total := hb
  have hr : meth.sig.returnType = some .int := hr
  have hml : c.maxLocals = 4 := hml
  have hown : s.vm.findClass RX0 = some m.cls := hown
  have hl : lv_has ls 4 (lm []) := hl
  have hsz : ls.size = c.maxLocals := hl.1.trans hml.symm
  subst hQ
  refine w_astore_n' (L' := [(3, vR b0)]) hx hb dX0_total_12 rfl hl (by decide) rfl (fun ls hl => ?_)
  have hsz : ls.size = c.maxLocals := hl.1.trans hml.symm
  refine w_iconst hx hb dX0_total_13 ?_
  exact w_iret hx hb hr hlk hR hL dX0_total_14 f
theorem b_X0_touches_0 {G : Wd} {l : Launch} {d : Nat} {post : Option Value → VH → Prop} {xp : Nat → VH → Prop} {V : Nat → List (Nat × VT) → List Value → VH → Prop} {XV : Nat → List (Nat × VT) → Nat → VH → Prop} (C : Ctx G l d mX0_touches post xp V XV) {i1 i2 i3 : Int32} {a0 a4 : Nat} {h : VH}
    (f : (kd h a0 = 1) ∧ D G l d mX1_touches [vR a0, vI i1, vI i2, vI i3] h (fun v h1 => ∃ ri1, v = some (.int ri1) ∧ ((kd h1 a4 = 203) ∧ (vp_in (jI 0) (ln h1 a4)) ∧ (∀ h2 : VH, h2 = sL h1 ((jI 0)).toNatClampNeg a4 (Int32.toInt64 ri1) → (post (some (.int (jI 0))) h2)))) (fun q h9 => XV 7 [] q h9)) : V 0 [(0, vR a0), (1, vI i1), (2, vI i2), (3, vI i3), (4, vR a4)] [] h := by
  obtain ⟨p, e, R, s, m, args, below, meth, c, Q, ⟨hx, hb, hr, hlk, hml, hown, hk, hRr, htb, hnm, hsB, htr, hQ⟩, hV, hX⟩ := C
  rw [hV]
  intro H locs ls hR hL hl
  have hb : c.code = cX0_touches := hb
  have hr : meth.sig.returnType = some .int := hr
  have hml : c.maxLocals = 6 := hml
  have hown : s.vm.findClass RX0 = some m.cls := hown
  have hl : lv_has ls 6 (lm [(0, vR a0), (1, vI i1), (2, vI i2), (3, vI i3), (4, vR a4)]) := hl
  have hsz : ls.size = c.maxLocals := hl.1.trans hml.symm
  subst hQ
  refine w_aload hx hb dX0_touches_0 (lv_v hl (k := 4) rfl rfl) ?_
  refine w_iconst hx hb dX0_touches_2 ?_
  refine w_aload_n hx hb dX0_touches_3 rfl (lv_v hl (k := 0) rfl rfl) ?_
  refine lv_iload_n hx hb dX0_touches_4 rfl (lv_v hl (k := 1) rfl rfl) ?_
  refine lv_iload_n hx hb dX0_touches_5 rfl (lv_v hl (k := 2) rfl rfl) ?_
  refine lv_iload_n hx hb dX0_touches_6 rfl (lv_v hl (k := 3) rfl rfl) ?_
  refine w_call (mi := mX1_touches) (As := [vR a0, vI i1, vI i2, vI i3]) (rest := [.int (jI 0), vr a4]) (len := 3) hk hR hL hsz hsB htr hRr (cok_V (i := 0) (C := RX1) (argsL := [.int i1, .int i2, .int i3]) hx hb hown hk hR f.1 (by decide) rfl q2762 q2763 q2764 q2765 kX1_touches.1 kX1_touches.2 rfl dX0_touches_7) f.2 wX1_touches iX1_touches (by decide) (cat_sum _ (Nat.le_of_ble_eq_true rfl)) rfl (fun v h1 H locs f hR hL => ?_) (fun q h9 H locs hp hR hL => (hX _ _ _ _).mp hp.2.2 H locs _ _ q rfl hp.1 hp.2.1 hR hL (lv_p hl [] rfl))
  obtain ⟨ri1, rfl, f⟩ := f
  show Wn p l e R s m args below meth c H locs _ (F0 m 10 ls [.int ri1, .int (jI 0), vr a4])
  refine lv_i2l (v := Int32.toInt64 ri1) hx hb dX0_touches_10 rfl ?_
  obtain ⟨f1, f2, f⟩ := f
  refine w_last hx hb hk hR hL f1 f2 dX0_touches_11 (fun H locs hR hL => ?_)
  obtain ⟨h2, eh2⟩ : ∃ z : VH, z = sL h1 ((jI 0)).toNatClampNeg a4 (Int32.toInt64 ri1) := ⟨_, rfl⟩
  have hR : Rp G h2 H := by rw [eh2]; exact hR
  have f := f h2 eh2
  refine lv_goto (tgt := 23) hx hb dX0_touches_12 (by decide) ?_
  refine w_iconst hx hb dX0_touches_23 ?_
  exact w_iret hx hb hr hlk hR hL dX0_touches_24 f
theorem b_X0_touches_15 {G : Wd} {l : Launch} {d : Nat} {post : Option Value → VH → Prop} {xp : Nat → VH → Prop} {V : Nat → List (Nat × VT) → List Value → VH → Prop} {XV : Nat → List (Nat × VT) → Nat → VH → Prop} (C : Ctx G l d mX0_touches post xp V XV) {b0 : Nat} {h : VH}
    (f : post (some (.int (jI 1))) h) : V 15 [] [vr b0] h := by
  obtain ⟨p, e, R, s, m, args, below, meth, c, Q, ⟨hx, hb, hr, hlk, hml, hown, hk, hRr, htb, hnm, hsB, htr, hQ⟩, hV, hX⟩ := C
  rw [hV]
  intro H locs ls hR hL hl
  have hb : c.code = cX0_touches := hb
  have hr : meth.sig.returnType = some .int := hr
  have hml : c.maxLocals = 6 := hml
  have hown : s.vm.findClass RX0 = some m.cls := hown
  have hl : lv_has ls 6 (lm []) := hl
  have hsz : ls.size = c.maxLocals := hl.1.trans hml.symm
  subst hQ
  refine w_astore' (L' := [(5, vR b0)]) hx hb dX0_touches_15 hl (by decide) rfl (fun ls hl => ?_)
  have hsz : ls.size = c.maxLocals := hl.1.trans hml.symm
  refine w_iconst hx hb dX0_touches_17 ?_
  exact w_iret hx hb hr hlk hR hL dX0_touches_18 f
theorem b_X0_touches_19 {G : Wd} {l : Launch} {d : Nat} {post : Option Value → VH → Prop} {xp : Nat → VH → Prop} {V : Nat → List (Nat × VT) → List Value → VH → Prop} {XV : Nat → List (Nat × VT) → Nat → VH → Prop} (C : Ctx G l d mX0_touches post xp V XV) {b0 : Nat} {h : VH}
    (f : post (some (.int (jI 2))) h) : V 19 [] [vr b0] h := by
  obtain ⟨p, e, R, s, m, args, below, meth, c, Q, ⟨hx, hb, hr, hlk, hml, hown, hk, hRr, htb, hnm, hsB, htr, hQ⟩, hV, hX⟩ := C
  rw [hV]
  intro H locs ls hR hL hl
  have hb : c.code = cX0_touches := hb
  have hr : meth.sig.returnType = some .int := hr
  have hml : c.maxLocals = 6 := hml
  have hown : s.vm.findClass RX0 = some m.cls := hown
  have hl : lv_has ls 6 (lm []) := hl
  have hsz : ls.size = c.maxLocals := hl.1.trans hml.symm
  subst hQ
  refine w_astore' (L' := [(5, vR b0)]) hx hb dX0_touches_19 hl (by decide) rfl (fun ls hl => ?_)
  have hsz : ls.size = c.maxLocals := hl.1.trans hml.symm
  refine w_iconst hx hb dX0_touches_21 ?_
  exact w_iret hx hb hr hlk hR hL dX0_touches_22 f
theorem b_X0_valueBehind_0 {G : Wd} {l : Launch} {d : Nat} {post : Option Value → VH → Prop} {xp : Nat → VH → Prop} {V : Nat → List (Nat × VT) → List Value → VH → Prop} {XV : Nat → List (Nat × VT) → Nat → VH → Prop} (C : Ctx G l d mX0_valueBehind post xp V XV) {i1 i2 : Int32} {a0 a3 : Nat} {h : VH}
    (f : (kd h a0 = 1) ∧ D G l d mX1_valueBehind [vR a0, vI i1, vI i2] h (fun v h1 => ∃ ri1, v = some (.int ri1) ∧ ((kd h1 a3 = 203) ∧ (vp_in (jI 0) (ln h1 a3)) ∧ (∀ h2 : VH, h2 = sL h1 ((jI 0)).toNatClampNeg a3 (Int32.toInt64 ri1) → (post (some (.int (jI 0))) h2)))) (fun q h9 => XV 5 [] q h9)) : V 0 [(0, vR a0), (1, vI i1), (2, vI i2), (3, vR a3)] [] h := by
  obtain ⟨p, e, R, s, m, args, below, meth, c, Q, ⟨hx, hb, hr, hlk, hml, hown, hk, hRr, htb, hnm, hsB, htr, hQ⟩, hV, hX⟩ := C
  rw [hV]
  intro H locs ls hR hL hl
  have hb : c.code = cX0_valueBehind := hb
  have hr : meth.sig.returnType = some .int := hr
  have hml : c.maxLocals = 5 := hml
  have hown : s.vm.findClass RX0 = some m.cls := hown
  have hl : lv_has ls 5 (lm [(0, vR a0), (1, vI i1), (2, vI i2), (3, vR a3)]) := hl
  have hsz : ls.size = c.maxLocals := hl.1.trans hml.symm
  subst hQ
  refine w_aload_n hx hb dX0_valueBehind_0 rfl (lv_v hl (k := 3) rfl rfl) ?_
  refine w_iconst hx hb dX0_valueBehind_1 ?_
  refine w_aload_n hx hb dX0_valueBehind_2 rfl (lv_v hl (k := 0) rfl rfl) ?_
  refine lv_iload_n hx hb dX0_valueBehind_3 rfl (lv_v hl (k := 1) rfl rfl) ?_
  refine lv_iload_n hx hb dX0_valueBehind_4 rfl (lv_v hl (k := 2) rfl rfl) ?_
  refine w_call (mi := mX1_valueBehind) (As := [vR a0, vI i1, vI i2]) (rest := [.int (jI 0), vr a3]) (len := 3) hk hR hL hsz hsB htr hRr (cok_V (i := 0) (C := RX1) (argsL := [.int i1, .int i2]) hx hb hown hk hR f.1 (by decide) rfl q2844 q2845 q2846 q2847 kX1_valueBehind.1 kX1_valueBehind.2 rfl dX0_valueBehind_5) f.2 wX1_valueBehind iX1_valueBehind (by decide) (cat_sum _ (Nat.le_of_ble_eq_true rfl)) rfl (fun v h1 H locs f hR hL => ?_) (fun q h9 H locs hp hR hL => (hX _ _ _ _).mp hp.2.2 H locs _ _ q rfl hp.1 hp.2.1 hR hL (lv_p hl [] rfl))
  obtain ⟨ri1, rfl, f⟩ := f
  show Wn p l e R s m args below meth c H locs _ (F0 m 8 ls [.int ri1, .int (jI 0), vr a3])
  refine lv_i2l (v := Int32.toInt64 ri1) hx hb dX0_valueBehind_8 rfl ?_
  obtain ⟨f1, f2, f⟩ := f
  refine w_last hx hb hk hR hL f1 f2 dX0_valueBehind_9 (fun H locs hR hL => ?_)
  obtain ⟨h2, eh2⟩ : ∃ z : VH, z = sL h1 ((jI 0)).toNatClampNeg a3 (Int32.toInt64 ri1) := ⟨_, rfl⟩
  have hR : Rp G h2 H := by rw [eh2]; exact hR
  have f := f h2 eh2
  refine lv_goto (tgt := 17) hx hb dX0_valueBehind_10 (by decide) ?_
  refine w_iconst hx hb dX0_valueBehind_17 ?_
  exact w_iret hx hb hr hlk hR hL dX0_valueBehind_18 f
theorem b_X0_valueBehind_13 {G : Wd} {l : Launch} {d : Nat} {post : Option Value → VH → Prop} {xp : Nat → VH → Prop} {V : Nat → List (Nat × VT) → List Value → VH → Prop} {XV : Nat → List (Nat × VT) → Nat → VH → Prop} (C : Ctx G l d mX0_valueBehind post xp V XV) {b0 : Nat} {h : VH}
    (f : post (some (.int (jI 1))) h) : V 13 [] [vr b0] h := by
  obtain ⟨p, e, R, s, m, args, below, meth, c, Q, ⟨hx, hb, hr, hlk, hml, hown, hk, hRr, htb, hnm, hsB, htr, hQ⟩, hV, hX⟩ := C
  rw [hV]
  intro H locs ls hR hL hl
  have hb : c.code = cX0_valueBehind := hb
  have hr : meth.sig.returnType = some .int := hr
  have hml : c.maxLocals = 5 := hml
  have hown : s.vm.findClass RX0 = some m.cls := hown
  have hl : lv_has ls 5 (lm []) := hl
  have hsz : ls.size = c.maxLocals := hl.1.trans hml.symm
  subst hQ
  refine w_astore' (L' := [(4, vR b0)]) hx hb dX0_valueBehind_13 hl (by decide) rfl (fun ls hl => ?_)
  have hsz : ls.size = c.maxLocals := hl.1.trans hml.symm
  refine w_iconst hx hb dX0_valueBehind_15 ?_
  exact w_iret hx hb hr hlk hR hL dX0_valueBehind_16 f
theorem b_X0_wordsLeft_0 {G : Wd} {l : Launch} {d : Nat} {post : Option Value → VH → Prop} {xp : Nat → VH → Prop} {V : Nat → List (Nat × VT) → List Value → VH → Prop} {XV : Nat → List (Nat × VT) → Nat → VH → Prop} (C : Ctx G l d mX0_wordsLeft post xp V XV) {i1 i2 : Int32} {a0 a3 : Nat} {h : VH}
    (f : (kd h a0 = 1) ∧ D G l d mX1_wordsLeft [vR a0, vI i1, vI i2] h (fun v h1 => ∃ ri1, v = some (.int ri1) ∧ ((kd h1 a3 = 203) ∧ (vp_in (jI 0) (ln h1 a3)) ∧ (∀ h2 : VH, h2 = sL h1 ((jI 0)).toNatClampNeg a3 (Int32.toInt64 ri1) → (post (some (.int (jI 0))) h2)))) (fun q h9 => XV 5 [] q h9)) : V 0 [(0, vR a0), (1, vI i1), (2, vI i2), (3, vR a3)] [] h := by
  obtain ⟨p, e, R, s, m, args, below, meth, c, Q, ⟨hx, hb, hr, hlk, hml, hown, hk, hRr, htb, hnm, hsB, htr, hQ⟩, hV, hX⟩ := C
  rw [hV]
  intro H locs ls hR hL hl
  have hb : c.code = cX0_wordsLeft := hb
  have hr : meth.sig.returnType = some .int := hr
  have hml : c.maxLocals = 5 := hml
  have hown : s.vm.findClass RX0 = some m.cls := hown
  have hl : lv_has ls 5 (lm [(0, vR a0), (1, vI i1), (2, vI i2), (3, vR a3)]) := hl
  have hsz : ls.size = c.maxLocals := hl.1.trans hml.symm
  subst hQ
  refine w_aload_n hx hb dX0_wordsLeft_0 rfl (lv_v hl (k := 3) rfl rfl) ?_
  refine w_iconst hx hb dX0_wordsLeft_1 ?_
  refine w_aload_n hx hb dX0_wordsLeft_2 rfl (lv_v hl (k := 0) rfl rfl) ?_
  refine lv_iload_n hx hb dX0_wordsLeft_3 rfl (lv_v hl (k := 1) rfl rfl) ?_
  refine lv_iload_n hx hb dX0_wordsLeft_4 rfl (lv_v hl (k := 2) rfl rfl) ?_
  refine w_call (mi := mX1_wordsLeft) (As := [vR a0, vI i1, vI i2]) (rest := [.int (jI 0), vr a3]) (len := 3) hk hR hL hsz hsB htr hRr (cok_V (i := 0) (C := RX1) (argsL := [.int i1, .int i2]) hx hb hown hk hR f.1 (by decide) rfl q2748 q2749 q2750 q2751 kX1_wordsLeft.1 kX1_wordsLeft.2 rfl dX0_wordsLeft_5) f.2 wX1_wordsLeft iX1_wordsLeft (by decide) (cat_sum _ (Nat.le_of_ble_eq_true rfl)) rfl (fun v h1 H locs f hR hL => ?_) (fun q h9 H locs hp hR hL => (hX _ _ _ _).mp hp.2.2 H locs _ _ q rfl hp.1 hp.2.1 hR hL (lv_p hl [] rfl))
  obtain ⟨ri1, rfl, f⟩ := f
  show Wn p l e R s m args below meth c H locs _ (F0 m 8 ls [.int ri1, .int (jI 0), vr a3])
  refine lv_i2l (v := Int32.toInt64 ri1) hx hb dX0_wordsLeft_8 rfl ?_
  obtain ⟨f1, f2, f⟩ := f
  refine w_last hx hb hk hR hL f1 f2 dX0_wordsLeft_9 (fun H locs hR hL => ?_)
  obtain ⟨h2, eh2⟩ : ∃ z : VH, z = sL h1 ((jI 0)).toNatClampNeg a3 (Int32.toInt64 ri1) := ⟨_, rfl⟩
  have hR : Rp G h2 H := by rw [eh2]; exact hR
  have f := f h2 eh2
  refine lv_goto (tgt := 17) hx hb dX0_wordsLeft_10 (by decide) ?_
  refine w_iconst hx hb dX0_wordsLeft_17 ?_
  exact w_iret hx hb hr hlk hR hL dX0_wordsLeft_18 f
theorem b_X0_wordsLeft_13 {G : Wd} {l : Launch} {d : Nat} {post : Option Value → VH → Prop} {xp : Nat → VH → Prop} {V : Nat → List (Nat × VT) → List Value → VH → Prop} {XV : Nat → List (Nat × VT) → Nat → VH → Prop} (C : Ctx G l d mX0_wordsLeft post xp V XV) {b0 : Nat} {h : VH}
    (f : post (some (.int (jI 1))) h) : V 13 [] [vr b0] h := by
  obtain ⟨p, e, R, s, m, args, below, meth, c, Q, ⟨hx, hb, hr, hlk, hml, hown, hk, hRr, htb, hnm, hsB, htr, hQ⟩, hV, hX⟩ := C
  rw [hV]
  intro H locs ls hR hL hl
  have hb : c.code = cX0_wordsLeft := hb
  have hr : meth.sig.returnType = some .int := hr
  have hml : c.maxLocals = 5 := hml
  have hown : s.vm.findClass RX0 = some m.cls := hown
  have hl : lv_has ls 5 (lm []) := hl
  have hsz : ls.size = c.maxLocals := hl.1.trans hml.symm
  subst hQ
  refine w_astore' (L' := [(4, vR b0)]) hx hb dX0_wordsLeft_13 hl (by decide) rfl (fun ls hl => ?_)
  have hsz : ls.size = c.maxLocals := hl.1.trans hml.symm
  refine w_iconst hx hb dX0_wordsLeft_15 ?_
  exact w_iret hx hb hr hlk hR hL dX0_wordsLeft_16 f
theorem b_X0_writeHand_0 {G : Wd} {l : Launch} {d : Nat} {post : Option Value → VH → Prop} {xp : Nat → VH → Prop} {V : Nat → List (Nat × VT) → List Value → VH → Prop} {XV : Nat → List (Nat × VT) → Nat → VH → Prop} (C : Ctx G l d mX0_writeHand post xp V XV) {i1 i2 : Int32} {a0 a3 : Nat} {h : VH}
    (f : (kd h a0 = 1) ∧ D G l d mX1_writeHand [vR a0, vI i1, vI i2] h (fun v h1 => ∃ ri1, v = some (.int ri1) ∧ ((kd h1 a3 = 203) ∧ (vp_in (jI 0) (ln h1 a3)) ∧ (∀ h2 : VH, h2 = sL h1 ((jI 0)).toNatClampNeg a3 (Int32.toInt64 ri1) → (post (some (.int (jI 0))) h2)))) (fun q h9 => XV 5 [] q h9)) : V 0 [(0, vR a0), (1, vI i1), (2, vI i2), (3, vR a3)] [] h := by
  obtain ⟨p, e, R, s, m, args, below, meth, c, Q, ⟨hx, hb, hr, hlk, hml, hown, hk, hRr, htb, hnm, hsB, htr, hQ⟩, hV, hX⟩ := C
  rw [hV]
  intro H locs ls hR hL hl
  have hb : c.code = cX0_writeHand := hb
  have hr : meth.sig.returnType = some .int := hr
  have hml : c.maxLocals = 5 := hml
  have hown : s.vm.findClass RX0 = some m.cls := hown
  have hl : lv_has ls 5 (lm [(0, vR a0), (1, vI i1), (2, vI i2), (3, vR a3)]) := hl
  have hsz : ls.size = c.maxLocals := hl.1.trans hml.symm
  subst hQ
  refine w_aload_n hx hb dX0_writeHand_0 rfl (lv_v hl (k := 3) rfl rfl) ?_
  refine w_iconst hx hb dX0_writeHand_1 ?_
  refine w_aload_n hx hb dX0_writeHand_2 rfl (lv_v hl (k := 0) rfl rfl) ?_
  refine lv_iload_n hx hb dX0_writeHand_3 rfl (lv_v hl (k := 1) rfl rfl) ?_
  refine lv_iload_n hx hb dX0_writeHand_4 rfl (lv_v hl (k := 2) rfl rfl) ?_
  refine w_call (mi := mX1_writeHand) (As := [vR a0, vI i1, vI i2]) (rest := [.int (jI 0), vr a3]) (len := 3) hk hR hL hsz hsB htr hRr (cok_V (i := 0) (C := RX1) (argsL := [.int i1, .int i2]) hx hb hown hk hR f.1 (by decide) rfl q2886 q2887 q2888 q2889 kX1_writeHand.1 kX1_writeHand.2 rfl dX0_writeHand_5) f.2 wX1_writeHand iX1_writeHand (by decide) (cat_sum _ (Nat.le_of_ble_eq_true rfl)) rfl (fun v h1 H locs f hR hL => ?_) (fun q h9 H locs hp hR hL => (hX _ _ _ _).mp hp.2.2 H locs _ _ q rfl hp.1 hp.2.1 hR hL (lv_p hl [] rfl))
  obtain ⟨ri1, rfl, f⟩ := f
  show Wn p l e R s m args below meth c H locs _ (F0 m 8 ls [.int ri1, .int (jI 0), vr a3])
  refine lv_i2l (v := Int32.toInt64 ri1) hx hb dX0_writeHand_8 rfl ?_
  obtain ⟨f1, f2, f⟩ := f
  refine w_last hx hb hk hR hL f1 f2 dX0_writeHand_9 (fun H locs hR hL => ?_)
  obtain ⟨h2, eh2⟩ : ∃ z : VH, z = sL h1 ((jI 0)).toNatClampNeg a3 (Int32.toInt64 ri1) := ⟨_, rfl⟩
  have hR : Rp G h2 H := by rw [eh2]; exact hR
  have f := f h2 eh2
  refine lv_goto (tgt := 17) hx hb dX0_writeHand_10 (by decide) ?_
  refine w_iconst hx hb dX0_writeHand_17 ?_
  exact w_iret hx hb hr hlk hR hL dX0_writeHand_18 f
theorem b_X0_writeHand_13 {G : Wd} {l : Launch} {d : Nat} {post : Option Value → VH → Prop} {xp : Nat → VH → Prop} {V : Nat → List (Nat × VT) → List Value → VH → Prop} {XV : Nat → List (Nat × VT) → Nat → VH → Prop} (C : Ctx G l d mX0_writeHand post xp V XV) {b0 : Nat} {h : VH}
    (f : post (some (.int (jI 1))) h) : V 13 [] [vr b0] h := by
  obtain ⟨p, e, R, s, m, args, below, meth, c, Q, ⟨hx, hb, hr, hlk, hml, hown, hk, hRr, htb, hnm, hsB, htr, hQ⟩, hV, hX⟩ := C
  rw [hV]
  intro H locs ls hR hL hl
  have hb : c.code = cX0_writeHand := hb
  have hr : meth.sig.returnType = some .int := hr
  have hml : c.maxLocals = 5 := hml
  have hown : s.vm.findClass RX0 = some m.cls := hown
  have hl : lv_has ls 5 (lm []) := hl
  have hsz : ls.size = c.maxLocals := hl.1.trans hml.symm
  subst hQ
  refine w_astore' (L' := [(4, vR b0)]) hx hb dX0_writeHand_13 hl (by decide) rfl (fun ls hl => ?_)
  have hsz : ls.size = c.maxLocals := hl.1.trans hml.symm
  refine w_iconst hx hb dX0_writeHand_15 ?_
  exact w_iret hx hb hr hlk hR hL dX0_writeHand_16 f
