/-! PetitionDeskLaw -/
set_option maxRecDepth 100000
def RX0 : String := "PetitionDeskLaw"
abbrev cX0_text : ByteArray := method_3_code
def yX0_text : MethodName := ⟨RX0, "text", "(LPetitionDesk;I[J)I"⟩
def dkwX0_text_0 : List UInt8 := [44, 3, 42, 27, 182, 0, 7, 133, 80, 167, 0, 6, 78, 4, 172, 3, 172]
abbrev dktX0_text_0 : List UInt8 := dkwX0_text_0 ++ []
theorem dksX0_text_0 : cX0_text.data.toList.drop 0 = dktX0_text_0 := by decide +kernel
theorem dX0_text_0 : decode cX0_text 0 = .ok (.aload_n 2, 1) := dk_44 (dk_at dksX0_text_0 0 rfl rfl)
theorem dX0_text_1 : decode cX0_text 1 = .ok (.iconst 0, 1) := dk_3 (dk_at dksX0_text_0 1 rfl rfl)
theorem dX0_text_2 : decode cX0_text 2 = .ok (.aload_n 0, 1) := dk_42 (dk_at dksX0_text_0 2 rfl rfl)
theorem dX0_text_3 : decode cX0_text 3 = .ok (.iload_n 1, 1) := dk_27 (dk_at dksX0_text_0 3 rfl rfl)
theorem dX0_text_4 : decode cX0_text 4 = .ok (.invokevirtual 7, 3) := dk_182 0 7 (dk_at dksX0_text_0 4 rfl rfl)
theorem dX0_text_7 : decode cX0_text 7 = .ok (.i2l, 1) := dk_133 (dk_at dksX0_text_0 7 rfl rfl)
theorem dX0_text_8 : decode cX0_text 8 = .ok (.lastore, 1) := dk_80 (dk_at dksX0_text_0 8 rfl rfl)
theorem dX0_text_9 : decode cX0_text 9 = .ok (.goto 6, 3) := dk_167 0 6 (dk_at dksX0_text_0 9 rfl rfl)
theorem dX0_text_12 : decode cX0_text 12 = .ok (.astore_n 3, 1) := dk_78 (dk_at dksX0_text_0 12 rfl rfl)
theorem dX0_text_13 : decode cX0_text 13 = .ok (.iconst 1, 1) := dk_4 (dk_at dksX0_text_0 13 rfl rfl)
theorem dX0_text_14 : decode cX0_text 14 = .ok (.ireturn, 1) := dk_172 (dk_at dksX0_text_0 14 rfl rfl)
theorem dX0_text_15 : decode cX0_text 15 = .ok (.iconst 0, 1) := dk_3 (dk_at dksX0_text_0 15 rfl rfl)
theorem dX0_text_16 : decode cX0_text 16 = .ok (.ireturn, 1) := dk_172 (dk_at dksX0_text_0 16 rfl rfl)
abbrev cX0_sample : ByteArray := method_4_code
def yX0_sample : MethodName := ⟨RX0, "sample", "(LPetitionDesk;III[J)I"⟩
def dkwX0_sample_0 : List UInt8 := [25, 4, 3, 42, 27, 28, 29, 182, 0, 15, 133, 80, 167, 0, 7, 58, 5, 4, 172, 3, 172]
abbrev dktX0_sample_0 : List UInt8 := dkwX0_sample_0 ++ []
theorem dksX0_sample_0 : cX0_sample.data.toList.drop 0 = dktX0_sample_0 := by decide +kernel
theorem dX0_sample_0 : decode cX0_sample 0 = .ok (.aload 4, 2) := dk_25 4 (dk_at dksX0_sample_0 0 rfl rfl)
theorem dX0_sample_2 : decode cX0_sample 2 = .ok (.iconst 0, 1) := dk_3 (dk_at dksX0_sample_0 2 rfl rfl)
theorem dX0_sample_3 : decode cX0_sample 3 = .ok (.aload_n 0, 1) := dk_42 (dk_at dksX0_sample_0 3 rfl rfl)
theorem dX0_sample_4 : decode cX0_sample 4 = .ok (.iload_n 1, 1) := dk_27 (dk_at dksX0_sample_0 4 rfl rfl)
theorem dX0_sample_5 : decode cX0_sample 5 = .ok (.iload_n 2, 1) := dk_28 (dk_at dksX0_sample_0 5 rfl rfl)
theorem dX0_sample_6 : decode cX0_sample 6 = .ok (.iload_n 3, 1) := dk_29 (dk_at dksX0_sample_0 6 rfl rfl)
theorem dX0_sample_7 : decode cX0_sample 7 = .ok (.invokevirtual 15, 3) := dk_182 0 15 (dk_at dksX0_sample_0 7 rfl rfl)
theorem dX0_sample_10 : decode cX0_sample 10 = .ok (.i2l, 1) := dk_133 (dk_at dksX0_sample_0 10 rfl rfl)
theorem dX0_sample_11 : decode cX0_sample 11 = .ok (.lastore, 1) := dk_80 (dk_at dksX0_sample_0 11 rfl rfl)
theorem dX0_sample_12 : decode cX0_sample 12 = .ok (.goto 7, 3) := dk_167 0 7 (dk_at dksX0_sample_0 12 rfl rfl)
theorem dX0_sample_15 : decode cX0_sample 15 = .ok (.astore 5, 2) := dk_58 5 (dk_at dksX0_sample_0 15 rfl rfl)
theorem dX0_sample_17 : decode cX0_sample 17 = .ok (.iconst 1, 1) := dk_4 (dk_at dksX0_sample_0 17 rfl rfl)
theorem dX0_sample_18 : decode cX0_sample 18 = .ok (.ireturn, 1) := dk_172 (dk_at dksX0_sample_0 18 rfl rfl)
theorem dX0_sample_19 : decode cX0_sample 19 = .ok (.iconst 0, 1) := dk_3 (dk_at dksX0_sample_0 19 rfl rfl)
theorem dX0_sample_20 : decode cX0_sample 20 = .ok (.ireturn, 1) := dk_172 (dk_at dksX0_sample_0 20 rfl rfl)
abbrev cX0_strike : ByteArray := method_5_code
def yX0_strike : MethodName := ⟨RX0, "strike", "(LPetitionDesk;IZ[J)I"⟩
def dkwX0_strike_0 : List UInt8 := [45, 3, 42, 27, 28, 182, 0, 19, 133, 80, 167, 0, 7, 58, 4, 4, 172, 3, 172]
abbrev dktX0_strike_0 : List UInt8 := dkwX0_strike_0 ++ []
theorem dksX0_strike_0 : cX0_strike.data.toList.drop 0 = dktX0_strike_0 := by decide +kernel
theorem dX0_strike_0 : decode cX0_strike 0 = .ok (.aload_n 3, 1) := dk_45 (dk_at dksX0_strike_0 0 rfl rfl)
theorem dX0_strike_1 : decode cX0_strike 1 = .ok (.iconst 0, 1) := dk_3 (dk_at dksX0_strike_0 1 rfl rfl)
theorem dX0_strike_2 : decode cX0_strike 2 = .ok (.aload_n 0, 1) := dk_42 (dk_at dksX0_strike_0 2 rfl rfl)
theorem dX0_strike_3 : decode cX0_strike 3 = .ok (.iload_n 1, 1) := dk_27 (dk_at dksX0_strike_0 3 rfl rfl)
theorem dX0_strike_4 : decode cX0_strike 4 = .ok (.iload_n 2, 1) := dk_28 (dk_at dksX0_strike_0 4 rfl rfl)
theorem dX0_strike_5 : decode cX0_strike 5 = .ok (.invokevirtual 19, 3) := dk_182 0 19 (dk_at dksX0_strike_0 5 rfl rfl)
theorem dX0_strike_8 : decode cX0_strike 8 = .ok (.i2l, 1) := dk_133 (dk_at dksX0_strike_0 8 rfl rfl)
theorem dX0_strike_9 : decode cX0_strike 9 = .ok (.lastore, 1) := dk_80 (dk_at dksX0_strike_0 9 rfl rfl)
theorem dX0_strike_10 : decode cX0_strike 10 = .ok (.goto 7, 3) := dk_167 0 7 (dk_at dksX0_strike_0 10 rfl rfl)
theorem dX0_strike_13 : decode cX0_strike 13 = .ok (.astore 4, 2) := dk_58 4 (dk_at dksX0_strike_0 13 rfl rfl)
theorem dX0_strike_15 : decode cX0_strike 15 = .ok (.iconst 1, 1) := dk_4 (dk_at dksX0_strike_0 15 rfl rfl)
theorem dX0_strike_16 : decode cX0_strike 16 = .ok (.ireturn, 1) := dk_172 (dk_at dksX0_strike_0 16 rfl rfl)
theorem dX0_strike_17 : decode cX0_strike 17 = .ok (.iconst 0, 1) := dk_3 (dk_at dksX0_strike_0 17 rfl rfl)
theorem dX0_strike_18 : decode cX0_strike 18 = .ok (.ireturn, 1) := dk_172 (dk_at dksX0_strike_0 18 rfl rfl)
abbrev cX0_sign : ByteArray := method_6_code
def yX0_sign : MethodName := ⟨RX0, "sign", "(LPetitionDesk;III[J)I"⟩
def dkwX0_sign_1 : List UInt8 := [58, 5, 6, 172, 3, 172]
abbrev dktX0_sign_1 : List UInt8 := dkwX0_sign_1 ++ []
def dkwX0_sign_0 : List UInt8 := [25, 4, 3, 42, 27, 28, 29, 182, 0, 25, 133, 80, 167, 0, 15, 58, 5, 4, 172, 58, 5, 5, 172]
abbrev dktX0_sign_0 : List UInt8 := dkwX0_sign_0 ++ dktX0_sign_1
theorem dksX0_sign_0 : cX0_sign.data.toList.drop 0 = dktX0_sign_0 := by decide +kernel
theorem dksX0_sign_1 : cX0_sign.data.toList.drop 23 = dktX0_sign_1 := dk_seg dksX0_sign_0 23 rfl rfl
theorem dX0_sign_0 : decode cX0_sign 0 = .ok (.aload 4, 2) := dk_25 4 (dk_at dksX0_sign_0 0 rfl rfl)
theorem dX0_sign_2 : decode cX0_sign 2 = .ok (.iconst 0, 1) := dk_3 (dk_at dksX0_sign_0 2 rfl rfl)
theorem dX0_sign_3 : decode cX0_sign 3 = .ok (.aload_n 0, 1) := dk_42 (dk_at dksX0_sign_0 3 rfl rfl)
theorem dX0_sign_4 : decode cX0_sign 4 = .ok (.iload_n 1, 1) := dk_27 (dk_at dksX0_sign_0 4 rfl rfl)
theorem dX0_sign_5 : decode cX0_sign 5 = .ok (.iload_n 2, 1) := dk_28 (dk_at dksX0_sign_0 5 rfl rfl)
theorem dX0_sign_6 : decode cX0_sign 6 = .ok (.iload_n 3, 1) := dk_29 (dk_at dksX0_sign_0 6 rfl rfl)
theorem dX0_sign_7 : decode cX0_sign 7 = .ok (.invokevirtual 25, 3) := dk_182 0 25 (dk_at dksX0_sign_0 7 rfl rfl)
theorem dX0_sign_10 : decode cX0_sign 10 = .ok (.i2l, 1) := dk_133 (dk_at dksX0_sign_0 10 rfl rfl)
theorem dX0_sign_11 : decode cX0_sign 11 = .ok (.lastore, 1) := dk_80 (dk_at dksX0_sign_0 11 rfl rfl)
theorem dX0_sign_12 : decode cX0_sign 12 = .ok (.goto 15, 3) := dk_167 0 15 (dk_at dksX0_sign_0 12 rfl rfl)
theorem dX0_sign_15 : decode cX0_sign 15 = .ok (.astore 5, 2) := dk_58 5 (dk_at dksX0_sign_0 15 rfl rfl)
theorem dX0_sign_17 : decode cX0_sign 17 = .ok (.iconst 1, 1) := dk_4 (dk_at dksX0_sign_0 17 rfl rfl)
theorem dX0_sign_18 : decode cX0_sign 18 = .ok (.ireturn, 1) := dk_172 (dk_at dksX0_sign_0 18 rfl rfl)
theorem dX0_sign_19 : decode cX0_sign 19 = .ok (.astore 5, 2) := dk_58 5 (dk_at dksX0_sign_0 19 rfl rfl)
theorem dX0_sign_21 : decode cX0_sign 21 = .ok (.iconst 2, 1) := dk_5 (dk_at dksX0_sign_0 21 rfl rfl)
theorem dX0_sign_22 : decode cX0_sign 22 = .ok (.ireturn, 1) := dk_172 (dk_at dksX0_sign_0 22 rfl rfl)
theorem dX0_sign_23 : decode cX0_sign 23 = .ok (.astore 5, 2) := dk_58 5 (dk_at dksX0_sign_1 0 rfl rfl)
theorem dX0_sign_25 : decode cX0_sign 25 = .ok (.iconst 3, 1) := dk_6 (dk_at dksX0_sign_1 2 rfl rfl)
theorem dX0_sign_26 : decode cX0_sign 26 = .ok (.ireturn, 1) := dk_172 (dk_at dksX0_sign_1 3 rfl rfl)
theorem dX0_sign_27 : decode cX0_sign 27 = .ok (.iconst 0, 1) := dk_3 (dk_at dksX0_sign_1 4 rfl rfl)
theorem dX0_sign_28 : decode cX0_sign 28 = .ok (.ireturn, 1) := dk_172 (dk_at dksX0_sign_1 5 rfl rfl)
abbrev cX0_erase : ByteArray := method_7_code
def yX0_erase : MethodName := ⟨RX0, "erase", "(LPetitionDesk;II[J)I"⟩
def dkwX0_erase_0 : List UInt8 := [45, 3, 42, 27, 28, 182, 0, 30, 133, 80, 167, 0, 7, 58, 4, 4, 172, 3, 172]
abbrev dktX0_erase_0 : List UInt8 := dkwX0_erase_0 ++ []
theorem dksX0_erase_0 : cX0_erase.data.toList.drop 0 = dktX0_erase_0 := by decide +kernel
theorem dX0_erase_0 : decode cX0_erase 0 = .ok (.aload_n 3, 1) := dk_45 (dk_at dksX0_erase_0 0 rfl rfl)
theorem dX0_erase_1 : decode cX0_erase 1 = .ok (.iconst 0, 1) := dk_3 (dk_at dksX0_erase_0 1 rfl rfl)
theorem dX0_erase_2 : decode cX0_erase 2 = .ok (.aload_n 0, 1) := dk_42 (dk_at dksX0_erase_0 2 rfl rfl)
theorem dX0_erase_3 : decode cX0_erase 3 = .ok (.iload_n 1, 1) := dk_27 (dk_at dksX0_erase_0 3 rfl rfl)
theorem dX0_erase_4 : decode cX0_erase 4 = .ok (.iload_n 2, 1) := dk_28 (dk_at dksX0_erase_0 4 rfl rfl)
theorem dX0_erase_5 : decode cX0_erase 5 = .ok (.invokevirtual 30, 3) := dk_182 0 30 (dk_at dksX0_erase_0 5 rfl rfl)
theorem dX0_erase_8 : decode cX0_erase 8 = .ok (.i2l, 1) := dk_133 (dk_at dksX0_erase_0 8 rfl rfl)
theorem dX0_erase_9 : decode cX0_erase 9 = .ok (.lastore, 1) := dk_80 (dk_at dksX0_erase_0 9 rfl rfl)
theorem dX0_erase_10 : decode cX0_erase 10 = .ok (.goto 7, 3) := dk_167 0 7 (dk_at dksX0_erase_0 10 rfl rfl)
theorem dX0_erase_13 : decode cX0_erase 13 = .ok (.astore 4, 2) := dk_58 4 (dk_at dksX0_erase_0 13 rfl rfl)
theorem dX0_erase_15 : decode cX0_erase 15 = .ok (.iconst 1, 1) := dk_4 (dk_at dksX0_erase_0 15 rfl rfl)
theorem dX0_erase_16 : decode cX0_erase 16 = .ok (.ireturn, 1) := dk_172 (dk_at dksX0_erase_0 16 rfl rfl)
theorem dX0_erase_17 : decode cX0_erase 17 = .ok (.iconst 0, 1) := dk_3 (dk_at dksX0_erase_0 17 rfl rfl)
theorem dX0_erase_18 : decode cX0_erase 18 = .ok (.ireturn, 1) := dk_172 (dk_at dksX0_erase_0 18 rfl rfl)
abbrev cX0_told : ByteArray := method_8_code
def yX0_told : MethodName := ⟨RX0, "told", "(LPetitionDesk;I[J)I"⟩
def dkwX0_told_0 : List UInt8 := [44, 3, 42, 27, 182, 0, 34, 133, 80, 167, 0, 6, 78, 4, 172, 3, 172]
abbrev dktX0_told_0 : List UInt8 := dkwX0_told_0 ++ []
theorem dksX0_told_0 : cX0_told.data.toList.drop 0 = dktX0_told_0 := by decide +kernel
theorem dX0_told_0 : decode cX0_told 0 = .ok (.aload_n 2, 1) := dk_44 (dk_at dksX0_told_0 0 rfl rfl)
theorem dX0_told_1 : decode cX0_told 1 = .ok (.iconst 0, 1) := dk_3 (dk_at dksX0_told_0 1 rfl rfl)
theorem dX0_told_2 : decode cX0_told 2 = .ok (.aload_n 0, 1) := dk_42 (dk_at dksX0_told_0 2 rfl rfl)
theorem dX0_told_3 : decode cX0_told 3 = .ok (.iload_n 1, 1) := dk_27 (dk_at dksX0_told_0 3 rfl rfl)
theorem dX0_told_4 : decode cX0_told 4 = .ok (.invokevirtual 34, 3) := dk_182 0 34 (dk_at dksX0_told_0 4 rfl rfl)
theorem dX0_told_7 : decode cX0_told 7 = .ok (.i2l, 1) := dk_133 (dk_at dksX0_told_0 7 rfl rfl)
theorem dX0_told_8 : decode cX0_told 8 = .ok (.lastore, 1) := dk_80 (dk_at dksX0_told_0 8 rfl rfl)
theorem dX0_told_9 : decode cX0_told 9 = .ok (.goto 6, 3) := dk_167 0 6 (dk_at dksX0_told_0 9 rfl rfl)
theorem dX0_told_12 : decode cX0_told 12 = .ok (.astore_n 3, 1) := dk_78 (dk_at dksX0_told_0 12 rfl rfl)
theorem dX0_told_13 : decode cX0_told 13 = .ok (.iconst 1, 1) := dk_4 (dk_at dksX0_told_0 13 rfl rfl)
theorem dX0_told_14 : decode cX0_told 14 = .ok (.ireturn, 1) := dk_172 (dk_at dksX0_told_0 14 rfl rfl)
theorem dX0_told_15 : decode cX0_told 15 = .ok (.iconst 0, 1) := dk_3 (dk_at dksX0_told_0 15 rfl rfl)
theorem dX0_told_16 : decode cX0_told 16 = .ok (.ireturn, 1) := dk_172 (dk_at dksX0_told_0 16 rfl rfl)
abbrev cX0_voter : ByteArray := method_9_code
def yX0_voter : MethodName := ⟨RX0, "voter", "(LPetitionDesk;II[J)I"⟩
def dkwX0_voter_0 : List UInt8 := [45, 3, 42, 27, 28, 182, 0, 37, 133, 80, 167, 0, 11, 58, 4, 4, 172, 58, 4, 5, 172, 3, 172]
abbrev dktX0_voter_0 : List UInt8 := dkwX0_voter_0 ++ []
theorem dksX0_voter_0 : cX0_voter.data.toList.drop 0 = dktX0_voter_0 := by decide +kernel
theorem dX0_voter_0 : decode cX0_voter 0 = .ok (.aload_n 3, 1) := dk_45 (dk_at dksX0_voter_0 0 rfl rfl)
theorem dX0_voter_1 : decode cX0_voter 1 = .ok (.iconst 0, 1) := dk_3 (dk_at dksX0_voter_0 1 rfl rfl)
theorem dX0_voter_2 : decode cX0_voter 2 = .ok (.aload_n 0, 1) := dk_42 (dk_at dksX0_voter_0 2 rfl rfl)
theorem dX0_voter_3 : decode cX0_voter 3 = .ok (.iload_n 1, 1) := dk_27 (dk_at dksX0_voter_0 3 rfl rfl)
theorem dX0_voter_4 : decode cX0_voter 4 = .ok (.iload_n 2, 1) := dk_28 (dk_at dksX0_voter_0 4 rfl rfl)
theorem dX0_voter_5 : decode cX0_voter 5 = .ok (.invokevirtual 37, 3) := dk_182 0 37 (dk_at dksX0_voter_0 5 rfl rfl)
theorem dX0_voter_8 : decode cX0_voter 8 = .ok (.i2l, 1) := dk_133 (dk_at dksX0_voter_0 8 rfl rfl)
theorem dX0_voter_9 : decode cX0_voter 9 = .ok (.lastore, 1) := dk_80 (dk_at dksX0_voter_0 9 rfl rfl)
theorem dX0_voter_10 : decode cX0_voter 10 = .ok (.goto 11, 3) := dk_167 0 11 (dk_at dksX0_voter_0 10 rfl rfl)
theorem dX0_voter_13 : decode cX0_voter 13 = .ok (.astore 4, 2) := dk_58 4 (dk_at dksX0_voter_0 13 rfl rfl)
theorem dX0_voter_15 : decode cX0_voter 15 = .ok (.iconst 1, 1) := dk_4 (dk_at dksX0_voter_0 15 rfl rfl)
theorem dX0_voter_16 : decode cX0_voter 16 = .ok (.ireturn, 1) := dk_172 (dk_at dksX0_voter_0 16 rfl rfl)
theorem dX0_voter_17 : decode cX0_voter 17 = .ok (.astore 4, 2) := dk_58 4 (dk_at dksX0_voter_0 17 rfl rfl)
theorem dX0_voter_19 : decode cX0_voter 19 = .ok (.iconst 2, 1) := dk_5 (dk_at dksX0_voter_0 19 rfl rfl)
theorem dX0_voter_20 : decode cX0_voter 20 = .ok (.ireturn, 1) := dk_172 (dk_at dksX0_voter_0 20 rfl rfl)
theorem dX0_voter_21 : decode cX0_voter 21 = .ok (.iconst 0, 1) := dk_3 (dk_at dksX0_voter_0 21 rfl rfl)
theorem dX0_voter_22 : decode cX0_voter 22 = .ok (.ireturn, 1) := dk_172 (dk_at dksX0_voter_0 22 rfl rfl)
abbrev cX0_letter : ByteArray := method_10_code
def yX0_letter : MethodName := ⟨RX0, "letter", "(LPetitionDesk;II[J)I"⟩
def dkwX0_letter_0 : List UInt8 := [45, 3, 42, 27, 28, 182, 0, 40, 133, 80, 167, 0, 7, 58, 4, 4, 172, 3, 172]
abbrev dktX0_letter_0 : List UInt8 := dkwX0_letter_0 ++ []
theorem dksX0_letter_0 : cX0_letter.data.toList.drop 0 = dktX0_letter_0 := by decide +kernel
theorem dX0_letter_0 : decode cX0_letter 0 = .ok (.aload_n 3, 1) := dk_45 (dk_at dksX0_letter_0 0 rfl rfl)
theorem dX0_letter_1 : decode cX0_letter 1 = .ok (.iconst 0, 1) := dk_3 (dk_at dksX0_letter_0 1 rfl rfl)
theorem dX0_letter_2 : decode cX0_letter 2 = .ok (.aload_n 0, 1) := dk_42 (dk_at dksX0_letter_0 2 rfl rfl)
theorem dX0_letter_3 : decode cX0_letter 3 = .ok (.iload_n 1, 1) := dk_27 (dk_at dksX0_letter_0 3 rfl rfl)
theorem dX0_letter_4 : decode cX0_letter 4 = .ok (.iload_n 2, 1) := dk_28 (dk_at dksX0_letter_0 4 rfl rfl)
theorem dX0_letter_5 : decode cX0_letter 5 = .ok (.invokevirtual 40, 3) := dk_182 0 40 (dk_at dksX0_letter_0 5 rfl rfl)
theorem dX0_letter_8 : decode cX0_letter 8 = .ok (.i2l, 1) := dk_133 (dk_at dksX0_letter_0 8 rfl rfl)
theorem dX0_letter_9 : decode cX0_letter 9 = .ok (.lastore, 1) := dk_80 (dk_at dksX0_letter_0 9 rfl rfl)
theorem dX0_letter_10 : decode cX0_letter 10 = .ok (.goto 7, 3) := dk_167 0 7 (dk_at dksX0_letter_0 10 rfl rfl)
theorem dX0_letter_13 : decode cX0_letter 13 = .ok (.astore 4, 2) := dk_58 4 (dk_at dksX0_letter_0 13 rfl rfl)
theorem dX0_letter_15 : decode cX0_letter 15 = .ok (.iconst 1, 1) := dk_4 (dk_at dksX0_letter_0 15 rfl rfl)
theorem dX0_letter_16 : decode cX0_letter 16 = .ok (.ireturn, 1) := dk_172 (dk_at dksX0_letter_0 16 rfl rfl)
theorem dX0_letter_17 : decode cX0_letter 17 = .ok (.iconst 0, 1) := dk_3 (dk_at dksX0_letter_0 17 rfl rfl)
theorem dX0_letter_18 : decode cX0_letter 18 = .ok (.ireturn, 1) := dk_172 (dk_at dksX0_letter_0 18 rfl rfl)
abbrev cX0_sheet : ByteArray := method_11_code
def yX0_sheet : MethodName := ⟨RX0, "sheet", "(LPetitionDesk;II[J)I"⟩
def dkwX0_sheet_0 : List UInt8 := [45, 3, 42, 27, 28, 182, 0, 43, 133, 80, 167, 0, 11, 58, 4, 4, 172, 58, 4, 5, 172, 3, 172]
abbrev dktX0_sheet_0 : List UInt8 := dkwX0_sheet_0 ++ []
theorem dksX0_sheet_0 : cX0_sheet.data.toList.drop 0 = dktX0_sheet_0 := by decide +kernel
theorem dX0_sheet_0 : decode cX0_sheet 0 = .ok (.aload_n 3, 1) := dk_45 (dk_at dksX0_sheet_0 0 rfl rfl)
theorem dX0_sheet_1 : decode cX0_sheet 1 = .ok (.iconst 0, 1) := dk_3 (dk_at dksX0_sheet_0 1 rfl rfl)
theorem dX0_sheet_2 : decode cX0_sheet 2 = .ok (.aload_n 0, 1) := dk_42 (dk_at dksX0_sheet_0 2 rfl rfl)
theorem dX0_sheet_3 : decode cX0_sheet 3 = .ok (.iload_n 1, 1) := dk_27 (dk_at dksX0_sheet_0 3 rfl rfl)
theorem dX0_sheet_4 : decode cX0_sheet 4 = .ok (.iload_n 2, 1) := dk_28 (dk_at dksX0_sheet_0 4 rfl rfl)
theorem dX0_sheet_5 : decode cX0_sheet 5 = .ok (.invokevirtual 43, 3) := dk_182 0 43 (dk_at dksX0_sheet_0 5 rfl rfl)
theorem dX0_sheet_8 : decode cX0_sheet 8 = .ok (.i2l, 1) := dk_133 (dk_at dksX0_sheet_0 8 rfl rfl)
theorem dX0_sheet_9 : decode cX0_sheet 9 = .ok (.lastore, 1) := dk_80 (dk_at dksX0_sheet_0 9 rfl rfl)
theorem dX0_sheet_10 : decode cX0_sheet 10 = .ok (.goto 11, 3) := dk_167 0 11 (dk_at dksX0_sheet_0 10 rfl rfl)
theorem dX0_sheet_13 : decode cX0_sheet 13 = .ok (.astore 4, 2) := dk_58 4 (dk_at dksX0_sheet_0 13 rfl rfl)
theorem dX0_sheet_15 : decode cX0_sheet 15 = .ok (.iconst 1, 1) := dk_4 (dk_at dksX0_sheet_0 15 rfl rfl)
theorem dX0_sheet_16 : decode cX0_sheet 16 = .ok (.ireturn, 1) := dk_172 (dk_at dksX0_sheet_0 16 rfl rfl)
theorem dX0_sheet_17 : decode cX0_sheet 17 = .ok (.astore 4, 2) := dk_58 4 (dk_at dksX0_sheet_0 17 rfl rfl)
theorem dX0_sheet_19 : decode cX0_sheet 19 = .ok (.iconst 2, 1) := dk_5 (dk_at dksX0_sheet_0 19 rfl rfl)
theorem dX0_sheet_20 : decode cX0_sheet 20 = .ok (.ireturn, 1) := dk_172 (dk_at dksX0_sheet_0 20 rfl rfl)
theorem dX0_sheet_21 : decode cX0_sheet 21 = .ok (.iconst 0, 1) := dk_3 (dk_at dksX0_sheet_0 21 rfl rfl)
theorem dX0_sheet_22 : decode cX0_sheet 22 = .ok (.ireturn, 1) := dk_172 (dk_at dksX0_sheet_0 22 rfl rfl)
abbrev cX0_line : ByteArray := method_12_code
def yX0_line : MethodName := ⟨RX0, "line", "(LPetitionDesk;III[J)I"⟩
def dkwX0_line_1 : List UInt8 := [172]
abbrev dktX0_line_1 : List UInt8 := dkwX0_line_1 ++ []
def dkwX0_line_0 : List UInt8 := [25, 4, 3, 42, 27, 28, 29, 182, 0, 46, 133, 80, 167, 0, 11, 58, 5, 4, 172, 58, 5, 5, 172, 3]
abbrev dktX0_line_0 : List UInt8 := dkwX0_line_0 ++ dktX0_line_1
theorem dksX0_line_0 : cX0_line.data.toList.drop 0 = dktX0_line_0 := by decide +kernel
theorem dksX0_line_1 : cX0_line.data.toList.drop 24 = dktX0_line_1 := dk_seg dksX0_line_0 24 rfl rfl
theorem dX0_line_0 : decode cX0_line 0 = .ok (.aload 4, 2) := dk_25 4 (dk_at dksX0_line_0 0 rfl rfl)
theorem dX0_line_2 : decode cX0_line 2 = .ok (.iconst 0, 1) := dk_3 (dk_at dksX0_line_0 2 rfl rfl)
theorem dX0_line_3 : decode cX0_line 3 = .ok (.aload_n 0, 1) := dk_42 (dk_at dksX0_line_0 3 rfl rfl)
theorem dX0_line_4 : decode cX0_line 4 = .ok (.iload_n 1, 1) := dk_27 (dk_at dksX0_line_0 4 rfl rfl)
theorem dX0_line_5 : decode cX0_line 5 = .ok (.iload_n 2, 1) := dk_28 (dk_at dksX0_line_0 5 rfl rfl)
theorem dX0_line_6 : decode cX0_line 6 = .ok (.iload_n 3, 1) := dk_29 (dk_at dksX0_line_0 6 rfl rfl)
theorem dX0_line_7 : decode cX0_line 7 = .ok (.invokevirtual 46, 3) := dk_182 0 46 (dk_at dksX0_line_0 7 rfl rfl)
theorem dX0_line_10 : decode cX0_line 10 = .ok (.i2l, 1) := dk_133 (dk_at dksX0_line_0 10 rfl rfl)
theorem dX0_line_11 : decode cX0_line 11 = .ok (.lastore, 1) := dk_80 (dk_at dksX0_line_0 11 rfl rfl)
theorem dX0_line_12 : decode cX0_line 12 = .ok (.goto 11, 3) := dk_167 0 11 (dk_at dksX0_line_0 12 rfl rfl)
theorem dX0_line_15 : decode cX0_line 15 = .ok (.astore 5, 2) := dk_58 5 (dk_at dksX0_line_0 15 rfl rfl)
theorem dX0_line_17 : decode cX0_line 17 = .ok (.iconst 1, 1) := dk_4 (dk_at dksX0_line_0 17 rfl rfl)
theorem dX0_line_18 : decode cX0_line 18 = .ok (.ireturn, 1) := dk_172 (dk_at dksX0_line_0 18 rfl rfl)
theorem dX0_line_19 : decode cX0_line 19 = .ok (.astore 5, 2) := dk_58 5 (dk_at dksX0_line_0 19 rfl rfl)
theorem dX0_line_21 : decode cX0_line 21 = .ok (.iconst 2, 1) := dk_5 (dk_at dksX0_line_0 21 rfl rfl)
theorem dX0_line_22 : decode cX0_line 22 = .ok (.ireturn, 1) := dk_172 (dk_at dksX0_line_0 22 rfl rfl)
theorem dX0_line_23 : decode cX0_line 23 = .ok (.iconst 0, 1) := dk_3 (dk_at dksX0_line_0 23 rfl rfl)
theorem dX0_line_24 : decode cX0_line 24 = .ok (.ireturn, 1) := dk_172 (dk_at dksX0_line_1 0 rfl rfl)
abbrev cX0_judged : ByteArray := method_13_code
def yX0_judged : MethodName := ⟨RX0, "judged", "(LPetitionDesk;I[J)I"⟩
def dkwX0_judged_0 : List UInt8 := [44, 3, 42, 27, 182, 0, 49, 133, 80, 167, 0, 6, 78, 4, 172, 3, 172]
abbrev dktX0_judged_0 : List UInt8 := dkwX0_judged_0 ++ []
theorem dksX0_judged_0 : cX0_judged.data.toList.drop 0 = dktX0_judged_0 := by decide +kernel
theorem dX0_judged_0 : decode cX0_judged 0 = .ok (.aload_n 2, 1) := dk_44 (dk_at dksX0_judged_0 0 rfl rfl)
theorem dX0_judged_1 : decode cX0_judged 1 = .ok (.iconst 0, 1) := dk_3 (dk_at dksX0_judged_0 1 rfl rfl)
theorem dX0_judged_2 : decode cX0_judged 2 = .ok (.aload_n 0, 1) := dk_42 (dk_at dksX0_judged_0 2 rfl rfl)
theorem dX0_judged_3 : decode cX0_judged 3 = .ok (.iload_n 1, 1) := dk_27 (dk_at dksX0_judged_0 3 rfl rfl)
theorem dX0_judged_4 : decode cX0_judged 4 = .ok (.invokevirtual 49, 3) := dk_182 0 49 (dk_at dksX0_judged_0 4 rfl rfl)
theorem dX0_judged_7 : decode cX0_judged 7 = .ok (.i2l, 1) := dk_133 (dk_at dksX0_judged_0 7 rfl rfl)
theorem dX0_judged_8 : decode cX0_judged 8 = .ok (.lastore, 1) := dk_80 (dk_at dksX0_judged_0 8 rfl rfl)
theorem dX0_judged_9 : decode cX0_judged 9 = .ok (.goto 6, 3) := dk_167 0 6 (dk_at dksX0_judged_0 9 rfl rfl)
theorem dX0_judged_12 : decode cX0_judged 12 = .ok (.astore_n 3, 1) := dk_78 (dk_at dksX0_judged_0 12 rfl rfl)
theorem dX0_judged_13 : decode cX0_judged 13 = .ok (.iconst 1, 1) := dk_4 (dk_at dksX0_judged_0 13 rfl rfl)
theorem dX0_judged_14 : decode cX0_judged 14 = .ok (.ireturn, 1) := dk_172 (dk_at dksX0_judged_0 14 rfl rfl)
theorem dX0_judged_15 : decode cX0_judged 15 = .ok (.iconst 0, 1) := dk_3 (dk_at dksX0_judged_0 15 rfl rfl)
theorem dX0_judged_16 : decode cX0_judged 16 = .ok (.ireturn, 1) := dk_172 (dk_at dksX0_judged_0 16 rfl rfl)
abbrev cX0_drawn : ByteArray := method_14_code
def yX0_drawn : MethodName := ⟨RX0, "drawn", "(LPetitionDesk;II[J)I"⟩
def dkwX0_drawn_0 : List UInt8 := [45, 3, 42, 27, 28, 182, 0, 52, 133, 80, 167, 0, 7, 58, 4, 4, 172, 3, 172]
abbrev dktX0_drawn_0 : List UInt8 := dkwX0_drawn_0 ++ []
theorem dksX0_drawn_0 : cX0_drawn.data.toList.drop 0 = dktX0_drawn_0 := by decide +kernel
theorem dX0_drawn_0 : decode cX0_drawn 0 = .ok (.aload_n 3, 1) := dk_45 (dk_at dksX0_drawn_0 0 rfl rfl)
theorem dX0_drawn_1 : decode cX0_drawn 1 = .ok (.iconst 0, 1) := dk_3 (dk_at dksX0_drawn_0 1 rfl rfl)
theorem dX0_drawn_2 : decode cX0_drawn 2 = .ok (.aload_n 0, 1) := dk_42 (dk_at dksX0_drawn_0 2 rfl rfl)
theorem dX0_drawn_3 : decode cX0_drawn 3 = .ok (.iload_n 1, 1) := dk_27 (dk_at dksX0_drawn_0 3 rfl rfl)
theorem dX0_drawn_4 : decode cX0_drawn 4 = .ok (.iload_n 2, 1) := dk_28 (dk_at dksX0_drawn_0 4 rfl rfl)
theorem dX0_drawn_5 : decode cX0_drawn 5 = .ok (.invokevirtual 52, 3) := dk_182 0 52 (dk_at dksX0_drawn_0 5 rfl rfl)
theorem dX0_drawn_8 : decode cX0_drawn 8 = .ok (.i2l, 1) := dk_133 (dk_at dksX0_drawn_0 8 rfl rfl)
theorem dX0_drawn_9 : decode cX0_drawn 9 = .ok (.lastore, 1) := dk_80 (dk_at dksX0_drawn_0 9 rfl rfl)
theorem dX0_drawn_10 : decode cX0_drawn 10 = .ok (.goto 7, 3) := dk_167 0 7 (dk_at dksX0_drawn_0 10 rfl rfl)
theorem dX0_drawn_13 : decode cX0_drawn 13 = .ok (.astore 4, 2) := dk_58 4 (dk_at dksX0_drawn_0 13 rfl rfl)
theorem dX0_drawn_15 : decode cX0_drawn 15 = .ok (.iconst 1, 1) := dk_4 (dk_at dksX0_drawn_0 15 rfl rfl)
theorem dX0_drawn_16 : decode cX0_drawn 16 = .ok (.ireturn, 1) := dk_172 (dk_at dksX0_drawn_0 16 rfl rfl)
theorem dX0_drawn_17 : decode cX0_drawn 17 = .ok (.iconst 0, 1) := dk_3 (dk_at dksX0_drawn_0 17 rfl rfl)
theorem dX0_drawn_18 : decode cX0_drawn 18 = .ok (.ireturn, 1) := dk_172 (dk_at dksX0_drawn_0 18 rfl rfl)
abbrev cX0_estimate : ByteArray := method_15_code
def yX0_estimate : MethodName := ⟨RX0, "estimate", "(LPetitionDesk;II[J)I"⟩
def dkwX0_estimate_0 : List UInt8 := [45, 3, 42, 27, 28, 182, 0, 55, 80, 167, 0, 11, 58, 4, 4, 172, 58, 4, 5, 172, 3, 172]
abbrev dktX0_estimate_0 : List UInt8 := dkwX0_estimate_0 ++ []
theorem dksX0_estimate_0 : cX0_estimate.data.toList.drop 0 = dktX0_estimate_0 := by decide +kernel
theorem dX0_estimate_0 : decode cX0_estimate 0 = .ok (.aload_n 3, 1) := dk_45 (dk_at dksX0_estimate_0 0 rfl rfl)
theorem dX0_estimate_1 : decode cX0_estimate 1 = .ok (.iconst 0, 1) := dk_3 (dk_at dksX0_estimate_0 1 rfl rfl)
theorem dX0_estimate_2 : decode cX0_estimate 2 = .ok (.aload_n 0, 1) := dk_42 (dk_at dksX0_estimate_0 2 rfl rfl)
theorem dX0_estimate_3 : decode cX0_estimate 3 = .ok (.iload_n 1, 1) := dk_27 (dk_at dksX0_estimate_0 3 rfl rfl)
theorem dX0_estimate_4 : decode cX0_estimate 4 = .ok (.iload_n 2, 1) := dk_28 (dk_at dksX0_estimate_0 4 rfl rfl)
theorem dX0_estimate_5 : decode cX0_estimate 5 = .ok (.invokevirtual 55, 3) := dk_182 0 55 (dk_at dksX0_estimate_0 5 rfl rfl)
theorem dX0_estimate_8 : decode cX0_estimate 8 = .ok (.lastore, 1) := dk_80 (dk_at dksX0_estimate_0 8 rfl rfl)
theorem dX0_estimate_9 : decode cX0_estimate 9 = .ok (.goto 11, 3) := dk_167 0 11 (dk_at dksX0_estimate_0 9 rfl rfl)
theorem dX0_estimate_12 : decode cX0_estimate 12 = .ok (.astore 4, 2) := dk_58 4 (dk_at dksX0_estimate_0 12 rfl rfl)
theorem dX0_estimate_14 : decode cX0_estimate 14 = .ok (.iconst 1, 1) := dk_4 (dk_at dksX0_estimate_0 14 rfl rfl)
theorem dX0_estimate_15 : decode cX0_estimate 15 = .ok (.ireturn, 1) := dk_172 (dk_at dksX0_estimate_0 15 rfl rfl)
theorem dX0_estimate_16 : decode cX0_estimate 16 = .ok (.astore 4, 2) := dk_58 4 (dk_at dksX0_estimate_0 16 rfl rfl)
theorem dX0_estimate_18 : decode cX0_estimate 18 = .ok (.iconst 2, 1) := dk_5 (dk_at dksX0_estimate_0 18 rfl rfl)
theorem dX0_estimate_19 : decode cX0_estimate 19 = .ok (.ireturn, 1) := dk_172 (dk_at dksX0_estimate_0 19 rfl rfl)
theorem dX0_estimate_20 : decode cX0_estimate 20 = .ok (.iconst 0, 1) := dk_3 (dk_at dksX0_estimate_0 20 rfl rfl)
theorem dX0_estimate_21 : decode cX0_estimate 21 = .ok (.ireturn, 1) := dk_172 (dk_at dksX0_estimate_0 21 rfl rfl)
abbrev cX0_unlike : ByteArray := method_16_code
def yX0_unlike : MethodName := ⟨RX0, "unlike", "(LPetitionDesk;I[J)I"⟩
def dkwX0_unlike_0 : List UInt8 := [44, 3, 42, 27, 182, 0, 59, 133, 80, 167, 0, 6, 78, 4, 172, 3, 172]
abbrev dktX0_unlike_0 : List UInt8 := dkwX0_unlike_0 ++ []
theorem dksX0_unlike_0 : cX0_unlike.data.toList.drop 0 = dktX0_unlike_0 := by decide +kernel
theorem dX0_unlike_0 : decode cX0_unlike 0 = .ok (.aload_n 2, 1) := dk_44 (dk_at dksX0_unlike_0 0 rfl rfl)
theorem dX0_unlike_1 : decode cX0_unlike 1 = .ok (.iconst 0, 1) := dk_3 (dk_at dksX0_unlike_0 1 rfl rfl)
theorem dX0_unlike_2 : decode cX0_unlike 2 = .ok (.aload_n 0, 1) := dk_42 (dk_at dksX0_unlike_0 2 rfl rfl)
theorem dX0_unlike_3 : decode cX0_unlike 3 = .ok (.iload_n 1, 1) := dk_27 (dk_at dksX0_unlike_0 3 rfl rfl)
theorem dX0_unlike_4 : decode cX0_unlike 4 = .ok (.invokevirtual 59, 3) := dk_182 0 59 (dk_at dksX0_unlike_0 4 rfl rfl)
theorem dX0_unlike_7 : decode cX0_unlike 7 = .ok (.i2l, 1) := dk_133 (dk_at dksX0_unlike_0 7 rfl rfl)
theorem dX0_unlike_8 : decode cX0_unlike 8 = .ok (.lastore, 1) := dk_80 (dk_at dksX0_unlike_0 8 rfl rfl)
theorem dX0_unlike_9 : decode cX0_unlike 9 = .ok (.goto 6, 3) := dk_167 0 6 (dk_at dksX0_unlike_0 9 rfl rfl)
theorem dX0_unlike_12 : decode cX0_unlike 12 = .ok (.astore_n 3, 1) := dk_78 (dk_at dksX0_unlike_0 12 rfl rfl)
theorem dX0_unlike_13 : decode cX0_unlike 13 = .ok (.iconst 1, 1) := dk_4 (dk_at dksX0_unlike_0 13 rfl rfl)
theorem dX0_unlike_14 : decode cX0_unlike 14 = .ok (.ireturn, 1) := dk_172 (dk_at dksX0_unlike_0 14 rfl rfl)
theorem dX0_unlike_15 : decode cX0_unlike 15 = .ok (.iconst 0, 1) := dk_3 (dk_at dksX0_unlike_0 15 rfl rfl)
theorem dX0_unlike_16 : decode cX0_unlike 16 = .ok (.ireturn, 1) := dk_172 (dk_at dksX0_unlike_0 16 rfl rfl)
abbrev cX0_unseen : ByteArray := method_17_code
def yX0_unseen : MethodName := ⟨RX0, "unseen", "(LPetitionDesk;II[J)I"⟩
def dkwX0_unseen_0 : List UInt8 := [45, 3, 42, 27, 28, 182, 0, 62, 80, 167, 0, 7, 58, 4, 4, 172, 3, 172]
abbrev dktX0_unseen_0 : List UInt8 := dkwX0_unseen_0 ++ []
theorem dksX0_unseen_0 : cX0_unseen.data.toList.drop 0 = dktX0_unseen_0 := by decide +kernel
theorem dX0_unseen_0 : decode cX0_unseen 0 = .ok (.aload_n 3, 1) := dk_45 (dk_at dksX0_unseen_0 0 rfl rfl)
theorem dX0_unseen_1 : decode cX0_unseen 1 = .ok (.iconst 0, 1) := dk_3 (dk_at dksX0_unseen_0 1 rfl rfl)
theorem dX0_unseen_2 : decode cX0_unseen 2 = .ok (.aload_n 0, 1) := dk_42 (dk_at dksX0_unseen_0 2 rfl rfl)
theorem dX0_unseen_3 : decode cX0_unseen 3 = .ok (.iload_n 1, 1) := dk_27 (dk_at dksX0_unseen_0 3 rfl rfl)
theorem dX0_unseen_4 : decode cX0_unseen 4 = .ok (.iload_n 2, 1) := dk_28 (dk_at dksX0_unseen_0 4 rfl rfl)
theorem dX0_unseen_5 : decode cX0_unseen 5 = .ok (.invokevirtual 62, 3) := dk_182 0 62 (dk_at dksX0_unseen_0 5 rfl rfl)
theorem dX0_unseen_8 : decode cX0_unseen 8 = .ok (.lastore, 1) := dk_80 (dk_at dksX0_unseen_0 8 rfl rfl)
theorem dX0_unseen_9 : decode cX0_unseen 9 = .ok (.goto 7, 3) := dk_167 0 7 (dk_at dksX0_unseen_0 9 rfl rfl)
theorem dX0_unseen_12 : decode cX0_unseen 12 = .ok (.astore 4, 2) := dk_58 4 (dk_at dksX0_unseen_0 12 rfl rfl)
theorem dX0_unseen_14 : decode cX0_unseen 14 = .ok (.iconst 1, 1) := dk_4 (dk_at dksX0_unseen_0 14 rfl rfl)
theorem dX0_unseen_15 : decode cX0_unseen 15 = .ok (.ireturn, 1) := dk_172 (dk_at dksX0_unseen_0 15 rfl rfl)
theorem dX0_unseen_16 : decode cX0_unseen 16 = .ok (.iconst 0, 1) := dk_3 (dk_at dksX0_unseen_0 16 rfl rfl)
theorem dX0_unseen_17 : decode cX0_unseen 17 = .ok (.ireturn, 1) := dk_172 (dk_at dksX0_unseen_0 17 rfl rfl)
abbrev cX0_worst : ByteArray := method_18_code
def yX0_worst : MethodName := ⟨RX0, "worst", "(LPetitionDesk;II[J)I"⟩
def dkwX0_worst_0 : List UInt8 := [45, 3, 42, 27, 28, 182, 0, 65, 133, 80, 167, 0, 7, 58, 4, 4, 172, 3, 172]
abbrev dktX0_worst_0 : List UInt8 := dkwX0_worst_0 ++ []
theorem dksX0_worst_0 : cX0_worst.data.toList.drop 0 = dktX0_worst_0 := by decide +kernel
theorem dX0_worst_0 : decode cX0_worst 0 = .ok (.aload_n 3, 1) := dk_45 (dk_at dksX0_worst_0 0 rfl rfl)
theorem dX0_worst_1 : decode cX0_worst 1 = .ok (.iconst 0, 1) := dk_3 (dk_at dksX0_worst_0 1 rfl rfl)
theorem dX0_worst_2 : decode cX0_worst 2 = .ok (.aload_n 0, 1) := dk_42 (dk_at dksX0_worst_0 2 rfl rfl)
theorem dX0_worst_3 : decode cX0_worst 3 = .ok (.iload_n 1, 1) := dk_27 (dk_at dksX0_worst_0 3 rfl rfl)
theorem dX0_worst_4 : decode cX0_worst 4 = .ok (.iload_n 2, 1) := dk_28 (dk_at dksX0_worst_0 4 rfl rfl)
theorem dX0_worst_5 : decode cX0_worst 5 = .ok (.invokevirtual 65, 3) := dk_182 0 65 (dk_at dksX0_worst_0 5 rfl rfl)
theorem dX0_worst_8 : decode cX0_worst 8 = .ok (.i2l, 1) := dk_133 (dk_at dksX0_worst_0 8 rfl rfl)
theorem dX0_worst_9 : decode cX0_worst 9 = .ok (.lastore, 1) := dk_80 (dk_at dksX0_worst_0 9 rfl rfl)
theorem dX0_worst_10 : decode cX0_worst 10 = .ok (.goto 7, 3) := dk_167 0 7 (dk_at dksX0_worst_0 10 rfl rfl)
theorem dX0_worst_13 : decode cX0_worst 13 = .ok (.astore 4, 2) := dk_58 4 (dk_at dksX0_worst_0 13 rfl rfl)
theorem dX0_worst_15 : decode cX0_worst 15 = .ok (.iconst 1, 1) := dk_4 (dk_at dksX0_worst_0 15 rfl rfl)
theorem dX0_worst_16 : decode cX0_worst 16 = .ok (.ireturn, 1) := dk_172 (dk_at dksX0_worst_0 16 rfl rfl)
theorem dX0_worst_17 : decode cX0_worst 17 = .ok (.iconst 0, 1) := dk_3 (dk_at dksX0_worst_0 17 rfl rfl)
theorem dX0_worst_18 : decode cX0_worst 18 = .ok (.ireturn, 1) := dk_172 (dk_at dksX0_worst_0 18 rfl rfl)
abbrev cX0_cost : ByteArray := method_19_code
def yX0_cost : MethodName := ⟨RX0, "cost", "(LPetitionDesk;I[J)I"⟩
def dkwX0_cost_0 : List UInt8 := [44, 3, 42, 27, 182, 0, 68, 133, 80, 167, 0, 6, 78, 4, 172, 3, 172]
abbrev dktX0_cost_0 : List UInt8 := dkwX0_cost_0 ++ []
theorem dksX0_cost_0 : cX0_cost.data.toList.drop 0 = dktX0_cost_0 := by decide +kernel
theorem dX0_cost_0 : decode cX0_cost 0 = .ok (.aload_n 2, 1) := dk_44 (dk_at dksX0_cost_0 0 rfl rfl)
theorem dX0_cost_1 : decode cX0_cost 1 = .ok (.iconst 0, 1) := dk_3 (dk_at dksX0_cost_0 1 rfl rfl)
theorem dX0_cost_2 : decode cX0_cost 2 = .ok (.aload_n 0, 1) := dk_42 (dk_at dksX0_cost_0 2 rfl rfl)
theorem dX0_cost_3 : decode cX0_cost 3 = .ok (.iload_n 1, 1) := dk_27 (dk_at dksX0_cost_0 3 rfl rfl)
theorem dX0_cost_4 : decode cX0_cost 4 = .ok (.invokevirtual 68, 3) := dk_182 0 68 (dk_at dksX0_cost_0 4 rfl rfl)
theorem dX0_cost_7 : decode cX0_cost 7 = .ok (.i2l, 1) := dk_133 (dk_at dksX0_cost_0 7 rfl rfl)
theorem dX0_cost_8 : decode cX0_cost 8 = .ok (.lastore, 1) := dk_80 (dk_at dksX0_cost_0 8 rfl rfl)
theorem dX0_cost_9 : decode cX0_cost 9 = .ok (.goto 6, 3) := dk_167 0 6 (dk_at dksX0_cost_0 9 rfl rfl)
theorem dX0_cost_12 : decode cX0_cost 12 = .ok (.astore_n 3, 1) := dk_78 (dk_at dksX0_cost_0 12 rfl rfl)
theorem dX0_cost_13 : decode cX0_cost 13 = .ok (.iconst 1, 1) := dk_4 (dk_at dksX0_cost_0 13 rfl rfl)
theorem dX0_cost_14 : decode cX0_cost 14 = .ok (.ireturn, 1) := dk_172 (dk_at dksX0_cost_0 14 rfl rfl)
theorem dX0_cost_15 : decode cX0_cost 15 = .ok (.iconst 0, 1) := dk_3 (dk_at dksX0_cost_0 15 rfl rfl)
theorem dX0_cost_16 : decode cX0_cost 16 = .ok (.ireturn, 1) := dk_172 (dk_at dksX0_cost_0 16 rfl rfl)
theorem q88 : (Jvm.Cond.initialized "PetitionDeskLaw") ∈ lw_all := lw_g (lw_at lw_m1 0 rfl) rfl
theorem q124 : (Jvm.Cond.classLink "PetitionDeskLaw" (8 : Nat) "PetitionDesk") ∈ lw_all := lw_g (lw_at lw_m1 36 rfl) rfl
theorem q126 : (Jvm.Cond.methodLink "PetitionDeskLaw" (71 : Nat) ({ cls := "PetitionDesk", name := "<init>", desc := "()V" } : Jvm.MethodName)) ∈ lw_all := lw_g (lw_at lw_m1 38 rfl) rfl
theorem q538 : (Jvm.Cond.methodLink "PetitionDeskLaw" (75 : Nat) ({ cls := "PetitionDesk", name := "feed", desc := "(IIIII)I" } : Jvm.MethodName)) ∈ lw_all := lw_g (lw_at lw_m2 210 rfl) rfl
theorem q546 : (Jvm.Cond.methodLink "PetitionDeskLaw" (90 : Nat) ({ cls := "PetitionDesk", name := "fault", desc := "()I" } : Jvm.MethodName)) ∈ lw_all := lw_g (lw_at lw_m2 218 rfl) rfl
theorem q550 : (Jvm.Cond.methodLink "PetitionDeskLaw" (109 : Nat) ({ cls := "PetitionDesk", name := "undo", desc := "()I" } : Jvm.MethodName)) ∈ lw_all := lw_g (lw_at lw_m2 222 rfl) rfl
theorem q574 : (Jvm.Cond.methodLink "PetitionDeskLaw" (131 : Nat) ({ cls := "PetitionDesk", name := "passes", desc := "()I" } : Jvm.MethodName)) ∈ lw_all := lw_g (lw_at lw_m3 6 rfl) rfl
theorem q582 : (Jvm.Cond.methodLink "PetitionDeskLaw" (147 : Nat) ({ cls := "PetitionDesk", name := "fewest", desc := "()I" } : Jvm.MethodName)) ∈ lw_all := lw_g (lw_at lw_m3 14 rfl) rfl
theorem q609 : (Jvm.Cond.methodLink "PetitionDeskLaw" (157 : Nat) ({ cls := "PetitionDesk", name := "print", desc := "()J" } : Jvm.MethodName)) ∈ lw_all := lw_g (lw_at lw_m3 41 rfl) rfl
theorem q620 : (Jvm.Cond.methodLink "PetitionDeskLaw" (162 : Nat) ({ cls := "PetitionDesk", name := "status", desc := "(I)I" } : Jvm.MethodName)) ∈ lw_all := lw_g (lw_at lw_m3 52 rfl) rfl
theorem q626 : (Jvm.Cond.methodLink "PetitionDeskLaw" (80 : Nat) ({ cls := "PetitionDeskLaw", name := "text", desc := "(LPetitionDesk;I[J)I" } : Jvm.MethodName)) ∈ lw_all := lw_g (lw_at lw_m3 58 rfl) rfl
theorem q627 : (Jvm.Cond.static ({ cls := "PetitionDeskLaw", name := "text", desc := "(LPetitionDesk;I[J)I" } : Jvm.MethodName)) ∈ lw_all := lw_g (lw_at lw_m3 59 rfl) rfl
theorem q628 : (Jvm.Cond.codeWith ({ cls := "PetitionDeskLaw", name := "text", desc := "(LPetitionDesk;I[J)I" } : Jvm.MethodName) method_3_code (4 : Nat) (Option.some Jvm.ClassFile.FieldType.int) [((0 : Nat), (9 : Nat), (12 : Nat), (13 : Nat))]) ∈ lw_all := lw_g (lw_at lw_m3 60 rfl) rfl
theorem q629 : (Jvm.Cond.classLink "PetitionDeskLaw" (13 : Nat) "java/lang/IllegalArgumentException") ∈ lw_all := lw_g (lw_at lw_m3 61 rfl) rfl
theorem q630 : (Jvm.Cond.methodLink "PetitionDeskLaw" (7 : Nat) ({ cls := "PetitionDesk", name := "text", desc := "(I)I" } : Jvm.MethodName)) ∈ lw_all := lw_g (lw_at lw_m3 62 rfl) rfl
theorem q1386 : (Jvm.Cond.methodLink "PetitionDeskLaw" (94 : Nat) ({ cls := "PetitionDeskLaw", name := "sample", desc := "(LPetitionDesk;III[J)I" } : Jvm.MethodName)) ∈ lw_all := lw_g (lw_at lw_m6 98 rfl) rfl
theorem q1387 : (Jvm.Cond.static ({ cls := "PetitionDeskLaw", name := "sample", desc := "(LPetitionDesk;III[J)I" } : Jvm.MethodName)) ∈ lw_all := lw_g (lw_at lw_m6 99 rfl) rfl
theorem q1388 : (Jvm.Cond.codeWith ({ cls := "PetitionDeskLaw", name := "sample", desc := "(LPetitionDesk;III[J)I" } : Jvm.MethodName) method_4_code (6 : Nat) (Option.some Jvm.ClassFile.FieldType.int) [((0 : Nat), (12 : Nat), (15 : Nat), (13 : Nat))]) ∈ lw_all := lw_g (lw_at lw_m6 100 rfl) rfl
theorem q1389 : (Jvm.Cond.methodLink "PetitionDeskLaw" (15 : Nat) ({ cls := "PetitionDesk", name := "sample", desc := "(III)I" } : Jvm.MethodName)) ∈ lw_all := lw_g (lw_at lw_m6 101 rfl) rfl
theorem q1420 : (Jvm.Cond.methodLink "PetitionDeskLaw" (98 : Nat) ({ cls := "PetitionDeskLaw", name := "strike", desc := "(LPetitionDesk;IZ[J)I" } : Jvm.MethodName)) ∈ lw_all := lw_g (lw_at lw_m6 132 rfl) rfl
theorem q1421 : (Jvm.Cond.static ({ cls := "PetitionDeskLaw", name := "strike", desc := "(LPetitionDesk;IZ[J)I" } : Jvm.MethodName)) ∈ lw_all := lw_g (lw_at lw_m6 133 rfl) rfl
theorem q1422 : (Jvm.Cond.codeWith ({ cls := "PetitionDeskLaw", name := "strike", desc := "(LPetitionDesk;IZ[J)I" } : Jvm.MethodName) method_5_code (5 : Nat) (Option.some Jvm.ClassFile.FieldType.int) [((0 : Nat), (10 : Nat), (13 : Nat), (23 : Nat))]) ∈ lw_all := lw_g (lw_at lw_m6 134 rfl) rfl
theorem q1423 : (Jvm.Cond.classLink "PetitionDeskLaw" (23 : Nat) "java/util/NoSuchElementException") ∈ lw_all := lw_g (lw_at lw_m6 135 rfl) rfl
theorem q1424 : (Jvm.Cond.methodLink "PetitionDeskLaw" (19 : Nat) ({ cls := "PetitionDesk", name := "strike", desc := "(IZ)I" } : Jvm.MethodName)) ∈ lw_all := lw_g (lw_at lw_m6 136 rfl) rfl
theorem q1442 : (Jvm.Cond.methodLink "PetitionDeskLaw" (102 : Nat) ({ cls := "PetitionDeskLaw", name := "sign", desc := "(LPetitionDesk;III[J)I" } : Jvm.MethodName)) ∈ lw_all := lw_g (lw_at lw_m6 154 rfl) rfl
theorem q1443 : (Jvm.Cond.static ({ cls := "PetitionDeskLaw", name := "sign", desc := "(LPetitionDesk;III[J)I" } : Jvm.MethodName)) ∈ lw_all := lw_g (lw_at lw_m6 155 rfl) rfl
theorem q1444 : (Jvm.Cond.codeWith ({ cls := "PetitionDeskLaw", name := "sign", desc := "(LPetitionDesk;III[J)I" } : Jvm.MethodName) method_6_code (6 : Nat) (Option.some Jvm.ClassFile.FieldType.int) [((0 : Nat), (12 : Nat), (15 : Nat), (23 : Nat)), ((0 : Nat), (12 : Nat), (19 : Nat), (13 : Nat)), ((0 : Nat), (12 : Nat), (23 : Nat), (28 : Nat))]) ∈ lw_all := lw_g (lw_at lw_m6 156 rfl) rfl
theorem q1445 : (Jvm.Cond.classLink "PetitionDeskLaw" (28 : Nat) "java/lang/IllegalStateException") ∈ lw_all := lw_g (lw_at lw_m6 157 rfl) rfl
theorem q1446 : (Jvm.Cond.methodLink "PetitionDeskLaw" (25 : Nat) ({ cls := "PetitionDesk", name := "sign", desc := "(III)I" } : Jvm.MethodName)) ∈ lw_all := lw_g (lw_at lw_m6 158 rfl) rfl
theorem q1480 : (Jvm.Cond.methodLink "PetitionDeskLaw" (105 : Nat) ({ cls := "PetitionDeskLaw", name := "erase", desc := "(LPetitionDesk;II[J)I" } : Jvm.MethodName)) ∈ lw_all := lw_g (lw_at lw_m6 192 rfl) rfl
theorem q1481 : (Jvm.Cond.static ({ cls := "PetitionDeskLaw", name := "erase", desc := "(LPetitionDesk;II[J)I" } : Jvm.MethodName)) ∈ lw_all := lw_g (lw_at lw_m6 193 rfl) rfl
theorem q1482 : (Jvm.Cond.codeWith ({ cls := "PetitionDeskLaw", name := "erase", desc := "(LPetitionDesk;II[J)I" } : Jvm.MethodName) method_7_code (5 : Nat) (Option.some Jvm.ClassFile.FieldType.int) [((0 : Nat), (10 : Nat), (13 : Nat), (23 : Nat))]) ∈ lw_all := lw_g (lw_at lw_m6 194 rfl) rfl
theorem q1483 : (Jvm.Cond.methodLink "PetitionDeskLaw" (30 : Nat) ({ cls := "PetitionDesk", name := "erase", desc := "(II)I" } : Jvm.MethodName)) ∈ lw_all := lw_g (lw_at lw_m6 195 rfl) rfl
theorem q1491 : (Jvm.Cond.methodLink "PetitionDeskLaw" (113 : Nat) ({ cls := "PetitionDeskLaw", name := "told", desc := "(LPetitionDesk;I[J)I" } : Jvm.MethodName)) ∈ lw_all := lw_g (lw_at lw_m6 203 rfl) rfl
theorem q1492 : (Jvm.Cond.static ({ cls := "PetitionDeskLaw", name := "told", desc := "(LPetitionDesk;I[J)I" } : Jvm.MethodName)) ∈ lw_all := lw_g (lw_at lw_m6 204 rfl) rfl
theorem q1493 : (Jvm.Cond.codeWith ({ cls := "PetitionDeskLaw", name := "told", desc := "(LPetitionDesk;I[J)I" } : Jvm.MethodName) method_8_code (4 : Nat) (Option.some Jvm.ClassFile.FieldType.int) [((0 : Nat), (9 : Nat), (12 : Nat), (13 : Nat))]) ∈ lw_all := lw_g (lw_at lw_m6 205 rfl) rfl
theorem q1494 : (Jvm.Cond.methodLink "PetitionDeskLaw" (34 : Nat) ({ cls := "PetitionDesk", name := "told", desc := "(I)I" } : Jvm.MethodName)) ∈ lw_all := lw_g (lw_at lw_m6 206 rfl) rfl
theorem q1503 : (Jvm.Cond.methodLink "PetitionDeskLaw" (116 : Nat) ({ cls := "PetitionDeskLaw", name := "voter", desc := "(LPetitionDesk;II[J)I" } : Jvm.MethodName)) ∈ lw_all := lw_g (lw_at lw_m6 215 rfl) rfl
theorem q1504 : (Jvm.Cond.static ({ cls := "PetitionDeskLaw", name := "voter", desc := "(LPetitionDesk;II[J)I" } : Jvm.MethodName)) ∈ lw_all := lw_g (lw_at lw_m6 216 rfl) rfl
theorem q1505 : (Jvm.Cond.codeWith ({ cls := "PetitionDeskLaw", name := "voter", desc := "(LPetitionDesk;II[J)I" } : Jvm.MethodName) method_9_code (5 : Nat) (Option.some Jvm.ClassFile.FieldType.int) [((0 : Nat), (10 : Nat), (13 : Nat), (23 : Nat)), ((0 : Nat), (10 : Nat), (17 : Nat), (13 : Nat))]) ∈ lw_all := lw_g (lw_at lw_m6 217 rfl) rfl
theorem q1506 : (Jvm.Cond.methodLink "PetitionDeskLaw" (37 : Nat) ({ cls := "PetitionDesk", name := "voter", desc := "(II)I" } : Jvm.MethodName)) ∈ lw_all := lw_g (lw_at lw_m6 218 rfl) rfl
theorem q1511 : (Jvm.Cond.methodLink "PetitionDeskLaw" (119 : Nat) ({ cls := "PetitionDeskLaw", name := "letter", desc := "(LPetitionDesk;II[J)I" } : Jvm.MethodName)) ∈ lw_all := lw_g (lw_at lw_m6 223 rfl) rfl
theorem q1512 : (Jvm.Cond.static ({ cls := "PetitionDeskLaw", name := "letter", desc := "(LPetitionDesk;II[J)I" } : Jvm.MethodName)) ∈ lw_all := lw_g (lw_at lw_m6 224 rfl) rfl
theorem q1513 : (Jvm.Cond.codeWith ({ cls := "PetitionDeskLaw", name := "letter", desc := "(LPetitionDesk;II[J)I" } : Jvm.MethodName) method_10_code (5 : Nat) (Option.some Jvm.ClassFile.FieldType.int) [((0 : Nat), (10 : Nat), (13 : Nat), (23 : Nat))]) ∈ lw_all := lw_g (lw_at lw_m6 225 rfl) rfl
theorem q1514 : (Jvm.Cond.methodLink "PetitionDeskLaw" (40 : Nat) ({ cls := "PetitionDesk", name := "letter", desc := "(II)I" } : Jvm.MethodName)) ∈ lw_all := lw_g (lw_at lw_m6 226 rfl) rfl
theorem q1530 : (Jvm.Cond.methodLink "PetitionDeskLaw" (122 : Nat) ({ cls := "PetitionDeskLaw", name := "sheet", desc := "(LPetitionDesk;II[J)I" } : Jvm.MethodName)) ∈ lw_all := lw_g (lw_at lw_m7 2 rfl) rfl
theorem q1531 : (Jvm.Cond.static ({ cls := "PetitionDeskLaw", name := "sheet", desc := "(LPetitionDesk;II[J)I" } : Jvm.MethodName)) ∈ lw_all := lw_g (lw_at lw_m7 3 rfl) rfl
theorem q1532 : (Jvm.Cond.codeWith ({ cls := "PetitionDeskLaw", name := "sheet", desc := "(LPetitionDesk;II[J)I" } : Jvm.MethodName) method_11_code (5 : Nat) (Option.some Jvm.ClassFile.FieldType.int) [((0 : Nat), (10 : Nat), (13 : Nat), (23 : Nat)), ((0 : Nat), (10 : Nat), (17 : Nat), (13 : Nat))]) ∈ lw_all := lw_g (lw_at lw_m7 4 rfl) rfl
theorem q1533 : (Jvm.Cond.methodLink "PetitionDeskLaw" (43 : Nat) ({ cls := "PetitionDesk", name := "sheet", desc := "(II)I" } : Jvm.MethodName)) ∈ lw_all := lw_g (lw_at lw_m7 5 rfl) rfl
theorem q1540 : (Jvm.Cond.methodLink "PetitionDeskLaw" (125 : Nat) ({ cls := "PetitionDeskLaw", name := "line", desc := "(LPetitionDesk;III[J)I" } : Jvm.MethodName)) ∈ lw_all := lw_g (lw_at lw_m7 12 rfl) rfl
theorem q1541 : (Jvm.Cond.static ({ cls := "PetitionDeskLaw", name := "line", desc := "(LPetitionDesk;III[J)I" } : Jvm.MethodName)) ∈ lw_all := lw_g (lw_at lw_m7 13 rfl) rfl
theorem q1542 : (Jvm.Cond.codeWith ({ cls := "PetitionDeskLaw", name := "line", desc := "(LPetitionDesk;III[J)I" } : Jvm.MethodName) method_12_code (6 : Nat) (Option.some Jvm.ClassFile.FieldType.int) [((0 : Nat), (12 : Nat), (15 : Nat), (23 : Nat)), ((0 : Nat), (12 : Nat), (19 : Nat), (13 : Nat))]) ∈ lw_all := lw_g (lw_at lw_m7 14 rfl) rfl
theorem q1543 : (Jvm.Cond.methodLink "PetitionDeskLaw" (46 : Nat) ({ cls := "PetitionDesk", name := "line", desc := "(III)I" } : Jvm.MethodName)) ∈ lw_all := lw_g (lw_at lw_m7 15 rfl) rfl
theorem q1554 : (Jvm.Cond.methodLink "PetitionDeskLaw" (128 : Nat) ({ cls := "PetitionDeskLaw", name := "judged", desc := "(LPetitionDesk;I[J)I" } : Jvm.MethodName)) ∈ lw_all := lw_g (lw_at lw_m7 26 rfl) rfl
theorem q1555 : (Jvm.Cond.static ({ cls := "PetitionDeskLaw", name := "judged", desc := "(LPetitionDesk;I[J)I" } : Jvm.MethodName)) ∈ lw_all := lw_g (lw_at lw_m7 27 rfl) rfl
theorem q1556 : (Jvm.Cond.codeWith ({ cls := "PetitionDeskLaw", name := "judged", desc := "(LPetitionDesk;I[J)I" } : Jvm.MethodName) method_13_code (4 : Nat) (Option.some Jvm.ClassFile.FieldType.int) [((0 : Nat), (9 : Nat), (12 : Nat), (13 : Nat))]) ∈ lw_all := lw_g (lw_at lw_m7 28 rfl) rfl
theorem q1557 : (Jvm.Cond.methodLink "PetitionDeskLaw" (49 : Nat) ({ cls := "PetitionDesk", name := "judged", desc := "(I)I" } : Jvm.MethodName)) ∈ lw_all := lw_g (lw_at lw_m7 29 rfl) rfl
theorem q1561 : (Jvm.Cond.methodLink "PetitionDeskLaw" (135 : Nat) ({ cls := "PetitionDeskLaw", name := "drawn", desc := "(LPetitionDesk;II[J)I" } : Jvm.MethodName)) ∈ lw_all := lw_g (lw_at lw_m7 33 rfl) rfl
theorem q1562 : (Jvm.Cond.static ({ cls := "PetitionDeskLaw", name := "drawn", desc := "(LPetitionDesk;II[J)I" } : Jvm.MethodName)) ∈ lw_all := lw_g (lw_at lw_m7 34 rfl) rfl
theorem q1563 : (Jvm.Cond.codeWith ({ cls := "PetitionDeskLaw", name := "drawn", desc := "(LPetitionDesk;II[J)I" } : Jvm.MethodName) method_14_code (5 : Nat) (Option.some Jvm.ClassFile.FieldType.int) [((0 : Nat), (10 : Nat), (13 : Nat), (13 : Nat))]) ∈ lw_all := lw_g (lw_at lw_m7 35 rfl) rfl
theorem q1564 : (Jvm.Cond.methodLink "PetitionDeskLaw" (52 : Nat) ({ cls := "PetitionDesk", name := "drawn", desc := "(II)I" } : Jvm.MethodName)) ∈ lw_all := lw_g (lw_at lw_m7 36 rfl) rfl
theorem q1582 : (Jvm.Cond.methodLink "PetitionDeskLaw" (138 : Nat) ({ cls := "PetitionDeskLaw", name := "estimate", desc := "(LPetitionDesk;II[J)I" } : Jvm.MethodName)) ∈ lw_all := lw_g (lw_at lw_m7 54 rfl) rfl
theorem q1583 : (Jvm.Cond.static ({ cls := "PetitionDeskLaw", name := "estimate", desc := "(LPetitionDesk;II[J)I" } : Jvm.MethodName)) ∈ lw_all := lw_g (lw_at lw_m7 55 rfl) rfl
theorem q1584 : (Jvm.Cond.codeWith ({ cls := "PetitionDeskLaw", name := "estimate", desc := "(LPetitionDesk;II[J)I" } : Jvm.MethodName) method_15_code (5 : Nat) (Option.some Jvm.ClassFile.FieldType.int) [((0 : Nat), (9 : Nat), (12 : Nat), (13 : Nat)), ((0 : Nat), (9 : Nat), (16 : Nat), (28 : Nat))]) ∈ lw_all := lw_g (lw_at lw_m7 56 rfl) rfl
theorem q1585 : (Jvm.Cond.methodLink "PetitionDeskLaw" (55 : Nat) ({ cls := "PetitionDesk", name := "estimate", desc := "(II)J" } : Jvm.MethodName)) ∈ lw_all := lw_g (lw_at lw_m7 57 rfl) rfl
theorem q1598 : (Jvm.Cond.methodLink "PetitionDeskLaw" (141 : Nat) ({ cls := "PetitionDeskLaw", name := "unlike", desc := "(LPetitionDesk;I[J)I" } : Jvm.MethodName)) ∈ lw_all := lw_g (lw_at lw_m7 70 rfl) rfl
theorem q1599 : (Jvm.Cond.static ({ cls := "PetitionDeskLaw", name := "unlike", desc := "(LPetitionDesk;I[J)I" } : Jvm.MethodName)) ∈ lw_all := lw_g (lw_at lw_m7 71 rfl) rfl
theorem q1600 : (Jvm.Cond.codeWith ({ cls := "PetitionDeskLaw", name := "unlike", desc := "(LPetitionDesk;I[J)I" } : Jvm.MethodName) method_16_code (4 : Nat) (Option.some Jvm.ClassFile.FieldType.int) [((0 : Nat), (9 : Nat), (12 : Nat), (13 : Nat))]) ∈ lw_all := lw_g (lw_at lw_m7 72 rfl) rfl
theorem q1601 : (Jvm.Cond.methodLink "PetitionDeskLaw" (59 : Nat) ({ cls := "PetitionDesk", name := "unlike", desc := "(I)I" } : Jvm.MethodName)) ∈ lw_all := lw_g (lw_at lw_m7 73 rfl) rfl
theorem q1605 : (Jvm.Cond.methodLink "PetitionDeskLaw" (144 : Nat) ({ cls := "PetitionDeskLaw", name := "unseen", desc := "(LPetitionDesk;II[J)I" } : Jvm.MethodName)) ∈ lw_all := lw_g (lw_at lw_m7 77 rfl) rfl
theorem q1606 : (Jvm.Cond.static ({ cls := "PetitionDeskLaw", name := "unseen", desc := "(LPetitionDesk;II[J)I" } : Jvm.MethodName)) ∈ lw_all := lw_g (lw_at lw_m7 78 rfl) rfl
theorem q1607 : (Jvm.Cond.codeWith ({ cls := "PetitionDeskLaw", name := "unseen", desc := "(LPetitionDesk;II[J)I" } : Jvm.MethodName) method_17_code (5 : Nat) (Option.some Jvm.ClassFile.FieldType.int) [((0 : Nat), (9 : Nat), (12 : Nat), (13 : Nat))]) ∈ lw_all := lw_g (lw_at lw_m7 79 rfl) rfl
theorem q1608 : (Jvm.Cond.methodLink "PetitionDeskLaw" (62 : Nat) ({ cls := "PetitionDesk", name := "unseen", desc := "(II)J" } : Jvm.MethodName)) ∈ lw_all := lw_g (lw_at lw_m7 80 rfl) rfl
theorem q1613 : (Jvm.Cond.methodLink "PetitionDeskLaw" (151 : Nat) ({ cls := "PetitionDeskLaw", name := "worst", desc := "(LPetitionDesk;II[J)I" } : Jvm.MethodName)) ∈ lw_all := lw_g (lw_at lw_m7 85 rfl) rfl
theorem q1614 : (Jvm.Cond.static ({ cls := "PetitionDeskLaw", name := "worst", desc := "(LPetitionDesk;II[J)I" } : Jvm.MethodName)) ∈ lw_all := lw_g (lw_at lw_m7 86 rfl) rfl
theorem q1615 : (Jvm.Cond.codeWith ({ cls := "PetitionDeskLaw", name := "worst", desc := "(LPetitionDesk;II[J)I" } : Jvm.MethodName) method_18_code (5 : Nat) (Option.some Jvm.ClassFile.FieldType.int) [((0 : Nat), (10 : Nat), (13 : Nat), (13 : Nat))]) ∈ lw_all := lw_g (lw_at lw_m7 87 rfl) rfl
theorem q1616 : (Jvm.Cond.methodLink "PetitionDeskLaw" (65 : Nat) ({ cls := "PetitionDesk", name := "worst", desc := "(II)I" } : Jvm.MethodName)) ∈ lw_all := lw_g (lw_at lw_m7 88 rfl) rfl
theorem q1631 : (Jvm.Cond.methodLink "PetitionDeskLaw" (154 : Nat) ({ cls := "PetitionDeskLaw", name := "cost", desc := "(LPetitionDesk;I[J)I" } : Jvm.MethodName)) ∈ lw_all := lw_g (lw_at lw_m7 103 rfl) rfl
theorem q1632 : (Jvm.Cond.static ({ cls := "PetitionDeskLaw", name := "cost", desc := "(LPetitionDesk;I[J)I" } : Jvm.MethodName)) ∈ lw_all := lw_g (lw_at lw_m7 104 rfl) rfl
theorem q1633 : (Jvm.Cond.codeWith ({ cls := "PetitionDeskLaw", name := "cost", desc := "(LPetitionDesk;I[J)I" } : Jvm.MethodName) method_19_code (4 : Nat) (Option.some Jvm.ClassFile.FieldType.int) [((0 : Nat), (9 : Nat), (12 : Nat), (13 : Nat))]) ∈ lw_all := lw_g (lw_at lw_m7 105 rfl) rfl
theorem q1634 : (Jvm.Cond.methodLink "PetitionDeskLaw" (68 : Nat) ({ cls := "PetitionDesk", name := "cost", desc := "(I)I" } : Jvm.MethodName)) ∈ lw_all := lw_g (lw_at lw_m7 106 rfl) rfl
theorem q1658 : (Jvm.Cond.classLink "PetitionDeskLaw" (72 : Nat) "PetitionDeskModel") ∈ lw_all := lw_g (lw_at lw_m7 130 rfl) rfl
theorem q1660 : (Jvm.Cond.methodLink "PetitionDeskLaw" (74 : Nat) ({ cls := "PetitionDeskModel", name := "<init>", desc := "()V" } : Jvm.MethodName)) ∈ lw_all := lw_g (lw_at lw_m7 132 rfl) rfl
theorem q1733 : (Jvm.Cond.methodLink "PetitionDeskLaw" (86 : Nat) ({ cls := "PetitionDeskModel", name := "thrown", desc := "()I" } : Jvm.MethodName)) ∈ lw_all := lw_g (lw_at lw_m7 205 rfl) rfl
theorem q1737 : (Jvm.Cond.methodLink "PetitionDeskLaw" (79 : Nat) ({ cls := "PetitionDeskModel", name := "feed", desc := "(IIIII)I" } : Jvm.MethodName)) ∈ lw_all := lw_g (lw_at lw_m7 209 rfl) rfl
theorem q1741 : (Jvm.Cond.methodLink "PetitionDeskLaw" (85 : Nat) ({ cls := "PetitionDeskModel", name := "text", desc := "(I)I" } : Jvm.MethodName)) ∈ lw_all := lw_g (lw_at lw_m7 213 rfl) rfl
theorem q1875 : (Jvm.Cond.methodLink "PetitionDeskLaw" (93 : Nat) ({ cls := "PetitionDeskModel", name := "fault", desc := "()I" } : Jvm.MethodName)) ∈ lw_all := lw_g (lw_at lw_m8 107 rfl) rfl
theorem q1879 : (Jvm.Cond.methodLink "PetitionDeskLaw" (112 : Nat) ({ cls := "PetitionDeskModel", name := "undo", desc := "()I" } : Jvm.MethodName)) ∈ lw_all := lw_g (lw_at lw_m8 111 rfl) rfl
theorem q1883 : (Jvm.Cond.methodLink "PetitionDeskLaw" (97 : Nat) ({ cls := "PetitionDeskModel", name := "sample", desc := "(III)I" } : Jvm.MethodName)) ∈ lw_all := lw_g (lw_at lw_m8 115 rfl) rfl
theorem q1918 : (Jvm.Cond.methodLink "PetitionDeskLaw" (101 : Nat) ({ cls := "PetitionDeskModel", name := "strike", desc := "(IZ)I" } : Jvm.MethodName)) ∈ lw_all := lw_g (lw_at lw_m8 150 rfl) rfl
theorem q1926 : (Jvm.Cond.methodLink "PetitionDeskLaw" (104 : Nat) ({ cls := "PetitionDeskModel", name := "sign", desc := "(III)I" } : Jvm.MethodName)) ∈ lw_all := lw_g (lw_at lw_m8 158 rfl) rfl
theorem q1951 : (Jvm.Cond.methodLink "PetitionDeskLaw" (108 : Nat) ({ cls := "PetitionDeskModel", name := "erase", desc := "(II)I" } : Jvm.MethodName)) ∈ lw_all := lw_g (lw_at lw_m8 183 rfl) rfl
theorem q1959 : (Jvm.Cond.methodLink "PetitionDeskLaw" (115 : Nat) ({ cls := "PetitionDeskModel", name := "told", desc := "(I)I" } : Jvm.MethodName)) ∈ lw_all := lw_g (lw_at lw_m8 191 rfl) rfl
theorem q1964 : (Jvm.Cond.methodLink "PetitionDeskLaw" (118 : Nat) ({ cls := "PetitionDeskModel", name := "voter", desc := "(II)I" } : Jvm.MethodName)) ∈ lw_all := lw_g (lw_at lw_m8 196 rfl) rfl
theorem q1969 : (Jvm.Cond.methodLink "PetitionDeskLaw" (121 : Nat) ({ cls := "PetitionDeskModel", name := "letter", desc := "(II)I" } : Jvm.MethodName)) ∈ lw_all := lw_g (lw_at lw_m8 201 rfl) rfl
theorem q1973 : (Jvm.Cond.methodLink "PetitionDeskLaw" (124 : Nat) ({ cls := "PetitionDeskModel", name := "sheet", desc := "(II)I" } : Jvm.MethodName)) ∈ lw_all := lw_g (lw_at lw_m8 205 rfl) rfl
theorem q1978 : (Jvm.Cond.methodLink "PetitionDeskLaw" (127 : Nat) ({ cls := "PetitionDeskModel", name := "line", desc := "(III)I" } : Jvm.MethodName)) ∈ lw_all := lw_g (lw_at lw_m8 210 rfl) rfl
theorem q1983 : (Jvm.Cond.methodLink "PetitionDeskLaw" (130 : Nat) ({ cls := "PetitionDeskModel", name := "judged", desc := "(I)I" } : Jvm.MethodName)) ∈ lw_all := lw_g (lw_at lw_m8 215 rfl) rfl
theorem q1991 : (Jvm.Cond.methodLink "PetitionDeskLaw" (134 : Nat) ({ cls := "PetitionDeskModel", name := "passes", desc := "()I" } : Jvm.MethodName)) ∈ lw_all := lw_g (lw_at lw_m8 223 rfl) rfl
theorem q1995 : (Jvm.Cond.methodLink "PetitionDeskLaw" (137 : Nat) ({ cls := "PetitionDeskModel", name := "drawn", desc := "(II)I" } : Jvm.MethodName)) ∈ lw_all := lw_g (lw_at lw_m8 227 rfl) rfl
theorem q2027 : (Jvm.Cond.methodLink "PetitionDeskLaw" (140 : Nat) ({ cls := "PetitionDeskModel", name := "estimate", desc := "(II)J" } : Jvm.MethodName)) ∈ lw_all := lw_g (lw_at lw_m9 19 rfl) rfl
theorem q2034 : (Jvm.Cond.methodLink "PetitionDeskLaw" (143 : Nat) ({ cls := "PetitionDeskModel", name := "unlike", desc := "(I)I" } : Jvm.MethodName)) ∈ lw_all := lw_g (lw_at lw_m9 26 rfl) rfl
theorem q2045 : (Jvm.Cond.methodLink "PetitionDeskLaw" (146 : Nat) ({ cls := "PetitionDeskModel", name := "unseen", desc := "(II)J" } : Jvm.MethodName)) ∈ lw_all := lw_g (lw_at lw_m9 37 rfl) rfl
theorem q2053 : (Jvm.Cond.methodLink "PetitionDeskLaw" (150 : Nat) ({ cls := "PetitionDeskModel", name := "fewest", desc := "()I" } : Jvm.MethodName)) ∈ lw_all := lw_g (lw_at lw_m9 45 rfl) rfl
theorem q2057 : (Jvm.Cond.methodLink "PetitionDeskLaw" (153 : Nat) ({ cls := "PetitionDeskModel", name := "worst", desc := "(II)I" } : Jvm.MethodName)) ∈ lw_all := lw_g (lw_at lw_m9 49 rfl) rfl
theorem q2061 : (Jvm.Cond.methodLink "PetitionDeskLaw" (156 : Nat) ({ cls := "PetitionDeskModel", name := "cost", desc := "(I)I" } : Jvm.MethodName)) ∈ lw_all := lw_g (lw_at lw_m9 53 rfl) rfl
theorem q2066 : (Jvm.Cond.methodLink "PetitionDeskLaw" (161 : Nat) ({ cls := "PetitionDeskModel", name := "print", desc := "()J" } : Jvm.MethodName)) ∈ lw_all := lw_g (lw_at lw_m9 58 rfl) rfl
theorem q2071 : (Jvm.Cond.methodLink "PetitionDeskLaw" (165 : Nat) ({ cls := "PetitionDeskModel", name := "status", desc := "(I)I" } : Jvm.MethodName)) ∈ lw_all := lw_g (lw_at lw_m9 63 rfl) rfl
/-! PetitionDesk$Petition$1 -/
set_option maxRecDepth 100000
def RX3 : String := "PetitionDesk$Petition$1"
def TX3 : u_T := fun k => match k with
  | 0 => ("PetitionDesk$Petition$1", "sheet", "I", false)
  | 1 => ("PetitionDesk$Petition$1", "line", "I", false)
  | _ => ("PetitionDesk$Petition$1", "this$0", "LPetitionDesk$Petition;", true)
def tyX3 : Nat → FieldType := fun k => match k with
  | 0 => .int
  | 1 => .int
  | _ => .object "PetitionDesk$Petition"
abbrev wsX30 : List Cond := u_ws RX3 TX3 3
theorem nmX3 : ∀ a, a < 3 → ∀ b, b < 3 → a ≠ b → (TX3 a).2.1 ≠ (TX3 b).2.1 := by decide +kernel
theorem tyX3_ok : ∀ k, k < 3 → parseFieldDescriptor (TX3 k).2.2.1 = some (tyX3 k) := by decide +kernel
abbrev cX3_init : ByteArray := prog_4_method_1_code
def yX3_init : MethodName := ⟨RX3, "<init>", "(LPetitionDesk$Petition;)V"⟩
def dkwX3_init_0 : List UInt8 := [42, 43, 181, 0, 1, 42, 183, 0, 7, 177]
abbrev dktX3_init_0 : List UInt8 := dkwX3_init_0 ++ []
theorem dksX3_init_0 : cX3_init.data.toList.drop 0 = dktX3_init_0 := by decide +kernel
theorem dX3_init_0 : decode cX3_init 0 = .ok (.aload_n 0, 1) := dk_42 (dk_at dksX3_init_0 0 rfl rfl)
theorem dX3_init_1 : decode cX3_init 1 = .ok (.aload_n 1, 1) := dk_43 (dk_at dksX3_init_0 1 rfl rfl)
theorem dX3_init_2 : decode cX3_init 2 = .ok (.putfield 1, 3) := dk_181 0 1 (dk_at dksX3_init_0 2 rfl rfl)
theorem dX3_init_5 : decode cX3_init 5 = .ok (.aload_n 0, 1) := dk_42 (dk_at dksX3_init_0 5 rfl rfl)
theorem dX3_init_6 : decode cX3_init 6 = .ok (.invokespecial 7, 3) := dk_183 0 7 (dk_at dksX3_init_0 6 rfl rfl)
theorem dX3_init_9 : decode cX3_init 9 = .ok (.return_, 1) := dk_177 (dk_at dksX3_init_0 9 rfl rfl)
abbrev cX3_hasNext : ByteArray := prog_4_method_2_code
def yX3_hasNext : MethodName := ⟨RX3, "hasNext", "()Z"⟩
def dkwX3_hasNext_4 : List UInt8 := [167, 0, 4, 3, 172]
abbrev dktX3_hasNext_4 : List UInt8 := dkwX3_hasNext_4 ++ []
def dkwX3_hasNext_3 : List UInt8 := [167, 255, 188, 42, 180, 0, 13, 42, 180, 0, 1, 180, 0, 17, 185, 0, 23, 1, 0, 162, 0, 7, 4]
abbrev dktX3_hasNext_3 : List UInt8 := dkwX3_hasNext_3 ++ dktX3_hasNext_4
def dkwX3_hasNext_2 : List UInt8 := [185, 0, 23, 1, 0, 160, 0, 21, 42, 89, 180, 0, 13, 4, 96, 181, 0, 13, 42, 3, 181, 0, 29]
abbrev dktX3_hasNext_2 : List UInt8 := dkwX3_hasNext_2 ++ dktX3_hasNext_3
def dkwX3_hasNext_1 : List UInt8 := [180, 0, 1, 180, 0, 17, 42, 180, 0, 13, 185, 0, 32, 2, 0, 192, 0, 36, 180, 0, 38]
abbrev dktX3_hasNext_1 : List UInt8 := dkwX3_hasNext_1 ++ dktX3_hasNext_2
def dkwX3_hasNext_0 : List UInt8 := [42, 180, 0, 13, 42, 180, 0, 1, 180, 0, 17, 185, 0, 23, 1, 0, 162, 0, 55, 42, 180, 0, 29, 42]
abbrev dktX3_hasNext_0 : List UInt8 := dkwX3_hasNext_0 ++ dktX3_hasNext_1
theorem dksX3_hasNext_0 : cX3_hasNext.data.toList.drop 0 = dktX3_hasNext_0 := by decide +kernel
theorem dksX3_hasNext_1 : cX3_hasNext.data.toList.drop 24 = dktX3_hasNext_1 := dk_seg dksX3_hasNext_0 24 rfl rfl
theorem dksX3_hasNext_2 : cX3_hasNext.data.toList.drop 45 = dktX3_hasNext_2 := dk_seg dksX3_hasNext_1 21 rfl rfl
theorem dksX3_hasNext_3 : cX3_hasNext.data.toList.drop 68 = dktX3_hasNext_3 := dk_seg dksX3_hasNext_2 23 rfl rfl
theorem dksX3_hasNext_4 : cX3_hasNext.data.toList.drop 91 = dktX3_hasNext_4 := dk_seg dksX3_hasNext_3 23 rfl rfl
theorem dX3_hasNext_0 : decode cX3_hasNext 0 = .ok (.aload_n 0, 1) := dk_42 (dk_at dksX3_hasNext_0 0 rfl rfl)
theorem dX3_hasNext_1 : decode cX3_hasNext 1 = .ok (.getfield 13, 3) := dk_180 0 13 (dk_at dksX3_hasNext_0 1 rfl rfl)
theorem dX3_hasNext_4 : decode cX3_hasNext 4 = .ok (.aload_n 0, 1) := dk_42 (dk_at dksX3_hasNext_0 4 rfl rfl)
theorem dX3_hasNext_5 : decode cX3_hasNext 5 = .ok (.getfield 1, 3) := dk_180 0 1 (dk_at dksX3_hasNext_0 5 rfl rfl)
theorem dX3_hasNext_8 : decode cX3_hasNext 8 = .ok (.getfield 17, 3) := dk_180 0 17 (dk_at dksX3_hasNext_0 8 rfl rfl)
theorem dX3_hasNext_11 : decode cX3_hasNext 11 = .ok (.invokeinterface 23 1, 5) := by decide +kernel
theorem dX3_hasNext_16 : decode cX3_hasNext 16 = .ok (.if_icmp .ge 55, 3) := dk_162 0 55 (dk_at dksX3_hasNext_0 16 rfl rfl)
theorem dX3_hasNext_19 : decode cX3_hasNext 19 = .ok (.aload_n 0, 1) := dk_42 (dk_at dksX3_hasNext_0 19 rfl rfl)
theorem dX3_hasNext_20 : decode cX3_hasNext 20 = .ok (.getfield 29, 3) := dk_180 0 29 (dk_at dksX3_hasNext_0 20 rfl rfl)
theorem dX3_hasNext_23 : decode cX3_hasNext 23 = .ok (.aload_n 0, 1) := dk_42 (dk_at dksX3_hasNext_0 23 rfl rfl)
theorem dX3_hasNext_24 : decode cX3_hasNext 24 = .ok (.getfield 1, 3) := dk_180 0 1 (dk_at dksX3_hasNext_1 0 rfl rfl)
theorem dX3_hasNext_27 : decode cX3_hasNext 27 = .ok (.getfield 17, 3) := dk_180 0 17 (dk_at dksX3_hasNext_1 3 rfl rfl)
theorem dX3_hasNext_30 : decode cX3_hasNext 30 = .ok (.aload_n 0, 1) := dk_42 (dk_at dksX3_hasNext_1 6 rfl rfl)
theorem dX3_hasNext_31 : decode cX3_hasNext 31 = .ok (.getfield 13, 3) := dk_180 0 13 (dk_at dksX3_hasNext_1 7 rfl rfl)
theorem dX3_hasNext_34 : decode cX3_hasNext 34 = .ok (.invokeinterface 32 2, 5) := by decide +kernel
theorem dX3_hasNext_39 : decode cX3_hasNext 39 = .ok (.checkcast 36, 3) := dk_192 0 36 (dk_at dksX3_hasNext_1 15 rfl rfl)
theorem dX3_hasNext_42 : decode cX3_hasNext 42 = .ok (.getfield 38, 3) := dk_180 0 38 (dk_at dksX3_hasNext_1 18 rfl rfl)
theorem dX3_hasNext_45 : decode cX3_hasNext 45 = .ok (.invokeinterface 23 1, 5) := by decide +kernel
theorem dX3_hasNext_50 : decode cX3_hasNext 50 = .ok (.if_icmp .ne 21, 3) := dk_160 0 21 (dk_at dksX3_hasNext_2 5 rfl rfl)
theorem dX3_hasNext_53 : decode cX3_hasNext 53 = .ok (.aload_n 0, 1) := dk_42 (dk_at dksX3_hasNext_2 8 rfl rfl)
theorem dX3_hasNext_54 : decode cX3_hasNext 54 = .ok (.dup, 1) := dk_89 (dk_at dksX3_hasNext_2 9 rfl rfl)
theorem dX3_hasNext_55 : decode cX3_hasNext 55 = .ok (.getfield 13, 3) := dk_180 0 13 (dk_at dksX3_hasNext_2 10 rfl rfl)
theorem dX3_hasNext_58 : decode cX3_hasNext 58 = .ok (.iconst 1, 1) := dk_4 (dk_at dksX3_hasNext_2 13 rfl rfl)
theorem dX3_hasNext_59 : decode cX3_hasNext 59 = .ok (.iadd, 1) := dk_96 (dk_at dksX3_hasNext_2 14 rfl rfl)
theorem dX3_hasNext_60 : decode cX3_hasNext 60 = .ok (.putfield 13, 3) := dk_181 0 13 (dk_at dksX3_hasNext_2 15 rfl rfl)
theorem dX3_hasNext_63 : decode cX3_hasNext 63 = .ok (.aload_n 0, 1) := dk_42 (dk_at dksX3_hasNext_2 18 rfl rfl)
theorem dX3_hasNext_64 : decode cX3_hasNext 64 = .ok (.iconst 0, 1) := dk_3 (dk_at dksX3_hasNext_2 19 rfl rfl)
theorem dX3_hasNext_65 : decode cX3_hasNext 65 = .ok (.putfield 29, 3) := dk_181 0 29 (dk_at dksX3_hasNext_2 20 rfl rfl)
theorem dX3_hasNext_68 : decode cX3_hasNext 68 = .ok (.goto (-68), 3) := dk_167 255 188 (dk_at dksX3_hasNext_3 0 rfl rfl)
theorem dX3_hasNext_71 : decode cX3_hasNext 71 = .ok (.aload_n 0, 1) := dk_42 (dk_at dksX3_hasNext_3 3 rfl rfl)
theorem dX3_hasNext_72 : decode cX3_hasNext 72 = .ok (.getfield 13, 3) := dk_180 0 13 (dk_at dksX3_hasNext_3 4 rfl rfl)
theorem dX3_hasNext_75 : decode cX3_hasNext 75 = .ok (.aload_n 0, 1) := dk_42 (dk_at dksX3_hasNext_3 7 rfl rfl)
theorem dX3_hasNext_76 : decode cX3_hasNext 76 = .ok (.getfield 1, 3) := dk_180 0 1 (dk_at dksX3_hasNext_3 8 rfl rfl)
theorem dX3_hasNext_79 : decode cX3_hasNext 79 = .ok (.getfield 17, 3) := dk_180 0 17 (dk_at dksX3_hasNext_3 11 rfl rfl)
theorem dX3_hasNext_82 : decode cX3_hasNext 82 = .ok (.invokeinterface 23 1, 5) := by decide +kernel
theorem dX3_hasNext_87 : decode cX3_hasNext 87 = .ok (.if_icmp .ge 7, 3) := dk_162 0 7 (dk_at dksX3_hasNext_3 19 rfl rfl)
theorem dX3_hasNext_90 : decode cX3_hasNext 90 = .ok (.iconst 1, 1) := dk_4 (dk_at dksX3_hasNext_3 22 rfl rfl)
theorem dX3_hasNext_91 : decode cX3_hasNext 91 = .ok (.goto 4, 3) := dk_167 0 4 (dk_at dksX3_hasNext_4 0 rfl rfl)
theorem dX3_hasNext_94 : decode cX3_hasNext 94 = .ok (.iconst 0, 1) := dk_3 (dk_at dksX3_hasNext_4 3 rfl rfl)
theorem dX3_hasNext_95 : decode cX3_hasNext 95 = .ok (.ireturn, 1) := dk_172 (dk_at dksX3_hasNext_4 4 rfl rfl)
abbrev cX3_next : ByteArray := prog_4_method_4_code
def yX3_next : MethodName := ⟨RX3, "next", "()Ljava/lang/Object;"⟩
theorem dX3_next_0 : decode cX3_next 0 = .ok (.aload_n 0, 1) := by decide +kernel
theorem dX3_next_1 : decode cX3_next 1 = .ok (.invokevirtual 50, 3) := by decide +kernel
theorem dX3_next_4 : decode cX3_next 4 = .ok (.areturn, 1) := by decide +kernel
abbrev cX3_next_2 : ByteArray := prog_4_method_3_code
def yX3_next_2 : MethodName := ⟨RX3, "next", "()LPetitionDesk$Line;"⟩
def dkwX3_next_2_2 : List UInt8 := [181, 0, 29, 185, 0, 32, 2, 0, 192, 0, 48, 176]
abbrev dktX3_next_2_2 : List UInt8 := dkwX3_next_2_2 ++ []
def dkwX3_next_2_1 : List UInt8 := [180, 0, 13, 185, 0, 32, 2, 0, 192, 0, 36, 180, 0, 38, 42, 89, 180, 0, 29, 90, 4, 96]
abbrev dktX3_next_2_1 : List UInt8 := dkwX3_next_2_1 ++ dktX3_next_2_2
def dkwX3_next_2_0 : List UInt8 := [42, 182, 0, 41, 154, 0, 11, 187, 0, 45, 89, 183, 0, 47, 191, 42, 180, 0, 1, 180, 0, 17, 42]
abbrev dktX3_next_2_0 : List UInt8 := dkwX3_next_2_0 ++ dktX3_next_2_1
theorem dksX3_next_2_0 : cX3_next_2.data.toList.drop 0 = dktX3_next_2_0 := by decide +kernel
theorem dksX3_next_2_1 : cX3_next_2.data.toList.drop 23 = dktX3_next_2_1 := dk_seg dksX3_next_2_0 23 rfl rfl
theorem dksX3_next_2_2 : cX3_next_2.data.toList.drop 45 = dktX3_next_2_2 := dk_seg dksX3_next_2_1 22 rfl rfl
theorem dX3_next_2_0 : decode cX3_next_2 0 = .ok (.aload_n 0, 1) := dk_42 (dk_at dksX3_next_2_0 0 rfl rfl)
theorem dX3_next_2_1 : decode cX3_next_2 1 = .ok (.invokevirtual 41, 3) := dk_182 0 41 (dk_at dksX3_next_2_0 1 rfl rfl)
theorem dX3_next_2_4 : decode cX3_next_2 4 = .ok (.ifCond .ne 11, 3) := dk_154 0 11 (dk_at dksX3_next_2_0 4 rfl rfl)
theorem dX3_next_2_7 : decode cX3_next_2 7 = .ok (.new 45, 3) := dk_187 0 45 (dk_at dksX3_next_2_0 7 rfl rfl)
theorem dX3_next_2_10 : decode cX3_next_2 10 = .ok (.dup, 1) := dk_89 (dk_at dksX3_next_2_0 10 rfl rfl)
theorem dX3_next_2_11 : decode cX3_next_2 11 = .ok (.invokespecial 47, 3) := dk_183 0 47 (dk_at dksX3_next_2_0 11 rfl rfl)
theorem dX3_next_2_14 : decode cX3_next_2 14 = .ok (.athrow, 1) := dk_191 (dk_at dksX3_next_2_0 14 rfl rfl)
theorem dX3_next_2_15 : decode cX3_next_2 15 = .ok (.aload_n 0, 1) := dk_42 (dk_at dksX3_next_2_0 15 rfl rfl)
theorem dX3_next_2_16 : decode cX3_next_2 16 = .ok (.getfield 1, 3) := dk_180 0 1 (dk_at dksX3_next_2_0 16 rfl rfl)
theorem dX3_next_2_19 : decode cX3_next_2 19 = .ok (.getfield 17, 3) := dk_180 0 17 (dk_at dksX3_next_2_0 19 rfl rfl)
theorem dX3_next_2_22 : decode cX3_next_2 22 = .ok (.aload_n 0, 1) := dk_42 (dk_at dksX3_next_2_0 22 rfl rfl)
theorem dX3_next_2_23 : decode cX3_next_2 23 = .ok (.getfield 13, 3) := dk_180 0 13 (dk_at dksX3_next_2_1 0 rfl rfl)
theorem dX3_next_2_26 : decode cX3_next_2 26 = .ok (.invokeinterface 32 2, 5) := by decide +kernel
theorem dX3_next_2_31 : decode cX3_next_2 31 = .ok (.checkcast 36, 3) := dk_192 0 36 (dk_at dksX3_next_2_1 8 rfl rfl)
theorem dX3_next_2_34 : decode cX3_next_2 34 = .ok (.getfield 38, 3) := dk_180 0 38 (dk_at dksX3_next_2_1 11 rfl rfl)
theorem dX3_next_2_37 : decode cX3_next_2 37 = .ok (.aload_n 0, 1) := dk_42 (dk_at dksX3_next_2_1 14 rfl rfl)
theorem dX3_next_2_38 : decode cX3_next_2 38 = .ok (.dup, 1) := dk_89 (dk_at dksX3_next_2_1 15 rfl rfl)
theorem dX3_next_2_39 : decode cX3_next_2 39 = .ok (.getfield 29, 3) := dk_180 0 29 (dk_at dksX3_next_2_1 16 rfl rfl)
theorem dX3_next_2_42 : decode cX3_next_2 42 = .ok (.dup_x1, 1) := dk_90 (dk_at dksX3_next_2_1 19 rfl rfl)
theorem dX3_next_2_43 : decode cX3_next_2 43 = .ok (.iconst 1, 1) := dk_4 (dk_at dksX3_next_2_1 20 rfl rfl)
theorem dX3_next_2_44 : decode cX3_next_2 44 = .ok (.iadd, 1) := dk_96 (dk_at dksX3_next_2_1 21 rfl rfl)
theorem dX3_next_2_45 : decode cX3_next_2 45 = .ok (.putfield 29, 3) := dk_181 0 29 (dk_at dksX3_next_2_2 0 rfl rfl)
theorem dX3_next_2_48 : decode cX3_next_2 48 = .ok (.invokeinterface 32 2, 5) := by decide +kernel
theorem dX3_next_2_53 : decode cX3_next_2 53 = .ok (.checkcast 48, 3) := dk_192 0 48 (dk_at dksX3_next_2_2 8 rfl rfl)
theorem dX3_next_2_56 : decode cX3_next_2 56 = .ok (.areturn, 1) := dk_176 (dk_at dksX3_next_2_2 11 rfl rfl)
theorem q96 : (Jvm.Cond.initialized "PetitionDesk$Petition$1") ∈ lw_all := lw_g (lw_at lw_m1 8 rfl) rfl
theorem q180 : (Jvm.Cond.fieldLinkNest "PetitionDesk$Petition$1" (17 : Nat) "PetitionDesk$Petition" "sheets" "Ljava/util/List;" "PetitionDesk") ∈ lw_tbl := lw_at lw_m1 92 rfl
theorem q270 : (Jvm.Cond.instantiable "PetitionDesk$Petition$1" (3 : Nat)) ∈ lw_all := lw_g (lw_at lw_m1 182 rfl) rfl
theorem q272 : (Jvm.Cond.instanceMethod ({ cls := "PetitionDesk$Petition$1", name := "<init>", desc := "(LPetitionDesk$Petition;)V" } : Jvm.MethodName)) ∈ lw_all := lw_g (lw_at lw_m1 184 rfl) rfl
theorem q273 : (Jvm.Cond.code ({ cls := "PetitionDesk$Petition$1", name := "<init>", desc := "(LPetitionDesk$Petition;)V" } : Jvm.MethodName) prog_4_method_1_code (2 : Nat) (Option.none : Option Jvm.ClassFile.FieldType)) ∈ lw_all := lw_g (lw_at lw_m1 185 rfl) rfl
theorem q274 : (Jvm.Cond.methodLink "PetitionDesk$Petition$1" (7 : Nat) ({ cls := "java/lang/Object", name := "<init>", desc := "()V" } : Jvm.MethodName)) ∈ lw_all := lw_g (lw_at lw_m1 186 rfl) rfl
theorem q275 : (Jvm.Cond.fieldLink "PetitionDesk$Petition$1" (13 : Nat) "PetitionDesk$Petition$1" "sheet" "I") ∈ lw_all := lw_g (lw_at lw_m1 187 rfl) rfl
theorem q276 : (Jvm.Cond.fieldLink "PetitionDesk$Petition$1" (29 : Nat) "PetitionDesk$Petition$1" "line" "I") ∈ lw_all := lw_g (lw_at lw_m1 188 rfl) rfl
theorem q277 : (Jvm.Cond.fieldLink "PetitionDesk$Petition$1" (1 : Nat) "PetitionDesk$Petition$1" "this$0" "LPetitionDesk$Petition;") ∈ lw_all := lw_g (lw_at lw_m1 189 rfl) rfl
theorem q278 : (Jvm.Cond.lays "PetitionDesk$Petition$1" "PetitionDesk$Petition$1" "sheet" "I") ∈ lw_all := lw_g (lw_at lw_m1 190 rfl) rfl
theorem q279 : (Jvm.Cond.soleField "PetitionDesk$Petition$1" "sheet") ∈ lw_all := lw_g (lw_at lw_m1 191 rfl) rfl
theorem q280 : (Jvm.Cond.lays "PetitionDesk$Petition$1" "PetitionDesk$Petition$1" "line" "I") ∈ lw_all := lw_g (lw_at lw_m1 192 rfl) rfl
theorem q281 : (Jvm.Cond.soleField "PetitionDesk$Petition$1" "line") ∈ lw_all := lw_g (lw_at lw_m1 193 rfl) rfl
theorem q282 : (Jvm.Cond.laysFinal "PetitionDesk$Petition$1" "PetitionDesk$Petition$1" "this$0" "LPetitionDesk$Petition;") ∈ lw_all := lw_g (lw_at lw_m1 194 rfl) rfl
theorem q283 : (Jvm.Cond.soleField "PetitionDesk$Petition$1" "this$0") ∈ lw_all := lw_g (lw_at lw_m1 195 rfl) rfl
theorem q284 : (Jvm.Cond.superclass "PetitionDesk$Petition$1" "java/lang/Object") ∈ lw_all := lw_g (lw_at lw_m1 196 rfl) rfl
theorem q289 : (Jvm.Cond.castable "PetitionDesk$Petition$1" "java/util/Iterator") ∈ lw_tbl := lw_at lw_m1 201 rfl
theorem q290 : (Jvm.Cond.selects "PetitionDesk$Petition$1" ({ cls := "java/util/Iterator", name := "hasNext", desc := "()Z" } : Jvm.MethodName) ({ cls := "PetitionDesk$Petition$1", name := "hasNext", desc := "()Z" } : Jvm.MethodName)) ∈ lw_all := lw_g (lw_at lw_m1 202 rfl) rfl
theorem q291 : (Jvm.Cond.unhidden "PetitionDesk$Petition$1" "hasNext" "()Z") ∈ lw_tbl := lw_at lw_m1 203 rfl
theorem q292 : (Jvm.Cond.instanceMethod ({ cls := "PetitionDesk$Petition$1", name := "hasNext", desc := "()Z" } : Jvm.MethodName)) ∈ lw_all := lw_g (lw_at lw_m1 204 rfl) rfl
theorem q293 : (Jvm.Cond.publicMethod ({ cls := "PetitionDesk$Petition$1", name := "hasNext", desc := "()Z" } : Jvm.MethodName)) ∈ lw_tbl := lw_at lw_m1 205 rfl
theorem q294 : (Jvm.Cond.code ({ cls := "PetitionDesk$Petition$1", name := "hasNext", desc := "()Z" } : Jvm.MethodName) prog_4_method_2_code (1 : Nat) (Option.some Jvm.ClassFile.FieldType.boolean)) ∈ lw_all := lw_g (lw_at lw_m1 206 rfl) rfl
theorem q295 : (Jvm.Cond.interfaceEntry "PetitionDesk$Petition$1" (23 : Nat)) ∈ lw_tbl := lw_at lw_m1 207 rfl
theorem q296 : (Jvm.Cond.methodLink "PetitionDesk$Petition$1" (23 : Nat) ({ cls := "java/util/List", name := "size", desc := "()I" } : Jvm.MethodName)) ∈ lw_all := lw_g (lw_at lw_m1 208 rfl) rfl
theorem q297 : (Jvm.Cond.interfaceEntry "PetitionDesk$Petition$1" (32 : Nat)) ∈ lw_tbl := lw_at lw_m1 209 rfl
theorem q298 : (Jvm.Cond.methodLink "PetitionDesk$Petition$1" (32 : Nat) ({ cls := "java/util/List", name := "get", desc := "(I)Ljava/lang/Object;" } : Jvm.MethodName)) ∈ lw_all := lw_g (lw_at lw_m1 210 rfl) rfl
theorem q299 : (Jvm.Cond.classLink "PetitionDesk$Petition$1" (36 : Nat) "PetitionDesk$Sheet") ∈ lw_all := lw_g (lw_at lw_m1 211 rfl) rfl
theorem q310 : (Jvm.Cond.selects "PetitionDesk$Petition$1" ({ cls := "java/util/Iterator", name := "next", desc := "()Ljava/lang/Object;" } : Jvm.MethodName) ({ cls := "PetitionDesk$Petition$1", name := "next", desc := "()Ljava/lang/Object;" } : Jvm.MethodName)) ∈ lw_all := lw_g (lw_at lw_m1 222 rfl) rfl
theorem q311 : (Jvm.Cond.unhidden "PetitionDesk$Petition$1" "next" "()Ljava/lang/Object;") ∈ lw_tbl := lw_at lw_m1 223 rfl
theorem q312 : (Jvm.Cond.instanceMethod ({ cls := "PetitionDesk$Petition$1", name := "next", desc := "()Ljava/lang/Object;" } : Jvm.MethodName)) ∈ lw_all := lw_g (lw_at lw_m1 224 rfl) rfl
theorem q313 : (Jvm.Cond.publicMethod ({ cls := "PetitionDesk$Petition$1", name := "next", desc := "()Ljava/lang/Object;" } : Jvm.MethodName)) ∈ lw_tbl := lw_at lw_m1 225 rfl
theorem q314 : (Jvm.Cond.code ({ cls := "PetitionDesk$Petition$1", name := "next", desc := "()Ljava/lang/Object;" } : Jvm.MethodName) prog_4_method_4_code (1 : Nat) (Option.some (Jvm.ClassFile.FieldType.object "java/lang/Object"))) ∈ lw_all := lw_g (lw_at lw_m1 226 rfl) rfl
theorem q315 : (Jvm.Cond.methodLink "PetitionDesk$Petition$1" (50 : Nat) ({ cls := "PetitionDesk$Petition$1", name := "next", desc := "()LPetitionDesk$Line;" } : Jvm.MethodName)) ∈ lw_all := lw_g (lw_at lw_m1 227 rfl) rfl
theorem q316 : (Jvm.Cond.instanceMethod ({ cls := "PetitionDesk$Petition$1", name := "next", desc := "()LPetitionDesk$Line;" } : Jvm.MethodName)) ∈ lw_all := lw_g (lw_at lw_m1 228 rfl) rfl
theorem q317 : (Jvm.Cond.selects "PetitionDesk$Petition$1" ({ cls := "PetitionDesk$Petition$1", name := "next", desc := "()LPetitionDesk$Line;" } : Jvm.MethodName) ({ cls := "PetitionDesk$Petition$1", name := "next", desc := "()LPetitionDesk$Line;" } : Jvm.MethodName)) ∈ lw_all := lw_g (lw_at lw_m1 229 rfl) rfl
theorem q318 : (Jvm.Cond.code ({ cls := "PetitionDesk$Petition$1", name := "next", desc := "()LPetitionDesk$Line;" } : Jvm.MethodName) prog_4_method_3_code (1 : Nat) (Option.some (Jvm.ClassFile.FieldType.object "PetitionDesk$Line"))) ∈ lw_all := lw_g (lw_at lw_m1 230 rfl) rfl
theorem q319 : (Jvm.Cond.methodLink "PetitionDesk$Petition$1" (41 : Nat) ({ cls := "PetitionDesk$Petition$1", name := "hasNext", desc := "()Z" } : Jvm.MethodName)) ∈ lw_all := lw_g (lw_at lw_m1 231 rfl) rfl
theorem q320 : (Jvm.Cond.classLink "PetitionDesk$Petition$1" (45 : Nat) "java/util/NoSuchElementException") ∈ lw_all := lw_g (lw_at lw_m1 232 rfl) rfl
theorem q363 : (Jvm.Cond.methodLink "PetitionDesk$Petition$1" (47 : Nat) ({ cls := "java/util/NoSuchElementException", name := "<init>", desc := "()V" } : Jvm.MethodName)) ∈ lw_all := lw_g (lw_at lw_m2 35 rfl) rfl
theorem q386 : (Jvm.Cond.classLink "PetitionDesk$Petition$1" (48 : Nat) "PetitionDesk$Line") ∈ lw_all := lw_g (lw_at lw_m2 58 rfl) rfl
theorem q489 : (Jvm.Cond.selects "PetitionDesk$Petition$1" ({ cls := "java/lang/Object", name := "equals", desc := "(Ljava/lang/Object;)Z" } : Jvm.MethodName) ({ cls := "java/lang/Object", name := "equals", desc := "(Ljava/lang/Object;)Z" } : Jvm.MethodName)) ∈ lw_all := lw_g (lw_at lw_m2 161 rfl) rfl
theorem q1158 : (Jvm.Cond.selects "PetitionDesk$Petition$1" ({ cls := "java/lang/Object", name := "getClass", desc := "()Ljava/lang/Class;" } : Jvm.MethodName) ({ cls := "java/lang/Object", name := "getClass", desc := "()Ljava/lang/Class;" } : Jvm.MethodName)) ∈ lw_all := lw_g (lw_at lw_m5 110 rfl) rfl
theorem q1191 : (Jvm.Cond.fieldLinkNest "PetitionDesk$Petition$1" (38 : Nat) "PetitionDesk$Sheet" "lines" "Ljava/util/List;" "PetitionDesk") ∈ lw_tbl := lw_at lw_m5 143 rfl
theorem q2076 : (Jvm.Cond.selects "PetitionDesk$Petition$1" ({ cls := "PetitionDesk$Petition$1", name := "hasNext", desc := "()Z" } : Jvm.MethodName) ({ cls := "PetitionDesk$Petition$1", name := "hasNext", desc := "()Z" } : Jvm.MethodName)) ∈ lw_all := lw_g (lw_at lw_m9 68 rfl) rfl
theorem q2092 : (Jvm.Cond.castable "PetitionDesk$Petition$1" "java/lang/Object") ∈ lw_tbl := lw_at lw_m9 84 rfl
theorem in_X3 : ∀ w ∈ wsX30, w ∈ lw_all := lw_in wsX30 [278, 280, 282] (by decide +kernel) (by decide +kernel)
/-! PetitionDesk$Wrong -/
set_option maxRecDepth 100000
def RX6 : String := "PetitionDesk$Wrong"
def TX6 : u_T := fun k => match k with
  | 0 => ("java/lang/Throwable", "cause", "Ljava/lang/Throwable;", false)
  | 1 => ("java/lang/Throwable", "stackTrace", "[Ljava/lang/StackTraceElement;", false)
  | 2 => ("java/lang/Throwable", "suppressedExceptions", "Ljava/util/List;", false)
  | 3 => ("java/lang/Throwable", "detailMessage", "Ljava/lang/String;", false)
  | 4 => ("java/lang/Throwable", "backtrace", "Ljava/lang/Object;", false)
  | 5 => ("java/lang/Throwable", "depth", "I", false)
  | 6 => ("PetitionDesk$Wrong", "kind", "I", true)
  | _ => ("PetitionDesk$Wrong", "place", "I", true)
def tyX6 : Nat → FieldType := fun k => match k with
  | 0 => .object "java/lang/Throwable"
  | 1 => .array (.object "java/lang/StackTraceElement")
  | 2 => .object "java/util/List"
  | 3 => .object "java/lang/String"
  | 4 => .object "java/lang/Object"
  | 5 => .int
  | 6 => .int
  | _ => .int
abbrev wsX60 : List Cond := u_ws RX6 TX6 8
theorem nmX6 : ∀ a, a < 8 → ∀ b, b < 8 → a ≠ b → (TX6 a).2.1 ≠ (TX6 b).2.1 := by decide +kernel
theorem tyX6_ok : ∀ k, k < 8 → parseFieldDescriptor (TX6 k).2.2.1 = some (tyX6 k) := by decide +kernel
abbrev cX6_init : ByteArray := prog_10_method_1_code
def yX6_init : MethodName := ⟨RX6, "<init>", "(II)V"⟩
def dkwX6_init_0 : List UInt8 := [42, 1, 1, 3, 3, 183, 0, 1, 42, 27, 181, 0, 7, 42, 28, 181, 0, 13, 177]
abbrev dktX6_init_0 : List UInt8 := dkwX6_init_0 ++ []
theorem dksX6_init_0 : cX6_init.data.toList.drop 0 = dktX6_init_0 := by decide +kernel
theorem dX6_init_0 : decode cX6_init 0 = .ok (.aload_n 0, 1) := dk_42 (dk_at dksX6_init_0 0 rfl rfl)
theorem dX6_init_1 : decode cX6_init 1 = .ok (.aconst_null, 1) := dk_1 (dk_at dksX6_init_0 1 rfl rfl)
theorem dX6_init_2 : decode cX6_init 2 = .ok (.aconst_null, 1) := dk_1 (dk_at dksX6_init_0 2 rfl rfl)
theorem dX6_init_3 : decode cX6_init 3 = .ok (.iconst 0, 1) := dk_3 (dk_at dksX6_init_0 3 rfl rfl)
theorem dX6_init_4 : decode cX6_init 4 = .ok (.iconst 0, 1) := dk_3 (dk_at dksX6_init_0 4 rfl rfl)
theorem dX6_init_5 : decode cX6_init 5 = .ok (.invokespecial 1, 3) := dk_183 0 1 (dk_at dksX6_init_0 5 rfl rfl)
theorem dX6_init_8 : decode cX6_init 8 = .ok (.aload_n 0, 1) := dk_42 (dk_at dksX6_init_0 8 rfl rfl)
theorem dX6_init_9 : decode cX6_init 9 = .ok (.iload_n 1, 1) := dk_27 (dk_at dksX6_init_0 9 rfl rfl)
theorem dX6_init_10 : decode cX6_init 10 = .ok (.putfield 7, 3) := dk_181 0 7 (dk_at dksX6_init_0 10 rfl rfl)
theorem dX6_init_13 : decode cX6_init 13 = .ok (.aload_n 0, 1) := dk_42 (dk_at dksX6_init_0 13 rfl rfl)
theorem dX6_init_14 : decode cX6_init 14 = .ok (.iload_n 2, 1) := dk_28 (dk_at dksX6_init_0 14 rfl rfl)
theorem dX6_init_15 : decode cX6_init 15 = .ok (.putfield 13, 3) := dk_181 0 13 (dk_at dksX6_init_0 15 rfl rfl)
theorem dX6_init_18 : decode cX6_init 18 = .ok (.return_, 1) := dk_177 (dk_at dksX6_init_0 18 rfl rfl)
theorem q116 : (Jvm.Cond.initialized "PetitionDesk$Wrong") ∈ lw_all := lw_g (lw_at lw_m1 28 rfl) rfl
theorem q353 : (Jvm.Cond.selects "PetitionDesk$Wrong" ({ cls := "java/lang/Throwable", name := "fillInStackTrace", desc := "()Ljava/lang/Throwable;" } : Jvm.MethodName) ({ cls := "java/lang/Throwable", name := "fillInStackTrace", desc := "()Ljava/lang/Throwable;" } : Jvm.MethodName)) ∈ lw_all := lw_g (lw_at lw_m2 25 rfl) rfl
theorem q506 : (Jvm.Cond.selects "PetitionDesk$Wrong" ({ cls := "java/lang/Object", name := "equals", desc := "(Ljava/lang/Object;)Z" } : Jvm.MethodName) ({ cls := "java/lang/Object", name := "equals", desc := "(Ljava/lang/Object;)Z" } : Jvm.MethodName)) ∈ lw_all := lw_g (lw_at lw_m2 178 rfl) rfl
theorem q1046 : (Jvm.Cond.instantiable "PetitionDesk$Wrong" (8 : Nat)) ∈ lw_all := lw_g (lw_at lw_m4 238 rfl) rfl
theorem q1047 : (Jvm.Cond.castable "PetitionDesk$Wrong" "PetitionDesk$Wrong") ∈ lw_tbl := lw_at lw_m4 239 rfl
theorem q1048 : (Jvm.Cond.selects "PetitionDesk$Wrong" ({ cls := "java/lang/Throwable", name := "fillInStackTrace", desc := "(I)Ljava/lang/Throwable;" } : Jvm.MethodName) ({ cls := "java/lang/Throwable", name := "fillInStackTrace", desc := "(I)Ljava/lang/Throwable;" } : Jvm.MethodName)) ∈ lw_all := lw_g (lw_at lw_m5 0 rfl) rfl
theorem q1049 : (Jvm.Cond.lays "PetitionDesk$Wrong" "java/lang/Throwable" "cause" "Ljava/lang/Throwable;") ∈ lw_all := lw_g (lw_at lw_m5 1 rfl) rfl
theorem q1050 : (Jvm.Cond.lays "PetitionDesk$Wrong" "java/lang/Throwable" "stackTrace" "[Ljava/lang/StackTraceElement;") ∈ lw_all := lw_g (lw_at lw_m5 2 rfl) rfl
theorem q1051 : (Jvm.Cond.lays "PetitionDesk$Wrong" "java/lang/Throwable" "suppressedExceptions" "Ljava/util/List;") ∈ lw_all := lw_g (lw_at lw_m5 3 rfl) rfl
theorem q1052 : (Jvm.Cond.lays "PetitionDesk$Wrong" "java/lang/Throwable" "detailMessage" "Ljava/lang/String;") ∈ lw_all := lw_g (lw_at lw_m5 4 rfl) rfl
theorem q1053 : (Jvm.Cond.lays "PetitionDesk$Wrong" "java/lang/Throwable" "backtrace" "Ljava/lang/Object;") ∈ lw_all := lw_g (lw_at lw_m5 5 rfl) rfl
theorem q1055 : (Jvm.Cond.instanceMethod ({ cls := "PetitionDesk$Wrong", name := "<init>", desc := "(II)V" } : Jvm.MethodName)) ∈ lw_all := lw_g (lw_at lw_m5 7 rfl) rfl
theorem q1056 : (Jvm.Cond.code ({ cls := "PetitionDesk$Wrong", name := "<init>", desc := "(II)V" } : Jvm.MethodName) prog_10_method_1_code (3 : Nat) (Option.none : Option Jvm.ClassFile.FieldType)) ∈ lw_all := lw_g (lw_at lw_m5 8 rfl) rfl
theorem q1057 : (Jvm.Cond.methodLink "PetitionDesk$Wrong" (1 : Nat) ({ cls := "java/lang/Exception", name := "<init>", desc := "(Ljava/lang/String;Ljava/lang/Throwable;ZZ)V" } : Jvm.MethodName)) ∈ lw_all := lw_g (lw_at lw_m5 9 rfl) rfl
theorem q1063 : (Jvm.Cond.fieldLink "PetitionDesk$Wrong" (7 : Nat) "PetitionDesk$Wrong" "kind" "I") ∈ lw_all := lw_g (lw_at lw_m5 15 rfl) rfl
theorem q1065 : (Jvm.Cond.fieldLink "PetitionDesk$Wrong" (13 : Nat) "PetitionDesk$Wrong" "place" "I") ∈ lw_all := lw_g (lw_at lw_m5 17 rfl) rfl
theorem q1067 : (Jvm.Cond.laysFinal "PetitionDesk$Wrong" "PetitionDesk$Wrong" "kind" "I") ∈ lw_all := lw_g (lw_at lw_m5 19 rfl) rfl
theorem q1068 : (Jvm.Cond.soleField "PetitionDesk$Wrong" "kind") ∈ lw_all := lw_g (lw_at lw_m5 20 rfl) rfl
theorem q1069 : (Jvm.Cond.laysFinal "PetitionDesk$Wrong" "PetitionDesk$Wrong" "place" "I") ∈ lw_all := lw_g (lw_at lw_m5 21 rfl) rfl
theorem q1070 : (Jvm.Cond.soleField "PetitionDesk$Wrong" "place") ∈ lw_all := lw_g (lw_at lw_m5 22 rfl) rfl
theorem q1071 : (Jvm.Cond.lays "PetitionDesk$Wrong" "java/lang/Throwable" "depth" "I") ∈ lw_all := lw_g (lw_at lw_m5 23 rfl) rfl
theorem q1072 : (Jvm.Cond.superclass "PetitionDesk$Wrong" "java/lang/Exception") ∈ lw_all := lw_g (lw_at lw_m5 24 rfl) rfl
theorem q1162 : (Jvm.Cond.selects "PetitionDesk$Wrong" ({ cls := "java/lang/Object", name := "getClass", desc := "()Ljava/lang/Class;" } : Jvm.MethodName) ({ cls := "java/lang/Object", name := "getClass", desc := "()Ljava/lang/Class;" } : Jvm.MethodName)) ∈ lw_all := lw_g (lw_at lw_m5 114 rfl) rfl
theorem q2101 : (Jvm.Cond.castable "PetitionDesk$Wrong" "java/lang/Object") ∈ lw_tbl := lw_at lw_m9 93 rfl
theorem in_X6 : ∀ w ∈ wsX60, w ∈ lw_all := lw_in wsX60 [1049, 1050, 1051, 1052, 1053, 1071, 1067, 1069] (by decide +kernel) (by decide +kernel)
/-! PetitionDesk$Voter -/
set_option maxRecDepth 100000
def RX7 : String := "PetitionDesk$Voter"
def TX7 : u_T := fun k => match k with
  | 0 => ("PetitionDesk$Voter", "name", "Ljava/lang/String;", true)
  | 1 => ("PetitionDesk$Voter", "street", "I", true)
  | _ => ("PetitionDesk$Voter", "since", "I", true)
def tyX7 : Nat → FieldType := fun k => match k with
  | 0 => .object "java/lang/String"
  | 1 => .int
  | _ => .int
abbrev wsX70 : List Cond := u_ws RX7 TX7 3
theorem nmX7 : ∀ a, a < 3 → ∀ b, b < 3 → a ≠ b → (TX7 a).2.1 ≠ (TX7 b).2.1 := by decide +kernel
theorem tyX7_ok : ∀ k, k < 3 → parseFieldDescriptor (TX7 k).2.2.1 = some (tyX7 k) := by decide +kernel
abbrev cX7_equals : ByteArray := prog_9_method_5_code
def yX7_equals : MethodName := ⟨RX7, "equals", "(Ljava/lang/Object;)Z"⟩
def dkwX7_equals_0 : List UInt8 := [42, 43, 186, 0, 34, 0, 0, 172]
abbrev dktX7_equals_0 : List UInt8 := dkwX7_equals_0 ++ []
theorem dksX7_equals_0 : cX7_equals.data.toList.drop 0 = dktX7_equals_0 := by decide +kernel
theorem dX7_equals_0 : decode cX7_equals 0 = .ok (.aload_n 0, 1) := dk_42 (dk_at dksX7_equals_0 0 rfl rfl)
theorem dX7_equals_1 : decode cX7_equals 1 = .ok (.aload_n 1, 1) := dk_43 (dk_at dksX7_equals_0 1 rfl rfl)
theorem dX7_equals_2 : decode cX7_equals 2 = .ok (.invokedynamic 34, 5) := by decide +kernel
theorem dX7_equals_7 : decode cX7_equals 7 = .ok (.ireturn, 1) := dk_172 (dk_at dksX7_equals_0 7 rfl rfl)
abbrev cX7_isAt : ByteArray := prog_9_method_2_code
def yX7_isAt : MethodName := ⟨RX7, "isAt", "(Ljava/lang/String;I)Z"⟩
def dkwX7_isAt_1 : List UInt8 := [172]
abbrev dktX7_isAt_1 : List UInt8 := dkwX7_isAt_1 ++ []
def dkwX7_isAt_0 : List UInt8 := [42, 180, 0, 7, 43, 182, 0, 20, 153, 0, 15, 42, 180, 0, 13, 28, 160, 0, 7, 4, 167, 0, 4, 3]
abbrev dktX7_isAt_0 : List UInt8 := dkwX7_isAt_0 ++ dktX7_isAt_1
theorem dksX7_isAt_0 : cX7_isAt.data.toList.drop 0 = dktX7_isAt_0 := by decide +kernel
theorem dksX7_isAt_1 : cX7_isAt.data.toList.drop 24 = dktX7_isAt_1 := dk_seg dksX7_isAt_0 24 rfl rfl
theorem dX7_isAt_0 : decode cX7_isAt 0 = .ok (.aload_n 0, 1) := dk_42 (dk_at dksX7_isAt_0 0 rfl rfl)
theorem dX7_isAt_1 : decode cX7_isAt 1 = .ok (.getfield 7, 3) := dk_180 0 7 (dk_at dksX7_isAt_0 1 rfl rfl)
theorem dX7_isAt_4 : decode cX7_isAt 4 = .ok (.aload_n 1, 1) := dk_43 (dk_at dksX7_isAt_0 4 rfl rfl)
theorem dX7_isAt_5 : decode cX7_isAt 5 = .ok (.invokevirtual 20, 3) := dk_182 0 20 (dk_at dksX7_isAt_0 5 rfl rfl)
theorem dX7_isAt_8 : decode cX7_isAt 8 = .ok (.ifCond .eq 15, 3) := dk_153 0 15 (dk_at dksX7_isAt_0 8 rfl rfl)
theorem dX7_isAt_11 : decode cX7_isAt 11 = .ok (.aload_n 0, 1) := dk_42 (dk_at dksX7_isAt_0 11 rfl rfl)
theorem dX7_isAt_12 : decode cX7_isAt 12 = .ok (.getfield 13, 3) := dk_180 0 13 (dk_at dksX7_isAt_0 12 rfl rfl)
theorem dX7_isAt_15 : decode cX7_isAt 15 = .ok (.iload_n 2, 1) := dk_28 (dk_at dksX7_isAt_0 15 rfl rfl)
theorem dX7_isAt_16 : decode cX7_isAt 16 = .ok (.if_icmp .ne 7, 3) := dk_160 0 7 (dk_at dksX7_isAt_0 16 rfl rfl)
theorem dX7_isAt_19 : decode cX7_isAt 19 = .ok (.iconst 1, 1) := dk_4 (dk_at dksX7_isAt_0 19 rfl rfl)
theorem dX7_isAt_20 : decode cX7_isAt 20 = .ok (.goto 4, 3) := dk_167 0 4 (dk_at dksX7_isAt_0 20 rfl rfl)
theorem dX7_isAt_23 : decode cX7_isAt 23 = .ok (.iconst 0, 1) := dk_3 (dk_at dksX7_isAt_0 23 rfl rfl)
theorem dX7_isAt_24 : decode cX7_isAt 24 = .ok (.ireturn, 1) := dk_172 (dk_at dksX7_isAt_1 0 rfl rfl)
abbrev cX7_init : ByteArray := prog_9_method_1_code
def yX7_init : MethodName := ⟨RX7, "<init>", "(Ljava/lang/String;II)V"⟩
def dkwX7_init_0 : List UInt8 := [42, 183, 0, 1, 42, 43, 181, 0, 7, 42, 28, 181, 0, 13, 42, 29, 181, 0, 17, 177]
abbrev dktX7_init_0 : List UInt8 := dkwX7_init_0 ++ []
theorem dksX7_init_0 : cX7_init.data.toList.drop 0 = dktX7_init_0 := by decide +kernel
theorem dX7_init_0 : decode cX7_init 0 = .ok (.aload_n 0, 1) := dk_42 (dk_at dksX7_init_0 0 rfl rfl)
theorem dX7_init_1 : decode cX7_init 1 = .ok (.invokespecial 1, 3) := dk_183 0 1 (dk_at dksX7_init_0 1 rfl rfl)
theorem dX7_init_4 : decode cX7_init 4 = .ok (.aload_n 0, 1) := dk_42 (dk_at dksX7_init_0 4 rfl rfl)
theorem dX7_init_5 : decode cX7_init 5 = .ok (.aload_n 1, 1) := dk_43 (dk_at dksX7_init_0 5 rfl rfl)
theorem dX7_init_6 : decode cX7_init 6 = .ok (.putfield 7, 3) := dk_181 0 7 (dk_at dksX7_init_0 6 rfl rfl)
theorem dX7_init_9 : decode cX7_init 9 = .ok (.aload_n 0, 1) := dk_42 (dk_at dksX7_init_0 9 rfl rfl)
theorem dX7_init_10 : decode cX7_init 10 = .ok (.iload_n 2, 1) := dk_28 (dk_at dksX7_init_0 10 rfl rfl)
theorem dX7_init_11 : decode cX7_init 11 = .ok (.putfield 13, 3) := dk_181 0 13 (dk_at dksX7_init_0 11 rfl rfl)
theorem dX7_init_14 : decode cX7_init 14 = .ok (.aload_n 0, 1) := dk_42 (dk_at dksX7_init_0 14 rfl rfl)
theorem dX7_init_15 : decode cX7_init 15 = .ok (.iload_n 3, 1) := dk_29 (dk_at dksX7_init_0 15 rfl rfl)
theorem dX7_init_16 : decode cX7_init 16 = .ok (.putfield 17, 3) := dk_181 0 17 (dk_at dksX7_init_0 16 rfl rfl)
theorem dX7_init_19 : decode cX7_init 19 = .ok (.return_, 1) := dk_177 (dk_at dksX7_init_0 19 rfl rfl)
theorem q118 : (Jvm.Cond.initialized "PetitionDesk$Voter") ∈ lw_all := lw_g (lw_at lw_m1 30 rfl) rfl
theorem q492 : (Jvm.Cond.selects "PetitionDesk$Voter" ({ cls := "java/lang/Object", name := "equals", desc := "(Ljava/lang/Object;)Z" } : Jvm.MethodName) ({ cls := "PetitionDesk$Voter", name := "equals", desc := "(Ljava/lang/Object;)Z" } : Jvm.MethodName)) ∈ lw_all := lw_g (lw_at lw_m2 164 rfl) rfl
theorem q493 : (Jvm.Cond.instanceMethod ({ cls := "PetitionDesk$Voter", name := "equals", desc := "(Ljava/lang/Object;)Z" } : Jvm.MethodName)) ∈ lw_all := lw_g (lw_at lw_m2 165 rfl) rfl
theorem q494 : (Jvm.Cond.code ({ cls := "PetitionDesk$Voter", name := "equals", desc := "(Ljava/lang/Object;)Z" } : Jvm.MethodName) prog_9_method_5_code (2 : Nat) (Option.some Jvm.ClassFile.FieldType.boolean)) ∈ lw_all := lw_g (lw_at lw_m2 166 rfl) rfl
theorem q1099 : (Jvm.Cond.instanceMethod ({ cls := "PetitionDesk$Voter", name := "isAt", desc := "(Ljava/lang/String;I)Z" } : Jvm.MethodName)) ∈ lw_all := lw_g (lw_at lw_m5 51 rfl) rfl
theorem q1100 : (Jvm.Cond.selects "PetitionDesk$Voter" ({ cls := "PetitionDesk$Voter", name := "isAt", desc := "(Ljava/lang/String;I)Z" } : Jvm.MethodName) ({ cls := "PetitionDesk$Voter", name := "isAt", desc := "(Ljava/lang/String;I)Z" } : Jvm.MethodName)) ∈ lw_all := lw_g (lw_at lw_m5 52 rfl) rfl
theorem q1101 : (Jvm.Cond.code ({ cls := "PetitionDesk$Voter", name := "isAt", desc := "(Ljava/lang/String;I)Z" } : Jvm.MethodName) prog_9_method_2_code (3 : Nat) (Option.some Jvm.ClassFile.FieldType.boolean)) ∈ lw_all := lw_g (lw_at lw_m5 53 rfl) rfl
theorem q1102 : (Jvm.Cond.methodLink "PetitionDesk$Voter" (20 : Nat) ({ cls := "java/lang/String", name := "equals", desc := "(Ljava/lang/Object;)Z" } : Jvm.MethodName)) ∈ lw_all := lw_g (lw_at lw_m5 54 rfl) rfl
theorem q1104 : (Jvm.Cond.instantiable "PetitionDesk$Voter" (3 : Nat)) ∈ lw_all := lw_g (lw_at lw_m5 56 rfl) rfl
theorem q1106 : (Jvm.Cond.instanceMethod ({ cls := "PetitionDesk$Voter", name := "<init>", desc := "(Ljava/lang/String;II)V" } : Jvm.MethodName)) ∈ lw_all := lw_g (lw_at lw_m5 58 rfl) rfl
theorem q1107 : (Jvm.Cond.code ({ cls := "PetitionDesk$Voter", name := "<init>", desc := "(Ljava/lang/String;II)V" } : Jvm.MethodName) prog_9_method_1_code (4 : Nat) (Option.none : Option Jvm.ClassFile.FieldType)) ∈ lw_all := lw_g (lw_at lw_m5 59 rfl) rfl
theorem q1108 : (Jvm.Cond.methodLink "PetitionDesk$Voter" (1 : Nat) ({ cls := "java/lang/Record", name := "<init>", desc := "()V" } : Jvm.MethodName)) ∈ lw_all := lw_g (lw_at lw_m5 60 rfl) rfl
theorem q1112 : (Jvm.Cond.fieldLink "PetitionDesk$Voter" (7 : Nat) "PetitionDesk$Voter" "name" "Ljava/lang/String;") ∈ lw_all := lw_g (lw_at lw_m5 64 rfl) rfl
theorem q1114 : (Jvm.Cond.fieldLink "PetitionDesk$Voter" (13 : Nat) "PetitionDesk$Voter" "street" "I") ∈ lw_all := lw_g (lw_at lw_m5 66 rfl) rfl
theorem q1116 : (Jvm.Cond.fieldLink "PetitionDesk$Voter" (17 : Nat) "PetitionDesk$Voter" "since" "I") ∈ lw_all := lw_g (lw_at lw_m5 68 rfl) rfl
theorem q1120 : (Jvm.Cond.laysFinal "PetitionDesk$Voter" "PetitionDesk$Voter" "name" "Ljava/lang/String;") ∈ lw_all := lw_g (lw_at lw_m5 72 rfl) rfl
theorem q1121 : (Jvm.Cond.soleField "PetitionDesk$Voter" "name") ∈ lw_all := lw_g (lw_at lw_m5 73 rfl) rfl
theorem q1122 : (Jvm.Cond.laysFinal "PetitionDesk$Voter" "PetitionDesk$Voter" "street" "I") ∈ lw_all := lw_g (lw_at lw_m5 74 rfl) rfl
theorem q1123 : (Jvm.Cond.soleField "PetitionDesk$Voter" "street") ∈ lw_all := lw_g (lw_at lw_m5 75 rfl) rfl
theorem q1124 : (Jvm.Cond.laysFinal "PetitionDesk$Voter" "PetitionDesk$Voter" "since" "I") ∈ lw_all := lw_g (lw_at lw_m5 76 rfl) rfl
theorem q1125 : (Jvm.Cond.soleField "PetitionDesk$Voter" "since") ∈ lw_all := lw_g (lw_at lw_m5 77 rfl) rfl
theorem q1126 : (Jvm.Cond.superclass "PetitionDesk$Voter" "java/lang/Record") ∈ lw_all := lw_g (lw_at lw_m5 78 rfl) rfl
theorem q1161 : (Jvm.Cond.selects "PetitionDesk$Voter" ({ cls := "java/lang/Object", name := "getClass", desc := "()Ljava/lang/Class;" } : Jvm.MethodName) ({ cls := "java/lang/Object", name := "getClass", desc := "()Ljava/lang/Class;" } : Jvm.MethodName)) ∈ lw_all := lw_g (lw_at lw_m5 113 rfl) rfl
theorem q2102 : (Jvm.Cond.castable "PetitionDesk$Voter" "java/lang/Object") ∈ lw_tbl := lw_at lw_m9 94 rfl
theorem in_X7 : ∀ w ∈ wsX70, w ∈ lw_all := lw_in wsX70 [1120, 1122, 1124] (by decide +kernel) (by decide +kernel)
/-! PetitionDesk$Sheet -/
set_option maxRecDepth 100000
def RX8 : String := "PetitionDesk$Sheet"
def TX8 : u_T := fun k => match k with
  | 0 => ("PetitionDesk$Sheet", "lines", "Ljava/util/List;", true)
  | 1 => ("PetitionDesk$Sheet", "byHand", "Z", false)
  | _ => ("PetitionDesk$Sheet", "isStruck", "Z", false)
def tyX8 : Nat → FieldType := fun k => match k with
  | 0 => .object "java/util/List"
  | 1 => .boolean
  | _ => .boolean
abbrev wsX80 : List Cond := u_ws RX8 TX8 3
theorem nmX8 : ∀ a, a < 3 → ∀ b, b < 3 → a ≠ b → (TX8 a).2.1 ≠ (TX8 b).2.1 := by decide +kernel
theorem tyX8_ok : ∀ k, k < 3 → parseFieldDescriptor (TX8 k).2.2.1 = some (tyX8 k) := by decide +kernel
abbrev cX8_spoilt : ByteArray := prog_8_method_3_code
def yX8_spoilt : MethodName := ⟨RX8, "spoilt", "()I"⟩
def dkwX8_spoilt_2 : List UInt8 := [167, 255, 222, 27, 172]
abbrev dktX8_spoilt_2 : List UInt8 := dkwX8_spoilt_2 ++ []
def dkwX8_spoilt_1 : List UInt8 := [185, 0, 29, 1, 0, 192, 0, 33, 78, 27, 45, 182, 0, 47, 153, 0, 7, 4, 167, 0, 4, 3, 96, 60]
abbrev dktX8_spoilt_1 : List UInt8 := dkwX8_spoilt_1 ++ dktX8_spoilt_2
def dkwX8_spoilt_0 : List UInt8 := [3, 60, 42, 180, 0, 10, 185, 0, 17, 1, 0, 77, 44, 185, 0, 23, 1, 0, 153, 0, 31, 44]
abbrev dktX8_spoilt_0 : List UInt8 := dkwX8_spoilt_0 ++ dktX8_spoilt_1
theorem dksX8_spoilt_0 : cX8_spoilt.data.toList.drop 0 = dktX8_spoilt_0 := by decide +kernel
theorem dksX8_spoilt_1 : cX8_spoilt.data.toList.drop 22 = dktX8_spoilt_1 := dk_seg dksX8_spoilt_0 22 rfl rfl
theorem dksX8_spoilt_2 : cX8_spoilt.data.toList.drop 46 = dktX8_spoilt_2 := dk_seg dksX8_spoilt_1 24 rfl rfl
theorem dX8_spoilt_0 : decode cX8_spoilt 0 = .ok (.iconst 0, 1) := dk_3 (dk_at dksX8_spoilt_0 0 rfl rfl)
theorem dX8_spoilt_1 : decode cX8_spoilt 1 = .ok (.istore_n 1, 1) := dk_60 (dk_at dksX8_spoilt_0 1 rfl rfl)
theorem dX8_spoilt_2 : decode cX8_spoilt 2 = .ok (.aload_n 0, 1) := dk_42 (dk_at dksX8_spoilt_0 2 rfl rfl)
theorem dX8_spoilt_3 : decode cX8_spoilt 3 = .ok (.getfield 10, 3) := dk_180 0 10 (dk_at dksX8_spoilt_0 3 rfl rfl)
theorem dX8_spoilt_6 : decode cX8_spoilt 6 = .ok (.invokeinterface 17 1, 5) := by decide +kernel
theorem dX8_spoilt_11 : decode cX8_spoilt 11 = .ok (.astore_n 2, 1) := dk_77 (dk_at dksX8_spoilt_0 11 rfl rfl)
theorem dX8_spoilt_12 : decode cX8_spoilt 12 = .ok (.aload_n 2, 1) := dk_44 (dk_at dksX8_spoilt_0 12 rfl rfl)
theorem dX8_spoilt_13 : decode cX8_spoilt 13 = .ok (.invokeinterface 23 1, 5) := by decide +kernel
theorem dX8_spoilt_18 : decode cX8_spoilt 18 = .ok (.ifCond .eq 31, 3) := dk_153 0 31 (dk_at dksX8_spoilt_0 18 rfl rfl)
theorem dX8_spoilt_21 : decode cX8_spoilt 21 = .ok (.aload_n 2, 1) := dk_44 (dk_at dksX8_spoilt_0 21 rfl rfl)
theorem dX8_spoilt_22 : decode cX8_spoilt 22 = .ok (.invokeinterface 29 1, 5) := by decide +kernel
theorem dX8_spoilt_27 : decode cX8_spoilt 27 = .ok (.checkcast 33, 3) := dk_192 0 33 (dk_at dksX8_spoilt_1 5 rfl rfl)
theorem dX8_spoilt_30 : decode cX8_spoilt 30 = .ok (.astore_n 3, 1) := dk_78 (dk_at dksX8_spoilt_1 8 rfl rfl)
theorem dX8_spoilt_31 : decode cX8_spoilt 31 = .ok (.iload_n 1, 1) := dk_27 (dk_at dksX8_spoilt_1 9 rfl rfl)
theorem dX8_spoilt_32 : decode cX8_spoilt 32 = .ok (.aload_n 3, 1) := dk_45 (dk_at dksX8_spoilt_1 10 rfl rfl)
theorem dX8_spoilt_33 : decode cX8_spoilt 33 = .ok (.invokevirtual 47, 3) := dk_182 0 47 (dk_at dksX8_spoilt_1 11 rfl rfl)
theorem dX8_spoilt_36 : decode cX8_spoilt 36 = .ok (.ifCond .eq 7, 3) := dk_153 0 7 (dk_at dksX8_spoilt_1 14 rfl rfl)
theorem dX8_spoilt_39 : decode cX8_spoilt 39 = .ok (.iconst 1, 1) := dk_4 (dk_at dksX8_spoilt_1 17 rfl rfl)
theorem dX8_spoilt_40 : decode cX8_spoilt 40 = .ok (.goto 4, 3) := dk_167 0 4 (dk_at dksX8_spoilt_1 18 rfl rfl)
theorem dX8_spoilt_43 : decode cX8_spoilt 43 = .ok (.iconst 0, 1) := dk_3 (dk_at dksX8_spoilt_1 21 rfl rfl)
theorem dX8_spoilt_44 : decode cX8_spoilt 44 = .ok (.iadd, 1) := dk_96 (dk_at dksX8_spoilt_1 22 rfl rfl)
theorem dX8_spoilt_45 : decode cX8_spoilt 45 = .ok (.istore_n 1, 1) := dk_60 (dk_at dksX8_spoilt_1 23 rfl rfl)
theorem dX8_spoilt_46 : decode cX8_spoilt 46 = .ok (.goto (-34), 3) := dk_167 255 222 (dk_at dksX8_spoilt_2 0 rfl rfl)
theorem dX8_spoilt_49 : decode cX8_spoilt 49 = .ok (.iload_n 1, 1) := dk_27 (dk_at dksX8_spoilt_2 3 rfl rfl)
theorem dX8_spoilt_50 : decode cX8_spoilt 50 = .ok (.ireturn, 1) := dk_172 (dk_at dksX8_spoilt_2 4 rfl rfl)
abbrev cX8_init : ByteArray := prog_8_method_1_code
def yX8_init : MethodName := ⟨RX8, "<init>", "()V"⟩
def dkwX8_init_0 : List UInt8 := [42, 183, 0, 1, 42, 187, 0, 7, 89, 183, 0, 9, 181, 0, 10, 177]
abbrev dktX8_init_0 : List UInt8 := dkwX8_init_0 ++ []
theorem dksX8_init_0 : cX8_init.data.toList.drop 0 = dktX8_init_0 := by decide +kernel
theorem dX8_init_0 : decode cX8_init 0 = .ok (.aload_n 0, 1) := dk_42 (dk_at dksX8_init_0 0 rfl rfl)
theorem dX8_init_1 : decode cX8_init 1 = .ok (.invokespecial 1, 3) := dk_183 0 1 (dk_at dksX8_init_0 1 rfl rfl)
theorem dX8_init_4 : decode cX8_init 4 = .ok (.aload_n 0, 1) := dk_42 (dk_at dksX8_init_0 4 rfl rfl)
theorem dX8_init_5 : decode cX8_init 5 = .ok (.new 7, 3) := dk_187 0 7 (dk_at dksX8_init_0 5 rfl rfl)
theorem dX8_init_8 : decode cX8_init 8 = .ok (.dup, 1) := dk_89 (dk_at dksX8_init_0 8 rfl rfl)
theorem dX8_init_9 : decode cX8_init 9 = .ok (.invokespecial 9, 3) := dk_183 0 9 (dk_at dksX8_init_0 9 rfl rfl)
theorem dX8_init_12 : decode cX8_init 12 = .ok (.putfield 10, 3) := dk_181 0 10 (dk_at dksX8_init_0 12 rfl rfl)
theorem dX8_init_15 : decode cX8_init 15 = .ok (.return_, 1) := dk_177 (dk_at dksX8_init_0 15 rfl rfl)
abbrev cX8_copy : ByteArray := prog_8_method_2_code
def yX8_copy : MethodName := ⟨RX8, "copy", "()LPetitionDesk$Sheet;"⟩
def dkwX8_copy_2 : List UInt8 := [185, 0, 39, 2, 0, 87, 167, 255, 223, 43, 42, 180, 0, 43, 181, 0, 43, 43, 176]
abbrev dktX8_copy_2 : List UInt8 := dkwX8_copy_2 ++ []
def dkwX8_copy_1 : List UInt8 := [153, 0, 30, 44, 185, 0, 29, 1, 0, 192, 0, 33, 78, 43, 180, 0, 10, 45, 182, 0, 35]
abbrev dktX8_copy_1 : List UInt8 := dkwX8_copy_1 ++ dktX8_copy_2
def dkwX8_copy_0 : List UInt8 := [187, 0, 11, 89, 183, 0, 16, 76, 42, 180, 0, 10, 185, 0, 17, 1, 0, 77, 44, 185, 0, 23, 1, 0]
abbrev dktX8_copy_0 : List UInt8 := dkwX8_copy_0 ++ dktX8_copy_1
theorem dksX8_copy_0 : cX8_copy.data.toList.drop 0 = dktX8_copy_0 := by decide +kernel
theorem dksX8_copy_1 : cX8_copy.data.toList.drop 24 = dktX8_copy_1 := dk_seg dksX8_copy_0 24 rfl rfl
theorem dksX8_copy_2 : cX8_copy.data.toList.drop 45 = dktX8_copy_2 := dk_seg dksX8_copy_1 21 rfl rfl
theorem dX8_copy_0 : decode cX8_copy 0 = .ok (.new 11, 3) := dk_187 0 11 (dk_at dksX8_copy_0 0 rfl rfl)
theorem dX8_copy_3 : decode cX8_copy 3 = .ok (.dup, 1) := dk_89 (dk_at dksX8_copy_0 3 rfl rfl)
theorem dX8_copy_4 : decode cX8_copy 4 = .ok (.invokespecial 16, 3) := dk_183 0 16 (dk_at dksX8_copy_0 4 rfl rfl)
theorem dX8_copy_7 : decode cX8_copy 7 = .ok (.astore_n 1, 1) := dk_76 (dk_at dksX8_copy_0 7 rfl rfl)
theorem dX8_copy_8 : decode cX8_copy 8 = .ok (.aload_n 0, 1) := dk_42 (dk_at dksX8_copy_0 8 rfl rfl)
theorem dX8_copy_9 : decode cX8_copy 9 = .ok (.getfield 10, 3) := dk_180 0 10 (dk_at dksX8_copy_0 9 rfl rfl)
theorem dX8_copy_12 : decode cX8_copy 12 = .ok (.invokeinterface 17 1, 5) := by decide +kernel
theorem dX8_copy_17 : decode cX8_copy 17 = .ok (.astore_n 2, 1) := dk_77 (dk_at dksX8_copy_0 17 rfl rfl)
theorem dX8_copy_18 : decode cX8_copy 18 = .ok (.aload_n 2, 1) := dk_44 (dk_at dksX8_copy_0 18 rfl rfl)
theorem dX8_copy_19 : decode cX8_copy 19 = .ok (.invokeinterface 23 1, 5) := by decide +kernel
theorem dX8_copy_24 : decode cX8_copy 24 = .ok (.ifCond .eq 30, 3) := dk_153 0 30 (dk_at dksX8_copy_1 0 rfl rfl)
theorem dX8_copy_27 : decode cX8_copy 27 = .ok (.aload_n 2, 1) := dk_44 (dk_at dksX8_copy_1 3 rfl rfl)
theorem dX8_copy_28 : decode cX8_copy 28 = .ok (.invokeinterface 29 1, 5) := by decide +kernel
theorem dX8_copy_33 : decode cX8_copy 33 = .ok (.checkcast 33, 3) := dk_192 0 33 (dk_at dksX8_copy_1 9 rfl rfl)
theorem dX8_copy_36 : decode cX8_copy 36 = .ok (.astore_n 3, 1) := dk_78 (dk_at dksX8_copy_1 12 rfl rfl)
theorem dX8_copy_37 : decode cX8_copy 37 = .ok (.aload_n 1, 1) := dk_43 (dk_at dksX8_copy_1 13 rfl rfl)
theorem dX8_copy_38 : decode cX8_copy 38 = .ok (.getfield 10, 3) := dk_180 0 10 (dk_at dksX8_copy_1 14 rfl rfl)
theorem dX8_copy_41 : decode cX8_copy 41 = .ok (.aload_n 3, 1) := dk_45 (dk_at dksX8_copy_1 17 rfl rfl)
theorem dX8_copy_42 : decode cX8_copy 42 = .ok (.invokevirtual 35, 3) := dk_182 0 35 (dk_at dksX8_copy_1 18 rfl rfl)
theorem dX8_copy_45 : decode cX8_copy 45 = .ok (.invokeinterface 39 2, 5) := by decide +kernel
theorem dX8_copy_50 : decode cX8_copy 50 = .ok (.pop, 1) := dk_87 (dk_at dksX8_copy_2 5 rfl rfl)
theorem dX8_copy_51 : decode cX8_copy 51 = .ok (.goto (-33), 3) := dk_167 255 223 (dk_at dksX8_copy_2 6 rfl rfl)
theorem dX8_copy_54 : decode cX8_copy 54 = .ok (.aload_n 1, 1) := dk_43 (dk_at dksX8_copy_2 9 rfl rfl)
theorem dX8_copy_55 : decode cX8_copy 55 = .ok (.aload_n 0, 1) := dk_42 (dk_at dksX8_copy_2 10 rfl rfl)
theorem dX8_copy_56 : decode cX8_copy 56 = .ok (.getfield 43, 3) := dk_180 0 43 (dk_at dksX8_copy_2 11 rfl rfl)
theorem dX8_copy_59 : decode cX8_copy 59 = .ok (.putfield 43, 3) := dk_181 0 43 (dk_at dksX8_copy_2 14 rfl rfl)
theorem dX8_copy_62 : decode cX8_copy 62 = .ok (.aload_n 1, 1) := dk_43 (dk_at dksX8_copy_2 17 rfl rfl)
theorem dX8_copy_63 : decode cX8_copy 63 = .ok (.areturn, 1) := dk_176 (dk_at dksX8_copy_2 18 rfl rfl)
theorem q119 : (Jvm.Cond.initialized "PetitionDesk$Sheet") ∈ lw_all := lw_g (lw_at lw_m1 31 rfl) rfl
theorem q451 : (Jvm.Cond.instanceMethod ({ cls := "PetitionDesk$Sheet", name := "spoilt", desc := "()I" } : Jvm.MethodName)) ∈ lw_all := lw_g (lw_at lw_m2 123 rfl) rfl
theorem q452 : (Jvm.Cond.selects "PetitionDesk$Sheet" ({ cls := "PetitionDesk$Sheet", name := "spoilt", desc := "()I" } : Jvm.MethodName) ({ cls := "PetitionDesk$Sheet", name := "spoilt", desc := "()I" } : Jvm.MethodName)) ∈ lw_all := lw_g (lw_at lw_m2 124 rfl) rfl
theorem q453 : (Jvm.Cond.code ({ cls := "PetitionDesk$Sheet", name := "spoilt", desc := "()I" } : Jvm.MethodName) prog_8_method_3_code (4 : Nat) (Option.some Jvm.ClassFile.FieldType.int)) ∈ lw_all := lw_g (lw_at lw_m2 125 rfl) rfl
theorem q454 : (Jvm.Cond.interfaceEntry "PetitionDesk$Sheet" (17 : Nat)) ∈ lw_tbl := lw_at lw_m2 126 rfl
theorem q455 : (Jvm.Cond.methodLink "PetitionDesk$Sheet" (17 : Nat) ({ cls := "java/util/List", name := "iterator", desc := "()Ljava/util/Iterator;" } : Jvm.MethodName)) ∈ lw_all := lw_g (lw_at lw_m2 127 rfl) rfl
theorem q456 : (Jvm.Cond.interfaceEntry "PetitionDesk$Sheet" (23 : Nat)) ∈ lw_tbl := lw_at lw_m2 128 rfl
theorem q457 : (Jvm.Cond.methodLink "PetitionDesk$Sheet" (23 : Nat) ({ cls := "java/util/Iterator", name := "hasNext", desc := "()Z" } : Jvm.MethodName)) ∈ lw_all := lw_g (lw_at lw_m2 129 rfl) rfl
theorem q458 : (Jvm.Cond.interfaceEntry "PetitionDesk$Sheet" (29 : Nat)) ∈ lw_tbl := lw_at lw_m2 130 rfl
theorem q459 : (Jvm.Cond.methodLink "PetitionDesk$Sheet" (29 : Nat) ({ cls := "java/util/Iterator", name := "next", desc := "()Ljava/lang/Object;" } : Jvm.MethodName)) ∈ lw_all := lw_g (lw_at lw_m2 131 rfl) rfl
theorem q460 : (Jvm.Cond.classLink "PetitionDesk$Sheet" (33 : Nat) "PetitionDesk$Line") ∈ lw_all := lw_g (lw_at lw_m2 132 rfl) rfl
theorem q461 : (Jvm.Cond.methodLink "PetitionDesk$Sheet" (47 : Nat) ({ cls := "PetitionDesk$Line", name := "isSpoilt", desc := "()Z" } : Jvm.MethodName)) ∈ lw_all := lw_g (lw_at lw_m2 133 rfl) rfl
theorem q491 : (Jvm.Cond.selects "PetitionDesk$Sheet" ({ cls := "java/lang/Object", name := "equals", desc := "(Ljava/lang/Object;)Z" } : Jvm.MethodName) ({ cls := "java/lang/Object", name := "equals", desc := "(Ljava/lang/Object;)Z" } : Jvm.MethodName)) ∈ lw_all := lw_g (lw_at lw_m2 163 rfl) rfl
theorem q1160 : (Jvm.Cond.selects "PetitionDesk$Sheet" ({ cls := "java/lang/Object", name := "getClass", desc := "()Ljava/lang/Class;" } : Jvm.MethodName) ({ cls := "java/lang/Object", name := "getClass", desc := "()Ljava/lang/Class;" } : Jvm.MethodName)) ∈ lw_all := lw_g (lw_at lw_m5 112 rfl) rfl
theorem q1183 : (Jvm.Cond.instantiable "PetitionDesk$Sheet" (3 : Nat)) ∈ lw_all := lw_g (lw_at lw_m5 135 rfl) rfl
theorem q1185 : (Jvm.Cond.instanceMethod ({ cls := "PetitionDesk$Sheet", name := "<init>", desc := "()V" } : Jvm.MethodName)) ∈ lw_all := lw_g (lw_at lw_m5 137 rfl) rfl
theorem q1186 : (Jvm.Cond.code ({ cls := "PetitionDesk$Sheet", name := "<init>", desc := "()V" } : Jvm.MethodName) prog_8_method_1_code (1 : Nat) (Option.none : Option Jvm.ClassFile.FieldType)) ∈ lw_all := lw_g (lw_at lw_m5 138 rfl) rfl
theorem q1187 : (Jvm.Cond.methodLink "PetitionDesk$Sheet" (1 : Nat) ({ cls := "java/lang/Object", name := "<init>", desc := "()V" } : Jvm.MethodName)) ∈ lw_all := lw_g (lw_at lw_m5 139 rfl) rfl
theorem q1188 : (Jvm.Cond.classLink "PetitionDesk$Sheet" (7 : Nat) "java/util/ArrayList") ∈ lw_all := lw_g (lw_at lw_m5 140 rfl) rfl
theorem q1189 : (Jvm.Cond.methodLink "PetitionDesk$Sheet" (9 : Nat) ({ cls := "java/util/ArrayList", name := "<init>", desc := "()V" } : Jvm.MethodName)) ∈ lw_all := lw_g (lw_at lw_m5 141 rfl) rfl
theorem q1190 : (Jvm.Cond.fieldLink "PetitionDesk$Sheet" (10 : Nat) "PetitionDesk$Sheet" "lines" "Ljava/util/List;") ∈ lw_all := lw_g (lw_at lw_m5 142 rfl) rfl
theorem q1195 : (Jvm.Cond.fieldLink "PetitionDesk$Sheet" (43 : Nat) "PetitionDesk$Sheet" "byHand" "Z") ∈ lw_all := lw_g (lw_at lw_m5 147 rfl) rfl
theorem q1200 : (Jvm.Cond.laysFinal "PetitionDesk$Sheet" "PetitionDesk$Sheet" "lines" "Ljava/util/List;") ∈ lw_all := lw_g (lw_at lw_m5 152 rfl) rfl
theorem q1201 : (Jvm.Cond.soleField "PetitionDesk$Sheet" "lines") ∈ lw_all := lw_g (lw_at lw_m5 153 rfl) rfl
theorem q1202 : (Jvm.Cond.lays "PetitionDesk$Sheet" "PetitionDesk$Sheet" "byHand" "Z") ∈ lw_all := lw_g (lw_at lw_m5 154 rfl) rfl
theorem q1203 : (Jvm.Cond.soleField "PetitionDesk$Sheet" "byHand") ∈ lw_all := lw_g (lw_at lw_m5 155 rfl) rfl
theorem q1204 : (Jvm.Cond.lays "PetitionDesk$Sheet" "PetitionDesk$Sheet" "isStruck" "Z") ∈ lw_all := lw_g (lw_at lw_m5 156 rfl) rfl
theorem q1205 : (Jvm.Cond.soleField "PetitionDesk$Sheet" "isStruck") ∈ lw_all := lw_g (lw_at lw_m5 157 rfl) rfl
theorem q1206 : (Jvm.Cond.superclass "PetitionDesk$Sheet" "java/lang/Object") ∈ lw_all := lw_g (lw_at lw_m5 158 rfl) rfl
theorem q1371 : (Jvm.Cond.instanceMethod ({ cls := "PetitionDesk$Sheet", name := "copy", desc := "()LPetitionDesk$Sheet;" } : Jvm.MethodName)) ∈ lw_all := lw_g (lw_at lw_m6 83 rfl) rfl
theorem q1372 : (Jvm.Cond.selects "PetitionDesk$Sheet" ({ cls := "PetitionDesk$Sheet", name := "copy", desc := "()LPetitionDesk$Sheet;" } : Jvm.MethodName) ({ cls := "PetitionDesk$Sheet", name := "copy", desc := "()LPetitionDesk$Sheet;" } : Jvm.MethodName)) ∈ lw_all := lw_g (lw_at lw_m6 84 rfl) rfl
theorem q1373 : (Jvm.Cond.code ({ cls := "PetitionDesk$Sheet", name := "copy", desc := "()LPetitionDesk$Sheet;" } : Jvm.MethodName) prog_8_method_2_code (4 : Nat) (Option.some (Jvm.ClassFile.FieldType.object "PetitionDesk$Sheet"))) ∈ lw_all := lw_g (lw_at lw_m6 85 rfl) rfl
theorem q1374 : (Jvm.Cond.classLink "PetitionDesk$Sheet" (11 : Nat) "PetitionDesk$Sheet") ∈ lw_all := lw_g (lw_at lw_m6 86 rfl) rfl
theorem q1375 : (Jvm.Cond.methodLink "PetitionDesk$Sheet" (16 : Nat) ({ cls := "PetitionDesk$Sheet", name := "<init>", desc := "()V" } : Jvm.MethodName)) ∈ lw_all := lw_g (lw_at lw_m6 87 rfl) rfl
theorem q1376 : (Jvm.Cond.methodLink "PetitionDesk$Sheet" (35 : Nat) ({ cls := "PetitionDesk$Line", name := "copy", desc := "()LPetitionDesk$Line;" } : Jvm.MethodName)) ∈ lw_all := lw_g (lw_at lw_m6 88 rfl) rfl
theorem q1382 : (Jvm.Cond.interfaceEntry "PetitionDesk$Sheet" (39 : Nat)) ∈ lw_tbl := lw_at lw_m6 94 rfl
theorem q1383 : (Jvm.Cond.methodLink "PetitionDesk$Sheet" (39 : Nat) ({ cls := "java/util/List", name := "add", desc := "(Ljava/lang/Object;)Z" } : Jvm.MethodName)) ∈ lw_all := lw_g (lw_at lw_m6 95 rfl) rfl
theorem q2103 : (Jvm.Cond.castable "PetitionDesk$Sheet" "java/lang/Object") ∈ lw_tbl := lw_at lw_m9 95 rfl
theorem in_X8 : ∀ w ∈ wsX80, w ∈ lw_all := lw_in wsX80 [1200, 1202, 1204] (by decide +kernel) (by decide +kernel)
/-! PetitionDesk$Line -/
set_option maxRecDepth 100000
def RX9 : String := "PetitionDesk$Line"
def TX9 : u_T := fun k => match k with
  | 0 => ("PetitionDesk$Line", "name", "Ljava/lang/String;", true)
  | 1 => ("PetitionDesk$Line", "street", "I", true)
  | 2 => ("PetitionDesk$Line", "day", "I", true)
  | 3 => ("PetitionDesk$Line", "voter", "LPetitionDesk$Voter;", true)
  | 4 => ("PetitionDesk$Line", "number", "I", false)
  | 5 => ("PetitionDesk$Line", "sheet", "I", false)
  | 6 => ("PetitionDesk$Line", "ahead", "I", false)
  | _ => ("PetitionDesk$Line", "judged", "I", false)
def tyX9 : Nat → FieldType := fun k => match k with
  | 0 => .object "java/lang/String"
  | 1 => .int
  | 2 => .int
  | 3 => .object "PetitionDesk$Voter"
  | 4 => .int
  | 5 => .int
  | 6 => .int
  | _ => .int
abbrev wsX90 : List Cond := u_ws RX9 TX9 8
theorem nmX9 : ∀ a, a < 8 → ∀ b, b < 8 → a ≠ b → (TX9 a).2.1 ≠ (TX9 b).2.1 := by decide +kernel
theorem tyX9_ok : ∀ k, k < 8 → parseFieldDescriptor (TX9 k).2.2.1 = some (tyX9 k) := by decide +kernel
abbrev cX9_isSpoilt : ByteArray := prog_2_method_4_code
def yX9_isSpoilt : MethodName := ⟨RX9, "isSpoilt", "()Z"⟩
def dkwX9_isSpoilt_1 : List UInt8 := [4, 167, 0, 4, 3, 172]
abbrev dktX9_isSpoilt_1 : List UInt8 := dkwX9_isSpoilt_1 ++ []
def dkwX9_isSpoilt_0 : List UInt8 := [42, 180, 0, 29, 4, 159, 0, 19, 42, 180, 0, 29, 5, 159, 0, 11, 42, 180, 0, 29, 6, 160, 0, 7]
abbrev dktX9_isSpoilt_0 : List UInt8 := dkwX9_isSpoilt_0 ++ dktX9_isSpoilt_1
theorem dksX9_isSpoilt_0 : cX9_isSpoilt.data.toList.drop 0 = dktX9_isSpoilt_0 := by decide +kernel
theorem dksX9_isSpoilt_1 : cX9_isSpoilt.data.toList.drop 24 = dktX9_isSpoilt_1 := dk_seg dksX9_isSpoilt_0 24 rfl rfl
theorem dX9_isSpoilt_0 : decode cX9_isSpoilt 0 = .ok (.aload_n 0, 1) := dk_42 (dk_at dksX9_isSpoilt_0 0 rfl rfl)
theorem dX9_isSpoilt_1 : decode cX9_isSpoilt 1 = .ok (.getfield 29, 3) := dk_180 0 29 (dk_at dksX9_isSpoilt_0 1 rfl rfl)
theorem dX9_isSpoilt_4 : decode cX9_isSpoilt 4 = .ok (.iconst 1, 1) := dk_4 (dk_at dksX9_isSpoilt_0 4 rfl rfl)
theorem dX9_isSpoilt_5 : decode cX9_isSpoilt 5 = .ok (.if_icmp .eq 19, 3) := dk_159 0 19 (dk_at dksX9_isSpoilt_0 5 rfl rfl)
theorem dX9_isSpoilt_8 : decode cX9_isSpoilt 8 = .ok (.aload_n 0, 1) := dk_42 (dk_at dksX9_isSpoilt_0 8 rfl rfl)
theorem dX9_isSpoilt_9 : decode cX9_isSpoilt 9 = .ok (.getfield 29, 3) := dk_180 0 29 (dk_at dksX9_isSpoilt_0 9 rfl rfl)
theorem dX9_isSpoilt_12 : decode cX9_isSpoilt 12 = .ok (.iconst 2, 1) := dk_5 (dk_at dksX9_isSpoilt_0 12 rfl rfl)
theorem dX9_isSpoilt_13 : decode cX9_isSpoilt 13 = .ok (.if_icmp .eq 11, 3) := dk_159 0 11 (dk_at dksX9_isSpoilt_0 13 rfl rfl)
theorem dX9_isSpoilt_16 : decode cX9_isSpoilt 16 = .ok (.aload_n 0, 1) := dk_42 (dk_at dksX9_isSpoilt_0 16 rfl rfl)
theorem dX9_isSpoilt_17 : decode cX9_isSpoilt 17 = .ok (.getfield 29, 3) := dk_180 0 29 (dk_at dksX9_isSpoilt_0 17 rfl rfl)
theorem dX9_isSpoilt_20 : decode cX9_isSpoilt 20 = .ok (.iconst 3, 1) := dk_6 (dk_at dksX9_isSpoilt_0 20 rfl rfl)
theorem dX9_isSpoilt_21 : decode cX9_isSpoilt 21 = .ok (.if_icmp .ne 7, 3) := dk_160 0 7 (dk_at dksX9_isSpoilt_0 21 rfl rfl)
theorem dX9_isSpoilt_24 : decode cX9_isSpoilt 24 = .ok (.iconst 1, 1) := dk_4 (dk_at dksX9_isSpoilt_1 0 rfl rfl)
theorem dX9_isSpoilt_25 : decode cX9_isSpoilt 25 = .ok (.goto 4, 3) := dk_167 0 4 (dk_at dksX9_isSpoilt_1 1 rfl rfl)
theorem dX9_isSpoilt_28 : decode cX9_isSpoilt 28 = .ok (.iconst 0, 1) := dk_3 (dk_at dksX9_isSpoilt_1 4 rfl rfl)
theorem dX9_isSpoilt_29 : decode cX9_isSpoilt 29 = .ok (.ireturn, 1) := dk_172 (dk_at dksX9_isSpoilt_1 5 rfl rfl)
abbrev cX9_init : ByteArray := prog_2_method_1_code
def yX9_init : MethodName := ⟨RX9, "<init>", "(Ljava/lang/String;IILPetitionDesk$Voter;)V"⟩
def dkwX9_init_1 : List UInt8 := [181, 0, 22, 177]
abbrev dktX9_init_1 : List UInt8 := dkwX9_init_1 ++ []
def dkwX9_init_0 : List UInt8 := [42, 183, 0, 3, 42, 43, 181, 0, 9, 42, 28, 181, 0, 15, 42, 29, 181, 0, 19, 42, 25, 4]
abbrev dktX9_init_0 : List UInt8 := dkwX9_init_0 ++ dktX9_init_1
theorem dksX9_init_0 : cX9_init.data.toList.drop 0 = dktX9_init_0 := by decide +kernel
theorem dksX9_init_1 : cX9_init.data.toList.drop 22 = dktX9_init_1 := dk_seg dksX9_init_0 22 rfl rfl
theorem dX9_init_0 : decode cX9_init 0 = .ok (.aload_n 0, 1) := dk_42 (dk_at dksX9_init_0 0 rfl rfl)
theorem dX9_init_1 : decode cX9_init 1 = .ok (.invokespecial 3, 3) := dk_183 0 3 (dk_at dksX9_init_0 1 rfl rfl)
theorem dX9_init_4 : decode cX9_init 4 = .ok (.aload_n 0, 1) := dk_42 (dk_at dksX9_init_0 4 rfl rfl)
theorem dX9_init_5 : decode cX9_init 5 = .ok (.aload_n 1, 1) := dk_43 (dk_at dksX9_init_0 5 rfl rfl)
theorem dX9_init_6 : decode cX9_init 6 = .ok (.putfield 9, 3) := dk_181 0 9 (dk_at dksX9_init_0 6 rfl rfl)
theorem dX9_init_9 : decode cX9_init 9 = .ok (.aload_n 0, 1) := dk_42 (dk_at dksX9_init_0 9 rfl rfl)
theorem dX9_init_10 : decode cX9_init 10 = .ok (.iload_n 2, 1) := dk_28 (dk_at dksX9_init_0 10 rfl rfl)
theorem dX9_init_11 : decode cX9_init 11 = .ok (.putfield 15, 3) := dk_181 0 15 (dk_at dksX9_init_0 11 rfl rfl)
theorem dX9_init_14 : decode cX9_init 14 = .ok (.aload_n 0, 1) := dk_42 (dk_at dksX9_init_0 14 rfl rfl)
theorem dX9_init_15 : decode cX9_init 15 = .ok (.iload_n 3, 1) := dk_29 (dk_at dksX9_init_0 15 rfl rfl)
theorem dX9_init_16 : decode cX9_init 16 = .ok (.putfield 19, 3) := dk_181 0 19 (dk_at dksX9_init_0 16 rfl rfl)
theorem dX9_init_19 : decode cX9_init 19 = .ok (.aload_n 0, 1) := dk_42 (dk_at dksX9_init_0 19 rfl rfl)
theorem dX9_init_20 : decode cX9_init 20 = .ok (.aload 4, 2) := dk_25 4 (dk_at dksX9_init_0 20 rfl rfl)
theorem dX9_init_22 : decode cX9_init 22 = .ok (.putfield 22, 3) := dk_181 0 22 (dk_at dksX9_init_1 0 rfl rfl)
theorem dX9_init_25 : decode cX9_init 25 = .ok (.return_, 1) := dk_177 (dk_at dksX9_init_1 3 rfl rfl)
abbrev cX9_copy : ByteArray := prog_2_method_2_code
def yX9_copy : MethodName := ⟨RX9, "copy", "()LPetitionDesk$Line;"⟩
def dkwX9_copy_0 : List UInt8 := [187, 0, 10, 89, 42, 180, 0, 9, 42, 180, 0, 15, 42, 180, 0, 19, 42, 180, 0, 22, 183, 0, 26, 176]
abbrev dktX9_copy_0 : List UInt8 := dkwX9_copy_0 ++ []
theorem dksX9_copy_0 : cX9_copy.data.toList.drop 0 = dktX9_copy_0 := by decide +kernel
theorem dX9_copy_0 : decode cX9_copy 0 = .ok (.new 10, 3) := dk_187 0 10 (dk_at dksX9_copy_0 0 rfl rfl)
theorem dX9_copy_3 : decode cX9_copy 3 = .ok (.dup, 1) := dk_89 (dk_at dksX9_copy_0 3 rfl rfl)
theorem dX9_copy_4 : decode cX9_copy 4 = .ok (.aload_n 0, 1) := dk_42 (dk_at dksX9_copy_0 4 rfl rfl)
theorem dX9_copy_5 : decode cX9_copy 5 = .ok (.getfield 9, 3) := dk_180 0 9 (dk_at dksX9_copy_0 5 rfl rfl)
theorem dX9_copy_8 : decode cX9_copy 8 = .ok (.aload_n 0, 1) := dk_42 (dk_at dksX9_copy_0 8 rfl rfl)
theorem dX9_copy_9 : decode cX9_copy 9 = .ok (.getfield 15, 3) := dk_180 0 15 (dk_at dksX9_copy_0 9 rfl rfl)
theorem dX9_copy_12 : decode cX9_copy 12 = .ok (.aload_n 0, 1) := dk_42 (dk_at dksX9_copy_0 12 rfl rfl)
theorem dX9_copy_13 : decode cX9_copy 13 = .ok (.getfield 19, 3) := dk_180 0 19 (dk_at dksX9_copy_0 13 rfl rfl)
theorem dX9_copy_16 : decode cX9_copy 16 = .ok (.aload_n 0, 1) := dk_42 (dk_at dksX9_copy_0 16 rfl rfl)
theorem dX9_copy_17 : decode cX9_copy 17 = .ok (.getfield 22, 3) := dk_180 0 22 (dk_at dksX9_copy_0 17 rfl rfl)
theorem dX9_copy_20 : decode cX9_copy 20 = .ok (.invokespecial 26, 3) := dk_183 0 26 (dk_at dksX9_copy_0 20 rfl rfl)
theorem dX9_copy_23 : decode cX9_copy 23 = .ok (.areturn, 1) := dk_176 (dk_at dksX9_copy_0 23 rfl rfl)
abbrev cX9_isGood : ByteArray := prog_2_method_3_code
def yX9_isGood : MethodName := ⟨RX9, "isGood", "()Z"⟩
def dkwX9_isGood_0 : List UInt8 := [42, 180, 0, 29, 153, 0, 11, 42, 180, 0, 29, 8, 160, 0, 7, 4, 167, 0, 4, 3, 172]
abbrev dktX9_isGood_0 : List UInt8 := dkwX9_isGood_0 ++ []
theorem dksX9_isGood_0 : cX9_isGood.data.toList.drop 0 = dktX9_isGood_0 := by decide +kernel
theorem dX9_isGood_0 : decode cX9_isGood 0 = .ok (.aload_n 0, 1) := dk_42 (dk_at dksX9_isGood_0 0 rfl rfl)
theorem dX9_isGood_1 : decode cX9_isGood 1 = .ok (.getfield 29, 3) := dk_180 0 29 (dk_at dksX9_isGood_0 1 rfl rfl)
theorem dX9_isGood_4 : decode cX9_isGood 4 = .ok (.ifCond .eq 11, 3) := dk_153 0 11 (dk_at dksX9_isGood_0 4 rfl rfl)
theorem dX9_isGood_7 : decode cX9_isGood 7 = .ok (.aload_n 0, 1) := dk_42 (dk_at dksX9_isGood_0 7 rfl rfl)
theorem dX9_isGood_8 : decode cX9_isGood 8 = .ok (.getfield 29, 3) := dk_180 0 29 (dk_at dksX9_isGood_0 8 rfl rfl)
theorem dX9_isGood_11 : decode cX9_isGood 11 = .ok (.iconst 5, 1) := dk_8 (dk_at dksX9_isGood_0 11 rfl rfl)
theorem dX9_isGood_12 : decode cX9_isGood 12 = .ok (.if_icmp .ne 7, 3) := dk_160 0 7 (dk_at dksX9_isGood_0 12 rfl rfl)
theorem dX9_isGood_15 : decode cX9_isGood 15 = .ok (.iconst 1, 1) := dk_4 (dk_at dksX9_isGood_0 15 rfl rfl)
theorem dX9_isGood_16 : decode cX9_isGood 16 = .ok (.goto 4, 3) := dk_167 0 4 (dk_at dksX9_isGood_0 16 rfl rfl)
theorem dX9_isGood_19 : decode cX9_isGood 19 = .ok (.iconst 0, 1) := dk_3 (dk_at dksX9_isGood_0 19 rfl rfl)
theorem dX9_isGood_20 : decode cX9_isGood 20 = .ok (.ireturn, 1) := dk_172 (dk_at dksX9_isGood_0 20 rfl rfl)
theorem q120 : (Jvm.Cond.initialized "PetitionDesk$Line") ∈ lw_all := lw_g (lw_at lw_m1 32 rfl) rfl
theorem q462 : (Jvm.Cond.instanceMethod ({ cls := "PetitionDesk$Line", name := "isSpoilt", desc := "()Z" } : Jvm.MethodName)) ∈ lw_all := lw_g (lw_at lw_m2 134 rfl) rfl
theorem q463 : (Jvm.Cond.selects "PetitionDesk$Line" ({ cls := "PetitionDesk$Line", name := "isSpoilt", desc := "()Z" } : Jvm.MethodName) ({ cls := "PetitionDesk$Line", name := "isSpoilt", desc := "()Z" } : Jvm.MethodName)) ∈ lw_all := lw_g (lw_at lw_m2 135 rfl) rfl
theorem q464 : (Jvm.Cond.code ({ cls := "PetitionDesk$Line", name := "isSpoilt", desc := "()Z" } : Jvm.MethodName) prog_2_method_4_code (1 : Nat) (Option.some Jvm.ClassFile.FieldType.boolean)) ∈ lw_all := lw_g (lw_at lw_m2 136 rfl) rfl
theorem q487 : (Jvm.Cond.selects "PetitionDesk$Line" ({ cls := "java/lang/Object", name := "equals", desc := "(Ljava/lang/Object;)Z" } : Jvm.MethodName) ({ cls := "java/lang/Object", name := "equals", desc := "(Ljava/lang/Object;)Z" } : Jvm.MethodName)) ∈ lw_all := lw_g (lw_at lw_m2 159 rfl) rfl
theorem q1156 : (Jvm.Cond.selects "PetitionDesk$Line" ({ cls := "java/lang/Object", name := "getClass", desc := "()Ljava/lang/Class;" } : Jvm.MethodName) ({ cls := "java/lang/Object", name := "getClass", desc := "()Ljava/lang/Class;" } : Jvm.MethodName)) ∈ lw_all := lw_g (lw_at lw_m5 108 rfl) rfl
theorem q1217 : (Jvm.Cond.instantiable "PetitionDesk$Line" (8 : Nat)) ∈ lw_all := lw_g (lw_at lw_m5 169 rfl) rfl
theorem q1219 : (Jvm.Cond.instanceMethod ({ cls := "PetitionDesk$Line", name := "<init>", desc := "(Ljava/lang/String;IILPetitionDesk$Voter;)V" } : Jvm.MethodName)) ∈ lw_all := lw_g (lw_at lw_m5 171 rfl) rfl
theorem q1220 : (Jvm.Cond.code ({ cls := "PetitionDesk$Line", name := "<init>", desc := "(Ljava/lang/String;IILPetitionDesk$Voter;)V" } : Jvm.MethodName) prog_2_method_1_code (5 : Nat) (Option.none : Option Jvm.ClassFile.FieldType)) ∈ lw_all := lw_g (lw_at lw_m5 172 rfl) rfl
theorem q1221 : (Jvm.Cond.methodLink "PetitionDesk$Line" (3 : Nat) ({ cls := "java/lang/Object", name := "<init>", desc := "()V" } : Jvm.MethodName)) ∈ lw_all := lw_g (lw_at lw_m5 173 rfl) rfl
theorem q1222 : (Jvm.Cond.fieldLink "PetitionDesk$Line" (9 : Nat) "PetitionDesk$Line" "name" "Ljava/lang/String;") ∈ lw_all := lw_g (lw_at lw_m5 174 rfl) rfl
theorem q1224 : (Jvm.Cond.fieldLink "PetitionDesk$Line" (15 : Nat) "PetitionDesk$Line" "street" "I") ∈ lw_all := lw_g (lw_at lw_m5 176 rfl) rfl
theorem q1227 : (Jvm.Cond.fieldLink "PetitionDesk$Line" (19 : Nat) "PetitionDesk$Line" "day" "I") ∈ lw_all := lw_g (lw_at lw_m5 179 rfl) rfl
theorem q1231 : (Jvm.Cond.fieldLink "PetitionDesk$Line" (22 : Nat) "PetitionDesk$Line" "voter" "LPetitionDesk$Voter;") ∈ lw_all := lw_g (lw_at lw_m5 183 rfl) rfl
theorem q1242 : (Jvm.Cond.fieldLink "PetitionDesk$Line" (29 : Nat) "PetitionDesk$Line" "judged" "I") ∈ lw_all := lw_g (lw_at lw_m5 194 rfl) rfl
theorem q1245 : (Jvm.Cond.laysFinal "PetitionDesk$Line" "PetitionDesk$Line" "name" "Ljava/lang/String;") ∈ lw_all := lw_g (lw_at lw_m5 197 rfl) rfl
theorem q1246 : (Jvm.Cond.soleField "PetitionDesk$Line" "name") ∈ lw_all := lw_g (lw_at lw_m5 198 rfl) rfl
theorem q1247 : (Jvm.Cond.laysFinal "PetitionDesk$Line" "PetitionDesk$Line" "street" "I") ∈ lw_all := lw_g (lw_at lw_m5 199 rfl) rfl
theorem q1248 : (Jvm.Cond.soleField "PetitionDesk$Line" "street") ∈ lw_all := lw_g (lw_at lw_m5 200 rfl) rfl
theorem q1249 : (Jvm.Cond.laysFinal "PetitionDesk$Line" "PetitionDesk$Line" "day" "I") ∈ lw_all := lw_g (lw_at lw_m5 201 rfl) rfl
theorem q1250 : (Jvm.Cond.soleField "PetitionDesk$Line" "day") ∈ lw_all := lw_g (lw_at lw_m5 202 rfl) rfl
theorem q1251 : (Jvm.Cond.laysFinal "PetitionDesk$Line" "PetitionDesk$Line" "voter" "LPetitionDesk$Voter;") ∈ lw_all := lw_g (lw_at lw_m5 203 rfl) rfl
theorem q1252 : (Jvm.Cond.soleField "PetitionDesk$Line" "voter") ∈ lw_all := lw_g (lw_at lw_m5 204 rfl) rfl
theorem q1253 : (Jvm.Cond.lays "PetitionDesk$Line" "PetitionDesk$Line" "number" "I") ∈ lw_all := lw_g (lw_at lw_m5 205 rfl) rfl
theorem q1254 : (Jvm.Cond.soleField "PetitionDesk$Line" "number") ∈ lw_all := lw_g (lw_at lw_m5 206 rfl) rfl
theorem q1255 : (Jvm.Cond.lays "PetitionDesk$Line" "PetitionDesk$Line" "sheet" "I") ∈ lw_all := lw_g (lw_at lw_m5 207 rfl) rfl
theorem q1256 : (Jvm.Cond.soleField "PetitionDesk$Line" "sheet") ∈ lw_all := lw_g (lw_at lw_m5 208 rfl) rfl
theorem q1257 : (Jvm.Cond.lays "PetitionDesk$Line" "PetitionDesk$Line" "ahead" "I") ∈ lw_all := lw_g (lw_at lw_m5 209 rfl) rfl
theorem q1258 : (Jvm.Cond.soleField "PetitionDesk$Line" "ahead") ∈ lw_all := lw_g (lw_at lw_m5 210 rfl) rfl
theorem q1259 : (Jvm.Cond.lays "PetitionDesk$Line" "PetitionDesk$Line" "judged" "I") ∈ lw_all := lw_g (lw_at lw_m5 211 rfl) rfl
theorem q1260 : (Jvm.Cond.soleField "PetitionDesk$Line" "judged") ∈ lw_all := lw_g (lw_at lw_m5 212 rfl) rfl
theorem q1261 : (Jvm.Cond.superclass "PetitionDesk$Line" "java/lang/Object") ∈ lw_all := lw_g (lw_at lw_m5 213 rfl) rfl
theorem q1377 : (Jvm.Cond.instanceMethod ({ cls := "PetitionDesk$Line", name := "copy", desc := "()LPetitionDesk$Line;" } : Jvm.MethodName)) ∈ lw_all := lw_g (lw_at lw_m6 89 rfl) rfl
theorem q1378 : (Jvm.Cond.selects "PetitionDesk$Line" ({ cls := "PetitionDesk$Line", name := "copy", desc := "()LPetitionDesk$Line;" } : Jvm.MethodName) ({ cls := "PetitionDesk$Line", name := "copy", desc := "()LPetitionDesk$Line;" } : Jvm.MethodName)) ∈ lw_all := lw_g (lw_at lw_m6 90 rfl) rfl
theorem q1379 : (Jvm.Cond.code ({ cls := "PetitionDesk$Line", name := "copy", desc := "()LPetitionDesk$Line;" } : Jvm.MethodName) prog_2_method_2_code (1 : Nat) (Option.some (Jvm.ClassFile.FieldType.object "PetitionDesk$Line"))) ∈ lw_all := lw_g (lw_at lw_m6 91 rfl) rfl
theorem q1380 : (Jvm.Cond.classLink "PetitionDesk$Line" (10 : Nat) "PetitionDesk$Line") ∈ lw_all := lw_g (lw_at lw_m6 92 rfl) rfl
theorem q1381 : (Jvm.Cond.methodLink "PetitionDesk$Line" (26 : Nat) ({ cls := "PetitionDesk$Line", name := "<init>", desc := "(Ljava/lang/String;IILPetitionDesk$Voter;)V" } : Jvm.MethodName)) ∈ lw_all := lw_g (lw_at lw_m6 93 rfl) rfl
theorem q1414 : (Jvm.Cond.instanceMethod ({ cls := "PetitionDesk$Line", name := "isGood", desc := "()Z" } : Jvm.MethodName)) ∈ lw_all := lw_g (lw_at lw_m6 126 rfl) rfl
theorem q1415 : (Jvm.Cond.selects "PetitionDesk$Line" ({ cls := "PetitionDesk$Line", name := "isGood", desc := "()Z" } : Jvm.MethodName) ({ cls := "PetitionDesk$Line", name := "isGood", desc := "()Z" } : Jvm.MethodName)) ∈ lw_all := lw_g (lw_at lw_m6 127 rfl) rfl
theorem q1416 : (Jvm.Cond.code ({ cls := "PetitionDesk$Line", name := "isGood", desc := "()Z" } : Jvm.MethodName) prog_2_method_3_code (1 : Nat) (Option.some Jvm.ClassFile.FieldType.boolean)) ∈ lw_all := lw_g (lw_at lw_m6 128 rfl) rfl
theorem q2104 : (Jvm.Cond.castable "PetitionDesk$Line" "java/lang/Object") ∈ lw_tbl := lw_at lw_m9 96 rfl
theorem in_X9 : ∀ w ∈ wsX90, w ∈ lw_all := lw_in wsX90 [1245, 1247, 1249, 1251, 1253, 1255, 1257, 1259] (by decide +kernel) (by decide +kernel)
